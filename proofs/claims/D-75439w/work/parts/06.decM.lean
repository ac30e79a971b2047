set_option maxRecDepth 100000
theorem dX6_thrown_0 : decode cX6_thrown 0 = .ok (.aload_n 0, 1) := by decide +kernel
theorem dX6_thrown_1 : decode cX6_thrown 1 = .ok (.getfield 3, 3) := by decide +kernel
theorem dX6_thrown_4 : decode cX6_thrown 4 = .ok (.ireturn, 1) := by decide +kernel
def dkwX6_init_6 : List UInt8 := [4, 4, 79, 42, 180, 0, 17, 5, 4, 79, 177]
abbrev dktX6_init_6 : List UInt8 := dkwX6_init_6 ++ []
def dkwX6_init_5 : List UInt8 := [181, 0, 60, 42, 17, 2, 88, 188, 8, 181, 0, 63, 42, 180, 0, 17, 3, 16, 8, 79, 42, 180, 0, 17]
abbrev dktX6_init_5 : List UInt8 := dkwX6_init_5 ++ dktX6_init_6
def dkwX6_init_4 : List UInt8 := [17, 0, 160, 188, 6, 181, 0, 54, 42, 17, 34, 86, 188, 10, 181, 0, 57, 42, 17, 3, 192, 188, 6]
abbrev dktX6_init_4 : List UInt8 := dkwX6_init_4 ++ dktX6_init_5
def dkwX6_init_3 : List UInt8 := [188, 6, 181, 0, 45, 42, 16, 6, 188, 6, 181, 0, 48, 42, 17, 5, 185, 188, 10, 181, 0, 51, 42]
abbrev dktX6_init_3 : List UInt8 := dkwX6_init_3 ++ dktX6_init_4
def dkwX6_init_2 : List UInt8 := [42, 2, 181, 0, 35, 42, 16, 12, 188, 4, 181, 0, 38, 42, 16, 12, 188, 10, 181, 0, 42, 42, 16, 12]
abbrev dktX6_init_2 : List UInt8 := dkwX6_init_2 ++ dktX6_init_3
def dkwX6_init_1 : List UInt8 := [180, 0, 17, 181, 0, 24, 42, 17, 0, 160, 188, 6, 181, 0, 27, 42, 17, 3, 232, 188, 8, 181, 0, 31]
abbrev dktX6_init_1 : List UInt8 := dkwX6_init_1 ++ dktX6_init_2
def dkwX6_init_0 : List UInt8 := [42, 183, 0, 11, 42, 17, 5, 185, 188, 10, 181, 0, 17, 42, 17, 5, 185, 188, 10, 181, 0, 21, 42, 42]
abbrev dktX6_init_0 : List UInt8 := dkwX6_init_0 ++ dktX6_init_1
theorem dksX6_init_0 : cX6_init.data.toList.drop 0 = dktX6_init_0 := by decide +kernel
theorem dksX6_init_1 : cX6_init.data.toList.drop 24 = dktX6_init_1 := dk_seg dksX6_init_0 24 rfl rfl
theorem dksX6_init_2 : cX6_init.data.toList.drop 48 = dktX6_init_2 := dk_seg dksX6_init_1 24 rfl rfl
theorem dksX6_init_3 : cX6_init.data.toList.drop 72 = dktX6_init_3 := dk_seg dksX6_init_2 24 rfl rfl
theorem dksX6_init_4 : cX6_init.data.toList.drop 95 = dktX6_init_4 := dk_seg dksX6_init_3 23 rfl rfl
theorem dksX6_init_5 : cX6_init.data.toList.drop 118 = dktX6_init_5 := dk_seg dksX6_init_4 23 rfl rfl
theorem dksX6_init_6 : cX6_init.data.toList.drop 142 = dktX6_init_6 := dk_seg dksX6_init_5 24 rfl rfl
theorem dX6_init_0 : decode cX6_init 0 = .ok (.aload_n 0, 1) := dk_42 (dk_at dksX6_init_0 0 rfl rfl)
theorem dX6_init_1 : decode cX6_init 1 = .ok (.invokespecial 11, 3) := dk_183 0 11 (dk_at dksX6_init_0 1 rfl rfl)
theorem dX6_init_4 : decode cX6_init 4 = .ok (.aload_n 0, 1) := dk_42 (dk_at dksX6_init_0 4 rfl rfl)
theorem dX6_init_5 : decode cX6_init 5 = .ok (.sipush 1465, 3) := dk_17 5 185 (dk_at dksX6_init_0 5 rfl rfl)
theorem dX6_init_8 : decode cX6_init 8 = .ok (.newarray .int, 2) := dk_188_10 (dk_at dksX6_init_0 8 rfl rfl)
theorem dX6_init_10 : decode cX6_init 10 = .ok (.putfield 17, 3) := dk_181 0 17 (dk_at dksX6_init_0 10 rfl rfl)
theorem dX6_init_13 : decode cX6_init 13 = .ok (.aload_n 0, 1) := dk_42 (dk_at dksX6_init_0 13 rfl rfl)
theorem dX6_init_14 : decode cX6_init 14 = .ok (.sipush 1465, 3) := dk_17 5 185 (dk_at dksX6_init_0 14 rfl rfl)
theorem dX6_init_17 : decode cX6_init 17 = .ok (.newarray .int, 2) := dk_188_10 (dk_at dksX6_init_0 17 rfl rfl)
theorem dX6_init_19 : decode cX6_init 19 = .ok (.putfield 21, 3) := dk_181 0 21 (dk_at dksX6_init_0 19 rfl rfl)
theorem dX6_init_22 : decode cX6_init 22 = .ok (.aload_n 0, 1) := dk_42 (dk_at dksX6_init_0 22 rfl rfl)
theorem dX6_init_23 : decode cX6_init 23 = .ok (.aload_n 0, 1) := dk_42 (dk_at dksX6_init_0 23 rfl rfl)
theorem dX6_init_24 : decode cX6_init 24 = .ok (.getfield 17, 3) := dk_180 0 17 (dk_at dksX6_init_1 0 rfl rfl)
theorem dX6_init_27 : decode cX6_init 27 = .ok (.putfield 24, 3) := dk_181 0 24 (dk_at dksX6_init_1 3 rfl rfl)
theorem dX6_init_30 : decode cX6_init 30 = .ok (.aload_n 0, 1) := dk_42 (dk_at dksX6_init_1 6 rfl rfl)
theorem dX6_init_31 : decode cX6_init 31 = .ok (.sipush 160, 3) := dk_17 0 160 (dk_at dksX6_init_1 7 rfl rfl)
theorem dX6_init_34 : decode cX6_init 34 = .ok (.newarray .float, 2) := dk_188_6 (dk_at dksX6_init_1 10 rfl rfl)
theorem dX6_init_36 : decode cX6_init 36 = .ok (.putfield 27, 3) := dk_181 0 27 (dk_at dksX6_init_1 12 rfl rfl)
theorem dX6_init_39 : decode cX6_init 39 = .ok (.aload_n 0, 1) := dk_42 (dk_at dksX6_init_1 15 rfl rfl)
theorem dX6_init_40 : decode cX6_init 40 = .ok (.sipush 1000, 3) := dk_17 3 232 (dk_at dksX6_init_1 16 rfl rfl)
theorem dX6_init_43 : decode cX6_init 43 = .ok (.newarray .byte, 2) := dk_188_8 (dk_at dksX6_init_1 19 rfl rfl)
theorem dX6_init_45 : decode cX6_init 45 = .ok (.putfield 31, 3) := dk_181 0 31 (dk_at dksX6_init_1 21 rfl rfl)
theorem dX6_init_48 : decode cX6_init 48 = .ok (.aload_n 0, 1) := dk_42 (dk_at dksX6_init_2 0 rfl rfl)
theorem dX6_init_49 : decode cX6_init 49 = .ok (.iconst (-1), 1) := dk_2 (dk_at dksX6_init_2 1 rfl rfl)
theorem dX6_init_50 : decode cX6_init 50 = .ok (.putfield 35, 3) := dk_181 0 35 (dk_at dksX6_init_2 2 rfl rfl)
theorem dX6_init_53 : decode cX6_init 53 = .ok (.aload_n 0, 1) := dk_42 (dk_at dksX6_init_2 5 rfl rfl)
theorem dX6_init_54 : decode cX6_init 54 = .ok (.bipush 12, 2) := dk_16 12 (dk_at dksX6_init_2 6 rfl rfl)
theorem dX6_init_56 : decode cX6_init 56 = .ok (.newarray .boolean, 2) := dk_188_4 (dk_at dksX6_init_2 8 rfl rfl)
theorem dX6_init_58 : decode cX6_init 58 = .ok (.putfield 38, 3) := dk_181 0 38 (dk_at dksX6_init_2 10 rfl rfl)
theorem dX6_init_61 : decode cX6_init 61 = .ok (.aload_n 0, 1) := dk_42 (dk_at dksX6_init_2 13 rfl rfl)
theorem dX6_init_62 : decode cX6_init 62 = .ok (.bipush 12, 2) := dk_16 12 (dk_at dksX6_init_2 14 rfl rfl)
theorem dX6_init_64 : decode cX6_init 64 = .ok (.newarray .int, 2) := dk_188_10 (dk_at dksX6_init_2 16 rfl rfl)
theorem dX6_init_66 : decode cX6_init 66 = .ok (.putfield 42, 3) := dk_181 0 42 (dk_at dksX6_init_2 18 rfl rfl)
theorem dX6_init_69 : decode cX6_init 69 = .ok (.aload_n 0, 1) := dk_42 (dk_at dksX6_init_2 21 rfl rfl)
theorem dX6_init_70 : decode cX6_init 70 = .ok (.bipush 12, 2) := dk_16 12 (dk_at dksX6_init_2 22 rfl rfl)
theorem dX6_init_72 : decode cX6_init 72 = .ok (.newarray .float, 2) := dk_188_6 (dk_at dksX6_init_3 0 rfl rfl)
theorem dX6_init_74 : decode cX6_init 74 = .ok (.putfield 45, 3) := dk_181 0 45 (dk_at dksX6_init_3 2 rfl rfl)
theorem dX6_init_77 : decode cX6_init 77 = .ok (.aload_n 0, 1) := dk_42 (dk_at dksX6_init_3 5 rfl rfl)
theorem dX6_init_78 : decode cX6_init 78 = .ok (.bipush 6, 2) := dk_16 6 (dk_at dksX6_init_3 6 rfl rfl)
theorem dX6_init_80 : decode cX6_init 80 = .ok (.newarray .float, 2) := dk_188_6 (dk_at dksX6_init_3 8 rfl rfl)
theorem dX6_init_82 : decode cX6_init 82 = .ok (.putfield 48, 3) := dk_181 0 48 (dk_at dksX6_init_3 10 rfl rfl)
theorem dX6_init_85 : decode cX6_init 85 = .ok (.aload_n 0, 1) := dk_42 (dk_at dksX6_init_3 13 rfl rfl)
theorem dX6_init_86 : decode cX6_init 86 = .ok (.sipush 1465, 3) := dk_17 5 185 (dk_at dksX6_init_3 14 rfl rfl)
theorem dX6_init_89 : decode cX6_init 89 = .ok (.newarray .int, 2) := dk_188_10 (dk_at dksX6_init_3 17 rfl rfl)
theorem dX6_init_91 : decode cX6_init 91 = .ok (.putfield 51, 3) := dk_181 0 51 (dk_at dksX6_init_3 19 rfl rfl)
theorem dX6_init_94 : decode cX6_init 94 = .ok (.aload_n 0, 1) := dk_42 (dk_at dksX6_init_3 22 rfl rfl)
theorem dX6_init_95 : decode cX6_init 95 = .ok (.sipush 160, 3) := dk_17 0 160 (dk_at dksX6_init_4 0 rfl rfl)
theorem dX6_init_98 : decode cX6_init 98 = .ok (.newarray .float, 2) := dk_188_6 (dk_at dksX6_init_4 3 rfl rfl)
theorem dX6_init_100 : decode cX6_init 100 = .ok (.putfield 54, 3) := dk_181 0 54 (dk_at dksX6_init_4 5 rfl rfl)
theorem dX6_init_103 : decode cX6_init 103 = .ok (.aload_n 0, 1) := dk_42 (dk_at dksX6_init_4 8 rfl rfl)
theorem dX6_init_104 : decode cX6_init 104 = .ok (.sipush 8790, 3) := dk_17 34 86 (dk_at dksX6_init_4 9 rfl rfl)
theorem dX6_init_107 : decode cX6_init 107 = .ok (.newarray .int, 2) := dk_188_10 (dk_at dksX6_init_4 12 rfl rfl)
theorem dX6_init_109 : decode cX6_init 109 = .ok (.putfield 57, 3) := dk_181 0 57 (dk_at dksX6_init_4 14 rfl rfl)
theorem dX6_init_112 : decode cX6_init 112 = .ok (.aload_n 0, 1) := dk_42 (dk_at dksX6_init_4 17 rfl rfl)
theorem dX6_init_113 : decode cX6_init 113 = .ok (.sipush 960, 3) := dk_17 3 192 (dk_at dksX6_init_4 18 rfl rfl)
theorem dX6_init_116 : decode cX6_init 116 = .ok (.newarray .float, 2) := dk_188_6 (dk_at dksX6_init_4 21 rfl rfl)
theorem dX6_init_118 : decode cX6_init 118 = .ok (.putfield 60, 3) := dk_181 0 60 (dk_at dksX6_init_5 0 rfl rfl)
theorem dX6_init_121 : decode cX6_init 121 = .ok (.aload_n 0, 1) := dk_42 (dk_at dksX6_init_5 3 rfl rfl)
theorem dX6_init_122 : decode cX6_init 122 = .ok (.sipush 600, 3) := dk_17 2 88 (dk_at dksX6_init_5 4 rfl rfl)
theorem dX6_init_125 : decode cX6_init 125 = .ok (.newarray .byte, 2) := dk_188_8 (dk_at dksX6_init_5 7 rfl rfl)
theorem dX6_init_127 : decode cX6_init 127 = .ok (.putfield 63, 3) := dk_181 0 63 (dk_at dksX6_init_5 9 rfl rfl)
theorem dX6_init_130 : decode cX6_init 130 = .ok (.aload_n 0, 1) := dk_42 (dk_at dksX6_init_5 12 rfl rfl)
theorem dX6_init_131 : decode cX6_init 131 = .ok (.getfield 17, 3) := dk_180 0 17 (dk_at dksX6_init_5 13 rfl rfl)
theorem dX6_init_134 : decode cX6_init 134 = .ok (.iconst 0, 1) := dk_3 (dk_at dksX6_init_5 16 rfl rfl)
theorem dX6_init_135 : decode cX6_init 135 = .ok (.bipush 8, 2) := dk_16 8 (dk_at dksX6_init_5 17 rfl rfl)
theorem dX6_init_137 : decode cX6_init 137 = .ok (.iastore, 1) := dk_79 (dk_at dksX6_init_5 19 rfl rfl)
theorem dX6_init_138 : decode cX6_init 138 = .ok (.aload_n 0, 1) := dk_42 (dk_at dksX6_init_5 20 rfl rfl)
theorem dX6_init_139 : decode cX6_init 139 = .ok (.getfield 17, 3) := dk_180 0 17 (dk_at dksX6_init_5 21 rfl rfl)
theorem dX6_init_142 : decode cX6_init 142 = .ok (.iconst 1, 1) := dk_4 (dk_at dksX6_init_6 0 rfl rfl)
theorem dX6_init_143 : decode cX6_init 143 = .ok (.iconst 1, 1) := dk_4 (dk_at dksX6_init_6 1 rfl rfl)
theorem dX6_init_144 : decode cX6_init 144 = .ok (.iastore, 1) := dk_79 (dk_at dksX6_init_6 2 rfl rfl)
theorem dX6_init_145 : decode cX6_init 145 = .ok (.aload_n 0, 1) := dk_42 (dk_at dksX6_init_6 3 rfl rfl)
theorem dX6_init_146 : decode cX6_init 146 = .ok (.getfield 17, 3) := dk_180 0 17 (dk_at dksX6_init_6 4 rfl rfl)
theorem dX6_init_149 : decode cX6_init 149 = .ok (.iconst 2, 1) := dk_5 (dk_at dksX6_init_6 7 rfl rfl)
theorem dX6_init_150 : decode cX6_init 150 = .ok (.iconst 1, 1) := dk_4 (dk_at dksX6_init_6 8 rfl rfl)
theorem dX6_init_151 : decode cX6_init 151 = .ok (.iastore, 1) := dk_79 (dk_at dksX6_init_6 9 rfl rfl)
theorem dX6_init_152 : decode cX6_init 152 = .ok (.return_, 1) := dk_177 (dk_at dksX6_init_6 10 rfl rfl)
def dkwX6_append_2 : List UInt8 := [182, 0, 81, 42, 21, 5, 182, 0, 81, 42, 180, 0, 74, 172]
abbrev dktX6_append_2 : List UInt8 := dkwX6_append_2 ++ []
def dkwX6_append_1 : List UInt8 := [154, 0, 5, 3, 172, 42, 27, 182, 0, 81, 42, 28, 182, 0, 81, 42, 29, 182, 0, 81, 42, 21, 4]
abbrev dktX6_append_1 : List UInt8 := dkwX6_append_1 ++ dktX6_append_2
def dkwX6_append_0 : List UInt8 := [42, 42, 180, 0, 74, 16, 20, 96, 17, 3, 232, 163, 0, 7, 4, 167, 0, 4, 3, 182, 0, 77]
abbrev dktX6_append_0 : List UInt8 := dkwX6_append_0 ++ dktX6_append_1
theorem dksX6_append_0 : cX6_append.data.toList.drop 0 = dktX6_append_0 := by decide +kernel
theorem dksX6_append_1 : cX6_append.data.toList.drop 22 = dktX6_append_1 := dk_seg dksX6_append_0 22 rfl rfl
theorem dksX6_append_2 : cX6_append.data.toList.drop 45 = dktX6_append_2 := dk_seg dksX6_append_1 23 rfl rfl
theorem dX6_append_0 : decode cX6_append 0 = .ok (.aload_n 0, 1) := dk_42 (dk_at dksX6_append_0 0 rfl rfl)
theorem dX6_append_1 : decode cX6_append 1 = .ok (.aload_n 0, 1) := dk_42 (dk_at dksX6_append_0 1 rfl rfl)
theorem dX6_append_2 : decode cX6_append 2 = .ok (.getfield 74, 3) := dk_180 0 74 (dk_at dksX6_append_0 2 rfl rfl)
theorem dX6_append_5 : decode cX6_append 5 = .ok (.bipush 20, 2) := dk_16 20 (dk_at dksX6_append_0 5 rfl rfl)
theorem dX6_append_7 : decode cX6_append 7 = .ok (.iadd, 1) := dk_96 (dk_at dksX6_append_0 7 rfl rfl)
theorem dX6_append_8 : decode cX6_append 8 = .ok (.sipush 1000, 3) := dk_17 3 232 (dk_at dksX6_append_0 8 rfl rfl)
theorem dX6_append_11 : decode cX6_append 11 = .ok (.if_icmp .gt 7, 3) := dk_163 0 7 (dk_at dksX6_append_0 11 rfl rfl)
theorem dX6_append_14 : decode cX6_append 14 = .ok (.iconst 1, 1) := dk_4 (dk_at dksX6_append_0 14 rfl rfl)
theorem dX6_append_15 : decode cX6_append 15 = .ok (.goto 4, 3) := dk_167 0 4 (dk_at dksX6_append_0 15 rfl rfl)
theorem dX6_append_18 : decode cX6_append 18 = .ok (.iconst 0, 1) := dk_3 (dk_at dksX6_append_0 18 rfl rfl)
theorem dX6_append_19 : decode cX6_append 19 = .ok (.invokevirtual 77, 3) := dk_182 0 77 (dk_at dksX6_append_0 19 rfl rfl)
theorem dX6_append_22 : decode cX6_append 22 = .ok (.ifCond .ne 5, 3) := dk_154 0 5 (dk_at dksX6_append_1 0 rfl rfl)
theorem dX6_append_25 : decode cX6_append 25 = .ok (.iconst 0, 1) := dk_3 (dk_at dksX6_append_1 3 rfl rfl)
theorem dX6_append_26 : decode cX6_append 26 = .ok (.ireturn, 1) := dk_172 (dk_at dksX6_append_1 4 rfl rfl)
theorem dX6_append_27 : decode cX6_append 27 = .ok (.aload_n 0, 1) := dk_42 (dk_at dksX6_append_1 5 rfl rfl)
theorem dX6_append_28 : decode cX6_append 28 = .ok (.iload_n 1, 1) := dk_27 (dk_at dksX6_append_1 6 rfl rfl)
theorem dX6_append_29 : decode cX6_append 29 = .ok (.invokevirtual 81, 3) := dk_182 0 81 (dk_at dksX6_append_1 7 rfl rfl)
theorem dX6_append_32 : decode cX6_append 32 = .ok (.aload_n 0, 1) := dk_42 (dk_at dksX6_append_1 10 rfl rfl)
theorem dX6_append_33 : decode cX6_append 33 = .ok (.iload_n 2, 1) := dk_28 (dk_at dksX6_append_1 11 rfl rfl)
theorem dX6_append_34 : decode cX6_append 34 = .ok (.invokevirtual 81, 3) := dk_182 0 81 (dk_at dksX6_append_1 12 rfl rfl)
theorem dX6_append_37 : decode cX6_append 37 = .ok (.aload_n 0, 1) := dk_42 (dk_at dksX6_append_1 15 rfl rfl)
theorem dX6_append_38 : decode cX6_append 38 = .ok (.iload_n 3, 1) := dk_29 (dk_at dksX6_append_1 16 rfl rfl)
theorem dX6_append_39 : decode cX6_append 39 = .ok (.invokevirtual 81, 3) := dk_182 0 81 (dk_at dksX6_append_1 17 rfl rfl)
theorem dX6_append_42 : decode cX6_append 42 = .ok (.aload_n 0, 1) := dk_42 (dk_at dksX6_append_1 20 rfl rfl)
theorem dX6_append_43 : decode cX6_append 43 = .ok (.iload 4, 2) := dk_21 4 (dk_at dksX6_append_1 21 rfl rfl)
theorem dX6_append_45 : decode cX6_append 45 = .ok (.invokevirtual 81, 3) := dk_182 0 81 (dk_at dksX6_append_2 0 rfl rfl)
theorem dX6_append_48 : decode cX6_append 48 = .ok (.aload_n 0, 1) := dk_42 (dk_at dksX6_append_2 3 rfl rfl)
theorem dX6_append_49 : decode cX6_append 49 = .ok (.iload 5, 2) := dk_21 5 (dk_at dksX6_append_2 4 rfl rfl)
theorem dX6_append_51 : decode cX6_append 51 = .ok (.invokevirtual 81, 3) := dk_182 0 81 (dk_at dksX6_append_2 6 rfl rfl)
theorem dX6_append_54 : decode cX6_append 54 = .ok (.aload_n 0, 1) := dk_42 (dk_at dksX6_append_2 9 rfl rfl)
theorem dX6_append_55 : decode cX6_append 55 = .ok (.getfield 74, 3) := dk_180 0 74 (dk_at dksX6_append_2 10 rfl rfl)
theorem dX6_append_58 : decode cX6_append 58 = .ok (.ireturn, 1) := dk_172 (dk_at dksX6_append_2 13 rfl rfl)
def dkwX6_passes_0 : List UInt8 := [42, 27, 4, 4, 4, 182, 0, 7, 172]
abbrev dktX6_passes_0 : List UInt8 := dkwX6_passes_0 ++ []
theorem dksX6_passes_0 : cX6_passes.data.toList.drop 0 = dktX6_passes_0 := by decide +kernel
theorem dX6_passes_0 : decode cX6_passes 0 = .ok (.aload_n 0, 1) := dk_42 (dk_at dksX6_passes_0 0 rfl rfl)
theorem dX6_passes_1 : decode cX6_passes 1 = .ok (.iload_n 1, 1) := dk_27 (dk_at dksX6_passes_0 1 rfl rfl)
theorem dX6_passes_2 : decode cX6_passes 2 = .ok (.iconst 1, 1) := dk_4 (dk_at dksX6_passes_0 2 rfl rfl)
theorem dX6_passes_3 : decode cX6_passes 3 = .ok (.iconst 1, 1) := dk_4 (dk_at dksX6_passes_0 3 rfl rfl)
theorem dX6_passes_4 : decode cX6_passes 4 = .ok (.iconst 1, 1) := dk_4 (dk_at dksX6_passes_0 4 rfl rfl)
theorem dX6_passes_5 : decode cX6_passes 5 = .ok (.invokevirtual 7, 3) := dk_182 0 7 (dk_at dksX6_passes_0 5 rfl rfl)
theorem dX6_passes_8 : decode cX6_passes 8 = .ok (.ireturn, 1) := dk_172 (dk_at dksX6_passes_0 8 rfl rfl)
def dkwX6_passes4_2 : List UInt8 := [167, 0, 4, 3, 172]
abbrev dktX6_passes4_2 : List UInt8 := dkwX6_passes4_2 ++ []
def dkwX6_passes4_1 : List UInt8 := [167, 0, 13, 21, 4, 154, 0, 7, 7, 167, 0, 4, 3, 181, 0, 3, 42, 180, 0, 3, 154, 0, 7, 4]
abbrev dktX6_passes4_1 : List UInt8 := dkwX6_passes4_1 ++ dktX6_passes4_2
def dkwX6_passes4_0 : List UInt8 := [42, 27, 154, 0, 7, 4, 167, 0, 29, 28, 154, 0, 7, 5, 167, 0, 21, 29, 154, 0, 7, 6]
abbrev dktX6_passes4_0 : List UInt8 := dkwX6_passes4_0 ++ dktX6_passes4_1
theorem dksX6_passes4_0 : cX6_passes4.data.toList.drop 0 = dktX6_passes4_0 := by decide +kernel
theorem dksX6_passes4_1 : cX6_passes4.data.toList.drop 22 = dktX6_passes4_1 := dk_seg dksX6_passes4_0 22 rfl rfl
theorem dksX6_passes4_2 : cX6_passes4.data.toList.drop 46 = dktX6_passes4_2 := dk_seg dksX6_passes4_1 24 rfl rfl
theorem dX6_passes4_0 : decode cX6_passes4 0 = .ok (.aload_n 0, 1) := dk_42 (dk_at dksX6_passes4_0 0 rfl rfl)
theorem dX6_passes4_1 : decode cX6_passes4 1 = .ok (.iload_n 1, 1) := dk_27 (dk_at dksX6_passes4_0 1 rfl rfl)
theorem dX6_passes4_2 : decode cX6_passes4 2 = .ok (.ifCond .ne 7, 3) := dk_154 0 7 (dk_at dksX6_passes4_0 2 rfl rfl)
theorem dX6_passes4_5 : decode cX6_passes4 5 = .ok (.iconst 1, 1) := dk_4 (dk_at dksX6_passes4_0 5 rfl rfl)
theorem dX6_passes4_6 : decode cX6_passes4 6 = .ok (.goto 29, 3) := dk_167 0 29 (dk_at dksX6_passes4_0 6 rfl rfl)
theorem dX6_passes4_9 : decode cX6_passes4 9 = .ok (.iload_n 2, 1) := dk_28 (dk_at dksX6_passes4_0 9 rfl rfl)
theorem dX6_passes4_10 : decode cX6_passes4 10 = .ok (.ifCond .ne 7, 3) := dk_154 0 7 (dk_at dksX6_passes4_0 10 rfl rfl)
theorem dX6_passes4_13 : decode cX6_passes4 13 = .ok (.iconst 2, 1) := dk_5 (dk_at dksX6_passes4_0 13 rfl rfl)
theorem dX6_passes4_14 : decode cX6_passes4 14 = .ok (.goto 21, 3) := dk_167 0 21 (dk_at dksX6_passes4_0 14 rfl rfl)
theorem dX6_passes4_17 : decode cX6_passes4 17 = .ok (.iload_n 3, 1) := dk_29 (dk_at dksX6_passes4_0 17 rfl rfl)
theorem dX6_passes4_18 : decode cX6_passes4 18 = .ok (.ifCond .ne 7, 3) := dk_154 0 7 (dk_at dksX6_passes4_0 18 rfl rfl)
theorem dX6_passes4_21 : decode cX6_passes4 21 = .ok (.iconst 3, 1) := dk_6 (dk_at dksX6_passes4_0 21 rfl rfl)
theorem dX6_passes4_22 : decode cX6_passes4 22 = .ok (.goto 13, 3) := dk_167 0 13 (dk_at dksX6_passes4_1 0 rfl rfl)
theorem dX6_passes4_25 : decode cX6_passes4 25 = .ok (.iload 4, 2) := dk_21 4 (dk_at dksX6_passes4_1 3 rfl rfl)
theorem dX6_passes4_27 : decode cX6_passes4 27 = .ok (.ifCond .ne 7, 3) := dk_154 0 7 (dk_at dksX6_passes4_1 5 rfl rfl)
theorem dX6_passes4_30 : decode cX6_passes4 30 = .ok (.iconst 4, 1) := dk_7 (dk_at dksX6_passes4_1 8 rfl rfl)
theorem dX6_passes4_31 : decode cX6_passes4 31 = .ok (.goto 4, 3) := dk_167 0 4 (dk_at dksX6_passes4_1 9 rfl rfl)
theorem dX6_passes4_34 : decode cX6_passes4 34 = .ok (.iconst 0, 1) := dk_3 (dk_at dksX6_passes4_1 12 rfl rfl)
theorem dX6_passes4_35 : decode cX6_passes4 35 = .ok (.putfield 3, 3) := dk_181 0 3 (dk_at dksX6_passes4_1 13 rfl rfl)
theorem dX6_passes4_38 : decode cX6_passes4 38 = .ok (.aload_n 0, 1) := dk_42 (dk_at dksX6_passes4_1 16 rfl rfl)
theorem dX6_passes4_39 : decode cX6_passes4 39 = .ok (.getfield 3, 3) := dk_180 0 3 (dk_at dksX6_passes4_1 17 rfl rfl)
theorem dX6_passes4_42 : decode cX6_passes4 42 = .ok (.ifCond .ne 7, 3) := dk_154 0 7 (dk_at dksX6_passes4_1 20 rfl rfl)
theorem dX6_passes4_45 : decode cX6_passes4 45 = .ok (.iconst 1, 1) := dk_4 (dk_at dksX6_passes4_1 23 rfl rfl)
theorem dX6_passes4_46 : decode cX6_passes4 46 = .ok (.goto 4, 3) := dk_167 0 4 (dk_at dksX6_passes4_2 0 rfl rfl)
theorem dX6_passes4_49 : decode cX6_passes4 49 = .ok (.iconst 0, 1) := dk_3 (dk_at dksX6_passes4_2 3 rfl rfl)
theorem dX6_passes4_50 : decode cX6_passes4 50 = .ok (.ireturn, 1) := dk_172 (dk_at dksX6_passes4_2 4 rfl rfl)
def dkwX6_appendFour_1 : List UInt8 := [180, 0, 74, 4, 96, 181, 0, 74, 132, 2, 248, 167, 255, 226, 177]
abbrev dktX6_appendFour_1 : List UInt8 := dkwX6_appendFour_1 ++ []
def dkwX6_appendFour_0 : List UInt8 := [16, 24, 61, 28, 155, 0, 32, 42, 180, 0, 31, 42, 180, 0, 74, 27, 28, 122, 145, 84, 42, 89]
abbrev dktX6_appendFour_0 : List UInt8 := dkwX6_appendFour_0 ++ dktX6_appendFour_1
theorem dksX6_appendFour_0 : cX6_appendFour.data.toList.drop 0 = dktX6_appendFour_0 := by decide +kernel
theorem dksX6_appendFour_1 : cX6_appendFour.data.toList.drop 22 = dktX6_appendFour_1 := dk_seg dksX6_appendFour_0 22 rfl rfl
theorem dX6_appendFour_0 : decode cX6_appendFour 0 = .ok (.bipush 24, 2) := dk_16 24 (dk_at dksX6_appendFour_0 0 rfl rfl)
theorem dX6_appendFour_2 : decode cX6_appendFour 2 = .ok (.istore_n 2, 1) := dk_61 (dk_at dksX6_appendFour_0 2 rfl rfl)
theorem dX6_appendFour_3 : decode cX6_appendFour 3 = .ok (.iload_n 2, 1) := dk_28 (dk_at dksX6_appendFour_0 3 rfl rfl)
theorem dX6_appendFour_4 : decode cX6_appendFour 4 = .ok (.ifCond .lt 32, 3) := dk_155 0 32 (dk_at dksX6_appendFour_0 4 rfl rfl)
theorem dX6_appendFour_7 : decode cX6_appendFour 7 = .ok (.aload_n 0, 1) := dk_42 (dk_at dksX6_appendFour_0 7 rfl rfl)
theorem dX6_appendFour_8 : decode cX6_appendFour 8 = .ok (.getfield 31, 3) := dk_180 0 31 (dk_at dksX6_appendFour_0 8 rfl rfl)
theorem dX6_appendFour_11 : decode cX6_appendFour 11 = .ok (.aload_n 0, 1) := dk_42 (dk_at dksX6_appendFour_0 11 rfl rfl)
theorem dX6_appendFour_12 : decode cX6_appendFour 12 = .ok (.getfield 74, 3) := dk_180 0 74 (dk_at dksX6_appendFour_0 12 rfl rfl)
theorem dX6_appendFour_15 : decode cX6_appendFour 15 = .ok (.iload_n 1, 1) := dk_27 (dk_at dksX6_appendFour_0 15 rfl rfl)
theorem dX6_appendFour_16 : decode cX6_appendFour 16 = .ok (.iload_n 2, 1) := dk_28 (dk_at dksX6_appendFour_0 16 rfl rfl)
theorem dX6_appendFour_17 : decode cX6_appendFour 17 = .ok (.ishr, 1) := dk_122 (dk_at dksX6_appendFour_0 17 rfl rfl)
theorem dX6_appendFour_18 : decode cX6_appendFour 18 = .ok (.i2b, 1) := dk_145 (dk_at dksX6_appendFour_0 18 rfl rfl)
theorem dX6_appendFour_19 : decode cX6_appendFour 19 = .ok (.bastore, 1) := dk_84 (dk_at dksX6_appendFour_0 19 rfl rfl)
theorem dX6_appendFour_20 : decode cX6_appendFour 20 = .ok (.aload_n 0, 1) := dk_42 (dk_at dksX6_appendFour_0 20 rfl rfl)
theorem dX6_appendFour_21 : decode cX6_appendFour 21 = .ok (.dup, 1) := dk_89 (dk_at dksX6_appendFour_0 21 rfl rfl)
theorem dX6_appendFour_22 : decode cX6_appendFour 22 = .ok (.getfield 74, 3) := dk_180 0 74 (dk_at dksX6_appendFour_1 0 rfl rfl)
theorem dX6_appendFour_25 : decode cX6_appendFour 25 = .ok (.iconst 1, 1) := dk_4 (dk_at dksX6_appendFour_1 3 rfl rfl)
theorem dX6_appendFour_26 : decode cX6_appendFour 26 = .ok (.iadd, 1) := dk_96 (dk_at dksX6_appendFour_1 4 rfl rfl)
theorem dX6_appendFour_27 : decode cX6_appendFour 27 = .ok (.putfield 74, 3) := dk_181 0 74 (dk_at dksX6_appendFour_1 5 rfl rfl)
theorem dX6_appendFour_30 : decode cX6_appendFour 30 = .ok (.iinc 2 (-8), 3) := dk_132 2 248 (dk_at dksX6_appendFour_1 8 rfl rfl)
theorem dX6_appendFour_33 : decode cX6_appendFour 33 = .ok (.goto (-30), 3) := dk_167 255 226 (dk_at dksX6_appendFour_1 11 rfl rfl)
theorem dX6_appendFour_36 : decode cX6_appendFour 36 = .ok (.return_, 1) := dk_177 (dk_at dksX6_appendFour_1 14 rfl rfl)
def dkwX6_truncate_0 : List UInt8 := [42, 27, 133, 9, 42, 180, 0, 74, 133, 184, 0, 66, 182, 0, 77, 153, 0, 8, 42, 27, 181, 0, 74, 177]
abbrev dktX6_truncate_0 : List UInt8 := dkwX6_truncate_0 ++ []
theorem dksX6_truncate_0 : cX6_truncate.data.toList.drop 0 = dktX6_truncate_0 := by decide +kernel
theorem dX6_truncate_0 : decode cX6_truncate 0 = .ok (.aload_n 0, 1) := dk_42 (dk_at dksX6_truncate_0 0 rfl rfl)
theorem dX6_truncate_1 : decode cX6_truncate 1 = .ok (.iload_n 1, 1) := dk_27 (dk_at dksX6_truncate_0 1 rfl rfl)
theorem dX6_truncate_2 : decode cX6_truncate 2 = .ok (.i2l, 1) := dk_133 (dk_at dksX6_truncate_0 2 rfl rfl)
theorem dX6_truncate_3 : decode cX6_truncate 3 = .ok (.lconst 0, 1) := dk_9 (dk_at dksX6_truncate_0 3 rfl rfl)
theorem dX6_truncate_4 : decode cX6_truncate 4 = .ok (.aload_n 0, 1) := dk_42 (dk_at dksX6_truncate_0 4 rfl rfl)
theorem dX6_truncate_5 : decode cX6_truncate 5 = .ok (.getfield 74, 3) := dk_180 0 74 (dk_at dksX6_truncate_0 5 rfl rfl)
theorem dX6_truncate_8 : decode cX6_truncate 8 = .ok (.i2l, 1) := dk_133 (dk_at dksX6_truncate_0 8 rfl rfl)
theorem dX6_truncate_9 : decode cX6_truncate 9 = .ok (.invokestatic 66, 3) := dk_184 0 66 (dk_at dksX6_truncate_0 9 rfl rfl)
theorem dX6_truncate_12 : decode cX6_truncate 12 = .ok (.invokevirtual 77, 3) := dk_182 0 77 (dk_at dksX6_truncate_0 12 rfl rfl)
theorem dX6_truncate_15 : decode cX6_truncate 15 = .ok (.ifCond .eq 8, 3) := dk_153 0 8 (dk_at dksX6_truncate_0 15 rfl rfl)
theorem dX6_truncate_18 : decode cX6_truncate 18 = .ok (.aload_n 0, 1) := dk_42 (dk_at dksX6_truncate_0 18 rfl rfl)
theorem dX6_truncate_19 : decode cX6_truncate 19 = .ok (.iload_n 1, 1) := dk_27 (dk_at dksX6_truncate_0 19 rfl rfl)
theorem dX6_truncate_20 : decode cX6_truncate 20 = .ok (.putfield 74, 3) := dk_181 0 74 (dk_at dksX6_truncate_0 20 rfl rfl)
theorem dX6_truncate_23 : decode cX6_truncate 23 = .ok (.return_, 1) := dk_177 (dk_at dksX6_truncate_0 23 rfl rfl)
def dkwX6_in_0 : List UInt8 := [30, 32, 148, 155, 0, 14, 30, 22, 4, 148, 157, 0, 7, 4, 167, 0, 4, 3, 172]
abbrev dktX6_in_0 : List UInt8 := dkwX6_in_0 ++ []
theorem dksX6_in_0 : cX6_in.data.toList.drop 0 = dktX6_in_0 := by decide +kernel
theorem dX6_in_0 : decode cX6_in 0 = .ok (.lload_n 0, 1) := dk_30 (dk_at dksX6_in_0 0 rfl rfl)
theorem dX6_in_1 : decode cX6_in 1 = .ok (.lload_n 2, 1) := dk_32 (dk_at dksX6_in_0 1 rfl rfl)
theorem dX6_in_2 : decode cX6_in 2 = .ok (.lcmp, 1) := dk_148 (dk_at dksX6_in_0 2 rfl rfl)
theorem dX6_in_3 : decode cX6_in 3 = .ok (.ifCond .lt 14, 3) := dk_155 0 14 (dk_at dksX6_in_0 3 rfl rfl)
theorem dX6_in_6 : decode cX6_in 6 = .ok (.lload_n 0, 1) := dk_30 (dk_at dksX6_in_0 6 rfl rfl)
theorem dX6_in_7 : decode cX6_in 7 = .ok (.lload 4, 2) := dk_22 4 (dk_at dksX6_in_0 7 rfl rfl)
theorem dX6_in_9 : decode cX6_in 9 = .ok (.lcmp, 1) := dk_148 (dk_at dksX6_in_0 9 rfl rfl)
theorem dX6_in_10 : decode cX6_in 10 = .ok (.ifCond .gt 7, 3) := dk_157 0 7 (dk_at dksX6_in_0 10 rfl rfl)
theorem dX6_in_13 : decode cX6_in 13 = .ok (.iconst 1, 1) := dk_4 (dk_at dksX6_in_0 13 rfl rfl)
theorem dX6_in_14 : decode cX6_in 14 = .ok (.goto 4, 3) := dk_167 0 4 (dk_at dksX6_in_0 14 rfl rfl)
theorem dX6_in_17 : decode cX6_in 17 = .ok (.iconst 0, 1) := dk_3 (dk_at dksX6_in_0 17 rfl rfl)
theorem dX6_in_18 : decode cX6_in 18 = .ok (.ireturn, 1) := dk_172 (dk_at dksX6_in_0 18 rfl rfl)
def dkwX6_load_7 : List UInt8 := [162, 0, 16, 42, 180, 0, 27, 27, 11, 81, 132, 1, 1, 167, 255, 239, 42, 180, 0, 17, 6, 46, 172]
abbrev dktX6_load_7 : List UInt8 := dkwX6_load_7 ++ []
def dkwX6_load_6 : List UInt8 := [180, 0, 17, 27, 42, 180, 0, 21, 27, 46, 79, 132, 1, 1, 167, 255, 234, 3, 60, 27, 17, 0, 160]
abbrev dktX6_load_6 : List UInt8 := dkwX6_load_6 ++ dktX6_load_7
def dkwX6_load_5 : List UInt8 := [182, 0, 88, 154, 0, 6, 16, 252, 172, 42, 182, 1, 65, 3, 60, 27, 17, 5, 185, 162, 0, 21, 42]
abbrev dktX6_load_5 : List UInt8 := dkwX6_load_5 ++ dktX6_load_6
def dkwX6_load_4 : List UInt8 := [180, 0, 105, 153, 0, 10, 42, 182, 1, 62, 167, 255, 238, 42, 42, 180, 0, 17, 181, 0, 24, 42]
abbrev dktX6_load_4 : List UInt8 := dkwX6_load_4 ++ dktX6_load_5
def dkwX6_load_3 : List UInt8 := [180, 0, 21, 181, 0, 24, 42, 182, 0, 125, 42, 182, 1, 59, 42, 182, 0, 88, 153, 0, 17, 42]
abbrev dktX6_load_3 : List UInt8 := dkwX6_load_3 ++ dktX6_load_4
def dkwX6_load_2 : List UInt8 := [180, 0, 21, 27, 3, 79, 132, 1, 1, 167, 255, 239, 42, 180, 0, 21, 16, 9, 4, 79, 42, 42]
abbrev dktX6_load_2 : List UInt8 := dkwX6_load_2 ++ dktX6_load_3
def dkwX6_load_1 : List UInt8 := [3, 181, 0, 85, 42, 2, 181, 0, 35, 42, 3, 181, 1, 37, 3, 60, 27, 17, 5, 185, 162, 0, 16, 42]
abbrev dktX6_load_1 : List UInt8 := dkwX6_load_1 ++ dktX6_load_2
def dkwX6_load_0 : List UInt8 := [42, 3, 181, 0, 3, 42, 42, 180, 0, 74, 181, 0, 95, 42, 3, 181, 0, 74, 42, 3, 181, 0, 98, 42]
abbrev dktX6_load_0 : List UInt8 := dkwX6_load_0 ++ dktX6_load_1
theorem dksX6_load_0 : cX6_load.data.toList.drop 0 = dktX6_load_0 := by decide +kernel
theorem dksX6_load_1 : cX6_load.data.toList.drop 24 = dktX6_load_1 := dk_seg dksX6_load_0 24 rfl rfl
theorem dksX6_load_2 : cX6_load.data.toList.drop 48 = dktX6_load_2 := dk_seg dksX6_load_1 24 rfl rfl
theorem dksX6_load_3 : cX6_load.data.toList.drop 70 = dktX6_load_3 := dk_seg dksX6_load_2 22 rfl rfl
theorem dksX6_load_4 : cX6_load.data.toList.drop 92 = dktX6_load_4 := dk_seg dksX6_load_3 22 rfl rfl
theorem dksX6_load_5 : cX6_load.data.toList.drop 114 = dktX6_load_5 := dk_seg dksX6_load_4 22 rfl rfl
theorem dksX6_load_6 : cX6_load.data.toList.drop 137 = dktX6_load_6 := dk_seg dksX6_load_5 23 rfl rfl
theorem dksX6_load_7 : cX6_load.data.toList.drop 160 = dktX6_load_7 := dk_seg dksX6_load_6 23 rfl rfl
theorem dX6_load_0 : decode cX6_load 0 = .ok (.aload_n 0, 1) := dk_42 (dk_at dksX6_load_0 0 rfl rfl)
theorem dX6_load_1 : decode cX6_load 1 = .ok (.iconst 0, 1) := dk_3 (dk_at dksX6_load_0 1 rfl rfl)
theorem dX6_load_2 : decode cX6_load 2 = .ok (.putfield 3, 3) := dk_181 0 3 (dk_at dksX6_load_0 2 rfl rfl)
theorem dX6_load_5 : decode cX6_load 5 = .ok (.aload_n 0, 1) := dk_42 (dk_at dksX6_load_0 5 rfl rfl)
theorem dX6_load_6 : decode cX6_load 6 = .ok (.aload_n 0, 1) := dk_42 (dk_at dksX6_load_0 6 rfl rfl)
theorem dX6_load_7 : decode cX6_load 7 = .ok (.getfield 74, 3) := dk_180 0 74 (dk_at dksX6_load_0 7 rfl rfl)
theorem dX6_load_10 : decode cX6_load 10 = .ok (.putfield 95, 3) := dk_181 0 95 (dk_at dksX6_load_0 10 rfl rfl)
theorem dX6_load_13 : decode cX6_load 13 = .ok (.aload_n 0, 1) := dk_42 (dk_at dksX6_load_0 13 rfl rfl)
theorem dX6_load_14 : decode cX6_load 14 = .ok (.iconst 0, 1) := dk_3 (dk_at dksX6_load_0 14 rfl rfl)
theorem dX6_load_15 : decode cX6_load 15 = .ok (.putfield 74, 3) := dk_181 0 74 (dk_at dksX6_load_0 15 rfl rfl)
theorem dX6_load_18 : decode cX6_load 18 = .ok (.aload_n 0, 1) := dk_42 (dk_at dksX6_load_0 18 rfl rfl)
theorem dX6_load_19 : decode cX6_load 19 = .ok (.iconst 0, 1) := dk_3 (dk_at dksX6_load_0 19 rfl rfl)
theorem dX6_load_20 : decode cX6_load 20 = .ok (.putfield 98, 3) := dk_181 0 98 (dk_at dksX6_load_0 20 rfl rfl)
theorem dX6_load_23 : decode cX6_load 23 = .ok (.aload_n 0, 1) := dk_42 (dk_at dksX6_load_0 23 rfl rfl)
theorem dX6_load_24 : decode cX6_load 24 = .ok (.iconst 0, 1) := dk_3 (dk_at dksX6_load_1 0 rfl rfl)
theorem dX6_load_25 : decode cX6_load 25 = .ok (.putfield 85, 3) := dk_181 0 85 (dk_at dksX6_load_1 1 rfl rfl)
theorem dX6_load_28 : decode cX6_load 28 = .ok (.aload_n 0, 1) := dk_42 (dk_at dksX6_load_1 4 rfl rfl)
theorem dX6_load_29 : decode cX6_load 29 = .ok (.iconst (-1), 1) := dk_2 (dk_at dksX6_load_1 5 rfl rfl)
theorem dX6_load_30 : decode cX6_load 30 = .ok (.putfield 35, 3) := dk_181 0 35 (dk_at dksX6_load_1 6 rfl rfl)
theorem dX6_load_33 : decode cX6_load 33 = .ok (.aload_n 0, 1) := dk_42 (dk_at dksX6_load_1 9 rfl rfl)
theorem dX6_load_34 : decode cX6_load 34 = .ok (.iconst 0, 1) := dk_3 (dk_at dksX6_load_1 10 rfl rfl)
theorem dX6_load_35 : decode cX6_load 35 = .ok (.putfield 293, 3) := dk_181 1 37 (dk_at dksX6_load_1 11 rfl rfl)
theorem dX6_load_38 : decode cX6_load 38 = .ok (.iconst 0, 1) := dk_3 (dk_at dksX6_load_1 14 rfl rfl)
theorem dX6_load_39 : decode cX6_load 39 = .ok (.istore_n 1, 1) := dk_60 (dk_at dksX6_load_1 15 rfl rfl)
theorem dX6_load_40 : decode cX6_load 40 = .ok (.iload_n 1, 1) := dk_27 (dk_at dksX6_load_1 16 rfl rfl)
theorem dX6_load_41 : decode cX6_load 41 = .ok (.sipush 1465, 3) := dk_17 5 185 (dk_at dksX6_load_1 17 rfl rfl)
theorem dX6_load_44 : decode cX6_load 44 = .ok (.if_icmp .ge 16, 3) := dk_162 0 16 (dk_at dksX6_load_1 20 rfl rfl)
theorem dX6_load_47 : decode cX6_load 47 = .ok (.aload_n 0, 1) := dk_42 (dk_at dksX6_load_1 23 rfl rfl)
theorem dX6_load_48 : decode cX6_load 48 = .ok (.getfield 21, 3) := dk_180 0 21 (dk_at dksX6_load_2 0 rfl rfl)
theorem dX6_load_51 : decode cX6_load 51 = .ok (.iload_n 1, 1) := dk_27 (dk_at dksX6_load_2 3 rfl rfl)
theorem dX6_load_52 : decode cX6_load 52 = .ok (.iconst 0, 1) := dk_3 (dk_at dksX6_load_2 4 rfl rfl)
theorem dX6_load_53 : decode cX6_load 53 = .ok (.iastore, 1) := dk_79 (dk_at dksX6_load_2 5 rfl rfl)
theorem dX6_load_54 : decode cX6_load 54 = .ok (.iinc 1 1, 3) := dk_132 1 1 (dk_at dksX6_load_2 6 rfl rfl)
theorem dX6_load_57 : decode cX6_load 57 = .ok (.goto (-17), 3) := dk_167 255 239 (dk_at dksX6_load_2 9 rfl rfl)
theorem dX6_load_60 : decode cX6_load 60 = .ok (.aload_n 0, 1) := dk_42 (dk_at dksX6_load_2 12 rfl rfl)
theorem dX6_load_61 : decode cX6_load 61 = .ok (.getfield 21, 3) := dk_180 0 21 (dk_at dksX6_load_2 13 rfl rfl)
theorem dX6_load_64 : decode cX6_load 64 = .ok (.bipush 9, 2) := dk_16 9 (dk_at dksX6_load_2 16 rfl rfl)
theorem dX6_load_66 : decode cX6_load 66 = .ok (.iconst 1, 1) := dk_4 (dk_at dksX6_load_2 18 rfl rfl)
theorem dX6_load_67 : decode cX6_load 67 = .ok (.iastore, 1) := dk_79 (dk_at dksX6_load_2 19 rfl rfl)
theorem dX6_load_68 : decode cX6_load 68 = .ok (.aload_n 0, 1) := dk_42 (dk_at dksX6_load_2 20 rfl rfl)
theorem dX6_load_69 : decode cX6_load 69 = .ok (.aload_n 0, 1) := dk_42 (dk_at dksX6_load_2 21 rfl rfl)
theorem dX6_load_70 : decode cX6_load 70 = .ok (.getfield 21, 3) := dk_180 0 21 (dk_at dksX6_load_3 0 rfl rfl)
theorem dX6_load_73 : decode cX6_load 73 = .ok (.putfield 24, 3) := dk_181 0 24 (dk_at dksX6_load_3 3 rfl rfl)
theorem dX6_load_76 : decode cX6_load 76 = .ok (.aload_n 0, 1) := dk_42 (dk_at dksX6_load_3 6 rfl rfl)
theorem dX6_load_77 : decode cX6_load 77 = .ok (.invokevirtual 125, 3) := dk_182 0 125 (dk_at dksX6_load_3 7 rfl rfl)
theorem dX6_load_80 : decode cX6_load 80 = .ok (.aload_n 0, 1) := dk_42 (dk_at dksX6_load_3 10 rfl rfl)
theorem dX6_load_81 : decode cX6_load 81 = .ok (.invokevirtual 315, 3) := dk_182 1 59 (dk_at dksX6_load_3 11 rfl rfl)
theorem dX6_load_84 : decode cX6_load 84 = .ok (.aload_n 0, 1) := dk_42 (dk_at dksX6_load_3 14 rfl rfl)
theorem dX6_load_85 : decode cX6_load 85 = .ok (.invokevirtual 88, 3) := dk_182 0 88 (dk_at dksX6_load_3 15 rfl rfl)
theorem dX6_load_88 : decode cX6_load 88 = .ok (.ifCond .eq 17, 3) := dk_153 0 17 (dk_at dksX6_load_3 18 rfl rfl)
theorem dX6_load_91 : decode cX6_load 91 = .ok (.aload_n 0, 1) := dk_42 (dk_at dksX6_load_3 21 rfl rfl)
theorem dX6_load_92 : decode cX6_load 92 = .ok (.getfield 105, 3) := dk_180 0 105 (dk_at dksX6_load_4 0 rfl rfl)
theorem dX6_load_95 : decode cX6_load 95 = .ok (.ifCond .eq 10, 3) := dk_153 0 10 (dk_at dksX6_load_4 3 rfl rfl)
theorem dX6_load_98 : decode cX6_load 98 = .ok (.aload_n 0, 1) := dk_42 (dk_at dksX6_load_4 6 rfl rfl)
theorem dX6_load_99 : decode cX6_load 99 = .ok (.invokevirtual 318, 3) := dk_182 1 62 (dk_at dksX6_load_4 7 rfl rfl)
theorem dX6_load_102 : decode cX6_load 102 = .ok (.goto (-18), 3) := dk_167 255 238 (dk_at dksX6_load_4 10 rfl rfl)
theorem dX6_load_105 : decode cX6_load 105 = .ok (.aload_n 0, 1) := dk_42 (dk_at dksX6_load_4 13 rfl rfl)
theorem dX6_load_106 : decode cX6_load 106 = .ok (.aload_n 0, 1) := dk_42 (dk_at dksX6_load_4 14 rfl rfl)
theorem dX6_load_107 : decode cX6_load 107 = .ok (.getfield 17, 3) := dk_180 0 17 (dk_at dksX6_load_4 15 rfl rfl)
theorem dX6_load_110 : decode cX6_load 110 = .ok (.putfield 24, 3) := dk_181 0 24 (dk_at dksX6_load_4 18 rfl rfl)
theorem dX6_load_113 : decode cX6_load 113 = .ok (.aload_n 0, 1) := dk_42 (dk_at dksX6_load_4 21 rfl rfl)
theorem dX6_load_114 : decode cX6_load 114 = .ok (.invokevirtual 88, 3) := dk_182 0 88 (dk_at dksX6_load_5 0 rfl rfl)
theorem dX6_load_117 : decode cX6_load 117 = .ok (.ifCond .ne 6, 3) := dk_154 0 6 (dk_at dksX6_load_5 3 rfl rfl)
theorem dX6_load_120 : decode cX6_load 120 = .ok (.bipush (-4), 2) := dk_16 252 (dk_at dksX6_load_5 6 rfl rfl)
theorem dX6_load_122 : decode cX6_load 122 = .ok (.ireturn, 1) := dk_172 (dk_at dksX6_load_5 8 rfl rfl)
theorem dX6_load_123 : decode cX6_load 123 = .ok (.aload_n 0, 1) := dk_42 (dk_at dksX6_load_5 9 rfl rfl)
theorem dX6_load_124 : decode cX6_load 124 = .ok (.invokevirtual 321, 3) := dk_182 1 65 (dk_at dksX6_load_5 10 rfl rfl)
theorem dX6_load_127 : decode cX6_load 127 = .ok (.iconst 0, 1) := dk_3 (dk_at dksX6_load_5 13 rfl rfl)
theorem dX6_load_128 : decode cX6_load 128 = .ok (.istore_n 1, 1) := dk_60 (dk_at dksX6_load_5 14 rfl rfl)
theorem dX6_load_129 : decode cX6_load 129 = .ok (.iload_n 1, 1) := dk_27 (dk_at dksX6_load_5 15 rfl rfl)
theorem dX6_load_130 : decode cX6_load 130 = .ok (.sipush 1465, 3) := dk_17 5 185 (dk_at dksX6_load_5 16 rfl rfl)
theorem dX6_load_133 : decode cX6_load 133 = .ok (.if_icmp .ge 21, 3) := dk_162 0 21 (dk_at dksX6_load_5 19 rfl rfl)
theorem dX6_load_136 : decode cX6_load 136 = .ok (.aload_n 0, 1) := dk_42 (dk_at dksX6_load_5 22 rfl rfl)
theorem dX6_load_137 : decode cX6_load 137 = .ok (.getfield 17, 3) := dk_180 0 17 (dk_at dksX6_load_6 0 rfl rfl)
theorem dX6_load_140 : decode cX6_load 140 = .ok (.iload_n 1, 1) := dk_27 (dk_at dksX6_load_6 3 rfl rfl)
theorem dX6_load_141 : decode cX6_load 141 = .ok (.aload_n 0, 1) := dk_42 (dk_at dksX6_load_6 4 rfl rfl)
theorem dX6_load_142 : decode cX6_load 142 = .ok (.getfield 21, 3) := dk_180 0 21 (dk_at dksX6_load_6 5 rfl rfl)
theorem dX6_load_145 : decode cX6_load 145 = .ok (.iload_n 1, 1) := dk_27 (dk_at dksX6_load_6 8 rfl rfl)
theorem dX6_load_146 : decode cX6_load 146 = .ok (.iaload, 1) := dk_46 (dk_at dksX6_load_6 9 rfl rfl)
theorem dX6_load_147 : decode cX6_load 147 = .ok (.iastore, 1) := dk_79 (dk_at dksX6_load_6 10 rfl rfl)
theorem dX6_load_148 : decode cX6_load 148 = .ok (.iinc 1 1, 3) := dk_132 1 1 (dk_at dksX6_load_6 11 rfl rfl)
theorem dX6_load_151 : decode cX6_load 151 = .ok (.goto (-22), 3) := dk_167 255 234 (dk_at dksX6_load_6 14 rfl rfl)
theorem dX6_load_154 : decode cX6_load 154 = .ok (.iconst 0, 1) := dk_3 (dk_at dksX6_load_6 17 rfl rfl)
theorem dX6_load_155 : decode cX6_load 155 = .ok (.istore_n 1, 1) := dk_60 (dk_at dksX6_load_6 18 rfl rfl)
theorem dX6_load_156 : decode cX6_load 156 = .ok (.iload_n 1, 1) := dk_27 (dk_at dksX6_load_6 19 rfl rfl)
theorem dX6_load_157 : decode cX6_load 157 = .ok (.sipush 160, 3) := dk_17 0 160 (dk_at dksX6_load_6 20 rfl rfl)
theorem dX6_load_160 : decode cX6_load 160 = .ok (.if_icmp .ge 16, 3) := dk_162 0 16 (dk_at dksX6_load_7 0 rfl rfl)
theorem dX6_load_163 : decode cX6_load 163 = .ok (.aload_n 0, 1) := dk_42 (dk_at dksX6_load_7 3 rfl rfl)
theorem dX6_load_164 : decode cX6_load 164 = .ok (.getfield 27, 3) := dk_180 0 27 (dk_at dksX6_load_7 4 rfl rfl)
theorem dX6_load_167 : decode cX6_load 167 = .ok (.iload_n 1, 1) := dk_27 (dk_at dksX6_load_7 7 rfl rfl)
theorem dX6_load_168 : decode cX6_load 168 = .ok (.fconst 0, 1) := dk_11 (dk_at dksX6_load_7 8 rfl rfl)
theorem dX6_load_169 : decode cX6_load 169 = .ok (.fastore, 1) := dk_81 (dk_at dksX6_load_7 9 rfl rfl)
theorem dX6_load_170 : decode cX6_load 170 = .ok (.iinc 1 1, 3) := dk_132 1 1 (dk_at dksX6_load_7 10 rfl rfl)
theorem dX6_load_173 : decode cX6_load 173 = .ok (.goto (-17), 3) := dk_167 255 239 (dk_at dksX6_load_7 13 rfl rfl)
theorem dX6_load_176 : decode cX6_load 176 = .ok (.aload_n 0, 1) := dk_42 (dk_at dksX6_load_7 16 rfl rfl)
theorem dX6_load_177 : decode cX6_load 177 = .ok (.getfield 17, 3) := dk_180 0 17 (dk_at dksX6_load_7 17 rfl rfl)
theorem dX6_load_180 : decode cX6_load 180 = .ok (.iconst 3, 1) := dk_6 (dk_at dksX6_load_7 20 rfl rfl)
theorem dX6_load_181 : decode cX6_load 181 = .ok (.iaload, 1) := dk_46 (dk_at dksX6_load_7 21 rfl rfl)
theorem dX6_load_182 : decode cX6_load 182 = .ok (.ireturn, 1) := dk_172 (dk_at dksX6_load_7 22 rfl rfl)
def dkwX6_scan_9 : List UInt8 := [167, 0, 23, 42, 6, 181, 0, 105, 42, 27, 181, 0, 116, 42, 89, 180, 0, 98, 4, 96, 181, 0, 98, 177]
abbrev dktX6_scan_9 : List UInt8 := dkwX6_scan_9 ++ []
def dkwX6_scan_8 : List UInt8 := [184, 0, 120, 181, 0, 116, 42, 89, 180, 0, 98, 4, 96, 181, 0, 98, 167, 255, 197, 42, 5, 181, 0, 105]
abbrev dktX6_scan_8 : List UInt8 := dkwX6_scan_8 ++ dktX6_scan_9
def dkwX6_scan_7 : List UInt8 := [42, 18, 119, 16, 10, 42, 180, 0, 116, 104, 42, 42, 180, 0, 98, 182, 0, 101, 96, 16, 48, 100]
abbrev dktX6_scan_7 : List UInt8 := dkwX6_scan_7 ++ dktX6_scan_8
def dkwX6_scan_6 : List UInt8 := [181, 0, 116, 42, 42, 180, 0, 98, 182, 0, 101, 133, 20, 0, 112, 20, 0, 114, 184, 0, 66, 153, 0, 44]
abbrev dktX6_scan_6 : List UInt8 := dkwX6_scan_6 ++ dktX6_scan_7
def dkwX6_scan_5 : List UInt8 := [181, 0, 105, 167, 0, 112, 27, 133, 20, 0, 112, 20, 0, 114, 184, 0, 66, 153, 0, 78, 42, 3]
abbrev dktX6_scan_5 : List UInt8 := dkwX6_scan_5 ++ dktX6_scan_6
def dkwX6_scan_4 : List UInt8 := [20, 0, 110, 184, 0, 66, 153, 0, 16, 42, 89, 180, 0, 98, 4, 96, 181, 0, 98, 167, 255, 225, 42, 4]
abbrev dktX6_scan_4 : List UInt8 := dkwX6_scan_4 ++ dktX6_scan_5
def dkwX6_scan_3 : List UInt8 := [20, 0, 108, 20, 0, 110, 184, 0, 66, 153, 0, 45, 42, 42, 180, 0, 98, 182, 0, 101, 133, 20, 0, 108]
abbrev dktX6_scan_3 : List UInt8 := dkwX6_scan_3 ++ dktX6_scan_4
def dkwX6_scan_2 : List UInt8 := [42, 42, 180, 0, 98, 182, 0, 101, 60, 27, 2, 160, 0, 11, 42, 3, 181, 0, 105, 167, 0, 168, 27, 133]
abbrev dktX6_scan_2 : List UInt8 := dkwX6_scan_2 ++ dktX6_scan_3
def dkwX6_scan_1 : List UInt8 := [160, 0, 16, 42, 89, 180, 0, 98, 4, 96, 181, 0, 98, 167, 255, 220, 42, 42, 180, 0, 98, 181, 0, 92]
abbrev dktX6_scan_1 : List UInt8 := dkwX6_scan_1 ++ dktX6_scan_2
def dkwX6_scan_0 : List UInt8 := [42, 42, 180, 0, 98, 182, 0, 101, 16, 32, 159, 0, 16, 42, 42, 180, 0, 98, 182, 0, 101, 16, 10]
abbrev dktX6_scan_0 : List UInt8 := dkwX6_scan_0 ++ dktX6_scan_1
theorem dksX6_scan_0 : cX6_scan.data.toList.drop 0 = dktX6_scan_0 := by decide +kernel
theorem dksX6_scan_1 : cX6_scan.data.toList.drop 23 = dktX6_scan_1 := dk_seg dksX6_scan_0 23 rfl rfl
theorem dksX6_scan_2 : cX6_scan.data.toList.drop 47 = dktX6_scan_2 := dk_seg dksX6_scan_1 24 rfl rfl
theorem dksX6_scan_3 : cX6_scan.data.toList.drop 71 = dktX6_scan_3 := dk_seg dksX6_scan_2 24 rfl rfl
theorem dksX6_scan_4 : cX6_scan.data.toList.drop 95 = dktX6_scan_4 := dk_seg dksX6_scan_3 24 rfl rfl
theorem dksX6_scan_5 : cX6_scan.data.toList.drop 119 = dktX6_scan_5 := dk_seg dksX6_scan_4 24 rfl rfl
theorem dksX6_scan_6 : cX6_scan.data.toList.drop 141 = dktX6_scan_6 := dk_seg dksX6_scan_5 22 rfl rfl
theorem dksX6_scan_7 : cX6_scan.data.toList.drop 165 = dktX6_scan_7 := dk_seg dksX6_scan_6 24 rfl rfl
theorem dksX6_scan_8 : cX6_scan.data.toList.drop 187 = dktX6_scan_8 := dk_seg dksX6_scan_7 22 rfl rfl
theorem dksX6_scan_9 : cX6_scan.data.toList.drop 211 = dktX6_scan_9 := dk_seg dksX6_scan_8 24 rfl rfl
theorem dX6_scan_0 : decode cX6_scan 0 = .ok (.aload_n 0, 1) := dk_42 (dk_at dksX6_scan_0 0 rfl rfl)
theorem dX6_scan_1 : decode cX6_scan 1 = .ok (.aload_n 0, 1) := dk_42 (dk_at dksX6_scan_0 1 rfl rfl)
theorem dX6_scan_2 : decode cX6_scan 2 = .ok (.getfield 98, 3) := dk_180 0 98 (dk_at dksX6_scan_0 2 rfl rfl)
theorem dX6_scan_5 : decode cX6_scan 5 = .ok (.invokevirtual 101, 3) := dk_182 0 101 (dk_at dksX6_scan_0 5 rfl rfl)
theorem dX6_scan_8 : decode cX6_scan 8 = .ok (.bipush 32, 2) := dk_16 32 (dk_at dksX6_scan_0 8 rfl rfl)
theorem dX6_scan_10 : decode cX6_scan 10 = .ok (.if_icmp .eq 16, 3) := dk_159 0 16 (dk_at dksX6_scan_0 10 rfl rfl)
theorem dX6_scan_13 : decode cX6_scan 13 = .ok (.aload_n 0, 1) := dk_42 (dk_at dksX6_scan_0 13 rfl rfl)
theorem dX6_scan_14 : decode cX6_scan 14 = .ok (.aload_n 0, 1) := dk_42 (dk_at dksX6_scan_0 14 rfl rfl)
theorem dX6_scan_15 : decode cX6_scan 15 = .ok (.getfield 98, 3) := dk_180 0 98 (dk_at dksX6_scan_0 15 rfl rfl)
theorem dX6_scan_18 : decode cX6_scan 18 = .ok (.invokevirtual 101, 3) := dk_182 0 101 (dk_at dksX6_scan_0 18 rfl rfl)
theorem dX6_scan_21 : decode cX6_scan 21 = .ok (.bipush 10, 2) := dk_16 10 (dk_at dksX6_scan_0 21 rfl rfl)
theorem dX6_scan_23 : decode cX6_scan 23 = .ok (.if_icmp .ne 16, 3) := dk_160 0 16 (dk_at dksX6_scan_1 0 rfl rfl)
theorem dX6_scan_26 : decode cX6_scan 26 = .ok (.aload_n 0, 1) := dk_42 (dk_at dksX6_scan_1 3 rfl rfl)
theorem dX6_scan_27 : decode cX6_scan 27 = .ok (.dup, 1) := dk_89 (dk_at dksX6_scan_1 4 rfl rfl)
theorem dX6_scan_28 : decode cX6_scan 28 = .ok (.getfield 98, 3) := dk_180 0 98 (dk_at dksX6_scan_1 5 rfl rfl)
theorem dX6_scan_31 : decode cX6_scan 31 = .ok (.iconst 1, 1) := dk_4 (dk_at dksX6_scan_1 8 rfl rfl)
theorem dX6_scan_32 : decode cX6_scan 32 = .ok (.iadd, 1) := dk_96 (dk_at dksX6_scan_1 9 rfl rfl)
theorem dX6_scan_33 : decode cX6_scan 33 = .ok (.putfield 98, 3) := dk_181 0 98 (dk_at dksX6_scan_1 10 rfl rfl)
theorem dX6_scan_36 : decode cX6_scan 36 = .ok (.goto (-36), 3) := dk_167 255 220 (dk_at dksX6_scan_1 13 rfl rfl)
theorem dX6_scan_39 : decode cX6_scan 39 = .ok (.aload_n 0, 1) := dk_42 (dk_at dksX6_scan_1 16 rfl rfl)
theorem dX6_scan_40 : decode cX6_scan 40 = .ok (.aload_n 0, 1) := dk_42 (dk_at dksX6_scan_1 17 rfl rfl)
theorem dX6_scan_41 : decode cX6_scan 41 = .ok (.getfield 98, 3) := dk_180 0 98 (dk_at dksX6_scan_1 18 rfl rfl)
theorem dX6_scan_44 : decode cX6_scan 44 = .ok (.putfield 92, 3) := dk_181 0 92 (dk_at dksX6_scan_1 21 rfl rfl)
theorem dX6_scan_47 : decode cX6_scan 47 = .ok (.aload_n 0, 1) := dk_42 (dk_at dksX6_scan_2 0 rfl rfl)
theorem dX6_scan_48 : decode cX6_scan 48 = .ok (.aload_n 0, 1) := dk_42 (dk_at dksX6_scan_2 1 rfl rfl)
theorem dX6_scan_49 : decode cX6_scan 49 = .ok (.getfield 98, 3) := dk_180 0 98 (dk_at dksX6_scan_2 2 rfl rfl)
theorem dX6_scan_52 : decode cX6_scan 52 = .ok (.invokevirtual 101, 3) := dk_182 0 101 (dk_at dksX6_scan_2 5 rfl rfl)
theorem dX6_scan_55 : decode cX6_scan 55 = .ok (.istore_n 1, 1) := dk_60 (dk_at dksX6_scan_2 8 rfl rfl)
theorem dX6_scan_56 : decode cX6_scan 56 = .ok (.iload_n 1, 1) := dk_27 (dk_at dksX6_scan_2 9 rfl rfl)
theorem dX6_scan_57 : decode cX6_scan 57 = .ok (.iconst (-1), 1) := dk_2 (dk_at dksX6_scan_2 10 rfl rfl)
theorem dX6_scan_58 : decode cX6_scan 58 = .ok (.if_icmp .ne 11, 3) := dk_160 0 11 (dk_at dksX6_scan_2 11 rfl rfl)
theorem dX6_scan_61 : decode cX6_scan 61 = .ok (.aload_n 0, 1) := dk_42 (dk_at dksX6_scan_2 14 rfl rfl)
theorem dX6_scan_62 : decode cX6_scan 62 = .ok (.iconst 0, 1) := dk_3 (dk_at dksX6_scan_2 15 rfl rfl)
theorem dX6_scan_63 : decode cX6_scan 63 = .ok (.putfield 105, 3) := dk_181 0 105 (dk_at dksX6_scan_2 16 rfl rfl)
theorem dX6_scan_66 : decode cX6_scan 66 = .ok (.goto 168, 3) := dk_167 0 168 (dk_at dksX6_scan_2 19 rfl rfl)
theorem dX6_scan_69 : decode cX6_scan 69 = .ok (.iload_n 1, 1) := dk_27 (dk_at dksX6_scan_2 22 rfl rfl)
theorem dX6_scan_70 : decode cX6_scan 70 = .ok (.i2l, 1) := dk_133 (dk_at dksX6_scan_2 23 rfl rfl)
theorem dX6_scan_71 : decode cX6_scan 71 = .ok (.ldc2_w 108, 3) := dk_20 0 108 (dk_at dksX6_scan_3 0 rfl rfl)
theorem dX6_scan_74 : decode cX6_scan 74 = .ok (.ldc2_w 110, 3) := dk_20 0 110 (dk_at dksX6_scan_3 3 rfl rfl)
theorem dX6_scan_77 : decode cX6_scan 77 = .ok (.invokestatic 66, 3) := dk_184 0 66 (dk_at dksX6_scan_3 6 rfl rfl)
theorem dX6_scan_80 : decode cX6_scan 80 = .ok (.ifCond .eq 45, 3) := dk_153 0 45 (dk_at dksX6_scan_3 9 rfl rfl)
theorem dX6_scan_83 : decode cX6_scan 83 = .ok (.aload_n 0, 1) := dk_42 (dk_at dksX6_scan_3 12 rfl rfl)
theorem dX6_scan_84 : decode cX6_scan 84 = .ok (.aload_n 0, 1) := dk_42 (dk_at dksX6_scan_3 13 rfl rfl)
theorem dX6_scan_85 : decode cX6_scan 85 = .ok (.getfield 98, 3) := dk_180 0 98 (dk_at dksX6_scan_3 14 rfl rfl)
theorem dX6_scan_88 : decode cX6_scan 88 = .ok (.invokevirtual 101, 3) := dk_182 0 101 (dk_at dksX6_scan_3 17 rfl rfl)
theorem dX6_scan_91 : decode cX6_scan 91 = .ok (.i2l, 1) := dk_133 (dk_at dksX6_scan_3 20 rfl rfl)
theorem dX6_scan_92 : decode cX6_scan 92 = .ok (.ldc2_w 108, 3) := dk_20 0 108 (dk_at dksX6_scan_3 21 rfl rfl)
theorem dX6_scan_95 : decode cX6_scan 95 = .ok (.ldc2_w 110, 3) := dk_20 0 110 (dk_at dksX6_scan_4 0 rfl rfl)
theorem dX6_scan_98 : decode cX6_scan 98 = .ok (.invokestatic 66, 3) := dk_184 0 66 (dk_at dksX6_scan_4 3 rfl rfl)
theorem dX6_scan_101 : decode cX6_scan 101 = .ok (.ifCond .eq 16, 3) := dk_153 0 16 (dk_at dksX6_scan_4 6 rfl rfl)
theorem dX6_scan_104 : decode cX6_scan 104 = .ok (.aload_n 0, 1) := dk_42 (dk_at dksX6_scan_4 9 rfl rfl)
theorem dX6_scan_105 : decode cX6_scan 105 = .ok (.dup, 1) := dk_89 (dk_at dksX6_scan_4 10 rfl rfl)
theorem dX6_scan_106 : decode cX6_scan 106 = .ok (.getfield 98, 3) := dk_180 0 98 (dk_at dksX6_scan_4 11 rfl rfl)
theorem dX6_scan_109 : decode cX6_scan 109 = .ok (.iconst 1, 1) := dk_4 (dk_at dksX6_scan_4 14 rfl rfl)
theorem dX6_scan_110 : decode cX6_scan 110 = .ok (.iadd, 1) := dk_96 (dk_at dksX6_scan_4 15 rfl rfl)
theorem dX6_scan_111 : decode cX6_scan 111 = .ok (.putfield 98, 3) := dk_181 0 98 (dk_at dksX6_scan_4 16 rfl rfl)
theorem dX6_scan_114 : decode cX6_scan 114 = .ok (.goto (-31), 3) := dk_167 255 225 (dk_at dksX6_scan_4 19 rfl rfl)
theorem dX6_scan_117 : decode cX6_scan 117 = .ok (.aload_n 0, 1) := dk_42 (dk_at dksX6_scan_4 22 rfl rfl)
theorem dX6_scan_118 : decode cX6_scan 118 = .ok (.iconst 1, 1) := dk_4 (dk_at dksX6_scan_4 23 rfl rfl)
theorem dX6_scan_119 : decode cX6_scan 119 = .ok (.putfield 105, 3) := dk_181 0 105 (dk_at dksX6_scan_5 0 rfl rfl)
theorem dX6_scan_122 : decode cX6_scan 122 = .ok (.goto 112, 3) := dk_167 0 112 (dk_at dksX6_scan_5 3 rfl rfl)
theorem dX6_scan_125 : decode cX6_scan 125 = .ok (.iload_n 1, 1) := dk_27 (dk_at dksX6_scan_5 6 rfl rfl)
theorem dX6_scan_126 : decode cX6_scan 126 = .ok (.i2l, 1) := dk_133 (dk_at dksX6_scan_5 7 rfl rfl)
theorem dX6_scan_127 : decode cX6_scan 127 = .ok (.ldc2_w 112, 3) := dk_20 0 112 (dk_at dksX6_scan_5 8 rfl rfl)
theorem dX6_scan_130 : decode cX6_scan 130 = .ok (.ldc2_w 114, 3) := dk_20 0 114 (dk_at dksX6_scan_5 11 rfl rfl)
theorem dX6_scan_133 : decode cX6_scan 133 = .ok (.invokestatic 66, 3) := dk_184 0 66 (dk_at dksX6_scan_5 14 rfl rfl)
theorem dX6_scan_136 : decode cX6_scan 136 = .ok (.ifCond .eq 78, 3) := dk_153 0 78 (dk_at dksX6_scan_5 17 rfl rfl)
theorem dX6_scan_139 : decode cX6_scan 139 = .ok (.aload_n 0, 1) := dk_42 (dk_at dksX6_scan_5 20 rfl rfl)
theorem dX6_scan_140 : decode cX6_scan 140 = .ok (.iconst 0, 1) := dk_3 (dk_at dksX6_scan_5 21 rfl rfl)
theorem dX6_scan_141 : decode cX6_scan 141 = .ok (.putfield 116, 3) := dk_181 0 116 (dk_at dksX6_scan_6 0 rfl rfl)
theorem dX6_scan_144 : decode cX6_scan 144 = .ok (.aload_n 0, 1) := dk_42 (dk_at dksX6_scan_6 3 rfl rfl)
theorem dX6_scan_145 : decode cX6_scan 145 = .ok (.aload_n 0, 1) := dk_42 (dk_at dksX6_scan_6 4 rfl rfl)
theorem dX6_scan_146 : decode cX6_scan 146 = .ok (.getfield 98, 3) := dk_180 0 98 (dk_at dksX6_scan_6 5 rfl rfl)
theorem dX6_scan_149 : decode cX6_scan 149 = .ok (.invokevirtual 101, 3) := dk_182 0 101 (dk_at dksX6_scan_6 8 rfl rfl)
theorem dX6_scan_152 : decode cX6_scan 152 = .ok (.i2l, 1) := dk_133 (dk_at dksX6_scan_6 11 rfl rfl)
theorem dX6_scan_153 : decode cX6_scan 153 = .ok (.ldc2_w 112, 3) := dk_20 0 112 (dk_at dksX6_scan_6 12 rfl rfl)
theorem dX6_scan_156 : decode cX6_scan 156 = .ok (.ldc2_w 114, 3) := dk_20 0 114 (dk_at dksX6_scan_6 15 rfl rfl)
theorem dX6_scan_159 : decode cX6_scan 159 = .ok (.invokestatic 66, 3) := dk_184 0 66 (dk_at dksX6_scan_6 18 rfl rfl)
theorem dX6_scan_162 : decode cX6_scan 162 = .ok (.ifCond .eq 44, 3) := dk_153 0 44 (dk_at dksX6_scan_6 21 rfl rfl)
theorem dX6_scan_165 : decode cX6_scan 165 = .ok (.aload_n 0, 1) := dk_42 (dk_at dksX6_scan_7 0 rfl rfl)
theorem dX6_scan_166 : decode cX6_scan 166 = .ok (.ldc 119, 2) := dk_18 119 (dk_at dksX6_scan_7 1 rfl rfl)
theorem dX6_scan_168 : decode cX6_scan 168 = .ok (.bipush 10, 2) := dk_16 10 (dk_at dksX6_scan_7 3 rfl rfl)
theorem dX6_scan_170 : decode cX6_scan 170 = .ok (.aload_n 0, 1) := dk_42 (dk_at dksX6_scan_7 5 rfl rfl)
theorem dX6_scan_171 : decode cX6_scan 171 = .ok (.getfield 116, 3) := dk_180 0 116 (dk_at dksX6_scan_7 6 rfl rfl)
theorem dX6_scan_174 : decode cX6_scan 174 = .ok (.imul, 1) := dk_104 (dk_at dksX6_scan_7 9 rfl rfl)
theorem dX6_scan_175 : decode cX6_scan 175 = .ok (.aload_n 0, 1) := dk_42 (dk_at dksX6_scan_7 10 rfl rfl)
theorem dX6_scan_176 : decode cX6_scan 176 = .ok (.aload_n 0, 1) := dk_42 (dk_at dksX6_scan_7 11 rfl rfl)
theorem dX6_scan_177 : decode cX6_scan 177 = .ok (.getfield 98, 3) := dk_180 0 98 (dk_at dksX6_scan_7 12 rfl rfl)
theorem dX6_scan_180 : decode cX6_scan 180 = .ok (.invokevirtual 101, 3) := dk_182 0 101 (dk_at dksX6_scan_7 15 rfl rfl)
theorem dX6_scan_183 : decode cX6_scan 183 = .ok (.iadd, 1) := dk_96 (dk_at dksX6_scan_7 18 rfl rfl)
theorem dX6_scan_184 : decode cX6_scan 184 = .ok (.bipush 48, 2) := dk_16 48 (dk_at dksX6_scan_7 19 rfl rfl)
theorem dX6_scan_186 : decode cX6_scan 186 = .ok (.isub, 1) := dk_100 (dk_at dksX6_scan_7 21 rfl rfl)
theorem dX6_scan_187 : decode cX6_scan 187 = .ok (.invokestatic 120, 3) := dk_184 0 120 (dk_at dksX6_scan_8 0 rfl rfl)
theorem dX6_scan_190 : decode cX6_scan 190 = .ok (.putfield 116, 3) := dk_181 0 116 (dk_at dksX6_scan_8 3 rfl rfl)
theorem dX6_scan_193 : decode cX6_scan 193 = .ok (.aload_n 0, 1) := dk_42 (dk_at dksX6_scan_8 6 rfl rfl)
theorem dX6_scan_194 : decode cX6_scan 194 = .ok (.dup, 1) := dk_89 (dk_at dksX6_scan_8 7 rfl rfl)
theorem dX6_scan_195 : decode cX6_scan 195 = .ok (.getfield 98, 3) := dk_180 0 98 (dk_at dksX6_scan_8 8 rfl rfl)
theorem dX6_scan_198 : decode cX6_scan 198 = .ok (.iconst 1, 1) := dk_4 (dk_at dksX6_scan_8 11 rfl rfl)
theorem dX6_scan_199 : decode cX6_scan 199 = .ok (.iadd, 1) := dk_96 (dk_at dksX6_scan_8 12 rfl rfl)
theorem dX6_scan_200 : decode cX6_scan 200 = .ok (.putfield 98, 3) := dk_181 0 98 (dk_at dksX6_scan_8 13 rfl rfl)
theorem dX6_scan_203 : decode cX6_scan 203 = .ok (.goto (-59), 3) := dk_167 255 197 (dk_at dksX6_scan_8 16 rfl rfl)
theorem dX6_scan_206 : decode cX6_scan 206 = .ok (.aload_n 0, 1) := dk_42 (dk_at dksX6_scan_8 19 rfl rfl)
theorem dX6_scan_207 : decode cX6_scan 207 = .ok (.iconst 2, 1) := dk_5 (dk_at dksX6_scan_8 20 rfl rfl)
theorem dX6_scan_208 : decode cX6_scan 208 = .ok (.putfield 105, 3) := dk_181 0 105 (dk_at dksX6_scan_8 21 rfl rfl)
theorem dX6_scan_211 : decode cX6_scan 211 = .ok (.goto 23, 3) := dk_167 0 23 (dk_at dksX6_scan_9 0 rfl rfl)
theorem dX6_scan_214 : decode cX6_scan 214 = .ok (.aload_n 0, 1) := dk_42 (dk_at dksX6_scan_9 3 rfl rfl)
theorem dX6_scan_215 : decode cX6_scan 215 = .ok (.iconst 3, 1) := dk_6 (dk_at dksX6_scan_9 4 rfl rfl)
theorem dX6_scan_216 : decode cX6_scan 216 = .ok (.putfield 105, 3) := dk_181 0 105 (dk_at dksX6_scan_9 5 rfl rfl)
theorem dX6_scan_219 : decode cX6_scan 219 = .ok (.aload_n 0, 1) := dk_42 (dk_at dksX6_scan_9 8 rfl rfl)
theorem dX6_scan_220 : decode cX6_scan 220 = .ok (.iload_n 1, 1) := dk_27 (dk_at dksX6_scan_9 9 rfl rfl)
theorem dX6_scan_221 : decode cX6_scan 221 = .ok (.putfield 116, 3) := dk_181 0 116 (dk_at dksX6_scan_9 10 rfl rfl)
theorem dX6_scan_224 : decode cX6_scan 224 = .ok (.aload_n 0, 1) := dk_42 (dk_at dksX6_scan_9 13 rfl rfl)
theorem dX6_scan_225 : decode cX6_scan 225 = .ok (.dup, 1) := dk_89 (dk_at dksX6_scan_9 14 rfl rfl)
theorem dX6_scan_226 : decode cX6_scan 226 = .ok (.getfield 98, 3) := dk_180 0 98 (dk_at dksX6_scan_9 15 rfl rfl)
theorem dX6_scan_229 : decode cX6_scan 229 = .ok (.iconst 1, 1) := dk_4 (dk_at dksX6_scan_9 18 rfl rfl)
theorem dX6_scan_230 : decode cX6_scan 230 = .ok (.iadd, 1) := dk_96 (dk_at dksX6_scan_9 19 rfl rfl)
theorem dX6_scan_231 : decode cX6_scan 231 = .ok (.putfield 98, 3) := dk_181 0 98 (dk_at dksX6_scan_9 20 rfl rfl)
theorem dX6_scan_234 : decode cX6_scan 234 = .ok (.return_, 1) := dk_177 (dk_at dksX6_scan_9 23 rfl rfl)
def dkwX6_byteAt_0 : List UInt8 := [27, 42, 180, 0, 95, 162, 0, 16, 42, 180, 0, 31, 27, 51, 17, 0, 255, 126, 167, 0, 4, 2, 172]
abbrev dktX6_byteAt_0 : List UInt8 := dkwX6_byteAt_0 ++ []
theorem dksX6_byteAt_0 : cX6_byteAt.data.toList.drop 0 = dktX6_byteAt_0 := by decide +kernel
theorem dX6_byteAt_0 : decode cX6_byteAt 0 = .ok (.iload_n 1, 1) := dk_27 (dk_at dksX6_byteAt_0 0 rfl rfl)
theorem dX6_byteAt_1 : decode cX6_byteAt 1 = .ok (.aload_n 0, 1) := dk_42 (dk_at dksX6_byteAt_0 1 rfl rfl)
theorem dX6_byteAt_2 : decode cX6_byteAt 2 = .ok (.getfield 95, 3) := dk_180 0 95 (dk_at dksX6_byteAt_0 2 rfl rfl)
theorem dX6_byteAt_5 : decode cX6_byteAt 5 = .ok (.if_icmp .ge 16, 3) := dk_162 0 16 (dk_at dksX6_byteAt_0 5 rfl rfl)
theorem dX6_byteAt_8 : decode cX6_byteAt 8 = .ok (.aload_n 0, 1) := dk_42 (dk_at dksX6_byteAt_0 8 rfl rfl)
theorem dX6_byteAt_9 : decode cX6_byteAt 9 = .ok (.getfield 31, 3) := dk_180 0 31 (dk_at dksX6_byteAt_0 9 rfl rfl)
theorem dX6_byteAt_12 : decode cX6_byteAt 12 = .ok (.iload_n 1, 1) := dk_27 (dk_at dksX6_byteAt_0 12 rfl rfl)
theorem dX6_byteAt_13 : decode cX6_byteAt 13 = .ok (.baload, 1) := dk_51 (dk_at dksX6_byteAt_0 13 rfl rfl)
theorem dX6_byteAt_14 : decode cX6_byteAt 14 = .ok (.sipush 255, 3) := dk_17 0 255 (dk_at dksX6_byteAt_0 14 rfl rfl)
theorem dX6_byteAt_17 : decode cX6_byteAt 17 = .ok (.iand, 1) := dk_126 (dk_at dksX6_byteAt_0 17 rfl rfl)
theorem dX6_byteAt_18 : decode cX6_byteAt 18 = .ok (.goto 4, 3) := dk_167 0 4 (dk_at dksX6_byteAt_0 18 rfl rfl)
theorem dX6_byteAt_21 : decode cX6_byteAt 21 = .ok (.iconst (-1), 1) := dk_2 (dk_at dksX6_byteAt_0 21 rfl rfl)
theorem dX6_byteAt_22 : decode cX6_byteAt 22 = .ok (.ireturn, 1) := dk_172 (dk_at dksX6_byteAt_0 22 rfl rfl)
def dkwX6_parseRecorder_4 : List UInt8 := [42, 18, 168, 4, 42, 180, 0, 24, 4, 46, 182, 1, 3, 79, 42, 182, 1, 7, 177]
abbrev dktX6_parseRecorder_4 : List UInt8 := dkwX6_parseRecorder_4 ++ []
def dkwX6_parseRecorder_3 : List UInt8 := [182, 0, 221, 79, 42, 180, 0, 24, 4, 42, 18, 166, 4, 16, 64, 182, 1, 3, 79, 42, 180, 0, 24, 5]
abbrev dktX6_parseRecorder_3 : List UInt8 := dkwX6_parseRecorder_3 ++ dktX6_parseRecorder_4
def dkwX6_parseRecorder_2 : List UInt8 := [180, 0, 116, 16, 32, 159, 0, 8, 42, 5, 182, 0, 211, 42, 180, 0, 24, 3, 42, 16, 8, 16, 32]
abbrev dktX6_parseRecorder_2 : List UInt8 := dkwX6_parseRecorder_2 ++ dktX6_parseRecorder_3
def dkwX6_parseRecorder_1 : List UInt8 := [160, 0, 35, 42, 180, 0, 116, 16, 8, 159, 0, 26, 42, 180, 0, 116, 16, 16, 159, 0, 17, 42]
abbrev dktX6_parseRecorder_1 : List UInt8 := dkwX6_parseRecorder_1 ++ dktX6_parseRecorder_2
def dkwX6_parseRecorder_0 : List UInt8 := [42, 18, 162, 182, 0, 217, 42, 18, 164, 182, 0, 217, 42, 182, 0, 88, 153, 0, 43, 42, 180, 0, 105, 5]
abbrev dktX6_parseRecorder_0 : List UInt8 := dkwX6_parseRecorder_0 ++ dktX6_parseRecorder_1
theorem dksX6_parseRecorder_0 : cX6_parseRecorder.data.toList.drop 0 = dktX6_parseRecorder_0 := by decide +kernel
theorem dksX6_parseRecorder_1 : cX6_parseRecorder.data.toList.drop 24 = dktX6_parseRecorder_1 := dk_seg dksX6_parseRecorder_0 24 rfl rfl
theorem dksX6_parseRecorder_2 : cX6_parseRecorder.data.toList.drop 46 = dktX6_parseRecorder_2 := dk_seg dksX6_parseRecorder_1 22 rfl rfl
theorem dksX6_parseRecorder_3 : cX6_parseRecorder.data.toList.drop 69 = dktX6_parseRecorder_3 := dk_seg dksX6_parseRecorder_2 23 rfl rfl
theorem dksX6_parseRecorder_4 : cX6_parseRecorder.data.toList.drop 93 = dktX6_parseRecorder_4 := dk_seg dksX6_parseRecorder_3 24 rfl rfl
theorem dX6_parseRecorder_0 : decode cX6_parseRecorder 0 = .ok (.aload_n 0, 1) := dk_42 (dk_at dksX6_parseRecorder_0 0 rfl rfl)
theorem dX6_parseRecorder_1 : decode cX6_parseRecorder 1 = .ok (.ldc 162, 2) := dk_18 162 (dk_at dksX6_parseRecorder_0 1 rfl rfl)
theorem dX6_parseRecorder_3 : decode cX6_parseRecorder 3 = .ok (.invokevirtual 217, 3) := dk_182 0 217 (dk_at dksX6_parseRecorder_0 3 rfl rfl)
theorem dX6_parseRecorder_6 : decode cX6_parseRecorder 6 = .ok (.aload_n 0, 1) := dk_42 (dk_at dksX6_parseRecorder_0 6 rfl rfl)
theorem dX6_parseRecorder_7 : decode cX6_parseRecorder 7 = .ok (.ldc 164, 2) := dk_18 164 (dk_at dksX6_parseRecorder_0 7 rfl rfl)
theorem dX6_parseRecorder_9 : decode cX6_parseRecorder 9 = .ok (.invokevirtual 217, 3) := dk_182 0 217 (dk_at dksX6_parseRecorder_0 9 rfl rfl)
theorem dX6_parseRecorder_12 : decode cX6_parseRecorder 12 = .ok (.aload_n 0, 1) := dk_42 (dk_at dksX6_parseRecorder_0 12 rfl rfl)
theorem dX6_parseRecorder_13 : decode cX6_parseRecorder 13 = .ok (.invokevirtual 88, 3) := dk_182 0 88 (dk_at dksX6_parseRecorder_0 13 rfl rfl)
theorem dX6_parseRecorder_16 : decode cX6_parseRecorder 16 = .ok (.ifCond .eq 43, 3) := dk_153 0 43 (dk_at dksX6_parseRecorder_0 16 rfl rfl)
theorem dX6_parseRecorder_19 : decode cX6_parseRecorder 19 = .ok (.aload_n 0, 1) := dk_42 (dk_at dksX6_parseRecorder_0 19 rfl rfl)
theorem dX6_parseRecorder_20 : decode cX6_parseRecorder 20 = .ok (.getfield 105, 3) := dk_180 0 105 (dk_at dksX6_parseRecorder_0 20 rfl rfl)
theorem dX6_parseRecorder_23 : decode cX6_parseRecorder 23 = .ok (.iconst 2, 1) := dk_5 (dk_at dksX6_parseRecorder_0 23 rfl rfl)
theorem dX6_parseRecorder_24 : decode cX6_parseRecorder 24 = .ok (.if_icmp .ne 35, 3) := dk_160 0 35 (dk_at dksX6_parseRecorder_1 0 rfl rfl)
theorem dX6_parseRecorder_27 : decode cX6_parseRecorder 27 = .ok (.aload_n 0, 1) := dk_42 (dk_at dksX6_parseRecorder_1 3 rfl rfl)
theorem dX6_parseRecorder_28 : decode cX6_parseRecorder 28 = .ok (.getfield 116, 3) := dk_180 0 116 (dk_at dksX6_parseRecorder_1 4 rfl rfl)
theorem dX6_parseRecorder_31 : decode cX6_parseRecorder 31 = .ok (.bipush 8, 2) := dk_16 8 (dk_at dksX6_parseRecorder_1 7 rfl rfl)
theorem dX6_parseRecorder_33 : decode cX6_parseRecorder 33 = .ok (.if_icmp .eq 26, 3) := dk_159 0 26 (dk_at dksX6_parseRecorder_1 9 rfl rfl)
theorem dX6_parseRecorder_36 : decode cX6_parseRecorder 36 = .ok (.aload_n 0, 1) := dk_42 (dk_at dksX6_parseRecorder_1 12 rfl rfl)
theorem dX6_parseRecorder_37 : decode cX6_parseRecorder 37 = .ok (.getfield 116, 3) := dk_180 0 116 (dk_at dksX6_parseRecorder_1 13 rfl rfl)
theorem dX6_parseRecorder_40 : decode cX6_parseRecorder 40 = .ok (.bipush 16, 2) := dk_16 16 (dk_at dksX6_parseRecorder_1 16 rfl rfl)
theorem dX6_parseRecorder_42 : decode cX6_parseRecorder 42 = .ok (.if_icmp .eq 17, 3) := dk_159 0 17 (dk_at dksX6_parseRecorder_1 18 rfl rfl)
theorem dX6_parseRecorder_45 : decode cX6_parseRecorder 45 = .ok (.aload_n 0, 1) := dk_42 (dk_at dksX6_parseRecorder_1 21 rfl rfl)
theorem dX6_parseRecorder_46 : decode cX6_parseRecorder 46 = .ok (.getfield 116, 3) := dk_180 0 116 (dk_at dksX6_parseRecorder_2 0 rfl rfl)
theorem dX6_parseRecorder_49 : decode cX6_parseRecorder 49 = .ok (.bipush 32, 2) := dk_16 32 (dk_at dksX6_parseRecorder_2 3 rfl rfl)
theorem dX6_parseRecorder_51 : decode cX6_parseRecorder 51 = .ok (.if_icmp .eq 8, 3) := dk_159 0 8 (dk_at dksX6_parseRecorder_2 5 rfl rfl)
theorem dX6_parseRecorder_54 : decode cX6_parseRecorder 54 = .ok (.aload_n 0, 1) := dk_42 (dk_at dksX6_parseRecorder_2 8 rfl rfl)
theorem dX6_parseRecorder_55 : decode cX6_parseRecorder 55 = .ok (.iconst 2, 1) := dk_5 (dk_at dksX6_parseRecorder_2 9 rfl rfl)
theorem dX6_parseRecorder_56 : decode cX6_parseRecorder 56 = .ok (.invokevirtual 211, 3) := dk_182 0 211 (dk_at dksX6_parseRecorder_2 10 rfl rfl)
theorem dX6_parseRecorder_59 : decode cX6_parseRecorder 59 = .ok (.aload_n 0, 1) := dk_42 (dk_at dksX6_parseRecorder_2 13 rfl rfl)
theorem dX6_parseRecorder_60 : decode cX6_parseRecorder 60 = .ok (.getfield 24, 3) := dk_180 0 24 (dk_at dksX6_parseRecorder_2 14 rfl rfl)
theorem dX6_parseRecorder_63 : decode cX6_parseRecorder 63 = .ok (.iconst 0, 1) := dk_3 (dk_at dksX6_parseRecorder_2 17 rfl rfl)
theorem dX6_parseRecorder_64 : decode cX6_parseRecorder 64 = .ok (.aload_n 0, 1) := dk_42 (dk_at dksX6_parseRecorder_2 18 rfl rfl)
theorem dX6_parseRecorder_65 : decode cX6_parseRecorder 65 = .ok (.bipush 8, 2) := dk_16 8 (dk_at dksX6_parseRecorder_2 19 rfl rfl)
theorem dX6_parseRecorder_67 : decode cX6_parseRecorder 67 = .ok (.bipush 32, 2) := dk_16 32 (dk_at dksX6_parseRecorder_2 21 rfl rfl)
theorem dX6_parseRecorder_69 : decode cX6_parseRecorder 69 = .ok (.invokevirtual 221, 3) := dk_182 0 221 (dk_at dksX6_parseRecorder_3 0 rfl rfl)
theorem dX6_parseRecorder_72 : decode cX6_parseRecorder 72 = .ok (.iastore, 1) := dk_79 (dk_at dksX6_parseRecorder_3 3 rfl rfl)
theorem dX6_parseRecorder_73 : decode cX6_parseRecorder 73 = .ok (.aload_n 0, 1) := dk_42 (dk_at dksX6_parseRecorder_3 4 rfl rfl)
theorem dX6_parseRecorder_74 : decode cX6_parseRecorder 74 = .ok (.getfield 24, 3) := dk_180 0 24 (dk_at dksX6_parseRecorder_3 5 rfl rfl)
theorem dX6_parseRecorder_77 : decode cX6_parseRecorder 77 = .ok (.iconst 1, 1) := dk_4 (dk_at dksX6_parseRecorder_3 8 rfl rfl)
theorem dX6_parseRecorder_78 : decode cX6_parseRecorder 78 = .ok (.aload_n 0, 1) := dk_42 (dk_at dksX6_parseRecorder_3 9 rfl rfl)
theorem dX6_parseRecorder_79 : decode cX6_parseRecorder 79 = .ok (.ldc 166, 2) := dk_18 166 (dk_at dksX6_parseRecorder_3 10 rfl rfl)
theorem dX6_parseRecorder_81 : decode cX6_parseRecorder 81 = .ok (.iconst 1, 1) := dk_4 (dk_at dksX6_parseRecorder_3 12 rfl rfl)
theorem dX6_parseRecorder_82 : decode cX6_parseRecorder 82 = .ok (.bipush 64, 2) := dk_16 64 (dk_at dksX6_parseRecorder_3 13 rfl rfl)
theorem dX6_parseRecorder_84 : decode cX6_parseRecorder 84 = .ok (.invokevirtual 259, 3) := dk_182 1 3 (dk_at dksX6_parseRecorder_3 15 rfl rfl)
theorem dX6_parseRecorder_87 : decode cX6_parseRecorder 87 = .ok (.iastore, 1) := dk_79 (dk_at dksX6_parseRecorder_3 18 rfl rfl)
theorem dX6_parseRecorder_88 : decode cX6_parseRecorder 88 = .ok (.aload_n 0, 1) := dk_42 (dk_at dksX6_parseRecorder_3 19 rfl rfl)
theorem dX6_parseRecorder_89 : decode cX6_parseRecorder 89 = .ok (.getfield 24, 3) := dk_180 0 24 (dk_at dksX6_parseRecorder_3 20 rfl rfl)
theorem dX6_parseRecorder_92 : decode cX6_parseRecorder 92 = .ok (.iconst 2, 1) := dk_5 (dk_at dksX6_parseRecorder_3 23 rfl rfl)
theorem dX6_parseRecorder_93 : decode cX6_parseRecorder 93 = .ok (.aload_n 0, 1) := dk_42 (dk_at dksX6_parseRecorder_4 0 rfl rfl)
theorem dX6_parseRecorder_94 : decode cX6_parseRecorder 94 = .ok (.ldc 168, 2) := dk_18 168 (dk_at dksX6_parseRecorder_4 1 rfl rfl)
theorem dX6_parseRecorder_96 : decode cX6_parseRecorder 96 = .ok (.iconst 1, 1) := dk_4 (dk_at dksX6_parseRecorder_4 3 rfl rfl)
theorem dX6_parseRecorder_97 : decode cX6_parseRecorder 97 = .ok (.aload_n 0, 1) := dk_42 (dk_at dksX6_parseRecorder_4 4 rfl rfl)
theorem dX6_parseRecorder_98 : decode cX6_parseRecorder 98 = .ok (.getfield 24, 3) := dk_180 0 24 (dk_at dksX6_parseRecorder_4 5 rfl rfl)
theorem dX6_parseRecorder_101 : decode cX6_parseRecorder 101 = .ok (.iconst 1, 1) := dk_4 (dk_at dksX6_parseRecorder_4 8 rfl rfl)
theorem dX6_parseRecorder_102 : decode cX6_parseRecorder 102 = .ok (.iaload, 1) := dk_46 (dk_at dksX6_parseRecorder_4 9 rfl rfl)
theorem dX6_parseRecorder_103 : decode cX6_parseRecorder 103 = .ok (.invokevirtual 259, 3) := dk_182 1 3 (dk_at dksX6_parseRecorder_4 10 rfl rfl)
theorem dX6_parseRecorder_106 : decode cX6_parseRecorder 106 = .ok (.iastore, 1) := dk_79 (dk_at dksX6_parseRecorder_4 13 rfl rfl)
theorem dX6_parseRecorder_107 : decode cX6_parseRecorder 107 = .ok (.aload_n 0, 1) := dk_42 (dk_at dksX6_parseRecorder_4 14 rfl rfl)
theorem dX6_parseRecorder_108 : decode cX6_parseRecorder 108 = .ok (.invokevirtual 263, 3) := dk_182 1 7 (dk_at dksX6_parseRecorder_4 15 rfl rfl)
theorem dX6_parseRecorder_111 : decode cX6_parseRecorder 111 = .ok (.return_, 1) := dk_177 (dk_at dksX6_parseRecorder_4 18 rfl rfl)
def dkwX6_word_0 : List UInt8 := [42, 43, 182, 0, 208, 154, 0, 8, 42, 4, 182, 0, 211, 42, 182, 0, 214, 177]
abbrev dktX6_word_0 : List UInt8 := dkwX6_word_0 ++ []
theorem dksX6_word_0 : cX6_word.data.toList.drop 0 = dktX6_word_0 := by decide +kernel
theorem dX6_word_0 : decode cX6_word 0 = .ok (.aload_n 0, 1) := dk_42 (dk_at dksX6_word_0 0 rfl rfl)
theorem dX6_word_1 : decode cX6_word 1 = .ok (.aload_n 1, 1) := dk_43 (dk_at dksX6_word_0 1 rfl rfl)
theorem dX6_word_2 : decode cX6_word 2 = .ok (.invokevirtual 208, 3) := dk_182 0 208 (dk_at dksX6_word_0 2 rfl rfl)
theorem dX6_word_5 : decode cX6_word 5 = .ok (.ifCond .ne 8, 3) := dk_154 0 8 (dk_at dksX6_word_0 5 rfl rfl)
theorem dX6_word_8 : decode cX6_word 8 = .ok (.aload_n 0, 1) := dk_42 (dk_at dksX6_word_0 8 rfl rfl)
theorem dX6_word_9 : decode cX6_word 9 = .ok (.iconst 1, 1) := dk_4 (dk_at dksX6_word_0 9 rfl rfl)
theorem dX6_word_10 : decode cX6_word 10 = .ok (.invokevirtual 211, 3) := dk_182 0 211 (dk_at dksX6_word_0 10 rfl rfl)
theorem dX6_word_13 : decode cX6_word 13 = .ok (.aload_n 0, 1) := dk_42 (dk_at dksX6_word_0 13 rfl rfl)
theorem dX6_word_14 : decode cX6_word 14 = .ok (.invokevirtual 214, 3) := dk_182 0 214 (dk_at dksX6_word_0 14 rfl rfl)
theorem dX6_word_17 : decode cX6_word 17 = .ok (.return_, 1) := dk_177 (dk_at dksX6_word_0 17 rfl rfl)
def dkwX6_isText_1 : List UInt8 := [167, 0, 4, 3, 172]
abbrev dktX6_isText_1 : List UInt8 := dkwX6_isText_1 ++ []
def dkwX6_isText_0 : List UInt8 := [42, 182, 0, 88, 153, 0, 23, 42, 180, 0, 105, 4, 160, 0, 15, 42, 43, 182, 0, 138, 153, 0, 7, 4]
abbrev dktX6_isText_0 : List UInt8 := dkwX6_isText_0 ++ dktX6_isText_1
theorem dksX6_isText_0 : cX6_isText.data.toList.drop 0 = dktX6_isText_0 := by decide +kernel
theorem dksX6_isText_1 : cX6_isText.data.toList.drop 24 = dktX6_isText_1 := dk_seg dksX6_isText_0 24 rfl rfl
theorem dX6_isText_0 : decode cX6_isText 0 = .ok (.aload_n 0, 1) := dk_42 (dk_at dksX6_isText_0 0 rfl rfl)
theorem dX6_isText_1 : decode cX6_isText 1 = .ok (.invokevirtual 88, 3) := dk_182 0 88 (dk_at dksX6_isText_0 1 rfl rfl)
theorem dX6_isText_4 : decode cX6_isText 4 = .ok (.ifCond .eq 23, 3) := dk_153 0 23 (dk_at dksX6_isText_0 4 rfl rfl)
theorem dX6_isText_7 : decode cX6_isText 7 = .ok (.aload_n 0, 1) := dk_42 (dk_at dksX6_isText_0 7 rfl rfl)
theorem dX6_isText_8 : decode cX6_isText 8 = .ok (.getfield 105, 3) := dk_180 0 105 (dk_at dksX6_isText_0 8 rfl rfl)
theorem dX6_isText_11 : decode cX6_isText 11 = .ok (.iconst 1, 1) := dk_4 (dk_at dksX6_isText_0 11 rfl rfl)
theorem dX6_isText_12 : decode cX6_isText 12 = .ok (.if_icmp .ne 15, 3) := dk_160 0 15 (dk_at dksX6_isText_0 12 rfl rfl)
theorem dX6_isText_15 : decode cX6_isText 15 = .ok (.aload_n 0, 1) := dk_42 (dk_at dksX6_isText_0 15 rfl rfl)
theorem dX6_isText_16 : decode cX6_isText 16 = .ok (.aload_n 1, 1) := dk_43 (dk_at dksX6_isText_0 16 rfl rfl)
theorem dX6_isText_17 : decode cX6_isText 17 = .ok (.invokevirtual 138, 3) := dk_182 0 138 (dk_at dksX6_isText_0 17 rfl rfl)
theorem dX6_isText_20 : decode cX6_isText 20 = .ok (.ifCond .eq 7, 3) := dk_153 0 7 (dk_at dksX6_isText_0 20 rfl rfl)
theorem dX6_isText_23 : decode cX6_isText 23 = .ok (.iconst 1, 1) := dk_4 (dk_at dksX6_isText_0 23 rfl rfl)
theorem dX6_isText_24 : decode cX6_isText 24 = .ok (.goto 4, 3) := dk_167 0 4 (dk_at dksX6_isText_1 0 rfl rfl)
theorem dX6_isText_27 : decode cX6_isText 27 = .ok (.iconst 0, 1) := dk_3 (dk_at dksX6_isText_1 3 rfl rfl)
theorem dX6_isText_28 : decode cX6_isText 28 = .ok (.ireturn, 1) := dk_172 (dk_at dksX6_isText_1 4 rfl rfl)
def dkwX6_good_0 : List UInt8 := [42, 180, 0, 85, 154, 0, 7, 4, 167, 0, 4, 3, 172]
abbrev dktX6_good_0 : List UInt8 := dkwX6_good_0 ++ []
theorem dksX6_good_0 : cX6_good.data.toList.drop 0 = dktX6_good_0 := by decide +kernel
theorem dX6_good_0 : decode cX6_good 0 = .ok (.aload_n 0, 1) := dk_42 (dk_at dksX6_good_0 0 rfl rfl)
theorem dX6_good_1 : decode cX6_good 1 = .ok (.getfield 85, 3) := dk_180 0 85 (dk_at dksX6_good_0 1 rfl rfl)
theorem dX6_good_4 : decode cX6_good 4 = .ok (.ifCond .ne 7, 3) := dk_154 0 7 (dk_at dksX6_good_0 4 rfl rfl)
theorem dX6_good_7 : decode cX6_good 7 = .ok (.iconst 1, 1) := dk_4 (dk_at dksX6_good_0 7 rfl rfl)
theorem dX6_good_8 : decode cX6_good 8 = .ok (.goto 4, 3) := dk_167 0 4 (dk_at dksX6_good_0 8 rfl rfl)
theorem dX6_good_11 : decode cX6_good 11 = .ok (.iconst 0, 1) := dk_3 (dk_at dksX6_good_0 11 rfl rfl)
theorem dX6_good_12 : decode cX6_good 12 = .ok (.ireturn, 1) := dk_172 (dk_at dksX6_good_0 12 rfl rfl)
def dkwX6_isWord_2 : List UInt8 := [29, 182, 0, 134, 160, 0, 7, 4, 167, 0, 4, 3, 61, 132, 3, 1, 167, 255, 216, 28, 172]
abbrev dktX6_isWord_2 : List UInt8 := dkwX6_isWord_2 ++ []
def dkwX6_isWord_1 : List UInt8 := [29, 43, 182, 0, 128, 162, 0, 38, 28, 153, 0, 34, 42, 180, 0, 31, 42, 180, 0, 92, 29, 96, 51, 43]
abbrev dktX6_isWord_1 : List UInt8 := dkwX6_isWord_1 ++ dktX6_isWord_2
def dkwX6_isWord_0 : List UInt8 := [42, 180, 0, 98, 42, 180, 0, 92, 100, 43, 182, 0, 128, 160, 0, 7, 4, 167, 0, 4, 3, 61, 3, 62]
abbrev dktX6_isWord_0 : List UInt8 := dkwX6_isWord_0 ++ dktX6_isWord_1
theorem dksX6_isWord_0 : cX6_isWord.data.toList.drop 0 = dktX6_isWord_0 := by decide +kernel
theorem dksX6_isWord_1 : cX6_isWord.data.toList.drop 24 = dktX6_isWord_1 := dk_seg dksX6_isWord_0 24 rfl rfl
theorem dksX6_isWord_2 : cX6_isWord.data.toList.drop 48 = dktX6_isWord_2 := dk_seg dksX6_isWord_1 24 rfl rfl
theorem dX6_isWord_0 : decode cX6_isWord 0 = .ok (.aload_n 0, 1) := dk_42 (dk_at dksX6_isWord_0 0 rfl rfl)
theorem dX6_isWord_1 : decode cX6_isWord 1 = .ok (.getfield 98, 3) := dk_180 0 98 (dk_at dksX6_isWord_0 1 rfl rfl)
theorem dX6_isWord_4 : decode cX6_isWord 4 = .ok (.aload_n 0, 1) := dk_42 (dk_at dksX6_isWord_0 4 rfl rfl)
theorem dX6_isWord_5 : decode cX6_isWord 5 = .ok (.getfield 92, 3) := dk_180 0 92 (dk_at dksX6_isWord_0 5 rfl rfl)
theorem dX6_isWord_8 : decode cX6_isWord 8 = .ok (.isub, 1) := dk_100 (dk_at dksX6_isWord_0 8 rfl rfl)
theorem dX6_isWord_9 : decode cX6_isWord 9 = .ok (.aload_n 1, 1) := dk_43 (dk_at dksX6_isWord_0 9 rfl rfl)
theorem dX6_isWord_10 : decode cX6_isWord 10 = .ok (.invokevirtual 128, 3) := dk_182 0 128 (dk_at dksX6_isWord_0 10 rfl rfl)
theorem dX6_isWord_13 : decode cX6_isWord 13 = .ok (.if_icmp .ne 7, 3) := dk_160 0 7 (dk_at dksX6_isWord_0 13 rfl rfl)
theorem dX6_isWord_16 : decode cX6_isWord 16 = .ok (.iconst 1, 1) := dk_4 (dk_at dksX6_isWord_0 16 rfl rfl)
theorem dX6_isWord_17 : decode cX6_isWord 17 = .ok (.goto 4, 3) := dk_167 0 4 (dk_at dksX6_isWord_0 17 rfl rfl)
theorem dX6_isWord_20 : decode cX6_isWord 20 = .ok (.iconst 0, 1) := dk_3 (dk_at dksX6_isWord_0 20 rfl rfl)
theorem dX6_isWord_21 : decode cX6_isWord 21 = .ok (.istore_n 2, 1) := dk_61 (dk_at dksX6_isWord_0 21 rfl rfl)
theorem dX6_isWord_22 : decode cX6_isWord 22 = .ok (.iconst 0, 1) := dk_3 (dk_at dksX6_isWord_0 22 rfl rfl)
theorem dX6_isWord_23 : decode cX6_isWord 23 = .ok (.istore_n 3, 1) := dk_62 (dk_at dksX6_isWord_0 23 rfl rfl)
theorem dX6_isWord_24 : decode cX6_isWord 24 = .ok (.iload_n 3, 1) := dk_29 (dk_at dksX6_isWord_1 0 rfl rfl)
theorem dX6_isWord_25 : decode cX6_isWord 25 = .ok (.aload_n 1, 1) := dk_43 (dk_at dksX6_isWord_1 1 rfl rfl)
theorem dX6_isWord_26 : decode cX6_isWord 26 = .ok (.invokevirtual 128, 3) := dk_182 0 128 (dk_at dksX6_isWord_1 2 rfl rfl)
theorem dX6_isWord_29 : decode cX6_isWord 29 = .ok (.if_icmp .ge 38, 3) := dk_162 0 38 (dk_at dksX6_isWord_1 5 rfl rfl)
theorem dX6_isWord_32 : decode cX6_isWord 32 = .ok (.iload_n 2, 1) := dk_28 (dk_at dksX6_isWord_1 8 rfl rfl)
theorem dX6_isWord_33 : decode cX6_isWord 33 = .ok (.ifCond .eq 34, 3) := dk_153 0 34 (dk_at dksX6_isWord_1 9 rfl rfl)
theorem dX6_isWord_36 : decode cX6_isWord 36 = .ok (.aload_n 0, 1) := dk_42 (dk_at dksX6_isWord_1 12 rfl rfl)
theorem dX6_isWord_37 : decode cX6_isWord 37 = .ok (.getfield 31, 3) := dk_180 0 31 (dk_at dksX6_isWord_1 13 rfl rfl)
theorem dX6_isWord_40 : decode cX6_isWord 40 = .ok (.aload_n 0, 1) := dk_42 (dk_at dksX6_isWord_1 16 rfl rfl)
theorem dX6_isWord_41 : decode cX6_isWord 41 = .ok (.getfield 92, 3) := dk_180 0 92 (dk_at dksX6_isWord_1 17 rfl rfl)
theorem dX6_isWord_44 : decode cX6_isWord 44 = .ok (.iload_n 3, 1) := dk_29 (dk_at dksX6_isWord_1 20 rfl rfl)
theorem dX6_isWord_45 : decode cX6_isWord 45 = .ok (.iadd, 1) := dk_96 (dk_at dksX6_isWord_1 21 rfl rfl)
theorem dX6_isWord_46 : decode cX6_isWord 46 = .ok (.baload, 1) := dk_51 (dk_at dksX6_isWord_1 22 rfl rfl)
theorem dX6_isWord_47 : decode cX6_isWord 47 = .ok (.aload_n 1, 1) := dk_43 (dk_at dksX6_isWord_1 23 rfl rfl)
theorem dX6_isWord_48 : decode cX6_isWord 48 = .ok (.iload_n 3, 1) := dk_29 (dk_at dksX6_isWord_2 0 rfl rfl)
theorem dX6_isWord_49 : decode cX6_isWord 49 = .ok (.invokevirtual 134, 3) := dk_182 0 134 (dk_at dksX6_isWord_2 1 rfl rfl)
theorem dX6_isWord_52 : decode cX6_isWord 52 = .ok (.if_icmp .ne 7, 3) := dk_160 0 7 (dk_at dksX6_isWord_2 4 rfl rfl)
theorem dX6_isWord_55 : decode cX6_isWord 55 = .ok (.iconst 1, 1) := dk_4 (dk_at dksX6_isWord_2 7 rfl rfl)
theorem dX6_isWord_56 : decode cX6_isWord 56 = .ok (.goto 4, 3) := dk_167 0 4 (dk_at dksX6_isWord_2 8 rfl rfl)
theorem dX6_isWord_59 : decode cX6_isWord 59 = .ok (.iconst 0, 1) := dk_3 (dk_at dksX6_isWord_2 11 rfl rfl)
theorem dX6_isWord_60 : decode cX6_isWord 60 = .ok (.istore_n 2, 1) := dk_61 (dk_at dksX6_isWord_2 12 rfl rfl)
theorem dX6_isWord_61 : decode cX6_isWord 61 = .ok (.iinc 3 1, 3) := dk_132 3 1 (dk_at dksX6_isWord_2 13 rfl rfl)
theorem dX6_isWord_64 : decode cX6_isWord 64 = .ok (.goto (-40), 3) := dk_167 255 216 (dk_at dksX6_isWord_2 16 rfl rfl)
theorem dX6_isWord_67 : decode cX6_isWord 67 = .ok (.iload_n 2, 1) := dk_28 (dk_at dksX6_isWord_2 19 rfl rfl)
theorem dX6_isWord_68 : decode cX6_isWord 68 = .ok (.ireturn, 1) := dk_172 (dk_at dksX6_isWord_2 20 rfl rfl)
def dkwX6_errs_0 : List UInt8 := [42, 182, 0, 88, 154, 0, 4, 177, 42, 27, 181, 0, 85, 42, 42, 180, 0, 92, 181, 0, 35, 177]
abbrev dktX6_errs_0 : List UInt8 := dkwX6_errs_0 ++ []
theorem dksX6_errs_0 : cX6_errs.data.toList.drop 0 = dktX6_errs_0 := by decide +kernel
theorem dX6_errs_0 : decode cX6_errs 0 = .ok (.aload_n 0, 1) := dk_42 (dk_at dksX6_errs_0 0 rfl rfl)
theorem dX6_errs_1 : decode cX6_errs 1 = .ok (.invokevirtual 88, 3) := dk_182 0 88 (dk_at dksX6_errs_0 1 rfl rfl)
theorem dX6_errs_4 : decode cX6_errs 4 = .ok (.ifCond .ne 4, 3) := dk_154 0 4 (dk_at dksX6_errs_0 4 rfl rfl)
theorem dX6_errs_7 : decode cX6_errs 7 = .ok (.return_, 1) := dk_177 (dk_at dksX6_errs_0 7 rfl rfl)
theorem dX6_errs_8 : decode cX6_errs 8 = .ok (.aload_n 0, 1) := dk_42 (dk_at dksX6_errs_0 8 rfl rfl)
theorem dX6_errs_9 : decode cX6_errs 9 = .ok (.iload_n 1, 1) := dk_27 (dk_at dksX6_errs_0 9 rfl rfl)
theorem dX6_errs_10 : decode cX6_errs 10 = .ok (.putfield 85, 3) := dk_181 0 85 (dk_at dksX6_errs_0 10 rfl rfl)
theorem dX6_errs_13 : decode cX6_errs 13 = .ok (.aload_n 0, 1) := dk_42 (dk_at dksX6_errs_0 13 rfl rfl)
theorem dX6_errs_14 : decode cX6_errs 14 = .ok (.aload_n 0, 1) := dk_42 (dk_at dksX6_errs_0 14 rfl rfl)
theorem dX6_errs_15 : decode cX6_errs 15 = .ok (.getfield 92, 3) := dk_180 0 92 (dk_at dksX6_errs_0 15 rfl rfl)
theorem dX6_errs_18 : decode cX6_errs 18 = .ok (.putfield 35, 3) := dk_181 0 35 (dk_at dksX6_errs_0 18 rfl rfl)
theorem dX6_errs_21 : decode cX6_errs 21 = .ok (.return_, 1) := dk_177 (dk_at dksX6_errs_0 21 rfl rfl)
def dkwX6_goOn_0 : List UInt8 := [42, 182, 0, 88, 153, 0, 7, 42, 182, 0, 125, 177]
abbrev dktX6_goOn_0 : List UInt8 := dkwX6_goOn_0 ++ []
theorem dksX6_goOn_0 : cX6_goOn.data.toList.drop 0 = dktX6_goOn_0 := by decide +kernel
theorem dX6_goOn_0 : decode cX6_goOn 0 = .ok (.aload_n 0, 1) := dk_42 (dk_at dksX6_goOn_0 0 rfl rfl)
theorem dX6_goOn_1 : decode cX6_goOn 1 = .ok (.invokevirtual 88, 3) := dk_182 0 88 (dk_at dksX6_goOn_0 1 rfl rfl)
theorem dX6_goOn_4 : decode cX6_goOn 4 = .ok (.ifCond .eq 7, 3) := dk_153 0 7 (dk_at dksX6_goOn_0 4 rfl rfl)
theorem dX6_goOn_7 : decode cX6_goOn 7 = .ok (.aload_n 0, 1) := dk_42 (dk_at dksX6_goOn_0 7 rfl rfl)
theorem dX6_goOn_8 : decode cX6_goOn 8 = .ok (.invokevirtual 125, 3) := dk_182 0 125 (dk_at dksX6_goOn_0 8 rfl rfl)
theorem dX6_goOn_11 : decode cX6_goOn 11 = .ok (.return_, 1) := dk_177 (dk_at dksX6_goOn_0 11 rfl rfl)
def dkwX6_number_2 : List UInt8 := [182, 0, 88, 153, 0, 10, 42, 180, 0, 116, 167, 0, 4, 27, 62, 42, 182, 0, 214, 29, 172]
abbrev dktX6_number_2 : List UInt8 := dkwX6_number_2 ++ []
def dkwX6_number_1 : List UInt8 := [153, 0, 23, 42, 180, 0, 116, 133, 27, 133, 28, 133, 184, 0, 66, 154, 0, 8, 42, 5, 182, 0, 211, 42]
abbrev dktX6_number_1 : List UInt8 := dkwX6_number_1 ++ dktX6_number_2
def dkwX6_number_0 : List UInt8 := [42, 182, 0, 88, 153, 0, 16, 42, 180, 0, 105, 5, 159, 0, 8, 42, 4, 182, 0, 211, 42, 182, 0, 88]
abbrev dktX6_number_0 : List UInt8 := dkwX6_number_0 ++ dktX6_number_1
theorem dksX6_number_0 : cX6_number.data.toList.drop 0 = dktX6_number_0 := by decide +kernel
theorem dksX6_number_1 : cX6_number.data.toList.drop 24 = dktX6_number_1 := dk_seg dksX6_number_0 24 rfl rfl
theorem dksX6_number_2 : cX6_number.data.toList.drop 48 = dktX6_number_2 := dk_seg dksX6_number_1 24 rfl rfl
theorem dX6_number_0 : decode cX6_number 0 = .ok (.aload_n 0, 1) := dk_42 (dk_at dksX6_number_0 0 rfl rfl)
theorem dX6_number_1 : decode cX6_number 1 = .ok (.invokevirtual 88, 3) := dk_182 0 88 (dk_at dksX6_number_0 1 rfl rfl)
theorem dX6_number_4 : decode cX6_number 4 = .ok (.ifCond .eq 16, 3) := dk_153 0 16 (dk_at dksX6_number_0 4 rfl rfl)
theorem dX6_number_7 : decode cX6_number 7 = .ok (.aload_n 0, 1) := dk_42 (dk_at dksX6_number_0 7 rfl rfl)
theorem dX6_number_8 : decode cX6_number 8 = .ok (.getfield 105, 3) := dk_180 0 105 (dk_at dksX6_number_0 8 rfl rfl)
theorem dX6_number_11 : decode cX6_number 11 = .ok (.iconst 2, 1) := dk_5 (dk_at dksX6_number_0 11 rfl rfl)
theorem dX6_number_12 : decode cX6_number 12 = .ok (.if_icmp .eq 8, 3) := dk_159 0 8 (dk_at dksX6_number_0 12 rfl rfl)
theorem dX6_number_15 : decode cX6_number 15 = .ok (.aload_n 0, 1) := dk_42 (dk_at dksX6_number_0 15 rfl rfl)
theorem dX6_number_16 : decode cX6_number 16 = .ok (.iconst 1, 1) := dk_4 (dk_at dksX6_number_0 16 rfl rfl)
theorem dX6_number_17 : decode cX6_number 17 = .ok (.invokevirtual 211, 3) := dk_182 0 211 (dk_at dksX6_number_0 17 rfl rfl)
theorem dX6_number_20 : decode cX6_number 20 = .ok (.aload_n 0, 1) := dk_42 (dk_at dksX6_number_0 20 rfl rfl)
theorem dX6_number_21 : decode cX6_number 21 = .ok (.invokevirtual 88, 3) := dk_182 0 88 (dk_at dksX6_number_0 21 rfl rfl)
theorem dX6_number_24 : decode cX6_number 24 = .ok (.ifCond .eq 23, 3) := dk_153 0 23 (dk_at dksX6_number_1 0 rfl rfl)
theorem dX6_number_27 : decode cX6_number 27 = .ok (.aload_n 0, 1) := dk_42 (dk_at dksX6_number_1 3 rfl rfl)
theorem dX6_number_28 : decode cX6_number 28 = .ok (.getfield 116, 3) := dk_180 0 116 (dk_at dksX6_number_1 4 rfl rfl)
theorem dX6_number_31 : decode cX6_number 31 = .ok (.i2l, 1) := dk_133 (dk_at dksX6_number_1 7 rfl rfl)
theorem dX6_number_32 : decode cX6_number 32 = .ok (.iload_n 1, 1) := dk_27 (dk_at dksX6_number_1 8 rfl rfl)
theorem dX6_number_33 : decode cX6_number 33 = .ok (.i2l, 1) := dk_133 (dk_at dksX6_number_1 9 rfl rfl)
theorem dX6_number_34 : decode cX6_number 34 = .ok (.iload_n 2, 1) := dk_28 (dk_at dksX6_number_1 10 rfl rfl)
theorem dX6_number_35 : decode cX6_number 35 = .ok (.i2l, 1) := dk_133 (dk_at dksX6_number_1 11 rfl rfl)
theorem dX6_number_36 : decode cX6_number 36 = .ok (.invokestatic 66, 3) := dk_184 0 66 (dk_at dksX6_number_1 12 rfl rfl)
theorem dX6_number_39 : decode cX6_number 39 = .ok (.ifCond .ne 8, 3) := dk_154 0 8 (dk_at dksX6_number_1 15 rfl rfl)
theorem dX6_number_42 : decode cX6_number 42 = .ok (.aload_n 0, 1) := dk_42 (dk_at dksX6_number_1 18 rfl rfl)
theorem dX6_number_43 : decode cX6_number 43 = .ok (.iconst 2, 1) := dk_5 (dk_at dksX6_number_1 19 rfl rfl)
theorem dX6_number_44 : decode cX6_number 44 = .ok (.invokevirtual 211, 3) := dk_182 0 211 (dk_at dksX6_number_1 20 rfl rfl)
theorem dX6_number_47 : decode cX6_number 47 = .ok (.aload_n 0, 1) := dk_42 (dk_at dksX6_number_1 23 rfl rfl)
theorem dX6_number_48 : decode cX6_number 48 = .ok (.invokevirtual 88, 3) := dk_182 0 88 (dk_at dksX6_number_2 0 rfl rfl)
theorem dX6_number_51 : decode cX6_number 51 = .ok (.ifCond .eq 10, 3) := dk_153 0 10 (dk_at dksX6_number_2 3 rfl rfl)
theorem dX6_number_54 : decode cX6_number 54 = .ok (.aload_n 0, 1) := dk_42 (dk_at dksX6_number_2 6 rfl rfl)
theorem dX6_number_55 : decode cX6_number 55 = .ok (.getfield 116, 3) := dk_180 0 116 (dk_at dksX6_number_2 7 rfl rfl)
theorem dX6_number_58 : decode cX6_number 58 = .ok (.goto 4, 3) := dk_167 0 4 (dk_at dksX6_number_2 10 rfl rfl)
theorem dX6_number_61 : decode cX6_number 61 = .ok (.iload_n 1, 1) := dk_27 (dk_at dksX6_number_2 13 rfl rfl)
theorem dX6_number_62 : decode cX6_number 62 = .ok (.istore_n 3, 1) := dk_62 (dk_at dksX6_number_2 14 rfl rfl)
theorem dX6_number_63 : decode cX6_number 63 = .ok (.aload_n 0, 1) := dk_42 (dk_at dksX6_number_2 15 rfl rfl)
theorem dX6_number_64 : decode cX6_number 64 = .ok (.invokevirtual 214, 3) := dk_182 0 214 (dk_at dksX6_number_2 16 rfl rfl)
theorem dX6_number_67 : decode cX6_number 67 = .ok (.iload_n 3, 1) := dk_29 (dk_at dksX6_number_2 19 rfl rfl)
theorem dX6_number_68 : decode cX6_number 68 = .ok (.ireturn, 1) := dk_172 (dk_at dksX6_number_2 20 rfl rfl)
def dkwX6_numberBehind_0 : List UInt8 := [42, 43, 182, 0, 217, 42, 28, 29, 182, 0, 221, 172]
abbrev dktX6_numberBehind_0 : List UInt8 := dkwX6_numberBehind_0 ++ []
theorem dksX6_numberBehind_0 : cX6_numberBehind.data.toList.drop 0 = dktX6_numberBehind_0 := by decide +kernel
theorem dX6_numberBehind_0 : decode cX6_numberBehind 0 = .ok (.aload_n 0, 1) := dk_42 (dk_at dksX6_numberBehind_0 0 rfl rfl)
theorem dX6_numberBehind_1 : decode cX6_numberBehind 1 = .ok (.aload_n 1, 1) := dk_43 (dk_at dksX6_numberBehind_0 1 rfl rfl)
theorem dX6_numberBehind_2 : decode cX6_numberBehind 2 = .ok (.invokevirtual 217, 3) := dk_182 0 217 (dk_at dksX6_numberBehind_0 2 rfl rfl)
theorem dX6_numberBehind_5 : decode cX6_numberBehind 5 = .ok (.aload_n 0, 1) := dk_42 (dk_at dksX6_numberBehind_0 5 rfl rfl)
theorem dX6_numberBehind_6 : decode cX6_numberBehind 6 = .ok (.iload_n 2, 1) := dk_28 (dk_at dksX6_numberBehind_0 6 rfl rfl)
theorem dX6_numberBehind_7 : decode cX6_numberBehind 7 = .ok (.iload_n 3, 1) := dk_29 (dk_at dksX6_numberBehind_0 7 rfl rfl)
theorem dX6_numberBehind_8 : decode cX6_numberBehind 8 = .ok (.invokevirtual 221, 3) := dk_182 0 221 (dk_at dksX6_numberBehind_0 8 rfl rfl)
theorem dX6_numberBehind_11 : decode cX6_numberBehind 11 = .ok (.ireturn, 1) := dk_172 (dk_at dksX6_numberBehind_0 11 rfl rfl)
def dkwX6_semicolon_0 : List UInt8 := [42, 16, 59, 182, 0, 255, 154, 0, 8, 42, 4, 182, 0, 211, 42, 182, 0, 214, 177]
abbrev dktX6_semicolon_0 : List UInt8 := dkwX6_semicolon_0 ++ []
theorem dksX6_semicolon_0 : cX6_semicolon.data.toList.drop 0 = dktX6_semicolon_0 := by decide +kernel
theorem dX6_semicolon_0 : decode cX6_semicolon 0 = .ok (.aload_n 0, 1) := dk_42 (dk_at dksX6_semicolon_0 0 rfl rfl)
theorem dX6_semicolon_1 : decode cX6_semicolon 1 = .ok (.bipush 59, 2) := dk_16 59 (dk_at dksX6_semicolon_0 1 rfl rfl)
theorem dX6_semicolon_3 : decode cX6_semicolon 3 = .ok (.invokevirtual 255, 3) := dk_182 0 255 (dk_at dksX6_semicolon_0 3 rfl rfl)
theorem dX6_semicolon_6 : decode cX6_semicolon 6 = .ok (.ifCond .ne 8, 3) := dk_154 0 8 (dk_at dksX6_semicolon_0 6 rfl rfl)
theorem dX6_semicolon_9 : decode cX6_semicolon 9 = .ok (.aload_n 0, 1) := dk_42 (dk_at dksX6_semicolon_0 9 rfl rfl)
theorem dX6_semicolon_10 : decode cX6_semicolon 10 = .ok (.iconst 1, 1) := dk_4 (dk_at dksX6_semicolon_0 10 rfl rfl)
theorem dX6_semicolon_11 : decode cX6_semicolon 11 = .ok (.invokevirtual 211, 3) := dk_182 0 211 (dk_at dksX6_semicolon_0 11 rfl rfl)
theorem dX6_semicolon_14 : decode cX6_semicolon 14 = .ok (.aload_n 0, 1) := dk_42 (dk_at dksX6_semicolon_0 14 rfl rfl)
theorem dX6_semicolon_15 : decode cX6_semicolon 15 = .ok (.invokevirtual 214, 3) := dk_182 0 214 (dk_at dksX6_semicolon_0 15 rfl rfl)
theorem dX6_semicolon_18 : decode cX6_semicolon 18 = .ok (.return_, 1) := dk_177 (dk_at dksX6_semicolon_0 18 rfl rfl)
def dkwX6_isSymbol_1 : List UInt8 := [167, 0, 4, 3, 172]
abbrev dktX6_isSymbol_1 : List UInt8 := dkwX6_isSymbol_1 ++ []
def dkwX6_isSymbol_0 : List UInt8 := [42, 182, 0, 88, 153, 0, 23, 42, 180, 0, 105, 6, 160, 0, 15, 42, 180, 0, 116, 27, 160, 0, 7, 4]
abbrev dktX6_isSymbol_0 : List UInt8 := dkwX6_isSymbol_0 ++ dktX6_isSymbol_1
theorem dksX6_isSymbol_0 : cX6_isSymbol.data.toList.drop 0 = dktX6_isSymbol_0 := by decide +kernel
theorem dksX6_isSymbol_1 : cX6_isSymbol.data.toList.drop 24 = dktX6_isSymbol_1 := dk_seg dksX6_isSymbol_0 24 rfl rfl
theorem dX6_isSymbol_0 : decode cX6_isSymbol 0 = .ok (.aload_n 0, 1) := dk_42 (dk_at dksX6_isSymbol_0 0 rfl rfl)
theorem dX6_isSymbol_1 : decode cX6_isSymbol 1 = .ok (.invokevirtual 88, 3) := dk_182 0 88 (dk_at dksX6_isSymbol_0 1 rfl rfl)
theorem dX6_isSymbol_4 : decode cX6_isSymbol 4 = .ok (.ifCond .eq 23, 3) := dk_153 0 23 (dk_at dksX6_isSymbol_0 4 rfl rfl)
theorem dX6_isSymbol_7 : decode cX6_isSymbol 7 = .ok (.aload_n 0, 1) := dk_42 (dk_at dksX6_isSymbol_0 7 rfl rfl)
theorem dX6_isSymbol_8 : decode cX6_isSymbol 8 = .ok (.getfield 105, 3) := dk_180 0 105 (dk_at dksX6_isSymbol_0 8 rfl rfl)
theorem dX6_isSymbol_11 : decode cX6_isSymbol 11 = .ok (.iconst 3, 1) := dk_6 (dk_at dksX6_isSymbol_0 11 rfl rfl)
theorem dX6_isSymbol_12 : decode cX6_isSymbol 12 = .ok (.if_icmp .ne 15, 3) := dk_160 0 15 (dk_at dksX6_isSymbol_0 12 rfl rfl)
theorem dX6_isSymbol_15 : decode cX6_isSymbol 15 = .ok (.aload_n 0, 1) := dk_42 (dk_at dksX6_isSymbol_0 15 rfl rfl)
theorem dX6_isSymbol_16 : decode cX6_isSymbol 16 = .ok (.getfield 116, 3) := dk_180 0 116 (dk_at dksX6_isSymbol_0 16 rfl rfl)
theorem dX6_isSymbol_19 : decode cX6_isSymbol 19 = .ok (.iload_n 1, 1) := dk_27 (dk_at dksX6_isSymbol_0 19 rfl rfl)
theorem dX6_isSymbol_20 : decode cX6_isSymbol 20 = .ok (.if_icmp .ne 7, 3) := dk_160 0 7 (dk_at dksX6_isSymbol_0 20 rfl rfl)
theorem dX6_isSymbol_23 : decode cX6_isSymbol 23 = .ok (.iconst 1, 1) := dk_4 (dk_at dksX6_isSymbol_0 23 rfl rfl)
theorem dX6_isSymbol_24 : decode cX6_isSymbol 24 = .ok (.goto 4, 3) := dk_167 0 4 (dk_at dksX6_isSymbol_1 0 rfl rfl)
theorem dX6_isSymbol_27 : decode cX6_isSymbol 27 = .ok (.iconst 0, 1) := dk_3 (dk_at dksX6_isSymbol_1 3 rfl rfl)
theorem dX6_isSymbol_28 : decode cX6_isSymbol 28 = .ok (.ireturn, 1) := dk_172 (dk_at dksX6_isSymbol_1 4 rfl rfl)
def dkwX6_parseStatement_5 : List UInt8 := [4, 182, 0, 211, 177]
abbrev dktX6_parseStatement_5 : List UInt8 := dkwX6_parseStatement_5 ++ []
def dkwX6_parseStatement_4 : List UInt8 := [42, 182, 1, 53, 167, 0, 24, 42, 18, 196, 182, 0, 208, 153, 0, 10, 42, 182, 1, 56, 167, 0, 8, 42]
abbrev dktX6_parseStatement_4 : List UInt8 := dkwX6_parseStatement_4 ++ dktX6_parseStatement_5
def dkwX6_parseStatement_3 : List UInt8 := [18, 188, 182, 0, 208, 153, 0, 10, 42, 182, 1, 50, 167, 0, 40, 42, 18, 194, 182, 0, 208, 153, 0, 10]
abbrev dktX6_parseStatement_3 : List UInt8 := dkwX6_parseStatement_3 ++ dktX6_parseStatement_4
def dkwX6_parseStatement_2 : List UInt8 := [182, 1, 44, 167, 0, 72, 42, 18, 186, 182, 0, 208, 153, 0, 10, 42, 182, 1, 47, 167, 0, 56, 42]
abbrev dktX6_parseStatement_2 : List UInt8 := dkwX6_parseStatement_2 ++ dktX6_parseStatement_3
def dkwX6_parseStatement_1 : List UInt8 := [27, 2, 159, 0, 11, 42, 27, 182, 1, 41, 167, 0, 88, 42, 18, 170, 182, 0, 208, 153, 0, 10, 42]
abbrev dktX6_parseStatement_1 : List UInt8 := dkwX6_parseStatement_1 ++ dktX6_parseStatement_2
def dkwX6_parseStatement_0 : List UInt8 := [42, 182, 0, 88, 153, 0, 18, 42, 180, 0, 105, 4, 160, 0, 10, 42, 182, 0, 205, 167, 0, 4, 2, 60]
abbrev dktX6_parseStatement_0 : List UInt8 := dkwX6_parseStatement_0 ++ dktX6_parseStatement_1
theorem dksX6_parseStatement_0 : cX6_parseStatement.data.toList.drop 0 = dktX6_parseStatement_0 := by decide +kernel
theorem dksX6_parseStatement_1 : cX6_parseStatement.data.toList.drop 24 = dktX6_parseStatement_1 := dk_seg dksX6_parseStatement_0 24 rfl rfl
theorem dksX6_parseStatement_2 : cX6_parseStatement.data.toList.drop 47 = dktX6_parseStatement_2 := dk_seg dksX6_parseStatement_1 23 rfl rfl
theorem dksX6_parseStatement_3 : cX6_parseStatement.data.toList.drop 70 = dktX6_parseStatement_3 := dk_seg dksX6_parseStatement_2 23 rfl rfl
theorem dksX6_parseStatement_4 : cX6_parseStatement.data.toList.drop 94 = dktX6_parseStatement_4 := dk_seg dksX6_parseStatement_3 24 rfl rfl
theorem dksX6_parseStatement_5 : cX6_parseStatement.data.toList.drop 118 = dktX6_parseStatement_5 := dk_seg dksX6_parseStatement_4 24 rfl rfl
theorem dX6_parseStatement_0 : decode cX6_parseStatement 0 = .ok (.aload_n 0, 1) := dk_42 (dk_at dksX6_parseStatement_0 0 rfl rfl)
theorem dX6_parseStatement_1 : decode cX6_parseStatement 1 = .ok (.invokevirtual 88, 3) := dk_182 0 88 (dk_at dksX6_parseStatement_0 1 rfl rfl)
theorem dX6_parseStatement_4 : decode cX6_parseStatement 4 = .ok (.ifCond .eq 18, 3) := dk_153 0 18 (dk_at dksX6_parseStatement_0 4 rfl rfl)
theorem dX6_parseStatement_7 : decode cX6_parseStatement 7 = .ok (.aload_n 0, 1) := dk_42 (dk_at dksX6_parseStatement_0 7 rfl rfl)
theorem dX6_parseStatement_8 : decode cX6_parseStatement 8 = .ok (.getfield 105, 3) := dk_180 0 105 (dk_at dksX6_parseStatement_0 8 rfl rfl)
theorem dX6_parseStatement_11 : decode cX6_parseStatement 11 = .ok (.iconst 1, 1) := dk_4 (dk_at dksX6_parseStatement_0 11 rfl rfl)
theorem dX6_parseStatement_12 : decode cX6_parseStatement 12 = .ok (.if_icmp .ne 10, 3) := dk_160 0 10 (dk_at dksX6_parseStatement_0 12 rfl rfl)
theorem dX6_parseStatement_15 : decode cX6_parseStatement 15 = .ok (.aload_n 0, 1) := dk_42 (dk_at dksX6_parseStatement_0 15 rfl rfl)
theorem dX6_parseStatement_16 : decode cX6_parseStatement 16 = .ok (.invokevirtual 205, 3) := dk_182 0 205 (dk_at dksX6_parseStatement_0 16 rfl rfl)
theorem dX6_parseStatement_19 : decode cX6_parseStatement 19 = .ok (.goto 4, 3) := dk_167 0 4 (dk_at dksX6_parseStatement_0 19 rfl rfl)
theorem dX6_parseStatement_22 : decode cX6_parseStatement 22 = .ok (.iconst (-1), 1) := dk_2 (dk_at dksX6_parseStatement_0 22 rfl rfl)
theorem dX6_parseStatement_23 : decode cX6_parseStatement 23 = .ok (.istore_n 1, 1) := dk_60 (dk_at dksX6_parseStatement_0 23 rfl rfl)
theorem dX6_parseStatement_24 : decode cX6_parseStatement 24 = .ok (.iload_n 1, 1) := dk_27 (dk_at dksX6_parseStatement_1 0 rfl rfl)
theorem dX6_parseStatement_25 : decode cX6_parseStatement 25 = .ok (.iconst (-1), 1) := dk_2 (dk_at dksX6_parseStatement_1 1 rfl rfl)
theorem dX6_parseStatement_26 : decode cX6_parseStatement 26 = .ok (.if_icmp .eq 11, 3) := dk_159 0 11 (dk_at dksX6_parseStatement_1 2 rfl rfl)
theorem dX6_parseStatement_29 : decode cX6_parseStatement 29 = .ok (.aload_n 0, 1) := dk_42 (dk_at dksX6_parseStatement_1 5 rfl rfl)
theorem dX6_parseStatement_30 : decode cX6_parseStatement 30 = .ok (.iload_n 1, 1) := dk_27 (dk_at dksX6_parseStatement_1 6 rfl rfl)
theorem dX6_parseStatement_31 : decode cX6_parseStatement 31 = .ok (.invokevirtual 297, 3) := dk_182 1 41 (dk_at dksX6_parseStatement_1 7 rfl rfl)
theorem dX6_parseStatement_34 : decode cX6_parseStatement 34 = .ok (.goto 88, 3) := dk_167 0 88 (dk_at dksX6_parseStatement_1 10 rfl rfl)
theorem dX6_parseStatement_37 : decode cX6_parseStatement 37 = .ok (.aload_n 0, 1) := dk_42 (dk_at dksX6_parseStatement_1 13 rfl rfl)
theorem dX6_parseStatement_38 : decode cX6_parseStatement 38 = .ok (.ldc 170, 2) := dk_18 170 (dk_at dksX6_parseStatement_1 14 rfl rfl)
theorem dX6_parseStatement_40 : decode cX6_parseStatement 40 = .ok (.invokevirtual 208, 3) := dk_182 0 208 (dk_at dksX6_parseStatement_1 16 rfl rfl)
theorem dX6_parseStatement_43 : decode cX6_parseStatement 43 = .ok (.ifCond .eq 10, 3) := dk_153 0 10 (dk_at dksX6_parseStatement_1 19 rfl rfl)
theorem dX6_parseStatement_46 : decode cX6_parseStatement 46 = .ok (.aload_n 0, 1) := dk_42 (dk_at dksX6_parseStatement_1 22 rfl rfl)
theorem dX6_parseStatement_47 : decode cX6_parseStatement 47 = .ok (.invokevirtual 300, 3) := dk_182 1 44 (dk_at dksX6_parseStatement_2 0 rfl rfl)
theorem dX6_parseStatement_50 : decode cX6_parseStatement 50 = .ok (.goto 72, 3) := dk_167 0 72 (dk_at dksX6_parseStatement_2 3 rfl rfl)
theorem dX6_parseStatement_53 : decode cX6_parseStatement 53 = .ok (.aload_n 0, 1) := dk_42 (dk_at dksX6_parseStatement_2 6 rfl rfl)
theorem dX6_parseStatement_54 : decode cX6_parseStatement 54 = .ok (.ldc 186, 2) := dk_18 186 (dk_at dksX6_parseStatement_2 7 rfl rfl)
theorem dX6_parseStatement_56 : decode cX6_parseStatement 56 = .ok (.invokevirtual 208, 3) := dk_182 0 208 (dk_at dksX6_parseStatement_2 9 rfl rfl)
theorem dX6_parseStatement_59 : decode cX6_parseStatement 59 = .ok (.ifCond .eq 10, 3) := dk_153 0 10 (dk_at dksX6_parseStatement_2 12 rfl rfl)
theorem dX6_parseStatement_62 : decode cX6_parseStatement 62 = .ok (.aload_n 0, 1) := dk_42 (dk_at dksX6_parseStatement_2 15 rfl rfl)
theorem dX6_parseStatement_63 : decode cX6_parseStatement 63 = .ok (.invokevirtual 303, 3) := dk_182 1 47 (dk_at dksX6_parseStatement_2 16 rfl rfl)
theorem dX6_parseStatement_66 : decode cX6_parseStatement 66 = .ok (.goto 56, 3) := dk_167 0 56 (dk_at dksX6_parseStatement_2 19 rfl rfl)
theorem dX6_parseStatement_69 : decode cX6_parseStatement 69 = .ok (.aload_n 0, 1) := dk_42 (dk_at dksX6_parseStatement_2 22 rfl rfl)
theorem dX6_parseStatement_70 : decode cX6_parseStatement 70 = .ok (.ldc 188, 2) := dk_18 188 (dk_at dksX6_parseStatement_3 0 rfl rfl)
theorem dX6_parseStatement_72 : decode cX6_parseStatement 72 = .ok (.invokevirtual 208, 3) := dk_182 0 208 (dk_at dksX6_parseStatement_3 2 rfl rfl)
theorem dX6_parseStatement_75 : decode cX6_parseStatement 75 = .ok (.ifCond .eq 10, 3) := dk_153 0 10 (dk_at dksX6_parseStatement_3 5 rfl rfl)
theorem dX6_parseStatement_78 : decode cX6_parseStatement 78 = .ok (.aload_n 0, 1) := dk_42 (dk_at dksX6_parseStatement_3 8 rfl rfl)
theorem dX6_parseStatement_79 : decode cX6_parseStatement 79 = .ok (.invokevirtual 306, 3) := dk_182 1 50 (dk_at dksX6_parseStatement_3 9 rfl rfl)
theorem dX6_parseStatement_82 : decode cX6_parseStatement 82 = .ok (.goto 40, 3) := dk_167 0 40 (dk_at dksX6_parseStatement_3 12 rfl rfl)
theorem dX6_parseStatement_85 : decode cX6_parseStatement 85 = .ok (.aload_n 0, 1) := dk_42 (dk_at dksX6_parseStatement_3 15 rfl rfl)
theorem dX6_parseStatement_86 : decode cX6_parseStatement 86 = .ok (.ldc 194, 2) := dk_18 194 (dk_at dksX6_parseStatement_3 16 rfl rfl)
theorem dX6_parseStatement_88 : decode cX6_parseStatement 88 = .ok (.invokevirtual 208, 3) := dk_182 0 208 (dk_at dksX6_parseStatement_3 18 rfl rfl)
theorem dX6_parseStatement_91 : decode cX6_parseStatement 91 = .ok (.ifCond .eq 10, 3) := dk_153 0 10 (dk_at dksX6_parseStatement_3 21 rfl rfl)
theorem dX6_parseStatement_94 : decode cX6_parseStatement 94 = .ok (.aload_n 0, 1) := dk_42 (dk_at dksX6_parseStatement_4 0 rfl rfl)
theorem dX6_parseStatement_95 : decode cX6_parseStatement 95 = .ok (.invokevirtual 309, 3) := dk_182 1 53 (dk_at dksX6_parseStatement_4 1 rfl rfl)
theorem dX6_parseStatement_98 : decode cX6_parseStatement 98 = .ok (.goto 24, 3) := dk_167 0 24 (dk_at dksX6_parseStatement_4 4 rfl rfl)
theorem dX6_parseStatement_101 : decode cX6_parseStatement 101 = .ok (.aload_n 0, 1) := dk_42 (dk_at dksX6_parseStatement_4 7 rfl rfl)
theorem dX6_parseStatement_102 : decode cX6_parseStatement 102 = .ok (.ldc 196, 2) := dk_18 196 (dk_at dksX6_parseStatement_4 8 rfl rfl)
theorem dX6_parseStatement_104 : decode cX6_parseStatement 104 = .ok (.invokevirtual 208, 3) := dk_182 0 208 (dk_at dksX6_parseStatement_4 10 rfl rfl)
theorem dX6_parseStatement_107 : decode cX6_parseStatement 107 = .ok (.ifCond .eq 10, 3) := dk_153 0 10 (dk_at dksX6_parseStatement_4 13 rfl rfl)
theorem dX6_parseStatement_110 : decode cX6_parseStatement 110 = .ok (.aload_n 0, 1) := dk_42 (dk_at dksX6_parseStatement_4 16 rfl rfl)
theorem dX6_parseStatement_111 : decode cX6_parseStatement 111 = .ok (.invokevirtual 312, 3) := dk_182 1 56 (dk_at dksX6_parseStatement_4 17 rfl rfl)
theorem dX6_parseStatement_114 : decode cX6_parseStatement 114 = .ok (.goto 8, 3) := dk_167 0 8 (dk_at dksX6_parseStatement_4 20 rfl rfl)
theorem dX6_parseStatement_117 : decode cX6_parseStatement 117 = .ok (.aload_n 0, 1) := dk_42 (dk_at dksX6_parseStatement_4 23 rfl rfl)
theorem dX6_parseStatement_118 : decode cX6_parseStatement 118 = .ok (.iconst 1, 1) := dk_4 (dk_at dksX6_parseStatement_5 0 rfl rfl)
theorem dX6_parseStatement_119 : decode cX6_parseStatement 119 = .ok (.invokevirtual 211, 3) := dk_182 0 211 (dk_at dksX6_parseStatement_5 1 rfl rfl)
theorem dX6_parseStatement_122 : decode cX6_parseStatement 122 = .ok (.return_, 1) := dk_177 (dk_at dksX6_parseStatement_5 4 rfl rfl)
def dkwX6_kindHere_2 : List UInt8 := [153, 0, 7, 6, 167, 0, 4, 2, 172]
abbrev dktX6_kindHere_2 : List UInt8 := dkwX6_kindHere_2 ++ []
def dkwX6_kindHere_1 : List UInt8 := [167, 0, 30, 42, 18, 158, 182, 0, 138, 153, 0, 7, 5, 167, 0, 17, 42, 18, 160, 182, 0, 138]
abbrev dktX6_kindHere_1 : List UInt8 := dkwX6_kindHere_1 ++ dktX6_kindHere_2
def dkwX6_kindHere_0 : List UInt8 := [42, 18, 154, 182, 0, 138, 153, 0, 7, 3, 167, 0, 43, 42, 18, 156, 182, 0, 138, 153, 0, 7, 4]
abbrev dktX6_kindHere_0 : List UInt8 := dkwX6_kindHere_0 ++ dktX6_kindHere_1
theorem dksX6_kindHere_0 : cX6_kindHere.data.toList.drop 0 = dktX6_kindHere_0 := by decide +kernel
theorem dksX6_kindHere_1 : cX6_kindHere.data.toList.drop 23 = dktX6_kindHere_1 := dk_seg dksX6_kindHere_0 23 rfl rfl
theorem dksX6_kindHere_2 : cX6_kindHere.data.toList.drop 45 = dktX6_kindHere_2 := dk_seg dksX6_kindHere_1 22 rfl rfl
theorem dX6_kindHere_0 : decode cX6_kindHere 0 = .ok (.aload_n 0, 1) := dk_42 (dk_at dksX6_kindHere_0 0 rfl rfl)
theorem dX6_kindHere_1 : decode cX6_kindHere 1 = .ok (.ldc 154, 2) := dk_18 154 (dk_at dksX6_kindHere_0 1 rfl rfl)
theorem dX6_kindHere_3 : decode cX6_kindHere 3 = .ok (.invokevirtual 138, 3) := dk_182 0 138 (dk_at dksX6_kindHere_0 3 rfl rfl)
theorem dX6_kindHere_6 : decode cX6_kindHere 6 = .ok (.ifCond .eq 7, 3) := dk_153 0 7 (dk_at dksX6_kindHere_0 6 rfl rfl)
theorem dX6_kindHere_9 : decode cX6_kindHere 9 = .ok (.iconst 0, 1) := dk_3 (dk_at dksX6_kindHere_0 9 rfl rfl)
theorem dX6_kindHere_10 : decode cX6_kindHere 10 = .ok (.goto 43, 3) := dk_167 0 43 (dk_at dksX6_kindHere_0 10 rfl rfl)
theorem dX6_kindHere_13 : decode cX6_kindHere 13 = .ok (.aload_n 0, 1) := dk_42 (dk_at dksX6_kindHere_0 13 rfl rfl)
theorem dX6_kindHere_14 : decode cX6_kindHere 14 = .ok (.ldc 156, 2) := dk_18 156 (dk_at dksX6_kindHere_0 14 rfl rfl)
theorem dX6_kindHere_16 : decode cX6_kindHere 16 = .ok (.invokevirtual 138, 3) := dk_182 0 138 (dk_at dksX6_kindHere_0 16 rfl rfl)
theorem dX6_kindHere_19 : decode cX6_kindHere 19 = .ok (.ifCond .eq 7, 3) := dk_153 0 7 (dk_at dksX6_kindHere_0 19 rfl rfl)
theorem dX6_kindHere_22 : decode cX6_kindHere 22 = .ok (.iconst 1, 1) := dk_4 (dk_at dksX6_kindHere_0 22 rfl rfl)
theorem dX6_kindHere_23 : decode cX6_kindHere 23 = .ok (.goto 30, 3) := dk_167 0 30 (dk_at dksX6_kindHere_1 0 rfl rfl)
theorem dX6_kindHere_26 : decode cX6_kindHere 26 = .ok (.aload_n 0, 1) := dk_42 (dk_at dksX6_kindHere_1 3 rfl rfl)
theorem dX6_kindHere_27 : decode cX6_kindHere 27 = .ok (.ldc 158, 2) := dk_18 158 (dk_at dksX6_kindHere_1 4 rfl rfl)
theorem dX6_kindHere_29 : decode cX6_kindHere 29 = .ok (.invokevirtual 138, 3) := dk_182 0 138 (dk_at dksX6_kindHere_1 6 rfl rfl)
theorem dX6_kindHere_32 : decode cX6_kindHere 32 = .ok (.ifCond .eq 7, 3) := dk_153 0 7 (dk_at dksX6_kindHere_1 9 rfl rfl)
theorem dX6_kindHere_35 : decode cX6_kindHere 35 = .ok (.iconst 2, 1) := dk_5 (dk_at dksX6_kindHere_1 12 rfl rfl)
theorem dX6_kindHere_36 : decode cX6_kindHere 36 = .ok (.goto 17, 3) := dk_167 0 17 (dk_at dksX6_kindHere_1 13 rfl rfl)
theorem dX6_kindHere_39 : decode cX6_kindHere 39 = .ok (.aload_n 0, 1) := dk_42 (dk_at dksX6_kindHere_1 16 rfl rfl)
theorem dX6_kindHere_40 : decode cX6_kindHere 40 = .ok (.ldc 160, 2) := dk_18 160 (dk_at dksX6_kindHere_1 17 rfl rfl)
theorem dX6_kindHere_42 : decode cX6_kindHere 42 = .ok (.invokevirtual 138, 3) := dk_182 0 138 (dk_at dksX6_kindHere_1 19 rfl rfl)
theorem dX6_kindHere_45 : decode cX6_kindHere 45 = .ok (.ifCond .eq 7, 3) := dk_153 0 7 (dk_at dksX6_kindHere_2 0 rfl rfl)
theorem dX6_kindHere_48 : decode cX6_kindHere 48 = .ok (.iconst 3, 1) := dk_6 (dk_at dksX6_kindHere_2 3 rfl rfl)
theorem dX6_kindHere_49 : decode cX6_kindHere 49 = .ok (.goto 4, 3) := dk_167 0 4 (dk_at dksX6_kindHere_2 4 rfl rfl)
theorem dX6_kindHere_52 : decode cX6_kindHere 52 = .ok (.iconst (-1), 1) := dk_2 (dk_at dksX6_kindHere_2 7 rfl rfl)
theorem dX6_kindHere_53 : decode cX6_kindHere 53 = .ok (.ireturn, 1) := dk_172 (dk_at dksX6_kindHere_2 8 rfl rfl)
def dkwX6_parseLoad_8 : List UInt8 := [180, 0, 24, 7, 92, 46, 4, 96, 79, 177]
abbrev dktX6_parseLoad_8 : List UInt8 := dkwX6_parseLoad_8 ++ []
def dkwX6_parseLoad_7 : List UInt8 := [182, 1, 18, 42, 28, 8, 4, 182, 1, 18, 42, 182, 1, 7, 42, 182, 0, 88, 153, 0, 13, 42]
abbrev dktX6_parseLoad_7 : List UInt8 := dkwX6_parseLoad_7 ++ dktX6_parseLoad_8
def dkwX6_parseLoad_6 : List UInt8 := [182, 1, 3, 182, 1, 18, 27, 6, 160, 0, 18, 42, 28, 7, 42, 18, 184, 3, 16, 100, 182, 1, 3]
abbrev dktX6_parseLoad_6 : List UInt8 := dkwX6_parseLoad_6 ++ dktX6_parseLoad_7
def dkwX6_parseLoad_5 : List UInt8 := [18, 180, 3, 29, 182, 1, 3, 182, 1, 18, 27, 6, 160, 0, 17, 42, 28, 6, 42, 18, 182, 3, 29]
abbrev dktX6_parseLoad_5 : List UInt8 := dkwX6_parseLoad_5 ++ dktX6_parseLoad_6
def dkwX6_parseLoad_4 : List UInt8 := [42, 28, 6, 42, 18, 178, 3, 29, 182, 1, 3, 182, 1, 18, 27, 5, 160, 0, 17, 42, 28, 6, 42]
abbrev dktX6_parseLoad_4 : List UInt8 := dkwX6_parseLoad_4 ++ dktX6_parseLoad_5
def dkwX6_parseLoad_3 : List UInt8 := [4, 17, 1, 244, 182, 1, 3, 182, 1, 18, 42, 180, 0, 24, 3, 46, 4, 100, 62, 27, 4, 160, 0, 17]
abbrev dktX6_parseLoad_3 : List UInt8 := dkwX6_parseLoad_3 ++ dktX6_parseLoad_4
def dkwX6_parseLoad_2 : List UInt8 := [42, 28, 3, 27, 182, 1, 18, 42, 28, 4, 42, 3, 182, 1, 21, 182, 1, 18, 42, 28, 5, 42, 18, 176]
abbrev dktX6_parseLoad_2 : List UInt8 := dkwX6_parseLoad_2 ++ dktX6_parseLoad_3
def dkwX6_parseLoad_1 : List UInt8 := [28, 16, 11, 184, 0, 120, 104, 96, 16, 6, 96, 182, 1, 10, 154, 0, 4, 177, 42, 18, 174, 182, 0, 217]
abbrev dktX6_parseLoad_1 : List UInt8 := dkwX6_parseLoad_1 ++ dktX6_parseLoad_2
def dkwX6_parseLoad_0 : List UInt8 := [42, 180, 0, 24, 7, 46, 61, 42, 28, 16, 12, 162, 0, 7, 4, 167, 0, 4, 3, 17, 1, 75, 16, 12]
abbrev dktX6_parseLoad_0 : List UInt8 := dkwX6_parseLoad_0 ++ dktX6_parseLoad_1
theorem dksX6_parseLoad_0 : cX6_parseLoad.data.toList.drop 0 = dktX6_parseLoad_0 := by decide +kernel
theorem dksX6_parseLoad_1 : cX6_parseLoad.data.toList.drop 24 = dktX6_parseLoad_1 := dk_seg dksX6_parseLoad_0 24 rfl rfl
theorem dksX6_parseLoad_2 : cX6_parseLoad.data.toList.drop 48 = dktX6_parseLoad_2 := dk_seg dksX6_parseLoad_1 24 rfl rfl
theorem dksX6_parseLoad_3 : cX6_parseLoad.data.toList.drop 72 = dktX6_parseLoad_3 := dk_seg dksX6_parseLoad_2 24 rfl rfl
theorem dksX6_parseLoad_4 : cX6_parseLoad.data.toList.drop 96 = dktX6_parseLoad_4 := dk_seg dksX6_parseLoad_3 24 rfl rfl
theorem dksX6_parseLoad_5 : cX6_parseLoad.data.toList.drop 119 = dktX6_parseLoad_5 := dk_seg dksX6_parseLoad_4 23 rfl rfl
theorem dksX6_parseLoad_6 : cX6_parseLoad.data.toList.drop 142 = dktX6_parseLoad_6 := dk_seg dksX6_parseLoad_5 23 rfl rfl
theorem dksX6_parseLoad_7 : cX6_parseLoad.data.toList.drop 165 = dktX6_parseLoad_7 := dk_seg dksX6_parseLoad_6 23 rfl rfl
theorem dksX6_parseLoad_8 : cX6_parseLoad.data.toList.drop 187 = dktX6_parseLoad_8 := dk_seg dksX6_parseLoad_7 22 rfl rfl
theorem dX6_parseLoad_0 : decode cX6_parseLoad 0 = .ok (.aload_n 0, 1) := dk_42 (dk_at dksX6_parseLoad_0 0 rfl rfl)
theorem dX6_parseLoad_1 : decode cX6_parseLoad 1 = .ok (.getfield 24, 3) := dk_180 0 24 (dk_at dksX6_parseLoad_0 1 rfl rfl)
theorem dX6_parseLoad_4 : decode cX6_parseLoad 4 = .ok (.iconst 4, 1) := dk_7 (dk_at dksX6_parseLoad_0 4 rfl rfl)
theorem dX6_parseLoad_5 : decode cX6_parseLoad 5 = .ok (.iaload, 1) := dk_46 (dk_at dksX6_parseLoad_0 5 rfl rfl)
theorem dX6_parseLoad_6 : decode cX6_parseLoad 6 = .ok (.istore_n 2, 1) := dk_61 (dk_at dksX6_parseLoad_0 6 rfl rfl)
theorem dX6_parseLoad_7 : decode cX6_parseLoad 7 = .ok (.aload_n 0, 1) := dk_42 (dk_at dksX6_parseLoad_0 7 rfl rfl)
theorem dX6_parseLoad_8 : decode cX6_parseLoad 8 = .ok (.iload_n 2, 1) := dk_28 (dk_at dksX6_parseLoad_0 8 rfl rfl)
theorem dX6_parseLoad_9 : decode cX6_parseLoad 9 = .ok (.bipush 12, 2) := dk_16 12 (dk_at dksX6_parseLoad_0 9 rfl rfl)
theorem dX6_parseLoad_11 : decode cX6_parseLoad 11 = .ok (.if_icmp .ge 7, 3) := dk_162 0 7 (dk_at dksX6_parseLoad_0 11 rfl rfl)
theorem dX6_parseLoad_14 : decode cX6_parseLoad 14 = .ok (.iconst 1, 1) := dk_4 (dk_at dksX6_parseLoad_0 14 rfl rfl)
theorem dX6_parseLoad_15 : decode cX6_parseLoad 15 = .ok (.goto 4, 3) := dk_167 0 4 (dk_at dksX6_parseLoad_0 15 rfl rfl)
theorem dX6_parseLoad_18 : decode cX6_parseLoad 18 = .ok (.iconst 0, 1) := dk_3 (dk_at dksX6_parseLoad_0 18 rfl rfl)
theorem dX6_parseLoad_19 : decode cX6_parseLoad 19 = .ok (.sipush 331, 3) := dk_17 1 75 (dk_at dksX6_parseLoad_0 19 rfl rfl)
theorem dX6_parseLoad_22 : decode cX6_parseLoad 22 = .ok (.bipush 12, 2) := dk_16 12 (dk_at dksX6_parseLoad_0 22 rfl rfl)
theorem dX6_parseLoad_24 : decode cX6_parseLoad 24 = .ok (.iload_n 2, 1) := dk_28 (dk_at dksX6_parseLoad_1 0 rfl rfl)
theorem dX6_parseLoad_25 : decode cX6_parseLoad 25 = .ok (.bipush 11, 2) := dk_16 11 (dk_at dksX6_parseLoad_1 1 rfl rfl)
theorem dX6_parseLoad_27 : decode cX6_parseLoad 27 = .ok (.invokestatic 120, 3) := dk_184 0 120 (dk_at dksX6_parseLoad_1 3 rfl rfl)
theorem dX6_parseLoad_30 : decode cX6_parseLoad 30 = .ok (.imul, 1) := dk_104 (dk_at dksX6_parseLoad_1 6 rfl rfl)
theorem dX6_parseLoad_31 : decode cX6_parseLoad 31 = .ok (.iadd, 1) := dk_96 (dk_at dksX6_parseLoad_1 7 rfl rfl)
theorem dX6_parseLoad_32 : decode cX6_parseLoad 32 = .ok (.bipush 6, 2) := dk_16 6 (dk_at dksX6_parseLoad_1 8 rfl rfl)
theorem dX6_parseLoad_34 : decode cX6_parseLoad 34 = .ok (.iadd, 1) := dk_96 (dk_at dksX6_parseLoad_1 10 rfl rfl)
theorem dX6_parseLoad_35 : decode cX6_parseLoad 35 = .ok (.invokevirtual 266, 3) := dk_182 1 10 (dk_at dksX6_parseLoad_1 11 rfl rfl)
theorem dX6_parseLoad_38 : decode cX6_parseLoad 38 = .ok (.ifCond .ne 4, 3) := dk_154 0 4 (dk_at dksX6_parseLoad_1 14 rfl rfl)
theorem dX6_parseLoad_41 : decode cX6_parseLoad 41 = .ok (.return_, 1) := dk_177 (dk_at dksX6_parseLoad_1 17 rfl rfl)
theorem dX6_parseLoad_42 : decode cX6_parseLoad 42 = .ok (.aload_n 0, 1) := dk_42 (dk_at dksX6_parseLoad_1 18 rfl rfl)
theorem dX6_parseLoad_43 : decode cX6_parseLoad 43 = .ok (.ldc 174, 2) := dk_18 174 (dk_at dksX6_parseLoad_1 19 rfl rfl)
theorem dX6_parseLoad_45 : decode cX6_parseLoad 45 = .ok (.invokevirtual 217, 3) := dk_182 0 217 (dk_at dksX6_parseLoad_1 21 rfl rfl)
theorem dX6_parseLoad_48 : decode cX6_parseLoad 48 = .ok (.aload_n 0, 1) := dk_42 (dk_at dksX6_parseLoad_2 0 rfl rfl)
theorem dX6_parseLoad_49 : decode cX6_parseLoad 49 = .ok (.iload_n 2, 1) := dk_28 (dk_at dksX6_parseLoad_2 1 rfl rfl)
theorem dX6_parseLoad_50 : decode cX6_parseLoad 50 = .ok (.iconst 0, 1) := dk_3 (dk_at dksX6_parseLoad_2 2 rfl rfl)
theorem dX6_parseLoad_51 : decode cX6_parseLoad 51 = .ok (.iload_n 1, 1) := dk_27 (dk_at dksX6_parseLoad_2 3 rfl rfl)
theorem dX6_parseLoad_52 : decode cX6_parseLoad 52 = .ok (.invokevirtual 274, 3) := dk_182 1 18 (dk_at dksX6_parseLoad_2 4 rfl rfl)
theorem dX6_parseLoad_55 : decode cX6_parseLoad 55 = .ok (.aload_n 0, 1) := dk_42 (dk_at dksX6_parseLoad_2 7 rfl rfl)
theorem dX6_parseLoad_56 : decode cX6_parseLoad 56 = .ok (.iload_n 2, 1) := dk_28 (dk_at dksX6_parseLoad_2 8 rfl rfl)
theorem dX6_parseLoad_57 : decode cX6_parseLoad 57 = .ok (.iconst 1, 1) := dk_4 (dk_at dksX6_parseLoad_2 9 rfl rfl)
theorem dX6_parseLoad_58 : decode cX6_parseLoad 58 = .ok (.aload_n 0, 1) := dk_42 (dk_at dksX6_parseLoad_2 10 rfl rfl)
theorem dX6_parseLoad_59 : decode cX6_parseLoad 59 = .ok (.iconst 0, 1) := dk_3 (dk_at dksX6_parseLoad_2 11 rfl rfl)
theorem dX6_parseLoad_60 : decode cX6_parseLoad 60 = .ok (.invokevirtual 277, 3) := dk_182 1 21 (dk_at dksX6_parseLoad_2 12 rfl rfl)
theorem dX6_parseLoad_63 : decode cX6_parseLoad 63 = .ok (.invokevirtual 274, 3) := dk_182 1 18 (dk_at dksX6_parseLoad_2 15 rfl rfl)
theorem dX6_parseLoad_66 : decode cX6_parseLoad 66 = .ok (.aload_n 0, 1) := dk_42 (dk_at dksX6_parseLoad_2 18 rfl rfl)
theorem dX6_parseLoad_67 : decode cX6_parseLoad 67 = .ok (.iload_n 2, 1) := dk_28 (dk_at dksX6_parseLoad_2 19 rfl rfl)
theorem dX6_parseLoad_68 : decode cX6_parseLoad 68 = .ok (.iconst 2, 1) := dk_5 (dk_at dksX6_parseLoad_2 20 rfl rfl)
theorem dX6_parseLoad_69 : decode cX6_parseLoad 69 = .ok (.aload_n 0, 1) := dk_42 (dk_at dksX6_parseLoad_2 21 rfl rfl)
theorem dX6_parseLoad_70 : decode cX6_parseLoad 70 = .ok (.ldc 176, 2) := dk_18 176 (dk_at dksX6_parseLoad_2 22 rfl rfl)
theorem dX6_parseLoad_72 : decode cX6_parseLoad 72 = .ok (.iconst 1, 1) := dk_4 (dk_at dksX6_parseLoad_3 0 rfl rfl)
theorem dX6_parseLoad_73 : decode cX6_parseLoad 73 = .ok (.sipush 500, 3) := dk_17 1 244 (dk_at dksX6_parseLoad_3 1 rfl rfl)
theorem dX6_parseLoad_76 : decode cX6_parseLoad 76 = .ok (.invokevirtual 259, 3) := dk_182 1 3 (dk_at dksX6_parseLoad_3 4 rfl rfl)
theorem dX6_parseLoad_79 : decode cX6_parseLoad 79 = .ok (.invokevirtual 274, 3) := dk_182 1 18 (dk_at dksX6_parseLoad_3 7 rfl rfl)
theorem dX6_parseLoad_82 : decode cX6_parseLoad 82 = .ok (.aload_n 0, 1) := dk_42 (dk_at dksX6_parseLoad_3 10 rfl rfl)
theorem dX6_parseLoad_83 : decode cX6_parseLoad 83 = .ok (.getfield 24, 3) := dk_180 0 24 (dk_at dksX6_parseLoad_3 11 rfl rfl)
theorem dX6_parseLoad_86 : decode cX6_parseLoad 86 = .ok (.iconst 0, 1) := dk_3 (dk_at dksX6_parseLoad_3 14 rfl rfl)
theorem dX6_parseLoad_87 : decode cX6_parseLoad 87 = .ok (.iaload, 1) := dk_46 (dk_at dksX6_parseLoad_3 15 rfl rfl)
theorem dX6_parseLoad_88 : decode cX6_parseLoad 88 = .ok (.iconst 1, 1) := dk_4 (dk_at dksX6_parseLoad_3 16 rfl rfl)
theorem dX6_parseLoad_89 : decode cX6_parseLoad 89 = .ok (.isub, 1) := dk_100 (dk_at dksX6_parseLoad_3 17 rfl rfl)
theorem dX6_parseLoad_90 : decode cX6_parseLoad 90 = .ok (.istore_n 3, 1) := dk_62 (dk_at dksX6_parseLoad_3 18 rfl rfl)
theorem dX6_parseLoad_91 : decode cX6_parseLoad 91 = .ok (.iload_n 1, 1) := dk_27 (dk_at dksX6_parseLoad_3 19 rfl rfl)
theorem dX6_parseLoad_92 : decode cX6_parseLoad 92 = .ok (.iconst 1, 1) := dk_4 (dk_at dksX6_parseLoad_3 20 rfl rfl)
theorem dX6_parseLoad_93 : decode cX6_parseLoad 93 = .ok (.if_icmp .ne 17, 3) := dk_160 0 17 (dk_at dksX6_parseLoad_3 21 rfl rfl)
theorem dX6_parseLoad_96 : decode cX6_parseLoad 96 = .ok (.aload_n 0, 1) := dk_42 (dk_at dksX6_parseLoad_4 0 rfl rfl)
theorem dX6_parseLoad_97 : decode cX6_parseLoad 97 = .ok (.iload_n 2, 1) := dk_28 (dk_at dksX6_parseLoad_4 1 rfl rfl)
theorem dX6_parseLoad_98 : decode cX6_parseLoad 98 = .ok (.iconst 3, 1) := dk_6 (dk_at dksX6_parseLoad_4 2 rfl rfl)
theorem dX6_parseLoad_99 : decode cX6_parseLoad 99 = .ok (.aload_n 0, 1) := dk_42 (dk_at dksX6_parseLoad_4 3 rfl rfl)
theorem dX6_parseLoad_100 : decode cX6_parseLoad 100 = .ok (.ldc 178, 2) := dk_18 178 (dk_at dksX6_parseLoad_4 4 rfl rfl)
theorem dX6_parseLoad_102 : decode cX6_parseLoad 102 = .ok (.iconst 0, 1) := dk_3 (dk_at dksX6_parseLoad_4 6 rfl rfl)
theorem dX6_parseLoad_103 : decode cX6_parseLoad 103 = .ok (.iload_n 3, 1) := dk_29 (dk_at dksX6_parseLoad_4 7 rfl rfl)
theorem dX6_parseLoad_104 : decode cX6_parseLoad 104 = .ok (.invokevirtual 259, 3) := dk_182 1 3 (dk_at dksX6_parseLoad_4 8 rfl rfl)
theorem dX6_parseLoad_107 : decode cX6_parseLoad 107 = .ok (.invokevirtual 274, 3) := dk_182 1 18 (dk_at dksX6_parseLoad_4 11 rfl rfl)
theorem dX6_parseLoad_110 : decode cX6_parseLoad 110 = .ok (.iload_n 1, 1) := dk_27 (dk_at dksX6_parseLoad_4 14 rfl rfl)
theorem dX6_parseLoad_111 : decode cX6_parseLoad 111 = .ok (.iconst 2, 1) := dk_5 (dk_at dksX6_parseLoad_4 15 rfl rfl)
theorem dX6_parseLoad_112 : decode cX6_parseLoad 112 = .ok (.if_icmp .ne 17, 3) := dk_160 0 17 (dk_at dksX6_parseLoad_4 16 rfl rfl)
theorem dX6_parseLoad_115 : decode cX6_parseLoad 115 = .ok (.aload_n 0, 1) := dk_42 (dk_at dksX6_parseLoad_4 19 rfl rfl)
theorem dX6_parseLoad_116 : decode cX6_parseLoad 116 = .ok (.iload_n 2, 1) := dk_28 (dk_at dksX6_parseLoad_4 20 rfl rfl)
theorem dX6_parseLoad_117 : decode cX6_parseLoad 117 = .ok (.iconst 3, 1) := dk_6 (dk_at dksX6_parseLoad_4 21 rfl rfl)
theorem dX6_parseLoad_118 : decode cX6_parseLoad 118 = .ok (.aload_n 0, 1) := dk_42 (dk_at dksX6_parseLoad_4 22 rfl rfl)
theorem dX6_parseLoad_119 : decode cX6_parseLoad 119 = .ok (.ldc 180, 2) := dk_18 180 (dk_at dksX6_parseLoad_5 0 rfl rfl)
theorem dX6_parseLoad_121 : decode cX6_parseLoad 121 = .ok (.iconst 0, 1) := dk_3 (dk_at dksX6_parseLoad_5 2 rfl rfl)
theorem dX6_parseLoad_122 : decode cX6_parseLoad 122 = .ok (.iload_n 3, 1) := dk_29 (dk_at dksX6_parseLoad_5 3 rfl rfl)
theorem dX6_parseLoad_123 : decode cX6_parseLoad 123 = .ok (.invokevirtual 259, 3) := dk_182 1 3 (dk_at dksX6_parseLoad_5 4 rfl rfl)
theorem dX6_parseLoad_126 : decode cX6_parseLoad 126 = .ok (.invokevirtual 274, 3) := dk_182 1 18 (dk_at dksX6_parseLoad_5 7 rfl rfl)
theorem dX6_parseLoad_129 : decode cX6_parseLoad 129 = .ok (.iload_n 1, 1) := dk_27 (dk_at dksX6_parseLoad_5 10 rfl rfl)
theorem dX6_parseLoad_130 : decode cX6_parseLoad 130 = .ok (.iconst 3, 1) := dk_6 (dk_at dksX6_parseLoad_5 11 rfl rfl)
theorem dX6_parseLoad_131 : decode cX6_parseLoad 131 = .ok (.if_icmp .ne 17, 3) := dk_160 0 17 (dk_at dksX6_parseLoad_5 12 rfl rfl)
theorem dX6_parseLoad_134 : decode cX6_parseLoad 134 = .ok (.aload_n 0, 1) := dk_42 (dk_at dksX6_parseLoad_5 15 rfl rfl)
theorem dX6_parseLoad_135 : decode cX6_parseLoad 135 = .ok (.iload_n 2, 1) := dk_28 (dk_at dksX6_parseLoad_5 16 rfl rfl)
theorem dX6_parseLoad_136 : decode cX6_parseLoad 136 = .ok (.iconst 3, 1) := dk_6 (dk_at dksX6_parseLoad_5 17 rfl rfl)
theorem dX6_parseLoad_137 : decode cX6_parseLoad 137 = .ok (.aload_n 0, 1) := dk_42 (dk_at dksX6_parseLoad_5 18 rfl rfl)
theorem dX6_parseLoad_138 : decode cX6_parseLoad 138 = .ok (.ldc 182, 2) := dk_18 182 (dk_at dksX6_parseLoad_5 19 rfl rfl)
theorem dX6_parseLoad_140 : decode cX6_parseLoad 140 = .ok (.iconst 0, 1) := dk_3 (dk_at dksX6_parseLoad_5 21 rfl rfl)
theorem dX6_parseLoad_141 : decode cX6_parseLoad 141 = .ok (.iload_n 3, 1) := dk_29 (dk_at dksX6_parseLoad_5 22 rfl rfl)
theorem dX6_parseLoad_142 : decode cX6_parseLoad 142 = .ok (.invokevirtual 259, 3) := dk_182 1 3 (dk_at dksX6_parseLoad_6 0 rfl rfl)
theorem dX6_parseLoad_145 : decode cX6_parseLoad 145 = .ok (.invokevirtual 274, 3) := dk_182 1 18 (dk_at dksX6_parseLoad_6 3 rfl rfl)
theorem dX6_parseLoad_148 : decode cX6_parseLoad 148 = .ok (.iload_n 1, 1) := dk_27 (dk_at dksX6_parseLoad_6 6 rfl rfl)
theorem dX6_parseLoad_149 : decode cX6_parseLoad 149 = .ok (.iconst 3, 1) := dk_6 (dk_at dksX6_parseLoad_6 7 rfl rfl)
theorem dX6_parseLoad_150 : decode cX6_parseLoad 150 = .ok (.if_icmp .ne 18, 3) := dk_160 0 18 (dk_at dksX6_parseLoad_6 8 rfl rfl)
theorem dX6_parseLoad_153 : decode cX6_parseLoad 153 = .ok (.aload_n 0, 1) := dk_42 (dk_at dksX6_parseLoad_6 11 rfl rfl)
theorem dX6_parseLoad_154 : decode cX6_parseLoad 154 = .ok (.iload_n 2, 1) := dk_28 (dk_at dksX6_parseLoad_6 12 rfl rfl)
theorem dX6_parseLoad_155 : decode cX6_parseLoad 155 = .ok (.iconst 4, 1) := dk_7 (dk_at dksX6_parseLoad_6 13 rfl rfl)
theorem dX6_parseLoad_156 : decode cX6_parseLoad 156 = .ok (.aload_n 0, 1) := dk_42 (dk_at dksX6_parseLoad_6 14 rfl rfl)
theorem dX6_parseLoad_157 : decode cX6_parseLoad 157 = .ok (.ldc 184, 2) := dk_18 184 (dk_at dksX6_parseLoad_6 15 rfl rfl)
theorem dX6_parseLoad_159 : decode cX6_parseLoad 159 = .ok (.iconst 0, 1) := dk_3 (dk_at dksX6_parseLoad_6 17 rfl rfl)
theorem dX6_parseLoad_160 : decode cX6_parseLoad 160 = .ok (.bipush 100, 2) := dk_16 100 (dk_at dksX6_parseLoad_6 18 rfl rfl)
theorem dX6_parseLoad_162 : decode cX6_parseLoad 162 = .ok (.invokevirtual 259, 3) := dk_182 1 3 (dk_at dksX6_parseLoad_6 20 rfl rfl)
theorem dX6_parseLoad_165 : decode cX6_parseLoad 165 = .ok (.invokevirtual 274, 3) := dk_182 1 18 (dk_at dksX6_parseLoad_7 0 rfl rfl)
theorem dX6_parseLoad_168 : decode cX6_parseLoad 168 = .ok (.aload_n 0, 1) := dk_42 (dk_at dksX6_parseLoad_7 3 rfl rfl)
theorem dX6_parseLoad_169 : decode cX6_parseLoad 169 = .ok (.iload_n 2, 1) := dk_28 (dk_at dksX6_parseLoad_7 4 rfl rfl)
theorem dX6_parseLoad_170 : decode cX6_parseLoad 170 = .ok (.iconst 5, 1) := dk_8 (dk_at dksX6_parseLoad_7 5 rfl rfl)
theorem dX6_parseLoad_171 : decode cX6_parseLoad 171 = .ok (.iconst 1, 1) := dk_4 (dk_at dksX6_parseLoad_7 6 rfl rfl)
theorem dX6_parseLoad_172 : decode cX6_parseLoad 172 = .ok (.invokevirtual 274, 3) := dk_182 1 18 (dk_at dksX6_parseLoad_7 7 rfl rfl)
theorem dX6_parseLoad_175 : decode cX6_parseLoad 175 = .ok (.aload_n 0, 1) := dk_42 (dk_at dksX6_parseLoad_7 10 rfl rfl)
theorem dX6_parseLoad_176 : decode cX6_parseLoad 176 = .ok (.invokevirtual 263, 3) := dk_182 1 7 (dk_at dksX6_parseLoad_7 11 rfl rfl)
theorem dX6_parseLoad_179 : decode cX6_parseLoad 179 = .ok (.aload_n 0, 1) := dk_42 (dk_at dksX6_parseLoad_7 14 rfl rfl)
theorem dX6_parseLoad_180 : decode cX6_parseLoad 180 = .ok (.invokevirtual 88, 3) := dk_182 0 88 (dk_at dksX6_parseLoad_7 15 rfl rfl)
theorem dX6_parseLoad_183 : decode cX6_parseLoad 183 = .ok (.ifCond .eq 13, 3) := dk_153 0 13 (dk_at dksX6_parseLoad_7 18 rfl rfl)
theorem dX6_parseLoad_186 : decode cX6_parseLoad 186 = .ok (.aload_n 0, 1) := dk_42 (dk_at dksX6_parseLoad_7 21 rfl rfl)
theorem dX6_parseLoad_187 : decode cX6_parseLoad 187 = .ok (.getfield 24, 3) := dk_180 0 24 (dk_at dksX6_parseLoad_8 0 rfl rfl)
theorem dX6_parseLoad_190 : decode cX6_parseLoad 190 = .ok (.iconst 4, 1) := dk_7 (dk_at dksX6_parseLoad_8 3 rfl rfl)
theorem dX6_parseLoad_191 : decode cX6_parseLoad 191 = .ok (.dup2, 1) := dk_92 (dk_at dksX6_parseLoad_8 4 rfl rfl)
theorem dX6_parseLoad_192 : decode cX6_parseLoad 192 = .ok (.iaload, 1) := dk_46 (dk_at dksX6_parseLoad_8 5 rfl rfl)
theorem dX6_parseLoad_193 : decode cX6_parseLoad 193 = .ok (.iconst 1, 1) := dk_4 (dk_at dksX6_parseLoad_8 6 rfl rfl)
theorem dX6_parseLoad_194 : decode cX6_parseLoad 194 = .ok (.iadd, 1) := dk_96 (dk_at dksX6_parseLoad_8 7 rfl rfl)
theorem dX6_parseLoad_195 : decode cX6_parseLoad 195 = .ok (.iastore, 1) := dk_79 (dk_at dksX6_parseLoad_8 8 rfl rfl)
theorem dX6_parseLoad_196 : decode cX6_parseLoad 196 = .ok (.return_, 1) := dk_177 (dk_at dksX6_parseLoad_8 9 rfl rfl)
def dkwX6_begins_2 : List UInt8 := [182, 0, 252, 42, 182, 0, 214, 42, 182, 0, 88, 172]
abbrev dktX6_begins_2 : List UInt8 := dkwX6_begins_2 ++ []
def dkwX6_begins_1 : List UInt8 := [42, 182, 0, 249, 153, 0, 8, 42, 6, 182, 0, 211, 42, 182, 0, 88, 154, 0, 5, 3, 172, 42, 28]
abbrev dktX6_begins_1 : List UInt8 := dkwX6_begins_1 ++ dktX6_begins_2
def dkwX6_begins_0 : List UInt8 := [27, 154, 0, 8, 42, 7, 182, 0, 211, 42, 182, 0, 214, 42, 182, 0, 246, 42, 182, 0, 88, 153, 0, 15]
abbrev dktX6_begins_0 : List UInt8 := dkwX6_begins_0 ++ dktX6_begins_1
theorem dksX6_begins_0 : cX6_begins.data.toList.drop 0 = dktX6_begins_0 := by decide +kernel
theorem dksX6_begins_1 : cX6_begins.data.toList.drop 24 = dktX6_begins_1 := dk_seg dksX6_begins_0 24 rfl rfl
theorem dksX6_begins_2 : cX6_begins.data.toList.drop 47 = dktX6_begins_2 := dk_seg dksX6_begins_1 23 rfl rfl
theorem dX6_begins_0 : decode cX6_begins 0 = .ok (.iload_n 1, 1) := dk_27 (dk_at dksX6_begins_0 0 rfl rfl)
theorem dX6_begins_1 : decode cX6_begins 1 = .ok (.ifCond .ne 8, 3) := dk_154 0 8 (dk_at dksX6_begins_0 1 rfl rfl)
theorem dX6_begins_4 : decode cX6_begins 4 = .ok (.aload_n 0, 1) := dk_42 (dk_at dksX6_begins_0 4 rfl rfl)
theorem dX6_begins_5 : decode cX6_begins 5 = .ok (.iconst 4, 1) := dk_7 (dk_at dksX6_begins_0 5 rfl rfl)
theorem dX6_begins_6 : decode cX6_begins 6 = .ok (.invokevirtual 211, 3) := dk_182 0 211 (dk_at dksX6_begins_0 6 rfl rfl)
theorem dX6_begins_9 : decode cX6_begins 9 = .ok (.aload_n 0, 1) := dk_42 (dk_at dksX6_begins_0 9 rfl rfl)
theorem dX6_begins_10 : decode cX6_begins 10 = .ok (.invokevirtual 214, 3) := dk_182 0 214 (dk_at dksX6_begins_0 10 rfl rfl)
theorem dX6_begins_13 : decode cX6_begins 13 = .ok (.aload_n 0, 1) := dk_42 (dk_at dksX6_begins_0 13 rfl rfl)
theorem dX6_begins_14 : decode cX6_begins 14 = .ok (.invokevirtual 246, 3) := dk_182 0 246 (dk_at dksX6_begins_0 14 rfl rfl)
theorem dX6_begins_17 : decode cX6_begins 17 = .ok (.aload_n 0, 1) := dk_42 (dk_at dksX6_begins_0 17 rfl rfl)
theorem dX6_begins_18 : decode cX6_begins 18 = .ok (.invokevirtual 88, 3) := dk_182 0 88 (dk_at dksX6_begins_0 18 rfl rfl)
theorem dX6_begins_21 : decode cX6_begins 21 = .ok (.ifCond .eq 15, 3) := dk_153 0 15 (dk_at dksX6_begins_0 21 rfl rfl)
theorem dX6_begins_24 : decode cX6_begins 24 = .ok (.aload_n 0, 1) := dk_42 (dk_at dksX6_begins_1 0 rfl rfl)
theorem dX6_begins_25 : decode cX6_begins 25 = .ok (.invokevirtual 249, 3) := dk_182 0 249 (dk_at dksX6_begins_1 1 rfl rfl)
theorem dX6_begins_28 : decode cX6_begins 28 = .ok (.ifCond .eq 8, 3) := dk_153 0 8 (dk_at dksX6_begins_1 4 rfl rfl)
theorem dX6_begins_31 : decode cX6_begins 31 = .ok (.aload_n 0, 1) := dk_42 (dk_at dksX6_begins_1 7 rfl rfl)
theorem dX6_begins_32 : decode cX6_begins 32 = .ok (.iconst 3, 1) := dk_6 (dk_at dksX6_begins_1 8 rfl rfl)
theorem dX6_begins_33 : decode cX6_begins 33 = .ok (.invokevirtual 211, 3) := dk_182 0 211 (dk_at dksX6_begins_1 9 rfl rfl)
theorem dX6_begins_36 : decode cX6_begins 36 = .ok (.aload_n 0, 1) := dk_42 (dk_at dksX6_begins_1 12 rfl rfl)
theorem dX6_begins_37 : decode cX6_begins 37 = .ok (.invokevirtual 88, 3) := dk_182 0 88 (dk_at dksX6_begins_1 13 rfl rfl)
theorem dX6_begins_40 : decode cX6_begins 40 = .ok (.ifCond .ne 5, 3) := dk_154 0 5 (dk_at dksX6_begins_1 16 rfl rfl)
theorem dX6_begins_43 : decode cX6_begins 43 = .ok (.iconst 0, 1) := dk_3 (dk_at dksX6_begins_1 19 rfl rfl)
theorem dX6_begins_44 : decode cX6_begins 44 = .ok (.ireturn, 1) := dk_172 (dk_at dksX6_begins_1 20 rfl rfl)
theorem dX6_begins_45 : decode cX6_begins 45 = .ok (.aload_n 0, 1) := dk_42 (dk_at dksX6_begins_1 21 rfl rfl)
theorem dX6_begins_46 : decode cX6_begins 46 = .ok (.iload_n 2, 1) := dk_28 (dk_at dksX6_begins_1 22 rfl rfl)
theorem dX6_begins_47 : decode cX6_begins 47 = .ok (.invokevirtual 252, 3) := dk_182 0 252 (dk_at dksX6_begins_2 0 rfl rfl)
theorem dX6_begins_50 : decode cX6_begins 50 = .ok (.aload_n 0, 1) := dk_42 (dk_at dksX6_begins_2 3 rfl rfl)
theorem dX6_begins_51 : decode cX6_begins 51 = .ok (.invokevirtual 214, 3) := dk_182 0 214 (dk_at dksX6_begins_2 4 rfl rfl)
theorem dX6_begins_54 : decode cX6_begins 54 = .ok (.aload_n 0, 1) := dk_42 (dk_at dksX6_begins_2 7 rfl rfl)
theorem dX6_begins_55 : decode cX6_begins 55 = .ok (.invokevirtual 88, 3) := dk_182 0 88 (dk_at dksX6_begins_2 8 rfl rfl)
theorem dX6_begins_58 : decode cX6_begins 58 = .ok (.ireturn, 1) := dk_172 (dk_at dksX6_begins_2 11 rfl rfl)
def dkwX6_checkName_1 : List UInt8 := [16, 6, 163, 0, 10, 42, 182, 0, 243, 153, 0, 8, 42, 4, 182, 0, 211, 177]
abbrev dktX6_checkName_1 : List UInt8 := dkwX6_checkName_1 ++ []
def dkwX6_checkName_0 : List UInt8 := [42, 182, 0, 88, 153, 0, 37, 42, 180, 0, 105, 4, 160, 0, 24, 42, 180, 0, 98, 42, 180, 0, 92, 100]
abbrev dktX6_checkName_0 : List UInt8 := dkwX6_checkName_0 ++ dktX6_checkName_1
theorem dksX6_checkName_0 : cX6_checkName.data.toList.drop 0 = dktX6_checkName_0 := by decide +kernel
theorem dksX6_checkName_1 : cX6_checkName.data.toList.drop 24 = dktX6_checkName_1 := dk_seg dksX6_checkName_0 24 rfl rfl
theorem dX6_checkName_0 : decode cX6_checkName 0 = .ok (.aload_n 0, 1) := dk_42 (dk_at dksX6_checkName_0 0 rfl rfl)
theorem dX6_checkName_1 : decode cX6_checkName 1 = .ok (.invokevirtual 88, 3) := dk_182 0 88 (dk_at dksX6_checkName_0 1 rfl rfl)
theorem dX6_checkName_4 : decode cX6_checkName 4 = .ok (.ifCond .eq 37, 3) := dk_153 0 37 (dk_at dksX6_checkName_0 4 rfl rfl)
theorem dX6_checkName_7 : decode cX6_checkName 7 = .ok (.aload_n 0, 1) := dk_42 (dk_at dksX6_checkName_0 7 rfl rfl)
theorem dX6_checkName_8 : decode cX6_checkName 8 = .ok (.getfield 105, 3) := dk_180 0 105 (dk_at dksX6_checkName_0 8 rfl rfl)
theorem dX6_checkName_11 : decode cX6_checkName 11 = .ok (.iconst 1, 1) := dk_4 (dk_at dksX6_checkName_0 11 rfl rfl)
theorem dX6_checkName_12 : decode cX6_checkName 12 = .ok (.if_icmp .ne 24, 3) := dk_160 0 24 (dk_at dksX6_checkName_0 12 rfl rfl)
theorem dX6_checkName_15 : decode cX6_checkName 15 = .ok (.aload_n 0, 1) := dk_42 (dk_at dksX6_checkName_0 15 rfl rfl)
theorem dX6_checkName_16 : decode cX6_checkName 16 = .ok (.getfield 98, 3) := dk_180 0 98 (dk_at dksX6_checkName_0 16 rfl rfl)
theorem dX6_checkName_19 : decode cX6_checkName 19 = .ok (.aload_n 0, 1) := dk_42 (dk_at dksX6_checkName_0 19 rfl rfl)
theorem dX6_checkName_20 : decode cX6_checkName 20 = .ok (.getfield 92, 3) := dk_180 0 92 (dk_at dksX6_checkName_0 20 rfl rfl)
theorem dX6_checkName_23 : decode cX6_checkName 23 = .ok (.isub, 1) := dk_100 (dk_at dksX6_checkName_0 23 rfl rfl)
theorem dX6_checkName_24 : decode cX6_checkName 24 = .ok (.bipush 6, 2) := dk_16 6 (dk_at dksX6_checkName_1 0 rfl rfl)
theorem dX6_checkName_26 : decode cX6_checkName 26 = .ok (.if_icmp .gt 10, 3) := dk_163 0 10 (dk_at dksX6_checkName_1 2 rfl rfl)
theorem dX6_checkName_29 : decode cX6_checkName 29 = .ok (.aload_n 0, 1) := dk_42 (dk_at dksX6_checkName_1 5 rfl rfl)
theorem dX6_checkName_30 : decode cX6_checkName 30 = .ok (.invokevirtual 243, 3) := dk_182 0 243 (dk_at dksX6_checkName_1 6 rfl rfl)
theorem dX6_checkName_33 : decode cX6_checkName 33 = .ok (.ifCond .eq 8, 3) := dk_153 0 8 (dk_at dksX6_checkName_1 9 rfl rfl)
theorem dX6_checkName_36 : decode cX6_checkName 36 = .ok (.aload_n 0, 1) := dk_42 (dk_at dksX6_checkName_1 12 rfl rfl)
theorem dX6_checkName_37 : decode cX6_checkName 37 = .ok (.iconst 1, 1) := dk_4 (dk_at dksX6_checkName_1 13 rfl rfl)
theorem dX6_checkName_38 : decode cX6_checkName 38 = .ok (.invokevirtual 211, 3) := dk_182 0 211 (dk_at dksX6_checkName_1 14 rfl rfl)
theorem dX6_checkName_41 : decode cX6_checkName 41 = .ok (.return_, 1) := dk_177 (dk_at dksX6_checkName_1 17 rfl rfl)
def dkwX6_isKeyword_9 : List UInt8 := [159, 0, 7, 4, 167, 0, 4, 3, 172]
abbrev dktX6_isKeyword_9 : List UInt8 := dkwX6_isKeyword_9 ++ []
def dkwX6_isKeyword_8 : List UInt8 := [42, 18, 200, 182, 0, 138, 154, 0, 19, 42, 182, 0, 202, 2, 160, 0, 11, 42, 182, 0, 205, 2]
abbrev dktX6_isKeyword_8 : List UInt8 := dkwX6_isKeyword_8 ++ dktX6_isKeyword_9
def dkwX6_isKeyword_7 : List UInt8 := [182, 0, 138, 154, 0, 46, 42, 18, 196, 182, 0, 138, 154, 0, 37, 42, 18, 198, 182, 0, 138, 154, 0, 28]
abbrev dktX6_isKeyword_7 : List UInt8 := dkwX6_isKeyword_7 ++ dktX6_isKeyword_8
def dkwX6_isKeyword_6 : List UInt8 := [182, 0, 138, 153, 0, 7, 4, 167, 0, 4, 3, 61, 27, 154, 0, 59, 28, 154, 0, 55, 42, 18, 194]
abbrev dktX6_isKeyword_6 : List UInt8 := dkwX6_isKeyword_6 ++ dktX6_isKeyword_7
def dkwX6_isKeyword_5 : List UInt8 := [154, 0, 30, 42, 18, 188, 182, 0, 138, 154, 0, 21, 42, 18, 190, 182, 0, 138, 154, 0, 12, 42, 18, 192]
abbrev dktX6_isKeyword_5 : List UInt8 := dkwX6_isKeyword_5 ++ dktX6_isKeyword_6
def dkwX6_isKeyword_4 : List UInt8 := [42, 18, 182, 182, 0, 138, 154, 0, 48, 42, 18, 184, 182, 0, 138, 154, 0, 39, 42, 18, 186, 182, 0, 138]
abbrev dktX6_isKeyword_4 : List UInt8 := dkwX6_isKeyword_4 ++ dktX6_isKeyword_5
def dkwX6_isKeyword_3 : List UInt8 := [4, 167, 0, 4, 3, 60, 42, 18, 178, 182, 0, 138, 154, 0, 66, 42, 18, 180, 182, 0, 138, 154, 0, 57]
abbrev dktX6_isKeyword_3 : List UInt8 := dkwX6_isKeyword_3 ++ dktX6_isKeyword_4
def dkwX6_isKeyword_2 : List UInt8 := [182, 0, 138, 154, 0, 21, 42, 18, 174, 182, 0, 138, 154, 0, 12, 42, 18, 176, 182, 0, 138, 153, 0, 7]
abbrev dktX6_isKeyword_2 : List UInt8 := dkwX6_isKeyword_2 ++ dktX6_isKeyword_3
def dkwX6_isKeyword_1 : List UInt8 := [154, 0, 48, 42, 18, 168, 182, 0, 138, 154, 0, 39, 42, 18, 170, 182, 0, 138, 154, 0, 30, 42, 18, 172]
abbrev dktX6_isKeyword_1 : List UInt8 := dkwX6_isKeyword_1 ++ dktX6_isKeyword_2
def dkwX6_isKeyword_0 : List UInt8 := [42, 18, 162, 182, 0, 138, 154, 0, 66, 42, 18, 164, 182, 0, 138, 154, 0, 57, 42, 18, 166, 182, 0, 138]
abbrev dktX6_isKeyword_0 : List UInt8 := dkwX6_isKeyword_0 ++ dktX6_isKeyword_1
theorem dksX6_isKeyword_0 : cX6_isKeyword.data.toList.drop 0 = dktX6_isKeyword_0 := by decide +kernel
theorem dksX6_isKeyword_1 : cX6_isKeyword.data.toList.drop 24 = dktX6_isKeyword_1 := dk_seg dksX6_isKeyword_0 24 rfl rfl
theorem dksX6_isKeyword_2 : cX6_isKeyword.data.toList.drop 48 = dktX6_isKeyword_2 := dk_seg dksX6_isKeyword_1 24 rfl rfl
theorem dksX6_isKeyword_3 : cX6_isKeyword.data.toList.drop 72 = dktX6_isKeyword_3 := dk_seg dksX6_isKeyword_2 24 rfl rfl
theorem dksX6_isKeyword_4 : cX6_isKeyword.data.toList.drop 96 = dktX6_isKeyword_4 := dk_seg dksX6_isKeyword_3 24 rfl rfl
theorem dksX6_isKeyword_5 : cX6_isKeyword.data.toList.drop 120 = dktX6_isKeyword_5 := dk_seg dksX6_isKeyword_4 24 rfl rfl
theorem dksX6_isKeyword_6 : cX6_isKeyword.data.toList.drop 144 = dktX6_isKeyword_6 := dk_seg dksX6_isKeyword_5 24 rfl rfl
theorem dksX6_isKeyword_7 : cX6_isKeyword.data.toList.drop 167 = dktX6_isKeyword_7 := dk_seg dksX6_isKeyword_6 23 rfl rfl
theorem dksX6_isKeyword_8 : cX6_isKeyword.data.toList.drop 191 = dktX6_isKeyword_8 := dk_seg dksX6_isKeyword_7 24 rfl rfl
theorem dksX6_isKeyword_9 : cX6_isKeyword.data.toList.drop 213 = dktX6_isKeyword_9 := dk_seg dksX6_isKeyword_8 22 rfl rfl
theorem dX6_isKeyword_0 : decode cX6_isKeyword 0 = .ok (.aload_n 0, 1) := dk_42 (dk_at dksX6_isKeyword_0 0 rfl rfl)
theorem dX6_isKeyword_1 : decode cX6_isKeyword 1 = .ok (.ldc 162, 2) := dk_18 162 (dk_at dksX6_isKeyword_0 1 rfl rfl)
theorem dX6_isKeyword_3 : decode cX6_isKeyword 3 = .ok (.invokevirtual 138, 3) := dk_182 0 138 (dk_at dksX6_isKeyword_0 3 rfl rfl)
theorem dX6_isKeyword_6 : decode cX6_isKeyword 6 = .ok (.ifCond .ne 66, 3) := dk_154 0 66 (dk_at dksX6_isKeyword_0 6 rfl rfl)
theorem dX6_isKeyword_9 : decode cX6_isKeyword 9 = .ok (.aload_n 0, 1) := dk_42 (dk_at dksX6_isKeyword_0 9 rfl rfl)
theorem dX6_isKeyword_10 : decode cX6_isKeyword 10 = .ok (.ldc 164, 2) := dk_18 164 (dk_at dksX6_isKeyword_0 10 rfl rfl)
theorem dX6_isKeyword_12 : decode cX6_isKeyword 12 = .ok (.invokevirtual 138, 3) := dk_182 0 138 (dk_at dksX6_isKeyword_0 12 rfl rfl)
theorem dX6_isKeyword_15 : decode cX6_isKeyword 15 = .ok (.ifCond .ne 57, 3) := dk_154 0 57 (dk_at dksX6_isKeyword_0 15 rfl rfl)
theorem dX6_isKeyword_18 : decode cX6_isKeyword 18 = .ok (.aload_n 0, 1) := dk_42 (dk_at dksX6_isKeyword_0 18 rfl rfl)
theorem dX6_isKeyword_19 : decode cX6_isKeyword 19 = .ok (.ldc 166, 2) := dk_18 166 (dk_at dksX6_isKeyword_0 19 rfl rfl)
theorem dX6_isKeyword_21 : decode cX6_isKeyword 21 = .ok (.invokevirtual 138, 3) := dk_182 0 138 (dk_at dksX6_isKeyword_0 21 rfl rfl)
theorem dX6_isKeyword_24 : decode cX6_isKeyword 24 = .ok (.ifCond .ne 48, 3) := dk_154 0 48 (dk_at dksX6_isKeyword_1 0 rfl rfl)
theorem dX6_isKeyword_27 : decode cX6_isKeyword 27 = .ok (.aload_n 0, 1) := dk_42 (dk_at dksX6_isKeyword_1 3 rfl rfl)
theorem dX6_isKeyword_28 : decode cX6_isKeyword 28 = .ok (.ldc 168, 2) := dk_18 168 (dk_at dksX6_isKeyword_1 4 rfl rfl)
theorem dX6_isKeyword_30 : decode cX6_isKeyword 30 = .ok (.invokevirtual 138, 3) := dk_182 0 138 (dk_at dksX6_isKeyword_1 6 rfl rfl)
theorem dX6_isKeyword_33 : decode cX6_isKeyword 33 = .ok (.ifCond .ne 39, 3) := dk_154 0 39 (dk_at dksX6_isKeyword_1 9 rfl rfl)
theorem dX6_isKeyword_36 : decode cX6_isKeyword 36 = .ok (.aload_n 0, 1) := dk_42 (dk_at dksX6_isKeyword_1 12 rfl rfl)
theorem dX6_isKeyword_37 : decode cX6_isKeyword 37 = .ok (.ldc 170, 2) := dk_18 170 (dk_at dksX6_isKeyword_1 13 rfl rfl)
theorem dX6_isKeyword_39 : decode cX6_isKeyword 39 = .ok (.invokevirtual 138, 3) := dk_182 0 138 (dk_at dksX6_isKeyword_1 15 rfl rfl)
theorem dX6_isKeyword_42 : decode cX6_isKeyword 42 = .ok (.ifCond .ne 30, 3) := dk_154 0 30 (dk_at dksX6_isKeyword_1 18 rfl rfl)
theorem dX6_isKeyword_45 : decode cX6_isKeyword 45 = .ok (.aload_n 0, 1) := dk_42 (dk_at dksX6_isKeyword_1 21 rfl rfl)
theorem dX6_isKeyword_46 : decode cX6_isKeyword 46 = .ok (.ldc 172, 2) := dk_18 172 (dk_at dksX6_isKeyword_1 22 rfl rfl)
theorem dX6_isKeyword_48 : decode cX6_isKeyword 48 = .ok (.invokevirtual 138, 3) := dk_182 0 138 (dk_at dksX6_isKeyword_2 0 rfl rfl)
theorem dX6_isKeyword_51 : decode cX6_isKeyword 51 = .ok (.ifCond .ne 21, 3) := dk_154 0 21 (dk_at dksX6_isKeyword_2 3 rfl rfl)
theorem dX6_isKeyword_54 : decode cX6_isKeyword 54 = .ok (.aload_n 0, 1) := dk_42 (dk_at dksX6_isKeyword_2 6 rfl rfl)
theorem dX6_isKeyword_55 : decode cX6_isKeyword 55 = .ok (.ldc 174, 2) := dk_18 174 (dk_at dksX6_isKeyword_2 7 rfl rfl)
theorem dX6_isKeyword_57 : decode cX6_isKeyword 57 = .ok (.invokevirtual 138, 3) := dk_182 0 138 (dk_at dksX6_isKeyword_2 9 rfl rfl)
theorem dX6_isKeyword_60 : decode cX6_isKeyword 60 = .ok (.ifCond .ne 12, 3) := dk_154 0 12 (dk_at dksX6_isKeyword_2 12 rfl rfl)
theorem dX6_isKeyword_63 : decode cX6_isKeyword 63 = .ok (.aload_n 0, 1) := dk_42 (dk_at dksX6_isKeyword_2 15 rfl rfl)
theorem dX6_isKeyword_64 : decode cX6_isKeyword 64 = .ok (.ldc 176, 2) := dk_18 176 (dk_at dksX6_isKeyword_2 16 rfl rfl)
theorem dX6_isKeyword_66 : decode cX6_isKeyword 66 = .ok (.invokevirtual 138, 3) := dk_182 0 138 (dk_at dksX6_isKeyword_2 18 rfl rfl)
theorem dX6_isKeyword_69 : decode cX6_isKeyword 69 = .ok (.ifCond .eq 7, 3) := dk_153 0 7 (dk_at dksX6_isKeyword_2 21 rfl rfl)
theorem dX6_isKeyword_72 : decode cX6_isKeyword 72 = .ok (.iconst 1, 1) := dk_4 (dk_at dksX6_isKeyword_3 0 rfl rfl)
theorem dX6_isKeyword_73 : decode cX6_isKeyword 73 = .ok (.goto 4, 3) := dk_167 0 4 (dk_at dksX6_isKeyword_3 1 rfl rfl)
theorem dX6_isKeyword_76 : decode cX6_isKeyword 76 = .ok (.iconst 0, 1) := dk_3 (dk_at dksX6_isKeyword_3 4 rfl rfl)
theorem dX6_isKeyword_77 : decode cX6_isKeyword 77 = .ok (.istore_n 1, 1) := dk_60 (dk_at dksX6_isKeyword_3 5 rfl rfl)
theorem dX6_isKeyword_78 : decode cX6_isKeyword 78 = .ok (.aload_n 0, 1) := dk_42 (dk_at dksX6_isKeyword_3 6 rfl rfl)
theorem dX6_isKeyword_79 : decode cX6_isKeyword 79 = .ok (.ldc 178, 2) := dk_18 178 (dk_at dksX6_isKeyword_3 7 rfl rfl)
theorem dX6_isKeyword_81 : decode cX6_isKeyword 81 = .ok (.invokevirtual 138, 3) := dk_182 0 138 (dk_at dksX6_isKeyword_3 9 rfl rfl)
theorem dX6_isKeyword_84 : decode cX6_isKeyword 84 = .ok (.ifCond .ne 66, 3) := dk_154 0 66 (dk_at dksX6_isKeyword_3 12 rfl rfl)
theorem dX6_isKeyword_87 : decode cX6_isKeyword 87 = .ok (.aload_n 0, 1) := dk_42 (dk_at dksX6_isKeyword_3 15 rfl rfl)
theorem dX6_isKeyword_88 : decode cX6_isKeyword 88 = .ok (.ldc 180, 2) := dk_18 180 (dk_at dksX6_isKeyword_3 16 rfl rfl)
theorem dX6_isKeyword_90 : decode cX6_isKeyword 90 = .ok (.invokevirtual 138, 3) := dk_182 0 138 (dk_at dksX6_isKeyword_3 18 rfl rfl)
theorem dX6_isKeyword_93 : decode cX6_isKeyword 93 = .ok (.ifCond .ne 57, 3) := dk_154 0 57 (dk_at dksX6_isKeyword_3 21 rfl rfl)
theorem dX6_isKeyword_96 : decode cX6_isKeyword 96 = .ok (.aload_n 0, 1) := dk_42 (dk_at dksX6_isKeyword_4 0 rfl rfl)
theorem dX6_isKeyword_97 : decode cX6_isKeyword 97 = .ok (.ldc 182, 2) := dk_18 182 (dk_at dksX6_isKeyword_4 1 rfl rfl)
theorem dX6_isKeyword_99 : decode cX6_isKeyword 99 = .ok (.invokevirtual 138, 3) := dk_182 0 138 (dk_at dksX6_isKeyword_4 3 rfl rfl)
theorem dX6_isKeyword_102 : decode cX6_isKeyword 102 = .ok (.ifCond .ne 48, 3) := dk_154 0 48 (dk_at dksX6_isKeyword_4 6 rfl rfl)
theorem dX6_isKeyword_105 : decode cX6_isKeyword 105 = .ok (.aload_n 0, 1) := dk_42 (dk_at dksX6_isKeyword_4 9 rfl rfl)
theorem dX6_isKeyword_106 : decode cX6_isKeyword 106 = .ok (.ldc 184, 2) := dk_18 184 (dk_at dksX6_isKeyword_4 10 rfl rfl)
theorem dX6_isKeyword_108 : decode cX6_isKeyword 108 = .ok (.invokevirtual 138, 3) := dk_182 0 138 (dk_at dksX6_isKeyword_4 12 rfl rfl)
theorem dX6_isKeyword_111 : decode cX6_isKeyword 111 = .ok (.ifCond .ne 39, 3) := dk_154 0 39 (dk_at dksX6_isKeyword_4 15 rfl rfl)
theorem dX6_isKeyword_114 : decode cX6_isKeyword 114 = .ok (.aload_n 0, 1) := dk_42 (dk_at dksX6_isKeyword_4 18 rfl rfl)
theorem dX6_isKeyword_115 : decode cX6_isKeyword 115 = .ok (.ldc 186, 2) := dk_18 186 (dk_at dksX6_isKeyword_4 19 rfl rfl)
theorem dX6_isKeyword_117 : decode cX6_isKeyword 117 = .ok (.invokevirtual 138, 3) := dk_182 0 138 (dk_at dksX6_isKeyword_4 21 rfl rfl)
theorem dX6_isKeyword_120 : decode cX6_isKeyword 120 = .ok (.ifCond .ne 30, 3) := dk_154 0 30 (dk_at dksX6_isKeyword_5 0 rfl rfl)
theorem dX6_isKeyword_123 : decode cX6_isKeyword 123 = .ok (.aload_n 0, 1) := dk_42 (dk_at dksX6_isKeyword_5 3 rfl rfl)
theorem dX6_isKeyword_124 : decode cX6_isKeyword 124 = .ok (.ldc 188, 2) := dk_18 188 (dk_at dksX6_isKeyword_5 4 rfl rfl)
theorem dX6_isKeyword_126 : decode cX6_isKeyword 126 = .ok (.invokevirtual 138, 3) := dk_182 0 138 (dk_at dksX6_isKeyword_5 6 rfl rfl)
theorem dX6_isKeyword_129 : decode cX6_isKeyword 129 = .ok (.ifCond .ne 21, 3) := dk_154 0 21 (dk_at dksX6_isKeyword_5 9 rfl rfl)
theorem dX6_isKeyword_132 : decode cX6_isKeyword 132 = .ok (.aload_n 0, 1) := dk_42 (dk_at dksX6_isKeyword_5 12 rfl rfl)
theorem dX6_isKeyword_133 : decode cX6_isKeyword 133 = .ok (.ldc 190, 2) := dk_18 190 (dk_at dksX6_isKeyword_5 13 rfl rfl)
theorem dX6_isKeyword_135 : decode cX6_isKeyword 135 = .ok (.invokevirtual 138, 3) := dk_182 0 138 (dk_at dksX6_isKeyword_5 15 rfl rfl)
theorem dX6_isKeyword_138 : decode cX6_isKeyword 138 = .ok (.ifCond .ne 12, 3) := dk_154 0 12 (dk_at dksX6_isKeyword_5 18 rfl rfl)
theorem dX6_isKeyword_141 : decode cX6_isKeyword 141 = .ok (.aload_n 0, 1) := dk_42 (dk_at dksX6_isKeyword_5 21 rfl rfl)
theorem dX6_isKeyword_142 : decode cX6_isKeyword 142 = .ok (.ldc 192, 2) := dk_18 192 (dk_at dksX6_isKeyword_5 22 rfl rfl)
theorem dX6_isKeyword_144 : decode cX6_isKeyword 144 = .ok (.invokevirtual 138, 3) := dk_182 0 138 (dk_at dksX6_isKeyword_6 0 rfl rfl)
theorem dX6_isKeyword_147 : decode cX6_isKeyword 147 = .ok (.ifCond .eq 7, 3) := dk_153 0 7 (dk_at dksX6_isKeyword_6 3 rfl rfl)
theorem dX6_isKeyword_150 : decode cX6_isKeyword 150 = .ok (.iconst 1, 1) := dk_4 (dk_at dksX6_isKeyword_6 6 rfl rfl)
theorem dX6_isKeyword_151 : decode cX6_isKeyword 151 = .ok (.goto 4, 3) := dk_167 0 4 (dk_at dksX6_isKeyword_6 7 rfl rfl)
theorem dX6_isKeyword_154 : decode cX6_isKeyword 154 = .ok (.iconst 0, 1) := dk_3 (dk_at dksX6_isKeyword_6 10 rfl rfl)
theorem dX6_isKeyword_155 : decode cX6_isKeyword 155 = .ok (.istore_n 2, 1) := dk_61 (dk_at dksX6_isKeyword_6 11 rfl rfl)
theorem dX6_isKeyword_156 : decode cX6_isKeyword 156 = .ok (.iload_n 1, 1) := dk_27 (dk_at dksX6_isKeyword_6 12 rfl rfl)
theorem dX6_isKeyword_157 : decode cX6_isKeyword 157 = .ok (.ifCond .ne 59, 3) := dk_154 0 59 (dk_at dksX6_isKeyword_6 13 rfl rfl)
theorem dX6_isKeyword_160 : decode cX6_isKeyword 160 = .ok (.iload_n 2, 1) := dk_28 (dk_at dksX6_isKeyword_6 16 rfl rfl)
theorem dX6_isKeyword_161 : decode cX6_isKeyword 161 = .ok (.ifCond .ne 55, 3) := dk_154 0 55 (dk_at dksX6_isKeyword_6 17 rfl rfl)
theorem dX6_isKeyword_164 : decode cX6_isKeyword 164 = .ok (.aload_n 0, 1) := dk_42 (dk_at dksX6_isKeyword_6 20 rfl rfl)
theorem dX6_isKeyword_165 : decode cX6_isKeyword 165 = .ok (.ldc 194, 2) := dk_18 194 (dk_at dksX6_isKeyword_6 21 rfl rfl)
theorem dX6_isKeyword_167 : decode cX6_isKeyword 167 = .ok (.invokevirtual 138, 3) := dk_182 0 138 (dk_at dksX6_isKeyword_7 0 rfl rfl)
theorem dX6_isKeyword_170 : decode cX6_isKeyword 170 = .ok (.ifCond .ne 46, 3) := dk_154 0 46 (dk_at dksX6_isKeyword_7 3 rfl rfl)
theorem dX6_isKeyword_173 : decode cX6_isKeyword 173 = .ok (.aload_n 0, 1) := dk_42 (dk_at dksX6_isKeyword_7 6 rfl rfl)
theorem dX6_isKeyword_174 : decode cX6_isKeyword 174 = .ok (.ldc 196, 2) := dk_18 196 (dk_at dksX6_isKeyword_7 7 rfl rfl)
theorem dX6_isKeyword_176 : decode cX6_isKeyword 176 = .ok (.invokevirtual 138, 3) := dk_182 0 138 (dk_at dksX6_isKeyword_7 9 rfl rfl)
theorem dX6_isKeyword_179 : decode cX6_isKeyword 179 = .ok (.ifCond .ne 37, 3) := dk_154 0 37 (dk_at dksX6_isKeyword_7 12 rfl rfl)
theorem dX6_isKeyword_182 : decode cX6_isKeyword 182 = .ok (.aload_n 0, 1) := dk_42 (dk_at dksX6_isKeyword_7 15 rfl rfl)
theorem dX6_isKeyword_183 : decode cX6_isKeyword 183 = .ok (.ldc 198, 2) := dk_18 198 (dk_at dksX6_isKeyword_7 16 rfl rfl)
theorem dX6_isKeyword_185 : decode cX6_isKeyword 185 = .ok (.invokevirtual 138, 3) := dk_182 0 138 (dk_at dksX6_isKeyword_7 18 rfl rfl)
theorem dX6_isKeyword_188 : decode cX6_isKeyword 188 = .ok (.ifCond .ne 28, 3) := dk_154 0 28 (dk_at dksX6_isKeyword_7 21 rfl rfl)
theorem dX6_isKeyword_191 : decode cX6_isKeyword 191 = .ok (.aload_n 0, 1) := dk_42 (dk_at dksX6_isKeyword_8 0 rfl rfl)
theorem dX6_isKeyword_192 : decode cX6_isKeyword 192 = .ok (.ldc 200, 2) := dk_18 200 (dk_at dksX6_isKeyword_8 1 rfl rfl)
theorem dX6_isKeyword_194 : decode cX6_isKeyword 194 = .ok (.invokevirtual 138, 3) := dk_182 0 138 (dk_at dksX6_isKeyword_8 3 rfl rfl)
theorem dX6_isKeyword_197 : decode cX6_isKeyword 197 = .ok (.ifCond .ne 19, 3) := dk_154 0 19 (dk_at dksX6_isKeyword_8 6 rfl rfl)
theorem dX6_isKeyword_200 : decode cX6_isKeyword 200 = .ok (.aload_n 0, 1) := dk_42 (dk_at dksX6_isKeyword_8 9 rfl rfl)
theorem dX6_isKeyword_201 : decode cX6_isKeyword 201 = .ok (.invokevirtual 202, 3) := dk_182 0 202 (dk_at dksX6_isKeyword_8 10 rfl rfl)
theorem dX6_isKeyword_204 : decode cX6_isKeyword 204 = .ok (.iconst (-1), 1) := dk_2 (dk_at dksX6_isKeyword_8 13 rfl rfl)
theorem dX6_isKeyword_205 : decode cX6_isKeyword 205 = .ok (.if_icmp .ne 11, 3) := dk_160 0 11 (dk_at dksX6_isKeyword_8 14 rfl rfl)
theorem dX6_isKeyword_208 : decode cX6_isKeyword 208 = .ok (.aload_n 0, 1) := dk_42 (dk_at dksX6_isKeyword_8 17 rfl rfl)
theorem dX6_isKeyword_209 : decode cX6_isKeyword 209 = .ok (.invokevirtual 205, 3) := dk_182 0 205 (dk_at dksX6_isKeyword_8 18 rfl rfl)
theorem dX6_isKeyword_212 : decode cX6_isKeyword 212 = .ok (.iconst (-1), 1) := dk_2 (dk_at dksX6_isKeyword_8 21 rfl rfl)
theorem dX6_isKeyword_213 : decode cX6_isKeyword 213 = .ok (.if_icmp .eq 7, 3) := dk_159 0 7 (dk_at dksX6_isKeyword_9 0 rfl rfl)
theorem dX6_isKeyword_216 : decode cX6_isKeyword 216 = .ok (.iconst 1, 1) := dk_4 (dk_at dksX6_isKeyword_9 3 rfl rfl)
theorem dX6_isKeyword_217 : decode cX6_isKeyword 217 = .ok (.goto 4, 3) := dk_167 0 4 (dk_at dksX6_isKeyword_9 4 rfl rfl)
theorem dX6_isKeyword_220 : decode cX6_isKeyword 220 = .ok (.iconst 0, 1) := dk_3 (dk_at dksX6_isKeyword_9 7 rfl rfl)
theorem dX6_isKeyword_221 : decode cX6_isKeyword 221 = .ok (.ireturn, 1) := dk_172 (dk_at dksX6_isKeyword_9 8 rfl rfl)
def dkwX6_featureHere_3 : List UInt8 := [182, 0, 138, 153, 0, 7, 8, 167, 0, 4, 2, 172]
abbrev dktX6_featureHere_3 : List UInt8 := dkwX6_featureHere_3 ++ []
def dkwX6_featureHere_2 : List UInt8 := [153, 0, 7, 6, 167, 0, 30, 42, 18, 150, 182, 0, 138, 153, 0, 7, 7, 167, 0, 17, 42, 18, 152]
abbrev dktX6_featureHere_2 : List UInt8 := dkwX6_featureHere_2 ++ dktX6_featureHere_3
def dkwX6_featureHere_1 : List UInt8 := [167, 0, 56, 42, 18, 146, 182, 0, 138, 153, 0, 7, 5, 167, 0, 43, 42, 18, 148, 182, 0, 138]
abbrev dktX6_featureHere_1 : List UInt8 := dkwX6_featureHere_1 ++ dktX6_featureHere_2
def dkwX6_featureHere_0 : List UInt8 := [42, 18, 142, 182, 0, 138, 153, 0, 7, 3, 167, 0, 69, 42, 18, 144, 182, 0, 138, 153, 0, 7, 4]
abbrev dktX6_featureHere_0 : List UInt8 := dkwX6_featureHere_0 ++ dktX6_featureHere_1
theorem dksX6_featureHere_0 : cX6_featureHere.data.toList.drop 0 = dktX6_featureHere_0 := by decide +kernel
theorem dksX6_featureHere_1 : cX6_featureHere.data.toList.drop 23 = dktX6_featureHere_1 := dk_seg dksX6_featureHere_0 23 rfl rfl
theorem dksX6_featureHere_2 : cX6_featureHere.data.toList.drop 45 = dktX6_featureHere_2 := dk_seg dksX6_featureHere_1 22 rfl rfl
theorem dksX6_featureHere_3 : cX6_featureHere.data.toList.drop 68 = dktX6_featureHere_3 := dk_seg dksX6_featureHere_2 23 rfl rfl
theorem dX6_featureHere_0 : decode cX6_featureHere 0 = .ok (.aload_n 0, 1) := dk_42 (dk_at dksX6_featureHere_0 0 rfl rfl)
theorem dX6_featureHere_1 : decode cX6_featureHere 1 = .ok (.ldc 142, 2) := dk_18 142 (dk_at dksX6_featureHere_0 1 rfl rfl)
theorem dX6_featureHere_3 : decode cX6_featureHere 3 = .ok (.invokevirtual 138, 3) := dk_182 0 138 (dk_at dksX6_featureHere_0 3 rfl rfl)
theorem dX6_featureHere_6 : decode cX6_featureHere 6 = .ok (.ifCond .eq 7, 3) := dk_153 0 7 (dk_at dksX6_featureHere_0 6 rfl rfl)
theorem dX6_featureHere_9 : decode cX6_featureHere 9 = .ok (.iconst 0, 1) := dk_3 (dk_at dksX6_featureHere_0 9 rfl rfl)
theorem dX6_featureHere_10 : decode cX6_featureHere 10 = .ok (.goto 69, 3) := dk_167 0 69 (dk_at dksX6_featureHere_0 10 rfl rfl)
theorem dX6_featureHere_13 : decode cX6_featureHere 13 = .ok (.aload_n 0, 1) := dk_42 (dk_at dksX6_featureHere_0 13 rfl rfl)
theorem dX6_featureHere_14 : decode cX6_featureHere 14 = .ok (.ldc 144, 2) := dk_18 144 (dk_at dksX6_featureHere_0 14 rfl rfl)
theorem dX6_featureHere_16 : decode cX6_featureHere 16 = .ok (.invokevirtual 138, 3) := dk_182 0 138 (dk_at dksX6_featureHere_0 16 rfl rfl)
theorem dX6_featureHere_19 : decode cX6_featureHere 19 = .ok (.ifCond .eq 7, 3) := dk_153 0 7 (dk_at dksX6_featureHere_0 19 rfl rfl)
theorem dX6_featureHere_22 : decode cX6_featureHere 22 = .ok (.iconst 1, 1) := dk_4 (dk_at dksX6_featureHere_0 22 rfl rfl)
theorem dX6_featureHere_23 : decode cX6_featureHere 23 = .ok (.goto 56, 3) := dk_167 0 56 (dk_at dksX6_featureHere_1 0 rfl rfl)
theorem dX6_featureHere_26 : decode cX6_featureHere 26 = .ok (.aload_n 0, 1) := dk_42 (dk_at dksX6_featureHere_1 3 rfl rfl)
theorem dX6_featureHere_27 : decode cX6_featureHere 27 = .ok (.ldc 146, 2) := dk_18 146 (dk_at dksX6_featureHere_1 4 rfl rfl)
theorem dX6_featureHere_29 : decode cX6_featureHere 29 = .ok (.invokevirtual 138, 3) := dk_182 0 138 (dk_at dksX6_featureHere_1 6 rfl rfl)
theorem dX6_featureHere_32 : decode cX6_featureHere 32 = .ok (.ifCond .eq 7, 3) := dk_153 0 7 (dk_at dksX6_featureHere_1 9 rfl rfl)
theorem dX6_featureHere_35 : decode cX6_featureHere 35 = .ok (.iconst 2, 1) := dk_5 (dk_at dksX6_featureHere_1 12 rfl rfl)
theorem dX6_featureHere_36 : decode cX6_featureHere 36 = .ok (.goto 43, 3) := dk_167 0 43 (dk_at dksX6_featureHere_1 13 rfl rfl)
theorem dX6_featureHere_39 : decode cX6_featureHere 39 = .ok (.aload_n 0, 1) := dk_42 (dk_at dksX6_featureHere_1 16 rfl rfl)
theorem dX6_featureHere_40 : decode cX6_featureHere 40 = .ok (.ldc 148, 2) := dk_18 148 (dk_at dksX6_featureHere_1 17 rfl rfl)
theorem dX6_featureHere_42 : decode cX6_featureHere 42 = .ok (.invokevirtual 138, 3) := dk_182 0 138 (dk_at dksX6_featureHere_1 19 rfl rfl)
theorem dX6_featureHere_45 : decode cX6_featureHere 45 = .ok (.ifCond .eq 7, 3) := dk_153 0 7 (dk_at dksX6_featureHere_2 0 rfl rfl)
theorem dX6_featureHere_48 : decode cX6_featureHere 48 = .ok (.iconst 3, 1) := dk_6 (dk_at dksX6_featureHere_2 3 rfl rfl)
theorem dX6_featureHere_49 : decode cX6_featureHere 49 = .ok (.goto 30, 3) := dk_167 0 30 (dk_at dksX6_featureHere_2 4 rfl rfl)
theorem dX6_featureHere_52 : decode cX6_featureHere 52 = .ok (.aload_n 0, 1) := dk_42 (dk_at dksX6_featureHere_2 7 rfl rfl)
theorem dX6_featureHere_53 : decode cX6_featureHere 53 = .ok (.ldc 150, 2) := dk_18 150 (dk_at dksX6_featureHere_2 8 rfl rfl)
theorem dX6_featureHere_55 : decode cX6_featureHere 55 = .ok (.invokevirtual 138, 3) := dk_182 0 138 (dk_at dksX6_featureHere_2 10 rfl rfl)
theorem dX6_featureHere_58 : decode cX6_featureHere 58 = .ok (.ifCond .eq 7, 3) := dk_153 0 7 (dk_at dksX6_featureHere_2 13 rfl rfl)
theorem dX6_featureHere_61 : decode cX6_featureHere 61 = .ok (.iconst 4, 1) := dk_7 (dk_at dksX6_featureHere_2 16 rfl rfl)
theorem dX6_featureHere_62 : decode cX6_featureHere 62 = .ok (.goto 17, 3) := dk_167 0 17 (dk_at dksX6_featureHere_2 17 rfl rfl)
theorem dX6_featureHere_65 : decode cX6_featureHere 65 = .ok (.aload_n 0, 1) := dk_42 (dk_at dksX6_featureHere_2 20 rfl rfl)
theorem dX6_featureHere_66 : decode cX6_featureHere 66 = .ok (.ldc 152, 2) := dk_18 152 (dk_at dksX6_featureHere_2 21 rfl rfl)
theorem dX6_featureHere_68 : decode cX6_featureHere 68 = .ok (.invokevirtual 138, 3) := dk_182 0 138 (dk_at dksX6_featureHere_3 0 rfl rfl)
theorem dX6_featureHere_71 : decode cX6_featureHere 71 = .ok (.ifCond .eq 7, 3) := dk_153 0 7 (dk_at dksX6_featureHere_3 3 rfl rfl)
theorem dX6_featureHere_74 : decode cX6_featureHere 74 = .ok (.iconst 5, 1) := dk_8 (dk_at dksX6_featureHere_3 6 rfl rfl)
theorem dX6_featureHere_75 : decode cX6_featureHere 75 = .ok (.goto 4, 3) := dk_167 0 4 (dk_at dksX6_featureHere_3 7 rfl rfl)
theorem dX6_featureHere_78 : decode cX6_featureHere 78 = .ok (.iconst (-1), 1) := dk_2 (dk_at dksX6_featureHere_3 10 rfl rfl)
theorem dX6_featureHere_79 : decode cX6_featureHere 79 = .ok (.ireturn, 1) := dk_172 (dk_at dksX6_featureHere_3 11 rfl rfl)
def dkwX6_isTaken_1 : List UInt8 := [42, 182, 0, 240, 2, 159, 0, 7, 4, 167, 0, 4, 3, 172]
abbrev dktX6_isTaken_1 : List UInt8 := dkwX6_isTaken_1 ++ []
def dkwX6_isTaken_0 : List UInt8 := [42, 182, 0, 231, 2, 160, 0, 27, 42, 182, 0, 234, 2, 160, 0, 19, 42, 182, 0, 237, 2, 160, 0, 11]
abbrev dktX6_isTaken_0 : List UInt8 := dkwX6_isTaken_0 ++ dktX6_isTaken_1
theorem dksX6_isTaken_0 : cX6_isTaken.data.toList.drop 0 = dktX6_isTaken_0 := by decide +kernel
theorem dksX6_isTaken_1 : cX6_isTaken.data.toList.drop 24 = dktX6_isTaken_1 := dk_seg dksX6_isTaken_0 24 rfl rfl
theorem dX6_isTaken_0 : decode cX6_isTaken 0 = .ok (.aload_n 0, 1) := dk_42 (dk_at dksX6_isTaken_0 0 rfl rfl)
theorem dX6_isTaken_1 : decode cX6_isTaken 1 = .ok (.invokevirtual 231, 3) := dk_182 0 231 (dk_at dksX6_isTaken_0 1 rfl rfl)
theorem dX6_isTaken_4 : decode cX6_isTaken 4 = .ok (.iconst (-1), 1) := dk_2 (dk_at dksX6_isTaken_0 4 rfl rfl)
theorem dX6_isTaken_5 : decode cX6_isTaken 5 = .ok (.if_icmp .ne 27, 3) := dk_160 0 27 (dk_at dksX6_isTaken_0 5 rfl rfl)
theorem dX6_isTaken_8 : decode cX6_isTaken 8 = .ok (.aload_n 0, 1) := dk_42 (dk_at dksX6_isTaken_0 8 rfl rfl)
theorem dX6_isTaken_9 : decode cX6_isTaken 9 = .ok (.invokevirtual 234, 3) := dk_182 0 234 (dk_at dksX6_isTaken_0 9 rfl rfl)
theorem dX6_isTaken_12 : decode cX6_isTaken 12 = .ok (.iconst (-1), 1) := dk_2 (dk_at dksX6_isTaken_0 12 rfl rfl)
theorem dX6_isTaken_13 : decode cX6_isTaken 13 = .ok (.if_icmp .ne 19, 3) := dk_160 0 19 (dk_at dksX6_isTaken_0 13 rfl rfl)
theorem dX6_isTaken_16 : decode cX6_isTaken 16 = .ok (.aload_n 0, 1) := dk_42 (dk_at dksX6_isTaken_0 16 rfl rfl)
theorem dX6_isTaken_17 : decode cX6_isTaken 17 = .ok (.invokevirtual 237, 3) := dk_182 0 237 (dk_at dksX6_isTaken_0 17 rfl rfl)
theorem dX6_isTaken_20 : decode cX6_isTaken 20 = .ok (.iconst (-1), 1) := dk_2 (dk_at dksX6_isTaken_0 20 rfl rfl)
theorem dX6_isTaken_21 : decode cX6_isTaken 21 = .ok (.if_icmp .ne 11, 3) := dk_160 0 11 (dk_at dksX6_isTaken_0 21 rfl rfl)
theorem dX6_isTaken_24 : decode cX6_isTaken 24 = .ok (.aload_n 0, 1) := dk_42 (dk_at dksX6_isTaken_1 0 rfl rfl)
theorem dX6_isTaken_25 : decode cX6_isTaken 25 = .ok (.invokevirtual 240, 3) := dk_182 0 240 (dk_at dksX6_isTaken_1 1 rfl rfl)
theorem dX6_isTaken_28 : decode cX6_isTaken 28 = .ok (.iconst (-1), 1) := dk_2 (dk_at dksX6_isTaken_1 4 rfl rfl)
theorem dX6_isTaken_29 : decode cX6_isTaken 29 = .ok (.if_icmp .eq 7, 3) := dk_159 0 7 (dk_at dksX6_isTaken_1 5 rfl rfl)
theorem dX6_isTaken_32 : decode cX6_isTaken 32 = .ok (.iconst 1, 1) := dk_4 (dk_at dksX6_isTaken_1 8 rfl rfl)
theorem dX6_isTaken_33 : decode cX6_isTaken 33 = .ok (.goto 4, 3) := dk_167 0 4 (dk_at dksX6_isTaken_1 9 rfl rfl)
theorem dX6_isTaken_36 : decode cX6_isTaken 36 = .ok (.iconst 0, 1) := dk_3 (dk_at dksX6_isTaken_1 12 rfl rfl)
theorem dX6_isTaken_37 : decode cX6_isTaken 37 = .ok (.ireturn, 1) := dk_172 (dk_at dksX6_isTaken_1 13 rfl rfl)
def dkwX6_branchNamed_0 : List UInt8 := [42, 16, 21, 16, 80, 42, 180, 0, 24, 6, 46, 182, 0, 227, 172]
abbrev dktX6_branchNamed_0 : List UInt8 := dkwX6_branchNamed_0 ++ []
theorem dksX6_branchNamed_0 : cX6_branchNamed.data.toList.drop 0 = dktX6_branchNamed_0 := by decide +kernel
theorem dX6_branchNamed_0 : decode cX6_branchNamed 0 = .ok (.aload_n 0, 1) := dk_42 (dk_at dksX6_branchNamed_0 0 rfl rfl)
theorem dX6_branchNamed_1 : decode cX6_branchNamed 1 = .ok (.bipush 21, 2) := dk_16 21 (dk_at dksX6_branchNamed_0 1 rfl rfl)
theorem dX6_branchNamed_3 : decode cX6_branchNamed 3 = .ok (.bipush 80, 2) := dk_16 80 (dk_at dksX6_branchNamed_0 3 rfl rfl)
theorem dX6_branchNamed_5 : decode cX6_branchNamed 5 = .ok (.aload_n 0, 1) := dk_42 (dk_at dksX6_branchNamed_0 5 rfl rfl)
theorem dX6_branchNamed_6 : decode cX6_branchNamed 6 = .ok (.getfield 24, 3) := dk_180 0 24 (dk_at dksX6_branchNamed_0 6 rfl rfl)
theorem dX6_branchNamed_9 : decode cX6_branchNamed 9 = .ok (.iconst 3, 1) := dk_6 (dk_at dksX6_branchNamed_0 9 rfl rfl)
theorem dX6_branchNamed_10 : decode cX6_branchNamed 10 = .ok (.iaload, 1) := dk_46 (dk_at dksX6_branchNamed_0 10 rfl rfl)
theorem dX6_branchNamed_11 : decode cX6_branchNamed 11 = .ok (.invokevirtual 227, 3) := dk_182 0 227 (dk_at dksX6_branchNamed_0 11 rfl rfl)
theorem dX6_branchNamed_14 : decode cX6_branchNamed 14 = .ok (.ireturn, 1) := dk_172 (dk_at dksX6_branchNamed_0 14 rfl rfl)
def dkwX6_thingNamed_4 : List UInt8 := [167, 255, 167, 2, 172]
abbrev dktX6_thingNamed_4 : List UInt8 := dkwX6_thingNamed_4 ++ []
def dkwX6_thingNamed_3 : List UInt8 := [167, 0, 4, 3, 54, 5, 132, 6, 1, 167, 255, 211, 21, 5, 153, 0, 6, 21, 4, 172, 132, 4, 1]
abbrev dktX6_thingNamed_3 : List UInt8 := dkwX6_thingNamed_3 ++ dktX6_thingNamed_4
def dkwX6_thingNamed_2 : List UInt8 := [180, 0, 24, 27, 28, 21, 4, 104, 96, 21, 6, 96, 46, 42, 21, 6, 182, 0, 224, 160, 0, 7, 4]
abbrev dktX6_thingNamed_2 : List UInt8 := dkwX6_thingNamed_2 ++ dktX6_thingNamed_3
def dkwX6_thingNamed_1 : List UInt8 := [167, 0, 4, 3, 54, 5, 3, 54, 6, 21, 6, 16, 6, 162, 0, 44, 21, 5, 153, 0, 39, 42]
abbrev dktX6_thingNamed_1 : List UInt8 := dkwX6_thingNamed_1 ++ dktX6_thingNamed_2
def dkwX6_thingNamed_0 : List UInt8 := [3, 54, 4, 21, 4, 29, 162, 0, 89, 42, 180, 0, 98, 42, 180, 0, 92, 100, 16, 6, 163, 0, 7, 4]
abbrev dktX6_thingNamed_0 : List UInt8 := dkwX6_thingNamed_0 ++ dktX6_thingNamed_1
theorem dksX6_thingNamed_0 : cX6_thingNamed.data.toList.drop 0 = dktX6_thingNamed_0 := by decide +kernel
theorem dksX6_thingNamed_1 : cX6_thingNamed.data.toList.drop 24 = dktX6_thingNamed_1 := dk_seg dksX6_thingNamed_0 24 rfl rfl
theorem dksX6_thingNamed_2 : cX6_thingNamed.data.toList.drop 46 = dktX6_thingNamed_2 := dk_seg dksX6_thingNamed_1 22 rfl rfl
theorem dksX6_thingNamed_3 : cX6_thingNamed.data.toList.drop 69 = dktX6_thingNamed_3 := dk_seg dksX6_thingNamed_2 23 rfl rfl
theorem dksX6_thingNamed_4 : cX6_thingNamed.data.toList.drop 92 = dktX6_thingNamed_4 := dk_seg dksX6_thingNamed_3 23 rfl rfl
theorem dX6_thingNamed_0 : decode cX6_thingNamed 0 = .ok (.iconst 0, 1) := dk_3 (dk_at dksX6_thingNamed_0 0 rfl rfl)
theorem dX6_thingNamed_1 : decode cX6_thingNamed 1 = .ok (.istore 4, 2) := dk_54 4 (dk_at dksX6_thingNamed_0 1 rfl rfl)
theorem dX6_thingNamed_3 : decode cX6_thingNamed 3 = .ok (.iload 4, 2) := dk_21 4 (dk_at dksX6_thingNamed_0 3 rfl rfl)
theorem dX6_thingNamed_5 : decode cX6_thingNamed 5 = .ok (.iload_n 3, 1) := dk_29 (dk_at dksX6_thingNamed_0 5 rfl rfl)
theorem dX6_thingNamed_6 : decode cX6_thingNamed 6 = .ok (.if_icmp .ge 89, 3) := dk_162 0 89 (dk_at dksX6_thingNamed_0 6 rfl rfl)
theorem dX6_thingNamed_9 : decode cX6_thingNamed 9 = .ok (.aload_n 0, 1) := dk_42 (dk_at dksX6_thingNamed_0 9 rfl rfl)
theorem dX6_thingNamed_10 : decode cX6_thingNamed 10 = .ok (.getfield 98, 3) := dk_180 0 98 (dk_at dksX6_thingNamed_0 10 rfl rfl)
theorem dX6_thingNamed_13 : decode cX6_thingNamed 13 = .ok (.aload_n 0, 1) := dk_42 (dk_at dksX6_thingNamed_0 13 rfl rfl)
theorem dX6_thingNamed_14 : decode cX6_thingNamed 14 = .ok (.getfield 92, 3) := dk_180 0 92 (dk_at dksX6_thingNamed_0 14 rfl rfl)
theorem dX6_thingNamed_17 : decode cX6_thingNamed 17 = .ok (.isub, 1) := dk_100 (dk_at dksX6_thingNamed_0 17 rfl rfl)
theorem dX6_thingNamed_18 : decode cX6_thingNamed 18 = .ok (.bipush 6, 2) := dk_16 6 (dk_at dksX6_thingNamed_0 18 rfl rfl)
theorem dX6_thingNamed_20 : decode cX6_thingNamed 20 = .ok (.if_icmp .gt 7, 3) := dk_163 0 7 (dk_at dksX6_thingNamed_0 20 rfl rfl)
theorem dX6_thingNamed_23 : decode cX6_thingNamed 23 = .ok (.iconst 1, 1) := dk_4 (dk_at dksX6_thingNamed_0 23 rfl rfl)
theorem dX6_thingNamed_24 : decode cX6_thingNamed 24 = .ok (.goto 4, 3) := dk_167 0 4 (dk_at dksX6_thingNamed_1 0 rfl rfl)
theorem dX6_thingNamed_27 : decode cX6_thingNamed 27 = .ok (.iconst 0, 1) := dk_3 (dk_at dksX6_thingNamed_1 3 rfl rfl)
theorem dX6_thingNamed_28 : decode cX6_thingNamed 28 = .ok (.istore 5, 2) := dk_54 5 (dk_at dksX6_thingNamed_1 4 rfl rfl)
theorem dX6_thingNamed_30 : decode cX6_thingNamed 30 = .ok (.iconst 0, 1) := dk_3 (dk_at dksX6_thingNamed_1 6 rfl rfl)
theorem dX6_thingNamed_31 : decode cX6_thingNamed 31 = .ok (.istore 6, 2) := dk_54 6 (dk_at dksX6_thingNamed_1 7 rfl rfl)
theorem dX6_thingNamed_33 : decode cX6_thingNamed 33 = .ok (.iload 6, 2) := dk_21 6 (dk_at dksX6_thingNamed_1 9 rfl rfl)
theorem dX6_thingNamed_35 : decode cX6_thingNamed 35 = .ok (.bipush 6, 2) := dk_16 6 (dk_at dksX6_thingNamed_1 11 rfl rfl)
theorem dX6_thingNamed_37 : decode cX6_thingNamed 37 = .ok (.if_icmp .ge 44, 3) := dk_162 0 44 (dk_at dksX6_thingNamed_1 13 rfl rfl)
theorem dX6_thingNamed_40 : decode cX6_thingNamed 40 = .ok (.iload 5, 2) := dk_21 5 (dk_at dksX6_thingNamed_1 16 rfl rfl)
theorem dX6_thingNamed_42 : decode cX6_thingNamed 42 = .ok (.ifCond .eq 39, 3) := dk_153 0 39 (dk_at dksX6_thingNamed_1 18 rfl rfl)
theorem dX6_thingNamed_45 : decode cX6_thingNamed 45 = .ok (.aload_n 0, 1) := dk_42 (dk_at dksX6_thingNamed_1 21 rfl rfl)
theorem dX6_thingNamed_46 : decode cX6_thingNamed 46 = .ok (.getfield 24, 3) := dk_180 0 24 (dk_at dksX6_thingNamed_2 0 rfl rfl)
theorem dX6_thingNamed_49 : decode cX6_thingNamed 49 = .ok (.iload_n 1, 1) := dk_27 (dk_at dksX6_thingNamed_2 3 rfl rfl)
theorem dX6_thingNamed_50 : decode cX6_thingNamed 50 = .ok (.iload_n 2, 1) := dk_28 (dk_at dksX6_thingNamed_2 4 rfl rfl)
theorem dX6_thingNamed_51 : decode cX6_thingNamed 51 = .ok (.iload 4, 2) := dk_21 4 (dk_at dksX6_thingNamed_2 5 rfl rfl)
theorem dX6_thingNamed_53 : decode cX6_thingNamed 53 = .ok (.imul, 1) := dk_104 (dk_at dksX6_thingNamed_2 7 rfl rfl)
theorem dX6_thingNamed_54 : decode cX6_thingNamed 54 = .ok (.iadd, 1) := dk_96 (dk_at dksX6_thingNamed_2 8 rfl rfl)
theorem dX6_thingNamed_55 : decode cX6_thingNamed 55 = .ok (.iload 6, 2) := dk_21 6 (dk_at dksX6_thingNamed_2 9 rfl rfl)
theorem dX6_thingNamed_57 : decode cX6_thingNamed 57 = .ok (.iadd, 1) := dk_96 (dk_at dksX6_thingNamed_2 11 rfl rfl)
theorem dX6_thingNamed_58 : decode cX6_thingNamed 58 = .ok (.iaload, 1) := dk_46 (dk_at dksX6_thingNamed_2 12 rfl rfl)
theorem dX6_thingNamed_59 : decode cX6_thingNamed 59 = .ok (.aload_n 0, 1) := dk_42 (dk_at dksX6_thingNamed_2 13 rfl rfl)
theorem dX6_thingNamed_60 : decode cX6_thingNamed 60 = .ok (.iload 6, 2) := dk_21 6 (dk_at dksX6_thingNamed_2 14 rfl rfl)
theorem dX6_thingNamed_62 : decode cX6_thingNamed 62 = .ok (.invokevirtual 224, 3) := dk_182 0 224 (dk_at dksX6_thingNamed_2 16 rfl rfl)
theorem dX6_thingNamed_65 : decode cX6_thingNamed 65 = .ok (.if_icmp .ne 7, 3) := dk_160 0 7 (dk_at dksX6_thingNamed_2 19 rfl rfl)
theorem dX6_thingNamed_68 : decode cX6_thingNamed 68 = .ok (.iconst 1, 1) := dk_4 (dk_at dksX6_thingNamed_2 22 rfl rfl)
theorem dX6_thingNamed_69 : decode cX6_thingNamed 69 = .ok (.goto 4, 3) := dk_167 0 4 (dk_at dksX6_thingNamed_3 0 rfl rfl)
theorem dX6_thingNamed_72 : decode cX6_thingNamed 72 = .ok (.iconst 0, 1) := dk_3 (dk_at dksX6_thingNamed_3 3 rfl rfl)
theorem dX6_thingNamed_73 : decode cX6_thingNamed 73 = .ok (.istore 5, 2) := dk_54 5 (dk_at dksX6_thingNamed_3 4 rfl rfl)
theorem dX6_thingNamed_75 : decode cX6_thingNamed 75 = .ok (.iinc 6 1, 3) := dk_132 6 1 (dk_at dksX6_thingNamed_3 6 rfl rfl)
theorem dX6_thingNamed_78 : decode cX6_thingNamed 78 = .ok (.goto (-45), 3) := dk_167 255 211 (dk_at dksX6_thingNamed_3 9 rfl rfl)
theorem dX6_thingNamed_81 : decode cX6_thingNamed 81 = .ok (.iload 5, 2) := dk_21 5 (dk_at dksX6_thingNamed_3 12 rfl rfl)
theorem dX6_thingNamed_83 : decode cX6_thingNamed 83 = .ok (.ifCond .eq 6, 3) := dk_153 0 6 (dk_at dksX6_thingNamed_3 14 rfl rfl)
theorem dX6_thingNamed_86 : decode cX6_thingNamed 86 = .ok (.iload 4, 2) := dk_21 4 (dk_at dksX6_thingNamed_3 17 rfl rfl)
theorem dX6_thingNamed_88 : decode cX6_thingNamed 88 = .ok (.ireturn, 1) := dk_172 (dk_at dksX6_thingNamed_3 19 rfl rfl)
theorem dX6_thingNamed_89 : decode cX6_thingNamed 89 = .ok (.iinc 4 1, 3) := dk_132 4 1 (dk_at dksX6_thingNamed_3 20 rfl rfl)
theorem dX6_thingNamed_92 : decode cX6_thingNamed 92 = .ok (.goto (-89), 3) := dk_167 255 167 (dk_at dksX6_thingNamed_4 0 rfl rfl)
theorem dX6_thingNamed_95 : decode cX6_thingNamed 95 = .ok (.iconst (-1), 1) := dk_2 (dk_at dksX6_thingNamed_4 3 rfl rfl)
theorem dX6_thingNamed_96 : decode cX6_thingNamed 96 = .ok (.ireturn, 1) := dk_172 (dk_at dksX6_thingNamed_4 4 rfl rfl)
def dkwX6_letter_1 : List UInt8 := [167, 0, 4, 3, 172]
abbrev dktX6_letter_1 : List UInt8 := dkwX6_letter_1 ++ []
def dkwX6_letter_0 : List UInt8 := [27, 42, 180, 0, 98, 42, 180, 0, 92, 100, 162, 0, 17, 42, 180, 0, 31, 42, 180, 0, 92, 27, 96, 51]
abbrev dktX6_letter_0 : List UInt8 := dkwX6_letter_0 ++ dktX6_letter_1
theorem dksX6_letter_0 : cX6_letter.data.toList.drop 0 = dktX6_letter_0 := by decide +kernel
theorem dksX6_letter_1 : cX6_letter.data.toList.drop 24 = dktX6_letter_1 := dk_seg dksX6_letter_0 24 rfl rfl
theorem dX6_letter_0 : decode cX6_letter 0 = .ok (.iload_n 1, 1) := dk_27 (dk_at dksX6_letter_0 0 rfl rfl)
theorem dX6_letter_1 : decode cX6_letter 1 = .ok (.aload_n 0, 1) := dk_42 (dk_at dksX6_letter_0 1 rfl rfl)
theorem dX6_letter_2 : decode cX6_letter 2 = .ok (.getfield 98, 3) := dk_180 0 98 (dk_at dksX6_letter_0 2 rfl rfl)
theorem dX6_letter_5 : decode cX6_letter 5 = .ok (.aload_n 0, 1) := dk_42 (dk_at dksX6_letter_0 5 rfl rfl)
theorem dX6_letter_6 : decode cX6_letter 6 = .ok (.getfield 92, 3) := dk_180 0 92 (dk_at dksX6_letter_0 6 rfl rfl)
theorem dX6_letter_9 : decode cX6_letter 9 = .ok (.isub, 1) := dk_100 (dk_at dksX6_letter_0 9 rfl rfl)
theorem dX6_letter_10 : decode cX6_letter 10 = .ok (.if_icmp .ge 17, 3) := dk_162 0 17 (dk_at dksX6_letter_0 10 rfl rfl)
theorem dX6_letter_13 : decode cX6_letter 13 = .ok (.aload_n 0, 1) := dk_42 (dk_at dksX6_letter_0 13 rfl rfl)
theorem dX6_letter_14 : decode cX6_letter 14 = .ok (.getfield 31, 3) := dk_180 0 31 (dk_at dksX6_letter_0 14 rfl rfl)
theorem dX6_letter_17 : decode cX6_letter 17 = .ok (.aload_n 0, 1) := dk_42 (dk_at dksX6_letter_0 17 rfl rfl)
theorem dX6_letter_18 : decode cX6_letter 18 = .ok (.getfield 92, 3) := dk_180 0 92 (dk_at dksX6_letter_0 18 rfl rfl)
theorem dX6_letter_21 : decode cX6_letter 21 = .ok (.iload_n 1, 1) := dk_27 (dk_at dksX6_letter_0 21 rfl rfl)
theorem dX6_letter_22 : decode cX6_letter 22 = .ok (.iadd, 1) := dk_96 (dk_at dksX6_letter_0 22 rfl rfl)
theorem dX6_letter_23 : decode cX6_letter 23 = .ok (.baload, 1) := dk_51 (dk_at dksX6_letter_0 23 rfl rfl)
theorem dX6_letter_24 : decode cX6_letter 24 = .ok (.goto 4, 3) := dk_167 0 4 (dk_at dksX6_letter_1 0 rfl rfl)
theorem dX6_letter_27 : decode cX6_letter 27 = .ok (.iconst 0, 1) := dk_3 (dk_at dksX6_letter_1 3 rfl rfl)
theorem dX6_letter_28 : decode cX6_letter 28 = .ok (.ireturn, 1) := dk_172 (dk_at dksX6_letter_1 4 rfl rfl)
def dkwX6_loadNamed_0 : List UInt8 := [42, 17, 1, 81, 16, 12, 42, 180, 0, 24, 7, 46, 182, 0, 227, 172]
abbrev dktX6_loadNamed_0 : List UInt8 := dkwX6_loadNamed_0 ++ []
theorem dksX6_loadNamed_0 : cX6_loadNamed.data.toList.drop 0 = dktX6_loadNamed_0 := by decide +kernel
theorem dX6_loadNamed_0 : decode cX6_loadNamed 0 = .ok (.aload_n 0, 1) := dk_42 (dk_at dksX6_loadNamed_0 0 rfl rfl)
theorem dX6_loadNamed_1 : decode cX6_loadNamed 1 = .ok (.sipush 337, 3) := dk_17 1 81 (dk_at dksX6_loadNamed_0 1 rfl rfl)
theorem dX6_loadNamed_4 : decode cX6_loadNamed 4 = .ok (.bipush 12, 2) := dk_16 12 (dk_at dksX6_loadNamed_0 4 rfl rfl)
theorem dX6_loadNamed_6 : decode cX6_loadNamed 6 = .ok (.aload_n 0, 1) := dk_42 (dk_at dksX6_loadNamed_0 6 rfl rfl)
theorem dX6_loadNamed_7 : decode cX6_loadNamed 7 = .ok (.getfield 24, 3) := dk_180 0 24 (dk_at dksX6_loadNamed_0 7 rfl rfl)
theorem dX6_loadNamed_10 : decode cX6_loadNamed 10 = .ok (.iconst 4, 1) := dk_7 (dk_at dksX6_loadNamed_0 10 rfl rfl)
theorem dX6_loadNamed_11 : decode cX6_loadNamed 11 = .ok (.iaload, 1) := dk_46 (dk_at dksX6_loadNamed_0 11 rfl rfl)
theorem dX6_loadNamed_12 : decode cX6_loadNamed 12 = .ok (.invokevirtual 227, 3) := dk_182 0 227 (dk_at dksX6_loadNamed_0 12 rfl rfl)
theorem dX6_loadNamed_15 : decode cX6_loadNamed 15 = .ok (.ireturn, 1) := dk_172 (dk_at dksX6_loadNamed_0 15 rfl rfl)
def dkwX6_signatureNamed_0 : List UInt8 := [42, 17, 1, 222, 16, 27, 42, 180, 0, 24, 8, 46, 182, 0, 227, 172]
abbrev dktX6_signatureNamed_0 : List UInt8 := dkwX6_signatureNamed_0 ++ []
theorem dksX6_signatureNamed_0 : cX6_signatureNamed.data.toList.drop 0 = dktX6_signatureNamed_0 := by decide +kernel
theorem dX6_signatureNamed_0 : decode cX6_signatureNamed 0 = .ok (.aload_n 0, 1) := dk_42 (dk_at dksX6_signatureNamed_0 0 rfl rfl)
theorem dX6_signatureNamed_1 : decode cX6_signatureNamed 1 = .ok (.sipush 478, 3) := dk_17 1 222 (dk_at dksX6_signatureNamed_0 1 rfl rfl)
theorem dX6_signatureNamed_4 : decode cX6_signatureNamed 4 = .ok (.bipush 27, 2) := dk_16 27 (dk_at dksX6_signatureNamed_0 4 rfl rfl)
theorem dX6_signatureNamed_6 : decode cX6_signatureNamed 6 = .ok (.aload_n 0, 1) := dk_42 (dk_at dksX6_signatureNamed_0 6 rfl rfl)
theorem dX6_signatureNamed_7 : decode cX6_signatureNamed 7 = .ok (.getfield 24, 3) := dk_180 0 24 (dk_at dksX6_signatureNamed_0 7 rfl rfl)
theorem dX6_signatureNamed_10 : decode cX6_signatureNamed 10 = .ok (.iconst 5, 1) := dk_8 (dk_at dksX6_signatureNamed_0 10 rfl rfl)
theorem dX6_signatureNamed_11 : decode cX6_signatureNamed 11 = .ok (.iaload, 1) := dk_46 (dk_at dksX6_signatureNamed_0 11 rfl rfl)
theorem dX6_signatureNamed_12 : decode cX6_signatureNamed 12 = .ok (.invokevirtual 227, 3) := dk_182 0 227 (dk_at dksX6_signatureNamed_0 12 rfl rfl)
theorem dX6_signatureNamed_15 : decode cX6_signatureNamed 15 = .ok (.ireturn, 1) := dk_172 (dk_at dksX6_signatureNamed_0 15 rfl rfl)
def dkwX6_nuisanceNamed_0 : List UInt8 := [42, 17, 2, 128, 16, 27, 42, 180, 0, 24, 16, 6, 46, 182, 0, 227, 172]
abbrev dktX6_nuisanceNamed_0 : List UInt8 := dkwX6_nuisanceNamed_0 ++ []
theorem dksX6_nuisanceNamed_0 : cX6_nuisanceNamed.data.toList.drop 0 = dktX6_nuisanceNamed_0 := by decide +kernel
theorem dX6_nuisanceNamed_0 : decode cX6_nuisanceNamed 0 = .ok (.aload_n 0, 1) := dk_42 (dk_at dksX6_nuisanceNamed_0 0 rfl rfl)
theorem dX6_nuisanceNamed_1 : decode cX6_nuisanceNamed 1 = .ok (.sipush 640, 3) := dk_17 2 128 (dk_at dksX6_nuisanceNamed_0 1 rfl rfl)
theorem dX6_nuisanceNamed_4 : decode cX6_nuisanceNamed 4 = .ok (.bipush 27, 2) := dk_16 27 (dk_at dksX6_nuisanceNamed_0 4 rfl rfl)
theorem dX6_nuisanceNamed_6 : decode cX6_nuisanceNamed 6 = .ok (.aload_n 0, 1) := dk_42 (dk_at dksX6_nuisanceNamed_0 6 rfl rfl)
theorem dX6_nuisanceNamed_7 : decode cX6_nuisanceNamed 7 = .ok (.getfield 24, 3) := dk_180 0 24 (dk_at dksX6_nuisanceNamed_0 7 rfl rfl)
theorem dX6_nuisanceNamed_10 : decode cX6_nuisanceNamed 10 = .ok (.bipush 6, 2) := dk_16 6 (dk_at dksX6_nuisanceNamed_0 10 rfl rfl)
theorem dX6_nuisanceNamed_12 : decode cX6_nuisanceNamed 12 = .ok (.iaload, 1) := dk_46 (dk_at dksX6_nuisanceNamed_0 12 rfl rfl)
theorem dX6_nuisanceNamed_13 : decode cX6_nuisanceNamed 13 = .ok (.invokevirtual 227, 3) := dk_182 0 227 (dk_at dksX6_nuisanceNamed_0 13 rfl rfl)
theorem dX6_nuisanceNamed_16 : decode cX6_nuisanceNamed 16 = .ok (.ireturn, 1) := dk_172 (dk_at dksX6_nuisanceNamed_0 16 rfl rfl)
def dkwX6_keepName_1 : List UInt8 := [167, 255, 234, 177]
abbrev dktX6_keepName_1 : List UInt8 := dkwX6_keepName_1 ++ []
def dkwX6_keepName_0 : List UInt8 := [3, 61, 28, 16, 6, 162, 0, 22, 42, 180, 0, 24, 27, 28, 96, 42, 28, 182, 0, 224, 79, 132, 2, 1]
abbrev dktX6_keepName_0 : List UInt8 := dkwX6_keepName_0 ++ dktX6_keepName_1
theorem dksX6_keepName_0 : cX6_keepName.data.toList.drop 0 = dktX6_keepName_0 := by decide +kernel
theorem dksX6_keepName_1 : cX6_keepName.data.toList.drop 24 = dktX6_keepName_1 := dk_seg dksX6_keepName_0 24 rfl rfl
theorem dX6_keepName_0 : decode cX6_keepName 0 = .ok (.iconst 0, 1) := dk_3 (dk_at dksX6_keepName_0 0 rfl rfl)
theorem dX6_keepName_1 : decode cX6_keepName 1 = .ok (.istore_n 2, 1) := dk_61 (dk_at dksX6_keepName_0 1 rfl rfl)
theorem dX6_keepName_2 : decode cX6_keepName 2 = .ok (.iload_n 2, 1) := dk_28 (dk_at dksX6_keepName_0 2 rfl rfl)
theorem dX6_keepName_3 : decode cX6_keepName 3 = .ok (.bipush 6, 2) := dk_16 6 (dk_at dksX6_keepName_0 3 rfl rfl)
theorem dX6_keepName_5 : decode cX6_keepName 5 = .ok (.if_icmp .ge 22, 3) := dk_162 0 22 (dk_at dksX6_keepName_0 5 rfl rfl)
theorem dX6_keepName_8 : decode cX6_keepName 8 = .ok (.aload_n 0, 1) := dk_42 (dk_at dksX6_keepName_0 8 rfl rfl)
theorem dX6_keepName_9 : decode cX6_keepName 9 = .ok (.getfield 24, 3) := dk_180 0 24 (dk_at dksX6_keepName_0 9 rfl rfl)
theorem dX6_keepName_12 : decode cX6_keepName 12 = .ok (.iload_n 1, 1) := dk_27 (dk_at dksX6_keepName_0 12 rfl rfl)
theorem dX6_keepName_13 : decode cX6_keepName 13 = .ok (.iload_n 2, 1) := dk_28 (dk_at dksX6_keepName_0 13 rfl rfl)
theorem dX6_keepName_14 : decode cX6_keepName 14 = .ok (.iadd, 1) := dk_96 (dk_at dksX6_keepName_0 14 rfl rfl)
theorem dX6_keepName_15 : decode cX6_keepName 15 = .ok (.aload_n 0, 1) := dk_42 (dk_at dksX6_keepName_0 15 rfl rfl)
theorem dX6_keepName_16 : decode cX6_keepName 16 = .ok (.iload_n 2, 1) := dk_28 (dk_at dksX6_keepName_0 16 rfl rfl)
theorem dX6_keepName_17 : decode cX6_keepName 17 = .ok (.invokevirtual 224, 3) := dk_182 0 224 (dk_at dksX6_keepName_0 17 rfl rfl)
theorem dX6_keepName_20 : decode cX6_keepName 20 = .ok (.iastore, 1) := dk_79 (dk_at dksX6_keepName_0 20 rfl rfl)
theorem dX6_keepName_21 : decode cX6_keepName 21 = .ok (.iinc 2 1, 3) := dk_132 2 1 (dk_at dksX6_keepName_0 21 rfl rfl)
theorem dX6_keepName_24 : decode cX6_keepName 24 = .ok (.goto (-22), 3) := dk_167 255 234 (dk_at dksX6_keepName_1 0 rfl rfl)
theorem dX6_keepName_27 : decode cX6_keepName 27 = .ok (.return_, 1) := dk_177 (dk_at dksX6_keepName_1 3 rfl rfl)
def dkwX6_setLoad_0 : List UInt8 := [42, 180, 0, 24, 17, 1, 75, 16, 12, 27, 104, 96, 28, 96, 29, 79, 177]
abbrev dktX6_setLoad_0 : List UInt8 := dkwX6_setLoad_0 ++ []
theorem dksX6_setLoad_0 : cX6_setLoad.data.toList.drop 0 = dktX6_setLoad_0 := by decide +kernel
theorem dX6_setLoad_0 : decode cX6_setLoad 0 = .ok (.aload_n 0, 1) := dk_42 (dk_at dksX6_setLoad_0 0 rfl rfl)
theorem dX6_setLoad_1 : decode cX6_setLoad 1 = .ok (.getfield 24, 3) := dk_180 0 24 (dk_at dksX6_setLoad_0 1 rfl rfl)
theorem dX6_setLoad_4 : decode cX6_setLoad 4 = .ok (.sipush 331, 3) := dk_17 1 75 (dk_at dksX6_setLoad_0 4 rfl rfl)
theorem dX6_setLoad_7 : decode cX6_setLoad 7 = .ok (.bipush 12, 2) := dk_16 12 (dk_at dksX6_setLoad_0 7 rfl rfl)
theorem dX6_setLoad_9 : decode cX6_setLoad 9 = .ok (.iload_n 1, 1) := dk_27 (dk_at dksX6_setLoad_0 9 rfl rfl)
theorem dX6_setLoad_10 : decode cX6_setLoad 10 = .ok (.imul, 1) := dk_104 (dk_at dksX6_setLoad_0 10 rfl rfl)
theorem dX6_setLoad_11 : decode cX6_setLoad 11 = .ok (.iadd, 1) := dk_96 (dk_at dksX6_setLoad_0 11 rfl rfl)
theorem dX6_setLoad_12 : decode cX6_setLoad 12 = .ok (.iload_n 2, 1) := dk_28 (dk_at dksX6_setLoad_0 12 rfl rfl)
theorem dX6_setLoad_13 : decode cX6_setLoad 13 = .ok (.iadd, 1) := dk_96 (dk_at dksX6_setLoad_0 13 rfl rfl)
theorem dX6_setLoad_14 : decode cX6_setLoad 14 = .ok (.iload_n 3, 1) := dk_29 (dk_at dksX6_setLoad_0 14 rfl rfl)
theorem dX6_setLoad_15 : decode cX6_setLoad 15 = .ok (.iastore, 1) := dk_79 (dk_at dksX6_setLoad_0 15 rfl rfl)
theorem dX6_setLoad_16 : decode cX6_setLoad 16 = .ok (.return_, 1) := dk_177 (dk_at dksX6_setLoad_0 16 rfl rfl)
def dkwX6_reference_2 : List UInt8 := [182, 0, 211, 42, 182, 0, 214, 42, 182, 0, 88, 153, 0, 7, 28, 167, 0, 4, 3, 172]
abbrev dktX6_reference_2 : List UInt8 := dkwX6_reference_2 ++ []
def dkwX6_reference_1 : List UInt8 := [167, 0, 7, 42, 182, 0, 234, 61, 42, 182, 0, 88, 153, 0, 13, 28, 2, 160, 0, 8, 42, 6]
abbrev dktX6_reference_1 : List UInt8 := dkwX6_reference_1 ++ dktX6_reference_2
def dkwX6_reference_0 : List UInt8 := [42, 182, 0, 246, 42, 182, 0, 88, 154, 0, 7, 3, 167, 0, 18, 27, 154, 0, 10, 42, 182, 0, 231]
abbrev dktX6_reference_0 : List UInt8 := dkwX6_reference_0 ++ dktX6_reference_1
theorem dksX6_reference_0 : cX6_reference.data.toList.drop 0 = dktX6_reference_0 := by decide +kernel
theorem dksX6_reference_1 : cX6_reference.data.toList.drop 23 = dktX6_reference_1 := dk_seg dksX6_reference_0 23 rfl rfl
theorem dksX6_reference_2 : cX6_reference.data.toList.drop 45 = dktX6_reference_2 := dk_seg dksX6_reference_1 22 rfl rfl
theorem dX6_reference_0 : decode cX6_reference 0 = .ok (.aload_n 0, 1) := dk_42 (dk_at dksX6_reference_0 0 rfl rfl)
theorem dX6_reference_1 : decode cX6_reference 1 = .ok (.invokevirtual 246, 3) := dk_182 0 246 (dk_at dksX6_reference_0 1 rfl rfl)
theorem dX6_reference_4 : decode cX6_reference 4 = .ok (.aload_n 0, 1) := dk_42 (dk_at dksX6_reference_0 4 rfl rfl)
theorem dX6_reference_5 : decode cX6_reference 5 = .ok (.invokevirtual 88, 3) := dk_182 0 88 (dk_at dksX6_reference_0 5 rfl rfl)
theorem dX6_reference_8 : decode cX6_reference 8 = .ok (.ifCond .ne 7, 3) := dk_154 0 7 (dk_at dksX6_reference_0 8 rfl rfl)
theorem dX6_reference_11 : decode cX6_reference 11 = .ok (.iconst 0, 1) := dk_3 (dk_at dksX6_reference_0 11 rfl rfl)
theorem dX6_reference_12 : decode cX6_reference 12 = .ok (.goto 18, 3) := dk_167 0 18 (dk_at dksX6_reference_0 12 rfl rfl)
theorem dX6_reference_15 : decode cX6_reference 15 = .ok (.iload_n 1, 1) := dk_27 (dk_at dksX6_reference_0 15 rfl rfl)
theorem dX6_reference_16 : decode cX6_reference 16 = .ok (.ifCond .ne 10, 3) := dk_154 0 10 (dk_at dksX6_reference_0 16 rfl rfl)
theorem dX6_reference_19 : decode cX6_reference 19 = .ok (.aload_n 0, 1) := dk_42 (dk_at dksX6_reference_0 19 rfl rfl)
theorem dX6_reference_20 : decode cX6_reference 20 = .ok (.invokevirtual 231, 3) := dk_182 0 231 (dk_at dksX6_reference_0 20 rfl rfl)
theorem dX6_reference_23 : decode cX6_reference 23 = .ok (.goto 7, 3) := dk_167 0 7 (dk_at dksX6_reference_1 0 rfl rfl)
theorem dX6_reference_26 : decode cX6_reference 26 = .ok (.aload_n 0, 1) := dk_42 (dk_at dksX6_reference_1 3 rfl rfl)
theorem dX6_reference_27 : decode cX6_reference 27 = .ok (.invokevirtual 234, 3) := dk_182 0 234 (dk_at dksX6_reference_1 4 rfl rfl)
theorem dX6_reference_30 : decode cX6_reference 30 = .ok (.istore_n 2, 1) := dk_61 (dk_at dksX6_reference_1 7 rfl rfl)
theorem dX6_reference_31 : decode cX6_reference 31 = .ok (.aload_n 0, 1) := dk_42 (dk_at dksX6_reference_1 8 rfl rfl)
theorem dX6_reference_32 : decode cX6_reference 32 = .ok (.invokevirtual 88, 3) := dk_182 0 88 (dk_at dksX6_reference_1 9 rfl rfl)
theorem dX6_reference_35 : decode cX6_reference 35 = .ok (.ifCond .eq 13, 3) := dk_153 0 13 (dk_at dksX6_reference_1 12 rfl rfl)
theorem dX6_reference_38 : decode cX6_reference 38 = .ok (.iload_n 2, 1) := dk_28 (dk_at dksX6_reference_1 15 rfl rfl)
theorem dX6_reference_39 : decode cX6_reference 39 = .ok (.iconst (-1), 1) := dk_2 (dk_at dksX6_reference_1 16 rfl rfl)
theorem dX6_reference_40 : decode cX6_reference 40 = .ok (.if_icmp .ne 8, 3) := dk_160 0 8 (dk_at dksX6_reference_1 17 rfl rfl)
theorem dX6_reference_43 : decode cX6_reference 43 = .ok (.aload_n 0, 1) := dk_42 (dk_at dksX6_reference_1 20 rfl rfl)
theorem dX6_reference_44 : decode cX6_reference 44 = .ok (.iconst 3, 1) := dk_6 (dk_at dksX6_reference_1 21 rfl rfl)
theorem dX6_reference_45 : decode cX6_reference 45 = .ok (.invokevirtual 211, 3) := dk_182 0 211 (dk_at dksX6_reference_2 0 rfl rfl)
theorem dX6_reference_48 : decode cX6_reference 48 = .ok (.aload_n 0, 1) := dk_42 (dk_at dksX6_reference_2 3 rfl rfl)
theorem dX6_reference_49 : decode cX6_reference 49 = .ok (.invokevirtual 214, 3) := dk_182 0 214 (dk_at dksX6_reference_2 4 rfl rfl)
theorem dX6_reference_52 : decode cX6_reference 52 = .ok (.aload_n 0, 1) := dk_42 (dk_at dksX6_reference_2 7 rfl rfl)
theorem dX6_reference_53 : decode cX6_reference 53 = .ok (.invokevirtual 88, 3) := dk_182 0 88 (dk_at dksX6_reference_2 8 rfl rfl)
theorem dX6_reference_56 : decode cX6_reference 56 = .ok (.ifCond .eq 7, 3) := dk_153 0 7 (dk_at dksX6_reference_2 11 rfl rfl)
theorem dX6_reference_59 : decode cX6_reference 59 = .ok (.iload_n 2, 1) := dk_28 (dk_at dksX6_reference_2 14 rfl rfl)
theorem dX6_reference_60 : decode cX6_reference 60 = .ok (.goto 4, 3) := dk_167 0 4 (dk_at dksX6_reference_2 15 rfl rfl)
theorem dX6_reference_63 : decode cX6_reference 63 = .ok (.iconst 0, 1) := dk_3 (dk_at dksX6_reference_2 18 rfl rfl)
theorem dX6_reference_64 : decode cX6_reference 64 = .ok (.ireturn, 1) := dk_172 (dk_at dksX6_reference_2 19 rfl rfl)
def dkwX6_parseBranch_3 : List UInt8 := [153, 0, 13, 42, 180, 0, 24, 6, 92, 46, 4, 96, 79, 177]
abbrev dktX6_parseBranch_3 : List UInt8 := dkwX6_parseBranch_3 ++ []
def dkwX6_parseBranch_2 : List UInt8 := [182, 1, 3, 182, 1, 14, 42, 27, 16, 9, 2, 182, 1, 14, 42, 182, 1, 7, 42, 182, 0, 88]
abbrev dktX6_parseBranch_2 : List UInt8 := dkwX6_parseBranch_2 ++ dktX6_parseBranch_3
def dkwX6_parseBranch_1 : List UInt8 := [184, 0, 120, 104, 96, 16, 10, 96, 182, 1, 10, 154, 0, 4, 177, 42, 27, 3, 42, 18, 172, 4, 16, 100]
abbrev dktX6_parseBranch_1 : List UInt8 := dkwX6_parseBranch_1 ++ dktX6_parseBranch_2
def dkwX6_parseBranch_0 : List UInt8 := [42, 180, 0, 24, 6, 46, 60, 42, 27, 7, 162, 0, 7, 4, 167, 0, 4, 3, 16, 11, 16, 80, 27, 6]
abbrev dktX6_parseBranch_0 : List UInt8 := dkwX6_parseBranch_0 ++ dktX6_parseBranch_1
theorem dksX6_parseBranch_0 : cX6_parseBranch.data.toList.drop 0 = dktX6_parseBranch_0 := by decide +kernel
theorem dksX6_parseBranch_1 : cX6_parseBranch.data.toList.drop 24 = dktX6_parseBranch_1 := dk_seg dksX6_parseBranch_0 24 rfl rfl
theorem dksX6_parseBranch_2 : cX6_parseBranch.data.toList.drop 48 = dktX6_parseBranch_2 := dk_seg dksX6_parseBranch_1 24 rfl rfl
theorem dksX6_parseBranch_3 : cX6_parseBranch.data.toList.drop 70 = dktX6_parseBranch_3 := dk_seg dksX6_parseBranch_2 22 rfl rfl
theorem dX6_parseBranch_0 : decode cX6_parseBranch 0 = .ok (.aload_n 0, 1) := dk_42 (dk_at dksX6_parseBranch_0 0 rfl rfl)
theorem dX6_parseBranch_1 : decode cX6_parseBranch 1 = .ok (.getfield 24, 3) := dk_180 0 24 (dk_at dksX6_parseBranch_0 1 rfl rfl)
theorem dX6_parseBranch_4 : decode cX6_parseBranch 4 = .ok (.iconst 3, 1) := dk_6 (dk_at dksX6_parseBranch_0 4 rfl rfl)
theorem dX6_parseBranch_5 : decode cX6_parseBranch 5 = .ok (.iaload, 1) := dk_46 (dk_at dksX6_parseBranch_0 5 rfl rfl)
theorem dX6_parseBranch_6 : decode cX6_parseBranch 6 = .ok (.istore_n 1, 1) := dk_60 (dk_at dksX6_parseBranch_0 6 rfl rfl)
theorem dX6_parseBranch_7 : decode cX6_parseBranch 7 = .ok (.aload_n 0, 1) := dk_42 (dk_at dksX6_parseBranch_0 7 rfl rfl)
theorem dX6_parseBranch_8 : decode cX6_parseBranch 8 = .ok (.iload_n 1, 1) := dk_27 (dk_at dksX6_parseBranch_0 8 rfl rfl)
theorem dX6_parseBranch_9 : decode cX6_parseBranch 9 = .ok (.iconst 4, 1) := dk_7 (dk_at dksX6_parseBranch_0 9 rfl rfl)
theorem dX6_parseBranch_10 : decode cX6_parseBranch 10 = .ok (.if_icmp .ge 7, 3) := dk_162 0 7 (dk_at dksX6_parseBranch_0 10 rfl rfl)
theorem dX6_parseBranch_13 : decode cX6_parseBranch 13 = .ok (.iconst 1, 1) := dk_4 (dk_at dksX6_parseBranch_0 13 rfl rfl)
theorem dX6_parseBranch_14 : decode cX6_parseBranch 14 = .ok (.goto 4, 3) := dk_167 0 4 (dk_at dksX6_parseBranch_0 14 rfl rfl)
theorem dX6_parseBranch_17 : decode cX6_parseBranch 17 = .ok (.iconst 0, 1) := dk_3 (dk_at dksX6_parseBranch_0 17 rfl rfl)
theorem dX6_parseBranch_18 : decode cX6_parseBranch 18 = .ok (.bipush 11, 2) := dk_16 11 (dk_at dksX6_parseBranch_0 18 rfl rfl)
theorem dX6_parseBranch_20 : decode cX6_parseBranch 20 = .ok (.bipush 80, 2) := dk_16 80 (dk_at dksX6_parseBranch_0 20 rfl rfl)
theorem dX6_parseBranch_22 : decode cX6_parseBranch 22 = .ok (.iload_n 1, 1) := dk_27 (dk_at dksX6_parseBranch_0 22 rfl rfl)
theorem dX6_parseBranch_23 : decode cX6_parseBranch 23 = .ok (.iconst 3, 1) := dk_6 (dk_at dksX6_parseBranch_0 23 rfl rfl)
theorem dX6_parseBranch_24 : decode cX6_parseBranch 24 = .ok (.invokestatic 120, 3) := dk_184 0 120 (dk_at dksX6_parseBranch_1 0 rfl rfl)
theorem dX6_parseBranch_27 : decode cX6_parseBranch 27 = .ok (.imul, 1) := dk_104 (dk_at dksX6_parseBranch_1 3 rfl rfl)
theorem dX6_parseBranch_28 : decode cX6_parseBranch 28 = .ok (.iadd, 1) := dk_96 (dk_at dksX6_parseBranch_1 4 rfl rfl)
theorem dX6_parseBranch_29 : decode cX6_parseBranch 29 = .ok (.bipush 10, 2) := dk_16 10 (dk_at dksX6_parseBranch_1 5 rfl rfl)
theorem dX6_parseBranch_31 : decode cX6_parseBranch 31 = .ok (.iadd, 1) := dk_96 (dk_at dksX6_parseBranch_1 7 rfl rfl)
theorem dX6_parseBranch_32 : decode cX6_parseBranch 32 = .ok (.invokevirtual 266, 3) := dk_182 1 10 (dk_at dksX6_parseBranch_1 8 rfl rfl)
theorem dX6_parseBranch_35 : decode cX6_parseBranch 35 = .ok (.ifCond .ne 4, 3) := dk_154 0 4 (dk_at dksX6_parseBranch_1 11 rfl rfl)
theorem dX6_parseBranch_38 : decode cX6_parseBranch 38 = .ok (.return_, 1) := dk_177 (dk_at dksX6_parseBranch_1 14 rfl rfl)
theorem dX6_parseBranch_39 : decode cX6_parseBranch 39 = .ok (.aload_n 0, 1) := dk_42 (dk_at dksX6_parseBranch_1 15 rfl rfl)
theorem dX6_parseBranch_40 : decode cX6_parseBranch 40 = .ok (.iload_n 1, 1) := dk_27 (dk_at dksX6_parseBranch_1 16 rfl rfl)
theorem dX6_parseBranch_41 : decode cX6_parseBranch 41 = .ok (.iconst 0, 1) := dk_3 (dk_at dksX6_parseBranch_1 17 rfl rfl)
theorem dX6_parseBranch_42 : decode cX6_parseBranch 42 = .ok (.aload_n 0, 1) := dk_42 (dk_at dksX6_parseBranch_1 18 rfl rfl)
theorem dX6_parseBranch_43 : decode cX6_parseBranch 43 = .ok (.ldc 172, 2) := dk_18 172 (dk_at dksX6_parseBranch_1 19 rfl rfl)
theorem dX6_parseBranch_45 : decode cX6_parseBranch 45 = .ok (.iconst 1, 1) := dk_4 (dk_at dksX6_parseBranch_1 21 rfl rfl)
theorem dX6_parseBranch_46 : decode cX6_parseBranch 46 = .ok (.bipush 100, 2) := dk_16 100 (dk_at dksX6_parseBranch_1 22 rfl rfl)
theorem dX6_parseBranch_48 : decode cX6_parseBranch 48 = .ok (.invokevirtual 259, 3) := dk_182 1 3 (dk_at dksX6_parseBranch_2 0 rfl rfl)
theorem dX6_parseBranch_51 : decode cX6_parseBranch 51 = .ok (.invokevirtual 270, 3) := dk_182 1 14 (dk_at dksX6_parseBranch_2 3 rfl rfl)
theorem dX6_parseBranch_54 : decode cX6_parseBranch 54 = .ok (.aload_n 0, 1) := dk_42 (dk_at dksX6_parseBranch_2 6 rfl rfl)
theorem dX6_parseBranch_55 : decode cX6_parseBranch 55 = .ok (.iload_n 1, 1) := dk_27 (dk_at dksX6_parseBranch_2 7 rfl rfl)
theorem dX6_parseBranch_56 : decode cX6_parseBranch 56 = .ok (.bipush 9, 2) := dk_16 9 (dk_at dksX6_parseBranch_2 8 rfl rfl)
theorem dX6_parseBranch_58 : decode cX6_parseBranch 58 = .ok (.iconst (-1), 1) := dk_2 (dk_at dksX6_parseBranch_2 10 rfl rfl)
theorem dX6_parseBranch_59 : decode cX6_parseBranch 59 = .ok (.invokevirtual 270, 3) := dk_182 1 14 (dk_at dksX6_parseBranch_2 11 rfl rfl)
theorem dX6_parseBranch_62 : decode cX6_parseBranch 62 = .ok (.aload_n 0, 1) := dk_42 (dk_at dksX6_parseBranch_2 14 rfl rfl)
theorem dX6_parseBranch_63 : decode cX6_parseBranch 63 = .ok (.invokevirtual 263, 3) := dk_182 1 7 (dk_at dksX6_parseBranch_2 15 rfl rfl)
theorem dX6_parseBranch_66 : decode cX6_parseBranch 66 = .ok (.aload_n 0, 1) := dk_42 (dk_at dksX6_parseBranch_2 18 rfl rfl)
theorem dX6_parseBranch_67 : decode cX6_parseBranch 67 = .ok (.invokevirtual 88, 3) := dk_182 0 88 (dk_at dksX6_parseBranch_2 19 rfl rfl)
theorem dX6_parseBranch_70 : decode cX6_parseBranch 70 = .ok (.ifCond .eq 13, 3) := dk_153 0 13 (dk_at dksX6_parseBranch_3 0 rfl rfl)
theorem dX6_parseBranch_73 : decode cX6_parseBranch 73 = .ok (.aload_n 0, 1) := dk_42 (dk_at dksX6_parseBranch_3 3 rfl rfl)
theorem dX6_parseBranch_74 : decode cX6_parseBranch 74 = .ok (.getfield 24, 3) := dk_180 0 24 (dk_at dksX6_parseBranch_3 4 rfl rfl)
theorem dX6_parseBranch_77 : decode cX6_parseBranch 77 = .ok (.iconst 3, 1) := dk_6 (dk_at dksX6_parseBranch_3 7 rfl rfl)
theorem dX6_parseBranch_78 : decode cX6_parseBranch 78 = .ok (.dup2, 1) := dk_92 (dk_at dksX6_parseBranch_3 8 rfl rfl)
theorem dX6_parseBranch_79 : decode cX6_parseBranch 79 = .ok (.iaload, 1) := dk_46 (dk_at dksX6_parseBranch_3 9 rfl rfl)
theorem dX6_parseBranch_80 : decode cX6_parseBranch 80 = .ok (.iconst 1, 1) := dk_4 (dk_at dksX6_parseBranch_3 10 rfl rfl)
theorem dX6_parseBranch_81 : decode cX6_parseBranch 81 = .ok (.iadd, 1) := dk_96 (dk_at dksX6_parseBranch_3 11 rfl rfl)
theorem dX6_parseBranch_82 : decode cX6_parseBranch 82 = .ok (.iastore, 1) := dk_79 (dk_at dksX6_parseBranch_3 12 rfl rfl)
theorem dX6_parseBranch_83 : decode cX6_parseBranch 83 = .ok (.return_, 1) := dk_177 (dk_at dksX6_parseBranch_3 13 rfl rfl)
def dkwX6_setBranch_0 : List UInt8 := [42, 180, 0, 24, 16, 11, 16, 80, 27, 104, 96, 28, 96, 29, 79, 177]
abbrev dktX6_setBranch_0 : List UInt8 := dkwX6_setBranch_0 ++ []
theorem dksX6_setBranch_0 : cX6_setBranch.data.toList.drop 0 = dktX6_setBranch_0 := by decide +kernel
theorem dX6_setBranch_0 : decode cX6_setBranch 0 = .ok (.aload_n 0, 1) := dk_42 (dk_at dksX6_setBranch_0 0 rfl rfl)
theorem dX6_setBranch_1 : decode cX6_setBranch 1 = .ok (.getfield 24, 3) := dk_180 0 24 (dk_at dksX6_setBranch_0 1 rfl rfl)
theorem dX6_setBranch_4 : decode cX6_setBranch 4 = .ok (.bipush 11, 2) := dk_16 11 (dk_at dksX6_setBranch_0 4 rfl rfl)
theorem dX6_setBranch_6 : decode cX6_setBranch 6 = .ok (.bipush 80, 2) := dk_16 80 (dk_at dksX6_setBranch_0 6 rfl rfl)
theorem dX6_setBranch_8 : decode cX6_setBranch 8 = .ok (.iload_n 1, 1) := dk_27 (dk_at dksX6_setBranch_0 8 rfl rfl)
theorem dX6_setBranch_9 : decode cX6_setBranch 9 = .ok (.imul, 1) := dk_104 (dk_at dksX6_setBranch_0 9 rfl rfl)
theorem dX6_setBranch_10 : decode cX6_setBranch 10 = .ok (.iadd, 1) := dk_96 (dk_at dksX6_setBranch_0 10 rfl rfl)
theorem dX6_setBranch_11 : decode cX6_setBranch 11 = .ok (.iload_n 2, 1) := dk_28 (dk_at dksX6_setBranch_0 11 rfl rfl)
theorem dX6_setBranch_12 : decode cX6_setBranch 12 = .ok (.iadd, 1) := dk_96 (dk_at dksX6_setBranch_0 12 rfl rfl)
theorem dX6_setBranch_13 : decode cX6_setBranch 13 = .ok (.iload_n 3, 1) := dk_29 (dk_at dksX6_setBranch_0 13 rfl rfl)
theorem dX6_setBranch_14 : decode cX6_setBranch 14 = .ok (.iastore, 1) := dk_79 (dk_at dksX6_setBranch_0 14 rfl rfl)
theorem dX6_setBranch_15 : decode cX6_setBranch 15 = .ok (.return_, 1) := dk_177 (dk_at dksX6_setBranch_0 15 rfl rfl)
def dkwX6_parseSeed_1 : List UInt8 := [180, 0, 24, 16, 9, 42, 3, 19, 1, 24, 182, 0, 221, 79, 42, 182, 1, 7, 177]
abbrev dktX6_parseSeed_1 : List UInt8 := dkwX6_parseSeed_1 ++ []
def dkwX6_parseSeed_0 : List UInt8 := [42, 180, 1, 37, 153, 0, 8, 42, 6, 182, 0, 211, 42, 4, 181, 1, 37, 42, 182, 0, 214, 42]
abbrev dktX6_parseSeed_0 : List UInt8 := dkwX6_parseSeed_0 ++ dktX6_parseSeed_1
theorem dksX6_parseSeed_0 : cX6_parseSeed.data.toList.drop 0 = dktX6_parseSeed_0 := by decide +kernel
theorem dksX6_parseSeed_1 : cX6_parseSeed.data.toList.drop 22 = dktX6_parseSeed_1 := dk_seg dksX6_parseSeed_0 22 rfl rfl
theorem dX6_parseSeed_0 : decode cX6_parseSeed 0 = .ok (.aload_n 0, 1) := dk_42 (dk_at dksX6_parseSeed_0 0 rfl rfl)
theorem dX6_parseSeed_1 : decode cX6_parseSeed 1 = .ok (.getfield 293, 3) := dk_180 1 37 (dk_at dksX6_parseSeed_0 1 rfl rfl)
theorem dX6_parseSeed_4 : decode cX6_parseSeed 4 = .ok (.ifCond .eq 8, 3) := dk_153 0 8 (dk_at dksX6_parseSeed_0 4 rfl rfl)
theorem dX6_parseSeed_7 : decode cX6_parseSeed 7 = .ok (.aload_n 0, 1) := dk_42 (dk_at dksX6_parseSeed_0 7 rfl rfl)
theorem dX6_parseSeed_8 : decode cX6_parseSeed 8 = .ok (.iconst 3, 1) := dk_6 (dk_at dksX6_parseSeed_0 8 rfl rfl)
theorem dX6_parseSeed_9 : decode cX6_parseSeed 9 = .ok (.invokevirtual 211, 3) := dk_182 0 211 (dk_at dksX6_parseSeed_0 9 rfl rfl)
theorem dX6_parseSeed_12 : decode cX6_parseSeed 12 = .ok (.aload_n 0, 1) := dk_42 (dk_at dksX6_parseSeed_0 12 rfl rfl)
theorem dX6_parseSeed_13 : decode cX6_parseSeed 13 = .ok (.iconst 1, 1) := dk_4 (dk_at dksX6_parseSeed_0 13 rfl rfl)
theorem dX6_parseSeed_14 : decode cX6_parseSeed 14 = .ok (.putfield 293, 3) := dk_181 1 37 (dk_at dksX6_parseSeed_0 14 rfl rfl)
theorem dX6_parseSeed_17 : decode cX6_parseSeed 17 = .ok (.aload_n 0, 1) := dk_42 (dk_at dksX6_parseSeed_0 17 rfl rfl)
theorem dX6_parseSeed_18 : decode cX6_parseSeed 18 = .ok (.invokevirtual 214, 3) := dk_182 0 214 (dk_at dksX6_parseSeed_0 18 rfl rfl)
theorem dX6_parseSeed_21 : decode cX6_parseSeed 21 = .ok (.aload_n 0, 1) := dk_42 (dk_at dksX6_parseSeed_0 21 rfl rfl)
theorem dX6_parseSeed_22 : decode cX6_parseSeed 22 = .ok (.getfield 24, 3) := dk_180 0 24 (dk_at dksX6_parseSeed_1 0 rfl rfl)
theorem dX6_parseSeed_25 : decode cX6_parseSeed 25 = .ok (.bipush 9, 2) := dk_16 9 (dk_at dksX6_parseSeed_1 3 rfl rfl)
theorem dX6_parseSeed_27 : decode cX6_parseSeed 27 = .ok (.aload_n 0, 1) := dk_42 (dk_at dksX6_parseSeed_1 5 rfl rfl)
theorem dX6_parseSeed_28 : decode cX6_parseSeed 28 = .ok (.iconst 0, 1) := dk_3 (dk_at dksX6_parseSeed_1 6 rfl rfl)
theorem dX6_parseSeed_29 : decode cX6_parseSeed 29 = .ok (.ldc_w 280, 3) := dk_19 1 24 (dk_at dksX6_parseSeed_1 7 rfl rfl)
theorem dX6_parseSeed_32 : decode cX6_parseSeed 32 = .ok (.invokevirtual 221, 3) := dk_182 0 221 (dk_at dksX6_parseSeed_1 10 rfl rfl)
theorem dX6_parseSeed_35 : decode cX6_parseSeed 35 = .ok (.iastore, 1) := dk_79 (dk_at dksX6_parseSeed_1 13 rfl rfl)
theorem dX6_parseSeed_36 : decode cX6_parseSeed 36 = .ok (.aload_n 0, 1) := dk_42 (dk_at dksX6_parseSeed_1 14 rfl rfl)
theorem dX6_parseSeed_37 : decode cX6_parseSeed 37 = .ok (.invokevirtual 263, 3) := dk_182 1 7 (dk_at dksX6_parseSeed_1 15 rfl rfl)
theorem dX6_parseSeed_40 : decode cX6_parseSeed 40 = .ok (.return_, 1) := dk_177 (dk_at dksX6_parseSeed_1 18 rfl rfl)
def dkwX6_parseSignature_3 : List UInt8 := [182, 0, 88, 153, 0, 13, 42, 180, 0, 24, 8, 92, 46, 4, 96, 79, 177]
abbrev dktX6_parseSignature_3 : List UInt8 := dkwX6_parseSignature_3 ++ []
def dkwX6_parseSignature_2 : List UInt8 := [96, 42, 18, 190, 182, 1, 28, 153, 0, 7, 4, 167, 0, 4, 3, 79, 42, 28, 182, 1, 31, 42]
abbrev dktX6_parseSignature_2 : List UInt8 := dkwX6_parseSignature_2 ++ dktX6_parseSignature_3
def dkwX6_parseSignature_1 : List UInt8 := [162, 0, 7, 4, 167, 0, 4, 3, 28, 6, 96, 182, 1, 10, 154, 0, 4, 177, 42, 180, 0, 24, 28, 3]
abbrev dktX6_parseSignature_1 : List UInt8 := dkwX6_parseSignature_1 ++ dktX6_parseSignature_2
def dkwX6_parseSignature_0 : List UInt8 := [42, 180, 0, 24, 8, 46, 60, 17, 1, 219, 16, 27, 27, 8, 184, 0, 120, 104, 96, 61, 42, 27, 16, 6]
abbrev dktX6_parseSignature_0 : List UInt8 := dkwX6_parseSignature_0 ++ dktX6_parseSignature_1
theorem dksX6_parseSignature_0 : cX6_parseSignature.data.toList.drop 0 = dktX6_parseSignature_0 := by decide +kernel
theorem dksX6_parseSignature_1 : cX6_parseSignature.data.toList.drop 24 = dktX6_parseSignature_1 := dk_seg dksX6_parseSignature_0 24 rfl rfl
theorem dksX6_parseSignature_2 : cX6_parseSignature.data.toList.drop 48 = dktX6_parseSignature_2 := dk_seg dksX6_parseSignature_1 24 rfl rfl
theorem dksX6_parseSignature_3 : cX6_parseSignature.data.toList.drop 70 = dktX6_parseSignature_3 := dk_seg dksX6_parseSignature_2 22 rfl rfl
theorem dX6_parseSignature_0 : decode cX6_parseSignature 0 = .ok (.aload_n 0, 1) := dk_42 (dk_at dksX6_parseSignature_0 0 rfl rfl)
theorem dX6_parseSignature_1 : decode cX6_parseSignature 1 = .ok (.getfield 24, 3) := dk_180 0 24 (dk_at dksX6_parseSignature_0 1 rfl rfl)
theorem dX6_parseSignature_4 : decode cX6_parseSignature 4 = .ok (.iconst 5, 1) := dk_8 (dk_at dksX6_parseSignature_0 4 rfl rfl)
theorem dX6_parseSignature_5 : decode cX6_parseSignature 5 = .ok (.iaload, 1) := dk_46 (dk_at dksX6_parseSignature_0 5 rfl rfl)
theorem dX6_parseSignature_6 : decode cX6_parseSignature 6 = .ok (.istore_n 1, 1) := dk_60 (dk_at dksX6_parseSignature_0 6 rfl rfl)
theorem dX6_parseSignature_7 : decode cX6_parseSignature 7 = .ok (.sipush 475, 3) := dk_17 1 219 (dk_at dksX6_parseSignature_0 7 rfl rfl)
theorem dX6_parseSignature_10 : decode cX6_parseSignature 10 = .ok (.bipush 27, 2) := dk_16 27 (dk_at dksX6_parseSignature_0 10 rfl rfl)
theorem dX6_parseSignature_12 : decode cX6_parseSignature 12 = .ok (.iload_n 1, 1) := dk_27 (dk_at dksX6_parseSignature_0 12 rfl rfl)
theorem dX6_parseSignature_13 : decode cX6_parseSignature 13 = .ok (.iconst 5, 1) := dk_8 (dk_at dksX6_parseSignature_0 13 rfl rfl)
theorem dX6_parseSignature_14 : decode cX6_parseSignature 14 = .ok (.invokestatic 120, 3) := dk_184 0 120 (dk_at dksX6_parseSignature_0 14 rfl rfl)
theorem dX6_parseSignature_17 : decode cX6_parseSignature 17 = .ok (.imul, 1) := dk_104 (dk_at dksX6_parseSignature_0 17 rfl rfl)
theorem dX6_parseSignature_18 : decode cX6_parseSignature 18 = .ok (.iadd, 1) := dk_96 (dk_at dksX6_parseSignature_0 18 rfl rfl)
theorem dX6_parseSignature_19 : decode cX6_parseSignature 19 = .ok (.istore_n 2, 1) := dk_61 (dk_at dksX6_parseSignature_0 19 rfl rfl)
theorem dX6_parseSignature_20 : decode cX6_parseSignature 20 = .ok (.aload_n 0, 1) := dk_42 (dk_at dksX6_parseSignature_0 20 rfl rfl)
theorem dX6_parseSignature_21 : decode cX6_parseSignature 21 = .ok (.iload_n 1, 1) := dk_27 (dk_at dksX6_parseSignature_0 21 rfl rfl)
theorem dX6_parseSignature_22 : decode cX6_parseSignature 22 = .ok (.bipush 6, 2) := dk_16 6 (dk_at dksX6_parseSignature_0 22 rfl rfl)
theorem dX6_parseSignature_24 : decode cX6_parseSignature 24 = .ok (.if_icmp .ge 7, 3) := dk_162 0 7 (dk_at dksX6_parseSignature_1 0 rfl rfl)
theorem dX6_parseSignature_27 : decode cX6_parseSignature 27 = .ok (.iconst 1, 1) := dk_4 (dk_at dksX6_parseSignature_1 3 rfl rfl)
theorem dX6_parseSignature_28 : decode cX6_parseSignature 28 = .ok (.goto 4, 3) := dk_167 0 4 (dk_at dksX6_parseSignature_1 4 rfl rfl)
theorem dX6_parseSignature_31 : decode cX6_parseSignature 31 = .ok (.iconst 0, 1) := dk_3 (dk_at dksX6_parseSignature_1 7 rfl rfl)
theorem dX6_parseSignature_32 : decode cX6_parseSignature 32 = .ok (.iload_n 2, 1) := dk_28 (dk_at dksX6_parseSignature_1 8 rfl rfl)
theorem dX6_parseSignature_33 : decode cX6_parseSignature 33 = .ok (.iconst 3, 1) := dk_6 (dk_at dksX6_parseSignature_1 9 rfl rfl)
theorem dX6_parseSignature_34 : decode cX6_parseSignature 34 = .ok (.iadd, 1) := dk_96 (dk_at dksX6_parseSignature_1 10 rfl rfl)
theorem dX6_parseSignature_35 : decode cX6_parseSignature 35 = .ok (.invokevirtual 266, 3) := dk_182 1 10 (dk_at dksX6_parseSignature_1 11 rfl rfl)
theorem dX6_parseSignature_38 : decode cX6_parseSignature 38 = .ok (.ifCond .ne 4, 3) := dk_154 0 4 (dk_at dksX6_parseSignature_1 14 rfl rfl)
theorem dX6_parseSignature_41 : decode cX6_parseSignature 41 = .ok (.return_, 1) := dk_177 (dk_at dksX6_parseSignature_1 17 rfl rfl)
theorem dX6_parseSignature_42 : decode cX6_parseSignature 42 = .ok (.aload_n 0, 1) := dk_42 (dk_at dksX6_parseSignature_1 18 rfl rfl)
theorem dX6_parseSignature_43 : decode cX6_parseSignature 43 = .ok (.getfield 24, 3) := dk_180 0 24 (dk_at dksX6_parseSignature_1 19 rfl rfl)
theorem dX6_parseSignature_46 : decode cX6_parseSignature 46 = .ok (.iload_n 2, 1) := dk_28 (dk_at dksX6_parseSignature_1 22 rfl rfl)
theorem dX6_parseSignature_47 : decode cX6_parseSignature 47 = .ok (.iconst 0, 1) := dk_3 (dk_at dksX6_parseSignature_1 23 rfl rfl)
theorem dX6_parseSignature_48 : decode cX6_parseSignature 48 = .ok (.iadd, 1) := dk_96 (dk_at dksX6_parseSignature_2 0 rfl rfl)
theorem dX6_parseSignature_49 : decode cX6_parseSignature 49 = .ok (.aload_n 0, 1) := dk_42 (dk_at dksX6_parseSignature_2 1 rfl rfl)
theorem dX6_parseSignature_50 : decode cX6_parseSignature 50 = .ok (.ldc 190, 2) := dk_18 190 (dk_at dksX6_parseSignature_2 2 rfl rfl)
theorem dX6_parseSignature_52 : decode cX6_parseSignature 52 = .ok (.invokevirtual 284, 3) := dk_182 1 28 (dk_at dksX6_parseSignature_2 4 rfl rfl)
theorem dX6_parseSignature_55 : decode cX6_parseSignature 55 = .ok (.ifCond .eq 7, 3) := dk_153 0 7 (dk_at dksX6_parseSignature_2 7 rfl rfl)
theorem dX6_parseSignature_58 : decode cX6_parseSignature 58 = .ok (.iconst 1, 1) := dk_4 (dk_at dksX6_parseSignature_2 10 rfl rfl)
theorem dX6_parseSignature_59 : decode cX6_parseSignature 59 = .ok (.goto 4, 3) := dk_167 0 4 (dk_at dksX6_parseSignature_2 11 rfl rfl)
theorem dX6_parseSignature_62 : decode cX6_parseSignature 62 = .ok (.iconst 0, 1) := dk_3 (dk_at dksX6_parseSignature_2 14 rfl rfl)
theorem dX6_parseSignature_63 : decode cX6_parseSignature 63 = .ok (.iastore, 1) := dk_79 (dk_at dksX6_parseSignature_2 15 rfl rfl)
theorem dX6_parseSignature_64 : decode cX6_parseSignature 64 = .ok (.aload_n 0, 1) := dk_42 (dk_at dksX6_parseSignature_2 16 rfl rfl)
theorem dX6_parseSignature_65 : decode cX6_parseSignature 65 = .ok (.iload_n 2, 1) := dk_28 (dk_at dksX6_parseSignature_2 17 rfl rfl)
theorem dX6_parseSignature_66 : decode cX6_parseSignature 66 = .ok (.invokevirtual 287, 3) := dk_182 1 31 (dk_at dksX6_parseSignature_2 18 rfl rfl)
theorem dX6_parseSignature_69 : decode cX6_parseSignature 69 = .ok (.aload_n 0, 1) := dk_42 (dk_at dksX6_parseSignature_2 21 rfl rfl)
theorem dX6_parseSignature_70 : decode cX6_parseSignature 70 = .ok (.invokevirtual 88, 3) := dk_182 0 88 (dk_at dksX6_parseSignature_3 0 rfl rfl)
theorem dX6_parseSignature_73 : decode cX6_parseSignature 73 = .ok (.ifCond .eq 13, 3) := dk_153 0 13 (dk_at dksX6_parseSignature_3 3 rfl rfl)
theorem dX6_parseSignature_76 : decode cX6_parseSignature 76 = .ok (.aload_n 0, 1) := dk_42 (dk_at dksX6_parseSignature_3 6 rfl rfl)
theorem dX6_parseSignature_77 : decode cX6_parseSignature 77 = .ok (.getfield 24, 3) := dk_180 0 24 (dk_at dksX6_parseSignature_3 7 rfl rfl)
theorem dX6_parseSignature_80 : decode cX6_parseSignature 80 = .ok (.iconst 5, 1) := dk_8 (dk_at dksX6_parseSignature_3 10 rfl rfl)
theorem dX6_parseSignature_81 : decode cX6_parseSignature 81 = .ok (.dup2, 1) := dk_92 (dk_at dksX6_parseSignature_3 11 rfl rfl)
theorem dX6_parseSignature_82 : decode cX6_parseSignature 82 = .ok (.iaload, 1) := dk_46 (dk_at dksX6_parseSignature_3 12 rfl rfl)
theorem dX6_parseSignature_83 : decode cX6_parseSignature 83 = .ok (.iconst 1, 1) := dk_4 (dk_at dksX6_parseSignature_3 13 rfl rfl)
theorem dX6_parseSignature_84 : decode cX6_parseSignature 84 = .ok (.iadd, 1) := dk_96 (dk_at dksX6_parseSignature_3 14 rfl rfl)
theorem dX6_parseSignature_85 : decode cX6_parseSignature 85 = .ok (.iastore, 1) := dk_79 (dk_at dksX6_parseSignature_3 15 rfl rfl)
theorem dX6_parseSignature_86 : decode cX6_parseSignature 86 = .ok (.return_, 1) := dk_177 (dk_at dksX6_parseSignature_3 16 rfl rfl)
def dkwX6_takes_0 : List UInt8 := [42, 43, 182, 0, 208, 61, 28, 153, 0, 7, 42, 182, 0, 214, 28, 172]
abbrev dktX6_takes_0 : List UInt8 := dkwX6_takes_0 ++ []
theorem dksX6_takes_0 : cX6_takes.data.toList.drop 0 = dktX6_takes_0 := by decide +kernel
theorem dX6_takes_0 : decode cX6_takes 0 = .ok (.aload_n 0, 1) := dk_42 (dk_at dksX6_takes_0 0 rfl rfl)
theorem dX6_takes_1 : decode cX6_takes 1 = .ok (.aload_n 1, 1) := dk_43 (dk_at dksX6_takes_0 1 rfl rfl)
theorem dX6_takes_2 : decode cX6_takes 2 = .ok (.invokevirtual 208, 3) := dk_182 0 208 (dk_at dksX6_takes_0 2 rfl rfl)
theorem dX6_takes_5 : decode cX6_takes 5 = .ok (.istore_n 2, 1) := dk_61 (dk_at dksX6_takes_0 5 rfl rfl)
theorem dX6_takes_6 : decode cX6_takes 6 = .ok (.iload_n 2, 1) := dk_28 (dk_at dksX6_takes_0 6 rfl rfl)
theorem dX6_takes_7 : decode cX6_takes 7 = .ok (.ifCond .eq 7, 3) := dk_153 0 7 (dk_at dksX6_takes_0 7 rfl rfl)
theorem dX6_takes_10 : decode cX6_takes 10 = .ok (.aload_n 0, 1) := dk_42 (dk_at dksX6_takes_0 10 rfl rfl)
theorem dX6_takes_11 : decode cX6_takes 11 = .ok (.invokevirtual 214, 3) := dk_182 0 214 (dk_at dksX6_takes_0 11 rfl rfl)
theorem dX6_takes_14 : decode cX6_takes 14 = .ok (.iload_n 2, 1) := dk_28 (dk_at dksX6_takes_0 14 rfl rfl)
theorem dX6_takes_15 : decode cX6_takes 15 = .ok (.ireturn, 1) := dk_172 (dk_at dksX6_takes_0 15 rfl rfl)
def dkwX6_parseTests_1 : List UInt8 := [182, 1, 7, 177]
abbrev dktX6_parseTests_1 : List UInt8 := dkwX6_parseTests_1 ++ []
def dkwX6_parseTests_0 : List UInt8 := [42, 27, 182, 1, 25, 42, 18, 192, 182, 1, 28, 153, 0, 11, 42, 27, 182, 1, 25, 167, 255, 242, 42]
abbrev dktX6_parseTests_0 : List UInt8 := dkwX6_parseTests_0 ++ dktX6_parseTests_1
theorem dksX6_parseTests_0 : cX6_parseTests.data.toList.drop 0 = dktX6_parseTests_0 := by decide +kernel
theorem dksX6_parseTests_1 : cX6_parseTests.data.toList.drop 23 = dktX6_parseTests_1 := dk_seg dksX6_parseTests_0 23 rfl rfl
theorem dX6_parseTests_0 : decode cX6_parseTests 0 = .ok (.aload_n 0, 1) := dk_42 (dk_at dksX6_parseTests_0 0 rfl rfl)
theorem dX6_parseTests_1 : decode cX6_parseTests 1 = .ok (.iload_n 1, 1) := dk_27 (dk_at dksX6_parseTests_0 1 rfl rfl)
theorem dX6_parseTests_2 : decode cX6_parseTests 2 = .ok (.invokevirtual 281, 3) := dk_182 1 25 (dk_at dksX6_parseTests_0 2 rfl rfl)
theorem dX6_parseTests_5 : decode cX6_parseTests 5 = .ok (.aload_n 0, 1) := dk_42 (dk_at dksX6_parseTests_0 5 rfl rfl)
theorem dX6_parseTests_6 : decode cX6_parseTests 6 = .ok (.ldc 192, 2) := dk_18 192 (dk_at dksX6_parseTests_0 6 rfl rfl)
theorem dX6_parseTests_8 : decode cX6_parseTests 8 = .ok (.invokevirtual 284, 3) := dk_182 1 28 (dk_at dksX6_parseTests_0 8 rfl rfl)
theorem dX6_parseTests_11 : decode cX6_parseTests 11 = .ok (.ifCond .eq 11, 3) := dk_153 0 11 (dk_at dksX6_parseTests_0 11 rfl rfl)
theorem dX6_parseTests_14 : decode cX6_parseTests 14 = .ok (.aload_n 0, 1) := dk_42 (dk_at dksX6_parseTests_0 14 rfl rfl)
theorem dX6_parseTests_15 : decode cX6_parseTests 15 = .ok (.iload_n 1, 1) := dk_27 (dk_at dksX6_parseTests_0 15 rfl rfl)
theorem dX6_parseTests_16 : decode cX6_parseTests 16 = .ok (.invokevirtual 281, 3) := dk_182 1 25 (dk_at dksX6_parseTests_0 16 rfl rfl)
theorem dX6_parseTests_19 : decode cX6_parseTests 19 = .ok (.goto (-14), 3) := dk_167 255 242 (dk_at dksX6_parseTests_0 19 rfl rfl)
theorem dX6_parseTests_22 : decode cX6_parseTests 22 = .ok (.aload_n 0, 1) := dk_42 (dk_at dksX6_parseTests_0 22 rfl rfl)
theorem dX6_parseTests_23 : decode cX6_parseTests 23 = .ok (.invokevirtual 263, 3) := dk_182 1 7 (dk_at dksX6_parseTests_1 0 rfl rfl)
theorem dX6_parseTests_26 : decode cX6_parseTests 26 = .ok (.return_, 1) := dk_177 (dk_at dksX6_parseTests_1 3 rfl rfl)
def dkwX6_parseTest_7 : List UInt8 := [46, 4, 96, 79, 177]
abbrev dktX6_parseTest_7 : List UInt8 := dkwX6_parseTest_7 ++ []
def dkwX6_parseTest_6 : List UInt8 := [180, 0, 24, 27, 16, 9, 96, 6, 29, 104, 96, 5, 96, 21, 5, 79, 42, 180, 0, 24, 27, 4, 96, 92]
abbrev dktX6_parseTest_6 : List UInt8 := dkwX6_parseTest_6 ++ dktX6_parseTest_7
def dkwX6_parseTest_5 : List UInt8 := [6, 29, 104, 96, 28, 79, 42, 180, 0, 24, 27, 16, 9, 96, 6, 29, 104, 96, 4, 96, 21, 4, 79, 42]
abbrev dktX6_parseTest_5 : List UInt8 := dkwX6_parseTest_5 ++ dktX6_parseTest_6
def dkwX6_parseTest_4 : List UInt8 := [19, 1, 24, 182, 0, 221, 54, 5, 42, 182, 0, 88, 154, 0, 4, 177, 42, 180, 0, 24, 27, 16, 9, 96]
abbrev dktX6_parseTest_4 : List UInt8 := dkwX6_parseTest_4 ++ dktX6_parseTest_5
def dkwX6_parseTest_3 : List UInt8 := [154, 0, 17, 42, 16, 62, 182, 0, 255, 154, 0, 8, 42, 4, 182, 0, 211, 42, 182, 0, 214, 42, 3]
abbrev dktX6_parseTest_3 : List UInt8 := dkwX6_parseTest_3 ++ dktX6_parseTest_4
def dkwX6_parseTest_2 : List UInt8 := [160, 0, 8, 42, 7, 182, 0, 211, 42, 182, 0, 214, 42, 180, 0, 116, 54, 4, 42, 16, 60, 182, 0, 255]
abbrev dktX6_parseTest_2 : List UInt8 := dkwX6_parseTest_2 ++ dktX6_parseTest_3
def dkwX6_parseTest_1 : List UInt8 := [28, 2, 160, 0, 8, 42, 4, 182, 0, 211, 42, 180, 0, 24, 27, 4, 96, 46, 62, 29, 16, 6]
abbrev dktX6_parseTest_1 : List UInt8 := dkwX6_parseTest_1 ++ dktX6_parseTest_2
def dkwX6_parseTest_0 : List UInt8 := [42, 182, 0, 88, 153, 0, 18, 42, 180, 0, 105, 4, 160, 0, 10, 42, 182, 0, 202, 167, 0, 4, 2, 61]
abbrev dktX6_parseTest_0 : List UInt8 := dkwX6_parseTest_0 ++ dktX6_parseTest_1
theorem dksX6_parseTest_0 : cX6_parseTest.data.toList.drop 0 = dktX6_parseTest_0 := by decide +kernel
theorem dksX6_parseTest_1 : cX6_parseTest.data.toList.drop 24 = dktX6_parseTest_1 := dk_seg dksX6_parseTest_0 24 rfl rfl
theorem dksX6_parseTest_2 : cX6_parseTest.data.toList.drop 46 = dktX6_parseTest_2 := dk_seg dksX6_parseTest_1 22 rfl rfl
theorem dksX6_parseTest_3 : cX6_parseTest.data.toList.drop 70 = dktX6_parseTest_3 := dk_seg dksX6_parseTest_2 24 rfl rfl
theorem dksX6_parseTest_4 : cX6_parseTest.data.toList.drop 93 = dktX6_parseTest_4 := dk_seg dksX6_parseTest_3 23 rfl rfl
theorem dksX6_parseTest_5 : cX6_parseTest.data.toList.drop 117 = dktX6_parseTest_5 := dk_seg dksX6_parseTest_4 24 rfl rfl
theorem dksX6_parseTest_6 : cX6_parseTest.data.toList.drop 141 = dktX6_parseTest_6 := dk_seg dksX6_parseTest_5 24 rfl rfl
theorem dksX6_parseTest_7 : cX6_parseTest.data.toList.drop 165 = dktX6_parseTest_7 := dk_seg dksX6_parseTest_6 24 rfl rfl
theorem dX6_parseTest_0 : decode cX6_parseTest 0 = .ok (.aload_n 0, 1) := dk_42 (dk_at dksX6_parseTest_0 0 rfl rfl)
theorem dX6_parseTest_1 : decode cX6_parseTest 1 = .ok (.invokevirtual 88, 3) := dk_182 0 88 (dk_at dksX6_parseTest_0 1 rfl rfl)
theorem dX6_parseTest_4 : decode cX6_parseTest 4 = .ok (.ifCond .eq 18, 3) := dk_153 0 18 (dk_at dksX6_parseTest_0 4 rfl rfl)
theorem dX6_parseTest_7 : decode cX6_parseTest 7 = .ok (.aload_n 0, 1) := dk_42 (dk_at dksX6_parseTest_0 7 rfl rfl)
theorem dX6_parseTest_8 : decode cX6_parseTest 8 = .ok (.getfield 105, 3) := dk_180 0 105 (dk_at dksX6_parseTest_0 8 rfl rfl)
theorem dX6_parseTest_11 : decode cX6_parseTest 11 = .ok (.iconst 1, 1) := dk_4 (dk_at dksX6_parseTest_0 11 rfl rfl)
theorem dX6_parseTest_12 : decode cX6_parseTest 12 = .ok (.if_icmp .ne 10, 3) := dk_160 0 10 (dk_at dksX6_parseTest_0 12 rfl rfl)
theorem dX6_parseTest_15 : decode cX6_parseTest 15 = .ok (.aload_n 0, 1) := dk_42 (dk_at dksX6_parseTest_0 15 rfl rfl)
theorem dX6_parseTest_16 : decode cX6_parseTest 16 = .ok (.invokevirtual 202, 3) := dk_182 0 202 (dk_at dksX6_parseTest_0 16 rfl rfl)
theorem dX6_parseTest_19 : decode cX6_parseTest 19 = .ok (.goto 4, 3) := dk_167 0 4 (dk_at dksX6_parseTest_0 19 rfl rfl)
theorem dX6_parseTest_22 : decode cX6_parseTest 22 = .ok (.iconst (-1), 1) := dk_2 (dk_at dksX6_parseTest_0 22 rfl rfl)
theorem dX6_parseTest_23 : decode cX6_parseTest 23 = .ok (.istore_n 2, 1) := dk_61 (dk_at dksX6_parseTest_0 23 rfl rfl)
theorem dX6_parseTest_24 : decode cX6_parseTest 24 = .ok (.iload_n 2, 1) := dk_28 (dk_at dksX6_parseTest_1 0 rfl rfl)
theorem dX6_parseTest_25 : decode cX6_parseTest 25 = .ok (.iconst (-1), 1) := dk_2 (dk_at dksX6_parseTest_1 1 rfl rfl)
theorem dX6_parseTest_26 : decode cX6_parseTest 26 = .ok (.if_icmp .ne 8, 3) := dk_160 0 8 (dk_at dksX6_parseTest_1 2 rfl rfl)
theorem dX6_parseTest_29 : decode cX6_parseTest 29 = .ok (.aload_n 0, 1) := dk_42 (dk_at dksX6_parseTest_1 5 rfl rfl)
theorem dX6_parseTest_30 : decode cX6_parseTest 30 = .ok (.iconst 1, 1) := dk_4 (dk_at dksX6_parseTest_1 6 rfl rfl)
theorem dX6_parseTest_31 : decode cX6_parseTest 31 = .ok (.invokevirtual 211, 3) := dk_182 0 211 (dk_at dksX6_parseTest_1 7 rfl rfl)
theorem dX6_parseTest_34 : decode cX6_parseTest 34 = .ok (.aload_n 0, 1) := dk_42 (dk_at dksX6_parseTest_1 10 rfl rfl)
theorem dX6_parseTest_35 : decode cX6_parseTest 35 = .ok (.getfield 24, 3) := dk_180 0 24 (dk_at dksX6_parseTest_1 11 rfl rfl)
theorem dX6_parseTest_38 : decode cX6_parseTest 38 = .ok (.iload_n 1, 1) := dk_27 (dk_at dksX6_parseTest_1 14 rfl rfl)
theorem dX6_parseTest_39 : decode cX6_parseTest 39 = .ok (.iconst 1, 1) := dk_4 (dk_at dksX6_parseTest_1 15 rfl rfl)
theorem dX6_parseTest_40 : decode cX6_parseTest 40 = .ok (.iadd, 1) := dk_96 (dk_at dksX6_parseTest_1 16 rfl rfl)
theorem dX6_parseTest_41 : decode cX6_parseTest 41 = .ok (.iaload, 1) := dk_46 (dk_at dksX6_parseTest_1 17 rfl rfl)
theorem dX6_parseTest_42 : decode cX6_parseTest 42 = .ok (.istore_n 3, 1) := dk_62 (dk_at dksX6_parseTest_1 18 rfl rfl)
theorem dX6_parseTest_43 : decode cX6_parseTest 43 = .ok (.iload_n 3, 1) := dk_29 (dk_at dksX6_parseTest_1 19 rfl rfl)
theorem dX6_parseTest_44 : decode cX6_parseTest 44 = .ok (.bipush 6, 2) := dk_16 6 (dk_at dksX6_parseTest_1 20 rfl rfl)
theorem dX6_parseTest_46 : decode cX6_parseTest 46 = .ok (.if_icmp .ne 8, 3) := dk_160 0 8 (dk_at dksX6_parseTest_2 0 rfl rfl)
theorem dX6_parseTest_49 : decode cX6_parseTest 49 = .ok (.aload_n 0, 1) := dk_42 (dk_at dksX6_parseTest_2 3 rfl rfl)
theorem dX6_parseTest_50 : decode cX6_parseTest 50 = .ok (.iconst 4, 1) := dk_7 (dk_at dksX6_parseTest_2 4 rfl rfl)
theorem dX6_parseTest_51 : decode cX6_parseTest 51 = .ok (.invokevirtual 211, 3) := dk_182 0 211 (dk_at dksX6_parseTest_2 5 rfl rfl)
theorem dX6_parseTest_54 : decode cX6_parseTest 54 = .ok (.aload_n 0, 1) := dk_42 (dk_at dksX6_parseTest_2 8 rfl rfl)
theorem dX6_parseTest_55 : decode cX6_parseTest 55 = .ok (.invokevirtual 214, 3) := dk_182 0 214 (dk_at dksX6_parseTest_2 9 rfl rfl)
theorem dX6_parseTest_58 : decode cX6_parseTest 58 = .ok (.aload_n 0, 1) := dk_42 (dk_at dksX6_parseTest_2 12 rfl rfl)
theorem dX6_parseTest_59 : decode cX6_parseTest 59 = .ok (.getfield 116, 3) := dk_180 0 116 (dk_at dksX6_parseTest_2 13 rfl rfl)
theorem dX6_parseTest_62 : decode cX6_parseTest 62 = .ok (.istore 4, 2) := dk_54 4 (dk_at dksX6_parseTest_2 16 rfl rfl)
theorem dX6_parseTest_64 : decode cX6_parseTest 64 = .ok (.aload_n 0, 1) := dk_42 (dk_at dksX6_parseTest_2 18 rfl rfl)
theorem dX6_parseTest_65 : decode cX6_parseTest 65 = .ok (.bipush 60, 2) := dk_16 60 (dk_at dksX6_parseTest_2 19 rfl rfl)
theorem dX6_parseTest_67 : decode cX6_parseTest 67 = .ok (.invokevirtual 255, 3) := dk_182 0 255 (dk_at dksX6_parseTest_2 21 rfl rfl)
theorem dX6_parseTest_70 : decode cX6_parseTest 70 = .ok (.ifCond .ne 17, 3) := dk_154 0 17 (dk_at dksX6_parseTest_3 0 rfl rfl)
theorem dX6_parseTest_73 : decode cX6_parseTest 73 = .ok (.aload_n 0, 1) := dk_42 (dk_at dksX6_parseTest_3 3 rfl rfl)
theorem dX6_parseTest_74 : decode cX6_parseTest 74 = .ok (.bipush 62, 2) := dk_16 62 (dk_at dksX6_parseTest_3 4 rfl rfl)
theorem dX6_parseTest_76 : decode cX6_parseTest 76 = .ok (.invokevirtual 255, 3) := dk_182 0 255 (dk_at dksX6_parseTest_3 6 rfl rfl)
theorem dX6_parseTest_79 : decode cX6_parseTest 79 = .ok (.ifCond .ne 8, 3) := dk_154 0 8 (dk_at dksX6_parseTest_3 9 rfl rfl)
theorem dX6_parseTest_82 : decode cX6_parseTest 82 = .ok (.aload_n 0, 1) := dk_42 (dk_at dksX6_parseTest_3 12 rfl rfl)
theorem dX6_parseTest_83 : decode cX6_parseTest 83 = .ok (.iconst 1, 1) := dk_4 (dk_at dksX6_parseTest_3 13 rfl rfl)
theorem dX6_parseTest_84 : decode cX6_parseTest 84 = .ok (.invokevirtual 211, 3) := dk_182 0 211 (dk_at dksX6_parseTest_3 14 rfl rfl)
theorem dX6_parseTest_87 : decode cX6_parseTest 87 = .ok (.aload_n 0, 1) := dk_42 (dk_at dksX6_parseTest_3 17 rfl rfl)
theorem dX6_parseTest_88 : decode cX6_parseTest 88 = .ok (.invokevirtual 214, 3) := dk_182 0 214 (dk_at dksX6_parseTest_3 18 rfl rfl)
theorem dX6_parseTest_91 : decode cX6_parseTest 91 = .ok (.aload_n 0, 1) := dk_42 (dk_at dksX6_parseTest_3 21 rfl rfl)
theorem dX6_parseTest_92 : decode cX6_parseTest 92 = .ok (.iconst 0, 1) := dk_3 (dk_at dksX6_parseTest_3 22 rfl rfl)
theorem dX6_parseTest_93 : decode cX6_parseTest 93 = .ok (.ldc_w 280, 3) := dk_19 1 24 (dk_at dksX6_parseTest_4 0 rfl rfl)
theorem dX6_parseTest_96 : decode cX6_parseTest 96 = .ok (.invokevirtual 221, 3) := dk_182 0 221 (dk_at dksX6_parseTest_4 3 rfl rfl)
theorem dX6_parseTest_99 : decode cX6_parseTest 99 = .ok (.istore 5, 2) := dk_54 5 (dk_at dksX6_parseTest_4 6 rfl rfl)
theorem dX6_parseTest_101 : decode cX6_parseTest 101 = .ok (.aload_n 0, 1) := dk_42 (dk_at dksX6_parseTest_4 8 rfl rfl)
theorem dX6_parseTest_102 : decode cX6_parseTest 102 = .ok (.invokevirtual 88, 3) := dk_182 0 88 (dk_at dksX6_parseTest_4 9 rfl rfl)
theorem dX6_parseTest_105 : decode cX6_parseTest 105 = .ok (.ifCond .ne 4, 3) := dk_154 0 4 (dk_at dksX6_parseTest_4 12 rfl rfl)
theorem dX6_parseTest_108 : decode cX6_parseTest 108 = .ok (.return_, 1) := dk_177 (dk_at dksX6_parseTest_4 15 rfl rfl)
theorem dX6_parseTest_109 : decode cX6_parseTest 109 = .ok (.aload_n 0, 1) := dk_42 (dk_at dksX6_parseTest_4 16 rfl rfl)
theorem dX6_parseTest_110 : decode cX6_parseTest 110 = .ok (.getfield 24, 3) := dk_180 0 24 (dk_at dksX6_parseTest_4 17 rfl rfl)
theorem dX6_parseTest_113 : decode cX6_parseTest 113 = .ok (.iload_n 1, 1) := dk_27 (dk_at dksX6_parseTest_4 20 rfl rfl)
theorem dX6_parseTest_114 : decode cX6_parseTest 114 = .ok (.bipush 9, 2) := dk_16 9 (dk_at dksX6_parseTest_4 21 rfl rfl)
theorem dX6_parseTest_116 : decode cX6_parseTest 116 = .ok (.iadd, 1) := dk_96 (dk_at dksX6_parseTest_4 23 rfl rfl)
theorem dX6_parseTest_117 : decode cX6_parseTest 117 = .ok (.iconst 3, 1) := dk_6 (dk_at dksX6_parseTest_5 0 rfl rfl)
theorem dX6_parseTest_118 : decode cX6_parseTest 118 = .ok (.iload_n 3, 1) := dk_29 (dk_at dksX6_parseTest_5 1 rfl rfl)
theorem dX6_parseTest_119 : decode cX6_parseTest 119 = .ok (.imul, 1) := dk_104 (dk_at dksX6_parseTest_5 2 rfl rfl)
theorem dX6_parseTest_120 : decode cX6_parseTest 120 = .ok (.iadd, 1) := dk_96 (dk_at dksX6_parseTest_5 3 rfl rfl)
theorem dX6_parseTest_121 : decode cX6_parseTest 121 = .ok (.iload_n 2, 1) := dk_28 (dk_at dksX6_parseTest_5 4 rfl rfl)
theorem dX6_parseTest_122 : decode cX6_parseTest 122 = .ok (.iastore, 1) := dk_79 (dk_at dksX6_parseTest_5 5 rfl rfl)
theorem dX6_parseTest_123 : decode cX6_parseTest 123 = .ok (.aload_n 0, 1) := dk_42 (dk_at dksX6_parseTest_5 6 rfl rfl)
theorem dX6_parseTest_124 : decode cX6_parseTest 124 = .ok (.getfield 24, 3) := dk_180 0 24 (dk_at dksX6_parseTest_5 7 rfl rfl)
theorem dX6_parseTest_127 : decode cX6_parseTest 127 = .ok (.iload_n 1, 1) := dk_27 (dk_at dksX6_parseTest_5 10 rfl rfl)
theorem dX6_parseTest_128 : decode cX6_parseTest 128 = .ok (.bipush 9, 2) := dk_16 9 (dk_at dksX6_parseTest_5 11 rfl rfl)
theorem dX6_parseTest_130 : decode cX6_parseTest 130 = .ok (.iadd, 1) := dk_96 (dk_at dksX6_parseTest_5 13 rfl rfl)
theorem dX6_parseTest_131 : decode cX6_parseTest 131 = .ok (.iconst 3, 1) := dk_6 (dk_at dksX6_parseTest_5 14 rfl rfl)
theorem dX6_parseTest_132 : decode cX6_parseTest 132 = .ok (.iload_n 3, 1) := dk_29 (dk_at dksX6_parseTest_5 15 rfl rfl)
theorem dX6_parseTest_133 : decode cX6_parseTest 133 = .ok (.imul, 1) := dk_104 (dk_at dksX6_parseTest_5 16 rfl rfl)
theorem dX6_parseTest_134 : decode cX6_parseTest 134 = .ok (.iadd, 1) := dk_96 (dk_at dksX6_parseTest_5 17 rfl rfl)
theorem dX6_parseTest_135 : decode cX6_parseTest 135 = .ok (.iconst 1, 1) := dk_4 (dk_at dksX6_parseTest_5 18 rfl rfl)
theorem dX6_parseTest_136 : decode cX6_parseTest 136 = .ok (.iadd, 1) := dk_96 (dk_at dksX6_parseTest_5 19 rfl rfl)
theorem dX6_parseTest_137 : decode cX6_parseTest 137 = .ok (.iload 4, 2) := dk_21 4 (dk_at dksX6_parseTest_5 20 rfl rfl)
theorem dX6_parseTest_139 : decode cX6_parseTest 139 = .ok (.iastore, 1) := dk_79 (dk_at dksX6_parseTest_5 22 rfl rfl)
theorem dX6_parseTest_140 : decode cX6_parseTest 140 = .ok (.aload_n 0, 1) := dk_42 (dk_at dksX6_parseTest_5 23 rfl rfl)
theorem dX6_parseTest_141 : decode cX6_parseTest 141 = .ok (.getfield 24, 3) := dk_180 0 24 (dk_at dksX6_parseTest_6 0 rfl rfl)
theorem dX6_parseTest_144 : decode cX6_parseTest 144 = .ok (.iload_n 1, 1) := dk_27 (dk_at dksX6_parseTest_6 3 rfl rfl)
theorem dX6_parseTest_145 : decode cX6_parseTest 145 = .ok (.bipush 9, 2) := dk_16 9 (dk_at dksX6_parseTest_6 4 rfl rfl)
theorem dX6_parseTest_147 : decode cX6_parseTest 147 = .ok (.iadd, 1) := dk_96 (dk_at dksX6_parseTest_6 6 rfl rfl)
theorem dX6_parseTest_148 : decode cX6_parseTest 148 = .ok (.iconst 3, 1) := dk_6 (dk_at dksX6_parseTest_6 7 rfl rfl)
theorem dX6_parseTest_149 : decode cX6_parseTest 149 = .ok (.iload_n 3, 1) := dk_29 (dk_at dksX6_parseTest_6 8 rfl rfl)
theorem dX6_parseTest_150 : decode cX6_parseTest 150 = .ok (.imul, 1) := dk_104 (dk_at dksX6_parseTest_6 9 rfl rfl)
theorem dX6_parseTest_151 : decode cX6_parseTest 151 = .ok (.iadd, 1) := dk_96 (dk_at dksX6_parseTest_6 10 rfl rfl)
theorem dX6_parseTest_152 : decode cX6_parseTest 152 = .ok (.iconst 2, 1) := dk_5 (dk_at dksX6_parseTest_6 11 rfl rfl)
theorem dX6_parseTest_153 : decode cX6_parseTest 153 = .ok (.iadd, 1) := dk_96 (dk_at dksX6_parseTest_6 12 rfl rfl)
theorem dX6_parseTest_154 : decode cX6_parseTest 154 = .ok (.iload 5, 2) := dk_21 5 (dk_at dksX6_parseTest_6 13 rfl rfl)
theorem dX6_parseTest_156 : decode cX6_parseTest 156 = .ok (.iastore, 1) := dk_79 (dk_at dksX6_parseTest_6 15 rfl rfl)
theorem dX6_parseTest_157 : decode cX6_parseTest 157 = .ok (.aload_n 0, 1) := dk_42 (dk_at dksX6_parseTest_6 16 rfl rfl)
theorem dX6_parseTest_158 : decode cX6_parseTest 158 = .ok (.getfield 24, 3) := dk_180 0 24 (dk_at dksX6_parseTest_6 17 rfl rfl)
theorem dX6_parseTest_161 : decode cX6_parseTest 161 = .ok (.iload_n 1, 1) := dk_27 (dk_at dksX6_parseTest_6 20 rfl rfl)
theorem dX6_parseTest_162 : decode cX6_parseTest 162 = .ok (.iconst 1, 1) := dk_4 (dk_at dksX6_parseTest_6 21 rfl rfl)
theorem dX6_parseTest_163 : decode cX6_parseTest 163 = .ok (.iadd, 1) := dk_96 (dk_at dksX6_parseTest_6 22 rfl rfl)
theorem dX6_parseTest_164 : decode cX6_parseTest 164 = .ok (.dup2, 1) := dk_92 (dk_at dksX6_parseTest_6 23 rfl rfl)
theorem dX6_parseTest_165 : decode cX6_parseTest 165 = .ok (.iaload, 1) := dk_46 (dk_at dksX6_parseTest_7 0 rfl rfl)
theorem dX6_parseTest_166 : decode cX6_parseTest 166 = .ok (.iconst 1, 1) := dk_4 (dk_at dksX6_parseTest_7 1 rfl rfl)
theorem dX6_parseTest_167 : decode cX6_parseTest 167 = .ok (.iadd, 1) := dk_96 (dk_at dksX6_parseTest_7 2 rfl rfl)
theorem dX6_parseTest_168 : decode cX6_parseTest 168 = .ok (.iastore, 1) := dk_79 (dk_at dksX6_parseTest_7 3 rfl rfl)
theorem dX6_parseTest_169 : decode cX6_parseTest 169 = .ok (.return_, 1) := dk_177 (dk_at dksX6_parseTest_7 4 rfl rfl)
def dkwX6_parseNuisance_2 : List UInt8 := [182, 1, 31, 42, 182, 0, 88, 153, 0, 14, 42, 180, 0, 24, 16, 6, 92, 46, 4, 96, 79, 177]
abbrev dktX6_parseNuisance_2 : List UInt8 := dkwX6_parseNuisance_2 ++ []
def dkwX6_parseNuisance_1 : List UInt8 := [16, 8, 162, 0, 7, 4, 167, 0, 4, 3, 28, 6, 96, 182, 1, 10, 154, 0, 4, 177, 42, 28]
abbrev dktX6_parseNuisance_1 : List UInt8 := dkwX6_parseNuisance_1 ++ dktX6_parseNuisance_2
def dkwX6_parseNuisance_0 : List UInt8 := [42, 180, 0, 24, 16, 6, 46, 60, 17, 2, 125, 16, 27, 27, 16, 7, 184, 0, 120, 104, 96, 61, 42, 27]
abbrev dktX6_parseNuisance_0 : List UInt8 := dkwX6_parseNuisance_0 ++ dktX6_parseNuisance_1
theorem dksX6_parseNuisance_0 : cX6_parseNuisance.data.toList.drop 0 = dktX6_parseNuisance_0 := by decide +kernel
theorem dksX6_parseNuisance_1 : cX6_parseNuisance.data.toList.drop 24 = dktX6_parseNuisance_1 := dk_seg dksX6_parseNuisance_0 24 rfl rfl
theorem dksX6_parseNuisance_2 : cX6_parseNuisance.data.toList.drop 46 = dktX6_parseNuisance_2 := dk_seg dksX6_parseNuisance_1 22 rfl rfl
theorem dX6_parseNuisance_0 : decode cX6_parseNuisance 0 = .ok (.aload_n 0, 1) := dk_42 (dk_at dksX6_parseNuisance_0 0 rfl rfl)
theorem dX6_parseNuisance_1 : decode cX6_parseNuisance 1 = .ok (.getfield 24, 3) := dk_180 0 24 (dk_at dksX6_parseNuisance_0 1 rfl rfl)
theorem dX6_parseNuisance_4 : decode cX6_parseNuisance 4 = .ok (.bipush 6, 2) := dk_16 6 (dk_at dksX6_parseNuisance_0 4 rfl rfl)
theorem dX6_parseNuisance_6 : decode cX6_parseNuisance 6 = .ok (.iaload, 1) := dk_46 (dk_at dksX6_parseNuisance_0 6 rfl rfl)
theorem dX6_parseNuisance_7 : decode cX6_parseNuisance 7 = .ok (.istore_n 1, 1) := dk_60 (dk_at dksX6_parseNuisance_0 7 rfl rfl)
theorem dX6_parseNuisance_8 : decode cX6_parseNuisance 8 = .ok (.sipush 637, 3) := dk_17 2 125 (dk_at dksX6_parseNuisance_0 8 rfl rfl)
theorem dX6_parseNuisance_11 : decode cX6_parseNuisance 11 = .ok (.bipush 27, 2) := dk_16 27 (dk_at dksX6_parseNuisance_0 11 rfl rfl)
theorem dX6_parseNuisance_13 : decode cX6_parseNuisance 13 = .ok (.iload_n 1, 1) := dk_27 (dk_at dksX6_parseNuisance_0 13 rfl rfl)
theorem dX6_parseNuisance_14 : decode cX6_parseNuisance 14 = .ok (.bipush 7, 2) := dk_16 7 (dk_at dksX6_parseNuisance_0 14 rfl rfl)
theorem dX6_parseNuisance_16 : decode cX6_parseNuisance 16 = .ok (.invokestatic 120, 3) := dk_184 0 120 (dk_at dksX6_parseNuisance_0 16 rfl rfl)
theorem dX6_parseNuisance_19 : decode cX6_parseNuisance 19 = .ok (.imul, 1) := dk_104 (dk_at dksX6_parseNuisance_0 19 rfl rfl)
theorem dX6_parseNuisance_20 : decode cX6_parseNuisance 20 = .ok (.iadd, 1) := dk_96 (dk_at dksX6_parseNuisance_0 20 rfl rfl)
theorem dX6_parseNuisance_21 : decode cX6_parseNuisance 21 = .ok (.istore_n 2, 1) := dk_61 (dk_at dksX6_parseNuisance_0 21 rfl rfl)
theorem dX6_parseNuisance_22 : decode cX6_parseNuisance 22 = .ok (.aload_n 0, 1) := dk_42 (dk_at dksX6_parseNuisance_0 22 rfl rfl)
theorem dX6_parseNuisance_23 : decode cX6_parseNuisance 23 = .ok (.iload_n 1, 1) := dk_27 (dk_at dksX6_parseNuisance_0 23 rfl rfl)
theorem dX6_parseNuisance_24 : decode cX6_parseNuisance 24 = .ok (.bipush 8, 2) := dk_16 8 (dk_at dksX6_parseNuisance_1 0 rfl rfl)
theorem dX6_parseNuisance_26 : decode cX6_parseNuisance 26 = .ok (.if_icmp .ge 7, 3) := dk_162 0 7 (dk_at dksX6_parseNuisance_1 2 rfl rfl)
theorem dX6_parseNuisance_29 : decode cX6_parseNuisance 29 = .ok (.iconst 1, 1) := dk_4 (dk_at dksX6_parseNuisance_1 5 rfl rfl)
theorem dX6_parseNuisance_30 : decode cX6_parseNuisance 30 = .ok (.goto 4, 3) := dk_167 0 4 (dk_at dksX6_parseNuisance_1 6 rfl rfl)
theorem dX6_parseNuisance_33 : decode cX6_parseNuisance 33 = .ok (.iconst 0, 1) := dk_3 (dk_at dksX6_parseNuisance_1 9 rfl rfl)
theorem dX6_parseNuisance_34 : decode cX6_parseNuisance 34 = .ok (.iload_n 2, 1) := dk_28 (dk_at dksX6_parseNuisance_1 10 rfl rfl)
theorem dX6_parseNuisance_35 : decode cX6_parseNuisance 35 = .ok (.iconst 3, 1) := dk_6 (dk_at dksX6_parseNuisance_1 11 rfl rfl)
theorem dX6_parseNuisance_36 : decode cX6_parseNuisance 36 = .ok (.iadd, 1) := dk_96 (dk_at dksX6_parseNuisance_1 12 rfl rfl)
theorem dX6_parseNuisance_37 : decode cX6_parseNuisance 37 = .ok (.invokevirtual 266, 3) := dk_182 1 10 (dk_at dksX6_parseNuisance_1 13 rfl rfl)
theorem dX6_parseNuisance_40 : decode cX6_parseNuisance 40 = .ok (.ifCond .ne 4, 3) := dk_154 0 4 (dk_at dksX6_parseNuisance_1 16 rfl rfl)
theorem dX6_parseNuisance_43 : decode cX6_parseNuisance 43 = .ok (.return_, 1) := dk_177 (dk_at dksX6_parseNuisance_1 19 rfl rfl)
theorem dX6_parseNuisance_44 : decode cX6_parseNuisance 44 = .ok (.aload_n 0, 1) := dk_42 (dk_at dksX6_parseNuisance_1 20 rfl rfl)
theorem dX6_parseNuisance_45 : decode cX6_parseNuisance 45 = .ok (.iload_n 2, 1) := dk_28 (dk_at dksX6_parseNuisance_1 21 rfl rfl)
theorem dX6_parseNuisance_46 : decode cX6_parseNuisance 46 = .ok (.invokevirtual 287, 3) := dk_182 1 31 (dk_at dksX6_parseNuisance_2 0 rfl rfl)
theorem dX6_parseNuisance_49 : decode cX6_parseNuisance 49 = .ok (.aload_n 0, 1) := dk_42 (dk_at dksX6_parseNuisance_2 3 rfl rfl)
theorem dX6_parseNuisance_50 : decode cX6_parseNuisance 50 = .ok (.invokevirtual 88, 3) := dk_182 0 88 (dk_at dksX6_parseNuisance_2 4 rfl rfl)
theorem dX6_parseNuisance_53 : decode cX6_parseNuisance 53 = .ok (.ifCond .eq 14, 3) := dk_153 0 14 (dk_at dksX6_parseNuisance_2 7 rfl rfl)
theorem dX6_parseNuisance_56 : decode cX6_parseNuisance 56 = .ok (.aload_n 0, 1) := dk_42 (dk_at dksX6_parseNuisance_2 10 rfl rfl)
theorem dX6_parseNuisance_57 : decode cX6_parseNuisance 57 = .ok (.getfield 24, 3) := dk_180 0 24 (dk_at dksX6_parseNuisance_2 11 rfl rfl)
theorem dX6_parseNuisance_60 : decode cX6_parseNuisance 60 = .ok (.bipush 6, 2) := dk_16 6 (dk_at dksX6_parseNuisance_2 14 rfl rfl)
theorem dX6_parseNuisance_62 : decode cX6_parseNuisance 62 = .ok (.dup2, 1) := dk_92 (dk_at dksX6_parseNuisance_2 16 rfl rfl)
theorem dX6_parseNuisance_63 : decode cX6_parseNuisance 63 = .ok (.iaload, 1) := dk_46 (dk_at dksX6_parseNuisance_2 17 rfl rfl)
theorem dX6_parseNuisance_64 : decode cX6_parseNuisance 64 = .ok (.iconst 1, 1) := dk_4 (dk_at dksX6_parseNuisance_2 18 rfl rfl)
theorem dX6_parseNuisance_65 : decode cX6_parseNuisance 65 = .ok (.iadd, 1) := dk_96 (dk_at dksX6_parseNuisance_2 19 rfl rfl)
theorem dX6_parseNuisance_66 : decode cX6_parseNuisance 66 = .ok (.iastore, 1) := dk_79 (dk_at dksX6_parseNuisance_2 20 rfl rfl)
theorem dX6_parseNuisance_67 : decode cX6_parseNuisance 67 = .ok (.return_, 1) := dk_177 (dk_at dksX6_parseNuisance_2 21 rfl rfl)
def dkwX6_parsePlan_3 : List UInt8 := [182, 0, 88, 153, 0, 18, 42, 27, 29, 28, 153, 0, 7, 4, 167, 0, 4, 3, 182, 1, 34, 177]
abbrev dktX6_parsePlan_3 : List UInt8 := dkwX6_parsePlan_3 ++ []
def dkwX6_parsePlan_2 : List UInt8 := [154, 0, 8, 42, 4, 182, 0, 211, 42, 182, 0, 214, 42, 4, 182, 1, 21, 62, 42, 182, 1, 7, 42]
abbrev dktX6_parsePlan_2 : List UInt8 := dkwX6_parsePlan_2 ++ dktX6_parsePlan_3
def dkwX6_parsePlan_1 : List UInt8 := [17, 39, 15, 182, 0, 221, 60, 42, 18, 198, 182, 0, 208, 61, 28, 154, 0, 17, 42, 18, 200, 182, 0, 208]
abbrev dktX6_parsePlan_1 : List UInt8 := dkwX6_parsePlan_1 ++ dktX6_parsePlan_2
def dkwX6_parsePlan_0 : List UInt8 := [42, 180, 0, 24, 16, 7, 46, 16, 20, 160, 0, 8, 42, 7, 182, 0, 211, 42, 182, 0, 214, 42, 4]
abbrev dktX6_parsePlan_0 : List UInt8 := dkwX6_parsePlan_0 ++ dktX6_parsePlan_1
theorem dksX6_parsePlan_0 : cX6_parsePlan.data.toList.drop 0 = dktX6_parsePlan_0 := by decide +kernel
theorem dksX6_parsePlan_1 : cX6_parsePlan.data.toList.drop 23 = dktX6_parsePlan_1 := dk_seg dksX6_parsePlan_0 23 rfl rfl
theorem dksX6_parsePlan_2 : cX6_parsePlan.data.toList.drop 47 = dktX6_parsePlan_2 := dk_seg dksX6_parsePlan_1 24 rfl rfl
theorem dksX6_parsePlan_3 : cX6_parsePlan.data.toList.drop 70 = dktX6_parsePlan_3 := dk_seg dksX6_parsePlan_2 23 rfl rfl
theorem dX6_parsePlan_0 : decode cX6_parsePlan 0 = .ok (.aload_n 0, 1) := dk_42 (dk_at dksX6_parsePlan_0 0 rfl rfl)
theorem dX6_parsePlan_1 : decode cX6_parsePlan 1 = .ok (.getfield 24, 3) := dk_180 0 24 (dk_at dksX6_parsePlan_0 1 rfl rfl)
theorem dX6_parsePlan_4 : decode cX6_parsePlan 4 = .ok (.bipush 7, 2) := dk_16 7 (dk_at dksX6_parsePlan_0 4 rfl rfl)
theorem dX6_parsePlan_6 : decode cX6_parsePlan 6 = .ok (.iaload, 1) := dk_46 (dk_at dksX6_parsePlan_0 6 rfl rfl)
theorem dX6_parsePlan_7 : decode cX6_parsePlan 7 = .ok (.bipush 20, 2) := dk_16 20 (dk_at dksX6_parsePlan_0 7 rfl rfl)
theorem dX6_parsePlan_9 : decode cX6_parsePlan 9 = .ok (.if_icmp .ne 8, 3) := dk_160 0 8 (dk_at dksX6_parsePlan_0 9 rfl rfl)
theorem dX6_parsePlan_12 : decode cX6_parsePlan 12 = .ok (.aload_n 0, 1) := dk_42 (dk_at dksX6_parsePlan_0 12 rfl rfl)
theorem dX6_parsePlan_13 : decode cX6_parsePlan 13 = .ok (.iconst 4, 1) := dk_7 (dk_at dksX6_parsePlan_0 13 rfl rfl)
theorem dX6_parsePlan_14 : decode cX6_parsePlan 14 = .ok (.invokevirtual 211, 3) := dk_182 0 211 (dk_at dksX6_parsePlan_0 14 rfl rfl)
theorem dX6_parsePlan_17 : decode cX6_parsePlan 17 = .ok (.aload_n 0, 1) := dk_42 (dk_at dksX6_parsePlan_0 17 rfl rfl)
theorem dX6_parsePlan_18 : decode cX6_parsePlan 18 = .ok (.invokevirtual 214, 3) := dk_182 0 214 (dk_at dksX6_parsePlan_0 18 rfl rfl)
theorem dX6_parsePlan_21 : decode cX6_parsePlan 21 = .ok (.aload_n 0, 1) := dk_42 (dk_at dksX6_parsePlan_0 21 rfl rfl)
theorem dX6_parsePlan_22 : decode cX6_parsePlan 22 = .ok (.iconst 1, 1) := dk_4 (dk_at dksX6_parsePlan_0 22 rfl rfl)
theorem dX6_parsePlan_23 : decode cX6_parsePlan 23 = .ok (.sipush 9999, 3) := dk_17 39 15 (dk_at dksX6_parsePlan_1 0 rfl rfl)
theorem dX6_parsePlan_26 : decode cX6_parsePlan 26 = .ok (.invokevirtual 221, 3) := dk_182 0 221 (dk_at dksX6_parsePlan_1 3 rfl rfl)
theorem dX6_parsePlan_29 : decode cX6_parsePlan 29 = .ok (.istore_n 1, 1) := dk_60 (dk_at dksX6_parsePlan_1 6 rfl rfl)
theorem dX6_parsePlan_30 : decode cX6_parsePlan 30 = .ok (.aload_n 0, 1) := dk_42 (dk_at dksX6_parsePlan_1 7 rfl rfl)
theorem dX6_parsePlan_31 : decode cX6_parsePlan 31 = .ok (.ldc 198, 2) := dk_18 198 (dk_at dksX6_parsePlan_1 8 rfl rfl)
theorem dX6_parsePlan_33 : decode cX6_parsePlan 33 = .ok (.invokevirtual 208, 3) := dk_182 0 208 (dk_at dksX6_parsePlan_1 10 rfl rfl)
theorem dX6_parsePlan_36 : decode cX6_parsePlan 36 = .ok (.istore_n 2, 1) := dk_61 (dk_at dksX6_parsePlan_1 13 rfl rfl)
theorem dX6_parsePlan_37 : decode cX6_parsePlan 37 = .ok (.iload_n 2, 1) := dk_28 (dk_at dksX6_parsePlan_1 14 rfl rfl)
theorem dX6_parsePlan_38 : decode cX6_parsePlan 38 = .ok (.ifCond .ne 17, 3) := dk_154 0 17 (dk_at dksX6_parsePlan_1 15 rfl rfl)
theorem dX6_parsePlan_41 : decode cX6_parsePlan 41 = .ok (.aload_n 0, 1) := dk_42 (dk_at dksX6_parsePlan_1 18 rfl rfl)
theorem dX6_parsePlan_42 : decode cX6_parsePlan 42 = .ok (.ldc 200, 2) := dk_18 200 (dk_at dksX6_parsePlan_1 19 rfl rfl)
theorem dX6_parsePlan_44 : decode cX6_parsePlan 44 = .ok (.invokevirtual 208, 3) := dk_182 0 208 (dk_at dksX6_parsePlan_1 21 rfl rfl)
theorem dX6_parsePlan_47 : decode cX6_parsePlan 47 = .ok (.ifCond .ne 8, 3) := dk_154 0 8 (dk_at dksX6_parsePlan_2 0 rfl rfl)
theorem dX6_parsePlan_50 : decode cX6_parsePlan 50 = .ok (.aload_n 0, 1) := dk_42 (dk_at dksX6_parsePlan_2 3 rfl rfl)
theorem dX6_parsePlan_51 : decode cX6_parsePlan 51 = .ok (.iconst 1, 1) := dk_4 (dk_at dksX6_parsePlan_2 4 rfl rfl)
theorem dX6_parsePlan_52 : decode cX6_parsePlan 52 = .ok (.invokevirtual 211, 3) := dk_182 0 211 (dk_at dksX6_parsePlan_2 5 rfl rfl)
theorem dX6_parsePlan_55 : decode cX6_parsePlan 55 = .ok (.aload_n 0, 1) := dk_42 (dk_at dksX6_parsePlan_2 8 rfl rfl)
theorem dX6_parsePlan_56 : decode cX6_parsePlan 56 = .ok (.invokevirtual 214, 3) := dk_182 0 214 (dk_at dksX6_parsePlan_2 9 rfl rfl)
theorem dX6_parsePlan_59 : decode cX6_parsePlan 59 = .ok (.aload_n 0, 1) := dk_42 (dk_at dksX6_parsePlan_2 12 rfl rfl)
theorem dX6_parsePlan_60 : decode cX6_parsePlan 60 = .ok (.iconst 1, 1) := dk_4 (dk_at dksX6_parsePlan_2 13 rfl rfl)
theorem dX6_parsePlan_61 : decode cX6_parsePlan 61 = .ok (.invokevirtual 277, 3) := dk_182 1 21 (dk_at dksX6_parsePlan_2 14 rfl rfl)
theorem dX6_parsePlan_64 : decode cX6_parsePlan 64 = .ok (.istore_n 3, 1) := dk_62 (dk_at dksX6_parsePlan_2 17 rfl rfl)
theorem dX6_parsePlan_65 : decode cX6_parsePlan 65 = .ok (.aload_n 0, 1) := dk_42 (dk_at dksX6_parsePlan_2 18 rfl rfl)
theorem dX6_parsePlan_66 : decode cX6_parsePlan 66 = .ok (.invokevirtual 263, 3) := dk_182 1 7 (dk_at dksX6_parsePlan_2 19 rfl rfl)
theorem dX6_parsePlan_69 : decode cX6_parsePlan 69 = .ok (.aload_n 0, 1) := dk_42 (dk_at dksX6_parsePlan_2 22 rfl rfl)
theorem dX6_parsePlan_70 : decode cX6_parsePlan 70 = .ok (.invokevirtual 88, 3) := dk_182 0 88 (dk_at dksX6_parsePlan_3 0 rfl rfl)
theorem dX6_parsePlan_73 : decode cX6_parsePlan 73 = .ok (.ifCond .eq 18, 3) := dk_153 0 18 (dk_at dksX6_parsePlan_3 3 rfl rfl)
theorem dX6_parsePlan_76 : decode cX6_parsePlan 76 = .ok (.aload_n 0, 1) := dk_42 (dk_at dksX6_parsePlan_3 6 rfl rfl)
theorem dX6_parsePlan_77 : decode cX6_parsePlan 77 = .ok (.iload_n 1, 1) := dk_27 (dk_at dksX6_parsePlan_3 7 rfl rfl)
theorem dX6_parsePlan_78 : decode cX6_parsePlan 78 = .ok (.iload_n 3, 1) := dk_29 (dk_at dksX6_parsePlan_3 8 rfl rfl)
theorem dX6_parsePlan_79 : decode cX6_parsePlan 79 = .ok (.iload_n 2, 1) := dk_28 (dk_at dksX6_parsePlan_3 9 rfl rfl)
theorem dX6_parsePlan_80 : decode cX6_parsePlan 80 = .ok (.ifCond .eq 7, 3) := dk_153 0 7 (dk_at dksX6_parsePlan_3 10 rfl rfl)
theorem dX6_parsePlan_83 : decode cX6_parsePlan 83 = .ok (.iconst 1, 1) := dk_4 (dk_at dksX6_parsePlan_3 13 rfl rfl)
theorem dX6_parsePlan_84 : decode cX6_parsePlan 84 = .ok (.goto 4, 3) := dk_167 0 4 (dk_at dksX6_parsePlan_3 14 rfl rfl)
theorem dX6_parsePlan_87 : decode cX6_parsePlan 87 = .ok (.iconst 0, 1) := dk_3 (dk_at dksX6_parsePlan_3 17 rfl rfl)
theorem dX6_parsePlan_88 : decode cX6_parsePlan 88 = .ok (.invokevirtual 290, 3) := dk_182 1 34 (dk_at dksX6_parsePlan_3 18 rfl rfl)
theorem dX6_parsePlan_91 : decode cX6_parsePlan 91 = .ok (.return_, 1) := dk_177 (dk_at dksX6_parsePlan_3 21 rfl rfl)
def dkwX6_layPlan_2 : List UInt8 := [16, 7, 92, 46, 4, 96, 79, 177]
abbrev dktX6_layPlan_2 : List UInt8 := dkwX6_layPlan_2 ++ []
def dkwX6_layPlan_1 : List UInt8 := [180, 0, 24, 21, 4, 4, 96, 28, 79, 42, 180, 0, 24, 21, 4, 5, 96, 29, 79, 42, 180, 0, 24]
abbrev dktX6_layPlan_1 : List UInt8 := dkwX6_layPlan_1 ++ dktX6_layPlan_2
def dkwX6_layPlan_0 : List UInt8 := [17, 3, 85, 6, 42, 180, 0, 24, 16, 7, 46, 104, 96, 54, 4, 42, 180, 0, 24, 21, 4, 27, 79, 42]
abbrev dktX6_layPlan_0 : List UInt8 := dkwX6_layPlan_0 ++ dktX6_layPlan_1
theorem dksX6_layPlan_0 : cX6_layPlan.data.toList.drop 0 = dktX6_layPlan_0 := by decide +kernel
theorem dksX6_layPlan_1 : cX6_layPlan.data.toList.drop 24 = dktX6_layPlan_1 := dk_seg dksX6_layPlan_0 24 rfl rfl
theorem dksX6_layPlan_2 : cX6_layPlan.data.toList.drop 47 = dktX6_layPlan_2 := dk_seg dksX6_layPlan_1 23 rfl rfl
theorem dX6_layPlan_0 : decode cX6_layPlan 0 = .ok (.sipush 853, 3) := dk_17 3 85 (dk_at dksX6_layPlan_0 0 rfl rfl)
theorem dX6_layPlan_3 : decode cX6_layPlan 3 = .ok (.iconst 3, 1) := dk_6 (dk_at dksX6_layPlan_0 3 rfl rfl)
theorem dX6_layPlan_4 : decode cX6_layPlan 4 = .ok (.aload_n 0, 1) := dk_42 (dk_at dksX6_layPlan_0 4 rfl rfl)
theorem dX6_layPlan_5 : decode cX6_layPlan 5 = .ok (.getfield 24, 3) := dk_180 0 24 (dk_at dksX6_layPlan_0 5 rfl rfl)
theorem dX6_layPlan_8 : decode cX6_layPlan 8 = .ok (.bipush 7, 2) := dk_16 7 (dk_at dksX6_layPlan_0 8 rfl rfl)
theorem dX6_layPlan_10 : decode cX6_layPlan 10 = .ok (.iaload, 1) := dk_46 (dk_at dksX6_layPlan_0 10 rfl rfl)
theorem dX6_layPlan_11 : decode cX6_layPlan 11 = .ok (.imul, 1) := dk_104 (dk_at dksX6_layPlan_0 11 rfl rfl)
theorem dX6_layPlan_12 : decode cX6_layPlan 12 = .ok (.iadd, 1) := dk_96 (dk_at dksX6_layPlan_0 12 rfl rfl)
theorem dX6_layPlan_13 : decode cX6_layPlan 13 = .ok (.istore 4, 2) := dk_54 4 (dk_at dksX6_layPlan_0 13 rfl rfl)
theorem dX6_layPlan_15 : decode cX6_layPlan 15 = .ok (.aload_n 0, 1) := dk_42 (dk_at dksX6_layPlan_0 15 rfl rfl)
theorem dX6_layPlan_16 : decode cX6_layPlan 16 = .ok (.getfield 24, 3) := dk_180 0 24 (dk_at dksX6_layPlan_0 16 rfl rfl)
theorem dX6_layPlan_19 : decode cX6_layPlan 19 = .ok (.iload 4, 2) := dk_21 4 (dk_at dksX6_layPlan_0 19 rfl rfl)
theorem dX6_layPlan_21 : decode cX6_layPlan 21 = .ok (.iload_n 1, 1) := dk_27 (dk_at dksX6_layPlan_0 21 rfl rfl)
theorem dX6_layPlan_22 : decode cX6_layPlan 22 = .ok (.iastore, 1) := dk_79 (dk_at dksX6_layPlan_0 22 rfl rfl)
theorem dX6_layPlan_23 : decode cX6_layPlan 23 = .ok (.aload_n 0, 1) := dk_42 (dk_at dksX6_layPlan_0 23 rfl rfl)
theorem dX6_layPlan_24 : decode cX6_layPlan 24 = .ok (.getfield 24, 3) := dk_180 0 24 (dk_at dksX6_layPlan_1 0 rfl rfl)
theorem dX6_layPlan_27 : decode cX6_layPlan 27 = .ok (.iload 4, 2) := dk_21 4 (dk_at dksX6_layPlan_1 3 rfl rfl)
theorem dX6_layPlan_29 : decode cX6_layPlan 29 = .ok (.iconst 1, 1) := dk_4 (dk_at dksX6_layPlan_1 5 rfl rfl)
theorem dX6_layPlan_30 : decode cX6_layPlan 30 = .ok (.iadd, 1) := dk_96 (dk_at dksX6_layPlan_1 6 rfl rfl)
theorem dX6_layPlan_31 : decode cX6_layPlan 31 = .ok (.iload_n 2, 1) := dk_28 (dk_at dksX6_layPlan_1 7 rfl rfl)
theorem dX6_layPlan_32 : decode cX6_layPlan 32 = .ok (.iastore, 1) := dk_79 (dk_at dksX6_layPlan_1 8 rfl rfl)
theorem dX6_layPlan_33 : decode cX6_layPlan 33 = .ok (.aload_n 0, 1) := dk_42 (dk_at dksX6_layPlan_1 9 rfl rfl)
theorem dX6_layPlan_34 : decode cX6_layPlan 34 = .ok (.getfield 24, 3) := dk_180 0 24 (dk_at dksX6_layPlan_1 10 rfl rfl)
theorem dX6_layPlan_37 : decode cX6_layPlan 37 = .ok (.iload 4, 2) := dk_21 4 (dk_at dksX6_layPlan_1 13 rfl rfl)
theorem dX6_layPlan_39 : decode cX6_layPlan 39 = .ok (.iconst 2, 1) := dk_5 (dk_at dksX6_layPlan_1 15 rfl rfl)
theorem dX6_layPlan_40 : decode cX6_layPlan 40 = .ok (.iadd, 1) := dk_96 (dk_at dksX6_layPlan_1 16 rfl rfl)
theorem dX6_layPlan_41 : decode cX6_layPlan 41 = .ok (.iload_n 3, 1) := dk_29 (dk_at dksX6_layPlan_1 17 rfl rfl)
theorem dX6_layPlan_42 : decode cX6_layPlan 42 = .ok (.iastore, 1) := dk_79 (dk_at dksX6_layPlan_1 18 rfl rfl)
theorem dX6_layPlan_43 : decode cX6_layPlan 43 = .ok (.aload_n 0, 1) := dk_42 (dk_at dksX6_layPlan_1 19 rfl rfl)
theorem dX6_layPlan_44 : decode cX6_layPlan 44 = .ok (.getfield 24, 3) := dk_180 0 24 (dk_at dksX6_layPlan_1 20 rfl rfl)
theorem dX6_layPlan_47 : decode cX6_layPlan 47 = .ok (.bipush 7, 2) := dk_16 7 (dk_at dksX6_layPlan_2 0 rfl rfl)
theorem dX6_layPlan_49 : decode cX6_layPlan 49 = .ok (.dup2, 1) := dk_92 (dk_at dksX6_layPlan_2 2 rfl rfl)
theorem dX6_layPlan_50 : decode cX6_layPlan 50 = .ok (.iaload, 1) := dk_46 (dk_at dksX6_layPlan_2 3 rfl rfl)
theorem dX6_layPlan_51 : decode cX6_layPlan 51 = .ok (.iconst 1, 1) := dk_4 (dk_at dksX6_layPlan_2 4 rfl rfl)
theorem dX6_layPlan_52 : decode cX6_layPlan 52 = .ok (.iadd, 1) := dk_96 (dk_at dksX6_layPlan_2 5 rfl rfl)
theorem dX6_layPlan_53 : decode cX6_layPlan 53 = .ok (.iastore, 1) := dk_79 (dk_at dksX6_layPlan_2 6 rfl rfl)
theorem dX6_layPlan_54 : decode cX6_layPlan 54 = .ok (.return_, 1) := dk_177 (dk_at dksX6_layPlan_2 7 rfl rfl)
def dkwX6_remember_7 : List UInt8 := [4, 96, 181, 1, 227, 177]
abbrev dktX6_remember_7 : List UInt8 := dkwX6_remember_7 ++ []
def dkwX6_remember_6 : List UInt8 := [180, 1, 227, 104, 27, 96, 42, 180, 0, 27, 27, 48, 81, 132, 1, 1, 167, 255, 225, 42, 89, 180, 1, 227]
abbrev dktX6_remember_6 : List UInt8 := dkwX6_remember_6 ++ dktX6_remember_7
def dkwX6_remember_5 : List UInt8 := [132, 1, 1, 167, 255, 225, 3, 60, 27, 17, 0, 160, 162, 0, 30, 42, 180, 0, 60, 17, 0, 160, 42]
abbrev dktX6_remember_5 : List UInt8 := dkwX6_remember_5 ++ dktX6_remember_6
def dkwX6_remember_4 : List UInt8 := [162, 0, 30, 42, 180, 0, 57, 17, 5, 185, 42, 180, 1, 227, 104, 27, 96, 42, 180, 0, 17, 27, 46, 79]
abbrev dktX6_remember_4 : List UInt8 := dkwX6_remember_4 ++ dktX6_remember_5
def dkwX6_remember_3 : List UInt8 := [132, 1, 1, 167, 255, 230, 42, 89, 180, 1, 227, 4, 100, 181, 1, 227, 3, 60, 27, 17, 5, 185]
abbrev dktX6_remember_3 : List UInt8 := dkwX6_remember_3 ++ dktX6_remember_4
def dkwX6_remember_2 : List UInt8 := [17, 3, 192, 162, 0, 25, 42, 180, 0, 60, 27, 17, 0, 160, 100, 42, 180, 0, 60, 27, 48, 81]
abbrev dktX6_remember_2 : List UInt8 := dkwX6_remember_2 ++ dktX6_remember_3
def dkwX6_remember_1 : List UInt8 := [27, 17, 5, 185, 100, 42, 180, 0, 57, 27, 46, 79, 132, 1, 1, 167, 255, 230, 17, 0, 160, 60, 27]
abbrev dktX6_remember_1 : List UInt8 := dkwX6_remember_1 ++ dktX6_remember_2
def dkwX6_remember_0 : List UInt8 := [42, 180, 1, 227, 16, 6, 160, 0, 79, 17, 5, 185, 60, 27, 17, 34, 86, 162, 0, 25, 42, 180, 0, 57]
abbrev dktX6_remember_0 : List UInt8 := dkwX6_remember_0 ++ dktX6_remember_1
theorem dksX6_remember_0 : cX6_remember.data.toList.drop 0 = dktX6_remember_0 := by decide +kernel
theorem dksX6_remember_1 : cX6_remember.data.toList.drop 24 = dktX6_remember_1 := dk_seg dksX6_remember_0 24 rfl rfl
theorem dksX6_remember_2 : cX6_remember.data.toList.drop 47 = dktX6_remember_2 := dk_seg dksX6_remember_1 23 rfl rfl
theorem dksX6_remember_3 : cX6_remember.data.toList.drop 69 = dktX6_remember_3 := dk_seg dksX6_remember_2 22 rfl rfl
theorem dksX6_remember_4 : cX6_remember.data.toList.drop 91 = dktX6_remember_4 := dk_seg dksX6_remember_3 22 rfl rfl
theorem dksX6_remember_5 : cX6_remember.data.toList.drop 115 = dktX6_remember_5 := dk_seg dksX6_remember_4 24 rfl rfl
theorem dksX6_remember_6 : cX6_remember.data.toList.drop 138 = dktX6_remember_6 := dk_seg dksX6_remember_5 23 rfl rfl
theorem dksX6_remember_7 : cX6_remember.data.toList.drop 162 = dktX6_remember_7 := dk_seg dksX6_remember_6 24 rfl rfl
theorem dX6_remember_0 : decode cX6_remember 0 = .ok (.aload_n 0, 1) := dk_42 (dk_at dksX6_remember_0 0 rfl rfl)
theorem dX6_remember_1 : decode cX6_remember 1 = .ok (.getfield 483, 3) := dk_180 1 227 (dk_at dksX6_remember_0 1 rfl rfl)
theorem dX6_remember_4 : decode cX6_remember 4 = .ok (.bipush 6, 2) := dk_16 6 (dk_at dksX6_remember_0 4 rfl rfl)
theorem dX6_remember_6 : decode cX6_remember 6 = .ok (.if_icmp .ne 79, 3) := dk_160 0 79 (dk_at dksX6_remember_0 6 rfl rfl)
theorem dX6_remember_9 : decode cX6_remember 9 = .ok (.sipush 1465, 3) := dk_17 5 185 (dk_at dksX6_remember_0 9 rfl rfl)
theorem dX6_remember_12 : decode cX6_remember 12 = .ok (.istore_n 1, 1) := dk_60 (dk_at dksX6_remember_0 12 rfl rfl)
theorem dX6_remember_13 : decode cX6_remember 13 = .ok (.iload_n 1, 1) := dk_27 (dk_at dksX6_remember_0 13 rfl rfl)
theorem dX6_remember_14 : decode cX6_remember 14 = .ok (.sipush 8790, 3) := dk_17 34 86 (dk_at dksX6_remember_0 14 rfl rfl)
theorem dX6_remember_17 : decode cX6_remember 17 = .ok (.if_icmp .ge 25, 3) := dk_162 0 25 (dk_at dksX6_remember_0 17 rfl rfl)
theorem dX6_remember_20 : decode cX6_remember 20 = .ok (.aload_n 0, 1) := dk_42 (dk_at dksX6_remember_0 20 rfl rfl)
theorem dX6_remember_21 : decode cX6_remember 21 = .ok (.getfield 57, 3) := dk_180 0 57 (dk_at dksX6_remember_0 21 rfl rfl)
theorem dX6_remember_24 : decode cX6_remember 24 = .ok (.iload_n 1, 1) := dk_27 (dk_at dksX6_remember_1 0 rfl rfl)
theorem dX6_remember_25 : decode cX6_remember 25 = .ok (.sipush 1465, 3) := dk_17 5 185 (dk_at dksX6_remember_1 1 rfl rfl)
theorem dX6_remember_28 : decode cX6_remember 28 = .ok (.isub, 1) := dk_100 (dk_at dksX6_remember_1 4 rfl rfl)
theorem dX6_remember_29 : decode cX6_remember 29 = .ok (.aload_n 0, 1) := dk_42 (dk_at dksX6_remember_1 5 rfl rfl)
theorem dX6_remember_30 : decode cX6_remember 30 = .ok (.getfield 57, 3) := dk_180 0 57 (dk_at dksX6_remember_1 6 rfl rfl)
theorem dX6_remember_33 : decode cX6_remember 33 = .ok (.iload_n 1, 1) := dk_27 (dk_at dksX6_remember_1 9 rfl rfl)
theorem dX6_remember_34 : decode cX6_remember 34 = .ok (.iaload, 1) := dk_46 (dk_at dksX6_remember_1 10 rfl rfl)
theorem dX6_remember_35 : decode cX6_remember 35 = .ok (.iastore, 1) := dk_79 (dk_at dksX6_remember_1 11 rfl rfl)
theorem dX6_remember_36 : decode cX6_remember 36 = .ok (.iinc 1 1, 3) := dk_132 1 1 (dk_at dksX6_remember_1 12 rfl rfl)
theorem dX6_remember_39 : decode cX6_remember 39 = .ok (.goto (-26), 3) := dk_167 255 230 (dk_at dksX6_remember_1 15 rfl rfl)
theorem dX6_remember_42 : decode cX6_remember 42 = .ok (.sipush 160, 3) := dk_17 0 160 (dk_at dksX6_remember_1 18 rfl rfl)
theorem dX6_remember_45 : decode cX6_remember 45 = .ok (.istore_n 1, 1) := dk_60 (dk_at dksX6_remember_1 21 rfl rfl)
theorem dX6_remember_46 : decode cX6_remember 46 = .ok (.iload_n 1, 1) := dk_27 (dk_at dksX6_remember_1 22 rfl rfl)
theorem dX6_remember_47 : decode cX6_remember 47 = .ok (.sipush 960, 3) := dk_17 3 192 (dk_at dksX6_remember_2 0 rfl rfl)
theorem dX6_remember_50 : decode cX6_remember 50 = .ok (.if_icmp .ge 25, 3) := dk_162 0 25 (dk_at dksX6_remember_2 3 rfl rfl)
theorem dX6_remember_53 : decode cX6_remember 53 = .ok (.aload_n 0, 1) := dk_42 (dk_at dksX6_remember_2 6 rfl rfl)
theorem dX6_remember_54 : decode cX6_remember 54 = .ok (.getfield 60, 3) := dk_180 0 60 (dk_at dksX6_remember_2 7 rfl rfl)
theorem dX6_remember_57 : decode cX6_remember 57 = .ok (.iload_n 1, 1) := dk_27 (dk_at dksX6_remember_2 10 rfl rfl)
theorem dX6_remember_58 : decode cX6_remember 58 = .ok (.sipush 160, 3) := dk_17 0 160 (dk_at dksX6_remember_2 11 rfl rfl)
theorem dX6_remember_61 : decode cX6_remember 61 = .ok (.isub, 1) := dk_100 (dk_at dksX6_remember_2 14 rfl rfl)
theorem dX6_remember_62 : decode cX6_remember 62 = .ok (.aload_n 0, 1) := dk_42 (dk_at dksX6_remember_2 15 rfl rfl)
theorem dX6_remember_63 : decode cX6_remember 63 = .ok (.getfield 60, 3) := dk_180 0 60 (dk_at dksX6_remember_2 16 rfl rfl)
theorem dX6_remember_66 : decode cX6_remember 66 = .ok (.iload_n 1, 1) := dk_27 (dk_at dksX6_remember_2 19 rfl rfl)
theorem dX6_remember_67 : decode cX6_remember 67 = .ok (.faload, 1) := dk_48 (dk_at dksX6_remember_2 20 rfl rfl)
theorem dX6_remember_68 : decode cX6_remember 68 = .ok (.fastore, 1) := dk_81 (dk_at dksX6_remember_2 21 rfl rfl)
theorem dX6_remember_69 : decode cX6_remember 69 = .ok (.iinc 1 1, 3) := dk_132 1 1 (dk_at dksX6_remember_3 0 rfl rfl)
theorem dX6_remember_72 : decode cX6_remember 72 = .ok (.goto (-26), 3) := dk_167 255 230 (dk_at dksX6_remember_3 3 rfl rfl)
theorem dX6_remember_75 : decode cX6_remember 75 = .ok (.aload_n 0, 1) := dk_42 (dk_at dksX6_remember_3 6 rfl rfl)
theorem dX6_remember_76 : decode cX6_remember 76 = .ok (.dup, 1) := dk_89 (dk_at dksX6_remember_3 7 rfl rfl)
theorem dX6_remember_77 : decode cX6_remember 77 = .ok (.getfield 483, 3) := dk_180 1 227 (dk_at dksX6_remember_3 8 rfl rfl)
theorem dX6_remember_80 : decode cX6_remember 80 = .ok (.iconst 1, 1) := dk_4 (dk_at dksX6_remember_3 11 rfl rfl)
theorem dX6_remember_81 : decode cX6_remember 81 = .ok (.isub, 1) := dk_100 (dk_at dksX6_remember_3 12 rfl rfl)
theorem dX6_remember_82 : decode cX6_remember 82 = .ok (.putfield 483, 3) := dk_181 1 227 (dk_at dksX6_remember_3 13 rfl rfl)
theorem dX6_remember_85 : decode cX6_remember 85 = .ok (.iconst 0, 1) := dk_3 (dk_at dksX6_remember_3 16 rfl rfl)
theorem dX6_remember_86 : decode cX6_remember 86 = .ok (.istore_n 1, 1) := dk_60 (dk_at dksX6_remember_3 17 rfl rfl)
theorem dX6_remember_87 : decode cX6_remember 87 = .ok (.iload_n 1, 1) := dk_27 (dk_at dksX6_remember_3 18 rfl rfl)
theorem dX6_remember_88 : decode cX6_remember 88 = .ok (.sipush 1465, 3) := dk_17 5 185 (dk_at dksX6_remember_3 19 rfl rfl)
theorem dX6_remember_91 : decode cX6_remember 91 = .ok (.if_icmp .ge 30, 3) := dk_162 0 30 (dk_at dksX6_remember_4 0 rfl rfl)
theorem dX6_remember_94 : decode cX6_remember 94 = .ok (.aload_n 0, 1) := dk_42 (dk_at dksX6_remember_4 3 rfl rfl)
theorem dX6_remember_95 : decode cX6_remember 95 = .ok (.getfield 57, 3) := dk_180 0 57 (dk_at dksX6_remember_4 4 rfl rfl)
theorem dX6_remember_98 : decode cX6_remember 98 = .ok (.sipush 1465, 3) := dk_17 5 185 (dk_at dksX6_remember_4 7 rfl rfl)
theorem dX6_remember_101 : decode cX6_remember 101 = .ok (.aload_n 0, 1) := dk_42 (dk_at dksX6_remember_4 10 rfl rfl)
theorem dX6_remember_102 : decode cX6_remember 102 = .ok (.getfield 483, 3) := dk_180 1 227 (dk_at dksX6_remember_4 11 rfl rfl)
theorem dX6_remember_105 : decode cX6_remember 105 = .ok (.imul, 1) := dk_104 (dk_at dksX6_remember_4 14 rfl rfl)
theorem dX6_remember_106 : decode cX6_remember 106 = .ok (.iload_n 1, 1) := dk_27 (dk_at dksX6_remember_4 15 rfl rfl)
theorem dX6_remember_107 : decode cX6_remember 107 = .ok (.iadd, 1) := dk_96 (dk_at dksX6_remember_4 16 rfl rfl)
theorem dX6_remember_108 : decode cX6_remember 108 = .ok (.aload_n 0, 1) := dk_42 (dk_at dksX6_remember_4 17 rfl rfl)
theorem dX6_remember_109 : decode cX6_remember 109 = .ok (.getfield 17, 3) := dk_180 0 17 (dk_at dksX6_remember_4 18 rfl rfl)
theorem dX6_remember_112 : decode cX6_remember 112 = .ok (.iload_n 1, 1) := dk_27 (dk_at dksX6_remember_4 21 rfl rfl)
theorem dX6_remember_113 : decode cX6_remember 113 = .ok (.iaload, 1) := dk_46 (dk_at dksX6_remember_4 22 rfl rfl)
theorem dX6_remember_114 : decode cX6_remember 114 = .ok (.iastore, 1) := dk_79 (dk_at dksX6_remember_4 23 rfl rfl)
theorem dX6_remember_115 : decode cX6_remember 115 = .ok (.iinc 1 1, 3) := dk_132 1 1 (dk_at dksX6_remember_5 0 rfl rfl)
theorem dX6_remember_118 : decode cX6_remember 118 = .ok (.goto (-31), 3) := dk_167 255 225 (dk_at dksX6_remember_5 3 rfl rfl)
theorem dX6_remember_121 : decode cX6_remember 121 = .ok (.iconst 0, 1) := dk_3 (dk_at dksX6_remember_5 6 rfl rfl)
theorem dX6_remember_122 : decode cX6_remember 122 = .ok (.istore_n 1, 1) := dk_60 (dk_at dksX6_remember_5 7 rfl rfl)
theorem dX6_remember_123 : decode cX6_remember 123 = .ok (.iload_n 1, 1) := dk_27 (dk_at dksX6_remember_5 8 rfl rfl)
theorem dX6_remember_124 : decode cX6_remember 124 = .ok (.sipush 160, 3) := dk_17 0 160 (dk_at dksX6_remember_5 9 rfl rfl)
theorem dX6_remember_127 : decode cX6_remember 127 = .ok (.if_icmp .ge 30, 3) := dk_162 0 30 (dk_at dksX6_remember_5 12 rfl rfl)
theorem dX6_remember_130 : decode cX6_remember 130 = .ok (.aload_n 0, 1) := dk_42 (dk_at dksX6_remember_5 15 rfl rfl)
theorem dX6_remember_131 : decode cX6_remember 131 = .ok (.getfield 60, 3) := dk_180 0 60 (dk_at dksX6_remember_5 16 rfl rfl)
theorem dX6_remember_134 : decode cX6_remember 134 = .ok (.sipush 160, 3) := dk_17 0 160 (dk_at dksX6_remember_5 19 rfl rfl)
theorem dX6_remember_137 : decode cX6_remember 137 = .ok (.aload_n 0, 1) := dk_42 (dk_at dksX6_remember_5 22 rfl rfl)
theorem dX6_remember_138 : decode cX6_remember 138 = .ok (.getfield 483, 3) := dk_180 1 227 (dk_at dksX6_remember_6 0 rfl rfl)
theorem dX6_remember_141 : decode cX6_remember 141 = .ok (.imul, 1) := dk_104 (dk_at dksX6_remember_6 3 rfl rfl)
theorem dX6_remember_142 : decode cX6_remember 142 = .ok (.iload_n 1, 1) := dk_27 (dk_at dksX6_remember_6 4 rfl rfl)
theorem dX6_remember_143 : decode cX6_remember 143 = .ok (.iadd, 1) := dk_96 (dk_at dksX6_remember_6 5 rfl rfl)
theorem dX6_remember_144 : decode cX6_remember 144 = .ok (.aload_n 0, 1) := dk_42 (dk_at dksX6_remember_6 6 rfl rfl)
theorem dX6_remember_145 : decode cX6_remember 145 = .ok (.getfield 27, 3) := dk_180 0 27 (dk_at dksX6_remember_6 7 rfl rfl)
theorem dX6_remember_148 : decode cX6_remember 148 = .ok (.iload_n 1, 1) := dk_27 (dk_at dksX6_remember_6 10 rfl rfl)
theorem dX6_remember_149 : decode cX6_remember 149 = .ok (.faload, 1) := dk_48 (dk_at dksX6_remember_6 11 rfl rfl)
theorem dX6_remember_150 : decode cX6_remember 150 = .ok (.fastore, 1) := dk_81 (dk_at dksX6_remember_6 12 rfl rfl)
theorem dX6_remember_151 : decode cX6_remember 151 = .ok (.iinc 1 1, 3) := dk_132 1 1 (dk_at dksX6_remember_6 13 rfl rfl)
theorem dX6_remember_154 : decode cX6_remember 154 = .ok (.goto (-31), 3) := dk_167 255 225 (dk_at dksX6_remember_6 16 rfl rfl)
theorem dX6_remember_157 : decode cX6_remember 157 = .ok (.aload_n 0, 1) := dk_42 (dk_at dksX6_remember_6 19 rfl rfl)
theorem dX6_remember_158 : decode cX6_remember 158 = .ok (.dup, 1) := dk_89 (dk_at dksX6_remember_6 20 rfl rfl)
theorem dX6_remember_159 : decode cX6_remember 159 = .ok (.getfield 483, 3) := dk_180 1 227 (dk_at dksX6_remember_6 21 rfl rfl)
theorem dX6_remember_162 : decode cX6_remember 162 = .ok (.iconst 1, 1) := dk_4 (dk_at dksX6_remember_7 0 rfl rfl)
theorem dX6_remember_163 : decode cX6_remember 163 = .ok (.iadd, 1) := dk_96 (dk_at dksX6_remember_7 1 rfl rfl)
theorem dX6_remember_164 : decode cX6_remember 164 = .ok (.putfield 483, 3) := dk_181 1 227 (dk_at dksX6_remember_7 2 rfl rfl)
theorem dX6_remember_167 : decode cX6_remember 167 = .ok (.return_, 1) := dk_177 (dk_at dksX6_remember_7 5 rfl rfl)
def dkwX6_errorCode_0 : List UInt8 := [42, 3, 181, 0, 3, 42, 180, 0, 85, 172]
abbrev dktX6_errorCode_0 : List UInt8 := dkwX6_errorCode_0 ++ []
theorem dksX6_errorCode_0 : cX6_errorCode.data.toList.drop 0 = dktX6_errorCode_0 := by decide +kernel
theorem dX6_errorCode_0 : decode cX6_errorCode 0 = .ok (.aload_n 0, 1) := dk_42 (dk_at dksX6_errorCode_0 0 rfl rfl)
theorem dX6_errorCode_1 : decode cX6_errorCode 1 = .ok (.iconst 0, 1) := dk_3 (dk_at dksX6_errorCode_0 1 rfl rfl)
theorem dX6_errorCode_2 : decode cX6_errorCode 2 = .ok (.putfield 3, 3) := dk_181 0 3 (dk_at dksX6_errorCode_0 2 rfl rfl)
theorem dX6_errorCode_5 : decode cX6_errorCode 5 = .ok (.aload_n 0, 1) := dk_42 (dk_at dksX6_errorCode_0 5 rfl rfl)
theorem dX6_errorCode_6 : decode cX6_errorCode 6 = .ok (.getfield 85, 3) := dk_180 0 85 (dk_at dksX6_errorCode_0 6 rfl rfl)
theorem dX6_errorCode_9 : decode cX6_errorCode 9 = .ok (.ireturn, 1) := dk_172 (dk_at dksX6_errorCode_0 9 rfl rfl)
def dkwX6_errorPosition_0 : List UInt8 := [42, 3, 181, 0, 3, 42, 180, 0, 35, 172]
abbrev dktX6_errorPosition_0 : List UInt8 := dkwX6_errorPosition_0 ++ []
theorem dksX6_errorPosition_0 : cX6_errorPosition.data.toList.drop 0 = dktX6_errorPosition_0 := by decide +kernel
theorem dX6_errorPosition_0 : decode cX6_errorPosition 0 = .ok (.aload_n 0, 1) := dk_42 (dk_at dksX6_errorPosition_0 0 rfl rfl)
theorem dX6_errorPosition_1 : decode cX6_errorPosition 1 = .ok (.iconst 0, 1) := dk_3 (dk_at dksX6_errorPosition_0 1 rfl rfl)
theorem dX6_errorPosition_2 : decode cX6_errorPosition 2 = .ok (.putfield 3, 3) := dk_181 0 3 (dk_at dksX6_errorPosition_0 2 rfl rfl)
theorem dX6_errorPosition_5 : decode cX6_errorPosition 5 = .ok (.aload_n 0, 1) := dk_42 (dk_at dksX6_errorPosition_0 5 rfl rfl)
theorem dX6_errorPosition_6 : decode cX6_errorPosition 6 = .ok (.getfield 35, 3) := dk_180 0 35 (dk_at dksX6_errorPosition_0 6 rfl rfl)
theorem dX6_errorPosition_9 : decode cX6_errorPosition 9 = .ok (.ireturn, 1) := dk_172 (dk_at dksX6_errorPosition_0 9 rfl rfl)
def dkwX6_find_4 : List UInt8 := [167, 0, 4, 2, 172]
abbrev dktX6_find_4 : List UInt8 := dkwX6_find_4 ++ []
def dkwX6_find_3 : List UInt8 := [159, 0, 12, 17, 0, 200, 21, 4, 96, 167, 0, 19, 21, 5, 2, 159, 0, 12, 17, 1, 44, 21, 5, 96]
abbrev dktX6_find_3 : List UInt8 := dkwX6_find_3 ++ dktX6_find_4
def dkwX6_find_2 : List UInt8 := [159, 0, 7, 28, 167, 0, 46, 29, 2, 159, 0, 10, 16, 100, 29, 96, 167, 0, 34, 21, 4, 2]
abbrev dktX6_find_2 : List UInt8 := dkwX6_find_2 ++ dktX6_find_3
def dkwX6_find_1 : List UInt8 := [182, 0, 231, 61, 42, 182, 0, 234, 62, 42, 182, 0, 237, 54, 4, 42, 182, 0, 240, 54, 5, 28, 2]
abbrev dktX6_find_1 : List UInt8 := dkwX6_find_1 ++ dktX6_find_2
def dkwX6_find_0 : List UInt8 := [42, 3, 181, 0, 3, 42, 182, 1, 68, 60, 42, 3, 181, 0, 74, 27, 154, 0, 5, 2, 172, 42]
abbrev dktX6_find_0 : List UInt8 := dkwX6_find_0 ++ dktX6_find_1
theorem dksX6_find_0 : cX6_find.data.toList.drop 0 = dktX6_find_0 := by decide +kernel
theorem dksX6_find_1 : cX6_find.data.toList.drop 22 = dktX6_find_1 := dk_seg dksX6_find_0 22 rfl rfl
theorem dksX6_find_2 : cX6_find.data.toList.drop 45 = dktX6_find_2 := dk_seg dksX6_find_1 23 rfl rfl
theorem dksX6_find_3 : cX6_find.data.toList.drop 67 = dktX6_find_3 := dk_seg dksX6_find_2 22 rfl rfl
theorem dksX6_find_4 : cX6_find.data.toList.drop 91 = dktX6_find_4 := dk_seg dksX6_find_3 24 rfl rfl
theorem dX6_find_0 : decode cX6_find 0 = .ok (.aload_n 0, 1) := dk_42 (dk_at dksX6_find_0 0 rfl rfl)
theorem dX6_find_1 : decode cX6_find 1 = .ok (.iconst 0, 1) := dk_3 (dk_at dksX6_find_0 1 rfl rfl)
theorem dX6_find_2 : decode cX6_find 2 = .ok (.putfield 3, 3) := dk_181 0 3 (dk_at dksX6_find_0 2 rfl rfl)
theorem dX6_find_5 : decode cX6_find 5 = .ok (.aload_n 0, 1) := dk_42 (dk_at dksX6_find_0 5 rfl rfl)
theorem dX6_find_6 : decode cX6_find 6 = .ok (.invokevirtual 324, 3) := dk_182 1 68 (dk_at dksX6_find_0 6 rfl rfl)
theorem dX6_find_9 : decode cX6_find 9 = .ok (.istore_n 1, 1) := dk_60 (dk_at dksX6_find_0 9 rfl rfl)
theorem dX6_find_10 : decode cX6_find 10 = .ok (.aload_n 0, 1) := dk_42 (dk_at dksX6_find_0 10 rfl rfl)
theorem dX6_find_11 : decode cX6_find 11 = .ok (.iconst 0, 1) := dk_3 (dk_at dksX6_find_0 11 rfl rfl)
theorem dX6_find_12 : decode cX6_find 12 = .ok (.putfield 74, 3) := dk_181 0 74 (dk_at dksX6_find_0 12 rfl rfl)
theorem dX6_find_15 : decode cX6_find 15 = .ok (.iload_n 1, 1) := dk_27 (dk_at dksX6_find_0 15 rfl rfl)
theorem dX6_find_16 : decode cX6_find 16 = .ok (.ifCond .ne 5, 3) := dk_154 0 5 (dk_at dksX6_find_0 16 rfl rfl)
theorem dX6_find_19 : decode cX6_find 19 = .ok (.iconst (-1), 1) := dk_2 (dk_at dksX6_find_0 19 rfl rfl)
theorem dX6_find_20 : decode cX6_find 20 = .ok (.ireturn, 1) := dk_172 (dk_at dksX6_find_0 20 rfl rfl)
theorem dX6_find_21 : decode cX6_find 21 = .ok (.aload_n 0, 1) := dk_42 (dk_at dksX6_find_0 21 rfl rfl)
theorem dX6_find_22 : decode cX6_find 22 = .ok (.invokevirtual 231, 3) := dk_182 0 231 (dk_at dksX6_find_1 0 rfl rfl)
theorem dX6_find_25 : decode cX6_find 25 = .ok (.istore_n 2, 1) := dk_61 (dk_at dksX6_find_1 3 rfl rfl)
theorem dX6_find_26 : decode cX6_find 26 = .ok (.aload_n 0, 1) := dk_42 (dk_at dksX6_find_1 4 rfl rfl)
theorem dX6_find_27 : decode cX6_find 27 = .ok (.invokevirtual 234, 3) := dk_182 0 234 (dk_at dksX6_find_1 5 rfl rfl)
theorem dX6_find_30 : decode cX6_find 30 = .ok (.istore_n 3, 1) := dk_62 (dk_at dksX6_find_1 8 rfl rfl)
theorem dX6_find_31 : decode cX6_find 31 = .ok (.aload_n 0, 1) := dk_42 (dk_at dksX6_find_1 9 rfl rfl)
theorem dX6_find_32 : decode cX6_find 32 = .ok (.invokevirtual 237, 3) := dk_182 0 237 (dk_at dksX6_find_1 10 rfl rfl)
theorem dX6_find_35 : decode cX6_find 35 = .ok (.istore 4, 2) := dk_54 4 (dk_at dksX6_find_1 13 rfl rfl)
theorem dX6_find_37 : decode cX6_find 37 = .ok (.aload_n 0, 1) := dk_42 (dk_at dksX6_find_1 15 rfl rfl)
theorem dX6_find_38 : decode cX6_find 38 = .ok (.invokevirtual 240, 3) := dk_182 0 240 (dk_at dksX6_find_1 16 rfl rfl)
theorem dX6_find_41 : decode cX6_find 41 = .ok (.istore 5, 2) := dk_54 5 (dk_at dksX6_find_1 19 rfl rfl)
theorem dX6_find_43 : decode cX6_find 43 = .ok (.iload_n 2, 1) := dk_28 (dk_at dksX6_find_1 21 rfl rfl)
theorem dX6_find_44 : decode cX6_find 44 = .ok (.iconst (-1), 1) := dk_2 (dk_at dksX6_find_1 22 rfl rfl)
theorem dX6_find_45 : decode cX6_find 45 = .ok (.if_icmp .eq 7, 3) := dk_159 0 7 (dk_at dksX6_find_2 0 rfl rfl)
theorem dX6_find_48 : decode cX6_find 48 = .ok (.iload_n 2, 1) := dk_28 (dk_at dksX6_find_2 3 rfl rfl)
theorem dX6_find_49 : decode cX6_find 49 = .ok (.goto 46, 3) := dk_167 0 46 (dk_at dksX6_find_2 4 rfl rfl)
theorem dX6_find_52 : decode cX6_find 52 = .ok (.iload_n 3, 1) := dk_29 (dk_at dksX6_find_2 7 rfl rfl)
theorem dX6_find_53 : decode cX6_find 53 = .ok (.iconst (-1), 1) := dk_2 (dk_at dksX6_find_2 8 rfl rfl)
theorem dX6_find_54 : decode cX6_find 54 = .ok (.if_icmp .eq 10, 3) := dk_159 0 10 (dk_at dksX6_find_2 9 rfl rfl)
theorem dX6_find_57 : decode cX6_find 57 = .ok (.bipush 100, 2) := dk_16 100 (dk_at dksX6_find_2 12 rfl rfl)
theorem dX6_find_59 : decode cX6_find 59 = .ok (.iload_n 3, 1) := dk_29 (dk_at dksX6_find_2 14 rfl rfl)
theorem dX6_find_60 : decode cX6_find 60 = .ok (.iadd, 1) := dk_96 (dk_at dksX6_find_2 15 rfl rfl)
theorem dX6_find_61 : decode cX6_find 61 = .ok (.goto 34, 3) := dk_167 0 34 (dk_at dksX6_find_2 16 rfl rfl)
theorem dX6_find_64 : decode cX6_find 64 = .ok (.iload 4, 2) := dk_21 4 (dk_at dksX6_find_2 19 rfl rfl)
theorem dX6_find_66 : decode cX6_find 66 = .ok (.iconst (-1), 1) := dk_2 (dk_at dksX6_find_2 21 rfl rfl)
theorem dX6_find_67 : decode cX6_find 67 = .ok (.if_icmp .eq 12, 3) := dk_159 0 12 (dk_at dksX6_find_3 0 rfl rfl)
theorem dX6_find_70 : decode cX6_find 70 = .ok (.sipush 200, 3) := dk_17 0 200 (dk_at dksX6_find_3 3 rfl rfl)
theorem dX6_find_73 : decode cX6_find 73 = .ok (.iload 4, 2) := dk_21 4 (dk_at dksX6_find_3 6 rfl rfl)
theorem dX6_find_75 : decode cX6_find 75 = .ok (.iadd, 1) := dk_96 (dk_at dksX6_find_3 8 rfl rfl)
theorem dX6_find_76 : decode cX6_find 76 = .ok (.goto 19, 3) := dk_167 0 19 (dk_at dksX6_find_3 9 rfl rfl)
theorem dX6_find_79 : decode cX6_find 79 = .ok (.iload 5, 2) := dk_21 5 (dk_at dksX6_find_3 12 rfl rfl)
theorem dX6_find_81 : decode cX6_find 81 = .ok (.iconst (-1), 1) := dk_2 (dk_at dksX6_find_3 14 rfl rfl)
theorem dX6_find_82 : decode cX6_find 82 = .ok (.if_icmp .eq 12, 3) := dk_159 0 12 (dk_at dksX6_find_3 15 rfl rfl)
theorem dX6_find_85 : decode cX6_find 85 = .ok (.sipush 300, 3) := dk_17 1 44 (dk_at dksX6_find_3 18 rfl rfl)
theorem dX6_find_88 : decode cX6_find 88 = .ok (.iload 5, 2) := dk_21 5 (dk_at dksX6_find_3 21 rfl rfl)
theorem dX6_find_90 : decode cX6_find 90 = .ok (.iadd, 1) := dk_96 (dk_at dksX6_find_3 23 rfl rfl)
theorem dX6_find_91 : decode cX6_find 91 = .ok (.goto 4, 3) := dk_167 0 4 (dk_at dksX6_find_4 0 rfl rfl)
theorem dX6_find_94 : decode cX6_find 94 = .ok (.iconst (-1), 1) := dk_2 (dk_at dksX6_find_4 3 rfl rfl)
theorem dX6_find_95 : decode cX6_find 95 = .ok (.ireturn, 1) := dk_172 (dk_at dksX6_find_4 4 rfl rfl)
def dkwX6_looksAtWord_2 : List UInt8 := [20, 0, 108, 20, 0, 110, 184, 0, 66, 60, 132, 2, 1, 167, 255, 224, 27, 172]
abbrev dktX6_looksAtWord_2 : List UInt8 := dkwX6_looksAtWord_2 ++ []
def dkwX6_looksAtWord_1 : List UInt8 := [3, 60, 3, 61, 28, 42, 180, 0, 98, 162, 0, 30, 27, 153, 0, 26, 42, 180, 0, 31, 28, 51, 133]
abbrev dktX6_looksAtWord_1 : List UInt8 := dkwX6_looksAtWord_1 ++ dktX6_looksAtWord_2
def dkwX6_looksAtWord_0 : List UInt8 := [42, 3, 181, 0, 92, 42, 42, 180, 0, 74, 181, 0, 98, 42, 180, 0, 98, 158, 0, 7, 4, 167, 0, 4]
abbrev dktX6_looksAtWord_0 : List UInt8 := dkwX6_looksAtWord_0 ++ dktX6_looksAtWord_1
theorem dksX6_looksAtWord_0 : cX6_looksAtWord.data.toList.drop 0 = dktX6_looksAtWord_0 := by decide +kernel
theorem dksX6_looksAtWord_1 : cX6_looksAtWord.data.toList.drop 24 = dktX6_looksAtWord_1 := dk_seg dksX6_looksAtWord_0 24 rfl rfl
theorem dksX6_looksAtWord_2 : cX6_looksAtWord.data.toList.drop 47 = dktX6_looksAtWord_2 := dk_seg dksX6_looksAtWord_1 23 rfl rfl
theorem dX6_looksAtWord_0 : decode cX6_looksAtWord 0 = .ok (.aload_n 0, 1) := dk_42 (dk_at dksX6_looksAtWord_0 0 rfl rfl)
theorem dX6_looksAtWord_1 : decode cX6_looksAtWord 1 = .ok (.iconst 0, 1) := dk_3 (dk_at dksX6_looksAtWord_0 1 rfl rfl)
theorem dX6_looksAtWord_2 : decode cX6_looksAtWord 2 = .ok (.putfield 92, 3) := dk_181 0 92 (dk_at dksX6_looksAtWord_0 2 rfl rfl)
theorem dX6_looksAtWord_5 : decode cX6_looksAtWord 5 = .ok (.aload_n 0, 1) := dk_42 (dk_at dksX6_looksAtWord_0 5 rfl rfl)
theorem dX6_looksAtWord_6 : decode cX6_looksAtWord 6 = .ok (.aload_n 0, 1) := dk_42 (dk_at dksX6_looksAtWord_0 6 rfl rfl)
theorem dX6_looksAtWord_7 : decode cX6_looksAtWord 7 = .ok (.getfield 74, 3) := dk_180 0 74 (dk_at dksX6_looksAtWord_0 7 rfl rfl)
theorem dX6_looksAtWord_10 : decode cX6_looksAtWord 10 = .ok (.putfield 98, 3) := dk_181 0 98 (dk_at dksX6_looksAtWord_0 10 rfl rfl)
theorem dX6_looksAtWord_13 : decode cX6_looksAtWord 13 = .ok (.aload_n 0, 1) := dk_42 (dk_at dksX6_looksAtWord_0 13 rfl rfl)
theorem dX6_looksAtWord_14 : decode cX6_looksAtWord 14 = .ok (.getfield 98, 3) := dk_180 0 98 (dk_at dksX6_looksAtWord_0 14 rfl rfl)
theorem dX6_looksAtWord_17 : decode cX6_looksAtWord 17 = .ok (.ifCond .le 7, 3) := dk_158 0 7 (dk_at dksX6_looksAtWord_0 17 rfl rfl)
theorem dX6_looksAtWord_20 : decode cX6_looksAtWord 20 = .ok (.iconst 1, 1) := dk_4 (dk_at dksX6_looksAtWord_0 20 rfl rfl)
theorem dX6_looksAtWord_21 : decode cX6_looksAtWord 21 = .ok (.goto 4, 3) := dk_167 0 4 (dk_at dksX6_looksAtWord_0 21 rfl rfl)
theorem dX6_looksAtWord_24 : decode cX6_looksAtWord 24 = .ok (.iconst 0, 1) := dk_3 (dk_at dksX6_looksAtWord_1 0 rfl rfl)
theorem dX6_looksAtWord_25 : decode cX6_looksAtWord 25 = .ok (.istore_n 1, 1) := dk_60 (dk_at dksX6_looksAtWord_1 1 rfl rfl)
theorem dX6_looksAtWord_26 : decode cX6_looksAtWord 26 = .ok (.iconst 0, 1) := dk_3 (dk_at dksX6_looksAtWord_1 2 rfl rfl)
theorem dX6_looksAtWord_27 : decode cX6_looksAtWord 27 = .ok (.istore_n 2, 1) := dk_61 (dk_at dksX6_looksAtWord_1 3 rfl rfl)
theorem dX6_looksAtWord_28 : decode cX6_looksAtWord 28 = .ok (.iload_n 2, 1) := dk_28 (dk_at dksX6_looksAtWord_1 4 rfl rfl)
theorem dX6_looksAtWord_29 : decode cX6_looksAtWord 29 = .ok (.aload_n 0, 1) := dk_42 (dk_at dksX6_looksAtWord_1 5 rfl rfl)
theorem dX6_looksAtWord_30 : decode cX6_looksAtWord 30 = .ok (.getfield 98, 3) := dk_180 0 98 (dk_at dksX6_looksAtWord_1 6 rfl rfl)
theorem dX6_looksAtWord_33 : decode cX6_looksAtWord 33 = .ok (.if_icmp .ge 30, 3) := dk_162 0 30 (dk_at dksX6_looksAtWord_1 9 rfl rfl)
theorem dX6_looksAtWord_36 : decode cX6_looksAtWord 36 = .ok (.iload_n 1, 1) := dk_27 (dk_at dksX6_looksAtWord_1 12 rfl rfl)
theorem dX6_looksAtWord_37 : decode cX6_looksAtWord 37 = .ok (.ifCond .eq 26, 3) := dk_153 0 26 (dk_at dksX6_looksAtWord_1 13 rfl rfl)
theorem dX6_looksAtWord_40 : decode cX6_looksAtWord 40 = .ok (.aload_n 0, 1) := dk_42 (dk_at dksX6_looksAtWord_1 16 rfl rfl)
theorem dX6_looksAtWord_41 : decode cX6_looksAtWord 41 = .ok (.getfield 31, 3) := dk_180 0 31 (dk_at dksX6_looksAtWord_1 17 rfl rfl)
theorem dX6_looksAtWord_44 : decode cX6_looksAtWord 44 = .ok (.iload_n 2, 1) := dk_28 (dk_at dksX6_looksAtWord_1 20 rfl rfl)
theorem dX6_looksAtWord_45 : decode cX6_looksAtWord 45 = .ok (.baload, 1) := dk_51 (dk_at dksX6_looksAtWord_1 21 rfl rfl)
theorem dX6_looksAtWord_46 : decode cX6_looksAtWord 46 = .ok (.i2l, 1) := dk_133 (dk_at dksX6_looksAtWord_1 22 rfl rfl)
theorem dX6_looksAtWord_47 : decode cX6_looksAtWord 47 = .ok (.ldc2_w 108, 3) := dk_20 0 108 (dk_at dksX6_looksAtWord_2 0 rfl rfl)
theorem dX6_looksAtWord_50 : decode cX6_looksAtWord 50 = .ok (.ldc2_w 110, 3) := dk_20 0 110 (dk_at dksX6_looksAtWord_2 3 rfl rfl)
theorem dX6_looksAtWord_53 : decode cX6_looksAtWord 53 = .ok (.invokestatic 66, 3) := dk_184 0 66 (dk_at dksX6_looksAtWord_2 6 rfl rfl)
theorem dX6_looksAtWord_56 : decode cX6_looksAtWord 56 = .ok (.istore_n 1, 1) := dk_60 (dk_at dksX6_looksAtWord_2 9 rfl rfl)
theorem dX6_looksAtWord_57 : decode cX6_looksAtWord 57 = .ok (.iinc 2 1, 3) := dk_132 2 1 (dk_at dksX6_looksAtWord_2 10 rfl rfl)
theorem dX6_looksAtWord_60 : decode cX6_looksAtWord 60 = .ok (.goto (-32), 3) := dk_167 255 224 (dk_at dksX6_looksAtWord_2 13 rfl rfl)
theorem dX6_looksAtWord_63 : decode cX6_looksAtWord 63 = .ok (.iload_n 1, 1) := dk_27 (dk_at dksX6_looksAtWord_2 16 rfl rfl)
theorem dX6_looksAtWord_64 : decode cX6_looksAtWord 64 = .ok (.ireturn, 1) := dk_172 (dk_at dksX6_looksAtWord_2 17 rfl rfl)
def dkwX6_count_4 : List UInt8 := [180, 0, 17, 4, 46, 172, 42, 180, 0, 17, 5, 46, 172]
abbrev dktX6_count_4 : List UInt8 := dkwX6_count_4 ++ []
def dkwX6_count_3 : List UInt8 := [180, 0, 17, 16, 6, 46, 172, 42, 180, 0, 17, 16, 7, 46, 172, 42, 180, 0, 17, 3, 46, 172, 42]
abbrev dktX6_count_3 : List UInt8 := dkwX6_count_3 ++ dktX6_count_4
def dkwX6_count_2 : List UInt8 := [42, 180, 0, 17, 6, 46, 172, 42, 180, 0, 17, 7, 46, 172, 42, 180, 0, 17, 8, 46, 172, 42]
abbrev dktX6_count_2 : List UInt8 := dkwX6_count_2 ++ dktX6_count_3
def dkwX6_count_1 : List UInt8 := [170, 0, 0, 0, 92, 0, 0, 0, 0, 0, 0, 0, 6, 0, 0, 0, 41, 0, 0, 0, 48, 0, 0, 0, 55, 0, 0, 0, 62, 0, 0, 0, 70, 0, 0, 0, 78, 0, 0, 0, 85]
abbrev dktX6_count_1 : List UInt8 := dkwX6_count_1 ++ dktX6_count_2
def dkwX6_count_0 : List UInt8 := [42, 27, 133, 9, 20, 1, 71, 184, 0, 66, 182, 0, 77, 154, 0, 5, 3, 172, 27]
abbrev dktX6_count_0 : List UInt8 := dkwX6_count_0 ++ dktX6_count_1
theorem dksX6_count_0 : cX6_count.data.toList.drop 0 = dktX6_count_0 := by decide +kernel
theorem dksX6_count_1 : cX6_count.data.toList.drop 19 = dktX6_count_1 := dk_seg dksX6_count_0 19 rfl rfl
theorem dksX6_count_2 : cX6_count.data.toList.drop 60 = dktX6_count_2 := dk_seg dksX6_count_1 41 rfl rfl
theorem dksX6_count_3 : cX6_count.data.toList.drop 82 = dktX6_count_3 := dk_seg dksX6_count_2 22 rfl rfl
theorem dksX6_count_4 : cX6_count.data.toList.drop 105 = dktX6_count_4 := dk_seg dksX6_count_3 23 rfl rfl
theorem dX6_count_0 : decode cX6_count 0 = .ok (.aload_n 0, 1) := dk_42 (dk_at dksX6_count_0 0 rfl rfl)
theorem dX6_count_1 : decode cX6_count 1 = .ok (.iload_n 1, 1) := dk_27 (dk_at dksX6_count_0 1 rfl rfl)
theorem dX6_count_2 : decode cX6_count 2 = .ok (.i2l, 1) := dk_133 (dk_at dksX6_count_0 2 rfl rfl)
theorem dX6_count_3 : decode cX6_count 3 = .ok (.lconst 0, 1) := dk_9 (dk_at dksX6_count_0 3 rfl rfl)
theorem dX6_count_4 : decode cX6_count 4 = .ok (.ldc2_w 327, 3) := dk_20 1 71 (dk_at dksX6_count_0 4 rfl rfl)
theorem dX6_count_7 : decode cX6_count 7 = .ok (.invokestatic 66, 3) := dk_184 0 66 (dk_at dksX6_count_0 7 rfl rfl)
theorem dX6_count_10 : decode cX6_count 10 = .ok (.invokevirtual 77, 3) := dk_182 0 77 (dk_at dksX6_count_0 10 rfl rfl)
theorem dX6_count_13 : decode cX6_count 13 = .ok (.ifCond .ne 5, 3) := dk_154 0 5 (dk_at dksX6_count_0 13 rfl rfl)
theorem dX6_count_16 : decode cX6_count 16 = .ok (.iconst 0, 1) := dk_3 (dk_at dksX6_count_0 16 rfl rfl)
theorem dX6_count_17 : decode cX6_count 17 = .ok (.ireturn, 1) := dk_172 (dk_at dksX6_count_0 17 rfl rfl)
theorem dX6_count_18 : decode cX6_count 18 = .ok (.iload_n 1, 1) := dk_27 (dk_at dksX6_count_0 18 rfl rfl)
theorem dX6_count_19 : decode cX6_count 19 = .ok (.tableswitch 92 0 6 #[41, 48, 55, 62, 70, 78, 85], 41) := by decide +kernel
theorem dX6_count_60 : decode cX6_count 60 = .ok (.aload_n 0, 1) := dk_42 (dk_at dksX6_count_2 0 rfl rfl)
theorem dX6_count_61 : decode cX6_count 61 = .ok (.getfield 17, 3) := dk_180 0 17 (dk_at dksX6_count_2 1 rfl rfl)
theorem dX6_count_64 : decode cX6_count 64 = .ok (.iconst 3, 1) := dk_6 (dk_at dksX6_count_2 4 rfl rfl)
theorem dX6_count_65 : decode cX6_count 65 = .ok (.iaload, 1) := dk_46 (dk_at dksX6_count_2 5 rfl rfl)
theorem dX6_count_66 : decode cX6_count 66 = .ok (.ireturn, 1) := dk_172 (dk_at dksX6_count_2 6 rfl rfl)
theorem dX6_count_67 : decode cX6_count 67 = .ok (.aload_n 0, 1) := dk_42 (dk_at dksX6_count_2 7 rfl rfl)
theorem dX6_count_68 : decode cX6_count 68 = .ok (.getfield 17, 3) := dk_180 0 17 (dk_at dksX6_count_2 8 rfl rfl)
theorem dX6_count_71 : decode cX6_count 71 = .ok (.iconst 4, 1) := dk_7 (dk_at dksX6_count_2 11 rfl rfl)
theorem dX6_count_72 : decode cX6_count 72 = .ok (.iaload, 1) := dk_46 (dk_at dksX6_count_2 12 rfl rfl)
theorem dX6_count_73 : decode cX6_count 73 = .ok (.ireturn, 1) := dk_172 (dk_at dksX6_count_2 13 rfl rfl)
theorem dX6_count_74 : decode cX6_count 74 = .ok (.aload_n 0, 1) := dk_42 (dk_at dksX6_count_2 14 rfl rfl)
theorem dX6_count_75 : decode cX6_count 75 = .ok (.getfield 17, 3) := dk_180 0 17 (dk_at dksX6_count_2 15 rfl rfl)
theorem dX6_count_78 : decode cX6_count 78 = .ok (.iconst 5, 1) := dk_8 (dk_at dksX6_count_2 18 rfl rfl)
theorem dX6_count_79 : decode cX6_count 79 = .ok (.iaload, 1) := dk_46 (dk_at dksX6_count_2 19 rfl rfl)
theorem dX6_count_80 : decode cX6_count 80 = .ok (.ireturn, 1) := dk_172 (dk_at dksX6_count_2 20 rfl rfl)
theorem dX6_count_81 : decode cX6_count 81 = .ok (.aload_n 0, 1) := dk_42 (dk_at dksX6_count_2 21 rfl rfl)
theorem dX6_count_82 : decode cX6_count 82 = .ok (.getfield 17, 3) := dk_180 0 17 (dk_at dksX6_count_3 0 rfl rfl)
theorem dX6_count_85 : decode cX6_count 85 = .ok (.bipush 6, 2) := dk_16 6 (dk_at dksX6_count_3 3 rfl rfl)
theorem dX6_count_87 : decode cX6_count 87 = .ok (.iaload, 1) := dk_46 (dk_at dksX6_count_3 5 rfl rfl)
theorem dX6_count_88 : decode cX6_count 88 = .ok (.ireturn, 1) := dk_172 (dk_at dksX6_count_3 6 rfl rfl)
theorem dX6_count_89 : decode cX6_count 89 = .ok (.aload_n 0, 1) := dk_42 (dk_at dksX6_count_3 7 rfl rfl)
theorem dX6_count_90 : decode cX6_count 90 = .ok (.getfield 17, 3) := dk_180 0 17 (dk_at dksX6_count_3 8 rfl rfl)
theorem dX6_count_93 : decode cX6_count 93 = .ok (.bipush 7, 2) := dk_16 7 (dk_at dksX6_count_3 11 rfl rfl)
theorem dX6_count_95 : decode cX6_count 95 = .ok (.iaload, 1) := dk_46 (dk_at dksX6_count_3 13 rfl rfl)
theorem dX6_count_96 : decode cX6_count 96 = .ok (.ireturn, 1) := dk_172 (dk_at dksX6_count_3 14 rfl rfl)
theorem dX6_count_97 : decode cX6_count 97 = .ok (.aload_n 0, 1) := dk_42 (dk_at dksX6_count_3 15 rfl rfl)
theorem dX6_count_98 : decode cX6_count 98 = .ok (.getfield 17, 3) := dk_180 0 17 (dk_at dksX6_count_3 16 rfl rfl)
theorem dX6_count_101 : decode cX6_count 101 = .ok (.iconst 0, 1) := dk_3 (dk_at dksX6_count_3 19 rfl rfl)
theorem dX6_count_102 : decode cX6_count 102 = .ok (.iaload, 1) := dk_46 (dk_at dksX6_count_3 20 rfl rfl)
theorem dX6_count_103 : decode cX6_count 103 = .ok (.ireturn, 1) := dk_172 (dk_at dksX6_count_3 21 rfl rfl)
theorem dX6_count_104 : decode cX6_count 104 = .ok (.aload_n 0, 1) := dk_42 (dk_at dksX6_count_3 22 rfl rfl)
theorem dX6_count_105 : decode cX6_count 105 = .ok (.getfield 17, 3) := dk_180 0 17 (dk_at dksX6_count_4 0 rfl rfl)
theorem dX6_count_108 : decode cX6_count 108 = .ok (.iconst 1, 1) := dk_4 (dk_at dksX6_count_4 3 rfl rfl)
theorem dX6_count_109 : decode cX6_count 109 = .ok (.iaload, 1) := dk_46 (dk_at dksX6_count_4 4 rfl rfl)
theorem dX6_count_110 : decode cX6_count 110 = .ok (.ireturn, 1) := dk_172 (dk_at dksX6_count_4 5 rfl rfl)
theorem dX6_count_111 : decode cX6_count 111 = .ok (.aload_n 0, 1) := dk_42 (dk_at dksX6_count_4 6 rfl rfl)
theorem dX6_count_112 : decode cX6_count 112 = .ok (.getfield 17, 3) := dk_180 0 17 (dk_at dksX6_count_4 7 rfl rfl)
theorem dX6_count_115 : decode cX6_count 115 = .ok (.iconst 2, 1) := dk_5 (dk_at dksX6_count_4 10 rfl rfl)
theorem dX6_count_116 : decode cX6_count 116 = .ok (.iaload, 1) := dk_46 (dk_at dksX6_count_4 11 rfl rfl)
theorem dX6_count_117 : decode cX6_count 117 = .ok (.ireturn, 1) := dk_172 (dk_at dksX6_count_4 12 rfl rfl)
def dkwX6_now_0 : List UInt8 := [42, 3, 181, 0, 3, 42, 180, 0, 17, 16, 8, 46, 172]
abbrev dktX6_now_0 : List UInt8 := dkwX6_now_0 ++ []
theorem dksX6_now_0 : cX6_now.data.toList.drop 0 = dktX6_now_0 := by decide +kernel
theorem dX6_now_0 : decode cX6_now 0 = .ok (.aload_n 0, 1) := dk_42 (dk_at dksX6_now_0 0 rfl rfl)
theorem dX6_now_1 : decode cX6_now 1 = .ok (.iconst 0, 1) := dk_3 (dk_at dksX6_now_0 1 rfl rfl)
theorem dX6_now_2 : decode cX6_now 2 = .ok (.putfield 3, 3) := dk_181 0 3 (dk_at dksX6_now_0 2 rfl rfl)
theorem dX6_now_5 : decode cX6_now 5 = .ok (.aload_n 0, 1) := dk_42 (dk_at dksX6_now_0 5 rfl rfl)
theorem dX6_now_6 : decode cX6_now 6 = .ok (.getfield 17, 3) := dk_180 0 17 (dk_at dksX6_now_0 6 rfl rfl)
theorem dX6_now_9 : decode cX6_now 9 = .ok (.bipush 8, 2) := dk_16 8 (dk_at dksX6_now_0 9 rfl rfl)
theorem dX6_now_11 : decode cX6_now 11 = .ok (.iaload, 1) := dk_46 (dk_at dksX6_now_0 11 rfl rfl)
theorem dX6_now_12 : decode cX6_now 12 = .ok (.ireturn, 1) := dk_172 (dk_at dksX6_now_0 12 rfl rfl)
def dkwX6_rated_0 : List UInt8 := [42, 42, 27, 182, 1, 73, 182, 0, 77, 153, 0, 12, 42, 27, 3, 182, 0, 70, 167, 0, 4, 3, 172]
abbrev dktX6_rated_0 : List UInt8 := dkwX6_rated_0 ++ []
theorem dksX6_rated_0 : cX6_rated.data.toList.drop 0 = dktX6_rated_0 := by decide +kernel
theorem dX6_rated_0 : decode cX6_rated 0 = .ok (.aload_n 0, 1) := dk_42 (dk_at dksX6_rated_0 0 rfl rfl)
theorem dX6_rated_1 : decode cX6_rated 1 = .ok (.aload_n 0, 1) := dk_42 (dk_at dksX6_rated_0 1 rfl rfl)
theorem dX6_rated_2 : decode cX6_rated 2 = .ok (.iload_n 1, 1) := dk_27 (dk_at dksX6_rated_0 2 rfl rfl)
theorem dX6_rated_3 : decode cX6_rated 3 = .ok (.invokevirtual 329, 3) := dk_182 1 73 (dk_at dksX6_rated_0 3 rfl rfl)
theorem dX6_rated_6 : decode cX6_rated 6 = .ok (.invokevirtual 77, 3) := dk_182 0 77 (dk_at dksX6_rated_0 6 rfl rfl)
theorem dX6_rated_9 : decode cX6_rated 9 = .ok (.ifCond .eq 12, 3) := dk_153 0 12 (dk_at dksX6_rated_0 9 rfl rfl)
theorem dX6_rated_12 : decode cX6_rated 12 = .ok (.aload_n 0, 1) := dk_42 (dk_at dksX6_rated_0 12 rfl rfl)
theorem dX6_rated_13 : decode cX6_rated 13 = .ok (.iload_n 1, 1) := dk_27 (dk_at dksX6_rated_0 13 rfl rfl)
theorem dX6_rated_14 : decode cX6_rated 14 = .ok (.iconst 0, 1) := dk_3 (dk_at dksX6_rated_0 14 rfl rfl)
theorem dX6_rated_15 : decode cX6_rated 15 = .ok (.invokevirtual 70, 3) := dk_182 0 70 (dk_at dksX6_rated_0 15 rfl rfl)
theorem dX6_rated_18 : decode cX6_rated 18 = .ok (.goto 4, 3) := dk_167 0 4 (dk_at dksX6_rated_0 18 rfl rfl)
theorem dX6_rated_21 : decode cX6_rated 21 = .ok (.iconst 0, 1) := dk_3 (dk_at dksX6_rated_0 21 rfl rfl)
theorem dX6_rated_22 : decode cX6_rated 22 = .ok (.ireturn, 1) := dk_172 (dk_at dksX6_rated_0 22 rfl rfl)
def dkwX6_isBranch_0 : List UInt8 := [27, 133, 9, 42, 180, 0, 24, 6, 46, 4, 100, 133, 184, 0, 66, 172]
abbrev dktX6_isBranch_0 : List UInt8 := dkwX6_isBranch_0 ++ []
theorem dksX6_isBranch_0 : cX6_isBranch.data.toList.drop 0 = dktX6_isBranch_0 := by decide +kernel
theorem dX6_isBranch_0 : decode cX6_isBranch 0 = .ok (.iload_n 1, 1) := dk_27 (dk_at dksX6_isBranch_0 0 rfl rfl)
theorem dX6_isBranch_1 : decode cX6_isBranch 1 = .ok (.i2l, 1) := dk_133 (dk_at dksX6_isBranch_0 1 rfl rfl)
theorem dX6_isBranch_2 : decode cX6_isBranch 2 = .ok (.lconst 0, 1) := dk_9 (dk_at dksX6_isBranch_0 2 rfl rfl)
theorem dX6_isBranch_3 : decode cX6_isBranch 3 = .ok (.aload_n 0, 1) := dk_42 (dk_at dksX6_isBranch_0 3 rfl rfl)
theorem dX6_isBranch_4 : decode cX6_isBranch 4 = .ok (.getfield 24, 3) := dk_180 0 24 (dk_at dksX6_isBranch_0 4 rfl rfl)
theorem dX6_isBranch_7 : decode cX6_isBranch 7 = .ok (.iconst 3, 1) := dk_6 (dk_at dksX6_isBranch_0 7 rfl rfl)
theorem dX6_isBranch_8 : decode cX6_isBranch 8 = .ok (.iaload, 1) := dk_46 (dk_at dksX6_isBranch_0 8 rfl rfl)
theorem dX6_isBranch_9 : decode cX6_isBranch 9 = .ok (.iconst 1, 1) := dk_4 (dk_at dksX6_isBranch_0 9 rfl rfl)
theorem dX6_isBranch_10 : decode cX6_isBranch 10 = .ok (.isub, 1) := dk_100 (dk_at dksX6_isBranch_0 10 rfl rfl)
theorem dX6_isBranch_11 : decode cX6_isBranch 11 = .ok (.i2l, 1) := dk_133 (dk_at dksX6_isBranch_0 11 rfl rfl)
theorem dX6_isBranch_12 : decode cX6_isBranch 12 = .ok (.invokestatic 66, 3) := dk_184 0 66 (dk_at dksX6_isBranch_0 12 rfl rfl)
theorem dX6_isBranch_15 : decode cX6_isBranch 15 = .ok (.ireturn, 1) := dk_172 (dk_at dksX6_isBranch_0 15 rfl rfl)
def dkwX6_ofBranch_0 : List UInt8 := [42, 180, 0, 24, 16, 11, 16, 80, 27, 104, 96, 28, 96, 46, 172]
abbrev dktX6_ofBranch_0 : List UInt8 := dkwX6_ofBranch_0 ++ []
theorem dksX6_ofBranch_0 : cX6_ofBranch.data.toList.drop 0 = dktX6_ofBranch_0 := by decide +kernel
theorem dX6_ofBranch_0 : decode cX6_ofBranch 0 = .ok (.aload_n 0, 1) := dk_42 (dk_at dksX6_ofBranch_0 0 rfl rfl)
theorem dX6_ofBranch_1 : decode cX6_ofBranch 1 = .ok (.getfield 24, 3) := dk_180 0 24 (dk_at dksX6_ofBranch_0 1 rfl rfl)
theorem dX6_ofBranch_4 : decode cX6_ofBranch 4 = .ok (.bipush 11, 2) := dk_16 11 (dk_at dksX6_ofBranch_0 4 rfl rfl)
theorem dX6_ofBranch_6 : decode cX6_ofBranch 6 = .ok (.bipush 80, 2) := dk_16 80 (dk_at dksX6_ofBranch_0 6 rfl rfl)
theorem dX6_ofBranch_8 : decode cX6_ofBranch 8 = .ok (.iload_n 1, 1) := dk_27 (dk_at dksX6_ofBranch_0 8 rfl rfl)
theorem dX6_ofBranch_9 : decode cX6_ofBranch 9 = .ok (.imul, 1) := dk_104 (dk_at dksX6_ofBranch_0 9 rfl rfl)
theorem dX6_ofBranch_10 : decode cX6_ofBranch 10 = .ok (.iadd, 1) := dk_96 (dk_at dksX6_ofBranch_0 10 rfl rfl)
theorem dX6_ofBranch_11 : decode cX6_ofBranch 11 = .ok (.iload_n 2, 1) := dk_28 (dk_at dksX6_ofBranch_0 11 rfl rfl)
theorem dX6_ofBranch_12 : decode cX6_ofBranch 12 = .ok (.iadd, 1) := dk_96 (dk_at dksX6_ofBranch_0 12 rfl rfl)
theorem dX6_ofBranch_13 : decode cX6_ofBranch 13 = .ok (.iaload, 1) := dk_46 (dk_at dksX6_ofBranch_0 13 rfl rfl)
theorem dX6_ofBranch_14 : decode cX6_ofBranch 14 = .ok (.ireturn, 1) := dk_172 (dk_at dksX6_ofBranch_0 14 rfl rfl)
def dkwX6_loadOf_1 : List UInt8 := [182, 1, 86, 167, 0, 4, 3, 172]
abbrev dktX6_loadOf_1 : List UInt8 := dkwX6_loadOf_1 ++ []
def dkwX6_loadOf_0 : List UInt8 := [42, 42, 27, 182, 1, 77, 28, 133, 9, 20, 1, 80, 184, 0, 66, 182, 1, 82, 153, 0, 12, 42, 27, 28]
abbrev dktX6_loadOf_0 : List UInt8 := dkwX6_loadOf_0 ++ dktX6_loadOf_1
theorem dksX6_loadOf_0 : cX6_loadOf.data.toList.drop 0 = dktX6_loadOf_0 := by decide +kernel
theorem dksX6_loadOf_1 : cX6_loadOf.data.toList.drop 24 = dktX6_loadOf_1 := dk_seg dksX6_loadOf_0 24 rfl rfl
theorem dX6_loadOf_0 : decode cX6_loadOf 0 = .ok (.aload_n 0, 1) := dk_42 (dk_at dksX6_loadOf_0 0 rfl rfl)
theorem dX6_loadOf_1 : decode cX6_loadOf 1 = .ok (.aload_n 0, 1) := dk_42 (dk_at dksX6_loadOf_0 1 rfl rfl)
theorem dX6_loadOf_2 : decode cX6_loadOf 2 = .ok (.iload_n 1, 1) := dk_27 (dk_at dksX6_loadOf_0 2 rfl rfl)
theorem dX6_loadOf_3 : decode cX6_loadOf 3 = .ok (.invokevirtual 333, 3) := dk_182 1 77 (dk_at dksX6_loadOf_0 3 rfl rfl)
theorem dX6_loadOf_6 : decode cX6_loadOf 6 = .ok (.iload_n 2, 1) := dk_28 (dk_at dksX6_loadOf_0 6 rfl rfl)
theorem dX6_loadOf_7 : decode cX6_loadOf 7 = .ok (.i2l, 1) := dk_133 (dk_at dksX6_loadOf_0 7 rfl rfl)
theorem dX6_loadOf_8 : decode cX6_loadOf 8 = .ok (.lconst 0, 1) := dk_9 (dk_at dksX6_loadOf_0 8 rfl rfl)
theorem dX6_loadOf_9 : decode cX6_loadOf 9 = .ok (.ldc2_w 336, 3) := dk_20 1 80 (dk_at dksX6_loadOf_0 9 rfl rfl)
theorem dX6_loadOf_12 : decode cX6_loadOf 12 = .ok (.invokestatic 66, 3) := dk_184 0 66 (dk_at dksX6_loadOf_0 12 rfl rfl)
theorem dX6_loadOf_15 : decode cX6_loadOf 15 = .ok (.invokevirtual 338, 3) := dk_182 1 82 (dk_at dksX6_loadOf_0 15 rfl rfl)
theorem dX6_loadOf_18 : decode cX6_loadOf 18 = .ok (.ifCond .eq 12, 3) := dk_153 0 12 (dk_at dksX6_loadOf_0 18 rfl rfl)
theorem dX6_loadOf_21 : decode cX6_loadOf 21 = .ok (.aload_n 0, 1) := dk_42 (dk_at dksX6_loadOf_0 21 rfl rfl)
theorem dX6_loadOf_22 : decode cX6_loadOf 22 = .ok (.iload_n 1, 1) := dk_27 (dk_at dksX6_loadOf_0 22 rfl rfl)
theorem dX6_loadOf_23 : decode cX6_loadOf 23 = .ok (.iload_n 2, 1) := dk_28 (dk_at dksX6_loadOf_0 23 rfl rfl)
theorem dX6_loadOf_24 : decode cX6_loadOf 24 = .ok (.invokevirtual 342, 3) := dk_182 1 86 (dk_at dksX6_loadOf_1 0 rfl rfl)
theorem dX6_loadOf_27 : decode cX6_loadOf 27 = .ok (.goto 4, 3) := dk_167 0 4 (dk_at dksX6_loadOf_1 3 rfl rfl)
theorem dX6_loadOf_30 : decode cX6_loadOf 30 = .ok (.iconst 0, 1) := dk_3 (dk_at dksX6_loadOf_1 6 rfl rfl)
theorem dX6_loadOf_31 : decode cX6_loadOf 31 = .ok (.ireturn, 1) := dk_172 (dk_at dksX6_loadOf_1 7 rfl rfl)
def dkwX6_isLoad_0 : List UInt8 := [27, 133, 9, 42, 180, 0, 24, 7, 46, 4, 100, 133, 184, 0, 66, 172]
abbrev dktX6_isLoad_0 : List UInt8 := dkwX6_isLoad_0 ++ []
theorem dksX6_isLoad_0 : cX6_isLoad.data.toList.drop 0 = dktX6_isLoad_0 := by decide +kernel
theorem dX6_isLoad_0 : decode cX6_isLoad 0 = .ok (.iload_n 1, 1) := dk_27 (dk_at dksX6_isLoad_0 0 rfl rfl)
theorem dX6_isLoad_1 : decode cX6_isLoad 1 = .ok (.i2l, 1) := dk_133 (dk_at dksX6_isLoad_0 1 rfl rfl)
theorem dX6_isLoad_2 : decode cX6_isLoad 2 = .ok (.lconst 0, 1) := dk_9 (dk_at dksX6_isLoad_0 2 rfl rfl)
theorem dX6_isLoad_3 : decode cX6_isLoad 3 = .ok (.aload_n 0, 1) := dk_42 (dk_at dksX6_isLoad_0 3 rfl rfl)
theorem dX6_isLoad_4 : decode cX6_isLoad 4 = .ok (.getfield 24, 3) := dk_180 0 24 (dk_at dksX6_isLoad_0 4 rfl rfl)
theorem dX6_isLoad_7 : decode cX6_isLoad 7 = .ok (.iconst 4, 1) := dk_7 (dk_at dksX6_isLoad_0 7 rfl rfl)
theorem dX6_isLoad_8 : decode cX6_isLoad 8 = .ok (.iaload, 1) := dk_46 (dk_at dksX6_isLoad_0 8 rfl rfl)
theorem dX6_isLoad_9 : decode cX6_isLoad 9 = .ok (.iconst 1, 1) := dk_4 (dk_at dksX6_isLoad_0 9 rfl rfl)
theorem dX6_isLoad_10 : decode cX6_isLoad 10 = .ok (.isub, 1) := dk_100 (dk_at dksX6_isLoad_0 10 rfl rfl)
theorem dX6_isLoad_11 : decode cX6_isLoad 11 = .ok (.i2l, 1) := dk_133 (dk_at dksX6_isLoad_0 11 rfl rfl)
theorem dX6_isLoad_12 : decode cX6_isLoad 12 = .ok (.invokestatic 66, 3) := dk_184 0 66 (dk_at dksX6_isLoad_0 12 rfl rfl)
theorem dX6_isLoad_15 : decode cX6_isLoad 15 = .ok (.ireturn, 1) := dk_172 (dk_at dksX6_isLoad_0 15 rfl rfl)
def dkwX6_passes2_0 : List UInt8 := [42, 27, 28, 4, 4, 182, 0, 7, 172]
abbrev dktX6_passes2_0 : List UInt8 := dkwX6_passes2_0 ++ []
theorem dksX6_passes2_0 : cX6_passes2.data.toList.drop 0 = dktX6_passes2_0 := by decide +kernel
theorem dX6_passes2_0 : decode cX6_passes2 0 = .ok (.aload_n 0, 1) := dk_42 (dk_at dksX6_passes2_0 0 rfl rfl)
theorem dX6_passes2_1 : decode cX6_passes2 1 = .ok (.iload_n 1, 1) := dk_27 (dk_at dksX6_passes2_0 1 rfl rfl)
theorem dX6_passes2_2 : decode cX6_passes2 2 = .ok (.iload_n 2, 1) := dk_28 (dk_at dksX6_passes2_0 2 rfl rfl)
theorem dX6_passes2_3 : decode cX6_passes2 3 = .ok (.iconst 1, 1) := dk_4 (dk_at dksX6_passes2_0 3 rfl rfl)
theorem dX6_passes2_4 : decode cX6_passes2 4 = .ok (.iconst 1, 1) := dk_4 (dk_at dksX6_passes2_0 4 rfl rfl)
theorem dX6_passes2_5 : decode cX6_passes2 5 = .ok (.invokevirtual 7, 3) := dk_182 0 7 (dk_at dksX6_passes2_0 5 rfl rfl)
theorem dX6_passes2_8 : decode cX6_passes2 8 = .ok (.ireturn, 1) := dk_172 (dk_at dksX6_passes2_0 8 rfl rfl)
def dkwX6_ofLoad_0 : List UInt8 := [42, 180, 0, 24, 17, 1, 75, 16, 12, 27, 104, 96, 28, 96, 46, 172]
abbrev dktX6_ofLoad_0 : List UInt8 := dkwX6_ofLoad_0 ++ []
theorem dksX6_ofLoad_0 : cX6_ofLoad.data.toList.drop 0 = dktX6_ofLoad_0 := by decide +kernel
theorem dX6_ofLoad_0 : decode cX6_ofLoad 0 = .ok (.aload_n 0, 1) := dk_42 (dk_at dksX6_ofLoad_0 0 rfl rfl)
theorem dX6_ofLoad_1 : decode cX6_ofLoad 1 = .ok (.getfield 24, 3) := dk_180 0 24 (dk_at dksX6_ofLoad_0 1 rfl rfl)
theorem dX6_ofLoad_4 : decode cX6_ofLoad 4 = .ok (.sipush 331, 3) := dk_17 1 75 (dk_at dksX6_ofLoad_0 4 rfl rfl)
theorem dX6_ofLoad_7 : decode cX6_ofLoad 7 = .ok (.bipush 12, 2) := dk_16 12 (dk_at dksX6_ofLoad_0 7 rfl rfl)
theorem dX6_ofLoad_9 : decode cX6_ofLoad 9 = .ok (.iload_n 1, 1) := dk_27 (dk_at dksX6_ofLoad_0 9 rfl rfl)
theorem dX6_ofLoad_10 : decode cX6_ofLoad 10 = .ok (.imul, 1) := dk_104 (dk_at dksX6_ofLoad_0 10 rfl rfl)
theorem dX6_ofLoad_11 : decode cX6_ofLoad 11 = .ok (.iadd, 1) := dk_96 (dk_at dksX6_ofLoad_0 11 rfl rfl)
theorem dX6_ofLoad_12 : decode cX6_ofLoad 12 = .ok (.iload_n 2, 1) := dk_28 (dk_at dksX6_ofLoad_0 12 rfl rfl)
theorem dX6_ofLoad_13 : decode cX6_ofLoad 13 = .ok (.iadd, 1) := dk_96 (dk_at dksX6_ofLoad_0 13 rfl rfl)
theorem dX6_ofLoad_14 : decode cX6_ofLoad 14 = .ok (.iaload, 1) := dk_46 (dk_at dksX6_ofLoad_0 14 rfl rfl)
theorem dX6_ofLoad_15 : decode cX6_ofLoad 15 = .ok (.ireturn, 1) := dk_172 (dk_at dksX6_ofLoad_0 15 rfl rfl)
def dkwX6_isOn_1 : List UInt8 := [167, 0, 4, 3, 172]
abbrev dktX6_isOn_1 : List UInt8 := dkwX6_isOn_1 ++ []
def dkwX6_isOn_0 : List UInt8 := [42, 42, 27, 182, 1, 77, 182, 0, 77, 153, 0, 17, 42, 27, 8, 182, 1, 86, 4, 160, 0, 7, 4]
abbrev dktX6_isOn_0 : List UInt8 := dkwX6_isOn_0 ++ dktX6_isOn_1
theorem dksX6_isOn_0 : cX6_isOn.data.toList.drop 0 = dktX6_isOn_0 := by decide +kernel
theorem dksX6_isOn_1 : cX6_isOn.data.toList.drop 23 = dktX6_isOn_1 := dk_seg dksX6_isOn_0 23 rfl rfl
theorem dX6_isOn_0 : decode cX6_isOn 0 = .ok (.aload_n 0, 1) := dk_42 (dk_at dksX6_isOn_0 0 rfl rfl)
theorem dX6_isOn_1 : decode cX6_isOn 1 = .ok (.aload_n 0, 1) := dk_42 (dk_at dksX6_isOn_0 1 rfl rfl)
theorem dX6_isOn_2 : decode cX6_isOn 2 = .ok (.iload_n 1, 1) := dk_27 (dk_at dksX6_isOn_0 2 rfl rfl)
theorem dX6_isOn_3 : decode cX6_isOn 3 = .ok (.invokevirtual 333, 3) := dk_182 1 77 (dk_at dksX6_isOn_0 3 rfl rfl)
theorem dX6_isOn_6 : decode cX6_isOn 6 = .ok (.invokevirtual 77, 3) := dk_182 0 77 (dk_at dksX6_isOn_0 6 rfl rfl)
theorem dX6_isOn_9 : decode cX6_isOn 9 = .ok (.ifCond .eq 17, 3) := dk_153 0 17 (dk_at dksX6_isOn_0 9 rfl rfl)
theorem dX6_isOn_12 : decode cX6_isOn 12 = .ok (.aload_n 0, 1) := dk_42 (dk_at dksX6_isOn_0 12 rfl rfl)
theorem dX6_isOn_13 : decode cX6_isOn 13 = .ok (.iload_n 1, 1) := dk_27 (dk_at dksX6_isOn_0 13 rfl rfl)
theorem dX6_isOn_14 : decode cX6_isOn 14 = .ok (.iconst 5, 1) := dk_8 (dk_at dksX6_isOn_0 14 rfl rfl)
theorem dX6_isOn_15 : decode cX6_isOn 15 = .ok (.invokevirtual 342, 3) := dk_182 1 86 (dk_at dksX6_isOn_0 15 rfl rfl)
theorem dX6_isOn_18 : decode cX6_isOn 18 = .ok (.iconst 1, 1) := dk_4 (dk_at dksX6_isOn_0 18 rfl rfl)
theorem dX6_isOn_19 : decode cX6_isOn 19 = .ok (.if_icmp .ne 7, 3) := dk_160 0 7 (dk_at dksX6_isOn_0 19 rfl rfl)
theorem dX6_isOn_22 : decode cX6_isOn 22 = .ok (.iconst 1, 1) := dk_4 (dk_at dksX6_isOn_0 22 rfl rfl)
theorem dX6_isOn_23 : decode cX6_isOn 23 = .ok (.goto 4, 3) := dk_167 0 4 (dk_at dksX6_isOn_1 0 rfl rfl)
theorem dX6_isOn_26 : decode cX6_isOn 26 = .ok (.iconst 0, 1) := dk_3 (dk_at dksX6_isOn_1 3 rfl rfl)
theorem dX6_isOn_27 : decode cX6_isOn 27 = .ok (.ireturn, 1) := dk_172 (dk_at dksX6_isOn_1 4 rfl rfl)
def dkwX6_setOn_2 : List UInt8 := [182, 1, 18, 29, 172]
abbrev dktX6_setOn_2 : List UInt8 := dkwX6_setOn_2 ++ []
def dkwX6_setOn_1 : List UInt8 := [4, 160, 0, 7, 4, 167, 0, 4, 3, 62, 42, 27, 8, 28, 153, 0, 7, 4, 167, 0, 4, 3]
abbrev dktX6_setOn_1 : List UInt8 := dkwX6_setOn_1 ++ dktX6_setOn_2
def dkwX6_setOn_0 : List UInt8 := [42, 42, 27, 182, 1, 77, 182, 0, 77, 154, 0, 5, 3, 172, 42, 182, 1, 65, 42, 27, 8, 182, 1, 86]
abbrev dktX6_setOn_0 : List UInt8 := dkwX6_setOn_0 ++ dktX6_setOn_1
theorem dksX6_setOn_0 : cX6_setOn.data.toList.drop 0 = dktX6_setOn_0 := by decide +kernel
theorem dksX6_setOn_1 : cX6_setOn.data.toList.drop 24 = dktX6_setOn_1 := dk_seg dksX6_setOn_0 24 rfl rfl
theorem dksX6_setOn_2 : cX6_setOn.data.toList.drop 46 = dktX6_setOn_2 := dk_seg dksX6_setOn_1 22 rfl rfl
theorem dX6_setOn_0 : decode cX6_setOn 0 = .ok (.aload_n 0, 1) := dk_42 (dk_at dksX6_setOn_0 0 rfl rfl)
theorem dX6_setOn_1 : decode cX6_setOn 1 = .ok (.aload_n 0, 1) := dk_42 (dk_at dksX6_setOn_0 1 rfl rfl)
theorem dX6_setOn_2 : decode cX6_setOn 2 = .ok (.iload_n 1, 1) := dk_27 (dk_at dksX6_setOn_0 2 rfl rfl)
theorem dX6_setOn_3 : decode cX6_setOn 3 = .ok (.invokevirtual 333, 3) := dk_182 1 77 (dk_at dksX6_setOn_0 3 rfl rfl)
theorem dX6_setOn_6 : decode cX6_setOn 6 = .ok (.invokevirtual 77, 3) := dk_182 0 77 (dk_at dksX6_setOn_0 6 rfl rfl)
theorem dX6_setOn_9 : decode cX6_setOn 9 = .ok (.ifCond .ne 5, 3) := dk_154 0 5 (dk_at dksX6_setOn_0 9 rfl rfl)
theorem dX6_setOn_12 : decode cX6_setOn 12 = .ok (.iconst 0, 1) := dk_3 (dk_at dksX6_setOn_0 12 rfl rfl)
theorem dX6_setOn_13 : decode cX6_setOn 13 = .ok (.ireturn, 1) := dk_172 (dk_at dksX6_setOn_0 13 rfl rfl)
theorem dX6_setOn_14 : decode cX6_setOn 14 = .ok (.aload_n 0, 1) := dk_42 (dk_at dksX6_setOn_0 14 rfl rfl)
theorem dX6_setOn_15 : decode cX6_setOn 15 = .ok (.invokevirtual 321, 3) := dk_182 1 65 (dk_at dksX6_setOn_0 15 rfl rfl)
theorem dX6_setOn_18 : decode cX6_setOn 18 = .ok (.aload_n 0, 1) := dk_42 (dk_at dksX6_setOn_0 18 rfl rfl)
theorem dX6_setOn_19 : decode cX6_setOn 19 = .ok (.iload_n 1, 1) := dk_27 (dk_at dksX6_setOn_0 19 rfl rfl)
theorem dX6_setOn_20 : decode cX6_setOn 20 = .ok (.iconst 5, 1) := dk_8 (dk_at dksX6_setOn_0 20 rfl rfl)
theorem dX6_setOn_21 : decode cX6_setOn 21 = .ok (.invokevirtual 342, 3) := dk_182 1 86 (dk_at dksX6_setOn_0 21 rfl rfl)
theorem dX6_setOn_24 : decode cX6_setOn 24 = .ok (.iconst 1, 1) := dk_4 (dk_at dksX6_setOn_1 0 rfl rfl)
theorem dX6_setOn_25 : decode cX6_setOn 25 = .ok (.if_icmp .ne 7, 3) := dk_160 0 7 (dk_at dksX6_setOn_1 1 rfl rfl)
theorem dX6_setOn_28 : decode cX6_setOn 28 = .ok (.iconst 1, 1) := dk_4 (dk_at dksX6_setOn_1 4 rfl rfl)
theorem dX6_setOn_29 : decode cX6_setOn 29 = .ok (.goto 4, 3) := dk_167 0 4 (dk_at dksX6_setOn_1 5 rfl rfl)
theorem dX6_setOn_32 : decode cX6_setOn 32 = .ok (.iconst 0, 1) := dk_3 (dk_at dksX6_setOn_1 8 rfl rfl)
theorem dX6_setOn_33 : decode cX6_setOn 33 = .ok (.istore_n 3, 1) := dk_62 (dk_at dksX6_setOn_1 9 rfl rfl)
theorem dX6_setOn_34 : decode cX6_setOn 34 = .ok (.aload_n 0, 1) := dk_42 (dk_at dksX6_setOn_1 10 rfl rfl)
theorem dX6_setOn_35 : decode cX6_setOn 35 = .ok (.iload_n 1, 1) := dk_27 (dk_at dksX6_setOn_1 11 rfl rfl)
theorem dX6_setOn_36 : decode cX6_setOn 36 = .ok (.iconst 5, 1) := dk_8 (dk_at dksX6_setOn_1 12 rfl rfl)
theorem dX6_setOn_37 : decode cX6_setOn 37 = .ok (.iload_n 2, 1) := dk_28 (dk_at dksX6_setOn_1 13 rfl rfl)
theorem dX6_setOn_38 : decode cX6_setOn 38 = .ok (.ifCond .eq 7, 3) := dk_153 0 7 (dk_at dksX6_setOn_1 14 rfl rfl)
theorem dX6_setOn_41 : decode cX6_setOn 41 = .ok (.iconst 1, 1) := dk_4 (dk_at dksX6_setOn_1 17 rfl rfl)
theorem dX6_setOn_42 : decode cX6_setOn 42 = .ok (.goto 4, 3) := dk_167 0 4 (dk_at dksX6_setOn_1 18 rfl rfl)
theorem dX6_setOn_45 : decode cX6_setOn 45 = .ok (.iconst 0, 1) := dk_3 (dk_at dksX6_setOn_1 21 rfl rfl)
theorem dX6_setOn_46 : decode cX6_setOn 46 = .ok (.invokevirtual 274, 3) := dk_182 1 18 (dk_at dksX6_setOn_2 0 rfl rfl)
theorem dX6_setOn_49 : decode cX6_setOn 49 = .ok (.iload_n 3, 1) := dk_29 (dk_at dksX6_setOn_2 3 rfl rfl)
theorem dX6_setOn_50 : decode cX6_setOn 50 = .ok (.ireturn, 1) := dk_172 (dk_at dksX6_setOn_2 4 rfl rfl)
def dkwX6_plan_3 : List UInt8 := [16, 7, 46, 172]
abbrev dktX6_plan_3 : List UInt8 := dkwX6_plan_3 ++ []
def dkwX6_plan_2 : List UInt8 := [172, 42, 182, 1, 65, 42, 28, 27, 29, 153, 0, 7, 4, 167, 0, 4, 3, 182, 1, 34, 42, 180, 0, 17]
abbrev dktX6_plan_2 : List UInt8 := dkwX6_plan_2 ++ dktX6_plan_3
def dkwX6_plan_1 : List UInt8 := [42, 180, 0, 17, 16, 7, 46, 16, 20, 162, 0, 7, 4, 167, 0, 4, 3, 182, 1, 91, 154, 0, 5, 3]
abbrev dktX6_plan_1 : List UInt8 := dkwX6_plan_1 ++ dktX6_plan_2
def dkwX6_plan_0 : List UInt8 := [42, 42, 27, 182, 1, 77, 28, 133, 42, 180, 0, 17, 16, 8, 46, 4, 96, 133, 20, 1, 89, 184, 0, 66]
abbrev dktX6_plan_0 : List UInt8 := dkwX6_plan_0 ++ dktX6_plan_1
theorem dksX6_plan_0 : cX6_plan.data.toList.drop 0 = dktX6_plan_0 := by decide +kernel
theorem dksX6_plan_1 : cX6_plan.data.toList.drop 24 = dktX6_plan_1 := dk_seg dksX6_plan_0 24 rfl rfl
theorem dksX6_plan_2 : cX6_plan.data.toList.drop 48 = dktX6_plan_2 := dk_seg dksX6_plan_1 24 rfl rfl
theorem dksX6_plan_3 : cX6_plan.data.toList.drop 72 = dktX6_plan_3 := dk_seg dksX6_plan_2 24 rfl rfl
theorem dX6_plan_0 : decode cX6_plan 0 = .ok (.aload_n 0, 1) := dk_42 (dk_at dksX6_plan_0 0 rfl rfl)
theorem dX6_plan_1 : decode cX6_plan 1 = .ok (.aload_n 0, 1) := dk_42 (dk_at dksX6_plan_0 1 rfl rfl)
theorem dX6_plan_2 : decode cX6_plan 2 = .ok (.iload_n 1, 1) := dk_27 (dk_at dksX6_plan_0 2 rfl rfl)
theorem dX6_plan_3 : decode cX6_plan 3 = .ok (.invokevirtual 333, 3) := dk_182 1 77 (dk_at dksX6_plan_0 3 rfl rfl)
theorem dX6_plan_6 : decode cX6_plan 6 = .ok (.iload_n 2, 1) := dk_28 (dk_at dksX6_plan_0 6 rfl rfl)
theorem dX6_plan_7 : decode cX6_plan 7 = .ok (.i2l, 1) := dk_133 (dk_at dksX6_plan_0 7 rfl rfl)
theorem dX6_plan_8 : decode cX6_plan 8 = .ok (.aload_n 0, 1) := dk_42 (dk_at dksX6_plan_0 8 rfl rfl)
theorem dX6_plan_9 : decode cX6_plan 9 = .ok (.getfield 17, 3) := dk_180 0 17 (dk_at dksX6_plan_0 9 rfl rfl)
theorem dX6_plan_12 : decode cX6_plan 12 = .ok (.bipush 8, 2) := dk_16 8 (dk_at dksX6_plan_0 12 rfl rfl)
theorem dX6_plan_14 : decode cX6_plan 14 = .ok (.iaload, 1) := dk_46 (dk_at dksX6_plan_0 14 rfl rfl)
theorem dX6_plan_15 : decode cX6_plan 15 = .ok (.iconst 1, 1) := dk_4 (dk_at dksX6_plan_0 15 rfl rfl)
theorem dX6_plan_16 : decode cX6_plan 16 = .ok (.iadd, 1) := dk_96 (dk_at dksX6_plan_0 16 rfl rfl)
theorem dX6_plan_17 : decode cX6_plan 17 = .ok (.i2l, 1) := dk_133 (dk_at dksX6_plan_0 17 rfl rfl)
theorem dX6_plan_18 : decode cX6_plan 18 = .ok (.ldc2_w 345, 3) := dk_20 1 89 (dk_at dksX6_plan_0 18 rfl rfl)
theorem dX6_plan_21 : decode cX6_plan 21 = .ok (.invokestatic 66, 3) := dk_184 0 66 (dk_at dksX6_plan_0 21 rfl rfl)
theorem dX6_plan_24 : decode cX6_plan 24 = .ok (.aload_n 0, 1) := dk_42 (dk_at dksX6_plan_1 0 rfl rfl)
theorem dX6_plan_25 : decode cX6_plan 25 = .ok (.getfield 17, 3) := dk_180 0 17 (dk_at dksX6_plan_1 1 rfl rfl)
theorem dX6_plan_28 : decode cX6_plan 28 = .ok (.bipush 7, 2) := dk_16 7 (dk_at dksX6_plan_1 4 rfl rfl)
theorem dX6_plan_30 : decode cX6_plan 30 = .ok (.iaload, 1) := dk_46 (dk_at dksX6_plan_1 6 rfl rfl)
theorem dX6_plan_31 : decode cX6_plan 31 = .ok (.bipush 20, 2) := dk_16 20 (dk_at dksX6_plan_1 7 rfl rfl)
theorem dX6_plan_33 : decode cX6_plan 33 = .ok (.if_icmp .ge 7, 3) := dk_162 0 7 (dk_at dksX6_plan_1 9 rfl rfl)
theorem dX6_plan_36 : decode cX6_plan 36 = .ok (.iconst 1, 1) := dk_4 (dk_at dksX6_plan_1 12 rfl rfl)
theorem dX6_plan_37 : decode cX6_plan 37 = .ok (.goto 4, 3) := dk_167 0 4 (dk_at dksX6_plan_1 13 rfl rfl)
theorem dX6_plan_40 : decode cX6_plan 40 = .ok (.iconst 0, 1) := dk_3 (dk_at dksX6_plan_1 16 rfl rfl)
theorem dX6_plan_41 : decode cX6_plan 41 = .ok (.invokevirtual 347, 3) := dk_182 1 91 (dk_at dksX6_plan_1 17 rfl rfl)
theorem dX6_plan_44 : decode cX6_plan 44 = .ok (.ifCond .ne 5, 3) := dk_154 0 5 (dk_at dksX6_plan_1 20 rfl rfl)
theorem dX6_plan_47 : decode cX6_plan 47 = .ok (.iconst 0, 1) := dk_3 (dk_at dksX6_plan_1 23 rfl rfl)
theorem dX6_plan_48 : decode cX6_plan 48 = .ok (.ireturn, 1) := dk_172 (dk_at dksX6_plan_2 0 rfl rfl)
theorem dX6_plan_49 : decode cX6_plan 49 = .ok (.aload_n 0, 1) := dk_42 (dk_at dksX6_plan_2 1 rfl rfl)
theorem dX6_plan_50 : decode cX6_plan 50 = .ok (.invokevirtual 321, 3) := dk_182 1 65 (dk_at dksX6_plan_2 2 rfl rfl)
theorem dX6_plan_53 : decode cX6_plan 53 = .ok (.aload_n 0, 1) := dk_42 (dk_at dksX6_plan_2 5 rfl rfl)
theorem dX6_plan_54 : decode cX6_plan 54 = .ok (.iload_n 2, 1) := dk_28 (dk_at dksX6_plan_2 6 rfl rfl)
theorem dX6_plan_55 : decode cX6_plan 55 = .ok (.iload_n 1, 1) := dk_27 (dk_at dksX6_plan_2 7 rfl rfl)
theorem dX6_plan_56 : decode cX6_plan 56 = .ok (.iload_n 3, 1) := dk_29 (dk_at dksX6_plan_2 8 rfl rfl)
theorem dX6_plan_57 : decode cX6_plan 57 = .ok (.ifCond .eq 7, 3) := dk_153 0 7 (dk_at dksX6_plan_2 9 rfl rfl)
theorem dX6_plan_60 : decode cX6_plan 60 = .ok (.iconst 1, 1) := dk_4 (dk_at dksX6_plan_2 12 rfl rfl)
theorem dX6_plan_61 : decode cX6_plan 61 = .ok (.goto 4, 3) := dk_167 0 4 (dk_at dksX6_plan_2 13 rfl rfl)
theorem dX6_plan_64 : decode cX6_plan 64 = .ok (.iconst 0, 1) := dk_3 (dk_at dksX6_plan_2 16 rfl rfl)
theorem dX6_plan_65 : decode cX6_plan 65 = .ok (.invokevirtual 290, 3) := dk_182 1 34 (dk_at dksX6_plan_2 17 rfl rfl)
theorem dX6_plan_68 : decode cX6_plan 68 = .ok (.aload_n 0, 1) := dk_42 (dk_at dksX6_plan_2 20 rfl rfl)
theorem dX6_plan_69 : decode cX6_plan 69 = .ok (.getfield 17, 3) := dk_180 0 17 (dk_at dksX6_plan_2 21 rfl rfl)
theorem dX6_plan_72 : decode cX6_plan 72 = .ok (.bipush 7, 2) := dk_16 7 (dk_at dksX6_plan_3 0 rfl rfl)
theorem dX6_plan_74 : decode cX6_plan 74 = .ok (.iaload, 1) := dk_46 (dk_at dksX6_plan_3 2 rfl rfl)
theorem dX6_plan_75 : decode cX6_plan 75 = .ok (.ireturn, 1) := dk_172 (dk_at dksX6_plan_3 3 rfl rfl)
def dkwX6_passes3_0 : List UInt8 := [42, 27, 28, 29, 4, 182, 0, 7, 172]
abbrev dktX6_passes3_0 : List UInt8 := dkwX6_passes3_0 ++ []
theorem dksX6_passes3_0 : cX6_passes3.data.toList.drop 0 = dktX6_passes3_0 := by decide +kernel
theorem dX6_passes3_0 : decode cX6_passes3 0 = .ok (.aload_n 0, 1) := dk_42 (dk_at dksX6_passes3_0 0 rfl rfl)
theorem dX6_passes3_1 : decode cX6_passes3 1 = .ok (.iload_n 1, 1) := dk_27 (dk_at dksX6_passes3_0 1 rfl rfl)
theorem dX6_passes3_2 : decode cX6_passes3 2 = .ok (.iload_n 2, 1) := dk_28 (dk_at dksX6_passes3_0 2 rfl rfl)
theorem dX6_passes3_3 : decode cX6_passes3 3 = .ok (.iload_n 3, 1) := dk_29 (dk_at dksX6_passes3_0 3 rfl rfl)
theorem dX6_passes3_4 : decode cX6_passes3 4 = .ok (.iconst 1, 1) := dk_4 (dk_at dksX6_passes3_0 4 rfl rfl)
theorem dX6_passes3_5 : decode cX6_passes3 5 = .ok (.invokevirtual 7, 3) := dk_182 0 7 (dk_at dksX6_passes3_0 5 rfl rfl)
theorem dX6_passes3_8 : decode cX6_passes3 8 = .ok (.ireturn, 1) := dk_172 (dk_at dksX6_passes3_0 8 rfl rfl)
def dkwX6_nextSwitch_3 : List UInt8 := [162, 0, 6, 21, 4, 61, 132, 3, 1, 167, 255, 196, 28, 172]
abbrev dktX6_nextSwitch_3 : List UInt8 := dkwX6_nextSwitch_3 ++ []
def dkwX6_nextSwitch_2 : List UInt8 := [17, 3, 85, 6, 29, 104, 96, 4, 96, 46, 27, 160, 0, 17, 28, 2, 159, 0, 9, 21, 4, 28]
abbrev dktX6_nextSwitch_2 : List UInt8 := dkwX6_nextSwitch_2 ++ dktX6_nextSwitch_3
def dkwX6_nextSwitch_1 : List UInt8 := [16, 7, 46, 162, 0, 55, 42, 180, 0, 17, 17, 3, 85, 6, 29, 104, 96, 46, 54, 4, 42, 180, 0, 17]
abbrev dktX6_nextSwitch_1 : List UInt8 := dkwX6_nextSwitch_1 ++ dktX6_nextSwitch_2
def dkwX6_nextSwitch_0 : List UInt8 := [42, 42, 27, 182, 1, 77, 182, 0, 77, 154, 0, 5, 3, 172, 2, 61, 3, 62, 29, 42, 180, 0, 17]
abbrev dktX6_nextSwitch_0 : List UInt8 := dkwX6_nextSwitch_0 ++ dktX6_nextSwitch_1
theorem dksX6_nextSwitch_0 : cX6_nextSwitch.data.toList.drop 0 = dktX6_nextSwitch_0 := by decide +kernel
theorem dksX6_nextSwitch_1 : cX6_nextSwitch.data.toList.drop 23 = dktX6_nextSwitch_1 := dk_seg dksX6_nextSwitch_0 23 rfl rfl
theorem dksX6_nextSwitch_2 : cX6_nextSwitch.data.toList.drop 47 = dktX6_nextSwitch_2 := dk_seg dksX6_nextSwitch_1 24 rfl rfl
theorem dksX6_nextSwitch_3 : cX6_nextSwitch.data.toList.drop 69 = dktX6_nextSwitch_3 := dk_seg dksX6_nextSwitch_2 22 rfl rfl
theorem dX6_nextSwitch_0 : decode cX6_nextSwitch 0 = .ok (.aload_n 0, 1) := dk_42 (dk_at dksX6_nextSwitch_0 0 rfl rfl)
theorem dX6_nextSwitch_1 : decode cX6_nextSwitch 1 = .ok (.aload_n 0, 1) := dk_42 (dk_at dksX6_nextSwitch_0 1 rfl rfl)
theorem dX6_nextSwitch_2 : decode cX6_nextSwitch 2 = .ok (.iload_n 1, 1) := dk_27 (dk_at dksX6_nextSwitch_0 2 rfl rfl)
theorem dX6_nextSwitch_3 : decode cX6_nextSwitch 3 = .ok (.invokevirtual 333, 3) := dk_182 1 77 (dk_at dksX6_nextSwitch_0 3 rfl rfl)
theorem dX6_nextSwitch_6 : decode cX6_nextSwitch 6 = .ok (.invokevirtual 77, 3) := dk_182 0 77 (dk_at dksX6_nextSwitch_0 6 rfl rfl)
theorem dX6_nextSwitch_9 : decode cX6_nextSwitch 9 = .ok (.ifCond .ne 5, 3) := dk_154 0 5 (dk_at dksX6_nextSwitch_0 9 rfl rfl)
theorem dX6_nextSwitch_12 : decode cX6_nextSwitch 12 = .ok (.iconst 0, 1) := dk_3 (dk_at dksX6_nextSwitch_0 12 rfl rfl)
theorem dX6_nextSwitch_13 : decode cX6_nextSwitch 13 = .ok (.ireturn, 1) := dk_172 (dk_at dksX6_nextSwitch_0 13 rfl rfl)
theorem dX6_nextSwitch_14 : decode cX6_nextSwitch 14 = .ok (.iconst (-1), 1) := dk_2 (dk_at dksX6_nextSwitch_0 14 rfl rfl)
theorem dX6_nextSwitch_15 : decode cX6_nextSwitch 15 = .ok (.istore_n 2, 1) := dk_61 (dk_at dksX6_nextSwitch_0 15 rfl rfl)
theorem dX6_nextSwitch_16 : decode cX6_nextSwitch 16 = .ok (.iconst 0, 1) := dk_3 (dk_at dksX6_nextSwitch_0 16 rfl rfl)
theorem dX6_nextSwitch_17 : decode cX6_nextSwitch 17 = .ok (.istore_n 3, 1) := dk_62 (dk_at dksX6_nextSwitch_0 17 rfl rfl)
theorem dX6_nextSwitch_18 : decode cX6_nextSwitch 18 = .ok (.iload_n 3, 1) := dk_29 (dk_at dksX6_nextSwitch_0 18 rfl rfl)
theorem dX6_nextSwitch_19 : decode cX6_nextSwitch 19 = .ok (.aload_n 0, 1) := dk_42 (dk_at dksX6_nextSwitch_0 19 rfl rfl)
theorem dX6_nextSwitch_20 : decode cX6_nextSwitch 20 = .ok (.getfield 17, 3) := dk_180 0 17 (dk_at dksX6_nextSwitch_0 20 rfl rfl)
theorem dX6_nextSwitch_23 : decode cX6_nextSwitch 23 = .ok (.bipush 7, 2) := dk_16 7 (dk_at dksX6_nextSwitch_1 0 rfl rfl)
theorem dX6_nextSwitch_25 : decode cX6_nextSwitch 25 = .ok (.iaload, 1) := dk_46 (dk_at dksX6_nextSwitch_1 2 rfl rfl)
theorem dX6_nextSwitch_26 : decode cX6_nextSwitch 26 = .ok (.if_icmp .ge 55, 3) := dk_162 0 55 (dk_at dksX6_nextSwitch_1 3 rfl rfl)
theorem dX6_nextSwitch_29 : decode cX6_nextSwitch 29 = .ok (.aload_n 0, 1) := dk_42 (dk_at dksX6_nextSwitch_1 6 rfl rfl)
theorem dX6_nextSwitch_30 : decode cX6_nextSwitch 30 = .ok (.getfield 17, 3) := dk_180 0 17 (dk_at dksX6_nextSwitch_1 7 rfl rfl)
theorem dX6_nextSwitch_33 : decode cX6_nextSwitch 33 = .ok (.sipush 853, 3) := dk_17 3 85 (dk_at dksX6_nextSwitch_1 10 rfl rfl)
theorem dX6_nextSwitch_36 : decode cX6_nextSwitch 36 = .ok (.iconst 3, 1) := dk_6 (dk_at dksX6_nextSwitch_1 13 rfl rfl)
theorem dX6_nextSwitch_37 : decode cX6_nextSwitch 37 = .ok (.iload_n 3, 1) := dk_29 (dk_at dksX6_nextSwitch_1 14 rfl rfl)
theorem dX6_nextSwitch_38 : decode cX6_nextSwitch 38 = .ok (.imul, 1) := dk_104 (dk_at dksX6_nextSwitch_1 15 rfl rfl)
theorem dX6_nextSwitch_39 : decode cX6_nextSwitch 39 = .ok (.iadd, 1) := dk_96 (dk_at dksX6_nextSwitch_1 16 rfl rfl)
theorem dX6_nextSwitch_40 : decode cX6_nextSwitch 40 = .ok (.iaload, 1) := dk_46 (dk_at dksX6_nextSwitch_1 17 rfl rfl)
theorem dX6_nextSwitch_41 : decode cX6_nextSwitch 41 = .ok (.istore 4, 2) := dk_54 4 (dk_at dksX6_nextSwitch_1 18 rfl rfl)
theorem dX6_nextSwitch_43 : decode cX6_nextSwitch 43 = .ok (.aload_n 0, 1) := dk_42 (dk_at dksX6_nextSwitch_1 20 rfl rfl)
theorem dX6_nextSwitch_44 : decode cX6_nextSwitch 44 = .ok (.getfield 17, 3) := dk_180 0 17 (dk_at dksX6_nextSwitch_1 21 rfl rfl)
theorem dX6_nextSwitch_47 : decode cX6_nextSwitch 47 = .ok (.sipush 853, 3) := dk_17 3 85 (dk_at dksX6_nextSwitch_2 0 rfl rfl)
theorem dX6_nextSwitch_50 : decode cX6_nextSwitch 50 = .ok (.iconst 3, 1) := dk_6 (dk_at dksX6_nextSwitch_2 3 rfl rfl)
theorem dX6_nextSwitch_51 : decode cX6_nextSwitch 51 = .ok (.iload_n 3, 1) := dk_29 (dk_at dksX6_nextSwitch_2 4 rfl rfl)
theorem dX6_nextSwitch_52 : decode cX6_nextSwitch 52 = .ok (.imul, 1) := dk_104 (dk_at dksX6_nextSwitch_2 5 rfl rfl)
theorem dX6_nextSwitch_53 : decode cX6_nextSwitch 53 = .ok (.iadd, 1) := dk_96 (dk_at dksX6_nextSwitch_2 6 rfl rfl)
theorem dX6_nextSwitch_54 : decode cX6_nextSwitch 54 = .ok (.iconst 1, 1) := dk_4 (dk_at dksX6_nextSwitch_2 7 rfl rfl)
theorem dX6_nextSwitch_55 : decode cX6_nextSwitch 55 = .ok (.iadd, 1) := dk_96 (dk_at dksX6_nextSwitch_2 8 rfl rfl)
theorem dX6_nextSwitch_56 : decode cX6_nextSwitch 56 = .ok (.iaload, 1) := dk_46 (dk_at dksX6_nextSwitch_2 9 rfl rfl)
theorem dX6_nextSwitch_57 : decode cX6_nextSwitch 57 = .ok (.iload_n 1, 1) := dk_27 (dk_at dksX6_nextSwitch_2 10 rfl rfl)
theorem dX6_nextSwitch_58 : decode cX6_nextSwitch 58 = .ok (.if_icmp .ne 17, 3) := dk_160 0 17 (dk_at dksX6_nextSwitch_2 11 rfl rfl)
theorem dX6_nextSwitch_61 : decode cX6_nextSwitch 61 = .ok (.iload_n 2, 1) := dk_28 (dk_at dksX6_nextSwitch_2 14 rfl rfl)
theorem dX6_nextSwitch_62 : decode cX6_nextSwitch 62 = .ok (.iconst (-1), 1) := dk_2 (dk_at dksX6_nextSwitch_2 15 rfl rfl)
theorem dX6_nextSwitch_63 : decode cX6_nextSwitch 63 = .ok (.if_icmp .eq 9, 3) := dk_159 0 9 (dk_at dksX6_nextSwitch_2 16 rfl rfl)
theorem dX6_nextSwitch_66 : decode cX6_nextSwitch 66 = .ok (.iload 4, 2) := dk_21 4 (dk_at dksX6_nextSwitch_2 19 rfl rfl)
theorem dX6_nextSwitch_68 : decode cX6_nextSwitch 68 = .ok (.iload_n 2, 1) := dk_28 (dk_at dksX6_nextSwitch_2 21 rfl rfl)
theorem dX6_nextSwitch_69 : decode cX6_nextSwitch 69 = .ok (.if_icmp .ge 6, 3) := dk_162 0 6 (dk_at dksX6_nextSwitch_3 0 rfl rfl)
theorem dX6_nextSwitch_72 : decode cX6_nextSwitch 72 = .ok (.iload 4, 2) := dk_21 4 (dk_at dksX6_nextSwitch_3 3 rfl rfl)
theorem dX6_nextSwitch_74 : decode cX6_nextSwitch 74 = .ok (.istore_n 2, 1) := dk_61 (dk_at dksX6_nextSwitch_3 5 rfl rfl)
theorem dX6_nextSwitch_75 : decode cX6_nextSwitch 75 = .ok (.iinc 3 1, 3) := dk_132 3 1 (dk_at dksX6_nextSwitch_3 6 rfl rfl)
theorem dX6_nextSwitch_78 : decode cX6_nextSwitch 78 = .ok (.goto (-60), 3) := dk_167 255 196 (dk_at dksX6_nextSwitch_3 9 rfl rfl)
theorem dX6_nextSwitch_81 : decode cX6_nextSwitch 81 = .ok (.iload_n 2, 1) := dk_28 (dk_at dksX6_nextSwitch_3 12 rfl rfl)
theorem dX6_nextSwitch_82 : decode cX6_nextSwitch 82 = .ok (.ireturn, 1) := dk_172 (dk_at dksX6_nextSwitch_3 13 rfl rfl)
def dkwX6_state_0 : List UInt8 := [42, 42, 27, 182, 1, 73, 182, 0, 77, 153, 0, 12, 42, 27, 4, 182, 0, 70, 167, 0, 4, 3, 172]
abbrev dktX6_state_0 : List UInt8 := dkwX6_state_0 ++ []
theorem dksX6_state_0 : cX6_state.data.toList.drop 0 = dktX6_state_0 := by decide +kernel
theorem dX6_state_0 : decode cX6_state 0 = .ok (.aload_n 0, 1) := dk_42 (dk_at dksX6_state_0 0 rfl rfl)
theorem dX6_state_1 : decode cX6_state 1 = .ok (.aload_n 0, 1) := dk_42 (dk_at dksX6_state_0 1 rfl rfl)
theorem dX6_state_2 : decode cX6_state 2 = .ok (.iload_n 1, 1) := dk_27 (dk_at dksX6_state_0 2 rfl rfl)
theorem dX6_state_3 : decode cX6_state 3 = .ok (.invokevirtual 329, 3) := dk_182 1 73 (dk_at dksX6_state_0 3 rfl rfl)
theorem dX6_state_6 : decode cX6_state 6 = .ok (.invokevirtual 77, 3) := dk_182 0 77 (dk_at dksX6_state_0 6 rfl rfl)
theorem dX6_state_9 : decode cX6_state 9 = .ok (.ifCond .eq 12, 3) := dk_153 0 12 (dk_at dksX6_state_0 9 rfl rfl)
theorem dX6_state_12 : decode cX6_state 12 = .ok (.aload_n 0, 1) := dk_42 (dk_at dksX6_state_0 12 rfl rfl)
theorem dX6_state_13 : decode cX6_state 13 = .ok (.iload_n 1, 1) := dk_27 (dk_at dksX6_state_0 13 rfl rfl)
theorem dX6_state_14 : decode cX6_state 14 = .ok (.iconst 1, 1) := dk_4 (dk_at dksX6_state_0 14 rfl rfl)
theorem dX6_state_15 : decode cX6_state 15 = .ok (.invokevirtual 70, 3) := dk_182 0 70 (dk_at dksX6_state_0 15 rfl rfl)
theorem dX6_state_18 : decode cX6_state 18 = .ok (.goto 4, 3) := dk_167 0 4 (dk_at dksX6_state_0 18 rfl rfl)
theorem dX6_state_21 : decode cX6_state 21 = .ok (.iconst 0, 1) := dk_3 (dk_at dksX6_state_0 21 rfl rfl)
theorem dX6_state_22 : decode cX6_state 22 = .ok (.ireturn, 1) := dk_172 (dk_at dksX6_state_0 22 rfl rfl)
def dkwX6_run_3 : List UInt8 := [167, 255, 237, 29, 172]
abbrev dktX6_run_3 : List UInt8 := dkwX6_run_3 ++ []
def dkwX6_run_2 : List UInt8 := [3, 62, 3, 54, 4, 21, 4, 27, 162, 0, 19, 29, 42, 182, 1, 181, 184, 1, 184, 96, 62, 132, 4, 1]
abbrev dktX6_run_2 : List UInt8 := dkwX6_run_2 ++ dktX6_run_3
def dkwX6_run_1 : List UInt8 := [96, 19, 1, 180, 163, 0, 7, 4, 167, 0, 4, 3, 182, 1, 82, 154, 0, 5, 3, 172, 42, 182, 1, 65]
abbrev dktX6_run_1 : List UInt8 := dkwX6_run_1 ++ dktX6_run_2
def dkwX6_run_0 : List UInt8 := [27, 133, 10, 20, 1, 178, 184, 0, 66, 61, 42, 28, 28, 153, 0, 18, 42, 180, 0, 17, 16, 8, 46, 27]
abbrev dktX6_run_0 : List UInt8 := dkwX6_run_0 ++ dktX6_run_1
theorem dksX6_run_0 : cX6_run.data.toList.drop 0 = dktX6_run_0 := by decide +kernel
theorem dksX6_run_1 : cX6_run.data.toList.drop 24 = dktX6_run_1 := dk_seg dksX6_run_0 24 rfl rfl
theorem dksX6_run_2 : cX6_run.data.toList.drop 48 = dktX6_run_2 := dk_seg dksX6_run_1 24 rfl rfl
theorem dksX6_run_3 : cX6_run.data.toList.drop 72 = dktX6_run_3 := dk_seg dksX6_run_2 24 rfl rfl
theorem dX6_run_0 : decode cX6_run 0 = .ok (.iload_n 1, 1) := dk_27 (dk_at dksX6_run_0 0 rfl rfl)
theorem dX6_run_1 : decode cX6_run 1 = .ok (.i2l, 1) := dk_133 (dk_at dksX6_run_0 1 rfl rfl)
theorem dX6_run_2 : decode cX6_run 2 = .ok (.lconst 1, 1) := dk_10 (dk_at dksX6_run_0 2 rfl rfl)
theorem dX6_run_3 : decode cX6_run 3 = .ok (.ldc2_w 434, 3) := dk_20 1 178 (dk_at dksX6_run_0 3 rfl rfl)
theorem dX6_run_6 : decode cX6_run 6 = .ok (.invokestatic 66, 3) := dk_184 0 66 (dk_at dksX6_run_0 6 rfl rfl)
theorem dX6_run_9 : decode cX6_run 9 = .ok (.istore_n 2, 1) := dk_61 (dk_at dksX6_run_0 9 rfl rfl)
theorem dX6_run_10 : decode cX6_run 10 = .ok (.aload_n 0, 1) := dk_42 (dk_at dksX6_run_0 10 rfl rfl)
theorem dX6_run_11 : decode cX6_run 11 = .ok (.iload_n 2, 1) := dk_28 (dk_at dksX6_run_0 11 rfl rfl)
theorem dX6_run_12 : decode cX6_run 12 = .ok (.iload_n 2, 1) := dk_28 (dk_at dksX6_run_0 12 rfl rfl)
theorem dX6_run_13 : decode cX6_run 13 = .ok (.ifCond .eq 18, 3) := dk_153 0 18 (dk_at dksX6_run_0 13 rfl rfl)
theorem dX6_run_16 : decode cX6_run 16 = .ok (.aload_n 0, 1) := dk_42 (dk_at dksX6_run_0 16 rfl rfl)
theorem dX6_run_17 : decode cX6_run 17 = .ok (.getfield 17, 3) := dk_180 0 17 (dk_at dksX6_run_0 17 rfl rfl)
theorem dX6_run_20 : decode cX6_run 20 = .ok (.bipush 8, 2) := dk_16 8 (dk_at dksX6_run_0 20 rfl rfl)
theorem dX6_run_22 : decode cX6_run 22 = .ok (.iaload, 1) := dk_46 (dk_at dksX6_run_0 22 rfl rfl)
theorem dX6_run_23 : decode cX6_run 23 = .ok (.iload_n 1, 1) := dk_27 (dk_at dksX6_run_0 23 rfl rfl)
theorem dX6_run_24 : decode cX6_run 24 = .ok (.iadd, 1) := dk_96 (dk_at dksX6_run_1 0 rfl rfl)
theorem dX6_run_25 : decode cX6_run 25 = .ok (.ldc_w 436, 3) := dk_19 1 180 (dk_at dksX6_run_1 1 rfl rfl)
theorem dX6_run_28 : decode cX6_run 28 = .ok (.if_icmp .gt 7, 3) := dk_163 0 7 (dk_at dksX6_run_1 4 rfl rfl)
theorem dX6_run_31 : decode cX6_run 31 = .ok (.iconst 1, 1) := dk_4 (dk_at dksX6_run_1 7 rfl rfl)
theorem dX6_run_32 : decode cX6_run 32 = .ok (.goto 4, 3) := dk_167 0 4 (dk_at dksX6_run_1 8 rfl rfl)
theorem dX6_run_35 : decode cX6_run 35 = .ok (.iconst 0, 1) := dk_3 (dk_at dksX6_run_1 11 rfl rfl)
theorem dX6_run_36 : decode cX6_run 36 = .ok (.invokevirtual 338, 3) := dk_182 1 82 (dk_at dksX6_run_1 12 rfl rfl)
theorem dX6_run_39 : decode cX6_run 39 = .ok (.ifCond .ne 5, 3) := dk_154 0 5 (dk_at dksX6_run_1 15 rfl rfl)
theorem dX6_run_42 : decode cX6_run 42 = .ok (.iconst 0, 1) := dk_3 (dk_at dksX6_run_1 18 rfl rfl)
theorem dX6_run_43 : decode cX6_run 43 = .ok (.ireturn, 1) := dk_172 (dk_at dksX6_run_1 19 rfl rfl)
theorem dX6_run_44 : decode cX6_run 44 = .ok (.aload_n 0, 1) := dk_42 (dk_at dksX6_run_1 20 rfl rfl)
theorem dX6_run_45 : decode cX6_run 45 = .ok (.invokevirtual 321, 3) := dk_182 1 65 (dk_at dksX6_run_1 21 rfl rfl)
theorem dX6_run_48 : decode cX6_run 48 = .ok (.iconst 0, 1) := dk_3 (dk_at dksX6_run_2 0 rfl rfl)
theorem dX6_run_49 : decode cX6_run 49 = .ok (.istore_n 3, 1) := dk_62 (dk_at dksX6_run_2 1 rfl rfl)
theorem dX6_run_50 : decode cX6_run 50 = .ok (.iconst 0, 1) := dk_3 (dk_at dksX6_run_2 2 rfl rfl)
theorem dX6_run_51 : decode cX6_run 51 = .ok (.istore 4, 2) := dk_54 4 (dk_at dksX6_run_2 3 rfl rfl)
theorem dX6_run_53 : decode cX6_run 53 = .ok (.iload 4, 2) := dk_21 4 (dk_at dksX6_run_2 5 rfl rfl)
theorem dX6_run_55 : decode cX6_run 55 = .ok (.iload_n 1, 1) := dk_27 (dk_at dksX6_run_2 7 rfl rfl)
theorem dX6_run_56 : decode cX6_run 56 = .ok (.if_icmp .ge 19, 3) := dk_162 0 19 (dk_at dksX6_run_2 8 rfl rfl)
theorem dX6_run_59 : decode cX6_run 59 = .ok (.iload_n 3, 1) := dk_29 (dk_at dksX6_run_2 11 rfl rfl)
theorem dX6_run_60 : decode cX6_run 60 = .ok (.aload_n 0, 1) := dk_42 (dk_at dksX6_run_2 12 rfl rfl)
theorem dX6_run_61 : decode cX6_run 61 = .ok (.invokevirtual 437, 3) := dk_182 1 181 (dk_at dksX6_run_2 13 rfl rfl)
theorem dX6_run_64 : decode cX6_run 64 = .ok (.invokestatic 440, 3) := dk_184 1 184 (dk_at dksX6_run_2 16 rfl rfl)
theorem dX6_run_67 : decode cX6_run 67 = .ok (.iadd, 1) := dk_96 (dk_at dksX6_run_2 19 rfl rfl)
theorem dX6_run_68 : decode cX6_run 68 = .ok (.istore_n 3, 1) := dk_62 (dk_at dksX6_run_2 20 rfl rfl)
theorem dX6_run_69 : decode cX6_run 69 = .ok (.iinc 4 1, 3) := dk_132 4 1 (dk_at dksX6_run_2 21 rfl rfl)
theorem dX6_run_72 : decode cX6_run 72 = .ok (.goto (-19), 3) := dk_167 255 237 (dk_at dksX6_run_3 0 rfl rfl)
theorem dX6_run_75 : decode cX6_run 75 = .ok (.iload_n 3, 1) := dk_29 (dk_at dksX6_run_3 3 rfl rfl)
theorem dX6_run_76 : decode cX6_run 76 = .ok (.ireturn, 1) := dk_172 (dk_at dksX6_run_3 4 rfl rfl)
def dkwX6_pass_2 : List UInt8 := [153, 0, 9, 27, 4, 28, 120, 128, 60, 132, 2, 1, 167, 255, 221, 27, 172]
abbrev dktX6_pass_2 : List UInt8 := dkwX6_pass_2 ++ []
def dkwX6_pass_1 : List UInt8 := [42, 180, 0, 17, 6, 46, 162, 0, 31, 42, 28, 182, 1, 102, 153, 0, 17, 42, 28, 182, 1, 175]
abbrev dktX6_pass_1 : List UInt8 := dkwX6_pass_1 ++ dktX6_pass_2
def dkwX6_pass_0 : List UInt8 := [42, 180, 0, 17, 16, 8, 92, 46, 4, 96, 79, 42, 182, 1, 169, 42, 182, 1, 172, 3, 60, 3, 61, 28]
abbrev dktX6_pass_0 : List UInt8 := dkwX6_pass_0 ++ dktX6_pass_1
theorem dksX6_pass_0 : cX6_pass.data.toList.drop 0 = dktX6_pass_0 := by decide +kernel
theorem dksX6_pass_1 : cX6_pass.data.toList.drop 24 = dktX6_pass_1 := dk_seg dksX6_pass_0 24 rfl rfl
theorem dksX6_pass_2 : cX6_pass.data.toList.drop 46 = dktX6_pass_2 := dk_seg dksX6_pass_1 22 rfl rfl
theorem dX6_pass_0 : decode cX6_pass 0 = .ok (.aload_n 0, 1) := dk_42 (dk_at dksX6_pass_0 0 rfl rfl)
theorem dX6_pass_1 : decode cX6_pass 1 = .ok (.getfield 17, 3) := dk_180 0 17 (dk_at dksX6_pass_0 1 rfl rfl)
theorem dX6_pass_4 : decode cX6_pass 4 = .ok (.bipush 8, 2) := dk_16 8 (dk_at dksX6_pass_0 4 rfl rfl)
theorem dX6_pass_6 : decode cX6_pass 6 = .ok (.dup2, 1) := dk_92 (dk_at dksX6_pass_0 6 rfl rfl)
theorem dX6_pass_7 : decode cX6_pass 7 = .ok (.iaload, 1) := dk_46 (dk_at dksX6_pass_0 7 rfl rfl)
theorem dX6_pass_8 : decode cX6_pass 8 = .ok (.iconst 1, 1) := dk_4 (dk_at dksX6_pass_0 8 rfl rfl)
theorem dX6_pass_9 : decode cX6_pass 9 = .ok (.iadd, 1) := dk_96 (dk_at dksX6_pass_0 9 rfl rfl)
theorem dX6_pass_10 : decode cX6_pass 10 = .ok (.iastore, 1) := dk_79 (dk_at dksX6_pass_0 10 rfl rfl)
theorem dX6_pass_11 : decode cX6_pass 11 = .ok (.aload_n 0, 1) := dk_42 (dk_at dksX6_pass_0 11 rfl rfl)
theorem dX6_pass_12 : decode cX6_pass 12 = .ok (.invokevirtual 425, 3) := dk_182 1 169 (dk_at dksX6_pass_0 12 rfl rfl)
theorem dX6_pass_15 : decode cX6_pass 15 = .ok (.aload_n 0, 1) := dk_42 (dk_at dksX6_pass_0 15 rfl rfl)
theorem dX6_pass_16 : decode cX6_pass 16 = .ok (.invokevirtual 428, 3) := dk_182 1 172 (dk_at dksX6_pass_0 16 rfl rfl)
theorem dX6_pass_19 : decode cX6_pass 19 = .ok (.iconst 0, 1) := dk_3 (dk_at dksX6_pass_0 19 rfl rfl)
theorem dX6_pass_20 : decode cX6_pass 20 = .ok (.istore_n 1, 1) := dk_60 (dk_at dksX6_pass_0 20 rfl rfl)
theorem dX6_pass_21 : decode cX6_pass 21 = .ok (.iconst 0, 1) := dk_3 (dk_at dksX6_pass_0 21 rfl rfl)
theorem dX6_pass_22 : decode cX6_pass 22 = .ok (.istore_n 2, 1) := dk_61 (dk_at dksX6_pass_0 22 rfl rfl)
theorem dX6_pass_23 : decode cX6_pass 23 = .ok (.iload_n 2, 1) := dk_28 (dk_at dksX6_pass_0 23 rfl rfl)
theorem dX6_pass_24 : decode cX6_pass 24 = .ok (.aload_n 0, 1) := dk_42 (dk_at dksX6_pass_1 0 rfl rfl)
theorem dX6_pass_25 : decode cX6_pass 25 = .ok (.getfield 17, 3) := dk_180 0 17 (dk_at dksX6_pass_1 1 rfl rfl)
theorem dX6_pass_28 : decode cX6_pass 28 = .ok (.iconst 3, 1) := dk_6 (dk_at dksX6_pass_1 4 rfl rfl)
theorem dX6_pass_29 : decode cX6_pass 29 = .ok (.iaload, 1) := dk_46 (dk_at dksX6_pass_1 5 rfl rfl)
theorem dX6_pass_30 : decode cX6_pass 30 = .ok (.if_icmp .ge 31, 3) := dk_162 0 31 (dk_at dksX6_pass_1 6 rfl rfl)
theorem dX6_pass_33 : decode cX6_pass 33 = .ok (.aload_n 0, 1) := dk_42 (dk_at dksX6_pass_1 9 rfl rfl)
theorem dX6_pass_34 : decode cX6_pass 34 = .ok (.iload_n 2, 1) := dk_28 (dk_at dksX6_pass_1 10 rfl rfl)
theorem dX6_pass_35 : decode cX6_pass 35 = .ok (.invokevirtual 358, 3) := dk_182 1 102 (dk_at dksX6_pass_1 11 rfl rfl)
theorem dX6_pass_38 : decode cX6_pass 38 = .ok (.ifCond .eq 17, 3) := dk_153 0 17 (dk_at dksX6_pass_1 14 rfl rfl)
theorem dX6_pass_41 : decode cX6_pass 41 = .ok (.aload_n 0, 1) := dk_42 (dk_at dksX6_pass_1 17 rfl rfl)
theorem dX6_pass_42 : decode cX6_pass 42 = .ok (.iload_n 2, 1) := dk_28 (dk_at dksX6_pass_1 18 rfl rfl)
theorem dX6_pass_43 : decode cX6_pass 43 = .ok (.invokevirtual 431, 3) := dk_182 1 175 (dk_at dksX6_pass_1 19 rfl rfl)
theorem dX6_pass_46 : decode cX6_pass 46 = .ok (.ifCond .eq 9, 3) := dk_153 0 9 (dk_at dksX6_pass_2 0 rfl rfl)
theorem dX6_pass_49 : decode cX6_pass 49 = .ok (.iload_n 1, 1) := dk_27 (dk_at dksX6_pass_2 3 rfl rfl)
theorem dX6_pass_50 : decode cX6_pass 50 = .ok (.iconst 1, 1) := dk_4 (dk_at dksX6_pass_2 4 rfl rfl)
theorem dX6_pass_51 : decode cX6_pass 51 = .ok (.iload_n 2, 1) := dk_28 (dk_at dksX6_pass_2 5 rfl rfl)
theorem dX6_pass_52 : decode cX6_pass 52 = .ok (.ishl, 1) := dk_120 (dk_at dksX6_pass_2 6 rfl rfl)
theorem dX6_pass_53 : decode cX6_pass 53 = .ok (.ior, 1) := dk_128 (dk_at dksX6_pass_2 7 rfl rfl)
theorem dX6_pass_54 : decode cX6_pass 54 = .ok (.istore_n 1, 1) := dk_60 (dk_at dksX6_pass_2 8 rfl rfl)
theorem dX6_pass_55 : decode cX6_pass 55 = .ok (.iinc 2 1, 3) := dk_132 2 1 (dk_at dksX6_pass_2 9 rfl rfl)
theorem dX6_pass_58 : decode cX6_pass 58 = .ok (.goto (-35), 3) := dk_167 255 221 (dk_at dksX6_pass_2 12 rfl rfl)
theorem dX6_pass_61 : decode cX6_pass 61 = .ok (.iload_n 1, 1) := dk_27 (dk_at dksX6_pass_2 15 rfl rfl)
theorem dX6_pass_62 : decode cX6_pass 62 = .ok (.ireturn, 1) := dk_172 (dk_at dksX6_pass_2 16 rfl rfl)
def dkwX6_doSwitches_4 : List UInt8 := [132, 4, 1, 167, 255, 223, 132, 1, 1, 132, 2, 1, 167, 255, 152, 42, 180, 0, 17, 16, 7, 27, 79, 177]
abbrev dktX6_doSwitches_4 : List UInt8 := dkwX6_doSwitches_4 ++ []
def dkwX6_doSwitches_3 : List UInt8 := [42, 180, 0, 17, 17, 3, 85, 6, 27, 104, 96, 21, 4, 96, 42, 180, 0, 17, 29, 21, 4, 96, 46, 79]
abbrev dktX6_doSwitches_3 : List UInt8 := dkwX6_doSwitches_3 ++ dktX6_doSwitches_4
def dkwX6_doSwitches_2 : List UInt8 := [8, 42, 180, 0, 17, 29, 5, 96, 46, 182, 1, 18, 167, 0, 45, 3, 54, 4, 21, 4, 6, 162, 0, 33]
abbrev dktX6_doSwitches_2 : List UInt8 := dkwX6_doSwitches_2 ++ dktX6_doSwitches_3
def dkwX6_doSwitches_1 : List UInt8 := [180, 0, 17, 29, 46, 42, 180, 0, 17, 16, 8, 46, 160, 0, 27, 42, 42, 180, 0, 17, 29, 4, 96, 46]
abbrev dktX6_doSwitches_1 : List UInt8 := dkwX6_doSwitches_1 ++ dktX6_doSwitches_2
def dkwX6_doSwitches_0 : List UInt8 := [3, 60, 3, 61, 28, 42, 180, 0, 17, 16, 7, 46, 162, 0, 99, 17, 3, 85, 6, 28, 104, 96, 62, 42]
abbrev dktX6_doSwitches_0 : List UInt8 := dkwX6_doSwitches_0 ++ dktX6_doSwitches_1
theorem dksX6_doSwitches_0 : cX6_doSwitches.data.toList.drop 0 = dktX6_doSwitches_0 := by decide +kernel
theorem dksX6_doSwitches_1 : cX6_doSwitches.data.toList.drop 24 = dktX6_doSwitches_1 := dk_seg dksX6_doSwitches_0 24 rfl rfl
theorem dksX6_doSwitches_2 : cX6_doSwitches.data.toList.drop 48 = dktX6_doSwitches_2 := dk_seg dksX6_doSwitches_1 24 rfl rfl
theorem dksX6_doSwitches_3 : cX6_doSwitches.data.toList.drop 72 = dktX6_doSwitches_3 := dk_seg dksX6_doSwitches_2 24 rfl rfl
theorem dksX6_doSwitches_4 : cX6_doSwitches.data.toList.drop 96 = dktX6_doSwitches_4 := dk_seg dksX6_doSwitches_3 24 rfl rfl
theorem dX6_doSwitches_0 : decode cX6_doSwitches 0 = .ok (.iconst 0, 1) := dk_3 (dk_at dksX6_doSwitches_0 0 rfl rfl)
theorem dX6_doSwitches_1 : decode cX6_doSwitches 1 = .ok (.istore_n 1, 1) := dk_60 (dk_at dksX6_doSwitches_0 1 rfl rfl)
theorem dX6_doSwitches_2 : decode cX6_doSwitches 2 = .ok (.iconst 0, 1) := dk_3 (dk_at dksX6_doSwitches_0 2 rfl rfl)
theorem dX6_doSwitches_3 : decode cX6_doSwitches 3 = .ok (.istore_n 2, 1) := dk_61 (dk_at dksX6_doSwitches_0 3 rfl rfl)
theorem dX6_doSwitches_4 : decode cX6_doSwitches 4 = .ok (.iload_n 2, 1) := dk_28 (dk_at dksX6_doSwitches_0 4 rfl rfl)
theorem dX6_doSwitches_5 : decode cX6_doSwitches 5 = .ok (.aload_n 0, 1) := dk_42 (dk_at dksX6_doSwitches_0 5 rfl rfl)
theorem dX6_doSwitches_6 : decode cX6_doSwitches 6 = .ok (.getfield 17, 3) := dk_180 0 17 (dk_at dksX6_doSwitches_0 6 rfl rfl)
theorem dX6_doSwitches_9 : decode cX6_doSwitches 9 = .ok (.bipush 7, 2) := dk_16 7 (dk_at dksX6_doSwitches_0 9 rfl rfl)
theorem dX6_doSwitches_11 : decode cX6_doSwitches 11 = .ok (.iaload, 1) := dk_46 (dk_at dksX6_doSwitches_0 11 rfl rfl)
theorem dX6_doSwitches_12 : decode cX6_doSwitches 12 = .ok (.if_icmp .ge 99, 3) := dk_162 0 99 (dk_at dksX6_doSwitches_0 12 rfl rfl)
theorem dX6_doSwitches_15 : decode cX6_doSwitches 15 = .ok (.sipush 853, 3) := dk_17 3 85 (dk_at dksX6_doSwitches_0 15 rfl rfl)
theorem dX6_doSwitches_18 : decode cX6_doSwitches 18 = .ok (.iconst 3, 1) := dk_6 (dk_at dksX6_doSwitches_0 18 rfl rfl)
theorem dX6_doSwitches_19 : decode cX6_doSwitches 19 = .ok (.iload_n 2, 1) := dk_28 (dk_at dksX6_doSwitches_0 19 rfl rfl)
theorem dX6_doSwitches_20 : decode cX6_doSwitches 20 = .ok (.imul, 1) := dk_104 (dk_at dksX6_doSwitches_0 20 rfl rfl)
theorem dX6_doSwitches_21 : decode cX6_doSwitches 21 = .ok (.iadd, 1) := dk_96 (dk_at dksX6_doSwitches_0 21 rfl rfl)
theorem dX6_doSwitches_22 : decode cX6_doSwitches 22 = .ok (.istore_n 3, 1) := dk_62 (dk_at dksX6_doSwitches_0 22 rfl rfl)
theorem dX6_doSwitches_23 : decode cX6_doSwitches 23 = .ok (.aload_n 0, 1) := dk_42 (dk_at dksX6_doSwitches_0 23 rfl rfl)
theorem dX6_doSwitches_24 : decode cX6_doSwitches 24 = .ok (.getfield 17, 3) := dk_180 0 17 (dk_at dksX6_doSwitches_1 0 rfl rfl)
theorem dX6_doSwitches_27 : decode cX6_doSwitches 27 = .ok (.iload_n 3, 1) := dk_29 (dk_at dksX6_doSwitches_1 3 rfl rfl)
theorem dX6_doSwitches_28 : decode cX6_doSwitches 28 = .ok (.iaload, 1) := dk_46 (dk_at dksX6_doSwitches_1 4 rfl rfl)
theorem dX6_doSwitches_29 : decode cX6_doSwitches 29 = .ok (.aload_n 0, 1) := dk_42 (dk_at dksX6_doSwitches_1 5 rfl rfl)
theorem dX6_doSwitches_30 : decode cX6_doSwitches 30 = .ok (.getfield 17, 3) := dk_180 0 17 (dk_at dksX6_doSwitches_1 6 rfl rfl)
theorem dX6_doSwitches_33 : decode cX6_doSwitches 33 = .ok (.bipush 8, 2) := dk_16 8 (dk_at dksX6_doSwitches_1 9 rfl rfl)
theorem dX6_doSwitches_35 : decode cX6_doSwitches 35 = .ok (.iaload, 1) := dk_46 (dk_at dksX6_doSwitches_1 11 rfl rfl)
theorem dX6_doSwitches_36 : decode cX6_doSwitches 36 = .ok (.if_icmp .ne 27, 3) := dk_160 0 27 (dk_at dksX6_doSwitches_1 12 rfl rfl)
theorem dX6_doSwitches_39 : decode cX6_doSwitches 39 = .ok (.aload_n 0, 1) := dk_42 (dk_at dksX6_doSwitches_1 15 rfl rfl)
theorem dX6_doSwitches_40 : decode cX6_doSwitches 40 = .ok (.aload_n 0, 1) := dk_42 (dk_at dksX6_doSwitches_1 16 rfl rfl)
theorem dX6_doSwitches_41 : decode cX6_doSwitches 41 = .ok (.getfield 17, 3) := dk_180 0 17 (dk_at dksX6_doSwitches_1 17 rfl rfl)
theorem dX6_doSwitches_44 : decode cX6_doSwitches 44 = .ok (.iload_n 3, 1) := dk_29 (dk_at dksX6_doSwitches_1 20 rfl rfl)
theorem dX6_doSwitches_45 : decode cX6_doSwitches 45 = .ok (.iconst 1, 1) := dk_4 (dk_at dksX6_doSwitches_1 21 rfl rfl)
theorem dX6_doSwitches_46 : decode cX6_doSwitches 46 = .ok (.iadd, 1) := dk_96 (dk_at dksX6_doSwitches_1 22 rfl rfl)
theorem dX6_doSwitches_47 : decode cX6_doSwitches 47 = .ok (.iaload, 1) := dk_46 (dk_at dksX6_doSwitches_1 23 rfl rfl)
theorem dX6_doSwitches_48 : decode cX6_doSwitches 48 = .ok (.iconst 5, 1) := dk_8 (dk_at dksX6_doSwitches_2 0 rfl rfl)
theorem dX6_doSwitches_49 : decode cX6_doSwitches 49 = .ok (.aload_n 0, 1) := dk_42 (dk_at dksX6_doSwitches_2 1 rfl rfl)
theorem dX6_doSwitches_50 : decode cX6_doSwitches 50 = .ok (.getfield 17, 3) := dk_180 0 17 (dk_at dksX6_doSwitches_2 2 rfl rfl)
theorem dX6_doSwitches_53 : decode cX6_doSwitches 53 = .ok (.iload_n 3, 1) := dk_29 (dk_at dksX6_doSwitches_2 5 rfl rfl)
theorem dX6_doSwitches_54 : decode cX6_doSwitches 54 = .ok (.iconst 2, 1) := dk_5 (dk_at dksX6_doSwitches_2 6 rfl rfl)
theorem dX6_doSwitches_55 : decode cX6_doSwitches 55 = .ok (.iadd, 1) := dk_96 (dk_at dksX6_doSwitches_2 7 rfl rfl)
theorem dX6_doSwitches_56 : decode cX6_doSwitches 56 = .ok (.iaload, 1) := dk_46 (dk_at dksX6_doSwitches_2 8 rfl rfl)
theorem dX6_doSwitches_57 : decode cX6_doSwitches 57 = .ok (.invokevirtual 274, 3) := dk_182 1 18 (dk_at dksX6_doSwitches_2 9 rfl rfl)
theorem dX6_doSwitches_60 : decode cX6_doSwitches 60 = .ok (.goto 45, 3) := dk_167 0 45 (dk_at dksX6_doSwitches_2 12 rfl rfl)
theorem dX6_doSwitches_63 : decode cX6_doSwitches 63 = .ok (.iconst 0, 1) := dk_3 (dk_at dksX6_doSwitches_2 15 rfl rfl)
theorem dX6_doSwitches_64 : decode cX6_doSwitches 64 = .ok (.istore 4, 2) := dk_54 4 (dk_at dksX6_doSwitches_2 16 rfl rfl)
theorem dX6_doSwitches_66 : decode cX6_doSwitches 66 = .ok (.iload 4, 2) := dk_21 4 (dk_at dksX6_doSwitches_2 18 rfl rfl)
theorem dX6_doSwitches_68 : decode cX6_doSwitches 68 = .ok (.iconst 3, 1) := dk_6 (dk_at dksX6_doSwitches_2 20 rfl rfl)
theorem dX6_doSwitches_69 : decode cX6_doSwitches 69 = .ok (.if_icmp .ge 33, 3) := dk_162 0 33 (dk_at dksX6_doSwitches_2 21 rfl rfl)
theorem dX6_doSwitches_72 : decode cX6_doSwitches 72 = .ok (.aload_n 0, 1) := dk_42 (dk_at dksX6_doSwitches_3 0 rfl rfl)
theorem dX6_doSwitches_73 : decode cX6_doSwitches 73 = .ok (.getfield 17, 3) := dk_180 0 17 (dk_at dksX6_doSwitches_3 1 rfl rfl)
theorem dX6_doSwitches_76 : decode cX6_doSwitches 76 = .ok (.sipush 853, 3) := dk_17 3 85 (dk_at dksX6_doSwitches_3 4 rfl rfl)
theorem dX6_doSwitches_79 : decode cX6_doSwitches 79 = .ok (.iconst 3, 1) := dk_6 (dk_at dksX6_doSwitches_3 7 rfl rfl)
theorem dX6_doSwitches_80 : decode cX6_doSwitches 80 = .ok (.iload_n 1, 1) := dk_27 (dk_at dksX6_doSwitches_3 8 rfl rfl)
theorem dX6_doSwitches_81 : decode cX6_doSwitches 81 = .ok (.imul, 1) := dk_104 (dk_at dksX6_doSwitches_3 9 rfl rfl)
theorem dX6_doSwitches_82 : decode cX6_doSwitches 82 = .ok (.iadd, 1) := dk_96 (dk_at dksX6_doSwitches_3 10 rfl rfl)
theorem dX6_doSwitches_83 : decode cX6_doSwitches 83 = .ok (.iload 4, 2) := dk_21 4 (dk_at dksX6_doSwitches_3 11 rfl rfl)
theorem dX6_doSwitches_85 : decode cX6_doSwitches 85 = .ok (.iadd, 1) := dk_96 (dk_at dksX6_doSwitches_3 13 rfl rfl)
theorem dX6_doSwitches_86 : decode cX6_doSwitches 86 = .ok (.aload_n 0, 1) := dk_42 (dk_at dksX6_doSwitches_3 14 rfl rfl)
theorem dX6_doSwitches_87 : decode cX6_doSwitches 87 = .ok (.getfield 17, 3) := dk_180 0 17 (dk_at dksX6_doSwitches_3 15 rfl rfl)
theorem dX6_doSwitches_90 : decode cX6_doSwitches 90 = .ok (.iload_n 3, 1) := dk_29 (dk_at dksX6_doSwitches_3 18 rfl rfl)
theorem dX6_doSwitches_91 : decode cX6_doSwitches 91 = .ok (.iload 4, 2) := dk_21 4 (dk_at dksX6_doSwitches_3 19 rfl rfl)
theorem dX6_doSwitches_93 : decode cX6_doSwitches 93 = .ok (.iadd, 1) := dk_96 (dk_at dksX6_doSwitches_3 21 rfl rfl)
theorem dX6_doSwitches_94 : decode cX6_doSwitches 94 = .ok (.iaload, 1) := dk_46 (dk_at dksX6_doSwitches_3 22 rfl rfl)
theorem dX6_doSwitches_95 : decode cX6_doSwitches 95 = .ok (.iastore, 1) := dk_79 (dk_at dksX6_doSwitches_3 23 rfl rfl)
theorem dX6_doSwitches_96 : decode cX6_doSwitches 96 = .ok (.iinc 4 1, 3) := dk_132 4 1 (dk_at dksX6_doSwitches_4 0 rfl rfl)
theorem dX6_doSwitches_99 : decode cX6_doSwitches 99 = .ok (.goto (-33), 3) := dk_167 255 223 (dk_at dksX6_doSwitches_4 3 rfl rfl)
theorem dX6_doSwitches_102 : decode cX6_doSwitches 102 = .ok (.iinc 1 1, 3) := dk_132 1 1 (dk_at dksX6_doSwitches_4 6 rfl rfl)
theorem dX6_doSwitches_105 : decode cX6_doSwitches 105 = .ok (.iinc 2 1, 3) := dk_132 2 1 (dk_at dksX6_doSwitches_4 9 rfl rfl)
theorem dX6_doSwitches_108 : decode cX6_doSwitches 108 = .ok (.goto (-104), 3) := dk_167 255 152 (dk_at dksX6_doSwitches_4 12 rfl rfl)
theorem dX6_doSwitches_111 : decode cX6_doSwitches 111 = .ok (.aload_n 0, 1) := dk_42 (dk_at dksX6_doSwitches_4 15 rfl rfl)
theorem dX6_doSwitches_112 : decode cX6_doSwitches 112 = .ok (.getfield 17, 3) := dk_180 0 17 (dk_at dksX6_doSwitches_4 16 rfl rfl)
theorem dX6_doSwitches_115 : decode cX6_doSwitches 115 = .ok (.bipush 7, 2) := dk_16 7 (dk_at dksX6_doSwitches_4 19 rfl rfl)
theorem dX6_doSwitches_117 : decode cX6_doSwitches 117 = .ok (.iload_n 1, 1) := dk_27 (dk_at dksX6_doSwitches_4 21 rfl rfl)
theorem dX6_doSwitches_118 : decode cX6_doSwitches 118 = .ok (.iastore, 1) := dk_79 (dk_at dksX6_doSwitches_4 22 rfl rfl)
theorem dX6_doSwitches_119 : decode cX6_doSwitches 119 = .ok (.return_, 1) := dk_177 (dk_at dksX6_doSwitches_4 23 rfl rfl)
def dkwX6_drawArcs_4 : List UInt8 := [16, 80, 42, 182, 1, 105, 16, 21, 112, 96, 134, 19, 1, 108, 110, 81, 132, 1, 1, 167, 255, 144, 177]
abbrev dktX6_drawArcs_4 : List UInt8 := dkwX6_drawArcs_4 ++ []
def dkwX6_drawArcs_3 : List UInt8 := [180, 0, 42, 27, 42, 27, 6, 182, 1, 86, 42, 182, 1, 105, 6, 112, 96, 79, 42, 180, 0, 45, 27]
abbrev dktX6_drawArcs_3 : List UInt8 := dkwX6_drawArcs_3 ++ dktX6_drawArcs_4
def dkwX6_drawArcs_2 : List UInt8 := [180, 0, 38, 27, 42, 182, 1, 105, 42, 27, 7, 182, 1, 86, 162, 0, 7, 4, 167, 0, 4, 3, 84, 42]
abbrev dktX6_drawArcs_2 : List UInt8 := dkwX6_drawArcs_2 ++ dktX6_drawArcs_3
def dkwX6_drawArcs_1 : List UInt8 := [8, 182, 1, 86, 153, 0, 83, 42, 42, 27, 4, 182, 1, 86, 182, 1, 102, 154, 0, 6, 167, 0, 67, 42]
abbrev dktX6_drawArcs_1 : List UInt8 := dkwX6_drawArcs_1 ++ dktX6_drawArcs_2
def dkwX6_drawArcs_0 : List UInt8 := [3, 60, 27, 42, 180, 0, 17, 7, 46, 162, 0, 108, 42, 27, 3, 182, 1, 86, 6, 160, 0, 92, 42, 27]
abbrev dktX6_drawArcs_0 : List UInt8 := dkwX6_drawArcs_0 ++ dktX6_drawArcs_1
theorem dksX6_drawArcs_0 : cX6_drawArcs.data.toList.drop 0 = dktX6_drawArcs_0 := by decide +kernel
theorem dksX6_drawArcs_1 : cX6_drawArcs.data.toList.drop 24 = dktX6_drawArcs_1 := dk_seg dksX6_drawArcs_0 24 rfl rfl
theorem dksX6_drawArcs_2 : cX6_drawArcs.data.toList.drop 48 = dktX6_drawArcs_2 := dk_seg dksX6_drawArcs_1 24 rfl rfl
theorem dksX6_drawArcs_3 : cX6_drawArcs.data.toList.drop 72 = dktX6_drawArcs_3 := dk_seg dksX6_drawArcs_2 24 rfl rfl
theorem dksX6_drawArcs_4 : cX6_drawArcs.data.toList.drop 95 = dktX6_drawArcs_4 := dk_seg dksX6_drawArcs_3 23 rfl rfl
theorem dX6_drawArcs_0 : decode cX6_drawArcs 0 = .ok (.iconst 0, 1) := dk_3 (dk_at dksX6_drawArcs_0 0 rfl rfl)
theorem dX6_drawArcs_1 : decode cX6_drawArcs 1 = .ok (.istore_n 1, 1) := dk_60 (dk_at dksX6_drawArcs_0 1 rfl rfl)
theorem dX6_drawArcs_2 : decode cX6_drawArcs 2 = .ok (.iload_n 1, 1) := dk_27 (dk_at dksX6_drawArcs_0 2 rfl rfl)
theorem dX6_drawArcs_3 : decode cX6_drawArcs 3 = .ok (.aload_n 0, 1) := dk_42 (dk_at dksX6_drawArcs_0 3 rfl rfl)
theorem dX6_drawArcs_4 : decode cX6_drawArcs 4 = .ok (.getfield 17, 3) := dk_180 0 17 (dk_at dksX6_drawArcs_0 4 rfl rfl)
theorem dX6_drawArcs_7 : decode cX6_drawArcs 7 = .ok (.iconst 4, 1) := dk_7 (dk_at dksX6_drawArcs_0 7 rfl rfl)
theorem dX6_drawArcs_8 : decode cX6_drawArcs 8 = .ok (.iaload, 1) := dk_46 (dk_at dksX6_drawArcs_0 8 rfl rfl)
theorem dX6_drawArcs_9 : decode cX6_drawArcs 9 = .ok (.if_icmp .ge 108, 3) := dk_162 0 108 (dk_at dksX6_drawArcs_0 9 rfl rfl)
theorem dX6_drawArcs_12 : decode cX6_drawArcs 12 = .ok (.aload_n 0, 1) := dk_42 (dk_at dksX6_drawArcs_0 12 rfl rfl)
theorem dX6_drawArcs_13 : decode cX6_drawArcs 13 = .ok (.iload_n 1, 1) := dk_27 (dk_at dksX6_drawArcs_0 13 rfl rfl)
theorem dX6_drawArcs_14 : decode cX6_drawArcs 14 = .ok (.iconst 0, 1) := dk_3 (dk_at dksX6_drawArcs_0 14 rfl rfl)
theorem dX6_drawArcs_15 : decode cX6_drawArcs 15 = .ok (.invokevirtual 342, 3) := dk_182 1 86 (dk_at dksX6_drawArcs_0 15 rfl rfl)
theorem dX6_drawArcs_18 : decode cX6_drawArcs 18 = .ok (.iconst 3, 1) := dk_6 (dk_at dksX6_drawArcs_0 18 rfl rfl)
theorem dX6_drawArcs_19 : decode cX6_drawArcs 19 = .ok (.if_icmp .ne 92, 3) := dk_160 0 92 (dk_at dksX6_drawArcs_0 19 rfl rfl)
theorem dX6_drawArcs_22 : decode cX6_drawArcs 22 = .ok (.aload_n 0, 1) := dk_42 (dk_at dksX6_drawArcs_0 22 rfl rfl)
theorem dX6_drawArcs_23 : decode cX6_drawArcs 23 = .ok (.iload_n 1, 1) := dk_27 (dk_at dksX6_drawArcs_0 23 rfl rfl)
theorem dX6_drawArcs_24 : decode cX6_drawArcs 24 = .ok (.iconst 5, 1) := dk_8 (dk_at dksX6_drawArcs_1 0 rfl rfl)
theorem dX6_drawArcs_25 : decode cX6_drawArcs 25 = .ok (.invokevirtual 342, 3) := dk_182 1 86 (dk_at dksX6_drawArcs_1 1 rfl rfl)
theorem dX6_drawArcs_28 : decode cX6_drawArcs 28 = .ok (.ifCond .eq 83, 3) := dk_153 0 83 (dk_at dksX6_drawArcs_1 4 rfl rfl)
theorem dX6_drawArcs_31 : decode cX6_drawArcs 31 = .ok (.aload_n 0, 1) := dk_42 (dk_at dksX6_drawArcs_1 7 rfl rfl)
theorem dX6_drawArcs_32 : decode cX6_drawArcs 32 = .ok (.aload_n 0, 1) := dk_42 (dk_at dksX6_drawArcs_1 8 rfl rfl)
theorem dX6_drawArcs_33 : decode cX6_drawArcs 33 = .ok (.iload_n 1, 1) := dk_27 (dk_at dksX6_drawArcs_1 9 rfl rfl)
theorem dX6_drawArcs_34 : decode cX6_drawArcs 34 = .ok (.iconst 1, 1) := dk_4 (dk_at dksX6_drawArcs_1 10 rfl rfl)
theorem dX6_drawArcs_35 : decode cX6_drawArcs 35 = .ok (.invokevirtual 342, 3) := dk_182 1 86 (dk_at dksX6_drawArcs_1 11 rfl rfl)
theorem dX6_drawArcs_38 : decode cX6_drawArcs 38 = .ok (.invokevirtual 358, 3) := dk_182 1 102 (dk_at dksX6_drawArcs_1 14 rfl rfl)
theorem dX6_drawArcs_41 : decode cX6_drawArcs 41 = .ok (.ifCond .ne 6, 3) := dk_154 0 6 (dk_at dksX6_drawArcs_1 17 rfl rfl)
theorem dX6_drawArcs_44 : decode cX6_drawArcs 44 = .ok (.goto 67, 3) := dk_167 0 67 (dk_at dksX6_drawArcs_1 20 rfl rfl)
theorem dX6_drawArcs_47 : decode cX6_drawArcs 47 = .ok (.aload_n 0, 1) := dk_42 (dk_at dksX6_drawArcs_1 23 rfl rfl)
theorem dX6_drawArcs_48 : decode cX6_drawArcs 48 = .ok (.getfield 38, 3) := dk_180 0 38 (dk_at dksX6_drawArcs_2 0 rfl rfl)
theorem dX6_drawArcs_51 : decode cX6_drawArcs 51 = .ok (.iload_n 1, 1) := dk_27 (dk_at dksX6_drawArcs_2 3 rfl rfl)
theorem dX6_drawArcs_52 : decode cX6_drawArcs 52 = .ok (.aload_n 0, 1) := dk_42 (dk_at dksX6_drawArcs_2 4 rfl rfl)
theorem dX6_drawArcs_53 : decode cX6_drawArcs 53 = .ok (.invokevirtual 361, 3) := dk_182 1 105 (dk_at dksX6_drawArcs_2 5 rfl rfl)
theorem dX6_drawArcs_56 : decode cX6_drawArcs 56 = .ok (.aload_n 0, 1) := dk_42 (dk_at dksX6_drawArcs_2 8 rfl rfl)
theorem dX6_drawArcs_57 : decode cX6_drawArcs 57 = .ok (.iload_n 1, 1) := dk_27 (dk_at dksX6_drawArcs_2 9 rfl rfl)
theorem dX6_drawArcs_58 : decode cX6_drawArcs 58 = .ok (.iconst 4, 1) := dk_7 (dk_at dksX6_drawArcs_2 10 rfl rfl)
theorem dX6_drawArcs_59 : decode cX6_drawArcs 59 = .ok (.invokevirtual 342, 3) := dk_182 1 86 (dk_at dksX6_drawArcs_2 11 rfl rfl)
theorem dX6_drawArcs_62 : decode cX6_drawArcs 62 = .ok (.if_icmp .ge 7, 3) := dk_162 0 7 (dk_at dksX6_drawArcs_2 14 rfl rfl)
theorem dX6_drawArcs_65 : decode cX6_drawArcs 65 = .ok (.iconst 1, 1) := dk_4 (dk_at dksX6_drawArcs_2 17 rfl rfl)
theorem dX6_drawArcs_66 : decode cX6_drawArcs 66 = .ok (.goto 4, 3) := dk_167 0 4 (dk_at dksX6_drawArcs_2 18 rfl rfl)
theorem dX6_drawArcs_69 : decode cX6_drawArcs 69 = .ok (.iconst 0, 1) := dk_3 (dk_at dksX6_drawArcs_2 21 rfl rfl)
theorem dX6_drawArcs_70 : decode cX6_drawArcs 70 = .ok (.bastore, 1) := dk_84 (dk_at dksX6_drawArcs_2 22 rfl rfl)
theorem dX6_drawArcs_71 : decode cX6_drawArcs 71 = .ok (.aload_n 0, 1) := dk_42 (dk_at dksX6_drawArcs_2 23 rfl rfl)
theorem dX6_drawArcs_72 : decode cX6_drawArcs 72 = .ok (.getfield 42, 3) := dk_180 0 42 (dk_at dksX6_drawArcs_3 0 rfl rfl)
theorem dX6_drawArcs_75 : decode cX6_drawArcs 75 = .ok (.iload_n 1, 1) := dk_27 (dk_at dksX6_drawArcs_3 3 rfl rfl)
theorem dX6_drawArcs_76 : decode cX6_drawArcs 76 = .ok (.aload_n 0, 1) := dk_42 (dk_at dksX6_drawArcs_3 4 rfl rfl)
theorem dX6_drawArcs_77 : decode cX6_drawArcs 77 = .ok (.iload_n 1, 1) := dk_27 (dk_at dksX6_drawArcs_3 5 rfl rfl)
theorem dX6_drawArcs_78 : decode cX6_drawArcs 78 = .ok (.iconst 3, 1) := dk_6 (dk_at dksX6_drawArcs_3 6 rfl rfl)
theorem dX6_drawArcs_79 : decode cX6_drawArcs 79 = .ok (.invokevirtual 342, 3) := dk_182 1 86 (dk_at dksX6_drawArcs_3 7 rfl rfl)
theorem dX6_drawArcs_82 : decode cX6_drawArcs 82 = .ok (.aload_n 0, 1) := dk_42 (dk_at dksX6_drawArcs_3 10 rfl rfl)
theorem dX6_drawArcs_83 : decode cX6_drawArcs 83 = .ok (.invokevirtual 361, 3) := dk_182 1 105 (dk_at dksX6_drawArcs_3 11 rfl rfl)
theorem dX6_drawArcs_86 : decode cX6_drawArcs 86 = .ok (.iconst 3, 1) := dk_6 (dk_at dksX6_drawArcs_3 14 rfl rfl)
theorem dX6_drawArcs_87 : decode cX6_drawArcs 87 = .ok (.irem, 1) := dk_112 (dk_at dksX6_drawArcs_3 15 rfl rfl)
theorem dX6_drawArcs_88 : decode cX6_drawArcs 88 = .ok (.iadd, 1) := dk_96 (dk_at dksX6_drawArcs_3 16 rfl rfl)
theorem dX6_drawArcs_89 : decode cX6_drawArcs 89 = .ok (.iastore, 1) := dk_79 (dk_at dksX6_drawArcs_3 17 rfl rfl)
theorem dX6_drawArcs_90 : decode cX6_drawArcs 90 = .ok (.aload_n 0, 1) := dk_42 (dk_at dksX6_drawArcs_3 18 rfl rfl)
theorem dX6_drawArcs_91 : decode cX6_drawArcs 91 = .ok (.getfield 45, 3) := dk_180 0 45 (dk_at dksX6_drawArcs_3 19 rfl rfl)
theorem dX6_drawArcs_94 : decode cX6_drawArcs 94 = .ok (.iload_n 1, 1) := dk_27 (dk_at dksX6_drawArcs_3 22 rfl rfl)
theorem dX6_drawArcs_95 : decode cX6_drawArcs 95 = .ok (.bipush 80, 2) := dk_16 80 (dk_at dksX6_drawArcs_4 0 rfl rfl)
theorem dX6_drawArcs_97 : decode cX6_drawArcs 97 = .ok (.aload_n 0, 1) := dk_42 (dk_at dksX6_drawArcs_4 2 rfl rfl)
theorem dX6_drawArcs_98 : decode cX6_drawArcs 98 = .ok (.invokevirtual 361, 3) := dk_182 1 105 (dk_at dksX6_drawArcs_4 3 rfl rfl)
theorem dX6_drawArcs_101 : decode cX6_drawArcs 101 = .ok (.bipush 21, 2) := dk_16 21 (dk_at dksX6_drawArcs_4 6 rfl rfl)
theorem dX6_drawArcs_103 : decode cX6_drawArcs 103 = .ok (.irem, 1) := dk_112 (dk_at dksX6_drawArcs_4 8 rfl rfl)
theorem dX6_drawArcs_104 : decode cX6_drawArcs 104 = .ok (.iadd, 1) := dk_96 (dk_at dksX6_drawArcs_4 9 rfl rfl)
theorem dX6_drawArcs_105 : decode cX6_drawArcs 105 = .ok (.i2f, 1) := dk_134 (dk_at dksX6_drawArcs_4 10 rfl rfl)
theorem dX6_drawArcs_106 : decode cX6_drawArcs 106 = .ok (.ldc_w 364, 3) := dk_19 1 108 (dk_at dksX6_drawArcs_4 11 rfl rfl)
theorem dX6_drawArcs_109 : decode cX6_drawArcs 109 = .ok (.fdiv, 1) := dk_110 (dk_at dksX6_drawArcs_4 14 rfl rfl)
theorem dX6_drawArcs_110 : decode cX6_drawArcs 110 = .ok (.fastore, 1) := dk_81 (dk_at dksX6_drawArcs_4 15 rfl rfl)
theorem dX6_drawArcs_111 : decode cX6_drawArcs 111 = .ok (.iinc 1 1, 3) := dk_132 1 1 (dk_at dksX6_drawArcs_4 16 rfl rfl)
theorem dX6_drawArcs_114 : decode cX6_drawArcs 114 = .ok (.goto (-112), 3) := dk_167 255 144 (dk_at dksX6_drawArcs_4 19 rfl rfl)
theorem dX6_drawArcs_117 : decode cX6_drawArcs 117 = .ok (.return_, 1) := dk_177 (dk_at dksX6_drawArcs_4 22 rfl rfl)
def dkwX6_isClosed_0 : List UInt8 := [42, 27, 4, 182, 0, 70, 154, 0, 7, 4, 167, 0, 4, 3, 172]
abbrev dktX6_isClosed_0 : List UInt8 := dkwX6_isClosed_0 ++ []
theorem dksX6_isClosed_0 : cX6_isClosed.data.toList.drop 0 = dktX6_isClosed_0 := by decide +kernel
theorem dX6_isClosed_0 : decode cX6_isClosed 0 = .ok (.aload_n 0, 1) := dk_42 (dk_at dksX6_isClosed_0 0 rfl rfl)
theorem dX6_isClosed_1 : decode cX6_isClosed 1 = .ok (.iload_n 1, 1) := dk_27 (dk_at dksX6_isClosed_0 1 rfl rfl)
theorem dX6_isClosed_2 : decode cX6_isClosed 2 = .ok (.iconst 1, 1) := dk_4 (dk_at dksX6_isClosed_0 2 rfl rfl)
theorem dX6_isClosed_3 : decode cX6_isClosed 3 = .ok (.invokevirtual 70, 3) := dk_182 0 70 (dk_at dksX6_isClosed_0 3 rfl rfl)
theorem dX6_isClosed_6 : decode cX6_isClosed 6 = .ok (.ifCond .ne 7, 3) := dk_154 0 7 (dk_at dksX6_isClosed_0 6 rfl rfl)
theorem dX6_isClosed_9 : decode cX6_isClosed 9 = .ok (.iconst 1, 1) := dk_4 (dk_at dksX6_isClosed_0 9 rfl rfl)
theorem dX6_isClosed_10 : decode cX6_isClosed 10 = .ok (.goto 4, 3) := dk_167 0 4 (dk_at dksX6_isClosed_0 10 rfl rfl)
theorem dX6_isClosed_13 : decode cX6_isClosed 13 = .ok (.iconst 0, 1) := dk_3 (dk_at dksX6_isClosed_0 13 rfl rfl)
theorem dX6_isClosed_14 : decode cX6_isClosed 14 = .ok (.ireturn, 1) := dk_172 (dk_at dksX6_isClosed_0 14 rfl rfl)
def dkwX6_draw_1 : List UInt8 := [20, 1, 99, 113, 136, 79, 42, 180, 0, 17, 16, 9, 46, 19, 1, 101, 108, 16, 100, 112, 172]
abbrev dktX6_draw_1 : List UInt8 := dkwX6_draw_1 ++ []
def dkwX6_draw_0 : List UInt8 := [42, 180, 0, 17, 16, 9, 42, 180, 0, 17, 16, 9, 46, 133, 20, 1, 95, 105, 20, 1, 97, 97]
abbrev dktX6_draw_0 : List UInt8 := dkwX6_draw_0 ++ dktX6_draw_1
theorem dksX6_draw_0 : cX6_draw.data.toList.drop 0 = dktX6_draw_0 := by decide +kernel
theorem dksX6_draw_1 : cX6_draw.data.toList.drop 22 = dktX6_draw_1 := dk_seg dksX6_draw_0 22 rfl rfl
theorem dX6_draw_0 : decode cX6_draw 0 = .ok (.aload_n 0, 1) := dk_42 (dk_at dksX6_draw_0 0 rfl rfl)
theorem dX6_draw_1 : decode cX6_draw 1 = .ok (.getfield 17, 3) := dk_180 0 17 (dk_at dksX6_draw_0 1 rfl rfl)
theorem dX6_draw_4 : decode cX6_draw 4 = .ok (.bipush 9, 2) := dk_16 9 (dk_at dksX6_draw_0 4 rfl rfl)
theorem dX6_draw_6 : decode cX6_draw 6 = .ok (.aload_n 0, 1) := dk_42 (dk_at dksX6_draw_0 6 rfl rfl)
theorem dX6_draw_7 : decode cX6_draw 7 = .ok (.getfield 17, 3) := dk_180 0 17 (dk_at dksX6_draw_0 7 rfl rfl)
theorem dX6_draw_10 : decode cX6_draw 10 = .ok (.bipush 9, 2) := dk_16 9 (dk_at dksX6_draw_0 10 rfl rfl)
theorem dX6_draw_12 : decode cX6_draw 12 = .ok (.iaload, 1) := dk_46 (dk_at dksX6_draw_0 12 rfl rfl)
theorem dX6_draw_13 : decode cX6_draw 13 = .ok (.i2l, 1) := dk_133 (dk_at dksX6_draw_0 13 rfl rfl)
theorem dX6_draw_14 : decode cX6_draw 14 = .ok (.ldc2_w 351, 3) := dk_20 1 95 (dk_at dksX6_draw_0 14 rfl rfl)
theorem dX6_draw_17 : decode cX6_draw 17 = .ok (.lmul, 1) := dk_105 (dk_at dksX6_draw_0 17 rfl rfl)
theorem dX6_draw_18 : decode cX6_draw 18 = .ok (.ldc2_w 353, 3) := dk_20 1 97 (dk_at dksX6_draw_0 18 rfl rfl)
theorem dX6_draw_21 : decode cX6_draw 21 = .ok (.ladd, 1) := dk_97 (dk_at dksX6_draw_0 21 rfl rfl)
theorem dX6_draw_22 : decode cX6_draw 22 = .ok (.ldc2_w 355, 3) := dk_20 1 99 (dk_at dksX6_draw_1 0 rfl rfl)
theorem dX6_draw_25 : decode cX6_draw 25 = .ok (.lrem, 1) := dk_113 (dk_at dksX6_draw_1 3 rfl rfl)
theorem dX6_draw_26 : decode cX6_draw 26 = .ok (.l2i, 1) := dk_136 (dk_at dksX6_draw_1 4 rfl rfl)
theorem dX6_draw_27 : decode cX6_draw 27 = .ok (.iastore, 1) := dk_79 (dk_at dksX6_draw_1 5 rfl rfl)
theorem dX6_draw_28 : decode cX6_draw 28 = .ok (.aload_n 0, 1) := dk_42 (dk_at dksX6_draw_1 6 rfl rfl)
theorem dX6_draw_29 : decode cX6_draw 29 = .ok (.getfield 17, 3) := dk_180 0 17 (dk_at dksX6_draw_1 7 rfl rfl)
theorem dX6_draw_32 : decode cX6_draw 32 = .ok (.bipush 9, 2) := dk_16 9 (dk_at dksX6_draw_1 10 rfl rfl)
theorem dX6_draw_34 : decode cX6_draw 34 = .ok (.iaload, 1) := dk_46 (dk_at dksX6_draw_1 12 rfl rfl)
theorem dX6_draw_35 : decode cX6_draw 35 = .ok (.ldc_w 357, 3) := dk_19 1 101 (dk_at dksX6_draw_1 13 rfl rfl)
theorem dX6_draw_38 : decode cX6_draw 38 = .ok (.idiv, 1) := dk_108 (dk_at dksX6_draw_1 16 rfl rfl)
theorem dX6_draw_39 : decode cX6_draw 39 = .ok (.bipush 100, 2) := dk_16 100 (dk_at dksX6_draw_1 17 rfl rfl)
theorem dX6_draw_41 : decode cX6_draw 41 = .ok (.irem, 1) := dk_112 (dk_at dksX6_draw_1 19 rfl rfl)
theorem dX6_draw_42 : decode cX6_draw 42 = .ok (.ireturn, 1) := dk_172 (dk_at dksX6_draw_1 20 rfl rfl)
def dkwX6_passBranch_3 : List UInt8 := [3, 172, 42, 27, 42, 27, 6, 182, 0, 70, 182, 1, 162, 4, 172]
abbrev dktX6_passBranch_3 : List UInt8 := dkwX6_passBranch_3 ++ []
def dkwX6_passBranch_2 : List UInt8 := [182, 1, 162, 4, 172, 42, 27, 42, 27, 182, 1, 149, 182, 1, 166, 42, 180, 0, 17, 5, 46, 162, 0, 5]
abbrev dktX6_passBranch_2 : List UInt8 := dkwX6_passBranch_2 ++ dktX6_passBranch_3
def dkwX6_passBranch_1 : List UInt8 := [3, 182, 1, 135, 19, 1, 161, 42, 27, 3, 182, 0, 70, 134, 106, 149, 158, 0, 11, 42, 27, 5]
abbrev dktX6_passBranch_1 : List UInt8 := dkwX6_passBranch_1 ++ dktX6_passBranch_2
def dkwX6_passBranch_0 : List UInt8 := [42, 27, 182, 1, 152, 42, 27, 182, 1, 155, 42, 27, 182, 1, 158, 42, 27, 7, 4, 182, 1, 14, 42, 27]
abbrev dktX6_passBranch_0 : List UInt8 := dkwX6_passBranch_0 ++ dktX6_passBranch_1
theorem dksX6_passBranch_0 : cX6_passBranch.data.toList.drop 0 = dktX6_passBranch_0 := by decide +kernel
theorem dksX6_passBranch_1 : cX6_passBranch.data.toList.drop 24 = dktX6_passBranch_1 := dk_seg dksX6_passBranch_0 24 rfl rfl
theorem dksX6_passBranch_2 : cX6_passBranch.data.toList.drop 46 = dktX6_passBranch_2 := dk_seg dksX6_passBranch_1 22 rfl rfl
theorem dksX6_passBranch_3 : cX6_passBranch.data.toList.drop 70 = dktX6_passBranch_3 := dk_seg dksX6_passBranch_2 24 rfl rfl
theorem dX6_passBranch_0 : decode cX6_passBranch 0 = .ok (.aload_n 0, 1) := dk_42 (dk_at dksX6_passBranch_0 0 rfl rfl)
theorem dX6_passBranch_1 : decode cX6_passBranch 1 = .ok (.iload_n 1, 1) := dk_27 (dk_at dksX6_passBranch_0 1 rfl rfl)
theorem dX6_passBranch_2 : decode cX6_passBranch 2 = .ok (.invokevirtual 408, 3) := dk_182 1 152 (dk_at dksX6_passBranch_0 2 rfl rfl)
theorem dX6_passBranch_5 : decode cX6_passBranch 5 = .ok (.aload_n 0, 1) := dk_42 (dk_at dksX6_passBranch_0 5 rfl rfl)
theorem dX6_passBranch_6 : decode cX6_passBranch 6 = .ok (.iload_n 1, 1) := dk_27 (dk_at dksX6_passBranch_0 6 rfl rfl)
theorem dX6_passBranch_7 : decode cX6_passBranch 7 = .ok (.invokevirtual 411, 3) := dk_182 1 155 (dk_at dksX6_passBranch_0 7 rfl rfl)
theorem dX6_passBranch_10 : decode cX6_passBranch 10 = .ok (.aload_n 0, 1) := dk_42 (dk_at dksX6_passBranch_0 10 rfl rfl)
theorem dX6_passBranch_11 : decode cX6_passBranch 11 = .ok (.iload_n 1, 1) := dk_27 (dk_at dksX6_passBranch_0 11 rfl rfl)
theorem dX6_passBranch_12 : decode cX6_passBranch 12 = .ok (.invokevirtual 414, 3) := dk_182 1 158 (dk_at dksX6_passBranch_0 12 rfl rfl)
theorem dX6_passBranch_15 : decode cX6_passBranch 15 = .ok (.aload_n 0, 1) := dk_42 (dk_at dksX6_passBranch_0 15 rfl rfl)
theorem dX6_passBranch_16 : decode cX6_passBranch 16 = .ok (.iload_n 1, 1) := dk_27 (dk_at dksX6_passBranch_0 16 rfl rfl)
theorem dX6_passBranch_17 : decode cX6_passBranch 17 = .ok (.iconst 4, 1) := dk_7 (dk_at dksX6_passBranch_0 17 rfl rfl)
theorem dX6_passBranch_18 : decode cX6_passBranch 18 = .ok (.iconst 1, 1) := dk_4 (dk_at dksX6_passBranch_0 18 rfl rfl)
theorem dX6_passBranch_19 : decode cX6_passBranch 19 = .ok (.invokevirtual 270, 3) := dk_182 1 14 (dk_at dksX6_passBranch_0 19 rfl rfl)
theorem dX6_passBranch_22 : decode cX6_passBranch 22 = .ok (.aload_n 0, 1) := dk_42 (dk_at dksX6_passBranch_0 22 rfl rfl)
theorem dX6_passBranch_23 : decode cX6_passBranch 23 = .ok (.iload_n 1, 1) := dk_27 (dk_at dksX6_passBranch_0 23 rfl rfl)
theorem dX6_passBranch_24 : decode cX6_passBranch 24 = .ok (.iconst 0, 1) := dk_3 (dk_at dksX6_passBranch_1 0 rfl rfl)
theorem dX6_passBranch_25 : decode cX6_passBranch 25 = .ok (.invokevirtual 391, 3) := dk_182 1 135 (dk_at dksX6_passBranch_1 1 rfl rfl)
theorem dX6_passBranch_28 : decode cX6_passBranch 28 = .ok (.ldc_w 417, 3) := dk_19 1 161 (dk_at dksX6_passBranch_1 4 rfl rfl)
theorem dX6_passBranch_31 : decode cX6_passBranch 31 = .ok (.aload_n 0, 1) := dk_42 (dk_at dksX6_passBranch_1 7 rfl rfl)
theorem dX6_passBranch_32 : decode cX6_passBranch 32 = .ok (.iload_n 1, 1) := dk_27 (dk_at dksX6_passBranch_1 8 rfl rfl)
theorem dX6_passBranch_33 : decode cX6_passBranch 33 = .ok (.iconst 0, 1) := dk_3 (dk_at dksX6_passBranch_1 9 rfl rfl)
theorem dX6_passBranch_34 : decode cX6_passBranch 34 = .ok (.invokevirtual 70, 3) := dk_182 0 70 (dk_at dksX6_passBranch_1 10 rfl rfl)
theorem dX6_passBranch_37 : decode cX6_passBranch 37 = .ok (.i2f, 1) := dk_134 (dk_at dksX6_passBranch_1 13 rfl rfl)
theorem dX6_passBranch_38 : decode cX6_passBranch 38 = .ok (.fmul, 1) := dk_106 (dk_at dksX6_passBranch_1 14 rfl rfl)
theorem dX6_passBranch_39 : decode cX6_passBranch 39 = .ok (.fcmp .l, 1) := dk_149 (dk_at dksX6_passBranch_1 15 rfl rfl)
theorem dX6_passBranch_40 : decode cX6_passBranch 40 = .ok (.ifCond .le 11, 3) := dk_158 0 11 (dk_at dksX6_passBranch_1 16 rfl rfl)
theorem dX6_passBranch_43 : decode cX6_passBranch 43 = .ok (.aload_n 0, 1) := dk_42 (dk_at dksX6_passBranch_1 19 rfl rfl)
theorem dX6_passBranch_44 : decode cX6_passBranch 44 = .ok (.iload_n 1, 1) := dk_27 (dk_at dksX6_passBranch_1 20 rfl rfl)
theorem dX6_passBranch_45 : decode cX6_passBranch 45 = .ok (.iconst 2, 1) := dk_5 (dk_at dksX6_passBranch_1 21 rfl rfl)
theorem dX6_passBranch_46 : decode cX6_passBranch 46 = .ok (.invokevirtual 418, 3) := dk_182 1 162 (dk_at dksX6_passBranch_2 0 rfl rfl)
theorem dX6_passBranch_49 : decode cX6_passBranch 49 = .ok (.iconst 1, 1) := dk_4 (dk_at dksX6_passBranch_2 3 rfl rfl)
theorem dX6_passBranch_50 : decode cX6_passBranch 50 = .ok (.ireturn, 1) := dk_172 (dk_at dksX6_passBranch_2 4 rfl rfl)
theorem dX6_passBranch_51 : decode cX6_passBranch 51 = .ok (.aload_n 0, 1) := dk_42 (dk_at dksX6_passBranch_2 5 rfl rfl)
theorem dX6_passBranch_52 : decode cX6_passBranch 52 = .ok (.iload_n 1, 1) := dk_27 (dk_at dksX6_passBranch_2 6 rfl rfl)
theorem dX6_passBranch_53 : decode cX6_passBranch 53 = .ok (.aload_n 0, 1) := dk_42 (dk_at dksX6_passBranch_2 7 rfl rfl)
theorem dX6_passBranch_54 : decode cX6_passBranch 54 = .ok (.iload_n 1, 1) := dk_27 (dk_at dksX6_passBranch_2 8 rfl rfl)
theorem dX6_passBranch_55 : decode cX6_passBranch 55 = .ok (.invokevirtual 405, 3) := dk_182 1 149 (dk_at dksX6_passBranch_2 9 rfl rfl)
theorem dX6_passBranch_58 : decode cX6_passBranch 58 = .ok (.invokevirtual 422, 3) := dk_182 1 166 (dk_at dksX6_passBranch_2 12 rfl rfl)
theorem dX6_passBranch_61 : decode cX6_passBranch 61 = .ok (.aload_n 0, 1) := dk_42 (dk_at dksX6_passBranch_2 15 rfl rfl)
theorem dX6_passBranch_62 : decode cX6_passBranch 62 = .ok (.getfield 17, 3) := dk_180 0 17 (dk_at dksX6_passBranch_2 16 rfl rfl)
theorem dX6_passBranch_65 : decode cX6_passBranch 65 = .ok (.iconst 2, 1) := dk_5 (dk_at dksX6_passBranch_2 19 rfl rfl)
theorem dX6_passBranch_66 : decode cX6_passBranch 66 = .ok (.iaload, 1) := dk_46 (dk_at dksX6_passBranch_2 20 rfl rfl)
theorem dX6_passBranch_67 : decode cX6_passBranch 67 = .ok (.if_icmp .ge 5, 3) := dk_162 0 5 (dk_at dksX6_passBranch_2 21 rfl rfl)
theorem dX6_passBranch_70 : decode cX6_passBranch 70 = .ok (.iconst 0, 1) := dk_3 (dk_at dksX6_passBranch_3 0 rfl rfl)
theorem dX6_passBranch_71 : decode cX6_passBranch 71 = .ok (.ireturn, 1) := dk_172 (dk_at dksX6_passBranch_3 1 rfl rfl)
theorem dX6_passBranch_72 : decode cX6_passBranch 72 = .ok (.aload_n 0, 1) := dk_42 (dk_at dksX6_passBranch_3 2 rfl rfl)
theorem dX6_passBranch_73 : decode cX6_passBranch 73 = .ok (.iload_n 1, 1) := dk_27 (dk_at dksX6_passBranch_3 3 rfl rfl)
theorem dX6_passBranch_74 : decode cX6_passBranch 74 = .ok (.aload_n 0, 1) := dk_42 (dk_at dksX6_passBranch_3 4 rfl rfl)
theorem dX6_passBranch_75 : decode cX6_passBranch 75 = .ok (.iload_n 1, 1) := dk_27 (dk_at dksX6_passBranch_3 5 rfl rfl)
theorem dX6_passBranch_76 : decode cX6_passBranch 76 = .ok (.iconst 3, 1) := dk_6 (dk_at dksX6_passBranch_3 6 rfl rfl)
theorem dX6_passBranch_77 : decode cX6_passBranch 77 = .ok (.invokevirtual 70, 3) := dk_182 0 70 (dk_at dksX6_passBranch_3 7 rfl rfl)
theorem dX6_passBranch_80 : decode cX6_passBranch 80 = .ok (.invokevirtual 418, 3) := dk_182 1 162 (dk_at dksX6_passBranch_3 10 rfl rfl)
theorem dX6_passBranch_83 : decode cX6_passBranch 83 = .ok (.iconst 1, 1) := dk_4 (dk_at dksX6_passBranch_3 13 rfl rfl)
theorem dX6_passBranch_84 : decode cX6_passBranch 84 = .ok (.ireturn, 1) := dk_172 (dk_at dksX6_passBranch_3 14 rfl rfl)
def dkwX6_laySamples_3 : List UInt8 := [16, 38, 27, 104, 28, 96, 37, 81, 132, 2, 1, 167, 255, 177, 177]
abbrev dktX6_laySamples_3 : List UInt8 := dkwX6_laySamples_3 ++ []
def dkwX6_laySamples_2 : List UInt8 := [160, 0, 13, 37, 42, 21, 4, 28, 182, 1, 122, 98, 70, 132, 4, 1, 167, 255, 210, 42, 180, 0, 27]
abbrev dktX6_laySamples_2 : List UInt8 := dkwX6_laySamples_2 ++ dktX6_laySamples_3
def dkwX6_laySamples_1 : List UInt8 := [46, 162, 0, 41, 42, 21, 4, 4, 182, 1, 86, 27, 160, 0, 24, 42, 21, 4, 8, 182, 1, 86, 4]
abbrev dktX6_laySamples_1 : List UInt8 := dkwX6_laySamples_1 ++ dktX6_laySamples_2
def dkwX6_laySamples_0 : List UInt8 := [3, 61, 28, 42, 180, 0, 17, 3, 46, 162, 0, 75, 11, 70, 3, 54, 4, 21, 4, 42, 180, 0, 17, 7]
abbrev dktX6_laySamples_0 : List UInt8 := dkwX6_laySamples_0 ++ dktX6_laySamples_1
theorem dksX6_laySamples_0 : cX6_laySamples.data.toList.drop 0 = dktX6_laySamples_0 := by decide +kernel
theorem dksX6_laySamples_1 : cX6_laySamples.data.toList.drop 24 = dktX6_laySamples_1 := dk_seg dksX6_laySamples_0 24 rfl rfl
theorem dksX6_laySamples_2 : cX6_laySamples.data.toList.drop 47 = dktX6_laySamples_2 := dk_seg dksX6_laySamples_1 23 rfl rfl
theorem dksX6_laySamples_3 : cX6_laySamples.data.toList.drop 70 = dktX6_laySamples_3 := dk_seg dksX6_laySamples_2 23 rfl rfl
theorem dX6_laySamples_0 : decode cX6_laySamples 0 = .ok (.iconst 0, 1) := dk_3 (dk_at dksX6_laySamples_0 0 rfl rfl)
theorem dX6_laySamples_1 : decode cX6_laySamples 1 = .ok (.istore_n 2, 1) := dk_61 (dk_at dksX6_laySamples_0 1 rfl rfl)
theorem dX6_laySamples_2 : decode cX6_laySamples 2 = .ok (.iload_n 2, 1) := dk_28 (dk_at dksX6_laySamples_0 2 rfl rfl)
theorem dX6_laySamples_3 : decode cX6_laySamples 3 = .ok (.aload_n 0, 1) := dk_42 (dk_at dksX6_laySamples_0 3 rfl rfl)
theorem dX6_laySamples_4 : decode cX6_laySamples 4 = .ok (.getfield 17, 3) := dk_180 0 17 (dk_at dksX6_laySamples_0 4 rfl rfl)
theorem dX6_laySamples_7 : decode cX6_laySamples 7 = .ok (.iconst 0, 1) := dk_3 (dk_at dksX6_laySamples_0 7 rfl rfl)
theorem dX6_laySamples_8 : decode cX6_laySamples 8 = .ok (.iaload, 1) := dk_46 (dk_at dksX6_laySamples_0 8 rfl rfl)
theorem dX6_laySamples_9 : decode cX6_laySamples 9 = .ok (.if_icmp .ge 75, 3) := dk_162 0 75 (dk_at dksX6_laySamples_0 9 rfl rfl)
theorem dX6_laySamples_12 : decode cX6_laySamples 12 = .ok (.fconst 0, 1) := dk_11 (dk_at dksX6_laySamples_0 12 rfl rfl)
theorem dX6_laySamples_13 : decode cX6_laySamples 13 = .ok (.fstore_n 3, 1) := dk_70 (dk_at dksX6_laySamples_0 13 rfl rfl)
theorem dX6_laySamples_14 : decode cX6_laySamples 14 = .ok (.iconst 0, 1) := dk_3 (dk_at dksX6_laySamples_0 14 rfl rfl)
theorem dX6_laySamples_15 : decode cX6_laySamples 15 = .ok (.istore 4, 2) := dk_54 4 (dk_at dksX6_laySamples_0 15 rfl rfl)
theorem dX6_laySamples_17 : decode cX6_laySamples 17 = .ok (.iload 4, 2) := dk_21 4 (dk_at dksX6_laySamples_0 17 rfl rfl)
theorem dX6_laySamples_19 : decode cX6_laySamples 19 = .ok (.aload_n 0, 1) := dk_42 (dk_at dksX6_laySamples_0 19 rfl rfl)
theorem dX6_laySamples_20 : decode cX6_laySamples 20 = .ok (.getfield 17, 3) := dk_180 0 17 (dk_at dksX6_laySamples_0 20 rfl rfl)
theorem dX6_laySamples_23 : decode cX6_laySamples 23 = .ok (.iconst 4, 1) := dk_7 (dk_at dksX6_laySamples_0 23 rfl rfl)
theorem dX6_laySamples_24 : decode cX6_laySamples 24 = .ok (.iaload, 1) := dk_46 (dk_at dksX6_laySamples_1 0 rfl rfl)
theorem dX6_laySamples_25 : decode cX6_laySamples 25 = .ok (.if_icmp .ge 41, 3) := dk_162 0 41 (dk_at dksX6_laySamples_1 1 rfl rfl)
theorem dX6_laySamples_28 : decode cX6_laySamples 28 = .ok (.aload_n 0, 1) := dk_42 (dk_at dksX6_laySamples_1 4 rfl rfl)
theorem dX6_laySamples_29 : decode cX6_laySamples 29 = .ok (.iload 4, 2) := dk_21 4 (dk_at dksX6_laySamples_1 5 rfl rfl)
theorem dX6_laySamples_31 : decode cX6_laySamples 31 = .ok (.iconst 1, 1) := dk_4 (dk_at dksX6_laySamples_1 7 rfl rfl)
theorem dX6_laySamples_32 : decode cX6_laySamples 32 = .ok (.invokevirtual 342, 3) := dk_182 1 86 (dk_at dksX6_laySamples_1 8 rfl rfl)
theorem dX6_laySamples_35 : decode cX6_laySamples 35 = .ok (.iload_n 1, 1) := dk_27 (dk_at dksX6_laySamples_1 11 rfl rfl)
theorem dX6_laySamples_36 : decode cX6_laySamples 36 = .ok (.if_icmp .ne 24, 3) := dk_160 0 24 (dk_at dksX6_laySamples_1 12 rfl rfl)
theorem dX6_laySamples_39 : decode cX6_laySamples 39 = .ok (.aload_n 0, 1) := dk_42 (dk_at dksX6_laySamples_1 15 rfl rfl)
theorem dX6_laySamples_40 : decode cX6_laySamples 40 = .ok (.iload 4, 2) := dk_21 4 (dk_at dksX6_laySamples_1 16 rfl rfl)
theorem dX6_laySamples_42 : decode cX6_laySamples 42 = .ok (.iconst 5, 1) := dk_8 (dk_at dksX6_laySamples_1 18 rfl rfl)
theorem dX6_laySamples_43 : decode cX6_laySamples 43 = .ok (.invokevirtual 342, 3) := dk_182 1 86 (dk_at dksX6_laySamples_1 19 rfl rfl)
theorem dX6_laySamples_46 : decode cX6_laySamples 46 = .ok (.iconst 1, 1) := dk_4 (dk_at dksX6_laySamples_1 22 rfl rfl)
theorem dX6_laySamples_47 : decode cX6_laySamples 47 = .ok (.if_icmp .ne 13, 3) := dk_160 0 13 (dk_at dksX6_laySamples_2 0 rfl rfl)
theorem dX6_laySamples_50 : decode cX6_laySamples 50 = .ok (.fload_n 3, 1) := dk_37 (dk_at dksX6_laySamples_2 3 rfl rfl)
theorem dX6_laySamples_51 : decode cX6_laySamples 51 = .ok (.aload_n 0, 1) := dk_42 (dk_at dksX6_laySamples_2 4 rfl rfl)
theorem dX6_laySamples_52 : decode cX6_laySamples 52 = .ok (.iload 4, 2) := dk_21 4 (dk_at dksX6_laySamples_2 5 rfl rfl)
theorem dX6_laySamples_54 : decode cX6_laySamples 54 = .ok (.iload_n 2, 1) := dk_28 (dk_at dksX6_laySamples_2 7 rfl rfl)
theorem dX6_laySamples_55 : decode cX6_laySamples 55 = .ok (.invokevirtual 378, 3) := dk_182 1 122 (dk_at dksX6_laySamples_2 8 rfl rfl)
theorem dX6_laySamples_58 : decode cX6_laySamples 58 = .ok (.fadd, 1) := dk_98 (dk_at dksX6_laySamples_2 11 rfl rfl)
theorem dX6_laySamples_59 : decode cX6_laySamples 59 = .ok (.fstore_n 3, 1) := dk_70 (dk_at dksX6_laySamples_2 12 rfl rfl)
theorem dX6_laySamples_60 : decode cX6_laySamples 60 = .ok (.iinc 4 1, 3) := dk_132 4 1 (dk_at dksX6_laySamples_2 13 rfl rfl)
theorem dX6_laySamples_63 : decode cX6_laySamples 63 = .ok (.goto (-46), 3) := dk_167 255 210 (dk_at dksX6_laySamples_2 16 rfl rfl)
theorem dX6_laySamples_66 : decode cX6_laySamples 66 = .ok (.aload_n 0, 1) := dk_42 (dk_at dksX6_laySamples_2 19 rfl rfl)
theorem dX6_laySamples_67 : decode cX6_laySamples 67 = .ok (.getfield 27, 3) := dk_180 0 27 (dk_at dksX6_laySamples_2 20 rfl rfl)
theorem dX6_laySamples_70 : decode cX6_laySamples 70 = .ok (.bipush 38, 2) := dk_16 38 (dk_at dksX6_laySamples_3 0 rfl rfl)
theorem dX6_laySamples_72 : decode cX6_laySamples 72 = .ok (.iload_n 1, 1) := dk_27 (dk_at dksX6_laySamples_3 2 rfl rfl)
theorem dX6_laySamples_73 : decode cX6_laySamples 73 = .ok (.imul, 1) := dk_104 (dk_at dksX6_laySamples_3 3 rfl rfl)
theorem dX6_laySamples_74 : decode cX6_laySamples 74 = .ok (.iload_n 2, 1) := dk_28 (dk_at dksX6_laySamples_3 4 rfl rfl)
theorem dX6_laySamples_75 : decode cX6_laySamples 75 = .ok (.iadd, 1) := dk_96 (dk_at dksX6_laySamples_3 5 rfl rfl)
theorem dX6_laySamples_76 : decode cX6_laySamples 76 = .ok (.fload_n 3, 1) := dk_37 (dk_at dksX6_laySamples_3 6 rfl rfl)
theorem dX6_laySamples_77 : decode cX6_laySamples 77 = .ok (.fastore, 1) := dk_81 (dk_at dksX6_laySamples_3 7 rfl rfl)
theorem dX6_laySamples_78 : decode cX6_laySamples 78 = .ok (.iinc 2 1, 3) := dk_132 2 1 (dk_at dksX6_laySamples_3 8 rfl rfl)
theorem dX6_laySamples_81 : decode cX6_laySamples 81 = .ok (.goto (-79), 3) := dk_167 255 177 (dk_at dksX6_laySamples_3 11 rfl rfl)
theorem dX6_laySamples_84 : decode cX6_laySamples 84 = .ok (.return_, 1) := dk_177 (dk_at dksX6_laySamples_3 14 rfl rfl)
def dkwX6_sampleNow_2 : List UInt8 := [182, 1, 114, 174]
abbrev dktX6_sampleNow_2 : List UInt8 := dkwX6_sampleNow_2 ++ []
def dkwX6_sampleNow_1 : List UInt8 := [153, 0, 7, 11, 167, 0, 21, 42, 27, 28, 42, 180, 0, 42, 27, 46, 42, 180, 0, 45, 27, 48]
abbrev dktX6_sampleNow_1 : List UInt8 := dkwX6_sampleNow_1 ++ dktX6_sampleNow_2
def dkwX6_sampleNow_0 : List UInt8 := [42, 27, 3, 182, 1, 86, 6, 159, 0, 10, 42, 27, 28, 182, 1, 118, 174, 42, 180, 0, 38, 27, 51]
abbrev dktX6_sampleNow_0 : List UInt8 := dkwX6_sampleNow_0 ++ dktX6_sampleNow_1
theorem dksX6_sampleNow_0 : cX6_sampleNow.data.toList.drop 0 = dktX6_sampleNow_0 := by decide +kernel
theorem dksX6_sampleNow_1 : cX6_sampleNow.data.toList.drop 23 = dktX6_sampleNow_1 := dk_seg dksX6_sampleNow_0 23 rfl rfl
theorem dksX6_sampleNow_2 : cX6_sampleNow.data.toList.drop 45 = dktX6_sampleNow_2 := dk_seg dksX6_sampleNow_1 22 rfl rfl
theorem dX6_sampleNow_0 : decode cX6_sampleNow 0 = .ok (.aload_n 0, 1) := dk_42 (dk_at dksX6_sampleNow_0 0 rfl rfl)
theorem dX6_sampleNow_1 : decode cX6_sampleNow 1 = .ok (.iload_n 1, 1) := dk_27 (dk_at dksX6_sampleNow_0 1 rfl rfl)
theorem dX6_sampleNow_2 : decode cX6_sampleNow 2 = .ok (.iconst 0, 1) := dk_3 (dk_at dksX6_sampleNow_0 2 rfl rfl)
theorem dX6_sampleNow_3 : decode cX6_sampleNow 3 = .ok (.invokevirtual 342, 3) := dk_182 1 86 (dk_at dksX6_sampleNow_0 3 rfl rfl)
theorem dX6_sampleNow_6 : decode cX6_sampleNow 6 = .ok (.iconst 3, 1) := dk_6 (dk_at dksX6_sampleNow_0 6 rfl rfl)
theorem dX6_sampleNow_7 : decode cX6_sampleNow 7 = .ok (.if_icmp .eq 10, 3) := dk_159 0 10 (dk_at dksX6_sampleNow_0 7 rfl rfl)
theorem dX6_sampleNow_10 : decode cX6_sampleNow 10 = .ok (.aload_n 0, 1) := dk_42 (dk_at dksX6_sampleNow_0 10 rfl rfl)
theorem dX6_sampleNow_11 : decode cX6_sampleNow 11 = .ok (.iload_n 1, 1) := dk_27 (dk_at dksX6_sampleNow_0 11 rfl rfl)
theorem dX6_sampleNow_12 : decode cX6_sampleNow 12 = .ok (.iload_n 2, 1) := dk_28 (dk_at dksX6_sampleNow_0 12 rfl rfl)
theorem dX6_sampleNow_13 : decode cX6_sampleNow 13 = .ok (.invokevirtual 374, 3) := dk_182 1 118 (dk_at dksX6_sampleNow_0 13 rfl rfl)
theorem dX6_sampleNow_16 : decode cX6_sampleNow 16 = .ok (.freturn, 1) := dk_174 (dk_at dksX6_sampleNow_0 16 rfl rfl)
theorem dX6_sampleNow_17 : decode cX6_sampleNow 17 = .ok (.aload_n 0, 1) := dk_42 (dk_at dksX6_sampleNow_0 17 rfl rfl)
theorem dX6_sampleNow_18 : decode cX6_sampleNow 18 = .ok (.getfield 38, 3) := dk_180 0 38 (dk_at dksX6_sampleNow_0 18 rfl rfl)
theorem dX6_sampleNow_21 : decode cX6_sampleNow 21 = .ok (.iload_n 1, 1) := dk_27 (dk_at dksX6_sampleNow_0 21 rfl rfl)
theorem dX6_sampleNow_22 : decode cX6_sampleNow 22 = .ok (.baload, 1) := dk_51 (dk_at dksX6_sampleNow_0 22 rfl rfl)
theorem dX6_sampleNow_23 : decode cX6_sampleNow 23 = .ok (.ifCond .eq 7, 3) := dk_153 0 7 (dk_at dksX6_sampleNow_1 0 rfl rfl)
theorem dX6_sampleNow_26 : decode cX6_sampleNow 26 = .ok (.fconst 0, 1) := dk_11 (dk_at dksX6_sampleNow_1 3 rfl rfl)
theorem dX6_sampleNow_27 : decode cX6_sampleNow 27 = .ok (.goto 21, 3) := dk_167 0 21 (dk_at dksX6_sampleNow_1 4 rfl rfl)
theorem dX6_sampleNow_30 : decode cX6_sampleNow 30 = .ok (.aload_n 0, 1) := dk_42 (dk_at dksX6_sampleNow_1 7 rfl rfl)
theorem dX6_sampleNow_31 : decode cX6_sampleNow 31 = .ok (.iload_n 1, 1) := dk_27 (dk_at dksX6_sampleNow_1 8 rfl rfl)
theorem dX6_sampleNow_32 : decode cX6_sampleNow 32 = .ok (.iload_n 2, 1) := dk_28 (dk_at dksX6_sampleNow_1 9 rfl rfl)
theorem dX6_sampleNow_33 : decode cX6_sampleNow 33 = .ok (.aload_n 0, 1) := dk_42 (dk_at dksX6_sampleNow_1 10 rfl rfl)
theorem dX6_sampleNow_34 : decode cX6_sampleNow 34 = .ok (.getfield 42, 3) := dk_180 0 42 (dk_at dksX6_sampleNow_1 11 rfl rfl)
theorem dX6_sampleNow_37 : decode cX6_sampleNow 37 = .ok (.iload_n 1, 1) := dk_27 (dk_at dksX6_sampleNow_1 14 rfl rfl)
theorem dX6_sampleNow_38 : decode cX6_sampleNow 38 = .ok (.iaload, 1) := dk_46 (dk_at dksX6_sampleNow_1 15 rfl rfl)
theorem dX6_sampleNow_39 : decode cX6_sampleNow 39 = .ok (.aload_n 0, 1) := dk_42 (dk_at dksX6_sampleNow_1 16 rfl rfl)
theorem dX6_sampleNow_40 : decode cX6_sampleNow 40 = .ok (.getfield 45, 3) := dk_180 0 45 (dk_at dksX6_sampleNow_1 17 rfl rfl)
theorem dX6_sampleNow_43 : decode cX6_sampleNow 43 = .ok (.iload_n 1, 1) := dk_27 (dk_at dksX6_sampleNow_1 20 rfl rfl)
theorem dX6_sampleNow_44 : decode cX6_sampleNow 44 = .ok (.faload, 1) := dk_48 (dk_at dksX6_sampleNow_1 21 rfl rfl)
theorem dX6_sampleNow_45 : decode cX6_sampleNow 45 = .ok (.invokevirtual 370, 3) := dk_182 1 114 (dk_at dksX6_sampleNow_2 0 rfl rfl)
theorem dX6_sampleNow_48 : decode cX6_sampleNow 48 = .ok (.freturn, 1) := dk_174 (dk_at dksX6_sampleNow_2 3 rfl rfl)
def dkwX6_plainAt_5 : List UInt8 := [182, 1, 114, 174]
abbrev dktX6_plainAt_5 : List UInt8 := dkwX6_plainAt_5 ++ []
def dkwX6_plainAt_4 : List UInt8 := [21, 4, 162, 0, 7, 11, 167, 0, 10, 37, 42, 28, 182, 1, 110, 106, 174, 42, 27, 28, 21, 4, 12]
abbrev dktX6_plainAt_4 : List UInt8 := dkwX6_plainAt_4 ++ dktX6_plainAt_5
def dkwX6_plainAt_3 : List UInt8 := [167, 0, 22, 11, 37, 42, 28, 21, 4, 100, 42, 180, 0, 17, 3, 46, 96, 182, 1, 110, 106, 102, 174, 28]
abbrev dktX6_plainAt_3 : List UInt8 := dkwX6_plainAt_3 ++ dktX6_plainAt_4
def dkwX6_plainAt_2 : List UInt8 := [37, 42, 28, 182, 1, 110, 106, 174, 28, 21, 4, 161, 0, 16, 37, 42, 28, 21, 4, 100, 182, 1, 110, 106]
abbrev dktX6_plainAt_2 : List UInt8 := dkwX6_plainAt_2 ++ dktX6_plainAt_3
def dkwX6_plainAt_1 : List UInt8 := [170, 0, 0, 0, 0, 91, 0, 0, 0, 0, 0, 0, 0, 2, 0, 0, 0, 26, 0, 0, 0, 34, 0, 0, 0, 73]
abbrev dktX6_plainAt_1 : List UInt8 := dkwX6_plainAt_1 ++ dktX6_plainAt_2
def dkwX6_plainAt_0 : List UInt8 := [42, 27, 5, 182, 1, 86, 134, 70, 42, 27, 6, 182, 1, 86, 54, 4, 42, 27, 3, 182, 1, 86]
abbrev dktX6_plainAt_0 : List UInt8 := dkwX6_plainAt_0 ++ dktX6_plainAt_1
theorem dksX6_plainAt_0 : cX6_plainAt.data.toList.drop 0 = dktX6_plainAt_0 := by decide +kernel
theorem dksX6_plainAt_1 : cX6_plainAt.data.toList.drop 22 = dktX6_plainAt_1 := dk_seg dksX6_plainAt_0 22 rfl rfl
theorem dksX6_plainAt_2 : cX6_plainAt.data.toList.drop 48 = dktX6_plainAt_2 := dk_seg dksX6_plainAt_1 26 rfl rfl
theorem dksX6_plainAt_3 : cX6_plainAt.data.toList.drop 72 = dktX6_plainAt_3 := dk_seg dksX6_plainAt_2 24 rfl rfl
theorem dksX6_plainAt_4 : cX6_plainAt.data.toList.drop 96 = dktX6_plainAt_4 := dk_seg dksX6_plainAt_3 24 rfl rfl
theorem dksX6_plainAt_5 : cX6_plainAt.data.toList.drop 119 = dktX6_plainAt_5 := dk_seg dksX6_plainAt_4 23 rfl rfl
theorem dX6_plainAt_0 : decode cX6_plainAt 0 = .ok (.aload_n 0, 1) := dk_42 (dk_at dksX6_plainAt_0 0 rfl rfl)
theorem dX6_plainAt_1 : decode cX6_plainAt 1 = .ok (.iload_n 1, 1) := dk_27 (dk_at dksX6_plainAt_0 1 rfl rfl)
theorem dX6_plainAt_2 : decode cX6_plainAt 2 = .ok (.iconst 2, 1) := dk_5 (dk_at dksX6_plainAt_0 2 rfl rfl)
theorem dX6_plainAt_3 : decode cX6_plainAt 3 = .ok (.invokevirtual 342, 3) := dk_182 1 86 (dk_at dksX6_plainAt_0 3 rfl rfl)
theorem dX6_plainAt_6 : decode cX6_plainAt 6 = .ok (.i2f, 1) := dk_134 (dk_at dksX6_plainAt_0 6 rfl rfl)
theorem dX6_plainAt_7 : decode cX6_plainAt 7 = .ok (.fstore_n 3, 1) := dk_70 (dk_at dksX6_plainAt_0 7 rfl rfl)
theorem dX6_plainAt_8 : decode cX6_plainAt 8 = .ok (.aload_n 0, 1) := dk_42 (dk_at dksX6_plainAt_0 8 rfl rfl)
theorem dX6_plainAt_9 : decode cX6_plainAt 9 = .ok (.iload_n 1, 1) := dk_27 (dk_at dksX6_plainAt_0 9 rfl rfl)
theorem dX6_plainAt_10 : decode cX6_plainAt 10 = .ok (.iconst 3, 1) := dk_6 (dk_at dksX6_plainAt_0 10 rfl rfl)
theorem dX6_plainAt_11 : decode cX6_plainAt 11 = .ok (.invokevirtual 342, 3) := dk_182 1 86 (dk_at dksX6_plainAt_0 11 rfl rfl)
theorem dX6_plainAt_14 : decode cX6_plainAt 14 = .ok (.istore 4, 2) := dk_54 4 (dk_at dksX6_plainAt_0 14 rfl rfl)
theorem dX6_plainAt_16 : decode cX6_plainAt 16 = .ok (.aload_n 0, 1) := dk_42 (dk_at dksX6_plainAt_0 16 rfl rfl)
theorem dX6_plainAt_17 : decode cX6_plainAt 17 = .ok (.iload_n 1, 1) := dk_27 (dk_at dksX6_plainAt_0 17 rfl rfl)
theorem dX6_plainAt_18 : decode cX6_plainAt 18 = .ok (.iconst 0, 1) := dk_3 (dk_at dksX6_plainAt_0 18 rfl rfl)
theorem dX6_plainAt_19 : decode cX6_plainAt 19 = .ok (.invokevirtual 342, 3) := dk_182 1 86 (dk_at dksX6_plainAt_0 19 rfl rfl)
theorem dX6_plainAt_22 : decode cX6_plainAt 22 = .ok (.tableswitch 91 0 2 #[26, 34, 73], 26) := by decide +kernel
theorem dX6_plainAt_48 : decode cX6_plainAt 48 = .ok (.fload_n 3, 1) := dk_37 (dk_at dksX6_plainAt_2 0 rfl rfl)
theorem dX6_plainAt_49 : decode cX6_plainAt 49 = .ok (.aload_n 0, 1) := dk_42 (dk_at dksX6_plainAt_2 1 rfl rfl)
theorem dX6_plainAt_50 : decode cX6_plainAt 50 = .ok (.iload_n 2, 1) := dk_28 (dk_at dksX6_plainAt_2 2 rfl rfl)
theorem dX6_plainAt_51 : decode cX6_plainAt 51 = .ok (.invokevirtual 366, 3) := dk_182 1 110 (dk_at dksX6_plainAt_2 3 rfl rfl)
theorem dX6_plainAt_54 : decode cX6_plainAt 54 = .ok (.fmul, 1) := dk_106 (dk_at dksX6_plainAt_2 6 rfl rfl)
theorem dX6_plainAt_55 : decode cX6_plainAt 55 = .ok (.freturn, 1) := dk_174 (dk_at dksX6_plainAt_2 7 rfl rfl)
theorem dX6_plainAt_56 : decode cX6_plainAt 56 = .ok (.iload_n 2, 1) := dk_28 (dk_at dksX6_plainAt_2 8 rfl rfl)
theorem dX6_plainAt_57 : decode cX6_plainAt 57 = .ok (.iload 4, 2) := dk_21 4 (dk_at dksX6_plainAt_2 9 rfl rfl)
theorem dX6_plainAt_59 : decode cX6_plainAt 59 = .ok (.if_icmp .lt 16, 3) := dk_161 0 16 (dk_at dksX6_plainAt_2 11 rfl rfl)
theorem dX6_plainAt_62 : decode cX6_plainAt 62 = .ok (.fload_n 3, 1) := dk_37 (dk_at dksX6_plainAt_2 14 rfl rfl)
theorem dX6_plainAt_63 : decode cX6_plainAt 63 = .ok (.aload_n 0, 1) := dk_42 (dk_at dksX6_plainAt_2 15 rfl rfl)
theorem dX6_plainAt_64 : decode cX6_plainAt 64 = .ok (.iload_n 2, 1) := dk_28 (dk_at dksX6_plainAt_2 16 rfl rfl)
theorem dX6_plainAt_65 : decode cX6_plainAt 65 = .ok (.iload 4, 2) := dk_21 4 (dk_at dksX6_plainAt_2 17 rfl rfl)
theorem dX6_plainAt_67 : decode cX6_plainAt 67 = .ok (.isub, 1) := dk_100 (dk_at dksX6_plainAt_2 19 rfl rfl)
theorem dX6_plainAt_68 : decode cX6_plainAt 68 = .ok (.invokevirtual 366, 3) := dk_182 1 110 (dk_at dksX6_plainAt_2 20 rfl rfl)
theorem dX6_plainAt_71 : decode cX6_plainAt 71 = .ok (.fmul, 1) := dk_106 (dk_at dksX6_plainAt_2 23 rfl rfl)
theorem dX6_plainAt_72 : decode cX6_plainAt 72 = .ok (.goto 22, 3) := dk_167 0 22 (dk_at dksX6_plainAt_3 0 rfl rfl)
theorem dX6_plainAt_75 : decode cX6_plainAt 75 = .ok (.fconst 0, 1) := dk_11 (dk_at dksX6_plainAt_3 3 rfl rfl)
theorem dX6_plainAt_76 : decode cX6_plainAt 76 = .ok (.fload_n 3, 1) := dk_37 (dk_at dksX6_plainAt_3 4 rfl rfl)
theorem dX6_plainAt_77 : decode cX6_plainAt 77 = .ok (.aload_n 0, 1) := dk_42 (dk_at dksX6_plainAt_3 5 rfl rfl)
theorem dX6_plainAt_78 : decode cX6_plainAt 78 = .ok (.iload_n 2, 1) := dk_28 (dk_at dksX6_plainAt_3 6 rfl rfl)
theorem dX6_plainAt_79 : decode cX6_plainAt 79 = .ok (.iload 4, 2) := dk_21 4 (dk_at dksX6_plainAt_3 7 rfl rfl)
theorem dX6_plainAt_81 : decode cX6_plainAt 81 = .ok (.isub, 1) := dk_100 (dk_at dksX6_plainAt_3 9 rfl rfl)
theorem dX6_plainAt_82 : decode cX6_plainAt 82 = .ok (.aload_n 0, 1) := dk_42 (dk_at dksX6_plainAt_3 10 rfl rfl)
theorem dX6_plainAt_83 : decode cX6_plainAt 83 = .ok (.getfield 17, 3) := dk_180 0 17 (dk_at dksX6_plainAt_3 11 rfl rfl)
theorem dX6_plainAt_86 : decode cX6_plainAt 86 = .ok (.iconst 0, 1) := dk_3 (dk_at dksX6_plainAt_3 14 rfl rfl)
theorem dX6_plainAt_87 : decode cX6_plainAt 87 = .ok (.iaload, 1) := dk_46 (dk_at dksX6_plainAt_3 15 rfl rfl)
theorem dX6_plainAt_88 : decode cX6_plainAt 88 = .ok (.iadd, 1) := dk_96 (dk_at dksX6_plainAt_3 16 rfl rfl)
theorem dX6_plainAt_89 : decode cX6_plainAt 89 = .ok (.invokevirtual 366, 3) := dk_182 1 110 (dk_at dksX6_plainAt_3 17 rfl rfl)
theorem dX6_plainAt_92 : decode cX6_plainAt 92 = .ok (.fmul, 1) := dk_106 (dk_at dksX6_plainAt_3 20 rfl rfl)
theorem dX6_plainAt_93 : decode cX6_plainAt 93 = .ok (.fsub, 1) := dk_102 (dk_at dksX6_plainAt_3 21 rfl rfl)
theorem dX6_plainAt_94 : decode cX6_plainAt 94 = .ok (.freturn, 1) := dk_174 (dk_at dksX6_plainAt_3 22 rfl rfl)
theorem dX6_plainAt_95 : decode cX6_plainAt 95 = .ok (.iload_n 2, 1) := dk_28 (dk_at dksX6_plainAt_3 23 rfl rfl)
theorem dX6_plainAt_96 : decode cX6_plainAt 96 = .ok (.iload 4, 2) := dk_21 4 (dk_at dksX6_plainAt_4 0 rfl rfl)
theorem dX6_plainAt_98 : decode cX6_plainAt 98 = .ok (.if_icmp .ge 7, 3) := dk_162 0 7 (dk_at dksX6_plainAt_4 2 rfl rfl)
theorem dX6_plainAt_101 : decode cX6_plainAt 101 = .ok (.fconst 0, 1) := dk_11 (dk_at dksX6_plainAt_4 5 rfl rfl)
theorem dX6_plainAt_102 : decode cX6_plainAt 102 = .ok (.goto 10, 3) := dk_167 0 10 (dk_at dksX6_plainAt_4 6 rfl rfl)
theorem dX6_plainAt_105 : decode cX6_plainAt 105 = .ok (.fload_n 3, 1) := dk_37 (dk_at dksX6_plainAt_4 9 rfl rfl)
theorem dX6_plainAt_106 : decode cX6_plainAt 106 = .ok (.aload_n 0, 1) := dk_42 (dk_at dksX6_plainAt_4 10 rfl rfl)
theorem dX6_plainAt_107 : decode cX6_plainAt 107 = .ok (.iload_n 2, 1) := dk_28 (dk_at dksX6_plainAt_4 11 rfl rfl)
theorem dX6_plainAt_108 : decode cX6_plainAt 108 = .ok (.invokevirtual 366, 3) := dk_182 1 110 (dk_at dksX6_plainAt_4 12 rfl rfl)
theorem dX6_plainAt_111 : decode cX6_plainAt 111 = .ok (.fmul, 1) := dk_106 (dk_at dksX6_plainAt_4 15 rfl rfl)
theorem dX6_plainAt_112 : decode cX6_plainAt 112 = .ok (.freturn, 1) := dk_174 (dk_at dksX6_plainAt_4 16 rfl rfl)
theorem dX6_plainAt_113 : decode cX6_plainAt 113 = .ok (.aload_n 0, 1) := dk_42 (dk_at dksX6_plainAt_4 17 rfl rfl)
theorem dX6_plainAt_114 : decode cX6_plainAt 114 = .ok (.iload_n 1, 1) := dk_27 (dk_at dksX6_plainAt_4 18 rfl rfl)
theorem dX6_plainAt_115 : decode cX6_plainAt 115 = .ok (.iload_n 2, 1) := dk_28 (dk_at dksX6_plainAt_4 19 rfl rfl)
theorem dX6_plainAt_116 : decode cX6_plainAt 116 = .ok (.iload 4, 2) := dk_21 4 (dk_at dksX6_plainAt_4 20 rfl rfl)
theorem dX6_plainAt_118 : decode cX6_plainAt 118 = .ok (.fconst 1, 1) := dk_12 (dk_at dksX6_plainAt_4 22 rfl rfl)
theorem dX6_plainAt_119 : decode cX6_plainAt 119 = .ok (.invokevirtual 370, 3) := dk_182 1 114 (dk_at dksX6_plainAt_5 0 rfl rfl)
theorem dX6_plainAt_122 : decode cX6_plainAt 122 = .ok (.freturn, 1) := dk_174 (dk_at dksX6_plainAt_5 3 rfl rfl)
def dkwX6_shape_1 : List UInt8 := [102, 106, 174]
abbrev dktX6_shape_1 : List UInt8 := dkwX6_shape_1 ++ []
def dkwX6_shape_0 : List UInt8 := [5, 27, 104, 4, 96, 134, 5, 42, 180, 0, 17, 3, 46, 104, 134, 110, 69, 19, 1, 109, 36, 106, 12, 36]
abbrev dktX6_shape_0 : List UInt8 := dkwX6_shape_0 ++ dktX6_shape_1
theorem dksX6_shape_0 : cX6_shape.data.toList.drop 0 = dktX6_shape_0 := by decide +kernel
theorem dksX6_shape_1 : cX6_shape.data.toList.drop 24 = dktX6_shape_1 := dk_seg dksX6_shape_0 24 rfl rfl
theorem dX6_shape_0 : decode cX6_shape 0 = .ok (.iconst 2, 1) := dk_5 (dk_at dksX6_shape_0 0 rfl rfl)
theorem dX6_shape_1 : decode cX6_shape 1 = .ok (.iload_n 1, 1) := dk_27 (dk_at dksX6_shape_0 1 rfl rfl)
theorem dX6_shape_2 : decode cX6_shape 2 = .ok (.imul, 1) := dk_104 (dk_at dksX6_shape_0 2 rfl rfl)
theorem dX6_shape_3 : decode cX6_shape 3 = .ok (.iconst 1, 1) := dk_4 (dk_at dksX6_shape_0 3 rfl rfl)
theorem dX6_shape_4 : decode cX6_shape 4 = .ok (.iadd, 1) := dk_96 (dk_at dksX6_shape_0 4 rfl rfl)
theorem dX6_shape_5 : decode cX6_shape 5 = .ok (.i2f, 1) := dk_134 (dk_at dksX6_shape_0 5 rfl rfl)
theorem dX6_shape_6 : decode cX6_shape 6 = .ok (.iconst 2, 1) := dk_5 (dk_at dksX6_shape_0 6 rfl rfl)
theorem dX6_shape_7 : decode cX6_shape 7 = .ok (.aload_n 0, 1) := dk_42 (dk_at dksX6_shape_0 7 rfl rfl)
theorem dX6_shape_8 : decode cX6_shape 8 = .ok (.getfield 17, 3) := dk_180 0 17 (dk_at dksX6_shape_0 8 rfl rfl)
theorem dX6_shape_11 : decode cX6_shape 11 = .ok (.iconst 0, 1) := dk_3 (dk_at dksX6_shape_0 11 rfl rfl)
theorem dX6_shape_12 : decode cX6_shape 12 = .ok (.iaload, 1) := dk_46 (dk_at dksX6_shape_0 12 rfl rfl)
theorem dX6_shape_13 : decode cX6_shape 13 = .ok (.imul, 1) := dk_104 (dk_at dksX6_shape_0 13 rfl rfl)
theorem dX6_shape_14 : decode cX6_shape 14 = .ok (.i2f, 1) := dk_134 (dk_at dksX6_shape_0 14 rfl rfl)
theorem dX6_shape_15 : decode cX6_shape 15 = .ok (.fdiv, 1) := dk_110 (dk_at dksX6_shape_0 15 rfl rfl)
theorem dX6_shape_16 : decode cX6_shape 16 = .ok (.fstore_n 2, 1) := dk_69 (dk_at dksX6_shape_0 16 rfl rfl)
theorem dX6_shape_17 : decode cX6_shape 17 = .ok (.ldc_w 365, 3) := dk_19 1 109 (dk_at dksX6_shape_0 17 rfl rfl)
theorem dX6_shape_20 : decode cX6_shape 20 = .ok (.fload_n 2, 1) := dk_36 (dk_at dksX6_shape_0 20 rfl rfl)
theorem dX6_shape_21 : decode cX6_shape 21 = .ok (.fmul, 1) := dk_106 (dk_at dksX6_shape_0 21 rfl rfl)
theorem dX6_shape_22 : decode cX6_shape 22 = .ok (.fconst 1, 1) := dk_12 (dk_at dksX6_shape_0 22 rfl rfl)
theorem dX6_shape_23 : decode cX6_shape 23 = .ok (.fload_n 2, 1) := dk_36 (dk_at dksX6_shape_0 23 rfl rfl)
theorem dX6_shape_24 : decode cX6_shape 24 = .ok (.fsub, 1) := dk_102 (dk_at dksX6_shape_1 0 rfl rfl)
theorem dX6_shape_25 : decode cX6_shape 25 = .ok (.fmul, 1) := dk_106 (dk_at dksX6_shape_1 1 rfl rfl)
theorem dX6_shape_26 : decode cX6_shape 26 = .ok (.freturn, 1) := dk_174 (dk_at dksX6_shape_1 2 rfl rfl)
def dkwX6_arcAt_1 : List UInt8 := [106, 174]
abbrev dktX6_arcAt_1 : List UInt8 := dkwX6_arcAt_1 ++ []
def dkwX6_arcAt_0 : List UInt8 := [28, 29, 162, 0, 7, 11, 167, 0, 19, 42, 27, 5, 182, 1, 86, 134, 42, 28, 182, 1, 110, 106, 23, 4]
abbrev dktX6_arcAt_0 : List UInt8 := dkwX6_arcAt_0 ++ dktX6_arcAt_1
theorem dksX6_arcAt_0 : cX6_arcAt.data.toList.drop 0 = dktX6_arcAt_0 := by decide +kernel
theorem dksX6_arcAt_1 : cX6_arcAt.data.toList.drop 24 = dktX6_arcAt_1 := dk_seg dksX6_arcAt_0 24 rfl rfl
theorem dX6_arcAt_0 : decode cX6_arcAt 0 = .ok (.iload_n 2, 1) := dk_28 (dk_at dksX6_arcAt_0 0 rfl rfl)
theorem dX6_arcAt_1 : decode cX6_arcAt 1 = .ok (.iload_n 3, 1) := dk_29 (dk_at dksX6_arcAt_0 1 rfl rfl)
theorem dX6_arcAt_2 : decode cX6_arcAt 2 = .ok (.if_icmp .ge 7, 3) := dk_162 0 7 (dk_at dksX6_arcAt_0 2 rfl rfl)
theorem dX6_arcAt_5 : decode cX6_arcAt 5 = .ok (.fconst 0, 1) := dk_11 (dk_at dksX6_arcAt_0 5 rfl rfl)
theorem dX6_arcAt_6 : decode cX6_arcAt 6 = .ok (.goto 19, 3) := dk_167 0 19 (dk_at dksX6_arcAt_0 6 rfl rfl)
theorem dX6_arcAt_9 : decode cX6_arcAt 9 = .ok (.aload_n 0, 1) := dk_42 (dk_at dksX6_arcAt_0 9 rfl rfl)
theorem dX6_arcAt_10 : decode cX6_arcAt 10 = .ok (.iload_n 1, 1) := dk_27 (dk_at dksX6_arcAt_0 10 rfl rfl)
theorem dX6_arcAt_11 : decode cX6_arcAt 11 = .ok (.iconst 2, 1) := dk_5 (dk_at dksX6_arcAt_0 11 rfl rfl)
theorem dX6_arcAt_12 : decode cX6_arcAt 12 = .ok (.invokevirtual 342, 3) := dk_182 1 86 (dk_at dksX6_arcAt_0 12 rfl rfl)
theorem dX6_arcAt_15 : decode cX6_arcAt 15 = .ok (.i2f, 1) := dk_134 (dk_at dksX6_arcAt_0 15 rfl rfl)
theorem dX6_arcAt_16 : decode cX6_arcAt 16 = .ok (.aload_n 0, 1) := dk_42 (dk_at dksX6_arcAt_0 16 rfl rfl)
theorem dX6_arcAt_17 : decode cX6_arcAt 17 = .ok (.iload_n 2, 1) := dk_28 (dk_at dksX6_arcAt_0 17 rfl rfl)
theorem dX6_arcAt_18 : decode cX6_arcAt 18 = .ok (.invokevirtual 366, 3) := dk_182 1 110 (dk_at dksX6_arcAt_0 18 rfl rfl)
theorem dX6_arcAt_21 : decode cX6_arcAt 21 = .ok (.fmul, 1) := dk_106 (dk_at dksX6_arcAt_0 21 rfl rfl)
theorem dX6_arcAt_22 : decode cX6_arcAt 22 = .ok (.fload 4, 2) := dk_23 4 (dk_at dksX6_arcAt_0 22 rfl rfl)
theorem dX6_arcAt_24 : decode cX6_arcAt 24 = .ok (.fmul, 1) := dk_106 (dk_at dksX6_arcAt_1 0 rfl rfl)
theorem dX6_arcAt_25 : decode cX6_arcAt 25 = .ok (.freturn, 1) := dk_174 (dk_at dksX6_arcAt_1 1 rfl rfl)
def dkwX6_layFeatures_12 : List UInt8 := [184, 1, 125, 81, 42, 180, 0, 27, 28, 16, 32, 96, 8, 96, 23, 7, 29, 134, 110, 81, 177]
abbrev dktX6_layFeatures_12 : List UInt8 := dkwX6_layFeatures_12 ++ []
def dkwX6_layFeatures_11 : List UInt8 := [28, 16, 32, 96, 7, 96, 42, 27, 8, 182, 0, 70, 154, 0, 7, 11, 167, 0, 11, 23, 11, 23, 4, 102]
abbrev dktX6_layFeatures_11 : List UInt8 := dkwX6_layFeatures_11 ++ dktX6_layFeatures_12
def dkwX6_layFeatures_10 : List UInt8 := [96, 5, 96, 21, 10, 134, 81, 42, 180, 0, 27, 28, 16, 32, 96, 6, 96, 23, 8, 81, 42, 180, 0, 27]
abbrev dktX6_layFeatures_10 : List UInt8 := dkwX6_layFeatures_10 ++ dktX6_layFeatures_11
def dkwX6_layFeatures_9 : List UInt8 := [96, 23, 5, 81, 42, 180, 0, 27, 28, 16, 32, 96, 4, 96, 23, 11, 81, 42, 180, 0, 27, 28, 16, 32]
abbrev dktX6_layFeatures_9 : List UInt8 := dkwX6_layFeatures_9 ++ dktX6_layFeatures_10
def dkwX6_layFeatures_8 : List UInt8 := [54, 10, 132, 11, 1, 167, 255, 215, 23, 6, 29, 134, 110, 56, 11, 42, 180, 0, 27, 28, 16, 32, 96, 3]
abbrev dktX6_layFeatures_8 : List UInt8 := dkwX6_layFeatures_8 ++ dktX6_layFeatures_9
def dkwX6_layFeatures_7 : List UInt8 := [28, 21, 11, 96, 48, 184, 1, 125, 23, 5, 19, 1, 128, 106, 150, 157, 0, 7, 4, 167, 0, 4, 3, 96]
abbrev dktX6_layFeatures_7 : List UInt8 := dkwX6_layFeatures_7 ++ dktX6_layFeatures_8
def dkwX6_layFeatures_6 : List UInt8 := [132, 10, 1, 167, 255, 160, 3, 54, 10, 3, 54, 11, 21, 11, 29, 162, 0, 41, 21, 10, 42, 180, 0, 27]
abbrev dktX6_layFeatures_6 : List UInt8 := dkwX6_layFeatures_6 ++ dktX6_layFeatures_7
def dkwX6_layFeatures_5 : List UInt8 := [23, 11, 184, 1, 125, 98, 56, 6, 23, 7, 23, 11, 23, 11, 106, 98, 56, 7, 23, 11, 56, 9]
abbrev dktX6_layFeatures_5 : List UInt8 := dkwX6_layFeatures_5 ++ dktX6_layFeatures_6
def dkwX6_layFeatures_4 : List UInt8 := [23, 8, 149, 158, 0, 14, 23, 11, 23, 9, 102, 184, 1, 125, 167, 0, 5, 23, 8, 56, 8, 23, 6]
abbrev dktX6_layFeatures_4 : List UInt8 := dkwX6_layFeatures_4 ++ dktX6_layFeatures_5
def dkwX6_layFeatures_3 : List UInt8 := [158, 0, 11, 23, 11, 184, 1, 125, 167, 0, 5, 23, 5, 56, 5, 23, 11, 23, 9, 102, 184, 1, 125]
abbrev dktX6_layFeatures_3 : List UInt8 := dkwX6_layFeatures_3 ++ dktX6_layFeatures_4
def dkwX6_layFeatures_2 : List UInt8 := [162, 0, 96, 42, 180, 0, 27, 28, 21, 10, 96, 48, 56, 11, 23, 11, 184, 1, 125, 23, 5, 149]
abbrev dktX6_layFeatures_2 : List UInt8 := dkwX6_layFeatures_2 ++ dktX6_layFeatures_3
def dkwX6_layFeatures_1 : List UInt8 := [56, 4, 11, 56, 5, 11, 56, 6, 11, 56, 7, 11, 56, 8, 11, 56, 9, 3, 54, 10, 21, 10, 29]
abbrev dktX6_layFeatures_1 : List UInt8 := dkwX6_layFeatures_1 ++ dktX6_layFeatures_2
def dkwX6_layFeatures_0 : List UInt8 := [16, 38, 27, 104, 61, 42, 180, 0, 17, 3, 46, 62, 42, 180, 0, 27, 28, 16, 32, 96, 4, 96, 48]
abbrev dktX6_layFeatures_0 : List UInt8 := dkwX6_layFeatures_0 ++ dktX6_layFeatures_1
theorem dksX6_layFeatures_0 : cX6_layFeatures.data.toList.drop 0 = dktX6_layFeatures_0 := by decide +kernel
theorem dksX6_layFeatures_1 : cX6_layFeatures.data.toList.drop 23 = dktX6_layFeatures_1 := dk_seg dksX6_layFeatures_0 23 rfl rfl
theorem dksX6_layFeatures_2 : cX6_layFeatures.data.toList.drop 46 = dktX6_layFeatures_2 := dk_seg dksX6_layFeatures_1 23 rfl rfl
theorem dksX6_layFeatures_3 : cX6_layFeatures.data.toList.drop 68 = dktX6_layFeatures_3 := dk_seg dksX6_layFeatures_2 22 rfl rfl
theorem dksX6_layFeatures_4 : cX6_layFeatures.data.toList.drop 91 = dktX6_layFeatures_4 := dk_seg dksX6_layFeatures_3 23 rfl rfl
theorem dksX6_layFeatures_5 : cX6_layFeatures.data.toList.drop 114 = dktX6_layFeatures_5 := dk_seg dksX6_layFeatures_4 23 rfl rfl
theorem dksX6_layFeatures_6 : cX6_layFeatures.data.toList.drop 136 = dktX6_layFeatures_6 := dk_seg dksX6_layFeatures_5 22 rfl rfl
theorem dksX6_layFeatures_7 : cX6_layFeatures.data.toList.drop 160 = dktX6_layFeatures_7 := dk_seg dksX6_layFeatures_6 24 rfl rfl
theorem dksX6_layFeatures_8 : cX6_layFeatures.data.toList.drop 184 = dktX6_layFeatures_8 := dk_seg dksX6_layFeatures_7 24 rfl rfl
theorem dksX6_layFeatures_9 : cX6_layFeatures.data.toList.drop 208 = dktX6_layFeatures_9 := dk_seg dksX6_layFeatures_8 24 rfl rfl
theorem dksX6_layFeatures_10 : cX6_layFeatures.data.toList.drop 232 = dktX6_layFeatures_10 := dk_seg dksX6_layFeatures_9 24 rfl rfl
theorem dksX6_layFeatures_11 : cX6_layFeatures.data.toList.drop 256 = dktX6_layFeatures_11 := dk_seg dksX6_layFeatures_10 24 rfl rfl
theorem dksX6_layFeatures_12 : cX6_layFeatures.data.toList.drop 280 = dktX6_layFeatures_12 := dk_seg dksX6_layFeatures_11 24 rfl rfl
theorem dX6_layFeatures_0 : decode cX6_layFeatures 0 = .ok (.bipush 38, 2) := dk_16 38 (dk_at dksX6_layFeatures_0 0 rfl rfl)
theorem dX6_layFeatures_2 : decode cX6_layFeatures 2 = .ok (.iload_n 1, 1) := dk_27 (dk_at dksX6_layFeatures_0 2 rfl rfl)
theorem dX6_layFeatures_3 : decode cX6_layFeatures 3 = .ok (.imul, 1) := dk_104 (dk_at dksX6_layFeatures_0 3 rfl rfl)
theorem dX6_layFeatures_4 : decode cX6_layFeatures 4 = .ok (.istore_n 2, 1) := dk_61 (dk_at dksX6_layFeatures_0 4 rfl rfl)
theorem dX6_layFeatures_5 : decode cX6_layFeatures 5 = .ok (.aload_n 0, 1) := dk_42 (dk_at dksX6_layFeatures_0 5 rfl rfl)
theorem dX6_layFeatures_6 : decode cX6_layFeatures 6 = .ok (.getfield 17, 3) := dk_180 0 17 (dk_at dksX6_layFeatures_0 6 rfl rfl)
theorem dX6_layFeatures_9 : decode cX6_layFeatures 9 = .ok (.iconst 0, 1) := dk_3 (dk_at dksX6_layFeatures_0 9 rfl rfl)
theorem dX6_layFeatures_10 : decode cX6_layFeatures 10 = .ok (.iaload, 1) := dk_46 (dk_at dksX6_layFeatures_0 10 rfl rfl)
theorem dX6_layFeatures_11 : decode cX6_layFeatures 11 = .ok (.istore_n 3, 1) := dk_62 (dk_at dksX6_layFeatures_0 11 rfl rfl)
theorem dX6_layFeatures_12 : decode cX6_layFeatures 12 = .ok (.aload_n 0, 1) := dk_42 (dk_at dksX6_layFeatures_0 12 rfl rfl)
theorem dX6_layFeatures_13 : decode cX6_layFeatures 13 = .ok (.getfield 27, 3) := dk_180 0 27 (dk_at dksX6_layFeatures_0 13 rfl rfl)
theorem dX6_layFeatures_16 : decode cX6_layFeatures 16 = .ok (.iload_n 2, 1) := dk_28 (dk_at dksX6_layFeatures_0 16 rfl rfl)
theorem dX6_layFeatures_17 : decode cX6_layFeatures 17 = .ok (.bipush 32, 2) := dk_16 32 (dk_at dksX6_layFeatures_0 17 rfl rfl)
theorem dX6_layFeatures_19 : decode cX6_layFeatures 19 = .ok (.iadd, 1) := dk_96 (dk_at dksX6_layFeatures_0 19 rfl rfl)
theorem dX6_layFeatures_20 : decode cX6_layFeatures 20 = .ok (.iconst 1, 1) := dk_4 (dk_at dksX6_layFeatures_0 20 rfl rfl)
theorem dX6_layFeatures_21 : decode cX6_layFeatures 21 = .ok (.iadd, 1) := dk_96 (dk_at dksX6_layFeatures_0 21 rfl rfl)
theorem dX6_layFeatures_22 : decode cX6_layFeatures 22 = .ok (.faload, 1) := dk_48 (dk_at dksX6_layFeatures_0 22 rfl rfl)
theorem dX6_layFeatures_23 : decode cX6_layFeatures 23 = .ok (.fstore 4, 2) := dk_56 4 (dk_at dksX6_layFeatures_1 0 rfl rfl)
theorem dX6_layFeatures_25 : decode cX6_layFeatures 25 = .ok (.fconst 0, 1) := dk_11 (dk_at dksX6_layFeatures_1 2 rfl rfl)
theorem dX6_layFeatures_26 : decode cX6_layFeatures 26 = .ok (.fstore 5, 2) := dk_56 5 (dk_at dksX6_layFeatures_1 3 rfl rfl)
theorem dX6_layFeatures_28 : decode cX6_layFeatures 28 = .ok (.fconst 0, 1) := dk_11 (dk_at dksX6_layFeatures_1 5 rfl rfl)
theorem dX6_layFeatures_29 : decode cX6_layFeatures 29 = .ok (.fstore 6, 2) := dk_56 6 (dk_at dksX6_layFeatures_1 6 rfl rfl)
theorem dX6_layFeatures_31 : decode cX6_layFeatures 31 = .ok (.fconst 0, 1) := dk_11 (dk_at dksX6_layFeatures_1 8 rfl rfl)
theorem dX6_layFeatures_32 : decode cX6_layFeatures 32 = .ok (.fstore 7, 2) := dk_56 7 (dk_at dksX6_layFeatures_1 9 rfl rfl)
theorem dX6_layFeatures_34 : decode cX6_layFeatures 34 = .ok (.fconst 0, 1) := dk_11 (dk_at dksX6_layFeatures_1 11 rfl rfl)
theorem dX6_layFeatures_35 : decode cX6_layFeatures 35 = .ok (.fstore 8, 2) := dk_56 8 (dk_at dksX6_layFeatures_1 12 rfl rfl)
theorem dX6_layFeatures_37 : decode cX6_layFeatures 37 = .ok (.fconst 0, 1) := dk_11 (dk_at dksX6_layFeatures_1 14 rfl rfl)
theorem dX6_layFeatures_38 : decode cX6_layFeatures 38 = .ok (.fstore 9, 2) := dk_56 9 (dk_at dksX6_layFeatures_1 15 rfl rfl)
theorem dX6_layFeatures_40 : decode cX6_layFeatures 40 = .ok (.iconst 0, 1) := dk_3 (dk_at dksX6_layFeatures_1 17 rfl rfl)
theorem dX6_layFeatures_41 : decode cX6_layFeatures 41 = .ok (.istore 10, 2) := dk_54 10 (dk_at dksX6_layFeatures_1 18 rfl rfl)
theorem dX6_layFeatures_43 : decode cX6_layFeatures 43 = .ok (.iload 10, 2) := dk_21 10 (dk_at dksX6_layFeatures_1 20 rfl rfl)
theorem dX6_layFeatures_45 : decode cX6_layFeatures 45 = .ok (.iload_n 3, 1) := dk_29 (dk_at dksX6_layFeatures_1 22 rfl rfl)
theorem dX6_layFeatures_46 : decode cX6_layFeatures 46 = .ok (.if_icmp .ge 96, 3) := dk_162 0 96 (dk_at dksX6_layFeatures_2 0 rfl rfl)
theorem dX6_layFeatures_49 : decode cX6_layFeatures 49 = .ok (.aload_n 0, 1) := dk_42 (dk_at dksX6_layFeatures_2 3 rfl rfl)
theorem dX6_layFeatures_50 : decode cX6_layFeatures 50 = .ok (.getfield 27, 3) := dk_180 0 27 (dk_at dksX6_layFeatures_2 4 rfl rfl)
theorem dX6_layFeatures_53 : decode cX6_layFeatures 53 = .ok (.iload_n 2, 1) := dk_28 (dk_at dksX6_layFeatures_2 7 rfl rfl)
theorem dX6_layFeatures_54 : decode cX6_layFeatures 54 = .ok (.iload 10, 2) := dk_21 10 (dk_at dksX6_layFeatures_2 8 rfl rfl)
theorem dX6_layFeatures_56 : decode cX6_layFeatures 56 = .ok (.iadd, 1) := dk_96 (dk_at dksX6_layFeatures_2 10 rfl rfl)
theorem dX6_layFeatures_57 : decode cX6_layFeatures 57 = .ok (.faload, 1) := dk_48 (dk_at dksX6_layFeatures_2 11 rfl rfl)
theorem dX6_layFeatures_58 : decode cX6_layFeatures 58 = .ok (.fstore 11, 2) := dk_56 11 (dk_at dksX6_layFeatures_2 12 rfl rfl)
theorem dX6_layFeatures_60 : decode cX6_layFeatures 60 = .ok (.fload 11, 2) := dk_23 11 (dk_at dksX6_layFeatures_2 14 rfl rfl)
theorem dX6_layFeatures_62 : decode cX6_layFeatures 62 = .ok (.invokestatic 381, 3) := dk_184 1 125 (dk_at dksX6_layFeatures_2 16 rfl rfl)
theorem dX6_layFeatures_65 : decode cX6_layFeatures 65 = .ok (.fload 5, 2) := dk_23 5 (dk_at dksX6_layFeatures_2 19 rfl rfl)
theorem dX6_layFeatures_67 : decode cX6_layFeatures 67 = .ok (.fcmp .l, 1) := dk_149 (dk_at dksX6_layFeatures_2 21 rfl rfl)
theorem dX6_layFeatures_68 : decode cX6_layFeatures 68 = .ok (.ifCond .le 11, 3) := dk_158 0 11 (dk_at dksX6_layFeatures_3 0 rfl rfl)
theorem dX6_layFeatures_71 : decode cX6_layFeatures 71 = .ok (.fload 11, 2) := dk_23 11 (dk_at dksX6_layFeatures_3 3 rfl rfl)
theorem dX6_layFeatures_73 : decode cX6_layFeatures 73 = .ok (.invokestatic 381, 3) := dk_184 1 125 (dk_at dksX6_layFeatures_3 5 rfl rfl)
theorem dX6_layFeatures_76 : decode cX6_layFeatures 76 = .ok (.goto 5, 3) := dk_167 0 5 (dk_at dksX6_layFeatures_3 8 rfl rfl)
theorem dX6_layFeatures_79 : decode cX6_layFeatures 79 = .ok (.fload 5, 2) := dk_23 5 (dk_at dksX6_layFeatures_3 11 rfl rfl)
theorem dX6_layFeatures_81 : decode cX6_layFeatures 81 = .ok (.fstore 5, 2) := dk_56 5 (dk_at dksX6_layFeatures_3 13 rfl rfl)
theorem dX6_layFeatures_83 : decode cX6_layFeatures 83 = .ok (.fload 11, 2) := dk_23 11 (dk_at dksX6_layFeatures_3 15 rfl rfl)
theorem dX6_layFeatures_85 : decode cX6_layFeatures 85 = .ok (.fload 9, 2) := dk_23 9 (dk_at dksX6_layFeatures_3 17 rfl rfl)
theorem dX6_layFeatures_87 : decode cX6_layFeatures 87 = .ok (.fsub, 1) := dk_102 (dk_at dksX6_layFeatures_3 19 rfl rfl)
theorem dX6_layFeatures_88 : decode cX6_layFeatures 88 = .ok (.invokestatic 381, 3) := dk_184 1 125 (dk_at dksX6_layFeatures_3 20 rfl rfl)
theorem dX6_layFeatures_91 : decode cX6_layFeatures 91 = .ok (.fload 8, 2) := dk_23 8 (dk_at dksX6_layFeatures_4 0 rfl rfl)
theorem dX6_layFeatures_93 : decode cX6_layFeatures 93 = .ok (.fcmp .l, 1) := dk_149 (dk_at dksX6_layFeatures_4 2 rfl rfl)
theorem dX6_layFeatures_94 : decode cX6_layFeatures 94 = .ok (.ifCond .le 14, 3) := dk_158 0 14 (dk_at dksX6_layFeatures_4 3 rfl rfl)
theorem dX6_layFeatures_97 : decode cX6_layFeatures 97 = .ok (.fload 11, 2) := dk_23 11 (dk_at dksX6_layFeatures_4 6 rfl rfl)
theorem dX6_layFeatures_99 : decode cX6_layFeatures 99 = .ok (.fload 9, 2) := dk_23 9 (dk_at dksX6_layFeatures_4 8 rfl rfl)
theorem dX6_layFeatures_101 : decode cX6_layFeatures 101 = .ok (.fsub, 1) := dk_102 (dk_at dksX6_layFeatures_4 10 rfl rfl)
theorem dX6_layFeatures_102 : decode cX6_layFeatures 102 = .ok (.invokestatic 381, 3) := dk_184 1 125 (dk_at dksX6_layFeatures_4 11 rfl rfl)
theorem dX6_layFeatures_105 : decode cX6_layFeatures 105 = .ok (.goto 5, 3) := dk_167 0 5 (dk_at dksX6_layFeatures_4 14 rfl rfl)
theorem dX6_layFeatures_108 : decode cX6_layFeatures 108 = .ok (.fload 8, 2) := dk_23 8 (dk_at dksX6_layFeatures_4 17 rfl rfl)
theorem dX6_layFeatures_110 : decode cX6_layFeatures 110 = .ok (.fstore 8, 2) := dk_56 8 (dk_at dksX6_layFeatures_4 19 rfl rfl)
theorem dX6_layFeatures_112 : decode cX6_layFeatures 112 = .ok (.fload 6, 2) := dk_23 6 (dk_at dksX6_layFeatures_4 21 rfl rfl)
theorem dX6_layFeatures_114 : decode cX6_layFeatures 114 = .ok (.fload 11, 2) := dk_23 11 (dk_at dksX6_layFeatures_5 0 rfl rfl)
theorem dX6_layFeatures_116 : decode cX6_layFeatures 116 = .ok (.invokestatic 381, 3) := dk_184 1 125 (dk_at dksX6_layFeatures_5 2 rfl rfl)
theorem dX6_layFeatures_119 : decode cX6_layFeatures 119 = .ok (.fadd, 1) := dk_98 (dk_at dksX6_layFeatures_5 5 rfl rfl)
theorem dX6_layFeatures_120 : decode cX6_layFeatures 120 = .ok (.fstore 6, 2) := dk_56 6 (dk_at dksX6_layFeatures_5 6 rfl rfl)
theorem dX6_layFeatures_122 : decode cX6_layFeatures 122 = .ok (.fload 7, 2) := dk_23 7 (dk_at dksX6_layFeatures_5 8 rfl rfl)
theorem dX6_layFeatures_124 : decode cX6_layFeatures 124 = .ok (.fload 11, 2) := dk_23 11 (dk_at dksX6_layFeatures_5 10 rfl rfl)
theorem dX6_layFeatures_126 : decode cX6_layFeatures 126 = .ok (.fload 11, 2) := dk_23 11 (dk_at dksX6_layFeatures_5 12 rfl rfl)
theorem dX6_layFeatures_128 : decode cX6_layFeatures 128 = .ok (.fmul, 1) := dk_106 (dk_at dksX6_layFeatures_5 14 rfl rfl)
theorem dX6_layFeatures_129 : decode cX6_layFeatures 129 = .ok (.fadd, 1) := dk_98 (dk_at dksX6_layFeatures_5 15 rfl rfl)
theorem dX6_layFeatures_130 : decode cX6_layFeatures 130 = .ok (.fstore 7, 2) := dk_56 7 (dk_at dksX6_layFeatures_5 16 rfl rfl)
theorem dX6_layFeatures_132 : decode cX6_layFeatures 132 = .ok (.fload 11, 2) := dk_23 11 (dk_at dksX6_layFeatures_5 18 rfl rfl)
theorem dX6_layFeatures_134 : decode cX6_layFeatures 134 = .ok (.fstore 9, 2) := dk_56 9 (dk_at dksX6_layFeatures_5 20 rfl rfl)
theorem dX6_layFeatures_136 : decode cX6_layFeatures 136 = .ok (.iinc 10 1, 3) := dk_132 10 1 (dk_at dksX6_layFeatures_6 0 rfl rfl)
theorem dX6_layFeatures_139 : decode cX6_layFeatures 139 = .ok (.goto (-96), 3) := dk_167 255 160 (dk_at dksX6_layFeatures_6 3 rfl rfl)
theorem dX6_layFeatures_142 : decode cX6_layFeatures 142 = .ok (.iconst 0, 1) := dk_3 (dk_at dksX6_layFeatures_6 6 rfl rfl)
theorem dX6_layFeatures_143 : decode cX6_layFeatures 143 = .ok (.istore 10, 2) := dk_54 10 (dk_at dksX6_layFeatures_6 7 rfl rfl)
theorem dX6_layFeatures_145 : decode cX6_layFeatures 145 = .ok (.iconst 0, 1) := dk_3 (dk_at dksX6_layFeatures_6 9 rfl rfl)
theorem dX6_layFeatures_146 : decode cX6_layFeatures 146 = .ok (.istore 11, 2) := dk_54 11 (dk_at dksX6_layFeatures_6 10 rfl rfl)
theorem dX6_layFeatures_148 : decode cX6_layFeatures 148 = .ok (.iload 11, 2) := dk_21 11 (dk_at dksX6_layFeatures_6 12 rfl rfl)
theorem dX6_layFeatures_150 : decode cX6_layFeatures 150 = .ok (.iload_n 3, 1) := dk_29 (dk_at dksX6_layFeatures_6 14 rfl rfl)
theorem dX6_layFeatures_151 : decode cX6_layFeatures 151 = .ok (.if_icmp .ge 41, 3) := dk_162 0 41 (dk_at dksX6_layFeatures_6 15 rfl rfl)
theorem dX6_layFeatures_154 : decode cX6_layFeatures 154 = .ok (.iload 10, 2) := dk_21 10 (dk_at dksX6_layFeatures_6 18 rfl rfl)
theorem dX6_layFeatures_156 : decode cX6_layFeatures 156 = .ok (.aload_n 0, 1) := dk_42 (dk_at dksX6_layFeatures_6 20 rfl rfl)
theorem dX6_layFeatures_157 : decode cX6_layFeatures 157 = .ok (.getfield 27, 3) := dk_180 0 27 (dk_at dksX6_layFeatures_6 21 rfl rfl)
theorem dX6_layFeatures_160 : decode cX6_layFeatures 160 = .ok (.iload_n 2, 1) := dk_28 (dk_at dksX6_layFeatures_7 0 rfl rfl)
theorem dX6_layFeatures_161 : decode cX6_layFeatures 161 = .ok (.iload 11, 2) := dk_21 11 (dk_at dksX6_layFeatures_7 1 rfl rfl)
theorem dX6_layFeatures_163 : decode cX6_layFeatures 163 = .ok (.iadd, 1) := dk_96 (dk_at dksX6_layFeatures_7 3 rfl rfl)
theorem dX6_layFeatures_164 : decode cX6_layFeatures 164 = .ok (.faload, 1) := dk_48 (dk_at dksX6_layFeatures_7 4 rfl rfl)
theorem dX6_layFeatures_165 : decode cX6_layFeatures 165 = .ok (.invokestatic 381, 3) := dk_184 1 125 (dk_at dksX6_layFeatures_7 5 rfl rfl)
theorem dX6_layFeatures_168 : decode cX6_layFeatures 168 = .ok (.fload 5, 2) := dk_23 5 (dk_at dksX6_layFeatures_7 8 rfl rfl)
theorem dX6_layFeatures_170 : decode cX6_layFeatures 170 = .ok (.ldc_w 384, 3) := dk_19 1 128 (dk_at dksX6_layFeatures_7 10 rfl rfl)
theorem dX6_layFeatures_173 : decode cX6_layFeatures 173 = .ok (.fmul, 1) := dk_106 (dk_at dksX6_layFeatures_7 13 rfl rfl)
theorem dX6_layFeatures_174 : decode cX6_layFeatures 174 = .ok (.fcmp .g, 1) := dk_150 (dk_at dksX6_layFeatures_7 14 rfl rfl)
theorem dX6_layFeatures_175 : decode cX6_layFeatures 175 = .ok (.ifCond .gt 7, 3) := dk_157 0 7 (dk_at dksX6_layFeatures_7 15 rfl rfl)
theorem dX6_layFeatures_178 : decode cX6_layFeatures 178 = .ok (.iconst 1, 1) := dk_4 (dk_at dksX6_layFeatures_7 18 rfl rfl)
theorem dX6_layFeatures_179 : decode cX6_layFeatures 179 = .ok (.goto 4, 3) := dk_167 0 4 (dk_at dksX6_layFeatures_7 19 rfl rfl)
theorem dX6_layFeatures_182 : decode cX6_layFeatures 182 = .ok (.iconst 0, 1) := dk_3 (dk_at dksX6_layFeatures_7 22 rfl rfl)
theorem dX6_layFeatures_183 : decode cX6_layFeatures 183 = .ok (.iadd, 1) := dk_96 (dk_at dksX6_layFeatures_7 23 rfl rfl)
theorem dX6_layFeatures_184 : decode cX6_layFeatures 184 = .ok (.istore 10, 2) := dk_54 10 (dk_at dksX6_layFeatures_8 0 rfl rfl)
theorem dX6_layFeatures_186 : decode cX6_layFeatures 186 = .ok (.iinc 11 1, 3) := dk_132 11 1 (dk_at dksX6_layFeatures_8 2 rfl rfl)
theorem dX6_layFeatures_189 : decode cX6_layFeatures 189 = .ok (.goto (-41), 3) := dk_167 255 215 (dk_at dksX6_layFeatures_8 5 rfl rfl)
theorem dX6_layFeatures_192 : decode cX6_layFeatures 192 = .ok (.fload 6, 2) := dk_23 6 (dk_at dksX6_layFeatures_8 8 rfl rfl)
theorem dX6_layFeatures_194 : decode cX6_layFeatures 194 = .ok (.iload_n 3, 1) := dk_29 (dk_at dksX6_layFeatures_8 10 rfl rfl)
theorem dX6_layFeatures_195 : decode cX6_layFeatures 195 = .ok (.i2f, 1) := dk_134 (dk_at dksX6_layFeatures_8 11 rfl rfl)
theorem dX6_layFeatures_196 : decode cX6_layFeatures 196 = .ok (.fdiv, 1) := dk_110 (dk_at dksX6_layFeatures_8 12 rfl rfl)
theorem dX6_layFeatures_197 : decode cX6_layFeatures 197 = .ok (.fstore 11, 2) := dk_56 11 (dk_at dksX6_layFeatures_8 13 rfl rfl)
theorem dX6_layFeatures_199 : decode cX6_layFeatures 199 = .ok (.aload_n 0, 1) := dk_42 (dk_at dksX6_layFeatures_8 15 rfl rfl)
theorem dX6_layFeatures_200 : decode cX6_layFeatures 200 = .ok (.getfield 27, 3) := dk_180 0 27 (dk_at dksX6_layFeatures_8 16 rfl rfl)
theorem dX6_layFeatures_203 : decode cX6_layFeatures 203 = .ok (.iload_n 2, 1) := dk_28 (dk_at dksX6_layFeatures_8 19 rfl rfl)
theorem dX6_layFeatures_204 : decode cX6_layFeatures 204 = .ok (.bipush 32, 2) := dk_16 32 (dk_at dksX6_layFeatures_8 20 rfl rfl)
theorem dX6_layFeatures_206 : decode cX6_layFeatures 206 = .ok (.iadd, 1) := dk_96 (dk_at dksX6_layFeatures_8 22 rfl rfl)
theorem dX6_layFeatures_207 : decode cX6_layFeatures 207 = .ok (.iconst 0, 1) := dk_3 (dk_at dksX6_layFeatures_8 23 rfl rfl)
theorem dX6_layFeatures_208 : decode cX6_layFeatures 208 = .ok (.iadd, 1) := dk_96 (dk_at dksX6_layFeatures_9 0 rfl rfl)
theorem dX6_layFeatures_209 : decode cX6_layFeatures 209 = .ok (.fload 5, 2) := dk_23 5 (dk_at dksX6_layFeatures_9 1 rfl rfl)
theorem dX6_layFeatures_211 : decode cX6_layFeatures 211 = .ok (.fastore, 1) := dk_81 (dk_at dksX6_layFeatures_9 3 rfl rfl)
theorem dX6_layFeatures_212 : decode cX6_layFeatures 212 = .ok (.aload_n 0, 1) := dk_42 (dk_at dksX6_layFeatures_9 4 rfl rfl)
theorem dX6_layFeatures_213 : decode cX6_layFeatures 213 = .ok (.getfield 27, 3) := dk_180 0 27 (dk_at dksX6_layFeatures_9 5 rfl rfl)
theorem dX6_layFeatures_216 : decode cX6_layFeatures 216 = .ok (.iload_n 2, 1) := dk_28 (dk_at dksX6_layFeatures_9 8 rfl rfl)
theorem dX6_layFeatures_217 : decode cX6_layFeatures 217 = .ok (.bipush 32, 2) := dk_16 32 (dk_at dksX6_layFeatures_9 9 rfl rfl)
theorem dX6_layFeatures_219 : decode cX6_layFeatures 219 = .ok (.iadd, 1) := dk_96 (dk_at dksX6_layFeatures_9 11 rfl rfl)
theorem dX6_layFeatures_220 : decode cX6_layFeatures 220 = .ok (.iconst 1, 1) := dk_4 (dk_at dksX6_layFeatures_9 12 rfl rfl)
theorem dX6_layFeatures_221 : decode cX6_layFeatures 221 = .ok (.iadd, 1) := dk_96 (dk_at dksX6_layFeatures_9 13 rfl rfl)
theorem dX6_layFeatures_222 : decode cX6_layFeatures 222 = .ok (.fload 11, 2) := dk_23 11 (dk_at dksX6_layFeatures_9 14 rfl rfl)
theorem dX6_layFeatures_224 : decode cX6_layFeatures 224 = .ok (.fastore, 1) := dk_81 (dk_at dksX6_layFeatures_9 16 rfl rfl)
theorem dX6_layFeatures_225 : decode cX6_layFeatures 225 = .ok (.aload_n 0, 1) := dk_42 (dk_at dksX6_layFeatures_9 17 rfl rfl)
theorem dX6_layFeatures_226 : decode cX6_layFeatures 226 = .ok (.getfield 27, 3) := dk_180 0 27 (dk_at dksX6_layFeatures_9 18 rfl rfl)
theorem dX6_layFeatures_229 : decode cX6_layFeatures 229 = .ok (.iload_n 2, 1) := dk_28 (dk_at dksX6_layFeatures_9 21 rfl rfl)
theorem dX6_layFeatures_230 : decode cX6_layFeatures 230 = .ok (.bipush 32, 2) := dk_16 32 (dk_at dksX6_layFeatures_9 22 rfl rfl)
theorem dX6_layFeatures_232 : decode cX6_layFeatures 232 = .ok (.iadd, 1) := dk_96 (dk_at dksX6_layFeatures_10 0 rfl rfl)
theorem dX6_layFeatures_233 : decode cX6_layFeatures 233 = .ok (.iconst 2, 1) := dk_5 (dk_at dksX6_layFeatures_10 1 rfl rfl)
theorem dX6_layFeatures_234 : decode cX6_layFeatures 234 = .ok (.iadd, 1) := dk_96 (dk_at dksX6_layFeatures_10 2 rfl rfl)
theorem dX6_layFeatures_235 : decode cX6_layFeatures 235 = .ok (.iload 10, 2) := dk_21 10 (dk_at dksX6_layFeatures_10 3 rfl rfl)
theorem dX6_layFeatures_237 : decode cX6_layFeatures 237 = .ok (.i2f, 1) := dk_134 (dk_at dksX6_layFeatures_10 5 rfl rfl)
theorem dX6_layFeatures_238 : decode cX6_layFeatures 238 = .ok (.fastore, 1) := dk_81 (dk_at dksX6_layFeatures_10 6 rfl rfl)
theorem dX6_layFeatures_239 : decode cX6_layFeatures 239 = .ok (.aload_n 0, 1) := dk_42 (dk_at dksX6_layFeatures_10 7 rfl rfl)
theorem dX6_layFeatures_240 : decode cX6_layFeatures 240 = .ok (.getfield 27, 3) := dk_180 0 27 (dk_at dksX6_layFeatures_10 8 rfl rfl)
theorem dX6_layFeatures_243 : decode cX6_layFeatures 243 = .ok (.iload_n 2, 1) := dk_28 (dk_at dksX6_layFeatures_10 11 rfl rfl)
theorem dX6_layFeatures_244 : decode cX6_layFeatures 244 = .ok (.bipush 32, 2) := dk_16 32 (dk_at dksX6_layFeatures_10 12 rfl rfl)
theorem dX6_layFeatures_246 : decode cX6_layFeatures 246 = .ok (.iadd, 1) := dk_96 (dk_at dksX6_layFeatures_10 14 rfl rfl)
theorem dX6_layFeatures_247 : decode cX6_layFeatures 247 = .ok (.iconst 3, 1) := dk_6 (dk_at dksX6_layFeatures_10 15 rfl rfl)
theorem dX6_layFeatures_248 : decode cX6_layFeatures 248 = .ok (.iadd, 1) := dk_96 (dk_at dksX6_layFeatures_10 16 rfl rfl)
theorem dX6_layFeatures_249 : decode cX6_layFeatures 249 = .ok (.fload 8, 2) := dk_23 8 (dk_at dksX6_layFeatures_10 17 rfl rfl)
theorem dX6_layFeatures_251 : decode cX6_layFeatures 251 = .ok (.fastore, 1) := dk_81 (dk_at dksX6_layFeatures_10 19 rfl rfl)
theorem dX6_layFeatures_252 : decode cX6_layFeatures 252 = .ok (.aload_n 0, 1) := dk_42 (dk_at dksX6_layFeatures_10 20 rfl rfl)
theorem dX6_layFeatures_253 : decode cX6_layFeatures 253 = .ok (.getfield 27, 3) := dk_180 0 27 (dk_at dksX6_layFeatures_10 21 rfl rfl)
theorem dX6_layFeatures_256 : decode cX6_layFeatures 256 = .ok (.iload_n 2, 1) := dk_28 (dk_at dksX6_layFeatures_11 0 rfl rfl)
theorem dX6_layFeatures_257 : decode cX6_layFeatures 257 = .ok (.bipush 32, 2) := dk_16 32 (dk_at dksX6_layFeatures_11 1 rfl rfl)
theorem dX6_layFeatures_259 : decode cX6_layFeatures 259 = .ok (.iadd, 1) := dk_96 (dk_at dksX6_layFeatures_11 3 rfl rfl)
theorem dX6_layFeatures_260 : decode cX6_layFeatures 260 = .ok (.iconst 4, 1) := dk_7 (dk_at dksX6_layFeatures_11 4 rfl rfl)
theorem dX6_layFeatures_261 : decode cX6_layFeatures 261 = .ok (.iadd, 1) := dk_96 (dk_at dksX6_layFeatures_11 5 rfl rfl)
theorem dX6_layFeatures_262 : decode cX6_layFeatures 262 = .ok (.aload_n 0, 1) := dk_42 (dk_at dksX6_layFeatures_11 6 rfl rfl)
theorem dX6_layFeatures_263 : decode cX6_layFeatures 263 = .ok (.iload_n 1, 1) := dk_27 (dk_at dksX6_layFeatures_11 7 rfl rfl)
theorem dX6_layFeatures_264 : decode cX6_layFeatures 264 = .ok (.iconst 5, 1) := dk_8 (dk_at dksX6_layFeatures_11 8 rfl rfl)
theorem dX6_layFeatures_265 : decode cX6_layFeatures 265 = .ok (.invokevirtual 70, 3) := dk_182 0 70 (dk_at dksX6_layFeatures_11 9 rfl rfl)
theorem dX6_layFeatures_268 : decode cX6_layFeatures 268 = .ok (.ifCond .ne 7, 3) := dk_154 0 7 (dk_at dksX6_layFeatures_11 12 rfl rfl)
theorem dX6_layFeatures_271 : decode cX6_layFeatures 271 = .ok (.fconst 0, 1) := dk_11 (dk_at dksX6_layFeatures_11 15 rfl rfl)
theorem dX6_layFeatures_272 : decode cX6_layFeatures 272 = .ok (.goto 11, 3) := dk_167 0 11 (dk_at dksX6_layFeatures_11 16 rfl rfl)
theorem dX6_layFeatures_275 : decode cX6_layFeatures 275 = .ok (.fload 11, 2) := dk_23 11 (dk_at dksX6_layFeatures_11 19 rfl rfl)
theorem dX6_layFeatures_277 : decode cX6_layFeatures 277 = .ok (.fload 4, 2) := dk_23 4 (dk_at dksX6_layFeatures_11 21 rfl rfl)
theorem dX6_layFeatures_279 : decode cX6_layFeatures 279 = .ok (.fsub, 1) := dk_102 (dk_at dksX6_layFeatures_11 23 rfl rfl)
theorem dX6_layFeatures_280 : decode cX6_layFeatures 280 = .ok (.invokestatic 381, 3) := dk_184 1 125 (dk_at dksX6_layFeatures_12 0 rfl rfl)
theorem dX6_layFeatures_283 : decode cX6_layFeatures 283 = .ok (.fastore, 1) := dk_81 (dk_at dksX6_layFeatures_12 3 rfl rfl)
theorem dX6_layFeatures_284 : decode cX6_layFeatures 284 = .ok (.aload_n 0, 1) := dk_42 (dk_at dksX6_layFeatures_12 4 rfl rfl)
theorem dX6_layFeatures_285 : decode cX6_layFeatures 285 = .ok (.getfield 27, 3) := dk_180 0 27 (dk_at dksX6_layFeatures_12 5 rfl rfl)
theorem dX6_layFeatures_288 : decode cX6_layFeatures 288 = .ok (.iload_n 2, 1) := dk_28 (dk_at dksX6_layFeatures_12 8 rfl rfl)
theorem dX6_layFeatures_289 : decode cX6_layFeatures 289 = .ok (.bipush 32, 2) := dk_16 32 (dk_at dksX6_layFeatures_12 9 rfl rfl)
theorem dX6_layFeatures_291 : decode cX6_layFeatures 291 = .ok (.iadd, 1) := dk_96 (dk_at dksX6_layFeatures_12 11 rfl rfl)
theorem dX6_layFeatures_292 : decode cX6_layFeatures 292 = .ok (.iconst 5, 1) := dk_8 (dk_at dksX6_layFeatures_12 12 rfl rfl)
theorem dX6_layFeatures_293 : decode cX6_layFeatures 293 = .ok (.iadd, 1) := dk_96 (dk_at dksX6_layFeatures_12 13 rfl rfl)
theorem dX6_layFeatures_294 : decode cX6_layFeatures 294 = .ok (.fload 7, 2) := dk_23 7 (dk_at dksX6_layFeatures_12 14 rfl rfl)
theorem dX6_layFeatures_296 : decode cX6_layFeatures 296 = .ok (.iload_n 3, 1) := dk_29 (dk_at dksX6_layFeatures_12 16 rfl rfl)
theorem dX6_layFeatures_297 : decode cX6_layFeatures 297 = .ok (.i2f, 1) := dk_134 (dk_at dksX6_layFeatures_12 17 rfl rfl)
theorem dX6_layFeatures_298 : decode cX6_layFeatures 298 = .ok (.fdiv, 1) := dk_110 (dk_at dksX6_layFeatures_12 18 rfl rfl)
theorem dX6_layFeatures_299 : decode cX6_layFeatures 299 = .ok (.fastore, 1) := dk_81 (dk_at dksX6_layFeatures_12 19 rfl rfl)
theorem dX6_layFeatures_300 : decode cX6_layFeatures 300 = .ok (.return_, 1) := dk_177 (dk_at dksX6_layFeatures_12 20 rfl rfl)
def dkwX6_size_0 : List UInt8 := [34, 11, 150, 156, 0, 9, 11, 34, 102, 167, 0, 4, 34, 174]
abbrev dktX6_size_0 : List UInt8 := dkwX6_size_0 ++ []
theorem dksX6_size_0 : cX6_size.data.toList.drop 0 = dktX6_size_0 := by decide +kernel
theorem dX6_size_0 : decode cX6_size 0 = .ok (.fload_n 0, 1) := dk_34 (dk_at dksX6_size_0 0 rfl rfl)
theorem dX6_size_1 : decode cX6_size 1 = .ok (.fconst 0, 1) := dk_11 (dk_at dksX6_size_0 1 rfl rfl)
theorem dX6_size_2 : decode cX6_size 2 = .ok (.fcmp .g, 1) := dk_150 (dk_at dksX6_size_0 2 rfl rfl)
theorem dX6_size_3 : decode cX6_size 3 = .ok (.ifCond .ge 9, 3) := dk_156 0 9 (dk_at dksX6_size_0 3 rfl rfl)
theorem dX6_size_6 : decode cX6_size 6 = .ok (.fconst 0, 1) := dk_11 (dk_at dksX6_size_0 6 rfl rfl)
theorem dX6_size_7 : decode cX6_size 7 = .ok (.fload_n 0, 1) := dk_34 (dk_at dksX6_size_0 7 rfl rfl)
theorem dX6_size_8 : decode cX6_size 8 = .ok (.fsub, 1) := dk_102 (dk_at dksX6_size_0 8 rfl rfl)
theorem dX6_size_9 : decode cX6_size 9 = .ok (.goto 4, 3) := dk_167 0 4 (dk_at dksX6_size_0 9 rfl rfl)
theorem dX6_size_12 : decode cX6_size 12 = .ok (.fload_n 0, 1) := dk_34 (dk_at dksX6_size_0 12 rfl rfl)
theorem dX6_size_13 : decode cX6_size 13 = .ok (.freturn, 1) := dk_174 (dk_at dksX6_size_0 13 rfl rfl)
def dkwX6_judge_5 : List UInt8 := [167, 0, 4, 3, 182, 1, 145, 177]
abbrev dktX6_judge_5 : List UInt8 := dkwX6_judge_5 ++ []
def dkwX6_judge_4 : List UInt8 := [182, 1, 14, 42, 27, 21, 4, 2, 160, 0, 13, 42, 27, 6, 182, 0, 70, 4, 160, 0, 7, 4]
abbrev dktX6_judge_4 : List UInt8 := dkwX6_judge_4 ++ dktX6_judge_5
def dkwX6_judge_3 : List UInt8 := [54, 4, 42, 27, 16, 6, 28, 182, 1, 14, 42, 27, 16, 7, 29, 182, 1, 14, 42, 27, 16, 9, 21, 4]
abbrev dktX6_judge_3 : List UInt8 := dkwX6_judge_3 ++ dktX6_judge_4
def dkwX6_judge_2 : List UInt8 := [180, 0, 17, 16, 6, 46, 182, 1, 138, 62, 42, 28, 29, 153, 0, 7, 4, 167, 0, 4, 3, 182, 1, 141]
abbrev dktX6_judge_2 : List UInt8 := dkwX6_judge_2 ++ dktX6_judge_3
def dkwX6_judge_1 : List UInt8 := [167, 255, 235, 42, 17, 1, 219, 42, 180, 0, 17, 8, 46, 182, 1, 138, 61, 42, 17, 2, 125, 42]
abbrev dktX6_judge_1 : List UInt8 := dkwX6_judge_1 ++ dktX6_judge_2
def dkwX6_judge_0 : List UInt8 := [3, 61, 28, 16, 6, 162, 0, 21, 42, 180, 0, 48, 28, 42, 27, 28, 182, 1, 135, 81, 132, 2, 1]
abbrev dktX6_judge_0 : List UInt8 := dkwX6_judge_0 ++ dktX6_judge_1
theorem dksX6_judge_0 : cX6_judge.data.toList.drop 0 = dktX6_judge_0 := by decide +kernel
theorem dksX6_judge_1 : cX6_judge.data.toList.drop 23 = dktX6_judge_1 := dk_seg dksX6_judge_0 23 rfl rfl
theorem dksX6_judge_2 : cX6_judge.data.toList.drop 45 = dktX6_judge_2 := dk_seg dksX6_judge_1 22 rfl rfl
theorem dksX6_judge_3 : cX6_judge.data.toList.drop 69 = dktX6_judge_3 := dk_seg dksX6_judge_2 24 rfl rfl
theorem dksX6_judge_4 : cX6_judge.data.toList.drop 93 = dktX6_judge_4 := dk_seg dksX6_judge_3 24 rfl rfl
theorem dksX6_judge_5 : cX6_judge.data.toList.drop 115 = dktX6_judge_5 := dk_seg dksX6_judge_4 22 rfl rfl
theorem dX6_judge_0 : decode cX6_judge 0 = .ok (.iconst 0, 1) := dk_3 (dk_at dksX6_judge_0 0 rfl rfl)
theorem dX6_judge_1 : decode cX6_judge 1 = .ok (.istore_n 2, 1) := dk_61 (dk_at dksX6_judge_0 1 rfl rfl)
theorem dX6_judge_2 : decode cX6_judge 2 = .ok (.iload_n 2, 1) := dk_28 (dk_at dksX6_judge_0 2 rfl rfl)
theorem dX6_judge_3 : decode cX6_judge 3 = .ok (.bipush 6, 2) := dk_16 6 (dk_at dksX6_judge_0 3 rfl rfl)
theorem dX6_judge_5 : decode cX6_judge 5 = .ok (.if_icmp .ge 21, 3) := dk_162 0 21 (dk_at dksX6_judge_0 5 rfl rfl)
theorem dX6_judge_8 : decode cX6_judge 8 = .ok (.aload_n 0, 1) := dk_42 (dk_at dksX6_judge_0 8 rfl rfl)
theorem dX6_judge_9 : decode cX6_judge 9 = .ok (.getfield 48, 3) := dk_180 0 48 (dk_at dksX6_judge_0 9 rfl rfl)
theorem dX6_judge_12 : decode cX6_judge 12 = .ok (.iload_n 2, 1) := dk_28 (dk_at dksX6_judge_0 12 rfl rfl)
theorem dX6_judge_13 : decode cX6_judge 13 = .ok (.aload_n 0, 1) := dk_42 (dk_at dksX6_judge_0 13 rfl rfl)
theorem dX6_judge_14 : decode cX6_judge 14 = .ok (.iload_n 1, 1) := dk_27 (dk_at dksX6_judge_0 14 rfl rfl)
theorem dX6_judge_15 : decode cX6_judge 15 = .ok (.iload_n 2, 1) := dk_28 (dk_at dksX6_judge_0 15 rfl rfl)
theorem dX6_judge_16 : decode cX6_judge 16 = .ok (.invokevirtual 391, 3) := dk_182 1 135 (dk_at dksX6_judge_0 16 rfl rfl)
theorem dX6_judge_19 : decode cX6_judge 19 = .ok (.fastore, 1) := dk_81 (dk_at dksX6_judge_0 19 rfl rfl)
theorem dX6_judge_20 : decode cX6_judge 20 = .ok (.iinc 2 1, 3) := dk_132 2 1 (dk_at dksX6_judge_0 20 rfl rfl)
theorem dX6_judge_23 : decode cX6_judge 23 = .ok (.goto (-21), 3) := dk_167 255 235 (dk_at dksX6_judge_1 0 rfl rfl)
theorem dX6_judge_26 : decode cX6_judge 26 = .ok (.aload_n 0, 1) := dk_42 (dk_at dksX6_judge_1 3 rfl rfl)
theorem dX6_judge_27 : decode cX6_judge 27 = .ok (.sipush 475, 3) := dk_17 1 219 (dk_at dksX6_judge_1 4 rfl rfl)
theorem dX6_judge_30 : decode cX6_judge 30 = .ok (.aload_n 0, 1) := dk_42 (dk_at dksX6_judge_1 7 rfl rfl)
theorem dX6_judge_31 : decode cX6_judge 31 = .ok (.getfield 17, 3) := dk_180 0 17 (dk_at dksX6_judge_1 8 rfl rfl)
theorem dX6_judge_34 : decode cX6_judge 34 = .ok (.iconst 5, 1) := dk_8 (dk_at dksX6_judge_1 11 rfl rfl)
theorem dX6_judge_35 : decode cX6_judge 35 = .ok (.iaload, 1) := dk_46 (dk_at dksX6_judge_1 12 rfl rfl)
theorem dX6_judge_36 : decode cX6_judge 36 = .ok (.invokevirtual 394, 3) := dk_182 1 138 (dk_at dksX6_judge_1 13 rfl rfl)
theorem dX6_judge_39 : decode cX6_judge 39 = .ok (.istore_n 2, 1) := dk_61 (dk_at dksX6_judge_1 16 rfl rfl)
theorem dX6_judge_40 : decode cX6_judge 40 = .ok (.aload_n 0, 1) := dk_42 (dk_at dksX6_judge_1 17 rfl rfl)
theorem dX6_judge_41 : decode cX6_judge 41 = .ok (.sipush 637, 3) := dk_17 2 125 (dk_at dksX6_judge_1 18 rfl rfl)
theorem dX6_judge_44 : decode cX6_judge 44 = .ok (.aload_n 0, 1) := dk_42 (dk_at dksX6_judge_1 21 rfl rfl)
theorem dX6_judge_45 : decode cX6_judge 45 = .ok (.getfield 17, 3) := dk_180 0 17 (dk_at dksX6_judge_2 0 rfl rfl)
theorem dX6_judge_48 : decode cX6_judge 48 = .ok (.bipush 6, 2) := dk_16 6 (dk_at dksX6_judge_2 3 rfl rfl)
theorem dX6_judge_50 : decode cX6_judge 50 = .ok (.iaload, 1) := dk_46 (dk_at dksX6_judge_2 5 rfl rfl)
theorem dX6_judge_51 : decode cX6_judge 51 = .ok (.invokevirtual 394, 3) := dk_182 1 138 (dk_at dksX6_judge_2 6 rfl rfl)
theorem dX6_judge_54 : decode cX6_judge 54 = .ok (.istore_n 3, 1) := dk_62 (dk_at dksX6_judge_2 9 rfl rfl)
theorem dX6_judge_55 : decode cX6_judge 55 = .ok (.aload_n 0, 1) := dk_42 (dk_at dksX6_judge_2 10 rfl rfl)
theorem dX6_judge_56 : decode cX6_judge 56 = .ok (.iload_n 2, 1) := dk_28 (dk_at dksX6_judge_2 11 rfl rfl)
theorem dX6_judge_57 : decode cX6_judge 57 = .ok (.iload_n 3, 1) := dk_29 (dk_at dksX6_judge_2 12 rfl rfl)
theorem dX6_judge_58 : decode cX6_judge 58 = .ok (.ifCond .eq 7, 3) := dk_153 0 7 (dk_at dksX6_judge_2 13 rfl rfl)
theorem dX6_judge_61 : decode cX6_judge 61 = .ok (.iconst 1, 1) := dk_4 (dk_at dksX6_judge_2 16 rfl rfl)
theorem dX6_judge_62 : decode cX6_judge 62 = .ok (.goto 4, 3) := dk_167 0 4 (dk_at dksX6_judge_2 17 rfl rfl)
theorem dX6_judge_65 : decode cX6_judge 65 = .ok (.iconst 0, 1) := dk_3 (dk_at dksX6_judge_2 20 rfl rfl)
theorem dX6_judge_66 : decode cX6_judge 66 = .ok (.invokevirtual 397, 3) := dk_182 1 141 (dk_at dksX6_judge_2 21 rfl rfl)
theorem dX6_judge_69 : decode cX6_judge 69 = .ok (.istore 4, 2) := dk_54 4 (dk_at dksX6_judge_3 0 rfl rfl)
theorem dX6_judge_71 : decode cX6_judge 71 = .ok (.aload_n 0, 1) := dk_42 (dk_at dksX6_judge_3 2 rfl rfl)
theorem dX6_judge_72 : decode cX6_judge 72 = .ok (.iload_n 1, 1) := dk_27 (dk_at dksX6_judge_3 3 rfl rfl)
theorem dX6_judge_73 : decode cX6_judge 73 = .ok (.bipush 6, 2) := dk_16 6 (dk_at dksX6_judge_3 4 rfl rfl)
theorem dX6_judge_75 : decode cX6_judge 75 = .ok (.iload_n 2, 1) := dk_28 (dk_at dksX6_judge_3 6 rfl rfl)
theorem dX6_judge_76 : decode cX6_judge 76 = .ok (.invokevirtual 270, 3) := dk_182 1 14 (dk_at dksX6_judge_3 7 rfl rfl)
theorem dX6_judge_79 : decode cX6_judge 79 = .ok (.aload_n 0, 1) := dk_42 (dk_at dksX6_judge_3 10 rfl rfl)
theorem dX6_judge_80 : decode cX6_judge 80 = .ok (.iload_n 1, 1) := dk_27 (dk_at dksX6_judge_3 11 rfl rfl)
theorem dX6_judge_81 : decode cX6_judge 81 = .ok (.bipush 7, 2) := dk_16 7 (dk_at dksX6_judge_3 12 rfl rfl)
theorem dX6_judge_83 : decode cX6_judge 83 = .ok (.iload_n 3, 1) := dk_29 (dk_at dksX6_judge_3 14 rfl rfl)
theorem dX6_judge_84 : decode cX6_judge 84 = .ok (.invokevirtual 270, 3) := dk_182 1 14 (dk_at dksX6_judge_3 15 rfl rfl)
theorem dX6_judge_87 : decode cX6_judge 87 = .ok (.aload_n 0, 1) := dk_42 (dk_at dksX6_judge_3 18 rfl rfl)
theorem dX6_judge_88 : decode cX6_judge 88 = .ok (.iload_n 1, 1) := dk_27 (dk_at dksX6_judge_3 19 rfl rfl)
theorem dX6_judge_89 : decode cX6_judge 89 = .ok (.bipush 9, 2) := dk_16 9 (dk_at dksX6_judge_3 20 rfl rfl)
theorem dX6_judge_91 : decode cX6_judge 91 = .ok (.iload 4, 2) := dk_21 4 (dk_at dksX6_judge_3 22 rfl rfl)
theorem dX6_judge_93 : decode cX6_judge 93 = .ok (.invokevirtual 270, 3) := dk_182 1 14 (dk_at dksX6_judge_4 0 rfl rfl)
theorem dX6_judge_96 : decode cX6_judge 96 = .ok (.aload_n 0, 1) := dk_42 (dk_at dksX6_judge_4 3 rfl rfl)
theorem dX6_judge_97 : decode cX6_judge 97 = .ok (.iload_n 1, 1) := dk_27 (dk_at dksX6_judge_4 4 rfl rfl)
theorem dX6_judge_98 : decode cX6_judge 98 = .ok (.iload 4, 2) := dk_21 4 (dk_at dksX6_judge_4 5 rfl rfl)
theorem dX6_judge_100 : decode cX6_judge 100 = .ok (.iconst (-1), 1) := dk_2 (dk_at dksX6_judge_4 7 rfl rfl)
theorem dX6_judge_101 : decode cX6_judge 101 = .ok (.if_icmp .ne 13, 3) := dk_160 0 13 (dk_at dksX6_judge_4 8 rfl rfl)
theorem dX6_judge_104 : decode cX6_judge 104 = .ok (.aload_n 0, 1) := dk_42 (dk_at dksX6_judge_4 11 rfl rfl)
theorem dX6_judge_105 : decode cX6_judge 105 = .ok (.iload_n 1, 1) := dk_27 (dk_at dksX6_judge_4 12 rfl rfl)
theorem dX6_judge_106 : decode cX6_judge 106 = .ok (.iconst 3, 1) := dk_6 (dk_at dksX6_judge_4 13 rfl rfl)
theorem dX6_judge_107 : decode cX6_judge 107 = .ok (.invokevirtual 70, 3) := dk_182 0 70 (dk_at dksX6_judge_4 14 rfl rfl)
theorem dX6_judge_110 : decode cX6_judge 110 = .ok (.iconst 1, 1) := dk_4 (dk_at dksX6_judge_4 17 rfl rfl)
theorem dX6_judge_111 : decode cX6_judge 111 = .ok (.if_icmp .ne 7, 3) := dk_160 0 7 (dk_at dksX6_judge_4 18 rfl rfl)
theorem dX6_judge_114 : decode cX6_judge 114 = .ok (.iconst 1, 1) := dk_4 (dk_at dksX6_judge_4 21 rfl rfl)
theorem dX6_judge_115 : decode cX6_judge 115 = .ok (.goto 4, 3) := dk_167 0 4 (dk_at dksX6_judge_5 0 rfl rfl)
theorem dX6_judge_118 : decode cX6_judge 118 = .ok (.iconst 0, 1) := dk_3 (dk_at dksX6_judge_5 3 rfl rfl)
theorem dX6_judge_119 : decode cX6_judge 119 = .ok (.invokevirtual 401, 3) := dk_182 1 145 (dk_at dksX6_judge_5 4 rfl rfl)
theorem dX6_judge_122 : decode cX6_judge 122 = .ok (.return_, 1) := dk_177 (dk_at dksX6_judge_5 7 rfl rfl)
def dkwX6_featureOf_0 : List UInt8 := [42, 180, 0, 27, 16, 38, 27, 104, 16, 32, 96, 28, 96, 48, 174]
abbrev dktX6_featureOf_0 : List UInt8 := dkwX6_featureOf_0 ++ []
theorem dksX6_featureOf_0 : cX6_featureOf.data.toList.drop 0 = dktX6_featureOf_0 := by decide +kernel
theorem dX6_featureOf_0 : decode cX6_featureOf 0 = .ok (.aload_n 0, 1) := dk_42 (dk_at dksX6_featureOf_0 0 rfl rfl)
theorem dX6_featureOf_1 : decode cX6_featureOf 1 = .ok (.getfield 27, 3) := dk_180 0 27 (dk_at dksX6_featureOf_0 1 rfl rfl)
theorem dX6_featureOf_4 : decode cX6_featureOf 4 = .ok (.bipush 38, 2) := dk_16 38 (dk_at dksX6_featureOf_0 4 rfl rfl)
theorem dX6_featureOf_6 : decode cX6_featureOf 6 = .ok (.iload_n 1, 1) := dk_27 (dk_at dksX6_featureOf_0 6 rfl rfl)
theorem dX6_featureOf_7 : decode cX6_featureOf 7 = .ok (.imul, 1) := dk_104 (dk_at dksX6_featureOf_0 7 rfl rfl)
theorem dX6_featureOf_8 : decode cX6_featureOf 8 = .ok (.bipush 32, 2) := dk_16 32 (dk_at dksX6_featureOf_0 8 rfl rfl)
theorem dX6_featureOf_10 : decode cX6_featureOf 10 = .ok (.iadd, 1) := dk_96 (dk_at dksX6_featureOf_0 10 rfl rfl)
theorem dX6_featureOf_11 : decode cX6_featureOf 11 = .ok (.iload_n 2, 1) := dk_28 (dk_at dksX6_featureOf_0 11 rfl rfl)
theorem dX6_featureOf_12 : decode cX6_featureOf 12 = .ok (.iadd, 1) := dk_96 (dk_at dksX6_featureOf_0 12 rfl rfl)
theorem dX6_featureOf_13 : decode cX6_featureOf 13 = .ok (.faload, 1) := dk_48 (dk_at dksX6_featureOf_0 13 rfl rfl)
theorem dX6_featureOf_14 : decode cX6_featureOf 14 = .ok (.freturn, 1) := dk_174 (dk_at dksX6_featureOf_0 14 rfl rfl)
def dkwX6_matchAll_2 : List UInt8 := [21, 4, 120, 128, 62, 132, 4, 1, 167, 255, 206, 29, 172]
abbrev dktX6_matchAll_2 : List UInt8 := dkwX6_matchAll_2 ++ []
def dkwX6_matchAll_1 : List UInt8 := [182, 1, 129, 154, 0, 6, 167, 0, 23, 42, 180, 0, 24, 21, 5, 5, 96, 92, 46, 4, 96, 79, 29, 4]
abbrev dktX6_matchAll_1 : List UInt8 := dkwX6_matchAll_1 ++ dktX6_matchAll_2
def dkwX6_matchAll_0 : List UInt8 := [3, 62, 3, 54, 4, 21, 4, 28, 162, 0, 50, 27, 16, 27, 21, 4, 104, 96, 54, 5, 42, 21, 5]
abbrev dktX6_matchAll_0 : List UInt8 := dkwX6_matchAll_0 ++ dktX6_matchAll_1
theorem dksX6_matchAll_0 : cX6_matchAll.data.toList.drop 0 = dktX6_matchAll_0 := by decide +kernel
theorem dksX6_matchAll_1 : cX6_matchAll.data.toList.drop 23 = dktX6_matchAll_1 := dk_seg dksX6_matchAll_0 23 rfl rfl
theorem dksX6_matchAll_2 : cX6_matchAll.data.toList.drop 47 = dktX6_matchAll_2 := dk_seg dksX6_matchAll_1 24 rfl rfl
theorem dX6_matchAll_0 : decode cX6_matchAll 0 = .ok (.iconst 0, 1) := dk_3 (dk_at dksX6_matchAll_0 0 rfl rfl)
theorem dX6_matchAll_1 : decode cX6_matchAll 1 = .ok (.istore_n 3, 1) := dk_62 (dk_at dksX6_matchAll_0 1 rfl rfl)
theorem dX6_matchAll_2 : decode cX6_matchAll 2 = .ok (.iconst 0, 1) := dk_3 (dk_at dksX6_matchAll_0 2 rfl rfl)
theorem dX6_matchAll_3 : decode cX6_matchAll 3 = .ok (.istore 4, 2) := dk_54 4 (dk_at dksX6_matchAll_0 3 rfl rfl)
theorem dX6_matchAll_5 : decode cX6_matchAll 5 = .ok (.iload 4, 2) := dk_21 4 (dk_at dksX6_matchAll_0 5 rfl rfl)
theorem dX6_matchAll_7 : decode cX6_matchAll 7 = .ok (.iload_n 2, 1) := dk_28 (dk_at dksX6_matchAll_0 7 rfl rfl)
theorem dX6_matchAll_8 : decode cX6_matchAll 8 = .ok (.if_icmp .ge 50, 3) := dk_162 0 50 (dk_at dksX6_matchAll_0 8 rfl rfl)
theorem dX6_matchAll_11 : decode cX6_matchAll 11 = .ok (.iload_n 1, 1) := dk_27 (dk_at dksX6_matchAll_0 11 rfl rfl)
theorem dX6_matchAll_12 : decode cX6_matchAll 12 = .ok (.bipush 27, 2) := dk_16 27 (dk_at dksX6_matchAll_0 12 rfl rfl)
theorem dX6_matchAll_14 : decode cX6_matchAll 14 = .ok (.iload 4, 2) := dk_21 4 (dk_at dksX6_matchAll_0 14 rfl rfl)
theorem dX6_matchAll_16 : decode cX6_matchAll 16 = .ok (.imul, 1) := dk_104 (dk_at dksX6_matchAll_0 16 rfl rfl)
theorem dX6_matchAll_17 : decode cX6_matchAll 17 = .ok (.iadd, 1) := dk_96 (dk_at dksX6_matchAll_0 17 rfl rfl)
theorem dX6_matchAll_18 : decode cX6_matchAll 18 = .ok (.istore 5, 2) := dk_54 5 (dk_at dksX6_matchAll_0 18 rfl rfl)
theorem dX6_matchAll_20 : decode cX6_matchAll 20 = .ok (.aload_n 0, 1) := dk_42 (dk_at dksX6_matchAll_0 20 rfl rfl)
theorem dX6_matchAll_21 : decode cX6_matchAll 21 = .ok (.iload 5, 2) := dk_21 5 (dk_at dksX6_matchAll_0 21 rfl rfl)
theorem dX6_matchAll_23 : decode cX6_matchAll 23 = .ok (.invokevirtual 385, 3) := dk_182 1 129 (dk_at dksX6_matchAll_1 0 rfl rfl)
theorem dX6_matchAll_26 : decode cX6_matchAll 26 = .ok (.ifCond .ne 6, 3) := dk_154 0 6 (dk_at dksX6_matchAll_1 3 rfl rfl)
theorem dX6_matchAll_29 : decode cX6_matchAll 29 = .ok (.goto 23, 3) := dk_167 0 23 (dk_at dksX6_matchAll_1 6 rfl rfl)
theorem dX6_matchAll_32 : decode cX6_matchAll 32 = .ok (.aload_n 0, 1) := dk_42 (dk_at dksX6_matchAll_1 9 rfl rfl)
theorem dX6_matchAll_33 : decode cX6_matchAll 33 = .ok (.getfield 24, 3) := dk_180 0 24 (dk_at dksX6_matchAll_1 10 rfl rfl)
theorem dX6_matchAll_36 : decode cX6_matchAll 36 = .ok (.iload 5, 2) := dk_21 5 (dk_at dksX6_matchAll_1 13 rfl rfl)
theorem dX6_matchAll_38 : decode cX6_matchAll 38 = .ok (.iconst 2, 1) := dk_5 (dk_at dksX6_matchAll_1 15 rfl rfl)
theorem dX6_matchAll_39 : decode cX6_matchAll 39 = .ok (.iadd, 1) := dk_96 (dk_at dksX6_matchAll_1 16 rfl rfl)
theorem dX6_matchAll_40 : decode cX6_matchAll 40 = .ok (.dup2, 1) := dk_92 (dk_at dksX6_matchAll_1 17 rfl rfl)
theorem dX6_matchAll_41 : decode cX6_matchAll 41 = .ok (.iaload, 1) := dk_46 (dk_at dksX6_matchAll_1 18 rfl rfl)
theorem dX6_matchAll_42 : decode cX6_matchAll 42 = .ok (.iconst 1, 1) := dk_4 (dk_at dksX6_matchAll_1 19 rfl rfl)
theorem dX6_matchAll_43 : decode cX6_matchAll 43 = .ok (.iadd, 1) := dk_96 (dk_at dksX6_matchAll_1 20 rfl rfl)
theorem dX6_matchAll_44 : decode cX6_matchAll 44 = .ok (.iastore, 1) := dk_79 (dk_at dksX6_matchAll_1 21 rfl rfl)
theorem dX6_matchAll_45 : decode cX6_matchAll 45 = .ok (.iload_n 3, 1) := dk_29 (dk_at dksX6_matchAll_1 22 rfl rfl)
theorem dX6_matchAll_46 : decode cX6_matchAll 46 = .ok (.iconst 1, 1) := dk_4 (dk_at dksX6_matchAll_1 23 rfl rfl)
theorem dX6_matchAll_47 : decode cX6_matchAll 47 = .ok (.iload 4, 2) := dk_21 4 (dk_at dksX6_matchAll_2 0 rfl rfl)
theorem dX6_matchAll_49 : decode cX6_matchAll 49 = .ok (.ishl, 1) := dk_120 (dk_at dksX6_matchAll_2 2 rfl rfl)
theorem dX6_matchAll_50 : decode cX6_matchAll 50 = .ok (.ior, 1) := dk_128 (dk_at dksX6_matchAll_2 3 rfl rfl)
theorem dX6_matchAll_51 : decode cX6_matchAll 51 = .ok (.istore_n 3, 1) := dk_62 (dk_at dksX6_matchAll_2 4 rfl rfl)
theorem dX6_matchAll_52 : decode cX6_matchAll 52 = .ok (.iinc 4 1, 3) := dk_132 4 1 (dk_at dksX6_matchAll_2 5 rfl rfl)
theorem dX6_matchAll_55 : decode cX6_matchAll 55 = .ok (.goto (-50), 3) := dk_167 255 206 (dk_at dksX6_matchAll_2 8 rfl rfl)
theorem dX6_matchAll_58 : decode cX6_matchAll 58 = .ok (.iload_n 3, 1) := dk_29 (dk_at dksX6_matchAll_2 11 rfl rfl)
theorem dX6_matchAll_59 : decode cX6_matchAll 59 = .ok (.ireturn, 1) := dk_172 (dk_at dksX6_matchAll_2 12 rfl rfl)
def dkwX6_holds_4 : List UInt8 := [158, 0, 7, 4, 167, 0, 4, 3, 61, 132, 3, 1, 167, 255, 154, 28, 172]
abbrev dktX6_holds_4 : List UInt8 := dkwX6_holds_4 ++ []
def dkwX6_holds_3 : List UInt8 := [46, 16, 60, 160, 0, 14, 23, 4, 23, 5, 150, 156, 0, 18, 167, 0, 11, 23, 4, 23, 5, 149]
abbrev dktX6_holds_3 : List UInt8 := dkwX6_holds_3 ++ dktX6_holds_4
def dkwX6_holds_2 : List UInt8 := [5, 96, 46, 134, 56, 5, 28, 153, 0, 46, 42, 180, 0, 24, 27, 16, 9, 96, 6, 29, 104, 96, 4, 96]
abbrev dktX6_holds_2 : List UInt8 := dkwX6_holds_2 ++ dktX6_holds_3
def dkwX6_holds_1 : List UInt8 := [27, 16, 9, 96, 6, 29, 104, 96, 46, 48, 56, 4, 42, 180, 0, 24, 27, 16, 9, 96, 6, 29, 104, 96]
abbrev dktX6_holds_1 : List UInt8 := dkwX6_holds_1 ++ dktX6_holds_2
def dkwX6_holds_0 : List UInt8 := [4, 61, 3, 62, 29, 42, 180, 0, 24, 27, 4, 96, 46, 162, 0, 96, 42, 180, 0, 48, 42, 180, 0, 24]
abbrev dktX6_holds_0 : List UInt8 := dkwX6_holds_0 ++ dktX6_holds_1
theorem dksX6_holds_0 : cX6_holds.data.toList.drop 0 = dktX6_holds_0 := by decide +kernel
theorem dksX6_holds_1 : cX6_holds.data.toList.drop 24 = dktX6_holds_1 := dk_seg dksX6_holds_0 24 rfl rfl
theorem dksX6_holds_2 : cX6_holds.data.toList.drop 48 = dktX6_holds_2 := dk_seg dksX6_holds_1 24 rfl rfl
theorem dksX6_holds_3 : cX6_holds.data.toList.drop 72 = dktX6_holds_3 := dk_seg dksX6_holds_2 24 rfl rfl
theorem dksX6_holds_4 : cX6_holds.data.toList.drop 94 = dktX6_holds_4 := dk_seg dksX6_holds_3 22 rfl rfl
theorem dX6_holds_0 : decode cX6_holds 0 = .ok (.iconst 1, 1) := dk_4 (dk_at dksX6_holds_0 0 rfl rfl)
theorem dX6_holds_1 : decode cX6_holds 1 = .ok (.istore_n 2, 1) := dk_61 (dk_at dksX6_holds_0 1 rfl rfl)
theorem dX6_holds_2 : decode cX6_holds 2 = .ok (.iconst 0, 1) := dk_3 (dk_at dksX6_holds_0 2 rfl rfl)
theorem dX6_holds_3 : decode cX6_holds 3 = .ok (.istore_n 3, 1) := dk_62 (dk_at dksX6_holds_0 3 rfl rfl)
theorem dX6_holds_4 : decode cX6_holds 4 = .ok (.iload_n 3, 1) := dk_29 (dk_at dksX6_holds_0 4 rfl rfl)
theorem dX6_holds_5 : decode cX6_holds 5 = .ok (.aload_n 0, 1) := dk_42 (dk_at dksX6_holds_0 5 rfl rfl)
theorem dX6_holds_6 : decode cX6_holds 6 = .ok (.getfield 24, 3) := dk_180 0 24 (dk_at dksX6_holds_0 6 rfl rfl)
theorem dX6_holds_9 : decode cX6_holds 9 = .ok (.iload_n 1, 1) := dk_27 (dk_at dksX6_holds_0 9 rfl rfl)
theorem dX6_holds_10 : decode cX6_holds 10 = .ok (.iconst 1, 1) := dk_4 (dk_at dksX6_holds_0 10 rfl rfl)
theorem dX6_holds_11 : decode cX6_holds 11 = .ok (.iadd, 1) := dk_96 (dk_at dksX6_holds_0 11 rfl rfl)
theorem dX6_holds_12 : decode cX6_holds 12 = .ok (.iaload, 1) := dk_46 (dk_at dksX6_holds_0 12 rfl rfl)
theorem dX6_holds_13 : decode cX6_holds 13 = .ok (.if_icmp .ge 96, 3) := dk_162 0 96 (dk_at dksX6_holds_0 13 rfl rfl)
theorem dX6_holds_16 : decode cX6_holds 16 = .ok (.aload_n 0, 1) := dk_42 (dk_at dksX6_holds_0 16 rfl rfl)
theorem dX6_holds_17 : decode cX6_holds 17 = .ok (.getfield 48, 3) := dk_180 0 48 (dk_at dksX6_holds_0 17 rfl rfl)
theorem dX6_holds_20 : decode cX6_holds 20 = .ok (.aload_n 0, 1) := dk_42 (dk_at dksX6_holds_0 20 rfl rfl)
theorem dX6_holds_21 : decode cX6_holds 21 = .ok (.getfield 24, 3) := dk_180 0 24 (dk_at dksX6_holds_0 21 rfl rfl)
theorem dX6_holds_24 : decode cX6_holds 24 = .ok (.iload_n 1, 1) := dk_27 (dk_at dksX6_holds_1 0 rfl rfl)
theorem dX6_holds_25 : decode cX6_holds 25 = .ok (.bipush 9, 2) := dk_16 9 (dk_at dksX6_holds_1 1 rfl rfl)
theorem dX6_holds_27 : decode cX6_holds 27 = .ok (.iadd, 1) := dk_96 (dk_at dksX6_holds_1 3 rfl rfl)
theorem dX6_holds_28 : decode cX6_holds 28 = .ok (.iconst 3, 1) := dk_6 (dk_at dksX6_holds_1 4 rfl rfl)
theorem dX6_holds_29 : decode cX6_holds 29 = .ok (.iload_n 3, 1) := dk_29 (dk_at dksX6_holds_1 5 rfl rfl)
theorem dX6_holds_30 : decode cX6_holds 30 = .ok (.imul, 1) := dk_104 (dk_at dksX6_holds_1 6 rfl rfl)
theorem dX6_holds_31 : decode cX6_holds 31 = .ok (.iadd, 1) := dk_96 (dk_at dksX6_holds_1 7 rfl rfl)
theorem dX6_holds_32 : decode cX6_holds 32 = .ok (.iaload, 1) := dk_46 (dk_at dksX6_holds_1 8 rfl rfl)
theorem dX6_holds_33 : decode cX6_holds 33 = .ok (.faload, 1) := dk_48 (dk_at dksX6_holds_1 9 rfl rfl)
theorem dX6_holds_34 : decode cX6_holds 34 = .ok (.fstore 4, 2) := dk_56 4 (dk_at dksX6_holds_1 10 rfl rfl)
theorem dX6_holds_36 : decode cX6_holds 36 = .ok (.aload_n 0, 1) := dk_42 (dk_at dksX6_holds_1 12 rfl rfl)
theorem dX6_holds_37 : decode cX6_holds 37 = .ok (.getfield 24, 3) := dk_180 0 24 (dk_at dksX6_holds_1 13 rfl rfl)
theorem dX6_holds_40 : decode cX6_holds 40 = .ok (.iload_n 1, 1) := dk_27 (dk_at dksX6_holds_1 16 rfl rfl)
theorem dX6_holds_41 : decode cX6_holds 41 = .ok (.bipush 9, 2) := dk_16 9 (dk_at dksX6_holds_1 17 rfl rfl)
theorem dX6_holds_43 : decode cX6_holds 43 = .ok (.iadd, 1) := dk_96 (dk_at dksX6_holds_1 19 rfl rfl)
theorem dX6_holds_44 : decode cX6_holds 44 = .ok (.iconst 3, 1) := dk_6 (dk_at dksX6_holds_1 20 rfl rfl)
theorem dX6_holds_45 : decode cX6_holds 45 = .ok (.iload_n 3, 1) := dk_29 (dk_at dksX6_holds_1 21 rfl rfl)
theorem dX6_holds_46 : decode cX6_holds 46 = .ok (.imul, 1) := dk_104 (dk_at dksX6_holds_1 22 rfl rfl)
theorem dX6_holds_47 : decode cX6_holds 47 = .ok (.iadd, 1) := dk_96 (dk_at dksX6_holds_1 23 rfl rfl)
theorem dX6_holds_48 : decode cX6_holds 48 = .ok (.iconst 2, 1) := dk_5 (dk_at dksX6_holds_2 0 rfl rfl)
theorem dX6_holds_49 : decode cX6_holds 49 = .ok (.iadd, 1) := dk_96 (dk_at dksX6_holds_2 1 rfl rfl)
theorem dX6_holds_50 : decode cX6_holds 50 = .ok (.iaload, 1) := dk_46 (dk_at dksX6_holds_2 2 rfl rfl)
theorem dX6_holds_51 : decode cX6_holds 51 = .ok (.i2f, 1) := dk_134 (dk_at dksX6_holds_2 3 rfl rfl)
theorem dX6_holds_52 : decode cX6_holds 52 = .ok (.fstore 5, 2) := dk_56 5 (dk_at dksX6_holds_2 4 rfl rfl)
theorem dX6_holds_54 : decode cX6_holds 54 = .ok (.iload_n 2, 1) := dk_28 (dk_at dksX6_holds_2 6 rfl rfl)
theorem dX6_holds_55 : decode cX6_holds 55 = .ok (.ifCond .eq 46, 3) := dk_153 0 46 (dk_at dksX6_holds_2 7 rfl rfl)
theorem dX6_holds_58 : decode cX6_holds 58 = .ok (.aload_n 0, 1) := dk_42 (dk_at dksX6_holds_2 10 rfl rfl)
theorem dX6_holds_59 : decode cX6_holds 59 = .ok (.getfield 24, 3) := dk_180 0 24 (dk_at dksX6_holds_2 11 rfl rfl)
theorem dX6_holds_62 : decode cX6_holds 62 = .ok (.iload_n 1, 1) := dk_27 (dk_at dksX6_holds_2 14 rfl rfl)
theorem dX6_holds_63 : decode cX6_holds 63 = .ok (.bipush 9, 2) := dk_16 9 (dk_at dksX6_holds_2 15 rfl rfl)
theorem dX6_holds_65 : decode cX6_holds 65 = .ok (.iadd, 1) := dk_96 (dk_at dksX6_holds_2 17 rfl rfl)
theorem dX6_holds_66 : decode cX6_holds 66 = .ok (.iconst 3, 1) := dk_6 (dk_at dksX6_holds_2 18 rfl rfl)
theorem dX6_holds_67 : decode cX6_holds 67 = .ok (.iload_n 3, 1) := dk_29 (dk_at dksX6_holds_2 19 rfl rfl)
theorem dX6_holds_68 : decode cX6_holds 68 = .ok (.imul, 1) := dk_104 (dk_at dksX6_holds_2 20 rfl rfl)
theorem dX6_holds_69 : decode cX6_holds 69 = .ok (.iadd, 1) := dk_96 (dk_at dksX6_holds_2 21 rfl rfl)
theorem dX6_holds_70 : decode cX6_holds 70 = .ok (.iconst 1, 1) := dk_4 (dk_at dksX6_holds_2 22 rfl rfl)
theorem dX6_holds_71 : decode cX6_holds 71 = .ok (.iadd, 1) := dk_96 (dk_at dksX6_holds_2 23 rfl rfl)
theorem dX6_holds_72 : decode cX6_holds 72 = .ok (.iaload, 1) := dk_46 (dk_at dksX6_holds_3 0 rfl rfl)
theorem dX6_holds_73 : decode cX6_holds 73 = .ok (.bipush 60, 2) := dk_16 60 (dk_at dksX6_holds_3 1 rfl rfl)
theorem dX6_holds_75 : decode cX6_holds 75 = .ok (.if_icmp .ne 14, 3) := dk_160 0 14 (dk_at dksX6_holds_3 3 rfl rfl)
theorem dX6_holds_78 : decode cX6_holds 78 = .ok (.fload 4, 2) := dk_23 4 (dk_at dksX6_holds_3 6 rfl rfl)
theorem dX6_holds_80 : decode cX6_holds 80 = .ok (.fload 5, 2) := dk_23 5 (dk_at dksX6_holds_3 8 rfl rfl)
theorem dX6_holds_82 : decode cX6_holds 82 = .ok (.fcmp .g, 1) := dk_150 (dk_at dksX6_holds_3 10 rfl rfl)
theorem dX6_holds_83 : decode cX6_holds 83 = .ok (.ifCond .ge 18, 3) := dk_156 0 18 (dk_at dksX6_holds_3 11 rfl rfl)
theorem dX6_holds_86 : decode cX6_holds 86 = .ok (.goto 11, 3) := dk_167 0 11 (dk_at dksX6_holds_3 14 rfl rfl)
theorem dX6_holds_89 : decode cX6_holds 89 = .ok (.fload 4, 2) := dk_23 4 (dk_at dksX6_holds_3 17 rfl rfl)
theorem dX6_holds_91 : decode cX6_holds 91 = .ok (.fload 5, 2) := dk_23 5 (dk_at dksX6_holds_3 19 rfl rfl)
theorem dX6_holds_93 : decode cX6_holds 93 = .ok (.fcmp .l, 1) := dk_149 (dk_at dksX6_holds_3 21 rfl rfl)
theorem dX6_holds_94 : decode cX6_holds 94 = .ok (.ifCond .le 7, 3) := dk_158 0 7 (dk_at dksX6_holds_4 0 rfl rfl)
theorem dX6_holds_97 : decode cX6_holds 97 = .ok (.iconst 1, 1) := dk_4 (dk_at dksX6_holds_4 3 rfl rfl)
theorem dX6_holds_98 : decode cX6_holds 98 = .ok (.goto 4, 3) := dk_167 0 4 (dk_at dksX6_holds_4 4 rfl rfl)
theorem dX6_holds_101 : decode cX6_holds 101 = .ok (.iconst 0, 1) := dk_3 (dk_at dksX6_holds_4 7 rfl rfl)
theorem dX6_holds_102 : decode cX6_holds 102 = .ok (.istore_n 2, 1) := dk_61 (dk_at dksX6_holds_4 8 rfl rfl)
theorem dX6_holds_103 : decode cX6_holds 103 = .ok (.iinc 3 1, 3) := dk_132 3 1 (dk_at dksX6_holds_4 9 rfl rfl)
theorem dX6_holds_106 : decode cX6_holds 106 = .ok (.goto (-102), 3) := dk_167 255 154 (dk_at dksX6_holds_4 12 rfl rfl)
theorem dX6_holds_109 : decode cX6_holds 109 = .ok (.iload_n 2, 1) := dk_28 (dk_at dksX6_holds_4 15 rfl rfl)
theorem dX6_holds_110 : decode cX6_holds 110 = .ok (.ireturn, 1) := dk_172 (dk_at dksX6_holds_4 16 rfl rfl)
def dkwX6_firstOf_1 : List UInt8 := [153, 0, 11, 42, 29, 182, 1, 132, 153, 0, 5, 29, 172, 132, 3, 1, 167, 255, 220, 2, 172]
abbrev dktX6_firstOf_1 : List UInt8 := dkwX6_firstOf_1 ++ []
def dkwX6_firstOf_0 : List UInt8 := [3, 62, 29, 42, 180, 0, 17, 8, 46, 162, 0, 32, 27, 29, 122, 4, 126, 4, 160, 0, 17, 28]
abbrev dktX6_firstOf_0 : List UInt8 := dkwX6_firstOf_0 ++ dktX6_firstOf_1
theorem dksX6_firstOf_0 : cX6_firstOf.data.toList.drop 0 = dktX6_firstOf_0 := by decide +kernel
theorem dksX6_firstOf_1 : cX6_firstOf.data.toList.drop 22 = dktX6_firstOf_1 := dk_seg dksX6_firstOf_0 22 rfl rfl
theorem dX6_firstOf_0 : decode cX6_firstOf 0 = .ok (.iconst 0, 1) := dk_3 (dk_at dksX6_firstOf_0 0 rfl rfl)
theorem dX6_firstOf_1 : decode cX6_firstOf 1 = .ok (.istore_n 3, 1) := dk_62 (dk_at dksX6_firstOf_0 1 rfl rfl)
theorem dX6_firstOf_2 : decode cX6_firstOf 2 = .ok (.iload_n 3, 1) := dk_29 (dk_at dksX6_firstOf_0 2 rfl rfl)
theorem dX6_firstOf_3 : decode cX6_firstOf 3 = .ok (.aload_n 0, 1) := dk_42 (dk_at dksX6_firstOf_0 3 rfl rfl)
theorem dX6_firstOf_4 : decode cX6_firstOf 4 = .ok (.getfield 17, 3) := dk_180 0 17 (dk_at dksX6_firstOf_0 4 rfl rfl)
theorem dX6_firstOf_7 : decode cX6_firstOf 7 = .ok (.iconst 5, 1) := dk_8 (dk_at dksX6_firstOf_0 7 rfl rfl)
theorem dX6_firstOf_8 : decode cX6_firstOf 8 = .ok (.iaload, 1) := dk_46 (dk_at dksX6_firstOf_0 8 rfl rfl)
theorem dX6_firstOf_9 : decode cX6_firstOf 9 = .ok (.if_icmp .ge 32, 3) := dk_162 0 32 (dk_at dksX6_firstOf_0 9 rfl rfl)
theorem dX6_firstOf_12 : decode cX6_firstOf 12 = .ok (.iload_n 1, 1) := dk_27 (dk_at dksX6_firstOf_0 12 rfl rfl)
theorem dX6_firstOf_13 : decode cX6_firstOf 13 = .ok (.iload_n 3, 1) := dk_29 (dk_at dksX6_firstOf_0 13 rfl rfl)
theorem dX6_firstOf_14 : decode cX6_firstOf 14 = .ok (.ishr, 1) := dk_122 (dk_at dksX6_firstOf_0 14 rfl rfl)
theorem dX6_firstOf_15 : decode cX6_firstOf 15 = .ok (.iconst 1, 1) := dk_4 (dk_at dksX6_firstOf_0 15 rfl rfl)
theorem dX6_firstOf_16 : decode cX6_firstOf 16 = .ok (.iand, 1) := dk_126 (dk_at dksX6_firstOf_0 16 rfl rfl)
theorem dX6_firstOf_17 : decode cX6_firstOf 17 = .ok (.iconst 1, 1) := dk_4 (dk_at dksX6_firstOf_0 17 rfl rfl)
theorem dX6_firstOf_18 : decode cX6_firstOf 18 = .ok (.if_icmp .ne 17, 3) := dk_160 0 17 (dk_at dksX6_firstOf_0 18 rfl rfl)
theorem dX6_firstOf_21 : decode cX6_firstOf 21 = .ok (.iload_n 2, 1) := dk_28 (dk_at dksX6_firstOf_0 21 rfl rfl)
theorem dX6_firstOf_22 : decode cX6_firstOf 22 = .ok (.ifCond .eq 11, 3) := dk_153 0 11 (dk_at dksX6_firstOf_1 0 rfl rfl)
theorem dX6_firstOf_25 : decode cX6_firstOf 25 = .ok (.aload_n 0, 1) := dk_42 (dk_at dksX6_firstOf_1 3 rfl rfl)
theorem dX6_firstOf_26 : decode cX6_firstOf 26 = .ok (.iload_n 3, 1) := dk_29 (dk_at dksX6_firstOf_1 4 rfl rfl)
theorem dX6_firstOf_27 : decode cX6_firstOf 27 = .ok (.invokevirtual 388, 3) := dk_182 1 132 (dk_at dksX6_firstOf_1 5 rfl rfl)
theorem dX6_firstOf_30 : decode cX6_firstOf 30 = .ok (.ifCond .eq 5, 3) := dk_153 0 5 (dk_at dksX6_firstOf_1 8 rfl rfl)
theorem dX6_firstOf_33 : decode cX6_firstOf 33 = .ok (.iload_n 3, 1) := dk_29 (dk_at dksX6_firstOf_1 11 rfl rfl)
theorem dX6_firstOf_34 : decode cX6_firstOf 34 = .ok (.ireturn, 1) := dk_172 (dk_at dksX6_firstOf_1 12 rfl rfl)
theorem dX6_firstOf_35 : decode cX6_firstOf 35 = .ok (.iinc 3 1, 3) := dk_132 3 1 (dk_at dksX6_firstOf_1 13 rfl rfl)
theorem dX6_firstOf_38 : decode cX6_firstOf 38 = .ok (.goto (-36), 3) := dk_167 255 220 (dk_at dksX6_firstOf_1 16 rfl rfl)
theorem dX6_firstOf_41 : decode cX6_firstOf 41 = .ok (.iconst (-1), 1) := dk_2 (dk_at dksX6_firstOf_1 19 rfl rfl)
theorem dX6_firstOf_42 : decode cX6_firstOf 42 = .ok (.ireturn, 1) := dk_172 (dk_at dksX6_firstOf_1 20 rfl rfl)
def dkwX6_isAlwaysOne_1 : List UInt8 := [172]
abbrev dktX6_isAlwaysOne_1 : List UInt8 := dkwX6_isAlwaysOne_1 ++ []
def dkwX6_isAlwaysOne_0 : List UInt8 := [42, 180, 0, 24, 17, 1, 219, 16, 27, 27, 104, 96, 3, 96, 46, 4, 160, 0, 7, 4, 167, 0, 4, 3]
abbrev dktX6_isAlwaysOne_0 : List UInt8 := dkwX6_isAlwaysOne_0 ++ dktX6_isAlwaysOne_1
theorem dksX6_isAlwaysOne_0 : cX6_isAlwaysOne.data.toList.drop 0 = dktX6_isAlwaysOne_0 := by decide +kernel
theorem dksX6_isAlwaysOne_1 : cX6_isAlwaysOne.data.toList.drop 24 = dktX6_isAlwaysOne_1 := dk_seg dksX6_isAlwaysOne_0 24 rfl rfl
theorem dX6_isAlwaysOne_0 : decode cX6_isAlwaysOne 0 = .ok (.aload_n 0, 1) := dk_42 (dk_at dksX6_isAlwaysOne_0 0 rfl rfl)
theorem dX6_isAlwaysOne_1 : decode cX6_isAlwaysOne 1 = .ok (.getfield 24, 3) := dk_180 0 24 (dk_at dksX6_isAlwaysOne_0 1 rfl rfl)
theorem dX6_isAlwaysOne_4 : decode cX6_isAlwaysOne 4 = .ok (.sipush 475, 3) := dk_17 1 219 (dk_at dksX6_isAlwaysOne_0 4 rfl rfl)
theorem dX6_isAlwaysOne_7 : decode cX6_isAlwaysOne 7 = .ok (.bipush 27, 2) := dk_16 27 (dk_at dksX6_isAlwaysOne_0 7 rfl rfl)
theorem dX6_isAlwaysOne_9 : decode cX6_isAlwaysOne 9 = .ok (.iload_n 1, 1) := dk_27 (dk_at dksX6_isAlwaysOne_0 9 rfl rfl)
theorem dX6_isAlwaysOne_10 : decode cX6_isAlwaysOne 10 = .ok (.imul, 1) := dk_104 (dk_at dksX6_isAlwaysOne_0 10 rfl rfl)
theorem dX6_isAlwaysOne_11 : decode cX6_isAlwaysOne 11 = .ok (.iadd, 1) := dk_96 (dk_at dksX6_isAlwaysOne_0 11 rfl rfl)
theorem dX6_isAlwaysOne_12 : decode cX6_isAlwaysOne 12 = .ok (.iconst 0, 1) := dk_3 (dk_at dksX6_isAlwaysOne_0 12 rfl rfl)
theorem dX6_isAlwaysOne_13 : decode cX6_isAlwaysOne 13 = .ok (.iadd, 1) := dk_96 (dk_at dksX6_isAlwaysOne_0 13 rfl rfl)
theorem dX6_isAlwaysOne_14 : decode cX6_isAlwaysOne 14 = .ok (.iaload, 1) := dk_46 (dk_at dksX6_isAlwaysOne_0 14 rfl rfl)
theorem dX6_isAlwaysOne_15 : decode cX6_isAlwaysOne 15 = .ok (.iconst 1, 1) := dk_4 (dk_at dksX6_isAlwaysOne_0 15 rfl rfl)
theorem dX6_isAlwaysOne_16 : decode cX6_isAlwaysOne 16 = .ok (.if_icmp .ne 7, 3) := dk_160 0 7 (dk_at dksX6_isAlwaysOne_0 16 rfl rfl)
theorem dX6_isAlwaysOne_19 : decode cX6_isAlwaysOne 19 = .ok (.iconst 1, 1) := dk_4 (dk_at dksX6_isAlwaysOne_0 19 rfl rfl)
theorem dX6_isAlwaysOne_20 : decode cX6_isAlwaysOne 20 = .ok (.goto 4, 3) := dk_167 0 4 (dk_at dksX6_isAlwaysOne_0 20 rfl rfl)
theorem dX6_isAlwaysOne_23 : decode cX6_isAlwaysOne 23 = .ok (.iconst 0, 1) := dk_3 (dk_at dksX6_isAlwaysOne_0 23 rfl rfl)
theorem dX6_isAlwaysOne_24 : decode cX6_isAlwaysOne 24 = .ok (.ireturn, 1) := dk_172 (dk_at dksX6_isAlwaysOne_1 0 rfl rfl)
def dkwX6_pushFlag_3 : List UInt8 := [16, 8, 28, 153, 0, 7, 4, 167, 0, 4, 3, 182, 1, 14, 177]
abbrev dktX6_pushFlag_3 : List UInt8 := dkwX6_pushFlag_3 ++ []
def dkwX6_pushFlag_2 : List UInt8 := [182, 1, 14, 42, 27, 8, 16, 64, 42, 27, 8, 182, 0, 70, 4, 96, 184, 0, 120, 182, 1, 14, 42, 27]
abbrev dktX6_pushFlag_2 : List UInt8 := dkwX6_pushFlag_2 ++ dktX6_pushFlag_3
def dkwX6_pushFlag_1 : List UInt8 := [182, 1, 14, 132, 3, 255, 167, 255, 229, 42, 27, 16, 16, 28, 153, 0, 7, 4, 167, 0, 4, 3]
abbrev dktX6_pushFlag_1 : List UInt8 := dkwX6_pushFlag_1 ++ dktX6_pushFlag_2
def dkwX6_pushFlag_0 : List UInt8 := [16, 63, 62, 29, 158, 0, 29, 42, 27, 16, 16, 29, 96, 42, 27, 16, 16, 29, 96, 4, 100, 182, 0, 70]
abbrev dktX6_pushFlag_0 : List UInt8 := dkwX6_pushFlag_0 ++ dktX6_pushFlag_1
theorem dksX6_pushFlag_0 : cX6_pushFlag.data.toList.drop 0 = dktX6_pushFlag_0 := by decide +kernel
theorem dksX6_pushFlag_1 : cX6_pushFlag.data.toList.drop 24 = dktX6_pushFlag_1 := dk_seg dksX6_pushFlag_0 24 rfl rfl
theorem dksX6_pushFlag_2 : cX6_pushFlag.data.toList.drop 46 = dktX6_pushFlag_2 := dk_seg dksX6_pushFlag_1 22 rfl rfl
theorem dksX6_pushFlag_3 : cX6_pushFlag.data.toList.drop 70 = dktX6_pushFlag_3 := dk_seg dksX6_pushFlag_2 24 rfl rfl
theorem dX6_pushFlag_0 : decode cX6_pushFlag 0 = .ok (.bipush 63, 2) := dk_16 63 (dk_at dksX6_pushFlag_0 0 rfl rfl)
theorem dX6_pushFlag_2 : decode cX6_pushFlag 2 = .ok (.istore_n 3, 1) := dk_62 (dk_at dksX6_pushFlag_0 2 rfl rfl)
theorem dX6_pushFlag_3 : decode cX6_pushFlag 3 = .ok (.iload_n 3, 1) := dk_29 (dk_at dksX6_pushFlag_0 3 rfl rfl)
theorem dX6_pushFlag_4 : decode cX6_pushFlag 4 = .ok (.ifCond .le 29, 3) := dk_158 0 29 (dk_at dksX6_pushFlag_0 4 rfl rfl)
theorem dX6_pushFlag_7 : decode cX6_pushFlag 7 = .ok (.aload_n 0, 1) := dk_42 (dk_at dksX6_pushFlag_0 7 rfl rfl)
theorem dX6_pushFlag_8 : decode cX6_pushFlag 8 = .ok (.iload_n 1, 1) := dk_27 (dk_at dksX6_pushFlag_0 8 rfl rfl)
theorem dX6_pushFlag_9 : decode cX6_pushFlag 9 = .ok (.bipush 16, 2) := dk_16 16 (dk_at dksX6_pushFlag_0 9 rfl rfl)
theorem dX6_pushFlag_11 : decode cX6_pushFlag 11 = .ok (.iload_n 3, 1) := dk_29 (dk_at dksX6_pushFlag_0 11 rfl rfl)
theorem dX6_pushFlag_12 : decode cX6_pushFlag 12 = .ok (.iadd, 1) := dk_96 (dk_at dksX6_pushFlag_0 12 rfl rfl)
theorem dX6_pushFlag_13 : decode cX6_pushFlag 13 = .ok (.aload_n 0, 1) := dk_42 (dk_at dksX6_pushFlag_0 13 rfl rfl)
theorem dX6_pushFlag_14 : decode cX6_pushFlag 14 = .ok (.iload_n 1, 1) := dk_27 (dk_at dksX6_pushFlag_0 14 rfl rfl)
theorem dX6_pushFlag_15 : decode cX6_pushFlag 15 = .ok (.bipush 16, 2) := dk_16 16 (dk_at dksX6_pushFlag_0 15 rfl rfl)
theorem dX6_pushFlag_17 : decode cX6_pushFlag 17 = .ok (.iload_n 3, 1) := dk_29 (dk_at dksX6_pushFlag_0 17 rfl rfl)
theorem dX6_pushFlag_18 : decode cX6_pushFlag 18 = .ok (.iadd, 1) := dk_96 (dk_at dksX6_pushFlag_0 18 rfl rfl)
theorem dX6_pushFlag_19 : decode cX6_pushFlag 19 = .ok (.iconst 1, 1) := dk_4 (dk_at dksX6_pushFlag_0 19 rfl rfl)
theorem dX6_pushFlag_20 : decode cX6_pushFlag 20 = .ok (.isub, 1) := dk_100 (dk_at dksX6_pushFlag_0 20 rfl rfl)
theorem dX6_pushFlag_21 : decode cX6_pushFlag 21 = .ok (.invokevirtual 70, 3) := dk_182 0 70 (dk_at dksX6_pushFlag_0 21 rfl rfl)
theorem dX6_pushFlag_24 : decode cX6_pushFlag 24 = .ok (.invokevirtual 270, 3) := dk_182 1 14 (dk_at dksX6_pushFlag_1 0 rfl rfl)
theorem dX6_pushFlag_27 : decode cX6_pushFlag 27 = .ok (.iinc 3 (-1), 3) := dk_132 3 255 (dk_at dksX6_pushFlag_1 3 rfl rfl)
theorem dX6_pushFlag_30 : decode cX6_pushFlag 30 = .ok (.goto (-27), 3) := dk_167 255 229 (dk_at dksX6_pushFlag_1 6 rfl rfl)
theorem dX6_pushFlag_33 : decode cX6_pushFlag 33 = .ok (.aload_n 0, 1) := dk_42 (dk_at dksX6_pushFlag_1 9 rfl rfl)
theorem dX6_pushFlag_34 : decode cX6_pushFlag 34 = .ok (.iload_n 1, 1) := dk_27 (dk_at dksX6_pushFlag_1 10 rfl rfl)
theorem dX6_pushFlag_35 : decode cX6_pushFlag 35 = .ok (.bipush 16, 2) := dk_16 16 (dk_at dksX6_pushFlag_1 11 rfl rfl)
theorem dX6_pushFlag_37 : decode cX6_pushFlag 37 = .ok (.iload_n 2, 1) := dk_28 (dk_at dksX6_pushFlag_1 13 rfl rfl)
theorem dX6_pushFlag_38 : decode cX6_pushFlag 38 = .ok (.ifCond .eq 7, 3) := dk_153 0 7 (dk_at dksX6_pushFlag_1 14 rfl rfl)
theorem dX6_pushFlag_41 : decode cX6_pushFlag 41 = .ok (.iconst 1, 1) := dk_4 (dk_at dksX6_pushFlag_1 17 rfl rfl)
theorem dX6_pushFlag_42 : decode cX6_pushFlag 42 = .ok (.goto 4, 3) := dk_167 0 4 (dk_at dksX6_pushFlag_1 18 rfl rfl)
theorem dX6_pushFlag_45 : decode cX6_pushFlag 45 = .ok (.iconst 0, 1) := dk_3 (dk_at dksX6_pushFlag_1 21 rfl rfl)
theorem dX6_pushFlag_46 : decode cX6_pushFlag 46 = .ok (.invokevirtual 270, 3) := dk_182 1 14 (dk_at dksX6_pushFlag_2 0 rfl rfl)
theorem dX6_pushFlag_49 : decode cX6_pushFlag 49 = .ok (.aload_n 0, 1) := dk_42 (dk_at dksX6_pushFlag_2 3 rfl rfl)
theorem dX6_pushFlag_50 : decode cX6_pushFlag 50 = .ok (.iload_n 1, 1) := dk_27 (dk_at dksX6_pushFlag_2 4 rfl rfl)
theorem dX6_pushFlag_51 : decode cX6_pushFlag 51 = .ok (.iconst 5, 1) := dk_8 (dk_at dksX6_pushFlag_2 5 rfl rfl)
theorem dX6_pushFlag_52 : decode cX6_pushFlag 52 = .ok (.bipush 64, 2) := dk_16 64 (dk_at dksX6_pushFlag_2 6 rfl rfl)
theorem dX6_pushFlag_54 : decode cX6_pushFlag 54 = .ok (.aload_n 0, 1) := dk_42 (dk_at dksX6_pushFlag_2 8 rfl rfl)
theorem dX6_pushFlag_55 : decode cX6_pushFlag 55 = .ok (.iload_n 1, 1) := dk_27 (dk_at dksX6_pushFlag_2 9 rfl rfl)
theorem dX6_pushFlag_56 : decode cX6_pushFlag 56 = .ok (.iconst 5, 1) := dk_8 (dk_at dksX6_pushFlag_2 10 rfl rfl)
theorem dX6_pushFlag_57 : decode cX6_pushFlag 57 = .ok (.invokevirtual 70, 3) := dk_182 0 70 (dk_at dksX6_pushFlag_2 11 rfl rfl)
theorem dX6_pushFlag_60 : decode cX6_pushFlag 60 = .ok (.iconst 1, 1) := dk_4 (dk_at dksX6_pushFlag_2 14 rfl rfl)
theorem dX6_pushFlag_61 : decode cX6_pushFlag 61 = .ok (.iadd, 1) := dk_96 (dk_at dksX6_pushFlag_2 15 rfl rfl)
theorem dX6_pushFlag_62 : decode cX6_pushFlag 62 = .ok (.invokestatic 120, 3) := dk_184 0 120 (dk_at dksX6_pushFlag_2 16 rfl rfl)
theorem dX6_pushFlag_65 : decode cX6_pushFlag 65 = .ok (.invokevirtual 270, 3) := dk_182 1 14 (dk_at dksX6_pushFlag_2 19 rfl rfl)
theorem dX6_pushFlag_68 : decode cX6_pushFlag 68 = .ok (.aload_n 0, 1) := dk_42 (dk_at dksX6_pushFlag_2 22 rfl rfl)
theorem dX6_pushFlag_69 : decode cX6_pushFlag 69 = .ok (.iload_n 1, 1) := dk_27 (dk_at dksX6_pushFlag_2 23 rfl rfl)
theorem dX6_pushFlag_70 : decode cX6_pushFlag 70 = .ok (.bipush 8, 2) := dk_16 8 (dk_at dksX6_pushFlag_3 0 rfl rfl)
theorem dX6_pushFlag_72 : decode cX6_pushFlag 72 = .ok (.iload_n 2, 1) := dk_28 (dk_at dksX6_pushFlag_3 2 rfl rfl)
theorem dX6_pushFlag_73 : decode cX6_pushFlag 73 = .ok (.ifCond .eq 7, 3) := dk_153 0 7 (dk_at dksX6_pushFlag_3 3 rfl rfl)
theorem dX6_pushFlag_76 : decode cX6_pushFlag 76 = .ok (.iconst 1, 1) := dk_4 (dk_at dksX6_pushFlag_3 6 rfl rfl)
theorem dX6_pushFlag_77 : decode cX6_pushFlag 77 = .ok (.goto 4, 3) := dk_167 0 4 (dk_at dksX6_pushFlag_3 7 rfl rfl)
theorem dX6_pushFlag_80 : decode cX6_pushFlag 80 = .ok (.iconst 0, 1) := dk_3 (dk_at dksX6_pushFlag_3 10 rfl rfl)
theorem dX6_pushFlag_81 : decode cX6_pushFlag 81 = .ok (.invokevirtual 270, 3) := dk_182 1 14 (dk_at dksX6_pushFlag_3 11 rfl rfl)
theorem dX6_pushFlag_84 : decode cX6_pushFlag 84 = .ok (.return_, 1) := dk_177 (dk_at dksX6_pushFlag_3 14 rfl rfl)
def dkwX6_trip_13 : List UInt8 := [6, 3, 182, 1, 14, 42, 27, 8, 3, 182, 1, 14, 177]
abbrev dktX6_trip_13 : List UInt8 := dkwX6_trip_13 ++ []
def dkwX6_trip_12 : List UInt8 := [21, 5, 182, 1, 14, 42, 27, 4, 21, 5, 6, 161, 0, 7, 5, 167, 0, 4, 4, 182, 1, 14, 42, 27]
abbrev dktX6_trip_12 : List UInt8 := dkwX6_trip_12 ++ dktX6_trip_13
def dkwX6_trip_11 : List UInt8 := [180, 0, 17, 16, 10, 92, 46, 4, 96, 79, 42, 27, 5, 182, 0, 70, 4, 96, 54, 5, 42, 27, 5]
abbrev dktX6_trip_11 : List UInt8 := dkwX6_trip_11 ++ dktX6_trip_12
def dkwX6_trip_10 : List UInt8 := [180, 0, 27, 17, 0, 152, 42, 180, 0, 17, 16, 10, 46, 96, 42, 27, 3, 182, 1, 135, 81, 42]
abbrev dktX6_trip_10 : List UInt8 := dkwX6_trip_10 ++ dktX6_trip_11
def dkwX6_trip_9 : List UInt8 := [21, 5, 100, 79, 132, 4, 1, 132, 5, 255, 167, 255, 208, 42, 180, 0, 17, 29, 7, 96, 21, 4, 79, 42]
abbrev dktX6_trip_9 : List UInt8 := dkwX6_trip_9 ++ dktX6_trip_10
def dkwX6_trip_8 : List UInt8 := [154, 0, 6, 167, 0, 27, 42, 180, 0, 17, 29, 8, 96, 21, 4, 96, 42, 180, 0, 17, 16, 8, 46]
abbrev dktX6_trip_8 : List UInt8 := dkwX6_trip_8 ++ dktX6_trip_9
def dkwX6_trip_7 : List UInt8 := [182, 1, 149, 4, 100, 54, 5, 21, 5, 155, 0, 49, 42, 27, 16, 16, 21, 5, 96, 182, 0, 70]
abbrev dktX6_trip_7 : List UInt8 := dkwX6_trip_7 ++ dktX6_trip_8
def dkwX6_trip_6 : List UInt8 := [28, 79, 42, 180, 0, 17, 29, 6, 96, 42, 27, 16, 9, 182, 0, 70, 79, 3, 54, 4, 42, 27]
abbrev dktX6_trip_6 : List UInt8 := dkwX6_trip_6 ++ dktX6_trip_7
def dkwX6_trip_5 : List UInt8 := [42, 180, 0, 17, 16, 8, 46, 79, 42, 180, 0, 17, 29, 4, 96, 27, 79, 42, 180, 0, 17, 29, 5, 96]
abbrev dktX6_trip_5 : List UInt8 := dkwX6_trip_5 ++ dktX6_trip_6
def dkwX6_trip_4 : List UInt8 := [100, 79, 17, 3, 145, 16, 69, 42, 180, 0, 17, 16, 10, 46, 104, 96, 62, 42, 180, 0, 17, 29, 3, 96]
abbrev dktX6_trip_4 : List UInt8 := dkwX6_trip_4 ++ dktX6_trip_5
def dkwX6_trip_3 : List UInt8 := [17, 0, 152, 29, 96, 4, 96, 48, 81, 132, 3, 1, 167, 255, 225, 42, 180, 0, 17, 16, 10, 92, 46, 4]
abbrev dktX6_trip_3 : List UInt8 := dkwX6_trip_3 ++ dktX6_trip_4
def dkwX6_trip_2 : List UInt8 := [167, 255, 226, 3, 62, 29, 16, 7, 162, 0, 31, 42, 180, 0, 27, 17, 0, 152, 29, 96, 42, 180, 0, 27]
abbrev dktX6_trip_2 : List UInt8 := dkwX6_trip_2 ++ dktX6_trip_3
def dkwX6_trip_1 : List UInt8 := [180, 0, 17, 17, 3, 145, 29, 96, 42, 180, 0, 17, 17, 3, 214, 29, 96, 46, 79, 132, 3, 1]
abbrev dktX6_trip_1 : List UInt8 := dkwX6_trip_1 ++ dktX6_trip_2
def dkwX6_trip_0 : List UInt8 := [42, 180, 0, 17, 16, 10, 46, 16, 8, 160, 0, 85, 3, 62, 29, 17, 1, 227, 162, 0, 29, 42]
abbrev dktX6_trip_0 : List UInt8 := dkwX6_trip_0 ++ dktX6_trip_1
theorem dksX6_trip_0 : cX6_trip.data.toList.drop 0 = dktX6_trip_0 := by decide +kernel
theorem dksX6_trip_1 : cX6_trip.data.toList.drop 22 = dktX6_trip_1 := dk_seg dksX6_trip_0 22 rfl rfl
theorem dksX6_trip_2 : cX6_trip.data.toList.drop 44 = dktX6_trip_2 := dk_seg dksX6_trip_1 22 rfl rfl
theorem dksX6_trip_3 : cX6_trip.data.toList.drop 68 = dktX6_trip_3 := dk_seg dksX6_trip_2 24 rfl rfl
theorem dksX6_trip_4 : cX6_trip.data.toList.drop 92 = dktX6_trip_4 := dk_seg dksX6_trip_3 24 rfl rfl
theorem dksX6_trip_5 : cX6_trip.data.toList.drop 116 = dktX6_trip_5 := dk_seg dksX6_trip_4 24 rfl rfl
theorem dksX6_trip_6 : cX6_trip.data.toList.drop 140 = dktX6_trip_6 := dk_seg dksX6_trip_5 24 rfl rfl
theorem dksX6_trip_7 : cX6_trip.data.toList.drop 162 = dktX6_trip_7 := dk_seg dksX6_trip_6 22 rfl rfl
theorem dksX6_trip_8 : cX6_trip.data.toList.drop 184 = dktX6_trip_8 := dk_seg dksX6_trip_7 22 rfl rfl
theorem dksX6_trip_9 : cX6_trip.data.toList.drop 207 = dktX6_trip_9 := dk_seg dksX6_trip_8 23 rfl rfl
theorem dksX6_trip_10 : cX6_trip.data.toList.drop 231 = dktX6_trip_10 := dk_seg dksX6_trip_9 24 rfl rfl
theorem dksX6_trip_11 : cX6_trip.data.toList.drop 253 = dktX6_trip_11 := dk_seg dksX6_trip_10 22 rfl rfl
theorem dksX6_trip_12 : cX6_trip.data.toList.drop 276 = dktX6_trip_12 := dk_seg dksX6_trip_11 23 rfl rfl
theorem dksX6_trip_13 : cX6_trip.data.toList.drop 300 = dktX6_trip_13 := dk_seg dksX6_trip_12 24 rfl rfl
theorem dX6_trip_0 : decode cX6_trip 0 = .ok (.aload_n 0, 1) := dk_42 (dk_at dksX6_trip_0 0 rfl rfl)
theorem dX6_trip_1 : decode cX6_trip 1 = .ok (.getfield 17, 3) := dk_180 0 17 (dk_at dksX6_trip_0 1 rfl rfl)
theorem dX6_trip_4 : decode cX6_trip 4 = .ok (.bipush 10, 2) := dk_16 10 (dk_at dksX6_trip_0 4 rfl rfl)
theorem dX6_trip_6 : decode cX6_trip 6 = .ok (.iaload, 1) := dk_46 (dk_at dksX6_trip_0 6 rfl rfl)
theorem dX6_trip_7 : decode cX6_trip 7 = .ok (.bipush 8, 2) := dk_16 8 (dk_at dksX6_trip_0 7 rfl rfl)
theorem dX6_trip_9 : decode cX6_trip 9 = .ok (.if_icmp .ne 85, 3) := dk_160 0 85 (dk_at dksX6_trip_0 9 rfl rfl)
theorem dX6_trip_12 : decode cX6_trip 12 = .ok (.iconst 0, 1) := dk_3 (dk_at dksX6_trip_0 12 rfl rfl)
theorem dX6_trip_13 : decode cX6_trip 13 = .ok (.istore_n 3, 1) := dk_62 (dk_at dksX6_trip_0 13 rfl rfl)
theorem dX6_trip_14 : decode cX6_trip 14 = .ok (.iload_n 3, 1) := dk_29 (dk_at dksX6_trip_0 14 rfl rfl)
theorem dX6_trip_15 : decode cX6_trip 15 = .ok (.sipush 483, 3) := dk_17 1 227 (dk_at dksX6_trip_0 15 rfl rfl)
theorem dX6_trip_18 : decode cX6_trip 18 = .ok (.if_icmp .ge 29, 3) := dk_162 0 29 (dk_at dksX6_trip_0 18 rfl rfl)
theorem dX6_trip_21 : decode cX6_trip 21 = .ok (.aload_n 0, 1) := dk_42 (dk_at dksX6_trip_0 21 rfl rfl)
theorem dX6_trip_22 : decode cX6_trip 22 = .ok (.getfield 17, 3) := dk_180 0 17 (dk_at dksX6_trip_1 0 rfl rfl)
theorem dX6_trip_25 : decode cX6_trip 25 = .ok (.sipush 913, 3) := dk_17 3 145 (dk_at dksX6_trip_1 3 rfl rfl)
theorem dX6_trip_28 : decode cX6_trip 28 = .ok (.iload_n 3, 1) := dk_29 (dk_at dksX6_trip_1 6 rfl rfl)
theorem dX6_trip_29 : decode cX6_trip 29 = .ok (.iadd, 1) := dk_96 (dk_at dksX6_trip_1 7 rfl rfl)
theorem dX6_trip_30 : decode cX6_trip 30 = .ok (.aload_n 0, 1) := dk_42 (dk_at dksX6_trip_1 8 rfl rfl)
theorem dX6_trip_31 : decode cX6_trip 31 = .ok (.getfield 17, 3) := dk_180 0 17 (dk_at dksX6_trip_1 9 rfl rfl)
theorem dX6_trip_34 : decode cX6_trip 34 = .ok (.sipush 982, 3) := dk_17 3 214 (dk_at dksX6_trip_1 12 rfl rfl)
theorem dX6_trip_37 : decode cX6_trip 37 = .ok (.iload_n 3, 1) := dk_29 (dk_at dksX6_trip_1 15 rfl rfl)
theorem dX6_trip_38 : decode cX6_trip 38 = .ok (.iadd, 1) := dk_96 (dk_at dksX6_trip_1 16 rfl rfl)
theorem dX6_trip_39 : decode cX6_trip 39 = .ok (.iaload, 1) := dk_46 (dk_at dksX6_trip_1 17 rfl rfl)
theorem dX6_trip_40 : decode cX6_trip 40 = .ok (.iastore, 1) := dk_79 (dk_at dksX6_trip_1 18 rfl rfl)
theorem dX6_trip_41 : decode cX6_trip 41 = .ok (.iinc 3 1, 3) := dk_132 3 1 (dk_at dksX6_trip_1 19 rfl rfl)
theorem dX6_trip_44 : decode cX6_trip 44 = .ok (.goto (-30), 3) := dk_167 255 226 (dk_at dksX6_trip_2 0 rfl rfl)
theorem dX6_trip_47 : decode cX6_trip 47 = .ok (.iconst 0, 1) := dk_3 (dk_at dksX6_trip_2 3 rfl rfl)
theorem dX6_trip_48 : decode cX6_trip 48 = .ok (.istore_n 3, 1) := dk_62 (dk_at dksX6_trip_2 4 rfl rfl)
theorem dX6_trip_49 : decode cX6_trip 49 = .ok (.iload_n 3, 1) := dk_29 (dk_at dksX6_trip_2 5 rfl rfl)
theorem dX6_trip_50 : decode cX6_trip 50 = .ok (.bipush 7, 2) := dk_16 7 (dk_at dksX6_trip_2 6 rfl rfl)
theorem dX6_trip_52 : decode cX6_trip 52 = .ok (.if_icmp .ge 31, 3) := dk_162 0 31 (dk_at dksX6_trip_2 8 rfl rfl)
theorem dX6_trip_55 : decode cX6_trip 55 = .ok (.aload_n 0, 1) := dk_42 (dk_at dksX6_trip_2 11 rfl rfl)
theorem dX6_trip_56 : decode cX6_trip 56 = .ok (.getfield 27, 3) := dk_180 0 27 (dk_at dksX6_trip_2 12 rfl rfl)
theorem dX6_trip_59 : decode cX6_trip 59 = .ok (.sipush 152, 3) := dk_17 0 152 (dk_at dksX6_trip_2 15 rfl rfl)
theorem dX6_trip_62 : decode cX6_trip 62 = .ok (.iload_n 3, 1) := dk_29 (dk_at dksX6_trip_2 18 rfl rfl)
theorem dX6_trip_63 : decode cX6_trip 63 = .ok (.iadd, 1) := dk_96 (dk_at dksX6_trip_2 19 rfl rfl)
theorem dX6_trip_64 : decode cX6_trip 64 = .ok (.aload_n 0, 1) := dk_42 (dk_at dksX6_trip_2 20 rfl rfl)
theorem dX6_trip_65 : decode cX6_trip 65 = .ok (.getfield 27, 3) := dk_180 0 27 (dk_at dksX6_trip_2 21 rfl rfl)
theorem dX6_trip_68 : decode cX6_trip 68 = .ok (.sipush 152, 3) := dk_17 0 152 (dk_at dksX6_trip_3 0 rfl rfl)
theorem dX6_trip_71 : decode cX6_trip 71 = .ok (.iload_n 3, 1) := dk_29 (dk_at dksX6_trip_3 3 rfl rfl)
theorem dX6_trip_72 : decode cX6_trip 72 = .ok (.iadd, 1) := dk_96 (dk_at dksX6_trip_3 4 rfl rfl)
theorem dX6_trip_73 : decode cX6_trip 73 = .ok (.iconst 1, 1) := dk_4 (dk_at dksX6_trip_3 5 rfl rfl)
theorem dX6_trip_74 : decode cX6_trip 74 = .ok (.iadd, 1) := dk_96 (dk_at dksX6_trip_3 6 rfl rfl)
theorem dX6_trip_75 : decode cX6_trip 75 = .ok (.faload, 1) := dk_48 (dk_at dksX6_trip_3 7 rfl rfl)
theorem dX6_trip_76 : decode cX6_trip 76 = .ok (.fastore, 1) := dk_81 (dk_at dksX6_trip_3 8 rfl rfl)
theorem dX6_trip_77 : decode cX6_trip 77 = .ok (.iinc 3 1, 3) := dk_132 3 1 (dk_at dksX6_trip_3 9 rfl rfl)
theorem dX6_trip_80 : decode cX6_trip 80 = .ok (.goto (-31), 3) := dk_167 255 225 (dk_at dksX6_trip_3 12 rfl rfl)
theorem dX6_trip_83 : decode cX6_trip 83 = .ok (.aload_n 0, 1) := dk_42 (dk_at dksX6_trip_3 15 rfl rfl)
theorem dX6_trip_84 : decode cX6_trip 84 = .ok (.getfield 17, 3) := dk_180 0 17 (dk_at dksX6_trip_3 16 rfl rfl)
theorem dX6_trip_87 : decode cX6_trip 87 = .ok (.bipush 10, 2) := dk_16 10 (dk_at dksX6_trip_3 19 rfl rfl)
theorem dX6_trip_89 : decode cX6_trip 89 = .ok (.dup2, 1) := dk_92 (dk_at dksX6_trip_3 21 rfl rfl)
theorem dX6_trip_90 : decode cX6_trip 90 = .ok (.iaload, 1) := dk_46 (dk_at dksX6_trip_3 22 rfl rfl)
theorem dX6_trip_91 : decode cX6_trip 91 = .ok (.iconst 1, 1) := dk_4 (dk_at dksX6_trip_3 23 rfl rfl)
theorem dX6_trip_92 : decode cX6_trip 92 = .ok (.isub, 1) := dk_100 (dk_at dksX6_trip_4 0 rfl rfl)
theorem dX6_trip_93 : decode cX6_trip 93 = .ok (.iastore, 1) := dk_79 (dk_at dksX6_trip_4 1 rfl rfl)
theorem dX6_trip_94 : decode cX6_trip 94 = .ok (.sipush 913, 3) := dk_17 3 145 (dk_at dksX6_trip_4 2 rfl rfl)
theorem dX6_trip_97 : decode cX6_trip 97 = .ok (.bipush 69, 2) := dk_16 69 (dk_at dksX6_trip_4 5 rfl rfl)
theorem dX6_trip_99 : decode cX6_trip 99 = .ok (.aload_n 0, 1) := dk_42 (dk_at dksX6_trip_4 7 rfl rfl)
theorem dX6_trip_100 : decode cX6_trip 100 = .ok (.getfield 17, 3) := dk_180 0 17 (dk_at dksX6_trip_4 8 rfl rfl)
theorem dX6_trip_103 : decode cX6_trip 103 = .ok (.bipush 10, 2) := dk_16 10 (dk_at dksX6_trip_4 11 rfl rfl)
theorem dX6_trip_105 : decode cX6_trip 105 = .ok (.iaload, 1) := dk_46 (dk_at dksX6_trip_4 13 rfl rfl)
theorem dX6_trip_106 : decode cX6_trip 106 = .ok (.imul, 1) := dk_104 (dk_at dksX6_trip_4 14 rfl rfl)
theorem dX6_trip_107 : decode cX6_trip 107 = .ok (.iadd, 1) := dk_96 (dk_at dksX6_trip_4 15 rfl rfl)
theorem dX6_trip_108 : decode cX6_trip 108 = .ok (.istore_n 3, 1) := dk_62 (dk_at dksX6_trip_4 16 rfl rfl)
theorem dX6_trip_109 : decode cX6_trip 109 = .ok (.aload_n 0, 1) := dk_42 (dk_at dksX6_trip_4 17 rfl rfl)
theorem dX6_trip_110 : decode cX6_trip 110 = .ok (.getfield 17, 3) := dk_180 0 17 (dk_at dksX6_trip_4 18 rfl rfl)
theorem dX6_trip_113 : decode cX6_trip 113 = .ok (.iload_n 3, 1) := dk_29 (dk_at dksX6_trip_4 21 rfl rfl)
theorem dX6_trip_114 : decode cX6_trip 114 = .ok (.iconst 0, 1) := dk_3 (dk_at dksX6_trip_4 22 rfl rfl)
theorem dX6_trip_115 : decode cX6_trip 115 = .ok (.iadd, 1) := dk_96 (dk_at dksX6_trip_4 23 rfl rfl)
theorem dX6_trip_116 : decode cX6_trip 116 = .ok (.aload_n 0, 1) := dk_42 (dk_at dksX6_trip_5 0 rfl rfl)
theorem dX6_trip_117 : decode cX6_trip 117 = .ok (.getfield 17, 3) := dk_180 0 17 (dk_at dksX6_trip_5 1 rfl rfl)
theorem dX6_trip_120 : decode cX6_trip 120 = .ok (.bipush 8, 2) := dk_16 8 (dk_at dksX6_trip_5 4 rfl rfl)
theorem dX6_trip_122 : decode cX6_trip 122 = .ok (.iaload, 1) := dk_46 (dk_at dksX6_trip_5 6 rfl rfl)
theorem dX6_trip_123 : decode cX6_trip 123 = .ok (.iastore, 1) := dk_79 (dk_at dksX6_trip_5 7 rfl rfl)
theorem dX6_trip_124 : decode cX6_trip 124 = .ok (.aload_n 0, 1) := dk_42 (dk_at dksX6_trip_5 8 rfl rfl)
theorem dX6_trip_125 : decode cX6_trip 125 = .ok (.getfield 17, 3) := dk_180 0 17 (dk_at dksX6_trip_5 9 rfl rfl)
theorem dX6_trip_128 : decode cX6_trip 128 = .ok (.iload_n 3, 1) := dk_29 (dk_at dksX6_trip_5 12 rfl rfl)
theorem dX6_trip_129 : decode cX6_trip 129 = .ok (.iconst 1, 1) := dk_4 (dk_at dksX6_trip_5 13 rfl rfl)
theorem dX6_trip_130 : decode cX6_trip 130 = .ok (.iadd, 1) := dk_96 (dk_at dksX6_trip_5 14 rfl rfl)
theorem dX6_trip_131 : decode cX6_trip 131 = .ok (.iload_n 1, 1) := dk_27 (dk_at dksX6_trip_5 15 rfl rfl)
theorem dX6_trip_132 : decode cX6_trip 132 = .ok (.iastore, 1) := dk_79 (dk_at dksX6_trip_5 16 rfl rfl)
theorem dX6_trip_133 : decode cX6_trip 133 = .ok (.aload_n 0, 1) := dk_42 (dk_at dksX6_trip_5 17 rfl rfl)
theorem dX6_trip_134 : decode cX6_trip 134 = .ok (.getfield 17, 3) := dk_180 0 17 (dk_at dksX6_trip_5 18 rfl rfl)
theorem dX6_trip_137 : decode cX6_trip 137 = .ok (.iload_n 3, 1) := dk_29 (dk_at dksX6_trip_5 21 rfl rfl)
theorem dX6_trip_138 : decode cX6_trip 138 = .ok (.iconst 2, 1) := dk_5 (dk_at dksX6_trip_5 22 rfl rfl)
theorem dX6_trip_139 : decode cX6_trip 139 = .ok (.iadd, 1) := dk_96 (dk_at dksX6_trip_5 23 rfl rfl)
theorem dX6_trip_140 : decode cX6_trip 140 = .ok (.iload_n 2, 1) := dk_28 (dk_at dksX6_trip_6 0 rfl rfl)
theorem dX6_trip_141 : decode cX6_trip 141 = .ok (.iastore, 1) := dk_79 (dk_at dksX6_trip_6 1 rfl rfl)
theorem dX6_trip_142 : decode cX6_trip 142 = .ok (.aload_n 0, 1) := dk_42 (dk_at dksX6_trip_6 2 rfl rfl)
theorem dX6_trip_143 : decode cX6_trip 143 = .ok (.getfield 17, 3) := dk_180 0 17 (dk_at dksX6_trip_6 3 rfl rfl)
theorem dX6_trip_146 : decode cX6_trip 146 = .ok (.iload_n 3, 1) := dk_29 (dk_at dksX6_trip_6 6 rfl rfl)
theorem dX6_trip_147 : decode cX6_trip 147 = .ok (.iconst 3, 1) := dk_6 (dk_at dksX6_trip_6 7 rfl rfl)
theorem dX6_trip_148 : decode cX6_trip 148 = .ok (.iadd, 1) := dk_96 (dk_at dksX6_trip_6 8 rfl rfl)
theorem dX6_trip_149 : decode cX6_trip 149 = .ok (.aload_n 0, 1) := dk_42 (dk_at dksX6_trip_6 9 rfl rfl)
theorem dX6_trip_150 : decode cX6_trip 150 = .ok (.iload_n 1, 1) := dk_27 (dk_at dksX6_trip_6 10 rfl rfl)
theorem dX6_trip_151 : decode cX6_trip 151 = .ok (.bipush 9, 2) := dk_16 9 (dk_at dksX6_trip_6 11 rfl rfl)
theorem dX6_trip_153 : decode cX6_trip 153 = .ok (.invokevirtual 70, 3) := dk_182 0 70 (dk_at dksX6_trip_6 13 rfl rfl)
theorem dX6_trip_156 : decode cX6_trip 156 = .ok (.iastore, 1) := dk_79 (dk_at dksX6_trip_6 16 rfl rfl)
theorem dX6_trip_157 : decode cX6_trip 157 = .ok (.iconst 0, 1) := dk_3 (dk_at dksX6_trip_6 17 rfl rfl)
theorem dX6_trip_158 : decode cX6_trip 158 = .ok (.istore 4, 2) := dk_54 4 (dk_at dksX6_trip_6 18 rfl rfl)
theorem dX6_trip_160 : decode cX6_trip 160 = .ok (.aload_n 0, 1) := dk_42 (dk_at dksX6_trip_6 20 rfl rfl)
theorem dX6_trip_161 : decode cX6_trip 161 = .ok (.iload_n 1, 1) := dk_27 (dk_at dksX6_trip_6 21 rfl rfl)
theorem dX6_trip_162 : decode cX6_trip 162 = .ok (.invokevirtual 405, 3) := dk_182 1 149 (dk_at dksX6_trip_7 0 rfl rfl)
theorem dX6_trip_165 : decode cX6_trip 165 = .ok (.iconst 1, 1) := dk_4 (dk_at dksX6_trip_7 3 rfl rfl)
theorem dX6_trip_166 : decode cX6_trip 166 = .ok (.isub, 1) := dk_100 (dk_at dksX6_trip_7 4 rfl rfl)
theorem dX6_trip_167 : decode cX6_trip 167 = .ok (.istore 5, 2) := dk_54 5 (dk_at dksX6_trip_7 5 rfl rfl)
theorem dX6_trip_169 : decode cX6_trip 169 = .ok (.iload 5, 2) := dk_21 5 (dk_at dksX6_trip_7 7 rfl rfl)
theorem dX6_trip_171 : decode cX6_trip 171 = .ok (.ifCond .lt 49, 3) := dk_155 0 49 (dk_at dksX6_trip_7 9 rfl rfl)
theorem dX6_trip_174 : decode cX6_trip 174 = .ok (.aload_n 0, 1) := dk_42 (dk_at dksX6_trip_7 12 rfl rfl)
theorem dX6_trip_175 : decode cX6_trip 175 = .ok (.iload_n 1, 1) := dk_27 (dk_at dksX6_trip_7 13 rfl rfl)
theorem dX6_trip_176 : decode cX6_trip 176 = .ok (.bipush 16, 2) := dk_16 16 (dk_at dksX6_trip_7 14 rfl rfl)
theorem dX6_trip_178 : decode cX6_trip 178 = .ok (.iload 5, 2) := dk_21 5 (dk_at dksX6_trip_7 16 rfl rfl)
theorem dX6_trip_180 : decode cX6_trip 180 = .ok (.iadd, 1) := dk_96 (dk_at dksX6_trip_7 18 rfl rfl)
theorem dX6_trip_181 : decode cX6_trip 181 = .ok (.invokevirtual 70, 3) := dk_182 0 70 (dk_at dksX6_trip_7 19 rfl rfl)
theorem dX6_trip_184 : decode cX6_trip 184 = .ok (.ifCond .ne 6, 3) := dk_154 0 6 (dk_at dksX6_trip_8 0 rfl rfl)
theorem dX6_trip_187 : decode cX6_trip 187 = .ok (.goto 27, 3) := dk_167 0 27 (dk_at dksX6_trip_8 3 rfl rfl)
theorem dX6_trip_190 : decode cX6_trip 190 = .ok (.aload_n 0, 1) := dk_42 (dk_at dksX6_trip_8 6 rfl rfl)
theorem dX6_trip_191 : decode cX6_trip 191 = .ok (.getfield 17, 3) := dk_180 0 17 (dk_at dksX6_trip_8 7 rfl rfl)
theorem dX6_trip_194 : decode cX6_trip 194 = .ok (.iload_n 3, 1) := dk_29 (dk_at dksX6_trip_8 10 rfl rfl)
theorem dX6_trip_195 : decode cX6_trip 195 = .ok (.iconst 5, 1) := dk_8 (dk_at dksX6_trip_8 11 rfl rfl)
theorem dX6_trip_196 : decode cX6_trip 196 = .ok (.iadd, 1) := dk_96 (dk_at dksX6_trip_8 12 rfl rfl)
theorem dX6_trip_197 : decode cX6_trip 197 = .ok (.iload 4, 2) := dk_21 4 (dk_at dksX6_trip_8 13 rfl rfl)
theorem dX6_trip_199 : decode cX6_trip 199 = .ok (.iadd, 1) := dk_96 (dk_at dksX6_trip_8 15 rfl rfl)
theorem dX6_trip_200 : decode cX6_trip 200 = .ok (.aload_n 0, 1) := dk_42 (dk_at dksX6_trip_8 16 rfl rfl)
theorem dX6_trip_201 : decode cX6_trip 201 = .ok (.getfield 17, 3) := dk_180 0 17 (dk_at dksX6_trip_8 17 rfl rfl)
theorem dX6_trip_204 : decode cX6_trip 204 = .ok (.bipush 8, 2) := dk_16 8 (dk_at dksX6_trip_8 20 rfl rfl)
theorem dX6_trip_206 : decode cX6_trip 206 = .ok (.iaload, 1) := dk_46 (dk_at dksX6_trip_8 22 rfl rfl)
theorem dX6_trip_207 : decode cX6_trip 207 = .ok (.iload 5, 2) := dk_21 5 (dk_at dksX6_trip_9 0 rfl rfl)
theorem dX6_trip_209 : decode cX6_trip 209 = .ok (.isub, 1) := dk_100 (dk_at dksX6_trip_9 2 rfl rfl)
theorem dX6_trip_210 : decode cX6_trip 210 = .ok (.iastore, 1) := dk_79 (dk_at dksX6_trip_9 3 rfl rfl)
theorem dX6_trip_211 : decode cX6_trip 211 = .ok (.iinc 4 1, 3) := dk_132 4 1 (dk_at dksX6_trip_9 4 rfl rfl)
theorem dX6_trip_214 : decode cX6_trip 214 = .ok (.iinc 5 (-1), 3) := dk_132 5 255 (dk_at dksX6_trip_9 7 rfl rfl)
theorem dX6_trip_217 : decode cX6_trip 217 = .ok (.goto (-48), 3) := dk_167 255 208 (dk_at dksX6_trip_9 10 rfl rfl)
theorem dX6_trip_220 : decode cX6_trip 220 = .ok (.aload_n 0, 1) := dk_42 (dk_at dksX6_trip_9 13 rfl rfl)
theorem dX6_trip_221 : decode cX6_trip 221 = .ok (.getfield 17, 3) := dk_180 0 17 (dk_at dksX6_trip_9 14 rfl rfl)
theorem dX6_trip_224 : decode cX6_trip 224 = .ok (.iload_n 3, 1) := dk_29 (dk_at dksX6_trip_9 17 rfl rfl)
theorem dX6_trip_225 : decode cX6_trip 225 = .ok (.iconst 4, 1) := dk_7 (dk_at dksX6_trip_9 18 rfl rfl)
theorem dX6_trip_226 : decode cX6_trip 226 = .ok (.iadd, 1) := dk_96 (dk_at dksX6_trip_9 19 rfl rfl)
theorem dX6_trip_227 : decode cX6_trip 227 = .ok (.iload 4, 2) := dk_21 4 (dk_at dksX6_trip_9 20 rfl rfl)
theorem dX6_trip_229 : decode cX6_trip 229 = .ok (.iastore, 1) := dk_79 (dk_at dksX6_trip_9 22 rfl rfl)
theorem dX6_trip_230 : decode cX6_trip 230 = .ok (.aload_n 0, 1) := dk_42 (dk_at dksX6_trip_9 23 rfl rfl)
theorem dX6_trip_231 : decode cX6_trip 231 = .ok (.getfield 27, 3) := dk_180 0 27 (dk_at dksX6_trip_10 0 rfl rfl)
theorem dX6_trip_234 : decode cX6_trip 234 = .ok (.sipush 152, 3) := dk_17 0 152 (dk_at dksX6_trip_10 3 rfl rfl)
theorem dX6_trip_237 : decode cX6_trip 237 = .ok (.aload_n 0, 1) := dk_42 (dk_at dksX6_trip_10 6 rfl rfl)
theorem dX6_trip_238 : decode cX6_trip 238 = .ok (.getfield 17, 3) := dk_180 0 17 (dk_at dksX6_trip_10 7 rfl rfl)
theorem dX6_trip_241 : decode cX6_trip 241 = .ok (.bipush 10, 2) := dk_16 10 (dk_at dksX6_trip_10 10 rfl rfl)
theorem dX6_trip_243 : decode cX6_trip 243 = .ok (.iaload, 1) := dk_46 (dk_at dksX6_trip_10 12 rfl rfl)
theorem dX6_trip_244 : decode cX6_trip 244 = .ok (.iadd, 1) := dk_96 (dk_at dksX6_trip_10 13 rfl rfl)
theorem dX6_trip_245 : decode cX6_trip 245 = .ok (.aload_n 0, 1) := dk_42 (dk_at dksX6_trip_10 14 rfl rfl)
theorem dX6_trip_246 : decode cX6_trip 246 = .ok (.iload_n 1, 1) := dk_27 (dk_at dksX6_trip_10 15 rfl rfl)
theorem dX6_trip_247 : decode cX6_trip 247 = .ok (.iconst 0, 1) := dk_3 (dk_at dksX6_trip_10 16 rfl rfl)
theorem dX6_trip_248 : decode cX6_trip 248 = .ok (.invokevirtual 391, 3) := dk_182 1 135 (dk_at dksX6_trip_10 17 rfl rfl)
theorem dX6_trip_251 : decode cX6_trip 251 = .ok (.fastore, 1) := dk_81 (dk_at dksX6_trip_10 20 rfl rfl)
theorem dX6_trip_252 : decode cX6_trip 252 = .ok (.aload_n 0, 1) := dk_42 (dk_at dksX6_trip_10 21 rfl rfl)
theorem dX6_trip_253 : decode cX6_trip 253 = .ok (.getfield 17, 3) := dk_180 0 17 (dk_at dksX6_trip_11 0 rfl rfl)
theorem dX6_trip_256 : decode cX6_trip 256 = .ok (.bipush 10, 2) := dk_16 10 (dk_at dksX6_trip_11 3 rfl rfl)
theorem dX6_trip_258 : decode cX6_trip 258 = .ok (.dup2, 1) := dk_92 (dk_at dksX6_trip_11 5 rfl rfl)
theorem dX6_trip_259 : decode cX6_trip 259 = .ok (.iaload, 1) := dk_46 (dk_at dksX6_trip_11 6 rfl rfl)
theorem dX6_trip_260 : decode cX6_trip 260 = .ok (.iconst 1, 1) := dk_4 (dk_at dksX6_trip_11 7 rfl rfl)
theorem dX6_trip_261 : decode cX6_trip 261 = .ok (.iadd, 1) := dk_96 (dk_at dksX6_trip_11 8 rfl rfl)
theorem dX6_trip_262 : decode cX6_trip 262 = .ok (.iastore, 1) := dk_79 (dk_at dksX6_trip_11 9 rfl rfl)
theorem dX6_trip_263 : decode cX6_trip 263 = .ok (.aload_n 0, 1) := dk_42 (dk_at dksX6_trip_11 10 rfl rfl)
theorem dX6_trip_264 : decode cX6_trip 264 = .ok (.iload_n 1, 1) := dk_27 (dk_at dksX6_trip_11 11 rfl rfl)
theorem dX6_trip_265 : decode cX6_trip 265 = .ok (.iconst 2, 1) := dk_5 (dk_at dksX6_trip_11 12 rfl rfl)
theorem dX6_trip_266 : decode cX6_trip 266 = .ok (.invokevirtual 70, 3) := dk_182 0 70 (dk_at dksX6_trip_11 13 rfl rfl)
theorem dX6_trip_269 : decode cX6_trip 269 = .ok (.iconst 1, 1) := dk_4 (dk_at dksX6_trip_11 16 rfl rfl)
theorem dX6_trip_270 : decode cX6_trip 270 = .ok (.iadd, 1) := dk_96 (dk_at dksX6_trip_11 17 rfl rfl)
theorem dX6_trip_271 : decode cX6_trip 271 = .ok (.istore 5, 2) := dk_54 5 (dk_at dksX6_trip_11 18 rfl rfl)
theorem dX6_trip_273 : decode cX6_trip 273 = .ok (.aload_n 0, 1) := dk_42 (dk_at dksX6_trip_11 20 rfl rfl)
theorem dX6_trip_274 : decode cX6_trip 274 = .ok (.iload_n 1, 1) := dk_27 (dk_at dksX6_trip_11 21 rfl rfl)
theorem dX6_trip_275 : decode cX6_trip 275 = .ok (.iconst 2, 1) := dk_5 (dk_at dksX6_trip_11 22 rfl rfl)
theorem dX6_trip_276 : decode cX6_trip 276 = .ok (.iload 5, 2) := dk_21 5 (dk_at dksX6_trip_12 0 rfl rfl)
theorem dX6_trip_278 : decode cX6_trip 278 = .ok (.invokevirtual 270, 3) := dk_182 1 14 (dk_at dksX6_trip_12 2 rfl rfl)
theorem dX6_trip_281 : decode cX6_trip 281 = .ok (.aload_n 0, 1) := dk_42 (dk_at dksX6_trip_12 5 rfl rfl)
theorem dX6_trip_282 : decode cX6_trip 282 = .ok (.iload_n 1, 1) := dk_27 (dk_at dksX6_trip_12 6 rfl rfl)
theorem dX6_trip_283 : decode cX6_trip 283 = .ok (.iconst 1, 1) := dk_4 (dk_at dksX6_trip_12 7 rfl rfl)
theorem dX6_trip_284 : decode cX6_trip 284 = .ok (.iload 5, 2) := dk_21 5 (dk_at dksX6_trip_12 8 rfl rfl)
theorem dX6_trip_286 : decode cX6_trip 286 = .ok (.iconst 3, 1) := dk_6 (dk_at dksX6_trip_12 10 rfl rfl)
theorem dX6_trip_287 : decode cX6_trip 287 = .ok (.if_icmp .lt 7, 3) := dk_161 0 7 (dk_at dksX6_trip_12 11 rfl rfl)
theorem dX6_trip_290 : decode cX6_trip 290 = .ok (.iconst 2, 1) := dk_5 (dk_at dksX6_trip_12 14 rfl rfl)
theorem dX6_trip_291 : decode cX6_trip 291 = .ok (.goto 4, 3) := dk_167 0 4 (dk_at dksX6_trip_12 15 rfl rfl)
theorem dX6_trip_294 : decode cX6_trip 294 = .ok (.iconst 1, 1) := dk_4 (dk_at dksX6_trip_12 18 rfl rfl)
theorem dX6_trip_295 : decode cX6_trip 295 = .ok (.invokevirtual 270, 3) := dk_182 1 14 (dk_at dksX6_trip_12 19 rfl rfl)
theorem dX6_trip_298 : decode cX6_trip 298 = .ok (.aload_n 0, 1) := dk_42 (dk_at dksX6_trip_12 22 rfl rfl)
theorem dX6_trip_299 : decode cX6_trip 299 = .ok (.iload_n 1, 1) := dk_27 (dk_at dksX6_trip_12 23 rfl rfl)
theorem dX6_trip_300 : decode cX6_trip 300 = .ok (.iconst 3, 1) := dk_6 (dk_at dksX6_trip_13 0 rfl rfl)
theorem dX6_trip_301 : decode cX6_trip 301 = .ok (.iconst 0, 1) := dk_3 (dk_at dksX6_trip_13 1 rfl rfl)
theorem dX6_trip_302 : decode cX6_trip 302 = .ok (.invokevirtual 270, 3) := dk_182 1 14 (dk_at dksX6_trip_13 2 rfl rfl)
theorem dX6_trip_305 : decode cX6_trip 305 = .ok (.aload_n 0, 1) := dk_42 (dk_at dksX6_trip_13 5 rfl rfl)
theorem dX6_trip_306 : decode cX6_trip 306 = .ok (.iload_n 1, 1) := dk_27 (dk_at dksX6_trip_13 6 rfl rfl)
theorem dX6_trip_307 : decode cX6_trip 307 = .ok (.iconst 5, 1) := dk_8 (dk_at dksX6_trip_13 7 rfl rfl)
theorem dX6_trip_308 : decode cX6_trip 308 = .ok (.iconst 0, 1) := dk_3 (dk_at dksX6_trip_13 8 rfl rfl)
theorem dX6_trip_309 : decode cX6_trip 309 = .ok (.invokevirtual 270, 3) := dk_182 1 14 (dk_at dksX6_trip_13 9 rfl rfl)
theorem dX6_trip_312 : decode cX6_trip 312 = .ok (.return_, 1) := dk_177 (dk_at dksX6_trip_13 12 rfl rfl)
def dkwX6_windowOf_0 : List UInt8 := [42, 180, 0, 17, 4, 46, 42, 27, 8, 182, 0, 70, 184, 0, 120, 172]
abbrev dktX6_windowOf_0 : List UInt8 := dkwX6_windowOf_0 ++ []
theorem dksX6_windowOf_0 : cX6_windowOf.data.toList.drop 0 = dktX6_windowOf_0 := by decide +kernel
theorem dX6_windowOf_0 : decode cX6_windowOf 0 = .ok (.aload_n 0, 1) := dk_42 (dk_at dksX6_windowOf_0 0 rfl rfl)
theorem dX6_windowOf_1 : decode cX6_windowOf 1 = .ok (.getfield 17, 3) := dk_180 0 17 (dk_at dksX6_windowOf_0 1 rfl rfl)
theorem dX6_windowOf_4 : decode cX6_windowOf 4 = .ok (.iconst 1, 1) := dk_4 (dk_at dksX6_windowOf_0 4 rfl rfl)
theorem dX6_windowOf_5 : decode cX6_windowOf 5 = .ok (.iaload, 1) := dk_46 (dk_at dksX6_windowOf_0 5 rfl rfl)
theorem dX6_windowOf_6 : decode cX6_windowOf 6 = .ok (.aload_n 0, 1) := dk_42 (dk_at dksX6_windowOf_0 6 rfl rfl)
theorem dX6_windowOf_7 : decode cX6_windowOf 7 = .ok (.iload_n 1, 1) := dk_27 (dk_at dksX6_windowOf_0 7 rfl rfl)
theorem dX6_windowOf_8 : decode cX6_windowOf 8 = .ok (.iconst 5, 1) := dk_8 (dk_at dksX6_windowOf_0 8 rfl rfl)
theorem dX6_windowOf_9 : decode cX6_windowOf 9 = .ok (.invokevirtual 70, 3) := dk_182 0 70 (dk_at dksX6_windowOf_0 9 rfl rfl)
theorem dX6_windowOf_12 : decode cX6_windowOf 12 = .ok (.invokestatic 120, 3) := dk_184 0 120 (dk_at dksX6_windowOf_0 12 rfl rfl)
theorem dX6_windowOf_15 : decode cX6_windowOf 15 = .ok (.ireturn, 1) := dk_172 (dk_at dksX6_windowOf_0 15 rfl rfl)
def dkwX6_suspectsOf_1 : List UInt8 := [132, 4, 1, 167, 255, 234, 29, 172]
abbrev dktX6_suspectsOf_1 : List UInt8 := dkwX6_suspectsOf_1 ++ []
def dkwX6_suspectsOf_0 : List UInt8 := [3, 62, 3, 54, 4, 21, 4, 28, 162, 0, 22, 29, 42, 27, 16, 16, 21, 4, 96, 182, 0, 70, 96, 62]
abbrev dktX6_suspectsOf_0 : List UInt8 := dkwX6_suspectsOf_0 ++ dktX6_suspectsOf_1
theorem dksX6_suspectsOf_0 : cX6_suspectsOf.data.toList.drop 0 = dktX6_suspectsOf_0 := by decide +kernel
theorem dksX6_suspectsOf_1 : cX6_suspectsOf.data.toList.drop 24 = dktX6_suspectsOf_1 := dk_seg dksX6_suspectsOf_0 24 rfl rfl
theorem dX6_suspectsOf_0 : decode cX6_suspectsOf 0 = .ok (.iconst 0, 1) := dk_3 (dk_at dksX6_suspectsOf_0 0 rfl rfl)
theorem dX6_suspectsOf_1 : decode cX6_suspectsOf 1 = .ok (.istore_n 3, 1) := dk_62 (dk_at dksX6_suspectsOf_0 1 rfl rfl)
theorem dX6_suspectsOf_2 : decode cX6_suspectsOf 2 = .ok (.iconst 0, 1) := dk_3 (dk_at dksX6_suspectsOf_0 2 rfl rfl)
theorem dX6_suspectsOf_3 : decode cX6_suspectsOf 3 = .ok (.istore 4, 2) := dk_54 4 (dk_at dksX6_suspectsOf_0 3 rfl rfl)
theorem dX6_suspectsOf_5 : decode cX6_suspectsOf 5 = .ok (.iload 4, 2) := dk_21 4 (dk_at dksX6_suspectsOf_0 5 rfl rfl)
theorem dX6_suspectsOf_7 : decode cX6_suspectsOf 7 = .ok (.iload_n 2, 1) := dk_28 (dk_at dksX6_suspectsOf_0 7 rfl rfl)
theorem dX6_suspectsOf_8 : decode cX6_suspectsOf 8 = .ok (.if_icmp .ge 22, 3) := dk_162 0 22 (dk_at dksX6_suspectsOf_0 8 rfl rfl)
theorem dX6_suspectsOf_11 : decode cX6_suspectsOf 11 = .ok (.iload_n 3, 1) := dk_29 (dk_at dksX6_suspectsOf_0 11 rfl rfl)
theorem dX6_suspectsOf_12 : decode cX6_suspectsOf 12 = .ok (.aload_n 0, 1) := dk_42 (dk_at dksX6_suspectsOf_0 12 rfl rfl)
theorem dX6_suspectsOf_13 : decode cX6_suspectsOf 13 = .ok (.iload_n 1, 1) := dk_27 (dk_at dksX6_suspectsOf_0 13 rfl rfl)
theorem dX6_suspectsOf_14 : decode cX6_suspectsOf 14 = .ok (.bipush 16, 2) := dk_16 16 (dk_at dksX6_suspectsOf_0 14 rfl rfl)
theorem dX6_suspectsOf_16 : decode cX6_suspectsOf 16 = .ok (.iload 4, 2) := dk_21 4 (dk_at dksX6_suspectsOf_0 16 rfl rfl)
theorem dX6_suspectsOf_18 : decode cX6_suspectsOf 18 = .ok (.iadd, 1) := dk_96 (dk_at dksX6_suspectsOf_0 18 rfl rfl)
theorem dX6_suspectsOf_19 : decode cX6_suspectsOf 19 = .ok (.invokevirtual 70, 3) := dk_182 0 70 (dk_at dksX6_suspectsOf_0 19 rfl rfl)
theorem dX6_suspectsOf_22 : decode cX6_suspectsOf 22 = .ok (.iadd, 1) := dk_96 (dk_at dksX6_suspectsOf_0 22 rfl rfl)
theorem dX6_suspectsOf_23 : decode cX6_suspectsOf 23 = .ok (.istore_n 3, 1) := dk_62 (dk_at dksX6_suspectsOf_0 23 rfl rfl)
theorem dX6_suspectsOf_24 : decode cX6_suspectsOf 24 = .ok (.iinc 4 1, 3) := dk_132 4 1 (dk_at dksX6_suspectsOf_1 0 rfl rfl)
theorem dX6_suspectsOf_27 : decode cX6_suspectsOf 27 = .ok (.goto (-22), 3) := dk_167 255 234 (dk_at dksX6_suspectsOf_1 3 rfl rfl)
theorem dX6_suspectsOf_30 : decode cX6_suspectsOf 30 = .ok (.iload_n 3, 1) := dk_29 (dk_at dksX6_suspectsOf_1 6 rfl rfl)
theorem dX6_suspectsOf_31 : decode cX6_suspectsOf 31 = .ok (.ireturn, 1) := dk_172 (dk_at dksX6_suspectsOf_1 7 rfl rfl)
def dkwX6_bitCount_1 : List UInt8 := [172]
abbrev dktX6_bitCount_1 : List UInt8 := dkwX6_bitCount_1 ++ []
def dkwX6_bitCount_0 : List UInt8 := [3, 60, 3, 61, 28, 7, 162, 0, 17, 27, 26, 28, 122, 4, 126, 96, 60, 132, 2, 1, 167, 255, 240, 27]
abbrev dktX6_bitCount_0 : List UInt8 := dkwX6_bitCount_0 ++ dktX6_bitCount_1
theorem dksX6_bitCount_0 : cX6_bitCount.data.toList.drop 0 = dktX6_bitCount_0 := by decide +kernel
theorem dksX6_bitCount_1 : cX6_bitCount.data.toList.drop 24 = dktX6_bitCount_1 := dk_seg dksX6_bitCount_0 24 rfl rfl
theorem dX6_bitCount_0 : decode cX6_bitCount 0 = .ok (.iconst 0, 1) := dk_3 (dk_at dksX6_bitCount_0 0 rfl rfl)
theorem dX6_bitCount_1 : decode cX6_bitCount 1 = .ok (.istore_n 1, 1) := dk_60 (dk_at dksX6_bitCount_0 1 rfl rfl)
theorem dX6_bitCount_2 : decode cX6_bitCount 2 = .ok (.iconst 0, 1) := dk_3 (dk_at dksX6_bitCount_0 2 rfl rfl)
theorem dX6_bitCount_3 : decode cX6_bitCount 3 = .ok (.istore_n 2, 1) := dk_61 (dk_at dksX6_bitCount_0 3 rfl rfl)
theorem dX6_bitCount_4 : decode cX6_bitCount 4 = .ok (.iload_n 2, 1) := dk_28 (dk_at dksX6_bitCount_0 4 rfl rfl)
theorem dX6_bitCount_5 : decode cX6_bitCount 5 = .ok (.iconst 4, 1) := dk_7 (dk_at dksX6_bitCount_0 5 rfl rfl)
theorem dX6_bitCount_6 : decode cX6_bitCount 6 = .ok (.if_icmp .ge 17, 3) := dk_162 0 17 (dk_at dksX6_bitCount_0 6 rfl rfl)
theorem dX6_bitCount_9 : decode cX6_bitCount 9 = .ok (.iload_n 1, 1) := dk_27 (dk_at dksX6_bitCount_0 9 rfl rfl)
theorem dX6_bitCount_10 : decode cX6_bitCount 10 = .ok (.iload_n 0, 1) := dk_26 (dk_at dksX6_bitCount_0 10 rfl rfl)
theorem dX6_bitCount_11 : decode cX6_bitCount 11 = .ok (.iload_n 2, 1) := dk_28 (dk_at dksX6_bitCount_0 11 rfl rfl)
theorem dX6_bitCount_12 : decode cX6_bitCount 12 = .ok (.ishr, 1) := dk_122 (dk_at dksX6_bitCount_0 12 rfl rfl)
theorem dX6_bitCount_13 : decode cX6_bitCount 13 = .ok (.iconst 1, 1) := dk_4 (dk_at dksX6_bitCount_0 13 rfl rfl)
theorem dX6_bitCount_14 : decode cX6_bitCount 14 = .ok (.iand, 1) := dk_126 (dk_at dksX6_bitCount_0 14 rfl rfl)
theorem dX6_bitCount_15 : decode cX6_bitCount 15 = .ok (.iadd, 1) := dk_96 (dk_at dksX6_bitCount_0 15 rfl rfl)
theorem dX6_bitCount_16 : decode cX6_bitCount 16 = .ok (.istore_n 1, 1) := dk_60 (dk_at dksX6_bitCount_0 16 rfl rfl)
theorem dX6_bitCount_17 : decode cX6_bitCount 17 = .ok (.iinc 2 1, 3) := dk_132 2 1 (dk_at dksX6_bitCount_0 17 rfl rfl)
theorem dX6_bitCount_20 : decode cX6_bitCount 20 = .ok (.goto (-16), 3) := dk_167 255 240 (dk_at dksX6_bitCount_0 20 rfl rfl)
theorem dX6_bitCount_23 : decode cX6_bitCount 23 = .ok (.iload_n 1, 1) := dk_27 (dk_at dksX6_bitCount_0 23 rfl rfl)
theorem dX6_bitCount_24 : decode cX6_bitCount 24 = .ok (.ireturn, 1) := dk_172 (dk_at dksX6_bitCount_1 0 rfl rfl)
def dkwX6_sample_2 : List UInt8 := [153, 0, 17, 42, 180, 0, 27, 16, 38, 27, 104, 28, 96, 48, 167, 0, 4, 11, 174]
abbrev dktX6_sample_2 : List UInt8 := dkwX6_sample_2 ++ []
def dkwX6_sample_1 : List UInt8 := [182, 1, 73, 153, 0, 11, 42, 27, 182, 1, 187, 153, 0, 7, 4, 167, 0, 4, 3, 182, 1, 91]
abbrev dktX6_sample_1 : List UInt8 := dkwX6_sample_1 ++ dktX6_sample_2
def dkwX6_sample_0 : List UInt8 := [42, 42, 27, 182, 1, 73, 28, 133, 9, 42, 180, 0, 17, 3, 46, 4, 100, 133, 184, 0, 66, 42, 27]
abbrev dktX6_sample_0 : List UInt8 := dkwX6_sample_0 ++ dktX6_sample_1
theorem dksX6_sample_0 : cX6_sample.data.toList.drop 0 = dktX6_sample_0 := by decide +kernel
theorem dksX6_sample_1 : cX6_sample.data.toList.drop 23 = dktX6_sample_1 := dk_seg dksX6_sample_0 23 rfl rfl
theorem dksX6_sample_2 : cX6_sample.data.toList.drop 45 = dktX6_sample_2 := dk_seg dksX6_sample_1 22 rfl rfl
theorem dX6_sample_0 : decode cX6_sample 0 = .ok (.aload_n 0, 1) := dk_42 (dk_at dksX6_sample_0 0 rfl rfl)
theorem dX6_sample_1 : decode cX6_sample 1 = .ok (.aload_n 0, 1) := dk_42 (dk_at dksX6_sample_0 1 rfl rfl)
theorem dX6_sample_2 : decode cX6_sample 2 = .ok (.iload_n 1, 1) := dk_27 (dk_at dksX6_sample_0 2 rfl rfl)
theorem dX6_sample_3 : decode cX6_sample 3 = .ok (.invokevirtual 329, 3) := dk_182 1 73 (dk_at dksX6_sample_0 3 rfl rfl)
theorem dX6_sample_6 : decode cX6_sample 6 = .ok (.iload_n 2, 1) := dk_28 (dk_at dksX6_sample_0 6 rfl rfl)
theorem dX6_sample_7 : decode cX6_sample 7 = .ok (.i2l, 1) := dk_133 (dk_at dksX6_sample_0 7 rfl rfl)
theorem dX6_sample_8 : decode cX6_sample 8 = .ok (.lconst 0, 1) := dk_9 (dk_at dksX6_sample_0 8 rfl rfl)
theorem dX6_sample_9 : decode cX6_sample 9 = .ok (.aload_n 0, 1) := dk_42 (dk_at dksX6_sample_0 9 rfl rfl)
theorem dX6_sample_10 : decode cX6_sample 10 = .ok (.getfield 17, 3) := dk_180 0 17 (dk_at dksX6_sample_0 10 rfl rfl)
theorem dX6_sample_13 : decode cX6_sample 13 = .ok (.iconst 0, 1) := dk_3 (dk_at dksX6_sample_0 13 rfl rfl)
theorem dX6_sample_14 : decode cX6_sample 14 = .ok (.iaload, 1) := dk_46 (dk_at dksX6_sample_0 14 rfl rfl)
theorem dX6_sample_15 : decode cX6_sample 15 = .ok (.iconst 1, 1) := dk_4 (dk_at dksX6_sample_0 15 rfl rfl)
theorem dX6_sample_16 : decode cX6_sample 16 = .ok (.isub, 1) := dk_100 (dk_at dksX6_sample_0 16 rfl rfl)
theorem dX6_sample_17 : decode cX6_sample 17 = .ok (.i2l, 1) := dk_133 (dk_at dksX6_sample_0 17 rfl rfl)
theorem dX6_sample_18 : decode cX6_sample 18 = .ok (.invokestatic 66, 3) := dk_184 0 66 (dk_at dksX6_sample_0 18 rfl rfl)
theorem dX6_sample_21 : decode cX6_sample 21 = .ok (.aload_n 0, 1) := dk_42 (dk_at dksX6_sample_0 21 rfl rfl)
theorem dX6_sample_22 : decode cX6_sample 22 = .ok (.iload_n 1, 1) := dk_27 (dk_at dksX6_sample_0 22 rfl rfl)
theorem dX6_sample_23 : decode cX6_sample 23 = .ok (.invokevirtual 329, 3) := dk_182 1 73 (dk_at dksX6_sample_1 0 rfl rfl)
theorem dX6_sample_26 : decode cX6_sample 26 = .ok (.ifCond .eq 11, 3) := dk_153 0 11 (dk_at dksX6_sample_1 3 rfl rfl)
theorem dX6_sample_29 : decode cX6_sample 29 = .ok (.aload_n 0, 1) := dk_42 (dk_at dksX6_sample_1 6 rfl rfl)
theorem dX6_sample_30 : decode cX6_sample 30 = .ok (.iload_n 1, 1) := dk_27 (dk_at dksX6_sample_1 7 rfl rfl)
theorem dX6_sample_31 : decode cX6_sample 31 = .ok (.invokevirtual 443, 3) := dk_182 1 187 (dk_at dksX6_sample_1 8 rfl rfl)
theorem dX6_sample_34 : decode cX6_sample 34 = .ok (.ifCond .eq 7, 3) := dk_153 0 7 (dk_at dksX6_sample_1 11 rfl rfl)
theorem dX6_sample_37 : decode cX6_sample 37 = .ok (.iconst 1, 1) := dk_4 (dk_at dksX6_sample_1 14 rfl rfl)
theorem dX6_sample_38 : decode cX6_sample 38 = .ok (.goto 4, 3) := dk_167 0 4 (dk_at dksX6_sample_1 15 rfl rfl)
theorem dX6_sample_41 : decode cX6_sample 41 = .ok (.iconst 0, 1) := dk_3 (dk_at dksX6_sample_1 18 rfl rfl)
theorem dX6_sample_42 : decode cX6_sample 42 = .ok (.invokevirtual 347, 3) := dk_182 1 91 (dk_at dksX6_sample_1 19 rfl rfl)
theorem dX6_sample_45 : decode cX6_sample 45 = .ok (.ifCond .eq 17, 3) := dk_153 0 17 (dk_at dksX6_sample_2 0 rfl rfl)
theorem dX6_sample_48 : decode cX6_sample 48 = .ok (.aload_n 0, 1) := dk_42 (dk_at dksX6_sample_2 3 rfl rfl)
theorem dX6_sample_49 : decode cX6_sample 49 = .ok (.getfield 27, 3) := dk_180 0 27 (dk_at dksX6_sample_2 4 rfl rfl)
theorem dX6_sample_52 : decode cX6_sample 52 = .ok (.bipush 38, 2) := dk_16 38 (dk_at dksX6_sample_2 7 rfl rfl)
theorem dX6_sample_54 : decode cX6_sample 54 = .ok (.iload_n 1, 1) := dk_27 (dk_at dksX6_sample_2 9 rfl rfl)
theorem dX6_sample_55 : decode cX6_sample 55 = .ok (.imul, 1) := dk_104 (dk_at dksX6_sample_2 10 rfl rfl)
theorem dX6_sample_56 : decode cX6_sample 56 = .ok (.iload_n 2, 1) := dk_28 (dk_at dksX6_sample_2 11 rfl rfl)
theorem dX6_sample_57 : decode cX6_sample 57 = .ok (.iadd, 1) := dk_96 (dk_at dksX6_sample_2 12 rfl rfl)
theorem dX6_sample_58 : decode cX6_sample 58 = .ok (.faload, 1) := dk_48 (dk_at dksX6_sample_2 13 rfl rfl)
theorem dX6_sample_59 : decode cX6_sample 59 = .ok (.goto 4, 3) := dk_167 0 4 (dk_at dksX6_sample_2 14 rfl rfl)
theorem dX6_sample_62 : decode cX6_sample 62 = .ok (.fconst 0, 1) := dk_11 (dk_at dksX6_sample_2 17 rfl rfl)
theorem dX6_sample_63 : decode cX6_sample 63 = .ok (.freturn, 1) := dk_174 (dk_at dksX6_sample_2 18 rfl rfl)
def dkwX6_hasHad_0 : List UInt8 := [42, 27, 7, 182, 0, 70, 4, 160, 0, 7, 4, 167, 0, 4, 3, 172]
abbrev dktX6_hasHad_0 : List UInt8 := dkwX6_hasHad_0 ++ []
theorem dksX6_hasHad_0 : cX6_hasHad.data.toList.drop 0 = dktX6_hasHad_0 := by decide +kernel
theorem dX6_hasHad_0 : decode cX6_hasHad 0 = .ok (.aload_n 0, 1) := dk_42 (dk_at dksX6_hasHad_0 0 rfl rfl)
theorem dX6_hasHad_1 : decode cX6_hasHad 1 = .ok (.iload_n 1, 1) := dk_27 (dk_at dksX6_hasHad_0 1 rfl rfl)
theorem dX6_hasHad_2 : decode cX6_hasHad 2 = .ok (.iconst 4, 1) := dk_7 (dk_at dksX6_hasHad_0 2 rfl rfl)
theorem dX6_hasHad_3 : decode cX6_hasHad 3 = .ok (.invokevirtual 70, 3) := dk_182 0 70 (dk_at dksX6_hasHad_0 3 rfl rfl)
theorem dX6_hasHad_6 : decode cX6_hasHad 6 = .ok (.iconst 1, 1) := dk_4 (dk_at dksX6_hasHad_0 6 rfl rfl)
theorem dX6_hasHad_7 : decode cX6_hasHad 7 = .ok (.if_icmp .ne 7, 3) := dk_160 0 7 (dk_at dksX6_hasHad_0 7 rfl rfl)
theorem dX6_hasHad_10 : decode cX6_hasHad 10 = .ok (.iconst 1, 1) := dk_4 (dk_at dksX6_hasHad_0 10 rfl rfl)
theorem dX6_hasHad_11 : decode cX6_hasHad 11 = .ok (.goto 4, 3) := dk_167 0 4 (dk_at dksX6_hasHad_0 11 rfl rfl)
theorem dX6_hasHad_14 : decode cX6_hasHad 14 = .ok (.iconst 0, 1) := dk_3 (dk_at dksX6_hasHad_0 14 rfl rfl)
theorem dX6_hasHad_15 : decode cX6_hasHad 15 = .ok (.ireturn, 1) := dk_172 (dk_at dksX6_hasHad_0 15 rfl rfl)
def dkwX6_feature_2 : List UInt8 := [174]
abbrev dktX6_feature_2 : List UInt8 := dkwX6_feature_2 ++ []
def dkwX6_feature_1 : List UInt8 := [153, 0, 7, 4, 167, 0, 4, 3, 182, 1, 91, 153, 0, 12, 42, 27, 28, 182, 1, 135, 167, 0, 4, 11]
abbrev dktX6_feature_1 : List UInt8 := dkwX6_feature_1 ++ dktX6_feature_2
def dkwX6_feature_0 : List UInt8 := [42, 42, 27, 182, 1, 73, 28, 184, 1, 192, 42, 27, 182, 1, 73, 153, 0, 11, 42, 27, 182, 1, 187]
abbrev dktX6_feature_0 : List UInt8 := dkwX6_feature_0 ++ dktX6_feature_1
theorem dksX6_feature_0 : cX6_feature.data.toList.drop 0 = dktX6_feature_0 := by decide +kernel
theorem dksX6_feature_1 : cX6_feature.data.toList.drop 23 = dktX6_feature_1 := dk_seg dksX6_feature_0 23 rfl rfl
theorem dksX6_feature_2 : cX6_feature.data.toList.drop 47 = dktX6_feature_2 := dk_seg dksX6_feature_1 24 rfl rfl
theorem dX6_feature_0 : decode cX6_feature 0 = .ok (.aload_n 0, 1) := dk_42 (dk_at dksX6_feature_0 0 rfl rfl)
theorem dX6_feature_1 : decode cX6_feature 1 = .ok (.aload_n 0, 1) := dk_42 (dk_at dksX6_feature_0 1 rfl rfl)
theorem dX6_feature_2 : decode cX6_feature 2 = .ok (.iload_n 1, 1) := dk_27 (dk_at dksX6_feature_0 2 rfl rfl)
theorem dX6_feature_3 : decode cX6_feature 3 = .ok (.invokevirtual 329, 3) := dk_182 1 73 (dk_at dksX6_feature_0 3 rfl rfl)
theorem dX6_feature_6 : decode cX6_feature 6 = .ok (.iload_n 2, 1) := dk_28 (dk_at dksX6_feature_0 6 rfl rfl)
theorem dX6_feature_7 : decode cX6_feature 7 = .ok (.invokestatic 448, 3) := dk_184 1 192 (dk_at dksX6_feature_0 7 rfl rfl)
theorem dX6_feature_10 : decode cX6_feature 10 = .ok (.aload_n 0, 1) := dk_42 (dk_at dksX6_feature_0 10 rfl rfl)
theorem dX6_feature_11 : decode cX6_feature 11 = .ok (.iload_n 1, 1) := dk_27 (dk_at dksX6_feature_0 11 rfl rfl)
theorem dX6_feature_12 : decode cX6_feature 12 = .ok (.invokevirtual 329, 3) := dk_182 1 73 (dk_at dksX6_feature_0 12 rfl rfl)
theorem dX6_feature_15 : decode cX6_feature 15 = .ok (.ifCond .eq 11, 3) := dk_153 0 11 (dk_at dksX6_feature_0 15 rfl rfl)
theorem dX6_feature_18 : decode cX6_feature 18 = .ok (.aload_n 0, 1) := dk_42 (dk_at dksX6_feature_0 18 rfl rfl)
theorem dX6_feature_19 : decode cX6_feature 19 = .ok (.iload_n 1, 1) := dk_27 (dk_at dksX6_feature_0 19 rfl rfl)
theorem dX6_feature_20 : decode cX6_feature 20 = .ok (.invokevirtual 443, 3) := dk_182 1 187 (dk_at dksX6_feature_0 20 rfl rfl)
theorem dX6_feature_23 : decode cX6_feature 23 = .ok (.ifCond .eq 7, 3) := dk_153 0 7 (dk_at dksX6_feature_1 0 rfl rfl)
theorem dX6_feature_26 : decode cX6_feature 26 = .ok (.iconst 1, 1) := dk_4 (dk_at dksX6_feature_1 3 rfl rfl)
theorem dX6_feature_27 : decode cX6_feature 27 = .ok (.goto 4, 3) := dk_167 0 4 (dk_at dksX6_feature_1 4 rfl rfl)
theorem dX6_feature_30 : decode cX6_feature 30 = .ok (.iconst 0, 1) := dk_3 (dk_at dksX6_feature_1 7 rfl rfl)
theorem dX6_feature_31 : decode cX6_feature 31 = .ok (.invokevirtual 347, 3) := dk_182 1 91 (dk_at dksX6_feature_1 8 rfl rfl)
theorem dX6_feature_34 : decode cX6_feature 34 = .ok (.ifCond .eq 12, 3) := dk_153 0 12 (dk_at dksX6_feature_1 11 rfl rfl)
theorem dX6_feature_37 : decode cX6_feature 37 = .ok (.aload_n 0, 1) := dk_42 (dk_at dksX6_feature_1 14 rfl rfl)
theorem dX6_feature_38 : decode cX6_feature 38 = .ok (.iload_n 1, 1) := dk_27 (dk_at dksX6_feature_1 15 rfl rfl)
theorem dX6_feature_39 : decode cX6_feature 39 = .ok (.iload_n 2, 1) := dk_28 (dk_at dksX6_feature_1 16 rfl rfl)
theorem dX6_feature_40 : decode cX6_feature 40 = .ok (.invokevirtual 391, 3) := dk_182 1 135 (dk_at dksX6_feature_1 17 rfl rfl)
theorem dX6_feature_43 : decode cX6_feature 43 = .ok (.goto 4, 3) := dk_167 0 4 (dk_at dksX6_feature_1 20 rfl rfl)
theorem dX6_feature_46 : decode cX6_feature 46 = .ok (.fconst 0, 1) := dk_11 (dk_at dksX6_feature_1 23 rfl rfl)
theorem dX6_feature_47 : decode cX6_feature 47 = .ok (.freturn, 1) := dk_174 (dk_at dksX6_feature_2 0 rfl rfl)
def dkwX6_isFeature_0 : List UInt8 := [26, 133, 9, 20, 1, 190, 184, 0, 66, 172]
abbrev dktX6_isFeature_0 : List UInt8 := dkwX6_isFeature_0 ++ []
theorem dksX6_isFeature_0 : cX6_isFeature.data.toList.drop 0 = dktX6_isFeature_0 := by decide +kernel
theorem dX6_isFeature_0 : decode cX6_isFeature 0 = .ok (.iload_n 0, 1) := dk_26 (dk_at dksX6_isFeature_0 0 rfl rfl)
theorem dX6_isFeature_1 : decode cX6_isFeature 1 = .ok (.i2l, 1) := dk_133 (dk_at dksX6_isFeature_0 1 rfl rfl)
theorem dX6_isFeature_2 : decode cX6_isFeature 2 = .ok (.lconst 0, 1) := dk_9 (dk_at dksX6_isFeature_0 2 rfl rfl)
theorem dX6_isFeature_3 : decode cX6_isFeature 3 = .ok (.ldc2_w 446, 3) := dk_20 1 190 (dk_at dksX6_isFeature_0 3 rfl rfl)
theorem dX6_isFeature_6 : decode cX6_isFeature 6 = .ok (.invokestatic 66, 3) := dk_184 0 66 (dk_at dksX6_isFeature_0 6 rfl rfl)
theorem dX6_isFeature_9 : decode cX6_isFeature 9 = .ok (.ireturn, 1) := dk_172 (dk_at dksX6_isFeature_0 9 rfl rfl)
def dkwX6_matching_0 : List UInt8 := [42, 42, 27, 182, 1, 73, 182, 0, 77, 153, 0, 13, 42, 27, 16, 6, 182, 0, 70, 167, 0, 4, 3, 172]
abbrev dktX6_matching_0 : List UInt8 := dkwX6_matching_0 ++ []
theorem dksX6_matching_0 : cX6_matching.data.toList.drop 0 = dktX6_matching_0 := by decide +kernel
theorem dX6_matching_0 : decode cX6_matching 0 = .ok (.aload_n 0, 1) := dk_42 (dk_at dksX6_matching_0 0 rfl rfl)
theorem dX6_matching_1 : decode cX6_matching 1 = .ok (.aload_n 0, 1) := dk_42 (dk_at dksX6_matching_0 1 rfl rfl)
theorem dX6_matching_2 : decode cX6_matching 2 = .ok (.iload_n 1, 1) := dk_27 (dk_at dksX6_matching_0 2 rfl rfl)
theorem dX6_matching_3 : decode cX6_matching 3 = .ok (.invokevirtual 329, 3) := dk_182 1 73 (dk_at dksX6_matching_0 3 rfl rfl)
theorem dX6_matching_6 : decode cX6_matching 6 = .ok (.invokevirtual 77, 3) := dk_182 0 77 (dk_at dksX6_matching_0 6 rfl rfl)
theorem dX6_matching_9 : decode cX6_matching 9 = .ok (.ifCond .eq 13, 3) := dk_153 0 13 (dk_at dksX6_matching_0 9 rfl rfl)
theorem dX6_matching_12 : decode cX6_matching 12 = .ok (.aload_n 0, 1) := dk_42 (dk_at dksX6_matching_0 12 rfl rfl)
theorem dX6_matching_13 : decode cX6_matching 13 = .ok (.iload_n 1, 1) := dk_27 (dk_at dksX6_matching_0 13 rfl rfl)
theorem dX6_matching_14 : decode cX6_matching 14 = .ok (.bipush 6, 2) := dk_16 6 (dk_at dksX6_matching_0 14 rfl rfl)
theorem dX6_matching_16 : decode cX6_matching 16 = .ok (.invokevirtual 70, 3) := dk_182 0 70 (dk_at dksX6_matching_0 16 rfl rfl)
theorem dX6_matching_19 : decode cX6_matching 19 = .ok (.goto 4, 3) := dk_167 0 4 (dk_at dksX6_matching_0 19 rfl rfl)
theorem dX6_matching_22 : decode cX6_matching 22 = .ok (.iconst 0, 1) := dk_3 (dk_at dksX6_matching_0 22 rfl rfl)
theorem dX6_matching_23 : decode cX6_matching 23 = .ok (.ireturn, 1) := dk_172 (dk_at dksX6_matching_0 23 rfl rfl)
def dkwX6_hiding_0 : List UInt8 := [42, 42, 27, 182, 1, 73, 182, 0, 77, 153, 0, 13, 42, 27, 16, 7, 182, 0, 70, 167, 0, 4, 3, 172]
abbrev dktX6_hiding_0 : List UInt8 := dkwX6_hiding_0 ++ []
theorem dksX6_hiding_0 : cX6_hiding.data.toList.drop 0 = dktX6_hiding_0 := by decide +kernel
theorem dX6_hiding_0 : decode cX6_hiding 0 = .ok (.aload_n 0, 1) := dk_42 (dk_at dksX6_hiding_0 0 rfl rfl)
theorem dX6_hiding_1 : decode cX6_hiding 1 = .ok (.aload_n 0, 1) := dk_42 (dk_at dksX6_hiding_0 1 rfl rfl)
theorem dX6_hiding_2 : decode cX6_hiding 2 = .ok (.iload_n 1, 1) := dk_27 (dk_at dksX6_hiding_0 2 rfl rfl)
theorem dX6_hiding_3 : decode cX6_hiding 3 = .ok (.invokevirtual 329, 3) := dk_182 1 73 (dk_at dksX6_hiding_0 3 rfl rfl)
theorem dX6_hiding_6 : decode cX6_hiding 6 = .ok (.invokevirtual 77, 3) := dk_182 0 77 (dk_at dksX6_hiding_0 6 rfl rfl)
theorem dX6_hiding_9 : decode cX6_hiding 9 = .ok (.ifCond .eq 13, 3) := dk_153 0 13 (dk_at dksX6_hiding_0 9 rfl rfl)
theorem dX6_hiding_12 : decode cX6_hiding 12 = .ok (.aload_n 0, 1) := dk_42 (dk_at dksX6_hiding_0 12 rfl rfl)
theorem dX6_hiding_13 : decode cX6_hiding 13 = .ok (.iload_n 1, 1) := dk_27 (dk_at dksX6_hiding_0 13 rfl rfl)
theorem dX6_hiding_14 : decode cX6_hiding 14 = .ok (.bipush 7, 2) := dk_16 7 (dk_at dksX6_hiding_0 14 rfl rfl)
theorem dX6_hiding_16 : decode cX6_hiding 16 = .ok (.invokevirtual 70, 3) := dk_182 0 70 (dk_at dksX6_hiding_0 16 rfl rfl)
theorem dX6_hiding_19 : decode cX6_hiding 19 = .ok (.goto 4, 3) := dk_167 0 4 (dk_at dksX6_hiding_0 19 rfl rfl)
theorem dX6_hiding_22 : decode cX6_hiding 22 = .ok (.iconst 0, 1) := dk_3 (dk_at dksX6_hiding_0 22 rfl rfl)
theorem dX6_hiding_23 : decode cX6_hiding 23 = .ok (.ireturn, 1) := dk_172 (dk_at dksX6_hiding_0 23 rfl rfl)
def dkwX6_isSuspect_1 : List UInt8 := [167, 0, 4, 3, 172]
abbrev dktX6_isSuspect_1 : List UInt8 := dkwX6_isSuspect_1 ++ []
def dkwX6_isSuspect_0 : List UInt8 := [42, 42, 27, 182, 1, 73, 182, 0, 77, 153, 0, 18, 42, 27, 16, 8, 182, 0, 70, 4, 160, 0, 7, 4]
abbrev dktX6_isSuspect_0 : List UInt8 := dkwX6_isSuspect_0 ++ dktX6_isSuspect_1
theorem dksX6_isSuspect_0 : cX6_isSuspect.data.toList.drop 0 = dktX6_isSuspect_0 := by decide +kernel
theorem dksX6_isSuspect_1 : cX6_isSuspect.data.toList.drop 24 = dktX6_isSuspect_1 := dk_seg dksX6_isSuspect_0 24 rfl rfl
theorem dX6_isSuspect_0 : decode cX6_isSuspect 0 = .ok (.aload_n 0, 1) := dk_42 (dk_at dksX6_isSuspect_0 0 rfl rfl)
theorem dX6_isSuspect_1 : decode cX6_isSuspect 1 = .ok (.aload_n 0, 1) := dk_42 (dk_at dksX6_isSuspect_0 1 rfl rfl)
theorem dX6_isSuspect_2 : decode cX6_isSuspect 2 = .ok (.iload_n 1, 1) := dk_27 (dk_at dksX6_isSuspect_0 2 rfl rfl)
theorem dX6_isSuspect_3 : decode cX6_isSuspect 3 = .ok (.invokevirtual 329, 3) := dk_182 1 73 (dk_at dksX6_isSuspect_0 3 rfl rfl)
theorem dX6_isSuspect_6 : decode cX6_isSuspect 6 = .ok (.invokevirtual 77, 3) := dk_182 0 77 (dk_at dksX6_isSuspect_0 6 rfl rfl)
theorem dX6_isSuspect_9 : decode cX6_isSuspect 9 = .ok (.ifCond .eq 18, 3) := dk_153 0 18 (dk_at dksX6_isSuspect_0 9 rfl rfl)
theorem dX6_isSuspect_12 : decode cX6_isSuspect 12 = .ok (.aload_n 0, 1) := dk_42 (dk_at dksX6_isSuspect_0 12 rfl rfl)
theorem dX6_isSuspect_13 : decode cX6_isSuspect 13 = .ok (.iload_n 1, 1) := dk_27 (dk_at dksX6_isSuspect_0 13 rfl rfl)
theorem dX6_isSuspect_14 : decode cX6_isSuspect 14 = .ok (.bipush 8, 2) := dk_16 8 (dk_at dksX6_isSuspect_0 14 rfl rfl)
theorem dX6_isSuspect_16 : decode cX6_isSuspect 16 = .ok (.invokevirtual 70, 3) := dk_182 0 70 (dk_at dksX6_isSuspect_0 16 rfl rfl)
theorem dX6_isSuspect_19 : decode cX6_isSuspect 19 = .ok (.iconst 1, 1) := dk_4 (dk_at dksX6_isSuspect_0 19 rfl rfl)
theorem dX6_isSuspect_20 : decode cX6_isSuspect 20 = .ok (.if_icmp .ne 7, 3) := dk_160 0 7 (dk_at dksX6_isSuspect_0 20 rfl rfl)
theorem dX6_isSuspect_23 : decode cX6_isSuspect 23 = .ok (.iconst 1, 1) := dk_4 (dk_at dksX6_isSuspect_0 23 rfl rfl)
theorem dX6_isSuspect_24 : decode cX6_isSuspect 24 = .ok (.goto 4, 3) := dk_167 0 4 (dk_at dksX6_isSuspect_1 0 rfl rfl)
theorem dX6_isSuspect_27 : decode cX6_isSuspect 27 = .ok (.iconst 0, 1) := dk_3 (dk_at dksX6_isSuspect_1 3 rfl rfl)
theorem dX6_isSuspect_28 : decode cX6_isSuspect 28 = .ok (.ireturn, 1) := dk_172 (dk_at dksX6_isSuspect_1 4 rfl rfl)
def dkwX6_suspects_1 : List UInt8 := [167, 0, 4, 3, 172]
abbrev dktX6_suspects_1 : List UInt8 := dkwX6_suspects_1 ++ []
def dkwX6_suspects_0 : List UInt8 := [42, 42, 27, 182, 1, 73, 182, 0, 77, 153, 0, 16, 42, 27, 42, 27, 182, 1, 149, 182, 1, 166]
abbrev dktX6_suspects_0 : List UInt8 := dkwX6_suspects_0 ++ dktX6_suspects_1
theorem dksX6_suspects_0 : cX6_suspects.data.toList.drop 0 = dktX6_suspects_0 := by decide +kernel
theorem dksX6_suspects_1 : cX6_suspects.data.toList.drop 22 = dktX6_suspects_1 := dk_seg dksX6_suspects_0 22 rfl rfl
theorem dX6_suspects_0 : decode cX6_suspects 0 = .ok (.aload_n 0, 1) := dk_42 (dk_at dksX6_suspects_0 0 rfl rfl)
theorem dX6_suspects_1 : decode cX6_suspects 1 = .ok (.aload_n 0, 1) := dk_42 (dk_at dksX6_suspects_0 1 rfl rfl)
theorem dX6_suspects_2 : decode cX6_suspects 2 = .ok (.iload_n 1, 1) := dk_27 (dk_at dksX6_suspects_0 2 rfl rfl)
theorem dX6_suspects_3 : decode cX6_suspects 3 = .ok (.invokevirtual 329, 3) := dk_182 1 73 (dk_at dksX6_suspects_0 3 rfl rfl)
theorem dX6_suspects_6 : decode cX6_suspects 6 = .ok (.invokevirtual 77, 3) := dk_182 0 77 (dk_at dksX6_suspects_0 6 rfl rfl)
theorem dX6_suspects_9 : decode cX6_suspects 9 = .ok (.ifCond .eq 16, 3) := dk_153 0 16 (dk_at dksX6_suspects_0 9 rfl rfl)
theorem dX6_suspects_12 : decode cX6_suspects 12 = .ok (.aload_n 0, 1) := dk_42 (dk_at dksX6_suspects_0 12 rfl rfl)
theorem dX6_suspects_13 : decode cX6_suspects 13 = .ok (.iload_n 1, 1) := dk_27 (dk_at dksX6_suspects_0 13 rfl rfl)
theorem dX6_suspects_14 : decode cX6_suspects 14 = .ok (.aload_n 0, 1) := dk_42 (dk_at dksX6_suspects_0 14 rfl rfl)
theorem dX6_suspects_15 : decode cX6_suspects 15 = .ok (.iload_n 1, 1) := dk_27 (dk_at dksX6_suspects_0 15 rfl rfl)
theorem dX6_suspects_16 : decode cX6_suspects 16 = .ok (.invokevirtual 405, 3) := dk_182 1 149 (dk_at dksX6_suspects_0 16 rfl rfl)
theorem dX6_suspects_19 : decode cX6_suspects 19 = .ok (.invokevirtual 422, 3) := dk_182 1 166 (dk_at dksX6_suspects_0 19 rfl rfl)
theorem dX6_suspects_22 : decode cX6_suspects 22 = .ok (.goto 4, 3) := dk_167 0 4 (dk_at dksX6_suspects_1 0 rfl rfl)
theorem dX6_suspects_25 : decode cX6_suspects 25 = .ok (.iconst 0, 1) := dk_3 (dk_at dksX6_suspects_1 3 rfl rfl)
theorem dX6_suspects_26 : decode cX6_suspects 26 = .ok (.ireturn, 1) := dk_172 (dk_at dksX6_suspects_1 4 rfl rfl)
def dkwX6_wasSuspect_2 : List UInt8 := [172]
abbrev dktX6_wasSuspect_2 : List UInt8 := dkwX6_wasSuspect_2 ++ []
def dkwX6_wasSuspect_1 : List UInt8 := [182, 1, 149, 162, 0, 20, 42, 27, 16, 16, 28, 96, 182, 0, 70, 4, 160, 0, 7, 4, 167, 0, 4, 3]
abbrev dktX6_wasSuspect_1 : List UInt8 := dkwX6_wasSuspect_1 ++ dktX6_wasSuspect_2
def dkwX6_wasSuspect_0 : List UInt8 := [42, 42, 27, 182, 1, 73, 28, 133, 9, 20, 1, 195, 184, 0, 66, 182, 1, 82, 153, 0, 29, 28, 42, 27]
abbrev dktX6_wasSuspect_0 : List UInt8 := dkwX6_wasSuspect_0 ++ dktX6_wasSuspect_1
theorem dksX6_wasSuspect_0 : cX6_wasSuspect.data.toList.drop 0 = dktX6_wasSuspect_0 := by decide +kernel
theorem dksX6_wasSuspect_1 : cX6_wasSuspect.data.toList.drop 24 = dktX6_wasSuspect_1 := dk_seg dksX6_wasSuspect_0 24 rfl rfl
theorem dksX6_wasSuspect_2 : cX6_wasSuspect.data.toList.drop 48 = dktX6_wasSuspect_2 := dk_seg dksX6_wasSuspect_1 24 rfl rfl
theorem dX6_wasSuspect_0 : decode cX6_wasSuspect 0 = .ok (.aload_n 0, 1) := dk_42 (dk_at dksX6_wasSuspect_0 0 rfl rfl)
theorem dX6_wasSuspect_1 : decode cX6_wasSuspect 1 = .ok (.aload_n 0, 1) := dk_42 (dk_at dksX6_wasSuspect_0 1 rfl rfl)
theorem dX6_wasSuspect_2 : decode cX6_wasSuspect 2 = .ok (.iload_n 1, 1) := dk_27 (dk_at dksX6_wasSuspect_0 2 rfl rfl)
theorem dX6_wasSuspect_3 : decode cX6_wasSuspect 3 = .ok (.invokevirtual 329, 3) := dk_182 1 73 (dk_at dksX6_wasSuspect_0 3 rfl rfl)
theorem dX6_wasSuspect_6 : decode cX6_wasSuspect 6 = .ok (.iload_n 2, 1) := dk_28 (dk_at dksX6_wasSuspect_0 6 rfl rfl)
theorem dX6_wasSuspect_7 : decode cX6_wasSuspect 7 = .ok (.i2l, 1) := dk_133 (dk_at dksX6_wasSuspect_0 7 rfl rfl)
theorem dX6_wasSuspect_8 : decode cX6_wasSuspect 8 = .ok (.lconst 0, 1) := dk_9 (dk_at dksX6_wasSuspect_0 8 rfl rfl)
theorem dX6_wasSuspect_9 : decode cX6_wasSuspect 9 = .ok (.ldc2_w 451, 3) := dk_20 1 195 (dk_at dksX6_wasSuspect_0 9 rfl rfl)
theorem dX6_wasSuspect_12 : decode cX6_wasSuspect 12 = .ok (.invokestatic 66, 3) := dk_184 0 66 (dk_at dksX6_wasSuspect_0 12 rfl rfl)
theorem dX6_wasSuspect_15 : decode cX6_wasSuspect 15 = .ok (.invokevirtual 338, 3) := dk_182 1 82 (dk_at dksX6_wasSuspect_0 15 rfl rfl)
theorem dX6_wasSuspect_18 : decode cX6_wasSuspect 18 = .ok (.ifCond .eq 29, 3) := dk_153 0 29 (dk_at dksX6_wasSuspect_0 18 rfl rfl)
theorem dX6_wasSuspect_21 : decode cX6_wasSuspect 21 = .ok (.iload_n 2, 1) := dk_28 (dk_at dksX6_wasSuspect_0 21 rfl rfl)
theorem dX6_wasSuspect_22 : decode cX6_wasSuspect 22 = .ok (.aload_n 0, 1) := dk_42 (dk_at dksX6_wasSuspect_0 22 rfl rfl)
theorem dX6_wasSuspect_23 : decode cX6_wasSuspect 23 = .ok (.iload_n 1, 1) := dk_27 (dk_at dksX6_wasSuspect_0 23 rfl rfl)
theorem dX6_wasSuspect_24 : decode cX6_wasSuspect 24 = .ok (.invokevirtual 405, 3) := dk_182 1 149 (dk_at dksX6_wasSuspect_1 0 rfl rfl)
theorem dX6_wasSuspect_27 : decode cX6_wasSuspect 27 = .ok (.if_icmp .ge 20, 3) := dk_162 0 20 (dk_at dksX6_wasSuspect_1 3 rfl rfl)
theorem dX6_wasSuspect_30 : decode cX6_wasSuspect 30 = .ok (.aload_n 0, 1) := dk_42 (dk_at dksX6_wasSuspect_1 6 rfl rfl)
theorem dX6_wasSuspect_31 : decode cX6_wasSuspect 31 = .ok (.iload_n 1, 1) := dk_27 (dk_at dksX6_wasSuspect_1 7 rfl rfl)
theorem dX6_wasSuspect_32 : decode cX6_wasSuspect 32 = .ok (.bipush 16, 2) := dk_16 16 (dk_at dksX6_wasSuspect_1 8 rfl rfl)
theorem dX6_wasSuspect_34 : decode cX6_wasSuspect 34 = .ok (.iload_n 2, 1) := dk_28 (dk_at dksX6_wasSuspect_1 10 rfl rfl)
theorem dX6_wasSuspect_35 : decode cX6_wasSuspect 35 = .ok (.iadd, 1) := dk_96 (dk_at dksX6_wasSuspect_1 11 rfl rfl)
theorem dX6_wasSuspect_36 : decode cX6_wasSuspect 36 = .ok (.invokevirtual 70, 3) := dk_182 0 70 (dk_at dksX6_wasSuspect_1 12 rfl rfl)
theorem dX6_wasSuspect_39 : decode cX6_wasSuspect 39 = .ok (.iconst 1, 1) := dk_4 (dk_at dksX6_wasSuspect_1 15 rfl rfl)
theorem dX6_wasSuspect_40 : decode cX6_wasSuspect 40 = .ok (.if_icmp .ne 7, 3) := dk_160 0 7 (dk_at dksX6_wasSuspect_1 16 rfl rfl)
theorem dX6_wasSuspect_43 : decode cX6_wasSuspect 43 = .ok (.iconst 1, 1) := dk_4 (dk_at dksX6_wasSuspect_1 19 rfl rfl)
theorem dX6_wasSuspect_44 : decode cX6_wasSuspect 44 = .ok (.goto 4, 3) := dk_167 0 4 (dk_at dksX6_wasSuspect_1 20 rfl rfl)
theorem dX6_wasSuspect_47 : decode cX6_wasSuspect 47 = .ok (.iconst 0, 1) := dk_3 (dk_at dksX6_wasSuspect_1 23 rfl rfl)
theorem dX6_wasSuspect_48 : decode cX6_wasSuspect 48 = .ok (.ireturn, 1) := dk_172 (dk_at dksX6_wasSuspect_2 0 rfl rfl)
def dkwX6_margin_0 : List UInt8 := [42, 42, 27, 182, 1, 73, 182, 0, 77, 153, 0, 11, 42, 27, 182, 1, 197, 167, 0, 4, 3, 172]
abbrev dktX6_margin_0 : List UInt8 := dkwX6_margin_0 ++ []
theorem dksX6_margin_0 : cX6_margin.data.toList.drop 0 = dktX6_margin_0 := by decide +kernel
theorem dX6_margin_0 : decode cX6_margin 0 = .ok (.aload_n 0, 1) := dk_42 (dk_at dksX6_margin_0 0 rfl rfl)
theorem dX6_margin_1 : decode cX6_margin 1 = .ok (.aload_n 0, 1) := dk_42 (dk_at dksX6_margin_0 1 rfl rfl)
theorem dX6_margin_2 : decode cX6_margin 2 = .ok (.iload_n 1, 1) := dk_27 (dk_at dksX6_margin_0 2 rfl rfl)
theorem dX6_margin_3 : decode cX6_margin 3 = .ok (.invokevirtual 329, 3) := dk_182 1 73 (dk_at dksX6_margin_0 3 rfl rfl)
theorem dX6_margin_6 : decode cX6_margin 6 = .ok (.invokevirtual 77, 3) := dk_182 0 77 (dk_at dksX6_margin_0 6 rfl rfl)
theorem dX6_margin_9 : decode cX6_margin 9 = .ok (.ifCond .eq 11, 3) := dk_153 0 11 (dk_at dksX6_margin_0 9 rfl rfl)
theorem dX6_margin_12 : decode cX6_margin 12 = .ok (.aload_n 0, 1) := dk_42 (dk_at dksX6_margin_0 12 rfl rfl)
theorem dX6_margin_13 : decode cX6_margin 13 = .ok (.iload_n 1, 1) := dk_27 (dk_at dksX6_margin_0 13 rfl rfl)
theorem dX6_margin_14 : decode cX6_margin 14 = .ok (.invokevirtual 453, 3) := dk_182 1 197 (dk_at dksX6_margin_0 14 rfl rfl)
theorem dX6_margin_17 : decode cX6_margin 17 = .ok (.goto 4, 3) := dk_167 0 4 (dk_at dksX6_margin_0 17 rfl rfl)
theorem dX6_margin_20 : decode cX6_margin 20 = .ok (.iconst 0, 1) := dk_3 (dk_at dksX6_margin_0 20 rfl rfl)
theorem dX6_margin_21 : decode cX6_margin 21 = .ok (.ireturn, 1) := dk_172 (dk_at dksX6_margin_0 21 rfl rfl)
def dkwX6_marginOf_2 : List UInt8 := [167, 255, 220, 28, 172]
abbrev dktX6_marginOf_2 : List UInt8 := dkwX6_marginOf_2 ++ []
def dkwX6_marginOf_1 : List UInt8 := [27, 8, 182, 0, 70, 184, 0, 120, 182, 1, 166, 96, 42, 180, 0, 17, 5, 46, 162, 0, 9, 132, 2, 1]
abbrev dktX6_marginOf_1 : List UInt8 := dkwX6_marginOf_1 ++ dktX6_marginOf_2
def dkwX6_marginOf_0 : List UInt8 := [42, 27, 182, 1, 102, 154, 0, 5, 2, 172, 4, 61, 28, 42, 27, 42, 180, 0, 17, 4, 46, 28, 100, 42]
abbrev dktX6_marginOf_0 : List UInt8 := dkwX6_marginOf_0 ++ dktX6_marginOf_1
theorem dksX6_marginOf_0 : cX6_marginOf.data.toList.drop 0 = dktX6_marginOf_0 := by decide +kernel
theorem dksX6_marginOf_1 : cX6_marginOf.data.toList.drop 24 = dktX6_marginOf_1 := dk_seg dksX6_marginOf_0 24 rfl rfl
theorem dksX6_marginOf_2 : cX6_marginOf.data.toList.drop 48 = dktX6_marginOf_2 := dk_seg dksX6_marginOf_1 24 rfl rfl
theorem dX6_marginOf_0 : decode cX6_marginOf 0 = .ok (.aload_n 0, 1) := dk_42 (dk_at dksX6_marginOf_0 0 rfl rfl)
theorem dX6_marginOf_1 : decode cX6_marginOf 1 = .ok (.iload_n 1, 1) := dk_27 (dk_at dksX6_marginOf_0 1 rfl rfl)
theorem dX6_marginOf_2 : decode cX6_marginOf 2 = .ok (.invokevirtual 358, 3) := dk_182 1 102 (dk_at dksX6_marginOf_0 2 rfl rfl)
theorem dX6_marginOf_5 : decode cX6_marginOf 5 = .ok (.ifCond .ne 5, 3) := dk_154 0 5 (dk_at dksX6_marginOf_0 5 rfl rfl)
theorem dX6_marginOf_8 : decode cX6_marginOf 8 = .ok (.iconst (-1), 1) := dk_2 (dk_at dksX6_marginOf_0 8 rfl rfl)
theorem dX6_marginOf_9 : decode cX6_marginOf 9 = .ok (.ireturn, 1) := dk_172 (dk_at dksX6_marginOf_0 9 rfl rfl)
theorem dX6_marginOf_10 : decode cX6_marginOf 10 = .ok (.iconst 1, 1) := dk_4 (dk_at dksX6_marginOf_0 10 rfl rfl)
theorem dX6_marginOf_11 : decode cX6_marginOf 11 = .ok (.istore_n 2, 1) := dk_61 (dk_at dksX6_marginOf_0 11 rfl rfl)
theorem dX6_marginOf_12 : decode cX6_marginOf 12 = .ok (.iload_n 2, 1) := dk_28 (dk_at dksX6_marginOf_0 12 rfl rfl)
theorem dX6_marginOf_13 : decode cX6_marginOf 13 = .ok (.aload_n 0, 1) := dk_42 (dk_at dksX6_marginOf_0 13 rfl rfl)
theorem dX6_marginOf_14 : decode cX6_marginOf 14 = .ok (.iload_n 1, 1) := dk_27 (dk_at dksX6_marginOf_0 14 rfl rfl)
theorem dX6_marginOf_15 : decode cX6_marginOf 15 = .ok (.aload_n 0, 1) := dk_42 (dk_at dksX6_marginOf_0 15 rfl rfl)
theorem dX6_marginOf_16 : decode cX6_marginOf 16 = .ok (.getfield 17, 3) := dk_180 0 17 (dk_at dksX6_marginOf_0 16 rfl rfl)
theorem dX6_marginOf_19 : decode cX6_marginOf 19 = .ok (.iconst 1, 1) := dk_4 (dk_at dksX6_marginOf_0 19 rfl rfl)
theorem dX6_marginOf_20 : decode cX6_marginOf 20 = .ok (.iaload, 1) := dk_46 (dk_at dksX6_marginOf_0 20 rfl rfl)
theorem dX6_marginOf_21 : decode cX6_marginOf 21 = .ok (.iload_n 2, 1) := dk_28 (dk_at dksX6_marginOf_0 21 rfl rfl)
theorem dX6_marginOf_22 : decode cX6_marginOf 22 = .ok (.isub, 1) := dk_100 (dk_at dksX6_marginOf_0 22 rfl rfl)
theorem dX6_marginOf_23 : decode cX6_marginOf 23 = .ok (.aload_n 0, 1) := dk_42 (dk_at dksX6_marginOf_0 23 rfl rfl)
theorem dX6_marginOf_24 : decode cX6_marginOf 24 = .ok (.iload_n 1, 1) := dk_27 (dk_at dksX6_marginOf_1 0 rfl rfl)
theorem dX6_marginOf_25 : decode cX6_marginOf 25 = .ok (.iconst 5, 1) := dk_8 (dk_at dksX6_marginOf_1 1 rfl rfl)
theorem dX6_marginOf_26 : decode cX6_marginOf 26 = .ok (.invokevirtual 70, 3) := dk_182 0 70 (dk_at dksX6_marginOf_1 2 rfl rfl)
theorem dX6_marginOf_29 : decode cX6_marginOf 29 = .ok (.invokestatic 120, 3) := dk_184 0 120 (dk_at dksX6_marginOf_1 5 rfl rfl)
theorem dX6_marginOf_32 : decode cX6_marginOf 32 = .ok (.invokevirtual 422, 3) := dk_182 1 166 (dk_at dksX6_marginOf_1 8 rfl rfl)
theorem dX6_marginOf_35 : decode cX6_marginOf 35 = .ok (.iadd, 1) := dk_96 (dk_at dksX6_marginOf_1 11 rfl rfl)
theorem dX6_marginOf_36 : decode cX6_marginOf 36 = .ok (.aload_n 0, 1) := dk_42 (dk_at dksX6_marginOf_1 12 rfl rfl)
theorem dX6_marginOf_37 : decode cX6_marginOf 37 = .ok (.getfield 17, 3) := dk_180 0 17 (dk_at dksX6_marginOf_1 13 rfl rfl)
theorem dX6_marginOf_40 : decode cX6_marginOf 40 = .ok (.iconst 2, 1) := dk_5 (dk_at dksX6_marginOf_1 16 rfl rfl)
theorem dX6_marginOf_41 : decode cX6_marginOf 41 = .ok (.iaload, 1) := dk_46 (dk_at dksX6_marginOf_1 17 rfl rfl)
theorem dX6_marginOf_42 : decode cX6_marginOf 42 = .ok (.if_icmp .ge 9, 3) := dk_162 0 9 (dk_at dksX6_marginOf_1 18 rfl rfl)
theorem dX6_marginOf_45 : decode cX6_marginOf 45 = .ok (.iinc 2 1, 3) := dk_132 2 1 (dk_at dksX6_marginOf_1 21 rfl rfl)
theorem dX6_marginOf_48 : decode cX6_marginOf 48 = .ok (.goto (-36), 3) := dk_167 255 220 (dk_at dksX6_marginOf_2 0 rfl rfl)
theorem dX6_marginOf_51 : decode cX6_marginOf 51 = .ok (.iload_n 2, 1) := dk_28 (dk_at dksX6_marginOf_2 3 rfl rfl)
theorem dX6_marginOf_52 : decode cX6_marginOf 52 = .ok (.ireturn, 1) := dk_172 (dk_at dksX6_marginOf_2 4 rfl rfl)
def dkwX6_hits_1 : List UInt8 := [5, 96, 46, 167, 0, 4, 3, 172]
abbrev dktX6_hits_1 : List UInt8 := dkwX6_hits_1 ++ []
def dkwX6_hits_0 : List UInt8 := [42, 42, 27, 182, 1, 200, 182, 0, 77, 153, 0, 21, 42, 180, 0, 17, 17, 1, 219, 16, 27, 27, 104, 96]
abbrev dktX6_hits_0 : List UInt8 := dkwX6_hits_0 ++ dktX6_hits_1
theorem dksX6_hits_0 : cX6_hits.data.toList.drop 0 = dktX6_hits_0 := by decide +kernel
theorem dksX6_hits_1 : cX6_hits.data.toList.drop 24 = dktX6_hits_1 := dk_seg dksX6_hits_0 24 rfl rfl
theorem dX6_hits_0 : decode cX6_hits 0 = .ok (.aload_n 0, 1) := dk_42 (dk_at dksX6_hits_0 0 rfl rfl)
theorem dX6_hits_1 : decode cX6_hits 1 = .ok (.aload_n 0, 1) := dk_42 (dk_at dksX6_hits_0 1 rfl rfl)
theorem dX6_hits_2 : decode cX6_hits 2 = .ok (.iload_n 1, 1) := dk_27 (dk_at dksX6_hits_0 2 rfl rfl)
theorem dX6_hits_3 : decode cX6_hits 3 = .ok (.invokevirtual 456, 3) := dk_182 1 200 (dk_at dksX6_hits_0 3 rfl rfl)
theorem dX6_hits_6 : decode cX6_hits 6 = .ok (.invokevirtual 77, 3) := dk_182 0 77 (dk_at dksX6_hits_0 6 rfl rfl)
theorem dX6_hits_9 : decode cX6_hits 9 = .ok (.ifCond .eq 21, 3) := dk_153 0 21 (dk_at dksX6_hits_0 9 rfl rfl)
theorem dX6_hits_12 : decode cX6_hits 12 = .ok (.aload_n 0, 1) := dk_42 (dk_at dksX6_hits_0 12 rfl rfl)
theorem dX6_hits_13 : decode cX6_hits 13 = .ok (.getfield 17, 3) := dk_180 0 17 (dk_at dksX6_hits_0 13 rfl rfl)
theorem dX6_hits_16 : decode cX6_hits 16 = .ok (.sipush 475, 3) := dk_17 1 219 (dk_at dksX6_hits_0 16 rfl rfl)
theorem dX6_hits_19 : decode cX6_hits 19 = .ok (.bipush 27, 2) := dk_16 27 (dk_at dksX6_hits_0 19 rfl rfl)
theorem dX6_hits_21 : decode cX6_hits 21 = .ok (.iload_n 1, 1) := dk_27 (dk_at dksX6_hits_0 21 rfl rfl)
theorem dX6_hits_22 : decode cX6_hits 22 = .ok (.imul, 1) := dk_104 (dk_at dksX6_hits_0 22 rfl rfl)
theorem dX6_hits_23 : decode cX6_hits 23 = .ok (.iadd, 1) := dk_96 (dk_at dksX6_hits_0 23 rfl rfl)
theorem dX6_hits_24 : decode cX6_hits 24 = .ok (.iconst 2, 1) := dk_5 (dk_at dksX6_hits_1 0 rfl rfl)
theorem dX6_hits_25 : decode cX6_hits 25 = .ok (.iadd, 1) := dk_96 (dk_at dksX6_hits_1 1 rfl rfl)
theorem dX6_hits_26 : decode cX6_hits 26 = .ok (.iaload, 1) := dk_46 (dk_at dksX6_hits_1 2 rfl rfl)
theorem dX6_hits_27 : decode cX6_hits 27 = .ok (.goto 4, 3) := dk_167 0 4 (dk_at dksX6_hits_1 3 rfl rfl)
theorem dX6_hits_30 : decode cX6_hits 30 = .ok (.iconst 0, 1) := dk_3 (dk_at dksX6_hits_1 6 rfl rfl)
theorem dX6_hits_31 : decode cX6_hits 31 = .ok (.ireturn, 1) := dk_172 (dk_at dksX6_hits_1 7 rfl rfl)
def dkwX6_isSignature_0 : List UInt8 := [27, 133, 9, 42, 180, 0, 24, 8, 46, 4, 100, 133, 184, 0, 66, 172]
abbrev dktX6_isSignature_0 : List UInt8 := dkwX6_isSignature_0 ++ []
theorem dksX6_isSignature_0 : cX6_isSignature.data.toList.drop 0 = dktX6_isSignature_0 := by decide +kernel
theorem dX6_isSignature_0 : decode cX6_isSignature 0 = .ok (.iload_n 1, 1) := dk_27 (dk_at dksX6_isSignature_0 0 rfl rfl)
theorem dX6_isSignature_1 : decode cX6_isSignature 1 = .ok (.i2l, 1) := dk_133 (dk_at dksX6_isSignature_0 1 rfl rfl)
theorem dX6_isSignature_2 : decode cX6_isSignature 2 = .ok (.lconst 0, 1) := dk_9 (dk_at dksX6_isSignature_0 2 rfl rfl)
theorem dX6_isSignature_3 : decode cX6_isSignature 3 = .ok (.aload_n 0, 1) := dk_42 (dk_at dksX6_isSignature_0 3 rfl rfl)
theorem dX6_isSignature_4 : decode cX6_isSignature 4 = .ok (.getfield 24, 3) := dk_180 0 24 (dk_at dksX6_isSignature_0 4 rfl rfl)
theorem dX6_isSignature_7 : decode cX6_isSignature 7 = .ok (.iconst 5, 1) := dk_8 (dk_at dksX6_isSignature_0 7 rfl rfl)
theorem dX6_isSignature_8 : decode cX6_isSignature 8 = .ok (.iaload, 1) := dk_46 (dk_at dksX6_isSignature_0 8 rfl rfl)
theorem dX6_isSignature_9 : decode cX6_isSignature 9 = .ok (.iconst 1, 1) := dk_4 (dk_at dksX6_isSignature_0 9 rfl rfl)
theorem dX6_isSignature_10 : decode cX6_isSignature 10 = .ok (.isub, 1) := dk_100 (dk_at dksX6_isSignature_0 10 rfl rfl)
theorem dX6_isSignature_11 : decode cX6_isSignature 11 = .ok (.i2l, 1) := dk_133 (dk_at dksX6_isSignature_0 11 rfl rfl)
theorem dX6_isSignature_12 : decode cX6_isSignature 12 = .ok (.invokestatic 66, 3) := dk_184 0 66 (dk_at dksX6_isSignature_0 12 rfl rfl)
theorem dX6_isSignature_15 : decode cX6_isSignature 15 = .ok (.ireturn, 1) := dk_172 (dk_at dksX6_isSignature_0 15 rfl rfl)
def dkwX6_isAlways_1 : List UInt8 := [3, 172]
abbrev dktX6_isAlways_1 : List UInt8 := dkwX6_isAlways_1 ++ []
def dkwX6_isAlways_0 : List UInt8 := [42, 42, 27, 182, 1, 200, 182, 0, 77, 153, 0, 15, 42, 27, 182, 1, 132, 153, 0, 7, 4, 167, 0, 4]
abbrev dktX6_isAlways_0 : List UInt8 := dkwX6_isAlways_0 ++ dktX6_isAlways_1
theorem dksX6_isAlways_0 : cX6_isAlways.data.toList.drop 0 = dktX6_isAlways_0 := by decide +kernel
theorem dksX6_isAlways_1 : cX6_isAlways.data.toList.drop 24 = dktX6_isAlways_1 := dk_seg dksX6_isAlways_0 24 rfl rfl
theorem dX6_isAlways_0 : decode cX6_isAlways 0 = .ok (.aload_n 0, 1) := dk_42 (dk_at dksX6_isAlways_0 0 rfl rfl)
theorem dX6_isAlways_1 : decode cX6_isAlways 1 = .ok (.aload_n 0, 1) := dk_42 (dk_at dksX6_isAlways_0 1 rfl rfl)
theorem dX6_isAlways_2 : decode cX6_isAlways 2 = .ok (.iload_n 1, 1) := dk_27 (dk_at dksX6_isAlways_0 2 rfl rfl)
theorem dX6_isAlways_3 : decode cX6_isAlways 3 = .ok (.invokevirtual 456, 3) := dk_182 1 200 (dk_at dksX6_isAlways_0 3 rfl rfl)
theorem dX6_isAlways_6 : decode cX6_isAlways 6 = .ok (.invokevirtual 77, 3) := dk_182 0 77 (dk_at dksX6_isAlways_0 6 rfl rfl)
theorem dX6_isAlways_9 : decode cX6_isAlways 9 = .ok (.ifCond .eq 15, 3) := dk_153 0 15 (dk_at dksX6_isAlways_0 9 rfl rfl)
theorem dX6_isAlways_12 : decode cX6_isAlways 12 = .ok (.aload_n 0, 1) := dk_42 (dk_at dksX6_isAlways_0 12 rfl rfl)
theorem dX6_isAlways_13 : decode cX6_isAlways 13 = .ok (.iload_n 1, 1) := dk_27 (dk_at dksX6_isAlways_0 13 rfl rfl)
theorem dX6_isAlways_14 : decode cX6_isAlways 14 = .ok (.invokevirtual 388, 3) := dk_182 1 132 (dk_at dksX6_isAlways_0 14 rfl rfl)
theorem dX6_isAlways_17 : decode cX6_isAlways 17 = .ok (.ifCond .eq 7, 3) := dk_153 0 7 (dk_at dksX6_isAlways_0 17 rfl rfl)
theorem dX6_isAlways_20 : decode cX6_isAlways 20 = .ok (.iconst 1, 1) := dk_4 (dk_at dksX6_isAlways_0 20 rfl rfl)
theorem dX6_isAlways_21 : decode cX6_isAlways 21 = .ok (.goto 4, 3) := dk_167 0 4 (dk_at dksX6_isAlways_0 21 rfl rfl)
theorem dX6_isAlways_24 : decode cX6_isAlways 24 = .ok (.iconst 0, 1) := dk_3 (dk_at dksX6_isAlways_1 0 rfl rfl)
theorem dX6_isAlways_25 : decode cX6_isAlways 25 = .ok (.ireturn, 1) := dk_172 (dk_at dksX6_isAlways_1 1 rfl rfl)
def dkwX6_nuisanceHits_1 : List UInt8 := [5, 96, 46, 167, 0, 4, 3, 172]
abbrev dktX6_nuisanceHits_1 : List UInt8 := dkwX6_nuisanceHits_1 ++ []
def dkwX6_nuisanceHits_0 : List UInt8 := [42, 42, 27, 182, 1, 203, 182, 0, 77, 153, 0, 21, 42, 180, 0, 17, 17, 2, 125, 16, 27, 27, 104, 96]
abbrev dktX6_nuisanceHits_0 : List UInt8 := dkwX6_nuisanceHits_0 ++ dktX6_nuisanceHits_1
theorem dksX6_nuisanceHits_0 : cX6_nuisanceHits.data.toList.drop 0 = dktX6_nuisanceHits_0 := by decide +kernel
theorem dksX6_nuisanceHits_1 : cX6_nuisanceHits.data.toList.drop 24 = dktX6_nuisanceHits_1 := dk_seg dksX6_nuisanceHits_0 24 rfl rfl
theorem dX6_nuisanceHits_0 : decode cX6_nuisanceHits 0 = .ok (.aload_n 0, 1) := dk_42 (dk_at dksX6_nuisanceHits_0 0 rfl rfl)
theorem dX6_nuisanceHits_1 : decode cX6_nuisanceHits 1 = .ok (.aload_n 0, 1) := dk_42 (dk_at dksX6_nuisanceHits_0 1 rfl rfl)
theorem dX6_nuisanceHits_2 : decode cX6_nuisanceHits 2 = .ok (.iload_n 1, 1) := dk_27 (dk_at dksX6_nuisanceHits_0 2 rfl rfl)
theorem dX6_nuisanceHits_3 : decode cX6_nuisanceHits 3 = .ok (.invokevirtual 459, 3) := dk_182 1 203 (dk_at dksX6_nuisanceHits_0 3 rfl rfl)
theorem dX6_nuisanceHits_6 : decode cX6_nuisanceHits 6 = .ok (.invokevirtual 77, 3) := dk_182 0 77 (dk_at dksX6_nuisanceHits_0 6 rfl rfl)
theorem dX6_nuisanceHits_9 : decode cX6_nuisanceHits 9 = .ok (.ifCond .eq 21, 3) := dk_153 0 21 (dk_at dksX6_nuisanceHits_0 9 rfl rfl)
theorem dX6_nuisanceHits_12 : decode cX6_nuisanceHits 12 = .ok (.aload_n 0, 1) := dk_42 (dk_at dksX6_nuisanceHits_0 12 rfl rfl)
theorem dX6_nuisanceHits_13 : decode cX6_nuisanceHits 13 = .ok (.getfield 17, 3) := dk_180 0 17 (dk_at dksX6_nuisanceHits_0 13 rfl rfl)
theorem dX6_nuisanceHits_16 : decode cX6_nuisanceHits 16 = .ok (.sipush 637, 3) := dk_17 2 125 (dk_at dksX6_nuisanceHits_0 16 rfl rfl)
theorem dX6_nuisanceHits_19 : decode cX6_nuisanceHits 19 = .ok (.bipush 27, 2) := dk_16 27 (dk_at dksX6_nuisanceHits_0 19 rfl rfl)
theorem dX6_nuisanceHits_21 : decode cX6_nuisanceHits 21 = .ok (.iload_n 1, 1) := dk_27 (dk_at dksX6_nuisanceHits_0 21 rfl rfl)
theorem dX6_nuisanceHits_22 : decode cX6_nuisanceHits 22 = .ok (.imul, 1) := dk_104 (dk_at dksX6_nuisanceHits_0 22 rfl rfl)
theorem dX6_nuisanceHits_23 : decode cX6_nuisanceHits 23 = .ok (.iadd, 1) := dk_96 (dk_at dksX6_nuisanceHits_0 23 rfl rfl)
theorem dX6_nuisanceHits_24 : decode cX6_nuisanceHits 24 = .ok (.iconst 2, 1) := dk_5 (dk_at dksX6_nuisanceHits_1 0 rfl rfl)
theorem dX6_nuisanceHits_25 : decode cX6_nuisanceHits 25 = .ok (.iadd, 1) := dk_96 (dk_at dksX6_nuisanceHits_1 1 rfl rfl)
theorem dX6_nuisanceHits_26 : decode cX6_nuisanceHits 26 = .ok (.iaload, 1) := dk_46 (dk_at dksX6_nuisanceHits_1 2 rfl rfl)
theorem dX6_nuisanceHits_27 : decode cX6_nuisanceHits 27 = .ok (.goto 4, 3) := dk_167 0 4 (dk_at dksX6_nuisanceHits_1 3 rfl rfl)
theorem dX6_nuisanceHits_30 : decode cX6_nuisanceHits 30 = .ok (.iconst 0, 1) := dk_3 (dk_at dksX6_nuisanceHits_1 6 rfl rfl)
theorem dX6_nuisanceHits_31 : decode cX6_nuisanceHits 31 = .ok (.ireturn, 1) := dk_172 (dk_at dksX6_nuisanceHits_1 7 rfl rfl)
def dkwX6_isNuisance_0 : List UInt8 := [27, 133, 9, 42, 180, 0, 24, 16, 6, 46, 4, 100, 133, 184, 0, 66, 172]
abbrev dktX6_isNuisance_0 : List UInt8 := dkwX6_isNuisance_0 ++ []
theorem dksX6_isNuisance_0 : cX6_isNuisance.data.toList.drop 0 = dktX6_isNuisance_0 := by decide +kernel
theorem dX6_isNuisance_0 : decode cX6_isNuisance 0 = .ok (.iload_n 1, 1) := dk_27 (dk_at dksX6_isNuisance_0 0 rfl rfl)
theorem dX6_isNuisance_1 : decode cX6_isNuisance 1 = .ok (.i2l, 1) := dk_133 (dk_at dksX6_isNuisance_0 1 rfl rfl)
theorem dX6_isNuisance_2 : decode cX6_isNuisance 2 = .ok (.lconst 0, 1) := dk_9 (dk_at dksX6_isNuisance_0 2 rfl rfl)
theorem dX6_isNuisance_3 : decode cX6_isNuisance 3 = .ok (.aload_n 0, 1) := dk_42 (dk_at dksX6_isNuisance_0 3 rfl rfl)
theorem dX6_isNuisance_4 : decode cX6_isNuisance 4 = .ok (.getfield 24, 3) := dk_180 0 24 (dk_at dksX6_isNuisance_0 4 rfl rfl)
theorem dX6_isNuisance_7 : decode cX6_isNuisance 7 = .ok (.bipush 6, 2) := dk_16 6 (dk_at dksX6_isNuisance_0 7 rfl rfl)
theorem dX6_isNuisance_9 : decode cX6_isNuisance 9 = .ok (.iaload, 1) := dk_46 (dk_at dksX6_isNuisance_0 9 rfl rfl)
theorem dX6_isNuisance_10 : decode cX6_isNuisance 10 = .ok (.iconst 1, 1) := dk_4 (dk_at dksX6_isNuisance_0 10 rfl rfl)
theorem dX6_isNuisance_11 : decode cX6_isNuisance 11 = .ok (.isub, 1) := dk_100 (dk_at dksX6_isNuisance_0 11 rfl rfl)
theorem dX6_isNuisance_12 : decode cX6_isNuisance 12 = .ok (.i2l, 1) := dk_133 (dk_at dksX6_isNuisance_0 12 rfl rfl)
theorem dX6_isNuisance_13 : decode cX6_isNuisance 13 = .ok (.invokestatic 66, 3) := dk_184 0 66 (dk_at dksX6_isNuisance_0 13 rfl rfl)
theorem dX6_isNuisance_16 : decode cX6_isNuisance 16 = .ok (.ireturn, 1) := dk_172 (dk_at dksX6_isNuisance_0 16 rfl rfl)
def dkwX6_wouldMatch_3 : List UInt8 := [96, 182, 1, 129, 172]
abbrev dktX6_wouldMatch_3 : List UInt8 := dkwX6_wouldMatch_3 ++ []
def dkwX6_wouldMatch_2 : List UInt8 := [180, 0, 48, 7, 23, 6, 81, 42, 180, 0, 48, 8, 37, 37, 106, 81, 42, 17, 1, 219, 16, 27, 27, 104]
abbrev dktX6_wouldMatch_2 : List UInt8 := dkwX6_wouldMatch_2 ++ dktX6_wouldMatch_3
def dkwX6_wouldMatch_1 : List UInt8 := [180, 0, 48, 4, 37, 81, 42, 180, 0, 48, 5, 23, 4, 81, 42, 180, 0, 48, 6, 23, 5, 81, 42]
abbrev dktX6_wouldMatch_1 : List UInt8 := dkwX6_wouldMatch_1 ++ dktX6_wouldMatch_2
def dkwX6_wouldMatch_0 : List UInt8 := [42, 42, 27, 182, 1, 200, 182, 0, 77, 154, 0, 5, 3, 172, 42, 180, 0, 48, 3, 36, 81, 42]
abbrev dktX6_wouldMatch_0 : List UInt8 := dkwX6_wouldMatch_0 ++ dktX6_wouldMatch_1
theorem dksX6_wouldMatch_0 : cX6_wouldMatch.data.toList.drop 0 = dktX6_wouldMatch_0 := by decide +kernel
theorem dksX6_wouldMatch_1 : cX6_wouldMatch.data.toList.drop 22 = dktX6_wouldMatch_1 := dk_seg dksX6_wouldMatch_0 22 rfl rfl
theorem dksX6_wouldMatch_2 : cX6_wouldMatch.data.toList.drop 45 = dktX6_wouldMatch_2 := dk_seg dksX6_wouldMatch_1 23 rfl rfl
theorem dksX6_wouldMatch_3 : cX6_wouldMatch.data.toList.drop 69 = dktX6_wouldMatch_3 := dk_seg dksX6_wouldMatch_2 24 rfl rfl
theorem dX6_wouldMatch_0 : decode cX6_wouldMatch 0 = .ok (.aload_n 0, 1) := dk_42 (dk_at dksX6_wouldMatch_0 0 rfl rfl)
theorem dX6_wouldMatch_1 : decode cX6_wouldMatch 1 = .ok (.aload_n 0, 1) := dk_42 (dk_at dksX6_wouldMatch_0 1 rfl rfl)
theorem dX6_wouldMatch_2 : decode cX6_wouldMatch 2 = .ok (.iload_n 1, 1) := dk_27 (dk_at dksX6_wouldMatch_0 2 rfl rfl)
theorem dX6_wouldMatch_3 : decode cX6_wouldMatch 3 = .ok (.invokevirtual 456, 3) := dk_182 1 200 (dk_at dksX6_wouldMatch_0 3 rfl rfl)
theorem dX6_wouldMatch_6 : decode cX6_wouldMatch 6 = .ok (.invokevirtual 77, 3) := dk_182 0 77 (dk_at dksX6_wouldMatch_0 6 rfl rfl)
theorem dX6_wouldMatch_9 : decode cX6_wouldMatch 9 = .ok (.ifCond .ne 5, 3) := dk_154 0 5 (dk_at dksX6_wouldMatch_0 9 rfl rfl)
theorem dX6_wouldMatch_12 : decode cX6_wouldMatch 12 = .ok (.iconst 0, 1) := dk_3 (dk_at dksX6_wouldMatch_0 12 rfl rfl)
theorem dX6_wouldMatch_13 : decode cX6_wouldMatch 13 = .ok (.ireturn, 1) := dk_172 (dk_at dksX6_wouldMatch_0 13 rfl rfl)
theorem dX6_wouldMatch_14 : decode cX6_wouldMatch 14 = .ok (.aload_n 0, 1) := dk_42 (dk_at dksX6_wouldMatch_0 14 rfl rfl)
theorem dX6_wouldMatch_15 : decode cX6_wouldMatch 15 = .ok (.getfield 48, 3) := dk_180 0 48 (dk_at dksX6_wouldMatch_0 15 rfl rfl)
theorem dX6_wouldMatch_18 : decode cX6_wouldMatch 18 = .ok (.iconst 0, 1) := dk_3 (dk_at dksX6_wouldMatch_0 18 rfl rfl)
theorem dX6_wouldMatch_19 : decode cX6_wouldMatch 19 = .ok (.fload_n 2, 1) := dk_36 (dk_at dksX6_wouldMatch_0 19 rfl rfl)
theorem dX6_wouldMatch_20 : decode cX6_wouldMatch 20 = .ok (.fastore, 1) := dk_81 (dk_at dksX6_wouldMatch_0 20 rfl rfl)
theorem dX6_wouldMatch_21 : decode cX6_wouldMatch 21 = .ok (.aload_n 0, 1) := dk_42 (dk_at dksX6_wouldMatch_0 21 rfl rfl)
theorem dX6_wouldMatch_22 : decode cX6_wouldMatch 22 = .ok (.getfield 48, 3) := dk_180 0 48 (dk_at dksX6_wouldMatch_1 0 rfl rfl)
theorem dX6_wouldMatch_25 : decode cX6_wouldMatch 25 = .ok (.iconst 1, 1) := dk_4 (dk_at dksX6_wouldMatch_1 3 rfl rfl)
theorem dX6_wouldMatch_26 : decode cX6_wouldMatch 26 = .ok (.fload_n 3, 1) := dk_37 (dk_at dksX6_wouldMatch_1 4 rfl rfl)
theorem dX6_wouldMatch_27 : decode cX6_wouldMatch 27 = .ok (.fastore, 1) := dk_81 (dk_at dksX6_wouldMatch_1 5 rfl rfl)
theorem dX6_wouldMatch_28 : decode cX6_wouldMatch 28 = .ok (.aload_n 0, 1) := dk_42 (dk_at dksX6_wouldMatch_1 6 rfl rfl)
theorem dX6_wouldMatch_29 : decode cX6_wouldMatch 29 = .ok (.getfield 48, 3) := dk_180 0 48 (dk_at dksX6_wouldMatch_1 7 rfl rfl)
theorem dX6_wouldMatch_32 : decode cX6_wouldMatch 32 = .ok (.iconst 2, 1) := dk_5 (dk_at dksX6_wouldMatch_1 10 rfl rfl)
theorem dX6_wouldMatch_33 : decode cX6_wouldMatch 33 = .ok (.fload 4, 2) := dk_23 4 (dk_at dksX6_wouldMatch_1 11 rfl rfl)
theorem dX6_wouldMatch_35 : decode cX6_wouldMatch 35 = .ok (.fastore, 1) := dk_81 (dk_at dksX6_wouldMatch_1 13 rfl rfl)
theorem dX6_wouldMatch_36 : decode cX6_wouldMatch 36 = .ok (.aload_n 0, 1) := dk_42 (dk_at dksX6_wouldMatch_1 14 rfl rfl)
theorem dX6_wouldMatch_37 : decode cX6_wouldMatch 37 = .ok (.getfield 48, 3) := dk_180 0 48 (dk_at dksX6_wouldMatch_1 15 rfl rfl)
theorem dX6_wouldMatch_40 : decode cX6_wouldMatch 40 = .ok (.iconst 3, 1) := dk_6 (dk_at dksX6_wouldMatch_1 18 rfl rfl)
theorem dX6_wouldMatch_41 : decode cX6_wouldMatch 41 = .ok (.fload 5, 2) := dk_23 5 (dk_at dksX6_wouldMatch_1 19 rfl rfl)
theorem dX6_wouldMatch_43 : decode cX6_wouldMatch 43 = .ok (.fastore, 1) := dk_81 (dk_at dksX6_wouldMatch_1 21 rfl rfl)
theorem dX6_wouldMatch_44 : decode cX6_wouldMatch 44 = .ok (.aload_n 0, 1) := dk_42 (dk_at dksX6_wouldMatch_1 22 rfl rfl)
theorem dX6_wouldMatch_45 : decode cX6_wouldMatch 45 = .ok (.getfield 48, 3) := dk_180 0 48 (dk_at dksX6_wouldMatch_2 0 rfl rfl)
theorem dX6_wouldMatch_48 : decode cX6_wouldMatch 48 = .ok (.iconst 4, 1) := dk_7 (dk_at dksX6_wouldMatch_2 3 rfl rfl)
theorem dX6_wouldMatch_49 : decode cX6_wouldMatch 49 = .ok (.fload 6, 2) := dk_23 6 (dk_at dksX6_wouldMatch_2 4 rfl rfl)
theorem dX6_wouldMatch_51 : decode cX6_wouldMatch 51 = .ok (.fastore, 1) := dk_81 (dk_at dksX6_wouldMatch_2 6 rfl rfl)
theorem dX6_wouldMatch_52 : decode cX6_wouldMatch 52 = .ok (.aload_n 0, 1) := dk_42 (dk_at dksX6_wouldMatch_2 7 rfl rfl)
theorem dX6_wouldMatch_53 : decode cX6_wouldMatch 53 = .ok (.getfield 48, 3) := dk_180 0 48 (dk_at dksX6_wouldMatch_2 8 rfl rfl)
theorem dX6_wouldMatch_56 : decode cX6_wouldMatch 56 = .ok (.iconst 5, 1) := dk_8 (dk_at dksX6_wouldMatch_2 11 rfl rfl)
theorem dX6_wouldMatch_57 : decode cX6_wouldMatch 57 = .ok (.fload_n 3, 1) := dk_37 (dk_at dksX6_wouldMatch_2 12 rfl rfl)
theorem dX6_wouldMatch_58 : decode cX6_wouldMatch 58 = .ok (.fload_n 3, 1) := dk_37 (dk_at dksX6_wouldMatch_2 13 rfl rfl)
theorem dX6_wouldMatch_59 : decode cX6_wouldMatch 59 = .ok (.fmul, 1) := dk_106 (dk_at dksX6_wouldMatch_2 14 rfl rfl)
theorem dX6_wouldMatch_60 : decode cX6_wouldMatch 60 = .ok (.fastore, 1) := dk_81 (dk_at dksX6_wouldMatch_2 15 rfl rfl)
theorem dX6_wouldMatch_61 : decode cX6_wouldMatch 61 = .ok (.aload_n 0, 1) := dk_42 (dk_at dksX6_wouldMatch_2 16 rfl rfl)
theorem dX6_wouldMatch_62 : decode cX6_wouldMatch 62 = .ok (.sipush 475, 3) := dk_17 1 219 (dk_at dksX6_wouldMatch_2 17 rfl rfl)
theorem dX6_wouldMatch_65 : decode cX6_wouldMatch 65 = .ok (.bipush 27, 2) := dk_16 27 (dk_at dksX6_wouldMatch_2 20 rfl rfl)
theorem dX6_wouldMatch_67 : decode cX6_wouldMatch 67 = .ok (.iload_n 1, 1) := dk_27 (dk_at dksX6_wouldMatch_2 22 rfl rfl)
theorem dX6_wouldMatch_68 : decode cX6_wouldMatch 68 = .ok (.imul, 1) := dk_104 (dk_at dksX6_wouldMatch_2 23 rfl rfl)
theorem dX6_wouldMatch_69 : decode cX6_wouldMatch 69 = .ok (.iadd, 1) := dk_96 (dk_at dksX6_wouldMatch_3 0 rfl rfl)
theorem dX6_wouldMatch_70 : decode cX6_wouldMatch 70 = .ok (.invokevirtual 385, 3) := dk_182 1 129 (dk_at dksX6_wouldMatch_3 1 rfl rfl)
theorem dX6_wouldMatch_73 : decode cX6_wouldMatch 73 = .ok (.ireturn, 1) := dk_172 (dk_at dksX6_wouldMatch_3 4 rfl rfl)
def dkwX6_learn_9 : List UInt8 := [180, 0, 17, 21, 4, 5, 96, 3, 79, 42, 180, 0, 17, 16, 6, 92, 46, 4, 96, 79, 29, 172]
abbrev dktX6_learn_9 : List UInt8 := dkwX6_learn_9 ++ []
def dkwX6_learn_8 : List UInt8 := [42, 27, 6, 182, 1, 135, 139, 5, 96, 182, 1, 206, 42, 180, 0, 17, 21, 4, 4, 96, 7, 79, 42]
abbrev dktX6_learn_8 : List UInt8 := dkwX6_learn_8 ++ dktX6_learn_9
def dkwX6_learn_7 : List UInt8 := [182, 1, 206, 42, 21, 4, 5, 5, 16, 60, 21, 5, 4, 96, 182, 1, 206, 42, 21, 4, 6, 6, 16, 60]
abbrev dktX6_learn_7 : List UInt8 := dkwX6_learn_7 ++ dktX6_learn_8
def dkwX6_learn_6 : List UInt8 := [27, 3, 182, 1, 135, 139, 5, 96, 182, 1, 206, 42, 21, 4, 4, 5, 16, 62, 21, 5, 4, 100]
abbrev dktX6_learn_6 : List UInt8 := dkwX6_learn_6 ++ dktX6_learn_7
def dkwX6_learn_5 : List UInt8 := [21, 4, 6, 96, 182, 0, 252, 42, 27, 5, 182, 1, 135, 139, 54, 5, 42, 21, 4, 3, 3, 16, 60, 42]
abbrev dktX6_learn_5 : List UInt8 := dkwX6_learn_5 ++ dktX6_learn_6
def dkwX6_learn_4 : List UInt8 := [3, 181, 0, 74, 42, 180, 0, 17, 16, 6, 46, 62, 17, 2, 125, 16, 27, 29, 104, 96, 54, 4, 42]
abbrev dktX6_learn_4 : List UInt8 := dkwX6_learn_4 ++ dktX6_learn_5
def dkwX6_learn_3 : List UInt8 := [182, 1, 187, 153, 0, 7, 4, 167, 0, 4, 3, 182, 0, 7, 154, 0, 5, 3, 172, 42, 182, 1, 65, 42]
abbrev dktX6_learn_3 : List UInt8 := dkwX6_learn_3 ++ dktX6_learn_4
def dkwX6_learn_2 : List UInt8 := [16, 6, 46, 16, 8, 162, 0, 7, 4, 167, 0, 4, 3, 42, 27, 182, 1, 73, 153, 0, 11, 42, 27]
abbrev dktX6_learn_2 : List UInt8 := dkwX6_learn_2 ++ dktX6_learn_3
def dkwX6_learn_1 : List UInt8 := [182, 0, 249, 154, 0, 7, 4, 167, 0, 4, 3, 61, 42, 42, 27, 182, 1, 73, 28, 42, 180, 0, 17]
abbrev dktX6_learn_1 : List UInt8 := dkwX6_learn_1 ++ dktX6_learn_2
def dkwX6_learn_0 : List UInt8 := [42, 182, 1, 68, 153, 0, 30, 42, 180, 0, 98, 16, 6, 163, 0, 21, 42, 182, 0, 243, 154, 0, 14, 42]
abbrev dktX6_learn_0 : List UInt8 := dkwX6_learn_0 ++ dktX6_learn_1
theorem dksX6_learn_0 : cX6_learn.data.toList.drop 0 = dktX6_learn_0 := by decide +kernel
theorem dksX6_learn_1 : cX6_learn.data.toList.drop 24 = dktX6_learn_1 := dk_seg dksX6_learn_0 24 rfl rfl
theorem dksX6_learn_2 : cX6_learn.data.toList.drop 47 = dktX6_learn_2 := dk_seg dksX6_learn_1 23 rfl rfl
theorem dksX6_learn_3 : cX6_learn.data.toList.drop 70 = dktX6_learn_3 := dk_seg dksX6_learn_2 23 rfl rfl
theorem dksX6_learn_4 : cX6_learn.data.toList.drop 94 = dktX6_learn_4 := dk_seg dksX6_learn_3 24 rfl rfl
theorem dksX6_learn_5 : cX6_learn.data.toList.drop 117 = dktX6_learn_5 := dk_seg dksX6_learn_4 23 rfl rfl
theorem dksX6_learn_6 : cX6_learn.data.toList.drop 141 = dktX6_learn_6 := dk_seg dksX6_learn_5 24 rfl rfl
theorem dksX6_learn_7 : cX6_learn.data.toList.drop 163 = dktX6_learn_7 := dk_seg dksX6_learn_6 22 rfl rfl
theorem dksX6_learn_8 : cX6_learn.data.toList.drop 187 = dktX6_learn_8 := dk_seg dksX6_learn_7 24 rfl rfl
theorem dksX6_learn_9 : cX6_learn.data.toList.drop 210 = dktX6_learn_9 := dk_seg dksX6_learn_8 23 rfl rfl
theorem dX6_learn_0 : decode cX6_learn 0 = .ok (.aload_n 0, 1) := dk_42 (dk_at dksX6_learn_0 0 rfl rfl)
theorem dX6_learn_1 : decode cX6_learn 1 = .ok (.invokevirtual 324, 3) := dk_182 1 68 (dk_at dksX6_learn_0 1 rfl rfl)
theorem dX6_learn_4 : decode cX6_learn 4 = .ok (.ifCond .eq 30, 3) := dk_153 0 30 (dk_at dksX6_learn_0 4 rfl rfl)
theorem dX6_learn_7 : decode cX6_learn 7 = .ok (.aload_n 0, 1) := dk_42 (dk_at dksX6_learn_0 7 rfl rfl)
theorem dX6_learn_8 : decode cX6_learn 8 = .ok (.getfield 98, 3) := dk_180 0 98 (dk_at dksX6_learn_0 8 rfl rfl)
theorem dX6_learn_11 : decode cX6_learn 11 = .ok (.bipush 6, 2) := dk_16 6 (dk_at dksX6_learn_0 11 rfl rfl)
theorem dX6_learn_13 : decode cX6_learn 13 = .ok (.if_icmp .gt 21, 3) := dk_163 0 21 (dk_at dksX6_learn_0 13 rfl rfl)
theorem dX6_learn_16 : decode cX6_learn 16 = .ok (.aload_n 0, 1) := dk_42 (dk_at dksX6_learn_0 16 rfl rfl)
theorem dX6_learn_17 : decode cX6_learn 17 = .ok (.invokevirtual 243, 3) := dk_182 0 243 (dk_at dksX6_learn_0 17 rfl rfl)
theorem dX6_learn_20 : decode cX6_learn 20 = .ok (.ifCond .ne 14, 3) := dk_154 0 14 (dk_at dksX6_learn_0 20 rfl rfl)
theorem dX6_learn_23 : decode cX6_learn 23 = .ok (.aload_n 0, 1) := dk_42 (dk_at dksX6_learn_0 23 rfl rfl)
theorem dX6_learn_24 : decode cX6_learn 24 = .ok (.invokevirtual 249, 3) := dk_182 0 249 (dk_at dksX6_learn_1 0 rfl rfl)
theorem dX6_learn_27 : decode cX6_learn 27 = .ok (.ifCond .ne 7, 3) := dk_154 0 7 (dk_at dksX6_learn_1 3 rfl rfl)
theorem dX6_learn_30 : decode cX6_learn 30 = .ok (.iconst 1, 1) := dk_4 (dk_at dksX6_learn_1 6 rfl rfl)
theorem dX6_learn_31 : decode cX6_learn 31 = .ok (.goto 4, 3) := dk_167 0 4 (dk_at dksX6_learn_1 7 rfl rfl)
theorem dX6_learn_34 : decode cX6_learn 34 = .ok (.iconst 0, 1) := dk_3 (dk_at dksX6_learn_1 10 rfl rfl)
theorem dX6_learn_35 : decode cX6_learn 35 = .ok (.istore_n 2, 1) := dk_61 (dk_at dksX6_learn_1 11 rfl rfl)
theorem dX6_learn_36 : decode cX6_learn 36 = .ok (.aload_n 0, 1) := dk_42 (dk_at dksX6_learn_1 12 rfl rfl)
theorem dX6_learn_37 : decode cX6_learn 37 = .ok (.aload_n 0, 1) := dk_42 (dk_at dksX6_learn_1 13 rfl rfl)
theorem dX6_learn_38 : decode cX6_learn 38 = .ok (.iload_n 1, 1) := dk_27 (dk_at dksX6_learn_1 14 rfl rfl)
theorem dX6_learn_39 : decode cX6_learn 39 = .ok (.invokevirtual 329, 3) := dk_182 1 73 (dk_at dksX6_learn_1 15 rfl rfl)
theorem dX6_learn_42 : decode cX6_learn 42 = .ok (.iload_n 2, 1) := dk_28 (dk_at dksX6_learn_1 18 rfl rfl)
theorem dX6_learn_43 : decode cX6_learn 43 = .ok (.aload_n 0, 1) := dk_42 (dk_at dksX6_learn_1 19 rfl rfl)
theorem dX6_learn_44 : decode cX6_learn 44 = .ok (.getfield 17, 3) := dk_180 0 17 (dk_at dksX6_learn_1 20 rfl rfl)
theorem dX6_learn_47 : decode cX6_learn 47 = .ok (.bipush 6, 2) := dk_16 6 (dk_at dksX6_learn_2 0 rfl rfl)
theorem dX6_learn_49 : decode cX6_learn 49 = .ok (.iaload, 1) := dk_46 (dk_at dksX6_learn_2 2 rfl rfl)
theorem dX6_learn_50 : decode cX6_learn 50 = .ok (.bipush 8, 2) := dk_16 8 (dk_at dksX6_learn_2 3 rfl rfl)
theorem dX6_learn_52 : decode cX6_learn 52 = .ok (.if_icmp .ge 7, 3) := dk_162 0 7 (dk_at dksX6_learn_2 5 rfl rfl)
theorem dX6_learn_55 : decode cX6_learn 55 = .ok (.iconst 1, 1) := dk_4 (dk_at dksX6_learn_2 8 rfl rfl)
theorem dX6_learn_56 : decode cX6_learn 56 = .ok (.goto 4, 3) := dk_167 0 4 (dk_at dksX6_learn_2 9 rfl rfl)
theorem dX6_learn_59 : decode cX6_learn 59 = .ok (.iconst 0, 1) := dk_3 (dk_at dksX6_learn_2 12 rfl rfl)
theorem dX6_learn_60 : decode cX6_learn 60 = .ok (.aload_n 0, 1) := dk_42 (dk_at dksX6_learn_2 13 rfl rfl)
theorem dX6_learn_61 : decode cX6_learn 61 = .ok (.iload_n 1, 1) := dk_27 (dk_at dksX6_learn_2 14 rfl rfl)
theorem dX6_learn_62 : decode cX6_learn 62 = .ok (.invokevirtual 329, 3) := dk_182 1 73 (dk_at dksX6_learn_2 15 rfl rfl)
theorem dX6_learn_65 : decode cX6_learn 65 = .ok (.ifCond .eq 11, 3) := dk_153 0 11 (dk_at dksX6_learn_2 18 rfl rfl)
theorem dX6_learn_68 : decode cX6_learn 68 = .ok (.aload_n 0, 1) := dk_42 (dk_at dksX6_learn_2 21 rfl rfl)
theorem dX6_learn_69 : decode cX6_learn 69 = .ok (.iload_n 1, 1) := dk_27 (dk_at dksX6_learn_2 22 rfl rfl)
theorem dX6_learn_70 : decode cX6_learn 70 = .ok (.invokevirtual 443, 3) := dk_182 1 187 (dk_at dksX6_learn_3 0 rfl rfl)
theorem dX6_learn_73 : decode cX6_learn 73 = .ok (.ifCond .eq 7, 3) := dk_153 0 7 (dk_at dksX6_learn_3 3 rfl rfl)
theorem dX6_learn_76 : decode cX6_learn 76 = .ok (.iconst 1, 1) := dk_4 (dk_at dksX6_learn_3 6 rfl rfl)
theorem dX6_learn_77 : decode cX6_learn 77 = .ok (.goto 4, 3) := dk_167 0 4 (dk_at dksX6_learn_3 7 rfl rfl)
theorem dX6_learn_80 : decode cX6_learn 80 = .ok (.iconst 0, 1) := dk_3 (dk_at dksX6_learn_3 10 rfl rfl)
theorem dX6_learn_81 : decode cX6_learn 81 = .ok (.invokevirtual 7, 3) := dk_182 0 7 (dk_at dksX6_learn_3 11 rfl rfl)
theorem dX6_learn_84 : decode cX6_learn 84 = .ok (.ifCond .ne 5, 3) := dk_154 0 5 (dk_at dksX6_learn_3 14 rfl rfl)
theorem dX6_learn_87 : decode cX6_learn 87 = .ok (.iconst 0, 1) := dk_3 (dk_at dksX6_learn_3 17 rfl rfl)
theorem dX6_learn_88 : decode cX6_learn 88 = .ok (.ireturn, 1) := dk_172 (dk_at dksX6_learn_3 18 rfl rfl)
theorem dX6_learn_89 : decode cX6_learn 89 = .ok (.aload_n 0, 1) := dk_42 (dk_at dksX6_learn_3 19 rfl rfl)
theorem dX6_learn_90 : decode cX6_learn 90 = .ok (.invokevirtual 321, 3) := dk_182 1 65 (dk_at dksX6_learn_3 20 rfl rfl)
theorem dX6_learn_93 : decode cX6_learn 93 = .ok (.aload_n 0, 1) := dk_42 (dk_at dksX6_learn_3 23 rfl rfl)
theorem dX6_learn_94 : decode cX6_learn 94 = .ok (.iconst 0, 1) := dk_3 (dk_at dksX6_learn_4 0 rfl rfl)
theorem dX6_learn_95 : decode cX6_learn 95 = .ok (.putfield 74, 3) := dk_181 0 74 (dk_at dksX6_learn_4 1 rfl rfl)
theorem dX6_learn_98 : decode cX6_learn 98 = .ok (.aload_n 0, 1) := dk_42 (dk_at dksX6_learn_4 4 rfl rfl)
theorem dX6_learn_99 : decode cX6_learn 99 = .ok (.getfield 17, 3) := dk_180 0 17 (dk_at dksX6_learn_4 5 rfl rfl)
theorem dX6_learn_102 : decode cX6_learn 102 = .ok (.bipush 6, 2) := dk_16 6 (dk_at dksX6_learn_4 8 rfl rfl)
theorem dX6_learn_104 : decode cX6_learn 104 = .ok (.iaload, 1) := dk_46 (dk_at dksX6_learn_4 10 rfl rfl)
theorem dX6_learn_105 : decode cX6_learn 105 = .ok (.istore_n 3, 1) := dk_62 (dk_at dksX6_learn_4 11 rfl rfl)
theorem dX6_learn_106 : decode cX6_learn 106 = .ok (.sipush 637, 3) := dk_17 2 125 (dk_at dksX6_learn_4 12 rfl rfl)
theorem dX6_learn_109 : decode cX6_learn 109 = .ok (.bipush 27, 2) := dk_16 27 (dk_at dksX6_learn_4 15 rfl rfl)
theorem dX6_learn_111 : decode cX6_learn 111 = .ok (.iload_n 3, 1) := dk_29 (dk_at dksX6_learn_4 17 rfl rfl)
theorem dX6_learn_112 : decode cX6_learn 112 = .ok (.imul, 1) := dk_104 (dk_at dksX6_learn_4 18 rfl rfl)
theorem dX6_learn_113 : decode cX6_learn 113 = .ok (.iadd, 1) := dk_96 (dk_at dksX6_learn_4 19 rfl rfl)
theorem dX6_learn_114 : decode cX6_learn 114 = .ok (.istore 4, 2) := dk_54 4 (dk_at dksX6_learn_4 20 rfl rfl)
theorem dX6_learn_116 : decode cX6_learn 116 = .ok (.aload_n 0, 1) := dk_42 (dk_at dksX6_learn_4 22 rfl rfl)
theorem dX6_learn_117 : decode cX6_learn 117 = .ok (.iload 4, 2) := dk_21 4 (dk_at dksX6_learn_5 0 rfl rfl)
theorem dX6_learn_119 : decode cX6_learn 119 = .ok (.iconst 3, 1) := dk_6 (dk_at dksX6_learn_5 2 rfl rfl)
theorem dX6_learn_120 : decode cX6_learn 120 = .ok (.iadd, 1) := dk_96 (dk_at dksX6_learn_5 3 rfl rfl)
theorem dX6_learn_121 : decode cX6_learn 121 = .ok (.invokevirtual 252, 3) := dk_182 0 252 (dk_at dksX6_learn_5 4 rfl rfl)
theorem dX6_learn_124 : decode cX6_learn 124 = .ok (.aload_n 0, 1) := dk_42 (dk_at dksX6_learn_5 7 rfl rfl)
theorem dX6_learn_125 : decode cX6_learn 125 = .ok (.iload_n 1, 1) := dk_27 (dk_at dksX6_learn_5 8 rfl rfl)
theorem dX6_learn_126 : decode cX6_learn 126 = .ok (.iconst 2, 1) := dk_5 (dk_at dksX6_learn_5 9 rfl rfl)
theorem dX6_learn_127 : decode cX6_learn 127 = .ok (.invokevirtual 391, 3) := dk_182 1 135 (dk_at dksX6_learn_5 10 rfl rfl)
theorem dX6_learn_130 : decode cX6_learn 130 = .ok (.f2i, 1) := dk_139 (dk_at dksX6_learn_5 13 rfl rfl)
theorem dX6_learn_131 : decode cX6_learn 131 = .ok (.istore 5, 2) := dk_54 5 (dk_at dksX6_learn_5 14 rfl rfl)
theorem dX6_learn_133 : decode cX6_learn 133 = .ok (.aload_n 0, 1) := dk_42 (dk_at dksX6_learn_5 16 rfl rfl)
theorem dX6_learn_134 : decode cX6_learn 134 = .ok (.iload 4, 2) := dk_21 4 (dk_at dksX6_learn_5 17 rfl rfl)
theorem dX6_learn_136 : decode cX6_learn 136 = .ok (.iconst 0, 1) := dk_3 (dk_at dksX6_learn_5 19 rfl rfl)
theorem dX6_learn_137 : decode cX6_learn 137 = .ok (.iconst 0, 1) := dk_3 (dk_at dksX6_learn_5 20 rfl rfl)
theorem dX6_learn_138 : decode cX6_learn 138 = .ok (.bipush 60, 2) := dk_16 60 (dk_at dksX6_learn_5 21 rfl rfl)
theorem dX6_learn_140 : decode cX6_learn 140 = .ok (.aload_n 0, 1) := dk_42 (dk_at dksX6_learn_5 23 rfl rfl)
theorem dX6_learn_141 : decode cX6_learn 141 = .ok (.iload_n 1, 1) := dk_27 (dk_at dksX6_learn_6 0 rfl rfl)
theorem dX6_learn_142 : decode cX6_learn 142 = .ok (.iconst 0, 1) := dk_3 (dk_at dksX6_learn_6 1 rfl rfl)
theorem dX6_learn_143 : decode cX6_learn 143 = .ok (.invokevirtual 391, 3) := dk_182 1 135 (dk_at dksX6_learn_6 2 rfl rfl)
theorem dX6_learn_146 : decode cX6_learn 146 = .ok (.f2i, 1) := dk_139 (dk_at dksX6_learn_6 5 rfl rfl)
theorem dX6_learn_147 : decode cX6_learn 147 = .ok (.iconst 2, 1) := dk_5 (dk_at dksX6_learn_6 6 rfl rfl)
theorem dX6_learn_148 : decode cX6_learn 148 = .ok (.iadd, 1) := dk_96 (dk_at dksX6_learn_6 7 rfl rfl)
theorem dX6_learn_149 : decode cX6_learn 149 = .ok (.invokevirtual 462, 3) := dk_182 1 206 (dk_at dksX6_learn_6 8 rfl rfl)
theorem dX6_learn_152 : decode cX6_learn 152 = .ok (.aload_n 0, 1) := dk_42 (dk_at dksX6_learn_6 11 rfl rfl)
theorem dX6_learn_153 : decode cX6_learn 153 = .ok (.iload 4, 2) := dk_21 4 (dk_at dksX6_learn_6 12 rfl rfl)
theorem dX6_learn_155 : decode cX6_learn 155 = .ok (.iconst 1, 1) := dk_4 (dk_at dksX6_learn_6 14 rfl rfl)
theorem dX6_learn_156 : decode cX6_learn 156 = .ok (.iconst 2, 1) := dk_5 (dk_at dksX6_learn_6 15 rfl rfl)
theorem dX6_learn_157 : decode cX6_learn 157 = .ok (.bipush 62, 2) := dk_16 62 (dk_at dksX6_learn_6 16 rfl rfl)
theorem dX6_learn_159 : decode cX6_learn 159 = .ok (.iload 5, 2) := dk_21 5 (dk_at dksX6_learn_6 18 rfl rfl)
theorem dX6_learn_161 : decode cX6_learn 161 = .ok (.iconst 1, 1) := dk_4 (dk_at dksX6_learn_6 20 rfl rfl)
theorem dX6_learn_162 : decode cX6_learn 162 = .ok (.isub, 1) := dk_100 (dk_at dksX6_learn_6 21 rfl rfl)
theorem dX6_learn_163 : decode cX6_learn 163 = .ok (.invokevirtual 462, 3) := dk_182 1 206 (dk_at dksX6_learn_7 0 rfl rfl)
theorem dX6_learn_166 : decode cX6_learn 166 = .ok (.aload_n 0, 1) := dk_42 (dk_at dksX6_learn_7 3 rfl rfl)
theorem dX6_learn_167 : decode cX6_learn 167 = .ok (.iload 4, 2) := dk_21 4 (dk_at dksX6_learn_7 4 rfl rfl)
theorem dX6_learn_169 : decode cX6_learn 169 = .ok (.iconst 2, 1) := dk_5 (dk_at dksX6_learn_7 6 rfl rfl)
theorem dX6_learn_170 : decode cX6_learn 170 = .ok (.iconst 2, 1) := dk_5 (dk_at dksX6_learn_7 7 rfl rfl)
theorem dX6_learn_171 : decode cX6_learn 171 = .ok (.bipush 60, 2) := dk_16 60 (dk_at dksX6_learn_7 8 rfl rfl)
theorem dX6_learn_173 : decode cX6_learn 173 = .ok (.iload 5, 2) := dk_21 5 (dk_at dksX6_learn_7 10 rfl rfl)
theorem dX6_learn_175 : decode cX6_learn 175 = .ok (.iconst 1, 1) := dk_4 (dk_at dksX6_learn_7 12 rfl rfl)
theorem dX6_learn_176 : decode cX6_learn 176 = .ok (.iadd, 1) := dk_96 (dk_at dksX6_learn_7 13 rfl rfl)
theorem dX6_learn_177 : decode cX6_learn 177 = .ok (.invokevirtual 462, 3) := dk_182 1 206 (dk_at dksX6_learn_7 14 rfl rfl)
theorem dX6_learn_180 : decode cX6_learn 180 = .ok (.aload_n 0, 1) := dk_42 (dk_at dksX6_learn_7 17 rfl rfl)
theorem dX6_learn_181 : decode cX6_learn 181 = .ok (.iload 4, 2) := dk_21 4 (dk_at dksX6_learn_7 18 rfl rfl)
theorem dX6_learn_183 : decode cX6_learn 183 = .ok (.iconst 3, 1) := dk_6 (dk_at dksX6_learn_7 20 rfl rfl)
theorem dX6_learn_184 : decode cX6_learn 184 = .ok (.iconst 3, 1) := dk_6 (dk_at dksX6_learn_7 21 rfl rfl)
theorem dX6_learn_185 : decode cX6_learn 185 = .ok (.bipush 60, 2) := dk_16 60 (dk_at dksX6_learn_7 22 rfl rfl)
theorem dX6_learn_187 : decode cX6_learn 187 = .ok (.aload_n 0, 1) := dk_42 (dk_at dksX6_learn_8 0 rfl rfl)
theorem dX6_learn_188 : decode cX6_learn 188 = .ok (.iload_n 1, 1) := dk_27 (dk_at dksX6_learn_8 1 rfl rfl)
theorem dX6_learn_189 : decode cX6_learn 189 = .ok (.iconst 3, 1) := dk_6 (dk_at dksX6_learn_8 2 rfl rfl)
theorem dX6_learn_190 : decode cX6_learn 190 = .ok (.invokevirtual 391, 3) := dk_182 1 135 (dk_at dksX6_learn_8 3 rfl rfl)
theorem dX6_learn_193 : decode cX6_learn 193 = .ok (.f2i, 1) := dk_139 (dk_at dksX6_learn_8 6 rfl rfl)
theorem dX6_learn_194 : decode cX6_learn 194 = .ok (.iconst 2, 1) := dk_5 (dk_at dksX6_learn_8 7 rfl rfl)
theorem dX6_learn_195 : decode cX6_learn 195 = .ok (.iadd, 1) := dk_96 (dk_at dksX6_learn_8 8 rfl rfl)
theorem dX6_learn_196 : decode cX6_learn 196 = .ok (.invokevirtual 462, 3) := dk_182 1 206 (dk_at dksX6_learn_8 9 rfl rfl)
theorem dX6_learn_199 : decode cX6_learn 199 = .ok (.aload_n 0, 1) := dk_42 (dk_at dksX6_learn_8 12 rfl rfl)
theorem dX6_learn_200 : decode cX6_learn 200 = .ok (.getfield 17, 3) := dk_180 0 17 (dk_at dksX6_learn_8 13 rfl rfl)
theorem dX6_learn_203 : decode cX6_learn 203 = .ok (.iload 4, 2) := dk_21 4 (dk_at dksX6_learn_8 16 rfl rfl)
theorem dX6_learn_205 : decode cX6_learn 205 = .ok (.iconst 1, 1) := dk_4 (dk_at dksX6_learn_8 18 rfl rfl)
theorem dX6_learn_206 : decode cX6_learn 206 = .ok (.iadd, 1) := dk_96 (dk_at dksX6_learn_8 19 rfl rfl)
theorem dX6_learn_207 : decode cX6_learn 207 = .ok (.iconst 4, 1) := dk_7 (dk_at dksX6_learn_8 20 rfl rfl)
theorem dX6_learn_208 : decode cX6_learn 208 = .ok (.iastore, 1) := dk_79 (dk_at dksX6_learn_8 21 rfl rfl)
theorem dX6_learn_209 : decode cX6_learn 209 = .ok (.aload_n 0, 1) := dk_42 (dk_at dksX6_learn_8 22 rfl rfl)
theorem dX6_learn_210 : decode cX6_learn 210 = .ok (.getfield 17, 3) := dk_180 0 17 (dk_at dksX6_learn_9 0 rfl rfl)
theorem dX6_learn_213 : decode cX6_learn 213 = .ok (.iload 4, 2) := dk_21 4 (dk_at dksX6_learn_9 3 rfl rfl)
theorem dX6_learn_215 : decode cX6_learn 215 = .ok (.iconst 2, 1) := dk_5 (dk_at dksX6_learn_9 5 rfl rfl)
theorem dX6_learn_216 : decode cX6_learn 216 = .ok (.iadd, 1) := dk_96 (dk_at dksX6_learn_9 6 rfl rfl)
theorem dX6_learn_217 : decode cX6_learn 217 = .ok (.iconst 0, 1) := dk_3 (dk_at dksX6_learn_9 7 rfl rfl)
theorem dX6_learn_218 : decode cX6_learn 218 = .ok (.iastore, 1) := dk_79 (dk_at dksX6_learn_9 8 rfl rfl)
theorem dX6_learn_219 : decode cX6_learn 219 = .ok (.aload_n 0, 1) := dk_42 (dk_at dksX6_learn_9 9 rfl rfl)
theorem dX6_learn_220 : decode cX6_learn 220 = .ok (.getfield 17, 3) := dk_180 0 17 (dk_at dksX6_learn_9 10 rfl rfl)
theorem dX6_learn_223 : decode cX6_learn 223 = .ok (.bipush 6, 2) := dk_16 6 (dk_at dksX6_learn_9 13 rfl rfl)
theorem dX6_learn_225 : decode cX6_learn 225 = .ok (.dup2, 1) := dk_92 (dk_at dksX6_learn_9 15 rfl rfl)
theorem dX6_learn_226 : decode cX6_learn 226 = .ok (.iaload, 1) := dk_46 (dk_at dksX6_learn_9 16 rfl rfl)
theorem dX6_learn_227 : decode cX6_learn 227 = .ok (.iconst 1, 1) := dk_4 (dk_at dksX6_learn_9 17 rfl rfl)
theorem dX6_learn_228 : decode cX6_learn 228 = .ok (.iadd, 1) := dk_96 (dk_at dksX6_learn_9 18 rfl rfl)
theorem dX6_learn_229 : decode cX6_learn 229 = .ok (.iastore, 1) := dk_79 (dk_at dksX6_learn_9 19 rfl rfl)
theorem dX6_learn_230 : decode cX6_learn 230 = .ok (.iload_n 3, 1) := dk_29 (dk_at dksX6_learn_9 20 rfl rfl)
theorem dX6_learn_231 : decode cX6_learn 231 = .ok (.ireturn, 1) := dk_172 (dk_at dksX6_learn_9 21 rfl rfl)
def dkwX6_layTest_2 : List UInt8 := [177]
abbrev dktX6_layTest_2 : List UInt8 := dkwX6_layTest_2 ++ []
def dkwX6_layTest_1 : List UInt8 := [104, 96, 4, 96, 21, 4, 79, 42, 180, 0, 17, 27, 16, 9, 96, 6, 28, 104, 96, 5, 96, 21, 5, 79]
abbrev dktX6_layTest_1 : List UInt8 := dkwX6_layTest_1 ++ dktX6_layTest_2
def dkwX6_layTest_0 : List UInt8 := [42, 180, 0, 17, 27, 16, 9, 96, 6, 28, 104, 96, 29, 79, 42, 180, 0, 17, 27, 16, 9, 96, 6, 28]
abbrev dktX6_layTest_0 : List UInt8 := dkwX6_layTest_0 ++ dktX6_layTest_1
theorem dksX6_layTest_0 : cX6_layTest.data.toList.drop 0 = dktX6_layTest_0 := by decide +kernel
theorem dksX6_layTest_1 : cX6_layTest.data.toList.drop 24 = dktX6_layTest_1 := dk_seg dksX6_layTest_0 24 rfl rfl
theorem dksX6_layTest_2 : cX6_layTest.data.toList.drop 48 = dktX6_layTest_2 := dk_seg dksX6_layTest_1 24 rfl rfl
theorem dX6_layTest_0 : decode cX6_layTest 0 = .ok (.aload_n 0, 1) := dk_42 (dk_at dksX6_layTest_0 0 rfl rfl)
theorem dX6_layTest_1 : decode cX6_layTest 1 = .ok (.getfield 17, 3) := dk_180 0 17 (dk_at dksX6_layTest_0 1 rfl rfl)
theorem dX6_layTest_4 : decode cX6_layTest 4 = .ok (.iload_n 1, 1) := dk_27 (dk_at dksX6_layTest_0 4 rfl rfl)
theorem dX6_layTest_5 : decode cX6_layTest 5 = .ok (.bipush 9, 2) := dk_16 9 (dk_at dksX6_layTest_0 5 rfl rfl)
theorem dX6_layTest_7 : decode cX6_layTest 7 = .ok (.iadd, 1) := dk_96 (dk_at dksX6_layTest_0 7 rfl rfl)
theorem dX6_layTest_8 : decode cX6_layTest 8 = .ok (.iconst 3, 1) := dk_6 (dk_at dksX6_layTest_0 8 rfl rfl)
theorem dX6_layTest_9 : decode cX6_layTest 9 = .ok (.iload_n 2, 1) := dk_28 (dk_at dksX6_layTest_0 9 rfl rfl)
theorem dX6_layTest_10 : decode cX6_layTest 10 = .ok (.imul, 1) := dk_104 (dk_at dksX6_layTest_0 10 rfl rfl)
theorem dX6_layTest_11 : decode cX6_layTest 11 = .ok (.iadd, 1) := dk_96 (dk_at dksX6_layTest_0 11 rfl rfl)
theorem dX6_layTest_12 : decode cX6_layTest 12 = .ok (.iload_n 3, 1) := dk_29 (dk_at dksX6_layTest_0 12 rfl rfl)
theorem dX6_layTest_13 : decode cX6_layTest 13 = .ok (.iastore, 1) := dk_79 (dk_at dksX6_layTest_0 13 rfl rfl)
theorem dX6_layTest_14 : decode cX6_layTest 14 = .ok (.aload_n 0, 1) := dk_42 (dk_at dksX6_layTest_0 14 rfl rfl)
theorem dX6_layTest_15 : decode cX6_layTest 15 = .ok (.getfield 17, 3) := dk_180 0 17 (dk_at dksX6_layTest_0 15 rfl rfl)
theorem dX6_layTest_18 : decode cX6_layTest 18 = .ok (.iload_n 1, 1) := dk_27 (dk_at dksX6_layTest_0 18 rfl rfl)
theorem dX6_layTest_19 : decode cX6_layTest 19 = .ok (.bipush 9, 2) := dk_16 9 (dk_at dksX6_layTest_0 19 rfl rfl)
theorem dX6_layTest_21 : decode cX6_layTest 21 = .ok (.iadd, 1) := dk_96 (dk_at dksX6_layTest_0 21 rfl rfl)
theorem dX6_layTest_22 : decode cX6_layTest 22 = .ok (.iconst 3, 1) := dk_6 (dk_at dksX6_layTest_0 22 rfl rfl)
theorem dX6_layTest_23 : decode cX6_layTest 23 = .ok (.iload_n 2, 1) := dk_28 (dk_at dksX6_layTest_0 23 rfl rfl)
theorem dX6_layTest_24 : decode cX6_layTest 24 = .ok (.imul, 1) := dk_104 (dk_at dksX6_layTest_1 0 rfl rfl)
theorem dX6_layTest_25 : decode cX6_layTest 25 = .ok (.iadd, 1) := dk_96 (dk_at dksX6_layTest_1 1 rfl rfl)
theorem dX6_layTest_26 : decode cX6_layTest 26 = .ok (.iconst 1, 1) := dk_4 (dk_at dksX6_layTest_1 2 rfl rfl)
theorem dX6_layTest_27 : decode cX6_layTest 27 = .ok (.iadd, 1) := dk_96 (dk_at dksX6_layTest_1 3 rfl rfl)
theorem dX6_layTest_28 : decode cX6_layTest 28 = .ok (.iload 4, 2) := dk_21 4 (dk_at dksX6_layTest_1 4 rfl rfl)
theorem dX6_layTest_30 : decode cX6_layTest 30 = .ok (.iastore, 1) := dk_79 (dk_at dksX6_layTest_1 6 rfl rfl)
theorem dX6_layTest_31 : decode cX6_layTest 31 = .ok (.aload_n 0, 1) := dk_42 (dk_at dksX6_layTest_1 7 rfl rfl)
theorem dX6_layTest_32 : decode cX6_layTest 32 = .ok (.getfield 17, 3) := dk_180 0 17 (dk_at dksX6_layTest_1 8 rfl rfl)
theorem dX6_layTest_35 : decode cX6_layTest 35 = .ok (.iload_n 1, 1) := dk_27 (dk_at dksX6_layTest_1 11 rfl rfl)
theorem dX6_layTest_36 : decode cX6_layTest 36 = .ok (.bipush 9, 2) := dk_16 9 (dk_at dksX6_layTest_1 12 rfl rfl)
theorem dX6_layTest_38 : decode cX6_layTest 38 = .ok (.iadd, 1) := dk_96 (dk_at dksX6_layTest_1 14 rfl rfl)
theorem dX6_layTest_39 : decode cX6_layTest 39 = .ok (.iconst 3, 1) := dk_6 (dk_at dksX6_layTest_1 15 rfl rfl)
theorem dX6_layTest_40 : decode cX6_layTest 40 = .ok (.iload_n 2, 1) := dk_28 (dk_at dksX6_layTest_1 16 rfl rfl)
theorem dX6_layTest_41 : decode cX6_layTest 41 = .ok (.imul, 1) := dk_104 (dk_at dksX6_layTest_1 17 rfl rfl)
theorem dX6_layTest_42 : decode cX6_layTest 42 = .ok (.iadd, 1) := dk_96 (dk_at dksX6_layTest_1 18 rfl rfl)
theorem dX6_layTest_43 : decode cX6_layTest 43 = .ok (.iconst 2, 1) := dk_5 (dk_at dksX6_layTest_1 19 rfl rfl)
theorem dX6_layTest_44 : decode cX6_layTest 44 = .ok (.iadd, 1) := dk_96 (dk_at dksX6_layTest_1 20 rfl rfl)
theorem dX6_layTest_45 : decode cX6_layTest 45 = .ok (.iload 5, 2) := dk_21 5 (dk_at dksX6_layTest_1 21 rfl rfl)
theorem dX6_layTest_47 : decode cX6_layTest 47 = .ok (.iastore, 1) := dk_79 (dk_at dksX6_layTest_1 23 rfl rfl)
theorem dX6_layTest_48 : decode cX6_layTest 48 = .ok (.return_, 1) := dk_177 (dk_at dksX6_layTest_2 0 rfl rfl)
def dkwX6_forget_6 : List UInt8 := [126, 128, 182, 1, 14, 132, 3, 1, 167, 255, 205, 28, 172]
abbrev dktX6_forget_6 : List UInt8 := dkwX6_forget_6 ++ []
def dkwX6_forget_5 : List UInt8 := [4, 27, 120, 4, 100, 54, 5, 42, 29, 16, 7, 21, 4, 21, 5, 126, 21, 4, 4, 122, 21, 5, 2, 130]
abbrev dktX6_forget_5 : List UInt8 := dkwX6_forget_5 ++ dktX6_forget_6
def dkwX6_forget_4 : List UInt8 := [4, 100, 79, 3, 62, 29, 42, 180, 0, 17, 6, 46, 162, 0, 47, 42, 29, 16, 7, 182, 0, 70, 54, 4]
abbrev dktX6_forget_4 : List UInt8 := dkwX6_forget_4 ++ dktX6_forget_5
def dkwX6_forget_3 : List UInt8 := [42, 180, 0, 17, 29, 16, 27, 96, 46, 79, 132, 3, 1, 167, 255, 218, 42, 180, 0, 17, 16, 6, 92, 46]
abbrev dktX6_forget_3 : List UInt8 := dkwX6_forget_3 ++ dktX6_forget_4
def dkwX6_forget_2 : List UInt8 := [17, 2, 125, 16, 27, 42, 180, 0, 17, 16, 6, 46, 4, 100, 104, 96, 162, 0, 24, 42, 180, 0, 17, 29]
abbrev dktX6_forget_2 : List UInt8 := dkwX6_forget_2 ++ dktX6_forget_3
def dkwX6_forget_1 : List UInt8 := [17, 2, 125, 16, 27, 27, 104, 96, 5, 96, 46, 61, 17, 2, 125, 16, 27, 27, 104, 96, 62, 29]
abbrev dktX6_forget_1 : List UInt8 := dkwX6_forget_1 ++ dktX6_forget_2
def dkwX6_forget_0 : List UInt8 := [42, 42, 27, 182, 1, 203, 182, 0, 77, 154, 0, 5, 3, 172, 42, 182, 1, 65, 42, 180, 0, 17]
abbrev dktX6_forget_0 : List UInt8 := dkwX6_forget_0 ++ dktX6_forget_1
theorem dksX6_forget_0 : cX6_forget.data.toList.drop 0 = dktX6_forget_0 := by decide +kernel
theorem dksX6_forget_1 : cX6_forget.data.toList.drop 22 = dktX6_forget_1 := dk_seg dksX6_forget_0 22 rfl rfl
theorem dksX6_forget_2 : cX6_forget.data.toList.drop 44 = dktX6_forget_2 := dk_seg dksX6_forget_1 22 rfl rfl
theorem dksX6_forget_3 : cX6_forget.data.toList.drop 68 = dktX6_forget_3 := dk_seg dksX6_forget_2 24 rfl rfl
theorem dksX6_forget_4 : cX6_forget.data.toList.drop 92 = dktX6_forget_4 := dk_seg dksX6_forget_3 24 rfl rfl
theorem dksX6_forget_5 : cX6_forget.data.toList.drop 116 = dktX6_forget_5 := dk_seg dksX6_forget_4 24 rfl rfl
theorem dksX6_forget_6 : cX6_forget.data.toList.drop 140 = dktX6_forget_6 := dk_seg dksX6_forget_5 24 rfl rfl
theorem dX6_forget_0 : decode cX6_forget 0 = .ok (.aload_n 0, 1) := dk_42 (dk_at dksX6_forget_0 0 rfl rfl)
theorem dX6_forget_1 : decode cX6_forget 1 = .ok (.aload_n 0, 1) := dk_42 (dk_at dksX6_forget_0 1 rfl rfl)
theorem dX6_forget_2 : decode cX6_forget 2 = .ok (.iload_n 1, 1) := dk_27 (dk_at dksX6_forget_0 2 rfl rfl)
theorem dX6_forget_3 : decode cX6_forget 3 = .ok (.invokevirtual 459, 3) := dk_182 1 203 (dk_at dksX6_forget_0 3 rfl rfl)
theorem dX6_forget_6 : decode cX6_forget 6 = .ok (.invokevirtual 77, 3) := dk_182 0 77 (dk_at dksX6_forget_0 6 rfl rfl)
theorem dX6_forget_9 : decode cX6_forget 9 = .ok (.ifCond .ne 5, 3) := dk_154 0 5 (dk_at dksX6_forget_0 9 rfl rfl)
theorem dX6_forget_12 : decode cX6_forget 12 = .ok (.iconst 0, 1) := dk_3 (dk_at dksX6_forget_0 12 rfl rfl)
theorem dX6_forget_13 : decode cX6_forget 13 = .ok (.ireturn, 1) := dk_172 (dk_at dksX6_forget_0 13 rfl rfl)
theorem dX6_forget_14 : decode cX6_forget 14 = .ok (.aload_n 0, 1) := dk_42 (dk_at dksX6_forget_0 14 rfl rfl)
theorem dX6_forget_15 : decode cX6_forget 15 = .ok (.invokevirtual 321, 3) := dk_182 1 65 (dk_at dksX6_forget_0 15 rfl rfl)
theorem dX6_forget_18 : decode cX6_forget 18 = .ok (.aload_n 0, 1) := dk_42 (dk_at dksX6_forget_0 18 rfl rfl)
theorem dX6_forget_19 : decode cX6_forget 19 = .ok (.getfield 17, 3) := dk_180 0 17 (dk_at dksX6_forget_0 19 rfl rfl)
theorem dX6_forget_22 : decode cX6_forget 22 = .ok (.sipush 637, 3) := dk_17 2 125 (dk_at dksX6_forget_1 0 rfl rfl)
theorem dX6_forget_25 : decode cX6_forget 25 = .ok (.bipush 27, 2) := dk_16 27 (dk_at dksX6_forget_1 3 rfl rfl)
theorem dX6_forget_27 : decode cX6_forget 27 = .ok (.iload_n 1, 1) := dk_27 (dk_at dksX6_forget_1 5 rfl rfl)
theorem dX6_forget_28 : decode cX6_forget 28 = .ok (.imul, 1) := dk_104 (dk_at dksX6_forget_1 6 rfl rfl)
theorem dX6_forget_29 : decode cX6_forget 29 = .ok (.iadd, 1) := dk_96 (dk_at dksX6_forget_1 7 rfl rfl)
theorem dX6_forget_30 : decode cX6_forget 30 = .ok (.iconst 2, 1) := dk_5 (dk_at dksX6_forget_1 8 rfl rfl)
theorem dX6_forget_31 : decode cX6_forget 31 = .ok (.iadd, 1) := dk_96 (dk_at dksX6_forget_1 9 rfl rfl)
theorem dX6_forget_32 : decode cX6_forget 32 = .ok (.iaload, 1) := dk_46 (dk_at dksX6_forget_1 10 rfl rfl)
theorem dX6_forget_33 : decode cX6_forget 33 = .ok (.istore_n 2, 1) := dk_61 (dk_at dksX6_forget_1 11 rfl rfl)
theorem dX6_forget_34 : decode cX6_forget 34 = .ok (.sipush 637, 3) := dk_17 2 125 (dk_at dksX6_forget_1 12 rfl rfl)
theorem dX6_forget_37 : decode cX6_forget 37 = .ok (.bipush 27, 2) := dk_16 27 (dk_at dksX6_forget_1 15 rfl rfl)
theorem dX6_forget_39 : decode cX6_forget 39 = .ok (.iload_n 1, 1) := dk_27 (dk_at dksX6_forget_1 17 rfl rfl)
theorem dX6_forget_40 : decode cX6_forget 40 = .ok (.imul, 1) := dk_104 (dk_at dksX6_forget_1 18 rfl rfl)
theorem dX6_forget_41 : decode cX6_forget 41 = .ok (.iadd, 1) := dk_96 (dk_at dksX6_forget_1 19 rfl rfl)
theorem dX6_forget_42 : decode cX6_forget 42 = .ok (.istore_n 3, 1) := dk_62 (dk_at dksX6_forget_1 20 rfl rfl)
theorem dX6_forget_43 : decode cX6_forget 43 = .ok (.iload_n 3, 1) := dk_29 (dk_at dksX6_forget_1 21 rfl rfl)
theorem dX6_forget_44 : decode cX6_forget 44 = .ok (.sipush 637, 3) := dk_17 2 125 (dk_at dksX6_forget_2 0 rfl rfl)
theorem dX6_forget_47 : decode cX6_forget 47 = .ok (.bipush 27, 2) := dk_16 27 (dk_at dksX6_forget_2 3 rfl rfl)
theorem dX6_forget_49 : decode cX6_forget 49 = .ok (.aload_n 0, 1) := dk_42 (dk_at dksX6_forget_2 5 rfl rfl)
theorem dX6_forget_50 : decode cX6_forget 50 = .ok (.getfield 17, 3) := dk_180 0 17 (dk_at dksX6_forget_2 6 rfl rfl)
theorem dX6_forget_53 : decode cX6_forget 53 = .ok (.bipush 6, 2) := dk_16 6 (dk_at dksX6_forget_2 9 rfl rfl)
theorem dX6_forget_55 : decode cX6_forget 55 = .ok (.iaload, 1) := dk_46 (dk_at dksX6_forget_2 11 rfl rfl)
theorem dX6_forget_56 : decode cX6_forget 56 = .ok (.iconst 1, 1) := dk_4 (dk_at dksX6_forget_2 12 rfl rfl)
theorem dX6_forget_57 : decode cX6_forget 57 = .ok (.isub, 1) := dk_100 (dk_at dksX6_forget_2 13 rfl rfl)
theorem dX6_forget_58 : decode cX6_forget 58 = .ok (.imul, 1) := dk_104 (dk_at dksX6_forget_2 14 rfl rfl)
theorem dX6_forget_59 : decode cX6_forget 59 = .ok (.iadd, 1) := dk_96 (dk_at dksX6_forget_2 15 rfl rfl)
theorem dX6_forget_60 : decode cX6_forget 60 = .ok (.if_icmp .ge 24, 3) := dk_162 0 24 (dk_at dksX6_forget_2 16 rfl rfl)
theorem dX6_forget_63 : decode cX6_forget 63 = .ok (.aload_n 0, 1) := dk_42 (dk_at dksX6_forget_2 19 rfl rfl)
theorem dX6_forget_64 : decode cX6_forget 64 = .ok (.getfield 17, 3) := dk_180 0 17 (dk_at dksX6_forget_2 20 rfl rfl)
theorem dX6_forget_67 : decode cX6_forget 67 = .ok (.iload_n 3, 1) := dk_29 (dk_at dksX6_forget_2 23 rfl rfl)
theorem dX6_forget_68 : decode cX6_forget 68 = .ok (.aload_n 0, 1) := dk_42 (dk_at dksX6_forget_3 0 rfl rfl)
theorem dX6_forget_69 : decode cX6_forget 69 = .ok (.getfield 17, 3) := dk_180 0 17 (dk_at dksX6_forget_3 1 rfl rfl)
theorem dX6_forget_72 : decode cX6_forget 72 = .ok (.iload_n 3, 1) := dk_29 (dk_at dksX6_forget_3 4 rfl rfl)
theorem dX6_forget_73 : decode cX6_forget 73 = .ok (.bipush 27, 2) := dk_16 27 (dk_at dksX6_forget_3 5 rfl rfl)
theorem dX6_forget_75 : decode cX6_forget 75 = .ok (.iadd, 1) := dk_96 (dk_at dksX6_forget_3 7 rfl rfl)
theorem dX6_forget_76 : decode cX6_forget 76 = .ok (.iaload, 1) := dk_46 (dk_at dksX6_forget_3 8 rfl rfl)
theorem dX6_forget_77 : decode cX6_forget 77 = .ok (.iastore, 1) := dk_79 (dk_at dksX6_forget_3 9 rfl rfl)
theorem dX6_forget_78 : decode cX6_forget 78 = .ok (.iinc 3 1, 3) := dk_132 3 1 (dk_at dksX6_forget_3 10 rfl rfl)
theorem dX6_forget_81 : decode cX6_forget 81 = .ok (.goto (-38), 3) := dk_167 255 218 (dk_at dksX6_forget_3 13 rfl rfl)
theorem dX6_forget_84 : decode cX6_forget 84 = .ok (.aload_n 0, 1) := dk_42 (dk_at dksX6_forget_3 16 rfl rfl)
theorem dX6_forget_85 : decode cX6_forget 85 = .ok (.getfield 17, 3) := dk_180 0 17 (dk_at dksX6_forget_3 17 rfl rfl)
theorem dX6_forget_88 : decode cX6_forget 88 = .ok (.bipush 6, 2) := dk_16 6 (dk_at dksX6_forget_3 20 rfl rfl)
theorem dX6_forget_90 : decode cX6_forget 90 = .ok (.dup2, 1) := dk_92 (dk_at dksX6_forget_3 22 rfl rfl)
theorem dX6_forget_91 : decode cX6_forget 91 = .ok (.iaload, 1) := dk_46 (dk_at dksX6_forget_3 23 rfl rfl)
theorem dX6_forget_92 : decode cX6_forget 92 = .ok (.iconst 1, 1) := dk_4 (dk_at dksX6_forget_4 0 rfl rfl)
theorem dX6_forget_93 : decode cX6_forget 93 = .ok (.isub, 1) := dk_100 (dk_at dksX6_forget_4 1 rfl rfl)
theorem dX6_forget_94 : decode cX6_forget 94 = .ok (.iastore, 1) := dk_79 (dk_at dksX6_forget_4 2 rfl rfl)
theorem dX6_forget_95 : decode cX6_forget 95 = .ok (.iconst 0, 1) := dk_3 (dk_at dksX6_forget_4 3 rfl rfl)
theorem dX6_forget_96 : decode cX6_forget 96 = .ok (.istore_n 3, 1) := dk_62 (dk_at dksX6_forget_4 4 rfl rfl)
theorem dX6_forget_97 : decode cX6_forget 97 = .ok (.iload_n 3, 1) := dk_29 (dk_at dksX6_forget_4 5 rfl rfl)
theorem dX6_forget_98 : decode cX6_forget 98 = .ok (.aload_n 0, 1) := dk_42 (dk_at dksX6_forget_4 6 rfl rfl)
theorem dX6_forget_99 : decode cX6_forget 99 = .ok (.getfield 17, 3) := dk_180 0 17 (dk_at dksX6_forget_4 7 rfl rfl)
theorem dX6_forget_102 : decode cX6_forget 102 = .ok (.iconst 3, 1) := dk_6 (dk_at dksX6_forget_4 10 rfl rfl)
theorem dX6_forget_103 : decode cX6_forget 103 = .ok (.iaload, 1) := dk_46 (dk_at dksX6_forget_4 11 rfl rfl)
theorem dX6_forget_104 : decode cX6_forget 104 = .ok (.if_icmp .ge 47, 3) := dk_162 0 47 (dk_at dksX6_forget_4 12 rfl rfl)
theorem dX6_forget_107 : decode cX6_forget 107 = .ok (.aload_n 0, 1) := dk_42 (dk_at dksX6_forget_4 15 rfl rfl)
theorem dX6_forget_108 : decode cX6_forget 108 = .ok (.iload_n 3, 1) := dk_29 (dk_at dksX6_forget_4 16 rfl rfl)
theorem dX6_forget_109 : decode cX6_forget 109 = .ok (.bipush 7, 2) := dk_16 7 (dk_at dksX6_forget_4 17 rfl rfl)
theorem dX6_forget_111 : decode cX6_forget 111 = .ok (.invokevirtual 70, 3) := dk_182 0 70 (dk_at dksX6_forget_4 19 rfl rfl)
theorem dX6_forget_114 : decode cX6_forget 114 = .ok (.istore 4, 2) := dk_54 4 (dk_at dksX6_forget_4 22 rfl rfl)
theorem dX6_forget_116 : decode cX6_forget 116 = .ok (.iconst 1, 1) := dk_4 (dk_at dksX6_forget_5 0 rfl rfl)
theorem dX6_forget_117 : decode cX6_forget 117 = .ok (.iload_n 1, 1) := dk_27 (dk_at dksX6_forget_5 1 rfl rfl)
theorem dX6_forget_118 : decode cX6_forget 118 = .ok (.ishl, 1) := dk_120 (dk_at dksX6_forget_5 2 rfl rfl)
theorem dX6_forget_119 : decode cX6_forget 119 = .ok (.iconst 1, 1) := dk_4 (dk_at dksX6_forget_5 3 rfl rfl)
theorem dX6_forget_120 : decode cX6_forget 120 = .ok (.isub, 1) := dk_100 (dk_at dksX6_forget_5 4 rfl rfl)
theorem dX6_forget_121 : decode cX6_forget 121 = .ok (.istore 5, 2) := dk_54 5 (dk_at dksX6_forget_5 5 rfl rfl)
theorem dX6_forget_123 : decode cX6_forget 123 = .ok (.aload_n 0, 1) := dk_42 (dk_at dksX6_forget_5 7 rfl rfl)
theorem dX6_forget_124 : decode cX6_forget 124 = .ok (.iload_n 3, 1) := dk_29 (dk_at dksX6_forget_5 8 rfl rfl)
theorem dX6_forget_125 : decode cX6_forget 125 = .ok (.bipush 7, 2) := dk_16 7 (dk_at dksX6_forget_5 9 rfl rfl)
theorem dX6_forget_127 : decode cX6_forget 127 = .ok (.iload 4, 2) := dk_21 4 (dk_at dksX6_forget_5 11 rfl rfl)
theorem dX6_forget_129 : decode cX6_forget 129 = .ok (.iload 5, 2) := dk_21 5 (dk_at dksX6_forget_5 13 rfl rfl)
theorem dX6_forget_131 : decode cX6_forget 131 = .ok (.iand, 1) := dk_126 (dk_at dksX6_forget_5 15 rfl rfl)
theorem dX6_forget_132 : decode cX6_forget 132 = .ok (.iload 4, 2) := dk_21 4 (dk_at dksX6_forget_5 16 rfl rfl)
theorem dX6_forget_134 : decode cX6_forget 134 = .ok (.iconst 1, 1) := dk_4 (dk_at dksX6_forget_5 18 rfl rfl)
theorem dX6_forget_135 : decode cX6_forget 135 = .ok (.ishr, 1) := dk_122 (dk_at dksX6_forget_5 19 rfl rfl)
theorem dX6_forget_136 : decode cX6_forget 136 = .ok (.iload 5, 2) := dk_21 5 (dk_at dksX6_forget_5 20 rfl rfl)
theorem dX6_forget_138 : decode cX6_forget 138 = .ok (.iconst (-1), 1) := dk_2 (dk_at dksX6_forget_5 22 rfl rfl)
theorem dX6_forget_139 : decode cX6_forget 139 = .ok (.ixor, 1) := dk_130 (dk_at dksX6_forget_5 23 rfl rfl)
theorem dX6_forget_140 : decode cX6_forget 140 = .ok (.iand, 1) := dk_126 (dk_at dksX6_forget_6 0 rfl rfl)
theorem dX6_forget_141 : decode cX6_forget 141 = .ok (.ior, 1) := dk_128 (dk_at dksX6_forget_6 1 rfl rfl)
theorem dX6_forget_142 : decode cX6_forget 142 = .ok (.invokevirtual 270, 3) := dk_182 1 14 (dk_at dksX6_forget_6 2 rfl rfl)
theorem dX6_forget_145 : decode cX6_forget 145 = .ok (.iinc 3 1, 3) := dk_132 3 1 (dk_at dksX6_forget_6 5 rfl rfl)
theorem dX6_forget_148 : decode cX6_forget 148 = .ok (.goto (-51), 3) := dk_167 255 205 (dk_at dksX6_forget_6 8 rfl rfl)
theorem dX6_forget_151 : decode cX6_forget 151 = .ok (.iload_n 2, 1) := dk_28 (dk_at dksX6_forget_6 11 rfl rfl)
theorem dX6_forget_152 : decode cX6_forget 152 = .ok (.ireturn, 1) := dk_172 (dk_at dksX6_forget_6 12 rfl rfl)
def dkwX6_setLimits_2 : List UInt8 := [42, 180, 0, 17, 4, 27, 79, 42, 180, 0, 17, 5, 28, 79, 29, 172]
abbrev dktX6_setLimits_2 : List UInt8 := dkwX6_setLimits_2 ++ []
def dkwX6_setLimits_1 : List UInt8 := [4, 167, 0, 4, 3, 182, 0, 77, 154, 0, 5, 3, 172, 42, 182, 1, 65, 42, 180, 0, 17, 5, 46, 62]
abbrev dktX6_setLimits_1 : List UInt8 := dkwX6_setLimits_1 ++ dktX6_setLimits_2
def dkwX6_setLimits_0 : List UInt8 := [42, 27, 133, 10, 20, 1, 210, 184, 0, 66, 153, 0, 18, 28, 133, 10, 27, 133, 184, 0, 66, 153, 0, 7]
abbrev dktX6_setLimits_0 : List UInt8 := dkwX6_setLimits_0 ++ dktX6_setLimits_1
theorem dksX6_setLimits_0 : cX6_setLimits.data.toList.drop 0 = dktX6_setLimits_0 := by decide +kernel
theorem dksX6_setLimits_1 : cX6_setLimits.data.toList.drop 24 = dktX6_setLimits_1 := dk_seg dksX6_setLimits_0 24 rfl rfl
theorem dksX6_setLimits_2 : cX6_setLimits.data.toList.drop 48 = dktX6_setLimits_2 := dk_seg dksX6_setLimits_1 24 rfl rfl
theorem dX6_setLimits_0 : decode cX6_setLimits 0 = .ok (.aload_n 0, 1) := dk_42 (dk_at dksX6_setLimits_0 0 rfl rfl)
theorem dX6_setLimits_1 : decode cX6_setLimits 1 = .ok (.iload_n 1, 1) := dk_27 (dk_at dksX6_setLimits_0 1 rfl rfl)
theorem dX6_setLimits_2 : decode cX6_setLimits 2 = .ok (.i2l, 1) := dk_133 (dk_at dksX6_setLimits_0 2 rfl rfl)
theorem dX6_setLimits_3 : decode cX6_setLimits 3 = .ok (.lconst 1, 1) := dk_10 (dk_at dksX6_setLimits_0 3 rfl rfl)
theorem dX6_setLimits_4 : decode cX6_setLimits 4 = .ok (.ldc2_w 466, 3) := dk_20 1 210 (dk_at dksX6_setLimits_0 4 rfl rfl)
theorem dX6_setLimits_7 : decode cX6_setLimits 7 = .ok (.invokestatic 66, 3) := dk_184 0 66 (dk_at dksX6_setLimits_0 7 rfl rfl)
theorem dX6_setLimits_10 : decode cX6_setLimits 10 = .ok (.ifCond .eq 18, 3) := dk_153 0 18 (dk_at dksX6_setLimits_0 10 rfl rfl)
theorem dX6_setLimits_13 : decode cX6_setLimits 13 = .ok (.iload_n 2, 1) := dk_28 (dk_at dksX6_setLimits_0 13 rfl rfl)
theorem dX6_setLimits_14 : decode cX6_setLimits 14 = .ok (.i2l, 1) := dk_133 (dk_at dksX6_setLimits_0 14 rfl rfl)
theorem dX6_setLimits_15 : decode cX6_setLimits 15 = .ok (.lconst 1, 1) := dk_10 (dk_at dksX6_setLimits_0 15 rfl rfl)
theorem dX6_setLimits_16 : decode cX6_setLimits 16 = .ok (.iload_n 1, 1) := dk_27 (dk_at dksX6_setLimits_0 16 rfl rfl)
theorem dX6_setLimits_17 : decode cX6_setLimits 17 = .ok (.i2l, 1) := dk_133 (dk_at dksX6_setLimits_0 17 rfl rfl)
theorem dX6_setLimits_18 : decode cX6_setLimits 18 = .ok (.invokestatic 66, 3) := dk_184 0 66 (dk_at dksX6_setLimits_0 18 rfl rfl)
theorem dX6_setLimits_21 : decode cX6_setLimits 21 = .ok (.ifCond .eq 7, 3) := dk_153 0 7 (dk_at dksX6_setLimits_0 21 rfl rfl)
theorem dX6_setLimits_24 : decode cX6_setLimits 24 = .ok (.iconst 1, 1) := dk_4 (dk_at dksX6_setLimits_1 0 rfl rfl)
theorem dX6_setLimits_25 : decode cX6_setLimits 25 = .ok (.goto 4, 3) := dk_167 0 4 (dk_at dksX6_setLimits_1 1 rfl rfl)
theorem dX6_setLimits_28 : decode cX6_setLimits 28 = .ok (.iconst 0, 1) := dk_3 (dk_at dksX6_setLimits_1 4 rfl rfl)
theorem dX6_setLimits_29 : decode cX6_setLimits 29 = .ok (.invokevirtual 77, 3) := dk_182 0 77 (dk_at dksX6_setLimits_1 5 rfl rfl)
theorem dX6_setLimits_32 : decode cX6_setLimits 32 = .ok (.ifCond .ne 5, 3) := dk_154 0 5 (dk_at dksX6_setLimits_1 8 rfl rfl)
theorem dX6_setLimits_35 : decode cX6_setLimits 35 = .ok (.iconst 0, 1) := dk_3 (dk_at dksX6_setLimits_1 11 rfl rfl)
theorem dX6_setLimits_36 : decode cX6_setLimits 36 = .ok (.ireturn, 1) := dk_172 (dk_at dksX6_setLimits_1 12 rfl rfl)
theorem dX6_setLimits_37 : decode cX6_setLimits 37 = .ok (.aload_n 0, 1) := dk_42 (dk_at dksX6_setLimits_1 13 rfl rfl)
theorem dX6_setLimits_38 : decode cX6_setLimits 38 = .ok (.invokevirtual 321, 3) := dk_182 1 65 (dk_at dksX6_setLimits_1 14 rfl rfl)
theorem dX6_setLimits_41 : decode cX6_setLimits 41 = .ok (.aload_n 0, 1) := dk_42 (dk_at dksX6_setLimits_1 17 rfl rfl)
theorem dX6_setLimits_42 : decode cX6_setLimits 42 = .ok (.getfield 17, 3) := dk_180 0 17 (dk_at dksX6_setLimits_1 18 rfl rfl)
theorem dX6_setLimits_45 : decode cX6_setLimits 45 = .ok (.iconst 2, 1) := dk_5 (dk_at dksX6_setLimits_1 21 rfl rfl)
theorem dX6_setLimits_46 : decode cX6_setLimits 46 = .ok (.iaload, 1) := dk_46 (dk_at dksX6_setLimits_1 22 rfl rfl)
theorem dX6_setLimits_47 : decode cX6_setLimits 47 = .ok (.istore_n 3, 1) := dk_62 (dk_at dksX6_setLimits_1 23 rfl rfl)
theorem dX6_setLimits_48 : decode cX6_setLimits 48 = .ok (.aload_n 0, 1) := dk_42 (dk_at dksX6_setLimits_2 0 rfl rfl)
theorem dX6_setLimits_49 : decode cX6_setLimits 49 = .ok (.getfield 17, 3) := dk_180 0 17 (dk_at dksX6_setLimits_2 1 rfl rfl)
theorem dX6_setLimits_52 : decode cX6_setLimits 52 = .ok (.iconst 1, 1) := dk_4 (dk_at dksX6_setLimits_2 4 rfl rfl)
theorem dX6_setLimits_53 : decode cX6_setLimits 53 = .ok (.iload_n 1, 1) := dk_27 (dk_at dksX6_setLimits_2 5 rfl rfl)
theorem dX6_setLimits_54 : decode cX6_setLimits 54 = .ok (.iastore, 1) := dk_79 (dk_at dksX6_setLimits_2 6 rfl rfl)
theorem dX6_setLimits_55 : decode cX6_setLimits 55 = .ok (.aload_n 0, 1) := dk_42 (dk_at dksX6_setLimits_2 7 rfl rfl)
theorem dX6_setLimits_56 : decode cX6_setLimits 56 = .ok (.getfield 17, 3) := dk_180 0 17 (dk_at dksX6_setLimits_2 8 rfl rfl)
theorem dX6_setLimits_59 : decode cX6_setLimits 59 = .ok (.iconst 2, 1) := dk_5 (dk_at dksX6_setLimits_2 11 rfl rfl)
theorem dX6_setLimits_60 : decode cX6_setLimits 60 = .ok (.iload_n 2, 1) := dk_28 (dk_at dksX6_setLimits_2 12 rfl rfl)
theorem dX6_setLimits_61 : decode cX6_setLimits 61 = .ok (.iastore, 1) := dk_79 (dk_at dksX6_setLimits_2 13 rfl rfl)
theorem dX6_setLimits_62 : decode cX6_setLimits 62 = .ok (.iload_n 3, 1) := dk_29 (dk_at dksX6_setLimits_2 14 rfl rfl)
theorem dX6_setLimits_63 : decode cX6_setLimits 63 = .ok (.ireturn, 1) := dk_172 (dk_at dksX6_setLimits_2 15 rfl rfl)
def dkwX6_reset_2 : List UInt8 := [42, 27, 8, 3, 182, 1, 14, 42, 27, 5, 182, 0, 70, 172]
abbrev dktX6_reset_2 : List UInt8 := dkwX6_reset_2 ++ []
def dkwX6_reset_1 : List UInt8 := [4, 167, 0, 4, 3, 182, 1, 82, 154, 0, 5, 3, 172, 42, 182, 1, 65, 42, 27, 4, 3, 182, 1, 14]
abbrev dktX6_reset_1 : List UInt8 := dkwX6_reset_1 ++ dktX6_reset_2
def dkwX6_reset_0 : List UInt8 := [42, 42, 27, 182, 1, 73, 42, 27, 182, 1, 73, 153, 0, 13, 42, 27, 4, 182, 0, 70, 4, 160, 0, 7]
abbrev dktX6_reset_0 : List UInt8 := dkwX6_reset_0 ++ dktX6_reset_1
theorem dksX6_reset_0 : cX6_reset.data.toList.drop 0 = dktX6_reset_0 := by decide +kernel
theorem dksX6_reset_1 : cX6_reset.data.toList.drop 24 = dktX6_reset_1 := dk_seg dksX6_reset_0 24 rfl rfl
theorem dksX6_reset_2 : cX6_reset.data.toList.drop 48 = dktX6_reset_2 := dk_seg dksX6_reset_1 24 rfl rfl
theorem dX6_reset_0 : decode cX6_reset 0 = .ok (.aload_n 0, 1) := dk_42 (dk_at dksX6_reset_0 0 rfl rfl)
theorem dX6_reset_1 : decode cX6_reset 1 = .ok (.aload_n 0, 1) := dk_42 (dk_at dksX6_reset_0 1 rfl rfl)
theorem dX6_reset_2 : decode cX6_reset 2 = .ok (.iload_n 1, 1) := dk_27 (dk_at dksX6_reset_0 2 rfl rfl)
theorem dX6_reset_3 : decode cX6_reset 3 = .ok (.invokevirtual 329, 3) := dk_182 1 73 (dk_at dksX6_reset_0 3 rfl rfl)
theorem dX6_reset_6 : decode cX6_reset 6 = .ok (.aload_n 0, 1) := dk_42 (dk_at dksX6_reset_0 6 rfl rfl)
theorem dX6_reset_7 : decode cX6_reset 7 = .ok (.iload_n 1, 1) := dk_27 (dk_at dksX6_reset_0 7 rfl rfl)
theorem dX6_reset_8 : decode cX6_reset 8 = .ok (.invokevirtual 329, 3) := dk_182 1 73 (dk_at dksX6_reset_0 8 rfl rfl)
theorem dX6_reset_11 : decode cX6_reset 11 = .ok (.ifCond .eq 13, 3) := dk_153 0 13 (dk_at dksX6_reset_0 11 rfl rfl)
theorem dX6_reset_14 : decode cX6_reset 14 = .ok (.aload_n 0, 1) := dk_42 (dk_at dksX6_reset_0 14 rfl rfl)
theorem dX6_reset_15 : decode cX6_reset 15 = .ok (.iload_n 1, 1) := dk_27 (dk_at dksX6_reset_0 15 rfl rfl)
theorem dX6_reset_16 : decode cX6_reset 16 = .ok (.iconst 1, 1) := dk_4 (dk_at dksX6_reset_0 16 rfl rfl)
theorem dX6_reset_17 : decode cX6_reset 17 = .ok (.invokevirtual 70, 3) := dk_182 0 70 (dk_at dksX6_reset_0 17 rfl rfl)
theorem dX6_reset_20 : decode cX6_reset 20 = .ok (.iconst 1, 1) := dk_4 (dk_at dksX6_reset_0 20 rfl rfl)
theorem dX6_reset_21 : decode cX6_reset 21 = .ok (.if_icmp .ne 7, 3) := dk_160 0 7 (dk_at dksX6_reset_0 21 rfl rfl)
theorem dX6_reset_24 : decode cX6_reset 24 = .ok (.iconst 1, 1) := dk_4 (dk_at dksX6_reset_1 0 rfl rfl)
theorem dX6_reset_25 : decode cX6_reset 25 = .ok (.goto 4, 3) := dk_167 0 4 (dk_at dksX6_reset_1 1 rfl rfl)
theorem dX6_reset_28 : decode cX6_reset 28 = .ok (.iconst 0, 1) := dk_3 (dk_at dksX6_reset_1 4 rfl rfl)
theorem dX6_reset_29 : decode cX6_reset 29 = .ok (.invokevirtual 338, 3) := dk_182 1 82 (dk_at dksX6_reset_1 5 rfl rfl)
theorem dX6_reset_32 : decode cX6_reset 32 = .ok (.ifCond .ne 5, 3) := dk_154 0 5 (dk_at dksX6_reset_1 8 rfl rfl)
theorem dX6_reset_35 : decode cX6_reset 35 = .ok (.iconst 0, 1) := dk_3 (dk_at dksX6_reset_1 11 rfl rfl)
theorem dX6_reset_36 : decode cX6_reset 36 = .ok (.ireturn, 1) := dk_172 (dk_at dksX6_reset_1 12 rfl rfl)
theorem dX6_reset_37 : decode cX6_reset 37 = .ok (.aload_n 0, 1) := dk_42 (dk_at dksX6_reset_1 13 rfl rfl)
theorem dX6_reset_38 : decode cX6_reset 38 = .ok (.invokevirtual 321, 3) := dk_182 1 65 (dk_at dksX6_reset_1 14 rfl rfl)
theorem dX6_reset_41 : decode cX6_reset 41 = .ok (.aload_n 0, 1) := dk_42 (dk_at dksX6_reset_1 17 rfl rfl)
theorem dX6_reset_42 : decode cX6_reset 42 = .ok (.iload_n 1, 1) := dk_27 (dk_at dksX6_reset_1 18 rfl rfl)
theorem dX6_reset_43 : decode cX6_reset 43 = .ok (.iconst 1, 1) := dk_4 (dk_at dksX6_reset_1 19 rfl rfl)
theorem dX6_reset_44 : decode cX6_reset 44 = .ok (.iconst 0, 1) := dk_3 (dk_at dksX6_reset_1 20 rfl rfl)
theorem dX6_reset_45 : decode cX6_reset 45 = .ok (.invokevirtual 270, 3) := dk_182 1 14 (dk_at dksX6_reset_1 21 rfl rfl)
theorem dX6_reset_48 : decode cX6_reset 48 = .ok (.aload_n 0, 1) := dk_42 (dk_at dksX6_reset_2 0 rfl rfl)
theorem dX6_reset_49 : decode cX6_reset 49 = .ok (.iload_n 1, 1) := dk_27 (dk_at dksX6_reset_2 1 rfl rfl)
theorem dX6_reset_50 : decode cX6_reset 50 = .ok (.iconst 5, 1) := dk_8 (dk_at dksX6_reset_2 2 rfl rfl)
theorem dX6_reset_51 : decode cX6_reset 51 = .ok (.iconst 0, 1) := dk_3 (dk_at dksX6_reset_2 3 rfl rfl)
theorem dX6_reset_52 : decode cX6_reset 52 = .ok (.invokevirtual 270, 3) := dk_182 1 14 (dk_at dksX6_reset_2 4 rfl rfl)
theorem dX6_reset_55 : decode cX6_reset 55 = .ok (.aload_n 0, 1) := dk_42 (dk_at dksX6_reset_2 7 rfl rfl)
theorem dX6_reset_56 : decode cX6_reset 56 = .ok (.iload_n 1, 1) := dk_27 (dk_at dksX6_reset_2 8 rfl rfl)
theorem dX6_reset_57 : decode cX6_reset 57 = .ok (.iconst 2, 1) := dk_5 (dk_at dksX6_reset_2 9 rfl rfl)
theorem dX6_reset_58 : decode cX6_reset 58 = .ok (.invokevirtual 70, 3) := dk_182 0 70 (dk_at dksX6_reset_2 10 rfl rfl)
theorem dX6_reset_61 : decode cX6_reset 61 = .ok (.ireturn, 1) := dk_172 (dk_at dksX6_reset_2 13 rfl rfl)
def dkwX6_service_2 : List UInt8 := [182, 1, 14, 28, 172]
abbrev dktX6_service_2 : List UInt8 := dkwX6_service_2 ++ []
def dkwX6_service_1 : List UInt8 := [61, 42, 27, 5, 3, 182, 1, 14, 42, 27, 4, 182, 0, 70, 5, 160, 0, 10, 42, 27, 4, 4]
abbrev dktX6_service_1 : List UInt8 := dkwX6_service_1 ++ dktX6_service_2
def dkwX6_service_0 : List UInt8 := [42, 42, 27, 182, 1, 73, 182, 0, 77, 154, 0, 5, 3, 172, 42, 182, 1, 65, 42, 27, 5, 182, 0, 70]
abbrev dktX6_service_0 : List UInt8 := dkwX6_service_0 ++ dktX6_service_1
theorem dksX6_service_0 : cX6_service.data.toList.drop 0 = dktX6_service_0 := by decide +kernel
theorem dksX6_service_1 : cX6_service.data.toList.drop 24 = dktX6_service_1 := dk_seg dksX6_service_0 24 rfl rfl
theorem dksX6_service_2 : cX6_service.data.toList.drop 46 = dktX6_service_2 := dk_seg dksX6_service_1 22 rfl rfl
theorem dX6_service_0 : decode cX6_service 0 = .ok (.aload_n 0, 1) := dk_42 (dk_at dksX6_service_0 0 rfl rfl)
theorem dX6_service_1 : decode cX6_service 1 = .ok (.aload_n 0, 1) := dk_42 (dk_at dksX6_service_0 1 rfl rfl)
theorem dX6_service_2 : decode cX6_service 2 = .ok (.iload_n 1, 1) := dk_27 (dk_at dksX6_service_0 2 rfl rfl)
theorem dX6_service_3 : decode cX6_service 3 = .ok (.invokevirtual 329, 3) := dk_182 1 73 (dk_at dksX6_service_0 3 rfl rfl)
theorem dX6_service_6 : decode cX6_service 6 = .ok (.invokevirtual 77, 3) := dk_182 0 77 (dk_at dksX6_service_0 6 rfl rfl)
theorem dX6_service_9 : decode cX6_service 9 = .ok (.ifCond .ne 5, 3) := dk_154 0 5 (dk_at dksX6_service_0 9 rfl rfl)
theorem dX6_service_12 : decode cX6_service 12 = .ok (.iconst 0, 1) := dk_3 (dk_at dksX6_service_0 12 rfl rfl)
theorem dX6_service_13 : decode cX6_service 13 = .ok (.ireturn, 1) := dk_172 (dk_at dksX6_service_0 13 rfl rfl)
theorem dX6_service_14 : decode cX6_service 14 = .ok (.aload_n 0, 1) := dk_42 (dk_at dksX6_service_0 14 rfl rfl)
theorem dX6_service_15 : decode cX6_service 15 = .ok (.invokevirtual 321, 3) := dk_182 1 65 (dk_at dksX6_service_0 15 rfl rfl)
theorem dX6_service_18 : decode cX6_service 18 = .ok (.aload_n 0, 1) := dk_42 (dk_at dksX6_service_0 18 rfl rfl)
theorem dX6_service_19 : decode cX6_service 19 = .ok (.iload_n 1, 1) := dk_27 (dk_at dksX6_service_0 19 rfl rfl)
theorem dX6_service_20 : decode cX6_service 20 = .ok (.iconst 2, 1) := dk_5 (dk_at dksX6_service_0 20 rfl rfl)
theorem dX6_service_21 : decode cX6_service 21 = .ok (.invokevirtual 70, 3) := dk_182 0 70 (dk_at dksX6_service_0 21 rfl rfl)
theorem dX6_service_24 : decode cX6_service 24 = .ok (.istore_n 2, 1) := dk_61 (dk_at dksX6_service_1 0 rfl rfl)
theorem dX6_service_25 : decode cX6_service 25 = .ok (.aload_n 0, 1) := dk_42 (dk_at dksX6_service_1 1 rfl rfl)
theorem dX6_service_26 : decode cX6_service 26 = .ok (.iload_n 1, 1) := dk_27 (dk_at dksX6_service_1 2 rfl rfl)
theorem dX6_service_27 : decode cX6_service 27 = .ok (.iconst 2, 1) := dk_5 (dk_at dksX6_service_1 3 rfl rfl)
theorem dX6_service_28 : decode cX6_service 28 = .ok (.iconst 0, 1) := dk_3 (dk_at dksX6_service_1 4 rfl rfl)
theorem dX6_service_29 : decode cX6_service 29 = .ok (.invokevirtual 270, 3) := dk_182 1 14 (dk_at dksX6_service_1 5 rfl rfl)
theorem dX6_service_32 : decode cX6_service 32 = .ok (.aload_n 0, 1) := dk_42 (dk_at dksX6_service_1 8 rfl rfl)
theorem dX6_service_33 : decode cX6_service 33 = .ok (.iload_n 1, 1) := dk_27 (dk_at dksX6_service_1 9 rfl rfl)
theorem dX6_service_34 : decode cX6_service 34 = .ok (.iconst 1, 1) := dk_4 (dk_at dksX6_service_1 10 rfl rfl)
theorem dX6_service_35 : decode cX6_service 35 = .ok (.invokevirtual 70, 3) := dk_182 0 70 (dk_at dksX6_service_1 11 rfl rfl)
theorem dX6_service_38 : decode cX6_service 38 = .ok (.iconst 2, 1) := dk_5 (dk_at dksX6_service_1 14 rfl rfl)
theorem dX6_service_39 : decode cX6_service 39 = .ok (.if_icmp .ne 10, 3) := dk_160 0 10 (dk_at dksX6_service_1 15 rfl rfl)
theorem dX6_service_42 : decode cX6_service 42 = .ok (.aload_n 0, 1) := dk_42 (dk_at dksX6_service_1 18 rfl rfl)
theorem dX6_service_43 : decode cX6_service 43 = .ok (.iload_n 1, 1) := dk_27 (dk_at dksX6_service_1 19 rfl rfl)
theorem dX6_service_44 : decode cX6_service 44 = .ok (.iconst 1, 1) := dk_4 (dk_at dksX6_service_1 20 rfl rfl)
theorem dX6_service_45 : decode cX6_service 45 = .ok (.iconst 1, 1) := dk_4 (dk_at dksX6_service_1 21 rfl rfl)
theorem dX6_service_46 : decode cX6_service 46 = .ok (.invokevirtual 270, 3) := dk_182 1 14 (dk_at dksX6_service_2 0 rfl rfl)
theorem dX6_service_49 : decode cX6_service 49 = .ok (.iload_n 2, 1) := dk_28 (dk_at dksX6_service_2 3 rfl rfl)
theorem dX6_service_50 : decode cX6_service 50 = .ok (.ireturn, 1) := dk_172 (dk_at dksX6_service_2 4 rfl rfl)
def dkwX6_test_2 : List UInt8 := [42, 27, 6, 4, 182, 1, 14, 42, 27, 182, 1, 197, 172]
abbrev dktX6_test_2 : List UInt8 := dkwX6_test_2 ++ []
def dkwX6_test_1 : List UInt8 := [6, 182, 0, 70, 154, 0, 7, 4, 167, 0, 4, 3, 182, 1, 82, 154, 0, 5, 3, 172, 42, 182, 1, 65]
abbrev dktX6_test_1 : List UInt8 := dkwX6_test_1 ++ dktX6_test_2
def dkwX6_test_0 : List UInt8 := [42, 42, 27, 182, 1, 73, 42, 27, 182, 1, 73, 153, 0, 20, 42, 27, 182, 1, 102, 153, 0, 16, 42, 27]
abbrev dktX6_test_0 : List UInt8 := dkwX6_test_0 ++ dktX6_test_1
theorem dksX6_test_0 : cX6_test.data.toList.drop 0 = dktX6_test_0 := by decide +kernel
theorem dksX6_test_1 : cX6_test.data.toList.drop 24 = dktX6_test_1 := dk_seg dksX6_test_0 24 rfl rfl
theorem dksX6_test_2 : cX6_test.data.toList.drop 48 = dktX6_test_2 := dk_seg dksX6_test_1 24 rfl rfl
theorem dX6_test_0 : decode cX6_test 0 = .ok (.aload_n 0, 1) := dk_42 (dk_at dksX6_test_0 0 rfl rfl)
theorem dX6_test_1 : decode cX6_test 1 = .ok (.aload_n 0, 1) := dk_42 (dk_at dksX6_test_0 1 rfl rfl)
theorem dX6_test_2 : decode cX6_test 2 = .ok (.iload_n 1, 1) := dk_27 (dk_at dksX6_test_0 2 rfl rfl)
theorem dX6_test_3 : decode cX6_test 3 = .ok (.invokevirtual 329, 3) := dk_182 1 73 (dk_at dksX6_test_0 3 rfl rfl)
theorem dX6_test_6 : decode cX6_test 6 = .ok (.aload_n 0, 1) := dk_42 (dk_at dksX6_test_0 6 rfl rfl)
theorem dX6_test_7 : decode cX6_test 7 = .ok (.iload_n 1, 1) := dk_27 (dk_at dksX6_test_0 7 rfl rfl)
theorem dX6_test_8 : decode cX6_test 8 = .ok (.invokevirtual 329, 3) := dk_182 1 73 (dk_at dksX6_test_0 8 rfl rfl)
theorem dX6_test_11 : decode cX6_test 11 = .ok (.ifCond .eq 20, 3) := dk_153 0 20 (dk_at dksX6_test_0 11 rfl rfl)
theorem dX6_test_14 : decode cX6_test 14 = .ok (.aload_n 0, 1) := dk_42 (dk_at dksX6_test_0 14 rfl rfl)
theorem dX6_test_15 : decode cX6_test 15 = .ok (.iload_n 1, 1) := dk_27 (dk_at dksX6_test_0 15 rfl rfl)
theorem dX6_test_16 : decode cX6_test 16 = .ok (.invokevirtual 358, 3) := dk_182 1 102 (dk_at dksX6_test_0 16 rfl rfl)
theorem dX6_test_19 : decode cX6_test 19 = .ok (.ifCond .eq 16, 3) := dk_153 0 16 (dk_at dksX6_test_0 19 rfl rfl)
theorem dX6_test_22 : decode cX6_test 22 = .ok (.aload_n 0, 1) := dk_42 (dk_at dksX6_test_0 22 rfl rfl)
theorem dX6_test_23 : decode cX6_test 23 = .ok (.iload_n 1, 1) := dk_27 (dk_at dksX6_test_0 23 rfl rfl)
theorem dX6_test_24 : decode cX6_test 24 = .ok (.iconst 3, 1) := dk_6 (dk_at dksX6_test_1 0 rfl rfl)
theorem dX6_test_25 : decode cX6_test 25 = .ok (.invokevirtual 70, 3) := dk_182 0 70 (dk_at dksX6_test_1 1 rfl rfl)
theorem dX6_test_28 : decode cX6_test 28 = .ok (.ifCond .ne 7, 3) := dk_154 0 7 (dk_at dksX6_test_1 4 rfl rfl)
theorem dX6_test_31 : decode cX6_test 31 = .ok (.iconst 1, 1) := dk_4 (dk_at dksX6_test_1 7 rfl rfl)
theorem dX6_test_32 : decode cX6_test 32 = .ok (.goto 4, 3) := dk_167 0 4 (dk_at dksX6_test_1 8 rfl rfl)
theorem dX6_test_35 : decode cX6_test 35 = .ok (.iconst 0, 1) := dk_3 (dk_at dksX6_test_1 11 rfl rfl)
theorem dX6_test_36 : decode cX6_test 36 = .ok (.invokevirtual 338, 3) := dk_182 1 82 (dk_at dksX6_test_1 12 rfl rfl)
theorem dX6_test_39 : decode cX6_test 39 = .ok (.ifCond .ne 5, 3) := dk_154 0 5 (dk_at dksX6_test_1 15 rfl rfl)
theorem dX6_test_42 : decode cX6_test 42 = .ok (.iconst 0, 1) := dk_3 (dk_at dksX6_test_1 18 rfl rfl)
theorem dX6_test_43 : decode cX6_test 43 = .ok (.ireturn, 1) := dk_172 (dk_at dksX6_test_1 19 rfl rfl)
theorem dX6_test_44 : decode cX6_test 44 = .ok (.aload_n 0, 1) := dk_42 (dk_at dksX6_test_1 20 rfl rfl)
theorem dX6_test_45 : decode cX6_test 45 = .ok (.invokevirtual 321, 3) := dk_182 1 65 (dk_at dksX6_test_1 21 rfl rfl)
theorem dX6_test_48 : decode cX6_test 48 = .ok (.aload_n 0, 1) := dk_42 (dk_at dksX6_test_2 0 rfl rfl)
theorem dX6_test_49 : decode cX6_test 49 = .ok (.iload_n 1, 1) := dk_27 (dk_at dksX6_test_2 1 rfl rfl)
theorem dX6_test_50 : decode cX6_test 50 = .ok (.iconst 3, 1) := dk_6 (dk_at dksX6_test_2 2 rfl rfl)
theorem dX6_test_51 : decode cX6_test 51 = .ok (.iconst 1, 1) := dk_4 (dk_at dksX6_test_2 3 rfl rfl)
theorem dX6_test_52 : decode cX6_test 52 = .ok (.invokevirtual 270, 3) := dk_182 1 14 (dk_at dksX6_test_2 4 rfl rfl)
theorem dX6_test_55 : decode cX6_test 55 = .ok (.aload_n 0, 1) := dk_42 (dk_at dksX6_test_2 7 rfl rfl)
theorem dX6_test_56 : decode cX6_test 56 = .ok (.iload_n 1, 1) := dk_27 (dk_at dksX6_test_2 8 rfl rfl)
theorem dX6_test_57 : decode cX6_test 57 = .ok (.invokevirtual 453, 3) := dk_182 1 197 (dk_at dksX6_test_2 9 rfl rfl)
theorem dX6_test_60 : decode cX6_test 60 = .ok (.ireturn, 1) := dk_172 (dk_at dksX6_test_2 12 rfl rfl)
def dkwX6_isTested_1 : List UInt8 := [167, 0, 4, 3, 172]
abbrev dktX6_isTested_1 : List UInt8 := dkwX6_isTested_1 ++ []
def dkwX6_isTested_0 : List UInt8 := [42, 42, 27, 182, 1, 73, 182, 0, 77, 153, 0, 17, 42, 27, 6, 182, 0, 70, 4, 160, 0, 7, 4]
abbrev dktX6_isTested_0 : List UInt8 := dkwX6_isTested_0 ++ dktX6_isTested_1
theorem dksX6_isTested_0 : cX6_isTested.data.toList.drop 0 = dktX6_isTested_0 := by decide +kernel
theorem dksX6_isTested_1 : cX6_isTested.data.toList.drop 23 = dktX6_isTested_1 := dk_seg dksX6_isTested_0 23 rfl rfl
theorem dX6_isTested_0 : decode cX6_isTested 0 = .ok (.aload_n 0, 1) := dk_42 (dk_at dksX6_isTested_0 0 rfl rfl)
theorem dX6_isTested_1 : decode cX6_isTested 1 = .ok (.aload_n 0, 1) := dk_42 (dk_at dksX6_isTested_0 1 rfl rfl)
theorem dX6_isTested_2 : decode cX6_isTested 2 = .ok (.iload_n 1, 1) := dk_27 (dk_at dksX6_isTested_0 2 rfl rfl)
theorem dX6_isTested_3 : decode cX6_isTested 3 = .ok (.invokevirtual 329, 3) := dk_182 1 73 (dk_at dksX6_isTested_0 3 rfl rfl)
theorem dX6_isTested_6 : decode cX6_isTested 6 = .ok (.invokevirtual 77, 3) := dk_182 0 77 (dk_at dksX6_isTested_0 6 rfl rfl)
theorem dX6_isTested_9 : decode cX6_isTested 9 = .ok (.ifCond .eq 17, 3) := dk_153 0 17 (dk_at dksX6_isTested_0 9 rfl rfl)
theorem dX6_isTested_12 : decode cX6_isTested 12 = .ok (.aload_n 0, 1) := dk_42 (dk_at dksX6_isTested_0 12 rfl rfl)
theorem dX6_isTested_13 : decode cX6_isTested 13 = .ok (.iload_n 1, 1) := dk_27 (dk_at dksX6_isTested_0 13 rfl rfl)
theorem dX6_isTested_14 : decode cX6_isTested 14 = .ok (.iconst 3, 1) := dk_6 (dk_at dksX6_isTested_0 14 rfl rfl)
theorem dX6_isTested_15 : decode cX6_isTested 15 = .ok (.invokevirtual 70, 3) := dk_182 0 70 (dk_at dksX6_isTested_0 15 rfl rfl)
theorem dX6_isTested_18 : decode cX6_isTested 18 = .ok (.iconst 1, 1) := dk_4 (dk_at dksX6_isTested_0 18 rfl rfl)
theorem dX6_isTested_19 : decode cX6_isTested 19 = .ok (.if_icmp .ne 7, 3) := dk_160 0 7 (dk_at dksX6_isTested_0 19 rfl rfl)
theorem dX6_isTested_22 : decode cX6_isTested 22 = .ok (.iconst 1, 1) := dk_4 (dk_at dksX6_isTested_0 22 rfl rfl)
theorem dX6_isTested_23 : decode cX6_isTested 23 = .ok (.goto 4, 3) := dk_167 0 4 (dk_at dksX6_isTested_1 0 rfl rfl)
theorem dX6_isTested_26 : decode cX6_isTested 26 = .ok (.iconst 0, 1) := dk_3 (dk_at dksX6_isTested_1 3 rfl rfl)
theorem dX6_isTested_27 : decode cX6_isTested 27 = .ok (.ireturn, 1) := dk_172 (dk_at dksX6_isTested_1 4 rfl rfl)
def dkwX6_losePower_2 : List UInt8 := [172]
abbrev dktX6_losePower_2 : List UInt8 := dkwX6_losePower_2 ++ []
def dkwX6_losePower_1 : List UInt8 := [3, 182, 1, 14, 42, 27, 6, 3, 182, 1, 14, 132, 1, 1, 167, 255, 229, 42, 180, 0, 17, 16, 10, 46]
abbrev dktX6_losePower_1 : List UInt8 := dkwX6_losePower_1 ++ dktX6_losePower_2
def dkwX6_losePower_0 : List UInt8 := [42, 3, 181, 0, 3, 42, 182, 1, 65, 3, 60, 27, 42, 180, 0, 17, 6, 46, 162, 0, 23, 42, 27, 8]
abbrev dktX6_losePower_0 : List UInt8 := dkwX6_losePower_0 ++ dktX6_losePower_1
theorem dksX6_losePower_0 : cX6_losePower.data.toList.drop 0 = dktX6_losePower_0 := by decide +kernel
theorem dksX6_losePower_1 : cX6_losePower.data.toList.drop 24 = dktX6_losePower_1 := dk_seg dksX6_losePower_0 24 rfl rfl
theorem dksX6_losePower_2 : cX6_losePower.data.toList.drop 48 = dktX6_losePower_2 := dk_seg dksX6_losePower_1 24 rfl rfl
theorem dX6_losePower_0 : decode cX6_losePower 0 = .ok (.aload_n 0, 1) := dk_42 (dk_at dksX6_losePower_0 0 rfl rfl)
theorem dX6_losePower_1 : decode cX6_losePower 1 = .ok (.iconst 0, 1) := dk_3 (dk_at dksX6_losePower_0 1 rfl rfl)
theorem dX6_losePower_2 : decode cX6_losePower 2 = .ok (.putfield 3, 3) := dk_181 0 3 (dk_at dksX6_losePower_0 2 rfl rfl)
theorem dX6_losePower_5 : decode cX6_losePower 5 = .ok (.aload_n 0, 1) := dk_42 (dk_at dksX6_losePower_0 5 rfl rfl)
theorem dX6_losePower_6 : decode cX6_losePower 6 = .ok (.invokevirtual 321, 3) := dk_182 1 65 (dk_at dksX6_losePower_0 6 rfl rfl)
theorem dX6_losePower_9 : decode cX6_losePower 9 = .ok (.iconst 0, 1) := dk_3 (dk_at dksX6_losePower_0 9 rfl rfl)
theorem dX6_losePower_10 : decode cX6_losePower 10 = .ok (.istore_n 1, 1) := dk_60 (dk_at dksX6_losePower_0 10 rfl rfl)
theorem dX6_losePower_11 : decode cX6_losePower 11 = .ok (.iload_n 1, 1) := dk_27 (dk_at dksX6_losePower_0 11 rfl rfl)
theorem dX6_losePower_12 : decode cX6_losePower 12 = .ok (.aload_n 0, 1) := dk_42 (dk_at dksX6_losePower_0 12 rfl rfl)
theorem dX6_losePower_13 : decode cX6_losePower 13 = .ok (.getfield 17, 3) := dk_180 0 17 (dk_at dksX6_losePower_0 13 rfl rfl)
theorem dX6_losePower_16 : decode cX6_losePower 16 = .ok (.iconst 3, 1) := dk_6 (dk_at dksX6_losePower_0 16 rfl rfl)
theorem dX6_losePower_17 : decode cX6_losePower 17 = .ok (.iaload, 1) := dk_46 (dk_at dksX6_losePower_0 17 rfl rfl)
theorem dX6_losePower_18 : decode cX6_losePower 18 = .ok (.if_icmp .ge 23, 3) := dk_162 0 23 (dk_at dksX6_losePower_0 18 rfl rfl)
theorem dX6_losePower_21 : decode cX6_losePower 21 = .ok (.aload_n 0, 1) := dk_42 (dk_at dksX6_losePower_0 21 rfl rfl)
theorem dX6_losePower_22 : decode cX6_losePower 22 = .ok (.iload_n 1, 1) := dk_27 (dk_at dksX6_losePower_0 22 rfl rfl)
theorem dX6_losePower_23 : decode cX6_losePower 23 = .ok (.iconst 5, 1) := dk_8 (dk_at dksX6_losePower_0 23 rfl rfl)
theorem dX6_losePower_24 : decode cX6_losePower 24 = .ok (.iconst 0, 1) := dk_3 (dk_at dksX6_losePower_1 0 rfl rfl)
theorem dX6_losePower_25 : decode cX6_losePower 25 = .ok (.invokevirtual 270, 3) := dk_182 1 14 (dk_at dksX6_losePower_1 1 rfl rfl)
theorem dX6_losePower_28 : decode cX6_losePower 28 = .ok (.aload_n 0, 1) := dk_42 (dk_at dksX6_losePower_1 4 rfl rfl)
theorem dX6_losePower_29 : decode cX6_losePower 29 = .ok (.iload_n 1, 1) := dk_27 (dk_at dksX6_losePower_1 5 rfl rfl)
theorem dX6_losePower_30 : decode cX6_losePower 30 = .ok (.iconst 3, 1) := dk_6 (dk_at dksX6_losePower_1 6 rfl rfl)
theorem dX6_losePower_31 : decode cX6_losePower 31 = .ok (.iconst 0, 1) := dk_3 (dk_at dksX6_losePower_1 7 rfl rfl)
theorem dX6_losePower_32 : decode cX6_losePower 32 = .ok (.invokevirtual 270, 3) := dk_182 1 14 (dk_at dksX6_losePower_1 8 rfl rfl)
theorem dX6_losePower_35 : decode cX6_losePower 35 = .ok (.iinc 1 1, 3) := dk_132 1 1 (dk_at dksX6_losePower_1 11 rfl rfl)
theorem dX6_losePower_38 : decode cX6_losePower 38 = .ok (.goto (-27), 3) := dk_167 255 229 (dk_at dksX6_losePower_1 14 rfl rfl)
theorem dX6_losePower_41 : decode cX6_losePower 41 = .ok (.aload_n 0, 1) := dk_42 (dk_at dksX6_losePower_1 17 rfl rfl)
theorem dX6_losePower_42 : decode cX6_losePower 42 = .ok (.getfield 17, 3) := dk_180 0 17 (dk_at dksX6_losePower_1 18 rfl rfl)
theorem dX6_losePower_45 : decode cX6_losePower 45 = .ok (.bipush 10, 2) := dk_16 10 (dk_at dksX6_losePower_1 21 rfl rfl)
theorem dX6_losePower_47 : decode cX6_losePower 47 = .ok (.iaload, 1) := dk_46 (dk_at dksX6_losePower_1 23 rfl rfl)
theorem dX6_losePower_48 : decode cX6_losePower 48 = .ok (.ireturn, 1) := dk_172 (dk_at dksX6_losePower_2 0 rfl rfl)
def dkwX6_trips_0 : List UInt8 := [42, 42, 27, 182, 1, 73, 182, 0, 77, 153, 0, 12, 42, 27, 5, 182, 0, 70, 167, 0, 4, 3, 172]
abbrev dktX6_trips_0 : List UInt8 := dkwX6_trips_0 ++ []
theorem dksX6_trips_0 : cX6_trips.data.toList.drop 0 = dktX6_trips_0 := by decide +kernel
theorem dX6_trips_0 : decode cX6_trips 0 = .ok (.aload_n 0, 1) := dk_42 (dk_at dksX6_trips_0 0 rfl rfl)
theorem dX6_trips_1 : decode cX6_trips 1 = .ok (.aload_n 0, 1) := dk_42 (dk_at dksX6_trips_0 1 rfl rfl)
theorem dX6_trips_2 : decode cX6_trips 2 = .ok (.iload_n 1, 1) := dk_27 (dk_at dksX6_trips_0 2 rfl rfl)
theorem dX6_trips_3 : decode cX6_trips 3 = .ok (.invokevirtual 329, 3) := dk_182 1 73 (dk_at dksX6_trips_0 3 rfl rfl)
theorem dX6_trips_6 : decode cX6_trips 6 = .ok (.invokevirtual 77, 3) := dk_182 0 77 (dk_at dksX6_trips_0 6 rfl rfl)
theorem dX6_trips_9 : decode cX6_trips 9 = .ok (.ifCond .eq 12, 3) := dk_153 0 12 (dk_at dksX6_trips_0 9 rfl rfl)
theorem dX6_trips_12 : decode cX6_trips 12 = .ok (.aload_n 0, 1) := dk_42 (dk_at dksX6_trips_0 12 rfl rfl)
theorem dX6_trips_13 : decode cX6_trips 13 = .ok (.iload_n 1, 1) := dk_27 (dk_at dksX6_trips_0 13 rfl rfl)
theorem dX6_trips_14 : decode cX6_trips 14 = .ok (.iconst 2, 1) := dk_5 (dk_at dksX6_trips_0 14 rfl rfl)
theorem dX6_trips_15 : decode cX6_trips 15 = .ok (.invokevirtual 70, 3) := dk_182 0 70 (dk_at dksX6_trips_0 15 rfl rfl)
theorem dX6_trips_18 : decode cX6_trips 18 = .ok (.goto 4, 3) := dk_167 0 4 (dk_at dksX6_trips_0 18 rfl rfl)
theorem dX6_trips_21 : decode cX6_trips 21 = .ok (.iconst 0, 1) := dk_3 (dk_at dksX6_trips_0 21 rfl rfl)
theorem dX6_trips_22 : decode cX6_trips 22 = .ok (.ireturn, 1) := dk_172 (dk_at dksX6_trips_0 22 rfl rfl)
def dkwX6_memoryCount_0 : List UInt8 := [42, 3, 181, 0, 3, 42, 180, 0, 17, 16, 10, 46, 172]
abbrev dktX6_memoryCount_0 : List UInt8 := dkwX6_memoryCount_0 ++ []
theorem dksX6_memoryCount_0 : cX6_memoryCount.data.toList.drop 0 = dktX6_memoryCount_0 := by decide +kernel
theorem dX6_memoryCount_0 : decode cX6_memoryCount 0 = .ok (.aload_n 0, 1) := dk_42 (dk_at dksX6_memoryCount_0 0 rfl rfl)
theorem dX6_memoryCount_1 : decode cX6_memoryCount 1 = .ok (.iconst 0, 1) := dk_3 (dk_at dksX6_memoryCount_0 1 rfl rfl)
theorem dX6_memoryCount_2 : decode cX6_memoryCount 2 = .ok (.putfield 3, 3) := dk_181 0 3 (dk_at dksX6_memoryCount_0 2 rfl rfl)
theorem dX6_memoryCount_5 : decode cX6_memoryCount 5 = .ok (.aload_n 0, 1) := dk_42 (dk_at dksX6_memoryCount_0 5 rfl rfl)
theorem dX6_memoryCount_6 : decode cX6_memoryCount 6 = .ok (.getfield 17, 3) := dk_180 0 17 (dk_at dksX6_memoryCount_0 6 rfl rfl)
theorem dX6_memoryCount_9 : decode cX6_memoryCount 9 = .ok (.bipush 10, 2) := dk_16 10 (dk_at dksX6_memoryCount_0 9 rfl rfl)
theorem dX6_memoryCount_11 : decode cX6_memoryCount 11 = .ok (.iaload, 1) := dk_46 (dk_at dksX6_memoryCount_0 11 rfl rfl)
theorem dX6_memoryCount_12 : decode cX6_memoryCount 12 = .ok (.ireturn, 1) := dk_172 (dk_at dksX6_memoryCount_0 12 rfl rfl)
def dkwX6_memory_1 : List UInt8 := [182, 1, 215, 167, 0, 4, 3, 172]
abbrev dktX6_memory_1 : List UInt8 := dkwX6_memory_1 ++ []
def dkwX6_memory_0 : List UInt8 := [42, 42, 27, 182, 1, 212, 28, 133, 9, 20, 1, 80, 184, 0, 66, 182, 1, 82, 153, 0, 12, 42, 27, 28]
abbrev dktX6_memory_0 : List UInt8 := dkwX6_memory_0 ++ dktX6_memory_1
theorem dksX6_memory_0 : cX6_memory.data.toList.drop 0 = dktX6_memory_0 := by decide +kernel
theorem dksX6_memory_1 : cX6_memory.data.toList.drop 24 = dktX6_memory_1 := dk_seg dksX6_memory_0 24 rfl rfl
theorem dX6_memory_0 : decode cX6_memory 0 = .ok (.aload_n 0, 1) := dk_42 (dk_at dksX6_memory_0 0 rfl rfl)
theorem dX6_memory_1 : decode cX6_memory 1 = .ok (.aload_n 0, 1) := dk_42 (dk_at dksX6_memory_0 1 rfl rfl)
theorem dX6_memory_2 : decode cX6_memory 2 = .ok (.iload_n 1, 1) := dk_27 (dk_at dksX6_memory_0 2 rfl rfl)
theorem dX6_memory_3 : decode cX6_memory 3 = .ok (.invokevirtual 468, 3) := dk_182 1 212 (dk_at dksX6_memory_0 3 rfl rfl)
theorem dX6_memory_6 : decode cX6_memory 6 = .ok (.iload_n 2, 1) := dk_28 (dk_at dksX6_memory_0 6 rfl rfl)
theorem dX6_memory_7 : decode cX6_memory 7 = .ok (.i2l, 1) := dk_133 (dk_at dksX6_memory_0 7 rfl rfl)
theorem dX6_memory_8 : decode cX6_memory 8 = .ok (.lconst 0, 1) := dk_9 (dk_at dksX6_memory_0 8 rfl rfl)
theorem dX6_memory_9 : decode cX6_memory 9 = .ok (.ldc2_w 336, 3) := dk_20 1 80 (dk_at dksX6_memory_0 9 rfl rfl)
theorem dX6_memory_12 : decode cX6_memory 12 = .ok (.invokestatic 66, 3) := dk_184 0 66 (dk_at dksX6_memory_0 12 rfl rfl)
theorem dX6_memory_15 : decode cX6_memory 15 = .ok (.invokevirtual 338, 3) := dk_182 1 82 (dk_at dksX6_memory_0 15 rfl rfl)
theorem dX6_memory_18 : decode cX6_memory 18 = .ok (.ifCond .eq 12, 3) := dk_153 0 12 (dk_at dksX6_memory_0 18 rfl rfl)
theorem dX6_memory_21 : decode cX6_memory 21 = .ok (.aload_n 0, 1) := dk_42 (dk_at dksX6_memory_0 21 rfl rfl)
theorem dX6_memory_22 : decode cX6_memory 22 = .ok (.iload_n 1, 1) := dk_27 (dk_at dksX6_memory_0 22 rfl rfl)
theorem dX6_memory_23 : decode cX6_memory 23 = .ok (.iload_n 2, 1) := dk_28 (dk_at dksX6_memory_0 23 rfl rfl)
theorem dX6_memory_24 : decode cX6_memory 24 = .ok (.invokevirtual 471, 3) := dk_182 1 215 (dk_at dksX6_memory_1 0 rfl rfl)
theorem dX6_memory_27 : decode cX6_memory 27 = .ok (.goto 4, 3) := dk_167 0 4 (dk_at dksX6_memory_1 3 rfl rfl)
theorem dX6_memory_30 : decode cX6_memory 30 = .ok (.iconst 0, 1) := dk_3 (dk_at dksX6_memory_1 6 rfl rfl)
theorem dX6_memory_31 : decode cX6_memory 31 = .ok (.ireturn, 1) := dk_172 (dk_at dksX6_memory_1 7 rfl rfl)
def dkwX6_isTrip_0 : List UInt8 := [27, 133, 9, 42, 180, 0, 24, 16, 10, 46, 4, 100, 133, 184, 0, 66, 172]
abbrev dktX6_isTrip_0 : List UInt8 := dkwX6_isTrip_0 ++ []
theorem dksX6_isTrip_0 : cX6_isTrip.data.toList.drop 0 = dktX6_isTrip_0 := by decide +kernel
theorem dX6_isTrip_0 : decode cX6_isTrip 0 = .ok (.iload_n 1, 1) := dk_27 (dk_at dksX6_isTrip_0 0 rfl rfl)
theorem dX6_isTrip_1 : decode cX6_isTrip 1 = .ok (.i2l, 1) := dk_133 (dk_at dksX6_isTrip_0 1 rfl rfl)
theorem dX6_isTrip_2 : decode cX6_isTrip 2 = .ok (.lconst 0, 1) := dk_9 (dk_at dksX6_isTrip_0 2 rfl rfl)
theorem dX6_isTrip_3 : decode cX6_isTrip 3 = .ok (.aload_n 0, 1) := dk_42 (dk_at dksX6_isTrip_0 3 rfl rfl)
theorem dX6_isTrip_4 : decode cX6_isTrip 4 = .ok (.getfield 24, 3) := dk_180 0 24 (dk_at dksX6_isTrip_0 4 rfl rfl)
theorem dX6_isTrip_7 : decode cX6_isTrip 7 = .ok (.bipush 10, 2) := dk_16 10 (dk_at dksX6_isTrip_0 7 rfl rfl)
theorem dX6_isTrip_9 : decode cX6_isTrip 9 = .ok (.iaload, 1) := dk_46 (dk_at dksX6_isTrip_0 9 rfl rfl)
theorem dX6_isTrip_10 : decode cX6_isTrip 10 = .ok (.iconst 1, 1) := dk_4 (dk_at dksX6_isTrip_0 10 rfl rfl)
theorem dX6_isTrip_11 : decode cX6_isTrip 11 = .ok (.isub, 1) := dk_100 (dk_at dksX6_isTrip_0 11 rfl rfl)
theorem dX6_isTrip_12 : decode cX6_isTrip 12 = .ok (.i2l, 1) := dk_133 (dk_at dksX6_isTrip_0 12 rfl rfl)
theorem dX6_isTrip_13 : decode cX6_isTrip 13 = .ok (.invokestatic 66, 3) := dk_184 0 66 (dk_at dksX6_isTrip_0 13 rfl rfl)
theorem dX6_isTrip_16 : decode cX6_isTrip 16 = .ok (.ireturn, 1) := dk_172 (dk_at dksX6_isTrip_0 16 rfl rfl)
def dkwX6_ofTrip_0 : List UInt8 := [42, 180, 0, 17, 17, 3, 145, 16, 69, 27, 104, 96, 28, 96, 46, 172]
abbrev dktX6_ofTrip_0 : List UInt8 := dkwX6_ofTrip_0 ++ []
theorem dksX6_ofTrip_0 : cX6_ofTrip.data.toList.drop 0 = dktX6_ofTrip_0 := by decide +kernel
theorem dX6_ofTrip_0 : decode cX6_ofTrip 0 = .ok (.aload_n 0, 1) := dk_42 (dk_at dksX6_ofTrip_0 0 rfl rfl)
theorem dX6_ofTrip_1 : decode cX6_ofTrip 1 = .ok (.getfield 17, 3) := dk_180 0 17 (dk_at dksX6_ofTrip_0 1 rfl rfl)
theorem dX6_ofTrip_4 : decode cX6_ofTrip 4 = .ok (.sipush 913, 3) := dk_17 3 145 (dk_at dksX6_ofTrip_0 4 rfl rfl)
theorem dX6_ofTrip_7 : decode cX6_ofTrip 7 = .ok (.bipush 69, 2) := dk_16 69 (dk_at dksX6_ofTrip_0 7 rfl rfl)
theorem dX6_ofTrip_9 : decode cX6_ofTrip 9 = .ok (.iload_n 1, 1) := dk_27 (dk_at dksX6_ofTrip_0 9 rfl rfl)
theorem dX6_ofTrip_10 : decode cX6_ofTrip 10 = .ok (.imul, 1) := dk_104 (dk_at dksX6_ofTrip_0 10 rfl rfl)
theorem dX6_ofTrip_11 : decode cX6_ofTrip 11 = .ok (.iadd, 1) := dk_96 (dk_at dksX6_ofTrip_0 11 rfl rfl)
theorem dX6_ofTrip_12 : decode cX6_ofTrip 12 = .ok (.iload_n 2, 1) := dk_28 (dk_at dksX6_ofTrip_0 12 rfl rfl)
theorem dX6_ofTrip_13 : decode cX6_ofTrip 13 = .ok (.iadd, 1) := dk_96 (dk_at dksX6_ofTrip_0 13 rfl rfl)
theorem dX6_ofTrip_14 : decode cX6_ofTrip 14 = .ok (.iaload, 1) := dk_46 (dk_at dksX6_ofTrip_0 14 rfl rfl)
theorem dX6_ofTrip_15 : decode cX6_ofTrip 15 = .ok (.ireturn, 1) := dk_172 (dk_at dksX6_ofTrip_0 15 rfl rfl)
def dkwX6_named_2 : List UInt8 := [182, 1, 215, 167, 0, 4, 3, 172]
abbrev dktX6_named_2 : List UInt8 := dkwX6_named_2 ++ []
def dkwX6_named_1 : List UInt8 := [100, 133, 184, 0, 66, 153, 0, 7, 4, 167, 0, 4, 3, 182, 1, 82, 153, 0, 14, 42, 27, 8, 28, 96]
abbrev dktX6_named_1 : List UInt8 := dkwX6_named_1 ++ dktX6_named_2
def dkwX6_named_0 : List UInt8 := [42, 42, 27, 182, 1, 212, 42, 27, 182, 1, 212, 153, 0, 21, 28, 133, 9, 42, 27, 7, 182, 1, 215, 4]
abbrev dktX6_named_0 : List UInt8 := dkwX6_named_0 ++ dktX6_named_1
theorem dksX6_named_0 : cX6_named.data.toList.drop 0 = dktX6_named_0 := by decide +kernel
theorem dksX6_named_1 : cX6_named.data.toList.drop 24 = dktX6_named_1 := dk_seg dksX6_named_0 24 rfl rfl
theorem dksX6_named_2 : cX6_named.data.toList.drop 48 = dktX6_named_2 := dk_seg dksX6_named_1 24 rfl rfl
theorem dX6_named_0 : decode cX6_named 0 = .ok (.aload_n 0, 1) := dk_42 (dk_at dksX6_named_0 0 rfl rfl)
theorem dX6_named_1 : decode cX6_named 1 = .ok (.aload_n 0, 1) := dk_42 (dk_at dksX6_named_0 1 rfl rfl)
theorem dX6_named_2 : decode cX6_named 2 = .ok (.iload_n 1, 1) := dk_27 (dk_at dksX6_named_0 2 rfl rfl)
theorem dX6_named_3 : decode cX6_named 3 = .ok (.invokevirtual 468, 3) := dk_182 1 212 (dk_at dksX6_named_0 3 rfl rfl)
theorem dX6_named_6 : decode cX6_named 6 = .ok (.aload_n 0, 1) := dk_42 (dk_at dksX6_named_0 6 rfl rfl)
theorem dX6_named_7 : decode cX6_named 7 = .ok (.iload_n 1, 1) := dk_27 (dk_at dksX6_named_0 7 rfl rfl)
theorem dX6_named_8 : decode cX6_named 8 = .ok (.invokevirtual 468, 3) := dk_182 1 212 (dk_at dksX6_named_0 8 rfl rfl)
theorem dX6_named_11 : decode cX6_named 11 = .ok (.ifCond .eq 21, 3) := dk_153 0 21 (dk_at dksX6_named_0 11 rfl rfl)
theorem dX6_named_14 : decode cX6_named 14 = .ok (.iload_n 2, 1) := dk_28 (dk_at dksX6_named_0 14 rfl rfl)
theorem dX6_named_15 : decode cX6_named 15 = .ok (.i2l, 1) := dk_133 (dk_at dksX6_named_0 15 rfl rfl)
theorem dX6_named_16 : decode cX6_named 16 = .ok (.lconst 0, 1) := dk_9 (dk_at dksX6_named_0 16 rfl rfl)
theorem dX6_named_17 : decode cX6_named 17 = .ok (.aload_n 0, 1) := dk_42 (dk_at dksX6_named_0 17 rfl rfl)
theorem dX6_named_18 : decode cX6_named 18 = .ok (.iload_n 1, 1) := dk_27 (dk_at dksX6_named_0 18 rfl rfl)
theorem dX6_named_19 : decode cX6_named 19 = .ok (.iconst 4, 1) := dk_7 (dk_at dksX6_named_0 19 rfl rfl)
theorem dX6_named_20 : decode cX6_named 20 = .ok (.invokevirtual 471, 3) := dk_182 1 215 (dk_at dksX6_named_0 20 rfl rfl)
theorem dX6_named_23 : decode cX6_named 23 = .ok (.iconst 1, 1) := dk_4 (dk_at dksX6_named_0 23 rfl rfl)
theorem dX6_named_24 : decode cX6_named 24 = .ok (.isub, 1) := dk_100 (dk_at dksX6_named_1 0 rfl rfl)
theorem dX6_named_25 : decode cX6_named 25 = .ok (.i2l, 1) := dk_133 (dk_at dksX6_named_1 1 rfl rfl)
theorem dX6_named_26 : decode cX6_named 26 = .ok (.invokestatic 66, 3) := dk_184 0 66 (dk_at dksX6_named_1 2 rfl rfl)
theorem dX6_named_29 : decode cX6_named 29 = .ok (.ifCond .eq 7, 3) := dk_153 0 7 (dk_at dksX6_named_1 5 rfl rfl)
theorem dX6_named_32 : decode cX6_named 32 = .ok (.iconst 1, 1) := dk_4 (dk_at dksX6_named_1 8 rfl rfl)
theorem dX6_named_33 : decode cX6_named 33 = .ok (.goto 4, 3) := dk_167 0 4 (dk_at dksX6_named_1 9 rfl rfl)
theorem dX6_named_36 : decode cX6_named 36 = .ok (.iconst 0, 1) := dk_3 (dk_at dksX6_named_1 12 rfl rfl)
theorem dX6_named_37 : decode cX6_named 37 = .ok (.invokevirtual 338, 3) := dk_182 1 82 (dk_at dksX6_named_1 13 rfl rfl)
theorem dX6_named_40 : decode cX6_named 40 = .ok (.ifCond .eq 14, 3) := dk_153 0 14 (dk_at dksX6_named_1 16 rfl rfl)
theorem dX6_named_43 : decode cX6_named 43 = .ok (.aload_n 0, 1) := dk_42 (dk_at dksX6_named_1 19 rfl rfl)
theorem dX6_named_44 : decode cX6_named 44 = .ok (.iload_n 1, 1) := dk_27 (dk_at dksX6_named_1 20 rfl rfl)
theorem dX6_named_45 : decode cX6_named 45 = .ok (.iconst 5, 1) := dk_8 (dk_at dksX6_named_1 21 rfl rfl)
theorem dX6_named_46 : decode cX6_named 46 = .ok (.iload_n 2, 1) := dk_28 (dk_at dksX6_named_1 22 rfl rfl)
theorem dX6_named_47 : decode cX6_named 47 = .ok (.iadd, 1) := dk_96 (dk_at dksX6_named_1 23 rfl rfl)
theorem dX6_named_48 : decode cX6_named 48 = .ok (.invokevirtual 471, 3) := dk_182 1 215 (dk_at dksX6_named_2 0 rfl rfl)
theorem dX6_named_51 : decode cX6_named 51 = .ok (.goto 4, 3) := dk_167 0 4 (dk_at dksX6_named_2 3 rfl rfl)
theorem dX6_named_54 : decode cX6_named 54 = .ok (.iconst 0, 1) := dk_3 (dk_at dksX6_named_2 6 rfl rfl)
theorem dX6_named_55 : decode cX6_named 55 = .ok (.ireturn, 1) := dk_172 (dk_at dksX6_named_2 7 rfl rfl)
def dkwX6_peakOf_1 : List UInt8 := [167, 0, 4, 11, 174]
abbrev dktX6_peakOf_1 : List UInt8 := dkwX6_peakOf_1 ++ []
def dkwX6_peakOf_0 : List UInt8 := [42, 42, 27, 182, 1, 212, 182, 0, 77, 153, 0, 16, 42, 180, 0, 27, 17, 0, 152, 27, 96, 48]
abbrev dktX6_peakOf_0 : List UInt8 := dkwX6_peakOf_0 ++ dktX6_peakOf_1
theorem dksX6_peakOf_0 : cX6_peakOf.data.toList.drop 0 = dktX6_peakOf_0 := by decide +kernel
theorem dksX6_peakOf_1 : cX6_peakOf.data.toList.drop 22 = dktX6_peakOf_1 := dk_seg dksX6_peakOf_0 22 rfl rfl
theorem dX6_peakOf_0 : decode cX6_peakOf 0 = .ok (.aload_n 0, 1) := dk_42 (dk_at dksX6_peakOf_0 0 rfl rfl)
theorem dX6_peakOf_1 : decode cX6_peakOf 1 = .ok (.aload_n 0, 1) := dk_42 (dk_at dksX6_peakOf_0 1 rfl rfl)
theorem dX6_peakOf_2 : decode cX6_peakOf 2 = .ok (.iload_n 1, 1) := dk_27 (dk_at dksX6_peakOf_0 2 rfl rfl)
theorem dX6_peakOf_3 : decode cX6_peakOf 3 = .ok (.invokevirtual 468, 3) := dk_182 1 212 (dk_at dksX6_peakOf_0 3 rfl rfl)
theorem dX6_peakOf_6 : decode cX6_peakOf 6 = .ok (.invokevirtual 77, 3) := dk_182 0 77 (dk_at dksX6_peakOf_0 6 rfl rfl)
theorem dX6_peakOf_9 : decode cX6_peakOf 9 = .ok (.ifCond .eq 16, 3) := dk_153 0 16 (dk_at dksX6_peakOf_0 9 rfl rfl)
theorem dX6_peakOf_12 : decode cX6_peakOf 12 = .ok (.aload_n 0, 1) := dk_42 (dk_at dksX6_peakOf_0 12 rfl rfl)
theorem dX6_peakOf_13 : decode cX6_peakOf 13 = .ok (.getfield 27, 3) := dk_180 0 27 (dk_at dksX6_peakOf_0 13 rfl rfl)
theorem dX6_peakOf_16 : decode cX6_peakOf 16 = .ok (.sipush 152, 3) := dk_17 0 152 (dk_at dksX6_peakOf_0 16 rfl rfl)
theorem dX6_peakOf_19 : decode cX6_peakOf 19 = .ok (.iload_n 1, 1) := dk_27 (dk_at dksX6_peakOf_0 19 rfl rfl)
theorem dX6_peakOf_20 : decode cX6_peakOf 20 = .ok (.iadd, 1) := dk_96 (dk_at dksX6_peakOf_0 20 rfl rfl)
theorem dX6_peakOf_21 : decode cX6_peakOf 21 = .ok (.faload, 1) := dk_48 (dk_at dksX6_peakOf_0 21 rfl rfl)
theorem dX6_peakOf_22 : decode cX6_peakOf 22 = .ok (.goto 4, 3) := dk_167 0 4 (dk_at dksX6_peakOf_1 0 rfl rfl)
theorem dX6_peakOf_25 : decode cX6_peakOf 25 = .ok (.fconst 0, 1) := dk_11 (dk_at dksX6_peakOf_1 3 rfl rfl)
theorem dX6_peakOf_26 : decode cX6_peakOf 26 = .ok (.freturn, 1) := dk_174 (dk_at dksX6_peakOf_1 4 rfl rfl)
def dkwX6_clearMemory_1 : List UInt8 := [79, 27, 172]
abbrev dktX6_clearMemory_1 : List UInt8 := dkwX6_clearMemory_1 ++ []
def dkwX6_clearMemory_0 : List UInt8 := [42, 3, 181, 0, 3, 42, 182, 1, 65, 42, 180, 0, 17, 16, 10, 46, 60, 42, 180, 0, 17, 16, 10, 3]
abbrev dktX6_clearMemory_0 : List UInt8 := dkwX6_clearMemory_0 ++ dktX6_clearMemory_1
theorem dksX6_clearMemory_0 : cX6_clearMemory.data.toList.drop 0 = dktX6_clearMemory_0 := by decide +kernel
theorem dksX6_clearMemory_1 : cX6_clearMemory.data.toList.drop 24 = dktX6_clearMemory_1 := dk_seg dksX6_clearMemory_0 24 rfl rfl
theorem dX6_clearMemory_0 : decode cX6_clearMemory 0 = .ok (.aload_n 0, 1) := dk_42 (dk_at dksX6_clearMemory_0 0 rfl rfl)
theorem dX6_clearMemory_1 : decode cX6_clearMemory 1 = .ok (.iconst 0, 1) := dk_3 (dk_at dksX6_clearMemory_0 1 rfl rfl)
theorem dX6_clearMemory_2 : decode cX6_clearMemory 2 = .ok (.putfield 3, 3) := dk_181 0 3 (dk_at dksX6_clearMemory_0 2 rfl rfl)
theorem dX6_clearMemory_5 : decode cX6_clearMemory 5 = .ok (.aload_n 0, 1) := dk_42 (dk_at dksX6_clearMemory_0 5 rfl rfl)
theorem dX6_clearMemory_6 : decode cX6_clearMemory 6 = .ok (.invokevirtual 321, 3) := dk_182 1 65 (dk_at dksX6_clearMemory_0 6 rfl rfl)
theorem dX6_clearMemory_9 : decode cX6_clearMemory 9 = .ok (.aload_n 0, 1) := dk_42 (dk_at dksX6_clearMemory_0 9 rfl rfl)
theorem dX6_clearMemory_10 : decode cX6_clearMemory 10 = .ok (.getfield 17, 3) := dk_180 0 17 (dk_at dksX6_clearMemory_0 10 rfl rfl)
theorem dX6_clearMemory_13 : decode cX6_clearMemory 13 = .ok (.bipush 10, 2) := dk_16 10 (dk_at dksX6_clearMemory_0 13 rfl rfl)
theorem dX6_clearMemory_15 : decode cX6_clearMemory 15 = .ok (.iaload, 1) := dk_46 (dk_at dksX6_clearMemory_0 15 rfl rfl)
theorem dX6_clearMemory_16 : decode cX6_clearMemory 16 = .ok (.istore_n 1, 1) := dk_60 (dk_at dksX6_clearMemory_0 16 rfl rfl)
theorem dX6_clearMemory_17 : decode cX6_clearMemory 17 = .ok (.aload_n 0, 1) := dk_42 (dk_at dksX6_clearMemory_0 17 rfl rfl)
theorem dX6_clearMemory_18 : decode cX6_clearMemory 18 = .ok (.getfield 17, 3) := dk_180 0 17 (dk_at dksX6_clearMemory_0 18 rfl rfl)
theorem dX6_clearMemory_21 : decode cX6_clearMemory 21 = .ok (.bipush 10, 2) := dk_16 10 (dk_at dksX6_clearMemory_0 21 rfl rfl)
theorem dX6_clearMemory_23 : decode cX6_clearMemory 23 = .ok (.iconst 0, 1) := dk_3 (dk_at dksX6_clearMemory_0 23 rfl rfl)
theorem dX6_clearMemory_24 : decode cX6_clearMemory 24 = .ok (.iastore, 1) := dk_79 (dk_at dksX6_clearMemory_1 0 rfl rfl)
theorem dX6_clearMemory_25 : decode cX6_clearMemory 25 = .ok (.iload_n 1, 1) := dk_27 (dk_at dksX6_clearMemory_1 1 rfl rfl)
theorem dX6_clearMemory_26 : decode cX6_clearMemory 26 = .ok (.ireturn, 1) := dk_172 (dk_at dksX6_clearMemory_1 2 rfl rfl)
def dkwX6_tripIn_1 : List UInt8 := [42, 182, 1, 218, 42, 27, 17, 1, 244, 182, 1, 221, 61, 42, 182, 1, 224, 28, 172]
abbrev dktX6_tripIn_1 : List UInt8 := dkwX6_tripIn_1 ++ []
def dkwX6_tripIn_0 : List UInt8 := [42, 42, 27, 182, 1, 73, 182, 0, 77, 154, 0, 5, 3, 172, 42, 27, 182, 1, 102, 154, 0, 5, 2, 172]
abbrev dktX6_tripIn_0 : List UInt8 := dkwX6_tripIn_0 ++ dktX6_tripIn_1
theorem dksX6_tripIn_0 : cX6_tripIn.data.toList.drop 0 = dktX6_tripIn_0 := by decide +kernel
theorem dksX6_tripIn_1 : cX6_tripIn.data.toList.drop 24 = dktX6_tripIn_1 := dk_seg dksX6_tripIn_0 24 rfl rfl
theorem dX6_tripIn_0 : decode cX6_tripIn 0 = .ok (.aload_n 0, 1) := dk_42 (dk_at dksX6_tripIn_0 0 rfl rfl)
theorem dX6_tripIn_1 : decode cX6_tripIn 1 = .ok (.aload_n 0, 1) := dk_42 (dk_at dksX6_tripIn_0 1 rfl rfl)
theorem dX6_tripIn_2 : decode cX6_tripIn 2 = .ok (.iload_n 1, 1) := dk_27 (dk_at dksX6_tripIn_0 2 rfl rfl)
theorem dX6_tripIn_3 : decode cX6_tripIn 3 = .ok (.invokevirtual 329, 3) := dk_182 1 73 (dk_at dksX6_tripIn_0 3 rfl rfl)
theorem dX6_tripIn_6 : decode cX6_tripIn 6 = .ok (.invokevirtual 77, 3) := dk_182 0 77 (dk_at dksX6_tripIn_0 6 rfl rfl)
theorem dX6_tripIn_9 : decode cX6_tripIn 9 = .ok (.ifCond .ne 5, 3) := dk_154 0 5 (dk_at dksX6_tripIn_0 9 rfl rfl)
theorem dX6_tripIn_12 : decode cX6_tripIn 12 = .ok (.iconst 0, 1) := dk_3 (dk_at dksX6_tripIn_0 12 rfl rfl)
theorem dX6_tripIn_13 : decode cX6_tripIn 13 = .ok (.ireturn, 1) := dk_172 (dk_at dksX6_tripIn_0 13 rfl rfl)
theorem dX6_tripIn_14 : decode cX6_tripIn 14 = .ok (.aload_n 0, 1) := dk_42 (dk_at dksX6_tripIn_0 14 rfl rfl)
theorem dX6_tripIn_15 : decode cX6_tripIn 15 = .ok (.iload_n 1, 1) := dk_27 (dk_at dksX6_tripIn_0 15 rfl rfl)
theorem dX6_tripIn_16 : decode cX6_tripIn 16 = .ok (.invokevirtual 358, 3) := dk_182 1 102 (dk_at dksX6_tripIn_0 16 rfl rfl)
theorem dX6_tripIn_19 : decode cX6_tripIn 19 = .ok (.ifCond .ne 5, 3) := dk_154 0 5 (dk_at dksX6_tripIn_0 19 rfl rfl)
theorem dX6_tripIn_22 : decode cX6_tripIn 22 = .ok (.iconst (-1), 1) := dk_2 (dk_at dksX6_tripIn_0 22 rfl rfl)
theorem dX6_tripIn_23 : decode cX6_tripIn 23 = .ok (.ireturn, 1) := dk_172 (dk_at dksX6_tripIn_0 23 rfl rfl)
theorem dX6_tripIn_24 : decode cX6_tripIn 24 = .ok (.aload_n 0, 1) := dk_42 (dk_at dksX6_tripIn_1 0 rfl rfl)
theorem dX6_tripIn_25 : decode cX6_tripIn 25 = .ok (.invokevirtual 474, 3) := dk_182 1 218 (dk_at dksX6_tripIn_1 1 rfl rfl)
theorem dX6_tripIn_28 : decode cX6_tripIn 28 = .ok (.aload_n 0, 1) := dk_42 (dk_at dksX6_tripIn_1 4 rfl rfl)
theorem dX6_tripIn_29 : decode cX6_tripIn 29 = .ok (.iload_n 1, 1) := dk_27 (dk_at dksX6_tripIn_1 5 rfl rfl)
theorem dX6_tripIn_30 : decode cX6_tripIn 30 = .ok (.sipush 500, 3) := dk_17 1 244 (dk_at dksX6_tripIn_1 6 rfl rfl)
theorem dX6_tripIn_33 : decode cX6_tripIn 33 = .ok (.invokevirtual 477, 3) := dk_182 1 221 (dk_at dksX6_tripIn_1 9 rfl rfl)
theorem dX6_tripIn_36 : decode cX6_tripIn 36 = .ok (.istore_n 2, 1) := dk_61 (dk_at dksX6_tripIn_1 12 rfl rfl)
theorem dX6_tripIn_37 : decode cX6_tripIn 37 = .ok (.aload_n 0, 1) := dk_42 (dk_at dksX6_tripIn_1 13 rfl rfl)
theorem dX6_tripIn_38 : decode cX6_tripIn 38 = .ok (.invokevirtual 480, 3) := dk_182 1 224 (dk_at dksX6_tripIn_1 14 rfl rfl)
theorem dX6_tripIn_41 : decode cX6_tripIn 41 = .ok (.iload_n 2, 1) := dk_28 (dk_at dksX6_tripIn_1 17 rfl rfl)
theorem dX6_tripIn_42 : decode cX6_tripIn 42 = .ok (.ireturn, 1) := dk_172 (dk_at dksX6_tripIn_1 18 rfl rfl)
def dkwX6_beginThought_2 : List UInt8 := [132, 1, 1, 167, 255, 234, 177]
abbrev dktX6_beginThought_2 : List UInt8 := dkwX6_beginThought_2 ++ []
def dkwX6_beginThought_1 : List UInt8 := [167, 255, 234, 3, 60, 27, 17, 0, 160, 162, 0, 21, 42, 180, 0, 54, 27, 42, 180, 0, 27, 27, 48, 81]
abbrev dktX6_beginThought_1 : List UInt8 := dkwX6_beginThought_1 ++ dktX6_beginThought_2
def dkwX6_beginThought_0 : List UInt8 := [3, 60, 27, 17, 5, 185, 162, 0, 21, 42, 180, 0, 51, 27, 42, 180, 0, 17, 27, 46, 79, 132, 1, 1]
abbrev dktX6_beginThought_0 : List UInt8 := dkwX6_beginThought_0 ++ dktX6_beginThought_1
theorem dksX6_beginThought_0 : cX6_beginThought.data.toList.drop 0 = dktX6_beginThought_0 := by decide +kernel
theorem dksX6_beginThought_1 : cX6_beginThought.data.toList.drop 24 = dktX6_beginThought_1 := dk_seg dksX6_beginThought_0 24 rfl rfl
theorem dksX6_beginThought_2 : cX6_beginThought.data.toList.drop 48 = dktX6_beginThought_2 := dk_seg dksX6_beginThought_1 24 rfl rfl
theorem dX6_beginThought_0 : decode cX6_beginThought 0 = .ok (.iconst 0, 1) := dk_3 (dk_at dksX6_beginThought_0 0 rfl rfl)
theorem dX6_beginThought_1 : decode cX6_beginThought 1 = .ok (.istore_n 1, 1) := dk_60 (dk_at dksX6_beginThought_0 1 rfl rfl)
theorem dX6_beginThought_2 : decode cX6_beginThought 2 = .ok (.iload_n 1, 1) := dk_27 (dk_at dksX6_beginThought_0 2 rfl rfl)
theorem dX6_beginThought_3 : decode cX6_beginThought 3 = .ok (.sipush 1465, 3) := dk_17 5 185 (dk_at dksX6_beginThought_0 3 rfl rfl)
theorem dX6_beginThought_6 : decode cX6_beginThought 6 = .ok (.if_icmp .ge 21, 3) := dk_162 0 21 (dk_at dksX6_beginThought_0 6 rfl rfl)
theorem dX6_beginThought_9 : decode cX6_beginThought 9 = .ok (.aload_n 0, 1) := dk_42 (dk_at dksX6_beginThought_0 9 rfl rfl)
theorem dX6_beginThought_10 : decode cX6_beginThought 10 = .ok (.getfield 51, 3) := dk_180 0 51 (dk_at dksX6_beginThought_0 10 rfl rfl)
theorem dX6_beginThought_13 : decode cX6_beginThought 13 = .ok (.iload_n 1, 1) := dk_27 (dk_at dksX6_beginThought_0 13 rfl rfl)
theorem dX6_beginThought_14 : decode cX6_beginThought 14 = .ok (.aload_n 0, 1) := dk_42 (dk_at dksX6_beginThought_0 14 rfl rfl)
theorem dX6_beginThought_15 : decode cX6_beginThought 15 = .ok (.getfield 17, 3) := dk_180 0 17 (dk_at dksX6_beginThought_0 15 rfl rfl)
theorem dX6_beginThought_18 : decode cX6_beginThought 18 = .ok (.iload_n 1, 1) := dk_27 (dk_at dksX6_beginThought_0 18 rfl rfl)
theorem dX6_beginThought_19 : decode cX6_beginThought 19 = .ok (.iaload, 1) := dk_46 (dk_at dksX6_beginThought_0 19 rfl rfl)
theorem dX6_beginThought_20 : decode cX6_beginThought 20 = .ok (.iastore, 1) := dk_79 (dk_at dksX6_beginThought_0 20 rfl rfl)
theorem dX6_beginThought_21 : decode cX6_beginThought 21 = .ok (.iinc 1 1, 3) := dk_132 1 1 (dk_at dksX6_beginThought_0 21 rfl rfl)
theorem dX6_beginThought_24 : decode cX6_beginThought 24 = .ok (.goto (-22), 3) := dk_167 255 234 (dk_at dksX6_beginThought_1 0 rfl rfl)
theorem dX6_beginThought_27 : decode cX6_beginThought 27 = .ok (.iconst 0, 1) := dk_3 (dk_at dksX6_beginThought_1 3 rfl rfl)
theorem dX6_beginThought_28 : decode cX6_beginThought 28 = .ok (.istore_n 1, 1) := dk_60 (dk_at dksX6_beginThought_1 4 rfl rfl)
theorem dX6_beginThought_29 : decode cX6_beginThought 29 = .ok (.iload_n 1, 1) := dk_27 (dk_at dksX6_beginThought_1 5 rfl rfl)
theorem dX6_beginThought_30 : decode cX6_beginThought 30 = .ok (.sipush 160, 3) := dk_17 0 160 (dk_at dksX6_beginThought_1 6 rfl rfl)
theorem dX6_beginThought_33 : decode cX6_beginThought 33 = .ok (.if_icmp .ge 21, 3) := dk_162 0 21 (dk_at dksX6_beginThought_1 9 rfl rfl)
theorem dX6_beginThought_36 : decode cX6_beginThought 36 = .ok (.aload_n 0, 1) := dk_42 (dk_at dksX6_beginThought_1 12 rfl rfl)
theorem dX6_beginThought_37 : decode cX6_beginThought 37 = .ok (.getfield 54, 3) := dk_180 0 54 (dk_at dksX6_beginThought_1 13 rfl rfl)
theorem dX6_beginThought_40 : decode cX6_beginThought 40 = .ok (.iload_n 1, 1) := dk_27 (dk_at dksX6_beginThought_1 16 rfl rfl)
theorem dX6_beginThought_41 : decode cX6_beginThought 41 = .ok (.aload_n 0, 1) := dk_42 (dk_at dksX6_beginThought_1 17 rfl rfl)
theorem dX6_beginThought_42 : decode cX6_beginThought 42 = .ok (.getfield 27, 3) := dk_180 0 27 (dk_at dksX6_beginThought_1 18 rfl rfl)
theorem dX6_beginThought_45 : decode cX6_beginThought 45 = .ok (.iload_n 1, 1) := dk_27 (dk_at dksX6_beginThought_1 21 rfl rfl)
theorem dX6_beginThought_46 : decode cX6_beginThought 46 = .ok (.faload, 1) := dk_48 (dk_at dksX6_beginThought_1 22 rfl rfl)
theorem dX6_beginThought_47 : decode cX6_beginThought 47 = .ok (.fastore, 1) := dk_81 (dk_at dksX6_beginThought_1 23 rfl rfl)
theorem dX6_beginThought_48 : decode cX6_beginThought 48 = .ok (.iinc 1 1, 3) := dk_132 1 1 (dk_at dksX6_beginThought_2 0 rfl rfl)
theorem dX6_beginThought_51 : decode cX6_beginThought 51 = .ok (.goto (-22), 3) := dk_167 255 234 (dk_at dksX6_beginThought_2 3 rfl rfl)
theorem dX6_beginThought_54 : decode cX6_beginThought 54 = .ok (.return_, 1) := dk_177 (dk_at dksX6_beginThought_2 6 rfl rfl)
def dkwX6_tripAfter_1 : List UInt8 := [167, 255, 234, 2, 172]
abbrev dktX6_tripAfter_1 : List UInt8 := dkwX6_tripAfter_1 ++ []
def dkwX6_tripAfter_0 : List UInt8 := [4, 62, 29, 28, 163, 0, 23, 42, 182, 1, 181, 27, 122, 4, 126, 4, 160, 0, 5, 29, 172, 132, 3, 1]
abbrev dktX6_tripAfter_0 : List UInt8 := dkwX6_tripAfter_0 ++ dktX6_tripAfter_1
theorem dksX6_tripAfter_0 : cX6_tripAfter.data.toList.drop 0 = dktX6_tripAfter_0 := by decide +kernel
theorem dksX6_tripAfter_1 : cX6_tripAfter.data.toList.drop 24 = dktX6_tripAfter_1 := dk_seg dksX6_tripAfter_0 24 rfl rfl
theorem dX6_tripAfter_0 : decode cX6_tripAfter 0 = .ok (.iconst 1, 1) := dk_4 (dk_at dksX6_tripAfter_0 0 rfl rfl)
theorem dX6_tripAfter_1 : decode cX6_tripAfter 1 = .ok (.istore_n 3, 1) := dk_62 (dk_at dksX6_tripAfter_0 1 rfl rfl)
theorem dX6_tripAfter_2 : decode cX6_tripAfter 2 = .ok (.iload_n 3, 1) := dk_29 (dk_at dksX6_tripAfter_0 2 rfl rfl)
theorem dX6_tripAfter_3 : decode cX6_tripAfter 3 = .ok (.iload_n 2, 1) := dk_28 (dk_at dksX6_tripAfter_0 3 rfl rfl)
theorem dX6_tripAfter_4 : decode cX6_tripAfter 4 = .ok (.if_icmp .gt 23, 3) := dk_163 0 23 (dk_at dksX6_tripAfter_0 4 rfl rfl)
theorem dX6_tripAfter_7 : decode cX6_tripAfter 7 = .ok (.aload_n 0, 1) := dk_42 (dk_at dksX6_tripAfter_0 7 rfl rfl)
theorem dX6_tripAfter_8 : decode cX6_tripAfter 8 = .ok (.invokevirtual 437, 3) := dk_182 1 181 (dk_at dksX6_tripAfter_0 8 rfl rfl)
theorem dX6_tripAfter_11 : decode cX6_tripAfter 11 = .ok (.iload_n 1, 1) := dk_27 (dk_at dksX6_tripAfter_0 11 rfl rfl)
theorem dX6_tripAfter_12 : decode cX6_tripAfter 12 = .ok (.ishr, 1) := dk_122 (dk_at dksX6_tripAfter_0 12 rfl rfl)
theorem dX6_tripAfter_13 : decode cX6_tripAfter 13 = .ok (.iconst 1, 1) := dk_4 (dk_at dksX6_tripAfter_0 13 rfl rfl)
theorem dX6_tripAfter_14 : decode cX6_tripAfter 14 = .ok (.iand, 1) := dk_126 (dk_at dksX6_tripAfter_0 14 rfl rfl)
theorem dX6_tripAfter_15 : decode cX6_tripAfter 15 = .ok (.iconst 1, 1) := dk_4 (dk_at dksX6_tripAfter_0 15 rfl rfl)
theorem dX6_tripAfter_16 : decode cX6_tripAfter 16 = .ok (.if_icmp .ne 5, 3) := dk_160 0 5 (dk_at dksX6_tripAfter_0 16 rfl rfl)
theorem dX6_tripAfter_19 : decode cX6_tripAfter 19 = .ok (.iload_n 3, 1) := dk_29 (dk_at dksX6_tripAfter_0 19 rfl rfl)
theorem dX6_tripAfter_20 : decode cX6_tripAfter 20 = .ok (.ireturn, 1) := dk_172 (dk_at dksX6_tripAfter_0 20 rfl rfl)
theorem dX6_tripAfter_21 : decode cX6_tripAfter 21 = .ok (.iinc 3 1, 3) := dk_132 3 1 (dk_at dksX6_tripAfter_0 21 rfl rfl)
theorem dX6_tripAfter_24 : decode cX6_tripAfter 24 = .ok (.goto (-22), 3) := dk_167 255 234 (dk_at dksX6_tripAfter_1 0 rfl rfl)
theorem dX6_tripAfter_27 : decode cX6_tripAfter 27 = .ok (.iconst (-1), 1) := dk_2 (dk_at dksX6_tripAfter_1 3 rfl rfl)
theorem dX6_tripAfter_28 : decode cX6_tripAfter 28 = .ok (.ireturn, 1) := dk_172 (dk_at dksX6_tripAfter_1 4 rfl rfl)
def dkwX6_endThought_2 : List UInt8 := [132, 1, 1, 167, 255, 234, 177]
abbrev dktX6_endThought_2 : List UInt8 := dkwX6_endThought_2 ++ []
def dkwX6_endThought_1 : List UInt8 := [167, 255, 234, 3, 60, 27, 17, 0, 160, 162, 0, 21, 42, 180, 0, 27, 27, 42, 180, 0, 54, 27, 48, 81]
abbrev dktX6_endThought_1 : List UInt8 := dkwX6_endThought_1 ++ dktX6_endThought_2
def dkwX6_endThought_0 : List UInt8 := [3, 60, 27, 17, 5, 185, 162, 0, 21, 42, 180, 0, 17, 27, 42, 180, 0, 51, 27, 46, 79, 132, 1, 1]
abbrev dktX6_endThought_0 : List UInt8 := dkwX6_endThought_0 ++ dktX6_endThought_1
theorem dksX6_endThought_0 : cX6_endThought.data.toList.drop 0 = dktX6_endThought_0 := by decide +kernel
theorem dksX6_endThought_1 : cX6_endThought.data.toList.drop 24 = dktX6_endThought_1 := dk_seg dksX6_endThought_0 24 rfl rfl
theorem dksX6_endThought_2 : cX6_endThought.data.toList.drop 48 = dktX6_endThought_2 := dk_seg dksX6_endThought_1 24 rfl rfl
theorem dX6_endThought_0 : decode cX6_endThought 0 = .ok (.iconst 0, 1) := dk_3 (dk_at dksX6_endThought_0 0 rfl rfl)
theorem dX6_endThought_1 : decode cX6_endThought 1 = .ok (.istore_n 1, 1) := dk_60 (dk_at dksX6_endThought_0 1 rfl rfl)
theorem dX6_endThought_2 : decode cX6_endThought 2 = .ok (.iload_n 1, 1) := dk_27 (dk_at dksX6_endThought_0 2 rfl rfl)
theorem dX6_endThought_3 : decode cX6_endThought 3 = .ok (.sipush 1465, 3) := dk_17 5 185 (dk_at dksX6_endThought_0 3 rfl rfl)
theorem dX6_endThought_6 : decode cX6_endThought 6 = .ok (.if_icmp .ge 21, 3) := dk_162 0 21 (dk_at dksX6_endThought_0 6 rfl rfl)
theorem dX6_endThought_9 : decode cX6_endThought 9 = .ok (.aload_n 0, 1) := dk_42 (dk_at dksX6_endThought_0 9 rfl rfl)
theorem dX6_endThought_10 : decode cX6_endThought 10 = .ok (.getfield 17, 3) := dk_180 0 17 (dk_at dksX6_endThought_0 10 rfl rfl)
theorem dX6_endThought_13 : decode cX6_endThought 13 = .ok (.iload_n 1, 1) := dk_27 (dk_at dksX6_endThought_0 13 rfl rfl)
theorem dX6_endThought_14 : decode cX6_endThought 14 = .ok (.aload_n 0, 1) := dk_42 (dk_at dksX6_endThought_0 14 rfl rfl)
theorem dX6_endThought_15 : decode cX6_endThought 15 = .ok (.getfield 51, 3) := dk_180 0 51 (dk_at dksX6_endThought_0 15 rfl rfl)
theorem dX6_endThought_18 : decode cX6_endThought 18 = .ok (.iload_n 1, 1) := dk_27 (dk_at dksX6_endThought_0 18 rfl rfl)
theorem dX6_endThought_19 : decode cX6_endThought 19 = .ok (.iaload, 1) := dk_46 (dk_at dksX6_endThought_0 19 rfl rfl)
theorem dX6_endThought_20 : decode cX6_endThought 20 = .ok (.iastore, 1) := dk_79 (dk_at dksX6_endThought_0 20 rfl rfl)
theorem dX6_endThought_21 : decode cX6_endThought 21 = .ok (.iinc 1 1, 3) := dk_132 1 1 (dk_at dksX6_endThought_0 21 rfl rfl)
theorem dX6_endThought_24 : decode cX6_endThought 24 = .ok (.goto (-22), 3) := dk_167 255 234 (dk_at dksX6_endThought_1 0 rfl rfl)
theorem dX6_endThought_27 : decode cX6_endThought 27 = .ok (.iconst 0, 1) := dk_3 (dk_at dksX6_endThought_1 3 rfl rfl)
theorem dX6_endThought_28 : decode cX6_endThought 28 = .ok (.istore_n 1, 1) := dk_60 (dk_at dksX6_endThought_1 4 rfl rfl)
theorem dX6_endThought_29 : decode cX6_endThought 29 = .ok (.iload_n 1, 1) := dk_27 (dk_at dksX6_endThought_1 5 rfl rfl)
theorem dX6_endThought_30 : decode cX6_endThought 30 = .ok (.sipush 160, 3) := dk_17 0 160 (dk_at dksX6_endThought_1 6 rfl rfl)
theorem dX6_endThought_33 : decode cX6_endThought 33 = .ok (.if_icmp .ge 21, 3) := dk_162 0 21 (dk_at dksX6_endThought_1 9 rfl rfl)
theorem dX6_endThought_36 : decode cX6_endThought 36 = .ok (.aload_n 0, 1) := dk_42 (dk_at dksX6_endThought_1 12 rfl rfl)
theorem dX6_endThought_37 : decode cX6_endThought 37 = .ok (.getfield 27, 3) := dk_180 0 27 (dk_at dksX6_endThought_1 13 rfl rfl)
theorem dX6_endThought_40 : decode cX6_endThought 40 = .ok (.iload_n 1, 1) := dk_27 (dk_at dksX6_endThought_1 16 rfl rfl)
theorem dX6_endThought_41 : decode cX6_endThought 41 = .ok (.aload_n 0, 1) := dk_42 (dk_at dksX6_endThought_1 17 rfl rfl)
theorem dX6_endThought_42 : decode cX6_endThought 42 = .ok (.getfield 54, 3) := dk_180 0 54 (dk_at dksX6_endThought_1 18 rfl rfl)
theorem dX6_endThought_45 : decode cX6_endThought 45 = .ok (.iload_n 1, 1) := dk_27 (dk_at dksX6_endThought_1 21 rfl rfl)
theorem dX6_endThought_46 : decode cX6_endThought 46 = .ok (.faload, 1) := dk_48 (dk_at dksX6_endThought_1 22 rfl rfl)
theorem dX6_endThought_47 : decode cX6_endThought 47 = .ok (.fastore, 1) := dk_81 (dk_at dksX6_endThought_1 23 rfl rfl)
theorem dX6_endThought_48 : decode cX6_endThought 48 = .ok (.iinc 1 1, 3) := dk_132 1 1 (dk_at dksX6_endThought_2 0 rfl rfl)
theorem dX6_endThought_51 : decode cX6_endThought 51 = .ok (.goto (-22), 3) := dk_167 255 234 (dk_at dksX6_endThought_2 3 rfl rfl)
theorem dX6_endThought_54 : decode cX6_endThought 54 = .ok (.return_, 1) := dk_177 (dk_at dksX6_endThought_2 6 rfl rfl)
def dkwX6_tripping_2 : List UInt8 := [28, 172]
abbrev dktX6_tripping_2 : List UInt8 := dkwX6_tripping_2 ++ []
def dkwX6_tripping_1 : List UInt8 := [3, 62, 29, 27, 162, 0, 16, 28, 42, 182, 1, 181, 128, 61, 132, 3, 1, 167, 255, 241, 42, 182, 1, 224]
abbrev dktX6_tripping_1 : List UInt8 := dkwX6_tripping_1 ++ dktX6_tripping_2
def dkwX6_tripping_0 : List UInt8 := [42, 27, 133, 10, 20, 1, 178, 184, 0, 66, 182, 0, 77, 154, 0, 5, 3, 172, 42, 182, 1, 218, 3, 61]
abbrev dktX6_tripping_0 : List UInt8 := dkwX6_tripping_0 ++ dktX6_tripping_1
theorem dksX6_tripping_0 : cX6_tripping.data.toList.drop 0 = dktX6_tripping_0 := by decide +kernel
theorem dksX6_tripping_1 : cX6_tripping.data.toList.drop 24 = dktX6_tripping_1 := dk_seg dksX6_tripping_0 24 rfl rfl
theorem dksX6_tripping_2 : cX6_tripping.data.toList.drop 48 = dktX6_tripping_2 := dk_seg dksX6_tripping_1 24 rfl rfl
theorem dX6_tripping_0 : decode cX6_tripping 0 = .ok (.aload_n 0, 1) := dk_42 (dk_at dksX6_tripping_0 0 rfl rfl)
theorem dX6_tripping_1 : decode cX6_tripping 1 = .ok (.iload_n 1, 1) := dk_27 (dk_at dksX6_tripping_0 1 rfl rfl)
theorem dX6_tripping_2 : decode cX6_tripping 2 = .ok (.i2l, 1) := dk_133 (dk_at dksX6_tripping_0 2 rfl rfl)
theorem dX6_tripping_3 : decode cX6_tripping 3 = .ok (.lconst 1, 1) := dk_10 (dk_at dksX6_tripping_0 3 rfl rfl)
theorem dX6_tripping_4 : decode cX6_tripping 4 = .ok (.ldc2_w 434, 3) := dk_20 1 178 (dk_at dksX6_tripping_0 4 rfl rfl)
theorem dX6_tripping_7 : decode cX6_tripping 7 = .ok (.invokestatic 66, 3) := dk_184 0 66 (dk_at dksX6_tripping_0 7 rfl rfl)
theorem dX6_tripping_10 : decode cX6_tripping 10 = .ok (.invokevirtual 77, 3) := dk_182 0 77 (dk_at dksX6_tripping_0 10 rfl rfl)
theorem dX6_tripping_13 : decode cX6_tripping 13 = .ok (.ifCond .ne 5, 3) := dk_154 0 5 (dk_at dksX6_tripping_0 13 rfl rfl)
theorem dX6_tripping_16 : decode cX6_tripping 16 = .ok (.iconst 0, 1) := dk_3 (dk_at dksX6_tripping_0 16 rfl rfl)
theorem dX6_tripping_17 : decode cX6_tripping 17 = .ok (.ireturn, 1) := dk_172 (dk_at dksX6_tripping_0 17 rfl rfl)
theorem dX6_tripping_18 : decode cX6_tripping 18 = .ok (.aload_n 0, 1) := dk_42 (dk_at dksX6_tripping_0 18 rfl rfl)
theorem dX6_tripping_19 : decode cX6_tripping 19 = .ok (.invokevirtual 474, 3) := dk_182 1 218 (dk_at dksX6_tripping_0 19 rfl rfl)
theorem dX6_tripping_22 : decode cX6_tripping 22 = .ok (.iconst 0, 1) := dk_3 (dk_at dksX6_tripping_0 22 rfl rfl)
theorem dX6_tripping_23 : decode cX6_tripping 23 = .ok (.istore_n 2, 1) := dk_61 (dk_at dksX6_tripping_0 23 rfl rfl)
theorem dX6_tripping_24 : decode cX6_tripping 24 = .ok (.iconst 0, 1) := dk_3 (dk_at dksX6_tripping_1 0 rfl rfl)
theorem dX6_tripping_25 : decode cX6_tripping 25 = .ok (.istore_n 3, 1) := dk_62 (dk_at dksX6_tripping_1 1 rfl rfl)
theorem dX6_tripping_26 : decode cX6_tripping 26 = .ok (.iload_n 3, 1) := dk_29 (dk_at dksX6_tripping_1 2 rfl rfl)
theorem dX6_tripping_27 : decode cX6_tripping 27 = .ok (.iload_n 1, 1) := dk_27 (dk_at dksX6_tripping_1 3 rfl rfl)
theorem dX6_tripping_28 : decode cX6_tripping 28 = .ok (.if_icmp .ge 16, 3) := dk_162 0 16 (dk_at dksX6_tripping_1 4 rfl rfl)
theorem dX6_tripping_31 : decode cX6_tripping 31 = .ok (.iload_n 2, 1) := dk_28 (dk_at dksX6_tripping_1 7 rfl rfl)
theorem dX6_tripping_32 : decode cX6_tripping 32 = .ok (.aload_n 0, 1) := dk_42 (dk_at dksX6_tripping_1 8 rfl rfl)
theorem dX6_tripping_33 : decode cX6_tripping 33 = .ok (.invokevirtual 437, 3) := dk_182 1 181 (dk_at dksX6_tripping_1 9 rfl rfl)
theorem dX6_tripping_36 : decode cX6_tripping 36 = .ok (.ior, 1) := dk_128 (dk_at dksX6_tripping_1 12 rfl rfl)
theorem dX6_tripping_37 : decode cX6_tripping 37 = .ok (.istore_n 2, 1) := dk_61 (dk_at dksX6_tripping_1 13 rfl rfl)
theorem dX6_tripping_38 : decode cX6_tripping 38 = .ok (.iinc 3 1, 3) := dk_132 3 1 (dk_at dksX6_tripping_1 14 rfl rfl)
theorem dX6_tripping_41 : decode cX6_tripping 41 = .ok (.goto (-15), 3) := dk_167 255 241 (dk_at dksX6_tripping_1 17 rfl rfl)
theorem dX6_tripping_44 : decode cX6_tripping 44 = .ok (.aload_n 0, 1) := dk_42 (dk_at dksX6_tripping_1 20 rfl rfl)
theorem dX6_tripping_45 : decode cX6_tripping 45 = .ok (.invokevirtual 480, 3) := dk_182 1 224 (dk_at dksX6_tripping_1 21 rfl rfl)
theorem dX6_tripping_48 : decode cX6_tripping 48 = .ok (.iload_n 2, 1) := dk_28 (dk_at dksX6_tripping_2 0 rfl rfl)
theorem dX6_tripping_49 : decode cX6_tripping 49 = .ok (.ireturn, 1) := dk_172 (dk_at dksX6_tripping_2 1 rfl rfl)
def dkwX6_featureAfter_6 : List UInt8 := [167, 0, 4, 3, 182, 1, 91, 153, 0, 8, 23, 5, 167, 0, 4, 11, 174]
abbrev dktX6_featureAfter_6 : List UInt8 := dkwX6_featureAfter_6 ++ []
def dkwX6_featureAfter_5 : List UInt8 := [184, 0, 66, 153, 0, 7, 4, 167, 0, 4, 3, 21, 4, 153, 0, 8, 21, 6, 153, 0, 7, 4]
abbrev dktX6_featureAfter_5 : List UInt8 := dkwX6_featureAfter_5 ++ dktX6_featureAfter_6
def dkwX6_featureAfter_4 : List UInt8 := [182, 1, 224, 42, 42, 27, 182, 1, 73, 28, 184, 1, 192, 153, 0, 19, 29, 133, 10, 20, 1, 178]
abbrev dktX6_featureAfter_4 : List UInt8 := dkwX6_featureAfter_4 ++ dktX6_featureAfter_5
def dkwX6_featureAfter_3 : List UInt8 := [132, 8, 1, 167, 255, 238, 42, 27, 182, 1, 187, 54, 6, 42, 27, 28, 182, 1, 135, 56, 5, 42]
abbrev dktX6_featureAfter_3 : List UInt8 := dkwX6_featureAfter_3 ++ dktX6_featureAfter_4
def dkwX6_featureAfter_2 : List UInt8 := [182, 1, 218, 3, 54, 7, 3, 54, 8, 21, 8, 29, 162, 0, 18, 21, 7, 42, 182, 1, 181, 128, 54, 7]
abbrev dktX6_featureAfter_2 : List UInt8 := dkwX6_featureAfter_2 ++ dktX6_featureAfter_3
def dkwX6_featureAfter_1 : List UInt8 := [153, 0, 7, 4, 167, 0, 4, 3, 54, 4, 11, 56, 5, 3, 54, 6, 21, 4, 153, 0, 53, 42]
abbrev dktX6_featureAfter_1 : List UInt8 := dkwX6_featureAfter_1 ++ dktX6_featureAfter_2
def dkwX6_featureAfter_0 : List UInt8 := [42, 27, 182, 1, 73, 153, 0, 26, 28, 184, 1, 192, 153, 0, 19, 29, 133, 10, 20, 1, 178, 184, 0, 66]
abbrev dktX6_featureAfter_0 : List UInt8 := dkwX6_featureAfter_0 ++ dktX6_featureAfter_1
theorem dksX6_featureAfter_0 : cX6_featureAfter.data.toList.drop 0 = dktX6_featureAfter_0 := by decide +kernel
theorem dksX6_featureAfter_1 : cX6_featureAfter.data.toList.drop 24 = dktX6_featureAfter_1 := dk_seg dksX6_featureAfter_0 24 rfl rfl
theorem dksX6_featureAfter_2 : cX6_featureAfter.data.toList.drop 46 = dktX6_featureAfter_2 := dk_seg dksX6_featureAfter_1 22 rfl rfl
theorem dksX6_featureAfter_3 : cX6_featureAfter.data.toList.drop 70 = dktX6_featureAfter_3 := dk_seg dksX6_featureAfter_2 24 rfl rfl
theorem dksX6_featureAfter_4 : cX6_featureAfter.data.toList.drop 92 = dktX6_featureAfter_4 := dk_seg dksX6_featureAfter_3 22 rfl rfl
theorem dksX6_featureAfter_5 : cX6_featureAfter.data.toList.drop 114 = dktX6_featureAfter_5 := dk_seg dksX6_featureAfter_4 22 rfl rfl
theorem dksX6_featureAfter_6 : cX6_featureAfter.data.toList.drop 136 = dktX6_featureAfter_6 := dk_seg dksX6_featureAfter_5 22 rfl rfl
theorem dX6_featureAfter_0 : decode cX6_featureAfter 0 = .ok (.aload_n 0, 1) := dk_42 (dk_at dksX6_featureAfter_0 0 rfl rfl)
theorem dX6_featureAfter_1 : decode cX6_featureAfter 1 = .ok (.iload_n 1, 1) := dk_27 (dk_at dksX6_featureAfter_0 1 rfl rfl)
theorem dX6_featureAfter_2 : decode cX6_featureAfter 2 = .ok (.invokevirtual 329, 3) := dk_182 1 73 (dk_at dksX6_featureAfter_0 2 rfl rfl)
theorem dX6_featureAfter_5 : decode cX6_featureAfter 5 = .ok (.ifCond .eq 26, 3) := dk_153 0 26 (dk_at dksX6_featureAfter_0 5 rfl rfl)
theorem dX6_featureAfter_8 : decode cX6_featureAfter 8 = .ok (.iload_n 2, 1) := dk_28 (dk_at dksX6_featureAfter_0 8 rfl rfl)
theorem dX6_featureAfter_9 : decode cX6_featureAfter 9 = .ok (.invokestatic 448, 3) := dk_184 1 192 (dk_at dksX6_featureAfter_0 9 rfl rfl)
theorem dX6_featureAfter_12 : decode cX6_featureAfter 12 = .ok (.ifCond .eq 19, 3) := dk_153 0 19 (dk_at dksX6_featureAfter_0 12 rfl rfl)
theorem dX6_featureAfter_15 : decode cX6_featureAfter 15 = .ok (.iload_n 3, 1) := dk_29 (dk_at dksX6_featureAfter_0 15 rfl rfl)
theorem dX6_featureAfter_16 : decode cX6_featureAfter 16 = .ok (.i2l, 1) := dk_133 (dk_at dksX6_featureAfter_0 16 rfl rfl)
theorem dX6_featureAfter_17 : decode cX6_featureAfter 17 = .ok (.lconst 1, 1) := dk_10 (dk_at dksX6_featureAfter_0 17 rfl rfl)
theorem dX6_featureAfter_18 : decode cX6_featureAfter 18 = .ok (.ldc2_w 434, 3) := dk_20 1 178 (dk_at dksX6_featureAfter_0 18 rfl rfl)
theorem dX6_featureAfter_21 : decode cX6_featureAfter 21 = .ok (.invokestatic 66, 3) := dk_184 0 66 (dk_at dksX6_featureAfter_0 21 rfl rfl)
theorem dX6_featureAfter_24 : decode cX6_featureAfter 24 = .ok (.ifCond .eq 7, 3) := dk_153 0 7 (dk_at dksX6_featureAfter_1 0 rfl rfl)
theorem dX6_featureAfter_27 : decode cX6_featureAfter 27 = .ok (.iconst 1, 1) := dk_4 (dk_at dksX6_featureAfter_1 3 rfl rfl)
theorem dX6_featureAfter_28 : decode cX6_featureAfter 28 = .ok (.goto 4, 3) := dk_167 0 4 (dk_at dksX6_featureAfter_1 4 rfl rfl)
theorem dX6_featureAfter_31 : decode cX6_featureAfter 31 = .ok (.iconst 0, 1) := dk_3 (dk_at dksX6_featureAfter_1 7 rfl rfl)
theorem dX6_featureAfter_32 : decode cX6_featureAfter 32 = .ok (.istore 4, 2) := dk_54 4 (dk_at dksX6_featureAfter_1 8 rfl rfl)
theorem dX6_featureAfter_34 : decode cX6_featureAfter 34 = .ok (.fconst 0, 1) := dk_11 (dk_at dksX6_featureAfter_1 10 rfl rfl)
theorem dX6_featureAfter_35 : decode cX6_featureAfter 35 = .ok (.fstore 5, 2) := dk_56 5 (dk_at dksX6_featureAfter_1 11 rfl rfl)
theorem dX6_featureAfter_37 : decode cX6_featureAfter 37 = .ok (.iconst 0, 1) := dk_3 (dk_at dksX6_featureAfter_1 13 rfl rfl)
theorem dX6_featureAfter_38 : decode cX6_featureAfter 38 = .ok (.istore 6, 2) := dk_54 6 (dk_at dksX6_featureAfter_1 14 rfl rfl)
theorem dX6_featureAfter_40 : decode cX6_featureAfter 40 = .ok (.iload 4, 2) := dk_21 4 (dk_at dksX6_featureAfter_1 16 rfl rfl)
theorem dX6_featureAfter_42 : decode cX6_featureAfter 42 = .ok (.ifCond .eq 53, 3) := dk_153 0 53 (dk_at dksX6_featureAfter_1 18 rfl rfl)
theorem dX6_featureAfter_45 : decode cX6_featureAfter 45 = .ok (.aload_n 0, 1) := dk_42 (dk_at dksX6_featureAfter_1 21 rfl rfl)
theorem dX6_featureAfter_46 : decode cX6_featureAfter 46 = .ok (.invokevirtual 474, 3) := dk_182 1 218 (dk_at dksX6_featureAfter_2 0 rfl rfl)
theorem dX6_featureAfter_49 : decode cX6_featureAfter 49 = .ok (.iconst 0, 1) := dk_3 (dk_at dksX6_featureAfter_2 3 rfl rfl)
theorem dX6_featureAfter_50 : decode cX6_featureAfter 50 = .ok (.istore 7, 2) := dk_54 7 (dk_at dksX6_featureAfter_2 4 rfl rfl)
theorem dX6_featureAfter_52 : decode cX6_featureAfter 52 = .ok (.iconst 0, 1) := dk_3 (dk_at dksX6_featureAfter_2 6 rfl rfl)
theorem dX6_featureAfter_53 : decode cX6_featureAfter 53 = .ok (.istore 8, 2) := dk_54 8 (dk_at dksX6_featureAfter_2 7 rfl rfl)
theorem dX6_featureAfter_55 : decode cX6_featureAfter 55 = .ok (.iload 8, 2) := dk_21 8 (dk_at dksX6_featureAfter_2 9 rfl rfl)
theorem dX6_featureAfter_57 : decode cX6_featureAfter 57 = .ok (.iload_n 3, 1) := dk_29 (dk_at dksX6_featureAfter_2 11 rfl rfl)
theorem dX6_featureAfter_58 : decode cX6_featureAfter 58 = .ok (.if_icmp .ge 18, 3) := dk_162 0 18 (dk_at dksX6_featureAfter_2 12 rfl rfl)
theorem dX6_featureAfter_61 : decode cX6_featureAfter 61 = .ok (.iload 7, 2) := dk_21 7 (dk_at dksX6_featureAfter_2 15 rfl rfl)
theorem dX6_featureAfter_63 : decode cX6_featureAfter 63 = .ok (.aload_n 0, 1) := dk_42 (dk_at dksX6_featureAfter_2 17 rfl rfl)
theorem dX6_featureAfter_64 : decode cX6_featureAfter 64 = .ok (.invokevirtual 437, 3) := dk_182 1 181 (dk_at dksX6_featureAfter_2 18 rfl rfl)
theorem dX6_featureAfter_67 : decode cX6_featureAfter 67 = .ok (.ior, 1) := dk_128 (dk_at dksX6_featureAfter_2 21 rfl rfl)
theorem dX6_featureAfter_68 : decode cX6_featureAfter 68 = .ok (.istore 7, 2) := dk_54 7 (dk_at dksX6_featureAfter_2 22 rfl rfl)
theorem dX6_featureAfter_70 : decode cX6_featureAfter 70 = .ok (.iinc 8 1, 3) := dk_132 8 1 (dk_at dksX6_featureAfter_3 0 rfl rfl)
theorem dX6_featureAfter_73 : decode cX6_featureAfter 73 = .ok (.goto (-18), 3) := dk_167 255 238 (dk_at dksX6_featureAfter_3 3 rfl rfl)
theorem dX6_featureAfter_76 : decode cX6_featureAfter 76 = .ok (.aload_n 0, 1) := dk_42 (dk_at dksX6_featureAfter_3 6 rfl rfl)
theorem dX6_featureAfter_77 : decode cX6_featureAfter 77 = .ok (.iload_n 1, 1) := dk_27 (dk_at dksX6_featureAfter_3 7 rfl rfl)
theorem dX6_featureAfter_78 : decode cX6_featureAfter 78 = .ok (.invokevirtual 443, 3) := dk_182 1 187 (dk_at dksX6_featureAfter_3 8 rfl rfl)
theorem dX6_featureAfter_81 : decode cX6_featureAfter 81 = .ok (.istore 6, 2) := dk_54 6 (dk_at dksX6_featureAfter_3 11 rfl rfl)
theorem dX6_featureAfter_83 : decode cX6_featureAfter 83 = .ok (.aload_n 0, 1) := dk_42 (dk_at dksX6_featureAfter_3 13 rfl rfl)
theorem dX6_featureAfter_84 : decode cX6_featureAfter 84 = .ok (.iload_n 1, 1) := dk_27 (dk_at dksX6_featureAfter_3 14 rfl rfl)
theorem dX6_featureAfter_85 : decode cX6_featureAfter 85 = .ok (.iload_n 2, 1) := dk_28 (dk_at dksX6_featureAfter_3 15 rfl rfl)
theorem dX6_featureAfter_86 : decode cX6_featureAfter 86 = .ok (.invokevirtual 391, 3) := dk_182 1 135 (dk_at dksX6_featureAfter_3 16 rfl rfl)
theorem dX6_featureAfter_89 : decode cX6_featureAfter 89 = .ok (.fstore 5, 2) := dk_56 5 (dk_at dksX6_featureAfter_3 19 rfl rfl)
theorem dX6_featureAfter_91 : decode cX6_featureAfter 91 = .ok (.aload_n 0, 1) := dk_42 (dk_at dksX6_featureAfter_3 21 rfl rfl)
theorem dX6_featureAfter_92 : decode cX6_featureAfter 92 = .ok (.invokevirtual 480, 3) := dk_182 1 224 (dk_at dksX6_featureAfter_4 0 rfl rfl)
theorem dX6_featureAfter_95 : decode cX6_featureAfter 95 = .ok (.aload_n 0, 1) := dk_42 (dk_at dksX6_featureAfter_4 3 rfl rfl)
theorem dX6_featureAfter_96 : decode cX6_featureAfter 96 = .ok (.aload_n 0, 1) := dk_42 (dk_at dksX6_featureAfter_4 4 rfl rfl)
theorem dX6_featureAfter_97 : decode cX6_featureAfter 97 = .ok (.iload_n 1, 1) := dk_27 (dk_at dksX6_featureAfter_4 5 rfl rfl)
theorem dX6_featureAfter_98 : decode cX6_featureAfter 98 = .ok (.invokevirtual 329, 3) := dk_182 1 73 (dk_at dksX6_featureAfter_4 6 rfl rfl)
theorem dX6_featureAfter_101 : decode cX6_featureAfter 101 = .ok (.iload_n 2, 1) := dk_28 (dk_at dksX6_featureAfter_4 9 rfl rfl)
theorem dX6_featureAfter_102 : decode cX6_featureAfter 102 = .ok (.invokestatic 448, 3) := dk_184 1 192 (dk_at dksX6_featureAfter_4 10 rfl rfl)
theorem dX6_featureAfter_105 : decode cX6_featureAfter 105 = .ok (.ifCond .eq 19, 3) := dk_153 0 19 (dk_at dksX6_featureAfter_4 13 rfl rfl)
theorem dX6_featureAfter_108 : decode cX6_featureAfter 108 = .ok (.iload_n 3, 1) := dk_29 (dk_at dksX6_featureAfter_4 16 rfl rfl)
theorem dX6_featureAfter_109 : decode cX6_featureAfter 109 = .ok (.i2l, 1) := dk_133 (dk_at dksX6_featureAfter_4 17 rfl rfl)
theorem dX6_featureAfter_110 : decode cX6_featureAfter 110 = .ok (.lconst 1, 1) := dk_10 (dk_at dksX6_featureAfter_4 18 rfl rfl)
theorem dX6_featureAfter_111 : decode cX6_featureAfter 111 = .ok (.ldc2_w 434, 3) := dk_20 1 178 (dk_at dksX6_featureAfter_4 19 rfl rfl)
theorem dX6_featureAfter_114 : decode cX6_featureAfter 114 = .ok (.invokestatic 66, 3) := dk_184 0 66 (dk_at dksX6_featureAfter_5 0 rfl rfl)
theorem dX6_featureAfter_117 : decode cX6_featureAfter 117 = .ok (.ifCond .eq 7, 3) := dk_153 0 7 (dk_at dksX6_featureAfter_5 3 rfl rfl)
theorem dX6_featureAfter_120 : decode cX6_featureAfter 120 = .ok (.iconst 1, 1) := dk_4 (dk_at dksX6_featureAfter_5 6 rfl rfl)
theorem dX6_featureAfter_121 : decode cX6_featureAfter 121 = .ok (.goto 4, 3) := dk_167 0 4 (dk_at dksX6_featureAfter_5 7 rfl rfl)
theorem dX6_featureAfter_124 : decode cX6_featureAfter 124 = .ok (.iconst 0, 1) := dk_3 (dk_at dksX6_featureAfter_5 10 rfl rfl)
theorem dX6_featureAfter_125 : decode cX6_featureAfter 125 = .ok (.iload 4, 2) := dk_21 4 (dk_at dksX6_featureAfter_5 11 rfl rfl)
theorem dX6_featureAfter_127 : decode cX6_featureAfter 127 = .ok (.ifCond .eq 8, 3) := dk_153 0 8 (dk_at dksX6_featureAfter_5 13 rfl rfl)
theorem dX6_featureAfter_130 : decode cX6_featureAfter 130 = .ok (.iload 6, 2) := dk_21 6 (dk_at dksX6_featureAfter_5 16 rfl rfl)
theorem dX6_featureAfter_132 : decode cX6_featureAfter 132 = .ok (.ifCond .eq 7, 3) := dk_153 0 7 (dk_at dksX6_featureAfter_5 18 rfl rfl)
theorem dX6_featureAfter_135 : decode cX6_featureAfter 135 = .ok (.iconst 1, 1) := dk_4 (dk_at dksX6_featureAfter_5 21 rfl rfl)
theorem dX6_featureAfter_136 : decode cX6_featureAfter 136 = .ok (.goto 4, 3) := dk_167 0 4 (dk_at dksX6_featureAfter_6 0 rfl rfl)
theorem dX6_featureAfter_139 : decode cX6_featureAfter 139 = .ok (.iconst 0, 1) := dk_3 (dk_at dksX6_featureAfter_6 3 rfl rfl)
theorem dX6_featureAfter_140 : decode cX6_featureAfter 140 = .ok (.invokevirtual 347, 3) := dk_182 1 91 (dk_at dksX6_featureAfter_6 4 rfl rfl)
theorem dX6_featureAfter_143 : decode cX6_featureAfter 143 = .ok (.ifCond .eq 8, 3) := dk_153 0 8 (dk_at dksX6_featureAfter_6 7 rfl rfl)
theorem dX6_featureAfter_146 : decode cX6_featureAfter 146 = .ok (.fload 5, 2) := dk_23 5 (dk_at dksX6_featureAfter_6 10 rfl rfl)
theorem dX6_featureAfter_148 : decode cX6_featureAfter 148 = .ok (.goto 4, 3) := dk_167 0 4 (dk_at dksX6_featureAfter_6 12 rfl rfl)
theorem dX6_featureAfter_151 : decode cX6_featureAfter 151 = .ok (.fconst 0, 1) := dk_11 (dk_at dksX6_featureAfter_6 15 rfl rfl)
theorem dX6_featureAfter_152 : decode cX6_featureAfter 152 = .ok (.freturn, 1) := dk_174 (dk_at dksX6_featureAfter_6 16 rfl rfl)
def dkwX6_culprit_5 : List UInt8 := [21, 4, 167, 0, 4, 2, 61, 42, 182, 1, 224, 132, 4, 1, 167, 255, 178, 28, 172]
abbrev dktX6_culprit_5 : List UInt8 := dkwX6_culprit_5 ++ []
def dkwX6_culprit_4 : List UInt8 := [167, 0, 34, 42, 21, 4, 8, 3, 182, 1, 18, 42, 27, 17, 0, 200, 182, 1, 221, 2, 160, 0, 8]
abbrev dktX6_culprit_4 : List UInt8 := dkwX6_culprit_4 ++ dktX6_culprit_5
def dkwX6_culprit_3 : List UInt8 := [160, 0, 64, 42, 21, 4, 4, 182, 1, 86, 27, 160, 0, 47, 42, 21, 4, 8, 182, 1, 86, 154, 0, 6]
abbrev dktX6_culprit_3 : List UInt8 := dkwX6_culprit_3 ++ dktX6_culprit_4
def dkwX6_culprit_2 : List UInt8 := [42, 182, 1, 224, 3, 54, 4, 21, 4, 42, 180, 0, 17, 7, 46, 162, 0, 73, 29, 153, 0, 69, 28, 2]
abbrev dktX6_culprit_2 : List UInt8 := dkwX6_culprit_2 ++ dktX6_culprit_3
def dkwX6_culprit_1 : List UInt8 := [42, 182, 1, 218, 2, 61, 42, 27, 17, 0, 200, 182, 1, 221, 2, 159, 0, 7, 4, 167, 0, 4, 3, 62]
abbrev dktX6_culprit_1 : List UInt8 := dkwX6_culprit_1 ++ dktX6_culprit_2
def dkwX6_culprit_0 : List UInt8 := [42, 42, 27, 182, 1, 73, 182, 0, 77, 154, 0, 5, 3, 172, 42, 27, 182, 1, 102, 154, 0, 5, 2, 172]
abbrev dktX6_culprit_0 : List UInt8 := dkwX6_culprit_0 ++ dktX6_culprit_1
theorem dksX6_culprit_0 : cX6_culprit.data.toList.drop 0 = dktX6_culprit_0 := by decide +kernel
theorem dksX6_culprit_1 : cX6_culprit.data.toList.drop 24 = dktX6_culprit_1 := dk_seg dksX6_culprit_0 24 rfl rfl
theorem dksX6_culprit_2 : cX6_culprit.data.toList.drop 48 = dktX6_culprit_2 := dk_seg dksX6_culprit_1 24 rfl rfl
theorem dksX6_culprit_3 : cX6_culprit.data.toList.drop 72 = dktX6_culprit_3 := dk_seg dksX6_culprit_2 24 rfl rfl
theorem dksX6_culprit_4 : cX6_culprit.data.toList.drop 96 = dktX6_culprit_4 := dk_seg dksX6_culprit_3 24 rfl rfl
theorem dksX6_culprit_5 : cX6_culprit.data.toList.drop 119 = dktX6_culprit_5 := dk_seg dksX6_culprit_4 23 rfl rfl
theorem dX6_culprit_0 : decode cX6_culprit 0 = .ok (.aload_n 0, 1) := dk_42 (dk_at dksX6_culprit_0 0 rfl rfl)
theorem dX6_culprit_1 : decode cX6_culprit 1 = .ok (.aload_n 0, 1) := dk_42 (dk_at dksX6_culprit_0 1 rfl rfl)
theorem dX6_culprit_2 : decode cX6_culprit 2 = .ok (.iload_n 1, 1) := dk_27 (dk_at dksX6_culprit_0 2 rfl rfl)
theorem dX6_culprit_3 : decode cX6_culprit 3 = .ok (.invokevirtual 329, 3) := dk_182 1 73 (dk_at dksX6_culprit_0 3 rfl rfl)
theorem dX6_culprit_6 : decode cX6_culprit 6 = .ok (.invokevirtual 77, 3) := dk_182 0 77 (dk_at dksX6_culprit_0 6 rfl rfl)
theorem dX6_culprit_9 : decode cX6_culprit 9 = .ok (.ifCond .ne 5, 3) := dk_154 0 5 (dk_at dksX6_culprit_0 9 rfl rfl)
theorem dX6_culprit_12 : decode cX6_culprit 12 = .ok (.iconst 0, 1) := dk_3 (dk_at dksX6_culprit_0 12 rfl rfl)
theorem dX6_culprit_13 : decode cX6_culprit 13 = .ok (.ireturn, 1) := dk_172 (dk_at dksX6_culprit_0 13 rfl rfl)
theorem dX6_culprit_14 : decode cX6_culprit 14 = .ok (.aload_n 0, 1) := dk_42 (dk_at dksX6_culprit_0 14 rfl rfl)
theorem dX6_culprit_15 : decode cX6_culprit 15 = .ok (.iload_n 1, 1) := dk_27 (dk_at dksX6_culprit_0 15 rfl rfl)
theorem dX6_culprit_16 : decode cX6_culprit 16 = .ok (.invokevirtual 358, 3) := dk_182 1 102 (dk_at dksX6_culprit_0 16 rfl rfl)
theorem dX6_culprit_19 : decode cX6_culprit 19 = .ok (.ifCond .ne 5, 3) := dk_154 0 5 (dk_at dksX6_culprit_0 19 rfl rfl)
theorem dX6_culprit_22 : decode cX6_culprit 22 = .ok (.iconst (-1), 1) := dk_2 (dk_at dksX6_culprit_0 22 rfl rfl)
theorem dX6_culprit_23 : decode cX6_culprit 23 = .ok (.ireturn, 1) := dk_172 (dk_at dksX6_culprit_0 23 rfl rfl)
theorem dX6_culprit_24 : decode cX6_culprit 24 = .ok (.aload_n 0, 1) := dk_42 (dk_at dksX6_culprit_1 0 rfl rfl)
theorem dX6_culprit_25 : decode cX6_culprit 25 = .ok (.invokevirtual 474, 3) := dk_182 1 218 (dk_at dksX6_culprit_1 1 rfl rfl)
theorem dX6_culprit_28 : decode cX6_culprit 28 = .ok (.iconst (-1), 1) := dk_2 (dk_at dksX6_culprit_1 4 rfl rfl)
theorem dX6_culprit_29 : decode cX6_culprit 29 = .ok (.istore_n 2, 1) := dk_61 (dk_at dksX6_culprit_1 5 rfl rfl)
theorem dX6_culprit_30 : decode cX6_culprit 30 = .ok (.aload_n 0, 1) := dk_42 (dk_at dksX6_culprit_1 6 rfl rfl)
theorem dX6_culprit_31 : decode cX6_culprit 31 = .ok (.iload_n 1, 1) := dk_27 (dk_at dksX6_culprit_1 7 rfl rfl)
theorem dX6_culprit_32 : decode cX6_culprit 32 = .ok (.sipush 200, 3) := dk_17 0 200 (dk_at dksX6_culprit_1 8 rfl rfl)
theorem dX6_culprit_35 : decode cX6_culprit 35 = .ok (.invokevirtual 477, 3) := dk_182 1 221 (dk_at dksX6_culprit_1 11 rfl rfl)
theorem dX6_culprit_38 : decode cX6_culprit 38 = .ok (.iconst (-1), 1) := dk_2 (dk_at dksX6_culprit_1 14 rfl rfl)
theorem dX6_culprit_39 : decode cX6_culprit 39 = .ok (.if_icmp .eq 7, 3) := dk_159 0 7 (dk_at dksX6_culprit_1 15 rfl rfl)
theorem dX6_culprit_42 : decode cX6_culprit 42 = .ok (.iconst 1, 1) := dk_4 (dk_at dksX6_culprit_1 18 rfl rfl)
theorem dX6_culprit_43 : decode cX6_culprit 43 = .ok (.goto 4, 3) := dk_167 0 4 (dk_at dksX6_culprit_1 19 rfl rfl)
theorem dX6_culprit_46 : decode cX6_culprit 46 = .ok (.iconst 0, 1) := dk_3 (dk_at dksX6_culprit_1 22 rfl rfl)
theorem dX6_culprit_47 : decode cX6_culprit 47 = .ok (.istore_n 3, 1) := dk_62 (dk_at dksX6_culprit_1 23 rfl rfl)
theorem dX6_culprit_48 : decode cX6_culprit 48 = .ok (.aload_n 0, 1) := dk_42 (dk_at dksX6_culprit_2 0 rfl rfl)
theorem dX6_culprit_49 : decode cX6_culprit 49 = .ok (.invokevirtual 480, 3) := dk_182 1 224 (dk_at dksX6_culprit_2 1 rfl rfl)
theorem dX6_culprit_52 : decode cX6_culprit 52 = .ok (.iconst 0, 1) := dk_3 (dk_at dksX6_culprit_2 4 rfl rfl)
theorem dX6_culprit_53 : decode cX6_culprit 53 = .ok (.istore 4, 2) := dk_54 4 (dk_at dksX6_culprit_2 5 rfl rfl)
theorem dX6_culprit_55 : decode cX6_culprit 55 = .ok (.iload 4, 2) := dk_21 4 (dk_at dksX6_culprit_2 7 rfl rfl)
theorem dX6_culprit_57 : decode cX6_culprit 57 = .ok (.aload_n 0, 1) := dk_42 (dk_at dksX6_culprit_2 9 rfl rfl)
theorem dX6_culprit_58 : decode cX6_culprit 58 = .ok (.getfield 17, 3) := dk_180 0 17 (dk_at dksX6_culprit_2 10 rfl rfl)
theorem dX6_culprit_61 : decode cX6_culprit 61 = .ok (.iconst 4, 1) := dk_7 (dk_at dksX6_culprit_2 13 rfl rfl)
theorem dX6_culprit_62 : decode cX6_culprit 62 = .ok (.iaload, 1) := dk_46 (dk_at dksX6_culprit_2 14 rfl rfl)
theorem dX6_culprit_63 : decode cX6_culprit 63 = .ok (.if_icmp .ge 73, 3) := dk_162 0 73 (dk_at dksX6_culprit_2 15 rfl rfl)
theorem dX6_culprit_66 : decode cX6_culprit 66 = .ok (.iload_n 3, 1) := dk_29 (dk_at dksX6_culprit_2 18 rfl rfl)
theorem dX6_culprit_67 : decode cX6_culprit 67 = .ok (.ifCond .eq 69, 3) := dk_153 0 69 (dk_at dksX6_culprit_2 19 rfl rfl)
theorem dX6_culprit_70 : decode cX6_culprit 70 = .ok (.iload_n 2, 1) := dk_28 (dk_at dksX6_culprit_2 22 rfl rfl)
theorem dX6_culprit_71 : decode cX6_culprit 71 = .ok (.iconst (-1), 1) := dk_2 (dk_at dksX6_culprit_2 23 rfl rfl)
theorem dX6_culprit_72 : decode cX6_culprit 72 = .ok (.if_icmp .ne 64, 3) := dk_160 0 64 (dk_at dksX6_culprit_3 0 rfl rfl)
theorem dX6_culprit_75 : decode cX6_culprit 75 = .ok (.aload_n 0, 1) := dk_42 (dk_at dksX6_culprit_3 3 rfl rfl)
theorem dX6_culprit_76 : decode cX6_culprit 76 = .ok (.iload 4, 2) := dk_21 4 (dk_at dksX6_culprit_3 4 rfl rfl)
theorem dX6_culprit_78 : decode cX6_culprit 78 = .ok (.iconst 1, 1) := dk_4 (dk_at dksX6_culprit_3 6 rfl rfl)
theorem dX6_culprit_79 : decode cX6_culprit 79 = .ok (.invokevirtual 342, 3) := dk_182 1 86 (dk_at dksX6_culprit_3 7 rfl rfl)
theorem dX6_culprit_82 : decode cX6_culprit 82 = .ok (.iload_n 1, 1) := dk_27 (dk_at dksX6_culprit_3 10 rfl rfl)
theorem dX6_culprit_83 : decode cX6_culprit 83 = .ok (.if_icmp .ne 47, 3) := dk_160 0 47 (dk_at dksX6_culprit_3 11 rfl rfl)
theorem dX6_culprit_86 : decode cX6_culprit 86 = .ok (.aload_n 0, 1) := dk_42 (dk_at dksX6_culprit_3 14 rfl rfl)
theorem dX6_culprit_87 : decode cX6_culprit 87 = .ok (.iload 4, 2) := dk_21 4 (dk_at dksX6_culprit_3 15 rfl rfl)
theorem dX6_culprit_89 : decode cX6_culprit 89 = .ok (.iconst 5, 1) := dk_8 (dk_at dksX6_culprit_3 17 rfl rfl)
theorem dX6_culprit_90 : decode cX6_culprit 90 = .ok (.invokevirtual 342, 3) := dk_182 1 86 (dk_at dksX6_culprit_3 18 rfl rfl)
theorem dX6_culprit_93 : decode cX6_culprit 93 = .ok (.ifCond .ne 6, 3) := dk_154 0 6 (dk_at dksX6_culprit_3 21 rfl rfl)
theorem dX6_culprit_96 : decode cX6_culprit 96 = .ok (.goto 34, 3) := dk_167 0 34 (dk_at dksX6_culprit_4 0 rfl rfl)
theorem dX6_culprit_99 : decode cX6_culprit 99 = .ok (.aload_n 0, 1) := dk_42 (dk_at dksX6_culprit_4 3 rfl rfl)
theorem dX6_culprit_100 : decode cX6_culprit 100 = .ok (.iload 4, 2) := dk_21 4 (dk_at dksX6_culprit_4 4 rfl rfl)
theorem dX6_culprit_102 : decode cX6_culprit 102 = .ok (.iconst 5, 1) := dk_8 (dk_at dksX6_culprit_4 6 rfl rfl)
theorem dX6_culprit_103 : decode cX6_culprit 103 = .ok (.iconst 0, 1) := dk_3 (dk_at dksX6_culprit_4 7 rfl rfl)
theorem dX6_culprit_104 : decode cX6_culprit 104 = .ok (.invokevirtual 274, 3) := dk_182 1 18 (dk_at dksX6_culprit_4 8 rfl rfl)
theorem dX6_culprit_107 : decode cX6_culprit 107 = .ok (.aload_n 0, 1) := dk_42 (dk_at dksX6_culprit_4 11 rfl rfl)
theorem dX6_culprit_108 : decode cX6_culprit 108 = .ok (.iload_n 1, 1) := dk_27 (dk_at dksX6_culprit_4 12 rfl rfl)
theorem dX6_culprit_109 : decode cX6_culprit 109 = .ok (.sipush 200, 3) := dk_17 0 200 (dk_at dksX6_culprit_4 13 rfl rfl)
theorem dX6_culprit_112 : decode cX6_culprit 112 = .ok (.invokevirtual 477, 3) := dk_182 1 221 (dk_at dksX6_culprit_4 16 rfl rfl)
theorem dX6_culprit_115 : decode cX6_culprit 115 = .ok (.iconst (-1), 1) := dk_2 (dk_at dksX6_culprit_4 19 rfl rfl)
theorem dX6_culprit_116 : decode cX6_culprit 116 = .ok (.if_icmp .ne 8, 3) := dk_160 0 8 (dk_at dksX6_culprit_4 20 rfl rfl)
theorem dX6_culprit_119 : decode cX6_culprit 119 = .ok (.iload 4, 2) := dk_21 4 (dk_at dksX6_culprit_5 0 rfl rfl)
theorem dX6_culprit_121 : decode cX6_culprit 121 = .ok (.goto 4, 3) := dk_167 0 4 (dk_at dksX6_culprit_5 2 rfl rfl)
theorem dX6_culprit_124 : decode cX6_culprit 124 = .ok (.iconst (-1), 1) := dk_2 (dk_at dksX6_culprit_5 5 rfl rfl)
theorem dX6_culprit_125 : decode cX6_culprit 125 = .ok (.istore_n 2, 1) := dk_61 (dk_at dksX6_culprit_5 6 rfl rfl)
theorem dX6_culprit_126 : decode cX6_culprit 126 = .ok (.aload_n 0, 1) := dk_42 (dk_at dksX6_culprit_5 7 rfl rfl)
theorem dX6_culprit_127 : decode cX6_culprit 127 = .ok (.invokevirtual 480, 3) := dk_182 1 224 (dk_at dksX6_culprit_5 8 rfl rfl)
theorem dX6_culprit_130 : decode cX6_culprit 130 = .ok (.iinc 4 1, 3) := dk_132 4 1 (dk_at dksX6_culprit_5 11 rfl rfl)
theorem dX6_culprit_133 : decode cX6_culprit 133 = .ok (.goto (-78), 3) := dk_167 255 178 (dk_at dksX6_culprit_5 14 rfl rfl)
theorem dX6_culprit_136 : decode cX6_culprit 136 = .ok (.iload_n 2, 1) := dk_28 (dk_at dksX6_culprit_5 17 rfl rfl)
theorem dX6_culprit_137 : decode cX6_culprit 137 = .ok (.ireturn, 1) := dk_172 (dk_at dksX6_culprit_5 18 rfl rfl)
def dkwX6_hitsAhead_3 : List UInt8 := [96, 46, 100, 62, 42, 182, 1, 224, 29, 172]
abbrev dktX6_hitsAhead_3 : List UInt8 := dkwX6_hitsAhead_3 ++ []
def dkwX6_hitsAhead_2 : List UInt8 := [17, 1, 219, 16, 27, 27, 104, 96, 5, 96, 46, 42, 180, 0, 51, 17, 1, 219, 16, 27, 27, 104, 96, 5]
abbrev dktX6_hitsAhead_2 : List UInt8 := dkwX6_hitsAhead_2 ++ dktX6_hitsAhead_3
def dkwX6_hitsAhead_1 : List UInt8 := [16, 100, 162, 0, 16, 28, 42, 182, 1, 181, 128, 61, 132, 3, 1, 167, 255, 240, 42, 180, 0, 17]
abbrev dktX6_hitsAhead_1 : List UInt8 := dkwX6_hitsAhead_1 ++ dktX6_hitsAhead_2
def dkwX6_hitsAhead_0 : List UInt8 := [42, 42, 27, 182, 1, 200, 182, 0, 77, 154, 0, 5, 3, 172, 42, 182, 1, 218, 3, 61, 3, 62, 29]
abbrev dktX6_hitsAhead_0 : List UInt8 := dkwX6_hitsAhead_0 ++ dktX6_hitsAhead_1
theorem dksX6_hitsAhead_0 : cX6_hitsAhead.data.toList.drop 0 = dktX6_hitsAhead_0 := by decide +kernel
theorem dksX6_hitsAhead_1 : cX6_hitsAhead.data.toList.drop 23 = dktX6_hitsAhead_1 := dk_seg dksX6_hitsAhead_0 23 rfl rfl
theorem dksX6_hitsAhead_2 : cX6_hitsAhead.data.toList.drop 45 = dktX6_hitsAhead_2 := dk_seg dksX6_hitsAhead_1 22 rfl rfl
theorem dksX6_hitsAhead_3 : cX6_hitsAhead.data.toList.drop 69 = dktX6_hitsAhead_3 := dk_seg dksX6_hitsAhead_2 24 rfl rfl
theorem dX6_hitsAhead_0 : decode cX6_hitsAhead 0 = .ok (.aload_n 0, 1) := dk_42 (dk_at dksX6_hitsAhead_0 0 rfl rfl)
theorem dX6_hitsAhead_1 : decode cX6_hitsAhead 1 = .ok (.aload_n 0, 1) := dk_42 (dk_at dksX6_hitsAhead_0 1 rfl rfl)
theorem dX6_hitsAhead_2 : decode cX6_hitsAhead 2 = .ok (.iload_n 1, 1) := dk_27 (dk_at dksX6_hitsAhead_0 2 rfl rfl)
theorem dX6_hitsAhead_3 : decode cX6_hitsAhead 3 = .ok (.invokevirtual 456, 3) := dk_182 1 200 (dk_at dksX6_hitsAhead_0 3 rfl rfl)
theorem dX6_hitsAhead_6 : decode cX6_hitsAhead 6 = .ok (.invokevirtual 77, 3) := dk_182 0 77 (dk_at dksX6_hitsAhead_0 6 rfl rfl)
theorem dX6_hitsAhead_9 : decode cX6_hitsAhead 9 = .ok (.ifCond .ne 5, 3) := dk_154 0 5 (dk_at dksX6_hitsAhead_0 9 rfl rfl)
theorem dX6_hitsAhead_12 : decode cX6_hitsAhead 12 = .ok (.iconst 0, 1) := dk_3 (dk_at dksX6_hitsAhead_0 12 rfl rfl)
theorem dX6_hitsAhead_13 : decode cX6_hitsAhead 13 = .ok (.ireturn, 1) := dk_172 (dk_at dksX6_hitsAhead_0 13 rfl rfl)
theorem dX6_hitsAhead_14 : decode cX6_hitsAhead 14 = .ok (.aload_n 0, 1) := dk_42 (dk_at dksX6_hitsAhead_0 14 rfl rfl)
theorem dX6_hitsAhead_15 : decode cX6_hitsAhead 15 = .ok (.invokevirtual 474, 3) := dk_182 1 218 (dk_at dksX6_hitsAhead_0 15 rfl rfl)
theorem dX6_hitsAhead_18 : decode cX6_hitsAhead 18 = .ok (.iconst 0, 1) := dk_3 (dk_at dksX6_hitsAhead_0 18 rfl rfl)
theorem dX6_hitsAhead_19 : decode cX6_hitsAhead 19 = .ok (.istore_n 2, 1) := dk_61 (dk_at dksX6_hitsAhead_0 19 rfl rfl)
theorem dX6_hitsAhead_20 : decode cX6_hitsAhead 20 = .ok (.iconst 0, 1) := dk_3 (dk_at dksX6_hitsAhead_0 20 rfl rfl)
theorem dX6_hitsAhead_21 : decode cX6_hitsAhead 21 = .ok (.istore_n 3, 1) := dk_62 (dk_at dksX6_hitsAhead_0 21 rfl rfl)
theorem dX6_hitsAhead_22 : decode cX6_hitsAhead 22 = .ok (.iload_n 3, 1) := dk_29 (dk_at dksX6_hitsAhead_0 22 rfl rfl)
theorem dX6_hitsAhead_23 : decode cX6_hitsAhead 23 = .ok (.bipush 100, 2) := dk_16 100 (dk_at dksX6_hitsAhead_1 0 rfl rfl)
theorem dX6_hitsAhead_25 : decode cX6_hitsAhead 25 = .ok (.if_icmp .ge 16, 3) := dk_162 0 16 (dk_at dksX6_hitsAhead_1 2 rfl rfl)
theorem dX6_hitsAhead_28 : decode cX6_hitsAhead 28 = .ok (.iload_n 2, 1) := dk_28 (dk_at dksX6_hitsAhead_1 5 rfl rfl)
theorem dX6_hitsAhead_29 : decode cX6_hitsAhead 29 = .ok (.aload_n 0, 1) := dk_42 (dk_at dksX6_hitsAhead_1 6 rfl rfl)
theorem dX6_hitsAhead_30 : decode cX6_hitsAhead 30 = .ok (.invokevirtual 437, 3) := dk_182 1 181 (dk_at dksX6_hitsAhead_1 7 rfl rfl)
theorem dX6_hitsAhead_33 : decode cX6_hitsAhead 33 = .ok (.ior, 1) := dk_128 (dk_at dksX6_hitsAhead_1 10 rfl rfl)
theorem dX6_hitsAhead_34 : decode cX6_hitsAhead 34 = .ok (.istore_n 2, 1) := dk_61 (dk_at dksX6_hitsAhead_1 11 rfl rfl)
theorem dX6_hitsAhead_35 : decode cX6_hitsAhead 35 = .ok (.iinc 3 1, 3) := dk_132 3 1 (dk_at dksX6_hitsAhead_1 12 rfl rfl)
theorem dX6_hitsAhead_38 : decode cX6_hitsAhead 38 = .ok (.goto (-16), 3) := dk_167 255 240 (dk_at dksX6_hitsAhead_1 15 rfl rfl)
theorem dX6_hitsAhead_41 : decode cX6_hitsAhead 41 = .ok (.aload_n 0, 1) := dk_42 (dk_at dksX6_hitsAhead_1 18 rfl rfl)
theorem dX6_hitsAhead_42 : decode cX6_hitsAhead 42 = .ok (.getfield 17, 3) := dk_180 0 17 (dk_at dksX6_hitsAhead_1 19 rfl rfl)
theorem dX6_hitsAhead_45 : decode cX6_hitsAhead 45 = .ok (.sipush 475, 3) := dk_17 1 219 (dk_at dksX6_hitsAhead_2 0 rfl rfl)
theorem dX6_hitsAhead_48 : decode cX6_hitsAhead 48 = .ok (.bipush 27, 2) := dk_16 27 (dk_at dksX6_hitsAhead_2 3 rfl rfl)
theorem dX6_hitsAhead_50 : decode cX6_hitsAhead 50 = .ok (.iload_n 1, 1) := dk_27 (dk_at dksX6_hitsAhead_2 5 rfl rfl)
theorem dX6_hitsAhead_51 : decode cX6_hitsAhead 51 = .ok (.imul, 1) := dk_104 (dk_at dksX6_hitsAhead_2 6 rfl rfl)
theorem dX6_hitsAhead_52 : decode cX6_hitsAhead 52 = .ok (.iadd, 1) := dk_96 (dk_at dksX6_hitsAhead_2 7 rfl rfl)
theorem dX6_hitsAhead_53 : decode cX6_hitsAhead 53 = .ok (.iconst 2, 1) := dk_5 (dk_at dksX6_hitsAhead_2 8 rfl rfl)
theorem dX6_hitsAhead_54 : decode cX6_hitsAhead 54 = .ok (.iadd, 1) := dk_96 (dk_at dksX6_hitsAhead_2 9 rfl rfl)
theorem dX6_hitsAhead_55 : decode cX6_hitsAhead 55 = .ok (.iaload, 1) := dk_46 (dk_at dksX6_hitsAhead_2 10 rfl rfl)
theorem dX6_hitsAhead_56 : decode cX6_hitsAhead 56 = .ok (.aload_n 0, 1) := dk_42 (dk_at dksX6_hitsAhead_2 11 rfl rfl)
theorem dX6_hitsAhead_57 : decode cX6_hitsAhead 57 = .ok (.getfield 51, 3) := dk_180 0 51 (dk_at dksX6_hitsAhead_2 12 rfl rfl)
theorem dX6_hitsAhead_60 : decode cX6_hitsAhead 60 = .ok (.sipush 475, 3) := dk_17 1 219 (dk_at dksX6_hitsAhead_2 15 rfl rfl)
theorem dX6_hitsAhead_63 : decode cX6_hitsAhead 63 = .ok (.bipush 27, 2) := dk_16 27 (dk_at dksX6_hitsAhead_2 18 rfl rfl)
theorem dX6_hitsAhead_65 : decode cX6_hitsAhead 65 = .ok (.iload_n 1, 1) := dk_27 (dk_at dksX6_hitsAhead_2 20 rfl rfl)
theorem dX6_hitsAhead_66 : decode cX6_hitsAhead 66 = .ok (.imul, 1) := dk_104 (dk_at dksX6_hitsAhead_2 21 rfl rfl)
theorem dX6_hitsAhead_67 : decode cX6_hitsAhead 67 = .ok (.iadd, 1) := dk_96 (dk_at dksX6_hitsAhead_2 22 rfl rfl)
theorem dX6_hitsAhead_68 : decode cX6_hitsAhead 68 = .ok (.iconst 2, 1) := dk_5 (dk_at dksX6_hitsAhead_2 23 rfl rfl)
theorem dX6_hitsAhead_69 : decode cX6_hitsAhead 69 = .ok (.iadd, 1) := dk_96 (dk_at dksX6_hitsAhead_3 0 rfl rfl)
theorem dX6_hitsAhead_70 : decode cX6_hitsAhead 70 = .ok (.iaload, 1) := dk_46 (dk_at dksX6_hitsAhead_3 1 rfl rfl)
theorem dX6_hitsAhead_71 : decode cX6_hitsAhead 71 = .ok (.isub, 1) := dk_100 (dk_at dksX6_hitsAhead_3 2 rfl rfl)
theorem dX6_hitsAhead_72 : decode cX6_hitsAhead 72 = .ok (.istore_n 3, 1) := dk_62 (dk_at dksX6_hitsAhead_3 3 rfl rfl)
theorem dX6_hitsAhead_73 : decode cX6_hitsAhead 73 = .ok (.aload_n 0, 1) := dk_42 (dk_at dksX6_hitsAhead_3 4 rfl rfl)
theorem dX6_hitsAhead_74 : decode cX6_hitsAhead 74 = .ok (.invokevirtual 480, 3) := dk_182 1 224 (dk_at dksX6_hitsAhead_3 5 rfl rfl)
theorem dX6_hitsAhead_77 : decode cX6_hitsAhead 77 = .ok (.iload_n 3, 1) := dk_29 (dk_at dksX6_hitsAhead_3 8 rfl rfl)
theorem dX6_hitsAhead_78 : decode cX6_hitsAhead 78 = .ok (.ireturn, 1) := dk_172 (dk_at dksX6_hitsAhead_3 9 rfl rfl)
def dkwX6_largestCount_3 : List UInt8 := [42, 182, 1, 224, 132, 3, 255, 167, 255, 214, 28, 172]
abbrev dktX6_largestCount_3 : List UInt8 := dkwX6_largestCount_3 ++ []
def dkwX6_largestCount_2 : List UInt8 := [180, 0, 17, 5, 29, 79, 42, 27, 17, 0, 200, 182, 1, 221, 2, 159, 0, 7, 29, 167, 0, 4, 2, 61]
abbrev dktX6_largestCount_2 : List UInt8 := dkwX6_largestCount_2 ++ dktX6_largestCount_3
def dkwX6_largestCount_1 : List UInt8 := [42, 182, 1, 218, 2, 61, 42, 180, 0, 17, 4, 46, 62, 29, 4, 161, 0, 43, 28, 2, 160, 0, 38, 42]
abbrev dktX6_largestCount_1 : List UInt8 := dkwX6_largestCount_1 ++ dktX6_largestCount_2
def dkwX6_largestCount_0 : List UInt8 := [42, 42, 27, 182, 1, 73, 182, 0, 77, 154, 0, 5, 3, 172, 42, 27, 182, 1, 102, 154, 0, 5, 2, 172]
abbrev dktX6_largestCount_0 : List UInt8 := dkwX6_largestCount_0 ++ dktX6_largestCount_1
theorem dksX6_largestCount_0 : cX6_largestCount.data.toList.drop 0 = dktX6_largestCount_0 := by decide +kernel
theorem dksX6_largestCount_1 : cX6_largestCount.data.toList.drop 24 = dktX6_largestCount_1 := dk_seg dksX6_largestCount_0 24 rfl rfl
theorem dksX6_largestCount_2 : cX6_largestCount.data.toList.drop 48 = dktX6_largestCount_2 := dk_seg dksX6_largestCount_1 24 rfl rfl
theorem dksX6_largestCount_3 : cX6_largestCount.data.toList.drop 72 = dktX6_largestCount_3 := dk_seg dksX6_largestCount_2 24 rfl rfl
theorem dX6_largestCount_0 : decode cX6_largestCount 0 = .ok (.aload_n 0, 1) := dk_42 (dk_at dksX6_largestCount_0 0 rfl rfl)
theorem dX6_largestCount_1 : decode cX6_largestCount 1 = .ok (.aload_n 0, 1) := dk_42 (dk_at dksX6_largestCount_0 1 rfl rfl)
theorem dX6_largestCount_2 : decode cX6_largestCount 2 = .ok (.iload_n 1, 1) := dk_27 (dk_at dksX6_largestCount_0 2 rfl rfl)
theorem dX6_largestCount_3 : decode cX6_largestCount 3 = .ok (.invokevirtual 329, 3) := dk_182 1 73 (dk_at dksX6_largestCount_0 3 rfl rfl)
theorem dX6_largestCount_6 : decode cX6_largestCount 6 = .ok (.invokevirtual 77, 3) := dk_182 0 77 (dk_at dksX6_largestCount_0 6 rfl rfl)
theorem dX6_largestCount_9 : decode cX6_largestCount 9 = .ok (.ifCond .ne 5, 3) := dk_154 0 5 (dk_at dksX6_largestCount_0 9 rfl rfl)
theorem dX6_largestCount_12 : decode cX6_largestCount 12 = .ok (.iconst 0, 1) := dk_3 (dk_at dksX6_largestCount_0 12 rfl rfl)
theorem dX6_largestCount_13 : decode cX6_largestCount 13 = .ok (.ireturn, 1) := dk_172 (dk_at dksX6_largestCount_0 13 rfl rfl)
theorem dX6_largestCount_14 : decode cX6_largestCount 14 = .ok (.aload_n 0, 1) := dk_42 (dk_at dksX6_largestCount_0 14 rfl rfl)
theorem dX6_largestCount_15 : decode cX6_largestCount 15 = .ok (.iload_n 1, 1) := dk_27 (dk_at dksX6_largestCount_0 15 rfl rfl)
theorem dX6_largestCount_16 : decode cX6_largestCount 16 = .ok (.invokevirtual 358, 3) := dk_182 1 102 (dk_at dksX6_largestCount_0 16 rfl rfl)
theorem dX6_largestCount_19 : decode cX6_largestCount 19 = .ok (.ifCond .ne 5, 3) := dk_154 0 5 (dk_at dksX6_largestCount_0 19 rfl rfl)
theorem dX6_largestCount_22 : decode cX6_largestCount 22 = .ok (.iconst (-1), 1) := dk_2 (dk_at dksX6_largestCount_0 22 rfl rfl)
theorem dX6_largestCount_23 : decode cX6_largestCount 23 = .ok (.ireturn, 1) := dk_172 (dk_at dksX6_largestCount_0 23 rfl rfl)
theorem dX6_largestCount_24 : decode cX6_largestCount 24 = .ok (.aload_n 0, 1) := dk_42 (dk_at dksX6_largestCount_1 0 rfl rfl)
theorem dX6_largestCount_25 : decode cX6_largestCount 25 = .ok (.invokevirtual 474, 3) := dk_182 1 218 (dk_at dksX6_largestCount_1 1 rfl rfl)
theorem dX6_largestCount_28 : decode cX6_largestCount 28 = .ok (.iconst (-1), 1) := dk_2 (dk_at dksX6_largestCount_1 4 rfl rfl)
theorem dX6_largestCount_29 : decode cX6_largestCount 29 = .ok (.istore_n 2, 1) := dk_61 (dk_at dksX6_largestCount_1 5 rfl rfl)
theorem dX6_largestCount_30 : decode cX6_largestCount 30 = .ok (.aload_n 0, 1) := dk_42 (dk_at dksX6_largestCount_1 6 rfl rfl)
theorem dX6_largestCount_31 : decode cX6_largestCount 31 = .ok (.getfield 17, 3) := dk_180 0 17 (dk_at dksX6_largestCount_1 7 rfl rfl)
theorem dX6_largestCount_34 : decode cX6_largestCount 34 = .ok (.iconst 1, 1) := dk_4 (dk_at dksX6_largestCount_1 10 rfl rfl)
theorem dX6_largestCount_35 : decode cX6_largestCount 35 = .ok (.iaload, 1) := dk_46 (dk_at dksX6_largestCount_1 11 rfl rfl)
theorem dX6_largestCount_36 : decode cX6_largestCount 36 = .ok (.istore_n 3, 1) := dk_62 (dk_at dksX6_largestCount_1 12 rfl rfl)
theorem dX6_largestCount_37 : decode cX6_largestCount 37 = .ok (.iload_n 3, 1) := dk_29 (dk_at dksX6_largestCount_1 13 rfl rfl)
theorem dX6_largestCount_38 : decode cX6_largestCount 38 = .ok (.iconst 1, 1) := dk_4 (dk_at dksX6_largestCount_1 14 rfl rfl)
theorem dX6_largestCount_39 : decode cX6_largestCount 39 = .ok (.if_icmp .lt 43, 3) := dk_161 0 43 (dk_at dksX6_largestCount_1 15 rfl rfl)
theorem dX6_largestCount_42 : decode cX6_largestCount 42 = .ok (.iload_n 2, 1) := dk_28 (dk_at dksX6_largestCount_1 18 rfl rfl)
theorem dX6_largestCount_43 : decode cX6_largestCount 43 = .ok (.iconst (-1), 1) := dk_2 (dk_at dksX6_largestCount_1 19 rfl rfl)
theorem dX6_largestCount_44 : decode cX6_largestCount 44 = .ok (.if_icmp .ne 38, 3) := dk_160 0 38 (dk_at dksX6_largestCount_1 20 rfl rfl)
theorem dX6_largestCount_47 : decode cX6_largestCount 47 = .ok (.aload_n 0, 1) := dk_42 (dk_at dksX6_largestCount_1 23 rfl rfl)
theorem dX6_largestCount_48 : decode cX6_largestCount 48 = .ok (.getfield 17, 3) := dk_180 0 17 (dk_at dksX6_largestCount_2 0 rfl rfl)
theorem dX6_largestCount_51 : decode cX6_largestCount 51 = .ok (.iconst 2, 1) := dk_5 (dk_at dksX6_largestCount_2 3 rfl rfl)
theorem dX6_largestCount_52 : decode cX6_largestCount 52 = .ok (.iload_n 3, 1) := dk_29 (dk_at dksX6_largestCount_2 4 rfl rfl)
theorem dX6_largestCount_53 : decode cX6_largestCount 53 = .ok (.iastore, 1) := dk_79 (dk_at dksX6_largestCount_2 5 rfl rfl)
theorem dX6_largestCount_54 : decode cX6_largestCount 54 = .ok (.aload_n 0, 1) := dk_42 (dk_at dksX6_largestCount_2 6 rfl rfl)
theorem dX6_largestCount_55 : decode cX6_largestCount 55 = .ok (.iload_n 1, 1) := dk_27 (dk_at dksX6_largestCount_2 7 rfl rfl)
theorem dX6_largestCount_56 : decode cX6_largestCount 56 = .ok (.sipush 200, 3) := dk_17 0 200 (dk_at dksX6_largestCount_2 8 rfl rfl)
theorem dX6_largestCount_59 : decode cX6_largestCount 59 = .ok (.invokevirtual 477, 3) := dk_182 1 221 (dk_at dksX6_largestCount_2 11 rfl rfl)
theorem dX6_largestCount_62 : decode cX6_largestCount 62 = .ok (.iconst (-1), 1) := dk_2 (dk_at dksX6_largestCount_2 14 rfl rfl)
theorem dX6_largestCount_63 : decode cX6_largestCount 63 = .ok (.if_icmp .eq 7, 3) := dk_159 0 7 (dk_at dksX6_largestCount_2 15 rfl rfl)
theorem dX6_largestCount_66 : decode cX6_largestCount 66 = .ok (.iload_n 3, 1) := dk_29 (dk_at dksX6_largestCount_2 18 rfl rfl)
theorem dX6_largestCount_67 : decode cX6_largestCount 67 = .ok (.goto 4, 3) := dk_167 0 4 (dk_at dksX6_largestCount_2 19 rfl rfl)
theorem dX6_largestCount_70 : decode cX6_largestCount 70 = .ok (.iconst (-1), 1) := dk_2 (dk_at dksX6_largestCount_2 22 rfl rfl)
theorem dX6_largestCount_71 : decode cX6_largestCount 71 = .ok (.istore_n 2, 1) := dk_61 (dk_at dksX6_largestCount_2 23 rfl rfl)
theorem dX6_largestCount_72 : decode cX6_largestCount 72 = .ok (.aload_n 0, 1) := dk_42 (dk_at dksX6_largestCount_3 0 rfl rfl)
theorem dX6_largestCount_73 : decode cX6_largestCount 73 = .ok (.invokevirtual 480, 3) := dk_182 1 224 (dk_at dksX6_largestCount_3 1 rfl rfl)
theorem dX6_largestCount_76 : decode cX6_largestCount 76 = .ok (.iinc 3 (-1), 3) := dk_132 3 255 (dk_at dksX6_largestCount_3 4 rfl rfl)
theorem dX6_largestCount_79 : decode cX6_largestCount 79 = .ok (.goto (-42), 3) := dk_167 255 214 (dk_at dksX6_largestCount_3 7 rfl rfl)
theorem dX6_largestCount_82 : decode cX6_largestCount 82 = .ok (.iload_n 2, 1) := dk_28 (dk_at dksX6_largestCount_3 10 rfl rfl)
theorem dX6_largestCount_83 : decode cX6_largestCount 83 = .ok (.ireturn, 1) := dk_172 (dk_at dksX6_largestCount_3 11 rfl rfl)
def dkwX6_totalMean_2 : List UInt8 := [167, 255, 218, 35, 174]
abbrev dktX6_totalMean_2 : List UInt8 := dkwX6_totalMean_2 ++ []
def dkwX6_totalMean_1 : List UInt8 := [153, 0, 20, 42, 28, 182, 1, 187, 153, 0, 12, 35, 42, 28, 4, 182, 1, 135, 98, 68, 132, 2, 1]
abbrev dktX6_totalMean_1 : List UInt8 := dkwX6_totalMean_1 ++ dktX6_totalMean_2
def dkwX6_totalMean_0 : List UInt8 := [42, 3, 181, 0, 3, 11, 68, 3, 61, 28, 42, 180, 0, 17, 6, 46, 162, 0, 34, 42, 28, 182, 1, 102]
abbrev dktX6_totalMean_0 : List UInt8 := dkwX6_totalMean_0 ++ dktX6_totalMean_1
theorem dksX6_totalMean_0 : cX6_totalMean.data.toList.drop 0 = dktX6_totalMean_0 := by decide +kernel
theorem dksX6_totalMean_1 : cX6_totalMean.data.toList.drop 24 = dktX6_totalMean_1 := dk_seg dksX6_totalMean_0 24 rfl rfl
theorem dksX6_totalMean_2 : cX6_totalMean.data.toList.drop 47 = dktX6_totalMean_2 := dk_seg dksX6_totalMean_1 23 rfl rfl
theorem dX6_totalMean_0 : decode cX6_totalMean 0 = .ok (.aload_n 0, 1) := dk_42 (dk_at dksX6_totalMean_0 0 rfl rfl)
theorem dX6_totalMean_1 : decode cX6_totalMean 1 = .ok (.iconst 0, 1) := dk_3 (dk_at dksX6_totalMean_0 1 rfl rfl)
theorem dX6_totalMean_2 : decode cX6_totalMean 2 = .ok (.putfield 3, 3) := dk_181 0 3 (dk_at dksX6_totalMean_0 2 rfl rfl)
theorem dX6_totalMean_5 : decode cX6_totalMean 5 = .ok (.fconst 0, 1) := dk_11 (dk_at dksX6_totalMean_0 5 rfl rfl)
theorem dX6_totalMean_6 : decode cX6_totalMean 6 = .ok (.fstore_n 1, 1) := dk_68 (dk_at dksX6_totalMean_0 6 rfl rfl)
theorem dX6_totalMean_7 : decode cX6_totalMean 7 = .ok (.iconst 0, 1) := dk_3 (dk_at dksX6_totalMean_0 7 rfl rfl)
theorem dX6_totalMean_8 : decode cX6_totalMean 8 = .ok (.istore_n 2, 1) := dk_61 (dk_at dksX6_totalMean_0 8 rfl rfl)
theorem dX6_totalMean_9 : decode cX6_totalMean 9 = .ok (.iload_n 2, 1) := dk_28 (dk_at dksX6_totalMean_0 9 rfl rfl)
theorem dX6_totalMean_10 : decode cX6_totalMean 10 = .ok (.aload_n 0, 1) := dk_42 (dk_at dksX6_totalMean_0 10 rfl rfl)
theorem dX6_totalMean_11 : decode cX6_totalMean 11 = .ok (.getfield 17, 3) := dk_180 0 17 (dk_at dksX6_totalMean_0 11 rfl rfl)
theorem dX6_totalMean_14 : decode cX6_totalMean 14 = .ok (.iconst 3, 1) := dk_6 (dk_at dksX6_totalMean_0 14 rfl rfl)
theorem dX6_totalMean_15 : decode cX6_totalMean 15 = .ok (.iaload, 1) := dk_46 (dk_at dksX6_totalMean_0 15 rfl rfl)
theorem dX6_totalMean_16 : decode cX6_totalMean 16 = .ok (.if_icmp .ge 34, 3) := dk_162 0 34 (dk_at dksX6_totalMean_0 16 rfl rfl)
theorem dX6_totalMean_19 : decode cX6_totalMean 19 = .ok (.aload_n 0, 1) := dk_42 (dk_at dksX6_totalMean_0 19 rfl rfl)
theorem dX6_totalMean_20 : decode cX6_totalMean 20 = .ok (.iload_n 2, 1) := dk_28 (dk_at dksX6_totalMean_0 20 rfl rfl)
theorem dX6_totalMean_21 : decode cX6_totalMean 21 = .ok (.invokevirtual 358, 3) := dk_182 1 102 (dk_at dksX6_totalMean_0 21 rfl rfl)
theorem dX6_totalMean_24 : decode cX6_totalMean 24 = .ok (.ifCond .eq 20, 3) := dk_153 0 20 (dk_at dksX6_totalMean_1 0 rfl rfl)
theorem dX6_totalMean_27 : decode cX6_totalMean 27 = .ok (.aload_n 0, 1) := dk_42 (dk_at dksX6_totalMean_1 3 rfl rfl)
theorem dX6_totalMean_28 : decode cX6_totalMean 28 = .ok (.iload_n 2, 1) := dk_28 (dk_at dksX6_totalMean_1 4 rfl rfl)
theorem dX6_totalMean_29 : decode cX6_totalMean 29 = .ok (.invokevirtual 443, 3) := dk_182 1 187 (dk_at dksX6_totalMean_1 5 rfl rfl)
theorem dX6_totalMean_32 : decode cX6_totalMean 32 = .ok (.ifCond .eq 12, 3) := dk_153 0 12 (dk_at dksX6_totalMean_1 8 rfl rfl)
theorem dX6_totalMean_35 : decode cX6_totalMean 35 = .ok (.fload_n 1, 1) := dk_35 (dk_at dksX6_totalMean_1 11 rfl rfl)
theorem dX6_totalMean_36 : decode cX6_totalMean 36 = .ok (.aload_n 0, 1) := dk_42 (dk_at dksX6_totalMean_1 12 rfl rfl)
theorem dX6_totalMean_37 : decode cX6_totalMean 37 = .ok (.iload_n 2, 1) := dk_28 (dk_at dksX6_totalMean_1 13 rfl rfl)
theorem dX6_totalMean_38 : decode cX6_totalMean 38 = .ok (.iconst 1, 1) := dk_4 (dk_at dksX6_totalMean_1 14 rfl rfl)
theorem dX6_totalMean_39 : decode cX6_totalMean 39 = .ok (.invokevirtual 391, 3) := dk_182 1 135 (dk_at dksX6_totalMean_1 15 rfl rfl)
theorem dX6_totalMean_42 : decode cX6_totalMean 42 = .ok (.fadd, 1) := dk_98 (dk_at dksX6_totalMean_1 18 rfl rfl)
theorem dX6_totalMean_43 : decode cX6_totalMean 43 = .ok (.fstore_n 1, 1) := dk_68 (dk_at dksX6_totalMean_1 19 rfl rfl)
theorem dX6_totalMean_44 : decode cX6_totalMean 44 = .ok (.iinc 2 1, 3) := dk_132 2 1 (dk_at dksX6_totalMean_1 20 rfl rfl)
theorem dX6_totalMean_47 : decode cX6_totalMean 47 = .ok (.goto (-38), 3) := dk_167 255 218 (dk_at dksX6_totalMean_2 0 rfl rfl)
theorem dX6_totalMean_50 : decode cX6_totalMean 50 = .ok (.fload_n 1, 1) := dk_35 (dk_at dksX6_totalMean_2 3 rfl rfl)
theorem dX6_totalMean_51 : decode cX6_totalMean 51 = .ok (.freturn, 1) := dk_174 (dk_at dksX6_totalMean_2 4 rfl rfl)
def dkwX6_loadSample_1 : List UInt8 := [153, 0, 12, 42, 27, 28, 182, 1, 118, 167, 0, 4, 11, 174]
abbrev dktX6_loadSample_1 : List UInt8 := dkwX6_loadSample_1 ++ []
def dkwX6_loadSample_0 : List UInt8 := [42, 42, 27, 182, 1, 77, 28, 133, 9, 42, 180, 0, 17, 3, 46, 4, 100, 133, 184, 0, 66, 182, 1, 82]
abbrev dktX6_loadSample_0 : List UInt8 := dkwX6_loadSample_0 ++ dktX6_loadSample_1
theorem dksX6_loadSample_0 : cX6_loadSample.data.toList.drop 0 = dktX6_loadSample_0 := by decide +kernel
theorem dksX6_loadSample_1 : cX6_loadSample.data.toList.drop 24 = dktX6_loadSample_1 := dk_seg dksX6_loadSample_0 24 rfl rfl
theorem dX6_loadSample_0 : decode cX6_loadSample 0 = .ok (.aload_n 0, 1) := dk_42 (dk_at dksX6_loadSample_0 0 rfl rfl)
theorem dX6_loadSample_1 : decode cX6_loadSample 1 = .ok (.aload_n 0, 1) := dk_42 (dk_at dksX6_loadSample_0 1 rfl rfl)
theorem dX6_loadSample_2 : decode cX6_loadSample 2 = .ok (.iload_n 1, 1) := dk_27 (dk_at dksX6_loadSample_0 2 rfl rfl)
theorem dX6_loadSample_3 : decode cX6_loadSample 3 = .ok (.invokevirtual 333, 3) := dk_182 1 77 (dk_at dksX6_loadSample_0 3 rfl rfl)
theorem dX6_loadSample_6 : decode cX6_loadSample 6 = .ok (.iload_n 2, 1) := dk_28 (dk_at dksX6_loadSample_0 6 rfl rfl)
theorem dX6_loadSample_7 : decode cX6_loadSample 7 = .ok (.i2l, 1) := dk_133 (dk_at dksX6_loadSample_0 7 rfl rfl)
theorem dX6_loadSample_8 : decode cX6_loadSample 8 = .ok (.lconst 0, 1) := dk_9 (dk_at dksX6_loadSample_0 8 rfl rfl)
theorem dX6_loadSample_9 : decode cX6_loadSample 9 = .ok (.aload_n 0, 1) := dk_42 (dk_at dksX6_loadSample_0 9 rfl rfl)
theorem dX6_loadSample_10 : decode cX6_loadSample 10 = .ok (.getfield 17, 3) := dk_180 0 17 (dk_at dksX6_loadSample_0 10 rfl rfl)
theorem dX6_loadSample_13 : decode cX6_loadSample 13 = .ok (.iconst 0, 1) := dk_3 (dk_at dksX6_loadSample_0 13 rfl rfl)
theorem dX6_loadSample_14 : decode cX6_loadSample 14 = .ok (.iaload, 1) := dk_46 (dk_at dksX6_loadSample_0 14 rfl rfl)
theorem dX6_loadSample_15 : decode cX6_loadSample 15 = .ok (.iconst 1, 1) := dk_4 (dk_at dksX6_loadSample_0 15 rfl rfl)
theorem dX6_loadSample_16 : decode cX6_loadSample 16 = .ok (.isub, 1) := dk_100 (dk_at dksX6_loadSample_0 16 rfl rfl)
theorem dX6_loadSample_17 : decode cX6_loadSample 17 = .ok (.i2l, 1) := dk_133 (dk_at dksX6_loadSample_0 17 rfl rfl)
theorem dX6_loadSample_18 : decode cX6_loadSample 18 = .ok (.invokestatic 66, 3) := dk_184 0 66 (dk_at dksX6_loadSample_0 18 rfl rfl)
theorem dX6_loadSample_21 : decode cX6_loadSample 21 = .ok (.invokevirtual 338, 3) := dk_182 1 82 (dk_at dksX6_loadSample_0 21 rfl rfl)
theorem dX6_loadSample_24 : decode cX6_loadSample 24 = .ok (.ifCond .eq 12, 3) := dk_153 0 12 (dk_at dksX6_loadSample_1 0 rfl rfl)
theorem dX6_loadSample_27 : decode cX6_loadSample 27 = .ok (.aload_n 0, 1) := dk_42 (dk_at dksX6_loadSample_1 3 rfl rfl)
theorem dX6_loadSample_28 : decode cX6_loadSample 28 = .ok (.iload_n 1, 1) := dk_27 (dk_at dksX6_loadSample_1 4 rfl rfl)
theorem dX6_loadSample_29 : decode cX6_loadSample 29 = .ok (.iload_n 2, 1) := dk_28 (dk_at dksX6_loadSample_1 5 rfl rfl)
theorem dX6_loadSample_30 : decode cX6_loadSample 30 = .ok (.invokevirtual 374, 3) := dk_182 1 118 (dk_at dksX6_loadSample_1 6 rfl rfl)
theorem dX6_loadSample_33 : decode cX6_loadSample 33 = .ok (.goto 4, 3) := dk_167 0 4 (dk_at dksX6_loadSample_1 9 rfl rfl)
theorem dX6_loadSample_36 : decode cX6_loadSample 36 = .ok (.fconst 0, 1) := dk_11 (dk_at dksX6_loadSample_1 12 rfl rfl)
theorem dX6_loadSample_37 : decode cX6_loadSample 37 = .ok (.freturn, 1) := dk_174 (dk_at dksX6_loadSample_1 13 rfl rfl)
def dkwX6_undo_4 : List UInt8 := [96, 48, 81, 132, 1, 1, 167, 255, 225, 42, 180, 1, 227, 172]
abbrev dktX6_undo_4 : List UInt8 := dkwX6_undo_4 ++ []
def dkwX6_undo_3 : List UInt8 := [17, 0, 160, 162, 0, 30, 42, 180, 0, 27, 27, 42, 180, 0, 60, 17, 0, 160, 42, 180, 1, 227, 104, 27]
abbrev dktX6_undo_3 : List UInt8 := dkwX6_undo_3 ++ dktX6_undo_4
def dkwX6_undo_2 : List UInt8 := [180, 0, 57, 17, 5, 185, 42, 180, 1, 227, 104, 27, 96, 46, 79, 132, 1, 1, 167, 255, 225, 3, 60, 27]
abbrev dktX6_undo_2 : List UInt8 := dkwX6_undo_2 ++ dktX6_undo_3
def dkwX6_undo_1 : List UInt8 := [180, 1, 227, 4, 100, 181, 1, 227, 3, 60, 27, 17, 5, 185, 162, 0, 30, 42, 180, 0, 17, 27, 42]
abbrev dktX6_undo_1 : List UInt8 := dkwX6_undo_1 ++ dktX6_undo_2
def dkwX6_undo_0 : List UInt8 := [42, 42, 180, 1, 227, 158, 0, 7, 4, 167, 0, 4, 3, 182, 0, 77, 154, 0, 5, 3, 172, 42, 89]
abbrev dktX6_undo_0 : List UInt8 := dkwX6_undo_0 ++ dktX6_undo_1
theorem dksX6_undo_0 : cX6_undo.data.toList.drop 0 = dktX6_undo_0 := by decide +kernel
theorem dksX6_undo_1 : cX6_undo.data.toList.drop 23 = dktX6_undo_1 := dk_seg dksX6_undo_0 23 rfl rfl
theorem dksX6_undo_2 : cX6_undo.data.toList.drop 46 = dktX6_undo_2 := dk_seg dksX6_undo_1 23 rfl rfl
theorem dksX6_undo_3 : cX6_undo.data.toList.drop 70 = dktX6_undo_3 := dk_seg dksX6_undo_2 24 rfl rfl
theorem dksX6_undo_4 : cX6_undo.data.toList.drop 94 = dktX6_undo_4 := dk_seg dksX6_undo_3 24 rfl rfl
theorem dX6_undo_0 : decode cX6_undo 0 = .ok (.aload_n 0, 1) := dk_42 (dk_at dksX6_undo_0 0 rfl rfl)
theorem dX6_undo_1 : decode cX6_undo 1 = .ok (.aload_n 0, 1) := dk_42 (dk_at dksX6_undo_0 1 rfl rfl)
theorem dX6_undo_2 : decode cX6_undo 2 = .ok (.getfield 483, 3) := dk_180 1 227 (dk_at dksX6_undo_0 2 rfl rfl)
theorem dX6_undo_5 : decode cX6_undo 5 = .ok (.ifCond .le 7, 3) := dk_158 0 7 (dk_at dksX6_undo_0 5 rfl rfl)
theorem dX6_undo_8 : decode cX6_undo 8 = .ok (.iconst 1, 1) := dk_4 (dk_at dksX6_undo_0 8 rfl rfl)
theorem dX6_undo_9 : decode cX6_undo 9 = .ok (.goto 4, 3) := dk_167 0 4 (dk_at dksX6_undo_0 9 rfl rfl)
theorem dX6_undo_12 : decode cX6_undo 12 = .ok (.iconst 0, 1) := dk_3 (dk_at dksX6_undo_0 12 rfl rfl)
theorem dX6_undo_13 : decode cX6_undo 13 = .ok (.invokevirtual 77, 3) := dk_182 0 77 (dk_at dksX6_undo_0 13 rfl rfl)
theorem dX6_undo_16 : decode cX6_undo 16 = .ok (.ifCond .ne 5, 3) := dk_154 0 5 (dk_at dksX6_undo_0 16 rfl rfl)
theorem dX6_undo_19 : decode cX6_undo 19 = .ok (.iconst 0, 1) := dk_3 (dk_at dksX6_undo_0 19 rfl rfl)
theorem dX6_undo_20 : decode cX6_undo 20 = .ok (.ireturn, 1) := dk_172 (dk_at dksX6_undo_0 20 rfl rfl)
theorem dX6_undo_21 : decode cX6_undo 21 = .ok (.aload_n 0, 1) := dk_42 (dk_at dksX6_undo_0 21 rfl rfl)
theorem dX6_undo_22 : decode cX6_undo 22 = .ok (.dup, 1) := dk_89 (dk_at dksX6_undo_0 22 rfl rfl)
theorem dX6_undo_23 : decode cX6_undo 23 = .ok (.getfield 483, 3) := dk_180 1 227 (dk_at dksX6_undo_1 0 rfl rfl)
theorem dX6_undo_26 : decode cX6_undo 26 = .ok (.iconst 1, 1) := dk_4 (dk_at dksX6_undo_1 3 rfl rfl)
theorem dX6_undo_27 : decode cX6_undo 27 = .ok (.isub, 1) := dk_100 (dk_at dksX6_undo_1 4 rfl rfl)
theorem dX6_undo_28 : decode cX6_undo 28 = .ok (.putfield 483, 3) := dk_181 1 227 (dk_at dksX6_undo_1 5 rfl rfl)
theorem dX6_undo_31 : decode cX6_undo 31 = .ok (.iconst 0, 1) := dk_3 (dk_at dksX6_undo_1 8 rfl rfl)
theorem dX6_undo_32 : decode cX6_undo 32 = .ok (.istore_n 1, 1) := dk_60 (dk_at dksX6_undo_1 9 rfl rfl)
theorem dX6_undo_33 : decode cX6_undo 33 = .ok (.iload_n 1, 1) := dk_27 (dk_at dksX6_undo_1 10 rfl rfl)
theorem dX6_undo_34 : decode cX6_undo 34 = .ok (.sipush 1465, 3) := dk_17 5 185 (dk_at dksX6_undo_1 11 rfl rfl)
theorem dX6_undo_37 : decode cX6_undo 37 = .ok (.if_icmp .ge 30, 3) := dk_162 0 30 (dk_at dksX6_undo_1 14 rfl rfl)
theorem dX6_undo_40 : decode cX6_undo 40 = .ok (.aload_n 0, 1) := dk_42 (dk_at dksX6_undo_1 17 rfl rfl)
theorem dX6_undo_41 : decode cX6_undo 41 = .ok (.getfield 17, 3) := dk_180 0 17 (dk_at dksX6_undo_1 18 rfl rfl)
theorem dX6_undo_44 : decode cX6_undo 44 = .ok (.iload_n 1, 1) := dk_27 (dk_at dksX6_undo_1 21 rfl rfl)
theorem dX6_undo_45 : decode cX6_undo 45 = .ok (.aload_n 0, 1) := dk_42 (dk_at dksX6_undo_1 22 rfl rfl)
theorem dX6_undo_46 : decode cX6_undo 46 = .ok (.getfield 57, 3) := dk_180 0 57 (dk_at dksX6_undo_2 0 rfl rfl)
theorem dX6_undo_49 : decode cX6_undo 49 = .ok (.sipush 1465, 3) := dk_17 5 185 (dk_at dksX6_undo_2 3 rfl rfl)
theorem dX6_undo_52 : decode cX6_undo 52 = .ok (.aload_n 0, 1) := dk_42 (dk_at dksX6_undo_2 6 rfl rfl)
theorem dX6_undo_53 : decode cX6_undo 53 = .ok (.getfield 483, 3) := dk_180 1 227 (dk_at dksX6_undo_2 7 rfl rfl)
theorem dX6_undo_56 : decode cX6_undo 56 = .ok (.imul, 1) := dk_104 (dk_at dksX6_undo_2 10 rfl rfl)
theorem dX6_undo_57 : decode cX6_undo 57 = .ok (.iload_n 1, 1) := dk_27 (dk_at dksX6_undo_2 11 rfl rfl)
theorem dX6_undo_58 : decode cX6_undo 58 = .ok (.iadd, 1) := dk_96 (dk_at dksX6_undo_2 12 rfl rfl)
theorem dX6_undo_59 : decode cX6_undo 59 = .ok (.iaload, 1) := dk_46 (dk_at dksX6_undo_2 13 rfl rfl)
theorem dX6_undo_60 : decode cX6_undo 60 = .ok (.iastore, 1) := dk_79 (dk_at dksX6_undo_2 14 rfl rfl)
theorem dX6_undo_61 : decode cX6_undo 61 = .ok (.iinc 1 1, 3) := dk_132 1 1 (dk_at dksX6_undo_2 15 rfl rfl)
theorem dX6_undo_64 : decode cX6_undo 64 = .ok (.goto (-31), 3) := dk_167 255 225 (dk_at dksX6_undo_2 18 rfl rfl)
theorem dX6_undo_67 : decode cX6_undo 67 = .ok (.iconst 0, 1) := dk_3 (dk_at dksX6_undo_2 21 rfl rfl)
theorem dX6_undo_68 : decode cX6_undo 68 = .ok (.istore_n 1, 1) := dk_60 (dk_at dksX6_undo_2 22 rfl rfl)
theorem dX6_undo_69 : decode cX6_undo 69 = .ok (.iload_n 1, 1) := dk_27 (dk_at dksX6_undo_2 23 rfl rfl)
theorem dX6_undo_70 : decode cX6_undo 70 = .ok (.sipush 160, 3) := dk_17 0 160 (dk_at dksX6_undo_3 0 rfl rfl)
theorem dX6_undo_73 : decode cX6_undo 73 = .ok (.if_icmp .ge 30, 3) := dk_162 0 30 (dk_at dksX6_undo_3 3 rfl rfl)
theorem dX6_undo_76 : decode cX6_undo 76 = .ok (.aload_n 0, 1) := dk_42 (dk_at dksX6_undo_3 6 rfl rfl)
theorem dX6_undo_77 : decode cX6_undo 77 = .ok (.getfield 27, 3) := dk_180 0 27 (dk_at dksX6_undo_3 7 rfl rfl)
theorem dX6_undo_80 : decode cX6_undo 80 = .ok (.iload_n 1, 1) := dk_27 (dk_at dksX6_undo_3 10 rfl rfl)
theorem dX6_undo_81 : decode cX6_undo 81 = .ok (.aload_n 0, 1) := dk_42 (dk_at dksX6_undo_3 11 rfl rfl)
theorem dX6_undo_82 : decode cX6_undo 82 = .ok (.getfield 60, 3) := dk_180 0 60 (dk_at dksX6_undo_3 12 rfl rfl)
theorem dX6_undo_85 : decode cX6_undo 85 = .ok (.sipush 160, 3) := dk_17 0 160 (dk_at dksX6_undo_3 15 rfl rfl)
theorem dX6_undo_88 : decode cX6_undo 88 = .ok (.aload_n 0, 1) := dk_42 (dk_at dksX6_undo_3 18 rfl rfl)
theorem dX6_undo_89 : decode cX6_undo 89 = .ok (.getfield 483, 3) := dk_180 1 227 (dk_at dksX6_undo_3 19 rfl rfl)
theorem dX6_undo_92 : decode cX6_undo 92 = .ok (.imul, 1) := dk_104 (dk_at dksX6_undo_3 22 rfl rfl)
theorem dX6_undo_93 : decode cX6_undo 93 = .ok (.iload_n 1, 1) := dk_27 (dk_at dksX6_undo_3 23 rfl rfl)
theorem dX6_undo_94 : decode cX6_undo 94 = .ok (.iadd, 1) := dk_96 (dk_at dksX6_undo_4 0 rfl rfl)
theorem dX6_undo_95 : decode cX6_undo 95 = .ok (.faload, 1) := dk_48 (dk_at dksX6_undo_4 1 rfl rfl)
theorem dX6_undo_96 : decode cX6_undo 96 = .ok (.fastore, 1) := dk_81 (dk_at dksX6_undo_4 2 rfl rfl)
theorem dX6_undo_97 : decode cX6_undo 97 = .ok (.iinc 1 1, 3) := dk_132 1 1 (dk_at dksX6_undo_4 3 rfl rfl)
theorem dX6_undo_100 : decode cX6_undo 100 = .ok (.goto (-31), 3) := dk_167 255 225 (dk_at dksX6_undo_4 6 rfl rfl)
theorem dX6_undo_103 : decode cX6_undo 103 = .ok (.aload_n 0, 1) := dk_42 (dk_at dksX6_undo_4 9 rfl rfl)
theorem dX6_undo_104 : decode cX6_undo 104 = .ok (.getfield 483, 3) := dk_180 1 227 (dk_at dksX6_undo_4 10 rfl rfl)
theorem dX6_undo_107 : decode cX6_undo 107 = .ok (.ireturn, 1) := dk_172 (dk_at dksX6_undo_4 13 rfl rfl)
def dkwX6_undoCount_0 : List UInt8 := [42, 3, 181, 0, 3, 42, 180, 1, 227, 172]
abbrev dktX6_undoCount_0 : List UInt8 := dkwX6_undoCount_0 ++ []
theorem dksX6_undoCount_0 : cX6_undoCount.data.toList.drop 0 = dktX6_undoCount_0 := by decide +kernel
theorem dX6_undoCount_0 : decode cX6_undoCount 0 = .ok (.aload_n 0, 1) := dk_42 (dk_at dksX6_undoCount_0 0 rfl rfl)
theorem dX6_undoCount_1 : decode cX6_undoCount 1 = .ok (.iconst 0, 1) := dk_3 (dk_at dksX6_undoCount_0 1 rfl rfl)
theorem dX6_undoCount_2 : decode cX6_undoCount 2 = .ok (.putfield 3, 3) := dk_181 0 3 (dk_at dksX6_undoCount_0 2 rfl rfl)
theorem dX6_undoCount_5 : decode cX6_undoCount 5 = .ok (.aload_n 0, 1) := dk_42 (dk_at dksX6_undoCount_0 5 rfl rfl)
theorem dX6_undoCount_6 : decode cX6_undoCount 6 = .ok (.getfield 483, 3) := dk_180 1 227 (dk_at dksX6_undoCount_0 6 rfl rfl)
theorem dX6_undoCount_9 : decode cX6_undoCount 9 = .ok (.ireturn, 1) := dk_172 (dk_at dksX6_undoCount_0 9 rfl rfl)
def dkwX6_writeTrip_6 : List UInt8 := [42, 180, 1, 230, 172]
abbrev dktX6_writeTrip_6 : List UInt8 := dkwX6_writeTrip_6 ++ []
def dkwX6_writeTrip_5 : List UInt8 := [42, 42, 27, 8, 29, 96, 182, 1, 215, 182, 1, 236, 132, 3, 1, 167, 255, 225, 42, 16, 10, 182, 1, 233]
abbrev dktX6_writeTrip_5 : List UInt8 := dkwX6_writeTrip_5 ++ dktX6_writeTrip_6
def dkwX6_writeTrip_4 : List UInt8 := [182, 1, 215, 182, 1, 236, 3, 62, 29, 42, 27, 7, 182, 1, 215, 162, 0, 27, 42, 16, 32, 182, 1, 233]
abbrev dktX6_writeTrip_4 : List UInt8 := dkwX6_writeTrip_4 ++ dktX6_writeTrip_5
def dkwX6_writeTrip_3 : List UInt8 := [182, 1, 233, 42, 42, 27, 3, 182, 1, 215, 182, 1, 236, 42, 16, 32, 182, 1, 233, 42, 42, 27, 5]
abbrev dktX6_writeTrip_3 : List UInt8 := dkwX6_writeTrip_3 ++ dktX6_writeTrip_4
def dkwX6_writeTrip_2 : List UInt8 := [42, 42, 28, 16, 10, 29, 96, 182, 0, 70, 182, 1, 233, 132, 3, 1, 167, 255, 222, 42, 16, 32]
abbrev dktX6_writeTrip_2 : List UInt8 := dkwX6_writeTrip_2 ++ dktX6_writeTrip_3
def dkwX6_writeTrip_1 : List UInt8 := [182, 1, 215, 61, 3, 62, 29, 16, 6, 162, 0, 34, 42, 28, 16, 10, 29, 96, 182, 0, 70, 153, 0, 22]
abbrev dktX6_writeTrip_1 : List UInt8 := dkwX6_writeTrip_1 ++ dktX6_writeTrip_2
def dkwX6_writeTrip_0 : List UInt8 := [42, 42, 27, 182, 1, 212, 182, 0, 77, 154, 0, 5, 3, 172, 42, 3, 181, 1, 230, 42, 27, 4]
abbrev dktX6_writeTrip_0 : List UInt8 := dkwX6_writeTrip_0 ++ dktX6_writeTrip_1
theorem dksX6_writeTrip_0 : cX6_writeTrip.data.toList.drop 0 = dktX6_writeTrip_0 := by decide +kernel
theorem dksX6_writeTrip_1 : cX6_writeTrip.data.toList.drop 22 = dktX6_writeTrip_1 := dk_seg dksX6_writeTrip_0 22 rfl rfl
theorem dksX6_writeTrip_2 : cX6_writeTrip.data.toList.drop 46 = dktX6_writeTrip_2 := dk_seg dksX6_writeTrip_1 24 rfl rfl
theorem dksX6_writeTrip_3 : cX6_writeTrip.data.toList.drop 68 = dktX6_writeTrip_3 := dk_seg dksX6_writeTrip_2 22 rfl rfl
theorem dksX6_writeTrip_4 : cX6_writeTrip.data.toList.drop 91 = dktX6_writeTrip_4 := dk_seg dksX6_writeTrip_3 23 rfl rfl
theorem dksX6_writeTrip_5 : cX6_writeTrip.data.toList.drop 115 = dktX6_writeTrip_5 := dk_seg dksX6_writeTrip_4 24 rfl rfl
theorem dksX6_writeTrip_6 : cX6_writeTrip.data.toList.drop 139 = dktX6_writeTrip_6 := dk_seg dksX6_writeTrip_5 24 rfl rfl
theorem dX6_writeTrip_0 : decode cX6_writeTrip 0 = .ok (.aload_n 0, 1) := dk_42 (dk_at dksX6_writeTrip_0 0 rfl rfl)
theorem dX6_writeTrip_1 : decode cX6_writeTrip 1 = .ok (.aload_n 0, 1) := dk_42 (dk_at dksX6_writeTrip_0 1 rfl rfl)
theorem dX6_writeTrip_2 : decode cX6_writeTrip 2 = .ok (.iload_n 1, 1) := dk_27 (dk_at dksX6_writeTrip_0 2 rfl rfl)
theorem dX6_writeTrip_3 : decode cX6_writeTrip 3 = .ok (.invokevirtual 468, 3) := dk_182 1 212 (dk_at dksX6_writeTrip_0 3 rfl rfl)
theorem dX6_writeTrip_6 : decode cX6_writeTrip 6 = .ok (.invokevirtual 77, 3) := dk_182 0 77 (dk_at dksX6_writeTrip_0 6 rfl rfl)
theorem dX6_writeTrip_9 : decode cX6_writeTrip 9 = .ok (.ifCond .ne 5, 3) := dk_154 0 5 (dk_at dksX6_writeTrip_0 9 rfl rfl)
theorem dX6_writeTrip_12 : decode cX6_writeTrip 12 = .ok (.iconst 0, 1) := dk_3 (dk_at dksX6_writeTrip_0 12 rfl rfl)
theorem dX6_writeTrip_13 : decode cX6_writeTrip 13 = .ok (.ireturn, 1) := dk_172 (dk_at dksX6_writeTrip_0 13 rfl rfl)
theorem dX6_writeTrip_14 : decode cX6_writeTrip 14 = .ok (.aload_n 0, 1) := dk_42 (dk_at dksX6_writeTrip_0 14 rfl rfl)
theorem dX6_writeTrip_15 : decode cX6_writeTrip 15 = .ok (.iconst 0, 1) := dk_3 (dk_at dksX6_writeTrip_0 15 rfl rfl)
theorem dX6_writeTrip_16 : decode cX6_writeTrip 16 = .ok (.putfield 486, 3) := dk_181 1 230 (dk_at dksX6_writeTrip_0 16 rfl rfl)
theorem dX6_writeTrip_19 : decode cX6_writeTrip 19 = .ok (.aload_n 0, 1) := dk_42 (dk_at dksX6_writeTrip_0 19 rfl rfl)
theorem dX6_writeTrip_20 : decode cX6_writeTrip 20 = .ok (.iload_n 1, 1) := dk_27 (dk_at dksX6_writeTrip_0 20 rfl rfl)
theorem dX6_writeTrip_21 : decode cX6_writeTrip 21 = .ok (.iconst 1, 1) := dk_4 (dk_at dksX6_writeTrip_0 21 rfl rfl)
theorem dX6_writeTrip_22 : decode cX6_writeTrip 22 = .ok (.invokevirtual 471, 3) := dk_182 1 215 (dk_at dksX6_writeTrip_1 0 rfl rfl)
theorem dX6_writeTrip_25 : decode cX6_writeTrip 25 = .ok (.istore_n 2, 1) := dk_61 (dk_at dksX6_writeTrip_1 3 rfl rfl)
theorem dX6_writeTrip_26 : decode cX6_writeTrip 26 = .ok (.iconst 0, 1) := dk_3 (dk_at dksX6_writeTrip_1 4 rfl rfl)
theorem dX6_writeTrip_27 : decode cX6_writeTrip 27 = .ok (.istore_n 3, 1) := dk_62 (dk_at dksX6_writeTrip_1 5 rfl rfl)
theorem dX6_writeTrip_28 : decode cX6_writeTrip 28 = .ok (.iload_n 3, 1) := dk_29 (dk_at dksX6_writeTrip_1 6 rfl rfl)
theorem dX6_writeTrip_29 : decode cX6_writeTrip 29 = .ok (.bipush 6, 2) := dk_16 6 (dk_at dksX6_writeTrip_1 7 rfl rfl)
theorem dX6_writeTrip_31 : decode cX6_writeTrip 31 = .ok (.if_icmp .ge 34, 3) := dk_162 0 34 (dk_at dksX6_writeTrip_1 9 rfl rfl)
theorem dX6_writeTrip_34 : decode cX6_writeTrip 34 = .ok (.aload_n 0, 1) := dk_42 (dk_at dksX6_writeTrip_1 12 rfl rfl)
theorem dX6_writeTrip_35 : decode cX6_writeTrip 35 = .ok (.iload_n 2, 1) := dk_28 (dk_at dksX6_writeTrip_1 13 rfl rfl)
theorem dX6_writeTrip_36 : decode cX6_writeTrip 36 = .ok (.bipush 10, 2) := dk_16 10 (dk_at dksX6_writeTrip_1 14 rfl rfl)
theorem dX6_writeTrip_38 : decode cX6_writeTrip 38 = .ok (.iload_n 3, 1) := dk_29 (dk_at dksX6_writeTrip_1 16 rfl rfl)
theorem dX6_writeTrip_39 : decode cX6_writeTrip 39 = .ok (.iadd, 1) := dk_96 (dk_at dksX6_writeTrip_1 17 rfl rfl)
theorem dX6_writeTrip_40 : decode cX6_writeTrip 40 = .ok (.invokevirtual 70, 3) := dk_182 0 70 (dk_at dksX6_writeTrip_1 18 rfl rfl)
theorem dX6_writeTrip_43 : decode cX6_writeTrip 43 = .ok (.ifCond .eq 22, 3) := dk_153 0 22 (dk_at dksX6_writeTrip_1 21 rfl rfl)
theorem dX6_writeTrip_46 : decode cX6_writeTrip 46 = .ok (.aload_n 0, 1) := dk_42 (dk_at dksX6_writeTrip_2 0 rfl rfl)
theorem dX6_writeTrip_47 : decode cX6_writeTrip 47 = .ok (.aload_n 0, 1) := dk_42 (dk_at dksX6_writeTrip_2 1 rfl rfl)
theorem dX6_writeTrip_48 : decode cX6_writeTrip 48 = .ok (.iload_n 2, 1) := dk_28 (dk_at dksX6_writeTrip_2 2 rfl rfl)
theorem dX6_writeTrip_49 : decode cX6_writeTrip 49 = .ok (.bipush 10, 2) := dk_16 10 (dk_at dksX6_writeTrip_2 3 rfl rfl)
theorem dX6_writeTrip_51 : decode cX6_writeTrip 51 = .ok (.iload_n 3, 1) := dk_29 (dk_at dksX6_writeTrip_2 5 rfl rfl)
theorem dX6_writeTrip_52 : decode cX6_writeTrip 52 = .ok (.iadd, 1) := dk_96 (dk_at dksX6_writeTrip_2 6 rfl rfl)
theorem dX6_writeTrip_53 : decode cX6_writeTrip 53 = .ok (.invokevirtual 70, 3) := dk_182 0 70 (dk_at dksX6_writeTrip_2 7 rfl rfl)
theorem dX6_writeTrip_56 : decode cX6_writeTrip 56 = .ok (.invokevirtual 489, 3) := dk_182 1 233 (dk_at dksX6_writeTrip_2 10 rfl rfl)
theorem dX6_writeTrip_59 : decode cX6_writeTrip 59 = .ok (.iinc 3 1, 3) := dk_132 3 1 (dk_at dksX6_writeTrip_2 13 rfl rfl)
theorem dX6_writeTrip_62 : decode cX6_writeTrip 62 = .ok (.goto (-34), 3) := dk_167 255 222 (dk_at dksX6_writeTrip_2 16 rfl rfl)
theorem dX6_writeTrip_65 : decode cX6_writeTrip 65 = .ok (.aload_n 0, 1) := dk_42 (dk_at dksX6_writeTrip_2 19 rfl rfl)
theorem dX6_writeTrip_66 : decode cX6_writeTrip 66 = .ok (.bipush 32, 2) := dk_16 32 (dk_at dksX6_writeTrip_2 20 rfl rfl)
theorem dX6_writeTrip_68 : decode cX6_writeTrip 68 = .ok (.invokevirtual 489, 3) := dk_182 1 233 (dk_at dksX6_writeTrip_3 0 rfl rfl)
theorem dX6_writeTrip_71 : decode cX6_writeTrip 71 = .ok (.aload_n 0, 1) := dk_42 (dk_at dksX6_writeTrip_3 3 rfl rfl)
theorem dX6_writeTrip_72 : decode cX6_writeTrip 72 = .ok (.aload_n 0, 1) := dk_42 (dk_at dksX6_writeTrip_3 4 rfl rfl)
theorem dX6_writeTrip_73 : decode cX6_writeTrip 73 = .ok (.iload_n 1, 1) := dk_27 (dk_at dksX6_writeTrip_3 5 rfl rfl)
theorem dX6_writeTrip_74 : decode cX6_writeTrip 74 = .ok (.iconst 0, 1) := dk_3 (dk_at dksX6_writeTrip_3 6 rfl rfl)
theorem dX6_writeTrip_75 : decode cX6_writeTrip 75 = .ok (.invokevirtual 471, 3) := dk_182 1 215 (dk_at dksX6_writeTrip_3 7 rfl rfl)
theorem dX6_writeTrip_78 : decode cX6_writeTrip 78 = .ok (.invokevirtual 492, 3) := dk_182 1 236 (dk_at dksX6_writeTrip_3 10 rfl rfl)
theorem dX6_writeTrip_81 : decode cX6_writeTrip 81 = .ok (.aload_n 0, 1) := dk_42 (dk_at dksX6_writeTrip_3 13 rfl rfl)
theorem dX6_writeTrip_82 : decode cX6_writeTrip 82 = .ok (.bipush 32, 2) := dk_16 32 (dk_at dksX6_writeTrip_3 14 rfl rfl)
theorem dX6_writeTrip_84 : decode cX6_writeTrip 84 = .ok (.invokevirtual 489, 3) := dk_182 1 233 (dk_at dksX6_writeTrip_3 16 rfl rfl)
theorem dX6_writeTrip_87 : decode cX6_writeTrip 87 = .ok (.aload_n 0, 1) := dk_42 (dk_at dksX6_writeTrip_3 19 rfl rfl)
theorem dX6_writeTrip_88 : decode cX6_writeTrip 88 = .ok (.aload_n 0, 1) := dk_42 (dk_at dksX6_writeTrip_3 20 rfl rfl)
theorem dX6_writeTrip_89 : decode cX6_writeTrip 89 = .ok (.iload_n 1, 1) := dk_27 (dk_at dksX6_writeTrip_3 21 rfl rfl)
theorem dX6_writeTrip_90 : decode cX6_writeTrip 90 = .ok (.iconst 2, 1) := dk_5 (dk_at dksX6_writeTrip_3 22 rfl rfl)
theorem dX6_writeTrip_91 : decode cX6_writeTrip 91 = .ok (.invokevirtual 471, 3) := dk_182 1 215 (dk_at dksX6_writeTrip_4 0 rfl rfl)
theorem dX6_writeTrip_94 : decode cX6_writeTrip 94 = .ok (.invokevirtual 492, 3) := dk_182 1 236 (dk_at dksX6_writeTrip_4 3 rfl rfl)
theorem dX6_writeTrip_97 : decode cX6_writeTrip 97 = .ok (.iconst 0, 1) := dk_3 (dk_at dksX6_writeTrip_4 6 rfl rfl)
theorem dX6_writeTrip_98 : decode cX6_writeTrip 98 = .ok (.istore_n 3, 1) := dk_62 (dk_at dksX6_writeTrip_4 7 rfl rfl)
theorem dX6_writeTrip_99 : decode cX6_writeTrip 99 = .ok (.iload_n 3, 1) := dk_29 (dk_at dksX6_writeTrip_4 8 rfl rfl)
theorem dX6_writeTrip_100 : decode cX6_writeTrip 100 = .ok (.aload_n 0, 1) := dk_42 (dk_at dksX6_writeTrip_4 9 rfl rfl)
theorem dX6_writeTrip_101 : decode cX6_writeTrip 101 = .ok (.iload_n 1, 1) := dk_27 (dk_at dksX6_writeTrip_4 10 rfl rfl)
theorem dX6_writeTrip_102 : decode cX6_writeTrip 102 = .ok (.iconst 4, 1) := dk_7 (dk_at dksX6_writeTrip_4 11 rfl rfl)
theorem dX6_writeTrip_103 : decode cX6_writeTrip 103 = .ok (.invokevirtual 471, 3) := dk_182 1 215 (dk_at dksX6_writeTrip_4 12 rfl rfl)
theorem dX6_writeTrip_106 : decode cX6_writeTrip 106 = .ok (.if_icmp .ge 27, 3) := dk_162 0 27 (dk_at dksX6_writeTrip_4 15 rfl rfl)
theorem dX6_writeTrip_109 : decode cX6_writeTrip 109 = .ok (.aload_n 0, 1) := dk_42 (dk_at dksX6_writeTrip_4 18 rfl rfl)
theorem dX6_writeTrip_110 : decode cX6_writeTrip 110 = .ok (.bipush 32, 2) := dk_16 32 (dk_at dksX6_writeTrip_4 19 rfl rfl)
theorem dX6_writeTrip_112 : decode cX6_writeTrip 112 = .ok (.invokevirtual 489, 3) := dk_182 1 233 (dk_at dksX6_writeTrip_4 21 rfl rfl)
theorem dX6_writeTrip_115 : decode cX6_writeTrip 115 = .ok (.aload_n 0, 1) := dk_42 (dk_at dksX6_writeTrip_5 0 rfl rfl)
theorem dX6_writeTrip_116 : decode cX6_writeTrip 116 = .ok (.aload_n 0, 1) := dk_42 (dk_at dksX6_writeTrip_5 1 rfl rfl)
theorem dX6_writeTrip_117 : decode cX6_writeTrip 117 = .ok (.iload_n 1, 1) := dk_27 (dk_at dksX6_writeTrip_5 2 rfl rfl)
theorem dX6_writeTrip_118 : decode cX6_writeTrip 118 = .ok (.iconst 5, 1) := dk_8 (dk_at dksX6_writeTrip_5 3 rfl rfl)
theorem dX6_writeTrip_119 : decode cX6_writeTrip 119 = .ok (.iload_n 3, 1) := dk_29 (dk_at dksX6_writeTrip_5 4 rfl rfl)
theorem dX6_writeTrip_120 : decode cX6_writeTrip 120 = .ok (.iadd, 1) := dk_96 (dk_at dksX6_writeTrip_5 5 rfl rfl)
theorem dX6_writeTrip_121 : decode cX6_writeTrip 121 = .ok (.invokevirtual 471, 3) := dk_182 1 215 (dk_at dksX6_writeTrip_5 6 rfl rfl)
theorem dX6_writeTrip_124 : decode cX6_writeTrip 124 = .ok (.invokevirtual 492, 3) := dk_182 1 236 (dk_at dksX6_writeTrip_5 9 rfl rfl)
theorem dX6_writeTrip_127 : decode cX6_writeTrip 127 = .ok (.iinc 3 1, 3) := dk_132 3 1 (dk_at dksX6_writeTrip_5 12 rfl rfl)
theorem dX6_writeTrip_130 : decode cX6_writeTrip 130 = .ok (.goto (-31), 3) := dk_167 255 225 (dk_at dksX6_writeTrip_5 15 rfl rfl)
theorem dX6_writeTrip_133 : decode cX6_writeTrip 133 = .ok (.aload_n 0, 1) := dk_42 (dk_at dksX6_writeTrip_5 18 rfl rfl)
theorem dX6_writeTrip_134 : decode cX6_writeTrip 134 = .ok (.bipush 10, 2) := dk_16 10 (dk_at dksX6_writeTrip_5 19 rfl rfl)
theorem dX6_writeTrip_136 : decode cX6_writeTrip 136 = .ok (.invokevirtual 489, 3) := dk_182 1 233 (dk_at dksX6_writeTrip_5 21 rfl rfl)
theorem dX6_writeTrip_139 : decode cX6_writeTrip 139 = .ok (.aload_n 0, 1) := dk_42 (dk_at dksX6_writeTrip_6 0 rfl rfl)
theorem dX6_writeTrip_140 : decode cX6_writeTrip 140 = .ok (.getfield 486, 3) := dk_180 1 230 (dk_at dksX6_writeTrip_6 1 rfl rfl)
theorem dX6_writeTrip_143 : decode cX6_writeTrip 143 = .ok (.ireturn, 1) := dk_172 (dk_at dksX6_writeTrip_6 4 rfl rfl)
def dkwX6_write_0 : List UInt8 := [42, 180, 0, 63, 42, 180, 1, 230, 27, 145, 84, 42, 89, 180, 1, 230, 4, 96, 181, 1, 230, 177]
abbrev dktX6_write_0 : List UInt8 := dkwX6_write_0 ++ []
theorem dksX6_write_0 : cX6_write.data.toList.drop 0 = dktX6_write_0 := by decide +kernel
theorem dX6_write_0 : decode cX6_write 0 = .ok (.aload_n 0, 1) := dk_42 (dk_at dksX6_write_0 0 rfl rfl)
theorem dX6_write_1 : decode cX6_write 1 = .ok (.getfield 63, 3) := dk_180 0 63 (dk_at dksX6_write_0 1 rfl rfl)
theorem dX6_write_4 : decode cX6_write 4 = .ok (.aload_n 0, 1) := dk_42 (dk_at dksX6_write_0 4 rfl rfl)
theorem dX6_write_5 : decode cX6_write 5 = .ok (.getfield 486, 3) := dk_180 1 230 (dk_at dksX6_write_0 5 rfl rfl)
theorem dX6_write_8 : decode cX6_write 8 = .ok (.iload_n 1, 1) := dk_27 (dk_at dksX6_write_0 8 rfl rfl)
theorem dX6_write_9 : decode cX6_write 9 = .ok (.i2b, 1) := dk_145 (dk_at dksX6_write_0 9 rfl rfl)
theorem dX6_write_10 : decode cX6_write 10 = .ok (.bastore, 1) := dk_84 (dk_at dksX6_write_0 10 rfl rfl)
theorem dX6_write_11 : decode cX6_write 11 = .ok (.aload_n 0, 1) := dk_42 (dk_at dksX6_write_0 11 rfl rfl)
theorem dX6_write_12 : decode cX6_write 12 = .ok (.dup, 1) := dk_89 (dk_at dksX6_write_0 12 rfl rfl)
theorem dX6_write_13 : decode cX6_write 13 = .ok (.getfield 486, 3) := dk_180 1 230 (dk_at dksX6_write_0 13 rfl rfl)
theorem dX6_write_16 : decode cX6_write 16 = .ok (.iconst 1, 1) := dk_4 (dk_at dksX6_write_0 16 rfl rfl)
theorem dX6_write_17 : decode cX6_write 17 = .ok (.iadd, 1) := dk_96 (dk_at dksX6_write_0 17 rfl rfl)
theorem dX6_write_18 : decode cX6_write 18 = .ok (.putfield 486, 3) := dk_181 1 230 (dk_at dksX6_write_0 18 rfl rfl)
theorem dX6_write_21 : decode cX6_write 21 = .ok (.return_, 1) := dk_177 (dk_at dksX6_write_0 21 rfl rfl)
def dkwX6_writeNumber_1 : List UInt8 := [42, 16, 48, 27, 29, 108, 16, 10, 112, 96, 182, 1, 233, 29, 16, 10, 108, 62, 167, 255, 234, 177]
abbrev dktX6_writeNumber_1 : List UInt8 := dkwX6_writeNumber_1 ++ []
def dkwX6_writeNumber_0 : List UInt8 := [4, 61, 27, 28, 108, 16, 10, 161, 0, 11, 28, 16, 10, 104, 61, 167, 255, 243, 28, 62, 29, 158, 0, 24]
abbrev dktX6_writeNumber_0 : List UInt8 := dkwX6_writeNumber_0 ++ dktX6_writeNumber_1
theorem dksX6_writeNumber_0 : cX6_writeNumber.data.toList.drop 0 = dktX6_writeNumber_0 := by decide +kernel
theorem dksX6_writeNumber_1 : cX6_writeNumber.data.toList.drop 24 = dktX6_writeNumber_1 := dk_seg dksX6_writeNumber_0 24 rfl rfl
theorem dX6_writeNumber_0 : decode cX6_writeNumber 0 = .ok (.iconst 1, 1) := dk_4 (dk_at dksX6_writeNumber_0 0 rfl rfl)
theorem dX6_writeNumber_1 : decode cX6_writeNumber 1 = .ok (.istore_n 2, 1) := dk_61 (dk_at dksX6_writeNumber_0 1 rfl rfl)
theorem dX6_writeNumber_2 : decode cX6_writeNumber 2 = .ok (.iload_n 1, 1) := dk_27 (dk_at dksX6_writeNumber_0 2 rfl rfl)
theorem dX6_writeNumber_3 : decode cX6_writeNumber 3 = .ok (.iload_n 2, 1) := dk_28 (dk_at dksX6_writeNumber_0 3 rfl rfl)
theorem dX6_writeNumber_4 : decode cX6_writeNumber 4 = .ok (.idiv, 1) := dk_108 (dk_at dksX6_writeNumber_0 4 rfl rfl)
theorem dX6_writeNumber_5 : decode cX6_writeNumber 5 = .ok (.bipush 10, 2) := dk_16 10 (dk_at dksX6_writeNumber_0 5 rfl rfl)
theorem dX6_writeNumber_7 : decode cX6_writeNumber 7 = .ok (.if_icmp .lt 11, 3) := dk_161 0 11 (dk_at dksX6_writeNumber_0 7 rfl rfl)
theorem dX6_writeNumber_10 : decode cX6_writeNumber 10 = .ok (.iload_n 2, 1) := dk_28 (dk_at dksX6_writeNumber_0 10 rfl rfl)
theorem dX6_writeNumber_11 : decode cX6_writeNumber 11 = .ok (.bipush 10, 2) := dk_16 10 (dk_at dksX6_writeNumber_0 11 rfl rfl)
theorem dX6_writeNumber_13 : decode cX6_writeNumber 13 = .ok (.imul, 1) := dk_104 (dk_at dksX6_writeNumber_0 13 rfl rfl)
theorem dX6_writeNumber_14 : decode cX6_writeNumber 14 = .ok (.istore_n 2, 1) := dk_61 (dk_at dksX6_writeNumber_0 14 rfl rfl)
theorem dX6_writeNumber_15 : decode cX6_writeNumber 15 = .ok (.goto (-13), 3) := dk_167 255 243 (dk_at dksX6_writeNumber_0 15 rfl rfl)
theorem dX6_writeNumber_18 : decode cX6_writeNumber 18 = .ok (.iload_n 2, 1) := dk_28 (dk_at dksX6_writeNumber_0 18 rfl rfl)
theorem dX6_writeNumber_19 : decode cX6_writeNumber 19 = .ok (.istore_n 3, 1) := dk_62 (dk_at dksX6_writeNumber_0 19 rfl rfl)
theorem dX6_writeNumber_20 : decode cX6_writeNumber 20 = .ok (.iload_n 3, 1) := dk_29 (dk_at dksX6_writeNumber_0 20 rfl rfl)
theorem dX6_writeNumber_21 : decode cX6_writeNumber 21 = .ok (.ifCond .le 24, 3) := dk_158 0 24 (dk_at dksX6_writeNumber_0 21 rfl rfl)
theorem dX6_writeNumber_24 : decode cX6_writeNumber 24 = .ok (.aload_n 0, 1) := dk_42 (dk_at dksX6_writeNumber_1 0 rfl rfl)
theorem dX6_writeNumber_25 : decode cX6_writeNumber 25 = .ok (.bipush 48, 2) := dk_16 48 (dk_at dksX6_writeNumber_1 1 rfl rfl)
theorem dX6_writeNumber_27 : decode cX6_writeNumber 27 = .ok (.iload_n 1, 1) := dk_27 (dk_at dksX6_writeNumber_1 3 rfl rfl)
theorem dX6_writeNumber_28 : decode cX6_writeNumber 28 = .ok (.iload_n 3, 1) := dk_29 (dk_at dksX6_writeNumber_1 4 rfl rfl)
theorem dX6_writeNumber_29 : decode cX6_writeNumber 29 = .ok (.idiv, 1) := dk_108 (dk_at dksX6_writeNumber_1 5 rfl rfl)
theorem dX6_writeNumber_30 : decode cX6_writeNumber 30 = .ok (.bipush 10, 2) := dk_16 10 (dk_at dksX6_writeNumber_1 6 rfl rfl)
theorem dX6_writeNumber_32 : decode cX6_writeNumber 32 = .ok (.irem, 1) := dk_112 (dk_at dksX6_writeNumber_1 8 rfl rfl)
theorem dX6_writeNumber_33 : decode cX6_writeNumber 33 = .ok (.iadd, 1) := dk_96 (dk_at dksX6_writeNumber_1 9 rfl rfl)
theorem dX6_writeNumber_34 : decode cX6_writeNumber 34 = .ok (.invokevirtual 489, 3) := dk_182 1 233 (dk_at dksX6_writeNumber_1 10 rfl rfl)
theorem dX6_writeNumber_37 : decode cX6_writeNumber 37 = .ok (.iload_n 3, 1) := dk_29 (dk_at dksX6_writeNumber_1 13 rfl rfl)
theorem dX6_writeNumber_38 : decode cX6_writeNumber 38 = .ok (.bipush 10, 2) := dk_16 10 (dk_at dksX6_writeNumber_1 14 rfl rfl)
theorem dX6_writeNumber_40 : decode cX6_writeNumber 40 = .ok (.idiv, 1) := dk_108 (dk_at dksX6_writeNumber_1 16 rfl rfl)
theorem dX6_writeNumber_41 : decode cX6_writeNumber 41 = .ok (.istore_n 3, 1) := dk_62 (dk_at dksX6_writeNumber_1 17 rfl rfl)
theorem dX6_writeNumber_42 : decode cX6_writeNumber 42 = .ok (.goto (-22), 3) := dk_167 255 234 (dk_at dksX6_writeNumber_1 18 rfl rfl)
theorem dX6_writeNumber_45 : decode cX6_writeNumber 45 = .ok (.return_, 1) := dk_177 (dk_at dksX6_writeNumber_1 21 rfl rfl)
def dkwX6_outputByte_1 : List UInt8 := [27, 51, 167, 0, 4, 3, 172]
abbrev dktX6_outputByte_1 : List UInt8 := dkwX6_outputByte_1 ++ []
def dkwX6_outputByte_0 : List UInt8 := [42, 27, 133, 9, 42, 180, 1, 230, 4, 100, 133, 184, 0, 66, 182, 0, 77, 153, 0, 12, 42, 180, 0, 63]
abbrev dktX6_outputByte_0 : List UInt8 := dkwX6_outputByte_0 ++ dktX6_outputByte_1
theorem dksX6_outputByte_0 : cX6_outputByte.data.toList.drop 0 = dktX6_outputByte_0 := by decide +kernel
theorem dksX6_outputByte_1 : cX6_outputByte.data.toList.drop 24 = dktX6_outputByte_1 := dk_seg dksX6_outputByte_0 24 rfl rfl
theorem dX6_outputByte_0 : decode cX6_outputByte 0 = .ok (.aload_n 0, 1) := dk_42 (dk_at dksX6_outputByte_0 0 rfl rfl)
theorem dX6_outputByte_1 : decode cX6_outputByte 1 = .ok (.iload_n 1, 1) := dk_27 (dk_at dksX6_outputByte_0 1 rfl rfl)
theorem dX6_outputByte_2 : decode cX6_outputByte 2 = .ok (.i2l, 1) := dk_133 (dk_at dksX6_outputByte_0 2 rfl rfl)
theorem dX6_outputByte_3 : decode cX6_outputByte 3 = .ok (.lconst 0, 1) := dk_9 (dk_at dksX6_outputByte_0 3 rfl rfl)
theorem dX6_outputByte_4 : decode cX6_outputByte 4 = .ok (.aload_n 0, 1) := dk_42 (dk_at dksX6_outputByte_0 4 rfl rfl)
theorem dX6_outputByte_5 : decode cX6_outputByte 5 = .ok (.getfield 486, 3) := dk_180 1 230 (dk_at dksX6_outputByte_0 5 rfl rfl)
theorem dX6_outputByte_8 : decode cX6_outputByte 8 = .ok (.iconst 1, 1) := dk_4 (dk_at dksX6_outputByte_0 8 rfl rfl)
theorem dX6_outputByte_9 : decode cX6_outputByte 9 = .ok (.isub, 1) := dk_100 (dk_at dksX6_outputByte_0 9 rfl rfl)
theorem dX6_outputByte_10 : decode cX6_outputByte 10 = .ok (.i2l, 1) := dk_133 (dk_at dksX6_outputByte_0 10 rfl rfl)
theorem dX6_outputByte_11 : decode cX6_outputByte 11 = .ok (.invokestatic 66, 3) := dk_184 0 66 (dk_at dksX6_outputByte_0 11 rfl rfl)
theorem dX6_outputByte_14 : decode cX6_outputByte 14 = .ok (.invokevirtual 77, 3) := dk_182 0 77 (dk_at dksX6_outputByte_0 14 rfl rfl)
theorem dX6_outputByte_17 : decode cX6_outputByte 17 = .ok (.ifCond .eq 12, 3) := dk_153 0 12 (dk_at dksX6_outputByte_0 17 rfl rfl)
theorem dX6_outputByte_20 : decode cX6_outputByte 20 = .ok (.aload_n 0, 1) := dk_42 (dk_at dksX6_outputByte_0 20 rfl rfl)
theorem dX6_outputByte_21 : decode cX6_outputByte 21 = .ok (.getfield 63, 3) := dk_180 0 63 (dk_at dksX6_outputByte_0 21 rfl rfl)
theorem dX6_outputByte_24 : decode cX6_outputByte 24 = .ok (.iload_n 1, 1) := dk_27 (dk_at dksX6_outputByte_1 0 rfl rfl)
theorem dX6_outputByte_25 : decode cX6_outputByte 25 = .ok (.baload, 1) := dk_51 (dk_at dksX6_outputByte_1 1 rfl rfl)
theorem dX6_outputByte_26 : decode cX6_outputByte 26 = .ok (.goto 4, 3) := dk_167 0 4 (dk_at dksX6_outputByte_1 2 rfl rfl)
theorem dX6_outputByte_29 : decode cX6_outputByte 29 = .ok (.iconst 0, 1) := dk_3 (dk_at dksX6_outputByte_1 5 rfl rfl)
theorem dX6_outputByte_30 : decode cX6_outputByte 30 = .ok (.ireturn, 1) := dk_172 (dk_at dksX6_outputByte_1 6 rfl rfl)
