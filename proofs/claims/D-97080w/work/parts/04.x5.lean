set_option maxRecDepth 100000
abbrev cX5_init : ByteArray := prog_18_method_1_code
def yX5_init : MethodName := ⟨RX5, "<init>", "()V"⟩
def dkwX5_init_8 : List UInt8 := [167, 255, 241, 177]
abbrev dktX5_init_8 : List UInt8 := dkwX5_init_8 ++ []
def dkwX5_init_7 : List UInt8 := [180, 0, 7, 8, 4, 79, 3, 60, 27, 7, 162, 0, 16, 42, 180, 0, 19, 27, 2, 79, 132, 1, 1]
abbrev dktX5_init_7 : List UInt8 := dkwX5_init_7 ++ dktX5_init_8
def dkwX5_init_6 : List UInt8 := [16, 24, 188, 10, 181, 0, 61, 42, 16, 60, 188, 10, 181, 0, 64, 42, 16, 60, 188, 10, 181, 0, 67, 42]
abbrev dktX5_init_6 : List UInt8 := dkwX5_init_6 ++ dktX5_init_7
def dkwX5_init_5 : List UInt8 := [188, 10, 181, 0, 52, 42, 17, 0, 128, 188, 10, 181, 0, 55, 42, 16, 100, 188, 10, 181, 0, 58, 42]
abbrev dktX5_init_5 : List UInt8 := dkwX5_init_5 ++ dktX5_init_6
def dkwX5_init_4 : List UInt8 := [188, 10, 181, 0, 43, 42, 16, 9, 188, 10, 181, 0, 46, 42, 16, 69, 188, 10, 181, 0, 49, 42, 16, 96]
abbrev dktX5_init_4 : List UInt8 := dkwX5_init_4 ++ dktX5_init_5
def dkwX5_init_3 : List UInt8 := [188, 10, 181, 0, 34, 42, 8, 188, 10, 181, 0, 37, 42, 16, 120, 188, 10, 181, 0, 40, 42, 16, 9]
abbrev dktX5_init_3 : List UInt8 := dkwX5_init_3 ++ dktX5_init_4
def dkwX5_init_2 : List UInt8 := [16, 96, 188, 10, 181, 0, 25, 42, 8, 188, 10, 181, 0, 28, 42, 8, 188, 10, 181, 0, 31, 42, 8]
abbrev dktX5_init_2 : List UInt8 := dkwX5_init_2 ++ dktX5_init_3
def dkwX5_init_1 : List UInt8 := [17, 11, 253, 188, 10, 181, 0, 16, 42, 7, 188, 10, 181, 0, 19, 42, 7, 188, 10, 181, 0, 22, 42]
abbrev dktX5_init_1 : List UInt8 := dkwX5_init_1 ++ dktX5_init_2
def dkwX5_init_0 : List UInt8 := [42, 183, 0, 1, 42, 17, 11, 253, 188, 10, 181, 0, 7, 42, 17, 11, 253, 188, 10, 181, 0, 13, 42]
abbrev dktX5_init_0 : List UInt8 := dkwX5_init_0 ++ dktX5_init_1
theorem dksX5_init_0 : cX5_init.data.toList.drop 0 = dktX5_init_0 := by decide +kernel
theorem dksX5_init_1 : cX5_init.data.toList.drop 23 = dktX5_init_1 := dk_seg dksX5_init_0 23 rfl rfl
theorem dksX5_init_2 : cX5_init.data.toList.drop 46 = dktX5_init_2 := dk_seg dksX5_init_1 23 rfl rfl
theorem dksX5_init_3 : cX5_init.data.toList.drop 69 = dktX5_init_3 := dk_seg dksX5_init_2 23 rfl rfl
theorem dksX5_init_4 : cX5_init.data.toList.drop 92 = dktX5_init_4 := dk_seg dksX5_init_3 23 rfl rfl
theorem dksX5_init_5 : cX5_init.data.toList.drop 116 = dktX5_init_5 := dk_seg dksX5_init_4 24 rfl rfl
theorem dksX5_init_6 : cX5_init.data.toList.drop 139 = dktX5_init_6 := dk_seg dksX5_init_5 23 rfl rfl
theorem dksX5_init_7 : cX5_init.data.toList.drop 163 = dktX5_init_7 := dk_seg dksX5_init_6 24 rfl rfl
theorem dksX5_init_8 : cX5_init.data.toList.drop 186 = dktX5_init_8 := dk_seg dksX5_init_7 23 rfl rfl
theorem dX5_init_0 : decode cX5_init 0 = .ok (.aload_n 0, 1) := dk_42 (dk_at dksX5_init_0 0 rfl rfl)
theorem dX5_init_1 : decode cX5_init 1 = .ok (.invokespecial 1, 3) := dk_183 0 1 (dk_at dksX5_init_0 1 rfl rfl)
theorem dX5_init_4 : decode cX5_init 4 = .ok (.aload_n 0, 1) := dk_42 (dk_at dksX5_init_0 4 rfl rfl)
theorem dX5_init_5 : decode cX5_init 5 = .ok (.sipush 3069, 3) := dk_17 11 253 (dk_at dksX5_init_0 5 rfl rfl)
theorem dX5_init_8 : decode cX5_init 8 = .ok (.newarray .int, 2) := dk_188_10 (dk_at dksX5_init_0 8 rfl rfl)
theorem dX5_init_10 : decode cX5_init 10 = .ok (.putfield 7, 3) := dk_181 0 7 (dk_at dksX5_init_0 10 rfl rfl)
theorem dX5_init_13 : decode cX5_init 13 = .ok (.aload_n 0, 1) := dk_42 (dk_at dksX5_init_0 13 rfl rfl)
theorem dX5_init_14 : decode cX5_init 14 = .ok (.sipush 3069, 3) := dk_17 11 253 (dk_at dksX5_init_0 14 rfl rfl)
theorem dX5_init_17 : decode cX5_init 17 = .ok (.newarray .int, 2) := dk_188_10 (dk_at dksX5_init_0 17 rfl rfl)
theorem dX5_init_19 : decode cX5_init 19 = .ok (.putfield 13, 3) := dk_181 0 13 (dk_at dksX5_init_0 19 rfl rfl)
theorem dX5_init_22 : decode cX5_init 22 = .ok (.aload_n 0, 1) := dk_42 (dk_at dksX5_init_0 22 rfl rfl)
theorem dX5_init_23 : decode cX5_init 23 = .ok (.sipush 3069, 3) := dk_17 11 253 (dk_at dksX5_init_1 0 rfl rfl)
theorem dX5_init_26 : decode cX5_init 26 = .ok (.newarray .int, 2) := dk_188_10 (dk_at dksX5_init_1 3 rfl rfl)
theorem dX5_init_28 : decode cX5_init 28 = .ok (.putfield 16, 3) := dk_181 0 16 (dk_at dksX5_init_1 5 rfl rfl)
theorem dX5_init_31 : decode cX5_init 31 = .ok (.aload_n 0, 1) := dk_42 (dk_at dksX5_init_1 8 rfl rfl)
theorem dX5_init_32 : decode cX5_init 32 = .ok (.iconst 4, 1) := dk_7 (dk_at dksX5_init_1 9 rfl rfl)
theorem dX5_init_33 : decode cX5_init 33 = .ok (.newarray .int, 2) := dk_188_10 (dk_at dksX5_init_1 10 rfl rfl)
theorem dX5_init_35 : decode cX5_init 35 = .ok (.putfield 19, 3) := dk_181 0 19 (dk_at dksX5_init_1 12 rfl rfl)
theorem dX5_init_38 : decode cX5_init 38 = .ok (.aload_n 0, 1) := dk_42 (dk_at dksX5_init_1 15 rfl rfl)
theorem dX5_init_39 : decode cX5_init 39 = .ok (.iconst 4, 1) := dk_7 (dk_at dksX5_init_1 16 rfl rfl)
theorem dX5_init_40 : decode cX5_init 40 = .ok (.newarray .int, 2) := dk_188_10 (dk_at dksX5_init_1 17 rfl rfl)
theorem dX5_init_42 : decode cX5_init 42 = .ok (.putfield 22, 3) := dk_181 0 22 (dk_at dksX5_init_1 19 rfl rfl)
theorem dX5_init_45 : decode cX5_init 45 = .ok (.aload_n 0, 1) := dk_42 (dk_at dksX5_init_1 22 rfl rfl)
theorem dX5_init_46 : decode cX5_init 46 = .ok (.bipush 96, 2) := dk_16 96 (dk_at dksX5_init_2 0 rfl rfl)
theorem dX5_init_48 : decode cX5_init 48 = .ok (.newarray .int, 2) := dk_188_10 (dk_at dksX5_init_2 2 rfl rfl)
theorem dX5_init_50 : decode cX5_init 50 = .ok (.putfield 25, 3) := dk_181 0 25 (dk_at dksX5_init_2 4 rfl rfl)
theorem dX5_init_53 : decode cX5_init 53 = .ok (.aload_n 0, 1) := dk_42 (dk_at dksX5_init_2 7 rfl rfl)
theorem dX5_init_54 : decode cX5_init 54 = .ok (.iconst 5, 1) := dk_8 (dk_at dksX5_init_2 8 rfl rfl)
theorem dX5_init_55 : decode cX5_init 55 = .ok (.newarray .int, 2) := dk_188_10 (dk_at dksX5_init_2 9 rfl rfl)
theorem dX5_init_57 : decode cX5_init 57 = .ok (.putfield 28, 3) := dk_181 0 28 (dk_at dksX5_init_2 11 rfl rfl)
theorem dX5_init_60 : decode cX5_init 60 = .ok (.aload_n 0, 1) := dk_42 (dk_at dksX5_init_2 14 rfl rfl)
theorem dX5_init_61 : decode cX5_init 61 = .ok (.iconst 5, 1) := dk_8 (dk_at dksX5_init_2 15 rfl rfl)
theorem dX5_init_62 : decode cX5_init 62 = .ok (.newarray .int, 2) := dk_188_10 (dk_at dksX5_init_2 16 rfl rfl)
theorem dX5_init_64 : decode cX5_init 64 = .ok (.putfield 31, 3) := dk_181 0 31 (dk_at dksX5_init_2 18 rfl rfl)
theorem dX5_init_67 : decode cX5_init 67 = .ok (.aload_n 0, 1) := dk_42 (dk_at dksX5_init_2 21 rfl rfl)
theorem dX5_init_68 : decode cX5_init 68 = .ok (.iconst 5, 1) := dk_8 (dk_at dksX5_init_2 22 rfl rfl)
theorem dX5_init_69 : decode cX5_init 69 = .ok (.newarray .int, 2) := dk_188_10 (dk_at dksX5_init_3 0 rfl rfl)
theorem dX5_init_71 : decode cX5_init 71 = .ok (.putfield 34, 3) := dk_181 0 34 (dk_at dksX5_init_3 2 rfl rfl)
theorem dX5_init_74 : decode cX5_init 74 = .ok (.aload_n 0, 1) := dk_42 (dk_at dksX5_init_3 5 rfl rfl)
theorem dX5_init_75 : decode cX5_init 75 = .ok (.iconst 5, 1) := dk_8 (dk_at dksX5_init_3 6 rfl rfl)
theorem dX5_init_76 : decode cX5_init 76 = .ok (.newarray .int, 2) := dk_188_10 (dk_at dksX5_init_3 7 rfl rfl)
theorem dX5_init_78 : decode cX5_init 78 = .ok (.putfield 37, 3) := dk_181 0 37 (dk_at dksX5_init_3 9 rfl rfl)
theorem dX5_init_81 : decode cX5_init 81 = .ok (.aload_n 0, 1) := dk_42 (dk_at dksX5_init_3 12 rfl rfl)
theorem dX5_init_82 : decode cX5_init 82 = .ok (.bipush 120, 2) := dk_16 120 (dk_at dksX5_init_3 13 rfl rfl)
theorem dX5_init_84 : decode cX5_init 84 = .ok (.newarray .int, 2) := dk_188_10 (dk_at dksX5_init_3 15 rfl rfl)
theorem dX5_init_86 : decode cX5_init 86 = .ok (.putfield 40, 3) := dk_181 0 40 (dk_at dksX5_init_3 17 rfl rfl)
theorem dX5_init_89 : decode cX5_init 89 = .ok (.aload_n 0, 1) := dk_42 (dk_at dksX5_init_3 20 rfl rfl)
theorem dX5_init_90 : decode cX5_init 90 = .ok (.bipush 9, 2) := dk_16 9 (dk_at dksX5_init_3 21 rfl rfl)
theorem dX5_init_92 : decode cX5_init 92 = .ok (.newarray .int, 2) := dk_188_10 (dk_at dksX5_init_4 0 rfl rfl)
theorem dX5_init_94 : decode cX5_init 94 = .ok (.putfield 43, 3) := dk_181 0 43 (dk_at dksX5_init_4 2 rfl rfl)
theorem dX5_init_97 : decode cX5_init 97 = .ok (.aload_n 0, 1) := dk_42 (dk_at dksX5_init_4 5 rfl rfl)
theorem dX5_init_98 : decode cX5_init 98 = .ok (.bipush 9, 2) := dk_16 9 (dk_at dksX5_init_4 6 rfl rfl)
theorem dX5_init_100 : decode cX5_init 100 = .ok (.newarray .int, 2) := dk_188_10 (dk_at dksX5_init_4 8 rfl rfl)
theorem dX5_init_102 : decode cX5_init 102 = .ok (.putfield 46, 3) := dk_181 0 46 (dk_at dksX5_init_4 10 rfl rfl)
theorem dX5_init_105 : decode cX5_init 105 = .ok (.aload_n 0, 1) := dk_42 (dk_at dksX5_init_4 13 rfl rfl)
theorem dX5_init_106 : decode cX5_init 106 = .ok (.bipush 69, 2) := dk_16 69 (dk_at dksX5_init_4 14 rfl rfl)
theorem dX5_init_108 : decode cX5_init 108 = .ok (.newarray .int, 2) := dk_188_10 (dk_at dksX5_init_4 16 rfl rfl)
theorem dX5_init_110 : decode cX5_init 110 = .ok (.putfield 49, 3) := dk_181 0 49 (dk_at dksX5_init_4 18 rfl rfl)
theorem dX5_init_113 : decode cX5_init 113 = .ok (.aload_n 0, 1) := dk_42 (dk_at dksX5_init_4 21 rfl rfl)
theorem dX5_init_114 : decode cX5_init 114 = .ok (.bipush 96, 2) := dk_16 96 (dk_at dksX5_init_4 22 rfl rfl)
theorem dX5_init_116 : decode cX5_init 116 = .ok (.newarray .int, 2) := dk_188_10 (dk_at dksX5_init_5 0 rfl rfl)
theorem dX5_init_118 : decode cX5_init 118 = .ok (.putfield 52, 3) := dk_181 0 52 (dk_at dksX5_init_5 2 rfl rfl)
theorem dX5_init_121 : decode cX5_init 121 = .ok (.aload_n 0, 1) := dk_42 (dk_at dksX5_init_5 5 rfl rfl)
theorem dX5_init_122 : decode cX5_init 122 = .ok (.sipush 128, 3) := dk_17 0 128 (dk_at dksX5_init_5 6 rfl rfl)
theorem dX5_init_125 : decode cX5_init 125 = .ok (.newarray .int, 2) := dk_188_10 (dk_at dksX5_init_5 9 rfl rfl)
theorem dX5_init_127 : decode cX5_init 127 = .ok (.putfield 55, 3) := dk_181 0 55 (dk_at dksX5_init_5 11 rfl rfl)
theorem dX5_init_130 : decode cX5_init 130 = .ok (.aload_n 0, 1) := dk_42 (dk_at dksX5_init_5 14 rfl rfl)
theorem dX5_init_131 : decode cX5_init 131 = .ok (.bipush 100, 2) := dk_16 100 (dk_at dksX5_init_5 15 rfl rfl)
theorem dX5_init_133 : decode cX5_init 133 = .ok (.newarray .int, 2) := dk_188_10 (dk_at dksX5_init_5 17 rfl rfl)
theorem dX5_init_135 : decode cX5_init 135 = .ok (.putfield 58, 3) := dk_181 0 58 (dk_at dksX5_init_5 19 rfl rfl)
theorem dX5_init_138 : decode cX5_init 138 = .ok (.aload_n 0, 1) := dk_42 (dk_at dksX5_init_5 22 rfl rfl)
theorem dX5_init_139 : decode cX5_init 139 = .ok (.bipush 24, 2) := dk_16 24 (dk_at dksX5_init_6 0 rfl rfl)
theorem dX5_init_141 : decode cX5_init 141 = .ok (.newarray .int, 2) := dk_188_10 (dk_at dksX5_init_6 2 rfl rfl)
theorem dX5_init_143 : decode cX5_init 143 = .ok (.putfield 61, 3) := dk_181 0 61 (dk_at dksX5_init_6 4 rfl rfl)
theorem dX5_init_146 : decode cX5_init 146 = .ok (.aload_n 0, 1) := dk_42 (dk_at dksX5_init_6 7 rfl rfl)
theorem dX5_init_147 : decode cX5_init 147 = .ok (.bipush 60, 2) := dk_16 60 (dk_at dksX5_init_6 8 rfl rfl)
theorem dX5_init_149 : decode cX5_init 149 = .ok (.newarray .int, 2) := dk_188_10 (dk_at dksX5_init_6 10 rfl rfl)
theorem dX5_init_151 : decode cX5_init 151 = .ok (.putfield 64, 3) := dk_181 0 64 (dk_at dksX5_init_6 12 rfl rfl)
theorem dX5_init_154 : decode cX5_init 154 = .ok (.aload_n 0, 1) := dk_42 (dk_at dksX5_init_6 15 rfl rfl)
theorem dX5_init_155 : decode cX5_init 155 = .ok (.bipush 60, 2) := dk_16 60 (dk_at dksX5_init_6 16 rfl rfl)
theorem dX5_init_157 : decode cX5_init 157 = .ok (.newarray .int, 2) := dk_188_10 (dk_at dksX5_init_6 18 rfl rfl)
theorem dX5_init_159 : decode cX5_init 159 = .ok (.putfield 67, 3) := dk_181 0 67 (dk_at dksX5_init_6 20 rfl rfl)
theorem dX5_init_162 : decode cX5_init 162 = .ok (.aload_n 0, 1) := dk_42 (dk_at dksX5_init_6 23 rfl rfl)
theorem dX5_init_163 : decode cX5_init 163 = .ok (.getfield 7, 3) := dk_180 0 7 (dk_at dksX5_init_7 0 rfl rfl)
theorem dX5_init_166 : decode cX5_init 166 = .ok (.iconst 5, 1) := dk_8 (dk_at dksX5_init_7 3 rfl rfl)
theorem dX5_init_167 : decode cX5_init 167 = .ok (.iconst 1, 1) := dk_4 (dk_at dksX5_init_7 4 rfl rfl)
theorem dX5_init_168 : decode cX5_init 168 = .ok (.iastore, 1) := dk_79 (dk_at dksX5_init_7 5 rfl rfl)
theorem dX5_init_169 : decode cX5_init 169 = .ok (.iconst 0, 1) := dk_3 (dk_at dksX5_init_7 6 rfl rfl)
theorem dX5_init_170 : decode cX5_init 170 = .ok (.istore_n 1, 1) := dk_60 (dk_at dksX5_init_7 7 rfl rfl)
theorem dX5_init_171 : decode cX5_init 171 = .ok (.iload_n 1, 1) := dk_27 (dk_at dksX5_init_7 8 rfl rfl)
theorem dX5_init_172 : decode cX5_init 172 = .ok (.iconst 4, 1) := dk_7 (dk_at dksX5_init_7 9 rfl rfl)
theorem dX5_init_173 : decode cX5_init 173 = .ok (.if_icmp .ge 16, 3) := dk_162 0 16 (dk_at dksX5_init_7 10 rfl rfl)
theorem dX5_init_176 : decode cX5_init 176 = .ok (.aload_n 0, 1) := dk_42 (dk_at dksX5_init_7 13 rfl rfl)
theorem dX5_init_177 : decode cX5_init 177 = .ok (.getfield 19, 3) := dk_180 0 19 (dk_at dksX5_init_7 14 rfl rfl)
theorem dX5_init_180 : decode cX5_init 180 = .ok (.iload_n 1, 1) := dk_27 (dk_at dksX5_init_7 17 rfl rfl)
theorem dX5_init_181 : decode cX5_init 181 = .ok (.iconst (-1), 1) := dk_2 (dk_at dksX5_init_7 18 rfl rfl)
theorem dX5_init_182 : decode cX5_init 182 = .ok (.iastore, 1) := dk_79 (dk_at dksX5_init_7 19 rfl rfl)
theorem dX5_init_183 : decode cX5_init 183 = .ok (.iinc 1 1, 3) := dk_132 1 1 (dk_at dksX5_init_7 20 rfl rfl)
theorem dX5_init_186 : decode cX5_init 186 = .ok (.goto (-15), 3) := dk_167 255 241 (dk_at dksX5_init_8 0 rfl rfl)
theorem dX5_init_189 : decode cX5_init 189 = .ok (.return_, 1) := dk_177 (dk_at dksX5_init_8 3 rfl rfl)
abbrev cX5_house : ByteArray := prog_18_method_17_code
def yX5_house : MethodName := ⟨RX5, "house", "(IIII)I"⟩
def dkwX5_house_3 : List UInt8 := [100, 172]
abbrev dktX5_house_3 : List UInt8 := dkwX5_house_3 ++ []
def dkwX5_house_2 : List UInt8 := [16, 9, 160, 0, 6, 18, 101, 172, 42, 27, 28, 29, 21, 4, 182, 0, 102, 42, 180, 0, 7, 3, 46, 4]
abbrev dktX5_house_2 : List UInt8 := dkwX5_house_2 ++ dktX5_house_3
def dkwX5_house_1 : List UInt8 := [184, 0, 96, 153, 0, 12, 6, 21, 4, 184, 0, 96, 154, 0, 6, 18, 100, 172, 42, 180, 0, 7, 3, 46]
abbrev dktX5_house_1 : List UInt8 := dkwX5_house_1 ++ dktX5_house_2
def dkwX5_house_0 : List UInt8 := [27, 133, 9, 20, 0, 94, 184, 0, 71, 153, 0, 28, 4, 28, 184, 0, 96, 153, 0, 20, 5, 29]
abbrev dktX5_house_0 : List UInt8 := dkwX5_house_0 ++ dktX5_house_1
theorem dksX5_house_0 : cX5_house.data.toList.drop 0 = dktX5_house_0 := by decide +kernel
theorem dksX5_house_1 : cX5_house.data.toList.drop 22 = dktX5_house_1 := dk_seg dksX5_house_0 22 rfl rfl
theorem dksX5_house_2 : cX5_house.data.toList.drop 46 = dktX5_house_2 := dk_seg dksX5_house_1 24 rfl rfl
theorem dksX5_house_3 : cX5_house.data.toList.drop 70 = dktX5_house_3 := dk_seg dksX5_house_2 24 rfl rfl
theorem dX5_house_0 : decode cX5_house 0 = .ok (.iload_n 1, 1) := dk_27 (dk_at dksX5_house_0 0 rfl rfl)
theorem dX5_house_1 : decode cX5_house 1 = .ok (.i2l, 1) := dk_133 (dk_at dksX5_house_0 1 rfl rfl)
theorem dX5_house_2 : decode cX5_house 2 = .ok (.lconst 0, 1) := dk_9 (dk_at dksX5_house_0 2 rfl rfl)
theorem dX5_house_3 : decode cX5_house 3 = .ok (.ldc2_w 94, 3) := dk_20 0 94 (dk_at dksX5_house_0 3 rfl rfl)
theorem dX5_house_6 : decode cX5_house 6 = .ok (.invokestatic 71, 3) := dk_184 0 71 (dk_at dksX5_house_0 6 rfl rfl)
theorem dX5_house_9 : decode cX5_house 9 = .ok (.ifCond .eq 28, 3) := dk_153 0 28 (dk_at dksX5_house_0 9 rfl rfl)
theorem dX5_house_12 : decode cX5_house 12 = .ok (.iconst 1, 1) := dk_4 (dk_at dksX5_house_0 12 rfl rfl)
theorem dX5_house_13 : decode cX5_house 13 = .ok (.iload_n 2, 1) := dk_28 (dk_at dksX5_house_0 13 rfl rfl)
theorem dX5_house_14 : decode cX5_house 14 = .ok (.invokestatic 96, 3) := dk_184 0 96 (dk_at dksX5_house_0 14 rfl rfl)
theorem dX5_house_17 : decode cX5_house 17 = .ok (.ifCond .eq 20, 3) := dk_153 0 20 (dk_at dksX5_house_0 17 rfl rfl)
theorem dX5_house_20 : decode cX5_house 20 = .ok (.iconst 2, 1) := dk_5 (dk_at dksX5_house_0 20 rfl rfl)
theorem dX5_house_21 : decode cX5_house 21 = .ok (.iload_n 3, 1) := dk_29 (dk_at dksX5_house_0 21 rfl rfl)
theorem dX5_house_22 : decode cX5_house 22 = .ok (.invokestatic 96, 3) := dk_184 0 96 (dk_at dksX5_house_1 0 rfl rfl)
theorem dX5_house_25 : decode cX5_house 25 = .ok (.ifCond .eq 12, 3) := dk_153 0 12 (dk_at dksX5_house_1 3 rfl rfl)
theorem dX5_house_28 : decode cX5_house 28 = .ok (.iconst 3, 1) := dk_6 (dk_at dksX5_house_1 6 rfl rfl)
theorem dX5_house_29 : decode cX5_house 29 = .ok (.iload 4, 2) := dk_21 4 (dk_at dksX5_house_1 7 rfl rfl)
theorem dX5_house_31 : decode cX5_house 31 = .ok (.invokestatic 96, 3) := dk_184 0 96 (dk_at dksX5_house_1 9 rfl rfl)
theorem dX5_house_34 : decode cX5_house 34 = .ok (.ifCond .ne 6, 3) := dk_154 0 6 (dk_at dksX5_house_1 12 rfl rfl)
theorem dX5_house_37 : decode cX5_house 37 = .ok (.ldc 100, 2) := dk_18 100 (dk_at dksX5_house_1 15 rfl rfl)
theorem dX5_house_39 : decode cX5_house 39 = .ok (.ireturn, 1) := dk_172 (dk_at dksX5_house_1 17 rfl rfl)
theorem dX5_house_40 : decode cX5_house 40 = .ok (.aload_n 0, 1) := dk_42 (dk_at dksX5_house_1 18 rfl rfl)
theorem dX5_house_41 : decode cX5_house 41 = .ok (.getfield 7, 3) := dk_180 0 7 (dk_at dksX5_house_1 19 rfl rfl)
theorem dX5_house_44 : decode cX5_house 44 = .ok (.iconst 0, 1) := dk_3 (dk_at dksX5_house_1 22 rfl rfl)
theorem dX5_house_45 : decode cX5_house 45 = .ok (.iaload, 1) := dk_46 (dk_at dksX5_house_1 23 rfl rfl)
theorem dX5_house_46 : decode cX5_house 46 = .ok (.bipush 9, 2) := dk_16 9 (dk_at dksX5_house_2 0 rfl rfl)
theorem dX5_house_48 : decode cX5_house 48 = .ok (.if_icmp .ne 6, 3) := dk_160 0 6 (dk_at dksX5_house_2 2 rfl rfl)
theorem dX5_house_51 : decode cX5_house 51 = .ok (.ldc 101, 2) := dk_18 101 (dk_at dksX5_house_2 5 rfl rfl)
theorem dX5_house_53 : decode cX5_house 53 = .ok (.ireturn, 1) := dk_172 (dk_at dksX5_house_2 7 rfl rfl)
theorem dX5_house_54 : decode cX5_house 54 = .ok (.aload_n 0, 1) := dk_42 (dk_at dksX5_house_2 8 rfl rfl)
theorem dX5_house_55 : decode cX5_house 55 = .ok (.iload_n 1, 1) := dk_27 (dk_at dksX5_house_2 9 rfl rfl)
theorem dX5_house_56 : decode cX5_house 56 = .ok (.iload_n 2, 1) := dk_28 (dk_at dksX5_house_2 10 rfl rfl)
theorem dX5_house_57 : decode cX5_house 57 = .ok (.iload_n 3, 1) := dk_29 (dk_at dksX5_house_2 11 rfl rfl)
theorem dX5_house_58 : decode cX5_house 58 = .ok (.iload 4, 2) := dk_21 4 (dk_at dksX5_house_2 12 rfl rfl)
theorem dX5_house_60 : decode cX5_house 60 = .ok (.invokevirtual 102, 3) := dk_182 0 102 (dk_at dksX5_house_2 14 rfl rfl)
theorem dX5_house_63 : decode cX5_house 63 = .ok (.aload_n 0, 1) := dk_42 (dk_at dksX5_house_2 17 rfl rfl)
theorem dX5_house_64 : decode cX5_house 64 = .ok (.getfield 7, 3) := dk_180 0 7 (dk_at dksX5_house_2 18 rfl rfl)
theorem dX5_house_67 : decode cX5_house 67 = .ok (.iconst 0, 1) := dk_3 (dk_at dksX5_house_2 21 rfl rfl)
theorem dX5_house_68 : decode cX5_house 68 = .ok (.iaload, 1) := dk_46 (dk_at dksX5_house_2 22 rfl rfl)
theorem dX5_house_69 : decode cX5_house 69 = .ok (.iconst 1, 1) := dk_4 (dk_at dksX5_house_2 23 rfl rfl)
theorem dX5_house_70 : decode cX5_house 70 = .ok (.isub, 1) := dk_100 (dk_at dksX5_house_3 0 rfl rfl)
theorem dX5_house_71 : decode cX5_house 71 = .ok (.ireturn, 1) := dk_172 (dk_at dksX5_house_3 1 rfl rfl)
abbrev cX5_isIn : ByteArray := prog_18_method_2_code
def yX5_isIn : MethodName := ⟨RX5, "isIn", "(JJJ)Z"⟩
def dkwX5_isIn_0 : List UInt8 := [30, 32, 148, 155, 0, 14, 30, 22, 4, 148, 157, 0, 7, 4, 167, 0, 4, 3, 172]
abbrev dktX5_isIn_0 : List UInt8 := dkwX5_isIn_0 ++ []
theorem dksX5_isIn_0 : cX5_isIn.data.toList.drop 0 = dktX5_isIn_0 := by decide +kernel
theorem dX5_isIn_0 : decode cX5_isIn 0 = .ok (.lload_n 0, 1) := dk_30 (dk_at dksX5_isIn_0 0 rfl rfl)
theorem dX5_isIn_1 : decode cX5_isIn 1 = .ok (.lload_n 2, 1) := dk_32 (dk_at dksX5_isIn_0 1 rfl rfl)
theorem dX5_isIn_2 : decode cX5_isIn 2 = .ok (.lcmp, 1) := dk_148 (dk_at dksX5_isIn_0 2 rfl rfl)
theorem dX5_isIn_3 : decode cX5_isIn 3 = .ok (.ifCond .lt 14, 3) := dk_155 0 14 (dk_at dksX5_isIn_0 3 rfl rfl)
theorem dX5_isIn_6 : decode cX5_isIn 6 = .ok (.lload_n 0, 1) := dk_30 (dk_at dksX5_isIn_0 6 rfl rfl)
theorem dX5_isIn_7 : decode cX5_isIn 7 = .ok (.lload 4, 2) := dk_22 4 (dk_at dksX5_isIn_0 7 rfl rfl)
theorem dX5_isIn_9 : decode cX5_isIn 9 = .ok (.lcmp, 1) := dk_148 (dk_at dksX5_isIn_0 9 rfl rfl)
theorem dX5_isIn_10 : decode cX5_isIn 10 = .ok (.ifCond .gt 7, 3) := dk_157 0 7 (dk_at dksX5_isIn_0 10 rfl rfl)
theorem dX5_isIn_13 : decode cX5_isIn 13 = .ok (.iconst 1, 1) := dk_4 (dk_at dksX5_isIn_0 13 rfl rfl)
theorem dX5_isIn_14 : decode cX5_isIn 14 = .ok (.goto 4, 3) := dk_167 0 4 (dk_at dksX5_isIn_0 14 rfl rfl)
theorem dX5_isIn_17 : decode cX5_isIn 17 = .ok (.iconst 0, 1) := dk_3 (dk_at dksX5_isIn_0 17 rfl rfl)
theorem dX5_isIn_18 : decode cX5_isIn 18 = .ok (.ireturn, 1) := dk_172 (dk_at dksX5_isIn_0 18 rfl rfl)
abbrev cX5_mayBe : ByteArray := prog_18_method_16_code
def yX5_mayBe : MethodName := ⟨RX5, "mayBe", "(II)Z"⟩
def dkwX5_mayBe_4 : List UInt8 := [184, 0, 71, 172, 3, 172]
abbrev dktX5_mayBe_4 : List UInt8 := dkwX5_mayBe_4 ++ []
def dkwX5_mayBe_3 : List UInt8 := [9, 20, 0, 84, 184, 0, 71, 172, 27, 133, 9, 20, 0, 90, 184, 0, 71, 172, 27, 133, 9, 20, 0, 92]
abbrev dktX5_mayBe_3 : List UInt8 := dkwX5_mayBe_3 ++ dktX5_mayBe_4
def dkwX5_mayBe_2 : List UInt8 := [27, 133, 10, 20, 0, 84, 184, 0, 71, 172, 27, 133, 20, 0, 86, 20, 0, 88, 184, 0, 71, 172, 27, 133]
abbrev dktX5_mayBe_2 : List UInt8 := dkwX5_mayBe_2 ++ dktX5_mayBe_3
def dkwX5_mayBe_1 : List UInt8 := [170, 0, 0, 0, 0, 0, 87, 0, 0, 0, 1, 0, 0, 0, 5, 0, 0, 0, 35, 0, 0, 0, 45, 0, 0, 0, 57, 0, 0, 0, 67, 0, 0, 0, 77]
abbrev dktX5_mayBe_1 : List UInt8 := dkwX5_mayBe_1 ++ dktX5_mayBe_2
def dkwX5_mayBe_0 : List UInt8 := [26]
abbrev dktX5_mayBe_0 : List UInt8 := dkwX5_mayBe_0 ++ dktX5_mayBe_1
theorem dksX5_mayBe_0 : cX5_mayBe.data.toList.drop 0 = dktX5_mayBe_0 := by decide +kernel
theorem dksX5_mayBe_1 : cX5_mayBe.data.toList.drop 1 = dktX5_mayBe_1 := dk_seg dksX5_mayBe_0 1 rfl rfl
theorem dksX5_mayBe_2 : cX5_mayBe.data.toList.drop 36 = dktX5_mayBe_2 := dk_seg dksX5_mayBe_1 35 rfl rfl
theorem dksX5_mayBe_3 : cX5_mayBe.data.toList.drop 60 = dktX5_mayBe_3 := dk_seg dksX5_mayBe_2 24 rfl rfl
theorem dksX5_mayBe_4 : cX5_mayBe.data.toList.drop 84 = dktX5_mayBe_4 := dk_seg dksX5_mayBe_3 24 rfl rfl
theorem dX5_mayBe_0 : decode cX5_mayBe 0 = .ok (.iload_n 0, 1) := dk_26 (dk_at dksX5_mayBe_0 0 rfl rfl)
theorem dX5_mayBe_1 : decode cX5_mayBe 1 = .ok (.tableswitch 87 1 5 #[35, 45, 57, 67, 77], 35) := by decide +kernel
theorem dX5_mayBe_36 : decode cX5_mayBe 36 = .ok (.iload_n 1, 1) := dk_27 (dk_at dksX5_mayBe_2 0 rfl rfl)
theorem dX5_mayBe_37 : decode cX5_mayBe 37 = .ok (.i2l, 1) := dk_133 (dk_at dksX5_mayBe_2 1 rfl rfl)
theorem dX5_mayBe_38 : decode cX5_mayBe 38 = .ok (.lconst 1, 1) := dk_10 (dk_at dksX5_mayBe_2 2 rfl rfl)
theorem dX5_mayBe_39 : decode cX5_mayBe 39 = .ok (.ldc2_w 84, 3) := dk_20 0 84 (dk_at dksX5_mayBe_2 3 rfl rfl)
theorem dX5_mayBe_42 : decode cX5_mayBe 42 = .ok (.invokestatic 71, 3) := dk_184 0 71 (dk_at dksX5_mayBe_2 6 rfl rfl)
theorem dX5_mayBe_45 : decode cX5_mayBe 45 = .ok (.ireturn, 1) := dk_172 (dk_at dksX5_mayBe_2 9 rfl rfl)
theorem dX5_mayBe_46 : decode cX5_mayBe 46 = .ok (.iload_n 1, 1) := dk_27 (dk_at dksX5_mayBe_2 10 rfl rfl)
theorem dX5_mayBe_47 : decode cX5_mayBe 47 = .ok (.i2l, 1) := dk_133 (dk_at dksX5_mayBe_2 11 rfl rfl)
theorem dX5_mayBe_48 : decode cX5_mayBe 48 = .ok (.ldc2_w 86, 3) := dk_20 0 86 (dk_at dksX5_mayBe_2 12 rfl rfl)
theorem dX5_mayBe_51 : decode cX5_mayBe 51 = .ok (.ldc2_w 88, 3) := dk_20 0 88 (dk_at dksX5_mayBe_2 15 rfl rfl)
theorem dX5_mayBe_54 : decode cX5_mayBe 54 = .ok (.invokestatic 71, 3) := dk_184 0 71 (dk_at dksX5_mayBe_2 18 rfl rfl)
theorem dX5_mayBe_57 : decode cX5_mayBe 57 = .ok (.ireturn, 1) := dk_172 (dk_at dksX5_mayBe_2 21 rfl rfl)
theorem dX5_mayBe_58 : decode cX5_mayBe 58 = .ok (.iload_n 1, 1) := dk_27 (dk_at dksX5_mayBe_2 22 rfl rfl)
theorem dX5_mayBe_59 : decode cX5_mayBe 59 = .ok (.i2l, 1) := dk_133 (dk_at dksX5_mayBe_2 23 rfl rfl)
theorem dX5_mayBe_60 : decode cX5_mayBe 60 = .ok (.lconst 0, 1) := dk_9 (dk_at dksX5_mayBe_3 0 rfl rfl)
theorem dX5_mayBe_61 : decode cX5_mayBe 61 = .ok (.ldc2_w 84, 3) := dk_20 0 84 (dk_at dksX5_mayBe_3 1 rfl rfl)
theorem dX5_mayBe_64 : decode cX5_mayBe 64 = .ok (.invokestatic 71, 3) := dk_184 0 71 (dk_at dksX5_mayBe_3 4 rfl rfl)
theorem dX5_mayBe_67 : decode cX5_mayBe 67 = .ok (.ireturn, 1) := dk_172 (dk_at dksX5_mayBe_3 7 rfl rfl)
theorem dX5_mayBe_68 : decode cX5_mayBe 68 = .ok (.iload_n 1, 1) := dk_27 (dk_at dksX5_mayBe_3 8 rfl rfl)
theorem dX5_mayBe_69 : decode cX5_mayBe 69 = .ok (.i2l, 1) := dk_133 (dk_at dksX5_mayBe_3 9 rfl rfl)
theorem dX5_mayBe_70 : decode cX5_mayBe 70 = .ok (.lconst 0, 1) := dk_9 (dk_at dksX5_mayBe_3 10 rfl rfl)
theorem dX5_mayBe_71 : decode cX5_mayBe 71 = .ok (.ldc2_w 90, 3) := dk_20 0 90 (dk_at dksX5_mayBe_3 11 rfl rfl)
theorem dX5_mayBe_74 : decode cX5_mayBe 74 = .ok (.invokestatic 71, 3) := dk_184 0 71 (dk_at dksX5_mayBe_3 14 rfl rfl)
theorem dX5_mayBe_77 : decode cX5_mayBe 77 = .ok (.ireturn, 1) := dk_172 (dk_at dksX5_mayBe_3 17 rfl rfl)
theorem dX5_mayBe_78 : decode cX5_mayBe 78 = .ok (.iload_n 1, 1) := dk_27 (dk_at dksX5_mayBe_3 18 rfl rfl)
theorem dX5_mayBe_79 : decode cX5_mayBe 79 = .ok (.i2l, 1) := dk_133 (dk_at dksX5_mayBe_3 19 rfl rfl)
theorem dX5_mayBe_80 : decode cX5_mayBe 80 = .ok (.lconst 0, 1) := dk_9 (dk_at dksX5_mayBe_3 20 rfl rfl)
theorem dX5_mayBe_81 : decode cX5_mayBe 81 = .ok (.ldc2_w 92, 3) := dk_20 0 92 (dk_at dksX5_mayBe_3 21 rfl rfl)
theorem dX5_mayBe_84 : decode cX5_mayBe 84 = .ok (.invokestatic 71, 3) := dk_184 0 71 (dk_at dksX5_mayBe_4 0 rfl rfl)
theorem dX5_mayBe_87 : decode cX5_mayBe 87 = .ok (.ireturn, 1) := dk_172 (dk_at dksX5_mayBe_4 3 rfl rfl)
theorem dX5_mayBe_88 : decode cX5_mayBe 88 = .ok (.iconst 0, 1) := dk_3 (dk_at dksX5_mayBe_4 4 rfl rfl)
theorem dX5_mayBe_89 : decode cX5_mayBe 89 = .ok (.ireturn, 1) := dk_172 (dk_at dksX5_mayBe_4 5 rfl rfl)
abbrev cX5_comes : ByteArray := prog_18_method_15_code
def yX5_comes : MethodName := ⟨RX5, "comes", "(IIII)V"⟩
def dkwX5_comes_3 : List UInt8 := [16, 6, 3, 182, 0, 80, 177]
abbrev dktX5_comes_3 : List UInt8 := dkwX5_comes_3 ++ []
def dkwX5_comes_2 : List UInt8 := [21, 4, 182, 0, 80, 42, 21, 5, 7, 3, 182, 0, 80, 42, 21, 5, 8, 3, 182, 0, 80, 42, 21, 5]
abbrev dktX5_comes_2 : List UInt8 := dkwX5_comes_2 ++ dktX5_comes_3
def dkwX5_comes_1 : List UInt8 := [182, 0, 80, 42, 21, 5, 4, 28, 182, 0, 80, 42, 21, 5, 5, 29, 182, 0, 80, 42, 21, 5, 6]
abbrev dktX5_comes_1 : List UInt8 := dkwX5_comes_1 ++ dktX5_comes_2
def dkwX5_comes_0 : List UInt8 := [42, 180, 0, 7, 3, 46, 54, 5, 42, 180, 0, 7, 3, 92, 46, 4, 96, 79, 42, 21, 5, 3, 27]
abbrev dktX5_comes_0 : List UInt8 := dkwX5_comes_0 ++ dktX5_comes_1
theorem dksX5_comes_0 : cX5_comes.data.toList.drop 0 = dktX5_comes_0 := by decide +kernel
theorem dksX5_comes_1 : cX5_comes.data.toList.drop 23 = dktX5_comes_1 := dk_seg dksX5_comes_0 23 rfl rfl
theorem dksX5_comes_2 : cX5_comes.data.toList.drop 46 = dktX5_comes_2 := dk_seg dksX5_comes_1 23 rfl rfl
theorem dksX5_comes_3 : cX5_comes.data.toList.drop 70 = dktX5_comes_3 := dk_seg dksX5_comes_2 24 rfl rfl
theorem dX5_comes_0 : decode cX5_comes 0 = .ok (.aload_n 0, 1) := dk_42 (dk_at dksX5_comes_0 0 rfl rfl)
theorem dX5_comes_1 : decode cX5_comes 1 = .ok (.getfield 7, 3) := dk_180 0 7 (dk_at dksX5_comes_0 1 rfl rfl)
theorem dX5_comes_4 : decode cX5_comes 4 = .ok (.iconst 0, 1) := dk_3 (dk_at dksX5_comes_0 4 rfl rfl)
theorem dX5_comes_5 : decode cX5_comes 5 = .ok (.iaload, 1) := dk_46 (dk_at dksX5_comes_0 5 rfl rfl)
theorem dX5_comes_6 : decode cX5_comes 6 = .ok (.istore 5, 2) := dk_54 5 (dk_at dksX5_comes_0 6 rfl rfl)
theorem dX5_comes_8 : decode cX5_comes 8 = .ok (.aload_n 0, 1) := dk_42 (dk_at dksX5_comes_0 8 rfl rfl)
theorem dX5_comes_9 : decode cX5_comes 9 = .ok (.getfield 7, 3) := dk_180 0 7 (dk_at dksX5_comes_0 9 rfl rfl)
theorem dX5_comes_12 : decode cX5_comes 12 = .ok (.iconst 0, 1) := dk_3 (dk_at dksX5_comes_0 12 rfl rfl)
theorem dX5_comes_13 : decode cX5_comes 13 = .ok (.dup2, 1) := dk_92 (dk_at dksX5_comes_0 13 rfl rfl)
theorem dX5_comes_14 : decode cX5_comes 14 = .ok (.iaload, 1) := dk_46 (dk_at dksX5_comes_0 14 rfl rfl)
theorem dX5_comes_15 : decode cX5_comes 15 = .ok (.iconst 1, 1) := dk_4 (dk_at dksX5_comes_0 15 rfl rfl)
theorem dX5_comes_16 : decode cX5_comes 16 = .ok (.iadd, 1) := dk_96 (dk_at dksX5_comes_0 16 rfl rfl)
theorem dX5_comes_17 : decode cX5_comes 17 = .ok (.iastore, 1) := dk_79 (dk_at dksX5_comes_0 17 rfl rfl)
theorem dX5_comes_18 : decode cX5_comes 18 = .ok (.aload_n 0, 1) := dk_42 (dk_at dksX5_comes_0 18 rfl rfl)
theorem dX5_comes_19 : decode cX5_comes 19 = .ok (.iload 5, 2) := dk_21 5 (dk_at dksX5_comes_0 19 rfl rfl)
theorem dX5_comes_21 : decode cX5_comes 21 = .ok (.iconst 0, 1) := dk_3 (dk_at dksX5_comes_0 21 rfl rfl)
theorem dX5_comes_22 : decode cX5_comes 22 = .ok (.iload_n 1, 1) := dk_27 (dk_at dksX5_comes_0 22 rfl rfl)
theorem dX5_comes_23 : decode cX5_comes 23 = .ok (.invokevirtual 80, 3) := dk_182 0 80 (dk_at dksX5_comes_1 0 rfl rfl)
theorem dX5_comes_26 : decode cX5_comes 26 = .ok (.aload_n 0, 1) := dk_42 (dk_at dksX5_comes_1 3 rfl rfl)
theorem dX5_comes_27 : decode cX5_comes 27 = .ok (.iload 5, 2) := dk_21 5 (dk_at dksX5_comes_1 4 rfl rfl)
theorem dX5_comes_29 : decode cX5_comes 29 = .ok (.iconst 1, 1) := dk_4 (dk_at dksX5_comes_1 6 rfl rfl)
theorem dX5_comes_30 : decode cX5_comes 30 = .ok (.iload_n 2, 1) := dk_28 (dk_at dksX5_comes_1 7 rfl rfl)
theorem dX5_comes_31 : decode cX5_comes 31 = .ok (.invokevirtual 80, 3) := dk_182 0 80 (dk_at dksX5_comes_1 8 rfl rfl)
theorem dX5_comes_34 : decode cX5_comes 34 = .ok (.aload_n 0, 1) := dk_42 (dk_at dksX5_comes_1 11 rfl rfl)
theorem dX5_comes_35 : decode cX5_comes 35 = .ok (.iload 5, 2) := dk_21 5 (dk_at dksX5_comes_1 12 rfl rfl)
theorem dX5_comes_37 : decode cX5_comes 37 = .ok (.iconst 2, 1) := dk_5 (dk_at dksX5_comes_1 14 rfl rfl)
theorem dX5_comes_38 : decode cX5_comes 38 = .ok (.iload_n 3, 1) := dk_29 (dk_at dksX5_comes_1 15 rfl rfl)
theorem dX5_comes_39 : decode cX5_comes 39 = .ok (.invokevirtual 80, 3) := dk_182 0 80 (dk_at dksX5_comes_1 16 rfl rfl)
theorem dX5_comes_42 : decode cX5_comes 42 = .ok (.aload_n 0, 1) := dk_42 (dk_at dksX5_comes_1 19 rfl rfl)
theorem dX5_comes_43 : decode cX5_comes 43 = .ok (.iload 5, 2) := dk_21 5 (dk_at dksX5_comes_1 20 rfl rfl)
theorem dX5_comes_45 : decode cX5_comes 45 = .ok (.iconst 3, 1) := dk_6 (dk_at dksX5_comes_1 22 rfl rfl)
theorem dX5_comes_46 : decode cX5_comes 46 = .ok (.iload 4, 2) := dk_21 4 (dk_at dksX5_comes_2 0 rfl rfl)
theorem dX5_comes_48 : decode cX5_comes 48 = .ok (.invokevirtual 80, 3) := dk_182 0 80 (dk_at dksX5_comes_2 2 rfl rfl)
theorem dX5_comes_51 : decode cX5_comes 51 = .ok (.aload_n 0, 1) := dk_42 (dk_at dksX5_comes_2 5 rfl rfl)
theorem dX5_comes_52 : decode cX5_comes 52 = .ok (.iload 5, 2) := dk_21 5 (dk_at dksX5_comes_2 6 rfl rfl)
theorem dX5_comes_54 : decode cX5_comes 54 = .ok (.iconst 4, 1) := dk_7 (dk_at dksX5_comes_2 8 rfl rfl)
theorem dX5_comes_55 : decode cX5_comes 55 = .ok (.iconst 0, 1) := dk_3 (dk_at dksX5_comes_2 9 rfl rfl)
theorem dX5_comes_56 : decode cX5_comes 56 = .ok (.invokevirtual 80, 3) := dk_182 0 80 (dk_at dksX5_comes_2 10 rfl rfl)
theorem dX5_comes_59 : decode cX5_comes 59 = .ok (.aload_n 0, 1) := dk_42 (dk_at dksX5_comes_2 13 rfl rfl)
theorem dX5_comes_60 : decode cX5_comes 60 = .ok (.iload 5, 2) := dk_21 5 (dk_at dksX5_comes_2 14 rfl rfl)
theorem dX5_comes_62 : decode cX5_comes 62 = .ok (.iconst 5, 1) := dk_8 (dk_at dksX5_comes_2 16 rfl rfl)
theorem dX5_comes_63 : decode cX5_comes 63 = .ok (.iconst 0, 1) := dk_3 (dk_at dksX5_comes_2 17 rfl rfl)
theorem dX5_comes_64 : decode cX5_comes 64 = .ok (.invokevirtual 80, 3) := dk_182 0 80 (dk_at dksX5_comes_2 18 rfl rfl)
theorem dX5_comes_67 : decode cX5_comes 67 = .ok (.aload_n 0, 1) := dk_42 (dk_at dksX5_comes_2 21 rfl rfl)
theorem dX5_comes_68 : decode cX5_comes 68 = .ok (.iload 5, 2) := dk_21 5 (dk_at dksX5_comes_2 22 rfl rfl)
theorem dX5_comes_70 : decode cX5_comes 70 = .ok (.bipush 6, 2) := dk_16 6 (dk_at dksX5_comes_3 0 rfl rfl)
theorem dX5_comes_72 : decode cX5_comes 72 = .ok (.iconst 0, 1) := dk_3 (dk_at dksX5_comes_3 2 rfl rfl)
theorem dX5_comes_73 : decode cX5_comes 73 = .ok (.invokevirtual 80, 3) := dk_182 0 80 (dk_at dksX5_comes_3 3 rfl rfl)
theorem dX5_comes_76 : decode cX5_comes 76 = .ok (.return_, 1) := dk_177 (dk_at dksX5_comes_3 6 rfl rfl)
abbrev cX5_sets : ByteArray := prog_18_method_10_code
def yX5_sets : MethodName := ⟨RX5, "sets", "(III)V"⟩
def dkwX5_sets_0 : List UInt8 := [42, 180, 0, 7, 16, 6, 16, 7, 27, 104, 96, 28, 96, 29, 79, 177]
abbrev dktX5_sets_0 : List UInt8 := dkwX5_sets_0 ++ []
theorem dksX5_sets_0 : cX5_sets.data.toList.drop 0 = dktX5_sets_0 := by decide +kernel
theorem dX5_sets_0 : decode cX5_sets 0 = .ok (.aload_n 0, 1) := dk_42 (dk_at dksX5_sets_0 0 rfl rfl)
theorem dX5_sets_1 : decode cX5_sets 1 = .ok (.getfield 7, 3) := dk_180 0 7 (dk_at dksX5_sets_0 1 rfl rfl)
theorem dX5_sets_4 : decode cX5_sets 4 = .ok (.bipush 6, 2) := dk_16 6 (dk_at dksX5_sets_0 4 rfl rfl)
theorem dX5_sets_6 : decode cX5_sets 6 = .ok (.bipush 7, 2) := dk_16 7 (dk_at dksX5_sets_0 6 rfl rfl)
theorem dX5_sets_8 : decode cX5_sets 8 = .ok (.iload_n 1, 1) := dk_27 (dk_at dksX5_sets_0 8 rfl rfl)
theorem dX5_sets_9 : decode cX5_sets 9 = .ok (.imul, 1) := dk_104 (dk_at dksX5_sets_0 9 rfl rfl)
theorem dX5_sets_10 : decode cX5_sets 10 = .ok (.iadd, 1) := dk_96 (dk_at dksX5_sets_0 10 rfl rfl)
theorem dX5_sets_11 : decode cX5_sets 11 = .ok (.iload_n 2, 1) := dk_28 (dk_at dksX5_sets_0 11 rfl rfl)
theorem dX5_sets_12 : decode cX5_sets 12 = .ok (.iadd, 1) := dk_96 (dk_at dksX5_sets_0 12 rfl rfl)
theorem dX5_sets_13 : decode cX5_sets 13 = .ok (.iload_n 3, 1) := dk_29 (dk_at dksX5_sets_0 13 rfl rfl)
theorem dX5_sets_14 : decode cX5_sets 14 = .ok (.iastore, 1) := dk_79 (dk_at dksX5_sets_0 14 rfl rfl)
theorem dX5_sets_15 : decode cX5_sets 15 = .ok (.return_, 1) := dk_177 (dk_at dksX5_sets_0 15 rfl rfl)
abbrev cX5_told : ByteArray := prog_18_method_24_code
def yX5_told : MethodName := ⟨RX5, "told", "(II)I"⟩
def dkwX5_told_3 : List UInt8 := [27, 182, 0, 136, 172, 42, 27, 182, 0, 139, 172, 42, 27, 182, 0, 142, 172, 18, 100, 172]
abbrev dktX5_told_3 : List UInt8 := dkwX5_told_3 ++ []
def dkwX5_told_2 : List UInt8 := [42, 27, 28, 182, 0, 75, 172, 4, 42, 27, 16, 6, 182, 0, 75, 100, 172, 42, 27, 182, 0, 130, 172, 42]
abbrev dktX5_told_2 : List UInt8 := dkwX5_told_2 ++ dktX5_told_3
def dkwX5_told_1 : List UInt8 := [170, 0, 0, 0, 0, 0, 0, 101, 0, 0, 0, 0, 0, 0, 0, 10, 0, 0, 0, 60, 0, 0, 0, 60, 0, 0, 0, 60, 0, 0, 0, 60, 0, 0, 0, 60, 0, 0, 0, 60, 0, 0, 0, 67, 0, 0, 0, 77, 0, 0, 0, 83, 0, 0, 0, 89, 0, 0, 0, 95]
abbrev dktX5_told_1 : List UInt8 := dkwX5_told_1 ++ dktX5_told_2
def dkwX5_told_0 : List UInt8 := [42, 27, 182, 0, 133, 154, 0, 6, 18, 100, 172, 28]
abbrev dktX5_told_0 : List UInt8 := dkwX5_told_0 ++ dktX5_told_1
theorem dksX5_told_0 : cX5_told.data.toList.drop 0 = dktX5_told_0 := by decide +kernel
theorem dksX5_told_1 : cX5_told.data.toList.drop 12 = dktX5_told_1 := dk_seg dksX5_told_0 12 rfl rfl
theorem dksX5_told_2 : cX5_told.data.toList.drop 72 = dktX5_told_2 := dk_seg dksX5_told_1 60 rfl rfl
theorem dksX5_told_3 : cX5_told.data.toList.drop 96 = dktX5_told_3 := dk_seg dksX5_told_2 24 rfl rfl
theorem dX5_told_0 : decode cX5_told 0 = .ok (.aload_n 0, 1) := dk_42 (dk_at dksX5_told_0 0 rfl rfl)
theorem dX5_told_1 : decode cX5_told 1 = .ok (.iload_n 1, 1) := dk_27 (dk_at dksX5_told_0 1 rfl rfl)
theorem dX5_told_2 : decode cX5_told 2 = .ok (.invokevirtual 133, 3) := dk_182 0 133 (dk_at dksX5_told_0 2 rfl rfl)
theorem dX5_told_5 : decode cX5_told 5 = .ok (.ifCond .ne 6, 3) := dk_154 0 6 (dk_at dksX5_told_0 5 rfl rfl)
theorem dX5_told_8 : decode cX5_told 8 = .ok (.ldc 100, 2) := dk_18 100 (dk_at dksX5_told_0 8 rfl rfl)
theorem dX5_told_10 : decode cX5_told 10 = .ok (.ireturn, 1) := dk_172 (dk_at dksX5_told_0 10 rfl rfl)
theorem dX5_told_11 : decode cX5_told 11 = .ok (.iload_n 2, 1) := dk_28 (dk_at dksX5_told_0 11 rfl rfl)
theorem dX5_told_12 : decode cX5_told 12 = .ok (.tableswitch 101 0 10 #[60, 60, 60, 60, 60, 60, 67, 77, 83, 89, 95], 60) := by decide +kernel
theorem dX5_told_72 : decode cX5_told 72 = .ok (.aload_n 0, 1) := dk_42 (dk_at dksX5_told_2 0 rfl rfl)
theorem dX5_told_73 : decode cX5_told 73 = .ok (.iload_n 1, 1) := dk_27 (dk_at dksX5_told_2 1 rfl rfl)
theorem dX5_told_74 : decode cX5_told 74 = .ok (.iload_n 2, 1) := dk_28 (dk_at dksX5_told_2 2 rfl rfl)
theorem dX5_told_75 : decode cX5_told 75 = .ok (.invokevirtual 75, 3) := dk_182 0 75 (dk_at dksX5_told_2 3 rfl rfl)
theorem dX5_told_78 : decode cX5_told 78 = .ok (.ireturn, 1) := dk_172 (dk_at dksX5_told_2 6 rfl rfl)
theorem dX5_told_79 : decode cX5_told 79 = .ok (.iconst 1, 1) := dk_4 (dk_at dksX5_told_2 7 rfl rfl)
theorem dX5_told_80 : decode cX5_told 80 = .ok (.aload_n 0, 1) := dk_42 (dk_at dksX5_told_2 8 rfl rfl)
theorem dX5_told_81 : decode cX5_told 81 = .ok (.iload_n 1, 1) := dk_27 (dk_at dksX5_told_2 9 rfl rfl)
theorem dX5_told_82 : decode cX5_told 82 = .ok (.bipush 6, 2) := dk_16 6 (dk_at dksX5_told_2 10 rfl rfl)
theorem dX5_told_84 : decode cX5_told 84 = .ok (.invokevirtual 75, 3) := dk_182 0 75 (dk_at dksX5_told_2 12 rfl rfl)
theorem dX5_told_87 : decode cX5_told 87 = .ok (.isub, 1) := dk_100 (dk_at dksX5_told_2 15 rfl rfl)
theorem dX5_told_88 : decode cX5_told 88 = .ok (.ireturn, 1) := dk_172 (dk_at dksX5_told_2 16 rfl rfl)
theorem dX5_told_89 : decode cX5_told 89 = .ok (.aload_n 0, 1) := dk_42 (dk_at dksX5_told_2 17 rfl rfl)
theorem dX5_told_90 : decode cX5_told 90 = .ok (.iload_n 1, 1) := dk_27 (dk_at dksX5_told_2 18 rfl rfl)
theorem dX5_told_91 : decode cX5_told 91 = .ok (.invokevirtual 130, 3) := dk_182 0 130 (dk_at dksX5_told_2 19 rfl rfl)
theorem dX5_told_94 : decode cX5_told 94 = .ok (.ireturn, 1) := dk_172 (dk_at dksX5_told_2 22 rfl rfl)
theorem dX5_told_95 : decode cX5_told 95 = .ok (.aload_n 0, 1) := dk_42 (dk_at dksX5_told_2 23 rfl rfl)
theorem dX5_told_96 : decode cX5_told 96 = .ok (.iload_n 1, 1) := dk_27 (dk_at dksX5_told_3 0 rfl rfl)
theorem dX5_told_97 : decode cX5_told 97 = .ok (.invokevirtual 136, 3) := dk_182 0 136 (dk_at dksX5_told_3 1 rfl rfl)
theorem dX5_told_100 : decode cX5_told 100 = .ok (.ireturn, 1) := dk_172 (dk_at dksX5_told_3 4 rfl rfl)
theorem dX5_told_101 : decode cX5_told 101 = .ok (.aload_n 0, 1) := dk_42 (dk_at dksX5_told_3 5 rfl rfl)
theorem dX5_told_102 : decode cX5_told 102 = .ok (.iload_n 1, 1) := dk_27 (dk_at dksX5_told_3 6 rfl rfl)
theorem dX5_told_103 : decode cX5_told 103 = .ok (.invokevirtual 139, 3) := dk_182 0 139 (dk_at dksX5_told_3 7 rfl rfl)
theorem dX5_told_106 : decode cX5_told 106 = .ok (.ireturn, 1) := dk_172 (dk_at dksX5_told_3 10 rfl rfl)
theorem dX5_told_107 : decode cX5_told 107 = .ok (.aload_n 0, 1) := dk_42 (dk_at dksX5_told_3 11 rfl rfl)
theorem dX5_told_108 : decode cX5_told 108 = .ok (.iload_n 1, 1) := dk_27 (dk_at dksX5_told_3 12 rfl rfl)
theorem dX5_told_109 : decode cX5_told 109 = .ok (.invokevirtual 142, 3) := dk_182 0 142 (dk_at dksX5_told_3 13 rfl rfl)
theorem dX5_told_112 : decode cX5_told 112 = .ok (.ireturn, 1) := dk_172 (dk_at dksX5_told_3 16 rfl rfl)
theorem dX5_told_113 : decode cX5_told 113 = .ok (.ldc 100, 2) := dk_18 100 (dk_at dksX5_told_3 17 rfl rfl)
theorem dX5_told_115 : decode cX5_told 115 = .ok (.ireturn, 1) := dk_172 (dk_at dksX5_told_3 19 rfl rfl)
abbrev cX5_isHouse : ByteArray := prog_18_method_11_code
def yX5_isHouse : MethodName := ⟨RX5, "isHouse", "(I)Z"⟩
def dkwX5_isHouse_0 : List UInt8 := [27, 133, 9, 42, 180, 0, 7, 3, 46, 4, 100, 133, 184, 0, 71, 172]
abbrev dktX5_isHouse_0 : List UInt8 := dkwX5_isHouse_0 ++ []
theorem dksX5_isHouse_0 : cX5_isHouse.data.toList.drop 0 = dktX5_isHouse_0 := by decide +kernel
theorem dX5_isHouse_0 : decode cX5_isHouse 0 = .ok (.iload_n 1, 1) := dk_27 (dk_at dksX5_isHouse_0 0 rfl rfl)
theorem dX5_isHouse_1 : decode cX5_isHouse 1 = .ok (.i2l, 1) := dk_133 (dk_at dksX5_isHouse_0 1 rfl rfl)
theorem dX5_isHouse_2 : decode cX5_isHouse 2 = .ok (.lconst 0, 1) := dk_9 (dk_at dksX5_isHouse_0 2 rfl rfl)
theorem dX5_isHouse_3 : decode cX5_isHouse 3 = .ok (.aload_n 0, 1) := dk_42 (dk_at dksX5_isHouse_0 3 rfl rfl)
theorem dX5_isHouse_4 : decode cX5_isHouse 4 = .ok (.getfield 7, 3) := dk_180 0 7 (dk_at dksX5_isHouse_0 4 rfl rfl)
theorem dX5_isHouse_7 : decode cX5_isHouse 7 = .ok (.iconst 0, 1) := dk_3 (dk_at dksX5_isHouse_0 7 rfl rfl)
theorem dX5_isHouse_8 : decode cX5_isHouse 8 = .ok (.iaload, 1) := dk_46 (dk_at dksX5_isHouse_0 8 rfl rfl)
theorem dX5_isHouse_9 : decode cX5_isHouse 9 = .ok (.iconst 1, 1) := dk_4 (dk_at dksX5_isHouse_0 9 rfl rfl)
theorem dX5_isHouse_10 : decode cX5_isHouse 10 = .ok (.isub, 1) := dk_100 (dk_at dksX5_isHouse_0 10 rfl rfl)
theorem dX5_isHouse_11 : decode cX5_isHouse 11 = .ok (.i2l, 1) := dk_133 (dk_at dksX5_isHouse_0 11 rfl rfl)
theorem dX5_isHouse_12 : decode cX5_isHouse 12 = .ok (.invokestatic 71, 3) := dk_184 0 71 (dk_at dksX5_isHouse_0 12 rfl rfl)
theorem dX5_isHouse_15 : decode cX5_isHouse 15 = .ok (.ireturn, 1) := dk_172 (dk_at dksX5_isHouse_0 15 rfl rfl)
abbrev cX5_of : ByteArray := prog_18_method_9_code
def yX5_of : MethodName := ⟨RX5, "of", "(II)I"⟩
def dkwX5_of_0 : List UInt8 := [42, 180, 0, 7, 16, 6, 16, 7, 27, 104, 96, 28, 96, 46, 172]
abbrev dktX5_of_0 : List UInt8 := dkwX5_of_0 ++ []
theorem dksX5_of_0 : cX5_of.data.toList.drop 0 = dktX5_of_0 := by decide +kernel
theorem dX5_of_0 : decode cX5_of 0 = .ok (.aload_n 0, 1) := dk_42 (dk_at dksX5_of_0 0 rfl rfl)
theorem dX5_of_1 : decode cX5_of 1 = .ok (.getfield 7, 3) := dk_180 0 7 (dk_at dksX5_of_0 1 rfl rfl)
theorem dX5_of_4 : decode cX5_of 4 = .ok (.bipush 6, 2) := dk_16 6 (dk_at dksX5_of_0 4 rfl rfl)
theorem dX5_of_6 : decode cX5_of 6 = .ok (.bipush 7, 2) := dk_16 7 (dk_at dksX5_of_0 6 rfl rfl)
theorem dX5_of_8 : decode cX5_of 8 = .ok (.iload_n 1, 1) := dk_27 (dk_at dksX5_of_0 8 rfl rfl)
theorem dX5_of_9 : decode cX5_of 9 = .ok (.imul, 1) := dk_104 (dk_at dksX5_of_0 9 rfl rfl)
theorem dX5_of_10 : decode cX5_of 10 = .ok (.iadd, 1) := dk_96 (dk_at dksX5_of_0 10 rfl rfl)
theorem dX5_of_11 : decode cX5_of 11 = .ok (.iload_n 2, 1) := dk_28 (dk_at dksX5_of_0 11 rfl rfl)
theorem dX5_of_12 : decode cX5_of 12 = .ok (.iadd, 1) := dk_96 (dk_at dksX5_of_0 12 rfl rfl)
theorem dX5_of_13 : decode cX5_of 13 = .ok (.iaload, 1) := dk_46 (dk_at dksX5_of_0 13 rfl rfl)
theorem dX5_of_14 : decode cX5_of 14 = .ok (.ireturn, 1) := dk_172 (dk_at dksX5_of_0 14 rfl rfl)
abbrev cX5_pushes : ByteArray := prog_18_method_18_code
def yX5_pushes : MethodName := ⟨RX5, "pushes", "(I)I"⟩
def dkwX5_pushes_6 : List UInt8 := [172, 5, 29, 7, 96, 104, 172, 3, 172, 29, 172]
abbrev dktX5_pushes_6 : List UInt8 := dkwX5_pushes_6 ++ []
def dkwX5_pushes_5 : List UInt8 := [29, 5, 108, 172, 29, 7, 96, 172, 29, 5, 108, 8, 164, 0, 11, 29, 5, 108, 8, 100, 167, 0, 4, 3]
abbrev dktX5_pushes_5 : List UInt8 := dkwX5_pushes_5 ++ dktX5_pushes_6
def dkwX5_pushes_4 : List UInt8 := [170, 0, 0, 0, 0, 0, 68, 0, 0, 0, 1, 0, 0, 0, 5, 0, 0, 0, 35, 0, 0, 0, 39, 0, 0, 0, 43, 0, 0, 0, 60, 0, 0, 0, 66]
abbrev dktX5_pushes_4 : List UInt8 := dkwX5_pushes_4 ++ dktX5_pushes_5
def dkwX5_pushes_3 : List UInt8 := [182, 0, 113, 3, 17, 3, 231, 184, 0, 116, 62, 42, 27, 3, 182, 0, 75]
abbrev dktX5_pushes_3 : List UInt8 := dkwX5_pushes_3 ++ dktX5_pushes_4
def dkwX5_pushes_2 : List UInt8 := [42, 180, 0, 55, 16, 108, 28, 79, 42, 180, 0, 55, 16, 99, 42, 27, 7, 182, 0, 75, 79, 42, 21, 4]
abbrev dktX5_pushes_2 : List UInt8 := dkwX5_pushes_2 ++ dktX5_pushes_3
def dkwX5_pushes_1 : List UInt8 := [3, 182, 0, 109, 54, 4, 21, 4, 155, 0, 51, 42, 180, 0, 55, 16, 119, 42, 27, 4, 182, 0, 75, 79]
abbrev dktX5_pushes_1 : List UInt8 := dkwX5_pushes_1 ++ dktX5_pushes_2
def dkwX5_pushes_0 : List UInt8 := [42, 27, 5, 182, 0, 75, 3, 184, 0, 106, 61, 42, 27, 4, 182, 0, 75, 28, 104, 16, 10, 108, 62, 42]
abbrev dktX5_pushes_0 : List UInt8 := dkwX5_pushes_0 ++ dktX5_pushes_1
theorem dksX5_pushes_0 : cX5_pushes.data.toList.drop 0 = dktX5_pushes_0 := by decide +kernel
theorem dksX5_pushes_1 : cX5_pushes.data.toList.drop 24 = dktX5_pushes_1 := dk_seg dksX5_pushes_0 24 rfl rfl
theorem dksX5_pushes_2 : cX5_pushes.data.toList.drop 48 = dktX5_pushes_2 := dk_seg dksX5_pushes_1 24 rfl rfl
theorem dksX5_pushes_3 : cX5_pushes.data.toList.drop 72 = dktX5_pushes_3 := dk_seg dksX5_pushes_2 24 rfl rfl
theorem dksX5_pushes_4 : cX5_pushes.data.toList.drop 89 = dktX5_pushes_4 := dk_seg dksX5_pushes_3 17 rfl rfl
theorem dksX5_pushes_5 : cX5_pushes.data.toList.drop 124 = dktX5_pushes_5 := dk_seg dksX5_pushes_4 35 rfl rfl
theorem dksX5_pushes_6 : cX5_pushes.data.toList.drop 148 = dktX5_pushes_6 := dk_seg dksX5_pushes_5 24 rfl rfl
theorem dX5_pushes_0 : decode cX5_pushes 0 = .ok (.aload_n 0, 1) := dk_42 (dk_at dksX5_pushes_0 0 rfl rfl)
theorem dX5_pushes_1 : decode cX5_pushes 1 = .ok (.iload_n 1, 1) := dk_27 (dk_at dksX5_pushes_0 1 rfl rfl)
theorem dX5_pushes_2 : decode cX5_pushes 2 = .ok (.iconst 2, 1) := dk_5 (dk_at dksX5_pushes_0 2 rfl rfl)
theorem dX5_pushes_3 : decode cX5_pushes 3 = .ok (.invokevirtual 75, 3) := dk_182 0 75 (dk_at dksX5_pushes_0 3 rfl rfl)
theorem dX5_pushes_6 : decode cX5_pushes 6 = .ok (.iconst 0, 1) := dk_3 (dk_at dksX5_pushes_0 6 rfl rfl)
theorem dX5_pushes_7 : decode cX5_pushes 7 = .ok (.invokestatic 106, 3) := dk_184 0 106 (dk_at dksX5_pushes_0 7 rfl rfl)
theorem dX5_pushes_10 : decode cX5_pushes 10 = .ok (.istore_n 2, 1) := dk_61 (dk_at dksX5_pushes_0 10 rfl rfl)
theorem dX5_pushes_11 : decode cX5_pushes 11 = .ok (.aload_n 0, 1) := dk_42 (dk_at dksX5_pushes_0 11 rfl rfl)
theorem dX5_pushes_12 : decode cX5_pushes 12 = .ok (.iload_n 1, 1) := dk_27 (dk_at dksX5_pushes_0 12 rfl rfl)
theorem dX5_pushes_13 : decode cX5_pushes 13 = .ok (.iconst 1, 1) := dk_4 (dk_at dksX5_pushes_0 13 rfl rfl)
theorem dX5_pushes_14 : decode cX5_pushes 14 = .ok (.invokevirtual 75, 3) := dk_182 0 75 (dk_at dksX5_pushes_0 14 rfl rfl)
theorem dX5_pushes_17 : decode cX5_pushes 17 = .ok (.iload_n 2, 1) := dk_28 (dk_at dksX5_pushes_0 17 rfl rfl)
theorem dX5_pushes_18 : decode cX5_pushes 18 = .ok (.imul, 1) := dk_104 (dk_at dksX5_pushes_0 18 rfl rfl)
theorem dX5_pushes_19 : decode cX5_pushes 19 = .ok (.bipush 10, 2) := dk_16 10 (dk_at dksX5_pushes_0 19 rfl rfl)
theorem dX5_pushes_21 : decode cX5_pushes 21 = .ok (.idiv, 1) := dk_108 (dk_at dksX5_pushes_0 21 rfl rfl)
theorem dX5_pushes_22 : decode cX5_pushes 22 = .ok (.istore_n 3, 1) := dk_62 (dk_at dksX5_pushes_0 22 rfl rfl)
theorem dX5_pushes_23 : decode cX5_pushes 23 = .ok (.aload_n 0, 1) := dk_42 (dk_at dksX5_pushes_0 23 rfl rfl)
theorem dX5_pushes_24 : decode cX5_pushes 24 = .ok (.iconst 0, 1) := dk_3 (dk_at dksX5_pushes_1 0 rfl rfl)
theorem dX5_pushes_25 : decode cX5_pushes 25 = .ok (.invokevirtual 109, 3) := dk_182 0 109 (dk_at dksX5_pushes_1 1 rfl rfl)
theorem dX5_pushes_28 : decode cX5_pushes 28 = .ok (.istore 4, 2) := dk_54 4 (dk_at dksX5_pushes_1 4 rfl rfl)
theorem dX5_pushes_30 : decode cX5_pushes 30 = .ok (.iload 4, 2) := dk_21 4 (dk_at dksX5_pushes_1 6 rfl rfl)
theorem dX5_pushes_32 : decode cX5_pushes 32 = .ok (.ifCond .lt 51, 3) := dk_155 0 51 (dk_at dksX5_pushes_1 8 rfl rfl)
theorem dX5_pushes_35 : decode cX5_pushes 35 = .ok (.aload_n 0, 1) := dk_42 (dk_at dksX5_pushes_1 11 rfl rfl)
theorem dX5_pushes_36 : decode cX5_pushes 36 = .ok (.getfield 55, 3) := dk_180 0 55 (dk_at dksX5_pushes_1 12 rfl rfl)
theorem dX5_pushes_39 : decode cX5_pushes 39 = .ok (.bipush 119, 2) := dk_16 119 (dk_at dksX5_pushes_1 15 rfl rfl)
theorem dX5_pushes_41 : decode cX5_pushes 41 = .ok (.aload_n 0, 1) := dk_42 (dk_at dksX5_pushes_1 17 rfl rfl)
theorem dX5_pushes_42 : decode cX5_pushes 42 = .ok (.iload_n 1, 1) := dk_27 (dk_at dksX5_pushes_1 18 rfl rfl)
theorem dX5_pushes_43 : decode cX5_pushes 43 = .ok (.iconst 1, 1) := dk_4 (dk_at dksX5_pushes_1 19 rfl rfl)
theorem dX5_pushes_44 : decode cX5_pushes 44 = .ok (.invokevirtual 75, 3) := dk_182 0 75 (dk_at dksX5_pushes_1 20 rfl rfl)
theorem dX5_pushes_47 : decode cX5_pushes 47 = .ok (.iastore, 1) := dk_79 (dk_at dksX5_pushes_1 23 rfl rfl)
theorem dX5_pushes_48 : decode cX5_pushes 48 = .ok (.aload_n 0, 1) := dk_42 (dk_at dksX5_pushes_2 0 rfl rfl)
theorem dX5_pushes_49 : decode cX5_pushes 49 = .ok (.getfield 55, 3) := dk_180 0 55 (dk_at dksX5_pushes_2 1 rfl rfl)
theorem dX5_pushes_52 : decode cX5_pushes 52 = .ok (.bipush 108, 2) := dk_16 108 (dk_at dksX5_pushes_2 4 rfl rfl)
theorem dX5_pushes_54 : decode cX5_pushes 54 = .ok (.iload_n 2, 1) := dk_28 (dk_at dksX5_pushes_2 6 rfl rfl)
theorem dX5_pushes_55 : decode cX5_pushes 55 = .ok (.iastore, 1) := dk_79 (dk_at dksX5_pushes_2 7 rfl rfl)
theorem dX5_pushes_56 : decode cX5_pushes 56 = .ok (.aload_n 0, 1) := dk_42 (dk_at dksX5_pushes_2 8 rfl rfl)
theorem dX5_pushes_57 : decode cX5_pushes 57 = .ok (.getfield 55, 3) := dk_180 0 55 (dk_at dksX5_pushes_2 9 rfl rfl)
theorem dX5_pushes_60 : decode cX5_pushes 60 = .ok (.bipush 99, 2) := dk_16 99 (dk_at dksX5_pushes_2 12 rfl rfl)
theorem dX5_pushes_62 : decode cX5_pushes 62 = .ok (.aload_n 0, 1) := dk_42 (dk_at dksX5_pushes_2 14 rfl rfl)
theorem dX5_pushes_63 : decode cX5_pushes 63 = .ok (.iload_n 1, 1) := dk_27 (dk_at dksX5_pushes_2 15 rfl rfl)
theorem dX5_pushes_64 : decode cX5_pushes 64 = .ok (.iconst 4, 1) := dk_7 (dk_at dksX5_pushes_2 16 rfl rfl)
theorem dX5_pushes_65 : decode cX5_pushes 65 = .ok (.invokevirtual 75, 3) := dk_182 0 75 (dk_at dksX5_pushes_2 17 rfl rfl)
theorem dX5_pushes_68 : decode cX5_pushes 68 = .ok (.iastore, 1) := dk_79 (dk_at dksX5_pushes_2 20 rfl rfl)
theorem dX5_pushes_69 : decode cX5_pushes 69 = .ok (.aload_n 0, 1) := dk_42 (dk_at dksX5_pushes_2 21 rfl rfl)
theorem dX5_pushes_70 : decode cX5_pushes 70 = .ok (.iload 4, 2) := dk_21 4 (dk_at dksX5_pushes_2 22 rfl rfl)
theorem dX5_pushes_72 : decode cX5_pushes 72 = .ok (.invokevirtual 113, 3) := dk_182 0 113 (dk_at dksX5_pushes_3 0 rfl rfl)
theorem dX5_pushes_75 : decode cX5_pushes 75 = .ok (.iconst 0, 1) := dk_3 (dk_at dksX5_pushes_3 3 rfl rfl)
theorem dX5_pushes_76 : decode cX5_pushes 76 = .ok (.sipush 999, 3) := dk_17 3 231 (dk_at dksX5_pushes_3 4 rfl rfl)
theorem dX5_pushes_79 : decode cX5_pushes 79 = .ok (.invokestatic 116, 3) := dk_184 0 116 (dk_at dksX5_pushes_3 7 rfl rfl)
theorem dX5_pushes_82 : decode cX5_pushes 82 = .ok (.istore_n 3, 1) := dk_62 (dk_at dksX5_pushes_3 10 rfl rfl)
theorem dX5_pushes_83 : decode cX5_pushes 83 = .ok (.aload_n 0, 1) := dk_42 (dk_at dksX5_pushes_3 11 rfl rfl)
theorem dX5_pushes_84 : decode cX5_pushes 84 = .ok (.iload_n 1, 1) := dk_27 (dk_at dksX5_pushes_3 12 rfl rfl)
theorem dX5_pushes_85 : decode cX5_pushes 85 = .ok (.iconst 0, 1) := dk_3 (dk_at dksX5_pushes_3 13 rfl rfl)
theorem dX5_pushes_86 : decode cX5_pushes 86 = .ok (.invokevirtual 75, 3) := dk_182 0 75 (dk_at dksX5_pushes_3 14 rfl rfl)
theorem dX5_pushes_89 : decode cX5_pushes 89 = .ok (.tableswitch 68 1 5 #[35, 39, 43, 60, 66], 35) := by decide +kernel
theorem dX5_pushes_124 : decode cX5_pushes 124 = .ok (.iload_n 3, 1) := dk_29 (dk_at dksX5_pushes_5 0 rfl rfl)
theorem dX5_pushes_125 : decode cX5_pushes 125 = .ok (.iconst 2, 1) := dk_5 (dk_at dksX5_pushes_5 1 rfl rfl)
theorem dX5_pushes_126 : decode cX5_pushes 126 = .ok (.idiv, 1) := dk_108 (dk_at dksX5_pushes_5 2 rfl rfl)
theorem dX5_pushes_127 : decode cX5_pushes 127 = .ok (.ireturn, 1) := dk_172 (dk_at dksX5_pushes_5 3 rfl rfl)
theorem dX5_pushes_128 : decode cX5_pushes 128 = .ok (.iload_n 3, 1) := dk_29 (dk_at dksX5_pushes_5 4 rfl rfl)
theorem dX5_pushes_129 : decode cX5_pushes 129 = .ok (.iconst 4, 1) := dk_7 (dk_at dksX5_pushes_5 5 rfl rfl)
theorem dX5_pushes_130 : decode cX5_pushes 130 = .ok (.iadd, 1) := dk_96 (dk_at dksX5_pushes_5 6 rfl rfl)
theorem dX5_pushes_131 : decode cX5_pushes 131 = .ok (.ireturn, 1) := dk_172 (dk_at dksX5_pushes_5 7 rfl rfl)
theorem dX5_pushes_132 : decode cX5_pushes 132 = .ok (.iload_n 3, 1) := dk_29 (dk_at dksX5_pushes_5 8 rfl rfl)
theorem dX5_pushes_133 : decode cX5_pushes 133 = .ok (.iconst 2, 1) := dk_5 (dk_at dksX5_pushes_5 9 rfl rfl)
theorem dX5_pushes_134 : decode cX5_pushes 134 = .ok (.idiv, 1) := dk_108 (dk_at dksX5_pushes_5 10 rfl rfl)
theorem dX5_pushes_135 : decode cX5_pushes 135 = .ok (.iconst 5, 1) := dk_8 (dk_at dksX5_pushes_5 11 rfl rfl)
theorem dX5_pushes_136 : decode cX5_pushes 136 = .ok (.if_icmp .le 11, 3) := dk_164 0 11 (dk_at dksX5_pushes_5 12 rfl rfl)
theorem dX5_pushes_139 : decode cX5_pushes 139 = .ok (.iload_n 3, 1) := dk_29 (dk_at dksX5_pushes_5 15 rfl rfl)
theorem dX5_pushes_140 : decode cX5_pushes 140 = .ok (.iconst 2, 1) := dk_5 (dk_at dksX5_pushes_5 16 rfl rfl)
theorem dX5_pushes_141 : decode cX5_pushes 141 = .ok (.idiv, 1) := dk_108 (dk_at dksX5_pushes_5 17 rfl rfl)
theorem dX5_pushes_142 : decode cX5_pushes 142 = .ok (.iconst 5, 1) := dk_8 (dk_at dksX5_pushes_5 18 rfl rfl)
theorem dX5_pushes_143 : decode cX5_pushes 143 = .ok (.isub, 1) := dk_100 (dk_at dksX5_pushes_5 19 rfl rfl)
theorem dX5_pushes_144 : decode cX5_pushes 144 = .ok (.goto 4, 3) := dk_167 0 4 (dk_at dksX5_pushes_5 20 rfl rfl)
theorem dX5_pushes_147 : decode cX5_pushes 147 = .ok (.iconst 0, 1) := dk_3 (dk_at dksX5_pushes_5 23 rfl rfl)
theorem dX5_pushes_148 : decode cX5_pushes 148 = .ok (.ireturn, 1) := dk_172 (dk_at dksX5_pushes_6 0 rfl rfl)
theorem dX5_pushes_149 : decode cX5_pushes 149 = .ok (.iconst 2, 1) := dk_5 (dk_at dksX5_pushes_6 1 rfl rfl)
theorem dX5_pushes_150 : decode cX5_pushes 150 = .ok (.iload_n 3, 1) := dk_29 (dk_at dksX5_pushes_6 2 rfl rfl)
theorem dX5_pushes_151 : decode cX5_pushes 151 = .ok (.iconst 4, 1) := dk_7 (dk_at dksX5_pushes_6 3 rfl rfl)
theorem dX5_pushes_152 : decode cX5_pushes 152 = .ok (.iadd, 1) := dk_96 (dk_at dksX5_pushes_6 4 rfl rfl)
theorem dX5_pushes_153 : decode cX5_pushes 153 = .ok (.imul, 1) := dk_104 (dk_at dksX5_pushes_6 5 rfl rfl)
theorem dX5_pushes_154 : decode cX5_pushes 154 = .ok (.ireturn, 1) := dk_172 (dk_at dksX5_pushes_6 6 rfl rfl)
theorem dX5_pushes_155 : decode cX5_pushes 155 = .ok (.iconst 0, 1) := dk_3 (dk_at dksX5_pushes_6 7 rfl rfl)
theorem dX5_pushes_156 : decode cX5_pushes 156 = .ok (.ireturn, 1) := dk_172 (dk_at dksX5_pushes_6 8 rfl rfl)
theorem dX5_pushes_157 : decode cX5_pushes 157 = .ok (.iload_n 3, 1) := dk_29 (dk_at dksX5_pushes_6 9 rfl rfl)
theorem dX5_pushes_158 : decode cX5_pushes 158 = .ok (.ireturn, 1) := dk_172 (dk_at dksX5_pushes_6 10 rfl rfl)
abbrev cX5_off : ByteArray := prog_18_method_5_code
def yX5_off : MethodName := ⟨RX5, "off", "(II)I"⟩
def dkwX5_off_0 : List UInt8 := [26, 27, 162, 0, 9, 27, 26, 100, 167, 0, 6, 26, 27, 100, 172]
abbrev dktX5_off_0 : List UInt8 := dkwX5_off_0 ++ []
theorem dksX5_off_0 : cX5_off.data.toList.drop 0 = dktX5_off_0 := by decide +kernel
theorem dX5_off_0 : decode cX5_off 0 = .ok (.iload_n 0, 1) := dk_26 (dk_at dksX5_off_0 0 rfl rfl)
theorem dX5_off_1 : decode cX5_off 1 = .ok (.iload_n 1, 1) := dk_27 (dk_at dksX5_off_0 1 rfl rfl)
theorem dX5_off_2 : decode cX5_off 2 = .ok (.if_icmp .ge 9, 3) := dk_162 0 9 (dk_at dksX5_off_0 2 rfl rfl)
theorem dX5_off_5 : decode cX5_off 5 = .ok (.iload_n 1, 1) := dk_27 (dk_at dksX5_off_0 5 rfl rfl)
theorem dX5_off_6 : decode cX5_off 6 = .ok (.iload_n 0, 1) := dk_26 (dk_at dksX5_off_0 6 rfl rfl)
theorem dX5_off_7 : decode cX5_off 7 = .ok (.isub, 1) := dk_100 (dk_at dksX5_off_0 7 rfl rfl)
theorem dX5_off_8 : decode cX5_off 8 = .ok (.goto 6, 3) := dk_167 0 6 (dk_at dksX5_off_0 8 rfl rfl)
theorem dX5_off_11 : decode cX5_off 11 = .ok (.iload_n 0, 1) := dk_26 (dk_at dksX5_off_0 11 rfl rfl)
theorem dX5_off_12 : decode cX5_off 12 = .ok (.iload_n 1, 1) := dk_27 (dk_at dksX5_off_0 12 rfl rfl)
theorem dX5_off_13 : decode cX5_off 13 = .ok (.isub, 1) := dk_100 (dk_at dksX5_off_0 13 rfl rfl)
theorem dX5_off_14 : decode cX5_off 14 = .ok (.ireturn, 1) := dk_172 (dk_at dksX5_off_0 14 rfl rfl)
abbrev cX5_counts : ByteArray := prog_18_method_72_code
def yX5_counts : MethodName := ⟨RX5, "counts", "(I)I"⟩
def dkwX5_counts_1 : List UInt8 := [27, 160, 0, 7, 29, 167, 0, 4, 28, 61, 132, 3, 1, 167, 255, 223, 28, 172]
abbrev dktX5_counts_1 : List UInt8 := dkwX5_counts_1 ++ []
def dkwX5_counts_0 : List UInt8 := [2, 61, 3, 62, 29, 42, 180, 0, 7, 4, 46, 162, 0, 29, 42, 180, 0, 7, 42, 29, 182, 1, 27, 46]
abbrev dktX5_counts_0 : List UInt8 := dkwX5_counts_0 ++ dktX5_counts_1
theorem dksX5_counts_0 : cX5_counts.data.toList.drop 0 = dktX5_counts_0 := by decide +kernel
theorem dksX5_counts_1 : cX5_counts.data.toList.drop 24 = dktX5_counts_1 := dk_seg dksX5_counts_0 24 rfl rfl
theorem dX5_counts_0 : decode cX5_counts 0 = .ok (.iconst (-1), 1) := dk_2 (dk_at dksX5_counts_0 0 rfl rfl)
theorem dX5_counts_1 : decode cX5_counts 1 = .ok (.istore_n 2, 1) := dk_61 (dk_at dksX5_counts_0 1 rfl rfl)
theorem dX5_counts_2 : decode cX5_counts 2 = .ok (.iconst 0, 1) := dk_3 (dk_at dksX5_counts_0 2 rfl rfl)
theorem dX5_counts_3 : decode cX5_counts 3 = .ok (.istore_n 3, 1) := dk_62 (dk_at dksX5_counts_0 3 rfl rfl)
theorem dX5_counts_4 : decode cX5_counts 4 = .ok (.iload_n 3, 1) := dk_29 (dk_at dksX5_counts_0 4 rfl rfl)
theorem dX5_counts_5 : decode cX5_counts 5 = .ok (.aload_n 0, 1) := dk_42 (dk_at dksX5_counts_0 5 rfl rfl)
theorem dX5_counts_6 : decode cX5_counts 6 = .ok (.getfield 7, 3) := dk_180 0 7 (dk_at dksX5_counts_0 6 rfl rfl)
theorem dX5_counts_9 : decode cX5_counts 9 = .ok (.iconst 1, 1) := dk_4 (dk_at dksX5_counts_0 9 rfl rfl)
theorem dX5_counts_10 : decode cX5_counts 10 = .ok (.iaload, 1) := dk_46 (dk_at dksX5_counts_0 10 rfl rfl)
theorem dX5_counts_11 : decode cX5_counts 11 = .ok (.if_icmp .ge 29, 3) := dk_162 0 29 (dk_at dksX5_counts_0 11 rfl rfl)
theorem dX5_counts_14 : decode cX5_counts 14 = .ok (.aload_n 0, 1) := dk_42 (dk_at dksX5_counts_0 14 rfl rfl)
theorem dX5_counts_15 : decode cX5_counts 15 = .ok (.getfield 7, 3) := dk_180 0 7 (dk_at dksX5_counts_0 15 rfl rfl)
theorem dX5_counts_18 : decode cX5_counts 18 = .ok (.aload_n 0, 1) := dk_42 (dk_at dksX5_counts_0 18 rfl rfl)
theorem dX5_counts_19 : decode cX5_counts 19 = .ok (.iload_n 3, 1) := dk_29 (dk_at dksX5_counts_0 19 rfl rfl)
theorem dX5_counts_20 : decode cX5_counts 20 = .ok (.invokevirtual 283, 3) := dk_182 1 27 (dk_at dksX5_counts_0 20 rfl rfl)
theorem dX5_counts_23 : decode cX5_counts 23 = .ok (.iaload, 1) := dk_46 (dk_at dksX5_counts_0 23 rfl rfl)
theorem dX5_counts_24 : decode cX5_counts 24 = .ok (.iload_n 1, 1) := dk_27 (dk_at dksX5_counts_1 0 rfl rfl)
theorem dX5_counts_25 : decode cX5_counts 25 = .ok (.if_icmp .ne 7, 3) := dk_160 0 7 (dk_at dksX5_counts_1 1 rfl rfl)
theorem dX5_counts_28 : decode cX5_counts 28 = .ok (.iload_n 3, 1) := dk_29 (dk_at dksX5_counts_1 4 rfl rfl)
theorem dX5_counts_29 : decode cX5_counts 29 = .ok (.goto 4, 3) := dk_167 0 4 (dk_at dksX5_counts_1 5 rfl rfl)
theorem dX5_counts_32 : decode cX5_counts 32 = .ok (.iload_n 2, 1) := dk_28 (dk_at dksX5_counts_1 8 rfl rfl)
theorem dX5_counts_33 : decode cX5_counts 33 = .ok (.istore_n 2, 1) := dk_61 (dk_at dksX5_counts_1 9 rfl rfl)
theorem dX5_counts_34 : decode cX5_counts 34 = .ok (.iinc 3 1, 3) := dk_132 3 1 (dk_at dksX5_counts_1 10 rfl rfl)
theorem dX5_counts_37 : decode cX5_counts 37 = .ok (.goto (-33), 3) := dk_167 255 223 (dk_at dksX5_counts_1 13 rfl rfl)
theorem dX5_counts_40 : decode cX5_counts 40 = .ok (.iload_n 2, 1) := dk_28 (dk_at dksX5_counts_1 16 rfl rfl)
theorem dX5_counts_41 : decode cX5_counts 41 = .ok (.ireturn, 1) := dk_172 (dk_at dksX5_counts_1 17 rfl rfl)
abbrev cX5_textAt : ByteArray := prog_18_method_8_code
def yX5_textAt : MethodName := ⟨RX5, "textAt", "(I)I"⟩
def dkwX5_textAt_0 : List UInt8 := [16, 69, 17, 0, 200, 27, 104, 96, 172]
abbrev dktX5_textAt_0 : List UInt8 := dkwX5_textAt_0 ++ []
theorem dksX5_textAt_0 : cX5_textAt.data.toList.drop 0 = dktX5_textAt_0 := by decide +kernel
theorem dX5_textAt_0 : decode cX5_textAt 0 = .ok (.bipush 69, 2) := dk_16 69 (dk_at dksX5_textAt_0 0 rfl rfl)
theorem dX5_textAt_2 : decode cX5_textAt 2 = .ok (.sipush 200, 3) := dk_17 0 200 (dk_at dksX5_textAt_0 2 rfl rfl)
theorem dX5_textAt_5 : decode cX5_textAt 5 = .ok (.iload_n 1, 1) := dk_27 (dk_at dksX5_textAt_0 5 rfl rfl)
theorem dX5_textAt_6 : decode cX5_textAt 6 = .ok (.imul, 1) := dk_104 (dk_at dksX5_textAt_0 6 rfl rfl)
theorem dX5_textAt_7 : decode cX5_textAt 7 = .ok (.iadd, 1) := dk_96 (dk_at dksX5_textAt_0 7 rfl rfl)
theorem dX5_textAt_8 : decode cX5_textAt 8 = .ok (.ireturn, 1) := dk_172 (dk_at dksX5_textAt_0 8 rfl rfl)
abbrev cX5_worked : ByteArray := prog_18_method_75_code
def yX5_worked : MethodName := ⟨RX5, "worked", "(I)I"⟩
def dkwX5_worked_7 : List UInt8 := [3, 46, 172]
abbrev dktX5_worked_7 : List UInt8 := dkwX5_worked_7 ++ []
def dkwX5_worked_6 : List UInt8 := [28, 4, 100, 46, 42, 180, 0, 58, 28, 46, 184, 1, 41, 79, 132, 3, 1, 167, 255, 100, 42, 180, 0, 58]
abbrev dktX5_worked_6 : List UInt8 := dkwX5_worked_6 ++ dktX5_worked_7
def dkwX5_worked_5 : List UInt8 := [167, 0, 4, 3, 79, 167, 0, 33, 132, 2, 255, 42, 180, 0, 58, 28, 4, 100, 21, 5, 42, 180, 0, 58]
abbrev dktX5_worked_5 : List UInt8 := dkwX5_worked_5 ++ dktX5_worked_6
def dkwX5_worked_4 : List UInt8 := [16, 33, 160, 0, 30, 42, 180, 0, 58, 28, 4, 100, 42, 180, 0, 58, 28, 4, 100, 46, 154, 0, 7, 4]
abbrev dktX5_worked_4 : List UInt8 := dkwX5_worked_4 ++ dktX5_worked_5
def dkwX5_worked_3 : List UInt8 := [154, 0, 8, 21, 5, 167, 0, 10, 42, 180, 0, 55, 21, 5, 46, 79, 132, 2, 1, 167, 0, 67, 21, 5]
abbrev dktX5_worked_3 : List UInt8 := dkwX5_worked_3 ++ dktX5_worked_4
def dkwX5_worked_2 : List UInt8 := [96, 5, 29, 104, 96, 4, 96, 46, 54, 5, 21, 4, 5, 159, 0, 32, 42, 180, 0, 58, 28, 21, 4]
abbrev dktX5_worked_2 : List UInt8 := dkwX5_worked_2 ++ dktX5_worked_3
def dkwX5_worked_1 : List UInt8 := [42, 27, 182, 1, 27, 7, 96, 5, 29, 104, 96, 46, 54, 4, 42, 180, 0, 7, 42, 27, 182, 1, 27, 7]
abbrev dktX5_worked_1 : List UInt8 := dkwX5_worked_1 ++ dktX5_worked_2
def dkwX5_worked_0 : List UInt8 := [3, 61, 3, 62, 29, 42, 180, 0, 7, 42, 27, 182, 1, 27, 5, 96, 46, 162, 0, 146, 42, 180, 0, 7]
abbrev dktX5_worked_0 : List UInt8 := dkwX5_worked_0 ++ dktX5_worked_1
theorem dksX5_worked_0 : cX5_worked.data.toList.drop 0 = dktX5_worked_0 := by decide +kernel
theorem dksX5_worked_1 : cX5_worked.data.toList.drop 24 = dktX5_worked_1 := dk_seg dksX5_worked_0 24 rfl rfl
theorem dksX5_worked_2 : cX5_worked.data.toList.drop 48 = dktX5_worked_2 := dk_seg dksX5_worked_1 24 rfl rfl
theorem dksX5_worked_3 : cX5_worked.data.toList.drop 71 = dktX5_worked_3 := dk_seg dksX5_worked_2 23 rfl rfl
theorem dksX5_worked_4 : cX5_worked.data.toList.drop 95 = dktX5_worked_4 := dk_seg dksX5_worked_3 24 rfl rfl
theorem dksX5_worked_5 : cX5_worked.data.toList.drop 119 = dktX5_worked_5 := dk_seg dksX5_worked_4 24 rfl rfl
theorem dksX5_worked_6 : cX5_worked.data.toList.drop 143 = dktX5_worked_6 := dk_seg dksX5_worked_5 24 rfl rfl
theorem dksX5_worked_7 : cX5_worked.data.toList.drop 167 = dktX5_worked_7 := dk_seg dksX5_worked_6 24 rfl rfl
theorem dX5_worked_0 : decode cX5_worked 0 = .ok (.iconst 0, 1) := dk_3 (dk_at dksX5_worked_0 0 rfl rfl)
theorem dX5_worked_1 : decode cX5_worked 1 = .ok (.istore_n 2, 1) := dk_61 (dk_at dksX5_worked_0 1 rfl rfl)
theorem dX5_worked_2 : decode cX5_worked 2 = .ok (.iconst 0, 1) := dk_3 (dk_at dksX5_worked_0 2 rfl rfl)
theorem dX5_worked_3 : decode cX5_worked 3 = .ok (.istore_n 3, 1) := dk_62 (dk_at dksX5_worked_0 3 rfl rfl)
theorem dX5_worked_4 : decode cX5_worked 4 = .ok (.iload_n 3, 1) := dk_29 (dk_at dksX5_worked_0 4 rfl rfl)
theorem dX5_worked_5 : decode cX5_worked 5 = .ok (.aload_n 0, 1) := dk_42 (dk_at dksX5_worked_0 5 rfl rfl)
theorem dX5_worked_6 : decode cX5_worked 6 = .ok (.getfield 7, 3) := dk_180 0 7 (dk_at dksX5_worked_0 6 rfl rfl)
theorem dX5_worked_9 : decode cX5_worked 9 = .ok (.aload_n 0, 1) := dk_42 (dk_at dksX5_worked_0 9 rfl rfl)
theorem dX5_worked_10 : decode cX5_worked 10 = .ok (.iload_n 1, 1) := dk_27 (dk_at dksX5_worked_0 10 rfl rfl)
theorem dX5_worked_11 : decode cX5_worked 11 = .ok (.invokevirtual 283, 3) := dk_182 1 27 (dk_at dksX5_worked_0 11 rfl rfl)
theorem dX5_worked_14 : decode cX5_worked 14 = .ok (.iconst 2, 1) := dk_5 (dk_at dksX5_worked_0 14 rfl rfl)
theorem dX5_worked_15 : decode cX5_worked 15 = .ok (.iadd, 1) := dk_96 (dk_at dksX5_worked_0 15 rfl rfl)
theorem dX5_worked_16 : decode cX5_worked 16 = .ok (.iaload, 1) := dk_46 (dk_at dksX5_worked_0 16 rfl rfl)
theorem dX5_worked_17 : decode cX5_worked 17 = .ok (.if_icmp .ge 146, 3) := dk_162 0 146 (dk_at dksX5_worked_0 17 rfl rfl)
theorem dX5_worked_20 : decode cX5_worked 20 = .ok (.aload_n 0, 1) := dk_42 (dk_at dksX5_worked_0 20 rfl rfl)
theorem dX5_worked_21 : decode cX5_worked 21 = .ok (.getfield 7, 3) := dk_180 0 7 (dk_at dksX5_worked_0 21 rfl rfl)
theorem dX5_worked_24 : decode cX5_worked 24 = .ok (.aload_n 0, 1) := dk_42 (dk_at dksX5_worked_1 0 rfl rfl)
theorem dX5_worked_25 : decode cX5_worked 25 = .ok (.iload_n 1, 1) := dk_27 (dk_at dksX5_worked_1 1 rfl rfl)
theorem dX5_worked_26 : decode cX5_worked 26 = .ok (.invokevirtual 283, 3) := dk_182 1 27 (dk_at dksX5_worked_1 2 rfl rfl)
theorem dX5_worked_29 : decode cX5_worked 29 = .ok (.iconst 4, 1) := dk_7 (dk_at dksX5_worked_1 5 rfl rfl)
theorem dX5_worked_30 : decode cX5_worked 30 = .ok (.iadd, 1) := dk_96 (dk_at dksX5_worked_1 6 rfl rfl)
theorem dX5_worked_31 : decode cX5_worked 31 = .ok (.iconst 2, 1) := dk_5 (dk_at dksX5_worked_1 7 rfl rfl)
theorem dX5_worked_32 : decode cX5_worked 32 = .ok (.iload_n 3, 1) := dk_29 (dk_at dksX5_worked_1 8 rfl rfl)
theorem dX5_worked_33 : decode cX5_worked 33 = .ok (.imul, 1) := dk_104 (dk_at dksX5_worked_1 9 rfl rfl)
theorem dX5_worked_34 : decode cX5_worked 34 = .ok (.iadd, 1) := dk_96 (dk_at dksX5_worked_1 10 rfl rfl)
theorem dX5_worked_35 : decode cX5_worked 35 = .ok (.iaload, 1) := dk_46 (dk_at dksX5_worked_1 11 rfl rfl)
theorem dX5_worked_36 : decode cX5_worked 36 = .ok (.istore 4, 2) := dk_54 4 (dk_at dksX5_worked_1 12 rfl rfl)
theorem dX5_worked_38 : decode cX5_worked 38 = .ok (.aload_n 0, 1) := dk_42 (dk_at dksX5_worked_1 14 rfl rfl)
theorem dX5_worked_39 : decode cX5_worked 39 = .ok (.getfield 7, 3) := dk_180 0 7 (dk_at dksX5_worked_1 15 rfl rfl)
theorem dX5_worked_42 : decode cX5_worked 42 = .ok (.aload_n 0, 1) := dk_42 (dk_at dksX5_worked_1 18 rfl rfl)
theorem dX5_worked_43 : decode cX5_worked 43 = .ok (.iload_n 1, 1) := dk_27 (dk_at dksX5_worked_1 19 rfl rfl)
theorem dX5_worked_44 : decode cX5_worked 44 = .ok (.invokevirtual 283, 3) := dk_182 1 27 (dk_at dksX5_worked_1 20 rfl rfl)
theorem dX5_worked_47 : decode cX5_worked 47 = .ok (.iconst 4, 1) := dk_7 (dk_at dksX5_worked_1 23 rfl rfl)
theorem dX5_worked_48 : decode cX5_worked 48 = .ok (.iadd, 1) := dk_96 (dk_at dksX5_worked_2 0 rfl rfl)
theorem dX5_worked_49 : decode cX5_worked 49 = .ok (.iconst 2, 1) := dk_5 (dk_at dksX5_worked_2 1 rfl rfl)
theorem dX5_worked_50 : decode cX5_worked 50 = .ok (.iload_n 3, 1) := dk_29 (dk_at dksX5_worked_2 2 rfl rfl)
theorem dX5_worked_51 : decode cX5_worked 51 = .ok (.imul, 1) := dk_104 (dk_at dksX5_worked_2 3 rfl rfl)
theorem dX5_worked_52 : decode cX5_worked 52 = .ok (.iadd, 1) := dk_96 (dk_at dksX5_worked_2 4 rfl rfl)
theorem dX5_worked_53 : decode cX5_worked 53 = .ok (.iconst 1, 1) := dk_4 (dk_at dksX5_worked_2 5 rfl rfl)
theorem dX5_worked_54 : decode cX5_worked 54 = .ok (.iadd, 1) := dk_96 (dk_at dksX5_worked_2 6 rfl rfl)
theorem dX5_worked_55 : decode cX5_worked 55 = .ok (.iaload, 1) := dk_46 (dk_at dksX5_worked_2 7 rfl rfl)
theorem dX5_worked_56 : decode cX5_worked 56 = .ok (.istore 5, 2) := dk_54 5 (dk_at dksX5_worked_2 8 rfl rfl)
theorem dX5_worked_58 : decode cX5_worked 58 = .ok (.iload 4, 2) := dk_21 4 (dk_at dksX5_worked_2 10 rfl rfl)
theorem dX5_worked_60 : decode cX5_worked 60 = .ok (.iconst 2, 1) := dk_5 (dk_at dksX5_worked_2 12 rfl rfl)
theorem dX5_worked_61 : decode cX5_worked 61 = .ok (.if_icmp .eq 32, 3) := dk_159 0 32 (dk_at dksX5_worked_2 13 rfl rfl)
theorem dX5_worked_64 : decode cX5_worked 64 = .ok (.aload_n 0, 1) := dk_42 (dk_at dksX5_worked_2 16 rfl rfl)
theorem dX5_worked_65 : decode cX5_worked 65 = .ok (.getfield 58, 3) := dk_180 0 58 (dk_at dksX5_worked_2 17 rfl rfl)
theorem dX5_worked_68 : decode cX5_worked 68 = .ok (.iload_n 2, 1) := dk_28 (dk_at dksX5_worked_2 20 rfl rfl)
theorem dX5_worked_69 : decode cX5_worked 69 = .ok (.iload 4, 2) := dk_21 4 (dk_at dksX5_worked_2 21 rfl rfl)
theorem dX5_worked_71 : decode cX5_worked 71 = .ok (.ifCond .ne 8, 3) := dk_154 0 8 (dk_at dksX5_worked_3 0 rfl rfl)
theorem dX5_worked_74 : decode cX5_worked 74 = .ok (.iload 5, 2) := dk_21 5 (dk_at dksX5_worked_3 3 rfl rfl)
theorem dX5_worked_76 : decode cX5_worked 76 = .ok (.goto 10, 3) := dk_167 0 10 (dk_at dksX5_worked_3 5 rfl rfl)
theorem dX5_worked_79 : decode cX5_worked 79 = .ok (.aload_n 0, 1) := dk_42 (dk_at dksX5_worked_3 8 rfl rfl)
theorem dX5_worked_80 : decode cX5_worked 80 = .ok (.getfield 55, 3) := dk_180 0 55 (dk_at dksX5_worked_3 9 rfl rfl)
theorem dX5_worked_83 : decode cX5_worked 83 = .ok (.iload 5, 2) := dk_21 5 (dk_at dksX5_worked_3 12 rfl rfl)
theorem dX5_worked_85 : decode cX5_worked 85 = .ok (.iaload, 1) := dk_46 (dk_at dksX5_worked_3 14 rfl rfl)
theorem dX5_worked_86 : decode cX5_worked 86 = .ok (.iastore, 1) := dk_79 (dk_at dksX5_worked_3 15 rfl rfl)
theorem dX5_worked_87 : decode cX5_worked 87 = .ok (.iinc 2 1, 3) := dk_132 2 1 (dk_at dksX5_worked_3 16 rfl rfl)
theorem dX5_worked_90 : decode cX5_worked 90 = .ok (.goto 67, 3) := dk_167 0 67 (dk_at dksX5_worked_3 19 rfl rfl)
theorem dX5_worked_93 : decode cX5_worked 93 = .ok (.iload 5, 2) := dk_21 5 (dk_at dksX5_worked_3 22 rfl rfl)
theorem dX5_worked_95 : decode cX5_worked 95 = .ok (.bipush 33, 2) := dk_16 33 (dk_at dksX5_worked_4 0 rfl rfl)
theorem dX5_worked_97 : decode cX5_worked 97 = .ok (.if_icmp .ne 30, 3) := dk_160 0 30 (dk_at dksX5_worked_4 2 rfl rfl)
theorem dX5_worked_100 : decode cX5_worked 100 = .ok (.aload_n 0, 1) := dk_42 (dk_at dksX5_worked_4 5 rfl rfl)
theorem dX5_worked_101 : decode cX5_worked 101 = .ok (.getfield 58, 3) := dk_180 0 58 (dk_at dksX5_worked_4 6 rfl rfl)
theorem dX5_worked_104 : decode cX5_worked 104 = .ok (.iload_n 2, 1) := dk_28 (dk_at dksX5_worked_4 9 rfl rfl)
theorem dX5_worked_105 : decode cX5_worked 105 = .ok (.iconst 1, 1) := dk_4 (dk_at dksX5_worked_4 10 rfl rfl)
theorem dX5_worked_106 : decode cX5_worked 106 = .ok (.isub, 1) := dk_100 (dk_at dksX5_worked_4 11 rfl rfl)
theorem dX5_worked_107 : decode cX5_worked 107 = .ok (.aload_n 0, 1) := dk_42 (dk_at dksX5_worked_4 12 rfl rfl)
theorem dX5_worked_108 : decode cX5_worked 108 = .ok (.getfield 58, 3) := dk_180 0 58 (dk_at dksX5_worked_4 13 rfl rfl)
theorem dX5_worked_111 : decode cX5_worked 111 = .ok (.iload_n 2, 1) := dk_28 (dk_at dksX5_worked_4 16 rfl rfl)
theorem dX5_worked_112 : decode cX5_worked 112 = .ok (.iconst 1, 1) := dk_4 (dk_at dksX5_worked_4 17 rfl rfl)
theorem dX5_worked_113 : decode cX5_worked 113 = .ok (.isub, 1) := dk_100 (dk_at dksX5_worked_4 18 rfl rfl)
theorem dX5_worked_114 : decode cX5_worked 114 = .ok (.iaload, 1) := dk_46 (dk_at dksX5_worked_4 19 rfl rfl)
theorem dX5_worked_115 : decode cX5_worked 115 = .ok (.ifCond .ne 7, 3) := dk_154 0 7 (dk_at dksX5_worked_4 20 rfl rfl)
theorem dX5_worked_118 : decode cX5_worked 118 = .ok (.iconst 1, 1) := dk_4 (dk_at dksX5_worked_4 23 rfl rfl)
theorem dX5_worked_119 : decode cX5_worked 119 = .ok (.goto 4, 3) := dk_167 0 4 (dk_at dksX5_worked_5 0 rfl rfl)
theorem dX5_worked_122 : decode cX5_worked 122 = .ok (.iconst 0, 1) := dk_3 (dk_at dksX5_worked_5 3 rfl rfl)
theorem dX5_worked_123 : decode cX5_worked 123 = .ok (.iastore, 1) := dk_79 (dk_at dksX5_worked_5 4 rfl rfl)
theorem dX5_worked_124 : decode cX5_worked 124 = .ok (.goto 33, 3) := dk_167 0 33 (dk_at dksX5_worked_5 5 rfl rfl)
theorem dX5_worked_127 : decode cX5_worked 127 = .ok (.iinc 2 (-1), 3) := dk_132 2 255 (dk_at dksX5_worked_5 8 rfl rfl)
theorem dX5_worked_130 : decode cX5_worked 130 = .ok (.aload_n 0, 1) := dk_42 (dk_at dksX5_worked_5 11 rfl rfl)
theorem dX5_worked_131 : decode cX5_worked 131 = .ok (.getfield 58, 3) := dk_180 0 58 (dk_at dksX5_worked_5 12 rfl rfl)
theorem dX5_worked_134 : decode cX5_worked 134 = .ok (.iload_n 2, 1) := dk_28 (dk_at dksX5_worked_5 15 rfl rfl)
theorem dX5_worked_135 : decode cX5_worked 135 = .ok (.iconst 1, 1) := dk_4 (dk_at dksX5_worked_5 16 rfl rfl)
theorem dX5_worked_136 : decode cX5_worked 136 = .ok (.isub, 1) := dk_100 (dk_at dksX5_worked_5 17 rfl rfl)
theorem dX5_worked_137 : decode cX5_worked 137 = .ok (.iload 5, 2) := dk_21 5 (dk_at dksX5_worked_5 18 rfl rfl)
theorem dX5_worked_139 : decode cX5_worked 139 = .ok (.aload_n 0, 1) := dk_42 (dk_at dksX5_worked_5 20 rfl rfl)
theorem dX5_worked_140 : decode cX5_worked 140 = .ok (.getfield 58, 3) := dk_180 0 58 (dk_at dksX5_worked_5 21 rfl rfl)
theorem dX5_worked_143 : decode cX5_worked 143 = .ok (.iload_n 2, 1) := dk_28 (dk_at dksX5_worked_6 0 rfl rfl)
theorem dX5_worked_144 : decode cX5_worked 144 = .ok (.iconst 1, 1) := dk_4 (dk_at dksX5_worked_6 1 rfl rfl)
theorem dX5_worked_145 : decode cX5_worked 145 = .ok (.isub, 1) := dk_100 (dk_at dksX5_worked_6 2 rfl rfl)
theorem dX5_worked_146 : decode cX5_worked 146 = .ok (.iaload, 1) := dk_46 (dk_at dksX5_worked_6 3 rfl rfl)
theorem dX5_worked_147 : decode cX5_worked 147 = .ok (.aload_n 0, 1) := dk_42 (dk_at dksX5_worked_6 4 rfl rfl)
theorem dX5_worked_148 : decode cX5_worked 148 = .ok (.getfield 58, 3) := dk_180 0 58 (dk_at dksX5_worked_6 5 rfl rfl)
theorem dX5_worked_151 : decode cX5_worked 151 = .ok (.iload_n 2, 1) := dk_28 (dk_at dksX5_worked_6 8 rfl rfl)
theorem dX5_worked_152 : decode cX5_worked 152 = .ok (.iaload, 1) := dk_46 (dk_at dksX5_worked_6 9 rfl rfl)
theorem dX5_worked_153 : decode cX5_worked 153 = .ok (.invokestatic 297, 3) := dk_184 1 41 (dk_at dksX5_worked_6 10 rfl rfl)
theorem dX5_worked_156 : decode cX5_worked 156 = .ok (.iastore, 1) := dk_79 (dk_at dksX5_worked_6 13 rfl rfl)
theorem dX5_worked_157 : decode cX5_worked 157 = .ok (.iinc 3 1, 3) := dk_132 3 1 (dk_at dksX5_worked_6 14 rfl rfl)
theorem dX5_worked_160 : decode cX5_worked 160 = .ok (.goto (-156), 3) := dk_167 255 100 (dk_at dksX5_worked_6 17 rfl rfl)
theorem dX5_worked_163 : decode cX5_worked 163 = .ok (.aload_n 0, 1) := dk_42 (dk_at dksX5_worked_6 20 rfl rfl)
theorem dX5_worked_164 : decode cX5_worked 164 = .ok (.getfield 58, 3) := dk_180 0 58 (dk_at dksX5_worked_6 21 rfl rfl)
theorem dX5_worked_167 : decode cX5_worked 167 = .ok (.iconst 0, 1) := dk_3 (dk_at dksX5_worked_7 0 rfl rfl)
theorem dX5_worked_168 : decode cX5_worked 168 = .ok (.iaload, 1) := dk_46 (dk_at dksX5_worked_7 1 rfl rfl)
theorem dX5_worked_169 : decode cX5_worked 169 = .ok (.ireturn, 1) := dk_172 (dk_at dksX5_worked_7 2 rfl rfl)
abbrev cX5_joined : ByteArray := prog_18_method_74_code
def yX5_joined : MethodName := ⟨RX5, "joined", "(III)I"⟩
def dkwX5_joined_6 : List UInt8 := [167, 0, 4, 3, 172]
abbrev dktX5_joined_6 : List UInt8 := dkwX5_joined_6 ++ []
def dkwX5_joined_5 : List UInt8 := [153, 0, 11, 28, 153, 0, 7, 4, 167, 0, 4, 3, 172, 27, 154, 0, 7, 28, 153, 0, 7, 4]
abbrev dktX5_joined_5 : List UInt8 := dkwX5_joined_5 ++ dktX5_joined_6
def dkwX5_joined_4 : List UInt8 := [28, 164, 0, 7, 4, 167, 0, 4, 3, 172, 27, 28, 160, 0, 7, 4, 167, 0, 4, 3, 172, 27]
abbrev dktX5_joined_4 : List UInt8 := dkwX5_joined_4 ++ dktX5_joined_5
def dkwX5_joined_3 : List UInt8 := [160, 0, 8, 27, 116, 167, 0, 6, 27, 28, 108, 172, 27, 28, 162, 0, 7, 4, 167, 0, 4, 3, 172, 27]
abbrev dktX5_joined_3 : List UInt8 := dkwX5_joined_3 ++ dktX5_joined_4
def dkwX5_joined_2 : List UInt8 := [27, 28, 96, 172, 27, 28, 100, 172, 27, 28, 104, 172, 28, 154, 0, 7, 3, 167, 0, 16, 28, 2]
abbrev dktX5_joined_2 : List UInt8 := dkwX5_joined_2 ++ dktX5_joined_3
def dkwX5_joined_1 : List UInt8 := [170, 0, 0, 0, 0, 0, 196, 0, 0, 0, 38, 0, 0, 0, 62, 0, 0, 0, 182, 0, 0, 0, 196, 0, 0, 0, 196, 0, 0, 0, 196, 0, 0, 0, 123, 0, 0, 0, 115, 0, 0, 0, 196, 0, 0, 0, 119, 0, 0, 0, 196, 0, 0, 0, 127, 0, 0, 0, 196, 0, 0, 0, 196, 0, 0, 0, 196, 0, 0, 0, 196, 0, 0, 0, 196, 0, 0, 0, 196, 0, 0, 0, 196, 0, 0, 0, 196, 0, 0, 0, 196, 0, 0, 0, 196, 0, 0, 0, 196, 0, 0, 0, 196, 0, 0, 0, 149, 0, 0, 0, 171, 0, 0, 0, 160]
abbrev dktX5_joined_1 : List UInt8 := dkwX5_joined_1 ++ dktX5_joined_2
def dkwX5_joined_0 : List UInt8 := [26]
abbrev dktX5_joined_0 : List UInt8 := dkwX5_joined_0 ++ dktX5_joined_1
theorem dksX5_joined_0 : cX5_joined.data.toList.drop 0 = dktX5_joined_0 := by decide +kernel
theorem dksX5_joined_1 : cX5_joined.data.toList.drop 1 = dktX5_joined_1 := dk_seg dksX5_joined_0 1 rfl rfl
theorem dksX5_joined_2 : cX5_joined.data.toList.drop 116 = dktX5_joined_2 := dk_seg dksX5_joined_1 115 rfl rfl
theorem dksX5_joined_3 : cX5_joined.data.toList.drop 138 = dktX5_joined_3 := dk_seg dksX5_joined_2 22 rfl rfl
theorem dksX5_joined_4 : cX5_joined.data.toList.drop 162 = dktX5_joined_4 := dk_seg dksX5_joined_3 24 rfl rfl
theorem dksX5_joined_5 : cX5_joined.data.toList.drop 184 = dktX5_joined_5 := dk_seg dksX5_joined_4 22 rfl rfl
theorem dksX5_joined_6 : cX5_joined.data.toList.drop 206 = dktX5_joined_6 := dk_seg dksX5_joined_5 22 rfl rfl
theorem dX5_joined_0 : decode cX5_joined 0 = .ok (.iload_n 0, 1) := dk_26 (dk_at dksX5_joined_0 0 rfl rfl)
theorem dX5_joined_1 : decode cX5_joined 1 = .ok (.tableswitch 196 38 62 #[182, 196, 196, 196, 123, 115, 196, 119, 196, 127, 196, 196, 196, 196, 196, 196, 196, 196, 196, 196, 196, 196, 149, 171, 160], 115) := by decide +kernel
theorem dX5_joined_116 : decode cX5_joined 116 = .ok (.iload_n 1, 1) := dk_27 (dk_at dksX5_joined_2 0 rfl rfl)
theorem dX5_joined_117 : decode cX5_joined 117 = .ok (.iload_n 2, 1) := dk_28 (dk_at dksX5_joined_2 1 rfl rfl)
theorem dX5_joined_118 : decode cX5_joined 118 = .ok (.iadd, 1) := dk_96 (dk_at dksX5_joined_2 2 rfl rfl)
theorem dX5_joined_119 : decode cX5_joined 119 = .ok (.ireturn, 1) := dk_172 (dk_at dksX5_joined_2 3 rfl rfl)
theorem dX5_joined_120 : decode cX5_joined 120 = .ok (.iload_n 1, 1) := dk_27 (dk_at dksX5_joined_2 4 rfl rfl)
theorem dX5_joined_121 : decode cX5_joined 121 = .ok (.iload_n 2, 1) := dk_28 (dk_at dksX5_joined_2 5 rfl rfl)
theorem dX5_joined_122 : decode cX5_joined 122 = .ok (.isub, 1) := dk_100 (dk_at dksX5_joined_2 6 rfl rfl)
theorem dX5_joined_123 : decode cX5_joined 123 = .ok (.ireturn, 1) := dk_172 (dk_at dksX5_joined_2 7 rfl rfl)
theorem dX5_joined_124 : decode cX5_joined 124 = .ok (.iload_n 1, 1) := dk_27 (dk_at dksX5_joined_2 8 rfl rfl)
theorem dX5_joined_125 : decode cX5_joined 125 = .ok (.iload_n 2, 1) := dk_28 (dk_at dksX5_joined_2 9 rfl rfl)
theorem dX5_joined_126 : decode cX5_joined 126 = .ok (.imul, 1) := dk_104 (dk_at dksX5_joined_2 10 rfl rfl)
theorem dX5_joined_127 : decode cX5_joined 127 = .ok (.ireturn, 1) := dk_172 (dk_at dksX5_joined_2 11 rfl rfl)
theorem dX5_joined_128 : decode cX5_joined 128 = .ok (.iload_n 2, 1) := dk_28 (dk_at dksX5_joined_2 12 rfl rfl)
theorem dX5_joined_129 : decode cX5_joined 129 = .ok (.ifCond .ne 7, 3) := dk_154 0 7 (dk_at dksX5_joined_2 13 rfl rfl)
theorem dX5_joined_132 : decode cX5_joined 132 = .ok (.iconst 0, 1) := dk_3 (dk_at dksX5_joined_2 16 rfl rfl)
theorem dX5_joined_133 : decode cX5_joined 133 = .ok (.goto 16, 3) := dk_167 0 16 (dk_at dksX5_joined_2 17 rfl rfl)
theorem dX5_joined_136 : decode cX5_joined 136 = .ok (.iload_n 2, 1) := dk_28 (dk_at dksX5_joined_2 20 rfl rfl)
theorem dX5_joined_137 : decode cX5_joined 137 = .ok (.iconst (-1), 1) := dk_2 (dk_at dksX5_joined_2 21 rfl rfl)
theorem dX5_joined_138 : decode cX5_joined 138 = .ok (.if_icmp .ne 8, 3) := dk_160 0 8 (dk_at dksX5_joined_3 0 rfl rfl)
theorem dX5_joined_141 : decode cX5_joined 141 = .ok (.iload_n 1, 1) := dk_27 (dk_at dksX5_joined_3 3 rfl rfl)
theorem dX5_joined_142 : decode cX5_joined 142 = .ok (.ineg, 1) := dk_116 (dk_at dksX5_joined_3 4 rfl rfl)
theorem dX5_joined_143 : decode cX5_joined 143 = .ok (.goto 6, 3) := dk_167 0 6 (dk_at dksX5_joined_3 5 rfl rfl)
theorem dX5_joined_146 : decode cX5_joined 146 = .ok (.iload_n 1, 1) := dk_27 (dk_at dksX5_joined_3 8 rfl rfl)
theorem dX5_joined_147 : decode cX5_joined 147 = .ok (.iload_n 2, 1) := dk_28 (dk_at dksX5_joined_3 9 rfl rfl)
theorem dX5_joined_148 : decode cX5_joined 148 = .ok (.idiv, 1) := dk_108 (dk_at dksX5_joined_3 10 rfl rfl)
theorem dX5_joined_149 : decode cX5_joined 149 = .ok (.ireturn, 1) := dk_172 (dk_at dksX5_joined_3 11 rfl rfl)
theorem dX5_joined_150 : decode cX5_joined 150 = .ok (.iload_n 1, 1) := dk_27 (dk_at dksX5_joined_3 12 rfl rfl)
theorem dX5_joined_151 : decode cX5_joined 151 = .ok (.iload_n 2, 1) := dk_28 (dk_at dksX5_joined_3 13 rfl rfl)
theorem dX5_joined_152 : decode cX5_joined 152 = .ok (.if_icmp .ge 7, 3) := dk_162 0 7 (dk_at dksX5_joined_3 14 rfl rfl)
theorem dX5_joined_155 : decode cX5_joined 155 = .ok (.iconst 1, 1) := dk_4 (dk_at dksX5_joined_3 17 rfl rfl)
theorem dX5_joined_156 : decode cX5_joined 156 = .ok (.goto 4, 3) := dk_167 0 4 (dk_at dksX5_joined_3 18 rfl rfl)
theorem dX5_joined_159 : decode cX5_joined 159 = .ok (.iconst 0, 1) := dk_3 (dk_at dksX5_joined_3 21 rfl rfl)
theorem dX5_joined_160 : decode cX5_joined 160 = .ok (.ireturn, 1) := dk_172 (dk_at dksX5_joined_3 22 rfl rfl)
theorem dX5_joined_161 : decode cX5_joined 161 = .ok (.iload_n 1, 1) := dk_27 (dk_at dksX5_joined_3 23 rfl rfl)
theorem dX5_joined_162 : decode cX5_joined 162 = .ok (.iload_n 2, 1) := dk_28 (dk_at dksX5_joined_4 0 rfl rfl)
theorem dX5_joined_163 : decode cX5_joined 163 = .ok (.if_icmp .le 7, 3) := dk_164 0 7 (dk_at dksX5_joined_4 1 rfl rfl)
theorem dX5_joined_166 : decode cX5_joined 166 = .ok (.iconst 1, 1) := dk_4 (dk_at dksX5_joined_4 4 rfl rfl)
theorem dX5_joined_167 : decode cX5_joined 167 = .ok (.goto 4, 3) := dk_167 0 4 (dk_at dksX5_joined_4 5 rfl rfl)
theorem dX5_joined_170 : decode cX5_joined 170 = .ok (.iconst 0, 1) := dk_3 (dk_at dksX5_joined_4 8 rfl rfl)
theorem dX5_joined_171 : decode cX5_joined 171 = .ok (.ireturn, 1) := dk_172 (dk_at dksX5_joined_4 9 rfl rfl)
theorem dX5_joined_172 : decode cX5_joined 172 = .ok (.iload_n 1, 1) := dk_27 (dk_at dksX5_joined_4 10 rfl rfl)
theorem dX5_joined_173 : decode cX5_joined 173 = .ok (.iload_n 2, 1) := dk_28 (dk_at dksX5_joined_4 11 rfl rfl)
theorem dX5_joined_174 : decode cX5_joined 174 = .ok (.if_icmp .ne 7, 3) := dk_160 0 7 (dk_at dksX5_joined_4 12 rfl rfl)
theorem dX5_joined_177 : decode cX5_joined 177 = .ok (.iconst 1, 1) := dk_4 (dk_at dksX5_joined_4 15 rfl rfl)
theorem dX5_joined_178 : decode cX5_joined 178 = .ok (.goto 4, 3) := dk_167 0 4 (dk_at dksX5_joined_4 16 rfl rfl)
theorem dX5_joined_181 : decode cX5_joined 181 = .ok (.iconst 0, 1) := dk_3 (dk_at dksX5_joined_4 19 rfl rfl)
theorem dX5_joined_182 : decode cX5_joined 182 = .ok (.ireturn, 1) := dk_172 (dk_at dksX5_joined_4 20 rfl rfl)
theorem dX5_joined_183 : decode cX5_joined 183 = .ok (.iload_n 1, 1) := dk_27 (dk_at dksX5_joined_4 21 rfl rfl)
theorem dX5_joined_184 : decode cX5_joined 184 = .ok (.ifCond .eq 11, 3) := dk_153 0 11 (dk_at dksX5_joined_5 0 rfl rfl)
theorem dX5_joined_187 : decode cX5_joined 187 = .ok (.iload_n 2, 1) := dk_28 (dk_at dksX5_joined_5 3 rfl rfl)
theorem dX5_joined_188 : decode cX5_joined 188 = .ok (.ifCond .eq 7, 3) := dk_153 0 7 (dk_at dksX5_joined_5 4 rfl rfl)
theorem dX5_joined_191 : decode cX5_joined 191 = .ok (.iconst 1, 1) := dk_4 (dk_at dksX5_joined_5 7 rfl rfl)
theorem dX5_joined_192 : decode cX5_joined 192 = .ok (.goto 4, 3) := dk_167 0 4 (dk_at dksX5_joined_5 8 rfl rfl)
theorem dX5_joined_195 : decode cX5_joined 195 = .ok (.iconst 0, 1) := dk_3 (dk_at dksX5_joined_5 11 rfl rfl)
theorem dX5_joined_196 : decode cX5_joined 196 = .ok (.ireturn, 1) := dk_172 (dk_at dksX5_joined_5 12 rfl rfl)
theorem dX5_joined_197 : decode cX5_joined 197 = .ok (.iload_n 1, 1) := dk_27 (dk_at dksX5_joined_5 13 rfl rfl)
theorem dX5_joined_198 : decode cX5_joined 198 = .ok (.ifCond .ne 7, 3) := dk_154 0 7 (dk_at dksX5_joined_5 14 rfl rfl)
theorem dX5_joined_201 : decode cX5_joined 201 = .ok (.iload_n 2, 1) := dk_28 (dk_at dksX5_joined_5 17 rfl rfl)
theorem dX5_joined_202 : decode cX5_joined 202 = .ok (.ifCond .eq 7, 3) := dk_153 0 7 (dk_at dksX5_joined_5 18 rfl rfl)
theorem dX5_joined_205 : decode cX5_joined 205 = .ok (.iconst 1, 1) := dk_4 (dk_at dksX5_joined_5 21 rfl rfl)
theorem dX5_joined_206 : decode cX5_joined 206 = .ok (.goto 4, 3) := dk_167 0 4 (dk_at dksX5_joined_6 0 rfl rfl)
theorem dX5_joined_209 : decode cX5_joined 209 = .ok (.iconst 0, 1) := dk_3 (dk_at dksX5_joined_6 3 rfl rfl)
theorem dX5_joined_210 : decode cX5_joined 210 = .ok (.ireturn, 1) := dk_172 (dk_at dksX5_joined_6 4 rfl rfl)
abbrev cX5_held : ByteArray := prog_18_method_4_code
def yX5_held : MethodName := ⟨RX5, "held", "(III)I"⟩
def dkwX5_held_0 : List UInt8 := [26, 27, 162, 0, 7, 27, 167, 0, 13, 26, 28, 164, 0, 7, 28, 167, 0, 4, 26, 172]
abbrev dktX5_held_0 : List UInt8 := dkwX5_held_0 ++ []
theorem dksX5_held_0 : cX5_held.data.toList.drop 0 = dktX5_held_0 := by decide +kernel
theorem dX5_held_0 : decode cX5_held 0 = .ok (.iload_n 0, 1) := dk_26 (dk_at dksX5_held_0 0 rfl rfl)
theorem dX5_held_1 : decode cX5_held 1 = .ok (.iload_n 1, 1) := dk_27 (dk_at dksX5_held_0 1 rfl rfl)
theorem dX5_held_2 : decode cX5_held 2 = .ok (.if_icmp .ge 7, 3) := dk_162 0 7 (dk_at dksX5_held_0 2 rfl rfl)
theorem dX5_held_5 : decode cX5_held 5 = .ok (.iload_n 1, 1) := dk_27 (dk_at dksX5_held_0 5 rfl rfl)
theorem dX5_held_6 : decode cX5_held 6 = .ok (.goto 13, 3) := dk_167 0 13 (dk_at dksX5_held_0 6 rfl rfl)
theorem dX5_held_9 : decode cX5_held 9 = .ok (.iload_n 0, 1) := dk_26 (dk_at dksX5_held_0 9 rfl rfl)
theorem dX5_held_10 : decode cX5_held 10 = .ok (.iload_n 2, 1) := dk_28 (dk_at dksX5_held_0 10 rfl rfl)
theorem dX5_held_11 : decode cX5_held 11 = .ok (.if_icmp .le 7, 3) := dk_164 0 7 (dk_at dksX5_held_0 11 rfl rfl)
theorem dX5_held_14 : decode cX5_held 14 = .ok (.iload_n 2, 1) := dk_28 (dk_at dksX5_held_0 14 rfl rfl)
theorem dX5_held_15 : decode cX5_held 15 = .ok (.goto 4, 3) := dk_167 0 4 (dk_at dksX5_held_0 15 rfl rfl)
theorem dX5_held_18 : decode cX5_held 18 = .ok (.iload_n 0, 1) := dk_26 (dk_at dksX5_held_0 18 rfl rfl)
theorem dX5_held_19 : decode cX5_held 19 = .ok (.ireturn, 1) := dk_172 (dk_at dksX5_held_0 19 rfl rfl)
abbrev cX5_bears : ByteArray := prog_18_method_19_code
def yX5_bears : MethodName := ⟨RX5, "bears", "(I)I"⟩
def dkwX5_bears_2 : List UInt8 := [28, 8, 96, 172, 5, 28, 104, 172, 17, 3, 231, 172, 28, 172]
abbrev dktX5_bears_2 : List UInt8 := dkwX5_bears_2 ++ []
def dkwX5_bears_1 : List UInt8 := [170, 0, 0, 0, 45, 0, 0, 0, 1, 0, 0, 0, 5, 0, 0, 0, 33, 0, 0, 0, 37, 0, 0, 0, 33, 0, 0, 0, 37, 0, 0, 0, 41]
abbrev dktX5_bears_1 : List UInt8 := dkwX5_bears_1 ++ dktX5_bears_2
def dkwX5_bears_0 : List UInt8 := [42, 27, 6, 182, 0, 75, 16, 10, 42, 27, 8, 182, 0, 75, 104, 96, 61, 42, 27, 3, 182, 0, 75]
abbrev dktX5_bears_0 : List UInt8 := dkwX5_bears_0 ++ dktX5_bears_1
theorem dksX5_bears_0 : cX5_bears.data.toList.drop 0 = dktX5_bears_0 := by decide +kernel
theorem dksX5_bears_1 : cX5_bears.data.toList.drop 23 = dktX5_bears_1 := dk_seg dksX5_bears_0 23 rfl rfl
theorem dksX5_bears_2 : cX5_bears.data.toList.drop 56 = dktX5_bears_2 := dk_seg dksX5_bears_1 33 rfl rfl
theorem dX5_bears_0 : decode cX5_bears 0 = .ok (.aload_n 0, 1) := dk_42 (dk_at dksX5_bears_0 0 rfl rfl)
theorem dX5_bears_1 : decode cX5_bears 1 = .ok (.iload_n 1, 1) := dk_27 (dk_at dksX5_bears_0 1 rfl rfl)
theorem dX5_bears_2 : decode cX5_bears 2 = .ok (.iconst 3, 1) := dk_6 (dk_at dksX5_bears_0 2 rfl rfl)
theorem dX5_bears_3 : decode cX5_bears 3 = .ok (.invokevirtual 75, 3) := dk_182 0 75 (dk_at dksX5_bears_0 3 rfl rfl)
theorem dX5_bears_6 : decode cX5_bears 6 = .ok (.bipush 10, 2) := dk_16 10 (dk_at dksX5_bears_0 6 rfl rfl)
theorem dX5_bears_8 : decode cX5_bears 8 = .ok (.aload_n 0, 1) := dk_42 (dk_at dksX5_bears_0 8 rfl rfl)
theorem dX5_bears_9 : decode cX5_bears 9 = .ok (.iload_n 1, 1) := dk_27 (dk_at dksX5_bears_0 9 rfl rfl)
theorem dX5_bears_10 : decode cX5_bears 10 = .ok (.iconst 5, 1) := dk_8 (dk_at dksX5_bears_0 10 rfl rfl)
theorem dX5_bears_11 : decode cX5_bears 11 = .ok (.invokevirtual 75, 3) := dk_182 0 75 (dk_at dksX5_bears_0 11 rfl rfl)
theorem dX5_bears_14 : decode cX5_bears 14 = .ok (.imul, 1) := dk_104 (dk_at dksX5_bears_0 14 rfl rfl)
theorem dX5_bears_15 : decode cX5_bears 15 = .ok (.iadd, 1) := dk_96 (dk_at dksX5_bears_0 15 rfl rfl)
theorem dX5_bears_16 : decode cX5_bears 16 = .ok (.istore_n 2, 1) := dk_61 (dk_at dksX5_bears_0 16 rfl rfl)
theorem dX5_bears_17 : decode cX5_bears 17 = .ok (.aload_n 0, 1) := dk_42 (dk_at dksX5_bears_0 17 rfl rfl)
theorem dX5_bears_18 : decode cX5_bears 18 = .ok (.iload_n 1, 1) := dk_27 (dk_at dksX5_bears_0 18 rfl rfl)
theorem dX5_bears_19 : decode cX5_bears 19 = .ok (.iconst 0, 1) := dk_3 (dk_at dksX5_bears_0 19 rfl rfl)
theorem dX5_bears_20 : decode cX5_bears 20 = .ok (.invokevirtual 75, 3) := dk_182 0 75 (dk_at dksX5_bears_0 20 rfl rfl)
theorem dX5_bears_23 : decode cX5_bears 23 = .ok (.tableswitch 45 1 5 #[33, 37, 33, 37, 41], 33) := by decide +kernel
theorem dX5_bears_56 : decode cX5_bears 56 = .ok (.iload_n 2, 1) := dk_28 (dk_at dksX5_bears_2 0 rfl rfl)
theorem dX5_bears_57 : decode cX5_bears 57 = .ok (.iconst 5, 1) := dk_8 (dk_at dksX5_bears_2 1 rfl rfl)
theorem dX5_bears_58 : decode cX5_bears 58 = .ok (.iadd, 1) := dk_96 (dk_at dksX5_bears_2 2 rfl rfl)
theorem dX5_bears_59 : decode cX5_bears 59 = .ok (.ireturn, 1) := dk_172 (dk_at dksX5_bears_2 3 rfl rfl)
theorem dX5_bears_60 : decode cX5_bears 60 = .ok (.iconst 2, 1) := dk_5 (dk_at dksX5_bears_2 4 rfl rfl)
theorem dX5_bears_61 : decode cX5_bears 61 = .ok (.iload_n 2, 1) := dk_28 (dk_at dksX5_bears_2 5 rfl rfl)
theorem dX5_bears_62 : decode cX5_bears 62 = .ok (.imul, 1) := dk_104 (dk_at dksX5_bears_2 6 rfl rfl)
theorem dX5_bears_63 : decode cX5_bears 63 = .ok (.ireturn, 1) := dk_172 (dk_at dksX5_bears_2 7 rfl rfl)
theorem dX5_bears_64 : decode cX5_bears 64 = .ok (.sipush 999, 3) := dk_17 3 231 (dk_at dksX5_bears_2 8 rfl rfl)
theorem dX5_bears_67 : decode cX5_bears 67 = .ok (.ireturn, 1) := dk_172 (dk_at dksX5_bears_2 11 rfl rfl)
theorem dX5_bears_68 : decode cX5_bears 68 = .ok (.iload_n 2, 1) := dk_28 (dk_at dksX5_bears_2 12 rfl rfl)
theorem dX5_bears_69 : decode cX5_bears 69 = .ok (.ireturn, 1) := dk_172 (dk_at dksX5_bears_2 13 rfl rfl)
abbrev cX5_thrust : ByteArray := prog_18_method_23_code
def yX5_thrust : MethodName := ⟨RX5, "thrust", "(I)I"⟩
def dkwX5_thrust_4 : List UInt8 := [54, 5, 21, 5, 172]
abbrev dktX5_thrust_4 : List UInt8 := dkwX5_thrust_4 ++ []
def dkwX5_thrust_3 : List UInt8 := [155, 0, 22, 42, 21, 4, 5, 182, 0, 75, 156, 0, 12, 42, 21, 4, 182, 0, 130, 167, 0, 4, 3, 100]
abbrev dktX5_thrust_3 : List UInt8 := dkwX5_thrust_3 ++ dktX5_thrust_4
def dkwX5_thrust_2 : List UInt8 := [5, 182, 0, 75, 158, 0, 11, 42, 29, 182, 0, 130, 167, 0, 4, 3, 96, 54, 5, 21, 5, 21, 4]
abbrev dktX5_thrust_2 : List UInt8 := dkwX5_thrust_2 ++ dktX5_thrust_3
def dkwX5_thrust_1 : List UInt8 := [27, 4, 28, 182, 0, 127, 54, 4, 42, 180, 0, 7, 7, 46, 54, 5, 21, 5, 29, 155, 0, 20, 42, 29]
abbrev dktX5_thrust_1 : List UInt8 := dkwX5_thrust_1 ++ dktX5_thrust_2
def dkwX5_thrust_0 : List UInt8 := [42, 27, 182, 0, 119, 154, 0, 5, 3, 172, 42, 182, 0, 123, 61, 42, 27, 2, 28, 182, 0, 127, 62, 42]
abbrev dktX5_thrust_0 : List UInt8 := dkwX5_thrust_0 ++ dktX5_thrust_1
theorem dksX5_thrust_0 : cX5_thrust.data.toList.drop 0 = dktX5_thrust_0 := by decide +kernel
theorem dksX5_thrust_1 : cX5_thrust.data.toList.drop 24 = dktX5_thrust_1 := dk_seg dksX5_thrust_0 24 rfl rfl
theorem dksX5_thrust_2 : cX5_thrust.data.toList.drop 48 = dktX5_thrust_2 := dk_seg dksX5_thrust_1 24 rfl rfl
theorem dksX5_thrust_3 : cX5_thrust.data.toList.drop 71 = dktX5_thrust_3 := dk_seg dksX5_thrust_2 23 rfl rfl
theorem dksX5_thrust_4 : cX5_thrust.data.toList.drop 95 = dktX5_thrust_4 := dk_seg dksX5_thrust_3 24 rfl rfl
theorem dX5_thrust_0 : decode cX5_thrust 0 = .ok (.aload_n 0, 1) := dk_42 (dk_at dksX5_thrust_0 0 rfl rfl)
theorem dX5_thrust_1 : decode cX5_thrust 1 = .ok (.iload_n 1, 1) := dk_27 (dk_at dksX5_thrust_0 1 rfl rfl)
theorem dX5_thrust_2 : decode cX5_thrust 2 = .ok (.invokevirtual 119, 3) := dk_182 0 119 (dk_at dksX5_thrust_0 2 rfl rfl)
theorem dX5_thrust_5 : decode cX5_thrust 5 = .ok (.ifCond .ne 5, 3) := dk_154 0 5 (dk_at dksX5_thrust_0 5 rfl rfl)
theorem dX5_thrust_8 : decode cX5_thrust 8 = .ok (.iconst 0, 1) := dk_3 (dk_at dksX5_thrust_0 8 rfl rfl)
theorem dX5_thrust_9 : decode cX5_thrust 9 = .ok (.ireturn, 1) := dk_172 (dk_at dksX5_thrust_0 9 rfl rfl)
theorem dX5_thrust_10 : decode cX5_thrust 10 = .ok (.aload_n 0, 1) := dk_42 (dk_at dksX5_thrust_0 10 rfl rfl)
theorem dX5_thrust_11 : decode cX5_thrust 11 = .ok (.invokevirtual 123, 3) := dk_182 0 123 (dk_at dksX5_thrust_0 11 rfl rfl)
theorem dX5_thrust_14 : decode cX5_thrust 14 = .ok (.istore_n 2, 1) := dk_61 (dk_at dksX5_thrust_0 14 rfl rfl)
theorem dX5_thrust_15 : decode cX5_thrust 15 = .ok (.aload_n 0, 1) := dk_42 (dk_at dksX5_thrust_0 15 rfl rfl)
theorem dX5_thrust_16 : decode cX5_thrust 16 = .ok (.iload_n 1, 1) := dk_27 (dk_at dksX5_thrust_0 16 rfl rfl)
theorem dX5_thrust_17 : decode cX5_thrust 17 = .ok (.iconst (-1), 1) := dk_2 (dk_at dksX5_thrust_0 17 rfl rfl)
theorem dX5_thrust_18 : decode cX5_thrust 18 = .ok (.iload_n 2, 1) := dk_28 (dk_at dksX5_thrust_0 18 rfl rfl)
theorem dX5_thrust_19 : decode cX5_thrust 19 = .ok (.invokevirtual 127, 3) := dk_182 0 127 (dk_at dksX5_thrust_0 19 rfl rfl)
theorem dX5_thrust_22 : decode cX5_thrust 22 = .ok (.istore_n 3, 1) := dk_62 (dk_at dksX5_thrust_0 22 rfl rfl)
theorem dX5_thrust_23 : decode cX5_thrust 23 = .ok (.aload_n 0, 1) := dk_42 (dk_at dksX5_thrust_0 23 rfl rfl)
theorem dX5_thrust_24 : decode cX5_thrust 24 = .ok (.iload_n 1, 1) := dk_27 (dk_at dksX5_thrust_1 0 rfl rfl)
theorem dX5_thrust_25 : decode cX5_thrust 25 = .ok (.iconst 1, 1) := dk_4 (dk_at dksX5_thrust_1 1 rfl rfl)
theorem dX5_thrust_26 : decode cX5_thrust 26 = .ok (.iload_n 2, 1) := dk_28 (dk_at dksX5_thrust_1 2 rfl rfl)
theorem dX5_thrust_27 : decode cX5_thrust 27 = .ok (.invokevirtual 127, 3) := dk_182 0 127 (dk_at dksX5_thrust_1 3 rfl rfl)
theorem dX5_thrust_30 : decode cX5_thrust 30 = .ok (.istore 4, 2) := dk_54 4 (dk_at dksX5_thrust_1 6 rfl rfl)
theorem dX5_thrust_32 : decode cX5_thrust 32 = .ok (.aload_n 0, 1) := dk_42 (dk_at dksX5_thrust_1 8 rfl rfl)
theorem dX5_thrust_33 : decode cX5_thrust 33 = .ok (.getfield 7, 3) := dk_180 0 7 (dk_at dksX5_thrust_1 9 rfl rfl)
theorem dX5_thrust_36 : decode cX5_thrust 36 = .ok (.iconst 4, 1) := dk_7 (dk_at dksX5_thrust_1 12 rfl rfl)
theorem dX5_thrust_37 : decode cX5_thrust 37 = .ok (.iaload, 1) := dk_46 (dk_at dksX5_thrust_1 13 rfl rfl)
theorem dX5_thrust_38 : decode cX5_thrust 38 = .ok (.istore 5, 2) := dk_54 5 (dk_at dksX5_thrust_1 14 rfl rfl)
theorem dX5_thrust_40 : decode cX5_thrust 40 = .ok (.iload 5, 2) := dk_21 5 (dk_at dksX5_thrust_1 16 rfl rfl)
theorem dX5_thrust_42 : decode cX5_thrust 42 = .ok (.iload_n 3, 1) := dk_29 (dk_at dksX5_thrust_1 18 rfl rfl)
theorem dX5_thrust_43 : decode cX5_thrust 43 = .ok (.ifCond .lt 20, 3) := dk_155 0 20 (dk_at dksX5_thrust_1 19 rfl rfl)
theorem dX5_thrust_46 : decode cX5_thrust 46 = .ok (.aload_n 0, 1) := dk_42 (dk_at dksX5_thrust_1 22 rfl rfl)
theorem dX5_thrust_47 : decode cX5_thrust 47 = .ok (.iload_n 3, 1) := dk_29 (dk_at dksX5_thrust_1 23 rfl rfl)
theorem dX5_thrust_48 : decode cX5_thrust 48 = .ok (.iconst 2, 1) := dk_5 (dk_at dksX5_thrust_2 0 rfl rfl)
theorem dX5_thrust_49 : decode cX5_thrust 49 = .ok (.invokevirtual 75, 3) := dk_182 0 75 (dk_at dksX5_thrust_2 1 rfl rfl)
theorem dX5_thrust_52 : decode cX5_thrust 52 = .ok (.ifCond .le 11, 3) := dk_158 0 11 (dk_at dksX5_thrust_2 4 rfl rfl)
theorem dX5_thrust_55 : decode cX5_thrust 55 = .ok (.aload_n 0, 1) := dk_42 (dk_at dksX5_thrust_2 7 rfl rfl)
theorem dX5_thrust_56 : decode cX5_thrust 56 = .ok (.iload_n 3, 1) := dk_29 (dk_at dksX5_thrust_2 8 rfl rfl)
theorem dX5_thrust_57 : decode cX5_thrust 57 = .ok (.invokevirtual 130, 3) := dk_182 0 130 (dk_at dksX5_thrust_2 9 rfl rfl)
theorem dX5_thrust_60 : decode cX5_thrust 60 = .ok (.goto 4, 3) := dk_167 0 4 (dk_at dksX5_thrust_2 12 rfl rfl)
theorem dX5_thrust_63 : decode cX5_thrust 63 = .ok (.iconst 0, 1) := dk_3 (dk_at dksX5_thrust_2 15 rfl rfl)
theorem dX5_thrust_64 : decode cX5_thrust 64 = .ok (.iadd, 1) := dk_96 (dk_at dksX5_thrust_2 16 rfl rfl)
theorem dX5_thrust_65 : decode cX5_thrust 65 = .ok (.istore 5, 2) := dk_54 5 (dk_at dksX5_thrust_2 17 rfl rfl)
theorem dX5_thrust_67 : decode cX5_thrust 67 = .ok (.iload 5, 2) := dk_21 5 (dk_at dksX5_thrust_2 19 rfl rfl)
theorem dX5_thrust_69 : decode cX5_thrust 69 = .ok (.iload 4, 2) := dk_21 4 (dk_at dksX5_thrust_2 21 rfl rfl)
theorem dX5_thrust_71 : decode cX5_thrust 71 = .ok (.ifCond .lt 22, 3) := dk_155 0 22 (dk_at dksX5_thrust_3 0 rfl rfl)
theorem dX5_thrust_74 : decode cX5_thrust 74 = .ok (.aload_n 0, 1) := dk_42 (dk_at dksX5_thrust_3 3 rfl rfl)
theorem dX5_thrust_75 : decode cX5_thrust 75 = .ok (.iload 4, 2) := dk_21 4 (dk_at dksX5_thrust_3 4 rfl rfl)
theorem dX5_thrust_77 : decode cX5_thrust 77 = .ok (.iconst 2, 1) := dk_5 (dk_at dksX5_thrust_3 6 rfl rfl)
theorem dX5_thrust_78 : decode cX5_thrust 78 = .ok (.invokevirtual 75, 3) := dk_182 0 75 (dk_at dksX5_thrust_3 7 rfl rfl)
theorem dX5_thrust_81 : decode cX5_thrust 81 = .ok (.ifCond .ge 12, 3) := dk_156 0 12 (dk_at dksX5_thrust_3 10 rfl rfl)
theorem dX5_thrust_84 : decode cX5_thrust 84 = .ok (.aload_n 0, 1) := dk_42 (dk_at dksX5_thrust_3 13 rfl rfl)
theorem dX5_thrust_85 : decode cX5_thrust 85 = .ok (.iload 4, 2) := dk_21 4 (dk_at dksX5_thrust_3 14 rfl rfl)
theorem dX5_thrust_87 : decode cX5_thrust 87 = .ok (.invokevirtual 130, 3) := dk_182 0 130 (dk_at dksX5_thrust_3 16 rfl rfl)
theorem dX5_thrust_90 : decode cX5_thrust 90 = .ok (.goto 4, 3) := dk_167 0 4 (dk_at dksX5_thrust_3 19 rfl rfl)
theorem dX5_thrust_93 : decode cX5_thrust 93 = .ok (.iconst 0, 1) := dk_3 (dk_at dksX5_thrust_3 22 rfl rfl)
theorem dX5_thrust_94 : decode cX5_thrust 94 = .ok (.isub, 1) := dk_100 (dk_at dksX5_thrust_3 23 rfl rfl)
theorem dX5_thrust_95 : decode cX5_thrust 95 = .ok (.istore 5, 2) := dk_54 5 (dk_at dksX5_thrust_4 0 rfl rfl)
theorem dX5_thrust_97 : decode cX5_thrust 97 = .ok (.iload 5, 2) := dk_21 5 (dk_at dksX5_thrust_4 2 rfl rfl)
theorem dX5_thrust_99 : decode cX5_thrust 99 = .ok (.ireturn, 1) := dk_172 (dk_at dksX5_thrust_4 4 rfl rfl)
abbrev cX5_stands : ByteArray := prog_18_method_12_code
def yX5_stands : MethodName := ⟨RX5, "stands", "(I)Z"⟩
def dkwX5_stands_0 : List UInt8 := [42, 27, 16, 6, 182, 0, 75, 154, 0, 7, 4, 167, 0, 4, 3, 172]
abbrev dktX5_stands_0 : List UInt8 := dkwX5_stands_0 ++ []
theorem dksX5_stands_0 : cX5_stands.data.toList.drop 0 = dktX5_stands_0 := by decide +kernel
theorem dX5_stands_0 : decode cX5_stands 0 = .ok (.aload_n 0, 1) := dk_42 (dk_at dksX5_stands_0 0 rfl rfl)
theorem dX5_stands_1 : decode cX5_stands 1 = .ok (.iload_n 1, 1) := dk_27 (dk_at dksX5_stands_0 1 rfl rfl)
theorem dX5_stands_2 : decode cX5_stands 2 = .ok (.bipush 6, 2) := dk_16 6 (dk_at dksX5_stands_0 2 rfl rfl)
theorem dX5_stands_4 : decode cX5_stands 4 = .ok (.invokevirtual 75, 3) := dk_182 0 75 (dk_at dksX5_stands_0 4 rfl rfl)
theorem dX5_stands_7 : decode cX5_stands 7 = .ok (.ifCond .ne 7, 3) := dk_154 0 7 (dk_at dksX5_stands_0 7 rfl rfl)
theorem dX5_stands_10 : decode cX5_stands 10 = .ok (.iconst 1, 1) := dk_4 (dk_at dksX5_stands_0 10 rfl rfl)
theorem dX5_stands_11 : decode cX5_stands 11 = .ok (.goto 4, 3) := dk_167 0 4 (dk_at dksX5_stands_0 11 rfl rfl)
theorem dX5_stands_14 : decode cX5_stands 14 = .ok (.iconst 0, 1) := dk_3 (dk_at dksX5_stands_0 14 rfl rfl)
theorem dX5_stands_15 : decode cX5_stands 15 = .ok (.ireturn, 1) := dk_172 (dk_at dksX5_stands_0 15 rfl rfl)
abbrev cX5_allStanding : ByteArray := prog_18_method_21_code
def yX5_allStanding : MethodName := ⟨RX5, "allStanding", "()I"⟩
def dkwX5_allStanding_1 : List UInt8 := [28, 120, 167, 0, 4, 3, 128, 60, 132, 2, 1, 167, 255, 225, 27, 172]
abbrev dktX5_allStanding_1 : List UInt8 := dkwX5_allStanding_1 ++ []
def dkwX5_allStanding_0 : List UInt8 := [3, 60, 3, 61, 28, 42, 180, 0, 7, 3, 46, 162, 0, 27, 27, 42, 28, 182, 0, 119, 153, 0, 9, 4]
abbrev dktX5_allStanding_0 : List UInt8 := dkwX5_allStanding_0 ++ dktX5_allStanding_1
theorem dksX5_allStanding_0 : cX5_allStanding.data.toList.drop 0 = dktX5_allStanding_0 := by decide +kernel
theorem dksX5_allStanding_1 : cX5_allStanding.data.toList.drop 24 = dktX5_allStanding_1 := dk_seg dksX5_allStanding_0 24 rfl rfl
theorem dX5_allStanding_0 : decode cX5_allStanding 0 = .ok (.iconst 0, 1) := dk_3 (dk_at dksX5_allStanding_0 0 rfl rfl)
theorem dX5_allStanding_1 : decode cX5_allStanding 1 = .ok (.istore_n 1, 1) := dk_60 (dk_at dksX5_allStanding_0 1 rfl rfl)
theorem dX5_allStanding_2 : decode cX5_allStanding 2 = .ok (.iconst 0, 1) := dk_3 (dk_at dksX5_allStanding_0 2 rfl rfl)
theorem dX5_allStanding_3 : decode cX5_allStanding 3 = .ok (.istore_n 2, 1) := dk_61 (dk_at dksX5_allStanding_0 3 rfl rfl)
theorem dX5_allStanding_4 : decode cX5_allStanding 4 = .ok (.iload_n 2, 1) := dk_28 (dk_at dksX5_allStanding_0 4 rfl rfl)
theorem dX5_allStanding_5 : decode cX5_allStanding 5 = .ok (.aload_n 0, 1) := dk_42 (dk_at dksX5_allStanding_0 5 rfl rfl)
theorem dX5_allStanding_6 : decode cX5_allStanding 6 = .ok (.getfield 7, 3) := dk_180 0 7 (dk_at dksX5_allStanding_0 6 rfl rfl)
theorem dX5_allStanding_9 : decode cX5_allStanding 9 = .ok (.iconst 0, 1) := dk_3 (dk_at dksX5_allStanding_0 9 rfl rfl)
theorem dX5_allStanding_10 : decode cX5_allStanding 10 = .ok (.iaload, 1) := dk_46 (dk_at dksX5_allStanding_0 10 rfl rfl)
theorem dX5_allStanding_11 : decode cX5_allStanding 11 = .ok (.if_icmp .ge 27, 3) := dk_162 0 27 (dk_at dksX5_allStanding_0 11 rfl rfl)
theorem dX5_allStanding_14 : decode cX5_allStanding 14 = .ok (.iload_n 1, 1) := dk_27 (dk_at dksX5_allStanding_0 14 rfl rfl)
theorem dX5_allStanding_15 : decode cX5_allStanding 15 = .ok (.aload_n 0, 1) := dk_42 (dk_at dksX5_allStanding_0 15 rfl rfl)
theorem dX5_allStanding_16 : decode cX5_allStanding 16 = .ok (.iload_n 2, 1) := dk_28 (dk_at dksX5_allStanding_0 16 rfl rfl)
theorem dX5_allStanding_17 : decode cX5_allStanding 17 = .ok (.invokevirtual 119, 3) := dk_182 0 119 (dk_at dksX5_allStanding_0 17 rfl rfl)
theorem dX5_allStanding_20 : decode cX5_allStanding 20 = .ok (.ifCond .eq 9, 3) := dk_153 0 9 (dk_at dksX5_allStanding_0 20 rfl rfl)
theorem dX5_allStanding_23 : decode cX5_allStanding 23 = .ok (.iconst 1, 1) := dk_4 (dk_at dksX5_allStanding_0 23 rfl rfl)
theorem dX5_allStanding_24 : decode cX5_allStanding 24 = .ok (.iload_n 2, 1) := dk_28 (dk_at dksX5_allStanding_1 0 rfl rfl)
theorem dX5_allStanding_25 : decode cX5_allStanding 25 = .ok (.ishl, 1) := dk_120 (dk_at dksX5_allStanding_1 1 rfl rfl)
theorem dX5_allStanding_26 : decode cX5_allStanding 26 = .ok (.goto 4, 3) := dk_167 0 4 (dk_at dksX5_allStanding_1 2 rfl rfl)
theorem dX5_allStanding_29 : decode cX5_allStanding 29 = .ok (.iconst 0, 1) := dk_3 (dk_at dksX5_allStanding_1 5 rfl rfl)
theorem dX5_allStanding_30 : decode cX5_allStanding 30 = .ok (.ior, 1) := dk_128 (dk_at dksX5_allStanding_1 6 rfl rfl)
theorem dX5_allStanding_31 : decode cX5_allStanding 31 = .ok (.istore_n 1, 1) := dk_60 (dk_at dksX5_allStanding_1 7 rfl rfl)
theorem dX5_allStanding_32 : decode cX5_allStanding 32 = .ok (.iinc 2 1, 3) := dk_132 2 1 (dk_at dksX5_allStanding_1 8 rfl rfl)
theorem dX5_allStanding_35 : decode cX5_allStanding 35 = .ok (.goto (-31), 3) := dk_167 255 225 (dk_at dksX5_allStanding_1 11 rfl rfl)
theorem dX5_allStanding_38 : decode cX5_allStanding 38 = .ok (.iload_n 1, 1) := dk_27 (dk_at dksX5_allStanding_1 14 rfl rfl)
theorem dX5_allStanding_39 : decode cX5_allStanding 39 = .ok (.ireturn, 1) := dk_172 (dk_at dksX5_allStanding_1 15 rfl rfl)
abbrev cX5_nextOf : ByteArray := prog_18_method_22_code
def yX5_nextOf : MethodName := ⟨RX5, "nextOf", "(III)I"⟩
def dkwX5_nextOf_2 : List UInt8 := [180, 0, 7, 3, 46, 162, 0, 8, 21, 4, 167, 0, 4, 2, 172]
abbrev dktX5_nextOf_2 : List UInt8 := dkwX5_nextOf_2 ++ []
def dkwX5_nextOf_1 : List UInt8 := [122, 4, 126, 154, 0, 12, 21, 4, 28, 96, 54, 4, 167, 255, 225, 21, 4, 155, 0, 19, 21, 4, 42]
abbrev dktX5_nextOf_1 : List UInt8 := dkwX5_nextOf_1 ++ dktX5_nextOf_2
def dkwX5_nextOf_0 : List UInt8 := [27, 28, 96, 54, 4, 21, 4, 155, 0, 32, 21, 4, 42, 180, 0, 7, 3, 46, 162, 0, 21, 29, 21, 4]
abbrev dktX5_nextOf_0 : List UInt8 := dkwX5_nextOf_0 ++ dktX5_nextOf_1
theorem dksX5_nextOf_0 : cX5_nextOf.data.toList.drop 0 = dktX5_nextOf_0 := by decide +kernel
theorem dksX5_nextOf_1 : cX5_nextOf.data.toList.drop 24 = dktX5_nextOf_1 := dk_seg dksX5_nextOf_0 24 rfl rfl
theorem dksX5_nextOf_2 : cX5_nextOf.data.toList.drop 47 = dktX5_nextOf_2 := dk_seg dksX5_nextOf_1 23 rfl rfl
theorem dX5_nextOf_0 : decode cX5_nextOf 0 = .ok (.iload_n 1, 1) := dk_27 (dk_at dksX5_nextOf_0 0 rfl rfl)
theorem dX5_nextOf_1 : decode cX5_nextOf 1 = .ok (.iload_n 2, 1) := dk_28 (dk_at dksX5_nextOf_0 1 rfl rfl)
theorem dX5_nextOf_2 : decode cX5_nextOf 2 = .ok (.iadd, 1) := dk_96 (dk_at dksX5_nextOf_0 2 rfl rfl)
theorem dX5_nextOf_3 : decode cX5_nextOf 3 = .ok (.istore 4, 2) := dk_54 4 (dk_at dksX5_nextOf_0 3 rfl rfl)
theorem dX5_nextOf_5 : decode cX5_nextOf 5 = .ok (.iload 4, 2) := dk_21 4 (dk_at dksX5_nextOf_0 5 rfl rfl)
theorem dX5_nextOf_7 : decode cX5_nextOf 7 = .ok (.ifCond .lt 32, 3) := dk_155 0 32 (dk_at dksX5_nextOf_0 7 rfl rfl)
theorem dX5_nextOf_10 : decode cX5_nextOf 10 = .ok (.iload 4, 2) := dk_21 4 (dk_at dksX5_nextOf_0 10 rfl rfl)
theorem dX5_nextOf_12 : decode cX5_nextOf 12 = .ok (.aload_n 0, 1) := dk_42 (dk_at dksX5_nextOf_0 12 rfl rfl)
theorem dX5_nextOf_13 : decode cX5_nextOf 13 = .ok (.getfield 7, 3) := dk_180 0 7 (dk_at dksX5_nextOf_0 13 rfl rfl)
theorem dX5_nextOf_16 : decode cX5_nextOf 16 = .ok (.iconst 0, 1) := dk_3 (dk_at dksX5_nextOf_0 16 rfl rfl)
theorem dX5_nextOf_17 : decode cX5_nextOf 17 = .ok (.iaload, 1) := dk_46 (dk_at dksX5_nextOf_0 17 rfl rfl)
theorem dX5_nextOf_18 : decode cX5_nextOf 18 = .ok (.if_icmp .ge 21, 3) := dk_162 0 21 (dk_at dksX5_nextOf_0 18 rfl rfl)
theorem dX5_nextOf_21 : decode cX5_nextOf 21 = .ok (.iload_n 3, 1) := dk_29 (dk_at dksX5_nextOf_0 21 rfl rfl)
theorem dX5_nextOf_22 : decode cX5_nextOf 22 = .ok (.iload 4, 2) := dk_21 4 (dk_at dksX5_nextOf_0 22 rfl rfl)
theorem dX5_nextOf_24 : decode cX5_nextOf 24 = .ok (.ishr, 1) := dk_122 (dk_at dksX5_nextOf_1 0 rfl rfl)
theorem dX5_nextOf_25 : decode cX5_nextOf 25 = .ok (.iconst 1, 1) := dk_4 (dk_at dksX5_nextOf_1 1 rfl rfl)
theorem dX5_nextOf_26 : decode cX5_nextOf 26 = .ok (.iand, 1) := dk_126 (dk_at dksX5_nextOf_1 2 rfl rfl)
theorem dX5_nextOf_27 : decode cX5_nextOf 27 = .ok (.ifCond .ne 12, 3) := dk_154 0 12 (dk_at dksX5_nextOf_1 3 rfl rfl)
theorem dX5_nextOf_30 : decode cX5_nextOf 30 = .ok (.iload 4, 2) := dk_21 4 (dk_at dksX5_nextOf_1 6 rfl rfl)
theorem dX5_nextOf_32 : decode cX5_nextOf 32 = .ok (.iload_n 2, 1) := dk_28 (dk_at dksX5_nextOf_1 8 rfl rfl)
theorem dX5_nextOf_33 : decode cX5_nextOf 33 = .ok (.iadd, 1) := dk_96 (dk_at dksX5_nextOf_1 9 rfl rfl)
theorem dX5_nextOf_34 : decode cX5_nextOf 34 = .ok (.istore 4, 2) := dk_54 4 (dk_at dksX5_nextOf_1 10 rfl rfl)
theorem dX5_nextOf_36 : decode cX5_nextOf 36 = .ok (.goto (-31), 3) := dk_167 255 225 (dk_at dksX5_nextOf_1 12 rfl rfl)
theorem dX5_nextOf_39 : decode cX5_nextOf 39 = .ok (.iload 4, 2) := dk_21 4 (dk_at dksX5_nextOf_1 15 rfl rfl)
theorem dX5_nextOf_41 : decode cX5_nextOf 41 = .ok (.ifCond .lt 19, 3) := dk_155 0 19 (dk_at dksX5_nextOf_1 17 rfl rfl)
theorem dX5_nextOf_44 : decode cX5_nextOf 44 = .ok (.iload 4, 2) := dk_21 4 (dk_at dksX5_nextOf_1 20 rfl rfl)
theorem dX5_nextOf_46 : decode cX5_nextOf 46 = .ok (.aload_n 0, 1) := dk_42 (dk_at dksX5_nextOf_1 22 rfl rfl)
theorem dX5_nextOf_47 : decode cX5_nextOf 47 = .ok (.getfield 7, 3) := dk_180 0 7 (dk_at dksX5_nextOf_2 0 rfl rfl)
theorem dX5_nextOf_50 : decode cX5_nextOf 50 = .ok (.iconst 0, 1) := dk_3 (dk_at dksX5_nextOf_2 3 rfl rfl)
theorem dX5_nextOf_51 : decode cX5_nextOf 51 = .ok (.iaload, 1) := dk_46 (dk_at dksX5_nextOf_2 4 rfl rfl)
theorem dX5_nextOf_52 : decode cX5_nextOf 52 = .ok (.if_icmp .ge 8, 3) := dk_162 0 8 (dk_at dksX5_nextOf_2 5 rfl rfl)
theorem dX5_nextOf_55 : decode cX5_nextOf 55 = .ok (.iload 4, 2) := dk_21 4 (dk_at dksX5_nextOf_2 8 rfl rfl)
theorem dX5_nextOf_57 : decode cX5_nextOf 57 = .ok (.goto 4, 3) := dk_167 0 4 (dk_at dksX5_nextOf_2 10 rfl rfl)
theorem dX5_nextOf_60 : decode cX5_nextOf 60 = .ok (.iconst (-1), 1) := dk_2 (dk_at dksX5_nextOf_2 13 rfl rfl)
theorem dX5_nextOf_61 : decode cX5_nextOf 61 = .ok (.ireturn, 1) := dk_172 (dk_at dksX5_nextOf_2 14 rfl rfl)
abbrev cX5_worth : ByteArray := prog_18_method_20_code
def yX5_worth : MethodName := ⟨RX5, "worth", "(I)I"⟩
def dkwX5_worth_3 : List UInt8 := [172, 28, 172]
abbrev dktX5_worth_3 : List UInt8 := dkwX5_worth_3 ++ []
def dkwX5_worth_2 : List UInt8 := [28, 16, 7, 96, 172, 16, 99, 28, 100, 172, 5, 28, 16, 7, 96, 104, 172, 16, 94, 28, 100, 172, 16, 6]
abbrev dktX5_worth_2 : List UInt8 := dkwX5_worth_2 ++ dktX5_worth_3
def dkwX5_worth_1 : List UInt8 := [170, 0, 0, 0, 0, 0, 60, 0, 0, 0, 1, 0, 0, 0, 5, 0, 0, 0, 35, 0, 0, 0, 40, 0, 0, 0, 45, 0, 0, 0, 52, 0, 0, 0, 57]
abbrev dktX5_worth_1 : List UInt8 := dkwX5_worth_1 ++ dktX5_worth_2
def dkwX5_worth_0 : List UInt8 := [42, 27, 6, 182, 0, 75, 61, 42, 27, 3, 182, 0, 75]
abbrev dktX5_worth_0 : List UInt8 := dkwX5_worth_0 ++ dktX5_worth_1
theorem dksX5_worth_0 : cX5_worth.data.toList.drop 0 = dktX5_worth_0 := by decide +kernel
theorem dksX5_worth_1 : cX5_worth.data.toList.drop 13 = dktX5_worth_1 := dk_seg dksX5_worth_0 13 rfl rfl
theorem dksX5_worth_2 : cX5_worth.data.toList.drop 48 = dktX5_worth_2 := dk_seg dksX5_worth_1 35 rfl rfl
theorem dksX5_worth_3 : cX5_worth.data.toList.drop 72 = dktX5_worth_3 := dk_seg dksX5_worth_2 24 rfl rfl
theorem dX5_worth_0 : decode cX5_worth 0 = .ok (.aload_n 0, 1) := dk_42 (dk_at dksX5_worth_0 0 rfl rfl)
theorem dX5_worth_1 : decode cX5_worth 1 = .ok (.iload_n 1, 1) := dk_27 (dk_at dksX5_worth_0 1 rfl rfl)
theorem dX5_worth_2 : decode cX5_worth 2 = .ok (.iconst 3, 1) := dk_6 (dk_at dksX5_worth_0 2 rfl rfl)
theorem dX5_worth_3 : decode cX5_worth 3 = .ok (.invokevirtual 75, 3) := dk_182 0 75 (dk_at dksX5_worth_0 3 rfl rfl)
theorem dX5_worth_6 : decode cX5_worth 6 = .ok (.istore_n 2, 1) := dk_61 (dk_at dksX5_worth_0 6 rfl rfl)
theorem dX5_worth_7 : decode cX5_worth 7 = .ok (.aload_n 0, 1) := dk_42 (dk_at dksX5_worth_0 7 rfl rfl)
theorem dX5_worth_8 : decode cX5_worth 8 = .ok (.iload_n 1, 1) := dk_27 (dk_at dksX5_worth_0 8 rfl rfl)
theorem dX5_worth_9 : decode cX5_worth 9 = .ok (.iconst 0, 1) := dk_3 (dk_at dksX5_worth_0 9 rfl rfl)
theorem dX5_worth_10 : decode cX5_worth 10 = .ok (.invokevirtual 75, 3) := dk_182 0 75 (dk_at dksX5_worth_0 10 rfl rfl)
theorem dX5_worth_13 : decode cX5_worth 13 = .ok (.tableswitch 60 1 5 #[35, 40, 45, 52, 57], 35) := by decide +kernel
theorem dX5_worth_48 : decode cX5_worth 48 = .ok (.iload_n 2, 1) := dk_28 (dk_at dksX5_worth_2 0 rfl rfl)
theorem dX5_worth_49 : decode cX5_worth 49 = .ok (.bipush 7, 2) := dk_16 7 (dk_at dksX5_worth_2 1 rfl rfl)
theorem dX5_worth_51 : decode cX5_worth 51 = .ok (.iadd, 1) := dk_96 (dk_at dksX5_worth_2 3 rfl rfl)
theorem dX5_worth_52 : decode cX5_worth 52 = .ok (.ireturn, 1) := dk_172 (dk_at dksX5_worth_2 4 rfl rfl)
theorem dX5_worth_53 : decode cX5_worth 53 = .ok (.bipush 99, 2) := dk_16 99 (dk_at dksX5_worth_2 5 rfl rfl)
theorem dX5_worth_55 : decode cX5_worth 55 = .ok (.iload_n 2, 1) := dk_28 (dk_at dksX5_worth_2 7 rfl rfl)
theorem dX5_worth_56 : decode cX5_worth 56 = .ok (.isub, 1) := dk_100 (dk_at dksX5_worth_2 8 rfl rfl)
theorem dX5_worth_57 : decode cX5_worth 57 = .ok (.ireturn, 1) := dk_172 (dk_at dksX5_worth_2 9 rfl rfl)
theorem dX5_worth_58 : decode cX5_worth 58 = .ok (.iconst 2, 1) := dk_5 (dk_at dksX5_worth_2 10 rfl rfl)
theorem dX5_worth_59 : decode cX5_worth 59 = .ok (.iload_n 2, 1) := dk_28 (dk_at dksX5_worth_2 11 rfl rfl)
theorem dX5_worth_60 : decode cX5_worth 60 = .ok (.bipush 7, 2) := dk_16 7 (dk_at dksX5_worth_2 12 rfl rfl)
theorem dX5_worth_62 : decode cX5_worth 62 = .ok (.iadd, 1) := dk_96 (dk_at dksX5_worth_2 14 rfl rfl)
theorem dX5_worth_63 : decode cX5_worth 63 = .ok (.imul, 1) := dk_104 (dk_at dksX5_worth_2 15 rfl rfl)
theorem dX5_worth_64 : decode cX5_worth 64 = .ok (.ireturn, 1) := dk_172 (dk_at dksX5_worth_2 16 rfl rfl)
theorem dX5_worth_65 : decode cX5_worth 65 = .ok (.bipush 94, 2) := dk_16 94 (dk_at dksX5_worth_2 17 rfl rfl)
theorem dX5_worth_67 : decode cX5_worth 67 = .ok (.iload_n 2, 1) := dk_28 (dk_at dksX5_worth_2 19 rfl rfl)
theorem dX5_worth_68 : decode cX5_worth 68 = .ok (.isub, 1) := dk_100 (dk_at dksX5_worth_2 20 rfl rfl)
theorem dX5_worth_69 : decode cX5_worth 69 = .ok (.ireturn, 1) := dk_172 (dk_at dksX5_worth_2 21 rfl rfl)
theorem dX5_worth_70 : decode cX5_worth 70 = .ok (.bipush 6, 2) := dk_16 6 (dk_at dksX5_worth_2 22 rfl rfl)
theorem dX5_worth_72 : decode cX5_worth 72 = .ok (.ireturn, 1) := dk_172 (dk_at dksX5_worth_3 0 rfl rfl)
theorem dX5_worth_73 : decode cX5_worth 73 = .ok (.iload_n 2, 1) := dk_28 (dk_at dksX5_worth_3 1 rfl rfl)
theorem dX5_worth_74 : decode cX5_worth 74 = .ok (.ireturn, 1) := dk_172 (dk_at dksX5_worth_3 2 rfl rfl)
abbrev cX5_as : ByteArray := prog_18_method_26_code
def yX5_as : MethodName := ⟨RX5, "as", "(II)I"⟩
def dkwX5_as_1 : List UInt8 := [27, 3, 182, 0, 75, 28, 184, 0, 145, 153, 0, 12, 42, 27, 6, 182, 0, 75, 167, 0, 5, 18, 148, 172]
abbrev dktX5_as_1 : List UInt8 := dkwX5_as_1 ++ []
def dkwX5_as_0 : List UInt8 := [42, 27, 182, 0, 133, 153, 0, 15, 28, 133, 9, 20, 0, 94, 184, 0, 71, 154, 0, 6, 18, 100, 172, 42]
abbrev dktX5_as_0 : List UInt8 := dkwX5_as_0 ++ dktX5_as_1
theorem dksX5_as_0 : cX5_as.data.toList.drop 0 = dktX5_as_0 := by decide +kernel
theorem dksX5_as_1 : cX5_as.data.toList.drop 24 = dktX5_as_1 := dk_seg dksX5_as_0 24 rfl rfl
theorem dX5_as_0 : decode cX5_as 0 = .ok (.aload_n 0, 1) := dk_42 (dk_at dksX5_as_0 0 rfl rfl)
theorem dX5_as_1 : decode cX5_as 1 = .ok (.iload_n 1, 1) := dk_27 (dk_at dksX5_as_0 1 rfl rfl)
theorem dX5_as_2 : decode cX5_as 2 = .ok (.invokevirtual 133, 3) := dk_182 0 133 (dk_at dksX5_as_0 2 rfl rfl)
theorem dX5_as_5 : decode cX5_as 5 = .ok (.ifCond .eq 15, 3) := dk_153 0 15 (dk_at dksX5_as_0 5 rfl rfl)
theorem dX5_as_8 : decode cX5_as 8 = .ok (.iload_n 2, 1) := dk_28 (dk_at dksX5_as_0 8 rfl rfl)
theorem dX5_as_9 : decode cX5_as 9 = .ok (.i2l, 1) := dk_133 (dk_at dksX5_as_0 9 rfl rfl)
theorem dX5_as_10 : decode cX5_as 10 = .ok (.lconst 0, 1) := dk_9 (dk_at dksX5_as_0 10 rfl rfl)
theorem dX5_as_11 : decode cX5_as 11 = .ok (.ldc2_w 94, 3) := dk_20 0 94 (dk_at dksX5_as_0 11 rfl rfl)
theorem dX5_as_14 : decode cX5_as 14 = .ok (.invokestatic 71, 3) := dk_184 0 71 (dk_at dksX5_as_0 14 rfl rfl)
theorem dX5_as_17 : decode cX5_as 17 = .ok (.ifCond .ne 6, 3) := dk_154 0 6 (dk_at dksX5_as_0 17 rfl rfl)
theorem dX5_as_20 : decode cX5_as 20 = .ok (.ldc 100, 2) := dk_18 100 (dk_at dksX5_as_0 20 rfl rfl)
theorem dX5_as_22 : decode cX5_as 22 = .ok (.ireturn, 1) := dk_172 (dk_at dksX5_as_0 22 rfl rfl)
theorem dX5_as_23 : decode cX5_as 23 = .ok (.aload_n 0, 1) := dk_42 (dk_at dksX5_as_0 23 rfl rfl)
theorem dX5_as_24 : decode cX5_as 24 = .ok (.iload_n 1, 1) := dk_27 (dk_at dksX5_as_1 0 rfl rfl)
theorem dX5_as_25 : decode cX5_as 25 = .ok (.iconst 0, 1) := dk_3 (dk_at dksX5_as_1 1 rfl rfl)
theorem dX5_as_26 : decode cX5_as 26 = .ok (.invokevirtual 75, 3) := dk_182 0 75 (dk_at dksX5_as_1 2 rfl rfl)
theorem dX5_as_29 : decode cX5_as 29 = .ok (.iload_n 2, 1) := dk_28 (dk_at dksX5_as_1 5 rfl rfl)
theorem dX5_as_30 : decode cX5_as 30 = .ok (.invokestatic 145, 3) := dk_184 0 145 (dk_at dksX5_as_1 6 rfl rfl)
theorem dX5_as_33 : decode cX5_as 33 = .ok (.ifCond .eq 12, 3) := dk_153 0 12 (dk_at dksX5_as_1 9 rfl rfl)
theorem dX5_as_36 : decode cX5_as 36 = .ok (.aload_n 0, 1) := dk_42 (dk_at dksX5_as_1 12 rfl rfl)
theorem dX5_as_37 : decode cX5_as 37 = .ok (.iload_n 1, 1) := dk_27 (dk_at dksX5_as_1 13 rfl rfl)
theorem dX5_as_38 : decode cX5_as 38 = .ok (.iconst 3, 1) := dk_6 (dk_at dksX5_as_1 14 rfl rfl)
theorem dX5_as_39 : decode cX5_as 39 = .ok (.invokevirtual 75, 3) := dk_182 0 75 (dk_at dksX5_as_1 15 rfl rfl)
theorem dX5_as_42 : decode cX5_as 42 = .ok (.goto 5, 3) := dk_167 0 5 (dk_at dksX5_as_1 18 rfl rfl)
theorem dX5_as_45 : decode cX5_as 45 = .ok (.ldc 148, 2) := dk_18 148 (dk_at dksX5_as_1 21 rfl rfl)
theorem dX5_as_47 : decode cX5_as 47 = .ok (.ireturn, 1) := dk_172 (dk_at dksX5_as_1 23 rfl rfl)
abbrev cX5_isOf : ByteArray := prog_18_method_25_code
def yX5_isOf : MethodName := ⟨RX5, "isOf", "(II)Z"⟩
def dkwX5_isOf_1 : List UInt8 := [26, 7, 160, 0, 7, 4, 167, 0, 4, 3, 172]
abbrev dktX5_isOf_1 : List UInt8 := dkwX5_isOf_1 ++ []
def dkwX5_isOf_0 : List UInt8 := [26, 27, 159, 0, 27, 27, 153, 0, 23, 27, 4, 160, 0, 8, 26, 6, 159, 0, 13, 27, 5, 160, 0, 12]
abbrev dktX5_isOf_0 : List UInt8 := dkwX5_isOf_0 ++ dktX5_isOf_1
theorem dksX5_isOf_0 : cX5_isOf.data.toList.drop 0 = dktX5_isOf_0 := by decide +kernel
theorem dksX5_isOf_1 : cX5_isOf.data.toList.drop 24 = dktX5_isOf_1 := dk_seg dksX5_isOf_0 24 rfl rfl
theorem dX5_isOf_0 : decode cX5_isOf 0 = .ok (.iload_n 0, 1) := dk_26 (dk_at dksX5_isOf_0 0 rfl rfl)
theorem dX5_isOf_1 : decode cX5_isOf 1 = .ok (.iload_n 1, 1) := dk_27 (dk_at dksX5_isOf_0 1 rfl rfl)
theorem dX5_isOf_2 : decode cX5_isOf 2 = .ok (.if_icmp .eq 27, 3) := dk_159 0 27 (dk_at dksX5_isOf_0 2 rfl rfl)
theorem dX5_isOf_5 : decode cX5_isOf 5 = .ok (.iload_n 1, 1) := dk_27 (dk_at dksX5_isOf_0 5 rfl rfl)
theorem dX5_isOf_6 : decode cX5_isOf 6 = .ok (.ifCond .eq 23, 3) := dk_153 0 23 (dk_at dksX5_isOf_0 6 rfl rfl)
theorem dX5_isOf_9 : decode cX5_isOf 9 = .ok (.iload_n 1, 1) := dk_27 (dk_at dksX5_isOf_0 9 rfl rfl)
theorem dX5_isOf_10 : decode cX5_isOf 10 = .ok (.iconst 1, 1) := dk_4 (dk_at dksX5_isOf_0 10 rfl rfl)
theorem dX5_isOf_11 : decode cX5_isOf 11 = .ok (.if_icmp .ne 8, 3) := dk_160 0 8 (dk_at dksX5_isOf_0 11 rfl rfl)
theorem dX5_isOf_14 : decode cX5_isOf 14 = .ok (.iload_n 0, 1) := dk_26 (dk_at dksX5_isOf_0 14 rfl rfl)
theorem dX5_isOf_15 : decode cX5_isOf 15 = .ok (.iconst 3, 1) := dk_6 (dk_at dksX5_isOf_0 15 rfl rfl)
theorem dX5_isOf_16 : decode cX5_isOf 16 = .ok (.if_icmp .eq 13, 3) := dk_159 0 13 (dk_at dksX5_isOf_0 16 rfl rfl)
theorem dX5_isOf_19 : decode cX5_isOf 19 = .ok (.iload_n 1, 1) := dk_27 (dk_at dksX5_isOf_0 19 rfl rfl)
theorem dX5_isOf_20 : decode cX5_isOf 20 = .ok (.iconst 2, 1) := dk_5 (dk_at dksX5_isOf_0 20 rfl rfl)
theorem dX5_isOf_21 : decode cX5_isOf 21 = .ok (.if_icmp .ne 12, 3) := dk_160 0 12 (dk_at dksX5_isOf_0 21 rfl rfl)
theorem dX5_isOf_24 : decode cX5_isOf 24 = .ok (.iload_n 0, 1) := dk_26 (dk_at dksX5_isOf_1 0 rfl rfl)
theorem dX5_isOf_25 : decode cX5_isOf 25 = .ok (.iconst 4, 1) := dk_7 (dk_at dksX5_isOf_1 1 rfl rfl)
theorem dX5_isOf_26 : decode cX5_isOf 26 = .ok (.if_icmp .ne 7, 3) := dk_160 0 7 (dk_at dksX5_isOf_1 2 rfl rfl)
theorem dX5_isOf_29 : decode cX5_isOf 29 = .ok (.iconst 1, 1) := dk_4 (dk_at dksX5_isOf_1 5 rfl rfl)
theorem dX5_isOf_30 : decode cX5_isOf 30 = .ok (.goto 4, 3) := dk_167 0 4 (dk_at dksX5_isOf_1 6 rfl rfl)
theorem dX5_isOf_33 : decode cX5_isOf 33 = .ok (.iconst 0, 1) := dk_3 (dk_at dksX5_isOf_1 9 rfl rfl)
theorem dX5_isOf_34 : decode cX5_isOf 34 = .ok (.ireturn, 1) := dk_172 (dk_at dksX5_isOf_1 10 rfl rfl)
abbrev cX5_turns : ByteArray := prog_18_method_27_code
def yX5_turns : MethodName := ⟨RX5, "turns", "(II)I"⟩
def dkwX5_turns_1 : List UInt8 := [16, 7, 27, 104, 96, 28, 182, 0, 149, 167, 0, 5, 18, 100, 172]
abbrev dktX5_turns_1 : List UInt8 := dkwX5_turns_1 ++ []
def dkwX5_turns_0 : List UInt8 := [42, 27, 182, 0, 133, 153, 0, 30, 28, 133, 9, 20, 0, 94, 184, 0, 71, 153, 0, 18, 42, 16, 6]
abbrev dktX5_turns_0 : List UInt8 := dkwX5_turns_0 ++ dktX5_turns_1
theorem dksX5_turns_0 : cX5_turns.data.toList.drop 0 = dktX5_turns_0 := by decide +kernel
theorem dksX5_turns_1 : cX5_turns.data.toList.drop 23 = dktX5_turns_1 := dk_seg dksX5_turns_0 23 rfl rfl
theorem dX5_turns_0 : decode cX5_turns 0 = .ok (.aload_n 0, 1) := dk_42 (dk_at dksX5_turns_0 0 rfl rfl)
theorem dX5_turns_1 : decode cX5_turns 1 = .ok (.iload_n 1, 1) := dk_27 (dk_at dksX5_turns_0 1 rfl rfl)
theorem dX5_turns_2 : decode cX5_turns 2 = .ok (.invokevirtual 133, 3) := dk_182 0 133 (dk_at dksX5_turns_0 2 rfl rfl)
theorem dX5_turns_5 : decode cX5_turns 5 = .ok (.ifCond .eq 30, 3) := dk_153 0 30 (dk_at dksX5_turns_0 5 rfl rfl)
theorem dX5_turns_8 : decode cX5_turns 8 = .ok (.iload_n 2, 1) := dk_28 (dk_at dksX5_turns_0 8 rfl rfl)
theorem dX5_turns_9 : decode cX5_turns 9 = .ok (.i2l, 1) := dk_133 (dk_at dksX5_turns_0 9 rfl rfl)
theorem dX5_turns_10 : decode cX5_turns 10 = .ok (.lconst 0, 1) := dk_9 (dk_at dksX5_turns_0 10 rfl rfl)
theorem dX5_turns_11 : decode cX5_turns 11 = .ok (.ldc2_w 94, 3) := dk_20 0 94 (dk_at dksX5_turns_0 11 rfl rfl)
theorem dX5_turns_14 : decode cX5_turns 14 = .ok (.invokestatic 71, 3) := dk_184 0 71 (dk_at dksX5_turns_0 14 rfl rfl)
theorem dX5_turns_17 : decode cX5_turns 17 = .ok (.ifCond .eq 18, 3) := dk_153 0 18 (dk_at dksX5_turns_0 17 rfl rfl)
theorem dX5_turns_20 : decode cX5_turns 20 = .ok (.aload_n 0, 1) := dk_42 (dk_at dksX5_turns_0 20 rfl rfl)
theorem dX5_turns_21 : decode cX5_turns 21 = .ok (.bipush 6, 2) := dk_16 6 (dk_at dksX5_turns_0 21 rfl rfl)
theorem dX5_turns_23 : decode cX5_turns 23 = .ok (.bipush 7, 2) := dk_16 7 (dk_at dksX5_turns_1 0 rfl rfl)
theorem dX5_turns_25 : decode cX5_turns 25 = .ok (.iload_n 1, 1) := dk_27 (dk_at dksX5_turns_1 2 rfl rfl)
theorem dX5_turns_26 : decode cX5_turns 26 = .ok (.imul, 1) := dk_104 (dk_at dksX5_turns_1 3 rfl rfl)
theorem dX5_turns_27 : decode cX5_turns 27 = .ok (.iadd, 1) := dk_96 (dk_at dksX5_turns_1 4 rfl rfl)
theorem dX5_turns_28 : decode cX5_turns 28 = .ok (.iload_n 2, 1) := dk_28 (dk_at dksX5_turns_1 5 rfl rfl)
theorem dX5_turns_29 : decode cX5_turns 29 = .ok (.invokevirtual 149, 3) := dk_182 0 149 (dk_at dksX5_turns_1 6 rfl rfl)
theorem dX5_turns_32 : decode cX5_turns 32 = .ok (.goto 5, 3) := dk_167 0 5 (dk_at dksX5_turns_1 9 rfl rfl)
theorem dX5_turns_35 : decode cX5_turns 35 = .ok (.ldc 100, 2) := dk_18 100 (dk_at dksX5_turns_1 12 rfl rfl)
theorem dX5_turns_37 : decode cX5_turns 37 = .ok (.ireturn, 1) := dk_172 (dk_at dksX5_turns_1 14 rfl rfl)
abbrev cX5_becomes : ByteArray := prog_18_method_7_code
def yX5_becomes : MethodName := ⟨RX5, "becomes", "(II)I"⟩
def dkwX5_becomes_0 : List UInt8 := [42, 180, 0, 7, 27, 46, 62, 42, 180, 0, 7, 27, 28, 79, 29, 172]
abbrev dktX5_becomes_0 : List UInt8 := dkwX5_becomes_0 ++ []
theorem dksX5_becomes_0 : cX5_becomes.data.toList.drop 0 = dktX5_becomes_0 := by decide +kernel
theorem dX5_becomes_0 : decode cX5_becomes 0 = .ok (.aload_n 0, 1) := dk_42 (dk_at dksX5_becomes_0 0 rfl rfl)
theorem dX5_becomes_1 : decode cX5_becomes 1 = .ok (.getfield 7, 3) := dk_180 0 7 (dk_at dksX5_becomes_0 1 rfl rfl)
theorem dX5_becomes_4 : decode cX5_becomes 4 = .ok (.iload_n 1, 1) := dk_27 (dk_at dksX5_becomes_0 4 rfl rfl)
theorem dX5_becomes_5 : decode cX5_becomes 5 = .ok (.iaload, 1) := dk_46 (dk_at dksX5_becomes_0 5 rfl rfl)
theorem dX5_becomes_6 : decode cX5_becomes 6 = .ok (.istore_n 3, 1) := dk_62 (dk_at dksX5_becomes_0 6 rfl rfl)
theorem dX5_becomes_7 : decode cX5_becomes 7 = .ok (.aload_n 0, 1) := dk_42 (dk_at dksX5_becomes_0 7 rfl rfl)
theorem dX5_becomes_8 : decode cX5_becomes 8 = .ok (.getfield 7, 3) := dk_180 0 7 (dk_at dksX5_becomes_0 8 rfl rfl)
theorem dX5_becomes_11 : decode cX5_becomes 11 = .ok (.iload_n 1, 1) := dk_27 (dk_at dksX5_becomes_0 11 rfl rfl)
theorem dX5_becomes_12 : decode cX5_becomes 12 = .ok (.iload_n 2, 1) := dk_28 (dk_at dksX5_becomes_0 12 rfl rfl)
theorem dX5_becomes_13 : decode cX5_becomes 13 = .ok (.iastore, 1) := dk_79 (dk_at dksX5_becomes_0 13 rfl rfl)
theorem dX5_becomes_14 : decode cX5_becomes 14 = .ok (.iload_n 3, 1) := dk_29 (dk_at dksX5_becomes_0 14 rfl rfl)
theorem dX5_becomes_15 : decode cX5_becomes 15 = .ok (.ireturn, 1) := dk_172 (dk_at dksX5_becomes_0 15 rfl rfl)
abbrev cX5_set : ByteArray := prog_18_method_28_code
def yX5_set : MethodName := ⟨RX5, "set", "(III)I"⟩
def dkwX5_set_1 : List UInt8 := [28, 96, 29, 182, 0, 149, 167, 0, 5, 18, 100, 172]
abbrev dktX5_set_1 : List UInt8 := dkwX5_set_1 ++ []
def dkwX5_set_0 : List UInt8 := [42, 27, 182, 0, 133, 153, 0, 28, 28, 29, 184, 0, 96, 153, 0, 20, 42, 16, 6, 16, 7, 27, 104, 96]
abbrev dktX5_set_0 : List UInt8 := dkwX5_set_0 ++ dktX5_set_1
theorem dksX5_set_0 : cX5_set.data.toList.drop 0 = dktX5_set_0 := by decide +kernel
theorem dksX5_set_1 : cX5_set.data.toList.drop 24 = dktX5_set_1 := dk_seg dksX5_set_0 24 rfl rfl
theorem dX5_set_0 : decode cX5_set 0 = .ok (.aload_n 0, 1) := dk_42 (dk_at dksX5_set_0 0 rfl rfl)
theorem dX5_set_1 : decode cX5_set 1 = .ok (.iload_n 1, 1) := dk_27 (dk_at dksX5_set_0 1 rfl rfl)
theorem dX5_set_2 : decode cX5_set 2 = .ok (.invokevirtual 133, 3) := dk_182 0 133 (dk_at dksX5_set_0 2 rfl rfl)
theorem dX5_set_5 : decode cX5_set 5 = .ok (.ifCond .eq 28, 3) := dk_153 0 28 (dk_at dksX5_set_0 5 rfl rfl)
theorem dX5_set_8 : decode cX5_set 8 = .ok (.iload_n 2, 1) := dk_28 (dk_at dksX5_set_0 8 rfl rfl)
theorem dX5_set_9 : decode cX5_set 9 = .ok (.iload_n 3, 1) := dk_29 (dk_at dksX5_set_0 9 rfl rfl)
theorem dX5_set_10 : decode cX5_set 10 = .ok (.invokestatic 96, 3) := dk_184 0 96 (dk_at dksX5_set_0 10 rfl rfl)
theorem dX5_set_13 : decode cX5_set 13 = .ok (.ifCond .eq 20, 3) := dk_153 0 20 (dk_at dksX5_set_0 13 rfl rfl)
theorem dX5_set_16 : decode cX5_set 16 = .ok (.aload_n 0, 1) := dk_42 (dk_at dksX5_set_0 16 rfl rfl)
theorem dX5_set_17 : decode cX5_set 17 = .ok (.bipush 6, 2) := dk_16 6 (dk_at dksX5_set_0 17 rfl rfl)
theorem dX5_set_19 : decode cX5_set 19 = .ok (.bipush 7, 2) := dk_16 7 (dk_at dksX5_set_0 19 rfl rfl)
theorem dX5_set_21 : decode cX5_set 21 = .ok (.iload_n 1, 1) := dk_27 (dk_at dksX5_set_0 21 rfl rfl)
theorem dX5_set_22 : decode cX5_set 22 = .ok (.imul, 1) := dk_104 (dk_at dksX5_set_0 22 rfl rfl)
theorem dX5_set_23 : decode cX5_set 23 = .ok (.iadd, 1) := dk_96 (dk_at dksX5_set_0 23 rfl rfl)
theorem dX5_set_24 : decode cX5_set 24 = .ok (.iload_n 2, 1) := dk_28 (dk_at dksX5_set_1 0 rfl rfl)
theorem dX5_set_25 : decode cX5_set 25 = .ok (.iadd, 1) := dk_96 (dk_at dksX5_set_1 1 rfl rfl)
theorem dX5_set_26 : decode cX5_set 26 = .ok (.iload_n 3, 1) := dk_29 (dk_at dksX5_set_1 2 rfl rfl)
theorem dX5_set_27 : decode cX5_set 27 = .ok (.invokevirtual 149, 3) := dk_182 0 149 (dk_at dksX5_set_1 3 rfl rfl)
theorem dX5_set_30 : decode cX5_set 30 = .ok (.goto 5, 3) := dk_167 0 5 (dk_at dksX5_set_1 6 rfl rfl)
theorem dX5_set_33 : decode cX5_set 33 = .ok (.ldc 100, 2) := dk_18 100 (dk_at dksX5_set_1 9 rfl rfl)
theorem dX5_set_35 : decode cX5_set 35 = .ok (.ireturn, 1) := dk_172 (dk_at dksX5_set_1 11 rfl rfl)
abbrev cX5_fells : ByteArray := prog_18_method_30_code
def yX5_fells : MethodName := ⟨RX5, "fells", "(I)I"⟩
def dkwX5_fells_1 : List UInt8 := [182, 0, 153, 42, 182, 0, 123, 184, 0, 157, 172]
abbrev dktX5_fells_1 : List UInt8 := dkwX5_fells_1 ++ []
def dkwX5_fells_0 : List UInt8 := [42, 27, 182, 0, 133, 154, 0, 6, 18, 100, 172, 42, 27, 182, 0, 119, 154, 0, 6, 18, 152, 172, 42, 27]
abbrev dktX5_fells_0 : List UInt8 := dkwX5_fells_0 ++ dktX5_fells_1
theorem dksX5_fells_0 : cX5_fells.data.toList.drop 0 = dktX5_fells_0 := by decide +kernel
theorem dksX5_fells_1 : cX5_fells.data.toList.drop 24 = dktX5_fells_1 := dk_seg dksX5_fells_0 24 rfl rfl
theorem dX5_fells_0 : decode cX5_fells 0 = .ok (.aload_n 0, 1) := dk_42 (dk_at dksX5_fells_0 0 rfl rfl)
theorem dX5_fells_1 : decode cX5_fells 1 = .ok (.iload_n 1, 1) := dk_27 (dk_at dksX5_fells_0 1 rfl rfl)
theorem dX5_fells_2 : decode cX5_fells 2 = .ok (.invokevirtual 133, 3) := dk_182 0 133 (dk_at dksX5_fells_0 2 rfl rfl)
theorem dX5_fells_5 : decode cX5_fells 5 = .ok (.ifCond .ne 6, 3) := dk_154 0 6 (dk_at dksX5_fells_0 5 rfl rfl)
theorem dX5_fells_8 : decode cX5_fells 8 = .ok (.ldc 100, 2) := dk_18 100 (dk_at dksX5_fells_0 8 rfl rfl)
theorem dX5_fells_10 : decode cX5_fells 10 = .ok (.ireturn, 1) := dk_172 (dk_at dksX5_fells_0 10 rfl rfl)
theorem dX5_fells_11 : decode cX5_fells 11 = .ok (.aload_n 0, 1) := dk_42 (dk_at dksX5_fells_0 11 rfl rfl)
theorem dX5_fells_12 : decode cX5_fells 12 = .ok (.iload_n 1, 1) := dk_27 (dk_at dksX5_fells_0 12 rfl rfl)
theorem dX5_fells_13 : decode cX5_fells 13 = .ok (.invokevirtual 119, 3) := dk_182 0 119 (dk_at dksX5_fells_0 13 rfl rfl)
theorem dX5_fells_16 : decode cX5_fells 16 = .ok (.ifCond .ne 6, 3) := dk_154 0 6 (dk_at dksX5_fells_0 16 rfl rfl)
theorem dX5_fells_19 : decode cX5_fells 19 = .ok (.ldc 152, 2) := dk_18 152 (dk_at dksX5_fells_0 19 rfl rfl)
theorem dX5_fells_21 : decode cX5_fells 21 = .ok (.ireturn, 1) := dk_172 (dk_at dksX5_fells_0 21 rfl rfl)
theorem dX5_fells_22 : decode cX5_fells 22 = .ok (.aload_n 0, 1) := dk_42 (dk_at dksX5_fells_0 22 rfl rfl)
theorem dX5_fells_23 : decode cX5_fells 23 = .ok (.iload_n 1, 1) := dk_27 (dk_at dksX5_fells_0 23 rfl rfl)
theorem dX5_fells_24 : decode cX5_fells 24 = .ok (.invokevirtual 153, 3) := dk_182 0 153 (dk_at dksX5_fells_1 0 rfl rfl)
theorem dX5_fells_27 : decode cX5_fells 27 = .ok (.aload_n 0, 1) := dk_42 (dk_at dksX5_fells_1 3 rfl rfl)
theorem dX5_fells_28 : decode cX5_fells 28 = .ok (.invokevirtual 123, 3) := dk_182 0 123 (dk_at dksX5_fells_1 4 rfl rfl)
theorem dX5_fells_31 : decode cX5_fells 31 = .ok (.invokestatic 157, 3) := dk_184 0 157 (dk_at dksX5_fells_1 7 rfl rfl)
theorem dX5_fells_34 : decode cX5_fells 34 = .ok (.ireturn, 1) := dk_172 (dk_at dksX5_fells_1 10 rfl rfl)
abbrev cX5_falls : ByteArray := prog_18_method_29_code
def yX5_falls : MethodName := ⟨RX5, "falls", "(I)V"⟩
def dkwX5_falls_0 : List UInt8 := [42, 27, 16, 6, 4, 182, 0, 80, 42, 27, 8, 3, 182, 0, 80, 177]
abbrev dktX5_falls_0 : List UInt8 := dkwX5_falls_0 ++ []
theorem dksX5_falls_0 : cX5_falls.data.toList.drop 0 = dktX5_falls_0 := by decide +kernel
theorem dX5_falls_0 : decode cX5_falls 0 = .ok (.aload_n 0, 1) := dk_42 (dk_at dksX5_falls_0 0 rfl rfl)
theorem dX5_falls_1 : decode cX5_falls 1 = .ok (.iload_n 1, 1) := dk_27 (dk_at dksX5_falls_0 1 rfl rfl)
theorem dX5_falls_2 : decode cX5_falls 2 = .ok (.bipush 6, 2) := dk_16 6 (dk_at dksX5_falls_0 2 rfl rfl)
theorem dX5_falls_4 : decode cX5_falls 4 = .ok (.iconst 1, 1) := dk_4 (dk_at dksX5_falls_0 4 rfl rfl)
theorem dX5_falls_5 : decode cX5_falls 5 = .ok (.invokevirtual 80, 3) := dk_182 0 80 (dk_at dksX5_falls_0 5 rfl rfl)
theorem dX5_falls_8 : decode cX5_falls 8 = .ok (.aload_n 0, 1) := dk_42 (dk_at dksX5_falls_0 8 rfl rfl)
theorem dX5_falls_9 : decode cX5_falls 9 = .ok (.iload_n 1, 1) := dk_27 (dk_at dksX5_falls_0 9 rfl rfl)
theorem dX5_falls_10 : decode cX5_falls 10 = .ok (.iconst 5, 1) := dk_8 (dk_at dksX5_falls_0 10 rfl rfl)
theorem dX5_falls_11 : decode cX5_falls 11 = .ok (.iconst 0, 1) := dk_3 (dk_at dksX5_falls_0 11 rfl rfl)
theorem dX5_falls_12 : decode cX5_falls 12 = .ok (.invokevirtual 80, 3) := dk_182 0 80 (dk_at dksX5_falls_0 12 rfl rfl)
theorem dX5_falls_15 : decode cX5_falls 15 = .ok (.return_, 1) := dk_177 (dk_at dksX5_falls_0 15 rfl rfl)
abbrev cX5_manyIn : ByteArray := prog_18_method_6_code
def yX5_manyIn : MethodName := ⟨RX5, "manyIn", "(I)I"⟩
def dkwX5_manyIn_0 : List UInt8 := [3, 60, 26, 61, 28, 153, 0, 15, 132, 1, 1, 28, 28, 4, 100, 126, 61, 167, 255, 243, 27, 172]
abbrev dktX5_manyIn_0 : List UInt8 := dkwX5_manyIn_0 ++ []
theorem dksX5_manyIn_0 : cX5_manyIn.data.toList.drop 0 = dktX5_manyIn_0 := by decide +kernel
theorem dX5_manyIn_0 : decode cX5_manyIn 0 = .ok (.iconst 0, 1) := dk_3 (dk_at dksX5_manyIn_0 0 rfl rfl)
theorem dX5_manyIn_1 : decode cX5_manyIn 1 = .ok (.istore_n 1, 1) := dk_60 (dk_at dksX5_manyIn_0 1 rfl rfl)
theorem dX5_manyIn_2 : decode cX5_manyIn 2 = .ok (.iload_n 0, 1) := dk_26 (dk_at dksX5_manyIn_0 2 rfl rfl)
theorem dX5_manyIn_3 : decode cX5_manyIn 3 = .ok (.istore_n 2, 1) := dk_61 (dk_at dksX5_manyIn_0 3 rfl rfl)
theorem dX5_manyIn_4 : decode cX5_manyIn 4 = .ok (.iload_n 2, 1) := dk_28 (dk_at dksX5_manyIn_0 4 rfl rfl)
theorem dX5_manyIn_5 : decode cX5_manyIn 5 = .ok (.ifCond .eq 15, 3) := dk_153 0 15 (dk_at dksX5_manyIn_0 5 rfl rfl)
theorem dX5_manyIn_8 : decode cX5_manyIn 8 = .ok (.iinc 1 1, 3) := dk_132 1 1 (dk_at dksX5_manyIn_0 8 rfl rfl)
theorem dX5_manyIn_11 : decode cX5_manyIn 11 = .ok (.iload_n 2, 1) := dk_28 (dk_at dksX5_manyIn_0 11 rfl rfl)
theorem dX5_manyIn_12 : decode cX5_manyIn 12 = .ok (.iload_n 2, 1) := dk_28 (dk_at dksX5_manyIn_0 12 rfl rfl)
theorem dX5_manyIn_13 : decode cX5_manyIn 13 = .ok (.iconst 1, 1) := dk_4 (dk_at dksX5_manyIn_0 13 rfl rfl)
theorem dX5_manyIn_14 : decode cX5_manyIn 14 = .ok (.isub, 1) := dk_100 (dk_at dksX5_manyIn_0 14 rfl rfl)
theorem dX5_manyIn_15 : decode cX5_manyIn 15 = .ok (.iand, 1) := dk_126 (dk_at dksX5_manyIn_0 15 rfl rfl)
theorem dX5_manyIn_16 : decode cX5_manyIn 16 = .ok (.istore_n 2, 1) := dk_61 (dk_at dksX5_manyIn_0 16 rfl rfl)
theorem dX5_manyIn_17 : decode cX5_manyIn 17 = .ok (.goto (-13), 3) := dk_167 255 243 (dk_at dksX5_manyIn_0 17 rfl rfl)
theorem dX5_manyIn_20 : decode cX5_manyIn 20 = .ok (.iload_n 1, 1) := dk_27 (dk_at dksX5_manyIn_0 20 rfl rfl)
theorem dX5_manyIn_21 : decode cX5_manyIn 21 = .ok (.ireturn, 1) := dk_172 (dk_at dksX5_manyIn_0 21 rfl rfl)
abbrev cX5_raises : ByteArray := prog_18_method_31_code
def yX5_raises : MethodName := ⟨RX5, "raises", "(I)I"⟩
def dkwX5_raises_2 : List UInt8 := [184, 0, 157, 172]
abbrev dktX5_raises_2 : List UInt8 := dkwX5_raises_2 ++ []
def dkwX5_raises_1 : List UInt8 := [16, 6, 3, 182, 0, 80, 42, 27, 5, 3, 182, 0, 80, 42, 27, 7, 3, 182, 0, 80, 42, 182, 0, 123]
abbrev dktX5_raises_1 : List UInt8 := dkwX5_raises_1 ++ dktX5_raises_2
def dkwX5_raises_0 : List UInt8 := [42, 27, 182, 0, 133, 154, 0, 6, 18, 100, 172, 42, 27, 182, 0, 119, 153, 0, 6, 18, 152, 172, 42, 27]
abbrev dktX5_raises_0 : List UInt8 := dkwX5_raises_0 ++ dktX5_raises_1
theorem dksX5_raises_0 : cX5_raises.data.toList.drop 0 = dktX5_raises_0 := by decide +kernel
theorem dksX5_raises_1 : cX5_raises.data.toList.drop 24 = dktX5_raises_1 := dk_seg dksX5_raises_0 24 rfl rfl
theorem dksX5_raises_2 : cX5_raises.data.toList.drop 48 = dktX5_raises_2 := dk_seg dksX5_raises_1 24 rfl rfl
theorem dX5_raises_0 : decode cX5_raises 0 = .ok (.aload_n 0, 1) := dk_42 (dk_at dksX5_raises_0 0 rfl rfl)
theorem dX5_raises_1 : decode cX5_raises 1 = .ok (.iload_n 1, 1) := dk_27 (dk_at dksX5_raises_0 1 rfl rfl)
theorem dX5_raises_2 : decode cX5_raises 2 = .ok (.invokevirtual 133, 3) := dk_182 0 133 (dk_at dksX5_raises_0 2 rfl rfl)
theorem dX5_raises_5 : decode cX5_raises 5 = .ok (.ifCond .ne 6, 3) := dk_154 0 6 (dk_at dksX5_raises_0 5 rfl rfl)
theorem dX5_raises_8 : decode cX5_raises 8 = .ok (.ldc 100, 2) := dk_18 100 (dk_at dksX5_raises_0 8 rfl rfl)
theorem dX5_raises_10 : decode cX5_raises 10 = .ok (.ireturn, 1) := dk_172 (dk_at dksX5_raises_0 10 rfl rfl)
theorem dX5_raises_11 : decode cX5_raises 11 = .ok (.aload_n 0, 1) := dk_42 (dk_at dksX5_raises_0 11 rfl rfl)
theorem dX5_raises_12 : decode cX5_raises 12 = .ok (.iload_n 1, 1) := dk_27 (dk_at dksX5_raises_0 12 rfl rfl)
theorem dX5_raises_13 : decode cX5_raises 13 = .ok (.invokevirtual 119, 3) := dk_182 0 119 (dk_at dksX5_raises_0 13 rfl rfl)
theorem dX5_raises_16 : decode cX5_raises 16 = .ok (.ifCond .eq 6, 3) := dk_153 0 6 (dk_at dksX5_raises_0 16 rfl rfl)
theorem dX5_raises_19 : decode cX5_raises 19 = .ok (.ldc 152, 2) := dk_18 152 (dk_at dksX5_raises_0 19 rfl rfl)
theorem dX5_raises_21 : decode cX5_raises 21 = .ok (.ireturn, 1) := dk_172 (dk_at dksX5_raises_0 21 rfl rfl)
theorem dX5_raises_22 : decode cX5_raises 22 = .ok (.aload_n 0, 1) := dk_42 (dk_at dksX5_raises_0 22 rfl rfl)
theorem dX5_raises_23 : decode cX5_raises 23 = .ok (.iload_n 1, 1) := dk_27 (dk_at dksX5_raises_0 23 rfl rfl)
theorem dX5_raises_24 : decode cX5_raises 24 = .ok (.bipush 6, 2) := dk_16 6 (dk_at dksX5_raises_1 0 rfl rfl)
theorem dX5_raises_26 : decode cX5_raises 26 = .ok (.iconst 0, 1) := dk_3 (dk_at dksX5_raises_1 2 rfl rfl)
theorem dX5_raises_27 : decode cX5_raises 27 = .ok (.invokevirtual 80, 3) := dk_182 0 80 (dk_at dksX5_raises_1 3 rfl rfl)
theorem dX5_raises_30 : decode cX5_raises 30 = .ok (.aload_n 0, 1) := dk_42 (dk_at dksX5_raises_1 6 rfl rfl)
theorem dX5_raises_31 : decode cX5_raises 31 = .ok (.iload_n 1, 1) := dk_27 (dk_at dksX5_raises_1 7 rfl rfl)
theorem dX5_raises_32 : decode cX5_raises 32 = .ok (.iconst 2, 1) := dk_5 (dk_at dksX5_raises_1 8 rfl rfl)
theorem dX5_raises_33 : decode cX5_raises 33 = .ok (.iconst 0, 1) := dk_3 (dk_at dksX5_raises_1 9 rfl rfl)
theorem dX5_raises_34 : decode cX5_raises 34 = .ok (.invokevirtual 80, 3) := dk_182 0 80 (dk_at dksX5_raises_1 10 rfl rfl)
theorem dX5_raises_37 : decode cX5_raises 37 = .ok (.aload_n 0, 1) := dk_42 (dk_at dksX5_raises_1 13 rfl rfl)
theorem dX5_raises_38 : decode cX5_raises 38 = .ok (.iload_n 1, 1) := dk_27 (dk_at dksX5_raises_1 14 rfl rfl)
theorem dX5_raises_39 : decode cX5_raises 39 = .ok (.iconst 4, 1) := dk_7 (dk_at dksX5_raises_1 15 rfl rfl)
theorem dX5_raises_40 : decode cX5_raises 40 = .ok (.iconst 0, 1) := dk_3 (dk_at dksX5_raises_1 16 rfl rfl)
theorem dX5_raises_41 : decode cX5_raises 41 = .ok (.invokevirtual 80, 3) := dk_182 0 80 (dk_at dksX5_raises_1 17 rfl rfl)
theorem dX5_raises_44 : decode cX5_raises 44 = .ok (.aload_n 0, 1) := dk_42 (dk_at dksX5_raises_1 20 rfl rfl)
theorem dX5_raises_45 : decode cX5_raises 45 = .ok (.invokevirtual 123, 3) := dk_182 0 123 (dk_at dksX5_raises_1 21 rfl rfl)
theorem dX5_raises_48 : decode cX5_raises 48 = .ok (.invokestatic 157, 3) := dk_184 0 157 (dk_at dksX5_raises_2 0 rfl rfl)
theorem dX5_raises_51 : decode cX5_raises 51 = .ok (.ireturn, 1) := dk_172 (dk_at dksX5_raises_2 3 rfl rfl)
abbrev cX5_snow : ByteArray := prog_18_method_32_code
def yX5_snow : MethodName := ⟨RX5, "snow", "(I)I"⟩
def dkwX5_snow_1 : List UInt8 := [18, 100, 172]
abbrev dktX5_snow_1 : List UInt8 := dkwX5_snow_1 ++ []
def dkwX5_snow_0 : List UInt8 := [27, 133, 20, 0, 160, 20, 0, 162, 184, 0, 71, 153, 0, 12, 42, 7, 27, 182, 0, 149, 167, 0, 5]
abbrev dktX5_snow_0 : List UInt8 := dkwX5_snow_0 ++ dktX5_snow_1
theorem dksX5_snow_0 : cX5_snow.data.toList.drop 0 = dktX5_snow_0 := by decide +kernel
theorem dksX5_snow_1 : cX5_snow.data.toList.drop 23 = dktX5_snow_1 := dk_seg dksX5_snow_0 23 rfl rfl
theorem dX5_snow_0 : decode cX5_snow 0 = .ok (.iload_n 1, 1) := dk_27 (dk_at dksX5_snow_0 0 rfl rfl)
theorem dX5_snow_1 : decode cX5_snow 1 = .ok (.i2l, 1) := dk_133 (dk_at dksX5_snow_0 1 rfl rfl)
theorem dX5_snow_2 : decode cX5_snow 2 = .ok (.ldc2_w 160, 3) := dk_20 0 160 (dk_at dksX5_snow_0 2 rfl rfl)
theorem dX5_snow_5 : decode cX5_snow 5 = .ok (.ldc2_w 162, 3) := dk_20 0 162 (dk_at dksX5_snow_0 5 rfl rfl)
theorem dX5_snow_8 : decode cX5_snow 8 = .ok (.invokestatic 71, 3) := dk_184 0 71 (dk_at dksX5_snow_0 8 rfl rfl)
theorem dX5_snow_11 : decode cX5_snow 11 = .ok (.ifCond .eq 12, 3) := dk_153 0 12 (dk_at dksX5_snow_0 11 rfl rfl)
theorem dX5_snow_14 : decode cX5_snow 14 = .ok (.aload_n 0, 1) := dk_42 (dk_at dksX5_snow_0 14 rfl rfl)
theorem dX5_snow_15 : decode cX5_snow 15 = .ok (.iconst 4, 1) := dk_7 (dk_at dksX5_snow_0 15 rfl rfl)
theorem dX5_snow_16 : decode cX5_snow 16 = .ok (.iload_n 1, 1) := dk_27 (dk_at dksX5_snow_0 16 rfl rfl)
theorem dX5_snow_17 : decode cX5_snow 17 = .ok (.invokevirtual 149, 3) := dk_182 0 149 (dk_at dksX5_snow_0 17 rfl rfl)
theorem dX5_snow_20 : decode cX5_snow 20 = .ok (.goto 5, 3) := dk_167 0 5 (dk_at dksX5_snow_0 20 rfl rfl)
theorem dX5_snow_23 : decode cX5_snow 23 = .ok (.ldc 100, 2) := dk_18 100 (dk_at dksX5_snow_1 0 rfl rfl)
theorem dX5_snow_25 : decode cX5_snow 25 = .ok (.ireturn, 1) := dk_172 (dk_at dksX5_snow_1 2 rfl rfl)
abbrev cX5_deal : ByteArray := prog_18_method_33_code
def yX5_deal : MethodName := ⟨RX5, "deal", "(I)I"⟩
def dkwX5_deal_3 : List UInt8 := [42, 182, 0, 164, 16, 60, 112, 182, 0, 102, 132, 2, 1, 167, 255, 190, 28, 172]
abbrev dktX5_deal_3 : List UInt8 := dkwX5_deal_3 ++ []
def dkwX5_deal_2 : List UInt8 := [16, 60, 112, 96, 54, 4, 42, 182, 0, 164, 16, 41, 112, 16, 20, 100, 54, 5, 42, 29, 21, 4, 21, 5]
abbrev dktX5_deal_2 : List UInt8 := dkwX5_deal_2 ++ dktX5_deal_3
def dkwX5_deal_1 : List UInt8 := [180, 0, 7, 3, 46, 16, 9, 162, 0, 56, 42, 182, 0, 164, 16, 6, 112, 62, 4, 42, 182, 0, 164]
abbrev dktX5_deal_1 : List UInt8 := dkwX5_deal_1 ++ dktX5_deal_2
def dkwX5_deal_0 : List UInt8 := [27, 133, 10, 20, 0, 92, 184, 0, 71, 154, 0, 6, 18, 100, 172, 3, 61, 28, 27, 162, 0, 67, 42]
abbrev dktX5_deal_0 : List UInt8 := dkwX5_deal_0 ++ dktX5_deal_1
theorem dksX5_deal_0 : cX5_deal.data.toList.drop 0 = dktX5_deal_0 := by decide +kernel
theorem dksX5_deal_1 : cX5_deal.data.toList.drop 23 = dktX5_deal_1 := dk_seg dksX5_deal_0 23 rfl rfl
theorem dksX5_deal_2 : cX5_deal.data.toList.drop 46 = dktX5_deal_2 := dk_seg dksX5_deal_1 23 rfl rfl
theorem dksX5_deal_3 : cX5_deal.data.toList.drop 70 = dktX5_deal_3 := dk_seg dksX5_deal_2 24 rfl rfl
theorem dX5_deal_0 : decode cX5_deal 0 = .ok (.iload_n 1, 1) := dk_27 (dk_at dksX5_deal_0 0 rfl rfl)
theorem dX5_deal_1 : decode cX5_deal 1 = .ok (.i2l, 1) := dk_133 (dk_at dksX5_deal_0 1 rfl rfl)
theorem dX5_deal_2 : decode cX5_deal 2 = .ok (.lconst 1, 1) := dk_10 (dk_at dksX5_deal_0 2 rfl rfl)
theorem dX5_deal_3 : decode cX5_deal 3 = .ok (.ldc2_w 92, 3) := dk_20 0 92 (dk_at dksX5_deal_0 3 rfl rfl)
theorem dX5_deal_6 : decode cX5_deal 6 = .ok (.invokestatic 71, 3) := dk_184 0 71 (dk_at dksX5_deal_0 6 rfl rfl)
theorem dX5_deal_9 : decode cX5_deal 9 = .ok (.ifCond .ne 6, 3) := dk_154 0 6 (dk_at dksX5_deal_0 9 rfl rfl)
theorem dX5_deal_12 : decode cX5_deal 12 = .ok (.ldc 100, 2) := dk_18 100 (dk_at dksX5_deal_0 12 rfl rfl)
theorem dX5_deal_14 : decode cX5_deal 14 = .ok (.ireturn, 1) := dk_172 (dk_at dksX5_deal_0 14 rfl rfl)
theorem dX5_deal_15 : decode cX5_deal 15 = .ok (.iconst 0, 1) := dk_3 (dk_at dksX5_deal_0 15 rfl rfl)
theorem dX5_deal_16 : decode cX5_deal 16 = .ok (.istore_n 2, 1) := dk_61 (dk_at dksX5_deal_0 16 rfl rfl)
theorem dX5_deal_17 : decode cX5_deal 17 = .ok (.iload_n 2, 1) := dk_28 (dk_at dksX5_deal_0 17 rfl rfl)
theorem dX5_deal_18 : decode cX5_deal 18 = .ok (.iload_n 1, 1) := dk_27 (dk_at dksX5_deal_0 18 rfl rfl)
theorem dX5_deal_19 : decode cX5_deal 19 = .ok (.if_icmp .ge 67, 3) := dk_162 0 67 (dk_at dksX5_deal_0 19 rfl rfl)
theorem dX5_deal_22 : decode cX5_deal 22 = .ok (.aload_n 0, 1) := dk_42 (dk_at dksX5_deal_0 22 rfl rfl)
theorem dX5_deal_23 : decode cX5_deal 23 = .ok (.getfield 7, 3) := dk_180 0 7 (dk_at dksX5_deal_1 0 rfl rfl)
theorem dX5_deal_26 : decode cX5_deal 26 = .ok (.iconst 0, 1) := dk_3 (dk_at dksX5_deal_1 3 rfl rfl)
theorem dX5_deal_27 : decode cX5_deal 27 = .ok (.iaload, 1) := dk_46 (dk_at dksX5_deal_1 4 rfl rfl)
theorem dX5_deal_28 : decode cX5_deal 28 = .ok (.bipush 9, 2) := dk_16 9 (dk_at dksX5_deal_1 5 rfl rfl)
theorem dX5_deal_30 : decode cX5_deal 30 = .ok (.if_icmp .ge 56, 3) := dk_162 0 56 (dk_at dksX5_deal_1 7 rfl rfl)
theorem dX5_deal_33 : decode cX5_deal 33 = .ok (.aload_n 0, 1) := dk_42 (dk_at dksX5_deal_1 10 rfl rfl)
theorem dX5_deal_34 : decode cX5_deal 34 = .ok (.invokevirtual 164, 3) := dk_182 0 164 (dk_at dksX5_deal_1 11 rfl rfl)
theorem dX5_deal_37 : decode cX5_deal 37 = .ok (.bipush 6, 2) := dk_16 6 (dk_at dksX5_deal_1 14 rfl rfl)
theorem dX5_deal_39 : decode cX5_deal 39 = .ok (.irem, 1) := dk_112 (dk_at dksX5_deal_1 16 rfl rfl)
theorem dX5_deal_40 : decode cX5_deal 40 = .ok (.istore_n 3, 1) := dk_62 (dk_at dksX5_deal_1 17 rfl rfl)
theorem dX5_deal_41 : decode cX5_deal 41 = .ok (.iconst 1, 1) := dk_4 (dk_at dksX5_deal_1 18 rfl rfl)
theorem dX5_deal_42 : decode cX5_deal 42 = .ok (.aload_n 0, 1) := dk_42 (dk_at dksX5_deal_1 19 rfl rfl)
theorem dX5_deal_43 : decode cX5_deal 43 = .ok (.invokevirtual 164, 3) := dk_182 0 164 (dk_at dksX5_deal_1 20 rfl rfl)
theorem dX5_deal_46 : decode cX5_deal 46 = .ok (.bipush 60, 2) := dk_16 60 (dk_at dksX5_deal_2 0 rfl rfl)
theorem dX5_deal_48 : decode cX5_deal 48 = .ok (.irem, 1) := dk_112 (dk_at dksX5_deal_2 2 rfl rfl)
theorem dX5_deal_49 : decode cX5_deal 49 = .ok (.iadd, 1) := dk_96 (dk_at dksX5_deal_2 3 rfl rfl)
theorem dX5_deal_50 : decode cX5_deal 50 = .ok (.istore 4, 2) := dk_54 4 (dk_at dksX5_deal_2 4 rfl rfl)
theorem dX5_deal_52 : decode cX5_deal 52 = .ok (.aload_n 0, 1) := dk_42 (dk_at dksX5_deal_2 6 rfl rfl)
theorem dX5_deal_53 : decode cX5_deal 53 = .ok (.invokevirtual 164, 3) := dk_182 0 164 (dk_at dksX5_deal_2 7 rfl rfl)
theorem dX5_deal_56 : decode cX5_deal 56 = .ok (.bipush 41, 2) := dk_16 41 (dk_at dksX5_deal_2 10 rfl rfl)
theorem dX5_deal_58 : decode cX5_deal 58 = .ok (.irem, 1) := dk_112 (dk_at dksX5_deal_2 12 rfl rfl)
theorem dX5_deal_59 : decode cX5_deal 59 = .ok (.bipush 20, 2) := dk_16 20 (dk_at dksX5_deal_2 13 rfl rfl)
theorem dX5_deal_61 : decode cX5_deal 61 = .ok (.isub, 1) := dk_100 (dk_at dksX5_deal_2 15 rfl rfl)
theorem dX5_deal_62 : decode cX5_deal 62 = .ok (.istore 5, 2) := dk_54 5 (dk_at dksX5_deal_2 16 rfl rfl)
theorem dX5_deal_64 : decode cX5_deal 64 = .ok (.aload_n 0, 1) := dk_42 (dk_at dksX5_deal_2 18 rfl rfl)
theorem dX5_deal_65 : decode cX5_deal 65 = .ok (.iload_n 3, 1) := dk_29 (dk_at dksX5_deal_2 19 rfl rfl)
theorem dX5_deal_66 : decode cX5_deal 66 = .ok (.iload 4, 2) := dk_21 4 (dk_at dksX5_deal_2 20 rfl rfl)
theorem dX5_deal_68 : decode cX5_deal 68 = .ok (.iload 5, 2) := dk_21 5 (dk_at dksX5_deal_2 22 rfl rfl)
theorem dX5_deal_70 : decode cX5_deal 70 = .ok (.aload_n 0, 1) := dk_42 (dk_at dksX5_deal_3 0 rfl rfl)
theorem dX5_deal_71 : decode cX5_deal 71 = .ok (.invokevirtual 164, 3) := dk_182 0 164 (dk_at dksX5_deal_3 1 rfl rfl)
theorem dX5_deal_74 : decode cX5_deal 74 = .ok (.bipush 60, 2) := dk_16 60 (dk_at dksX5_deal_3 4 rfl rfl)
theorem dX5_deal_76 : decode cX5_deal 76 = .ok (.irem, 1) := dk_112 (dk_at dksX5_deal_3 6 rfl rfl)
theorem dX5_deal_77 : decode cX5_deal 77 = .ok (.invokevirtual 102, 3) := dk_182 0 102 (dk_at dksX5_deal_3 7 rfl rfl)
theorem dX5_deal_80 : decode cX5_deal 80 = .ok (.iinc 2 1, 3) := dk_132 2 1 (dk_at dksX5_deal_3 10 rfl rfl)
theorem dX5_deal_83 : decode cX5_deal 83 = .ok (.goto (-66), 3) := dk_167 255 190 (dk_at dksX5_deal_3 13 rfl rfl)
theorem dX5_deal_86 : decode cX5_deal 86 = .ok (.iload_n 2, 1) := dk_28 (dk_at dksX5_deal_3 16 rfl rfl)
theorem dX5_deal_87 : decode cX5_deal 87 = .ok (.ireturn, 1) := dk_172 (dk_at dksX5_deal_3 17 rfl rfl)
abbrev cX5_drawn : ByteArray := prog_18_method_14_code
def yX5_drawn : MethodName := ⟨RX5, "drawn", "()I"⟩
def dkwX5_drawn_1 : List UInt8 := [46, 16, 8, 124, 172]
abbrev dktX5_drawn_1 : List UInt8 := dkwX5_drawn_1 ++ []
def dkwX5_drawn_0 : List UInt8 := [42, 180, 0, 7, 8, 42, 180, 0, 7, 8, 46, 18, 79, 104, 17, 48, 57, 96, 79, 42, 180, 0, 7, 8]
abbrev dktX5_drawn_0 : List UInt8 := dkwX5_drawn_0 ++ dktX5_drawn_1
theorem dksX5_drawn_0 : cX5_drawn.data.toList.drop 0 = dktX5_drawn_0 := by decide +kernel
theorem dksX5_drawn_1 : cX5_drawn.data.toList.drop 24 = dktX5_drawn_1 := dk_seg dksX5_drawn_0 24 rfl rfl
theorem dX5_drawn_0 : decode cX5_drawn 0 = .ok (.aload_n 0, 1) := dk_42 (dk_at dksX5_drawn_0 0 rfl rfl)
theorem dX5_drawn_1 : decode cX5_drawn 1 = .ok (.getfield 7, 3) := dk_180 0 7 (dk_at dksX5_drawn_0 1 rfl rfl)
theorem dX5_drawn_4 : decode cX5_drawn 4 = .ok (.iconst 5, 1) := dk_8 (dk_at dksX5_drawn_0 4 rfl rfl)
theorem dX5_drawn_5 : decode cX5_drawn 5 = .ok (.aload_n 0, 1) := dk_42 (dk_at dksX5_drawn_0 5 rfl rfl)
theorem dX5_drawn_6 : decode cX5_drawn 6 = .ok (.getfield 7, 3) := dk_180 0 7 (dk_at dksX5_drawn_0 6 rfl rfl)
theorem dX5_drawn_9 : decode cX5_drawn 9 = .ok (.iconst 5, 1) := dk_8 (dk_at dksX5_drawn_0 9 rfl rfl)
theorem dX5_drawn_10 : decode cX5_drawn 10 = .ok (.iaload, 1) := dk_46 (dk_at dksX5_drawn_0 10 rfl rfl)
theorem dX5_drawn_11 : decode cX5_drawn 11 = .ok (.ldc 79, 2) := dk_18 79 (dk_at dksX5_drawn_0 11 rfl rfl)
theorem dX5_drawn_13 : decode cX5_drawn 13 = .ok (.imul, 1) := dk_104 (dk_at dksX5_drawn_0 13 rfl rfl)
theorem dX5_drawn_14 : decode cX5_drawn 14 = .ok (.sipush 12345, 3) := dk_17 48 57 (dk_at dksX5_drawn_0 14 rfl rfl)
theorem dX5_drawn_17 : decode cX5_drawn 17 = .ok (.iadd, 1) := dk_96 (dk_at dksX5_drawn_0 17 rfl rfl)
theorem dX5_drawn_18 : decode cX5_drawn 18 = .ok (.iastore, 1) := dk_79 (dk_at dksX5_drawn_0 18 rfl rfl)
theorem dX5_drawn_19 : decode cX5_drawn 19 = .ok (.aload_n 0, 1) := dk_42 (dk_at dksX5_drawn_0 19 rfl rfl)
theorem dX5_drawn_20 : decode cX5_drawn 20 = .ok (.getfield 7, 3) := dk_180 0 7 (dk_at dksX5_drawn_0 20 rfl rfl)
theorem dX5_drawn_23 : decode cX5_drawn 23 = .ok (.iconst 5, 1) := dk_8 (dk_at dksX5_drawn_0 23 rfl rfl)
theorem dX5_drawn_24 : decode cX5_drawn 24 = .ok (.iaload, 1) := dk_46 (dk_at dksX5_drawn_1 0 rfl rfl)
theorem dX5_drawn_25 : decode cX5_drawn 25 = .ok (.bipush 8, 2) := dk_16 8 (dk_at dksX5_drawn_1 1 rfl rfl)
theorem dX5_drawn_27 : decode cX5_drawn 27 = .ok (.iushr, 1) := dk_124 (dk_at dksX5_drawn_1 3 rfl rfl)
theorem dX5_drawn_28 : decode cX5_drawn 28 = .ok (.ireturn, 1) := dk_172 (dk_at dksX5_drawn_1 4 rfl rfl)
abbrev cX5_seed : ByteArray := prog_18_method_34_code
def yX5_seed : MethodName := ⟨RX5, "seed", "(I)I"⟩
def dkwX5_seed_0 : List UInt8 := [42, 8, 27, 182, 0, 149, 172]
abbrev dktX5_seed_0 : List UInt8 := dkwX5_seed_0 ++ []
theorem dksX5_seed_0 : cX5_seed.data.toList.drop 0 = dktX5_seed_0 := by decide +kernel
theorem dX5_seed_0 : decode cX5_seed 0 = .ok (.aload_n 0, 1) := dk_42 (dk_at dksX5_seed_0 0 rfl rfl)
theorem dX5_seed_1 : decode cX5_seed 1 = .ok (.iconst 5, 1) := dk_8 (dk_at dksX5_seed_0 1 rfl rfl)
theorem dX5_seed_2 : decode cX5_seed 2 = .ok (.iload_n 1, 1) := dk_27 (dk_at dksX5_seed_0 2 rfl rfl)
theorem dX5_seed_3 : decode cX5_seed 3 = .ok (.invokevirtual 149, 3) := dk_182 0 149 (dk_at dksX5_seed_0 3 rfl rfl)
theorem dX5_seed_6 : decode cX5_seed 6 = .ok (.ireturn, 1) := dk_172 (dk_at dksX5_seed_0 6 rfl rfl)
abbrev cX5_days : ByteArray := prog_18_method_37_code
def yX5_days : MethodName := ⟨RX5, "days", "(I)I"⟩
def dkwX5_days_2 : List UInt8 := [132, 3, 1, 167, 255, 232, 28, 42, 182, 0, 123, 184, 0, 157, 100, 172]
abbrev dktX5_days_2 : List UInt8 := dkwX5_days_2 ++ []
def dkwX5_days_1 : List UInt8 := [62, 29, 27, 162, 0, 25, 42, 180, 0, 7, 5, 46, 17, 39, 15, 162, 0, 13, 42, 182, 0, 172]
abbrev dktX5_days_1 : List UInt8 := dkwX5_days_1 ++ dktX5_days_2
def dkwX5_days_0 : List UInt8 := [27, 133, 10, 20, 0, 170, 184, 0, 71, 154, 0, 6, 18, 100, 172, 42, 182, 0, 123, 184, 0, 157, 61, 3]
abbrev dktX5_days_0 : List UInt8 := dkwX5_days_0 ++ dktX5_days_1
theorem dksX5_days_0 : cX5_days.data.toList.drop 0 = dktX5_days_0 := by decide +kernel
theorem dksX5_days_1 : cX5_days.data.toList.drop 24 = dktX5_days_1 := dk_seg dksX5_days_0 24 rfl rfl
theorem dksX5_days_2 : cX5_days.data.toList.drop 46 = dktX5_days_2 := dk_seg dksX5_days_1 22 rfl rfl
theorem dX5_days_0 : decode cX5_days 0 = .ok (.iload_n 1, 1) := dk_27 (dk_at dksX5_days_0 0 rfl rfl)
theorem dX5_days_1 : decode cX5_days 1 = .ok (.i2l, 1) := dk_133 (dk_at dksX5_days_0 1 rfl rfl)
theorem dX5_days_2 : decode cX5_days 2 = .ok (.lconst 1, 1) := dk_10 (dk_at dksX5_days_0 2 rfl rfl)
theorem dX5_days_3 : decode cX5_days 3 = .ok (.ldc2_w 170, 3) := dk_20 0 170 (dk_at dksX5_days_0 3 rfl rfl)
theorem dX5_days_6 : decode cX5_days 6 = .ok (.invokestatic 71, 3) := dk_184 0 71 (dk_at dksX5_days_0 6 rfl rfl)
theorem dX5_days_9 : decode cX5_days 9 = .ok (.ifCond .ne 6, 3) := dk_154 0 6 (dk_at dksX5_days_0 9 rfl rfl)
theorem dX5_days_12 : decode cX5_days 12 = .ok (.ldc 100, 2) := dk_18 100 (dk_at dksX5_days_0 12 rfl rfl)
theorem dX5_days_14 : decode cX5_days 14 = .ok (.ireturn, 1) := dk_172 (dk_at dksX5_days_0 14 rfl rfl)
theorem dX5_days_15 : decode cX5_days 15 = .ok (.aload_n 0, 1) := dk_42 (dk_at dksX5_days_0 15 rfl rfl)
theorem dX5_days_16 : decode cX5_days 16 = .ok (.invokevirtual 123, 3) := dk_182 0 123 (dk_at dksX5_days_0 16 rfl rfl)
theorem dX5_days_19 : decode cX5_days 19 = .ok (.invokestatic 157, 3) := dk_184 0 157 (dk_at dksX5_days_0 19 rfl rfl)
theorem dX5_days_22 : decode cX5_days 22 = .ok (.istore_n 2, 1) := dk_61 (dk_at dksX5_days_0 22 rfl rfl)
theorem dX5_days_23 : decode cX5_days 23 = .ok (.iconst 0, 1) := dk_3 (dk_at dksX5_days_0 23 rfl rfl)
theorem dX5_days_24 : decode cX5_days 24 = .ok (.istore_n 3, 1) := dk_62 (dk_at dksX5_days_1 0 rfl rfl)
theorem dX5_days_25 : decode cX5_days 25 = .ok (.iload_n 3, 1) := dk_29 (dk_at dksX5_days_1 1 rfl rfl)
theorem dX5_days_26 : decode cX5_days 26 = .ok (.iload_n 1, 1) := dk_27 (dk_at dksX5_days_1 2 rfl rfl)
theorem dX5_days_27 : decode cX5_days 27 = .ok (.if_icmp .ge 25, 3) := dk_162 0 25 (dk_at dksX5_days_1 3 rfl rfl)
theorem dX5_days_30 : decode cX5_days 30 = .ok (.aload_n 0, 1) := dk_42 (dk_at dksX5_days_1 6 rfl rfl)
theorem dX5_days_31 : decode cX5_days 31 = .ok (.getfield 7, 3) := dk_180 0 7 (dk_at dksX5_days_1 7 rfl rfl)
theorem dX5_days_34 : decode cX5_days 34 = .ok (.iconst 2, 1) := dk_5 (dk_at dksX5_days_1 10 rfl rfl)
theorem dX5_days_35 : decode cX5_days 35 = .ok (.iaload, 1) := dk_46 (dk_at dksX5_days_1 11 rfl rfl)
theorem dX5_days_36 : decode cX5_days 36 = .ok (.sipush 9999, 3) := dk_17 39 15 (dk_at dksX5_days_1 12 rfl rfl)
theorem dX5_days_39 : decode cX5_days 39 = .ok (.if_icmp .ge 13, 3) := dk_162 0 13 (dk_at dksX5_days_1 15 rfl rfl)
theorem dX5_days_42 : decode cX5_days 42 = .ok (.aload_n 0, 1) := dk_42 (dk_at dksX5_days_1 18 rfl rfl)
theorem dX5_days_43 : decode cX5_days 43 = .ok (.invokevirtual 172, 3) := dk_182 0 172 (dk_at dksX5_days_1 19 rfl rfl)
theorem dX5_days_46 : decode cX5_days 46 = .ok (.iinc 3 1, 3) := dk_132 3 1 (dk_at dksX5_days_2 0 rfl rfl)
theorem dX5_days_49 : decode cX5_days 49 = .ok (.goto (-24), 3) := dk_167 255 232 (dk_at dksX5_days_2 3 rfl rfl)
theorem dX5_days_52 : decode cX5_days 52 = .ok (.iload_n 2, 1) := dk_28 (dk_at dksX5_days_2 6 rfl rfl)
theorem dX5_days_53 : decode cX5_days 53 = .ok (.aload_n 0, 1) := dk_42 (dk_at dksX5_days_2 7 rfl rfl)
theorem dX5_days_54 : decode cX5_days 54 = .ok (.invokevirtual 123, 3) := dk_182 0 123 (dk_at dksX5_days_2 8 rfl rfl)
theorem dX5_days_57 : decode cX5_days 57 = .ok (.invokestatic 157, 3) := dk_184 0 157 (dk_at dksX5_days_2 11 rfl rfl)
theorem dX5_days_60 : decode cX5_days 60 = .ok (.isub, 1) := dk_100 (dk_at dksX5_days_2 14 rfl rfl)
theorem dX5_days_61 : decode cX5_days 61 = .ok (.ireturn, 1) := dk_172 (dk_at dksX5_days_2 15 rfl rfl)
abbrev cX5_goesOn : ByteArray := prog_18_method_36_code
def yX5_goesOn : MethodName := ⟨RX5, "goesOn", "()V"⟩
def dkwX5_goesOn_12 : List UInt8 := [42, 180, 0, 7, 6, 92, 46, 28, 96, 79, 42, 180, 0, 7, 5, 92, 46, 4, 96, 79, 177]
abbrev dktX5_goesOn_12 : List UInt8 := dkwX5_goesOn_12 ++ []
def dkwX5_goesOn_11 : List UInt8 := [180, 0, 7, 3, 46, 162, 0, 19, 28, 42, 21, 4, 8, 182, 0, 75, 96, 61, 132, 4, 1, 167, 255, 232]
abbrev dktX5_goesOn_11 : List UInt8 := dkwX5_goesOn_11 ++ dktX5_goesOn_12
def dkwX5_goesOn_10 : List UInt8 := [21, 4, 182, 0, 153, 4, 62, 132, 4, 1, 167, 255, 215, 167, 255, 203, 3, 54, 4, 21, 4, 42]
abbrev dktX5_goesOn_10 : List UInt8 := dkwX5_goesOn_10 ++ dktX5_goesOn_11
def dkwX5_goesOn_9 : List UInt8 := [46, 162, 0, 36, 42, 21, 4, 182, 0, 119, 153, 0, 21, 42, 21, 4, 27, 182, 0, 167, 153, 0, 11, 42]
abbrev dktX5_goesOn_9 : List UInt8 := dkwX5_goesOn_9 ++ dktX5_goesOn_10
def dkwX5_goesOn_8 : List UInt8 := [132, 3, 1, 167, 255, 219, 4, 62, 29, 153, 0, 55, 3, 62, 3, 54, 4, 21, 4, 42, 180, 0, 7, 3]
abbrev dktX5_goesOn_8 : List UInt8 := dkwX5_goesOn_8 ++ dktX5_goesOn_9
def dkwX5_goesOn_7 : List UInt8 := [42, 29, 182, 0, 119, 153, 0, 19, 42, 29, 7, 182, 0, 75, 16, 100, 161, 0, 8, 42, 29, 182, 0, 153]
abbrev dktX5_goesOn_7 : List UInt8 := dkwX5_goesOn_7 ++ dktX5_goesOn_8
def dkwX5_goesOn_6 : List UInt8 := [184, 0, 116, 182, 0, 80, 132, 3, 1, 167, 255, 155, 3, 62, 29, 42, 180, 0, 7, 3, 46, 162, 0, 33]
abbrev dktX5_goesOn_6 : List UInt8 := dkwX5_goesOn_6 ++ dktX5_goesOn_7
def dkwX5_goesOn_5 : List UInt8 := [5, 182, 0, 75, 42, 180, 0, 43, 29, 46, 158, 0, 7, 4, 167, 0, 4, 2, 96, 16, 206, 16, 50]
abbrev dktX5_goesOn_5 : List UInt8 := dkwX5_goesOn_5 ++ dktX5_goesOn_6
def dkwX5_goesOn_4 : List UInt8 := [42, 29, 7, 182, 0, 75, 21, 4, 96, 3, 17, 3, 231, 184, 0, 116, 182, 0, 80, 42, 29, 5, 42, 29]
abbrev dktX5_goesOn_4 : List UInt8 := dkwX5_goesOn_4 ++ dktX5_goesOn_5
def dkwX5_goesOn_3 : List UInt8 := [180, 0, 46, 29, 46, 100, 54, 4, 42, 29, 182, 0, 119, 153, 0, 64, 21, 4, 158, 0, 59, 42, 29, 7]
abbrev dktX5_goesOn_3 : List UInt8 := dkwX5_goesOn_3 ++ dktX5_goesOn_4
def dkwX5_goesOn_2 : List UInt8 := [62, 29, 42, 180, 0, 7, 3, 46, 162, 0, 97, 42, 180, 0, 43, 29, 46, 3, 184, 0, 106, 42]
abbrev dktX5_goesOn_2 : List UInt8 := dkwX5_goesOn_2 ++ dktX5_goesOn_3
def dkwX5_goesOn_1 : List UInt8 := [42, 29, 182, 0, 139, 79, 42, 180, 0, 46, 29, 42, 29, 182, 0, 136, 79, 132, 3, 1, 167, 255, 221, 3]
abbrev dktX5_goesOn_1 : List UInt8 := dkwX5_goesOn_1 ++ dktX5_goesOn_2
def dkwX5_goesOn_0 : List UInt8 := [42, 182, 0, 123, 60, 3, 61, 3, 62, 29, 42, 180, 0, 7, 3, 46, 162, 0, 31, 42, 180, 0, 43, 29]
abbrev dktX5_goesOn_0 : List UInt8 := dkwX5_goesOn_0 ++ dktX5_goesOn_1
theorem dksX5_goesOn_0 : cX5_goesOn.data.toList.drop 0 = dktX5_goesOn_0 := by decide +kernel
theorem dksX5_goesOn_1 : cX5_goesOn.data.toList.drop 24 = dktX5_goesOn_1 := dk_seg dksX5_goesOn_0 24 rfl rfl
theorem dksX5_goesOn_2 : cX5_goesOn.data.toList.drop 48 = dktX5_goesOn_2 := dk_seg dksX5_goesOn_1 24 rfl rfl
theorem dksX5_goesOn_3 : cX5_goesOn.data.toList.drop 70 = dktX5_goesOn_3 := dk_seg dksX5_goesOn_2 22 rfl rfl
theorem dksX5_goesOn_4 : cX5_goesOn.data.toList.drop 94 = dktX5_goesOn_4 := dk_seg dksX5_goesOn_3 24 rfl rfl
theorem dksX5_goesOn_5 : cX5_goesOn.data.toList.drop 118 = dktX5_goesOn_5 := dk_seg dksX5_goesOn_4 24 rfl rfl
theorem dksX5_goesOn_6 : cX5_goesOn.data.toList.drop 141 = dktX5_goesOn_6 := dk_seg dksX5_goesOn_5 23 rfl rfl
theorem dksX5_goesOn_7 : cX5_goesOn.data.toList.drop 165 = dktX5_goesOn_7 := dk_seg dksX5_goesOn_6 24 rfl rfl
theorem dksX5_goesOn_8 : cX5_goesOn.data.toList.drop 189 = dktX5_goesOn_8 := dk_seg dksX5_goesOn_7 24 rfl rfl
theorem dksX5_goesOn_9 : cX5_goesOn.data.toList.drop 213 = dktX5_goesOn_9 := dk_seg dksX5_goesOn_8 24 rfl rfl
theorem dksX5_goesOn_10 : cX5_goesOn.data.toList.drop 237 = dktX5_goesOn_10 := dk_seg dksX5_goesOn_9 24 rfl rfl
theorem dksX5_goesOn_11 : cX5_goesOn.data.toList.drop 259 = dktX5_goesOn_11 := dk_seg dksX5_goesOn_10 22 rfl rfl
theorem dksX5_goesOn_12 : cX5_goesOn.data.toList.drop 283 = dktX5_goesOn_12 := dk_seg dksX5_goesOn_11 24 rfl rfl
theorem dX5_goesOn_0 : decode cX5_goesOn 0 = .ok (.aload_n 0, 1) := dk_42 (dk_at dksX5_goesOn_0 0 rfl rfl)
theorem dX5_goesOn_1 : decode cX5_goesOn 1 = .ok (.invokevirtual 123, 3) := dk_182 0 123 (dk_at dksX5_goesOn_0 1 rfl rfl)
theorem dX5_goesOn_4 : decode cX5_goesOn 4 = .ok (.istore_n 1, 1) := dk_60 (dk_at dksX5_goesOn_0 4 rfl rfl)
theorem dX5_goesOn_5 : decode cX5_goesOn 5 = .ok (.iconst 0, 1) := dk_3 (dk_at dksX5_goesOn_0 5 rfl rfl)
theorem dX5_goesOn_6 : decode cX5_goesOn 6 = .ok (.istore_n 2, 1) := dk_61 (dk_at dksX5_goesOn_0 6 rfl rfl)
theorem dX5_goesOn_7 : decode cX5_goesOn 7 = .ok (.iconst 0, 1) := dk_3 (dk_at dksX5_goesOn_0 7 rfl rfl)
theorem dX5_goesOn_8 : decode cX5_goesOn 8 = .ok (.istore_n 3, 1) := dk_62 (dk_at dksX5_goesOn_0 8 rfl rfl)
theorem dX5_goesOn_9 : decode cX5_goesOn 9 = .ok (.iload_n 3, 1) := dk_29 (dk_at dksX5_goesOn_0 9 rfl rfl)
theorem dX5_goesOn_10 : decode cX5_goesOn 10 = .ok (.aload_n 0, 1) := dk_42 (dk_at dksX5_goesOn_0 10 rfl rfl)
theorem dX5_goesOn_11 : decode cX5_goesOn 11 = .ok (.getfield 7, 3) := dk_180 0 7 (dk_at dksX5_goesOn_0 11 rfl rfl)
theorem dX5_goesOn_14 : decode cX5_goesOn 14 = .ok (.iconst 0, 1) := dk_3 (dk_at dksX5_goesOn_0 14 rfl rfl)
theorem dX5_goesOn_15 : decode cX5_goesOn 15 = .ok (.iaload, 1) := dk_46 (dk_at dksX5_goesOn_0 15 rfl rfl)
theorem dX5_goesOn_16 : decode cX5_goesOn 16 = .ok (.if_icmp .ge 31, 3) := dk_162 0 31 (dk_at dksX5_goesOn_0 16 rfl rfl)
theorem dX5_goesOn_19 : decode cX5_goesOn 19 = .ok (.aload_n 0, 1) := dk_42 (dk_at dksX5_goesOn_0 19 rfl rfl)
theorem dX5_goesOn_20 : decode cX5_goesOn 20 = .ok (.getfield 43, 3) := dk_180 0 43 (dk_at dksX5_goesOn_0 20 rfl rfl)
theorem dX5_goesOn_23 : decode cX5_goesOn 23 = .ok (.iload_n 3, 1) := dk_29 (dk_at dksX5_goesOn_0 23 rfl rfl)
theorem dX5_goesOn_24 : decode cX5_goesOn 24 = .ok (.aload_n 0, 1) := dk_42 (dk_at dksX5_goesOn_1 0 rfl rfl)
theorem dX5_goesOn_25 : decode cX5_goesOn 25 = .ok (.iload_n 3, 1) := dk_29 (dk_at dksX5_goesOn_1 1 rfl rfl)
theorem dX5_goesOn_26 : decode cX5_goesOn 26 = .ok (.invokevirtual 139, 3) := dk_182 0 139 (dk_at dksX5_goesOn_1 2 rfl rfl)
theorem dX5_goesOn_29 : decode cX5_goesOn 29 = .ok (.iastore, 1) := dk_79 (dk_at dksX5_goesOn_1 5 rfl rfl)
theorem dX5_goesOn_30 : decode cX5_goesOn 30 = .ok (.aload_n 0, 1) := dk_42 (dk_at dksX5_goesOn_1 6 rfl rfl)
theorem dX5_goesOn_31 : decode cX5_goesOn 31 = .ok (.getfield 46, 3) := dk_180 0 46 (dk_at dksX5_goesOn_1 7 rfl rfl)
theorem dX5_goesOn_34 : decode cX5_goesOn 34 = .ok (.iload_n 3, 1) := dk_29 (dk_at dksX5_goesOn_1 10 rfl rfl)
theorem dX5_goesOn_35 : decode cX5_goesOn 35 = .ok (.aload_n 0, 1) := dk_42 (dk_at dksX5_goesOn_1 11 rfl rfl)
theorem dX5_goesOn_36 : decode cX5_goesOn 36 = .ok (.iload_n 3, 1) := dk_29 (dk_at dksX5_goesOn_1 12 rfl rfl)
theorem dX5_goesOn_37 : decode cX5_goesOn 37 = .ok (.invokevirtual 136, 3) := dk_182 0 136 (dk_at dksX5_goesOn_1 13 rfl rfl)
theorem dX5_goesOn_40 : decode cX5_goesOn 40 = .ok (.iastore, 1) := dk_79 (dk_at dksX5_goesOn_1 16 rfl rfl)
theorem dX5_goesOn_41 : decode cX5_goesOn 41 = .ok (.iinc 3 1, 3) := dk_132 3 1 (dk_at dksX5_goesOn_1 17 rfl rfl)
theorem dX5_goesOn_44 : decode cX5_goesOn 44 = .ok (.goto (-35), 3) := dk_167 255 221 (dk_at dksX5_goesOn_1 20 rfl rfl)
theorem dX5_goesOn_47 : decode cX5_goesOn 47 = .ok (.iconst 0, 1) := dk_3 (dk_at dksX5_goesOn_1 23 rfl rfl)
theorem dX5_goesOn_48 : decode cX5_goesOn 48 = .ok (.istore_n 3, 1) := dk_62 (dk_at dksX5_goesOn_2 0 rfl rfl)
theorem dX5_goesOn_49 : decode cX5_goesOn 49 = .ok (.iload_n 3, 1) := dk_29 (dk_at dksX5_goesOn_2 1 rfl rfl)
theorem dX5_goesOn_50 : decode cX5_goesOn 50 = .ok (.aload_n 0, 1) := dk_42 (dk_at dksX5_goesOn_2 2 rfl rfl)
theorem dX5_goesOn_51 : decode cX5_goesOn 51 = .ok (.getfield 7, 3) := dk_180 0 7 (dk_at dksX5_goesOn_2 3 rfl rfl)
theorem dX5_goesOn_54 : decode cX5_goesOn 54 = .ok (.iconst 0, 1) := dk_3 (dk_at dksX5_goesOn_2 6 rfl rfl)
theorem dX5_goesOn_55 : decode cX5_goesOn 55 = .ok (.iaload, 1) := dk_46 (dk_at dksX5_goesOn_2 7 rfl rfl)
theorem dX5_goesOn_56 : decode cX5_goesOn 56 = .ok (.if_icmp .ge 97, 3) := dk_162 0 97 (dk_at dksX5_goesOn_2 8 rfl rfl)
theorem dX5_goesOn_59 : decode cX5_goesOn 59 = .ok (.aload_n 0, 1) := dk_42 (dk_at dksX5_goesOn_2 11 rfl rfl)
theorem dX5_goesOn_60 : decode cX5_goesOn 60 = .ok (.getfield 43, 3) := dk_180 0 43 (dk_at dksX5_goesOn_2 12 rfl rfl)
theorem dX5_goesOn_63 : decode cX5_goesOn 63 = .ok (.iload_n 3, 1) := dk_29 (dk_at dksX5_goesOn_2 15 rfl rfl)
theorem dX5_goesOn_64 : decode cX5_goesOn 64 = .ok (.iaload, 1) := dk_46 (dk_at dksX5_goesOn_2 16 rfl rfl)
theorem dX5_goesOn_65 : decode cX5_goesOn 65 = .ok (.iconst 0, 1) := dk_3 (dk_at dksX5_goesOn_2 17 rfl rfl)
theorem dX5_goesOn_66 : decode cX5_goesOn 66 = .ok (.invokestatic 106, 3) := dk_184 0 106 (dk_at dksX5_goesOn_2 18 rfl rfl)
theorem dX5_goesOn_69 : decode cX5_goesOn 69 = .ok (.aload_n 0, 1) := dk_42 (dk_at dksX5_goesOn_2 21 rfl rfl)
theorem dX5_goesOn_70 : decode cX5_goesOn 70 = .ok (.getfield 46, 3) := dk_180 0 46 (dk_at dksX5_goesOn_3 0 rfl rfl)
theorem dX5_goesOn_73 : decode cX5_goesOn 73 = .ok (.iload_n 3, 1) := dk_29 (dk_at dksX5_goesOn_3 3 rfl rfl)
theorem dX5_goesOn_74 : decode cX5_goesOn 74 = .ok (.iaload, 1) := dk_46 (dk_at dksX5_goesOn_3 4 rfl rfl)
theorem dX5_goesOn_75 : decode cX5_goesOn 75 = .ok (.isub, 1) := dk_100 (dk_at dksX5_goesOn_3 5 rfl rfl)
theorem dX5_goesOn_76 : decode cX5_goesOn 76 = .ok (.istore 4, 2) := dk_54 4 (dk_at dksX5_goesOn_3 6 rfl rfl)
theorem dX5_goesOn_78 : decode cX5_goesOn 78 = .ok (.aload_n 0, 1) := dk_42 (dk_at dksX5_goesOn_3 8 rfl rfl)
theorem dX5_goesOn_79 : decode cX5_goesOn 79 = .ok (.iload_n 3, 1) := dk_29 (dk_at dksX5_goesOn_3 9 rfl rfl)
theorem dX5_goesOn_80 : decode cX5_goesOn 80 = .ok (.invokevirtual 119, 3) := dk_182 0 119 (dk_at dksX5_goesOn_3 10 rfl rfl)
theorem dX5_goesOn_83 : decode cX5_goesOn 83 = .ok (.ifCond .eq 64, 3) := dk_153 0 64 (dk_at dksX5_goesOn_3 13 rfl rfl)
theorem dX5_goesOn_86 : decode cX5_goesOn 86 = .ok (.iload 4, 2) := dk_21 4 (dk_at dksX5_goesOn_3 16 rfl rfl)
theorem dX5_goesOn_88 : decode cX5_goesOn 88 = .ok (.ifCond .le 59, 3) := dk_158 0 59 (dk_at dksX5_goesOn_3 18 rfl rfl)
theorem dX5_goesOn_91 : decode cX5_goesOn 91 = .ok (.aload_n 0, 1) := dk_42 (dk_at dksX5_goesOn_3 21 rfl rfl)
theorem dX5_goesOn_92 : decode cX5_goesOn 92 = .ok (.iload_n 3, 1) := dk_29 (dk_at dksX5_goesOn_3 22 rfl rfl)
theorem dX5_goesOn_93 : decode cX5_goesOn 93 = .ok (.iconst 4, 1) := dk_7 (dk_at dksX5_goesOn_3 23 rfl rfl)
theorem dX5_goesOn_94 : decode cX5_goesOn 94 = .ok (.aload_n 0, 1) := dk_42 (dk_at dksX5_goesOn_4 0 rfl rfl)
theorem dX5_goesOn_95 : decode cX5_goesOn 95 = .ok (.iload_n 3, 1) := dk_29 (dk_at dksX5_goesOn_4 1 rfl rfl)
theorem dX5_goesOn_96 : decode cX5_goesOn 96 = .ok (.iconst 4, 1) := dk_7 (dk_at dksX5_goesOn_4 2 rfl rfl)
theorem dX5_goesOn_97 : decode cX5_goesOn 97 = .ok (.invokevirtual 75, 3) := dk_182 0 75 (dk_at dksX5_goesOn_4 3 rfl rfl)
theorem dX5_goesOn_100 : decode cX5_goesOn 100 = .ok (.iload 4, 2) := dk_21 4 (dk_at dksX5_goesOn_4 6 rfl rfl)
theorem dX5_goesOn_102 : decode cX5_goesOn 102 = .ok (.iadd, 1) := dk_96 (dk_at dksX5_goesOn_4 8 rfl rfl)
theorem dX5_goesOn_103 : decode cX5_goesOn 103 = .ok (.iconst 0, 1) := dk_3 (dk_at dksX5_goesOn_4 9 rfl rfl)
theorem dX5_goesOn_104 : decode cX5_goesOn 104 = .ok (.sipush 999, 3) := dk_17 3 231 (dk_at dksX5_goesOn_4 10 rfl rfl)
theorem dX5_goesOn_107 : decode cX5_goesOn 107 = .ok (.invokestatic 116, 3) := dk_184 0 116 (dk_at dksX5_goesOn_4 13 rfl rfl)
theorem dX5_goesOn_110 : decode cX5_goesOn 110 = .ok (.invokevirtual 80, 3) := dk_182 0 80 (dk_at dksX5_goesOn_4 16 rfl rfl)
theorem dX5_goesOn_113 : decode cX5_goesOn 113 = .ok (.aload_n 0, 1) := dk_42 (dk_at dksX5_goesOn_4 19 rfl rfl)
theorem dX5_goesOn_114 : decode cX5_goesOn 114 = .ok (.iload_n 3, 1) := dk_29 (dk_at dksX5_goesOn_4 20 rfl rfl)
theorem dX5_goesOn_115 : decode cX5_goesOn 115 = .ok (.iconst 2, 1) := dk_5 (dk_at dksX5_goesOn_4 21 rfl rfl)
theorem dX5_goesOn_116 : decode cX5_goesOn 116 = .ok (.aload_n 0, 1) := dk_42 (dk_at dksX5_goesOn_4 22 rfl rfl)
theorem dX5_goesOn_117 : decode cX5_goesOn 117 = .ok (.iload_n 3, 1) := dk_29 (dk_at dksX5_goesOn_4 23 rfl rfl)
theorem dX5_goesOn_118 : decode cX5_goesOn 118 = .ok (.iconst 2, 1) := dk_5 (dk_at dksX5_goesOn_5 0 rfl rfl)
theorem dX5_goesOn_119 : decode cX5_goesOn 119 = .ok (.invokevirtual 75, 3) := dk_182 0 75 (dk_at dksX5_goesOn_5 1 rfl rfl)
theorem dX5_goesOn_122 : decode cX5_goesOn 122 = .ok (.aload_n 0, 1) := dk_42 (dk_at dksX5_goesOn_5 4 rfl rfl)
theorem dX5_goesOn_123 : decode cX5_goesOn 123 = .ok (.getfield 43, 3) := dk_180 0 43 (dk_at dksX5_goesOn_5 5 rfl rfl)
theorem dX5_goesOn_126 : decode cX5_goesOn 126 = .ok (.iload_n 3, 1) := dk_29 (dk_at dksX5_goesOn_5 8 rfl rfl)
theorem dX5_goesOn_127 : decode cX5_goesOn 127 = .ok (.iaload, 1) := dk_46 (dk_at dksX5_goesOn_5 9 rfl rfl)
theorem dX5_goesOn_128 : decode cX5_goesOn 128 = .ok (.ifCond .le 7, 3) := dk_158 0 7 (dk_at dksX5_goesOn_5 10 rfl rfl)
theorem dX5_goesOn_131 : decode cX5_goesOn 131 = .ok (.iconst 1, 1) := dk_4 (dk_at dksX5_goesOn_5 13 rfl rfl)
theorem dX5_goesOn_132 : decode cX5_goesOn 132 = .ok (.goto 4, 3) := dk_167 0 4 (dk_at dksX5_goesOn_5 14 rfl rfl)
theorem dX5_goesOn_135 : decode cX5_goesOn 135 = .ok (.iconst (-1), 1) := dk_2 (dk_at dksX5_goesOn_5 17 rfl rfl)
theorem dX5_goesOn_136 : decode cX5_goesOn 136 = .ok (.iadd, 1) := dk_96 (dk_at dksX5_goesOn_5 18 rfl rfl)
theorem dX5_goesOn_137 : decode cX5_goesOn 137 = .ok (.bipush (-50), 2) := dk_16 206 (dk_at dksX5_goesOn_5 19 rfl rfl)
theorem dX5_goesOn_139 : decode cX5_goesOn 139 = .ok (.bipush 50, 2) := dk_16 50 (dk_at dksX5_goesOn_5 21 rfl rfl)
theorem dX5_goesOn_141 : decode cX5_goesOn 141 = .ok (.invokestatic 116, 3) := dk_184 0 116 (dk_at dksX5_goesOn_6 0 rfl rfl)
theorem dX5_goesOn_144 : decode cX5_goesOn 144 = .ok (.invokevirtual 80, 3) := dk_182 0 80 (dk_at dksX5_goesOn_6 3 rfl rfl)
theorem dX5_goesOn_147 : decode cX5_goesOn 147 = .ok (.iinc 3 1, 3) := dk_132 3 1 (dk_at dksX5_goesOn_6 6 rfl rfl)
theorem dX5_goesOn_150 : decode cX5_goesOn 150 = .ok (.goto (-101), 3) := dk_167 255 155 (dk_at dksX5_goesOn_6 9 rfl rfl)
theorem dX5_goesOn_153 : decode cX5_goesOn 153 = .ok (.iconst 0, 1) := dk_3 (dk_at dksX5_goesOn_6 12 rfl rfl)
theorem dX5_goesOn_154 : decode cX5_goesOn 154 = .ok (.istore_n 3, 1) := dk_62 (dk_at dksX5_goesOn_6 13 rfl rfl)
theorem dX5_goesOn_155 : decode cX5_goesOn 155 = .ok (.iload_n 3, 1) := dk_29 (dk_at dksX5_goesOn_6 14 rfl rfl)
theorem dX5_goesOn_156 : decode cX5_goesOn 156 = .ok (.aload_n 0, 1) := dk_42 (dk_at dksX5_goesOn_6 15 rfl rfl)
theorem dX5_goesOn_157 : decode cX5_goesOn 157 = .ok (.getfield 7, 3) := dk_180 0 7 (dk_at dksX5_goesOn_6 16 rfl rfl)
theorem dX5_goesOn_160 : decode cX5_goesOn 160 = .ok (.iconst 0, 1) := dk_3 (dk_at dksX5_goesOn_6 19 rfl rfl)
theorem dX5_goesOn_161 : decode cX5_goesOn 161 = .ok (.iaload, 1) := dk_46 (dk_at dksX5_goesOn_6 20 rfl rfl)
theorem dX5_goesOn_162 : decode cX5_goesOn 162 = .ok (.if_icmp .ge 33, 3) := dk_162 0 33 (dk_at dksX5_goesOn_6 21 rfl rfl)
theorem dX5_goesOn_165 : decode cX5_goesOn 165 = .ok (.aload_n 0, 1) := dk_42 (dk_at dksX5_goesOn_7 0 rfl rfl)
theorem dX5_goesOn_166 : decode cX5_goesOn 166 = .ok (.iload_n 3, 1) := dk_29 (dk_at dksX5_goesOn_7 1 rfl rfl)
theorem dX5_goesOn_167 : decode cX5_goesOn 167 = .ok (.invokevirtual 119, 3) := dk_182 0 119 (dk_at dksX5_goesOn_7 2 rfl rfl)
theorem dX5_goesOn_170 : decode cX5_goesOn 170 = .ok (.ifCond .eq 19, 3) := dk_153 0 19 (dk_at dksX5_goesOn_7 5 rfl rfl)
theorem dX5_goesOn_173 : decode cX5_goesOn 173 = .ok (.aload_n 0, 1) := dk_42 (dk_at dksX5_goesOn_7 8 rfl rfl)
theorem dX5_goesOn_174 : decode cX5_goesOn 174 = .ok (.iload_n 3, 1) := dk_29 (dk_at dksX5_goesOn_7 9 rfl rfl)
theorem dX5_goesOn_175 : decode cX5_goesOn 175 = .ok (.iconst 4, 1) := dk_7 (dk_at dksX5_goesOn_7 10 rfl rfl)
theorem dX5_goesOn_176 : decode cX5_goesOn 176 = .ok (.invokevirtual 75, 3) := dk_182 0 75 (dk_at dksX5_goesOn_7 11 rfl rfl)
theorem dX5_goesOn_179 : decode cX5_goesOn 179 = .ok (.bipush 100, 2) := dk_16 100 (dk_at dksX5_goesOn_7 14 rfl rfl)
theorem dX5_goesOn_181 : decode cX5_goesOn 181 = .ok (.if_icmp .lt 8, 3) := dk_161 0 8 (dk_at dksX5_goesOn_7 16 rfl rfl)
theorem dX5_goesOn_184 : decode cX5_goesOn 184 = .ok (.aload_n 0, 1) := dk_42 (dk_at dksX5_goesOn_7 19 rfl rfl)
theorem dX5_goesOn_185 : decode cX5_goesOn 185 = .ok (.iload_n 3, 1) := dk_29 (dk_at dksX5_goesOn_7 20 rfl rfl)
theorem dX5_goesOn_186 : decode cX5_goesOn 186 = .ok (.invokevirtual 153, 3) := dk_182 0 153 (dk_at dksX5_goesOn_7 21 rfl rfl)
theorem dX5_goesOn_189 : decode cX5_goesOn 189 = .ok (.iinc 3 1, 3) := dk_132 3 1 (dk_at dksX5_goesOn_8 0 rfl rfl)
theorem dX5_goesOn_192 : decode cX5_goesOn 192 = .ok (.goto (-37), 3) := dk_167 255 219 (dk_at dksX5_goesOn_8 3 rfl rfl)
theorem dX5_goesOn_195 : decode cX5_goesOn 195 = .ok (.iconst 1, 1) := dk_4 (dk_at dksX5_goesOn_8 6 rfl rfl)
theorem dX5_goesOn_196 : decode cX5_goesOn 196 = .ok (.istore_n 3, 1) := dk_62 (dk_at dksX5_goesOn_8 7 rfl rfl)
theorem dX5_goesOn_197 : decode cX5_goesOn 197 = .ok (.iload_n 3, 1) := dk_29 (dk_at dksX5_goesOn_8 8 rfl rfl)
theorem dX5_goesOn_198 : decode cX5_goesOn 198 = .ok (.ifCond .eq 55, 3) := dk_153 0 55 (dk_at dksX5_goesOn_8 9 rfl rfl)
theorem dX5_goesOn_201 : decode cX5_goesOn 201 = .ok (.iconst 0, 1) := dk_3 (dk_at dksX5_goesOn_8 12 rfl rfl)
theorem dX5_goesOn_202 : decode cX5_goesOn 202 = .ok (.istore_n 3, 1) := dk_62 (dk_at dksX5_goesOn_8 13 rfl rfl)
theorem dX5_goesOn_203 : decode cX5_goesOn 203 = .ok (.iconst 0, 1) := dk_3 (dk_at dksX5_goesOn_8 14 rfl rfl)
theorem dX5_goesOn_204 : decode cX5_goesOn 204 = .ok (.istore 4, 2) := dk_54 4 (dk_at dksX5_goesOn_8 15 rfl rfl)
theorem dX5_goesOn_206 : decode cX5_goesOn 206 = .ok (.iload 4, 2) := dk_21 4 (dk_at dksX5_goesOn_8 17 rfl rfl)
theorem dX5_goesOn_208 : decode cX5_goesOn 208 = .ok (.aload_n 0, 1) := dk_42 (dk_at dksX5_goesOn_8 19 rfl rfl)
theorem dX5_goesOn_209 : decode cX5_goesOn 209 = .ok (.getfield 7, 3) := dk_180 0 7 (dk_at dksX5_goesOn_8 20 rfl rfl)
theorem dX5_goesOn_212 : decode cX5_goesOn 212 = .ok (.iconst 0, 1) := dk_3 (dk_at dksX5_goesOn_8 23 rfl rfl)
theorem dX5_goesOn_213 : decode cX5_goesOn 213 = .ok (.iaload, 1) := dk_46 (dk_at dksX5_goesOn_9 0 rfl rfl)
theorem dX5_goesOn_214 : decode cX5_goesOn 214 = .ok (.if_icmp .ge 36, 3) := dk_162 0 36 (dk_at dksX5_goesOn_9 1 rfl rfl)
theorem dX5_goesOn_217 : decode cX5_goesOn 217 = .ok (.aload_n 0, 1) := dk_42 (dk_at dksX5_goesOn_9 4 rfl rfl)
theorem dX5_goesOn_218 : decode cX5_goesOn 218 = .ok (.iload 4, 2) := dk_21 4 (dk_at dksX5_goesOn_9 5 rfl rfl)
theorem dX5_goesOn_220 : decode cX5_goesOn 220 = .ok (.invokevirtual 119, 3) := dk_182 0 119 (dk_at dksX5_goesOn_9 7 rfl rfl)
theorem dX5_goesOn_223 : decode cX5_goesOn 223 = .ok (.ifCond .eq 21, 3) := dk_153 0 21 (dk_at dksX5_goesOn_9 10 rfl rfl)
theorem dX5_goesOn_226 : decode cX5_goesOn 226 = .ok (.aload_n 0, 1) := dk_42 (dk_at dksX5_goesOn_9 13 rfl rfl)
theorem dX5_goesOn_227 : decode cX5_goesOn 227 = .ok (.iload 4, 2) := dk_21 4 (dk_at dksX5_goesOn_9 14 rfl rfl)
theorem dX5_goesOn_229 : decode cX5_goesOn 229 = .ok (.iload_n 1, 1) := dk_27 (dk_at dksX5_goesOn_9 16 rfl rfl)
theorem dX5_goesOn_230 : decode cX5_goesOn 230 = .ok (.invokevirtual 167, 3) := dk_182 0 167 (dk_at dksX5_goesOn_9 17 rfl rfl)
theorem dX5_goesOn_233 : decode cX5_goesOn 233 = .ok (.ifCond .eq 11, 3) := dk_153 0 11 (dk_at dksX5_goesOn_9 20 rfl rfl)
theorem dX5_goesOn_236 : decode cX5_goesOn 236 = .ok (.aload_n 0, 1) := dk_42 (dk_at dksX5_goesOn_9 23 rfl rfl)
theorem dX5_goesOn_237 : decode cX5_goesOn 237 = .ok (.iload 4, 2) := dk_21 4 (dk_at dksX5_goesOn_10 0 rfl rfl)
theorem dX5_goesOn_239 : decode cX5_goesOn 239 = .ok (.invokevirtual 153, 3) := dk_182 0 153 (dk_at dksX5_goesOn_10 2 rfl rfl)
theorem dX5_goesOn_242 : decode cX5_goesOn 242 = .ok (.iconst 1, 1) := dk_4 (dk_at dksX5_goesOn_10 5 rfl rfl)
theorem dX5_goesOn_243 : decode cX5_goesOn 243 = .ok (.istore_n 3, 1) := dk_62 (dk_at dksX5_goesOn_10 6 rfl rfl)
theorem dX5_goesOn_244 : decode cX5_goesOn 244 = .ok (.iinc 4 1, 3) := dk_132 4 1 (dk_at dksX5_goesOn_10 7 rfl rfl)
theorem dX5_goesOn_247 : decode cX5_goesOn 247 = .ok (.goto (-41), 3) := dk_167 255 215 (dk_at dksX5_goesOn_10 10 rfl rfl)
theorem dX5_goesOn_250 : decode cX5_goesOn 250 = .ok (.goto (-53), 3) := dk_167 255 203 (dk_at dksX5_goesOn_10 13 rfl rfl)
theorem dX5_goesOn_253 : decode cX5_goesOn 253 = .ok (.iconst 0, 1) := dk_3 (dk_at dksX5_goesOn_10 16 rfl rfl)
theorem dX5_goesOn_254 : decode cX5_goesOn 254 = .ok (.istore 4, 2) := dk_54 4 (dk_at dksX5_goesOn_10 17 rfl rfl)
theorem dX5_goesOn_256 : decode cX5_goesOn 256 = .ok (.iload 4, 2) := dk_21 4 (dk_at dksX5_goesOn_10 19 rfl rfl)
theorem dX5_goesOn_258 : decode cX5_goesOn 258 = .ok (.aload_n 0, 1) := dk_42 (dk_at dksX5_goesOn_10 21 rfl rfl)
theorem dX5_goesOn_259 : decode cX5_goesOn 259 = .ok (.getfield 7, 3) := dk_180 0 7 (dk_at dksX5_goesOn_11 0 rfl rfl)
theorem dX5_goesOn_262 : decode cX5_goesOn 262 = .ok (.iconst 0, 1) := dk_3 (dk_at dksX5_goesOn_11 3 rfl rfl)
theorem dX5_goesOn_263 : decode cX5_goesOn 263 = .ok (.iaload, 1) := dk_46 (dk_at dksX5_goesOn_11 4 rfl rfl)
theorem dX5_goesOn_264 : decode cX5_goesOn 264 = .ok (.if_icmp .ge 19, 3) := dk_162 0 19 (dk_at dksX5_goesOn_11 5 rfl rfl)
theorem dX5_goesOn_267 : decode cX5_goesOn 267 = .ok (.iload_n 2, 1) := dk_28 (dk_at dksX5_goesOn_11 8 rfl rfl)
theorem dX5_goesOn_268 : decode cX5_goesOn 268 = .ok (.aload_n 0, 1) := dk_42 (dk_at dksX5_goesOn_11 9 rfl rfl)
theorem dX5_goesOn_269 : decode cX5_goesOn 269 = .ok (.iload 4, 2) := dk_21 4 (dk_at dksX5_goesOn_11 10 rfl rfl)
theorem dX5_goesOn_271 : decode cX5_goesOn 271 = .ok (.iconst 5, 1) := dk_8 (dk_at dksX5_goesOn_11 12 rfl rfl)
theorem dX5_goesOn_272 : decode cX5_goesOn 272 = .ok (.invokevirtual 75, 3) := dk_182 0 75 (dk_at dksX5_goesOn_11 13 rfl rfl)
theorem dX5_goesOn_275 : decode cX5_goesOn 275 = .ok (.iadd, 1) := dk_96 (dk_at dksX5_goesOn_11 16 rfl rfl)
theorem dX5_goesOn_276 : decode cX5_goesOn 276 = .ok (.istore_n 2, 1) := dk_61 (dk_at dksX5_goesOn_11 17 rfl rfl)
theorem dX5_goesOn_277 : decode cX5_goesOn 277 = .ok (.iinc 4 1, 3) := dk_132 4 1 (dk_at dksX5_goesOn_11 18 rfl rfl)
theorem dX5_goesOn_280 : decode cX5_goesOn 280 = .ok (.goto (-24), 3) := dk_167 255 232 (dk_at dksX5_goesOn_11 21 rfl rfl)
theorem dX5_goesOn_283 : decode cX5_goesOn 283 = .ok (.aload_n 0, 1) := dk_42 (dk_at dksX5_goesOn_12 0 rfl rfl)
theorem dX5_goesOn_284 : decode cX5_goesOn 284 = .ok (.getfield 7, 3) := dk_180 0 7 (dk_at dksX5_goesOn_12 1 rfl rfl)
theorem dX5_goesOn_287 : decode cX5_goesOn 287 = .ok (.iconst 3, 1) := dk_6 (dk_at dksX5_goesOn_12 4 rfl rfl)
theorem dX5_goesOn_288 : decode cX5_goesOn 288 = .ok (.dup2, 1) := dk_92 (dk_at dksX5_goesOn_12 5 rfl rfl)
theorem dX5_goesOn_289 : decode cX5_goesOn 289 = .ok (.iaload, 1) := dk_46 (dk_at dksX5_goesOn_12 6 rfl rfl)
theorem dX5_goesOn_290 : decode cX5_goesOn 290 = .ok (.iload_n 2, 1) := dk_28 (dk_at dksX5_goesOn_12 7 rfl rfl)
theorem dX5_goesOn_291 : decode cX5_goesOn 291 = .ok (.iadd, 1) := dk_96 (dk_at dksX5_goesOn_12 8 rfl rfl)
theorem dX5_goesOn_292 : decode cX5_goesOn 292 = .ok (.iastore, 1) := dk_79 (dk_at dksX5_goesOn_12 9 rfl rfl)
theorem dX5_goesOn_293 : decode cX5_goesOn 293 = .ok (.aload_n 0, 1) := dk_42 (dk_at dksX5_goesOn_12 10 rfl rfl)
theorem dX5_goesOn_294 : decode cX5_goesOn 294 = .ok (.getfield 7, 3) := dk_180 0 7 (dk_at dksX5_goesOn_12 11 rfl rfl)
theorem dX5_goesOn_297 : decode cX5_goesOn 297 = .ok (.iconst 2, 1) := dk_5 (dk_at dksX5_goesOn_12 14 rfl rfl)
theorem dX5_goesOn_298 : decode cX5_goesOn 298 = .ok (.dup2, 1) := dk_92 (dk_at dksX5_goesOn_12 15 rfl rfl)
theorem dX5_goesOn_299 : decode cX5_goesOn 299 = .ok (.iaload, 1) := dk_46 (dk_at dksX5_goesOn_12 16 rfl rfl)
theorem dX5_goesOn_300 : decode cX5_goesOn 300 = .ok (.iconst 1, 1) := dk_4 (dk_at dksX5_goesOn_12 17 rfl rfl)
theorem dX5_goesOn_301 : decode cX5_goesOn 301 = .ok (.iadd, 1) := dk_96 (dk_at dksX5_goesOn_12 18 rfl rfl)
theorem dX5_goesOn_302 : decode cX5_goesOn 302 = .ok (.iastore, 1) := dk_79 (dk_at dksX5_goesOn_12 19 rfl rfl)
theorem dX5_goesOn_303 : decode cX5_goesOn 303 = .ok (.return_, 1) := dk_177 (dk_at dksX5_goesOn_12 20 rfl rfl)
abbrev cX5_fallsWith : ByteArray := prog_18_method_35_code
def yX5_fallsWith : MethodName := ⟨RX5, "fallsWith", "(II)Z"⟩
def dkwX5_fallsWith_2 : List UInt8 := [182, 0, 119, 154, 0, 7, 4, 167, 0, 4, 3, 172]
abbrev dktX5_fallsWith_2 : List UInt8 := dkwX5_fallsWith_2 ++ []
def dkwX5_fallsWith_1 : List UInt8 := [158, 0, 7, 4, 167, 0, 4, 2, 28, 182, 0, 127, 54, 4, 21, 4, 155, 0, 16, 42, 21, 4]
abbrev dktX5_fallsWith_1 : List UInt8 := dkwX5_fallsWith_1 ++ dktX5_fallsWith_2
def dkwX5_fallsWith_0 : List UInt8 := [42, 27, 5, 182, 0, 75, 62, 29, 3, 184, 0, 106, 16, 20, 162, 0, 5, 3, 172, 42, 27, 29]
abbrev dktX5_fallsWith_0 : List UInt8 := dkwX5_fallsWith_0 ++ dktX5_fallsWith_1
theorem dksX5_fallsWith_0 : cX5_fallsWith.data.toList.drop 0 = dktX5_fallsWith_0 := by decide +kernel
theorem dksX5_fallsWith_1 : cX5_fallsWith.data.toList.drop 22 = dktX5_fallsWith_1 := dk_seg dksX5_fallsWith_0 22 rfl rfl
theorem dksX5_fallsWith_2 : cX5_fallsWith.data.toList.drop 44 = dktX5_fallsWith_2 := dk_seg dksX5_fallsWith_1 22 rfl rfl
theorem dX5_fallsWith_0 : decode cX5_fallsWith 0 = .ok (.aload_n 0, 1) := dk_42 (dk_at dksX5_fallsWith_0 0 rfl rfl)
theorem dX5_fallsWith_1 : decode cX5_fallsWith 1 = .ok (.iload_n 1, 1) := dk_27 (dk_at dksX5_fallsWith_0 1 rfl rfl)
theorem dX5_fallsWith_2 : decode cX5_fallsWith 2 = .ok (.iconst 2, 1) := dk_5 (dk_at dksX5_fallsWith_0 2 rfl rfl)
theorem dX5_fallsWith_3 : decode cX5_fallsWith 3 = .ok (.invokevirtual 75, 3) := dk_182 0 75 (dk_at dksX5_fallsWith_0 3 rfl rfl)
theorem dX5_fallsWith_6 : decode cX5_fallsWith 6 = .ok (.istore_n 3, 1) := dk_62 (dk_at dksX5_fallsWith_0 6 rfl rfl)
theorem dX5_fallsWith_7 : decode cX5_fallsWith 7 = .ok (.iload_n 3, 1) := dk_29 (dk_at dksX5_fallsWith_0 7 rfl rfl)
theorem dX5_fallsWith_8 : decode cX5_fallsWith 8 = .ok (.iconst 0, 1) := dk_3 (dk_at dksX5_fallsWith_0 8 rfl rfl)
theorem dX5_fallsWith_9 : decode cX5_fallsWith 9 = .ok (.invokestatic 106, 3) := dk_184 0 106 (dk_at dksX5_fallsWith_0 9 rfl rfl)
theorem dX5_fallsWith_12 : decode cX5_fallsWith 12 = .ok (.bipush 20, 2) := dk_16 20 (dk_at dksX5_fallsWith_0 12 rfl rfl)
theorem dX5_fallsWith_14 : decode cX5_fallsWith 14 = .ok (.if_icmp .ge 5, 3) := dk_162 0 5 (dk_at dksX5_fallsWith_0 14 rfl rfl)
theorem dX5_fallsWith_17 : decode cX5_fallsWith 17 = .ok (.iconst 0, 1) := dk_3 (dk_at dksX5_fallsWith_0 17 rfl rfl)
theorem dX5_fallsWith_18 : decode cX5_fallsWith 18 = .ok (.ireturn, 1) := dk_172 (dk_at dksX5_fallsWith_0 18 rfl rfl)
theorem dX5_fallsWith_19 : decode cX5_fallsWith 19 = .ok (.aload_n 0, 1) := dk_42 (dk_at dksX5_fallsWith_0 19 rfl rfl)
theorem dX5_fallsWith_20 : decode cX5_fallsWith 20 = .ok (.iload_n 1, 1) := dk_27 (dk_at dksX5_fallsWith_0 20 rfl rfl)
theorem dX5_fallsWith_21 : decode cX5_fallsWith 21 = .ok (.iload_n 3, 1) := dk_29 (dk_at dksX5_fallsWith_0 21 rfl rfl)
theorem dX5_fallsWith_22 : decode cX5_fallsWith 22 = .ok (.ifCond .le 7, 3) := dk_158 0 7 (dk_at dksX5_fallsWith_1 0 rfl rfl)
theorem dX5_fallsWith_25 : decode cX5_fallsWith 25 = .ok (.iconst 1, 1) := dk_4 (dk_at dksX5_fallsWith_1 3 rfl rfl)
theorem dX5_fallsWith_26 : decode cX5_fallsWith 26 = .ok (.goto 4, 3) := dk_167 0 4 (dk_at dksX5_fallsWith_1 4 rfl rfl)
theorem dX5_fallsWith_29 : decode cX5_fallsWith 29 = .ok (.iconst (-1), 1) := dk_2 (dk_at dksX5_fallsWith_1 7 rfl rfl)
theorem dX5_fallsWith_30 : decode cX5_fallsWith 30 = .ok (.iload_n 2, 1) := dk_28 (dk_at dksX5_fallsWith_1 8 rfl rfl)
theorem dX5_fallsWith_31 : decode cX5_fallsWith 31 = .ok (.invokevirtual 127, 3) := dk_182 0 127 (dk_at dksX5_fallsWith_1 9 rfl rfl)
theorem dX5_fallsWith_34 : decode cX5_fallsWith 34 = .ok (.istore 4, 2) := dk_54 4 (dk_at dksX5_fallsWith_1 12 rfl rfl)
theorem dX5_fallsWith_36 : decode cX5_fallsWith 36 = .ok (.iload 4, 2) := dk_21 4 (dk_at dksX5_fallsWith_1 14 rfl rfl)
theorem dX5_fallsWith_38 : decode cX5_fallsWith 38 = .ok (.ifCond .lt 16, 3) := dk_155 0 16 (dk_at dksX5_fallsWith_1 16 rfl rfl)
theorem dX5_fallsWith_41 : decode cX5_fallsWith 41 = .ok (.aload_n 0, 1) := dk_42 (dk_at dksX5_fallsWith_1 19 rfl rfl)
theorem dX5_fallsWith_42 : decode cX5_fallsWith 42 = .ok (.iload 4, 2) := dk_21 4 (dk_at dksX5_fallsWith_1 20 rfl rfl)
theorem dX5_fallsWith_44 : decode cX5_fallsWith 44 = .ok (.invokevirtual 119, 3) := dk_182 0 119 (dk_at dksX5_fallsWith_2 0 rfl rfl)
theorem dX5_fallsWith_47 : decode cX5_fallsWith 47 = .ok (.ifCond .ne 7, 3) := dk_154 0 7 (dk_at dksX5_fallsWith_2 3 rfl rfl)
theorem dX5_fallsWith_50 : decode cX5_fallsWith 50 = .ok (.iconst 1, 1) := dk_4 (dk_at dksX5_fallsWith_2 6 rfl rfl)
theorem dX5_fallsWith_51 : decode cX5_fallsWith 51 = .ok (.goto 4, 3) := dk_167 0 4 (dk_at dksX5_fallsWith_2 7 rfl rfl)
theorem dX5_fallsWith_54 : decode cX5_fallsWith 54 = .ok (.iconst 0, 1) := dk_3 (dk_at dksX5_fallsWith_2 10 rfl rfl)
theorem dX5_fallsWith_55 : decode cX5_fallsWith 55 = .ok (.ireturn, 1) := dk_172 (dk_at dksX5_fallsWith_2 11 rfl rfl)
abbrev cX5_street : ByteArray := prog_18_method_40_code
def yX5_street : MethodName := ⟨RX5, "street", "(I)I"⟩
def dkwX5_street_3 : List UInt8 := [42, 182, 0, 178, 172, 18, 100, 172]
abbrev dktX5_street_3 : List UInt8 := dkwX5_street_3 ++ []
def dkwX5_street_2 : List UInt8 := [42, 180, 0, 7, 6, 46, 172, 42, 182, 0, 123, 172, 42, 7, 182, 0, 175, 172, 42, 8, 182, 0, 175, 172]
abbrev dktX5_street_2 : List UInt8 := dkwX5_street_2 ++ dktX5_street_3
def dkwX5_street_1 : List UInt8 := [170, 0, 0, 0, 0, 0, 64, 0, 0, 0, 0, 0, 0, 0, 4, 0, 0, 0, 35, 0, 0, 0, 42, 0, 0, 0, 47, 0, 0, 0, 53, 0, 0, 0, 59]
abbrev dktX5_street_1 : List UInt8 := dkwX5_street_1 ++ dktX5_street_2
def dkwX5_street_0 : List UInt8 := [27]
abbrev dktX5_street_0 : List UInt8 := dkwX5_street_0 ++ dktX5_street_1
theorem dksX5_street_0 : cX5_street.data.toList.drop 0 = dktX5_street_0 := by decide +kernel
theorem dksX5_street_1 : cX5_street.data.toList.drop 1 = dktX5_street_1 := dk_seg dksX5_street_0 1 rfl rfl
theorem dksX5_street_2 : cX5_street.data.toList.drop 36 = dktX5_street_2 := dk_seg dksX5_street_1 35 rfl rfl
theorem dksX5_street_3 : cX5_street.data.toList.drop 60 = dktX5_street_3 := dk_seg dksX5_street_2 24 rfl rfl
theorem dX5_street_0 : decode cX5_street 0 = .ok (.iload_n 1, 1) := dk_27 (dk_at dksX5_street_0 0 rfl rfl)
theorem dX5_street_1 : decode cX5_street 1 = .ok (.tableswitch 64 0 4 #[35, 42, 47, 53, 59], 35) := by decide +kernel
theorem dX5_street_36 : decode cX5_street 36 = .ok (.aload_n 0, 1) := dk_42 (dk_at dksX5_street_2 0 rfl rfl)
theorem dX5_street_37 : decode cX5_street 37 = .ok (.getfield 7, 3) := dk_180 0 7 (dk_at dksX5_street_2 1 rfl rfl)
theorem dX5_street_40 : decode cX5_street 40 = .ok (.iconst 3, 1) := dk_6 (dk_at dksX5_street_2 4 rfl rfl)
theorem dX5_street_41 : decode cX5_street 41 = .ok (.iaload, 1) := dk_46 (dk_at dksX5_street_2 5 rfl rfl)
theorem dX5_street_42 : decode cX5_street 42 = .ok (.ireturn, 1) := dk_172 (dk_at dksX5_street_2 6 rfl rfl)
theorem dX5_street_43 : decode cX5_street 43 = .ok (.aload_n 0, 1) := dk_42 (dk_at dksX5_street_2 7 rfl rfl)
theorem dX5_street_44 : decode cX5_street 44 = .ok (.invokevirtual 123, 3) := dk_182 0 123 (dk_at dksX5_street_2 8 rfl rfl)
theorem dX5_street_47 : decode cX5_street 47 = .ok (.ireturn, 1) := dk_172 (dk_at dksX5_street_2 11 rfl rfl)
theorem dX5_street_48 : decode cX5_street 48 = .ok (.aload_n 0, 1) := dk_42 (dk_at dksX5_street_2 12 rfl rfl)
theorem dX5_street_49 : decode cX5_street 49 = .ok (.iconst 4, 1) := dk_7 (dk_at dksX5_street_2 13 rfl rfl)
theorem dX5_street_50 : decode cX5_street 50 = .ok (.invokevirtual 175, 3) := dk_182 0 175 (dk_at dksX5_street_2 14 rfl rfl)
theorem dX5_street_53 : decode cX5_street 53 = .ok (.ireturn, 1) := dk_172 (dk_at dksX5_street_2 17 rfl rfl)
theorem dX5_street_54 : decode cX5_street 54 = .ok (.aload_n 0, 1) := dk_42 (dk_at dksX5_street_2 18 rfl rfl)
theorem dX5_street_55 : decode cX5_street 55 = .ok (.iconst 5, 1) := dk_8 (dk_at dksX5_street_2 19 rfl rfl)
theorem dX5_street_56 : decode cX5_street 56 = .ok (.invokevirtual 175, 3) := dk_182 0 175 (dk_at dksX5_street_2 20 rfl rfl)
theorem dX5_street_59 : decode cX5_street 59 = .ok (.ireturn, 1) := dk_172 (dk_at dksX5_street_2 23 rfl rfl)
theorem dX5_street_60 : decode cX5_street 60 = .ok (.aload_n 0, 1) := dk_42 (dk_at dksX5_street_3 0 rfl rfl)
theorem dX5_street_61 : decode cX5_street 61 = .ok (.invokevirtual 178, 3) := dk_182 0 178 (dk_at dksX5_street_3 1 rfl rfl)
theorem dX5_street_64 : decode cX5_street 64 = .ok (.ireturn, 1) := dk_172 (dk_at dksX5_street_3 4 rfl rfl)
theorem dX5_street_65 : decode cX5_street 65 = .ok (.ldc 100, 2) := dk_18 100 (dk_at dksX5_street_3 5 rfl rfl)
theorem dX5_street_67 : decode cX5_street 67 = .ok (.ireturn, 1) := dk_172 (dk_at dksX5_street_3 7 rfl rfl)
abbrev cX5_allOf : ByteArray := prog_18_method_38_code
def yX5_allOf : MethodName := ⟨RX5, "allOf", "(I)I"⟩
def dkwX5_allOf_1 : List UInt8 := [132, 3, 1, 167, 255, 234, 28, 172]
abbrev dktX5_allOf_1 : List UInt8 := dkwX5_allOf_1 ++ []
def dkwX5_allOf_0 : List UInt8 := [3, 61, 3, 62, 29, 42, 180, 0, 7, 3, 46, 162, 0, 18, 28, 42, 29, 27, 182, 0, 75, 96, 61]
abbrev dktX5_allOf_0 : List UInt8 := dkwX5_allOf_0 ++ dktX5_allOf_1
theorem dksX5_allOf_0 : cX5_allOf.data.toList.drop 0 = dktX5_allOf_0 := by decide +kernel
theorem dksX5_allOf_1 : cX5_allOf.data.toList.drop 23 = dktX5_allOf_1 := dk_seg dksX5_allOf_0 23 rfl rfl
theorem dX5_allOf_0 : decode cX5_allOf 0 = .ok (.iconst 0, 1) := dk_3 (dk_at dksX5_allOf_0 0 rfl rfl)
theorem dX5_allOf_1 : decode cX5_allOf 1 = .ok (.istore_n 2, 1) := dk_61 (dk_at dksX5_allOf_0 1 rfl rfl)
theorem dX5_allOf_2 : decode cX5_allOf 2 = .ok (.iconst 0, 1) := dk_3 (dk_at dksX5_allOf_0 2 rfl rfl)
theorem dX5_allOf_3 : decode cX5_allOf 3 = .ok (.istore_n 3, 1) := dk_62 (dk_at dksX5_allOf_0 3 rfl rfl)
theorem dX5_allOf_4 : decode cX5_allOf 4 = .ok (.iload_n 3, 1) := dk_29 (dk_at dksX5_allOf_0 4 rfl rfl)
theorem dX5_allOf_5 : decode cX5_allOf 5 = .ok (.aload_n 0, 1) := dk_42 (dk_at dksX5_allOf_0 5 rfl rfl)
theorem dX5_allOf_6 : decode cX5_allOf 6 = .ok (.getfield 7, 3) := dk_180 0 7 (dk_at dksX5_allOf_0 6 rfl rfl)
theorem dX5_allOf_9 : decode cX5_allOf 9 = .ok (.iconst 0, 1) := dk_3 (dk_at dksX5_allOf_0 9 rfl rfl)
theorem dX5_allOf_10 : decode cX5_allOf 10 = .ok (.iaload, 1) := dk_46 (dk_at dksX5_allOf_0 10 rfl rfl)
theorem dX5_allOf_11 : decode cX5_allOf 11 = .ok (.if_icmp .ge 18, 3) := dk_162 0 18 (dk_at dksX5_allOf_0 11 rfl rfl)
theorem dX5_allOf_14 : decode cX5_allOf 14 = .ok (.iload_n 2, 1) := dk_28 (dk_at dksX5_allOf_0 14 rfl rfl)
theorem dX5_allOf_15 : decode cX5_allOf 15 = .ok (.aload_n 0, 1) := dk_42 (dk_at dksX5_allOf_0 15 rfl rfl)
theorem dX5_allOf_16 : decode cX5_allOf 16 = .ok (.iload_n 3, 1) := dk_29 (dk_at dksX5_allOf_0 16 rfl rfl)
theorem dX5_allOf_17 : decode cX5_allOf 17 = .ok (.iload_n 1, 1) := dk_27 (dk_at dksX5_allOf_0 17 rfl rfl)
theorem dX5_allOf_18 : decode cX5_allOf 18 = .ok (.invokevirtual 75, 3) := dk_182 0 75 (dk_at dksX5_allOf_0 18 rfl rfl)
theorem dX5_allOf_21 : decode cX5_allOf 21 = .ok (.iadd, 1) := dk_96 (dk_at dksX5_allOf_0 21 rfl rfl)
theorem dX5_allOf_22 : decode cX5_allOf 22 = .ok (.istore_n 2, 1) := dk_61 (dk_at dksX5_allOf_0 22 rfl rfl)
theorem dX5_allOf_23 : decode cX5_allOf 23 = .ok (.iinc 3 1, 3) := dk_132 3 1 (dk_at dksX5_allOf_1 0 rfl rfl)
theorem dX5_allOf_26 : decode cX5_allOf 26 = .ok (.goto (-22), 3) := dk_167 255 234 (dk_at dksX5_allOf_1 3 rfl rfl)
theorem dX5_allOf_29 : decode cX5_allOf 29 = .ok (.iload_n 2, 1) := dk_28 (dk_at dksX5_allOf_1 6 rfl rfl)
theorem dX5_allOf_30 : decode cX5_allOf 30 = .ok (.ireturn, 1) := dk_172 (dk_at dksX5_allOf_1 7 rfl rfl)
abbrev cX5_looseOnes : ByteArray := prog_18_method_39_code
def yX5_looseOnes : MethodName := ⟨RX5, "looseOnes", "()I"⟩
def dkwX5_looseOnes_2 : List UInt8 := [60, 132, 2, 1, 167, 255, 208, 27, 172]
abbrev dktX5_looseOnes_2 : List UInt8 := dkwX5_looseOnes_2 ++ []
def dkwX5_looseOnes_1 : List UInt8 := [28, 182, 0, 139, 3, 184, 0, 106, 42, 28, 182, 0, 136, 164, 0, 9, 4, 28, 120, 167, 0, 4, 3, 128]
abbrev dktX5_looseOnes_1 : List UInt8 := dkwX5_looseOnes_1 ++ dktX5_looseOnes_2
def dkwX5_looseOnes_0 : List UInt8 := [3, 60, 3, 61, 28, 42, 180, 0, 7, 3, 46, 162, 0, 44, 27, 42, 28, 182, 0, 119, 153, 0, 26, 42]
abbrev dktX5_looseOnes_0 : List UInt8 := dkwX5_looseOnes_0 ++ dktX5_looseOnes_1
theorem dksX5_looseOnes_0 : cX5_looseOnes.data.toList.drop 0 = dktX5_looseOnes_0 := by decide +kernel
theorem dksX5_looseOnes_1 : cX5_looseOnes.data.toList.drop 24 = dktX5_looseOnes_1 := dk_seg dksX5_looseOnes_0 24 rfl rfl
theorem dksX5_looseOnes_2 : cX5_looseOnes.data.toList.drop 48 = dktX5_looseOnes_2 := dk_seg dksX5_looseOnes_1 24 rfl rfl
theorem dX5_looseOnes_0 : decode cX5_looseOnes 0 = .ok (.iconst 0, 1) := dk_3 (dk_at dksX5_looseOnes_0 0 rfl rfl)
theorem dX5_looseOnes_1 : decode cX5_looseOnes 1 = .ok (.istore_n 1, 1) := dk_60 (dk_at dksX5_looseOnes_0 1 rfl rfl)
theorem dX5_looseOnes_2 : decode cX5_looseOnes 2 = .ok (.iconst 0, 1) := dk_3 (dk_at dksX5_looseOnes_0 2 rfl rfl)
theorem dX5_looseOnes_3 : decode cX5_looseOnes 3 = .ok (.istore_n 2, 1) := dk_61 (dk_at dksX5_looseOnes_0 3 rfl rfl)
theorem dX5_looseOnes_4 : decode cX5_looseOnes 4 = .ok (.iload_n 2, 1) := dk_28 (dk_at dksX5_looseOnes_0 4 rfl rfl)
theorem dX5_looseOnes_5 : decode cX5_looseOnes 5 = .ok (.aload_n 0, 1) := dk_42 (dk_at dksX5_looseOnes_0 5 rfl rfl)
theorem dX5_looseOnes_6 : decode cX5_looseOnes 6 = .ok (.getfield 7, 3) := dk_180 0 7 (dk_at dksX5_looseOnes_0 6 rfl rfl)
theorem dX5_looseOnes_9 : decode cX5_looseOnes 9 = .ok (.iconst 0, 1) := dk_3 (dk_at dksX5_looseOnes_0 9 rfl rfl)
theorem dX5_looseOnes_10 : decode cX5_looseOnes 10 = .ok (.iaload, 1) := dk_46 (dk_at dksX5_looseOnes_0 10 rfl rfl)
theorem dX5_looseOnes_11 : decode cX5_looseOnes 11 = .ok (.if_icmp .ge 44, 3) := dk_162 0 44 (dk_at dksX5_looseOnes_0 11 rfl rfl)
theorem dX5_looseOnes_14 : decode cX5_looseOnes 14 = .ok (.iload_n 1, 1) := dk_27 (dk_at dksX5_looseOnes_0 14 rfl rfl)
theorem dX5_looseOnes_15 : decode cX5_looseOnes 15 = .ok (.aload_n 0, 1) := dk_42 (dk_at dksX5_looseOnes_0 15 rfl rfl)
theorem dX5_looseOnes_16 : decode cX5_looseOnes 16 = .ok (.iload_n 2, 1) := dk_28 (dk_at dksX5_looseOnes_0 16 rfl rfl)
theorem dX5_looseOnes_17 : decode cX5_looseOnes 17 = .ok (.invokevirtual 119, 3) := dk_182 0 119 (dk_at dksX5_looseOnes_0 17 rfl rfl)
theorem dX5_looseOnes_20 : decode cX5_looseOnes 20 = .ok (.ifCond .eq 26, 3) := dk_153 0 26 (dk_at dksX5_looseOnes_0 20 rfl rfl)
theorem dX5_looseOnes_23 : decode cX5_looseOnes 23 = .ok (.aload_n 0, 1) := dk_42 (dk_at dksX5_looseOnes_0 23 rfl rfl)
theorem dX5_looseOnes_24 : decode cX5_looseOnes 24 = .ok (.iload_n 2, 1) := dk_28 (dk_at dksX5_looseOnes_1 0 rfl rfl)
theorem dX5_looseOnes_25 : decode cX5_looseOnes 25 = .ok (.invokevirtual 139, 3) := dk_182 0 139 (dk_at dksX5_looseOnes_1 1 rfl rfl)
theorem dX5_looseOnes_28 : decode cX5_looseOnes 28 = .ok (.iconst 0, 1) := dk_3 (dk_at dksX5_looseOnes_1 4 rfl rfl)
theorem dX5_looseOnes_29 : decode cX5_looseOnes 29 = .ok (.invokestatic 106, 3) := dk_184 0 106 (dk_at dksX5_looseOnes_1 5 rfl rfl)
theorem dX5_looseOnes_32 : decode cX5_looseOnes 32 = .ok (.aload_n 0, 1) := dk_42 (dk_at dksX5_looseOnes_1 8 rfl rfl)
theorem dX5_looseOnes_33 : decode cX5_looseOnes 33 = .ok (.iload_n 2, 1) := dk_28 (dk_at dksX5_looseOnes_1 9 rfl rfl)
theorem dX5_looseOnes_34 : decode cX5_looseOnes 34 = .ok (.invokevirtual 136, 3) := dk_182 0 136 (dk_at dksX5_looseOnes_1 10 rfl rfl)
theorem dX5_looseOnes_37 : decode cX5_looseOnes 37 = .ok (.if_icmp .le 9, 3) := dk_164 0 9 (dk_at dksX5_looseOnes_1 13 rfl rfl)
theorem dX5_looseOnes_40 : decode cX5_looseOnes 40 = .ok (.iconst 1, 1) := dk_4 (dk_at dksX5_looseOnes_1 16 rfl rfl)
theorem dX5_looseOnes_41 : decode cX5_looseOnes 41 = .ok (.iload_n 2, 1) := dk_28 (dk_at dksX5_looseOnes_1 17 rfl rfl)
theorem dX5_looseOnes_42 : decode cX5_looseOnes 42 = .ok (.ishl, 1) := dk_120 (dk_at dksX5_looseOnes_1 18 rfl rfl)
theorem dX5_looseOnes_43 : decode cX5_looseOnes 43 = .ok (.goto 4, 3) := dk_167 0 4 (dk_at dksX5_looseOnes_1 19 rfl rfl)
theorem dX5_looseOnes_46 : decode cX5_looseOnes 46 = .ok (.iconst 0, 1) := dk_3 (dk_at dksX5_looseOnes_1 22 rfl rfl)
theorem dX5_looseOnes_47 : decode cX5_looseOnes 47 = .ok (.ior, 1) := dk_128 (dk_at dksX5_looseOnes_1 23 rfl rfl)
theorem dX5_looseOnes_48 : decode cX5_looseOnes 48 = .ok (.istore_n 1, 1) := dk_60 (dk_at dksX5_looseOnes_2 0 rfl rfl)
theorem dX5_looseOnes_49 : decode cX5_looseOnes 49 = .ok (.iinc 2 1, 3) := dk_132 2 1 (dk_at dksX5_looseOnes_2 1 rfl rfl)
theorem dX5_looseOnes_52 : decode cX5_looseOnes 52 = .ok (.goto (-48), 3) := dk_167 255 208 (dk_at dksX5_looseOnes_2 4 rfl rfl)
theorem dX5_looseOnes_55 : decode cX5_looseOnes 55 = .ok (.iload_n 1, 1) := dk_27 (dk_at dksX5_looseOnes_2 7 rfl rfl)
theorem dX5_looseOnes_56 : decode cX5_looseOnes 56 = .ok (.ireturn, 1) := dk_172 (dk_at dksX5_looseOnes_2 8 rfl rfl)
abbrev cX5_behind : ByteArray := prog_18_method_44_code
def yX5_behind : MethodName := ⟨RX5, "behind", "(II)I"⟩
def dkwX5_behind_3 : List UInt8 := [42, 180, 0, 7, 6, 46, 167, 0, 11, 42, 28, 6, 100, 5, 182, 0, 75, 62, 42, 182, 0, 187, 29, 172]
abbrev dktX5_behind_3 : List UInt8 := dkwX5_behind_3 ++ []
def dkwX5_behind_2 : List UInt8 := [182, 0, 123, 167, 0, 38, 28, 4, 160, 0, 11, 42, 7, 182, 0, 175, 167, 0, 25, 28, 5, 160, 0, 12]
abbrev dktX5_behind_2 : List UInt8 := dkwX5_behind_2 ++ dktX5_behind_3
def dkwX5_behind_1 : List UInt8 := [184, 0, 71, 154, 0, 6, 18, 100, 172, 42, 182, 0, 181, 42, 27, 182, 0, 184, 28, 154, 0, 10, 42]
abbrev dktX5_behind_1 : List UInt8 := dkwX5_behind_1 ++ dktX5_behind_2
def dkwX5_behind_0 : List UInt8 := [27, 133, 9, 20, 0, 170, 184, 0, 71, 153, 0, 21, 28, 133, 9, 5, 42, 180, 0, 7, 3, 46, 96, 133]
abbrev dktX5_behind_0 : List UInt8 := dkwX5_behind_0 ++ dktX5_behind_1
theorem dksX5_behind_0 : cX5_behind.data.toList.drop 0 = dktX5_behind_0 := by decide +kernel
theorem dksX5_behind_1 : cX5_behind.data.toList.drop 24 = dktX5_behind_1 := dk_seg dksX5_behind_0 24 rfl rfl
theorem dksX5_behind_2 : cX5_behind.data.toList.drop 47 = dktX5_behind_2 := dk_seg dksX5_behind_1 23 rfl rfl
theorem dksX5_behind_3 : cX5_behind.data.toList.drop 71 = dktX5_behind_3 := dk_seg dksX5_behind_2 24 rfl rfl
theorem dX5_behind_0 : decode cX5_behind 0 = .ok (.iload_n 1, 1) := dk_27 (dk_at dksX5_behind_0 0 rfl rfl)
theorem dX5_behind_1 : decode cX5_behind 1 = .ok (.i2l, 1) := dk_133 (dk_at dksX5_behind_0 1 rfl rfl)
theorem dX5_behind_2 : decode cX5_behind 2 = .ok (.lconst 0, 1) := dk_9 (dk_at dksX5_behind_0 2 rfl rfl)
theorem dX5_behind_3 : decode cX5_behind 3 = .ok (.ldc2_w 170, 3) := dk_20 0 170 (dk_at dksX5_behind_0 3 rfl rfl)
theorem dX5_behind_6 : decode cX5_behind 6 = .ok (.invokestatic 71, 3) := dk_184 0 71 (dk_at dksX5_behind_0 6 rfl rfl)
theorem dX5_behind_9 : decode cX5_behind 9 = .ok (.ifCond .eq 21, 3) := dk_153 0 21 (dk_at dksX5_behind_0 9 rfl rfl)
theorem dX5_behind_12 : decode cX5_behind 12 = .ok (.iload_n 2, 1) := dk_28 (dk_at dksX5_behind_0 12 rfl rfl)
theorem dX5_behind_13 : decode cX5_behind 13 = .ok (.i2l, 1) := dk_133 (dk_at dksX5_behind_0 13 rfl rfl)
theorem dX5_behind_14 : decode cX5_behind 14 = .ok (.lconst 0, 1) := dk_9 (dk_at dksX5_behind_0 14 rfl rfl)
theorem dX5_behind_15 : decode cX5_behind 15 = .ok (.iconst 2, 1) := dk_5 (dk_at dksX5_behind_0 15 rfl rfl)
theorem dX5_behind_16 : decode cX5_behind 16 = .ok (.aload_n 0, 1) := dk_42 (dk_at dksX5_behind_0 16 rfl rfl)
theorem dX5_behind_17 : decode cX5_behind 17 = .ok (.getfield 7, 3) := dk_180 0 7 (dk_at dksX5_behind_0 17 rfl rfl)
theorem dX5_behind_20 : decode cX5_behind 20 = .ok (.iconst 0, 1) := dk_3 (dk_at dksX5_behind_0 20 rfl rfl)
theorem dX5_behind_21 : decode cX5_behind 21 = .ok (.iaload, 1) := dk_46 (dk_at dksX5_behind_0 21 rfl rfl)
theorem dX5_behind_22 : decode cX5_behind 22 = .ok (.iadd, 1) := dk_96 (dk_at dksX5_behind_0 22 rfl rfl)
theorem dX5_behind_23 : decode cX5_behind 23 = .ok (.i2l, 1) := dk_133 (dk_at dksX5_behind_0 23 rfl rfl)
theorem dX5_behind_24 : decode cX5_behind 24 = .ok (.invokestatic 71, 3) := dk_184 0 71 (dk_at dksX5_behind_1 0 rfl rfl)
theorem dX5_behind_27 : decode cX5_behind 27 = .ok (.ifCond .ne 6, 3) := dk_154 0 6 (dk_at dksX5_behind_1 3 rfl rfl)
theorem dX5_behind_30 : decode cX5_behind 30 = .ok (.ldc 100, 2) := dk_18 100 (dk_at dksX5_behind_1 6 rfl rfl)
theorem dX5_behind_32 : decode cX5_behind 32 = .ok (.ireturn, 1) := dk_172 (dk_at dksX5_behind_1 8 rfl rfl)
theorem dX5_behind_33 : decode cX5_behind 33 = .ok (.aload_n 0, 1) := dk_42 (dk_at dksX5_behind_1 9 rfl rfl)
theorem dX5_behind_34 : decode cX5_behind 34 = .ok (.invokevirtual 181, 3) := dk_182 0 181 (dk_at dksX5_behind_1 10 rfl rfl)
theorem dX5_behind_37 : decode cX5_behind 37 = .ok (.aload_n 0, 1) := dk_42 (dk_at dksX5_behind_1 13 rfl rfl)
theorem dX5_behind_38 : decode cX5_behind 38 = .ok (.iload_n 1, 1) := dk_27 (dk_at dksX5_behind_1 14 rfl rfl)
theorem dX5_behind_39 : decode cX5_behind 39 = .ok (.invokevirtual 184, 3) := dk_182 0 184 (dk_at dksX5_behind_1 15 rfl rfl)
theorem dX5_behind_42 : decode cX5_behind 42 = .ok (.iload_n 2, 1) := dk_28 (dk_at dksX5_behind_1 18 rfl rfl)
theorem dX5_behind_43 : decode cX5_behind 43 = .ok (.ifCond .ne 10, 3) := dk_154 0 10 (dk_at dksX5_behind_1 19 rfl rfl)
theorem dX5_behind_46 : decode cX5_behind 46 = .ok (.aload_n 0, 1) := dk_42 (dk_at dksX5_behind_1 22 rfl rfl)
theorem dX5_behind_47 : decode cX5_behind 47 = .ok (.invokevirtual 123, 3) := dk_182 0 123 (dk_at dksX5_behind_2 0 rfl rfl)
theorem dX5_behind_50 : decode cX5_behind 50 = .ok (.goto 38, 3) := dk_167 0 38 (dk_at dksX5_behind_2 3 rfl rfl)
theorem dX5_behind_53 : decode cX5_behind 53 = .ok (.iload_n 2, 1) := dk_28 (dk_at dksX5_behind_2 6 rfl rfl)
theorem dX5_behind_54 : decode cX5_behind 54 = .ok (.iconst 1, 1) := dk_4 (dk_at dksX5_behind_2 7 rfl rfl)
theorem dX5_behind_55 : decode cX5_behind 55 = .ok (.if_icmp .ne 11, 3) := dk_160 0 11 (dk_at dksX5_behind_2 8 rfl rfl)
theorem dX5_behind_58 : decode cX5_behind 58 = .ok (.aload_n 0, 1) := dk_42 (dk_at dksX5_behind_2 11 rfl rfl)
theorem dX5_behind_59 : decode cX5_behind 59 = .ok (.iconst 4, 1) := dk_7 (dk_at dksX5_behind_2 12 rfl rfl)
theorem dX5_behind_60 : decode cX5_behind 60 = .ok (.invokevirtual 175, 3) := dk_182 0 175 (dk_at dksX5_behind_2 13 rfl rfl)
theorem dX5_behind_63 : decode cX5_behind 63 = .ok (.goto 25, 3) := dk_167 0 25 (dk_at dksX5_behind_2 16 rfl rfl)
theorem dX5_behind_66 : decode cX5_behind 66 = .ok (.iload_n 2, 1) := dk_28 (dk_at dksX5_behind_2 19 rfl rfl)
theorem dX5_behind_67 : decode cX5_behind 67 = .ok (.iconst 2, 1) := dk_5 (dk_at dksX5_behind_2 20 rfl rfl)
theorem dX5_behind_68 : decode cX5_behind 68 = .ok (.if_icmp .ne 12, 3) := dk_160 0 12 (dk_at dksX5_behind_2 21 rfl rfl)
theorem dX5_behind_71 : decode cX5_behind 71 = .ok (.aload_n 0, 1) := dk_42 (dk_at dksX5_behind_3 0 rfl rfl)
theorem dX5_behind_72 : decode cX5_behind 72 = .ok (.getfield 7, 3) := dk_180 0 7 (dk_at dksX5_behind_3 1 rfl rfl)
theorem dX5_behind_75 : decode cX5_behind 75 = .ok (.iconst 3, 1) := dk_6 (dk_at dksX5_behind_3 4 rfl rfl)
theorem dX5_behind_76 : decode cX5_behind 76 = .ok (.iaload, 1) := dk_46 (dk_at dksX5_behind_3 5 rfl rfl)
theorem dX5_behind_77 : decode cX5_behind 77 = .ok (.goto 11, 3) := dk_167 0 11 (dk_at dksX5_behind_3 6 rfl rfl)
theorem dX5_behind_80 : decode cX5_behind 80 = .ok (.aload_n 0, 1) := dk_42 (dk_at dksX5_behind_3 9 rfl rfl)
theorem dX5_behind_81 : decode cX5_behind 81 = .ok (.iload_n 2, 1) := dk_28 (dk_at dksX5_behind_3 10 rfl rfl)
theorem dX5_behind_82 : decode cX5_behind 82 = .ok (.iconst 3, 1) := dk_6 (dk_at dksX5_behind_3 11 rfl rfl)
theorem dX5_behind_83 : decode cX5_behind 83 = .ok (.isub, 1) := dk_100 (dk_at dksX5_behind_3 12 rfl rfl)
theorem dX5_behind_84 : decode cX5_behind 84 = .ok (.iconst 2, 1) := dk_5 (dk_at dksX5_behind_3 13 rfl rfl)
theorem dX5_behind_85 : decode cX5_behind 85 = .ok (.invokevirtual 75, 3) := dk_182 0 75 (dk_at dksX5_behind_3 14 rfl rfl)
theorem dX5_behind_88 : decode cX5_behind 88 = .ok (.istore_n 3, 1) := dk_62 (dk_at dksX5_behind_3 17 rfl rfl)
theorem dX5_behind_89 : decode cX5_behind 89 = .ok (.aload_n 0, 1) := dk_42 (dk_at dksX5_behind_3 18 rfl rfl)
theorem dX5_behind_90 : decode cX5_behind 90 = .ok (.invokevirtual 187, 3) := dk_182 0 187 (dk_at dksX5_behind_3 19 rfl rfl)
theorem dX5_behind_93 : decode cX5_behind 93 = .ok (.iload_n 3, 1) := dk_29 (dk_at dksX5_behind_3 22 rfl rfl)
theorem dX5_behind_94 : decode cX5_behind 94 = .ok (.ireturn, 1) := dk_172 (dk_at dksX5_behind_3 23 rfl rfl)
abbrev cX5_laysBy : ByteArray := prog_18_method_41_code
def yX5_laysBy : MethodName := ⟨RX5, "laysBy", "()V"⟩
def dkwX5_laysBy_1 : List UInt8 := [167, 255, 235, 177]
abbrev dktX5_laysBy_1 : List UInt8 := dkwX5_laysBy_1 ++ []
def dkwX5_laysBy_0 : List UInt8 := [3, 60, 27, 16, 69, 162, 0, 21, 42, 180, 0, 49, 27, 42, 180, 0, 7, 27, 46, 79, 132, 1, 1]
abbrev dktX5_laysBy_0 : List UInt8 := dkwX5_laysBy_0 ++ dktX5_laysBy_1
theorem dksX5_laysBy_0 : cX5_laysBy.data.toList.drop 0 = dktX5_laysBy_0 := by decide +kernel
theorem dksX5_laysBy_1 : cX5_laysBy.data.toList.drop 23 = dktX5_laysBy_1 := dk_seg dksX5_laysBy_0 23 rfl rfl
theorem dX5_laysBy_0 : decode cX5_laysBy 0 = .ok (.iconst 0, 1) := dk_3 (dk_at dksX5_laysBy_0 0 rfl rfl)
theorem dX5_laysBy_1 : decode cX5_laysBy 1 = .ok (.istore_n 1, 1) := dk_60 (dk_at dksX5_laysBy_0 1 rfl rfl)
theorem dX5_laysBy_2 : decode cX5_laysBy 2 = .ok (.iload_n 1, 1) := dk_27 (dk_at dksX5_laysBy_0 2 rfl rfl)
theorem dX5_laysBy_3 : decode cX5_laysBy 3 = .ok (.bipush 69, 2) := dk_16 69 (dk_at dksX5_laysBy_0 3 rfl rfl)
theorem dX5_laysBy_5 : decode cX5_laysBy 5 = .ok (.if_icmp .ge 21, 3) := dk_162 0 21 (dk_at dksX5_laysBy_0 5 rfl rfl)
theorem dX5_laysBy_8 : decode cX5_laysBy 8 = .ok (.aload_n 0, 1) := dk_42 (dk_at dksX5_laysBy_0 8 rfl rfl)
theorem dX5_laysBy_9 : decode cX5_laysBy 9 = .ok (.getfield 49, 3) := dk_180 0 49 (dk_at dksX5_laysBy_0 9 rfl rfl)
theorem dX5_laysBy_12 : decode cX5_laysBy 12 = .ok (.iload_n 1, 1) := dk_27 (dk_at dksX5_laysBy_0 12 rfl rfl)
theorem dX5_laysBy_13 : decode cX5_laysBy 13 = .ok (.aload_n 0, 1) := dk_42 (dk_at dksX5_laysBy_0 13 rfl rfl)
theorem dX5_laysBy_14 : decode cX5_laysBy 14 = .ok (.getfield 7, 3) := dk_180 0 7 (dk_at dksX5_laysBy_0 14 rfl rfl)
theorem dX5_laysBy_17 : decode cX5_laysBy 17 = .ok (.iload_n 1, 1) := dk_27 (dk_at dksX5_laysBy_0 17 rfl rfl)
theorem dX5_laysBy_18 : decode cX5_laysBy 18 = .ok (.iaload, 1) := dk_46 (dk_at dksX5_laysBy_0 18 rfl rfl)
theorem dX5_laysBy_19 : decode cX5_laysBy 19 = .ok (.iastore, 1) := dk_79 (dk_at dksX5_laysBy_0 19 rfl rfl)
theorem dX5_laysBy_20 : decode cX5_laysBy 20 = .ok (.iinc 1 1, 3) := dk_132 1 1 (dk_at dksX5_laysBy_0 20 rfl rfl)
theorem dX5_laysBy_23 : decode cX5_laysBy 23 = .ok (.goto (-21), 3) := dk_167 255 235 (dk_at dksX5_laysBy_1 0 rfl rfl)
theorem dX5_laysBy_26 : decode cX5_laysBy 26 = .ok (.return_, 1) := dk_177 (dk_at dksX5_laysBy_1 3 rfl rfl)
abbrev cX5_goesOnMany : ByteArray := prog_18_method_43_code
def yX5_goesOnMany : MethodName := ⟨RX5, "goesOnMany", "(I)V"⟩
def dkwX5_goesOnMany_0 : List UInt8 := [3, 61, 28, 27, 162, 0, 13, 42, 182, 0, 172, 132, 2, 1, 167, 255, 244, 177]
abbrev dktX5_goesOnMany_0 : List UInt8 := dkwX5_goesOnMany_0 ++ []
theorem dksX5_goesOnMany_0 : cX5_goesOnMany.data.toList.drop 0 = dktX5_goesOnMany_0 := by decide +kernel
theorem dX5_goesOnMany_0 : decode cX5_goesOnMany 0 = .ok (.iconst 0, 1) := dk_3 (dk_at dksX5_goesOnMany_0 0 rfl rfl)
theorem dX5_goesOnMany_1 : decode cX5_goesOnMany 1 = .ok (.istore_n 2, 1) := dk_61 (dk_at dksX5_goesOnMany_0 1 rfl rfl)
theorem dX5_goesOnMany_2 : decode cX5_goesOnMany 2 = .ok (.iload_n 2, 1) := dk_28 (dk_at dksX5_goesOnMany_0 2 rfl rfl)
theorem dX5_goesOnMany_3 : decode cX5_goesOnMany 3 = .ok (.iload_n 1, 1) := dk_27 (dk_at dksX5_goesOnMany_0 3 rfl rfl)
theorem dX5_goesOnMany_4 : decode cX5_goesOnMany 4 = .ok (.if_icmp .ge 13, 3) := dk_162 0 13 (dk_at dksX5_goesOnMany_0 4 rfl rfl)
theorem dX5_goesOnMany_7 : decode cX5_goesOnMany 7 = .ok (.aload_n 0, 1) := dk_42 (dk_at dksX5_goesOnMany_0 7 rfl rfl)
theorem dX5_goesOnMany_8 : decode cX5_goesOnMany 8 = .ok (.invokevirtual 172, 3) := dk_182 0 172 (dk_at dksX5_goesOnMany_0 8 rfl rfl)
theorem dX5_goesOnMany_11 : decode cX5_goesOnMany 11 = .ok (.iinc 2 1, 3) := dk_132 2 1 (dk_at dksX5_goesOnMany_0 11 rfl rfl)
theorem dX5_goesOnMany_14 : decode cX5_goesOnMany 14 = .ok (.goto (-12), 3) := dk_167 255 244 (dk_at dksX5_goesOnMany_0 14 rfl rfl)
theorem dX5_goesOnMany_17 : decode cX5_goesOnMany 17 = .ok (.return_, 1) := dk_177 (dk_at dksX5_goesOnMany_0 17 rfl rfl)
abbrev cX5_laysBack : ByteArray := prog_18_method_42_code
def yX5_laysBack : MethodName := ⟨RX5, "laysBack", "()V"⟩
def dkwX5_laysBack_1 : List UInt8 := [167, 255, 235, 177]
abbrev dktX5_laysBack_1 : List UInt8 := dkwX5_laysBack_1 ++ []
def dkwX5_laysBack_0 : List UInt8 := [3, 60, 27, 16, 69, 162, 0, 21, 42, 180, 0, 7, 27, 42, 180, 0, 49, 27, 46, 79, 132, 1, 1]
abbrev dktX5_laysBack_0 : List UInt8 := dkwX5_laysBack_0 ++ dktX5_laysBack_1
theorem dksX5_laysBack_0 : cX5_laysBack.data.toList.drop 0 = dktX5_laysBack_0 := by decide +kernel
theorem dksX5_laysBack_1 : cX5_laysBack.data.toList.drop 23 = dktX5_laysBack_1 := dk_seg dksX5_laysBack_0 23 rfl rfl
theorem dX5_laysBack_0 : decode cX5_laysBack 0 = .ok (.iconst 0, 1) := dk_3 (dk_at dksX5_laysBack_0 0 rfl rfl)
theorem dX5_laysBack_1 : decode cX5_laysBack 1 = .ok (.istore_n 1, 1) := dk_60 (dk_at dksX5_laysBack_0 1 rfl rfl)
theorem dX5_laysBack_2 : decode cX5_laysBack 2 = .ok (.iload_n 1, 1) := dk_27 (dk_at dksX5_laysBack_0 2 rfl rfl)
theorem dX5_laysBack_3 : decode cX5_laysBack 3 = .ok (.bipush 69, 2) := dk_16 69 (dk_at dksX5_laysBack_0 3 rfl rfl)
theorem dX5_laysBack_5 : decode cX5_laysBack 5 = .ok (.if_icmp .ge 21, 3) := dk_162 0 21 (dk_at dksX5_laysBack_0 5 rfl rfl)
theorem dX5_laysBack_8 : decode cX5_laysBack 8 = .ok (.aload_n 0, 1) := dk_42 (dk_at dksX5_laysBack_0 8 rfl rfl)
theorem dX5_laysBack_9 : decode cX5_laysBack 9 = .ok (.getfield 7, 3) := dk_180 0 7 (dk_at dksX5_laysBack_0 9 rfl rfl)
theorem dX5_laysBack_12 : decode cX5_laysBack 12 = .ok (.iload_n 1, 1) := dk_27 (dk_at dksX5_laysBack_0 12 rfl rfl)
theorem dX5_laysBack_13 : decode cX5_laysBack 13 = .ok (.aload_n 0, 1) := dk_42 (dk_at dksX5_laysBack_0 13 rfl rfl)
theorem dX5_laysBack_14 : decode cX5_laysBack 14 = .ok (.getfield 49, 3) := dk_180 0 49 (dk_at dksX5_laysBack_0 14 rfl rfl)
theorem dX5_laysBack_17 : decode cX5_laysBack 17 = .ok (.iload_n 1, 1) := dk_27 (dk_at dksX5_laysBack_0 17 rfl rfl)
theorem dX5_laysBack_18 : decode cX5_laysBack 18 = .ok (.iaload, 1) := dk_46 (dk_at dksX5_laysBack_0 18 rfl rfl)
theorem dX5_laysBack_19 : decode cX5_laysBack 19 = .ok (.iastore, 1) := dk_79 (dk_at dksX5_laysBack_0 19 rfl rfl)
theorem dX5_laysBack_20 : decode cX5_laysBack 20 = .ok (.iinc 1 1, 3) := dk_132 1 1 (dk_at dksX5_laysBack_0 20 rfl rfl)
theorem dX5_laysBack_23 : decode cX5_laysBack 23 = .ok (.goto (-21), 3) := dk_167 255 235 (dk_at dksX5_laysBack_1 0 rfl rfl)
theorem dX5_laysBack_26 : decode cX5_laysBack 26 = .ok (.return_, 1) := dk_177 (dk_at dksX5_laysBack_1 3 rfl rfl)
abbrev cX5_lasts : ByteArray := prog_18_method_45_code
def yX5_lasts : MethodName := ⟨RX5, "lasts", "()I"⟩
def dkwX5_lasts_2 : List UInt8 := [42, 182, 0, 187, 28, 184, 0, 190, 172]
abbrev dktX5_lasts_2 : List UInt8 := dkwX5_lasts_2 ++ []
def dkwX5_lasts_1 : List UInt8 := [42, 182, 0, 172, 42, 182, 0, 123, 27, 159, 0, 7, 29, 167, 0, 4, 2, 61, 132, 3, 1, 167, 255, 224]
abbrev dktX5_lasts_1 : List UInt8 := dkwX5_lasts_1 ++ dktX5_lasts_2
def dkwX5_lasts_0 : List UInt8 := [42, 182, 0, 181, 42, 182, 0, 123, 60, 2, 61, 4, 62, 29, 17, 1, 44, 163, 0, 31, 28, 156, 0, 27]
abbrev dktX5_lasts_0 : List UInt8 := dkwX5_lasts_0 ++ dktX5_lasts_1
theorem dksX5_lasts_0 : cX5_lasts.data.toList.drop 0 = dktX5_lasts_0 := by decide +kernel
theorem dksX5_lasts_1 : cX5_lasts.data.toList.drop 24 = dktX5_lasts_1 := dk_seg dksX5_lasts_0 24 rfl rfl
theorem dksX5_lasts_2 : cX5_lasts.data.toList.drop 48 = dktX5_lasts_2 := dk_seg dksX5_lasts_1 24 rfl rfl
theorem dX5_lasts_0 : decode cX5_lasts 0 = .ok (.aload_n 0, 1) := dk_42 (dk_at dksX5_lasts_0 0 rfl rfl)
theorem dX5_lasts_1 : decode cX5_lasts 1 = .ok (.invokevirtual 181, 3) := dk_182 0 181 (dk_at dksX5_lasts_0 1 rfl rfl)
theorem dX5_lasts_4 : decode cX5_lasts 4 = .ok (.aload_n 0, 1) := dk_42 (dk_at dksX5_lasts_0 4 rfl rfl)
theorem dX5_lasts_5 : decode cX5_lasts 5 = .ok (.invokevirtual 123, 3) := dk_182 0 123 (dk_at dksX5_lasts_0 5 rfl rfl)
theorem dX5_lasts_8 : decode cX5_lasts 8 = .ok (.istore_n 1, 1) := dk_60 (dk_at dksX5_lasts_0 8 rfl rfl)
theorem dX5_lasts_9 : decode cX5_lasts 9 = .ok (.iconst (-1), 1) := dk_2 (dk_at dksX5_lasts_0 9 rfl rfl)
theorem dX5_lasts_10 : decode cX5_lasts 10 = .ok (.istore_n 2, 1) := dk_61 (dk_at dksX5_lasts_0 10 rfl rfl)
theorem dX5_lasts_11 : decode cX5_lasts 11 = .ok (.iconst 1, 1) := dk_4 (dk_at dksX5_lasts_0 11 rfl rfl)
theorem dX5_lasts_12 : decode cX5_lasts 12 = .ok (.istore_n 3, 1) := dk_62 (dk_at dksX5_lasts_0 12 rfl rfl)
theorem dX5_lasts_13 : decode cX5_lasts 13 = .ok (.iload_n 3, 1) := dk_29 (dk_at dksX5_lasts_0 13 rfl rfl)
theorem dX5_lasts_14 : decode cX5_lasts 14 = .ok (.sipush 300, 3) := dk_17 1 44 (dk_at dksX5_lasts_0 14 rfl rfl)
theorem dX5_lasts_17 : decode cX5_lasts 17 = .ok (.if_icmp .gt 31, 3) := dk_163 0 31 (dk_at dksX5_lasts_0 17 rfl rfl)
theorem dX5_lasts_20 : decode cX5_lasts 20 = .ok (.iload_n 2, 1) := dk_28 (dk_at dksX5_lasts_0 20 rfl rfl)
theorem dX5_lasts_21 : decode cX5_lasts 21 = .ok (.ifCond .ge 27, 3) := dk_156 0 27 (dk_at dksX5_lasts_0 21 rfl rfl)
theorem dX5_lasts_24 : decode cX5_lasts 24 = .ok (.aload_n 0, 1) := dk_42 (dk_at dksX5_lasts_1 0 rfl rfl)
theorem dX5_lasts_25 : decode cX5_lasts 25 = .ok (.invokevirtual 172, 3) := dk_182 0 172 (dk_at dksX5_lasts_1 1 rfl rfl)
theorem dX5_lasts_28 : decode cX5_lasts 28 = .ok (.aload_n 0, 1) := dk_42 (dk_at dksX5_lasts_1 4 rfl rfl)
theorem dX5_lasts_29 : decode cX5_lasts 29 = .ok (.invokevirtual 123, 3) := dk_182 0 123 (dk_at dksX5_lasts_1 5 rfl rfl)
theorem dX5_lasts_32 : decode cX5_lasts 32 = .ok (.iload_n 1, 1) := dk_27 (dk_at dksX5_lasts_1 8 rfl rfl)
theorem dX5_lasts_33 : decode cX5_lasts 33 = .ok (.if_icmp .eq 7, 3) := dk_159 0 7 (dk_at dksX5_lasts_1 9 rfl rfl)
theorem dX5_lasts_36 : decode cX5_lasts 36 = .ok (.iload_n 3, 1) := dk_29 (dk_at dksX5_lasts_1 12 rfl rfl)
theorem dX5_lasts_37 : decode cX5_lasts 37 = .ok (.goto 4, 3) := dk_167 0 4 (dk_at dksX5_lasts_1 13 rfl rfl)
theorem dX5_lasts_40 : decode cX5_lasts 40 = .ok (.iconst (-1), 1) := dk_2 (dk_at dksX5_lasts_1 16 rfl rfl)
theorem dX5_lasts_41 : decode cX5_lasts 41 = .ok (.istore_n 2, 1) := dk_61 (dk_at dksX5_lasts_1 17 rfl rfl)
theorem dX5_lasts_42 : decode cX5_lasts 42 = .ok (.iinc 3 1, 3) := dk_132 3 1 (dk_at dksX5_lasts_1 18 rfl rfl)
theorem dX5_lasts_45 : decode cX5_lasts 45 = .ok (.goto (-32), 3) := dk_167 255 224 (dk_at dksX5_lasts_1 21 rfl rfl)
theorem dX5_lasts_48 : decode cX5_lasts 48 = .ok (.aload_n 0, 1) := dk_42 (dk_at dksX5_lasts_2 0 rfl rfl)
theorem dX5_lasts_49 : decode cX5_lasts 49 = .ok (.invokevirtual 187, 3) := dk_182 0 187 (dk_at dksX5_lasts_2 1 rfl rfl)
theorem dX5_lasts_52 : decode cX5_lasts 52 = .ok (.iload_n 2, 1) := dk_28 (dk_at dksX5_lasts_2 4 rfl rfl)
theorem dX5_lasts_53 : decode cX5_lasts 53 = .ok (.invokestatic 190, 3) := dk_184 0 190 (dk_at dksX5_lasts_2 5 rfl rfl)
theorem dX5_lasts_56 : decode cX5_lasts 56 = .ok (.ireturn, 1) := dk_172 (dk_at dksX5_lasts_2 8 rfl rfl)
abbrev cX5_orNone : ByteArray := prog_18_method_3_code
def yX5_orNone : MethodName := ⟨RX5, "orNone", "(I)I"⟩
def dkwX5_orNone_0 : List UInt8 := [26, 156, 0, 8, 18, 70, 167, 0, 4, 26, 172]
abbrev dktX5_orNone_0 : List UInt8 := dkwX5_orNone_0 ++ []
theorem dksX5_orNone_0 : cX5_orNone.data.toList.drop 0 = dktX5_orNone_0 := by decide +kernel
theorem dX5_orNone_0 : decode cX5_orNone 0 = .ok (.iload_n 0, 1) := dk_26 (dk_at dksX5_orNone_0 0 rfl rfl)
theorem dX5_orNone_1 : decode cX5_orNone 1 = .ok (.ifCond .ge 8, 3) := dk_156 0 8 (dk_at dksX5_orNone_0 1 rfl rfl)
theorem dX5_orNone_4 : decode cX5_orNone 4 = .ok (.ldc 70, 2) := dk_18 70 (dk_at dksX5_orNone_0 4 rfl rfl)
theorem dX5_orNone_6 : decode cX5_orNone 6 = .ok (.goto 4, 3) := dk_167 0 4 (dk_at dksX5_orNone_0 6 rfl rfl)
theorem dX5_orNone_9 : decode cX5_orNone 9 = .ok (.iload_n 0, 1) := dk_26 (dk_at dksX5_orNone_0 9 rfl rfl)
theorem dX5_orNone_10 : decode cX5_orNone 10 = .ok (.ireturn, 1) := dk_172 (dk_at dksX5_orNone_0 10 rfl rfl)
abbrev cX5_taken : ByteArray := prog_18_method_46_code
def yX5_taken : MethodName := ⟨RX5, "taken", "(II)I"⟩
def dkwX5_taken_3 : List UInt8 := [120, 2, 130, 126, 54, 4, 42, 182, 0, 187, 21, 4, 172]
abbrev dktX5_taken_3 : List UInt8 := dkwX5_taken_3 ++ []
def dkwX5_taken_2 : List UInt8 := [42, 182, 0, 187, 42, 27, 182, 0, 153, 42, 28, 182, 0, 184, 29, 42, 182, 0, 123, 2, 130, 126, 4, 27]
abbrev dktX5_taken_2 : List UInt8 := dkwX5_taken_2 ++ dktX5_taken_3
def dkwX5_taken_1 : List UInt8 := [27, 182, 0, 119, 154, 0, 6, 18, 152, 172, 42, 182, 0, 181, 42, 28, 182, 0, 184, 42, 182, 0, 123, 62]
abbrev dktX5_taken_1 : List UInt8 := dkwX5_taken_1 ++ dktX5_taken_2
def dkwX5_taken_0 : List UInt8 := [42, 27, 182, 0, 133, 153, 0, 15, 28, 133, 10, 20, 0, 193, 184, 0, 71, 154, 0, 6, 18, 100, 172, 42]
abbrev dktX5_taken_0 : List UInt8 := dkwX5_taken_0 ++ dktX5_taken_1
theorem dksX5_taken_0 : cX5_taken.data.toList.drop 0 = dktX5_taken_0 := by decide +kernel
theorem dksX5_taken_1 : cX5_taken.data.toList.drop 24 = dktX5_taken_1 := dk_seg dksX5_taken_0 24 rfl rfl
theorem dksX5_taken_2 : cX5_taken.data.toList.drop 48 = dktX5_taken_2 := dk_seg dksX5_taken_1 24 rfl rfl
theorem dksX5_taken_3 : cX5_taken.data.toList.drop 72 = dktX5_taken_3 := dk_seg dksX5_taken_2 24 rfl rfl
theorem dX5_taken_0 : decode cX5_taken 0 = .ok (.aload_n 0, 1) := dk_42 (dk_at dksX5_taken_0 0 rfl rfl)
theorem dX5_taken_1 : decode cX5_taken 1 = .ok (.iload_n 1, 1) := dk_27 (dk_at dksX5_taken_0 1 rfl rfl)
theorem dX5_taken_2 : decode cX5_taken 2 = .ok (.invokevirtual 133, 3) := dk_182 0 133 (dk_at dksX5_taken_0 2 rfl rfl)
theorem dX5_taken_5 : decode cX5_taken 5 = .ok (.ifCond .eq 15, 3) := dk_153 0 15 (dk_at dksX5_taken_0 5 rfl rfl)
theorem dX5_taken_8 : decode cX5_taken 8 = .ok (.iload_n 2, 1) := dk_28 (dk_at dksX5_taken_0 8 rfl rfl)
theorem dX5_taken_9 : decode cX5_taken 9 = .ok (.i2l, 1) := dk_133 (dk_at dksX5_taken_0 9 rfl rfl)
theorem dX5_taken_10 : decode cX5_taken 10 = .ok (.lconst 1, 1) := dk_10 (dk_at dksX5_taken_0 10 rfl rfl)
theorem dX5_taken_11 : decode cX5_taken 11 = .ok (.ldc2_w 193, 3) := dk_20 0 193 (dk_at dksX5_taken_0 11 rfl rfl)
theorem dX5_taken_14 : decode cX5_taken 14 = .ok (.invokestatic 71, 3) := dk_184 0 71 (dk_at dksX5_taken_0 14 rfl rfl)
theorem dX5_taken_17 : decode cX5_taken 17 = .ok (.ifCond .ne 6, 3) := dk_154 0 6 (dk_at dksX5_taken_0 17 rfl rfl)
theorem dX5_taken_20 : decode cX5_taken 20 = .ok (.ldc 100, 2) := dk_18 100 (dk_at dksX5_taken_0 20 rfl rfl)
theorem dX5_taken_22 : decode cX5_taken 22 = .ok (.ireturn, 1) := dk_172 (dk_at dksX5_taken_0 22 rfl rfl)
theorem dX5_taken_23 : decode cX5_taken 23 = .ok (.aload_n 0, 1) := dk_42 (dk_at dksX5_taken_0 23 rfl rfl)
theorem dX5_taken_24 : decode cX5_taken 24 = .ok (.iload_n 1, 1) := dk_27 (dk_at dksX5_taken_1 0 rfl rfl)
theorem dX5_taken_25 : decode cX5_taken 25 = .ok (.invokevirtual 119, 3) := dk_182 0 119 (dk_at dksX5_taken_1 1 rfl rfl)
theorem dX5_taken_28 : decode cX5_taken 28 = .ok (.ifCond .ne 6, 3) := dk_154 0 6 (dk_at dksX5_taken_1 4 rfl rfl)
theorem dX5_taken_31 : decode cX5_taken 31 = .ok (.ldc 152, 2) := dk_18 152 (dk_at dksX5_taken_1 7 rfl rfl)
theorem dX5_taken_33 : decode cX5_taken 33 = .ok (.ireturn, 1) := dk_172 (dk_at dksX5_taken_1 9 rfl rfl)
theorem dX5_taken_34 : decode cX5_taken 34 = .ok (.aload_n 0, 1) := dk_42 (dk_at dksX5_taken_1 10 rfl rfl)
theorem dX5_taken_35 : decode cX5_taken 35 = .ok (.invokevirtual 181, 3) := dk_182 0 181 (dk_at dksX5_taken_1 11 rfl rfl)
theorem dX5_taken_38 : decode cX5_taken 38 = .ok (.aload_n 0, 1) := dk_42 (dk_at dksX5_taken_1 14 rfl rfl)
theorem dX5_taken_39 : decode cX5_taken 39 = .ok (.iload_n 2, 1) := dk_28 (dk_at dksX5_taken_1 15 rfl rfl)
theorem dX5_taken_40 : decode cX5_taken 40 = .ok (.invokevirtual 184, 3) := dk_182 0 184 (dk_at dksX5_taken_1 16 rfl rfl)
theorem dX5_taken_43 : decode cX5_taken 43 = .ok (.aload_n 0, 1) := dk_42 (dk_at dksX5_taken_1 19 rfl rfl)
theorem dX5_taken_44 : decode cX5_taken 44 = .ok (.invokevirtual 123, 3) := dk_182 0 123 (dk_at dksX5_taken_1 20 rfl rfl)
theorem dX5_taken_47 : decode cX5_taken 47 = .ok (.istore_n 3, 1) := dk_62 (dk_at dksX5_taken_1 23 rfl rfl)
theorem dX5_taken_48 : decode cX5_taken 48 = .ok (.aload_n 0, 1) := dk_42 (dk_at dksX5_taken_2 0 rfl rfl)
theorem dX5_taken_49 : decode cX5_taken 49 = .ok (.invokevirtual 187, 3) := dk_182 0 187 (dk_at dksX5_taken_2 1 rfl rfl)
theorem dX5_taken_52 : decode cX5_taken 52 = .ok (.aload_n 0, 1) := dk_42 (dk_at dksX5_taken_2 4 rfl rfl)
theorem dX5_taken_53 : decode cX5_taken 53 = .ok (.iload_n 1, 1) := dk_27 (dk_at dksX5_taken_2 5 rfl rfl)
theorem dX5_taken_54 : decode cX5_taken 54 = .ok (.invokevirtual 153, 3) := dk_182 0 153 (dk_at dksX5_taken_2 6 rfl rfl)
theorem dX5_taken_57 : decode cX5_taken 57 = .ok (.aload_n 0, 1) := dk_42 (dk_at dksX5_taken_2 9 rfl rfl)
theorem dX5_taken_58 : decode cX5_taken 58 = .ok (.iload_n 2, 1) := dk_28 (dk_at dksX5_taken_2 10 rfl rfl)
theorem dX5_taken_59 : decode cX5_taken 59 = .ok (.invokevirtual 184, 3) := dk_182 0 184 (dk_at dksX5_taken_2 11 rfl rfl)
theorem dX5_taken_62 : decode cX5_taken 62 = .ok (.iload_n 3, 1) := dk_29 (dk_at dksX5_taken_2 14 rfl rfl)
theorem dX5_taken_63 : decode cX5_taken 63 = .ok (.aload_n 0, 1) := dk_42 (dk_at dksX5_taken_2 15 rfl rfl)
theorem dX5_taken_64 : decode cX5_taken 64 = .ok (.invokevirtual 123, 3) := dk_182 0 123 (dk_at dksX5_taken_2 16 rfl rfl)
theorem dX5_taken_67 : decode cX5_taken 67 = .ok (.iconst (-1), 1) := dk_2 (dk_at dksX5_taken_2 19 rfl rfl)
theorem dX5_taken_68 : decode cX5_taken 68 = .ok (.ixor, 1) := dk_130 (dk_at dksX5_taken_2 20 rfl rfl)
theorem dX5_taken_69 : decode cX5_taken 69 = .ok (.iand, 1) := dk_126 (dk_at dksX5_taken_2 21 rfl rfl)
theorem dX5_taken_70 : decode cX5_taken 70 = .ok (.iconst 1, 1) := dk_4 (dk_at dksX5_taken_2 22 rfl rfl)
theorem dX5_taken_71 : decode cX5_taken 71 = .ok (.iload_n 1, 1) := dk_27 (dk_at dksX5_taken_2 23 rfl rfl)
theorem dX5_taken_72 : decode cX5_taken 72 = .ok (.ishl, 1) := dk_120 (dk_at dksX5_taken_3 0 rfl rfl)
theorem dX5_taken_73 : decode cX5_taken 73 = .ok (.iconst (-1), 1) := dk_2 (dk_at dksX5_taken_3 1 rfl rfl)
theorem dX5_taken_74 : decode cX5_taken 74 = .ok (.ixor, 1) := dk_130 (dk_at dksX5_taken_3 2 rfl rfl)
theorem dX5_taken_75 : decode cX5_taken 75 = .ok (.iand, 1) := dk_126 (dk_at dksX5_taken_3 3 rfl rfl)
theorem dX5_taken_76 : decode cX5_taken 76 = .ok (.istore 4, 2) := dk_54 4 (dk_at dksX5_taken_3 4 rfl rfl)
theorem dX5_taken_78 : decode cX5_taken 78 = .ok (.aload_n 0, 1) := dk_42 (dk_at dksX5_taken_3 6 rfl rfl)
theorem dX5_taken_79 : decode cX5_taken 79 = .ok (.invokevirtual 187, 3) := dk_182 0 187 (dk_at dksX5_taken_3 7 rfl rfl)
theorem dX5_taken_82 : decode cX5_taken 82 = .ok (.iload 4, 2) := dk_21 4 (dk_at dksX5_taken_3 10 rfl rfl)
theorem dX5_taken_84 : decode cX5_taken 84 = .ok (.ireturn, 1) := dk_172 (dk_at dksX5_taken_3 12 rfl rfl)
abbrev cX5_propped : ByteArray := prog_18_method_48_code
def yX5_propped : MethodName := ⟨RX5, "propped", "(I)I"⟩
def dkwX5_propped_4 : List UInt8 := [132, 3, 1, 167, 255, 201, 132, 2, 1, 167, 255, 187, 18, 70, 172]
abbrev dktX5_propped_4 : List UInt8 := dkwX5_propped_4 ++ []
def dkwX5_propped_3 : List UInt8 := [182, 0, 75, 28, 96, 182, 0, 80, 42, 27, 182, 0, 197, 153, 0, 10, 16, 10, 29, 104, 28, 96, 172]
abbrev dktX5_propped_3 : List UInt8 := dkwX5_propped_3 ++ dktX5_propped_4
def dkwX5_propped_2 : List UInt8 := [162, 0, 51, 42, 29, 8, 182, 0, 75, 28, 96, 16, 9, 163, 0, 32, 42, 29, 8, 42, 29, 8]
abbrev dktX5_propped_2 : List UInt8 := dkwX5_propped_2 ++ dktX5_propped_3
def dkwX5_propped_1 : List UInt8 := [153, 0, 5, 3, 172, 4, 61, 28, 16, 9, 163, 0, 69, 3, 62, 29, 42, 180, 0, 7, 3, 46]
abbrev dktX5_propped_1 : List UInt8 := dkwX5_propped_1 ++ dktX5_propped_2
def dkwX5_propped_0 : List UInt8 := [27, 133, 10, 20, 0, 195, 184, 0, 71, 154, 0, 6, 18, 100, 172, 42, 182, 0, 181, 42, 27, 182, 0, 197]
abbrev dktX5_propped_0 : List UInt8 := dkwX5_propped_0 ++ dktX5_propped_1
theorem dksX5_propped_0 : cX5_propped.data.toList.drop 0 = dktX5_propped_0 := by decide +kernel
theorem dksX5_propped_1 : cX5_propped.data.toList.drop 24 = dktX5_propped_1 := dk_seg dksX5_propped_0 24 rfl rfl
theorem dksX5_propped_2 : cX5_propped.data.toList.drop 46 = dktX5_propped_2 := dk_seg dksX5_propped_1 22 rfl rfl
theorem dksX5_propped_3 : cX5_propped.data.toList.drop 68 = dktX5_propped_3 := dk_seg dksX5_propped_2 22 rfl rfl
theorem dksX5_propped_4 : cX5_propped.data.toList.drop 91 = dktX5_propped_4 := dk_seg dksX5_propped_3 23 rfl rfl
theorem dX5_propped_0 : decode cX5_propped 0 = .ok (.iload_n 1, 1) := dk_27 (dk_at dksX5_propped_0 0 rfl rfl)
theorem dX5_propped_1 : decode cX5_propped 1 = .ok (.i2l, 1) := dk_133 (dk_at dksX5_propped_0 1 rfl rfl)
theorem dX5_propped_2 : decode cX5_propped 2 = .ok (.lconst 1, 1) := dk_10 (dk_at dksX5_propped_0 2 rfl rfl)
theorem dX5_propped_3 : decode cX5_propped 3 = .ok (.ldc2_w 195, 3) := dk_20 0 195 (dk_at dksX5_propped_0 3 rfl rfl)
theorem dX5_propped_6 : decode cX5_propped 6 = .ok (.invokestatic 71, 3) := dk_184 0 71 (dk_at dksX5_propped_0 6 rfl rfl)
theorem dX5_propped_9 : decode cX5_propped 9 = .ok (.ifCond .ne 6, 3) := dk_154 0 6 (dk_at dksX5_propped_0 9 rfl rfl)
theorem dX5_propped_12 : decode cX5_propped 12 = .ok (.ldc 100, 2) := dk_18 100 (dk_at dksX5_propped_0 12 rfl rfl)
theorem dX5_propped_14 : decode cX5_propped 14 = .ok (.ireturn, 1) := dk_172 (dk_at dksX5_propped_0 14 rfl rfl)
theorem dX5_propped_15 : decode cX5_propped 15 = .ok (.aload_n 0, 1) := dk_42 (dk_at dksX5_propped_0 15 rfl rfl)
theorem dX5_propped_16 : decode cX5_propped 16 = .ok (.invokevirtual 181, 3) := dk_182 0 181 (dk_at dksX5_propped_0 16 rfl rfl)
theorem dX5_propped_19 : decode cX5_propped 19 = .ok (.aload_n 0, 1) := dk_42 (dk_at dksX5_propped_0 19 rfl rfl)
theorem dX5_propped_20 : decode cX5_propped 20 = .ok (.iload_n 1, 1) := dk_27 (dk_at dksX5_propped_0 20 rfl rfl)
theorem dX5_propped_21 : decode cX5_propped 21 = .ok (.invokevirtual 197, 3) := dk_182 0 197 (dk_at dksX5_propped_0 21 rfl rfl)
theorem dX5_propped_24 : decode cX5_propped 24 = .ok (.ifCond .eq 5, 3) := dk_153 0 5 (dk_at dksX5_propped_1 0 rfl rfl)
theorem dX5_propped_27 : decode cX5_propped 27 = .ok (.iconst 0, 1) := dk_3 (dk_at dksX5_propped_1 3 rfl rfl)
theorem dX5_propped_28 : decode cX5_propped 28 = .ok (.ireturn, 1) := dk_172 (dk_at dksX5_propped_1 4 rfl rfl)
theorem dX5_propped_29 : decode cX5_propped 29 = .ok (.iconst 1, 1) := dk_4 (dk_at dksX5_propped_1 5 rfl rfl)
theorem dX5_propped_30 : decode cX5_propped 30 = .ok (.istore_n 2, 1) := dk_61 (dk_at dksX5_propped_1 6 rfl rfl)
theorem dX5_propped_31 : decode cX5_propped 31 = .ok (.iload_n 2, 1) := dk_28 (dk_at dksX5_propped_1 7 rfl rfl)
theorem dX5_propped_32 : decode cX5_propped 32 = .ok (.bipush 9, 2) := dk_16 9 (dk_at dksX5_propped_1 8 rfl rfl)
theorem dX5_propped_34 : decode cX5_propped 34 = .ok (.if_icmp .gt 69, 3) := dk_163 0 69 (dk_at dksX5_propped_1 10 rfl rfl)
theorem dX5_propped_37 : decode cX5_propped 37 = .ok (.iconst 0, 1) := dk_3 (dk_at dksX5_propped_1 13 rfl rfl)
theorem dX5_propped_38 : decode cX5_propped 38 = .ok (.istore_n 3, 1) := dk_62 (dk_at dksX5_propped_1 14 rfl rfl)
theorem dX5_propped_39 : decode cX5_propped 39 = .ok (.iload_n 3, 1) := dk_29 (dk_at dksX5_propped_1 15 rfl rfl)
theorem dX5_propped_40 : decode cX5_propped 40 = .ok (.aload_n 0, 1) := dk_42 (dk_at dksX5_propped_1 16 rfl rfl)
theorem dX5_propped_41 : decode cX5_propped 41 = .ok (.getfield 7, 3) := dk_180 0 7 (dk_at dksX5_propped_1 17 rfl rfl)
theorem dX5_propped_44 : decode cX5_propped 44 = .ok (.iconst 0, 1) := dk_3 (dk_at dksX5_propped_1 20 rfl rfl)
theorem dX5_propped_45 : decode cX5_propped 45 = .ok (.iaload, 1) := dk_46 (dk_at dksX5_propped_1 21 rfl rfl)
theorem dX5_propped_46 : decode cX5_propped 46 = .ok (.if_icmp .ge 51, 3) := dk_162 0 51 (dk_at dksX5_propped_2 0 rfl rfl)
theorem dX5_propped_49 : decode cX5_propped 49 = .ok (.aload_n 0, 1) := dk_42 (dk_at dksX5_propped_2 3 rfl rfl)
theorem dX5_propped_50 : decode cX5_propped 50 = .ok (.iload_n 3, 1) := dk_29 (dk_at dksX5_propped_2 4 rfl rfl)
theorem dX5_propped_51 : decode cX5_propped 51 = .ok (.iconst 5, 1) := dk_8 (dk_at dksX5_propped_2 5 rfl rfl)
theorem dX5_propped_52 : decode cX5_propped 52 = .ok (.invokevirtual 75, 3) := dk_182 0 75 (dk_at dksX5_propped_2 6 rfl rfl)
theorem dX5_propped_55 : decode cX5_propped 55 = .ok (.iload_n 2, 1) := dk_28 (dk_at dksX5_propped_2 9 rfl rfl)
theorem dX5_propped_56 : decode cX5_propped 56 = .ok (.iadd, 1) := dk_96 (dk_at dksX5_propped_2 10 rfl rfl)
theorem dX5_propped_57 : decode cX5_propped 57 = .ok (.bipush 9, 2) := dk_16 9 (dk_at dksX5_propped_2 11 rfl rfl)
theorem dX5_propped_59 : decode cX5_propped 59 = .ok (.if_icmp .gt 32, 3) := dk_163 0 32 (dk_at dksX5_propped_2 13 rfl rfl)
theorem dX5_propped_62 : decode cX5_propped 62 = .ok (.aload_n 0, 1) := dk_42 (dk_at dksX5_propped_2 16 rfl rfl)
theorem dX5_propped_63 : decode cX5_propped 63 = .ok (.iload_n 3, 1) := dk_29 (dk_at dksX5_propped_2 17 rfl rfl)
theorem dX5_propped_64 : decode cX5_propped 64 = .ok (.iconst 5, 1) := dk_8 (dk_at dksX5_propped_2 18 rfl rfl)
theorem dX5_propped_65 : decode cX5_propped 65 = .ok (.aload_n 0, 1) := dk_42 (dk_at dksX5_propped_2 19 rfl rfl)
theorem dX5_propped_66 : decode cX5_propped 66 = .ok (.iload_n 3, 1) := dk_29 (dk_at dksX5_propped_2 20 rfl rfl)
theorem dX5_propped_67 : decode cX5_propped 67 = .ok (.iconst 5, 1) := dk_8 (dk_at dksX5_propped_2 21 rfl rfl)
theorem dX5_propped_68 : decode cX5_propped 68 = .ok (.invokevirtual 75, 3) := dk_182 0 75 (dk_at dksX5_propped_3 0 rfl rfl)
theorem dX5_propped_71 : decode cX5_propped 71 = .ok (.iload_n 2, 1) := dk_28 (dk_at dksX5_propped_3 3 rfl rfl)
theorem dX5_propped_72 : decode cX5_propped 72 = .ok (.iadd, 1) := dk_96 (dk_at dksX5_propped_3 4 rfl rfl)
theorem dX5_propped_73 : decode cX5_propped 73 = .ok (.invokevirtual 80, 3) := dk_182 0 80 (dk_at dksX5_propped_3 5 rfl rfl)
theorem dX5_propped_76 : decode cX5_propped 76 = .ok (.aload_n 0, 1) := dk_42 (dk_at dksX5_propped_3 8 rfl rfl)
theorem dX5_propped_77 : decode cX5_propped 77 = .ok (.iload_n 1, 1) := dk_27 (dk_at dksX5_propped_3 9 rfl rfl)
theorem dX5_propped_78 : decode cX5_propped 78 = .ok (.invokevirtual 197, 3) := dk_182 0 197 (dk_at dksX5_propped_3 10 rfl rfl)
theorem dX5_propped_81 : decode cX5_propped 81 = .ok (.ifCond .eq 10, 3) := dk_153 0 10 (dk_at dksX5_propped_3 13 rfl rfl)
theorem dX5_propped_84 : decode cX5_propped 84 = .ok (.bipush 10, 2) := dk_16 10 (dk_at dksX5_propped_3 16 rfl rfl)
theorem dX5_propped_86 : decode cX5_propped 86 = .ok (.iload_n 3, 1) := dk_29 (dk_at dksX5_propped_3 18 rfl rfl)
theorem dX5_propped_87 : decode cX5_propped 87 = .ok (.imul, 1) := dk_104 (dk_at dksX5_propped_3 19 rfl rfl)
theorem dX5_propped_88 : decode cX5_propped 88 = .ok (.iload_n 2, 1) := dk_28 (dk_at dksX5_propped_3 20 rfl rfl)
theorem dX5_propped_89 : decode cX5_propped 89 = .ok (.iadd, 1) := dk_96 (dk_at dksX5_propped_3 21 rfl rfl)
theorem dX5_propped_90 : decode cX5_propped 90 = .ok (.ireturn, 1) := dk_172 (dk_at dksX5_propped_3 22 rfl rfl)
theorem dX5_propped_91 : decode cX5_propped 91 = .ok (.iinc 3 1, 3) := dk_132 3 1 (dk_at dksX5_propped_4 0 rfl rfl)
theorem dX5_propped_94 : decode cX5_propped 94 = .ok (.goto (-55), 3) := dk_167 255 201 (dk_at dksX5_propped_4 3 rfl rfl)
theorem dX5_propped_97 : decode cX5_propped 97 = .ok (.iinc 2 1, 3) := dk_132 2 1 (dk_at dksX5_propped_4 6 rfl rfl)
theorem dX5_propped_100 : decode cX5_propped 100 = .ok (.goto (-69), 3) := dk_167 255 187 (dk_at dksX5_propped_4 9 rfl rfl)
theorem dX5_propped_103 : decode cX5_propped 103 = .ok (.ldc 70, 2) := dk_18 70 (dk_at dksX5_propped_4 12 rfl rfl)
theorem dX5_propped_105 : decode cX5_propped 105 = .ok (.ireturn, 1) := dk_172 (dk_at dksX5_propped_4 14 rfl rfl)
abbrev cX5_keeps : ByteArray := prog_18_method_47_code
def yX5_keeps : MethodName := ⟨RX5, "keeps", "(I)Z"⟩
def dkwX5_keeps_1 : List UInt8 := [42, 182, 0, 187, 29, 172]
abbrev dktX5_keeps_1 : List UInt8 := dkwX5_keeps_1 ++ []
def dkwX5_keeps_0 : List UInt8 := [42, 182, 0, 123, 61, 42, 27, 182, 0, 184, 42, 182, 0, 123, 28, 160, 0, 7, 4, 167, 0, 4, 3, 62]
abbrev dktX5_keeps_0 : List UInt8 := dkwX5_keeps_0 ++ dktX5_keeps_1
theorem dksX5_keeps_0 : cX5_keeps.data.toList.drop 0 = dktX5_keeps_0 := by decide +kernel
theorem dksX5_keeps_1 : cX5_keeps.data.toList.drop 24 = dktX5_keeps_1 := dk_seg dksX5_keeps_0 24 rfl rfl
theorem dX5_keeps_0 : decode cX5_keeps 0 = .ok (.aload_n 0, 1) := dk_42 (dk_at dksX5_keeps_0 0 rfl rfl)
theorem dX5_keeps_1 : decode cX5_keeps 1 = .ok (.invokevirtual 123, 3) := dk_182 0 123 (dk_at dksX5_keeps_0 1 rfl rfl)
theorem dX5_keeps_4 : decode cX5_keeps 4 = .ok (.istore_n 2, 1) := dk_61 (dk_at dksX5_keeps_0 4 rfl rfl)
theorem dX5_keeps_5 : decode cX5_keeps 5 = .ok (.aload_n 0, 1) := dk_42 (dk_at dksX5_keeps_0 5 rfl rfl)
theorem dX5_keeps_6 : decode cX5_keeps 6 = .ok (.iload_n 1, 1) := dk_27 (dk_at dksX5_keeps_0 6 rfl rfl)
theorem dX5_keeps_7 : decode cX5_keeps 7 = .ok (.invokevirtual 184, 3) := dk_182 0 184 (dk_at dksX5_keeps_0 7 rfl rfl)
theorem dX5_keeps_10 : decode cX5_keeps 10 = .ok (.aload_n 0, 1) := dk_42 (dk_at dksX5_keeps_0 10 rfl rfl)
theorem dX5_keeps_11 : decode cX5_keeps 11 = .ok (.invokevirtual 123, 3) := dk_182 0 123 (dk_at dksX5_keeps_0 11 rfl rfl)
theorem dX5_keeps_14 : decode cX5_keeps 14 = .ok (.iload_n 2, 1) := dk_28 (dk_at dksX5_keeps_0 14 rfl rfl)
theorem dX5_keeps_15 : decode cX5_keeps 15 = .ok (.if_icmp .ne 7, 3) := dk_160 0 7 (dk_at dksX5_keeps_0 15 rfl rfl)
theorem dX5_keeps_18 : decode cX5_keeps 18 = .ok (.iconst 1, 1) := dk_4 (dk_at dksX5_keeps_0 18 rfl rfl)
theorem dX5_keeps_19 : decode cX5_keeps 19 = .ok (.goto 4, 3) := dk_167 0 4 (dk_at dksX5_keeps_0 19 rfl rfl)
theorem dX5_keeps_22 : decode cX5_keeps 22 = .ok (.iconst 0, 1) := dk_3 (dk_at dksX5_keeps_0 22 rfl rfl)
theorem dX5_keeps_23 : decode cX5_keeps 23 = .ok (.istore_n 3, 1) := dk_62 (dk_at dksX5_keeps_0 23 rfl rfl)
theorem dX5_keeps_24 : decode cX5_keeps 24 = .ok (.aload_n 0, 1) := dk_42 (dk_at dksX5_keeps_1 0 rfl rfl)
theorem dX5_keeps_25 : decode cX5_keeps 25 = .ok (.invokevirtual 187, 3) := dk_182 0 187 (dk_at dksX5_keeps_1 1 rfl rfl)
theorem dX5_keeps_28 : decode cX5_keeps 28 = .ok (.iload_n 3, 1) := dk_29 (dk_at dksX5_keeps_1 4 rfl rfl)
theorem dX5_keeps_29 : decode cX5_keeps 29 = .ok (.ireturn, 1) := dk_172 (dk_at dksX5_keeps_1 5 rfl rfl)
abbrev cX5_wall : ByteArray := prog_18_method_49_code
def yX5_wall : MethodName := ⟨RX5, "wall", "(II)I"⟩
def dkwX5_wall_4 : List UInt8 := [167, 255, 199, 29, 156, 0, 8, 18, 70, 167, 0, 13, 28, 154, 0, 7, 29, 167, 0, 5, 21, 4, 172]
abbrev dktX5_wall_4 : List UInt8 := dkwX5_wall_4 ++ []
def dkwX5_wall_3 : List UInt8 := [182, 0, 187, 29, 155, 0, 10, 21, 6, 21, 4, 164, 0, 10, 21, 5, 62, 21, 6, 54, 4, 132, 5, 1]
abbrev dktX5_wall_3 : List UInt8 := dkwX5_wall_3 ++ dktX5_wall_4
def dkwX5_wall_2 : List UInt8 := [42, 21, 5, 6, 3, 182, 0, 80, 42, 27, 182, 0, 184, 42, 16, 6, 182, 0, 175, 54, 6, 42]
abbrev dktX5_wall_2 : List UInt8 := dkwX5_wall_2 ++ dktX5_wall_3
def dkwX5_wall_1 : List UInt8 := [172, 42, 182, 0, 181, 2, 62, 3, 54, 4, 3, 54, 5, 21, 5, 42, 180, 0, 7, 3, 46, 162, 0, 52]
abbrev dktX5_wall_1 : List UInt8 := dkwX5_wall_1 ++ dktX5_wall_2
def dkwX5_wall_0 : List UInt8 := [27, 133, 10, 20, 0, 193, 184, 0, 71, 153, 0, 13, 28, 133, 9, 10, 184, 0, 71, 154, 0, 6, 18, 100]
abbrev dktX5_wall_0 : List UInt8 := dkwX5_wall_0 ++ dktX5_wall_1
theorem dksX5_wall_0 : cX5_wall.data.toList.drop 0 = dktX5_wall_0 := by decide +kernel
theorem dksX5_wall_1 : cX5_wall.data.toList.drop 24 = dktX5_wall_1 := dk_seg dksX5_wall_0 24 rfl rfl
theorem dksX5_wall_2 : cX5_wall.data.toList.drop 48 = dktX5_wall_2 := dk_seg dksX5_wall_1 24 rfl rfl
theorem dksX5_wall_3 : cX5_wall.data.toList.drop 70 = dktX5_wall_3 := dk_seg dksX5_wall_2 22 rfl rfl
theorem dksX5_wall_4 : cX5_wall.data.toList.drop 94 = dktX5_wall_4 := dk_seg dksX5_wall_3 24 rfl rfl
theorem dX5_wall_0 : decode cX5_wall 0 = .ok (.iload_n 1, 1) := dk_27 (dk_at dksX5_wall_0 0 rfl rfl)
theorem dX5_wall_1 : decode cX5_wall 1 = .ok (.i2l, 1) := dk_133 (dk_at dksX5_wall_0 1 rfl rfl)
theorem dX5_wall_2 : decode cX5_wall 2 = .ok (.lconst 1, 1) := dk_10 (dk_at dksX5_wall_0 2 rfl rfl)
theorem dX5_wall_3 : decode cX5_wall 3 = .ok (.ldc2_w 193, 3) := dk_20 0 193 (dk_at dksX5_wall_0 3 rfl rfl)
theorem dX5_wall_6 : decode cX5_wall 6 = .ok (.invokestatic 71, 3) := dk_184 0 71 (dk_at dksX5_wall_0 6 rfl rfl)
theorem dX5_wall_9 : decode cX5_wall 9 = .ok (.ifCond .eq 13, 3) := dk_153 0 13 (dk_at dksX5_wall_0 9 rfl rfl)
theorem dX5_wall_12 : decode cX5_wall 12 = .ok (.iload_n 2, 1) := dk_28 (dk_at dksX5_wall_0 12 rfl rfl)
theorem dX5_wall_13 : decode cX5_wall 13 = .ok (.i2l, 1) := dk_133 (dk_at dksX5_wall_0 13 rfl rfl)
theorem dX5_wall_14 : decode cX5_wall 14 = .ok (.lconst 0, 1) := dk_9 (dk_at dksX5_wall_0 14 rfl rfl)
theorem dX5_wall_15 : decode cX5_wall 15 = .ok (.lconst 1, 1) := dk_10 (dk_at dksX5_wall_0 15 rfl rfl)
theorem dX5_wall_16 : decode cX5_wall 16 = .ok (.invokestatic 71, 3) := dk_184 0 71 (dk_at dksX5_wall_0 16 rfl rfl)
theorem dX5_wall_19 : decode cX5_wall 19 = .ok (.ifCond .ne 6, 3) := dk_154 0 6 (dk_at dksX5_wall_0 19 rfl rfl)
theorem dX5_wall_22 : decode cX5_wall 22 = .ok (.ldc 100, 2) := dk_18 100 (dk_at dksX5_wall_0 22 rfl rfl)
theorem dX5_wall_24 : decode cX5_wall 24 = .ok (.ireturn, 1) := dk_172 (dk_at dksX5_wall_1 0 rfl rfl)
theorem dX5_wall_25 : decode cX5_wall 25 = .ok (.aload_n 0, 1) := dk_42 (dk_at dksX5_wall_1 1 rfl rfl)
theorem dX5_wall_26 : decode cX5_wall 26 = .ok (.invokevirtual 181, 3) := dk_182 0 181 (dk_at dksX5_wall_1 2 rfl rfl)
theorem dX5_wall_29 : decode cX5_wall 29 = .ok (.iconst (-1), 1) := dk_2 (dk_at dksX5_wall_1 5 rfl rfl)
theorem dX5_wall_30 : decode cX5_wall 30 = .ok (.istore_n 3, 1) := dk_62 (dk_at dksX5_wall_1 6 rfl rfl)
theorem dX5_wall_31 : decode cX5_wall 31 = .ok (.iconst 0, 1) := dk_3 (dk_at dksX5_wall_1 7 rfl rfl)
theorem dX5_wall_32 : decode cX5_wall 32 = .ok (.istore 4, 2) := dk_54 4 (dk_at dksX5_wall_1 8 rfl rfl)
theorem dX5_wall_34 : decode cX5_wall 34 = .ok (.iconst 0, 1) := dk_3 (dk_at dksX5_wall_1 10 rfl rfl)
theorem dX5_wall_35 : decode cX5_wall 35 = .ok (.istore 5, 2) := dk_54 5 (dk_at dksX5_wall_1 11 rfl rfl)
theorem dX5_wall_37 : decode cX5_wall 37 = .ok (.iload 5, 2) := dk_21 5 (dk_at dksX5_wall_1 13 rfl rfl)
theorem dX5_wall_39 : decode cX5_wall 39 = .ok (.aload_n 0, 1) := dk_42 (dk_at dksX5_wall_1 15 rfl rfl)
theorem dX5_wall_40 : decode cX5_wall 40 = .ok (.getfield 7, 3) := dk_180 0 7 (dk_at dksX5_wall_1 16 rfl rfl)
theorem dX5_wall_43 : decode cX5_wall 43 = .ok (.iconst 0, 1) := dk_3 (dk_at dksX5_wall_1 19 rfl rfl)
theorem dX5_wall_44 : decode cX5_wall 44 = .ok (.iaload, 1) := dk_46 (dk_at dksX5_wall_1 20 rfl rfl)
theorem dX5_wall_45 : decode cX5_wall 45 = .ok (.if_icmp .ge 52, 3) := dk_162 0 52 (dk_at dksX5_wall_1 21 rfl rfl)
theorem dX5_wall_48 : decode cX5_wall 48 = .ok (.aload_n 0, 1) := dk_42 (dk_at dksX5_wall_2 0 rfl rfl)
theorem dX5_wall_49 : decode cX5_wall 49 = .ok (.iload 5, 2) := dk_21 5 (dk_at dksX5_wall_2 1 rfl rfl)
theorem dX5_wall_51 : decode cX5_wall 51 = .ok (.iconst 3, 1) := dk_6 (dk_at dksX5_wall_2 3 rfl rfl)
theorem dX5_wall_52 : decode cX5_wall 52 = .ok (.iconst 0, 1) := dk_3 (dk_at dksX5_wall_2 4 rfl rfl)
theorem dX5_wall_53 : decode cX5_wall 53 = .ok (.invokevirtual 80, 3) := dk_182 0 80 (dk_at dksX5_wall_2 5 rfl rfl)
theorem dX5_wall_56 : decode cX5_wall 56 = .ok (.aload_n 0, 1) := dk_42 (dk_at dksX5_wall_2 8 rfl rfl)
theorem dX5_wall_57 : decode cX5_wall 57 = .ok (.iload_n 1, 1) := dk_27 (dk_at dksX5_wall_2 9 rfl rfl)
theorem dX5_wall_58 : decode cX5_wall 58 = .ok (.invokevirtual 184, 3) := dk_182 0 184 (dk_at dksX5_wall_2 10 rfl rfl)
theorem dX5_wall_61 : decode cX5_wall 61 = .ok (.aload_n 0, 1) := dk_42 (dk_at dksX5_wall_2 13 rfl rfl)
theorem dX5_wall_62 : decode cX5_wall 62 = .ok (.bipush 6, 2) := dk_16 6 (dk_at dksX5_wall_2 14 rfl rfl)
theorem dX5_wall_64 : decode cX5_wall 64 = .ok (.invokevirtual 175, 3) := dk_182 0 175 (dk_at dksX5_wall_2 16 rfl rfl)
theorem dX5_wall_67 : decode cX5_wall 67 = .ok (.istore 6, 2) := dk_54 6 (dk_at dksX5_wall_2 19 rfl rfl)
theorem dX5_wall_69 : decode cX5_wall 69 = .ok (.aload_n 0, 1) := dk_42 (dk_at dksX5_wall_2 21 rfl rfl)
theorem dX5_wall_70 : decode cX5_wall 70 = .ok (.invokevirtual 187, 3) := dk_182 0 187 (dk_at dksX5_wall_3 0 rfl rfl)
theorem dX5_wall_73 : decode cX5_wall 73 = .ok (.iload_n 3, 1) := dk_29 (dk_at dksX5_wall_3 3 rfl rfl)
theorem dX5_wall_74 : decode cX5_wall 74 = .ok (.ifCond .lt 10, 3) := dk_155 0 10 (dk_at dksX5_wall_3 4 rfl rfl)
theorem dX5_wall_77 : decode cX5_wall 77 = .ok (.iload 6, 2) := dk_21 6 (dk_at dksX5_wall_3 7 rfl rfl)
theorem dX5_wall_79 : decode cX5_wall 79 = .ok (.iload 4, 2) := dk_21 4 (dk_at dksX5_wall_3 9 rfl rfl)
theorem dX5_wall_81 : decode cX5_wall 81 = .ok (.if_icmp .le 10, 3) := dk_164 0 10 (dk_at dksX5_wall_3 11 rfl rfl)
theorem dX5_wall_84 : decode cX5_wall 84 = .ok (.iload 5, 2) := dk_21 5 (dk_at dksX5_wall_3 14 rfl rfl)
theorem dX5_wall_86 : decode cX5_wall 86 = .ok (.istore_n 3, 1) := dk_62 (dk_at dksX5_wall_3 16 rfl rfl)
theorem dX5_wall_87 : decode cX5_wall 87 = .ok (.iload 6, 2) := dk_21 6 (dk_at dksX5_wall_3 17 rfl rfl)
theorem dX5_wall_89 : decode cX5_wall 89 = .ok (.istore 4, 2) := dk_54 4 (dk_at dksX5_wall_3 19 rfl rfl)
theorem dX5_wall_91 : decode cX5_wall 91 = .ok (.iinc 5 1, 3) := dk_132 5 1 (dk_at dksX5_wall_3 21 rfl rfl)
theorem dX5_wall_94 : decode cX5_wall 94 = .ok (.goto (-57), 3) := dk_167 255 199 (dk_at dksX5_wall_4 0 rfl rfl)
theorem dX5_wall_97 : decode cX5_wall 97 = .ok (.iload_n 3, 1) := dk_29 (dk_at dksX5_wall_4 3 rfl rfl)
theorem dX5_wall_98 : decode cX5_wall 98 = .ok (.ifCond .ge 8, 3) := dk_156 0 8 (dk_at dksX5_wall_4 4 rfl rfl)
theorem dX5_wall_101 : decode cX5_wall 101 = .ok (.ldc 70, 2) := dk_18 70 (dk_at dksX5_wall_4 7 rfl rfl)
theorem dX5_wall_103 : decode cX5_wall 103 = .ok (.goto 13, 3) := dk_167 0 13 (dk_at dksX5_wall_4 9 rfl rfl)
theorem dX5_wall_106 : decode cX5_wall 106 = .ok (.iload_n 2, 1) := dk_28 (dk_at dksX5_wall_4 12 rfl rfl)
theorem dX5_wall_107 : decode cX5_wall 107 = .ok (.ifCond .ne 7, 3) := dk_154 0 7 (dk_at dksX5_wall_4 13 rfl rfl)
theorem dX5_wall_110 : decode cX5_wall 110 = .ok (.iload_n 3, 1) := dk_29 (dk_at dksX5_wall_4 16 rfl rfl)
theorem dX5_wall_111 : decode cX5_wall 111 = .ok (.goto 5, 3) := dk_167 0 5 (dk_at dksX5_wall_4 17 rfl rfl)
theorem dX5_wall_114 : decode cX5_wall 114 = .ok (.iload 4, 2) := dk_21 4 (dk_at dksX5_wall_4 20 rfl rfl)
theorem dX5_wall_116 : decode cX5_wall 116 = .ok (.ireturn, 1) := dk_172 (dk_at dksX5_wall_4 22 rfl rfl)
abbrev cX5_snows : ByteArray := prog_18_method_50_code
def yX5_snows : MethodName := ⟨RX5, "snows", "(I)I"⟩
def dkwX5_snows_2 : List UInt8 := [167, 255, 232, 18, 70, 172]
abbrev dktX5_snows_2 : List UInt8 := dkwX5_snows_2 ++ []
def dkwX5_snows_1 : List UInt8 := [155, 0, 26, 42, 180, 0, 7, 7, 28, 79, 42, 27, 182, 0, 197, 153, 0, 5, 28, 172, 132, 2, 255]
abbrev dktX5_snows_1 : List UInt8 := dkwX5_snows_1 ++ dktX5_snows_2
def dkwX5_snows_0 : List UInt8 := [27, 133, 10, 20, 0, 193, 184, 0, 71, 154, 0, 6, 18, 100, 172, 42, 182, 0, 181, 16, 20, 61, 28]
abbrev dktX5_snows_0 : List UInt8 := dkwX5_snows_0 ++ dktX5_snows_1
theorem dksX5_snows_0 : cX5_snows.data.toList.drop 0 = dktX5_snows_0 := by decide +kernel
theorem dksX5_snows_1 : cX5_snows.data.toList.drop 23 = dktX5_snows_1 := dk_seg dksX5_snows_0 23 rfl rfl
theorem dksX5_snows_2 : cX5_snows.data.toList.drop 46 = dktX5_snows_2 := dk_seg dksX5_snows_1 23 rfl rfl
theorem dX5_snows_0 : decode cX5_snows 0 = .ok (.iload_n 1, 1) := dk_27 (dk_at dksX5_snows_0 0 rfl rfl)
theorem dX5_snows_1 : decode cX5_snows 1 = .ok (.i2l, 1) := dk_133 (dk_at dksX5_snows_0 1 rfl rfl)
theorem dX5_snows_2 : decode cX5_snows 2 = .ok (.lconst 1, 1) := dk_10 (dk_at dksX5_snows_0 2 rfl rfl)
theorem dX5_snows_3 : decode cX5_snows 3 = .ok (.ldc2_w 193, 3) := dk_20 0 193 (dk_at dksX5_snows_0 3 rfl rfl)
theorem dX5_snows_6 : decode cX5_snows 6 = .ok (.invokestatic 71, 3) := dk_184 0 71 (dk_at dksX5_snows_0 6 rfl rfl)
theorem dX5_snows_9 : decode cX5_snows 9 = .ok (.ifCond .ne 6, 3) := dk_154 0 6 (dk_at dksX5_snows_0 9 rfl rfl)
theorem dX5_snows_12 : decode cX5_snows 12 = .ok (.ldc 100, 2) := dk_18 100 (dk_at dksX5_snows_0 12 rfl rfl)
theorem dX5_snows_14 : decode cX5_snows 14 = .ok (.ireturn, 1) := dk_172 (dk_at dksX5_snows_0 14 rfl rfl)
theorem dX5_snows_15 : decode cX5_snows 15 = .ok (.aload_n 0, 1) := dk_42 (dk_at dksX5_snows_0 15 rfl rfl)
theorem dX5_snows_16 : decode cX5_snows 16 = .ok (.invokevirtual 181, 3) := dk_182 0 181 (dk_at dksX5_snows_0 16 rfl rfl)
theorem dX5_snows_19 : decode cX5_snows 19 = .ok (.bipush 20, 2) := dk_16 20 (dk_at dksX5_snows_0 19 rfl rfl)
theorem dX5_snows_21 : decode cX5_snows 21 = .ok (.istore_n 2, 1) := dk_61 (dk_at dksX5_snows_0 21 rfl rfl)
theorem dX5_snows_22 : decode cX5_snows 22 = .ok (.iload_n 2, 1) := dk_28 (dk_at dksX5_snows_0 22 rfl rfl)
theorem dX5_snows_23 : decode cX5_snows 23 = .ok (.ifCond .lt 26, 3) := dk_155 0 26 (dk_at dksX5_snows_1 0 rfl rfl)
theorem dX5_snows_26 : decode cX5_snows 26 = .ok (.aload_n 0, 1) := dk_42 (dk_at dksX5_snows_1 3 rfl rfl)
theorem dX5_snows_27 : decode cX5_snows 27 = .ok (.getfield 7, 3) := dk_180 0 7 (dk_at dksX5_snows_1 4 rfl rfl)
theorem dX5_snows_30 : decode cX5_snows 30 = .ok (.iconst 4, 1) := dk_7 (dk_at dksX5_snows_1 7 rfl rfl)
theorem dX5_snows_31 : decode cX5_snows 31 = .ok (.iload_n 2, 1) := dk_28 (dk_at dksX5_snows_1 8 rfl rfl)
theorem dX5_snows_32 : decode cX5_snows 32 = .ok (.iastore, 1) := dk_79 (dk_at dksX5_snows_1 9 rfl rfl)
theorem dX5_snows_33 : decode cX5_snows 33 = .ok (.aload_n 0, 1) := dk_42 (dk_at dksX5_snows_1 10 rfl rfl)
theorem dX5_snows_34 : decode cX5_snows 34 = .ok (.iload_n 1, 1) := dk_27 (dk_at dksX5_snows_1 11 rfl rfl)
theorem dX5_snows_35 : decode cX5_snows 35 = .ok (.invokevirtual 197, 3) := dk_182 0 197 (dk_at dksX5_snows_1 12 rfl rfl)
theorem dX5_snows_38 : decode cX5_snows 38 = .ok (.ifCond .eq 5, 3) := dk_153 0 5 (dk_at dksX5_snows_1 15 rfl rfl)
theorem dX5_snows_41 : decode cX5_snows 41 = .ok (.iload_n 2, 1) := dk_28 (dk_at dksX5_snows_1 18 rfl rfl)
theorem dX5_snows_42 : decode cX5_snows 42 = .ok (.ireturn, 1) := dk_172 (dk_at dksX5_snows_1 19 rfl rfl)
theorem dX5_snows_43 : decode cX5_snows 43 = .ok (.iinc 2 (-1), 3) := dk_132 2 255 (dk_at dksX5_snows_1 20 rfl rfl)
theorem dX5_snows_46 : decode cX5_snows 46 = .ok (.goto (-24), 3) := dk_167 255 232 (dk_at dksX5_snows_2 0 rfl rfl)
theorem dX5_snows_49 : decode cX5_snows 49 = .ok (.ldc 70, 2) := dk_18 70 (dk_at dksX5_snows_2 3 rfl rfl)
theorem dX5_snows_51 : decode cX5_snows 51 = .ok (.ireturn, 1) := dk_172 (dk_at dksX5_snows_2 5 rfl rfl)
abbrev cX5_fee : ByteArray := prog_18_method_51_code
def yX5_fee : MethodName := ⟨RX5, "fee", "()I"⟩
def dkwX5_fee_2 : List UInt8 := [172]
abbrev dktX5_fee_2 : List UInt8 := dkwX5_fee_2 ++ []
def dkwX5_fee_1 : List UInt8 := [180, 0, 7, 6, 46, 79, 42, 180, 0, 55, 16, 100, 42, 180, 0, 7, 5, 46, 79, 42, 27, 182, 0, 113]
abbrev dktX5_fee_1 : List UInt8 := dkwX5_fee_1 ++ dktX5_fee_2
def dkwX5_fee_0 : List UInt8 := [42, 4, 182, 0, 109, 60, 27, 156, 0, 10, 42, 180, 0, 7, 6, 46, 172, 42, 180, 0, 55, 16, 114, 42]
abbrev dktX5_fee_0 : List UInt8 := dkwX5_fee_0 ++ dktX5_fee_1
theorem dksX5_fee_0 : cX5_fee.data.toList.drop 0 = dktX5_fee_0 := by decide +kernel
theorem dksX5_fee_1 : cX5_fee.data.toList.drop 24 = dktX5_fee_1 := dk_seg dksX5_fee_0 24 rfl rfl
theorem dksX5_fee_2 : cX5_fee.data.toList.drop 48 = dktX5_fee_2 := dk_seg dksX5_fee_1 24 rfl rfl
theorem dX5_fee_0 : decode cX5_fee 0 = .ok (.aload_n 0, 1) := dk_42 (dk_at dksX5_fee_0 0 rfl rfl)
theorem dX5_fee_1 : decode cX5_fee 1 = .ok (.iconst 1, 1) := dk_4 (dk_at dksX5_fee_0 1 rfl rfl)
theorem dX5_fee_2 : decode cX5_fee 2 = .ok (.invokevirtual 109, 3) := dk_182 0 109 (dk_at dksX5_fee_0 2 rfl rfl)
theorem dX5_fee_5 : decode cX5_fee 5 = .ok (.istore_n 1, 1) := dk_60 (dk_at dksX5_fee_0 5 rfl rfl)
theorem dX5_fee_6 : decode cX5_fee 6 = .ok (.iload_n 1, 1) := dk_27 (dk_at dksX5_fee_0 6 rfl rfl)
theorem dX5_fee_7 : decode cX5_fee 7 = .ok (.ifCond .ge 10, 3) := dk_156 0 10 (dk_at dksX5_fee_0 7 rfl rfl)
theorem dX5_fee_10 : decode cX5_fee 10 = .ok (.aload_n 0, 1) := dk_42 (dk_at dksX5_fee_0 10 rfl rfl)
theorem dX5_fee_11 : decode cX5_fee 11 = .ok (.getfield 7, 3) := dk_180 0 7 (dk_at dksX5_fee_0 11 rfl rfl)
theorem dX5_fee_14 : decode cX5_fee 14 = .ok (.iconst 3, 1) := dk_6 (dk_at dksX5_fee_0 14 rfl rfl)
theorem dX5_fee_15 : decode cX5_fee 15 = .ok (.iaload, 1) := dk_46 (dk_at dksX5_fee_0 15 rfl rfl)
theorem dX5_fee_16 : decode cX5_fee 16 = .ok (.ireturn, 1) := dk_172 (dk_at dksX5_fee_0 16 rfl rfl)
theorem dX5_fee_17 : decode cX5_fee 17 = .ok (.aload_n 0, 1) := dk_42 (dk_at dksX5_fee_0 17 rfl rfl)
theorem dX5_fee_18 : decode cX5_fee 18 = .ok (.getfield 55, 3) := dk_180 0 55 (dk_at dksX5_fee_0 18 rfl rfl)
theorem dX5_fee_21 : decode cX5_fee 21 = .ok (.bipush 114, 2) := dk_16 114 (dk_at dksX5_fee_0 21 rfl rfl)
theorem dX5_fee_23 : decode cX5_fee 23 = .ok (.aload_n 0, 1) := dk_42 (dk_at dksX5_fee_0 23 rfl rfl)
theorem dX5_fee_24 : decode cX5_fee 24 = .ok (.getfield 7, 3) := dk_180 0 7 (dk_at dksX5_fee_1 0 rfl rfl)
theorem dX5_fee_27 : decode cX5_fee 27 = .ok (.iconst 3, 1) := dk_6 (dk_at dksX5_fee_1 3 rfl rfl)
theorem dX5_fee_28 : decode cX5_fee 28 = .ok (.iaload, 1) := dk_46 (dk_at dksX5_fee_1 4 rfl rfl)
theorem dX5_fee_29 : decode cX5_fee 29 = .ok (.iastore, 1) := dk_79 (dk_at dksX5_fee_1 5 rfl rfl)
theorem dX5_fee_30 : decode cX5_fee 30 = .ok (.aload_n 0, 1) := dk_42 (dk_at dksX5_fee_1 6 rfl rfl)
theorem dX5_fee_31 : decode cX5_fee 31 = .ok (.getfield 55, 3) := dk_180 0 55 (dk_at dksX5_fee_1 7 rfl rfl)
theorem dX5_fee_34 : decode cX5_fee 34 = .ok (.bipush 100, 2) := dk_16 100 (dk_at dksX5_fee_1 10 rfl rfl)
theorem dX5_fee_36 : decode cX5_fee 36 = .ok (.aload_n 0, 1) := dk_42 (dk_at dksX5_fee_1 12 rfl rfl)
theorem dX5_fee_37 : decode cX5_fee 37 = .ok (.getfield 7, 3) := dk_180 0 7 (dk_at dksX5_fee_1 13 rfl rfl)
theorem dX5_fee_40 : decode cX5_fee 40 = .ok (.iconst 2, 1) := dk_5 (dk_at dksX5_fee_1 16 rfl rfl)
theorem dX5_fee_41 : decode cX5_fee 41 = .ok (.iaload, 1) := dk_46 (dk_at dksX5_fee_1 17 rfl rfl)
theorem dX5_fee_42 : decode cX5_fee 42 = .ok (.iastore, 1) := dk_79 (dk_at dksX5_fee_1 18 rfl rfl)
theorem dX5_fee_43 : decode cX5_fee 43 = .ok (.aload_n 0, 1) := dk_42 (dk_at dksX5_fee_1 19 rfl rfl)
theorem dX5_fee_44 : decode cX5_fee 44 = .ok (.iload_n 1, 1) := dk_27 (dk_at dksX5_fee_1 20 rfl rfl)
theorem dX5_fee_45 : decode cX5_fee 45 = .ok (.invokevirtual 113, 3) := dk_182 0 113 (dk_at dksX5_fee_1 21 rfl rfl)
theorem dX5_fee_48 : decode cX5_fee 48 = .ok (.ireturn, 1) := dk_172 (dk_at dksX5_fee_2 0 rfl rfl)
abbrev cX5_fine : ByteArray := prog_18_method_52_code
def yX5_fine : MethodName := ⟨RX5, "fine", "(I)I"⟩
def dkwX5_fine_2 : List UInt8 := [27, 8, 182, 0, 75, 79, 42, 28, 182, 0, 113, 172]
abbrev dktX5_fine_2 : List UInt8 := dkwX5_fine_2 ++ []
def dkwX5_fine_1 : List UInt8 := [182, 0, 75, 172, 42, 180, 0, 55, 16, 99, 42, 27, 7, 182, 0, 75, 79, 42, 180, 0, 55, 16, 112, 42]
abbrev dktX5_fine_1 : List UInt8 := dkwX5_fine_1 ++ dktX5_fine_2
def dkwX5_fine_0 : List UInt8 := [42, 27, 182, 0, 133, 154, 0, 6, 18, 100, 172, 42, 5, 182, 0, 109, 61, 28, 156, 0, 10, 42, 27, 7]
abbrev dktX5_fine_0 : List UInt8 := dkwX5_fine_0 ++ dktX5_fine_1
theorem dksX5_fine_0 : cX5_fine.data.toList.drop 0 = dktX5_fine_0 := by decide +kernel
theorem dksX5_fine_1 : cX5_fine.data.toList.drop 24 = dktX5_fine_1 := dk_seg dksX5_fine_0 24 rfl rfl
theorem dksX5_fine_2 : cX5_fine.data.toList.drop 48 = dktX5_fine_2 := dk_seg dksX5_fine_1 24 rfl rfl
theorem dX5_fine_0 : decode cX5_fine 0 = .ok (.aload_n 0, 1) := dk_42 (dk_at dksX5_fine_0 0 rfl rfl)
theorem dX5_fine_1 : decode cX5_fine 1 = .ok (.iload_n 1, 1) := dk_27 (dk_at dksX5_fine_0 1 rfl rfl)
theorem dX5_fine_2 : decode cX5_fine 2 = .ok (.invokevirtual 133, 3) := dk_182 0 133 (dk_at dksX5_fine_0 2 rfl rfl)
theorem dX5_fine_5 : decode cX5_fine 5 = .ok (.ifCond .ne 6, 3) := dk_154 0 6 (dk_at dksX5_fine_0 5 rfl rfl)
theorem dX5_fine_8 : decode cX5_fine 8 = .ok (.ldc 100, 2) := dk_18 100 (dk_at dksX5_fine_0 8 rfl rfl)
theorem dX5_fine_10 : decode cX5_fine 10 = .ok (.ireturn, 1) := dk_172 (dk_at dksX5_fine_0 10 rfl rfl)
theorem dX5_fine_11 : decode cX5_fine 11 = .ok (.aload_n 0, 1) := dk_42 (dk_at dksX5_fine_0 11 rfl rfl)
theorem dX5_fine_12 : decode cX5_fine 12 = .ok (.iconst 2, 1) := dk_5 (dk_at dksX5_fine_0 12 rfl rfl)
theorem dX5_fine_13 : decode cX5_fine 13 = .ok (.invokevirtual 109, 3) := dk_182 0 109 (dk_at dksX5_fine_0 13 rfl rfl)
theorem dX5_fine_16 : decode cX5_fine 16 = .ok (.istore_n 2, 1) := dk_61 (dk_at dksX5_fine_0 16 rfl rfl)
theorem dX5_fine_17 : decode cX5_fine 17 = .ok (.iload_n 2, 1) := dk_28 (dk_at dksX5_fine_0 17 rfl rfl)
theorem dX5_fine_18 : decode cX5_fine 18 = .ok (.ifCond .ge 10, 3) := dk_156 0 10 (dk_at dksX5_fine_0 18 rfl rfl)
theorem dX5_fine_21 : decode cX5_fine 21 = .ok (.aload_n 0, 1) := dk_42 (dk_at dksX5_fine_0 21 rfl rfl)
theorem dX5_fine_22 : decode cX5_fine 22 = .ok (.iload_n 1, 1) := dk_27 (dk_at dksX5_fine_0 22 rfl rfl)
theorem dX5_fine_23 : decode cX5_fine 23 = .ok (.iconst 4, 1) := dk_7 (dk_at dksX5_fine_0 23 rfl rfl)
theorem dX5_fine_24 : decode cX5_fine 24 = .ok (.invokevirtual 75, 3) := dk_182 0 75 (dk_at dksX5_fine_1 0 rfl rfl)
theorem dX5_fine_27 : decode cX5_fine 27 = .ok (.ireturn, 1) := dk_172 (dk_at dksX5_fine_1 3 rfl rfl)
theorem dX5_fine_28 : decode cX5_fine 28 = .ok (.aload_n 0, 1) := dk_42 (dk_at dksX5_fine_1 4 rfl rfl)
theorem dX5_fine_29 : decode cX5_fine 29 = .ok (.getfield 55, 3) := dk_180 0 55 (dk_at dksX5_fine_1 5 rfl rfl)
theorem dX5_fine_32 : decode cX5_fine 32 = .ok (.bipush 99, 2) := dk_16 99 (dk_at dksX5_fine_1 8 rfl rfl)
theorem dX5_fine_34 : decode cX5_fine 34 = .ok (.aload_n 0, 1) := dk_42 (dk_at dksX5_fine_1 10 rfl rfl)
theorem dX5_fine_35 : decode cX5_fine 35 = .ok (.iload_n 1, 1) := dk_27 (dk_at dksX5_fine_1 11 rfl rfl)
theorem dX5_fine_36 : decode cX5_fine 36 = .ok (.iconst 4, 1) := dk_7 (dk_at dksX5_fine_1 12 rfl rfl)
theorem dX5_fine_37 : decode cX5_fine 37 = .ok (.invokevirtual 75, 3) := dk_182 0 75 (dk_at dksX5_fine_1 13 rfl rfl)
theorem dX5_fine_40 : decode cX5_fine 40 = .ok (.iastore, 1) := dk_79 (dk_at dksX5_fine_1 16 rfl rfl)
theorem dX5_fine_41 : decode cX5_fine 41 = .ok (.aload_n 0, 1) := dk_42 (dk_at dksX5_fine_1 17 rfl rfl)
theorem dX5_fine_42 : decode cX5_fine 42 = .ok (.getfield 55, 3) := dk_180 0 55 (dk_at dksX5_fine_1 18 rfl rfl)
theorem dX5_fine_45 : decode cX5_fine 45 = .ok (.bipush 112, 2) := dk_16 112 (dk_at dksX5_fine_1 21 rfl rfl)
theorem dX5_fine_47 : decode cX5_fine 47 = .ok (.aload_n 0, 1) := dk_42 (dk_at dksX5_fine_1 23 rfl rfl)
theorem dX5_fine_48 : decode cX5_fine 48 = .ok (.iload_n 1, 1) := dk_27 (dk_at dksX5_fine_2 0 rfl rfl)
theorem dX5_fine_49 : decode cX5_fine 49 = .ok (.iconst 5, 1) := dk_8 (dk_at dksX5_fine_2 1 rfl rfl)
theorem dX5_fine_50 : decode cX5_fine 50 = .ok (.invokevirtual 75, 3) := dk_182 0 75 (dk_at dksX5_fine_2 2 rfl rfl)
theorem dX5_fine_53 : decode cX5_fine 53 = .ok (.iastore, 1) := dk_79 (dk_at dksX5_fine_2 5 rfl rfl)
theorem dX5_fine_54 : decode cX5_fine 54 = .ok (.aload_n 0, 1) := dk_42 (dk_at dksX5_fine_2 6 rfl rfl)
theorem dX5_fine_55 : decode cX5_fine 55 = .ok (.iload_n 2, 1) := dk_28 (dk_at dksX5_fine_2 7 rfl rfl)
theorem dX5_fine_56 : decode cX5_fine 56 = .ok (.invokevirtual 113, 3) := dk_182 0 113 (dk_at dksX5_fine_2 8 rfl rfl)
theorem dX5_fine_59 : decode cX5_fine 59 = .ok (.ireturn, 1) := dk_172 (dk_at dksX5_fine_2 11 rfl rfl)
abbrev cX5_feed : ByteArray := prog_18_method_53_code
def yX5_feed : MethodName := ⟨RX5, "feed", "(III)I"⟩
def dkwX5_feed_4 : List UInt8 := [180, 0, 200, 172]
abbrev dktX5_feed_4 : List UInt8 := dkwX5_feed_4 ++ []
def dkwX5_feed_3 : List UInt8 := [17, 0, 255, 126, 79, 42, 89, 180, 0, 200, 4, 96, 181, 0, 200, 132, 4, 1, 167, 255, 186, 42]
abbrev dktX5_feed_3 : List UInt8 := dkwX5_feed_3 ++ dktX5_feed_4
def dkwX5_feed_2 : List UInt8 := [29, 54, 5, 42, 180, 0, 52, 42, 180, 0, 200, 21, 5, 16, 24, 16, 8, 21, 4, 7, 112, 104, 100, 122]
abbrev dktX5_feed_2 : List UInt8 := dkwX5_feed_2 ++ dktX5_feed_3
def dkwX5_feed_1 : List UInt8 := [162, 0, 69, 21, 4, 7, 162, 0, 7, 27, 167, 0, 15, 21, 4, 16, 8, 162, 0, 7, 28, 167, 0, 4]
abbrev dktX5_feed_1 : List UInt8 := dkwX5_feed_1 ++ dktX5_feed_2
def dkwX5_feed_0 : List UInt8 := [42, 180, 0, 200, 16, 12, 96, 16, 96, 164, 0, 6, 18, 101, 172, 3, 54, 4, 21, 4, 16, 12]
abbrev dktX5_feed_0 : List UInt8 := dkwX5_feed_0 ++ dktX5_feed_1
theorem dksX5_feed_0 : cX5_feed.data.toList.drop 0 = dktX5_feed_0 := by decide +kernel
theorem dksX5_feed_1 : cX5_feed.data.toList.drop 22 = dktX5_feed_1 := dk_seg dksX5_feed_0 22 rfl rfl
theorem dksX5_feed_2 : cX5_feed.data.toList.drop 46 = dktX5_feed_2 := dk_seg dksX5_feed_1 24 rfl rfl
theorem dksX5_feed_3 : cX5_feed.data.toList.drop 70 = dktX5_feed_3 := dk_seg dksX5_feed_2 24 rfl rfl
theorem dksX5_feed_4 : cX5_feed.data.toList.drop 92 = dktX5_feed_4 := dk_seg dksX5_feed_3 22 rfl rfl
theorem dX5_feed_0 : decode cX5_feed 0 = .ok (.aload_n 0, 1) := dk_42 (dk_at dksX5_feed_0 0 rfl rfl)
theorem dX5_feed_1 : decode cX5_feed 1 = .ok (.getfield 200, 3) := dk_180 0 200 (dk_at dksX5_feed_0 1 rfl rfl)
theorem dX5_feed_4 : decode cX5_feed 4 = .ok (.bipush 12, 2) := dk_16 12 (dk_at dksX5_feed_0 4 rfl rfl)
theorem dX5_feed_6 : decode cX5_feed 6 = .ok (.iadd, 1) := dk_96 (dk_at dksX5_feed_0 6 rfl rfl)
theorem dX5_feed_7 : decode cX5_feed 7 = .ok (.bipush 96, 2) := dk_16 96 (dk_at dksX5_feed_0 7 rfl rfl)
theorem dX5_feed_9 : decode cX5_feed 9 = .ok (.if_icmp .le 6, 3) := dk_164 0 6 (dk_at dksX5_feed_0 9 rfl rfl)
theorem dX5_feed_12 : decode cX5_feed 12 = .ok (.ldc 101, 2) := dk_18 101 (dk_at dksX5_feed_0 12 rfl rfl)
theorem dX5_feed_14 : decode cX5_feed 14 = .ok (.ireturn, 1) := dk_172 (dk_at dksX5_feed_0 14 rfl rfl)
theorem dX5_feed_15 : decode cX5_feed 15 = .ok (.iconst 0, 1) := dk_3 (dk_at dksX5_feed_0 15 rfl rfl)
theorem dX5_feed_16 : decode cX5_feed 16 = .ok (.istore 4, 2) := dk_54 4 (dk_at dksX5_feed_0 16 rfl rfl)
theorem dX5_feed_18 : decode cX5_feed 18 = .ok (.iload 4, 2) := dk_21 4 (dk_at dksX5_feed_0 18 rfl rfl)
theorem dX5_feed_20 : decode cX5_feed 20 = .ok (.bipush 12, 2) := dk_16 12 (dk_at dksX5_feed_0 20 rfl rfl)
theorem dX5_feed_22 : decode cX5_feed 22 = .ok (.if_icmp .ge 69, 3) := dk_162 0 69 (dk_at dksX5_feed_1 0 rfl rfl)
theorem dX5_feed_25 : decode cX5_feed 25 = .ok (.iload 4, 2) := dk_21 4 (dk_at dksX5_feed_1 3 rfl rfl)
theorem dX5_feed_27 : decode cX5_feed 27 = .ok (.iconst 4, 1) := dk_7 (dk_at dksX5_feed_1 5 rfl rfl)
theorem dX5_feed_28 : decode cX5_feed 28 = .ok (.if_icmp .ge 7, 3) := dk_162 0 7 (dk_at dksX5_feed_1 6 rfl rfl)
theorem dX5_feed_31 : decode cX5_feed 31 = .ok (.iload_n 1, 1) := dk_27 (dk_at dksX5_feed_1 9 rfl rfl)
theorem dX5_feed_32 : decode cX5_feed 32 = .ok (.goto 15, 3) := dk_167 0 15 (dk_at dksX5_feed_1 10 rfl rfl)
theorem dX5_feed_35 : decode cX5_feed 35 = .ok (.iload 4, 2) := dk_21 4 (dk_at dksX5_feed_1 13 rfl rfl)
theorem dX5_feed_37 : decode cX5_feed 37 = .ok (.bipush 8, 2) := dk_16 8 (dk_at dksX5_feed_1 15 rfl rfl)
theorem dX5_feed_39 : decode cX5_feed 39 = .ok (.if_icmp .ge 7, 3) := dk_162 0 7 (dk_at dksX5_feed_1 17 rfl rfl)
theorem dX5_feed_42 : decode cX5_feed 42 = .ok (.iload_n 2, 1) := dk_28 (dk_at dksX5_feed_1 20 rfl rfl)
theorem dX5_feed_43 : decode cX5_feed 43 = .ok (.goto 4, 3) := dk_167 0 4 (dk_at dksX5_feed_1 21 rfl rfl)
theorem dX5_feed_46 : decode cX5_feed 46 = .ok (.iload_n 3, 1) := dk_29 (dk_at dksX5_feed_2 0 rfl rfl)
theorem dX5_feed_47 : decode cX5_feed 47 = .ok (.istore 5, 2) := dk_54 5 (dk_at dksX5_feed_2 1 rfl rfl)
theorem dX5_feed_49 : decode cX5_feed 49 = .ok (.aload_n 0, 1) := dk_42 (dk_at dksX5_feed_2 3 rfl rfl)
theorem dX5_feed_50 : decode cX5_feed 50 = .ok (.getfield 52, 3) := dk_180 0 52 (dk_at dksX5_feed_2 4 rfl rfl)
theorem dX5_feed_53 : decode cX5_feed 53 = .ok (.aload_n 0, 1) := dk_42 (dk_at dksX5_feed_2 7 rfl rfl)
theorem dX5_feed_54 : decode cX5_feed 54 = .ok (.getfield 200, 3) := dk_180 0 200 (dk_at dksX5_feed_2 8 rfl rfl)
theorem dX5_feed_57 : decode cX5_feed 57 = .ok (.iload 5, 2) := dk_21 5 (dk_at dksX5_feed_2 11 rfl rfl)
theorem dX5_feed_59 : decode cX5_feed 59 = .ok (.bipush 24, 2) := dk_16 24 (dk_at dksX5_feed_2 13 rfl rfl)
theorem dX5_feed_61 : decode cX5_feed 61 = .ok (.bipush 8, 2) := dk_16 8 (dk_at dksX5_feed_2 15 rfl rfl)
theorem dX5_feed_63 : decode cX5_feed 63 = .ok (.iload 4, 2) := dk_21 4 (dk_at dksX5_feed_2 17 rfl rfl)
theorem dX5_feed_65 : decode cX5_feed 65 = .ok (.iconst 4, 1) := dk_7 (dk_at dksX5_feed_2 19 rfl rfl)
theorem dX5_feed_66 : decode cX5_feed 66 = .ok (.irem, 1) := dk_112 (dk_at dksX5_feed_2 20 rfl rfl)
theorem dX5_feed_67 : decode cX5_feed 67 = .ok (.imul, 1) := dk_104 (dk_at dksX5_feed_2 21 rfl rfl)
theorem dX5_feed_68 : decode cX5_feed 68 = .ok (.isub, 1) := dk_100 (dk_at dksX5_feed_2 22 rfl rfl)
theorem dX5_feed_69 : decode cX5_feed 69 = .ok (.ishr, 1) := dk_122 (dk_at dksX5_feed_2 23 rfl rfl)
theorem dX5_feed_70 : decode cX5_feed 70 = .ok (.sipush 255, 3) := dk_17 0 255 (dk_at dksX5_feed_3 0 rfl rfl)
theorem dX5_feed_73 : decode cX5_feed 73 = .ok (.iand, 1) := dk_126 (dk_at dksX5_feed_3 3 rfl rfl)
theorem dX5_feed_74 : decode cX5_feed 74 = .ok (.iastore, 1) := dk_79 (dk_at dksX5_feed_3 4 rfl rfl)
theorem dX5_feed_75 : decode cX5_feed 75 = .ok (.aload_n 0, 1) := dk_42 (dk_at dksX5_feed_3 5 rfl rfl)
theorem dX5_feed_76 : decode cX5_feed 76 = .ok (.dup, 1) := dk_89 (dk_at dksX5_feed_3 6 rfl rfl)
theorem dX5_feed_77 : decode cX5_feed 77 = .ok (.getfield 200, 3) := dk_180 0 200 (dk_at dksX5_feed_3 7 rfl rfl)
theorem dX5_feed_80 : decode cX5_feed 80 = .ok (.iconst 1, 1) := dk_4 (dk_at dksX5_feed_3 10 rfl rfl)
theorem dX5_feed_81 : decode cX5_feed 81 = .ok (.iadd, 1) := dk_96 (dk_at dksX5_feed_3 11 rfl rfl)
theorem dX5_feed_82 : decode cX5_feed 82 = .ok (.putfield 200, 3) := dk_181 0 200 (dk_at dksX5_feed_3 12 rfl rfl)
theorem dX5_feed_85 : decode cX5_feed 85 = .ok (.iinc 4 1, 3) := dk_132 4 1 (dk_at dksX5_feed_3 15 rfl rfl)
theorem dX5_feed_88 : decode cX5_feed 88 = .ok (.goto (-70), 3) := dk_167 255 186 (dk_at dksX5_feed_3 18 rfl rfl)
theorem dX5_feed_91 : decode cX5_feed 91 = .ok (.aload_n 0, 1) := dk_42 (dk_at dksX5_feed_3 21 rfl rfl)
theorem dX5_feed_92 : decode cX5_feed 92 = .ok (.getfield 200, 3) := dk_180 0 200 (dk_at dksX5_feed_4 0 rfl rfl)
theorem dX5_feed_95 : decode cX5_feed 95 = .ok (.ireturn, 1) := dk_172 (dk_at dksX5_feed_4 3 rfl rfl)
abbrev cX5_trim : ByteArray := prog_18_method_54_code
def yX5_trim : MethodName := ⟨RX5, "trim", "(I)I"⟩
def dkwX5_trim_0 : List UInt8 := [27, 133, 9, 42, 180, 0, 200, 133, 184, 0, 71, 154, 0, 6, 18, 100, 172, 42, 27, 181, 0, 200, 27, 172]
abbrev dktX5_trim_0 : List UInt8 := dkwX5_trim_0 ++ []
theorem dksX5_trim_0 : cX5_trim.data.toList.drop 0 = dktX5_trim_0 := by decide +kernel
theorem dX5_trim_0 : decode cX5_trim 0 = .ok (.iload_n 1, 1) := dk_27 (dk_at dksX5_trim_0 0 rfl rfl)
theorem dX5_trim_1 : decode cX5_trim 1 = .ok (.i2l, 1) := dk_133 (dk_at dksX5_trim_0 1 rfl rfl)
theorem dX5_trim_2 : decode cX5_trim 2 = .ok (.lconst 0, 1) := dk_9 (dk_at dksX5_trim_0 2 rfl rfl)
theorem dX5_trim_3 : decode cX5_trim 3 = .ok (.aload_n 0, 1) := dk_42 (dk_at dksX5_trim_0 3 rfl rfl)
theorem dX5_trim_4 : decode cX5_trim 4 = .ok (.getfield 200, 3) := dk_180 0 200 (dk_at dksX5_trim_0 4 rfl rfl)
theorem dX5_trim_7 : decode cX5_trim 7 = .ok (.i2l, 1) := dk_133 (dk_at dksX5_trim_0 7 rfl rfl)
theorem dX5_trim_8 : decode cX5_trim 8 = .ok (.invokestatic 71, 3) := dk_184 0 71 (dk_at dksX5_trim_0 8 rfl rfl)
theorem dX5_trim_11 : decode cX5_trim 11 = .ok (.ifCond .ne 6, 3) := dk_154 0 6 (dk_at dksX5_trim_0 11 rfl rfl)
theorem dX5_trim_14 : decode cX5_trim 14 = .ok (.ldc 100, 2) := dk_18 100 (dk_at dksX5_trim_0 14 rfl rfl)
theorem dX5_trim_16 : decode cX5_trim 16 = .ok (.ireturn, 1) := dk_172 (dk_at dksX5_trim_0 16 rfl rfl)
theorem dX5_trim_17 : decode cX5_trim 17 = .ok (.aload_n 0, 1) := dk_42 (dk_at dksX5_trim_0 17 rfl rfl)
theorem dX5_trim_18 : decode cX5_trim 18 = .ok (.iload_n 1, 1) := dk_27 (dk_at dksX5_trim_0 18 rfl rfl)
theorem dX5_trim_19 : decode cX5_trim 19 = .ok (.putfield 200, 3) := dk_181 0 200 (dk_at dksX5_trim_0 19 rfl rfl)
theorem dX5_trim_22 : decode cX5_trim 22 = .ok (.iload_n 1, 1) := dk_27 (dk_at dksX5_trim_0 22 rfl rfl)
theorem dX5_trim_23 : decode cX5_trim 23 = .ok (.ireturn, 1) := dk_172 (dk_at dksX5_trim_0 23 rfl rfl)
abbrev cX5_text : ByteArray := prog_18_method_70_code
def yX5_text : MethodName := ⟨RX5, "text", "()I"⟩
def dkwX5_text_3 : List UInt8 := [180, 0, 240, 79, 42, 180, 0, 7, 4, 92, 46, 4, 96, 79, 42, 180, 0, 7, 4, 46, 4, 100, 172]
abbrev dktX5_text_3 : List UInt8 := dkwX5_text_3 ++ []
def dkwX5_text_2 : List UInt8 := [3, 96, 27, 79, 42, 180, 0, 7, 28, 4, 96, 42, 180, 1, 12, 79, 42, 180, 0, 7, 28, 5, 96, 42]
abbrev dktX5_text_2 : List UInt8 := dkwX5_text_2 ++ dktX5_text_3
def dkwX5_text_1 : List UInt8 := [16, 14, 160, 0, 6, 18, 101, 172, 42, 42, 180, 0, 7, 4, 46, 182, 1, 27, 61, 42, 180, 0, 7, 28]
abbrev dktX5_text_1 : List UInt8 := dkwX5_text_1 ++ dktX5_text_2
def dkwX5_text_0 : List UInt8 := [42, 182, 1, 33, 60, 27, 156, 0, 11, 16, 156, 42, 180, 0, 218, 100, 172, 42, 180, 0, 7, 4, 46]
abbrev dktX5_text_0 : List UInt8 := dkwX5_text_0 ++ dktX5_text_1
theorem dksX5_text_0 : cX5_text.data.toList.drop 0 = dktX5_text_0 := by decide +kernel
theorem dksX5_text_1 : cX5_text.data.toList.drop 23 = dktX5_text_1 := dk_seg dksX5_text_0 23 rfl rfl
theorem dksX5_text_2 : cX5_text.data.toList.drop 47 = dktX5_text_2 := dk_seg dksX5_text_1 24 rfl rfl
theorem dksX5_text_3 : cX5_text.data.toList.drop 71 = dktX5_text_3 := dk_seg dksX5_text_2 24 rfl rfl
theorem dX5_text_0 : decode cX5_text 0 = .ok (.aload_n 0, 1) := dk_42 (dk_at dksX5_text_0 0 rfl rfl)
theorem dX5_text_1 : decode cX5_text 1 = .ok (.invokevirtual 289, 3) := dk_182 1 33 (dk_at dksX5_text_0 1 rfl rfl)
theorem dX5_text_4 : decode cX5_text 4 = .ok (.istore_n 1, 1) := dk_60 (dk_at dksX5_text_0 4 rfl rfl)
theorem dX5_text_5 : decode cX5_text 5 = .ok (.iload_n 1, 1) := dk_27 (dk_at dksX5_text_0 5 rfl rfl)
theorem dX5_text_6 : decode cX5_text 6 = .ok (.ifCond .ge 11, 3) := dk_156 0 11 (dk_at dksX5_text_0 6 rfl rfl)
theorem dX5_text_9 : decode cX5_text 9 = .ok (.bipush (-100), 2) := dk_16 156 (dk_at dksX5_text_0 9 rfl rfl)
theorem dX5_text_11 : decode cX5_text 11 = .ok (.aload_n 0, 1) := dk_42 (dk_at dksX5_text_0 11 rfl rfl)
theorem dX5_text_12 : decode cX5_text 12 = .ok (.getfield 218, 3) := dk_180 0 218 (dk_at dksX5_text_0 12 rfl rfl)
theorem dX5_text_15 : decode cX5_text 15 = .ok (.isub, 1) := dk_100 (dk_at dksX5_text_0 15 rfl rfl)
theorem dX5_text_16 : decode cX5_text 16 = .ok (.ireturn, 1) := dk_172 (dk_at dksX5_text_0 16 rfl rfl)
theorem dX5_text_17 : decode cX5_text 17 = .ok (.aload_n 0, 1) := dk_42 (dk_at dksX5_text_0 17 rfl rfl)
theorem dX5_text_18 : decode cX5_text 18 = .ok (.getfield 7, 3) := dk_180 0 7 (dk_at dksX5_text_0 18 rfl rfl)
theorem dX5_text_21 : decode cX5_text 21 = .ok (.iconst 1, 1) := dk_4 (dk_at dksX5_text_0 21 rfl rfl)
theorem dX5_text_22 : decode cX5_text 22 = .ok (.iaload, 1) := dk_46 (dk_at dksX5_text_0 22 rfl rfl)
theorem dX5_text_23 : decode cX5_text 23 = .ok (.bipush 14, 2) := dk_16 14 (dk_at dksX5_text_1 0 rfl rfl)
theorem dX5_text_25 : decode cX5_text 25 = .ok (.if_icmp .ne 6, 3) := dk_160 0 6 (dk_at dksX5_text_1 2 rfl rfl)
theorem dX5_text_28 : decode cX5_text 28 = .ok (.ldc 101, 2) := dk_18 101 (dk_at dksX5_text_1 5 rfl rfl)
theorem dX5_text_30 : decode cX5_text 30 = .ok (.ireturn, 1) := dk_172 (dk_at dksX5_text_1 7 rfl rfl)
theorem dX5_text_31 : decode cX5_text 31 = .ok (.aload_n 0, 1) := dk_42 (dk_at dksX5_text_1 8 rfl rfl)
theorem dX5_text_32 : decode cX5_text 32 = .ok (.aload_n 0, 1) := dk_42 (dk_at dksX5_text_1 9 rfl rfl)
theorem dX5_text_33 : decode cX5_text 33 = .ok (.getfield 7, 3) := dk_180 0 7 (dk_at dksX5_text_1 10 rfl rfl)
theorem dX5_text_36 : decode cX5_text 36 = .ok (.iconst 1, 1) := dk_4 (dk_at dksX5_text_1 13 rfl rfl)
theorem dX5_text_37 : decode cX5_text 37 = .ok (.iaload, 1) := dk_46 (dk_at dksX5_text_1 14 rfl rfl)
theorem dX5_text_38 : decode cX5_text 38 = .ok (.invokevirtual 283, 3) := dk_182 1 27 (dk_at dksX5_text_1 15 rfl rfl)
theorem dX5_text_41 : decode cX5_text 41 = .ok (.istore_n 2, 1) := dk_61 (dk_at dksX5_text_1 18 rfl rfl)
theorem dX5_text_42 : decode cX5_text 42 = .ok (.aload_n 0, 1) := dk_42 (dk_at dksX5_text_1 19 rfl rfl)
theorem dX5_text_43 : decode cX5_text 43 = .ok (.getfield 7, 3) := dk_180 0 7 (dk_at dksX5_text_1 20 rfl rfl)
theorem dX5_text_46 : decode cX5_text 46 = .ok (.iload_n 2, 1) := dk_28 (dk_at dksX5_text_1 23 rfl rfl)
theorem dX5_text_47 : decode cX5_text 47 = .ok (.iconst 0, 1) := dk_3 (dk_at dksX5_text_2 0 rfl rfl)
theorem dX5_text_48 : decode cX5_text 48 = .ok (.iadd, 1) := dk_96 (dk_at dksX5_text_2 1 rfl rfl)
theorem dX5_text_49 : decode cX5_text 49 = .ok (.iload_n 1, 1) := dk_27 (dk_at dksX5_text_2 2 rfl rfl)
theorem dX5_text_50 : decode cX5_text 50 = .ok (.iastore, 1) := dk_79 (dk_at dksX5_text_2 3 rfl rfl)
theorem dX5_text_51 : decode cX5_text 51 = .ok (.aload_n 0, 1) := dk_42 (dk_at dksX5_text_2 4 rfl rfl)
theorem dX5_text_52 : decode cX5_text 52 = .ok (.getfield 7, 3) := dk_180 0 7 (dk_at dksX5_text_2 5 rfl rfl)
theorem dX5_text_55 : decode cX5_text 55 = .ok (.iload_n 2, 1) := dk_28 (dk_at dksX5_text_2 8 rfl rfl)
theorem dX5_text_56 : decode cX5_text 56 = .ok (.iconst 1, 1) := dk_4 (dk_at dksX5_text_2 9 rfl rfl)
theorem dX5_text_57 : decode cX5_text 57 = .ok (.iadd, 1) := dk_96 (dk_at dksX5_text_2 10 rfl rfl)
theorem dX5_text_58 : decode cX5_text 58 = .ok (.aload_n 0, 1) := dk_42 (dk_at dksX5_text_2 11 rfl rfl)
theorem dX5_text_59 : decode cX5_text 59 = .ok (.getfield 268, 3) := dk_180 1 12 (dk_at dksX5_text_2 12 rfl rfl)
theorem dX5_text_62 : decode cX5_text 62 = .ok (.iastore, 1) := dk_79 (dk_at dksX5_text_2 15 rfl rfl)
theorem dX5_text_63 : decode cX5_text 63 = .ok (.aload_n 0, 1) := dk_42 (dk_at dksX5_text_2 16 rfl rfl)
theorem dX5_text_64 : decode cX5_text 64 = .ok (.getfield 7, 3) := dk_180 0 7 (dk_at dksX5_text_2 17 rfl rfl)
theorem dX5_text_67 : decode cX5_text 67 = .ok (.iload_n 2, 1) := dk_28 (dk_at dksX5_text_2 20 rfl rfl)
theorem dX5_text_68 : decode cX5_text 68 = .ok (.iconst 2, 1) := dk_5 (dk_at dksX5_text_2 21 rfl rfl)
theorem dX5_text_69 : decode cX5_text 69 = .ok (.iadd, 1) := dk_96 (dk_at dksX5_text_2 22 rfl rfl)
theorem dX5_text_70 : decode cX5_text 70 = .ok (.aload_n 0, 1) := dk_42 (dk_at dksX5_text_2 23 rfl rfl)
theorem dX5_text_71 : decode cX5_text 71 = .ok (.getfield 240, 3) := dk_180 0 240 (dk_at dksX5_text_3 0 rfl rfl)
theorem dX5_text_74 : decode cX5_text 74 = .ok (.iastore, 1) := dk_79 (dk_at dksX5_text_3 3 rfl rfl)
theorem dX5_text_75 : decode cX5_text 75 = .ok (.aload_n 0, 1) := dk_42 (dk_at dksX5_text_3 4 rfl rfl)
theorem dX5_text_76 : decode cX5_text 76 = .ok (.getfield 7, 3) := dk_180 0 7 (dk_at dksX5_text_3 5 rfl rfl)
theorem dX5_text_79 : decode cX5_text 79 = .ok (.iconst 1, 1) := dk_4 (dk_at dksX5_text_3 8 rfl rfl)
theorem dX5_text_80 : decode cX5_text 80 = .ok (.dup2, 1) := dk_92 (dk_at dksX5_text_3 9 rfl rfl)
theorem dX5_text_81 : decode cX5_text 81 = .ok (.iaload, 1) := dk_46 (dk_at dksX5_text_3 10 rfl rfl)
theorem dX5_text_82 : decode cX5_text 82 = .ok (.iconst 1, 1) := dk_4 (dk_at dksX5_text_3 11 rfl rfl)
theorem dX5_text_83 : decode cX5_text 83 = .ok (.iadd, 1) := dk_96 (dk_at dksX5_text_3 12 rfl rfl)
theorem dX5_text_84 : decode cX5_text 84 = .ok (.iastore, 1) := dk_79 (dk_at dksX5_text_3 13 rfl rfl)
theorem dX5_text_85 : decode cX5_text 85 = .ok (.aload_n 0, 1) := dk_42 (dk_at dksX5_text_3 14 rfl rfl)
theorem dX5_text_86 : decode cX5_text 86 = .ok (.getfield 7, 3) := dk_180 0 7 (dk_at dksX5_text_3 15 rfl rfl)
theorem dX5_text_89 : decode cX5_text 89 = .ok (.iconst 1, 1) := dk_4 (dk_at dksX5_text_3 18 rfl rfl)
theorem dX5_text_90 : decode cX5_text 90 = .ok (.iaload, 1) := dk_46 (dk_at dksX5_text_3 19 rfl rfl)
theorem dX5_text_91 : decode cX5_text 91 = .ok (.iconst 1, 1) := dk_4 (dk_at dksX5_text_3 20 rfl rfl)
theorem dX5_text_92 : decode cX5_text 92 = .ok (.isub, 1) := dk_100 (dk_at dksX5_text_3 21 rfl rfl)
theorem dX5_text_93 : decode cX5_text 93 = .ok (.ireturn, 1) := dk_172 (dk_at dksX5_text_3 22 rfl rfl)
abbrev cX5_parse : ByteArray := prog_18_method_69_code
def yX5_parse : MethodName := ⟨RX5, "parse", "()I"⟩
def dkwX5_parse_5 : List UInt8 := [28, 153, 0, 7, 27, 167, 0, 4, 2, 172]
abbrev dktX5_parse_5 : List UInt8 := dkwX5_parse_5 ++ []
def dkwX5_parse_4 : List UInt8 := [182, 1, 24, 153, 0, 14, 42, 180, 0, 215, 154, 0, 7, 4, 167, 0, 4, 3, 61, 42, 3, 181, 0, 200]
abbrev dktX5_parse_4 : List UInt8 := dkwX5_parse_4 ++ dktX5_parse_5
def dkwX5_parse_3 : List UInt8 := [182, 1, 30, 60, 27, 155, 0, 7, 4, 167, 0, 4, 3, 61, 28, 153, 0, 28, 42, 182, 0, 249, 42, 27]
abbrev dktX5_parse_3 : List UInt8 := dkwX5_parse_3 ++ dktX5_parse_4
def dkwX5_parse_2 : List UInt8 := [180, 0, 7, 4, 46, 182, 1, 27, 7, 96, 167, 0, 6, 17, 11, 53, 181, 0, 237, 42, 182, 0, 249, 42]
abbrev dktX5_parse_2 : List UInt8 := dkwX5_parse_2 ++ dktX5_parse_3
def dkwX5_parse_1 : List UInt8 := [181, 0, 240, 42, 3, 181, 1, 12, 42, 42, 180, 0, 7, 4, 46, 16, 14, 162, 0, 18, 42, 42]
abbrev dktX5_parse_1 : List UInt8 := dkwX5_parse_1 ++ dktX5_parse_2
def dkwX5_parse_0 : List UInt8 := [42, 3, 181, 0, 212, 42, 6, 181, 0, 215, 42, 3, 181, 1, 21, 42, 3, 181, 1, 18, 42, 3]
abbrev dktX5_parse_0 : List UInt8 := dkwX5_parse_0 ++ dktX5_parse_1
theorem dksX5_parse_0 : cX5_parse.data.toList.drop 0 = dktX5_parse_0 := by decide +kernel
theorem dksX5_parse_1 : cX5_parse.data.toList.drop 22 = dktX5_parse_1 := dk_seg dksX5_parse_0 22 rfl rfl
theorem dksX5_parse_2 : cX5_parse.data.toList.drop 44 = dktX5_parse_2 := dk_seg dksX5_parse_1 22 rfl rfl
theorem dksX5_parse_3 : cX5_parse.data.toList.drop 68 = dktX5_parse_3 := dk_seg dksX5_parse_2 24 rfl rfl
theorem dksX5_parse_4 : cX5_parse.data.toList.drop 92 = dktX5_parse_4 := dk_seg dksX5_parse_3 24 rfl rfl
theorem dksX5_parse_5 : cX5_parse.data.toList.drop 116 = dktX5_parse_5 := dk_seg dksX5_parse_4 24 rfl rfl
theorem dX5_parse_0 : decode cX5_parse 0 = .ok (.aload_n 0, 1) := dk_42 (dk_at dksX5_parse_0 0 rfl rfl)
theorem dX5_parse_1 : decode cX5_parse 1 = .ok (.iconst 0, 1) := dk_3 (dk_at dksX5_parse_0 1 rfl rfl)
theorem dX5_parse_2 : decode cX5_parse 2 = .ok (.putfield 212, 3) := dk_181 0 212 (dk_at dksX5_parse_0 2 rfl rfl)
theorem dX5_parse_5 : decode cX5_parse 5 = .ok (.aload_n 0, 1) := dk_42 (dk_at dksX5_parse_0 5 rfl rfl)
theorem dX5_parse_6 : decode cX5_parse 6 = .ok (.iconst 3, 1) := dk_6 (dk_at dksX5_parse_0 6 rfl rfl)
theorem dX5_parse_7 : decode cX5_parse 7 = .ok (.putfield 215, 3) := dk_181 0 215 (dk_at dksX5_parse_0 7 rfl rfl)
theorem dX5_parse_10 : decode cX5_parse 10 = .ok (.aload_n 0, 1) := dk_42 (dk_at dksX5_parse_0 10 rfl rfl)
theorem dX5_parse_11 : decode cX5_parse 11 = .ok (.iconst 0, 1) := dk_3 (dk_at dksX5_parse_0 11 rfl rfl)
theorem dX5_parse_12 : decode cX5_parse 12 = .ok (.putfield 277, 3) := dk_181 1 21 (dk_at dksX5_parse_0 12 rfl rfl)
theorem dX5_parse_15 : decode cX5_parse 15 = .ok (.aload_n 0, 1) := dk_42 (dk_at dksX5_parse_0 15 rfl rfl)
theorem dX5_parse_16 : decode cX5_parse 16 = .ok (.iconst 0, 1) := dk_3 (dk_at dksX5_parse_0 16 rfl rfl)
theorem dX5_parse_17 : decode cX5_parse 17 = .ok (.putfield 274, 3) := dk_181 1 18 (dk_at dksX5_parse_0 17 rfl rfl)
theorem dX5_parse_20 : decode cX5_parse 20 = .ok (.aload_n 0, 1) := dk_42 (dk_at dksX5_parse_0 20 rfl rfl)
theorem dX5_parse_21 : decode cX5_parse 21 = .ok (.iconst 0, 1) := dk_3 (dk_at dksX5_parse_0 21 rfl rfl)
theorem dX5_parse_22 : decode cX5_parse 22 = .ok (.putfield 240, 3) := dk_181 0 240 (dk_at dksX5_parse_1 0 rfl rfl)
theorem dX5_parse_25 : decode cX5_parse 25 = .ok (.aload_n 0, 1) := dk_42 (dk_at dksX5_parse_1 3 rfl rfl)
theorem dX5_parse_26 : decode cX5_parse 26 = .ok (.iconst 0, 1) := dk_3 (dk_at dksX5_parse_1 4 rfl rfl)
theorem dX5_parse_27 : decode cX5_parse 27 = .ok (.putfield 268, 3) := dk_181 1 12 (dk_at dksX5_parse_1 5 rfl rfl)
theorem dX5_parse_30 : decode cX5_parse 30 = .ok (.aload_n 0, 1) := dk_42 (dk_at dksX5_parse_1 8 rfl rfl)
theorem dX5_parse_31 : decode cX5_parse 31 = .ok (.aload_n 0, 1) := dk_42 (dk_at dksX5_parse_1 9 rfl rfl)
theorem dX5_parse_32 : decode cX5_parse 32 = .ok (.getfield 7, 3) := dk_180 0 7 (dk_at dksX5_parse_1 10 rfl rfl)
theorem dX5_parse_35 : decode cX5_parse 35 = .ok (.iconst 1, 1) := dk_4 (dk_at dksX5_parse_1 13 rfl rfl)
theorem dX5_parse_36 : decode cX5_parse 36 = .ok (.iaload, 1) := dk_46 (dk_at dksX5_parse_1 14 rfl rfl)
theorem dX5_parse_37 : decode cX5_parse 37 = .ok (.bipush 14, 2) := dk_16 14 (dk_at dksX5_parse_1 15 rfl rfl)
theorem dX5_parse_39 : decode cX5_parse 39 = .ok (.if_icmp .ge 18, 3) := dk_162 0 18 (dk_at dksX5_parse_1 17 rfl rfl)
theorem dX5_parse_42 : decode cX5_parse 42 = .ok (.aload_n 0, 1) := dk_42 (dk_at dksX5_parse_1 20 rfl rfl)
theorem dX5_parse_43 : decode cX5_parse 43 = .ok (.aload_n 0, 1) := dk_42 (dk_at dksX5_parse_1 21 rfl rfl)
theorem dX5_parse_44 : decode cX5_parse 44 = .ok (.getfield 7, 3) := dk_180 0 7 (dk_at dksX5_parse_2 0 rfl rfl)
theorem dX5_parse_47 : decode cX5_parse 47 = .ok (.iconst 1, 1) := dk_4 (dk_at dksX5_parse_2 3 rfl rfl)
theorem dX5_parse_48 : decode cX5_parse 48 = .ok (.iaload, 1) := dk_46 (dk_at dksX5_parse_2 4 rfl rfl)
theorem dX5_parse_49 : decode cX5_parse 49 = .ok (.invokevirtual 283, 3) := dk_182 1 27 (dk_at dksX5_parse_2 5 rfl rfl)
theorem dX5_parse_52 : decode cX5_parse 52 = .ok (.iconst 4, 1) := dk_7 (dk_at dksX5_parse_2 8 rfl rfl)
theorem dX5_parse_53 : decode cX5_parse 53 = .ok (.iadd, 1) := dk_96 (dk_at dksX5_parse_2 9 rfl rfl)
theorem dX5_parse_54 : decode cX5_parse 54 = .ok (.goto 6, 3) := dk_167 0 6 (dk_at dksX5_parse_2 10 rfl rfl)
theorem dX5_parse_57 : decode cX5_parse 57 = .ok (.sipush 2869, 3) := dk_17 11 53 (dk_at dksX5_parse_2 13 rfl rfl)
theorem dX5_parse_60 : decode cX5_parse 60 = .ok (.putfield 237, 3) := dk_181 0 237 (dk_at dksX5_parse_2 16 rfl rfl)
theorem dX5_parse_63 : decode cX5_parse 63 = .ok (.aload_n 0, 1) := dk_42 (dk_at dksX5_parse_2 19 rfl rfl)
theorem dX5_parse_64 : decode cX5_parse 64 = .ok (.invokevirtual 249, 3) := dk_182 0 249 (dk_at dksX5_parse_2 20 rfl rfl)
theorem dX5_parse_67 : decode cX5_parse 67 = .ok (.aload_n 0, 1) := dk_42 (dk_at dksX5_parse_2 23 rfl rfl)
theorem dX5_parse_68 : decode cX5_parse 68 = .ok (.invokevirtual 286, 3) := dk_182 1 30 (dk_at dksX5_parse_3 0 rfl rfl)
theorem dX5_parse_71 : decode cX5_parse 71 = .ok (.istore_n 1, 1) := dk_60 (dk_at dksX5_parse_3 3 rfl rfl)
theorem dX5_parse_72 : decode cX5_parse 72 = .ok (.iload_n 1, 1) := dk_27 (dk_at dksX5_parse_3 4 rfl rfl)
theorem dX5_parse_73 : decode cX5_parse 73 = .ok (.ifCond .lt 7, 3) := dk_155 0 7 (dk_at dksX5_parse_3 5 rfl rfl)
theorem dX5_parse_76 : decode cX5_parse 76 = .ok (.iconst 1, 1) := dk_4 (dk_at dksX5_parse_3 8 rfl rfl)
theorem dX5_parse_77 : decode cX5_parse 77 = .ok (.goto 4, 3) := dk_167 0 4 (dk_at dksX5_parse_3 9 rfl rfl)
theorem dX5_parse_80 : decode cX5_parse 80 = .ok (.iconst 0, 1) := dk_3 (dk_at dksX5_parse_3 12 rfl rfl)
theorem dX5_parse_81 : decode cX5_parse 81 = .ok (.istore_n 2, 1) := dk_61 (dk_at dksX5_parse_3 13 rfl rfl)
theorem dX5_parse_82 : decode cX5_parse 82 = .ok (.iload_n 2, 1) := dk_28 (dk_at dksX5_parse_3 14 rfl rfl)
theorem dX5_parse_83 : decode cX5_parse 83 = .ok (.ifCond .eq 28, 3) := dk_153 0 28 (dk_at dksX5_parse_3 15 rfl rfl)
theorem dX5_parse_86 : decode cX5_parse 86 = .ok (.aload_n 0, 1) := dk_42 (dk_at dksX5_parse_3 18 rfl rfl)
theorem dX5_parse_87 : decode cX5_parse 87 = .ok (.invokevirtual 249, 3) := dk_182 0 249 (dk_at dksX5_parse_3 19 rfl rfl)
theorem dX5_parse_90 : decode cX5_parse 90 = .ok (.aload_n 0, 1) := dk_42 (dk_at dksX5_parse_3 22 rfl rfl)
theorem dX5_parse_91 : decode cX5_parse 91 = .ok (.iload_n 1, 1) := dk_27 (dk_at dksX5_parse_3 23 rfl rfl)
theorem dX5_parse_92 : decode cX5_parse 92 = .ok (.invokevirtual 280, 3) := dk_182 1 24 (dk_at dksX5_parse_4 0 rfl rfl)
theorem dX5_parse_95 : decode cX5_parse 95 = .ok (.ifCond .eq 14, 3) := dk_153 0 14 (dk_at dksX5_parse_4 3 rfl rfl)
theorem dX5_parse_98 : decode cX5_parse 98 = .ok (.aload_n 0, 1) := dk_42 (dk_at dksX5_parse_4 6 rfl rfl)
theorem dX5_parse_99 : decode cX5_parse 99 = .ok (.getfield 215, 3) := dk_180 0 215 (dk_at dksX5_parse_4 7 rfl rfl)
theorem dX5_parse_102 : decode cX5_parse 102 = .ok (.ifCond .ne 7, 3) := dk_154 0 7 (dk_at dksX5_parse_4 10 rfl rfl)
theorem dX5_parse_105 : decode cX5_parse 105 = .ok (.iconst 1, 1) := dk_4 (dk_at dksX5_parse_4 13 rfl rfl)
theorem dX5_parse_106 : decode cX5_parse 106 = .ok (.goto 4, 3) := dk_167 0 4 (dk_at dksX5_parse_4 14 rfl rfl)
theorem dX5_parse_109 : decode cX5_parse 109 = .ok (.iconst 0, 1) := dk_3 (dk_at dksX5_parse_4 17 rfl rfl)
theorem dX5_parse_110 : decode cX5_parse 110 = .ok (.istore_n 2, 1) := dk_61 (dk_at dksX5_parse_4 18 rfl rfl)
theorem dX5_parse_111 : decode cX5_parse 111 = .ok (.aload_n 0, 1) := dk_42 (dk_at dksX5_parse_4 19 rfl rfl)
theorem dX5_parse_112 : decode cX5_parse 112 = .ok (.iconst 0, 1) := dk_3 (dk_at dksX5_parse_4 20 rfl rfl)
theorem dX5_parse_113 : decode cX5_parse 113 = .ok (.putfield 200, 3) := dk_181 0 200 (dk_at dksX5_parse_4 21 rfl rfl)
theorem dX5_parse_116 : decode cX5_parse 116 = .ok (.iload_n 2, 1) := dk_28 (dk_at dksX5_parse_5 0 rfl rfl)
theorem dX5_parse_117 : decode cX5_parse 117 = .ok (.ifCond .eq 7, 3) := dk_153 0 7 (dk_at dksX5_parse_5 1 rfl rfl)
theorem dX5_parse_120 : decode cX5_parse 120 = .ok (.iload_n 1, 1) := dk_27 (dk_at dksX5_parse_5 4 rfl rfl)
theorem dX5_parse_121 : decode cX5_parse 121 = .ok (.goto 4, 3) := dk_167 0 4 (dk_at dksX5_parse_5 5 rfl rfl)
theorem dX5_parse_124 : decode cX5_parse 124 = .ok (.iconst (-1), 1) := dk_2 (dk_at dksX5_parse_5 8 rfl rfl)
theorem dX5_parse_125 : decode cX5_parse 125 = .ok (.ireturn, 1) := dk_172 (dk_at dksX5_parse_5 9 rfl rfl)
abbrev cX5_nextToken : ByteArray := prog_18_method_57_code
def yX5_nextToken : MethodName := ⟨RX5, "nextToken", "()V"⟩
def dkwX5_nextToken_14 : List UInt8 := [42, 180, 0, 218, 46, 181, 0, 224, 42, 89, 180, 0, 212, 4, 96, 181, 0, 212, 177]
abbrev dktX5_nextToken_14 : List UInt8 := dkwX5_nextToken_14 ++ []
def dkwX5_nextToken_13 : List UInt8 := [164, 0, 7, 7, 167, 0, 4, 5, 181, 0, 215, 167, 0, 31, 42, 6, 181, 0, 215, 42, 42, 180, 0, 52]
abbrev dktX5_nextToken_13 : List UInt8 := dkwX5_nextToken_13 ++ dktX5_nextToken_14
def dkwX5_nextToken_12 : List UInt8 := [96, 181, 0, 212, 167, 255, 191, 42, 27, 154, 0, 16, 42, 180, 0, 212, 42, 180, 0, 218, 100, 7]
abbrev dktX5_nextToken_12 : List UInt8 := dkwX5_nextToken_12 ++ dktX5_nextToken_13
def dkwX5_nextToken_11 : List UInt8 := [180, 0, 212, 46, 96, 16, 48, 100, 167, 0, 7, 42, 180, 0, 230, 181, 0, 230, 42, 89, 180, 0, 212, 4]
abbrev dktX5_nextToken_11 : List UInt8 := dkwX5_nextToken_11 ++ dktX5_nextToken_12
def dkwX5_nextToken_10 : List UInt8 := [180, 0, 212, 42, 180, 0, 218, 100, 7, 162, 0, 26, 16, 10, 42, 180, 0, 230, 104, 42, 180, 0, 52, 42]
abbrev dktX5_nextToken_10 : List UInt8 := dkwX5_nextToken_10 ++ dktX5_nextToken_11
def dkwX5_nextToken_9 : List UInt8 := [182, 0, 227, 153, 0, 105, 42, 3, 181, 0, 230, 42, 42, 180, 0, 212, 182, 0, 227, 153, 0, 60, 42, 42]
abbrev dktX5_nextToken_9 : List UInt8 := dkwX5_nextToken_9 ++ dktX5_nextToken_10
def dkwX5_nextToken_8 : List UInt8 := [180, 0, 52, 42, 180, 0, 218, 46, 167, 0, 4, 3, 181, 0, 224, 167, 0, 144, 42, 42, 180, 0, 218]
abbrev dktX5_nextToken_8 : List UInt8 := dkwX5_nextToken_8 ++ dktX5_nextToken_9
def dkwX5_nextToken_7 : List UInt8 := [167, 0, 4, 4, 181, 0, 215, 42, 42, 180, 0, 212, 42, 180, 0, 218, 100, 4, 160, 0, 15, 42]
abbrev dktX5_nextToken_7 : List UInt8 := dkwX5_nextToken_7 ++ dktX5_nextToken_8
def dkwX5_nextToken_6 : List UInt8 := [153, 0, 16, 42, 89, 180, 0, 212, 4, 96, 181, 0, 212, 167, 255, 235, 42, 27, 153, 0, 7, 7]
abbrev dktX5_nextToken_6 : List UInt8 := dkwX5_nextToken_6 ++ dktX5_nextToken_7
def dkwX5_nextToken_5 : List UInt8 := [167, 0, 225, 42, 42, 180, 0, 218, 182, 0, 221, 153, 0, 73, 42, 42, 180, 0, 212, 182, 0, 221]
abbrev dktX5_nextToken_5 : List UInt8 := dkwX5_nextToken_5 ++ dktX5_nextToken_6
def dkwX5_nextToken_4 : List UInt8 := [180, 0, 212, 181, 0, 218, 42, 180, 0, 218, 42, 180, 0, 200, 160, 0, 11, 42, 3, 181, 0, 215]
abbrev dktX5_nextToken_4 : List UInt8 := dkwX5_nextToken_4 ++ dktX5_nextToken_5
def dkwX5_nextToken_3 : List UInt8 := [167, 255, 221, 27, 153, 0, 15, 28, 42, 180, 0, 212, 160, 0, 7, 4, 167, 0, 4, 3, 60, 42, 42]
abbrev dktX5_nextToken_3 : List UInt8 := dkwX5_nextToken_3 ++ dktX5_nextToken_4
def dkwX5_nextToken_2 : List UInt8 := [180, 0, 52, 42, 180, 0, 212, 46, 16, 32, 160, 0, 16, 42, 89, 180, 0, 212, 4, 96, 181, 0, 212]
abbrev dktX5_nextToken_2 : List UInt8 := dkwX5_nextToken_2 ++ dktX5_nextToken_3
def dkwX5_nextToken_1 : List UInt8 := [167, 0, 4, 3, 60, 42, 180, 0, 212, 61, 42, 180, 0, 212, 42, 180, 0, 200, 162, 0, 30, 42]
abbrev dktX5_nextToken_1 : List UInt8 := dkwX5_nextToken_1 ++ dktX5_nextToken_2
def dkwX5_nextToken_0 : List UInt8 := [42, 180, 0, 212, 158, 0, 23, 42, 180, 0, 215, 4, 159, 0, 11, 42, 180, 0, 215, 5, 160, 0, 7, 4]
abbrev dktX5_nextToken_0 : List UInt8 := dkwX5_nextToken_0 ++ dktX5_nextToken_1
theorem dksX5_nextToken_0 : cX5_nextToken.data.toList.drop 0 = dktX5_nextToken_0 := by decide +kernel
theorem dksX5_nextToken_1 : cX5_nextToken.data.toList.drop 24 = dktX5_nextToken_1 := dk_seg dksX5_nextToken_0 24 rfl rfl
theorem dksX5_nextToken_2 : cX5_nextToken.data.toList.drop 46 = dktX5_nextToken_2 := dk_seg dksX5_nextToken_1 22 rfl rfl
theorem dksX5_nextToken_3 : cX5_nextToken.data.toList.drop 69 = dktX5_nextToken_3 := dk_seg dksX5_nextToken_2 23 rfl rfl
theorem dksX5_nextToken_4 : cX5_nextToken.data.toList.drop 92 = dktX5_nextToken_4 := dk_seg dksX5_nextToken_3 23 rfl rfl
theorem dksX5_nextToken_5 : cX5_nextToken.data.toList.drop 114 = dktX5_nextToken_5 := dk_seg dksX5_nextToken_4 22 rfl rfl
theorem dksX5_nextToken_6 : cX5_nextToken.data.toList.drop 136 = dktX5_nextToken_6 := dk_seg dksX5_nextToken_5 22 rfl rfl
theorem dksX5_nextToken_7 : cX5_nextToken.data.toList.drop 158 = dktX5_nextToken_7 := dk_seg dksX5_nextToken_6 22 rfl rfl
theorem dksX5_nextToken_8 : cX5_nextToken.data.toList.drop 180 = dktX5_nextToken_8 := dk_seg dksX5_nextToken_7 22 rfl rfl
theorem dksX5_nextToken_9 : cX5_nextToken.data.toList.drop 203 = dktX5_nextToken_9 := dk_seg dksX5_nextToken_8 23 rfl rfl
theorem dksX5_nextToken_10 : cX5_nextToken.data.toList.drop 227 = dktX5_nextToken_10 := dk_seg dksX5_nextToken_9 24 rfl rfl
theorem dksX5_nextToken_11 : cX5_nextToken.data.toList.drop 251 = dktX5_nextToken_11 := dk_seg dksX5_nextToken_10 24 rfl rfl
theorem dksX5_nextToken_12 : cX5_nextToken.data.toList.drop 275 = dktX5_nextToken_12 := dk_seg dksX5_nextToken_11 24 rfl rfl
theorem dksX5_nextToken_13 : cX5_nextToken.data.toList.drop 297 = dktX5_nextToken_13 := dk_seg dksX5_nextToken_12 22 rfl rfl
theorem dksX5_nextToken_14 : cX5_nextToken.data.toList.drop 321 = dktX5_nextToken_14 := dk_seg dksX5_nextToken_13 24 rfl rfl
theorem dX5_nextToken_0 : decode cX5_nextToken 0 = .ok (.aload_n 0, 1) := dk_42 (dk_at dksX5_nextToken_0 0 rfl rfl)
theorem dX5_nextToken_1 : decode cX5_nextToken 1 = .ok (.getfield 212, 3) := dk_180 0 212 (dk_at dksX5_nextToken_0 1 rfl rfl)
theorem dX5_nextToken_4 : decode cX5_nextToken 4 = .ok (.ifCond .le 23, 3) := dk_158 0 23 (dk_at dksX5_nextToken_0 4 rfl rfl)
theorem dX5_nextToken_7 : decode cX5_nextToken 7 = .ok (.aload_n 0, 1) := dk_42 (dk_at dksX5_nextToken_0 7 rfl rfl)
theorem dX5_nextToken_8 : decode cX5_nextToken 8 = .ok (.getfield 215, 3) := dk_180 0 215 (dk_at dksX5_nextToken_0 8 rfl rfl)
theorem dX5_nextToken_11 : decode cX5_nextToken 11 = .ok (.iconst 1, 1) := dk_4 (dk_at dksX5_nextToken_0 11 rfl rfl)
theorem dX5_nextToken_12 : decode cX5_nextToken 12 = .ok (.if_icmp .eq 11, 3) := dk_159 0 11 (dk_at dksX5_nextToken_0 12 rfl rfl)
theorem dX5_nextToken_15 : decode cX5_nextToken 15 = .ok (.aload_n 0, 1) := dk_42 (dk_at dksX5_nextToken_0 15 rfl rfl)
theorem dX5_nextToken_16 : decode cX5_nextToken 16 = .ok (.getfield 215, 3) := dk_180 0 215 (dk_at dksX5_nextToken_0 16 rfl rfl)
theorem dX5_nextToken_19 : decode cX5_nextToken 19 = .ok (.iconst 2, 1) := dk_5 (dk_at dksX5_nextToken_0 19 rfl rfl)
theorem dX5_nextToken_20 : decode cX5_nextToken 20 = .ok (.if_icmp .ne 7, 3) := dk_160 0 7 (dk_at dksX5_nextToken_0 20 rfl rfl)
theorem dX5_nextToken_23 : decode cX5_nextToken 23 = .ok (.iconst 1, 1) := dk_4 (dk_at dksX5_nextToken_0 23 rfl rfl)
theorem dX5_nextToken_24 : decode cX5_nextToken 24 = .ok (.goto 4, 3) := dk_167 0 4 (dk_at dksX5_nextToken_1 0 rfl rfl)
theorem dX5_nextToken_27 : decode cX5_nextToken 27 = .ok (.iconst 0, 1) := dk_3 (dk_at dksX5_nextToken_1 3 rfl rfl)
theorem dX5_nextToken_28 : decode cX5_nextToken 28 = .ok (.istore_n 1, 1) := dk_60 (dk_at dksX5_nextToken_1 4 rfl rfl)
theorem dX5_nextToken_29 : decode cX5_nextToken 29 = .ok (.aload_n 0, 1) := dk_42 (dk_at dksX5_nextToken_1 5 rfl rfl)
theorem dX5_nextToken_30 : decode cX5_nextToken 30 = .ok (.getfield 212, 3) := dk_180 0 212 (dk_at dksX5_nextToken_1 6 rfl rfl)
theorem dX5_nextToken_33 : decode cX5_nextToken 33 = .ok (.istore_n 2, 1) := dk_61 (dk_at dksX5_nextToken_1 9 rfl rfl)
theorem dX5_nextToken_34 : decode cX5_nextToken 34 = .ok (.aload_n 0, 1) := dk_42 (dk_at dksX5_nextToken_1 10 rfl rfl)
theorem dX5_nextToken_35 : decode cX5_nextToken 35 = .ok (.getfield 212, 3) := dk_180 0 212 (dk_at dksX5_nextToken_1 11 rfl rfl)
theorem dX5_nextToken_38 : decode cX5_nextToken 38 = .ok (.aload_n 0, 1) := dk_42 (dk_at dksX5_nextToken_1 14 rfl rfl)
theorem dX5_nextToken_39 : decode cX5_nextToken 39 = .ok (.getfield 200, 3) := dk_180 0 200 (dk_at dksX5_nextToken_1 15 rfl rfl)
theorem dX5_nextToken_42 : decode cX5_nextToken 42 = .ok (.if_icmp .ge 30, 3) := dk_162 0 30 (dk_at dksX5_nextToken_1 18 rfl rfl)
theorem dX5_nextToken_45 : decode cX5_nextToken 45 = .ok (.aload_n 0, 1) := dk_42 (dk_at dksX5_nextToken_1 21 rfl rfl)
theorem dX5_nextToken_46 : decode cX5_nextToken 46 = .ok (.getfield 52, 3) := dk_180 0 52 (dk_at dksX5_nextToken_2 0 rfl rfl)
theorem dX5_nextToken_49 : decode cX5_nextToken 49 = .ok (.aload_n 0, 1) := dk_42 (dk_at dksX5_nextToken_2 3 rfl rfl)
theorem dX5_nextToken_50 : decode cX5_nextToken 50 = .ok (.getfield 212, 3) := dk_180 0 212 (dk_at dksX5_nextToken_2 4 rfl rfl)
theorem dX5_nextToken_53 : decode cX5_nextToken 53 = .ok (.iaload, 1) := dk_46 (dk_at dksX5_nextToken_2 7 rfl rfl)
theorem dX5_nextToken_54 : decode cX5_nextToken 54 = .ok (.bipush 32, 2) := dk_16 32 (dk_at dksX5_nextToken_2 8 rfl rfl)
theorem dX5_nextToken_56 : decode cX5_nextToken 56 = .ok (.if_icmp .ne 16, 3) := dk_160 0 16 (dk_at dksX5_nextToken_2 10 rfl rfl)
theorem dX5_nextToken_59 : decode cX5_nextToken 59 = .ok (.aload_n 0, 1) := dk_42 (dk_at dksX5_nextToken_2 13 rfl rfl)
theorem dX5_nextToken_60 : decode cX5_nextToken 60 = .ok (.dup, 1) := dk_89 (dk_at dksX5_nextToken_2 14 rfl rfl)
theorem dX5_nextToken_61 : decode cX5_nextToken 61 = .ok (.getfield 212, 3) := dk_180 0 212 (dk_at dksX5_nextToken_2 15 rfl rfl)
theorem dX5_nextToken_64 : decode cX5_nextToken 64 = .ok (.iconst 1, 1) := dk_4 (dk_at dksX5_nextToken_2 18 rfl rfl)
theorem dX5_nextToken_65 : decode cX5_nextToken 65 = .ok (.iadd, 1) := dk_96 (dk_at dksX5_nextToken_2 19 rfl rfl)
theorem dX5_nextToken_66 : decode cX5_nextToken 66 = .ok (.putfield 212, 3) := dk_181 0 212 (dk_at dksX5_nextToken_2 20 rfl rfl)
theorem dX5_nextToken_69 : decode cX5_nextToken 69 = .ok (.goto (-35), 3) := dk_167 255 221 (dk_at dksX5_nextToken_3 0 rfl rfl)
theorem dX5_nextToken_72 : decode cX5_nextToken 72 = .ok (.iload_n 1, 1) := dk_27 (dk_at dksX5_nextToken_3 3 rfl rfl)
theorem dX5_nextToken_73 : decode cX5_nextToken 73 = .ok (.ifCond .eq 15, 3) := dk_153 0 15 (dk_at dksX5_nextToken_3 4 rfl rfl)
theorem dX5_nextToken_76 : decode cX5_nextToken 76 = .ok (.iload_n 2, 1) := dk_28 (dk_at dksX5_nextToken_3 7 rfl rfl)
theorem dX5_nextToken_77 : decode cX5_nextToken 77 = .ok (.aload_n 0, 1) := dk_42 (dk_at dksX5_nextToken_3 8 rfl rfl)
theorem dX5_nextToken_78 : decode cX5_nextToken 78 = .ok (.getfield 212, 3) := dk_180 0 212 (dk_at dksX5_nextToken_3 9 rfl rfl)
theorem dX5_nextToken_81 : decode cX5_nextToken 81 = .ok (.if_icmp .ne 7, 3) := dk_160 0 7 (dk_at dksX5_nextToken_3 12 rfl rfl)
theorem dX5_nextToken_84 : decode cX5_nextToken 84 = .ok (.iconst 1, 1) := dk_4 (dk_at dksX5_nextToken_3 15 rfl rfl)
theorem dX5_nextToken_85 : decode cX5_nextToken 85 = .ok (.goto 4, 3) := dk_167 0 4 (dk_at dksX5_nextToken_3 16 rfl rfl)
theorem dX5_nextToken_88 : decode cX5_nextToken 88 = .ok (.iconst 0, 1) := dk_3 (dk_at dksX5_nextToken_3 19 rfl rfl)
theorem dX5_nextToken_89 : decode cX5_nextToken 89 = .ok (.istore_n 1, 1) := dk_60 (dk_at dksX5_nextToken_3 20 rfl rfl)
theorem dX5_nextToken_90 : decode cX5_nextToken 90 = .ok (.aload_n 0, 1) := dk_42 (dk_at dksX5_nextToken_3 21 rfl rfl)
theorem dX5_nextToken_91 : decode cX5_nextToken 91 = .ok (.aload_n 0, 1) := dk_42 (dk_at dksX5_nextToken_3 22 rfl rfl)
theorem dX5_nextToken_92 : decode cX5_nextToken 92 = .ok (.getfield 212, 3) := dk_180 0 212 (dk_at dksX5_nextToken_4 0 rfl rfl)
theorem dX5_nextToken_95 : decode cX5_nextToken 95 = .ok (.putfield 218, 3) := dk_181 0 218 (dk_at dksX5_nextToken_4 3 rfl rfl)
theorem dX5_nextToken_98 : decode cX5_nextToken 98 = .ok (.aload_n 0, 1) := dk_42 (dk_at dksX5_nextToken_4 6 rfl rfl)
theorem dX5_nextToken_99 : decode cX5_nextToken 99 = .ok (.getfield 218, 3) := dk_180 0 218 (dk_at dksX5_nextToken_4 7 rfl rfl)
theorem dX5_nextToken_102 : decode cX5_nextToken 102 = .ok (.aload_n 0, 1) := dk_42 (dk_at dksX5_nextToken_4 10 rfl rfl)
theorem dX5_nextToken_103 : decode cX5_nextToken 103 = .ok (.getfield 200, 3) := dk_180 0 200 (dk_at dksX5_nextToken_4 11 rfl rfl)
theorem dX5_nextToken_106 : decode cX5_nextToken 106 = .ok (.if_icmp .ne 11, 3) := dk_160 0 11 (dk_at dksX5_nextToken_4 14 rfl rfl)
theorem dX5_nextToken_109 : decode cX5_nextToken 109 = .ok (.aload_n 0, 1) := dk_42 (dk_at dksX5_nextToken_4 17 rfl rfl)
theorem dX5_nextToken_110 : decode cX5_nextToken 110 = .ok (.iconst 0, 1) := dk_3 (dk_at dksX5_nextToken_4 18 rfl rfl)
theorem dX5_nextToken_111 : decode cX5_nextToken 111 = .ok (.putfield 215, 3) := dk_181 0 215 (dk_at dksX5_nextToken_4 19 rfl rfl)
theorem dX5_nextToken_114 : decode cX5_nextToken 114 = .ok (.goto 225, 3) := dk_167 0 225 (dk_at dksX5_nextToken_5 0 rfl rfl)
theorem dX5_nextToken_117 : decode cX5_nextToken 117 = .ok (.aload_n 0, 1) := dk_42 (dk_at dksX5_nextToken_5 3 rfl rfl)
theorem dX5_nextToken_118 : decode cX5_nextToken 118 = .ok (.aload_n 0, 1) := dk_42 (dk_at dksX5_nextToken_5 4 rfl rfl)
theorem dX5_nextToken_119 : decode cX5_nextToken 119 = .ok (.getfield 218, 3) := dk_180 0 218 (dk_at dksX5_nextToken_5 5 rfl rfl)
theorem dX5_nextToken_122 : decode cX5_nextToken 122 = .ok (.invokevirtual 221, 3) := dk_182 0 221 (dk_at dksX5_nextToken_5 8 rfl rfl)
theorem dX5_nextToken_125 : decode cX5_nextToken 125 = .ok (.ifCond .eq 73, 3) := dk_153 0 73 (dk_at dksX5_nextToken_5 11 rfl rfl)
theorem dX5_nextToken_128 : decode cX5_nextToken 128 = .ok (.aload_n 0, 1) := dk_42 (dk_at dksX5_nextToken_5 14 rfl rfl)
theorem dX5_nextToken_129 : decode cX5_nextToken 129 = .ok (.aload_n 0, 1) := dk_42 (dk_at dksX5_nextToken_5 15 rfl rfl)
theorem dX5_nextToken_130 : decode cX5_nextToken 130 = .ok (.getfield 212, 3) := dk_180 0 212 (dk_at dksX5_nextToken_5 16 rfl rfl)
theorem dX5_nextToken_133 : decode cX5_nextToken 133 = .ok (.invokevirtual 221, 3) := dk_182 0 221 (dk_at dksX5_nextToken_5 19 rfl rfl)
theorem dX5_nextToken_136 : decode cX5_nextToken 136 = .ok (.ifCond .eq 16, 3) := dk_153 0 16 (dk_at dksX5_nextToken_6 0 rfl rfl)
theorem dX5_nextToken_139 : decode cX5_nextToken 139 = .ok (.aload_n 0, 1) := dk_42 (dk_at dksX5_nextToken_6 3 rfl rfl)
theorem dX5_nextToken_140 : decode cX5_nextToken 140 = .ok (.dup, 1) := dk_89 (dk_at dksX5_nextToken_6 4 rfl rfl)
theorem dX5_nextToken_141 : decode cX5_nextToken 141 = .ok (.getfield 212, 3) := dk_180 0 212 (dk_at dksX5_nextToken_6 5 rfl rfl)
theorem dX5_nextToken_144 : decode cX5_nextToken 144 = .ok (.iconst 1, 1) := dk_4 (dk_at dksX5_nextToken_6 8 rfl rfl)
theorem dX5_nextToken_145 : decode cX5_nextToken 145 = .ok (.iadd, 1) := dk_96 (dk_at dksX5_nextToken_6 9 rfl rfl)
theorem dX5_nextToken_146 : decode cX5_nextToken 146 = .ok (.putfield 212, 3) := dk_181 0 212 (dk_at dksX5_nextToken_6 10 rfl rfl)
theorem dX5_nextToken_149 : decode cX5_nextToken 149 = .ok (.goto (-21), 3) := dk_167 255 235 (dk_at dksX5_nextToken_6 13 rfl rfl)
theorem dX5_nextToken_152 : decode cX5_nextToken 152 = .ok (.aload_n 0, 1) := dk_42 (dk_at dksX5_nextToken_6 16 rfl rfl)
theorem dX5_nextToken_153 : decode cX5_nextToken 153 = .ok (.iload_n 1, 1) := dk_27 (dk_at dksX5_nextToken_6 17 rfl rfl)
theorem dX5_nextToken_154 : decode cX5_nextToken 154 = .ok (.ifCond .eq 7, 3) := dk_153 0 7 (dk_at dksX5_nextToken_6 18 rfl rfl)
theorem dX5_nextToken_157 : decode cX5_nextToken 157 = .ok (.iconst 4, 1) := dk_7 (dk_at dksX5_nextToken_6 21 rfl rfl)
theorem dX5_nextToken_158 : decode cX5_nextToken 158 = .ok (.goto 4, 3) := dk_167 0 4 (dk_at dksX5_nextToken_7 0 rfl rfl)
theorem dX5_nextToken_161 : decode cX5_nextToken 161 = .ok (.iconst 1, 1) := dk_4 (dk_at dksX5_nextToken_7 3 rfl rfl)
theorem dX5_nextToken_162 : decode cX5_nextToken 162 = .ok (.putfield 215, 3) := dk_181 0 215 (dk_at dksX5_nextToken_7 4 rfl rfl)
theorem dX5_nextToken_165 : decode cX5_nextToken 165 = .ok (.aload_n 0, 1) := dk_42 (dk_at dksX5_nextToken_7 7 rfl rfl)
theorem dX5_nextToken_166 : decode cX5_nextToken 166 = .ok (.aload_n 0, 1) := dk_42 (dk_at dksX5_nextToken_7 8 rfl rfl)
theorem dX5_nextToken_167 : decode cX5_nextToken 167 = .ok (.getfield 212, 3) := dk_180 0 212 (dk_at dksX5_nextToken_7 9 rfl rfl)
theorem dX5_nextToken_170 : decode cX5_nextToken 170 = .ok (.aload_n 0, 1) := dk_42 (dk_at dksX5_nextToken_7 12 rfl rfl)
theorem dX5_nextToken_171 : decode cX5_nextToken 171 = .ok (.getfield 218, 3) := dk_180 0 218 (dk_at dksX5_nextToken_7 13 rfl rfl)
theorem dX5_nextToken_174 : decode cX5_nextToken 174 = .ok (.isub, 1) := dk_100 (dk_at dksX5_nextToken_7 16 rfl rfl)
theorem dX5_nextToken_175 : decode cX5_nextToken 175 = .ok (.iconst 1, 1) := dk_4 (dk_at dksX5_nextToken_7 17 rfl rfl)
theorem dX5_nextToken_176 : decode cX5_nextToken 176 = .ok (.if_icmp .ne 15, 3) := dk_160 0 15 (dk_at dksX5_nextToken_7 18 rfl rfl)
theorem dX5_nextToken_179 : decode cX5_nextToken 179 = .ok (.aload_n 0, 1) := dk_42 (dk_at dksX5_nextToken_7 21 rfl rfl)
theorem dX5_nextToken_180 : decode cX5_nextToken 180 = .ok (.getfield 52, 3) := dk_180 0 52 (dk_at dksX5_nextToken_8 0 rfl rfl)
theorem dX5_nextToken_183 : decode cX5_nextToken 183 = .ok (.aload_n 0, 1) := dk_42 (dk_at dksX5_nextToken_8 3 rfl rfl)
theorem dX5_nextToken_184 : decode cX5_nextToken 184 = .ok (.getfield 218, 3) := dk_180 0 218 (dk_at dksX5_nextToken_8 4 rfl rfl)
theorem dX5_nextToken_187 : decode cX5_nextToken 187 = .ok (.iaload, 1) := dk_46 (dk_at dksX5_nextToken_8 7 rfl rfl)
theorem dX5_nextToken_188 : decode cX5_nextToken 188 = .ok (.goto 4, 3) := dk_167 0 4 (dk_at dksX5_nextToken_8 8 rfl rfl)
theorem dX5_nextToken_191 : decode cX5_nextToken 191 = .ok (.iconst 0, 1) := dk_3 (dk_at dksX5_nextToken_8 11 rfl rfl)
theorem dX5_nextToken_192 : decode cX5_nextToken 192 = .ok (.putfield 224, 3) := dk_181 0 224 (dk_at dksX5_nextToken_8 12 rfl rfl)
theorem dX5_nextToken_195 : decode cX5_nextToken 195 = .ok (.goto 144, 3) := dk_167 0 144 (dk_at dksX5_nextToken_8 15 rfl rfl)
theorem dX5_nextToken_198 : decode cX5_nextToken 198 = .ok (.aload_n 0, 1) := dk_42 (dk_at dksX5_nextToken_8 18 rfl rfl)
theorem dX5_nextToken_199 : decode cX5_nextToken 199 = .ok (.aload_n 0, 1) := dk_42 (dk_at dksX5_nextToken_8 19 rfl rfl)
theorem dX5_nextToken_200 : decode cX5_nextToken 200 = .ok (.getfield 218, 3) := dk_180 0 218 (dk_at dksX5_nextToken_8 20 rfl rfl)
theorem dX5_nextToken_203 : decode cX5_nextToken 203 = .ok (.invokevirtual 227, 3) := dk_182 0 227 (dk_at dksX5_nextToken_9 0 rfl rfl)
theorem dX5_nextToken_206 : decode cX5_nextToken 206 = .ok (.ifCond .eq 105, 3) := dk_153 0 105 (dk_at dksX5_nextToken_9 3 rfl rfl)
theorem dX5_nextToken_209 : decode cX5_nextToken 209 = .ok (.aload_n 0, 1) := dk_42 (dk_at dksX5_nextToken_9 6 rfl rfl)
theorem dX5_nextToken_210 : decode cX5_nextToken 210 = .ok (.iconst 0, 1) := dk_3 (dk_at dksX5_nextToken_9 7 rfl rfl)
theorem dX5_nextToken_211 : decode cX5_nextToken 211 = .ok (.putfield 230, 3) := dk_181 0 230 (dk_at dksX5_nextToken_9 8 rfl rfl)
theorem dX5_nextToken_214 : decode cX5_nextToken 214 = .ok (.aload_n 0, 1) := dk_42 (dk_at dksX5_nextToken_9 11 rfl rfl)
theorem dX5_nextToken_215 : decode cX5_nextToken 215 = .ok (.aload_n 0, 1) := dk_42 (dk_at dksX5_nextToken_9 12 rfl rfl)
theorem dX5_nextToken_216 : decode cX5_nextToken 216 = .ok (.getfield 212, 3) := dk_180 0 212 (dk_at dksX5_nextToken_9 13 rfl rfl)
theorem dX5_nextToken_219 : decode cX5_nextToken 219 = .ok (.invokevirtual 227, 3) := dk_182 0 227 (dk_at dksX5_nextToken_9 16 rfl rfl)
theorem dX5_nextToken_222 : decode cX5_nextToken 222 = .ok (.ifCond .eq 60, 3) := dk_153 0 60 (dk_at dksX5_nextToken_9 19 rfl rfl)
theorem dX5_nextToken_225 : decode cX5_nextToken 225 = .ok (.aload_n 0, 1) := dk_42 (dk_at dksX5_nextToken_9 22 rfl rfl)
theorem dX5_nextToken_226 : decode cX5_nextToken 226 = .ok (.aload_n 0, 1) := dk_42 (dk_at dksX5_nextToken_9 23 rfl rfl)
theorem dX5_nextToken_227 : decode cX5_nextToken 227 = .ok (.getfield 212, 3) := dk_180 0 212 (dk_at dksX5_nextToken_10 0 rfl rfl)
theorem dX5_nextToken_230 : decode cX5_nextToken 230 = .ok (.aload_n 0, 1) := dk_42 (dk_at dksX5_nextToken_10 3 rfl rfl)
theorem dX5_nextToken_231 : decode cX5_nextToken 231 = .ok (.getfield 218, 3) := dk_180 0 218 (dk_at dksX5_nextToken_10 4 rfl rfl)
theorem dX5_nextToken_234 : decode cX5_nextToken 234 = .ok (.isub, 1) := dk_100 (dk_at dksX5_nextToken_10 7 rfl rfl)
theorem dX5_nextToken_235 : decode cX5_nextToken 235 = .ok (.iconst 4, 1) := dk_7 (dk_at dksX5_nextToken_10 8 rfl rfl)
theorem dX5_nextToken_236 : decode cX5_nextToken 236 = .ok (.if_icmp .ge 26, 3) := dk_162 0 26 (dk_at dksX5_nextToken_10 9 rfl rfl)
theorem dX5_nextToken_239 : decode cX5_nextToken 239 = .ok (.bipush 10, 2) := dk_16 10 (dk_at dksX5_nextToken_10 12 rfl rfl)
theorem dX5_nextToken_241 : decode cX5_nextToken 241 = .ok (.aload_n 0, 1) := dk_42 (dk_at dksX5_nextToken_10 14 rfl rfl)
theorem dX5_nextToken_242 : decode cX5_nextToken 242 = .ok (.getfield 230, 3) := dk_180 0 230 (dk_at dksX5_nextToken_10 15 rfl rfl)
theorem dX5_nextToken_245 : decode cX5_nextToken 245 = .ok (.imul, 1) := dk_104 (dk_at dksX5_nextToken_10 18 rfl rfl)
theorem dX5_nextToken_246 : decode cX5_nextToken 246 = .ok (.aload_n 0, 1) := dk_42 (dk_at dksX5_nextToken_10 19 rfl rfl)
theorem dX5_nextToken_247 : decode cX5_nextToken 247 = .ok (.getfield 52, 3) := dk_180 0 52 (dk_at dksX5_nextToken_10 20 rfl rfl)
theorem dX5_nextToken_250 : decode cX5_nextToken 250 = .ok (.aload_n 0, 1) := dk_42 (dk_at dksX5_nextToken_10 23 rfl rfl)
theorem dX5_nextToken_251 : decode cX5_nextToken 251 = .ok (.getfield 212, 3) := dk_180 0 212 (dk_at dksX5_nextToken_11 0 rfl rfl)
theorem dX5_nextToken_254 : decode cX5_nextToken 254 = .ok (.iaload, 1) := dk_46 (dk_at dksX5_nextToken_11 3 rfl rfl)
theorem dX5_nextToken_255 : decode cX5_nextToken 255 = .ok (.iadd, 1) := dk_96 (dk_at dksX5_nextToken_11 4 rfl rfl)
theorem dX5_nextToken_256 : decode cX5_nextToken 256 = .ok (.bipush 48, 2) := dk_16 48 (dk_at dksX5_nextToken_11 5 rfl rfl)
theorem dX5_nextToken_258 : decode cX5_nextToken 258 = .ok (.isub, 1) := dk_100 (dk_at dksX5_nextToken_11 7 rfl rfl)
theorem dX5_nextToken_259 : decode cX5_nextToken 259 = .ok (.goto 7, 3) := dk_167 0 7 (dk_at dksX5_nextToken_11 8 rfl rfl)
theorem dX5_nextToken_262 : decode cX5_nextToken 262 = .ok (.aload_n 0, 1) := dk_42 (dk_at dksX5_nextToken_11 11 rfl rfl)
theorem dX5_nextToken_263 : decode cX5_nextToken 263 = .ok (.getfield 230, 3) := dk_180 0 230 (dk_at dksX5_nextToken_11 12 rfl rfl)
theorem dX5_nextToken_266 : decode cX5_nextToken 266 = .ok (.putfield 230, 3) := dk_181 0 230 (dk_at dksX5_nextToken_11 15 rfl rfl)
theorem dX5_nextToken_269 : decode cX5_nextToken 269 = .ok (.aload_n 0, 1) := dk_42 (dk_at dksX5_nextToken_11 18 rfl rfl)
theorem dX5_nextToken_270 : decode cX5_nextToken 270 = .ok (.dup, 1) := dk_89 (dk_at dksX5_nextToken_11 19 rfl rfl)
theorem dX5_nextToken_271 : decode cX5_nextToken 271 = .ok (.getfield 212, 3) := dk_180 0 212 (dk_at dksX5_nextToken_11 20 rfl rfl)
theorem dX5_nextToken_274 : decode cX5_nextToken 274 = .ok (.iconst 1, 1) := dk_4 (dk_at dksX5_nextToken_11 23 rfl rfl)
theorem dX5_nextToken_275 : decode cX5_nextToken 275 = .ok (.iadd, 1) := dk_96 (dk_at dksX5_nextToken_12 0 rfl rfl)
theorem dX5_nextToken_276 : decode cX5_nextToken 276 = .ok (.putfield 212, 3) := dk_181 0 212 (dk_at dksX5_nextToken_12 1 rfl rfl)
theorem dX5_nextToken_279 : decode cX5_nextToken 279 = .ok (.goto (-65), 3) := dk_167 255 191 (dk_at dksX5_nextToken_12 4 rfl rfl)
theorem dX5_nextToken_282 : decode cX5_nextToken 282 = .ok (.aload_n 0, 1) := dk_42 (dk_at dksX5_nextToken_12 7 rfl rfl)
theorem dX5_nextToken_283 : decode cX5_nextToken 283 = .ok (.iload_n 1, 1) := dk_27 (dk_at dksX5_nextToken_12 8 rfl rfl)
theorem dX5_nextToken_284 : decode cX5_nextToken 284 = .ok (.ifCond .ne 16, 3) := dk_154 0 16 (dk_at dksX5_nextToken_12 9 rfl rfl)
theorem dX5_nextToken_287 : decode cX5_nextToken 287 = .ok (.aload_n 0, 1) := dk_42 (dk_at dksX5_nextToken_12 12 rfl rfl)
theorem dX5_nextToken_288 : decode cX5_nextToken 288 = .ok (.getfield 212, 3) := dk_180 0 212 (dk_at dksX5_nextToken_12 13 rfl rfl)
theorem dX5_nextToken_291 : decode cX5_nextToken 291 = .ok (.aload_n 0, 1) := dk_42 (dk_at dksX5_nextToken_12 16 rfl rfl)
theorem dX5_nextToken_292 : decode cX5_nextToken 292 = .ok (.getfield 218, 3) := dk_180 0 218 (dk_at dksX5_nextToken_12 17 rfl rfl)
theorem dX5_nextToken_295 : decode cX5_nextToken 295 = .ok (.isub, 1) := dk_100 (dk_at dksX5_nextToken_12 20 rfl rfl)
theorem dX5_nextToken_296 : decode cX5_nextToken 296 = .ok (.iconst 4, 1) := dk_7 (dk_at dksX5_nextToken_12 21 rfl rfl)
theorem dX5_nextToken_297 : decode cX5_nextToken 297 = .ok (.if_icmp .le 7, 3) := dk_164 0 7 (dk_at dksX5_nextToken_13 0 rfl rfl)
theorem dX5_nextToken_300 : decode cX5_nextToken 300 = .ok (.iconst 4, 1) := dk_7 (dk_at dksX5_nextToken_13 3 rfl rfl)
theorem dX5_nextToken_301 : decode cX5_nextToken 301 = .ok (.goto 4, 3) := dk_167 0 4 (dk_at dksX5_nextToken_13 4 rfl rfl)
theorem dX5_nextToken_304 : decode cX5_nextToken 304 = .ok (.iconst 2, 1) := dk_5 (dk_at dksX5_nextToken_13 7 rfl rfl)
theorem dX5_nextToken_305 : decode cX5_nextToken 305 = .ok (.putfield 215, 3) := dk_181 0 215 (dk_at dksX5_nextToken_13 8 rfl rfl)
theorem dX5_nextToken_308 : decode cX5_nextToken 308 = .ok (.goto 31, 3) := dk_167 0 31 (dk_at dksX5_nextToken_13 11 rfl rfl)
theorem dX5_nextToken_311 : decode cX5_nextToken 311 = .ok (.aload_n 0, 1) := dk_42 (dk_at dksX5_nextToken_13 14 rfl rfl)
theorem dX5_nextToken_312 : decode cX5_nextToken 312 = .ok (.iconst 3, 1) := dk_6 (dk_at dksX5_nextToken_13 15 rfl rfl)
theorem dX5_nextToken_313 : decode cX5_nextToken 313 = .ok (.putfield 215, 3) := dk_181 0 215 (dk_at dksX5_nextToken_13 16 rfl rfl)
theorem dX5_nextToken_316 : decode cX5_nextToken 316 = .ok (.aload_n 0, 1) := dk_42 (dk_at dksX5_nextToken_13 19 rfl rfl)
theorem dX5_nextToken_317 : decode cX5_nextToken 317 = .ok (.aload_n 0, 1) := dk_42 (dk_at dksX5_nextToken_13 20 rfl rfl)
theorem dX5_nextToken_318 : decode cX5_nextToken 318 = .ok (.getfield 52, 3) := dk_180 0 52 (dk_at dksX5_nextToken_13 21 rfl rfl)
theorem dX5_nextToken_321 : decode cX5_nextToken 321 = .ok (.aload_n 0, 1) := dk_42 (dk_at dksX5_nextToken_14 0 rfl rfl)
theorem dX5_nextToken_322 : decode cX5_nextToken 322 = .ok (.getfield 218, 3) := dk_180 0 218 (dk_at dksX5_nextToken_14 1 rfl rfl)
theorem dX5_nextToken_325 : decode cX5_nextToken 325 = .ok (.iaload, 1) := dk_46 (dk_at dksX5_nextToken_14 4 rfl rfl)
theorem dX5_nextToken_326 : decode cX5_nextToken 326 = .ok (.putfield 224, 3) := dk_181 0 224 (dk_at dksX5_nextToken_14 5 rfl rfl)
theorem dX5_nextToken_329 : decode cX5_nextToken 329 = .ok (.aload_n 0, 1) := dk_42 (dk_at dksX5_nextToken_14 8 rfl rfl)
theorem dX5_nextToken_330 : decode cX5_nextToken 330 = .ok (.dup, 1) := dk_89 (dk_at dksX5_nextToken_14 9 rfl rfl)
theorem dX5_nextToken_331 : decode cX5_nextToken 331 = .ok (.getfield 212, 3) := dk_180 0 212 (dk_at dksX5_nextToken_14 10 rfl rfl)
theorem dX5_nextToken_334 : decode cX5_nextToken 334 = .ok (.iconst 1, 1) := dk_4 (dk_at dksX5_nextToken_14 13 rfl rfl)
theorem dX5_nextToken_335 : decode cX5_nextToken 335 = .ok (.iadd, 1) := dk_96 (dk_at dksX5_nextToken_14 14 rfl rfl)
theorem dX5_nextToken_336 : decode cX5_nextToken 336 = .ok (.putfield 212, 3) := dk_181 0 212 (dk_at dksX5_nextToken_14 15 rfl rfl)
theorem dX5_nextToken_339 : decode cX5_nextToken 339 = .ok (.return_, 1) := dk_177 (dk_at dksX5_nextToken_14 18 rfl rfl)
abbrev cX5_isLetter : ByteArray := prog_18_method_55_code
def yX5_isLetter : MethodName := ⟨RX5, "isLetter", "(I)Z"⟩
def dkwX5_isLetter_1 : List UInt8 := [153, 0, 7, 4, 167, 0, 4, 3, 172]
abbrev dktX5_isLetter_1 : List UInt8 := dkwX5_isLetter_1 ++ []
def dkwX5_isLetter_0 : List UInt8 := [27, 42, 180, 0, 200, 162, 0, 26, 42, 180, 0, 52, 27, 46, 133, 20, 0, 204, 20, 0, 206, 184, 0, 71]
abbrev dktX5_isLetter_0 : List UInt8 := dkwX5_isLetter_0 ++ dktX5_isLetter_1
theorem dksX5_isLetter_0 : cX5_isLetter.data.toList.drop 0 = dktX5_isLetter_0 := by decide +kernel
theorem dksX5_isLetter_1 : cX5_isLetter.data.toList.drop 24 = dktX5_isLetter_1 := dk_seg dksX5_isLetter_0 24 rfl rfl
theorem dX5_isLetter_0 : decode cX5_isLetter 0 = .ok (.iload_n 1, 1) := dk_27 (dk_at dksX5_isLetter_0 0 rfl rfl)
theorem dX5_isLetter_1 : decode cX5_isLetter 1 = .ok (.aload_n 0, 1) := dk_42 (dk_at dksX5_isLetter_0 1 rfl rfl)
theorem dX5_isLetter_2 : decode cX5_isLetter 2 = .ok (.getfield 200, 3) := dk_180 0 200 (dk_at dksX5_isLetter_0 2 rfl rfl)
theorem dX5_isLetter_5 : decode cX5_isLetter 5 = .ok (.if_icmp .ge 26, 3) := dk_162 0 26 (dk_at dksX5_isLetter_0 5 rfl rfl)
theorem dX5_isLetter_8 : decode cX5_isLetter 8 = .ok (.aload_n 0, 1) := dk_42 (dk_at dksX5_isLetter_0 8 rfl rfl)
theorem dX5_isLetter_9 : decode cX5_isLetter 9 = .ok (.getfield 52, 3) := dk_180 0 52 (dk_at dksX5_isLetter_0 9 rfl rfl)
theorem dX5_isLetter_12 : decode cX5_isLetter 12 = .ok (.iload_n 1, 1) := dk_27 (dk_at dksX5_isLetter_0 12 rfl rfl)
theorem dX5_isLetter_13 : decode cX5_isLetter 13 = .ok (.iaload, 1) := dk_46 (dk_at dksX5_isLetter_0 13 rfl rfl)
theorem dX5_isLetter_14 : decode cX5_isLetter 14 = .ok (.i2l, 1) := dk_133 (dk_at dksX5_isLetter_0 14 rfl rfl)
theorem dX5_isLetter_15 : decode cX5_isLetter 15 = .ok (.ldc2_w 204, 3) := dk_20 0 204 (dk_at dksX5_isLetter_0 15 rfl rfl)
theorem dX5_isLetter_18 : decode cX5_isLetter 18 = .ok (.ldc2_w 206, 3) := dk_20 0 206 (dk_at dksX5_isLetter_0 18 rfl rfl)
theorem dX5_isLetter_21 : decode cX5_isLetter 21 = .ok (.invokestatic 71, 3) := dk_184 0 71 (dk_at dksX5_isLetter_0 21 rfl rfl)
theorem dX5_isLetter_24 : decode cX5_isLetter 24 = .ok (.ifCond .eq 7, 3) := dk_153 0 7 (dk_at dksX5_isLetter_1 0 rfl rfl)
theorem dX5_isLetter_27 : decode cX5_isLetter 27 = .ok (.iconst 1, 1) := dk_4 (dk_at dksX5_isLetter_1 3 rfl rfl)
theorem dX5_isLetter_28 : decode cX5_isLetter 28 = .ok (.goto 4, 3) := dk_167 0 4 (dk_at dksX5_isLetter_1 4 rfl rfl)
theorem dX5_isLetter_31 : decode cX5_isLetter 31 = .ok (.iconst 0, 1) := dk_3 (dk_at dksX5_isLetter_1 7 rfl rfl)
theorem dX5_isLetter_32 : decode cX5_isLetter 32 = .ok (.ireturn, 1) := dk_172 (dk_at dksX5_isLetter_1 8 rfl rfl)
abbrev cX5_isDigit : ByteArray := prog_18_method_56_code
def yX5_isDigit : MethodName := ⟨RX5, "isDigit", "(I)Z"⟩
def dkwX5_isDigit_1 : List UInt8 := [153, 0, 7, 4, 167, 0, 4, 3, 172]
abbrev dktX5_isDigit_1 : List UInt8 := dkwX5_isDigit_1 ++ []
def dkwX5_isDigit_0 : List UInt8 := [27, 42, 180, 0, 200, 162, 0, 26, 42, 180, 0, 52, 27, 46, 133, 20, 0, 208, 20, 0, 210, 184, 0, 71]
abbrev dktX5_isDigit_0 : List UInt8 := dkwX5_isDigit_0 ++ dktX5_isDigit_1
theorem dksX5_isDigit_0 : cX5_isDigit.data.toList.drop 0 = dktX5_isDigit_0 := by decide +kernel
theorem dksX5_isDigit_1 : cX5_isDigit.data.toList.drop 24 = dktX5_isDigit_1 := dk_seg dksX5_isDigit_0 24 rfl rfl
theorem dX5_isDigit_0 : decode cX5_isDigit 0 = .ok (.iload_n 1, 1) := dk_27 (dk_at dksX5_isDigit_0 0 rfl rfl)
theorem dX5_isDigit_1 : decode cX5_isDigit 1 = .ok (.aload_n 0, 1) := dk_42 (dk_at dksX5_isDigit_0 1 rfl rfl)
theorem dX5_isDigit_2 : decode cX5_isDigit 2 = .ok (.getfield 200, 3) := dk_180 0 200 (dk_at dksX5_isDigit_0 2 rfl rfl)
theorem dX5_isDigit_5 : decode cX5_isDigit 5 = .ok (.if_icmp .ge 26, 3) := dk_162 0 26 (dk_at dksX5_isDigit_0 5 rfl rfl)
theorem dX5_isDigit_8 : decode cX5_isDigit 8 = .ok (.aload_n 0, 1) := dk_42 (dk_at dksX5_isDigit_0 8 rfl rfl)
theorem dX5_isDigit_9 : decode cX5_isDigit 9 = .ok (.getfield 52, 3) := dk_180 0 52 (dk_at dksX5_isDigit_0 9 rfl rfl)
theorem dX5_isDigit_12 : decode cX5_isDigit 12 = .ok (.iload_n 1, 1) := dk_27 (dk_at dksX5_isDigit_0 12 rfl rfl)
theorem dX5_isDigit_13 : decode cX5_isDigit 13 = .ok (.iaload, 1) := dk_46 (dk_at dksX5_isDigit_0 13 rfl rfl)
theorem dX5_isDigit_14 : decode cX5_isDigit 14 = .ok (.i2l, 1) := dk_133 (dk_at dksX5_isDigit_0 14 rfl rfl)
theorem dX5_isDigit_15 : decode cX5_isDigit 15 = .ok (.ldc2_w 208, 3) := dk_20 0 208 (dk_at dksX5_isDigit_0 15 rfl rfl)
theorem dX5_isDigit_18 : decode cX5_isDigit 18 = .ok (.ldc2_w 210, 3) := dk_20 0 210 (dk_at dksX5_isDigit_0 18 rfl rfl)
theorem dX5_isDigit_21 : decode cX5_isDigit 21 = .ok (.invokestatic 71, 3) := dk_184 0 71 (dk_at dksX5_isDigit_0 21 rfl rfl)
theorem dX5_isDigit_24 : decode cX5_isDigit 24 = .ok (.ifCond .eq 7, 3) := dk_153 0 7 (dk_at dksX5_isDigit_1 0 rfl rfl)
theorem dX5_isDigit_27 : decode cX5_isDigit 27 = .ok (.iconst 1, 1) := dk_4 (dk_at dksX5_isDigit_1 3 rfl rfl)
theorem dX5_isDigit_28 : decode cX5_isDigit 28 = .ok (.goto 4, 3) := dk_167 0 4 (dk_at dksX5_isDigit_1 4 rfl rfl)
theorem dX5_isDigit_31 : decode cX5_isDigit 31 = .ok (.iconst 0, 1) := dk_3 (dk_at dksX5_isDigit_1 7 rfl rfl)
theorem dX5_isDigit_32 : decode cX5_isDigit 32 = .ok (.ireturn, 1) := dk_172 (dk_at dksX5_isDigit_1 8 rfl rfl)
abbrev cX5_key : ByteArray := prog_18_method_60_code
def yX5_key : MethodName := ⟨RX5, "key", "()I"⟩
def dkwX5_key_2 : List UInt8 := [5, 167, 0, 4, 2, 172]
abbrev dktX5_key_2 : List UInt8 := dkwX5_key_2 ++ []
def dkwX5_key_1 : List UInt8 := [3, 182, 0, 233, 153, 0, 5, 4, 172, 42, 16, 102, 16, 105, 16, 110, 16, 101, 182, 0, 233, 153, 0, 7]
abbrev dktX5_key_1 : List UInt8 := dkwX5_key_1 ++ dktX5_key_2
def dkwX5_key_0 : List UInt8 := [42, 16, 112, 16, 117, 16, 115, 16, 104, 182, 0, 233, 153, 0, 5, 3, 172, 42, 16, 102, 16, 101, 16, 101]
abbrev dktX5_key_0 : List UInt8 := dkwX5_key_0 ++ dktX5_key_1
theorem dksX5_key_0 : cX5_key.data.toList.drop 0 = dktX5_key_0 := by decide +kernel
theorem dksX5_key_1 : cX5_key.data.toList.drop 24 = dktX5_key_1 := dk_seg dksX5_key_0 24 rfl rfl
theorem dksX5_key_2 : cX5_key.data.toList.drop 48 = dktX5_key_2 := dk_seg dksX5_key_1 24 rfl rfl
theorem dX5_key_0 : decode cX5_key 0 = .ok (.aload_n 0, 1) := dk_42 (dk_at dksX5_key_0 0 rfl rfl)
theorem dX5_key_1 : decode cX5_key 1 = .ok (.bipush 112, 2) := dk_16 112 (dk_at dksX5_key_0 1 rfl rfl)
theorem dX5_key_3 : decode cX5_key 3 = .ok (.bipush 117, 2) := dk_16 117 (dk_at dksX5_key_0 3 rfl rfl)
theorem dX5_key_5 : decode cX5_key 5 = .ok (.bipush 115, 2) := dk_16 115 (dk_at dksX5_key_0 5 rfl rfl)
theorem dX5_key_7 : decode cX5_key 7 = .ok (.bipush 104, 2) := dk_16 104 (dk_at dksX5_key_0 7 rfl rfl)
theorem dX5_key_9 : decode cX5_key 9 = .ok (.invokevirtual 233, 3) := dk_182 0 233 (dk_at dksX5_key_0 9 rfl rfl)
theorem dX5_key_12 : decode cX5_key 12 = .ok (.ifCond .eq 5, 3) := dk_153 0 5 (dk_at dksX5_key_0 12 rfl rfl)
theorem dX5_key_15 : decode cX5_key 15 = .ok (.iconst 0, 1) := dk_3 (dk_at dksX5_key_0 15 rfl rfl)
theorem dX5_key_16 : decode cX5_key 16 = .ok (.ireturn, 1) := dk_172 (dk_at dksX5_key_0 16 rfl rfl)
theorem dX5_key_17 : decode cX5_key 17 = .ok (.aload_n 0, 1) := dk_42 (dk_at dksX5_key_0 17 rfl rfl)
theorem dX5_key_18 : decode cX5_key 18 = .ok (.bipush 102, 2) := dk_16 102 (dk_at dksX5_key_0 18 rfl rfl)
theorem dX5_key_20 : decode cX5_key 20 = .ok (.bipush 101, 2) := dk_16 101 (dk_at dksX5_key_0 20 rfl rfl)
theorem dX5_key_22 : decode cX5_key 22 = .ok (.bipush 101, 2) := dk_16 101 (dk_at dksX5_key_0 22 rfl rfl)
theorem dX5_key_24 : decode cX5_key 24 = .ok (.iconst 0, 1) := dk_3 (dk_at dksX5_key_1 0 rfl rfl)
theorem dX5_key_25 : decode cX5_key 25 = .ok (.invokevirtual 233, 3) := dk_182 0 233 (dk_at dksX5_key_1 1 rfl rfl)
theorem dX5_key_28 : decode cX5_key 28 = .ok (.ifCond .eq 5, 3) := dk_153 0 5 (dk_at dksX5_key_1 4 rfl rfl)
theorem dX5_key_31 : decode cX5_key 31 = .ok (.iconst 1, 1) := dk_4 (dk_at dksX5_key_1 7 rfl rfl)
theorem dX5_key_32 : decode cX5_key 32 = .ok (.ireturn, 1) := dk_172 (dk_at dksX5_key_1 8 rfl rfl)
theorem dX5_key_33 : decode cX5_key 33 = .ok (.aload_n 0, 1) := dk_42 (dk_at dksX5_key_1 9 rfl rfl)
theorem dX5_key_34 : decode cX5_key 34 = .ok (.bipush 102, 2) := dk_16 102 (dk_at dksX5_key_1 10 rfl rfl)
theorem dX5_key_36 : decode cX5_key 36 = .ok (.bipush 105, 2) := dk_16 105 (dk_at dksX5_key_1 12 rfl rfl)
theorem dX5_key_38 : decode cX5_key 38 = .ok (.bipush 110, 2) := dk_16 110 (dk_at dksX5_key_1 14 rfl rfl)
theorem dX5_key_40 : decode cX5_key 40 = .ok (.bipush 101, 2) := dk_16 101 (dk_at dksX5_key_1 16 rfl rfl)
theorem dX5_key_42 : decode cX5_key 42 = .ok (.invokevirtual 233, 3) := dk_182 0 233 (dk_at dksX5_key_1 18 rfl rfl)
theorem dX5_key_45 : decode cX5_key 45 = .ok (.ifCond .eq 7, 3) := dk_153 0 7 (dk_at dksX5_key_1 21 rfl rfl)
theorem dX5_key_48 : decode cX5_key 48 = .ok (.iconst 2, 1) := dk_5 (dk_at dksX5_key_2 0 rfl rfl)
theorem dX5_key_49 : decode cX5_key 49 = .ok (.goto 4, 3) := dk_167 0 4 (dk_at dksX5_key_2 1 rfl rfl)
theorem dX5_key_52 : decode cX5_key 52 = .ok (.iconst (-1), 1) := dk_2 (dk_at dksX5_key_2 4 rfl rfl)
theorem dX5_key_53 : decode cX5_key 53 = .ok (.ireturn, 1) := dk_172 (dk_at dksX5_key_2 5 rfl rfl)
abbrev cX5_isWordAt : ByteArray := prog_18_method_59_code
def yX5_isWordAt : MethodName := ⟨RX5, "isWordAt", "(IIII)Z"⟩
def dkwX5_isWordAt_4 : List UInt8 := [160, 0, 7, 4, 167, 0, 4, 3, 172]
abbrev dktX5_isWordAt_4 : List UInt8 := dkwX5_isWordAt_4 ++ []
def dkwX5_isWordAt_3 : List UInt8 := [46, 29, 160, 0, 28, 21, 4, 153, 0, 19, 42, 180, 0, 52, 42, 180, 0, 218, 6, 96, 46, 21, 4]
abbrev dktX5_isWordAt_3 : List UInt8 := dkwX5_isWordAt_3 ++ dktX5_isWordAt_4
def dkwX5_isWordAt_2 : List UInt8 := [180, 0, 52, 42, 180, 0, 218, 4, 96, 46, 28, 160, 0, 43, 42, 180, 0, 52, 42, 180, 0, 218, 5, 96]
abbrev dktX5_isWordAt_2 : List UInt8 := dkwX5_isWordAt_2 ++ dktX5_isWordAt_3
def dkwX5_isWordAt_1 : List UInt8 := [42, 180, 0, 218, 100, 21, 5, 160, 0, 71, 42, 180, 0, 52, 42, 180, 0, 218, 46, 27, 160, 0, 58, 42]
abbrev dktX5_isWordAt_1 : List UInt8 := dkwX5_isWordAt_1 ++ dktX5_isWordAt_2
def dkwX5_isWordAt_0 : List UInt8 := [21, 4, 154, 0, 7, 6, 167, 0, 4, 7, 54, 5, 42, 180, 0, 215, 4, 160, 0, 85, 42, 180, 0, 212]
abbrev dktX5_isWordAt_0 : List UInt8 := dkwX5_isWordAt_0 ++ dktX5_isWordAt_1
theorem dksX5_isWordAt_0 : cX5_isWordAt.data.toList.drop 0 = dktX5_isWordAt_0 := by decide +kernel
theorem dksX5_isWordAt_1 : cX5_isWordAt.data.toList.drop 24 = dktX5_isWordAt_1 := dk_seg dksX5_isWordAt_0 24 rfl rfl
theorem dksX5_isWordAt_2 : cX5_isWordAt.data.toList.drop 48 = dktX5_isWordAt_2 := dk_seg dksX5_isWordAt_1 24 rfl rfl
theorem dksX5_isWordAt_3 : cX5_isWordAt.data.toList.drop 72 = dktX5_isWordAt_3 := dk_seg dksX5_isWordAt_2 24 rfl rfl
theorem dksX5_isWordAt_4 : cX5_isWordAt.data.toList.drop 95 = dktX5_isWordAt_4 := dk_seg dksX5_isWordAt_3 23 rfl rfl
theorem dX5_isWordAt_0 : decode cX5_isWordAt 0 = .ok (.iload 4, 2) := dk_21 4 (dk_at dksX5_isWordAt_0 0 rfl rfl)
theorem dX5_isWordAt_2 : decode cX5_isWordAt 2 = .ok (.ifCond .ne 7, 3) := dk_154 0 7 (dk_at dksX5_isWordAt_0 2 rfl rfl)
theorem dX5_isWordAt_5 : decode cX5_isWordAt 5 = .ok (.iconst 3, 1) := dk_6 (dk_at dksX5_isWordAt_0 5 rfl rfl)
theorem dX5_isWordAt_6 : decode cX5_isWordAt 6 = .ok (.goto 4, 3) := dk_167 0 4 (dk_at dksX5_isWordAt_0 6 rfl rfl)
theorem dX5_isWordAt_9 : decode cX5_isWordAt 9 = .ok (.iconst 4, 1) := dk_7 (dk_at dksX5_isWordAt_0 9 rfl rfl)
theorem dX5_isWordAt_10 : decode cX5_isWordAt 10 = .ok (.istore 5, 2) := dk_54 5 (dk_at dksX5_isWordAt_0 10 rfl rfl)
theorem dX5_isWordAt_12 : decode cX5_isWordAt 12 = .ok (.aload_n 0, 1) := dk_42 (dk_at dksX5_isWordAt_0 12 rfl rfl)
theorem dX5_isWordAt_13 : decode cX5_isWordAt 13 = .ok (.getfield 215, 3) := dk_180 0 215 (dk_at dksX5_isWordAt_0 13 rfl rfl)
theorem dX5_isWordAt_16 : decode cX5_isWordAt 16 = .ok (.iconst 1, 1) := dk_4 (dk_at dksX5_isWordAt_0 16 rfl rfl)
theorem dX5_isWordAt_17 : decode cX5_isWordAt 17 = .ok (.if_icmp .ne 85, 3) := dk_160 0 85 (dk_at dksX5_isWordAt_0 17 rfl rfl)
theorem dX5_isWordAt_20 : decode cX5_isWordAt 20 = .ok (.aload_n 0, 1) := dk_42 (dk_at dksX5_isWordAt_0 20 rfl rfl)
theorem dX5_isWordAt_21 : decode cX5_isWordAt 21 = .ok (.getfield 212, 3) := dk_180 0 212 (dk_at dksX5_isWordAt_0 21 rfl rfl)
theorem dX5_isWordAt_24 : decode cX5_isWordAt 24 = .ok (.aload_n 0, 1) := dk_42 (dk_at dksX5_isWordAt_1 0 rfl rfl)
theorem dX5_isWordAt_25 : decode cX5_isWordAt 25 = .ok (.getfield 218, 3) := dk_180 0 218 (dk_at dksX5_isWordAt_1 1 rfl rfl)
theorem dX5_isWordAt_28 : decode cX5_isWordAt 28 = .ok (.isub, 1) := dk_100 (dk_at dksX5_isWordAt_1 4 rfl rfl)
theorem dX5_isWordAt_29 : decode cX5_isWordAt 29 = .ok (.iload 5, 2) := dk_21 5 (dk_at dksX5_isWordAt_1 5 rfl rfl)
theorem dX5_isWordAt_31 : decode cX5_isWordAt 31 = .ok (.if_icmp .ne 71, 3) := dk_160 0 71 (dk_at dksX5_isWordAt_1 7 rfl rfl)
theorem dX5_isWordAt_34 : decode cX5_isWordAt 34 = .ok (.aload_n 0, 1) := dk_42 (dk_at dksX5_isWordAt_1 10 rfl rfl)
theorem dX5_isWordAt_35 : decode cX5_isWordAt 35 = .ok (.getfield 52, 3) := dk_180 0 52 (dk_at dksX5_isWordAt_1 11 rfl rfl)
theorem dX5_isWordAt_38 : decode cX5_isWordAt 38 = .ok (.aload_n 0, 1) := dk_42 (dk_at dksX5_isWordAt_1 14 rfl rfl)
theorem dX5_isWordAt_39 : decode cX5_isWordAt 39 = .ok (.getfield 218, 3) := dk_180 0 218 (dk_at dksX5_isWordAt_1 15 rfl rfl)
theorem dX5_isWordAt_42 : decode cX5_isWordAt 42 = .ok (.iaload, 1) := dk_46 (dk_at dksX5_isWordAt_1 18 rfl rfl)
theorem dX5_isWordAt_43 : decode cX5_isWordAt 43 = .ok (.iload_n 1, 1) := dk_27 (dk_at dksX5_isWordAt_1 19 rfl rfl)
theorem dX5_isWordAt_44 : decode cX5_isWordAt 44 = .ok (.if_icmp .ne 58, 3) := dk_160 0 58 (dk_at dksX5_isWordAt_1 20 rfl rfl)
theorem dX5_isWordAt_47 : decode cX5_isWordAt 47 = .ok (.aload_n 0, 1) := dk_42 (dk_at dksX5_isWordAt_1 23 rfl rfl)
theorem dX5_isWordAt_48 : decode cX5_isWordAt 48 = .ok (.getfield 52, 3) := dk_180 0 52 (dk_at dksX5_isWordAt_2 0 rfl rfl)
theorem dX5_isWordAt_51 : decode cX5_isWordAt 51 = .ok (.aload_n 0, 1) := dk_42 (dk_at dksX5_isWordAt_2 3 rfl rfl)
theorem dX5_isWordAt_52 : decode cX5_isWordAt 52 = .ok (.getfield 218, 3) := dk_180 0 218 (dk_at dksX5_isWordAt_2 4 rfl rfl)
theorem dX5_isWordAt_55 : decode cX5_isWordAt 55 = .ok (.iconst 1, 1) := dk_4 (dk_at dksX5_isWordAt_2 7 rfl rfl)
theorem dX5_isWordAt_56 : decode cX5_isWordAt 56 = .ok (.iadd, 1) := dk_96 (dk_at dksX5_isWordAt_2 8 rfl rfl)
theorem dX5_isWordAt_57 : decode cX5_isWordAt 57 = .ok (.iaload, 1) := dk_46 (dk_at dksX5_isWordAt_2 9 rfl rfl)
theorem dX5_isWordAt_58 : decode cX5_isWordAt 58 = .ok (.iload_n 2, 1) := dk_28 (dk_at dksX5_isWordAt_2 10 rfl rfl)
theorem dX5_isWordAt_59 : decode cX5_isWordAt 59 = .ok (.if_icmp .ne 43, 3) := dk_160 0 43 (dk_at dksX5_isWordAt_2 11 rfl rfl)
theorem dX5_isWordAt_62 : decode cX5_isWordAt 62 = .ok (.aload_n 0, 1) := dk_42 (dk_at dksX5_isWordAt_2 14 rfl rfl)
theorem dX5_isWordAt_63 : decode cX5_isWordAt 63 = .ok (.getfield 52, 3) := dk_180 0 52 (dk_at dksX5_isWordAt_2 15 rfl rfl)
theorem dX5_isWordAt_66 : decode cX5_isWordAt 66 = .ok (.aload_n 0, 1) := dk_42 (dk_at dksX5_isWordAt_2 18 rfl rfl)
theorem dX5_isWordAt_67 : decode cX5_isWordAt 67 = .ok (.getfield 218, 3) := dk_180 0 218 (dk_at dksX5_isWordAt_2 19 rfl rfl)
theorem dX5_isWordAt_70 : decode cX5_isWordAt 70 = .ok (.iconst 2, 1) := dk_5 (dk_at dksX5_isWordAt_2 22 rfl rfl)
theorem dX5_isWordAt_71 : decode cX5_isWordAt 71 = .ok (.iadd, 1) := dk_96 (dk_at dksX5_isWordAt_2 23 rfl rfl)
theorem dX5_isWordAt_72 : decode cX5_isWordAt 72 = .ok (.iaload, 1) := dk_46 (dk_at dksX5_isWordAt_3 0 rfl rfl)
theorem dX5_isWordAt_73 : decode cX5_isWordAt 73 = .ok (.iload_n 3, 1) := dk_29 (dk_at dksX5_isWordAt_3 1 rfl rfl)
theorem dX5_isWordAt_74 : decode cX5_isWordAt 74 = .ok (.if_icmp .ne 28, 3) := dk_160 0 28 (dk_at dksX5_isWordAt_3 2 rfl rfl)
theorem dX5_isWordAt_77 : decode cX5_isWordAt 77 = .ok (.iload 4, 2) := dk_21 4 (dk_at dksX5_isWordAt_3 5 rfl rfl)
theorem dX5_isWordAt_79 : decode cX5_isWordAt 79 = .ok (.ifCond .eq 19, 3) := dk_153 0 19 (dk_at dksX5_isWordAt_3 7 rfl rfl)
theorem dX5_isWordAt_82 : decode cX5_isWordAt 82 = .ok (.aload_n 0, 1) := dk_42 (dk_at dksX5_isWordAt_3 10 rfl rfl)
theorem dX5_isWordAt_83 : decode cX5_isWordAt 83 = .ok (.getfield 52, 3) := dk_180 0 52 (dk_at dksX5_isWordAt_3 11 rfl rfl)
theorem dX5_isWordAt_86 : decode cX5_isWordAt 86 = .ok (.aload_n 0, 1) := dk_42 (dk_at dksX5_isWordAt_3 14 rfl rfl)
theorem dX5_isWordAt_87 : decode cX5_isWordAt 87 = .ok (.getfield 218, 3) := dk_180 0 218 (dk_at dksX5_isWordAt_3 15 rfl rfl)
theorem dX5_isWordAt_90 : decode cX5_isWordAt 90 = .ok (.iconst 3, 1) := dk_6 (dk_at dksX5_isWordAt_3 18 rfl rfl)
theorem dX5_isWordAt_91 : decode cX5_isWordAt 91 = .ok (.iadd, 1) := dk_96 (dk_at dksX5_isWordAt_3 19 rfl rfl)
theorem dX5_isWordAt_92 : decode cX5_isWordAt 92 = .ok (.iaload, 1) := dk_46 (dk_at dksX5_isWordAt_3 20 rfl rfl)
theorem dX5_isWordAt_93 : decode cX5_isWordAt 93 = .ok (.iload 4, 2) := dk_21 4 (dk_at dksX5_isWordAt_3 21 rfl rfl)
theorem dX5_isWordAt_95 : decode cX5_isWordAt 95 = .ok (.if_icmp .ne 7, 3) := dk_160 0 7 (dk_at dksX5_isWordAt_4 0 rfl rfl)
theorem dX5_isWordAt_98 : decode cX5_isWordAt 98 = .ok (.iconst 1, 1) := dk_4 (dk_at dksX5_isWordAt_4 3 rfl rfl)
theorem dX5_isWordAt_99 : decode cX5_isWordAt 99 = .ok (.goto 4, 3) := dk_167 0 4 (dk_at dksX5_isWordAt_4 4 rfl rfl)
theorem dX5_isWordAt_102 : decode cX5_isWordAt 102 = .ok (.iconst 0, 1) := dk_3 (dk_at dksX5_isWordAt_4 7 rfl rfl)
theorem dX5_isWordAt_103 : decode cX5_isWordAt 103 = .ok (.ireturn, 1) := dk_172 (dk_at dksX5_isWordAt_4 8 rfl rfl)
abbrev cX5_either : ByteArray := prog_18_method_63_code
def yX5_either : MethodName := ⟨RX5, "either", "(I)Z"⟩
def dkwX5_either_1 : List UInt8 := [27, 182, 0, 243, 154, 0, 5, 3, 172, 42, 5, 16, 124, 182, 0, 252, 167, 255, 226, 4, 172]
abbrev dktX5_either_1 : List UInt8 := dkwX5_either_1 ++ []
def dkwX5_either_0 : List UInt8 := [42, 27, 182, 0, 243, 154, 0, 5, 3, 172, 42, 16, 124, 182, 0, 246, 153, 0, 27, 42, 182, 0, 249, 42]
abbrev dktX5_either_0 : List UInt8 := dkwX5_either_0 ++ dktX5_either_1
theorem dksX5_either_0 : cX5_either.data.toList.drop 0 = dktX5_either_0 := by decide +kernel
theorem dksX5_either_1 : cX5_either.data.toList.drop 24 = dktX5_either_1 := dk_seg dksX5_either_0 24 rfl rfl
theorem dX5_either_0 : decode cX5_either 0 = .ok (.aload_n 0, 1) := dk_42 (dk_at dksX5_either_0 0 rfl rfl)
theorem dX5_either_1 : decode cX5_either 1 = .ok (.iload_n 1, 1) := dk_27 (dk_at dksX5_either_0 1 rfl rfl)
theorem dX5_either_2 : decode cX5_either 2 = .ok (.invokevirtual 243, 3) := dk_182 0 243 (dk_at dksX5_either_0 2 rfl rfl)
theorem dX5_either_5 : decode cX5_either 5 = .ok (.ifCond .ne 5, 3) := dk_154 0 5 (dk_at dksX5_either_0 5 rfl rfl)
theorem dX5_either_8 : decode cX5_either 8 = .ok (.iconst 0, 1) := dk_3 (dk_at dksX5_either_0 8 rfl rfl)
theorem dX5_either_9 : decode cX5_either 9 = .ok (.ireturn, 1) := dk_172 (dk_at dksX5_either_0 9 rfl rfl)
theorem dX5_either_10 : decode cX5_either 10 = .ok (.aload_n 0, 1) := dk_42 (dk_at dksX5_either_0 10 rfl rfl)
theorem dX5_either_11 : decode cX5_either 11 = .ok (.bipush 124, 2) := dk_16 124 (dk_at dksX5_either_0 11 rfl rfl)
theorem dX5_either_13 : decode cX5_either 13 = .ok (.invokevirtual 246, 3) := dk_182 0 246 (dk_at dksX5_either_0 13 rfl rfl)
theorem dX5_either_16 : decode cX5_either 16 = .ok (.ifCond .eq 27, 3) := dk_153 0 27 (dk_at dksX5_either_0 16 rfl rfl)
theorem dX5_either_19 : decode cX5_either 19 = .ok (.aload_n 0, 1) := dk_42 (dk_at dksX5_either_0 19 rfl rfl)
theorem dX5_either_20 : decode cX5_either 20 = .ok (.invokevirtual 249, 3) := dk_182 0 249 (dk_at dksX5_either_0 20 rfl rfl)
theorem dX5_either_23 : decode cX5_either 23 = .ok (.aload_n 0, 1) := dk_42 (dk_at dksX5_either_0 23 rfl rfl)
theorem dX5_either_24 : decode cX5_either 24 = .ok (.iload_n 1, 1) := dk_27 (dk_at dksX5_either_1 0 rfl rfl)
theorem dX5_either_25 : decode cX5_either 25 = .ok (.invokevirtual 243, 3) := dk_182 0 243 (dk_at dksX5_either_1 1 rfl rfl)
theorem dX5_either_28 : decode cX5_either 28 = .ok (.ifCond .ne 5, 3) := dk_154 0 5 (dk_at dksX5_either_1 4 rfl rfl)
theorem dX5_either_31 : decode cX5_either 31 = .ok (.iconst 0, 1) := dk_3 (dk_at dksX5_either_1 7 rfl rfl)
theorem dX5_either_32 : decode cX5_either 32 = .ok (.ireturn, 1) := dk_172 (dk_at dksX5_either_1 8 rfl rfl)
theorem dX5_either_33 : decode cX5_either 33 = .ok (.aload_n 0, 1) := dk_42 (dk_at dksX5_either_1 9 rfl rfl)
theorem dX5_either_34 : decode cX5_either 34 = .ok (.iconst 2, 1) := dk_5 (dk_at dksX5_either_1 10 rfl rfl)
theorem dX5_either_35 : decode cX5_either 35 = .ok (.bipush 124, 2) := dk_16 124 (dk_at dksX5_either_1 11 rfl rfl)
theorem dX5_either_37 : decode cX5_either 37 = .ok (.invokevirtual 252, 3) := dk_182 0 252 (dk_at dksX5_either_1 13 rfl rfl)
theorem dX5_either_40 : decode cX5_either 40 = .ok (.goto (-30), 3) := dk_167 255 226 (dk_at dksX5_either_1 16 rfl rfl)
theorem dX5_either_43 : decode cX5_either 43 = .ok (.iconst 1, 1) := dk_4 (dk_at dksX5_either_1 19 rfl rfl)
theorem dX5_either_44 : decode cX5_either 44 = .ok (.ireturn, 1) := dk_172 (dk_at dksX5_either_1 20 rfl rfl)
abbrev cX5_both : ByteArray := prog_18_method_64_code
def yX5_both : MethodName := ⟨RX5, "both", "(I)Z"⟩
def dkwX5_both_1 : List UInt8 := [27, 182, 1, 0, 154, 0, 5, 3, 172, 42, 5, 16, 38, 182, 0, 252, 167, 255, 226, 4, 172]
abbrev dktX5_both_1 : List UInt8 := dkwX5_both_1 ++ []
def dkwX5_both_0 : List UInt8 := [42, 27, 182, 1, 0, 154, 0, 5, 3, 172, 42, 16, 38, 182, 0, 246, 153, 0, 27, 42, 182, 0, 249, 42]
abbrev dktX5_both_0 : List UInt8 := dkwX5_both_0 ++ dktX5_both_1
theorem dksX5_both_0 : cX5_both.data.toList.drop 0 = dktX5_both_0 := by decide +kernel
theorem dksX5_both_1 : cX5_both.data.toList.drop 24 = dktX5_both_1 := dk_seg dksX5_both_0 24 rfl rfl
theorem dX5_both_0 : decode cX5_both 0 = .ok (.aload_n 0, 1) := dk_42 (dk_at dksX5_both_0 0 rfl rfl)
theorem dX5_both_1 : decode cX5_both 1 = .ok (.iload_n 1, 1) := dk_27 (dk_at dksX5_both_0 1 rfl rfl)
theorem dX5_both_2 : decode cX5_both 2 = .ok (.invokevirtual 256, 3) := dk_182 1 0 (dk_at dksX5_both_0 2 rfl rfl)
theorem dX5_both_5 : decode cX5_both 5 = .ok (.ifCond .ne 5, 3) := dk_154 0 5 (dk_at dksX5_both_0 5 rfl rfl)
theorem dX5_both_8 : decode cX5_both 8 = .ok (.iconst 0, 1) := dk_3 (dk_at dksX5_both_0 8 rfl rfl)
theorem dX5_both_9 : decode cX5_both 9 = .ok (.ireturn, 1) := dk_172 (dk_at dksX5_both_0 9 rfl rfl)
theorem dX5_both_10 : decode cX5_both 10 = .ok (.aload_n 0, 1) := dk_42 (dk_at dksX5_both_0 10 rfl rfl)
theorem dX5_both_11 : decode cX5_both 11 = .ok (.bipush 38, 2) := dk_16 38 (dk_at dksX5_both_0 11 rfl rfl)
theorem dX5_both_13 : decode cX5_both 13 = .ok (.invokevirtual 246, 3) := dk_182 0 246 (dk_at dksX5_both_0 13 rfl rfl)
theorem dX5_both_16 : decode cX5_both 16 = .ok (.ifCond .eq 27, 3) := dk_153 0 27 (dk_at dksX5_both_0 16 rfl rfl)
theorem dX5_both_19 : decode cX5_both 19 = .ok (.aload_n 0, 1) := dk_42 (dk_at dksX5_both_0 19 rfl rfl)
theorem dX5_both_20 : decode cX5_both 20 = .ok (.invokevirtual 249, 3) := dk_182 0 249 (dk_at dksX5_both_0 20 rfl rfl)
theorem dX5_both_23 : decode cX5_both 23 = .ok (.aload_n 0, 1) := dk_42 (dk_at dksX5_both_0 23 rfl rfl)
theorem dX5_both_24 : decode cX5_both 24 = .ok (.iload_n 1, 1) := dk_27 (dk_at dksX5_both_1 0 rfl rfl)
theorem dX5_both_25 : decode cX5_both 25 = .ok (.invokevirtual 256, 3) := dk_182 1 0 (dk_at dksX5_both_1 1 rfl rfl)
theorem dX5_both_28 : decode cX5_both 28 = .ok (.ifCond .ne 5, 3) := dk_154 0 5 (dk_at dksX5_both_1 4 rfl rfl)
theorem dX5_both_31 : decode cX5_both 31 = .ok (.iconst 0, 1) := dk_3 (dk_at dksX5_both_1 7 rfl rfl)
theorem dX5_both_32 : decode cX5_both 32 = .ok (.ireturn, 1) := dk_172 (dk_at dksX5_both_1 8 rfl rfl)
theorem dX5_both_33 : decode cX5_both 33 = .ok (.aload_n 0, 1) := dk_42 (dk_at dksX5_both_1 9 rfl rfl)
theorem dX5_both_34 : decode cX5_both 34 = .ok (.iconst 2, 1) := dk_5 (dk_at dksX5_both_1 10 rfl rfl)
theorem dX5_both_35 : decode cX5_both 35 = .ok (.bipush 38, 2) := dk_16 38 (dk_at dksX5_both_1 11 rfl rfl)
theorem dX5_both_37 : decode cX5_both 37 = .ok (.invokevirtual 252, 3) := dk_182 0 252 (dk_at dksX5_both_1 13 rfl rfl)
theorem dX5_both_40 : decode cX5_both 40 = .ok (.goto (-30), 3) := dk_167 255 226 (dk_at dksX5_both_1 16 rfl rfl)
theorem dX5_both_43 : decode cX5_both 43 = .ok (.iconst 1, 1) := dk_4 (dk_at dksX5_both_1 19 rfl rfl)
theorem dX5_both_44 : decode cX5_both 44 = .ok (.ireturn, 1) := dk_172 (dk_at dksX5_both_1 20 rfl rfl)
abbrev cX5_test : ByteArray := prog_18_method_65_code
def yX5_test : MethodName := ⟨RX5, "test", "(I)Z"⟩
def dkwX5_test_2 : List UInt8 := [42, 27, 182, 1, 3, 154, 0, 5, 3, 172, 42, 5, 28, 182, 0, 252, 4, 172]
abbrev dktX5_test_2 : List UInt8 := dkwX5_test_2 ++ []
def dkwX5_test_1 : List UInt8 := [182, 0, 246, 154, 0, 12, 42, 16, 62, 182, 0, 246, 153, 0, 28, 42, 180, 0, 224, 61, 42, 182, 0, 249]
abbrev dktX5_test_1 : List UInt8 := dkwX5_test_1 ++ dktX5_test_2
def dkwX5_test_0 : List UInt8 := [42, 27, 182, 1, 3, 154, 0, 5, 3, 172, 42, 16, 60, 182, 0, 246, 154, 0, 21, 42, 16, 61]
abbrev dktX5_test_0 : List UInt8 := dkwX5_test_0 ++ dktX5_test_1
theorem dksX5_test_0 : cX5_test.data.toList.drop 0 = dktX5_test_0 := by decide +kernel
theorem dksX5_test_1 : cX5_test.data.toList.drop 22 = dktX5_test_1 := dk_seg dksX5_test_0 22 rfl rfl
theorem dksX5_test_2 : cX5_test.data.toList.drop 46 = dktX5_test_2 := dk_seg dksX5_test_1 24 rfl rfl
theorem dX5_test_0 : decode cX5_test 0 = .ok (.aload_n 0, 1) := dk_42 (dk_at dksX5_test_0 0 rfl rfl)
theorem dX5_test_1 : decode cX5_test 1 = .ok (.iload_n 1, 1) := dk_27 (dk_at dksX5_test_0 1 rfl rfl)
theorem dX5_test_2 : decode cX5_test 2 = .ok (.invokevirtual 259, 3) := dk_182 1 3 (dk_at dksX5_test_0 2 rfl rfl)
theorem dX5_test_5 : decode cX5_test 5 = .ok (.ifCond .ne 5, 3) := dk_154 0 5 (dk_at dksX5_test_0 5 rfl rfl)
theorem dX5_test_8 : decode cX5_test 8 = .ok (.iconst 0, 1) := dk_3 (dk_at dksX5_test_0 8 rfl rfl)
theorem dX5_test_9 : decode cX5_test 9 = .ok (.ireturn, 1) := dk_172 (dk_at dksX5_test_0 9 rfl rfl)
theorem dX5_test_10 : decode cX5_test 10 = .ok (.aload_n 0, 1) := dk_42 (dk_at dksX5_test_0 10 rfl rfl)
theorem dX5_test_11 : decode cX5_test 11 = .ok (.bipush 60, 2) := dk_16 60 (dk_at dksX5_test_0 11 rfl rfl)
theorem dX5_test_13 : decode cX5_test 13 = .ok (.invokevirtual 246, 3) := dk_182 0 246 (dk_at dksX5_test_0 13 rfl rfl)
theorem dX5_test_16 : decode cX5_test 16 = .ok (.ifCond .ne 21, 3) := dk_154 0 21 (dk_at dksX5_test_0 16 rfl rfl)
theorem dX5_test_19 : decode cX5_test 19 = .ok (.aload_n 0, 1) := dk_42 (dk_at dksX5_test_0 19 rfl rfl)
theorem dX5_test_20 : decode cX5_test 20 = .ok (.bipush 61, 2) := dk_16 61 (dk_at dksX5_test_0 20 rfl rfl)
theorem dX5_test_22 : decode cX5_test 22 = .ok (.invokevirtual 246, 3) := dk_182 0 246 (dk_at dksX5_test_1 0 rfl rfl)
theorem dX5_test_25 : decode cX5_test 25 = .ok (.ifCond .ne 12, 3) := dk_154 0 12 (dk_at dksX5_test_1 3 rfl rfl)
theorem dX5_test_28 : decode cX5_test 28 = .ok (.aload_n 0, 1) := dk_42 (dk_at dksX5_test_1 6 rfl rfl)
theorem dX5_test_29 : decode cX5_test 29 = .ok (.bipush 62, 2) := dk_16 62 (dk_at dksX5_test_1 7 rfl rfl)
theorem dX5_test_31 : decode cX5_test 31 = .ok (.invokevirtual 246, 3) := dk_182 0 246 (dk_at dksX5_test_1 9 rfl rfl)
theorem dX5_test_34 : decode cX5_test 34 = .ok (.ifCond .eq 28, 3) := dk_153 0 28 (dk_at dksX5_test_1 12 rfl rfl)
theorem dX5_test_37 : decode cX5_test 37 = .ok (.aload_n 0, 1) := dk_42 (dk_at dksX5_test_1 15 rfl rfl)
theorem dX5_test_38 : decode cX5_test 38 = .ok (.getfield 224, 3) := dk_180 0 224 (dk_at dksX5_test_1 16 rfl rfl)
theorem dX5_test_41 : decode cX5_test 41 = .ok (.istore_n 2, 1) := dk_61 (dk_at dksX5_test_1 19 rfl rfl)
theorem dX5_test_42 : decode cX5_test 42 = .ok (.aload_n 0, 1) := dk_42 (dk_at dksX5_test_1 20 rfl rfl)
theorem dX5_test_43 : decode cX5_test 43 = .ok (.invokevirtual 249, 3) := dk_182 0 249 (dk_at dksX5_test_1 21 rfl rfl)
theorem dX5_test_46 : decode cX5_test 46 = .ok (.aload_n 0, 1) := dk_42 (dk_at dksX5_test_2 0 rfl rfl)
theorem dX5_test_47 : decode cX5_test 47 = .ok (.iload_n 1, 1) := dk_27 (dk_at dksX5_test_2 1 rfl rfl)
theorem dX5_test_48 : decode cX5_test 48 = .ok (.invokevirtual 259, 3) := dk_182 1 3 (dk_at dksX5_test_2 2 rfl rfl)
theorem dX5_test_51 : decode cX5_test 51 = .ok (.ifCond .ne 5, 3) := dk_154 0 5 (dk_at dksX5_test_2 5 rfl rfl)
theorem dX5_test_54 : decode cX5_test 54 = .ok (.iconst 0, 1) := dk_3 (dk_at dksX5_test_2 8 rfl rfl)
theorem dX5_test_55 : decode cX5_test 55 = .ok (.ireturn, 1) := dk_172 (dk_at dksX5_test_2 9 rfl rfl)
theorem dX5_test_56 : decode cX5_test 56 = .ok (.aload_n 0, 1) := dk_42 (dk_at dksX5_test_2 10 rfl rfl)
theorem dX5_test_57 : decode cX5_test 57 = .ok (.iconst 2, 1) := dk_5 (dk_at dksX5_test_2 11 rfl rfl)
theorem dX5_test_58 : decode cX5_test 58 = .ok (.iload_n 2, 1) := dk_28 (dk_at dksX5_test_2 12 rfl rfl)
theorem dX5_test_59 : decode cX5_test 59 = .ok (.invokevirtual 252, 3) := dk_182 0 252 (dk_at dksX5_test_2 13 rfl rfl)
theorem dX5_test_62 : decode cX5_test 62 = .ok (.iconst 1, 1) := dk_4 (dk_at dksX5_test_2 16 rfl rfl)
theorem dX5_test_63 : decode cX5_test 63 = .ok (.ireturn, 1) := dk_172 (dk_at dksX5_test_2 17 rfl rfl)
abbrev cX5_sum : ByteArray := prog_18_method_66_code
def yX5_sum : MethodName := ⟨RX5, "sum", "(I)Z"⟩
def dkwX5_sum_2 : List UInt8 := [172, 42, 5, 28, 182, 0, 252, 167, 255, 213, 4, 172]
abbrev dktX5_sum_2 : List UInt8 := dkwX5_sum_2 ++ []
def dkwX5_sum_1 : List UInt8 := [182, 0, 246, 153, 0, 31, 42, 180, 0, 224, 61, 42, 182, 0, 249, 42, 27, 182, 1, 6, 154, 0, 5, 3]
abbrev dktX5_sum_1 : List UInt8 := dkwX5_sum_1 ++ dktX5_sum_2
def dkwX5_sum_0 : List UInt8 := [42, 27, 182, 1, 6, 154, 0, 5, 3, 172, 42, 16, 43, 182, 0, 246, 154, 0, 12, 42, 16, 45]
abbrev dktX5_sum_0 : List UInt8 := dkwX5_sum_0 ++ dktX5_sum_1
theorem dksX5_sum_0 : cX5_sum.data.toList.drop 0 = dktX5_sum_0 := by decide +kernel
theorem dksX5_sum_1 : cX5_sum.data.toList.drop 22 = dktX5_sum_1 := dk_seg dksX5_sum_0 22 rfl rfl
theorem dksX5_sum_2 : cX5_sum.data.toList.drop 46 = dktX5_sum_2 := dk_seg dksX5_sum_1 24 rfl rfl
theorem dX5_sum_0 : decode cX5_sum 0 = .ok (.aload_n 0, 1) := dk_42 (dk_at dksX5_sum_0 0 rfl rfl)
theorem dX5_sum_1 : decode cX5_sum 1 = .ok (.iload_n 1, 1) := dk_27 (dk_at dksX5_sum_0 1 rfl rfl)
theorem dX5_sum_2 : decode cX5_sum 2 = .ok (.invokevirtual 262, 3) := dk_182 1 6 (dk_at dksX5_sum_0 2 rfl rfl)
theorem dX5_sum_5 : decode cX5_sum 5 = .ok (.ifCond .ne 5, 3) := dk_154 0 5 (dk_at dksX5_sum_0 5 rfl rfl)
theorem dX5_sum_8 : decode cX5_sum 8 = .ok (.iconst 0, 1) := dk_3 (dk_at dksX5_sum_0 8 rfl rfl)
theorem dX5_sum_9 : decode cX5_sum 9 = .ok (.ireturn, 1) := dk_172 (dk_at dksX5_sum_0 9 rfl rfl)
theorem dX5_sum_10 : decode cX5_sum 10 = .ok (.aload_n 0, 1) := dk_42 (dk_at dksX5_sum_0 10 rfl rfl)
theorem dX5_sum_11 : decode cX5_sum 11 = .ok (.bipush 43, 2) := dk_16 43 (dk_at dksX5_sum_0 11 rfl rfl)
theorem dX5_sum_13 : decode cX5_sum 13 = .ok (.invokevirtual 246, 3) := dk_182 0 246 (dk_at dksX5_sum_0 13 rfl rfl)
theorem dX5_sum_16 : decode cX5_sum 16 = .ok (.ifCond .ne 12, 3) := dk_154 0 12 (dk_at dksX5_sum_0 16 rfl rfl)
theorem dX5_sum_19 : decode cX5_sum 19 = .ok (.aload_n 0, 1) := dk_42 (dk_at dksX5_sum_0 19 rfl rfl)
theorem dX5_sum_20 : decode cX5_sum 20 = .ok (.bipush 45, 2) := dk_16 45 (dk_at dksX5_sum_0 20 rfl rfl)
theorem dX5_sum_22 : decode cX5_sum 22 = .ok (.invokevirtual 246, 3) := dk_182 0 246 (dk_at dksX5_sum_1 0 rfl rfl)
theorem dX5_sum_25 : decode cX5_sum 25 = .ok (.ifCond .eq 31, 3) := dk_153 0 31 (dk_at dksX5_sum_1 3 rfl rfl)
theorem dX5_sum_28 : decode cX5_sum 28 = .ok (.aload_n 0, 1) := dk_42 (dk_at dksX5_sum_1 6 rfl rfl)
theorem dX5_sum_29 : decode cX5_sum 29 = .ok (.getfield 224, 3) := dk_180 0 224 (dk_at dksX5_sum_1 7 rfl rfl)
theorem dX5_sum_32 : decode cX5_sum 32 = .ok (.istore_n 2, 1) := dk_61 (dk_at dksX5_sum_1 10 rfl rfl)
theorem dX5_sum_33 : decode cX5_sum 33 = .ok (.aload_n 0, 1) := dk_42 (dk_at dksX5_sum_1 11 rfl rfl)
theorem dX5_sum_34 : decode cX5_sum 34 = .ok (.invokevirtual 249, 3) := dk_182 0 249 (dk_at dksX5_sum_1 12 rfl rfl)
theorem dX5_sum_37 : decode cX5_sum 37 = .ok (.aload_n 0, 1) := dk_42 (dk_at dksX5_sum_1 15 rfl rfl)
theorem dX5_sum_38 : decode cX5_sum 38 = .ok (.iload_n 1, 1) := dk_27 (dk_at dksX5_sum_1 16 rfl rfl)
theorem dX5_sum_39 : decode cX5_sum 39 = .ok (.invokevirtual 262, 3) := dk_182 1 6 (dk_at dksX5_sum_1 17 rfl rfl)
theorem dX5_sum_42 : decode cX5_sum 42 = .ok (.ifCond .ne 5, 3) := dk_154 0 5 (dk_at dksX5_sum_1 20 rfl rfl)
theorem dX5_sum_45 : decode cX5_sum 45 = .ok (.iconst 0, 1) := dk_3 (dk_at dksX5_sum_1 23 rfl rfl)
theorem dX5_sum_46 : decode cX5_sum 46 = .ok (.ireturn, 1) := dk_172 (dk_at dksX5_sum_2 0 rfl rfl)
theorem dX5_sum_47 : decode cX5_sum 47 = .ok (.aload_n 0, 1) := dk_42 (dk_at dksX5_sum_2 1 rfl rfl)
theorem dX5_sum_48 : decode cX5_sum 48 = .ok (.iconst 2, 1) := dk_5 (dk_at dksX5_sum_2 2 rfl rfl)
theorem dX5_sum_49 : decode cX5_sum 49 = .ok (.iload_n 2, 1) := dk_28 (dk_at dksX5_sum_2 3 rfl rfl)
theorem dX5_sum_50 : decode cX5_sum 50 = .ok (.invokevirtual 252, 3) := dk_182 0 252 (dk_at dksX5_sum_2 4 rfl rfl)
theorem dX5_sum_53 : decode cX5_sum 53 = .ok (.goto (-43), 3) := dk_167 255 213 (dk_at dksX5_sum_2 7 rfl rfl)
theorem dX5_sum_56 : decode cX5_sum 56 = .ok (.iconst 1, 1) := dk_4 (dk_at dksX5_sum_2 10 rfl rfl)
theorem dX5_sum_57 : decode cX5_sum 57 = .ok (.ireturn, 1) := dk_172 (dk_at dksX5_sum_2 11 rfl rfl)
abbrev cX5_term : ByteArray := prog_18_method_67_code
def yX5_term : MethodName := ⟨RX5, "term", "(I)Z"⟩
def dkwX5_term_2 : List UInt8 := [172, 42, 5, 28, 182, 0, 252, 167, 255, 213, 4, 172]
abbrev dktX5_term_2 : List UInt8 := dkwX5_term_2 ++ []
def dkwX5_term_1 : List UInt8 := [182, 0, 246, 153, 0, 31, 42, 180, 0, 224, 61, 42, 182, 0, 249, 42, 27, 182, 1, 9, 154, 0, 5, 3]
abbrev dktX5_term_1 : List UInt8 := dkwX5_term_1 ++ dktX5_term_2
def dkwX5_term_0 : List UInt8 := [42, 27, 182, 1, 9, 154, 0, 5, 3, 172, 42, 16, 42, 182, 0, 246, 154, 0, 12, 42, 16, 47]
abbrev dktX5_term_0 : List UInt8 := dkwX5_term_0 ++ dktX5_term_1
theorem dksX5_term_0 : cX5_term.data.toList.drop 0 = dktX5_term_0 := by decide +kernel
theorem dksX5_term_1 : cX5_term.data.toList.drop 22 = dktX5_term_1 := dk_seg dksX5_term_0 22 rfl rfl
theorem dksX5_term_2 : cX5_term.data.toList.drop 46 = dktX5_term_2 := dk_seg dksX5_term_1 24 rfl rfl
theorem dX5_term_0 : decode cX5_term 0 = .ok (.aload_n 0, 1) := dk_42 (dk_at dksX5_term_0 0 rfl rfl)
theorem dX5_term_1 : decode cX5_term 1 = .ok (.iload_n 1, 1) := dk_27 (dk_at dksX5_term_0 1 rfl rfl)
theorem dX5_term_2 : decode cX5_term 2 = .ok (.invokevirtual 265, 3) := dk_182 1 9 (dk_at dksX5_term_0 2 rfl rfl)
theorem dX5_term_5 : decode cX5_term 5 = .ok (.ifCond .ne 5, 3) := dk_154 0 5 (dk_at dksX5_term_0 5 rfl rfl)
theorem dX5_term_8 : decode cX5_term 8 = .ok (.iconst 0, 1) := dk_3 (dk_at dksX5_term_0 8 rfl rfl)
theorem dX5_term_9 : decode cX5_term 9 = .ok (.ireturn, 1) := dk_172 (dk_at dksX5_term_0 9 rfl rfl)
theorem dX5_term_10 : decode cX5_term 10 = .ok (.aload_n 0, 1) := dk_42 (dk_at dksX5_term_0 10 rfl rfl)
theorem dX5_term_11 : decode cX5_term 11 = .ok (.bipush 42, 2) := dk_16 42 (dk_at dksX5_term_0 11 rfl rfl)
theorem dX5_term_13 : decode cX5_term 13 = .ok (.invokevirtual 246, 3) := dk_182 0 246 (dk_at dksX5_term_0 13 rfl rfl)
theorem dX5_term_16 : decode cX5_term 16 = .ok (.ifCond .ne 12, 3) := dk_154 0 12 (dk_at dksX5_term_0 16 rfl rfl)
theorem dX5_term_19 : decode cX5_term 19 = .ok (.aload_n 0, 1) := dk_42 (dk_at dksX5_term_0 19 rfl rfl)
theorem dX5_term_20 : decode cX5_term 20 = .ok (.bipush 47, 2) := dk_16 47 (dk_at dksX5_term_0 20 rfl rfl)
theorem dX5_term_22 : decode cX5_term 22 = .ok (.invokevirtual 246, 3) := dk_182 0 246 (dk_at dksX5_term_1 0 rfl rfl)
theorem dX5_term_25 : decode cX5_term 25 = .ok (.ifCond .eq 31, 3) := dk_153 0 31 (dk_at dksX5_term_1 3 rfl rfl)
theorem dX5_term_28 : decode cX5_term 28 = .ok (.aload_n 0, 1) := dk_42 (dk_at dksX5_term_1 6 rfl rfl)
theorem dX5_term_29 : decode cX5_term 29 = .ok (.getfield 224, 3) := dk_180 0 224 (dk_at dksX5_term_1 7 rfl rfl)
theorem dX5_term_32 : decode cX5_term 32 = .ok (.istore_n 2, 1) := dk_61 (dk_at dksX5_term_1 10 rfl rfl)
theorem dX5_term_33 : decode cX5_term 33 = .ok (.aload_n 0, 1) := dk_42 (dk_at dksX5_term_1 11 rfl rfl)
theorem dX5_term_34 : decode cX5_term 34 = .ok (.invokevirtual 249, 3) := dk_182 0 249 (dk_at dksX5_term_1 12 rfl rfl)
theorem dX5_term_37 : decode cX5_term 37 = .ok (.aload_n 0, 1) := dk_42 (dk_at dksX5_term_1 15 rfl rfl)
theorem dX5_term_38 : decode cX5_term 38 = .ok (.iload_n 1, 1) := dk_27 (dk_at dksX5_term_1 16 rfl rfl)
theorem dX5_term_39 : decode cX5_term 39 = .ok (.invokevirtual 265, 3) := dk_182 1 9 (dk_at dksX5_term_1 17 rfl rfl)
theorem dX5_term_42 : decode cX5_term 42 = .ok (.ifCond .ne 5, 3) := dk_154 0 5 (dk_at dksX5_term_1 20 rfl rfl)
theorem dX5_term_45 : decode cX5_term 45 = .ok (.iconst 0, 1) := dk_3 (dk_at dksX5_term_1 23 rfl rfl)
theorem dX5_term_46 : decode cX5_term 46 = .ok (.ireturn, 1) := dk_172 (dk_at dksX5_term_2 0 rfl rfl)
theorem dX5_term_47 : decode cX5_term 47 = .ok (.aload_n 0, 1) := dk_42 (dk_at dksX5_term_2 1 rfl rfl)
theorem dX5_term_48 : decode cX5_term 48 = .ok (.iconst 2, 1) := dk_5 (dk_at dksX5_term_2 2 rfl rfl)
theorem dX5_term_49 : decode cX5_term 49 = .ok (.iload_n 2, 1) := dk_28 (dk_at dksX5_term_2 3 rfl rfl)
theorem dX5_term_50 : decode cX5_term 50 = .ok (.invokevirtual 252, 3) := dk_182 0 252 (dk_at dksX5_term_2 4 rfl rfl)
theorem dX5_term_53 : decode cX5_term 53 = .ok (.goto (-43), 3) := dk_167 255 213 (dk_at dksX5_term_2 7 rfl rfl)
theorem dX5_term_56 : decode cX5_term 56 = .ok (.iconst 1, 1) := dk_4 (dk_at dksX5_term_2 10 rfl rfl)
theorem dX5_term_57 : decode cX5_term 57 = .ok (.ireturn, 1) := dk_172 (dk_at dksX5_term_2 11 rfl rfl)
abbrev cX5_part0 : ByteArray := prog_18_method_68_code
def yX5_part0 : MethodName := ⟨RX5, "part0", "(I)Z"⟩
def dkwX5_part0_9 : List UInt8 := [4, 172]
abbrev dktX5_part0_9 : List UInt8 := dkwX5_part0_9 ++ []
def dkwX5_part0_8 : List UInt8 := [16, 41, 182, 0, 246, 154, 0, 5, 3, 172, 42, 89, 180, 1, 21, 4, 100, 181, 1, 21, 42, 182, 0, 249]
abbrev dktX5_part0_8 : List UInt8 := dkwX5_part0_8 ++ dktX5_part0_9
def dkwX5_part0_7 : List UInt8 := [172, 42, 89, 180, 1, 21, 4, 96, 181, 1, 21, 42, 182, 0, 249, 42, 27, 182, 1, 24, 153, 0, 12, 42]
abbrev dktX5_part0_7 : List UInt8 := dkwX5_part0_7 ++ dktX5_part0_8
def dkwX5_part0_6 : List UInt8 := [182, 0, 252, 4, 172, 42, 16, 40, 182, 0, 246, 153, 0, 12, 42, 180, 1, 21, 16, 8, 160, 0, 5, 3]
abbrev dktX5_part0_6 : List UInt8 := dkwX5_part0_6 ++ dktX5_part0_7
def dkwX5_part0_5 : List UInt8 := [182, 1, 9, 154, 0, 5, 3, 172, 42, 89, 180, 1, 18, 4, 100, 181, 1, 18, 42, 5, 16, 33]
abbrev dktX5_part0_5 : List UInt8 := dkwX5_part0_5 ++ dktX5_part0_6
def dkwX5_part0_4 : List UInt8 := [180, 1, 18, 16, 8, 162, 0, 46, 42, 89, 180, 1, 18, 4, 96, 181, 1, 18, 42, 182, 0, 249, 42, 27]
abbrev dktX5_part0_4 : List UInt8 := dkwX5_part0_4 ++ dktX5_part0_5
def dkwX5_part0_3 : List UInt8 := [180, 1, 12, 4, 96, 181, 1, 12, 42, 182, 0, 249, 4, 172, 42, 16, 33, 182, 0, 246, 153, 0, 55, 42]
abbrev dktX5_part0_3 : List UInt8 := dkwX5_part0_3 ++ dktX5_part0_4
def dkwX5_part0_2 : List UInt8 := [27, 42, 180, 0, 224, 184, 1, 15, 153, 0, 28, 42, 4, 42, 180, 0, 224, 182, 0, 252, 42, 89]
abbrev dktX5_part0_2 : List UInt8 := dkwX5_part0_2 ++ dktX5_part0_3
def dkwX5_part0_1 : List UInt8 := [181, 1, 12, 42, 182, 0, 249, 4, 172, 42, 180, 0, 215, 4, 160, 0, 46, 42, 180, 0, 224, 153, 0, 39]
abbrev dktX5_part0_1 : List UInt8 := dkwX5_part0_1 ++ dktX5_part0_2
def dkwX5_part0_0 : List UInt8 := [42, 180, 0, 215, 5, 160, 0, 28, 42, 3, 42, 180, 0, 230, 182, 0, 252, 42, 89, 180, 1, 12, 4, 96]
abbrev dktX5_part0_0 : List UInt8 := dkwX5_part0_0 ++ dktX5_part0_1
theorem dksX5_part0_0 : cX5_part0.data.toList.drop 0 = dktX5_part0_0 := by decide +kernel
theorem dksX5_part0_1 : cX5_part0.data.toList.drop 24 = dktX5_part0_1 := dk_seg dksX5_part0_0 24 rfl rfl
theorem dksX5_part0_2 : cX5_part0.data.toList.drop 48 = dktX5_part0_2 := dk_seg dksX5_part0_1 24 rfl rfl
theorem dksX5_part0_3 : cX5_part0.data.toList.drop 70 = dktX5_part0_3 := dk_seg dksX5_part0_2 22 rfl rfl
theorem dksX5_part0_4 : cX5_part0.data.toList.drop 94 = dktX5_part0_4 := dk_seg dksX5_part0_3 24 rfl rfl
theorem dksX5_part0_5 : cX5_part0.data.toList.drop 118 = dktX5_part0_5 := dk_seg dksX5_part0_4 24 rfl rfl
theorem dksX5_part0_6 : cX5_part0.data.toList.drop 140 = dktX5_part0_6 := dk_seg dksX5_part0_5 22 rfl rfl
theorem dksX5_part0_7 : cX5_part0.data.toList.drop 164 = dktX5_part0_7 := dk_seg dksX5_part0_6 24 rfl rfl
theorem dksX5_part0_8 : cX5_part0.data.toList.drop 188 = dktX5_part0_8 := dk_seg dksX5_part0_7 24 rfl rfl
theorem dksX5_part0_9 : cX5_part0.data.toList.drop 212 = dktX5_part0_9 := dk_seg dksX5_part0_8 24 rfl rfl
theorem dX5_part0_0 : decode cX5_part0 0 = .ok (.aload_n 0, 1) := dk_42 (dk_at dksX5_part0_0 0 rfl rfl)
theorem dX5_part0_1 : decode cX5_part0 1 = .ok (.getfield 215, 3) := dk_180 0 215 (dk_at dksX5_part0_0 1 rfl rfl)
theorem dX5_part0_4 : decode cX5_part0 4 = .ok (.iconst 2, 1) := dk_5 (dk_at dksX5_part0_0 4 rfl rfl)
theorem dX5_part0_5 : decode cX5_part0 5 = .ok (.if_icmp .ne 28, 3) := dk_160 0 28 (dk_at dksX5_part0_0 5 rfl rfl)
theorem dX5_part0_8 : decode cX5_part0 8 = .ok (.aload_n 0, 1) := dk_42 (dk_at dksX5_part0_0 8 rfl rfl)
theorem dX5_part0_9 : decode cX5_part0 9 = .ok (.iconst 0, 1) := dk_3 (dk_at dksX5_part0_0 9 rfl rfl)
theorem dX5_part0_10 : decode cX5_part0 10 = .ok (.aload_n 0, 1) := dk_42 (dk_at dksX5_part0_0 10 rfl rfl)
theorem dX5_part0_11 : decode cX5_part0 11 = .ok (.getfield 230, 3) := dk_180 0 230 (dk_at dksX5_part0_0 11 rfl rfl)
theorem dX5_part0_14 : decode cX5_part0 14 = .ok (.invokevirtual 252, 3) := dk_182 0 252 (dk_at dksX5_part0_0 14 rfl rfl)
theorem dX5_part0_17 : decode cX5_part0 17 = .ok (.aload_n 0, 1) := dk_42 (dk_at dksX5_part0_0 17 rfl rfl)
theorem dX5_part0_18 : decode cX5_part0 18 = .ok (.dup, 1) := dk_89 (dk_at dksX5_part0_0 18 rfl rfl)
theorem dX5_part0_19 : decode cX5_part0 19 = .ok (.getfield 268, 3) := dk_180 1 12 (dk_at dksX5_part0_0 19 rfl rfl)
theorem dX5_part0_22 : decode cX5_part0 22 = .ok (.iconst 1, 1) := dk_4 (dk_at dksX5_part0_0 22 rfl rfl)
theorem dX5_part0_23 : decode cX5_part0 23 = .ok (.iadd, 1) := dk_96 (dk_at dksX5_part0_0 23 rfl rfl)
theorem dX5_part0_24 : decode cX5_part0 24 = .ok (.putfield 268, 3) := dk_181 1 12 (dk_at dksX5_part0_1 0 rfl rfl)
theorem dX5_part0_27 : decode cX5_part0 27 = .ok (.aload_n 0, 1) := dk_42 (dk_at dksX5_part0_1 3 rfl rfl)
theorem dX5_part0_28 : decode cX5_part0 28 = .ok (.invokevirtual 249, 3) := dk_182 0 249 (dk_at dksX5_part0_1 4 rfl rfl)
theorem dX5_part0_31 : decode cX5_part0 31 = .ok (.iconst 1, 1) := dk_4 (dk_at dksX5_part0_1 7 rfl rfl)
theorem dX5_part0_32 : decode cX5_part0 32 = .ok (.ireturn, 1) := dk_172 (dk_at dksX5_part0_1 8 rfl rfl)
theorem dX5_part0_33 : decode cX5_part0 33 = .ok (.aload_n 0, 1) := dk_42 (dk_at dksX5_part0_1 9 rfl rfl)
theorem dX5_part0_34 : decode cX5_part0 34 = .ok (.getfield 215, 3) := dk_180 0 215 (dk_at dksX5_part0_1 10 rfl rfl)
theorem dX5_part0_37 : decode cX5_part0 37 = .ok (.iconst 1, 1) := dk_4 (dk_at dksX5_part0_1 13 rfl rfl)
theorem dX5_part0_38 : decode cX5_part0 38 = .ok (.if_icmp .ne 46, 3) := dk_160 0 46 (dk_at dksX5_part0_1 14 rfl rfl)
theorem dX5_part0_41 : decode cX5_part0 41 = .ok (.aload_n 0, 1) := dk_42 (dk_at dksX5_part0_1 17 rfl rfl)
theorem dX5_part0_42 : decode cX5_part0 42 = .ok (.getfield 224, 3) := dk_180 0 224 (dk_at dksX5_part0_1 18 rfl rfl)
theorem dX5_part0_45 : decode cX5_part0 45 = .ok (.ifCond .eq 39, 3) := dk_153 0 39 (dk_at dksX5_part0_1 21 rfl rfl)
theorem dX5_part0_48 : decode cX5_part0 48 = .ok (.iload_n 1, 1) := dk_27 (dk_at dksX5_part0_2 0 rfl rfl)
theorem dX5_part0_49 : decode cX5_part0 49 = .ok (.aload_n 0, 1) := dk_42 (dk_at dksX5_part0_2 1 rfl rfl)
theorem dX5_part0_50 : decode cX5_part0 50 = .ok (.getfield 224, 3) := dk_180 0 224 (dk_at dksX5_part0_2 2 rfl rfl)
theorem dX5_part0_53 : decode cX5_part0 53 = .ok (.invokestatic 271, 3) := dk_184 1 15 (dk_at dksX5_part0_2 5 rfl rfl)
theorem dX5_part0_56 : decode cX5_part0 56 = .ok (.ifCond .eq 28, 3) := dk_153 0 28 (dk_at dksX5_part0_2 8 rfl rfl)
theorem dX5_part0_59 : decode cX5_part0 59 = .ok (.aload_n 0, 1) := dk_42 (dk_at dksX5_part0_2 11 rfl rfl)
theorem dX5_part0_60 : decode cX5_part0 60 = .ok (.iconst 1, 1) := dk_4 (dk_at dksX5_part0_2 12 rfl rfl)
theorem dX5_part0_61 : decode cX5_part0 61 = .ok (.aload_n 0, 1) := dk_42 (dk_at dksX5_part0_2 13 rfl rfl)
theorem dX5_part0_62 : decode cX5_part0 62 = .ok (.getfield 224, 3) := dk_180 0 224 (dk_at dksX5_part0_2 14 rfl rfl)
theorem dX5_part0_65 : decode cX5_part0 65 = .ok (.invokevirtual 252, 3) := dk_182 0 252 (dk_at dksX5_part0_2 17 rfl rfl)
theorem dX5_part0_68 : decode cX5_part0 68 = .ok (.aload_n 0, 1) := dk_42 (dk_at dksX5_part0_2 20 rfl rfl)
theorem dX5_part0_69 : decode cX5_part0 69 = .ok (.dup, 1) := dk_89 (dk_at dksX5_part0_2 21 rfl rfl)
theorem dX5_part0_70 : decode cX5_part0 70 = .ok (.getfield 268, 3) := dk_180 1 12 (dk_at dksX5_part0_3 0 rfl rfl)
theorem dX5_part0_73 : decode cX5_part0 73 = .ok (.iconst 1, 1) := dk_4 (dk_at dksX5_part0_3 3 rfl rfl)
theorem dX5_part0_74 : decode cX5_part0 74 = .ok (.iadd, 1) := dk_96 (dk_at dksX5_part0_3 4 rfl rfl)
theorem dX5_part0_75 : decode cX5_part0 75 = .ok (.putfield 268, 3) := dk_181 1 12 (dk_at dksX5_part0_3 5 rfl rfl)
theorem dX5_part0_78 : decode cX5_part0 78 = .ok (.aload_n 0, 1) := dk_42 (dk_at dksX5_part0_3 8 rfl rfl)
theorem dX5_part0_79 : decode cX5_part0 79 = .ok (.invokevirtual 249, 3) := dk_182 0 249 (dk_at dksX5_part0_3 9 rfl rfl)
theorem dX5_part0_82 : decode cX5_part0 82 = .ok (.iconst 1, 1) := dk_4 (dk_at dksX5_part0_3 12 rfl rfl)
theorem dX5_part0_83 : decode cX5_part0 83 = .ok (.ireturn, 1) := dk_172 (dk_at dksX5_part0_3 13 rfl rfl)
theorem dX5_part0_84 : decode cX5_part0 84 = .ok (.aload_n 0, 1) := dk_42 (dk_at dksX5_part0_3 14 rfl rfl)
theorem dX5_part0_85 : decode cX5_part0 85 = .ok (.bipush 33, 2) := dk_16 33 (dk_at dksX5_part0_3 15 rfl rfl)
theorem dX5_part0_87 : decode cX5_part0 87 = .ok (.invokevirtual 246, 3) := dk_182 0 246 (dk_at dksX5_part0_3 17 rfl rfl)
theorem dX5_part0_90 : decode cX5_part0 90 = .ok (.ifCond .eq 55, 3) := dk_153 0 55 (dk_at dksX5_part0_3 20 rfl rfl)
theorem dX5_part0_93 : decode cX5_part0 93 = .ok (.aload_n 0, 1) := dk_42 (dk_at dksX5_part0_3 23 rfl rfl)
theorem dX5_part0_94 : decode cX5_part0 94 = .ok (.getfield 274, 3) := dk_180 1 18 (dk_at dksX5_part0_4 0 rfl rfl)
theorem dX5_part0_97 : decode cX5_part0 97 = .ok (.bipush 8, 2) := dk_16 8 (dk_at dksX5_part0_4 3 rfl rfl)
theorem dX5_part0_99 : decode cX5_part0 99 = .ok (.if_icmp .ge 46, 3) := dk_162 0 46 (dk_at dksX5_part0_4 5 rfl rfl)
theorem dX5_part0_102 : decode cX5_part0 102 = .ok (.aload_n 0, 1) := dk_42 (dk_at dksX5_part0_4 8 rfl rfl)
theorem dX5_part0_103 : decode cX5_part0 103 = .ok (.dup, 1) := dk_89 (dk_at dksX5_part0_4 9 rfl rfl)
theorem dX5_part0_104 : decode cX5_part0 104 = .ok (.getfield 274, 3) := dk_180 1 18 (dk_at dksX5_part0_4 10 rfl rfl)
theorem dX5_part0_107 : decode cX5_part0 107 = .ok (.iconst 1, 1) := dk_4 (dk_at dksX5_part0_4 13 rfl rfl)
theorem dX5_part0_108 : decode cX5_part0 108 = .ok (.iadd, 1) := dk_96 (dk_at dksX5_part0_4 14 rfl rfl)
theorem dX5_part0_109 : decode cX5_part0 109 = .ok (.putfield 274, 3) := dk_181 1 18 (dk_at dksX5_part0_4 15 rfl rfl)
theorem dX5_part0_112 : decode cX5_part0 112 = .ok (.aload_n 0, 1) := dk_42 (dk_at dksX5_part0_4 18 rfl rfl)
theorem dX5_part0_113 : decode cX5_part0 113 = .ok (.invokevirtual 249, 3) := dk_182 0 249 (dk_at dksX5_part0_4 19 rfl rfl)
theorem dX5_part0_116 : decode cX5_part0 116 = .ok (.aload_n 0, 1) := dk_42 (dk_at dksX5_part0_4 22 rfl rfl)
theorem dX5_part0_117 : decode cX5_part0 117 = .ok (.iload_n 1, 1) := dk_27 (dk_at dksX5_part0_4 23 rfl rfl)
theorem dX5_part0_118 : decode cX5_part0 118 = .ok (.invokevirtual 265, 3) := dk_182 1 9 (dk_at dksX5_part0_5 0 rfl rfl)
theorem dX5_part0_121 : decode cX5_part0 121 = .ok (.ifCond .ne 5, 3) := dk_154 0 5 (dk_at dksX5_part0_5 3 rfl rfl)
theorem dX5_part0_124 : decode cX5_part0 124 = .ok (.iconst 0, 1) := dk_3 (dk_at dksX5_part0_5 6 rfl rfl)
theorem dX5_part0_125 : decode cX5_part0 125 = .ok (.ireturn, 1) := dk_172 (dk_at dksX5_part0_5 7 rfl rfl)
theorem dX5_part0_126 : decode cX5_part0 126 = .ok (.aload_n 0, 1) := dk_42 (dk_at dksX5_part0_5 8 rfl rfl)
theorem dX5_part0_127 : decode cX5_part0 127 = .ok (.dup, 1) := dk_89 (dk_at dksX5_part0_5 9 rfl rfl)
theorem dX5_part0_128 : decode cX5_part0 128 = .ok (.getfield 274, 3) := dk_180 1 18 (dk_at dksX5_part0_5 10 rfl rfl)
theorem dX5_part0_131 : decode cX5_part0 131 = .ok (.iconst 1, 1) := dk_4 (dk_at dksX5_part0_5 13 rfl rfl)
theorem dX5_part0_132 : decode cX5_part0 132 = .ok (.isub, 1) := dk_100 (dk_at dksX5_part0_5 14 rfl rfl)
theorem dX5_part0_133 : decode cX5_part0 133 = .ok (.putfield 274, 3) := dk_181 1 18 (dk_at dksX5_part0_5 15 rfl rfl)
theorem dX5_part0_136 : decode cX5_part0 136 = .ok (.aload_n 0, 1) := dk_42 (dk_at dksX5_part0_5 18 rfl rfl)
theorem dX5_part0_137 : decode cX5_part0 137 = .ok (.iconst 2, 1) := dk_5 (dk_at dksX5_part0_5 19 rfl rfl)
theorem dX5_part0_138 : decode cX5_part0 138 = .ok (.bipush 33, 2) := dk_16 33 (dk_at dksX5_part0_5 20 rfl rfl)
theorem dX5_part0_140 : decode cX5_part0 140 = .ok (.invokevirtual 252, 3) := dk_182 0 252 (dk_at dksX5_part0_6 0 rfl rfl)
theorem dX5_part0_143 : decode cX5_part0 143 = .ok (.iconst 1, 1) := dk_4 (dk_at dksX5_part0_6 3 rfl rfl)
theorem dX5_part0_144 : decode cX5_part0 144 = .ok (.ireturn, 1) := dk_172 (dk_at dksX5_part0_6 4 rfl rfl)
theorem dX5_part0_145 : decode cX5_part0 145 = .ok (.aload_n 0, 1) := dk_42 (dk_at dksX5_part0_6 5 rfl rfl)
theorem dX5_part0_146 : decode cX5_part0 146 = .ok (.bipush 40, 2) := dk_16 40 (dk_at dksX5_part0_6 6 rfl rfl)
theorem dX5_part0_148 : decode cX5_part0 148 = .ok (.invokevirtual 246, 3) := dk_182 0 246 (dk_at dksX5_part0_6 8 rfl rfl)
theorem dX5_part0_151 : decode cX5_part0 151 = .ok (.ifCond .eq 12, 3) := dk_153 0 12 (dk_at dksX5_part0_6 11 rfl rfl)
theorem dX5_part0_154 : decode cX5_part0 154 = .ok (.aload_n 0, 1) := dk_42 (dk_at dksX5_part0_6 14 rfl rfl)
theorem dX5_part0_155 : decode cX5_part0 155 = .ok (.getfield 277, 3) := dk_180 1 21 (dk_at dksX5_part0_6 15 rfl rfl)
theorem dX5_part0_158 : decode cX5_part0 158 = .ok (.bipush 8, 2) := dk_16 8 (dk_at dksX5_part0_6 18 rfl rfl)
theorem dX5_part0_160 : decode cX5_part0 160 = .ok (.if_icmp .ne 5, 3) := dk_160 0 5 (dk_at dksX5_part0_6 20 rfl rfl)
theorem dX5_part0_163 : decode cX5_part0 163 = .ok (.iconst 0, 1) := dk_3 (dk_at dksX5_part0_6 23 rfl rfl)
theorem dX5_part0_164 : decode cX5_part0 164 = .ok (.ireturn, 1) := dk_172 (dk_at dksX5_part0_7 0 rfl rfl)
theorem dX5_part0_165 : decode cX5_part0 165 = .ok (.aload_n 0, 1) := dk_42 (dk_at dksX5_part0_7 1 rfl rfl)
theorem dX5_part0_166 : decode cX5_part0 166 = .ok (.dup, 1) := dk_89 (dk_at dksX5_part0_7 2 rfl rfl)
theorem dX5_part0_167 : decode cX5_part0 167 = .ok (.getfield 277, 3) := dk_180 1 21 (dk_at dksX5_part0_7 3 rfl rfl)
theorem dX5_part0_170 : decode cX5_part0 170 = .ok (.iconst 1, 1) := dk_4 (dk_at dksX5_part0_7 6 rfl rfl)
theorem dX5_part0_171 : decode cX5_part0 171 = .ok (.iadd, 1) := dk_96 (dk_at dksX5_part0_7 7 rfl rfl)
theorem dX5_part0_172 : decode cX5_part0 172 = .ok (.putfield 277, 3) := dk_181 1 21 (dk_at dksX5_part0_7 8 rfl rfl)
theorem dX5_part0_175 : decode cX5_part0 175 = .ok (.aload_n 0, 1) := dk_42 (dk_at dksX5_part0_7 11 rfl rfl)
theorem dX5_part0_176 : decode cX5_part0 176 = .ok (.invokevirtual 249, 3) := dk_182 0 249 (dk_at dksX5_part0_7 12 rfl rfl)
theorem dX5_part0_179 : decode cX5_part0 179 = .ok (.aload_n 0, 1) := dk_42 (dk_at dksX5_part0_7 15 rfl rfl)
theorem dX5_part0_180 : decode cX5_part0 180 = .ok (.iload_n 1, 1) := dk_27 (dk_at dksX5_part0_7 16 rfl rfl)
theorem dX5_part0_181 : decode cX5_part0 181 = .ok (.invokevirtual 280, 3) := dk_182 1 24 (dk_at dksX5_part0_7 17 rfl rfl)
theorem dX5_part0_184 : decode cX5_part0 184 = .ok (.ifCond .eq 12, 3) := dk_153 0 12 (dk_at dksX5_part0_7 20 rfl rfl)
theorem dX5_part0_187 : decode cX5_part0 187 = .ok (.aload_n 0, 1) := dk_42 (dk_at dksX5_part0_7 23 rfl rfl)
theorem dX5_part0_188 : decode cX5_part0 188 = .ok (.bipush 41, 2) := dk_16 41 (dk_at dksX5_part0_8 0 rfl rfl)
theorem dX5_part0_190 : decode cX5_part0 190 = .ok (.invokevirtual 246, 3) := dk_182 0 246 (dk_at dksX5_part0_8 2 rfl rfl)
theorem dX5_part0_193 : decode cX5_part0 193 = .ok (.ifCond .ne 5, 3) := dk_154 0 5 (dk_at dksX5_part0_8 5 rfl rfl)
theorem dX5_part0_196 : decode cX5_part0 196 = .ok (.iconst 0, 1) := dk_3 (dk_at dksX5_part0_8 8 rfl rfl)
theorem dX5_part0_197 : decode cX5_part0 197 = .ok (.ireturn, 1) := dk_172 (dk_at dksX5_part0_8 9 rfl rfl)
theorem dX5_part0_198 : decode cX5_part0 198 = .ok (.aload_n 0, 1) := dk_42 (dk_at dksX5_part0_8 10 rfl rfl)
theorem dX5_part0_199 : decode cX5_part0 199 = .ok (.dup, 1) := dk_89 (dk_at dksX5_part0_8 11 rfl rfl)
theorem dX5_part0_200 : decode cX5_part0 200 = .ok (.getfield 277, 3) := dk_180 1 21 (dk_at dksX5_part0_8 12 rfl rfl)
theorem dX5_part0_203 : decode cX5_part0 203 = .ok (.iconst 1, 1) := dk_4 (dk_at dksX5_part0_8 15 rfl rfl)
theorem dX5_part0_204 : decode cX5_part0 204 = .ok (.isub, 1) := dk_100 (dk_at dksX5_part0_8 16 rfl rfl)
theorem dX5_part0_205 : decode cX5_part0 205 = .ok (.putfield 277, 3) := dk_181 1 21 (dk_at dksX5_part0_8 17 rfl rfl)
theorem dX5_part0_208 : decode cX5_part0 208 = .ok (.aload_n 0, 1) := dk_42 (dk_at dksX5_part0_8 20 rfl rfl)
theorem dX5_part0_209 : decode cX5_part0 209 = .ok (.invokevirtual 249, 3) := dk_182 0 249 (dk_at dksX5_part0_8 21 rfl rfl)
theorem dX5_part0_212 : decode cX5_part0 212 = .ok (.iconst 1, 1) := dk_4 (dk_at dksX5_part0_9 0 rfl rfl)
theorem dX5_part0_213 : decode cX5_part0 213 = .ok (.ireturn, 1) := dk_172 (dk_at dksX5_part0_9 1 rfl rfl)
abbrev cX5_step : ByteArray := prog_18_method_62_code
def yX5_step : MethodName := ⟨RX5, "step", "(II)V"⟩
def dkwX5_step_2 : List UInt8 := [177]
abbrev dktX5_step_2 : List UInt8 := dkwX5_step_2 ++ []
def dkwX5_step_1 : List UInt8 := [180, 0, 237, 5, 42, 180, 0, 240, 104, 96, 4, 96, 28, 79, 42, 89, 180, 0, 240, 4, 96, 181, 0, 240]
abbrev dktX5_step_1 : List UInt8 := dkwX5_step_1 ++ dktX5_step_2
def dkwX5_step_0 : List UInt8 := [42, 180, 0, 7, 42, 180, 0, 237, 5, 42, 180, 0, 240, 104, 96, 27, 79, 42, 180, 0, 7, 42]
abbrev dktX5_step_0 : List UInt8 := dkwX5_step_0 ++ dktX5_step_1
theorem dksX5_step_0 : cX5_step.data.toList.drop 0 = dktX5_step_0 := by decide +kernel
theorem dksX5_step_1 : cX5_step.data.toList.drop 22 = dktX5_step_1 := dk_seg dksX5_step_0 22 rfl rfl
theorem dksX5_step_2 : cX5_step.data.toList.drop 46 = dktX5_step_2 := dk_seg dksX5_step_1 24 rfl rfl
theorem dX5_step_0 : decode cX5_step 0 = .ok (.aload_n 0, 1) := dk_42 (dk_at dksX5_step_0 0 rfl rfl)
theorem dX5_step_1 : decode cX5_step 1 = .ok (.getfield 7, 3) := dk_180 0 7 (dk_at dksX5_step_0 1 rfl rfl)
theorem dX5_step_4 : decode cX5_step 4 = .ok (.aload_n 0, 1) := dk_42 (dk_at dksX5_step_0 4 rfl rfl)
theorem dX5_step_5 : decode cX5_step 5 = .ok (.getfield 237, 3) := dk_180 0 237 (dk_at dksX5_step_0 5 rfl rfl)
theorem dX5_step_8 : decode cX5_step 8 = .ok (.iconst 2, 1) := dk_5 (dk_at dksX5_step_0 8 rfl rfl)
theorem dX5_step_9 : decode cX5_step 9 = .ok (.aload_n 0, 1) := dk_42 (dk_at dksX5_step_0 9 rfl rfl)
theorem dX5_step_10 : decode cX5_step 10 = .ok (.getfield 240, 3) := dk_180 0 240 (dk_at dksX5_step_0 10 rfl rfl)
theorem dX5_step_13 : decode cX5_step 13 = .ok (.imul, 1) := dk_104 (dk_at dksX5_step_0 13 rfl rfl)
theorem dX5_step_14 : decode cX5_step 14 = .ok (.iadd, 1) := dk_96 (dk_at dksX5_step_0 14 rfl rfl)
theorem dX5_step_15 : decode cX5_step 15 = .ok (.iload_n 1, 1) := dk_27 (dk_at dksX5_step_0 15 rfl rfl)
theorem dX5_step_16 : decode cX5_step 16 = .ok (.iastore, 1) := dk_79 (dk_at dksX5_step_0 16 rfl rfl)
theorem dX5_step_17 : decode cX5_step 17 = .ok (.aload_n 0, 1) := dk_42 (dk_at dksX5_step_0 17 rfl rfl)
theorem dX5_step_18 : decode cX5_step 18 = .ok (.getfield 7, 3) := dk_180 0 7 (dk_at dksX5_step_0 18 rfl rfl)
theorem dX5_step_21 : decode cX5_step 21 = .ok (.aload_n 0, 1) := dk_42 (dk_at dksX5_step_0 21 rfl rfl)
theorem dX5_step_22 : decode cX5_step 22 = .ok (.getfield 237, 3) := dk_180 0 237 (dk_at dksX5_step_1 0 rfl rfl)
theorem dX5_step_25 : decode cX5_step 25 = .ok (.iconst 2, 1) := dk_5 (dk_at dksX5_step_1 3 rfl rfl)
theorem dX5_step_26 : decode cX5_step 26 = .ok (.aload_n 0, 1) := dk_42 (dk_at dksX5_step_1 4 rfl rfl)
theorem dX5_step_27 : decode cX5_step 27 = .ok (.getfield 240, 3) := dk_180 0 240 (dk_at dksX5_step_1 5 rfl rfl)
theorem dX5_step_30 : decode cX5_step 30 = .ok (.imul, 1) := dk_104 (dk_at dksX5_step_1 8 rfl rfl)
theorem dX5_step_31 : decode cX5_step 31 = .ok (.iadd, 1) := dk_96 (dk_at dksX5_step_1 9 rfl rfl)
theorem dX5_step_32 : decode cX5_step 32 = .ok (.iconst 1, 1) := dk_4 (dk_at dksX5_step_1 10 rfl rfl)
theorem dX5_step_33 : decode cX5_step 33 = .ok (.iadd, 1) := dk_96 (dk_at dksX5_step_1 11 rfl rfl)
theorem dX5_step_34 : decode cX5_step 34 = .ok (.iload_n 2, 1) := dk_28 (dk_at dksX5_step_1 12 rfl rfl)
theorem dX5_step_35 : decode cX5_step 35 = .ok (.iastore, 1) := dk_79 (dk_at dksX5_step_1 13 rfl rfl)
theorem dX5_step_36 : decode cX5_step 36 = .ok (.aload_n 0, 1) := dk_42 (dk_at dksX5_step_1 14 rfl rfl)
theorem dX5_step_37 : decode cX5_step 37 = .ok (.dup, 1) := dk_89 (dk_at dksX5_step_1 15 rfl rfl)
theorem dX5_step_38 : decode cX5_step 38 = .ok (.getfield 240, 3) := dk_180 0 240 (dk_at dksX5_step_1 16 rfl rfl)
theorem dX5_step_41 : decode cX5_step 41 = .ok (.iconst 1, 1) := dk_4 (dk_at dksX5_step_1 19 rfl rfl)
theorem dX5_step_42 : decode cX5_step 42 = .ok (.iadd, 1) := dk_96 (dk_at dksX5_step_1 20 rfl rfl)
theorem dX5_step_43 : decode cX5_step 43 = .ok (.putfield 240, 3) := dk_181 0 240 (dk_at dksX5_step_1 21 rfl rfl)
theorem dX5_step_46 : decode cX5_step 46 = .ok (.return_, 1) := dk_177 (dk_at dksX5_step_2 0 rfl rfl)
abbrev cX5_isName : ByteArray := prog_18_method_61_code
def yX5_isName : MethodName := ⟨RX5, "isName", "(II)Z"⟩
def dkwX5_isName_4 : List UInt8 := [27, 16, 112, 160, 0, 7, 4, 167, 0, 4, 3, 172]
abbrev dktX5_isName_4 : List UInt8 := dkwX5_isName_4 ++ []
def dkwX5_isName_3 : List UInt8 := [27, 16, 114, 159, 0, 9, 27, 16, 100, 160, 0, 7, 4, 167, 0, 4, 3, 172, 27, 16, 99, 159, 0, 9]
abbrev dktX5_isName_3 : List UInt8 := dkwX5_isName_3 ++ dktX5_isName_4
def dkwX5_isName_2 : List UInt8 := [27, 16, 119, 159, 0, 15, 27, 16, 108, 159, 0, 9, 27, 16, 99, 160, 0, 7, 4, 167, 0, 4, 3, 172]
abbrev dktX5_isName_2 : List UInt8 := dkwX5_isName_2 ++ dktX5_isName_3
def dkwX5_isName_1 : List UInt8 := [171, 0, 0, 0, 0, 0, 69, 0, 0, 0, 2, 0, 0, 0, 0, 0, 0, 0, 27, 0, 0, 0, 1, 0, 0, 0, 51]
abbrev dktX5_isName_1 : List UInt8 := dkwX5_isName_1 ++ dktX5_isName_2
def dkwX5_isName_0 : List UInt8 := [26]
abbrev dktX5_isName_0 : List UInt8 := dkwX5_isName_0 ++ dktX5_isName_1
theorem dksX5_isName_0 : cX5_isName.data.toList.drop 0 = dktX5_isName_0 := by decide +kernel
theorem dksX5_isName_1 : cX5_isName.data.toList.drop 1 = dktX5_isName_1 := dk_seg dksX5_isName_0 1 rfl rfl
theorem dksX5_isName_2 : cX5_isName.data.toList.drop 28 = dktX5_isName_2 := dk_seg dksX5_isName_1 27 rfl rfl
theorem dksX5_isName_3 : cX5_isName.data.toList.drop 52 = dktX5_isName_3 := dk_seg dksX5_isName_2 24 rfl rfl
theorem dksX5_isName_4 : cX5_isName.data.toList.drop 76 = dktX5_isName_4 := dk_seg dksX5_isName_3 24 rfl rfl
theorem dX5_isName_0 : decode cX5_isName 0 = .ok (.iload_n 0, 1) := dk_26 (dk_at dksX5_isName_0 0 rfl rfl)
theorem dX5_isName_1 : decode cX5_isName 1 = .ok (.lookupswitch 69 #[(0, 27), (1, 51)], 27) := by decide +kernel
theorem dX5_isName_28 : decode cX5_isName 28 = .ok (.iload_n 1, 1) := dk_27 (dk_at dksX5_isName_2 0 rfl rfl)
theorem dX5_isName_29 : decode cX5_isName 29 = .ok (.bipush 119, 2) := dk_16 119 (dk_at dksX5_isName_2 1 rfl rfl)
theorem dX5_isName_31 : decode cX5_isName 31 = .ok (.if_icmp .eq 15, 3) := dk_159 0 15 (dk_at dksX5_isName_2 3 rfl rfl)
theorem dX5_isName_34 : decode cX5_isName 34 = .ok (.iload_n 1, 1) := dk_27 (dk_at dksX5_isName_2 6 rfl rfl)
theorem dX5_isName_35 : decode cX5_isName 35 = .ok (.bipush 108, 2) := dk_16 108 (dk_at dksX5_isName_2 7 rfl rfl)
theorem dX5_isName_37 : decode cX5_isName 37 = .ok (.if_icmp .eq 9, 3) := dk_159 0 9 (dk_at dksX5_isName_2 9 rfl rfl)
theorem dX5_isName_40 : decode cX5_isName 40 = .ok (.iload_n 1, 1) := dk_27 (dk_at dksX5_isName_2 12 rfl rfl)
theorem dX5_isName_41 : decode cX5_isName 41 = .ok (.bipush 99, 2) := dk_16 99 (dk_at dksX5_isName_2 13 rfl rfl)
theorem dX5_isName_43 : decode cX5_isName 43 = .ok (.if_icmp .ne 7, 3) := dk_160 0 7 (dk_at dksX5_isName_2 15 rfl rfl)
theorem dX5_isName_46 : decode cX5_isName 46 = .ok (.iconst 1, 1) := dk_4 (dk_at dksX5_isName_2 18 rfl rfl)
theorem dX5_isName_47 : decode cX5_isName 47 = .ok (.goto 4, 3) := dk_167 0 4 (dk_at dksX5_isName_2 19 rfl rfl)
theorem dX5_isName_50 : decode cX5_isName 50 = .ok (.iconst 0, 1) := dk_3 (dk_at dksX5_isName_2 22 rfl rfl)
theorem dX5_isName_51 : decode cX5_isName 51 = .ok (.ireturn, 1) := dk_172 (dk_at dksX5_isName_2 23 rfl rfl)
theorem dX5_isName_52 : decode cX5_isName 52 = .ok (.iload_n 1, 1) := dk_27 (dk_at dksX5_isName_3 0 rfl rfl)
theorem dX5_isName_53 : decode cX5_isName 53 = .ok (.bipush 114, 2) := dk_16 114 (dk_at dksX5_isName_3 1 rfl rfl)
theorem dX5_isName_55 : decode cX5_isName 55 = .ok (.if_icmp .eq 9, 3) := dk_159 0 9 (dk_at dksX5_isName_3 3 rfl rfl)
theorem dX5_isName_58 : decode cX5_isName 58 = .ok (.iload_n 1, 1) := dk_27 (dk_at dksX5_isName_3 6 rfl rfl)
theorem dX5_isName_59 : decode cX5_isName 59 = .ok (.bipush 100, 2) := dk_16 100 (dk_at dksX5_isName_3 7 rfl rfl)
theorem dX5_isName_61 : decode cX5_isName 61 = .ok (.if_icmp .ne 7, 3) := dk_160 0 7 (dk_at dksX5_isName_3 9 rfl rfl)
theorem dX5_isName_64 : decode cX5_isName 64 = .ok (.iconst 1, 1) := dk_4 (dk_at dksX5_isName_3 12 rfl rfl)
theorem dX5_isName_65 : decode cX5_isName 65 = .ok (.goto 4, 3) := dk_167 0 4 (dk_at dksX5_isName_3 13 rfl rfl)
theorem dX5_isName_68 : decode cX5_isName 68 = .ok (.iconst 0, 1) := dk_3 (dk_at dksX5_isName_3 16 rfl rfl)
theorem dX5_isName_69 : decode cX5_isName 69 = .ok (.ireturn, 1) := dk_172 (dk_at dksX5_isName_3 17 rfl rfl)
theorem dX5_isName_70 : decode cX5_isName 70 = .ok (.iload_n 1, 1) := dk_27 (dk_at dksX5_isName_3 18 rfl rfl)
theorem dX5_isName_71 : decode cX5_isName 71 = .ok (.bipush 99, 2) := dk_16 99 (dk_at dksX5_isName_3 19 rfl rfl)
theorem dX5_isName_73 : decode cX5_isName 73 = .ok (.if_icmp .eq 9, 3) := dk_159 0 9 (dk_at dksX5_isName_3 21 rfl rfl)
theorem dX5_isName_76 : decode cX5_isName 76 = .ok (.iload_n 1, 1) := dk_27 (dk_at dksX5_isName_4 0 rfl rfl)
theorem dX5_isName_77 : decode cX5_isName 77 = .ok (.bipush 112, 2) := dk_16 112 (dk_at dksX5_isName_4 1 rfl rfl)
theorem dX5_isName_79 : decode cX5_isName 79 = .ok (.if_icmp .ne 7, 3) := dk_160 0 7 (dk_at dksX5_isName_4 3 rfl rfl)
theorem dX5_isName_82 : decode cX5_isName 82 = .ok (.iconst 1, 1) := dk_4 (dk_at dksX5_isName_4 6 rfl rfl)
theorem dX5_isName_83 : decode cX5_isName 83 = .ok (.goto 4, 3) := dk_167 0 4 (dk_at dksX5_isName_4 7 rfl rfl)
theorem dX5_isName_86 : decode cX5_isName 86 = .ok (.iconst 0, 1) := dk_3 (dk_at dksX5_isName_4 10 rfl rfl)
theorem dX5_isName_87 : decode cX5_isName 87 = .ok (.ireturn, 1) := dk_172 (dk_at dksX5_isName_4 11 rfl rfl)
abbrev cX5_isSign : ByteArray := prog_18_method_58_code
def yX5_isSign : MethodName := ⟨RX5, "isSign", "(I)Z"⟩
def dkwX5_isSign_0 : List UInt8 := [42, 180, 0, 215, 6, 160, 0, 15, 42, 180, 0, 224, 27, 160, 0, 7, 4, 167, 0, 4, 3, 172]
abbrev dktX5_isSign_0 : List UInt8 := dkwX5_isSign_0 ++ []
theorem dksX5_isSign_0 : cX5_isSign.data.toList.drop 0 = dktX5_isSign_0 := by decide +kernel
theorem dX5_isSign_0 : decode cX5_isSign 0 = .ok (.aload_n 0, 1) := dk_42 (dk_at dksX5_isSign_0 0 rfl rfl)
theorem dX5_isSign_1 : decode cX5_isSign 1 = .ok (.getfield 215, 3) := dk_180 0 215 (dk_at dksX5_isSign_0 1 rfl rfl)
theorem dX5_isSign_4 : decode cX5_isSign 4 = .ok (.iconst 3, 1) := dk_6 (dk_at dksX5_isSign_0 4 rfl rfl)
theorem dX5_isSign_5 : decode cX5_isSign 5 = .ok (.if_icmp .ne 15, 3) := dk_160 0 15 (dk_at dksX5_isSign_0 5 rfl rfl)
theorem dX5_isSign_8 : decode cX5_isSign 8 = .ok (.aload_n 0, 1) := dk_42 (dk_at dksX5_isSign_0 8 rfl rfl)
theorem dX5_isSign_9 : decode cX5_isSign 9 = .ok (.getfield 224, 3) := dk_180 0 224 (dk_at dksX5_isSign_0 9 rfl rfl)
theorem dX5_isSign_12 : decode cX5_isSign 12 = .ok (.iload_n 1, 1) := dk_27 (dk_at dksX5_isSign_0 12 rfl rfl)
theorem dX5_isSign_13 : decode cX5_isSign 13 = .ok (.if_icmp .ne 7, 3) := dk_160 0 7 (dk_at dksX5_isSign_0 13 rfl rfl)
theorem dX5_isSign_16 : decode cX5_isSign 16 = .ok (.iconst 1, 1) := dk_4 (dk_at dksX5_isSign_0 16 rfl rfl)
theorem dX5_isSign_17 : decode cX5_isSign 17 = .ok (.goto 4, 3) := dk_167 0 4 (dk_at dksX5_isSign_0 17 rfl rfl)
theorem dX5_isSign_20 : decode cX5_isSign 20 = .ok (.iconst 0, 1) := dk_3 (dk_at dksX5_isSign_0 20 rfl rfl)
theorem dX5_isSign_21 : decode cX5_isSign 21 = .ok (.ireturn, 1) := dk_172 (dk_at dksX5_isSign_0 21 rfl rfl)
abbrev cX5_textTold : ByteArray := prog_18_method_71_code
def yX5_textTold : MethodName := ⟨RX5, "textTold", "(II)I"⟩
def dkwX5_textTold_1 : List UInt8 := [180, 0, 7, 42, 27, 182, 1, 27, 28, 96, 46, 172]
abbrev dktX5_textTold_1 : List UInt8 := dkwX5_textTold_1 ++ []
def dkwX5_textTold_0 : List UInt8 := [42, 27, 182, 1, 36, 153, 0, 13, 28, 133, 9, 10, 184, 0, 71, 154, 0, 6, 18, 100, 172, 42]
abbrev dktX5_textTold_0 : List UInt8 := dkwX5_textTold_0 ++ dktX5_textTold_1
theorem dksX5_textTold_0 : cX5_textTold.data.toList.drop 0 = dktX5_textTold_0 := by decide +kernel
theorem dksX5_textTold_1 : cX5_textTold.data.toList.drop 22 = dktX5_textTold_1 := dk_seg dksX5_textTold_0 22 rfl rfl
theorem dX5_textTold_0 : decode cX5_textTold 0 = .ok (.aload_n 0, 1) := dk_42 (dk_at dksX5_textTold_0 0 rfl rfl)
theorem dX5_textTold_1 : decode cX5_textTold 1 = .ok (.iload_n 1, 1) := dk_27 (dk_at dksX5_textTold_0 1 rfl rfl)
theorem dX5_textTold_2 : decode cX5_textTold 2 = .ok (.invokevirtual 292, 3) := dk_182 1 36 (dk_at dksX5_textTold_0 2 rfl rfl)
theorem dX5_textTold_5 : decode cX5_textTold 5 = .ok (.ifCond .eq 13, 3) := dk_153 0 13 (dk_at dksX5_textTold_0 5 rfl rfl)
theorem dX5_textTold_8 : decode cX5_textTold 8 = .ok (.iload_n 2, 1) := dk_28 (dk_at dksX5_textTold_0 8 rfl rfl)
theorem dX5_textTold_9 : decode cX5_textTold 9 = .ok (.i2l, 1) := dk_133 (dk_at dksX5_textTold_0 9 rfl rfl)
theorem dX5_textTold_10 : decode cX5_textTold 10 = .ok (.lconst 0, 1) := dk_9 (dk_at dksX5_textTold_0 10 rfl rfl)
theorem dX5_textTold_11 : decode cX5_textTold 11 = .ok (.lconst 1, 1) := dk_10 (dk_at dksX5_textTold_0 11 rfl rfl)
theorem dX5_textTold_12 : decode cX5_textTold 12 = .ok (.invokestatic 71, 3) := dk_184 0 71 (dk_at dksX5_textTold_0 12 rfl rfl)
theorem dX5_textTold_15 : decode cX5_textTold 15 = .ok (.ifCond .ne 6, 3) := dk_154 0 6 (dk_at dksX5_textTold_0 15 rfl rfl)
theorem dX5_textTold_18 : decode cX5_textTold 18 = .ok (.ldc 100, 2) := dk_18 100 (dk_at dksX5_textTold_0 18 rfl rfl)
theorem dX5_textTold_20 : decode cX5_textTold 20 = .ok (.ireturn, 1) := dk_172 (dk_at dksX5_textTold_0 20 rfl rfl)
theorem dX5_textTold_21 : decode cX5_textTold 21 = .ok (.aload_n 0, 1) := dk_42 (dk_at dksX5_textTold_0 21 rfl rfl)
theorem dX5_textTold_22 : decode cX5_textTold 22 = .ok (.getfield 7, 3) := dk_180 0 7 (dk_at dksX5_textTold_1 0 rfl rfl)
theorem dX5_textTold_25 : decode cX5_textTold 25 = .ok (.aload_n 0, 1) := dk_42 (dk_at dksX5_textTold_1 3 rfl rfl)
theorem dX5_textTold_26 : decode cX5_textTold 26 = .ok (.iload_n 1, 1) := dk_27 (dk_at dksX5_textTold_1 4 rfl rfl)
theorem dX5_textTold_27 : decode cX5_textTold 27 = .ok (.invokevirtual 283, 3) := dk_182 1 27 (dk_at dksX5_textTold_1 5 rfl rfl)
theorem dX5_textTold_30 : decode cX5_textTold 30 = .ok (.iload_n 2, 1) := dk_28 (dk_at dksX5_textTold_1 8 rfl rfl)
theorem dX5_textTold_31 : decode cX5_textTold 31 = .ok (.iadd, 1) := dk_96 (dk_at dksX5_textTold_1 9 rfl rfl)
theorem dX5_textTold_32 : decode cX5_textTold 32 = .ok (.iaload, 1) := dk_46 (dk_at dksX5_textTold_1 10 rfl rfl)
theorem dX5_textTold_33 : decode cX5_textTold 33 = .ok (.ireturn, 1) := dk_172 (dk_at dksX5_textTold_1 11 rfl rfl)
abbrev cX5_isText : ByteArray := prog_18_method_13_code
def yX5_isText : MethodName := ⟨RX5, "isText", "(I)Z"⟩
def dkwX5_isText_0 : List UInt8 := [27, 133, 9, 42, 180, 0, 7, 4, 46, 4, 100, 133, 184, 0, 71, 172]
abbrev dktX5_isText_0 : List UInt8 := dkwX5_isText_0 ++ []
theorem dksX5_isText_0 : cX5_isText.data.toList.drop 0 = dktX5_isText_0 := by decide +kernel
theorem dX5_isText_0 : decode cX5_isText 0 = .ok (.iload_n 1, 1) := dk_27 (dk_at dksX5_isText_0 0 rfl rfl)
theorem dX5_isText_1 : decode cX5_isText 1 = .ok (.i2l, 1) := dk_133 (dk_at dksX5_isText_0 1 rfl rfl)
theorem dX5_isText_2 : decode cX5_isText 2 = .ok (.lconst 0, 1) := dk_9 (dk_at dksX5_isText_0 2 rfl rfl)
theorem dX5_isText_3 : decode cX5_isText 3 = .ok (.aload_n 0, 1) := dk_42 (dk_at dksX5_isText_0 3 rfl rfl)
theorem dX5_isText_4 : decode cX5_isText 4 = .ok (.getfield 7, 3) := dk_180 0 7 (dk_at dksX5_isText_0 4 rfl rfl)
theorem dX5_isText_7 : decode cX5_isText 7 = .ok (.iconst 1, 1) := dk_4 (dk_at dksX5_isText_0 7 rfl rfl)
theorem dX5_isText_8 : decode cX5_isText 8 = .ok (.iaload, 1) := dk_46 (dk_at dksX5_isText_0 8 rfl rfl)
theorem dX5_isText_9 : decode cX5_isText 9 = .ok (.iconst 1, 1) := dk_4 (dk_at dksX5_isText_0 9 rfl rfl)
theorem dX5_isText_10 : decode cX5_isText 10 = .ok (.isub, 1) := dk_100 (dk_at dksX5_isText_0 10 rfl rfl)
theorem dX5_isText_11 : decode cX5_isText 11 = .ok (.i2l, 1) := dk_133 (dk_at dksX5_isText_0 11 rfl rfl)
theorem dX5_isText_12 : decode cX5_isText 12 = .ok (.invokestatic 71, 3) := dk_184 0 71 (dk_at dksX5_isText_0 12 rfl rfl)
theorem dX5_isText_15 : decode cX5_isText 15 = .ok (.ireturn, 1) := dk_172 (dk_at dksX5_isText_0 15 rfl rfl)
abbrev cX5_why : ByteArray := prog_18_method_73_code
def yX5_why : MethodName := ⟨RX5, "why", "(I)I"⟩
def dkwX5_why_1 : List UInt8 := [18, 100, 172]
abbrev dktX5_why_1 : List UInt8 := dkwX5_why_1 ++ []
def dkwX5_why_0 : List UInt8 := [27, 133, 9, 20, 1, 39, 184, 0, 71, 153, 0, 14, 42, 27, 182, 0, 109, 184, 0, 190, 167, 0, 5]
abbrev dktX5_why_0 : List UInt8 := dkwX5_why_0 ++ dktX5_why_1
theorem dksX5_why_0 : cX5_why.data.toList.drop 0 = dktX5_why_0 := by decide +kernel
theorem dksX5_why_1 : cX5_why.data.toList.drop 23 = dktX5_why_1 := dk_seg dksX5_why_0 23 rfl rfl
theorem dX5_why_0 : decode cX5_why 0 = .ok (.iload_n 1, 1) := dk_27 (dk_at dksX5_why_0 0 rfl rfl)
theorem dX5_why_1 : decode cX5_why 1 = .ok (.i2l, 1) := dk_133 (dk_at dksX5_why_0 1 rfl rfl)
theorem dX5_why_2 : decode cX5_why 2 = .ok (.lconst 0, 1) := dk_9 (dk_at dksX5_why_0 2 rfl rfl)
theorem dX5_why_3 : decode cX5_why 3 = .ok (.ldc2_w 295, 3) := dk_20 1 39 (dk_at dksX5_why_0 3 rfl rfl)
theorem dX5_why_6 : decode cX5_why 6 = .ok (.invokestatic 71, 3) := dk_184 0 71 (dk_at dksX5_why_0 6 rfl rfl)
theorem dX5_why_9 : decode cX5_why 9 = .ok (.ifCond .eq 14, 3) := dk_153 0 14 (dk_at dksX5_why_0 9 rfl rfl)
theorem dX5_why_12 : decode cX5_why 12 = .ok (.aload_n 0, 1) := dk_42 (dk_at dksX5_why_0 12 rfl rfl)
theorem dX5_why_13 : decode cX5_why 13 = .ok (.iload_n 1, 1) := dk_27 (dk_at dksX5_why_0 13 rfl rfl)
theorem dX5_why_14 : decode cX5_why 14 = .ok (.invokevirtual 109, 3) := dk_182 0 109 (dk_at dksX5_why_0 14 rfl rfl)
theorem dX5_why_17 : decode cX5_why 17 = .ok (.invokestatic 190, 3) := dk_184 0 190 (dk_at dksX5_why_0 17 rfl rfl)
theorem dX5_why_20 : decode cX5_why 20 = .ok (.goto 5, 3) := dk_167 0 5 (dk_at dksX5_why_0 20 rfl rfl)
theorem dX5_why_23 : decode cX5_why 23 = .ok (.ldc 100, 2) := dk_18 100 (dk_at dksX5_why_1 0 rfl rfl)
theorem dX5_why_25 : decode cX5_why 25 = .ok (.ireturn, 1) := dk_172 (dk_at dksX5_why_1 2 rfl rfl)
abbrev cX5_sheet : ByteArray := prog_18_method_77_code
def yX5_sheet : MethodName := ⟨RX5, "sheet", "(III)I"⟩
def dkwX5_sheet_4 : List UInt8 := [42, 180, 0, 22, 27, 46, 172]
abbrev dktX5_sheet_4 : List UInt8 := dkwX5_sheet_4 ++ []
def dkwX5_sheet_3 : List UInt8 := [16, 24, 162, 0, 22, 42, 180, 0, 25, 16, 24, 27, 104, 21, 4, 96, 3, 79, 132, 4, 1, 167, 255, 233]
abbrev dktX5_sheet_3 : List UInt8 := dkwX5_sheet_3 ++ dktX5_sheet_4
def dkwX5_sheet_2 : List UInt8 := [27, 28, 79, 42, 180, 0, 22, 27, 28, 156, 0, 7, 3, 167, 0, 4, 29, 79, 3, 54, 4, 21, 4]
abbrev dktX5_sheet_2 : List UInt8 := dkwX5_sheet_2 ++ dktX5_sheet_3
def dkwX5_sheet_1 : List UInt8 := [16, 24, 164, 0, 6, 18, 100, 172, 28, 155, 0, 11, 29, 156, 0, 7, 19, 1, 51, 172, 42, 180, 0, 19]
abbrev dktX5_sheet_1 : List UInt8 := dkwX5_sheet_1 ++ dktX5_sheet_2
def dkwX5_sheet_0 : List UInt8 := [27, 184, 1, 46, 153, 0, 25, 28, 133, 20, 1, 49, 10, 184, 0, 71, 153, 0, 13, 28, 155, 0, 12, 29]
abbrev dktX5_sheet_0 : List UInt8 := dkwX5_sheet_0 ++ dktX5_sheet_1
theorem dksX5_sheet_0 : cX5_sheet.data.toList.drop 0 = dktX5_sheet_0 := by decide +kernel
theorem dksX5_sheet_1 : cX5_sheet.data.toList.drop 24 = dktX5_sheet_1 := dk_seg dksX5_sheet_0 24 rfl rfl
theorem dksX5_sheet_2 : cX5_sheet.data.toList.drop 48 = dktX5_sheet_2 := dk_seg dksX5_sheet_1 24 rfl rfl
theorem dksX5_sheet_3 : cX5_sheet.data.toList.drop 71 = dktX5_sheet_3 := dk_seg dksX5_sheet_2 23 rfl rfl
theorem dksX5_sheet_4 : cX5_sheet.data.toList.drop 95 = dktX5_sheet_4 := dk_seg dksX5_sheet_3 24 rfl rfl
theorem dX5_sheet_0 : decode cX5_sheet 0 = .ok (.iload_n 1, 1) := dk_27 (dk_at dksX5_sheet_0 0 rfl rfl)
theorem dX5_sheet_1 : decode cX5_sheet 1 = .ok (.invokestatic 302, 3) := dk_184 1 46 (dk_at dksX5_sheet_0 1 rfl rfl)
theorem dX5_sheet_4 : decode cX5_sheet 4 = .ok (.ifCond .eq 25, 3) := dk_153 0 25 (dk_at dksX5_sheet_0 4 rfl rfl)
theorem dX5_sheet_7 : decode cX5_sheet 7 = .ok (.iload_n 2, 1) := dk_28 (dk_at dksX5_sheet_0 7 rfl rfl)
theorem dX5_sheet_8 : decode cX5_sheet 8 = .ok (.i2l, 1) := dk_133 (dk_at dksX5_sheet_0 8 rfl rfl)
theorem dX5_sheet_9 : decode cX5_sheet 9 = .ok (.ldc2_w 305, 3) := dk_20 1 49 (dk_at dksX5_sheet_0 9 rfl rfl)
theorem dX5_sheet_12 : decode cX5_sheet 12 = .ok (.lconst 1, 1) := dk_10 (dk_at dksX5_sheet_0 12 rfl rfl)
theorem dX5_sheet_13 : decode cX5_sheet 13 = .ok (.invokestatic 71, 3) := dk_184 0 71 (dk_at dksX5_sheet_0 13 rfl rfl)
theorem dX5_sheet_16 : decode cX5_sheet 16 = .ok (.ifCond .eq 13, 3) := dk_153 0 13 (dk_at dksX5_sheet_0 16 rfl rfl)
theorem dX5_sheet_19 : decode cX5_sheet 19 = .ok (.iload_n 2, 1) := dk_28 (dk_at dksX5_sheet_0 19 rfl rfl)
theorem dX5_sheet_20 : decode cX5_sheet 20 = .ok (.ifCond .lt 12, 3) := dk_155 0 12 (dk_at dksX5_sheet_0 20 rfl rfl)
theorem dX5_sheet_23 : decode cX5_sheet 23 = .ok (.iload_n 3, 1) := dk_29 (dk_at dksX5_sheet_0 23 rfl rfl)
theorem dX5_sheet_24 : decode cX5_sheet 24 = .ok (.bipush 24, 2) := dk_16 24 (dk_at dksX5_sheet_1 0 rfl rfl)
theorem dX5_sheet_26 : decode cX5_sheet 26 = .ok (.if_icmp .le 6, 3) := dk_164 0 6 (dk_at dksX5_sheet_1 2 rfl rfl)
theorem dX5_sheet_29 : decode cX5_sheet 29 = .ok (.ldc 100, 2) := dk_18 100 (dk_at dksX5_sheet_1 5 rfl rfl)
theorem dX5_sheet_31 : decode cX5_sheet 31 = .ok (.ireturn, 1) := dk_172 (dk_at dksX5_sheet_1 7 rfl rfl)
theorem dX5_sheet_32 : decode cX5_sheet 32 = .ok (.iload_n 2, 1) := dk_28 (dk_at dksX5_sheet_1 8 rfl rfl)
theorem dX5_sheet_33 : decode cX5_sheet 33 = .ok (.ifCond .lt 11, 3) := dk_155 0 11 (dk_at dksX5_sheet_1 9 rfl rfl)
theorem dX5_sheet_36 : decode cX5_sheet 36 = .ok (.iload_n 3, 1) := dk_29 (dk_at dksX5_sheet_1 12 rfl rfl)
theorem dX5_sheet_37 : decode cX5_sheet 37 = .ok (.ifCond .ge 7, 3) := dk_156 0 7 (dk_at dksX5_sheet_1 13 rfl rfl)
theorem dX5_sheet_40 : decode cX5_sheet 40 = .ok (.ldc_w 307, 3) := dk_19 1 51 (dk_at dksX5_sheet_1 16 rfl rfl)
theorem dX5_sheet_43 : decode cX5_sheet 43 = .ok (.ireturn, 1) := dk_172 (dk_at dksX5_sheet_1 19 rfl rfl)
theorem dX5_sheet_44 : decode cX5_sheet 44 = .ok (.aload_n 0, 1) := dk_42 (dk_at dksX5_sheet_1 20 rfl rfl)
theorem dX5_sheet_45 : decode cX5_sheet 45 = .ok (.getfield 19, 3) := dk_180 0 19 (dk_at dksX5_sheet_1 21 rfl rfl)
theorem dX5_sheet_48 : decode cX5_sheet 48 = .ok (.iload_n 1, 1) := dk_27 (dk_at dksX5_sheet_2 0 rfl rfl)
theorem dX5_sheet_49 : decode cX5_sheet 49 = .ok (.iload_n 2, 1) := dk_28 (dk_at dksX5_sheet_2 1 rfl rfl)
theorem dX5_sheet_50 : decode cX5_sheet 50 = .ok (.iastore, 1) := dk_79 (dk_at dksX5_sheet_2 2 rfl rfl)
theorem dX5_sheet_51 : decode cX5_sheet 51 = .ok (.aload_n 0, 1) := dk_42 (dk_at dksX5_sheet_2 3 rfl rfl)
theorem dX5_sheet_52 : decode cX5_sheet 52 = .ok (.getfield 22, 3) := dk_180 0 22 (dk_at dksX5_sheet_2 4 rfl rfl)
theorem dX5_sheet_55 : decode cX5_sheet 55 = .ok (.iload_n 1, 1) := dk_27 (dk_at dksX5_sheet_2 7 rfl rfl)
theorem dX5_sheet_56 : decode cX5_sheet 56 = .ok (.iload_n 2, 1) := dk_28 (dk_at dksX5_sheet_2 8 rfl rfl)
theorem dX5_sheet_57 : decode cX5_sheet 57 = .ok (.ifCond .ge 7, 3) := dk_156 0 7 (dk_at dksX5_sheet_2 9 rfl rfl)
theorem dX5_sheet_60 : decode cX5_sheet 60 = .ok (.iconst 0, 1) := dk_3 (dk_at dksX5_sheet_2 12 rfl rfl)
theorem dX5_sheet_61 : decode cX5_sheet 61 = .ok (.goto 4, 3) := dk_167 0 4 (dk_at dksX5_sheet_2 13 rfl rfl)
theorem dX5_sheet_64 : decode cX5_sheet 64 = .ok (.iload_n 3, 1) := dk_29 (dk_at dksX5_sheet_2 16 rfl rfl)
theorem dX5_sheet_65 : decode cX5_sheet 65 = .ok (.iastore, 1) := dk_79 (dk_at dksX5_sheet_2 17 rfl rfl)
theorem dX5_sheet_66 : decode cX5_sheet 66 = .ok (.iconst 0, 1) := dk_3 (dk_at dksX5_sheet_2 18 rfl rfl)
theorem dX5_sheet_67 : decode cX5_sheet 67 = .ok (.istore 4, 2) := dk_54 4 (dk_at dksX5_sheet_2 19 rfl rfl)
theorem dX5_sheet_69 : decode cX5_sheet 69 = .ok (.iload 4, 2) := dk_21 4 (dk_at dksX5_sheet_2 21 rfl rfl)
theorem dX5_sheet_71 : decode cX5_sheet 71 = .ok (.bipush 24, 2) := dk_16 24 (dk_at dksX5_sheet_3 0 rfl rfl)
theorem dX5_sheet_73 : decode cX5_sheet 73 = .ok (.if_icmp .ge 22, 3) := dk_162 0 22 (dk_at dksX5_sheet_3 2 rfl rfl)
theorem dX5_sheet_76 : decode cX5_sheet 76 = .ok (.aload_n 0, 1) := dk_42 (dk_at dksX5_sheet_3 5 rfl rfl)
theorem dX5_sheet_77 : decode cX5_sheet 77 = .ok (.getfield 25, 3) := dk_180 0 25 (dk_at dksX5_sheet_3 6 rfl rfl)
theorem dX5_sheet_80 : decode cX5_sheet 80 = .ok (.bipush 24, 2) := dk_16 24 (dk_at dksX5_sheet_3 9 rfl rfl)
theorem dX5_sheet_82 : decode cX5_sheet 82 = .ok (.iload_n 1, 1) := dk_27 (dk_at dksX5_sheet_3 11 rfl rfl)
theorem dX5_sheet_83 : decode cX5_sheet 83 = .ok (.imul, 1) := dk_104 (dk_at dksX5_sheet_3 12 rfl rfl)
theorem dX5_sheet_84 : decode cX5_sheet 84 = .ok (.iload 4, 2) := dk_21 4 (dk_at dksX5_sheet_3 13 rfl rfl)
theorem dX5_sheet_86 : decode cX5_sheet 86 = .ok (.iadd, 1) := dk_96 (dk_at dksX5_sheet_3 15 rfl rfl)
theorem dX5_sheet_87 : decode cX5_sheet 87 = .ok (.iconst 0, 1) := dk_3 (dk_at dksX5_sheet_3 16 rfl rfl)
theorem dX5_sheet_88 : decode cX5_sheet 88 = .ok (.iastore, 1) := dk_79 (dk_at dksX5_sheet_3 17 rfl rfl)
theorem dX5_sheet_89 : decode cX5_sheet 89 = .ok (.iinc 4 1, 3) := dk_132 4 1 (dk_at dksX5_sheet_3 18 rfl rfl)
theorem dX5_sheet_92 : decode cX5_sheet 92 = .ok (.goto (-23), 3) := dk_167 255 233 (dk_at dksX5_sheet_3 21 rfl rfl)
theorem dX5_sheet_95 : decode cX5_sheet 95 = .ok (.aload_n 0, 1) := dk_42 (dk_at dksX5_sheet_4 0 rfl rfl)
theorem dX5_sheet_96 : decode cX5_sheet 96 = .ok (.getfield 22, 3) := dk_180 0 22 (dk_at dksX5_sheet_4 1 rfl rfl)
theorem dX5_sheet_99 : decode cX5_sheet 99 = .ok (.iload_n 1, 1) := dk_27 (dk_at dksX5_sheet_4 4 rfl rfl)
theorem dX5_sheet_100 : decode cX5_sheet 100 = .ok (.iaload, 1) := dk_46 (dk_at dksX5_sheet_4 5 rfl rfl)
theorem dX5_sheet_101 : decode cX5_sheet 101 = .ok (.ireturn, 1) := dk_172 (dk_at dksX5_sheet_4 6 rfl rfl)
abbrev cX5_isSheet : ByteArray := prog_18_method_76_code
def yX5_isSheet : MethodName := ⟨RX5, "isSheet", "(I)Z"⟩
def dkwX5_isSheet_0 : List UInt8 := [26, 133, 9, 20, 1, 44, 184, 0, 71, 172]
abbrev dktX5_isSheet_0 : List UInt8 := dkwX5_isSheet_0 ++ []
theorem dksX5_isSheet_0 : cX5_isSheet.data.toList.drop 0 = dktX5_isSheet_0 := by decide +kernel
theorem dX5_isSheet_0 : decode cX5_isSheet 0 = .ok (.iload_n 0, 1) := dk_26 (dk_at dksX5_isSheet_0 0 rfl rfl)
theorem dX5_isSheet_1 : decode cX5_isSheet 1 = .ok (.i2l, 1) := dk_133 (dk_at dksX5_isSheet_0 1 rfl rfl)
theorem dX5_isSheet_2 : decode cX5_isSheet 2 = .ok (.lconst 0, 1) := dk_9 (dk_at dksX5_isSheet_0 2 rfl rfl)
theorem dX5_isSheet_3 : decode cX5_isSheet 3 = .ok (.ldc2_w 300, 3) := dk_20 1 44 (dk_at dksX5_isSheet_0 3 rfl rfl)
theorem dX5_isSheet_6 : decode cX5_isSheet 6 = .ok (.invokestatic 71, 3) := dk_184 0 71 (dk_at dksX5_isSheet_0 6 rfl rfl)
theorem dX5_isSheet_9 : decode cX5_isSheet 9 = .ok (.ireturn, 1) := dk_172 (dk_at dksX5_isSheet_0 9 rfl rfl)
abbrev cX5_mark : ByteArray := prog_18_method_78_code
def yX5_mark : MethodName := ⟨RX5, "mark", "(III)I"⟩
def dkwX5_mark_5 : List UInt8 := [16, 16, 120, 16, 16, 122, 167, 0, 4, 29, 79, 4, 172]
abbrev dktX5_mark_5 : List UInt8 := dkwX5_mark_5 ++ []
def dkwX5_mark_4 : List UInt8 := [18, 100, 172, 42, 180, 0, 25, 16, 24, 27, 104, 28, 96, 42, 180, 0, 19, 27, 46, 154, 0, 13, 29]
abbrev dktX5_mark_4 : List UInt8 := dkwX5_mark_4 ++ dktX5_mark_5
def dkwX5_mark_3 : List UInt8 := [160, 0, 26, 29, 18, 70, 159, 0, 20, 29, 133, 20, 1, 54, 20, 1, 56, 184, 0, 71, 154, 0, 6]
abbrev dktX5_mark_3 : List UInt8 := dkwX5_mark_3 ++ dktX5_mark_4
def dkwX5_mark_2 : List UInt8 := [180, 0, 19, 27, 46, 154, 0, 12, 29, 18, 70, 160, 0, 6, 18, 148, 172, 42, 180, 0, 19, 27, 46, 4]
abbrev dktX5_mark_2 : List UInt8 := dkwX5_mark_2 ++ dktX5_mark_3
def dkwX5_mark_1 : List UInt8 := [133, 9, 42, 180, 0, 22, 27, 46, 4, 100, 133, 184, 0, 71, 154, 0, 7, 19, 1, 53, 172, 42]
abbrev dktX5_mark_1 : List UInt8 := dkwX5_mark_1 ++ dktX5_mark_2
def dkwX5_mark_0 : List UInt8 := [27, 184, 1, 46, 154, 0, 6, 18, 100, 172, 42, 180, 0, 19, 27, 46, 156, 0, 7, 19, 1, 52, 172, 28]
abbrev dktX5_mark_0 : List UInt8 := dkwX5_mark_0 ++ dktX5_mark_1
theorem dksX5_mark_0 : cX5_mark.data.toList.drop 0 = dktX5_mark_0 := by decide +kernel
theorem dksX5_mark_1 : cX5_mark.data.toList.drop 24 = dktX5_mark_1 := dk_seg dksX5_mark_0 24 rfl rfl
theorem dksX5_mark_2 : cX5_mark.data.toList.drop 46 = dktX5_mark_2 := dk_seg dksX5_mark_1 22 rfl rfl
theorem dksX5_mark_3 : cX5_mark.data.toList.drop 70 = dktX5_mark_3 := dk_seg dksX5_mark_2 24 rfl rfl
theorem dksX5_mark_4 : cX5_mark.data.toList.drop 93 = dktX5_mark_4 := dk_seg dksX5_mark_3 23 rfl rfl
theorem dksX5_mark_5 : cX5_mark.data.toList.drop 116 = dktX5_mark_5 := dk_seg dksX5_mark_4 23 rfl rfl
theorem dX5_mark_0 : decode cX5_mark 0 = .ok (.iload_n 1, 1) := dk_27 (dk_at dksX5_mark_0 0 rfl rfl)
theorem dX5_mark_1 : decode cX5_mark 1 = .ok (.invokestatic 302, 3) := dk_184 1 46 (dk_at dksX5_mark_0 1 rfl rfl)
theorem dX5_mark_4 : decode cX5_mark 4 = .ok (.ifCond .ne 6, 3) := dk_154 0 6 (dk_at dksX5_mark_0 4 rfl rfl)
theorem dX5_mark_7 : decode cX5_mark 7 = .ok (.ldc 100, 2) := dk_18 100 (dk_at dksX5_mark_0 7 rfl rfl)
theorem dX5_mark_9 : decode cX5_mark 9 = .ok (.ireturn, 1) := dk_172 (dk_at dksX5_mark_0 9 rfl rfl)
theorem dX5_mark_10 : decode cX5_mark 10 = .ok (.aload_n 0, 1) := dk_42 (dk_at dksX5_mark_0 10 rfl rfl)
theorem dX5_mark_11 : decode cX5_mark 11 = .ok (.getfield 19, 3) := dk_180 0 19 (dk_at dksX5_mark_0 11 rfl rfl)
theorem dX5_mark_14 : decode cX5_mark 14 = .ok (.iload_n 1, 1) := dk_27 (dk_at dksX5_mark_0 14 rfl rfl)
theorem dX5_mark_15 : decode cX5_mark 15 = .ok (.iaload, 1) := dk_46 (dk_at dksX5_mark_0 15 rfl rfl)
theorem dX5_mark_16 : decode cX5_mark 16 = .ok (.ifCond .ge 7, 3) := dk_156 0 7 (dk_at dksX5_mark_0 16 rfl rfl)
theorem dX5_mark_19 : decode cX5_mark 19 = .ok (.ldc_w 308, 3) := dk_19 1 52 (dk_at dksX5_mark_0 19 rfl rfl)
theorem dX5_mark_22 : decode cX5_mark 22 = .ok (.ireturn, 1) := dk_172 (dk_at dksX5_mark_0 22 rfl rfl)
theorem dX5_mark_23 : decode cX5_mark 23 = .ok (.iload_n 2, 1) := dk_28 (dk_at dksX5_mark_0 23 rfl rfl)
theorem dX5_mark_24 : decode cX5_mark 24 = .ok (.i2l, 1) := dk_133 (dk_at dksX5_mark_1 0 rfl rfl)
theorem dX5_mark_25 : decode cX5_mark 25 = .ok (.lconst 0, 1) := dk_9 (dk_at dksX5_mark_1 1 rfl rfl)
theorem dX5_mark_26 : decode cX5_mark 26 = .ok (.aload_n 0, 1) := dk_42 (dk_at dksX5_mark_1 2 rfl rfl)
theorem dX5_mark_27 : decode cX5_mark 27 = .ok (.getfield 22, 3) := dk_180 0 22 (dk_at dksX5_mark_1 3 rfl rfl)
theorem dX5_mark_30 : decode cX5_mark 30 = .ok (.iload_n 1, 1) := dk_27 (dk_at dksX5_mark_1 6 rfl rfl)
theorem dX5_mark_31 : decode cX5_mark 31 = .ok (.iaload, 1) := dk_46 (dk_at dksX5_mark_1 7 rfl rfl)
theorem dX5_mark_32 : decode cX5_mark 32 = .ok (.iconst 1, 1) := dk_4 (dk_at dksX5_mark_1 8 rfl rfl)
theorem dX5_mark_33 : decode cX5_mark 33 = .ok (.isub, 1) := dk_100 (dk_at dksX5_mark_1 9 rfl rfl)
theorem dX5_mark_34 : decode cX5_mark 34 = .ok (.i2l, 1) := dk_133 (dk_at dksX5_mark_1 10 rfl rfl)
theorem dX5_mark_35 : decode cX5_mark 35 = .ok (.invokestatic 71, 3) := dk_184 0 71 (dk_at dksX5_mark_1 11 rfl rfl)
theorem dX5_mark_38 : decode cX5_mark 38 = .ok (.ifCond .ne 7, 3) := dk_154 0 7 (dk_at dksX5_mark_1 14 rfl rfl)
theorem dX5_mark_41 : decode cX5_mark 41 = .ok (.ldc_w 309, 3) := dk_19 1 53 (dk_at dksX5_mark_1 17 rfl rfl)
theorem dX5_mark_44 : decode cX5_mark 44 = .ok (.ireturn, 1) := dk_172 (dk_at dksX5_mark_1 20 rfl rfl)
theorem dX5_mark_45 : decode cX5_mark 45 = .ok (.aload_n 0, 1) := dk_42 (dk_at dksX5_mark_1 21 rfl rfl)
theorem dX5_mark_46 : decode cX5_mark 46 = .ok (.getfield 19, 3) := dk_180 0 19 (dk_at dksX5_mark_2 0 rfl rfl)
theorem dX5_mark_49 : decode cX5_mark 49 = .ok (.iload_n 1, 1) := dk_27 (dk_at dksX5_mark_2 3 rfl rfl)
theorem dX5_mark_50 : decode cX5_mark 50 = .ok (.iaload, 1) := dk_46 (dk_at dksX5_mark_2 4 rfl rfl)
theorem dX5_mark_51 : decode cX5_mark 51 = .ok (.ifCond .ne 12, 3) := dk_154 0 12 (dk_at dksX5_mark_2 5 rfl rfl)
theorem dX5_mark_54 : decode cX5_mark 54 = .ok (.iload_n 3, 1) := dk_29 (dk_at dksX5_mark_2 8 rfl rfl)
theorem dX5_mark_55 : decode cX5_mark 55 = .ok (.ldc 70, 2) := dk_18 70 (dk_at dksX5_mark_2 9 rfl rfl)
theorem dX5_mark_57 : decode cX5_mark 57 = .ok (.if_icmp .ne 6, 3) := dk_160 0 6 (dk_at dksX5_mark_2 11 rfl rfl)
theorem dX5_mark_60 : decode cX5_mark 60 = .ok (.ldc 148, 2) := dk_18 148 (dk_at dksX5_mark_2 14 rfl rfl)
theorem dX5_mark_62 : decode cX5_mark 62 = .ok (.ireturn, 1) := dk_172 (dk_at dksX5_mark_2 16 rfl rfl)
theorem dX5_mark_63 : decode cX5_mark 63 = .ok (.aload_n 0, 1) := dk_42 (dk_at dksX5_mark_2 17 rfl rfl)
theorem dX5_mark_64 : decode cX5_mark 64 = .ok (.getfield 19, 3) := dk_180 0 19 (dk_at dksX5_mark_2 18 rfl rfl)
theorem dX5_mark_67 : decode cX5_mark 67 = .ok (.iload_n 1, 1) := dk_27 (dk_at dksX5_mark_2 21 rfl rfl)
theorem dX5_mark_68 : decode cX5_mark 68 = .ok (.iaload, 1) := dk_46 (dk_at dksX5_mark_2 22 rfl rfl)
theorem dX5_mark_69 : decode cX5_mark 69 = .ok (.iconst 1, 1) := dk_4 (dk_at dksX5_mark_2 23 rfl rfl)
theorem dX5_mark_70 : decode cX5_mark 70 = .ok (.if_icmp .ne 26, 3) := dk_160 0 26 (dk_at dksX5_mark_3 0 rfl rfl)
theorem dX5_mark_73 : decode cX5_mark 73 = .ok (.iload_n 3, 1) := dk_29 (dk_at dksX5_mark_3 3 rfl rfl)
theorem dX5_mark_74 : decode cX5_mark 74 = .ok (.ldc 70, 2) := dk_18 70 (dk_at dksX5_mark_3 4 rfl rfl)
theorem dX5_mark_76 : decode cX5_mark 76 = .ok (.if_icmp .eq 20, 3) := dk_159 0 20 (dk_at dksX5_mark_3 6 rfl rfl)
theorem dX5_mark_79 : decode cX5_mark 79 = .ok (.iload_n 3, 1) := dk_29 (dk_at dksX5_mark_3 9 rfl rfl)
theorem dX5_mark_80 : decode cX5_mark 80 = .ok (.i2l, 1) := dk_133 (dk_at dksX5_mark_3 10 rfl rfl)
theorem dX5_mark_81 : decode cX5_mark 81 = .ok (.ldc2_w 310, 3) := dk_20 1 54 (dk_at dksX5_mark_3 11 rfl rfl)
theorem dX5_mark_84 : decode cX5_mark 84 = .ok (.ldc2_w 312, 3) := dk_20 1 56 (dk_at dksX5_mark_3 14 rfl rfl)
theorem dX5_mark_87 : decode cX5_mark 87 = .ok (.invokestatic 71, 3) := dk_184 0 71 (dk_at dksX5_mark_3 17 rfl rfl)
theorem dX5_mark_90 : decode cX5_mark 90 = .ok (.ifCond .ne 6, 3) := dk_154 0 6 (dk_at dksX5_mark_3 20 rfl rfl)
theorem dX5_mark_93 : decode cX5_mark 93 = .ok (.ldc 100, 2) := dk_18 100 (dk_at dksX5_mark_4 0 rfl rfl)
theorem dX5_mark_95 : decode cX5_mark 95 = .ok (.ireturn, 1) := dk_172 (dk_at dksX5_mark_4 2 rfl rfl)
theorem dX5_mark_96 : decode cX5_mark 96 = .ok (.aload_n 0, 1) := dk_42 (dk_at dksX5_mark_4 3 rfl rfl)
theorem dX5_mark_97 : decode cX5_mark 97 = .ok (.getfield 25, 3) := dk_180 0 25 (dk_at dksX5_mark_4 4 rfl rfl)
theorem dX5_mark_100 : decode cX5_mark 100 = .ok (.bipush 24, 2) := dk_16 24 (dk_at dksX5_mark_4 7 rfl rfl)
theorem dX5_mark_102 : decode cX5_mark 102 = .ok (.iload_n 1, 1) := dk_27 (dk_at dksX5_mark_4 9 rfl rfl)
theorem dX5_mark_103 : decode cX5_mark 103 = .ok (.imul, 1) := dk_104 (dk_at dksX5_mark_4 10 rfl rfl)
theorem dX5_mark_104 : decode cX5_mark 104 = .ok (.iload_n 2, 1) := dk_28 (dk_at dksX5_mark_4 11 rfl rfl)
theorem dX5_mark_105 : decode cX5_mark 105 = .ok (.iadd, 1) := dk_96 (dk_at dksX5_mark_4 12 rfl rfl)
theorem dX5_mark_106 : decode cX5_mark 106 = .ok (.aload_n 0, 1) := dk_42 (dk_at dksX5_mark_4 13 rfl rfl)
theorem dX5_mark_107 : decode cX5_mark 107 = .ok (.getfield 19, 3) := dk_180 0 19 (dk_at dksX5_mark_4 14 rfl rfl)
theorem dX5_mark_110 : decode cX5_mark 110 = .ok (.iload_n 1, 1) := dk_27 (dk_at dksX5_mark_4 17 rfl rfl)
theorem dX5_mark_111 : decode cX5_mark 111 = .ok (.iaload, 1) := dk_46 (dk_at dksX5_mark_4 18 rfl rfl)
theorem dX5_mark_112 : decode cX5_mark 112 = .ok (.ifCond .ne 13, 3) := dk_154 0 13 (dk_at dksX5_mark_4 19 rfl rfl)
theorem dX5_mark_115 : decode cX5_mark 115 = .ok (.iload_n 3, 1) := dk_29 (dk_at dksX5_mark_4 22 rfl rfl)
theorem dX5_mark_116 : decode cX5_mark 116 = .ok (.bipush 16, 2) := dk_16 16 (dk_at dksX5_mark_5 0 rfl rfl)
theorem dX5_mark_118 : decode cX5_mark 118 = .ok (.ishl, 1) := dk_120 (dk_at dksX5_mark_5 2 rfl rfl)
theorem dX5_mark_119 : decode cX5_mark 119 = .ok (.bipush 16, 2) := dk_16 16 (dk_at dksX5_mark_5 3 rfl rfl)
theorem dX5_mark_121 : decode cX5_mark 121 = .ok (.ishr, 1) := dk_122 (dk_at dksX5_mark_5 5 rfl rfl)
theorem dX5_mark_122 : decode cX5_mark 122 = .ok (.goto 4, 3) := dk_167 0 4 (dk_at dksX5_mark_5 6 rfl rfl)
theorem dX5_mark_125 : decode cX5_mark 125 = .ok (.iload_n 3, 1) := dk_29 (dk_at dksX5_mark_5 9 rfl rfl)
theorem dX5_mark_126 : decode cX5_mark 126 = .ok (.iastore, 1) := dk_79 (dk_at dksX5_mark_5 10 rfl rfl)
theorem dX5_mark_127 : decode cX5_mark 127 = .ok (.iconst 1, 1) := dk_4 (dk_at dksX5_mark_5 11 rfl rfl)
theorem dX5_mark_128 : decode cX5_mark 128 = .ok (.ireturn, 1) := dk_172 (dk_at dksX5_mark_5 12 rfl rfl)
abbrev cX5_pour : ByteArray := prog_18_method_79_code
def yX5_pour : MethodName := ⟨RX5, "pour", "(I)I"⟩
def dkwX5_pour_5 : List UInt8 := [4, 96, 61, 132, 3, 1, 167, 255, 158, 28, 172]
abbrev dktX5_pour_5 : List UInt8 := dkwX5_pour_5 ++ []
def dkwX5_pour_4 : List UInt8 := [21, 5, 42, 16, 6, 16, 7, 29, 104, 96, 6, 96, 21, 5, 182, 0, 149, 160, 0, 7, 3, 167, 0, 4]
abbrev dktX5_pour_4 : List UInt8 := dkwX5_pour_4 ++ dktX5_pour_5
def dkwX5_pour_3 : List UInt8 := [16, 6, 16, 7, 29, 104, 96, 6, 96, 46, 167, 0, 11, 21, 4, 3, 16, 99, 184, 0, 116, 54, 5, 28]
abbrev dktX5_pour_3 : List UInt8 := dkwX5_pour_3 ++ dktX5_pour_4
def dkwX5_pour_2 : List UInt8 := [180, 0, 25, 16, 24, 27, 104, 29, 96, 46, 54, 4, 21, 4, 18, 70, 160, 0, 20, 42, 180, 0, 7]
abbrev dktX5_pour_2 : List UInt8 := dkwX5_pour_2 ++ dktX5_pour_3
def dkwX5_pour_1 : List UInt8 := [61, 3, 62, 29, 42, 180, 0, 22, 27, 46, 162, 0, 94, 29, 42, 180, 0, 7, 3, 46, 162, 0, 84, 42]
abbrev dktX5_pour_1 : List UInt8 := dkwX5_pour_1 ++ dktX5_pour_2
def dkwX5_pour_0 : List UInt8 := [27, 184, 1, 46, 154, 0, 6, 18, 100, 172, 42, 180, 0, 19, 27, 46, 156, 0, 7, 19, 1, 52, 172, 3]
abbrev dktX5_pour_0 : List UInt8 := dkwX5_pour_0 ++ dktX5_pour_1
theorem dksX5_pour_0 : cX5_pour.data.toList.drop 0 = dktX5_pour_0 := by decide +kernel
theorem dksX5_pour_1 : cX5_pour.data.toList.drop 24 = dktX5_pour_1 := dk_seg dksX5_pour_0 24 rfl rfl
theorem dksX5_pour_2 : cX5_pour.data.toList.drop 48 = dktX5_pour_2 := dk_seg dksX5_pour_1 24 rfl rfl
theorem dksX5_pour_3 : cX5_pour.data.toList.drop 71 = dktX5_pour_3 := dk_seg dksX5_pour_2 23 rfl rfl
theorem dksX5_pour_4 : cX5_pour.data.toList.drop 95 = dktX5_pour_4 := dk_seg dksX5_pour_3 24 rfl rfl
theorem dksX5_pour_5 : cX5_pour.data.toList.drop 119 = dktX5_pour_5 := dk_seg dksX5_pour_4 24 rfl rfl
theorem dX5_pour_0 : decode cX5_pour 0 = .ok (.iload_n 1, 1) := dk_27 (dk_at dksX5_pour_0 0 rfl rfl)
theorem dX5_pour_1 : decode cX5_pour 1 = .ok (.invokestatic 302, 3) := dk_184 1 46 (dk_at dksX5_pour_0 1 rfl rfl)
theorem dX5_pour_4 : decode cX5_pour 4 = .ok (.ifCond .ne 6, 3) := dk_154 0 6 (dk_at dksX5_pour_0 4 rfl rfl)
theorem dX5_pour_7 : decode cX5_pour 7 = .ok (.ldc 100, 2) := dk_18 100 (dk_at dksX5_pour_0 7 rfl rfl)
theorem dX5_pour_9 : decode cX5_pour 9 = .ok (.ireturn, 1) := dk_172 (dk_at dksX5_pour_0 9 rfl rfl)
theorem dX5_pour_10 : decode cX5_pour 10 = .ok (.aload_n 0, 1) := dk_42 (dk_at dksX5_pour_0 10 rfl rfl)
theorem dX5_pour_11 : decode cX5_pour 11 = .ok (.getfield 19, 3) := dk_180 0 19 (dk_at dksX5_pour_0 11 rfl rfl)
theorem dX5_pour_14 : decode cX5_pour 14 = .ok (.iload_n 1, 1) := dk_27 (dk_at dksX5_pour_0 14 rfl rfl)
theorem dX5_pour_15 : decode cX5_pour 15 = .ok (.iaload, 1) := dk_46 (dk_at dksX5_pour_0 15 rfl rfl)
theorem dX5_pour_16 : decode cX5_pour 16 = .ok (.ifCond .ge 7, 3) := dk_156 0 7 (dk_at dksX5_pour_0 16 rfl rfl)
theorem dX5_pour_19 : decode cX5_pour 19 = .ok (.ldc_w 308, 3) := dk_19 1 52 (dk_at dksX5_pour_0 19 rfl rfl)
theorem dX5_pour_22 : decode cX5_pour 22 = .ok (.ireturn, 1) := dk_172 (dk_at dksX5_pour_0 22 rfl rfl)
theorem dX5_pour_23 : decode cX5_pour 23 = .ok (.iconst 0, 1) := dk_3 (dk_at dksX5_pour_0 23 rfl rfl)
theorem dX5_pour_24 : decode cX5_pour 24 = .ok (.istore_n 2, 1) := dk_61 (dk_at dksX5_pour_1 0 rfl rfl)
theorem dX5_pour_25 : decode cX5_pour 25 = .ok (.iconst 0, 1) := dk_3 (dk_at dksX5_pour_1 1 rfl rfl)
theorem dX5_pour_26 : decode cX5_pour 26 = .ok (.istore_n 3, 1) := dk_62 (dk_at dksX5_pour_1 2 rfl rfl)
theorem dX5_pour_27 : decode cX5_pour 27 = .ok (.iload_n 3, 1) := dk_29 (dk_at dksX5_pour_1 3 rfl rfl)
theorem dX5_pour_28 : decode cX5_pour 28 = .ok (.aload_n 0, 1) := dk_42 (dk_at dksX5_pour_1 4 rfl rfl)
theorem dX5_pour_29 : decode cX5_pour 29 = .ok (.getfield 22, 3) := dk_180 0 22 (dk_at dksX5_pour_1 5 rfl rfl)
theorem dX5_pour_32 : decode cX5_pour 32 = .ok (.iload_n 1, 1) := dk_27 (dk_at dksX5_pour_1 8 rfl rfl)
theorem dX5_pour_33 : decode cX5_pour 33 = .ok (.iaload, 1) := dk_46 (dk_at dksX5_pour_1 9 rfl rfl)
theorem dX5_pour_34 : decode cX5_pour 34 = .ok (.if_icmp .ge 94, 3) := dk_162 0 94 (dk_at dksX5_pour_1 10 rfl rfl)
theorem dX5_pour_37 : decode cX5_pour 37 = .ok (.iload_n 3, 1) := dk_29 (dk_at dksX5_pour_1 13 rfl rfl)
theorem dX5_pour_38 : decode cX5_pour 38 = .ok (.aload_n 0, 1) := dk_42 (dk_at dksX5_pour_1 14 rfl rfl)
theorem dX5_pour_39 : decode cX5_pour 39 = .ok (.getfield 7, 3) := dk_180 0 7 (dk_at dksX5_pour_1 15 rfl rfl)
theorem dX5_pour_42 : decode cX5_pour 42 = .ok (.iconst 0, 1) := dk_3 (dk_at dksX5_pour_1 18 rfl rfl)
theorem dX5_pour_43 : decode cX5_pour 43 = .ok (.iaload, 1) := dk_46 (dk_at dksX5_pour_1 19 rfl rfl)
theorem dX5_pour_44 : decode cX5_pour 44 = .ok (.if_icmp .ge 84, 3) := dk_162 0 84 (dk_at dksX5_pour_1 20 rfl rfl)
theorem dX5_pour_47 : decode cX5_pour 47 = .ok (.aload_n 0, 1) := dk_42 (dk_at dksX5_pour_1 23 rfl rfl)
theorem dX5_pour_48 : decode cX5_pour 48 = .ok (.getfield 25, 3) := dk_180 0 25 (dk_at dksX5_pour_2 0 rfl rfl)
theorem dX5_pour_51 : decode cX5_pour 51 = .ok (.bipush 24, 2) := dk_16 24 (dk_at dksX5_pour_2 3 rfl rfl)
theorem dX5_pour_53 : decode cX5_pour 53 = .ok (.iload_n 1, 1) := dk_27 (dk_at dksX5_pour_2 5 rfl rfl)
theorem dX5_pour_54 : decode cX5_pour 54 = .ok (.imul, 1) := dk_104 (dk_at dksX5_pour_2 6 rfl rfl)
theorem dX5_pour_55 : decode cX5_pour 55 = .ok (.iload_n 3, 1) := dk_29 (dk_at dksX5_pour_2 7 rfl rfl)
theorem dX5_pour_56 : decode cX5_pour 56 = .ok (.iadd, 1) := dk_96 (dk_at dksX5_pour_2 8 rfl rfl)
theorem dX5_pour_57 : decode cX5_pour 57 = .ok (.iaload, 1) := dk_46 (dk_at dksX5_pour_2 9 rfl rfl)
theorem dX5_pour_58 : decode cX5_pour 58 = .ok (.istore 4, 2) := dk_54 4 (dk_at dksX5_pour_2 10 rfl rfl)
theorem dX5_pour_60 : decode cX5_pour 60 = .ok (.iload 4, 2) := dk_21 4 (dk_at dksX5_pour_2 12 rfl rfl)
theorem dX5_pour_62 : decode cX5_pour 62 = .ok (.ldc 70, 2) := dk_18 70 (dk_at dksX5_pour_2 14 rfl rfl)
theorem dX5_pour_64 : decode cX5_pour 64 = .ok (.if_icmp .ne 20, 3) := dk_160 0 20 (dk_at dksX5_pour_2 16 rfl rfl)
theorem dX5_pour_67 : decode cX5_pour 67 = .ok (.aload_n 0, 1) := dk_42 (dk_at dksX5_pour_2 19 rfl rfl)
theorem dX5_pour_68 : decode cX5_pour 68 = .ok (.getfield 7, 3) := dk_180 0 7 (dk_at dksX5_pour_2 20 rfl rfl)
theorem dX5_pour_71 : decode cX5_pour 71 = .ok (.bipush 6, 2) := dk_16 6 (dk_at dksX5_pour_3 0 rfl rfl)
theorem dX5_pour_73 : decode cX5_pour 73 = .ok (.bipush 7, 2) := dk_16 7 (dk_at dksX5_pour_3 2 rfl rfl)
theorem dX5_pour_75 : decode cX5_pour 75 = .ok (.iload_n 3, 1) := dk_29 (dk_at dksX5_pour_3 4 rfl rfl)
theorem dX5_pour_76 : decode cX5_pour 76 = .ok (.imul, 1) := dk_104 (dk_at dksX5_pour_3 5 rfl rfl)
theorem dX5_pour_77 : decode cX5_pour 77 = .ok (.iadd, 1) := dk_96 (dk_at dksX5_pour_3 6 rfl rfl)
theorem dX5_pour_78 : decode cX5_pour 78 = .ok (.iconst 3, 1) := dk_6 (dk_at dksX5_pour_3 7 rfl rfl)
theorem dX5_pour_79 : decode cX5_pour 79 = .ok (.iadd, 1) := dk_96 (dk_at dksX5_pour_3 8 rfl rfl)
theorem dX5_pour_80 : decode cX5_pour 80 = .ok (.iaload, 1) := dk_46 (dk_at dksX5_pour_3 9 rfl rfl)
theorem dX5_pour_81 : decode cX5_pour 81 = .ok (.goto 11, 3) := dk_167 0 11 (dk_at dksX5_pour_3 10 rfl rfl)
theorem dX5_pour_84 : decode cX5_pour 84 = .ok (.iload 4, 2) := dk_21 4 (dk_at dksX5_pour_3 13 rfl rfl)
theorem dX5_pour_86 : decode cX5_pour 86 = .ok (.iconst 0, 1) := dk_3 (dk_at dksX5_pour_3 15 rfl rfl)
theorem dX5_pour_87 : decode cX5_pour 87 = .ok (.bipush 99, 2) := dk_16 99 (dk_at dksX5_pour_3 16 rfl rfl)
theorem dX5_pour_89 : decode cX5_pour 89 = .ok (.invokestatic 116, 3) := dk_184 0 116 (dk_at dksX5_pour_3 18 rfl rfl)
theorem dX5_pour_92 : decode cX5_pour 92 = .ok (.istore 5, 2) := dk_54 5 (dk_at dksX5_pour_3 21 rfl rfl)
theorem dX5_pour_94 : decode cX5_pour 94 = .ok (.iload_n 2, 1) := dk_28 (dk_at dksX5_pour_3 23 rfl rfl)
theorem dX5_pour_95 : decode cX5_pour 95 = .ok (.iload 5, 2) := dk_21 5 (dk_at dksX5_pour_4 0 rfl rfl)
theorem dX5_pour_97 : decode cX5_pour 97 = .ok (.aload_n 0, 1) := dk_42 (dk_at dksX5_pour_4 2 rfl rfl)
theorem dX5_pour_98 : decode cX5_pour 98 = .ok (.bipush 6, 2) := dk_16 6 (dk_at dksX5_pour_4 3 rfl rfl)
theorem dX5_pour_100 : decode cX5_pour 100 = .ok (.bipush 7, 2) := dk_16 7 (dk_at dksX5_pour_4 5 rfl rfl)
theorem dX5_pour_102 : decode cX5_pour 102 = .ok (.iload_n 3, 1) := dk_29 (dk_at dksX5_pour_4 7 rfl rfl)
theorem dX5_pour_103 : decode cX5_pour 103 = .ok (.imul, 1) := dk_104 (dk_at dksX5_pour_4 8 rfl rfl)
theorem dX5_pour_104 : decode cX5_pour 104 = .ok (.iadd, 1) := dk_96 (dk_at dksX5_pour_4 9 rfl rfl)
theorem dX5_pour_105 : decode cX5_pour 105 = .ok (.iconst 3, 1) := dk_6 (dk_at dksX5_pour_4 10 rfl rfl)
theorem dX5_pour_106 : decode cX5_pour 106 = .ok (.iadd, 1) := dk_96 (dk_at dksX5_pour_4 11 rfl rfl)
theorem dX5_pour_107 : decode cX5_pour 107 = .ok (.iload 5, 2) := dk_21 5 (dk_at dksX5_pour_4 12 rfl rfl)
theorem dX5_pour_109 : decode cX5_pour 109 = .ok (.invokevirtual 149, 3) := dk_182 0 149 (dk_at dksX5_pour_4 14 rfl rfl)
theorem dX5_pour_112 : decode cX5_pour 112 = .ok (.if_icmp .ne 7, 3) := dk_160 0 7 (dk_at dksX5_pour_4 17 rfl rfl)
theorem dX5_pour_115 : decode cX5_pour 115 = .ok (.iconst 0, 1) := dk_3 (dk_at dksX5_pour_4 20 rfl rfl)
theorem dX5_pour_116 : decode cX5_pour 116 = .ok (.goto 4, 3) := dk_167 0 4 (dk_at dksX5_pour_4 21 rfl rfl)
theorem dX5_pour_119 : decode cX5_pour 119 = .ok (.iconst 1, 1) := dk_4 (dk_at dksX5_pour_5 0 rfl rfl)
theorem dX5_pour_120 : decode cX5_pour 120 = .ok (.iadd, 1) := dk_96 (dk_at dksX5_pour_5 1 rfl rfl)
theorem dX5_pour_121 : decode cX5_pour 121 = .ok (.istore_n 2, 1) := dk_61 (dk_at dksX5_pour_5 2 rfl rfl)
theorem dX5_pour_122 : decode cX5_pour 122 = .ok (.iinc 3 1, 3) := dk_132 3 1 (dk_at dksX5_pour_5 3 rfl rfl)
theorem dX5_pour_125 : decode cX5_pour 125 = .ok (.goto (-98), 3) := dk_167 255 158 (dk_at dksX5_pour_5 6 rfl rfl)
theorem dX5_pour_128 : decode cX5_pour 128 = .ok (.iload_n 2, 1) := dk_28 (dk_at dksX5_pour_5 9 rfl rfl)
theorem dX5_pour_129 : decode cX5_pour 129 = .ok (.ireturn, 1) := dk_172 (dk_at dksX5_pour_5 10 rfl rfl)
abbrev cX5_reads : ByteArray := prog_18_method_80_code
def yX5_reads : MethodName := ⟨RX5, "reads", "(I)I"⟩
def dkwX5_reads_3 : List UInt8 := [159, 0, 5, 28, 172, 132, 2, 1, 167, 255, 203, 18, 70, 172]
abbrev dktX5_reads_3 : List UInt8 := dkwX5_reads_3 ++ []
def dkwX5_reads_2 : List UInt8 := [18, 70, 159, 0, 25, 28, 42, 180, 0, 7, 3, 46, 162, 0, 13, 29, 42, 28, 5, 182, 0, 75]
abbrev dktX5_reads_2 : List UInt8 := dkwX5_reads_2 ++ dktX5_reads_3
def dkwX5_reads_1 : List UInt8 := [61, 28, 42, 180, 0, 22, 27, 46, 162, 0, 49, 42, 180, 0, 25, 16, 24, 27, 104, 28, 96, 46, 62, 29]
abbrev dktX5_reads_1 : List UInt8 := dkwX5_reads_1 ++ dktX5_reads_2
def dkwX5_reads_0 : List UInt8 := [27, 184, 1, 46, 154, 0, 6, 18, 100, 172, 42, 180, 0, 19, 27, 46, 156, 0, 7, 19, 1, 52, 172, 3]
abbrev dktX5_reads_0 : List UInt8 := dkwX5_reads_0 ++ dktX5_reads_1
theorem dksX5_reads_0 : cX5_reads.data.toList.drop 0 = dktX5_reads_0 := by decide +kernel
theorem dksX5_reads_1 : cX5_reads.data.toList.drop 24 = dktX5_reads_1 := dk_seg dksX5_reads_0 24 rfl rfl
theorem dksX5_reads_2 : cX5_reads.data.toList.drop 48 = dktX5_reads_2 := dk_seg dksX5_reads_1 24 rfl rfl
theorem dksX5_reads_3 : cX5_reads.data.toList.drop 70 = dktX5_reads_3 := dk_seg dksX5_reads_2 22 rfl rfl
theorem dX5_reads_0 : decode cX5_reads 0 = .ok (.iload_n 1, 1) := dk_27 (dk_at dksX5_reads_0 0 rfl rfl)
theorem dX5_reads_1 : decode cX5_reads 1 = .ok (.invokestatic 302, 3) := dk_184 1 46 (dk_at dksX5_reads_0 1 rfl rfl)
theorem dX5_reads_4 : decode cX5_reads 4 = .ok (.ifCond .ne 6, 3) := dk_154 0 6 (dk_at dksX5_reads_0 4 rfl rfl)
theorem dX5_reads_7 : decode cX5_reads 7 = .ok (.ldc 100, 2) := dk_18 100 (dk_at dksX5_reads_0 7 rfl rfl)
theorem dX5_reads_9 : decode cX5_reads 9 = .ok (.ireturn, 1) := dk_172 (dk_at dksX5_reads_0 9 rfl rfl)
theorem dX5_reads_10 : decode cX5_reads 10 = .ok (.aload_n 0, 1) := dk_42 (dk_at dksX5_reads_0 10 rfl rfl)
theorem dX5_reads_11 : decode cX5_reads 11 = .ok (.getfield 19, 3) := dk_180 0 19 (dk_at dksX5_reads_0 11 rfl rfl)
theorem dX5_reads_14 : decode cX5_reads 14 = .ok (.iload_n 1, 1) := dk_27 (dk_at dksX5_reads_0 14 rfl rfl)
theorem dX5_reads_15 : decode cX5_reads 15 = .ok (.iaload, 1) := dk_46 (dk_at dksX5_reads_0 15 rfl rfl)
theorem dX5_reads_16 : decode cX5_reads 16 = .ok (.ifCond .ge 7, 3) := dk_156 0 7 (dk_at dksX5_reads_0 16 rfl rfl)
theorem dX5_reads_19 : decode cX5_reads 19 = .ok (.ldc_w 308, 3) := dk_19 1 52 (dk_at dksX5_reads_0 19 rfl rfl)
theorem dX5_reads_22 : decode cX5_reads 22 = .ok (.ireturn, 1) := dk_172 (dk_at dksX5_reads_0 22 rfl rfl)
theorem dX5_reads_23 : decode cX5_reads 23 = .ok (.iconst 0, 1) := dk_3 (dk_at dksX5_reads_0 23 rfl rfl)
theorem dX5_reads_24 : decode cX5_reads 24 = .ok (.istore_n 2, 1) := dk_61 (dk_at dksX5_reads_1 0 rfl rfl)
theorem dX5_reads_25 : decode cX5_reads 25 = .ok (.iload_n 2, 1) := dk_28 (dk_at dksX5_reads_1 1 rfl rfl)
theorem dX5_reads_26 : decode cX5_reads 26 = .ok (.aload_n 0, 1) := dk_42 (dk_at dksX5_reads_1 2 rfl rfl)
theorem dX5_reads_27 : decode cX5_reads 27 = .ok (.getfield 22, 3) := dk_180 0 22 (dk_at dksX5_reads_1 3 rfl rfl)
theorem dX5_reads_30 : decode cX5_reads 30 = .ok (.iload_n 1, 1) := dk_27 (dk_at dksX5_reads_1 6 rfl rfl)
theorem dX5_reads_31 : decode cX5_reads 31 = .ok (.iaload, 1) := dk_46 (dk_at dksX5_reads_1 7 rfl rfl)
theorem dX5_reads_32 : decode cX5_reads 32 = .ok (.if_icmp .ge 49, 3) := dk_162 0 49 (dk_at dksX5_reads_1 8 rfl rfl)
theorem dX5_reads_35 : decode cX5_reads 35 = .ok (.aload_n 0, 1) := dk_42 (dk_at dksX5_reads_1 11 rfl rfl)
theorem dX5_reads_36 : decode cX5_reads 36 = .ok (.getfield 25, 3) := dk_180 0 25 (dk_at dksX5_reads_1 12 rfl rfl)
theorem dX5_reads_39 : decode cX5_reads 39 = .ok (.bipush 24, 2) := dk_16 24 (dk_at dksX5_reads_1 15 rfl rfl)
theorem dX5_reads_41 : decode cX5_reads 41 = .ok (.iload_n 1, 1) := dk_27 (dk_at dksX5_reads_1 17 rfl rfl)
theorem dX5_reads_42 : decode cX5_reads 42 = .ok (.imul, 1) := dk_104 (dk_at dksX5_reads_1 18 rfl rfl)
theorem dX5_reads_43 : decode cX5_reads 43 = .ok (.iload_n 2, 1) := dk_28 (dk_at dksX5_reads_1 19 rfl rfl)
theorem dX5_reads_44 : decode cX5_reads 44 = .ok (.iadd, 1) := dk_96 (dk_at dksX5_reads_1 20 rfl rfl)
theorem dX5_reads_45 : decode cX5_reads 45 = .ok (.iaload, 1) := dk_46 (dk_at dksX5_reads_1 21 rfl rfl)
theorem dX5_reads_46 : decode cX5_reads 46 = .ok (.istore_n 3, 1) := dk_62 (dk_at dksX5_reads_1 22 rfl rfl)
theorem dX5_reads_47 : decode cX5_reads 47 = .ok (.iload_n 3, 1) := dk_29 (dk_at dksX5_reads_1 23 rfl rfl)
theorem dX5_reads_48 : decode cX5_reads 48 = .ok (.ldc 70, 2) := dk_18 70 (dk_at dksX5_reads_2 0 rfl rfl)
theorem dX5_reads_50 : decode cX5_reads 50 = .ok (.if_icmp .eq 25, 3) := dk_159 0 25 (dk_at dksX5_reads_2 2 rfl rfl)
theorem dX5_reads_53 : decode cX5_reads 53 = .ok (.iload_n 2, 1) := dk_28 (dk_at dksX5_reads_2 5 rfl rfl)
theorem dX5_reads_54 : decode cX5_reads 54 = .ok (.aload_n 0, 1) := dk_42 (dk_at dksX5_reads_2 6 rfl rfl)
theorem dX5_reads_55 : decode cX5_reads 55 = .ok (.getfield 7, 3) := dk_180 0 7 (dk_at dksX5_reads_2 7 rfl rfl)
theorem dX5_reads_58 : decode cX5_reads 58 = .ok (.iconst 0, 1) := dk_3 (dk_at dksX5_reads_2 10 rfl rfl)
theorem dX5_reads_59 : decode cX5_reads 59 = .ok (.iaload, 1) := dk_46 (dk_at dksX5_reads_2 11 rfl rfl)
theorem dX5_reads_60 : decode cX5_reads 60 = .ok (.if_icmp .ge 13, 3) := dk_162 0 13 (dk_at dksX5_reads_2 12 rfl rfl)
theorem dX5_reads_63 : decode cX5_reads 63 = .ok (.iload_n 3, 1) := dk_29 (dk_at dksX5_reads_2 15 rfl rfl)
theorem dX5_reads_64 : decode cX5_reads 64 = .ok (.aload_n 0, 1) := dk_42 (dk_at dksX5_reads_2 16 rfl rfl)
theorem dX5_reads_65 : decode cX5_reads 65 = .ok (.iload_n 2, 1) := dk_28 (dk_at dksX5_reads_2 17 rfl rfl)
theorem dX5_reads_66 : decode cX5_reads 66 = .ok (.iconst 2, 1) := dk_5 (dk_at dksX5_reads_2 18 rfl rfl)
theorem dX5_reads_67 : decode cX5_reads 67 = .ok (.invokevirtual 75, 3) := dk_182 0 75 (dk_at dksX5_reads_2 19 rfl rfl)
theorem dX5_reads_70 : decode cX5_reads 70 = .ok (.if_icmp .eq 5, 3) := dk_159 0 5 (dk_at dksX5_reads_3 0 rfl rfl)
theorem dX5_reads_73 : decode cX5_reads 73 = .ok (.iload_n 2, 1) := dk_28 (dk_at dksX5_reads_3 3 rfl rfl)
theorem dX5_reads_74 : decode cX5_reads 74 = .ok (.ireturn, 1) := dk_172 (dk_at dksX5_reads_3 4 rfl rfl)
theorem dX5_reads_75 : decode cX5_reads 75 = .ok (.iinc 2 1, 3) := dk_132 2 1 (dk_at dksX5_reads_3 5 rfl rfl)
theorem dX5_reads_78 : decode cX5_reads 78 = .ok (.goto (-53), 3) := dk_167 255 203 (dk_at dksX5_reads_3 8 rfl rfl)
theorem dX5_reads_81 : decode cX5_reads 81 = .ok (.ldc 70, 2) := dk_18 70 (dk_at dksX5_reads_3 11 rfl rfl)
theorem dX5_reads_83 : decode cX5_reads 83 = .ok (.ireturn, 1) := dk_172 (dk_at dksX5_reads_3 13 rfl rfl)
abbrev cX5_began : ByteArray := prog_18_method_81_code
def yX5_began : MethodName := ⟨RX5, "began", "(III)I"⟩
def dkwX5_began_9 : List UInt8 := [167, 0, 5, 21, 5, 172]
abbrev dktX5_began_9 : List UInt8 := dkwX5_began_9 ++ []
def dkwX5_began_8 : List UInt8 := [132, 6, 1, 167, 255, 125, 21, 4, 156, 0, 8, 18, 70, 167, 0, 14, 29, 154, 0, 8, 21, 4]
abbrev dktX5_began_8 : List UInt8 := dkwX5_began_8 ++ dktX5_began_9
def dkwX5_began_7 : List UInt8 := [182, 0, 187, 21, 4, 155, 0, 10, 21, 7, 21, 5, 162, 0, 11, 21, 6, 54, 4, 21, 7, 54, 5]
abbrev dktX5_began_7 : List UInt8 := dkwX5_began_7 ++ dktX5_began_8
def dkwX5_began_6 : List UInt8 := [21, 8, 7, 182, 0, 75, 167, 0, 4, 3, 184, 0, 106, 96, 54, 7, 132, 8, 1, 167, 255, 185, 42]
abbrev dktX5_began_6 : List UInt8 := dkwX5_began_6 ++ dktX5_began_7
def dkwX5_began_5 : List UInt8 := [18, 70, 160, 0, 7, 3, 167, 0, 30, 21, 9, 21, 8, 42, 180, 0, 7, 3, 46, 162, 0, 13, 42]
abbrev dktX5_began_5 : List UInt8 := dkwX5_began_5 ++ dktX5_began_6
def dkwX5_began_4 : List UInt8 := [27, 46, 162, 0, 66, 42, 180, 0, 25, 16, 24, 27, 104, 21, 8, 96, 46, 54, 9, 21, 7, 21, 9]
abbrev dktX5_began_4 : List UInt8 := dkwX5_began_4 ++ dktX5_began_5
def dkwX5_began_3 : List UInt8 := [21, 6, 6, 3, 182, 0, 80, 42, 28, 182, 0, 184, 3, 54, 7, 3, 54, 8, 21, 8, 42, 180, 0, 22]
abbrev dktX5_began_3 : List UInt8 := dkwX5_began_3 ++ dktX5_began_4
def dkwX5_began_2 : List UInt8 := [182, 0, 181, 2, 54, 4, 3, 54, 5, 3, 54, 6, 21, 6, 42, 180, 0, 7, 3, 46, 162, 0, 126, 42]
abbrev dktX5_began_2 : List UInt8 := dkwX5_began_2 ++ dktX5_began_3
def dkwX5_began_1 : List UInt8 := [184, 0, 71, 154, 0, 6, 18, 100, 172, 42, 180, 0, 19, 27, 46, 156, 0, 7, 19, 1, 52, 172, 42]
abbrev dktX5_began_1 : List UInt8 := dkwX5_began_1 ++ dktX5_began_2
def dkwX5_began_0 : List UInt8 := [27, 184, 1, 46, 153, 0, 25, 28, 133, 9, 20, 0, 193, 184, 0, 71, 153, 0, 13, 29, 133, 9, 10]
abbrev dktX5_began_0 : List UInt8 := dkwX5_began_0 ++ dktX5_began_1
theorem dksX5_began_0 : cX5_began.data.toList.drop 0 = dktX5_began_0 := by decide +kernel
theorem dksX5_began_1 : cX5_began.data.toList.drop 23 = dktX5_began_1 := dk_seg dksX5_began_0 23 rfl rfl
theorem dksX5_began_2 : cX5_began.data.toList.drop 46 = dktX5_began_2 := dk_seg dksX5_began_1 23 rfl rfl
theorem dksX5_began_3 : cX5_began.data.toList.drop 70 = dktX5_began_3 := dk_seg dksX5_began_2 24 rfl rfl
theorem dksX5_began_4 : cX5_began.data.toList.drop 94 = dktX5_began_4 := dk_seg dksX5_began_3 24 rfl rfl
theorem dksX5_began_5 : cX5_began.data.toList.drop 117 = dktX5_began_5 := dk_seg dksX5_began_4 23 rfl rfl
theorem dksX5_began_6 : cX5_began.data.toList.drop 140 = dktX5_began_6 := dk_seg dksX5_began_5 23 rfl rfl
theorem dksX5_began_7 : cX5_began.data.toList.drop 163 = dktX5_began_7 := dk_seg dksX5_began_6 23 rfl rfl
theorem dksX5_began_8 : cX5_began.data.toList.drop 186 = dktX5_began_8 := dk_seg dksX5_began_7 23 rfl rfl
theorem dksX5_began_9 : cX5_began.data.toList.drop 208 = dktX5_began_9 := dk_seg dksX5_began_8 22 rfl rfl
theorem dX5_began_0 : decode cX5_began 0 = .ok (.iload_n 1, 1) := dk_27 (dk_at dksX5_began_0 0 rfl rfl)
theorem dX5_began_1 : decode cX5_began 1 = .ok (.invokestatic 302, 3) := dk_184 1 46 (dk_at dksX5_began_0 1 rfl rfl)
theorem dX5_began_4 : decode cX5_began 4 = .ok (.ifCond .eq 25, 3) := dk_153 0 25 (dk_at dksX5_began_0 4 rfl rfl)
theorem dX5_began_7 : decode cX5_began 7 = .ok (.iload_n 2, 1) := dk_28 (dk_at dksX5_began_0 7 rfl rfl)
theorem dX5_began_8 : decode cX5_began 8 = .ok (.i2l, 1) := dk_133 (dk_at dksX5_began_0 8 rfl rfl)
theorem dX5_began_9 : decode cX5_began 9 = .ok (.lconst 0, 1) := dk_9 (dk_at dksX5_began_0 9 rfl rfl)
theorem dX5_began_10 : decode cX5_began 10 = .ok (.ldc2_w 193, 3) := dk_20 0 193 (dk_at dksX5_began_0 10 rfl rfl)
theorem dX5_began_13 : decode cX5_began 13 = .ok (.invokestatic 71, 3) := dk_184 0 71 (dk_at dksX5_began_0 13 rfl rfl)
theorem dX5_began_16 : decode cX5_began 16 = .ok (.ifCond .eq 13, 3) := dk_153 0 13 (dk_at dksX5_began_0 16 rfl rfl)
theorem dX5_began_19 : decode cX5_began 19 = .ok (.iload_n 3, 1) := dk_29 (dk_at dksX5_began_0 19 rfl rfl)
theorem dX5_began_20 : decode cX5_began 20 = .ok (.i2l, 1) := dk_133 (dk_at dksX5_began_0 20 rfl rfl)
theorem dX5_began_21 : decode cX5_began 21 = .ok (.lconst 0, 1) := dk_9 (dk_at dksX5_began_0 21 rfl rfl)
theorem dX5_began_22 : decode cX5_began 22 = .ok (.lconst 1, 1) := dk_10 (dk_at dksX5_began_0 22 rfl rfl)
theorem dX5_began_23 : decode cX5_began 23 = .ok (.invokestatic 71, 3) := dk_184 0 71 (dk_at dksX5_began_1 0 rfl rfl)
theorem dX5_began_26 : decode cX5_began 26 = .ok (.ifCond .ne 6, 3) := dk_154 0 6 (dk_at dksX5_began_1 3 rfl rfl)
theorem dX5_began_29 : decode cX5_began 29 = .ok (.ldc 100, 2) := dk_18 100 (dk_at dksX5_began_1 6 rfl rfl)
theorem dX5_began_31 : decode cX5_began 31 = .ok (.ireturn, 1) := dk_172 (dk_at dksX5_began_1 8 rfl rfl)
theorem dX5_began_32 : decode cX5_began 32 = .ok (.aload_n 0, 1) := dk_42 (dk_at dksX5_began_1 9 rfl rfl)
theorem dX5_began_33 : decode cX5_began 33 = .ok (.getfield 19, 3) := dk_180 0 19 (dk_at dksX5_began_1 10 rfl rfl)
theorem dX5_began_36 : decode cX5_began 36 = .ok (.iload_n 1, 1) := dk_27 (dk_at dksX5_began_1 13 rfl rfl)
theorem dX5_began_37 : decode cX5_began 37 = .ok (.iaload, 1) := dk_46 (dk_at dksX5_began_1 14 rfl rfl)
theorem dX5_began_38 : decode cX5_began 38 = .ok (.ifCond .ge 7, 3) := dk_156 0 7 (dk_at dksX5_began_1 15 rfl rfl)
theorem dX5_began_41 : decode cX5_began 41 = .ok (.ldc_w 308, 3) := dk_19 1 52 (dk_at dksX5_began_1 18 rfl rfl)
theorem dX5_began_44 : decode cX5_began 44 = .ok (.ireturn, 1) := dk_172 (dk_at dksX5_began_1 21 rfl rfl)
theorem dX5_began_45 : decode cX5_began 45 = .ok (.aload_n 0, 1) := dk_42 (dk_at dksX5_began_1 22 rfl rfl)
theorem dX5_began_46 : decode cX5_began 46 = .ok (.invokevirtual 181, 3) := dk_182 0 181 (dk_at dksX5_began_2 0 rfl rfl)
theorem dX5_began_49 : decode cX5_began 49 = .ok (.iconst (-1), 1) := dk_2 (dk_at dksX5_began_2 3 rfl rfl)
theorem dX5_began_50 : decode cX5_began 50 = .ok (.istore 4, 2) := dk_54 4 (dk_at dksX5_began_2 4 rfl rfl)
theorem dX5_began_52 : decode cX5_began 52 = .ok (.iconst 0, 1) := dk_3 (dk_at dksX5_began_2 6 rfl rfl)
theorem dX5_began_53 : decode cX5_began 53 = .ok (.istore 5, 2) := dk_54 5 (dk_at dksX5_began_2 7 rfl rfl)
theorem dX5_began_55 : decode cX5_began 55 = .ok (.iconst 0, 1) := dk_3 (dk_at dksX5_began_2 9 rfl rfl)
theorem dX5_began_56 : decode cX5_began 56 = .ok (.istore 6, 2) := dk_54 6 (dk_at dksX5_began_2 10 rfl rfl)
theorem dX5_began_58 : decode cX5_began 58 = .ok (.iload 6, 2) := dk_21 6 (dk_at dksX5_began_2 12 rfl rfl)
theorem dX5_began_60 : decode cX5_began 60 = .ok (.aload_n 0, 1) := dk_42 (dk_at dksX5_began_2 14 rfl rfl)
theorem dX5_began_61 : decode cX5_began 61 = .ok (.getfield 7, 3) := dk_180 0 7 (dk_at dksX5_began_2 15 rfl rfl)
theorem dX5_began_64 : decode cX5_began 64 = .ok (.iconst 0, 1) := dk_3 (dk_at dksX5_began_2 18 rfl rfl)
theorem dX5_began_65 : decode cX5_began 65 = .ok (.iaload, 1) := dk_46 (dk_at dksX5_began_2 19 rfl rfl)
theorem dX5_began_66 : decode cX5_began 66 = .ok (.if_icmp .ge 126, 3) := dk_162 0 126 (dk_at dksX5_began_2 20 rfl rfl)
theorem dX5_began_69 : decode cX5_began 69 = .ok (.aload_n 0, 1) := dk_42 (dk_at dksX5_began_2 23 rfl rfl)
theorem dX5_began_70 : decode cX5_began 70 = .ok (.iload 6, 2) := dk_21 6 (dk_at dksX5_began_3 0 rfl rfl)
theorem dX5_began_72 : decode cX5_began 72 = .ok (.iconst 3, 1) := dk_6 (dk_at dksX5_began_3 2 rfl rfl)
theorem dX5_began_73 : decode cX5_began 73 = .ok (.iconst 0, 1) := dk_3 (dk_at dksX5_began_3 3 rfl rfl)
theorem dX5_began_74 : decode cX5_began 74 = .ok (.invokevirtual 80, 3) := dk_182 0 80 (dk_at dksX5_began_3 4 rfl rfl)
theorem dX5_began_77 : decode cX5_began 77 = .ok (.aload_n 0, 1) := dk_42 (dk_at dksX5_began_3 7 rfl rfl)
theorem dX5_began_78 : decode cX5_began 78 = .ok (.iload_n 2, 1) := dk_28 (dk_at dksX5_began_3 8 rfl rfl)
theorem dX5_began_79 : decode cX5_began 79 = .ok (.invokevirtual 184, 3) := dk_182 0 184 (dk_at dksX5_began_3 9 rfl rfl)
theorem dX5_began_82 : decode cX5_began 82 = .ok (.iconst 0, 1) := dk_3 (dk_at dksX5_began_3 12 rfl rfl)
theorem dX5_began_83 : decode cX5_began 83 = .ok (.istore 7, 2) := dk_54 7 (dk_at dksX5_began_3 13 rfl rfl)
theorem dX5_began_85 : decode cX5_began 85 = .ok (.iconst 0, 1) := dk_3 (dk_at dksX5_began_3 15 rfl rfl)
theorem dX5_began_86 : decode cX5_began 86 = .ok (.istore 8, 2) := dk_54 8 (dk_at dksX5_began_3 16 rfl rfl)
theorem dX5_began_88 : decode cX5_began 88 = .ok (.iload 8, 2) := dk_21 8 (dk_at dksX5_began_3 18 rfl rfl)
theorem dX5_began_90 : decode cX5_began 90 = .ok (.aload_n 0, 1) := dk_42 (dk_at dksX5_began_3 20 rfl rfl)
theorem dX5_began_91 : decode cX5_began 91 = .ok (.getfield 22, 3) := dk_180 0 22 (dk_at dksX5_began_3 21 rfl rfl)
theorem dX5_began_94 : decode cX5_began 94 = .ok (.iload_n 1, 1) := dk_27 (dk_at dksX5_began_4 0 rfl rfl)
theorem dX5_began_95 : decode cX5_began 95 = .ok (.iaload, 1) := dk_46 (dk_at dksX5_began_4 1 rfl rfl)
theorem dX5_began_96 : decode cX5_began 96 = .ok (.if_icmp .ge 66, 3) := dk_162 0 66 (dk_at dksX5_began_4 2 rfl rfl)
theorem dX5_began_99 : decode cX5_began 99 = .ok (.aload_n 0, 1) := dk_42 (dk_at dksX5_began_4 5 rfl rfl)
theorem dX5_began_100 : decode cX5_began 100 = .ok (.getfield 25, 3) := dk_180 0 25 (dk_at dksX5_began_4 6 rfl rfl)
theorem dX5_began_103 : decode cX5_began 103 = .ok (.bipush 24, 2) := dk_16 24 (dk_at dksX5_began_4 9 rfl rfl)
theorem dX5_began_105 : decode cX5_began 105 = .ok (.iload_n 1, 1) := dk_27 (dk_at dksX5_began_4 11 rfl rfl)
theorem dX5_began_106 : decode cX5_began 106 = .ok (.imul, 1) := dk_104 (dk_at dksX5_began_4 12 rfl rfl)
theorem dX5_began_107 : decode cX5_began 107 = .ok (.iload 8, 2) := dk_21 8 (dk_at dksX5_began_4 13 rfl rfl)
theorem dX5_began_109 : decode cX5_began 109 = .ok (.iadd, 1) := dk_96 (dk_at dksX5_began_4 15 rfl rfl)
theorem dX5_began_110 : decode cX5_began 110 = .ok (.iaload, 1) := dk_46 (dk_at dksX5_began_4 16 rfl rfl)
theorem dX5_began_111 : decode cX5_began 111 = .ok (.istore 9, 2) := dk_54 9 (dk_at dksX5_began_4 17 rfl rfl)
theorem dX5_began_113 : decode cX5_began 113 = .ok (.iload 7, 2) := dk_21 7 (dk_at dksX5_began_4 19 rfl rfl)
theorem dX5_began_115 : decode cX5_began 115 = .ok (.iload 9, 2) := dk_21 9 (dk_at dksX5_began_4 21 rfl rfl)
theorem dX5_began_117 : decode cX5_began 117 = .ok (.ldc 70, 2) := dk_18 70 (dk_at dksX5_began_5 0 rfl rfl)
theorem dX5_began_119 : decode cX5_began 119 = .ok (.if_icmp .ne 7, 3) := dk_160 0 7 (dk_at dksX5_began_5 2 rfl rfl)
theorem dX5_began_122 : decode cX5_began 122 = .ok (.iconst 0, 1) := dk_3 (dk_at dksX5_began_5 5 rfl rfl)
theorem dX5_began_123 : decode cX5_began 123 = .ok (.goto 30, 3) := dk_167 0 30 (dk_at dksX5_began_5 6 rfl rfl)
theorem dX5_began_126 : decode cX5_began 126 = .ok (.iload 9, 2) := dk_21 9 (dk_at dksX5_began_5 9 rfl rfl)
theorem dX5_began_128 : decode cX5_began 128 = .ok (.iload 8, 2) := dk_21 8 (dk_at dksX5_began_5 11 rfl rfl)
theorem dX5_began_130 : decode cX5_began 130 = .ok (.aload_n 0, 1) := dk_42 (dk_at dksX5_began_5 13 rfl rfl)
theorem dX5_began_131 : decode cX5_began 131 = .ok (.getfield 7, 3) := dk_180 0 7 (dk_at dksX5_began_5 14 rfl rfl)
theorem dX5_began_134 : decode cX5_began 134 = .ok (.iconst 0, 1) := dk_3 (dk_at dksX5_began_5 17 rfl rfl)
theorem dX5_began_135 : decode cX5_began 135 = .ok (.iaload, 1) := dk_46 (dk_at dksX5_began_5 18 rfl rfl)
theorem dX5_began_136 : decode cX5_began 136 = .ok (.if_icmp .ge 13, 3) := dk_162 0 13 (dk_at dksX5_began_5 19 rfl rfl)
theorem dX5_began_139 : decode cX5_began 139 = .ok (.aload_n 0, 1) := dk_42 (dk_at dksX5_began_5 22 rfl rfl)
theorem dX5_began_140 : decode cX5_began 140 = .ok (.iload 8, 2) := dk_21 8 (dk_at dksX5_began_6 0 rfl rfl)
theorem dX5_began_142 : decode cX5_began 142 = .ok (.iconst 4, 1) := dk_7 (dk_at dksX5_began_6 2 rfl rfl)
theorem dX5_began_143 : decode cX5_began 143 = .ok (.invokevirtual 75, 3) := dk_182 0 75 (dk_at dksX5_began_6 3 rfl rfl)
theorem dX5_began_146 : decode cX5_began 146 = .ok (.goto 4, 3) := dk_167 0 4 (dk_at dksX5_began_6 6 rfl rfl)
theorem dX5_began_149 : decode cX5_began 149 = .ok (.iconst 0, 1) := dk_3 (dk_at dksX5_began_6 9 rfl rfl)
theorem dX5_began_150 : decode cX5_began 150 = .ok (.invokestatic 106, 3) := dk_184 0 106 (dk_at dksX5_began_6 10 rfl rfl)
theorem dX5_began_153 : decode cX5_began 153 = .ok (.iadd, 1) := dk_96 (dk_at dksX5_began_6 13 rfl rfl)
theorem dX5_began_154 : decode cX5_began 154 = .ok (.istore 7, 2) := dk_54 7 (dk_at dksX5_began_6 14 rfl rfl)
theorem dX5_began_156 : decode cX5_began 156 = .ok (.iinc 8 1, 3) := dk_132 8 1 (dk_at dksX5_began_6 16 rfl rfl)
theorem dX5_began_159 : decode cX5_began 159 = .ok (.goto (-71), 3) := dk_167 255 185 (dk_at dksX5_began_6 19 rfl rfl)
theorem dX5_began_162 : decode cX5_began 162 = .ok (.aload_n 0, 1) := dk_42 (dk_at dksX5_began_6 22 rfl rfl)
theorem dX5_began_163 : decode cX5_began 163 = .ok (.invokevirtual 187, 3) := dk_182 0 187 (dk_at dksX5_began_7 0 rfl rfl)
theorem dX5_began_166 : decode cX5_began 166 = .ok (.iload 4, 2) := dk_21 4 (dk_at dksX5_began_7 3 rfl rfl)
theorem dX5_began_168 : decode cX5_began 168 = .ok (.ifCond .lt 10, 3) := dk_155 0 10 (dk_at dksX5_began_7 5 rfl rfl)
theorem dX5_began_171 : decode cX5_began 171 = .ok (.iload 7, 2) := dk_21 7 (dk_at dksX5_began_7 8 rfl rfl)
theorem dX5_began_173 : decode cX5_began 173 = .ok (.iload 5, 2) := dk_21 5 (dk_at dksX5_began_7 10 rfl rfl)
theorem dX5_began_175 : decode cX5_began 175 = .ok (.if_icmp .ge 11, 3) := dk_162 0 11 (dk_at dksX5_began_7 12 rfl rfl)
theorem dX5_began_178 : decode cX5_began 178 = .ok (.iload 6, 2) := dk_21 6 (dk_at dksX5_began_7 15 rfl rfl)
theorem dX5_began_180 : decode cX5_began 180 = .ok (.istore 4, 2) := dk_54 4 (dk_at dksX5_began_7 17 rfl rfl)
theorem dX5_began_182 : decode cX5_began 182 = .ok (.iload 7, 2) := dk_21 7 (dk_at dksX5_began_7 19 rfl rfl)
theorem dX5_began_184 : decode cX5_began 184 = .ok (.istore 5, 2) := dk_54 5 (dk_at dksX5_began_7 21 rfl rfl)
theorem dX5_began_186 : decode cX5_began 186 = .ok (.iinc 6 1, 3) := dk_132 6 1 (dk_at dksX5_began_8 0 rfl rfl)
theorem dX5_began_189 : decode cX5_began 189 = .ok (.goto (-131), 3) := dk_167 255 125 (dk_at dksX5_began_8 3 rfl rfl)
theorem dX5_began_192 : decode cX5_began 192 = .ok (.iload 4, 2) := dk_21 4 (dk_at dksX5_began_8 6 rfl rfl)
theorem dX5_began_194 : decode cX5_began 194 = .ok (.ifCond .ge 8, 3) := dk_156 0 8 (dk_at dksX5_began_8 8 rfl rfl)
theorem dX5_began_197 : decode cX5_began 197 = .ok (.ldc 70, 2) := dk_18 70 (dk_at dksX5_began_8 11 rfl rfl)
theorem dX5_began_199 : decode cX5_began 199 = .ok (.goto 14, 3) := dk_167 0 14 (dk_at dksX5_began_8 13 rfl rfl)
theorem dX5_began_202 : decode cX5_began 202 = .ok (.iload_n 3, 1) := dk_29 (dk_at dksX5_began_8 16 rfl rfl)
theorem dX5_began_203 : decode cX5_began 203 = .ok (.ifCond .ne 8, 3) := dk_154 0 8 (dk_at dksX5_began_8 17 rfl rfl)
theorem dX5_began_206 : decode cX5_began 206 = .ok (.iload 4, 2) := dk_21 4 (dk_at dksX5_began_8 20 rfl rfl)
theorem dX5_began_208 : decode cX5_began 208 = .ok (.goto 5, 3) := dk_167 0 5 (dk_at dksX5_began_9 0 rfl rfl)
theorem dX5_began_211 : decode cX5_began 211 = .ok (.iload 5, 2) := dk_21 5 (dk_at dksX5_began_9 3 rfl rfl)
theorem dX5_began_213 : decode cX5_began 213 = .ok (.ireturn, 1) := dk_172 (dk_at dksX5_began_9 5 rfl rfl)
abbrev cX5_copy : ByteArray := prog_18_method_82_code
def yX5_copy : MethodName := ⟨RX5, "copy", "(IIIII)I"⟩
def dkwX5_copy_8 : List UInt8 := [172]
abbrev dktX5_copy_8 : List UInt8 := dkwX5_copy_8 ++ []
def dkwX5_copy_7 : List UInt8 := [29, 104, 21, 4, 96, 21, 6, 96, 42, 180, 0, 61, 21, 6, 46, 79, 132, 6, 1, 167, 255, 224, 21, 5]
abbrev dktX5_copy_7 : List UInt8 := dkwX5_copy_7 ++ dktX5_copy_8
def dkwX5_copy_6 : List UInt8 := [46, 79, 132, 6, 1, 167, 255, 225, 3, 54, 6, 21, 6, 21, 5, 162, 0, 31, 42, 180, 0, 25, 16, 24]
abbrev dktX5_copy_6 : List UInt8 := dkwX5_copy_6 ++ dktX5_copy_7
def dkwX5_copy_5 : List UInt8 := [21, 5, 162, 0, 30, 42, 180, 0, 61, 21, 6, 42, 180, 0, 25, 16, 24, 27, 104, 28, 96, 21, 6, 96]
abbrev dktX5_copy_5 : List UInt8 := dkwX5_copy_5 ++ dktX5_copy_6
def dkwX5_copy_4 : List UInt8 := [21, 5, 133, 97, 42, 180, 0, 22, 29, 46, 133, 148, 158, 0, 7, 19, 1, 53, 172, 3, 54, 6, 21, 6]
abbrev dktX5_copy_4 : List UInt8 := dkwX5_copy_4 ++ dktX5_copy_5
def dkwX5_copy_3 : List UInt8 := [155, 0, 38, 28, 133, 21, 5, 133, 97, 42, 180, 0, 22, 27, 46, 133, 148, 157, 0, 21, 21, 4, 133]
abbrev dktX5_copy_3 : List UInt8 := dkwX5_copy_3 ++ dktX5_copy_4
def dkwX5_copy_2 : List UInt8 := [180, 0, 19, 29, 46, 159, 0, 6, 18, 148, 172, 28, 155, 0, 48, 21, 4, 155, 0, 43, 21, 5]
abbrev dktX5_copy_2 : List UInt8 := dkwX5_copy_2 ++ dktX5_copy_3
def dkwX5_copy_1 : List UInt8 := [155, 0, 12, 42, 180, 0, 19, 29, 46, 156, 0, 7, 19, 1, 52, 172, 42, 180, 0, 19, 27, 46, 42]
abbrev dktX5_copy_1 : List UInt8 := dkwX5_copy_1 ++ dktX5_copy_2
def dkwX5_copy_0 : List UInt8 := [27, 184, 1, 46, 153, 0, 10, 29, 184, 1, 46, 154, 0, 6, 18, 100, 172, 42, 180, 0, 19, 27, 46]
abbrev dktX5_copy_0 : List UInt8 := dkwX5_copy_0 ++ dktX5_copy_1
theorem dksX5_copy_0 : cX5_copy.data.toList.drop 0 = dktX5_copy_0 := by decide +kernel
theorem dksX5_copy_1 : cX5_copy.data.toList.drop 23 = dktX5_copy_1 := dk_seg dksX5_copy_0 23 rfl rfl
theorem dksX5_copy_2 : cX5_copy.data.toList.drop 46 = dktX5_copy_2 := dk_seg dksX5_copy_1 23 rfl rfl
theorem dksX5_copy_3 : cX5_copy.data.toList.drop 68 = dktX5_copy_3 := dk_seg dksX5_copy_2 22 rfl rfl
theorem dksX5_copy_4 : cX5_copy.data.toList.drop 91 = dktX5_copy_4 := dk_seg dksX5_copy_3 23 rfl rfl
theorem dksX5_copy_5 : cX5_copy.data.toList.drop 115 = dktX5_copy_5 := dk_seg dksX5_copy_4 24 rfl rfl
theorem dksX5_copy_6 : cX5_copy.data.toList.drop 139 = dktX5_copy_6 := dk_seg dksX5_copy_5 24 rfl rfl
theorem dksX5_copy_7 : cX5_copy.data.toList.drop 163 = dktX5_copy_7 := dk_seg dksX5_copy_6 24 rfl rfl
theorem dksX5_copy_8 : cX5_copy.data.toList.drop 187 = dktX5_copy_8 := dk_seg dksX5_copy_7 24 rfl rfl
theorem dX5_copy_0 : decode cX5_copy 0 = .ok (.iload_n 1, 1) := dk_27 (dk_at dksX5_copy_0 0 rfl rfl)
theorem dX5_copy_1 : decode cX5_copy 1 = .ok (.invokestatic 302, 3) := dk_184 1 46 (dk_at dksX5_copy_0 1 rfl rfl)
theorem dX5_copy_4 : decode cX5_copy 4 = .ok (.ifCond .eq 10, 3) := dk_153 0 10 (dk_at dksX5_copy_0 4 rfl rfl)
theorem dX5_copy_7 : decode cX5_copy 7 = .ok (.iload_n 3, 1) := dk_29 (dk_at dksX5_copy_0 7 rfl rfl)
theorem dX5_copy_8 : decode cX5_copy 8 = .ok (.invokestatic 302, 3) := dk_184 1 46 (dk_at dksX5_copy_0 8 rfl rfl)
theorem dX5_copy_11 : decode cX5_copy 11 = .ok (.ifCond .ne 6, 3) := dk_154 0 6 (dk_at dksX5_copy_0 11 rfl rfl)
theorem dX5_copy_14 : decode cX5_copy 14 = .ok (.ldc 100, 2) := dk_18 100 (dk_at dksX5_copy_0 14 rfl rfl)
theorem dX5_copy_16 : decode cX5_copy 16 = .ok (.ireturn, 1) := dk_172 (dk_at dksX5_copy_0 16 rfl rfl)
theorem dX5_copy_17 : decode cX5_copy 17 = .ok (.aload_n 0, 1) := dk_42 (dk_at dksX5_copy_0 17 rfl rfl)
theorem dX5_copy_18 : decode cX5_copy 18 = .ok (.getfield 19, 3) := dk_180 0 19 (dk_at dksX5_copy_0 18 rfl rfl)
theorem dX5_copy_21 : decode cX5_copy 21 = .ok (.iload_n 1, 1) := dk_27 (dk_at dksX5_copy_0 21 rfl rfl)
theorem dX5_copy_22 : decode cX5_copy 22 = .ok (.iaload, 1) := dk_46 (dk_at dksX5_copy_0 22 rfl rfl)
theorem dX5_copy_23 : decode cX5_copy 23 = .ok (.ifCond .lt 12, 3) := dk_155 0 12 (dk_at dksX5_copy_1 0 rfl rfl)
theorem dX5_copy_26 : decode cX5_copy 26 = .ok (.aload_n 0, 1) := dk_42 (dk_at dksX5_copy_1 3 rfl rfl)
theorem dX5_copy_27 : decode cX5_copy 27 = .ok (.getfield 19, 3) := dk_180 0 19 (dk_at dksX5_copy_1 4 rfl rfl)
theorem dX5_copy_30 : decode cX5_copy 30 = .ok (.iload_n 3, 1) := dk_29 (dk_at dksX5_copy_1 7 rfl rfl)
theorem dX5_copy_31 : decode cX5_copy 31 = .ok (.iaload, 1) := dk_46 (dk_at dksX5_copy_1 8 rfl rfl)
theorem dX5_copy_32 : decode cX5_copy 32 = .ok (.ifCond .ge 7, 3) := dk_156 0 7 (dk_at dksX5_copy_1 9 rfl rfl)
theorem dX5_copy_35 : decode cX5_copy 35 = .ok (.ldc_w 308, 3) := dk_19 1 52 (dk_at dksX5_copy_1 12 rfl rfl)
theorem dX5_copy_38 : decode cX5_copy 38 = .ok (.ireturn, 1) := dk_172 (dk_at dksX5_copy_1 15 rfl rfl)
theorem dX5_copy_39 : decode cX5_copy 39 = .ok (.aload_n 0, 1) := dk_42 (dk_at dksX5_copy_1 16 rfl rfl)
theorem dX5_copy_40 : decode cX5_copy 40 = .ok (.getfield 19, 3) := dk_180 0 19 (dk_at dksX5_copy_1 17 rfl rfl)
theorem dX5_copy_43 : decode cX5_copy 43 = .ok (.iload_n 1, 1) := dk_27 (dk_at dksX5_copy_1 20 rfl rfl)
theorem dX5_copy_44 : decode cX5_copy 44 = .ok (.iaload, 1) := dk_46 (dk_at dksX5_copy_1 21 rfl rfl)
theorem dX5_copy_45 : decode cX5_copy 45 = .ok (.aload_n 0, 1) := dk_42 (dk_at dksX5_copy_1 22 rfl rfl)
theorem dX5_copy_46 : decode cX5_copy 46 = .ok (.getfield 19, 3) := dk_180 0 19 (dk_at dksX5_copy_2 0 rfl rfl)
theorem dX5_copy_49 : decode cX5_copy 49 = .ok (.iload_n 3, 1) := dk_29 (dk_at dksX5_copy_2 3 rfl rfl)
theorem dX5_copy_50 : decode cX5_copy 50 = .ok (.iaload, 1) := dk_46 (dk_at dksX5_copy_2 4 rfl rfl)
theorem dX5_copy_51 : decode cX5_copy 51 = .ok (.if_icmp .eq 6, 3) := dk_159 0 6 (dk_at dksX5_copy_2 5 rfl rfl)
theorem dX5_copy_54 : decode cX5_copy 54 = .ok (.ldc 148, 2) := dk_18 148 (dk_at dksX5_copy_2 8 rfl rfl)
theorem dX5_copy_56 : decode cX5_copy 56 = .ok (.ireturn, 1) := dk_172 (dk_at dksX5_copy_2 10 rfl rfl)
theorem dX5_copy_57 : decode cX5_copy 57 = .ok (.iload_n 2, 1) := dk_28 (dk_at dksX5_copy_2 11 rfl rfl)
theorem dX5_copy_58 : decode cX5_copy 58 = .ok (.ifCond .lt 48, 3) := dk_155 0 48 (dk_at dksX5_copy_2 12 rfl rfl)
theorem dX5_copy_61 : decode cX5_copy 61 = .ok (.iload 4, 2) := dk_21 4 (dk_at dksX5_copy_2 15 rfl rfl)
theorem dX5_copy_63 : decode cX5_copy 63 = .ok (.ifCond .lt 43, 3) := dk_155 0 43 (dk_at dksX5_copy_2 17 rfl rfl)
theorem dX5_copy_66 : decode cX5_copy 66 = .ok (.iload 5, 2) := dk_21 5 (dk_at dksX5_copy_2 20 rfl rfl)
theorem dX5_copy_68 : decode cX5_copy 68 = .ok (.ifCond .lt 38, 3) := dk_155 0 38 (dk_at dksX5_copy_3 0 rfl rfl)
theorem dX5_copy_71 : decode cX5_copy 71 = .ok (.iload_n 2, 1) := dk_28 (dk_at dksX5_copy_3 3 rfl rfl)
theorem dX5_copy_72 : decode cX5_copy 72 = .ok (.i2l, 1) := dk_133 (dk_at dksX5_copy_3 4 rfl rfl)
theorem dX5_copy_73 : decode cX5_copy 73 = .ok (.iload 5, 2) := dk_21 5 (dk_at dksX5_copy_3 5 rfl rfl)
theorem dX5_copy_75 : decode cX5_copy 75 = .ok (.i2l, 1) := dk_133 (dk_at dksX5_copy_3 7 rfl rfl)
theorem dX5_copy_76 : decode cX5_copy 76 = .ok (.ladd, 1) := dk_97 (dk_at dksX5_copy_3 8 rfl rfl)
theorem dX5_copy_77 : decode cX5_copy 77 = .ok (.aload_n 0, 1) := dk_42 (dk_at dksX5_copy_3 9 rfl rfl)
theorem dX5_copy_78 : decode cX5_copy 78 = .ok (.getfield 22, 3) := dk_180 0 22 (dk_at dksX5_copy_3 10 rfl rfl)
theorem dX5_copy_81 : decode cX5_copy 81 = .ok (.iload_n 1, 1) := dk_27 (dk_at dksX5_copy_3 13 rfl rfl)
theorem dX5_copy_82 : decode cX5_copy 82 = .ok (.iaload, 1) := dk_46 (dk_at dksX5_copy_3 14 rfl rfl)
theorem dX5_copy_83 : decode cX5_copy 83 = .ok (.i2l, 1) := dk_133 (dk_at dksX5_copy_3 15 rfl rfl)
theorem dX5_copy_84 : decode cX5_copy 84 = .ok (.lcmp, 1) := dk_148 (dk_at dksX5_copy_3 16 rfl rfl)
theorem dX5_copy_85 : decode cX5_copy 85 = .ok (.ifCond .gt 21, 3) := dk_157 0 21 (dk_at dksX5_copy_3 17 rfl rfl)
theorem dX5_copy_88 : decode cX5_copy 88 = .ok (.iload 4, 2) := dk_21 4 (dk_at dksX5_copy_3 20 rfl rfl)
theorem dX5_copy_90 : decode cX5_copy 90 = .ok (.i2l, 1) := dk_133 (dk_at dksX5_copy_3 22 rfl rfl)
theorem dX5_copy_91 : decode cX5_copy 91 = .ok (.iload 5, 2) := dk_21 5 (dk_at dksX5_copy_4 0 rfl rfl)
theorem dX5_copy_93 : decode cX5_copy 93 = .ok (.i2l, 1) := dk_133 (dk_at dksX5_copy_4 2 rfl rfl)
theorem dX5_copy_94 : decode cX5_copy 94 = .ok (.ladd, 1) := dk_97 (dk_at dksX5_copy_4 3 rfl rfl)
theorem dX5_copy_95 : decode cX5_copy 95 = .ok (.aload_n 0, 1) := dk_42 (dk_at dksX5_copy_4 4 rfl rfl)
theorem dX5_copy_96 : decode cX5_copy 96 = .ok (.getfield 22, 3) := dk_180 0 22 (dk_at dksX5_copy_4 5 rfl rfl)
theorem dX5_copy_99 : decode cX5_copy 99 = .ok (.iload_n 3, 1) := dk_29 (dk_at dksX5_copy_4 8 rfl rfl)
theorem dX5_copy_100 : decode cX5_copy 100 = .ok (.iaload, 1) := dk_46 (dk_at dksX5_copy_4 9 rfl rfl)
theorem dX5_copy_101 : decode cX5_copy 101 = .ok (.i2l, 1) := dk_133 (dk_at dksX5_copy_4 10 rfl rfl)
theorem dX5_copy_102 : decode cX5_copy 102 = .ok (.lcmp, 1) := dk_148 (dk_at dksX5_copy_4 11 rfl rfl)
theorem dX5_copy_103 : decode cX5_copy 103 = .ok (.ifCond .le 7, 3) := dk_158 0 7 (dk_at dksX5_copy_4 12 rfl rfl)
theorem dX5_copy_106 : decode cX5_copy 106 = .ok (.ldc_w 309, 3) := dk_19 1 53 (dk_at dksX5_copy_4 15 rfl rfl)
theorem dX5_copy_109 : decode cX5_copy 109 = .ok (.ireturn, 1) := dk_172 (dk_at dksX5_copy_4 18 rfl rfl)
theorem dX5_copy_110 : decode cX5_copy 110 = .ok (.iconst 0, 1) := dk_3 (dk_at dksX5_copy_4 19 rfl rfl)
theorem dX5_copy_111 : decode cX5_copy 111 = .ok (.istore 6, 2) := dk_54 6 (dk_at dksX5_copy_4 20 rfl rfl)
theorem dX5_copy_113 : decode cX5_copy 113 = .ok (.iload 6, 2) := dk_21 6 (dk_at dksX5_copy_4 22 rfl rfl)
theorem dX5_copy_115 : decode cX5_copy 115 = .ok (.iload 5, 2) := dk_21 5 (dk_at dksX5_copy_5 0 rfl rfl)
theorem dX5_copy_117 : decode cX5_copy 117 = .ok (.if_icmp .ge 30, 3) := dk_162 0 30 (dk_at dksX5_copy_5 2 rfl rfl)
theorem dX5_copy_120 : decode cX5_copy 120 = .ok (.aload_n 0, 1) := dk_42 (dk_at dksX5_copy_5 5 rfl rfl)
theorem dX5_copy_121 : decode cX5_copy 121 = .ok (.getfield 61, 3) := dk_180 0 61 (dk_at dksX5_copy_5 6 rfl rfl)
theorem dX5_copy_124 : decode cX5_copy 124 = .ok (.iload 6, 2) := dk_21 6 (dk_at dksX5_copy_5 9 rfl rfl)
theorem dX5_copy_126 : decode cX5_copy 126 = .ok (.aload_n 0, 1) := dk_42 (dk_at dksX5_copy_5 11 rfl rfl)
theorem dX5_copy_127 : decode cX5_copy 127 = .ok (.getfield 25, 3) := dk_180 0 25 (dk_at dksX5_copy_5 12 rfl rfl)
theorem dX5_copy_130 : decode cX5_copy 130 = .ok (.bipush 24, 2) := dk_16 24 (dk_at dksX5_copy_5 15 rfl rfl)
theorem dX5_copy_132 : decode cX5_copy 132 = .ok (.iload_n 1, 1) := dk_27 (dk_at dksX5_copy_5 17 rfl rfl)
theorem dX5_copy_133 : decode cX5_copy 133 = .ok (.imul, 1) := dk_104 (dk_at dksX5_copy_5 18 rfl rfl)
theorem dX5_copy_134 : decode cX5_copy 134 = .ok (.iload_n 2, 1) := dk_28 (dk_at dksX5_copy_5 19 rfl rfl)
theorem dX5_copy_135 : decode cX5_copy 135 = .ok (.iadd, 1) := dk_96 (dk_at dksX5_copy_5 20 rfl rfl)
theorem dX5_copy_136 : decode cX5_copy 136 = .ok (.iload 6, 2) := dk_21 6 (dk_at dksX5_copy_5 21 rfl rfl)
theorem dX5_copy_138 : decode cX5_copy 138 = .ok (.iadd, 1) := dk_96 (dk_at dksX5_copy_5 23 rfl rfl)
theorem dX5_copy_139 : decode cX5_copy 139 = .ok (.iaload, 1) := dk_46 (dk_at dksX5_copy_6 0 rfl rfl)
theorem dX5_copy_140 : decode cX5_copy 140 = .ok (.iastore, 1) := dk_79 (dk_at dksX5_copy_6 1 rfl rfl)
theorem dX5_copy_141 : decode cX5_copy 141 = .ok (.iinc 6 1, 3) := dk_132 6 1 (dk_at dksX5_copy_6 2 rfl rfl)
theorem dX5_copy_144 : decode cX5_copy 144 = .ok (.goto (-31), 3) := dk_167 255 225 (dk_at dksX5_copy_6 5 rfl rfl)
theorem dX5_copy_147 : decode cX5_copy 147 = .ok (.iconst 0, 1) := dk_3 (dk_at dksX5_copy_6 8 rfl rfl)
theorem dX5_copy_148 : decode cX5_copy 148 = .ok (.istore 6, 2) := dk_54 6 (dk_at dksX5_copy_6 9 rfl rfl)
theorem dX5_copy_150 : decode cX5_copy 150 = .ok (.iload 6, 2) := dk_21 6 (dk_at dksX5_copy_6 11 rfl rfl)
theorem dX5_copy_152 : decode cX5_copy 152 = .ok (.iload 5, 2) := dk_21 5 (dk_at dksX5_copy_6 13 rfl rfl)
theorem dX5_copy_154 : decode cX5_copy 154 = .ok (.if_icmp .ge 31, 3) := dk_162 0 31 (dk_at dksX5_copy_6 15 rfl rfl)
theorem dX5_copy_157 : decode cX5_copy 157 = .ok (.aload_n 0, 1) := dk_42 (dk_at dksX5_copy_6 18 rfl rfl)
theorem dX5_copy_158 : decode cX5_copy 158 = .ok (.getfield 25, 3) := dk_180 0 25 (dk_at dksX5_copy_6 19 rfl rfl)
theorem dX5_copy_161 : decode cX5_copy 161 = .ok (.bipush 24, 2) := dk_16 24 (dk_at dksX5_copy_6 22 rfl rfl)
theorem dX5_copy_163 : decode cX5_copy 163 = .ok (.iload_n 3, 1) := dk_29 (dk_at dksX5_copy_7 0 rfl rfl)
theorem dX5_copy_164 : decode cX5_copy 164 = .ok (.imul, 1) := dk_104 (dk_at dksX5_copy_7 1 rfl rfl)
theorem dX5_copy_165 : decode cX5_copy 165 = .ok (.iload 4, 2) := dk_21 4 (dk_at dksX5_copy_7 2 rfl rfl)
theorem dX5_copy_167 : decode cX5_copy 167 = .ok (.iadd, 1) := dk_96 (dk_at dksX5_copy_7 4 rfl rfl)
theorem dX5_copy_168 : decode cX5_copy 168 = .ok (.iload 6, 2) := dk_21 6 (dk_at dksX5_copy_7 5 rfl rfl)
theorem dX5_copy_170 : decode cX5_copy 170 = .ok (.iadd, 1) := dk_96 (dk_at dksX5_copy_7 7 rfl rfl)
theorem dX5_copy_171 : decode cX5_copy 171 = .ok (.aload_n 0, 1) := dk_42 (dk_at dksX5_copy_7 8 rfl rfl)
theorem dX5_copy_172 : decode cX5_copy 172 = .ok (.getfield 61, 3) := dk_180 0 61 (dk_at dksX5_copy_7 9 rfl rfl)
theorem dX5_copy_175 : decode cX5_copy 175 = .ok (.iload 6, 2) := dk_21 6 (dk_at dksX5_copy_7 12 rfl rfl)
theorem dX5_copy_177 : decode cX5_copy 177 = .ok (.iaload, 1) := dk_46 (dk_at dksX5_copy_7 14 rfl rfl)
theorem dX5_copy_178 : decode cX5_copy 178 = .ok (.iastore, 1) := dk_79 (dk_at dksX5_copy_7 15 rfl rfl)
theorem dX5_copy_179 : decode cX5_copy 179 = .ok (.iinc 6 1, 3) := dk_132 6 1 (dk_at dksX5_copy_7 16 rfl rfl)
theorem dX5_copy_182 : decode cX5_copy 182 = .ok (.goto (-32), 3) := dk_167 255 224 (dk_at dksX5_copy_7 19 rfl rfl)
theorem dX5_copy_185 : decode cX5_copy 185 = .ok (.iload 5, 2) := dk_21 5 (dk_at dksX5_copy_7 22 rfl rfl)
theorem dX5_copy_187 : decode cX5_copy 187 = .ok (.ireturn, 1) := dk_172 (dk_at dksX5_copy_8 0 rfl rfl)
abbrev cX5_lay : ByteArray := prog_18_method_84_code
def yX5_lay : MethodName := ⟨RX5, "lay", "(III)I"⟩
def dkwX5_lay_8 : List UInt8 := [172]
abbrev dktX5_lay_8 : List UInt8 := dkwX5_lay_8 ++ []
def dkwX5_lay_7 : List UInt8 := [21, 6, 96, 42, 180, 0, 25, 16, 24, 29, 104, 21, 6, 96, 46, 79, 132, 6, 1, 167, 255, 222, 21, 5]
abbrev dktX5_lay_7 : List UInt8 := dkwX5_lay_7 ++ dktX5_lay_8
def dkwX5_lay_6 : List UInt8 := [180, 0, 22, 29, 46, 79, 3, 54, 6, 21, 6, 16, 24, 162, 0, 33, 42, 180, 0, 40, 16, 24, 27, 104]
abbrev dktX5_lay_6 : List UInt8 := dkwX5_lay_6 ++ dktX5_lay_7
def dkwX5_lay_5 : List UInt8 := [160, 0, 11, 42, 29, 182, 0, 142, 167, 0, 4, 3, 79, 28, 5, 160, 0, 55, 42, 180, 0, 37, 27, 42]
abbrev dktX5_lay_5 : List UInt8 := dkwX5_lay_5 ++ dktX5_lay_6
def dkwX5_lay_4 : List UInt8 := [28, 4, 160, 0, 12, 42, 29, 3, 182, 0, 75, 167, 0, 4, 29, 79, 42, 180, 0, 34, 27, 28, 4]
abbrev dktX5_lay_4 : List UInt8 := dkwX5_lay_4 ++ dktX5_lay_5
def dkwX5_lay_3 : List UInt8 := [19, 1, 52, 172, 42, 180, 0, 28, 27, 46, 54, 5, 42, 180, 0, 28, 27, 28, 79, 42, 180, 0, 31, 27]
abbrev dktX5_lay_3 : List UInt8 := dkwX5_lay_3 ++ dktX5_lay_4
def dkwX5_lay_2 : List UInt8 := [21, 4, 154, 0, 6, 18, 100, 172, 28, 5, 160, 0, 16, 42, 180, 0, 19, 29, 46, 156, 0, 7]
abbrev dktX5_lay_2 : List UInt8 := dkwX5_lay_2 ++ dktX5_lay_3
def dkwX5_lay_1 : List UInt8 := [160, 0, 14, 29, 184, 1, 46, 153, 0, 7, 4, 167, 0, 4, 3, 54, 4, 27, 184, 1, 60, 153, 0, 8]
abbrev dktX5_lay_1 : List UInt8 := dkwX5_lay_1 ++ dktX5_lay_2
def dkwX5_lay_0 : List UInt8 := [28, 153, 0, 33, 28, 6, 159, 0, 28, 28, 4, 160, 0, 11, 42, 29, 182, 0, 133, 154, 0, 15, 28, 5]
abbrev dktX5_lay_0 : List UInt8 := dkwX5_lay_0 ++ dktX5_lay_1
theorem dksX5_lay_0 : cX5_lay.data.toList.drop 0 = dktX5_lay_0 := by decide +kernel
theorem dksX5_lay_1 : cX5_lay.data.toList.drop 24 = dktX5_lay_1 := dk_seg dksX5_lay_0 24 rfl rfl
theorem dksX5_lay_2 : cX5_lay.data.toList.drop 48 = dktX5_lay_2 := dk_seg dksX5_lay_1 24 rfl rfl
theorem dksX5_lay_3 : cX5_lay.data.toList.drop 70 = dktX5_lay_3 := dk_seg dksX5_lay_2 22 rfl rfl
theorem dksX5_lay_4 : cX5_lay.data.toList.drop 94 = dktX5_lay_4 := dk_seg dksX5_lay_3 24 rfl rfl
theorem dksX5_lay_5 : cX5_lay.data.toList.drop 117 = dktX5_lay_5 := dk_seg dksX5_lay_4 23 rfl rfl
theorem dksX5_lay_6 : cX5_lay.data.toList.drop 141 = dktX5_lay_6 := dk_seg dksX5_lay_5 24 rfl rfl
theorem dksX5_lay_7 : cX5_lay.data.toList.drop 165 = dktX5_lay_7 := dk_seg dksX5_lay_6 24 rfl rfl
theorem dksX5_lay_8 : cX5_lay.data.toList.drop 189 = dktX5_lay_8 := dk_seg dksX5_lay_7 24 rfl rfl
theorem dX5_lay_0 : decode cX5_lay 0 = .ok (.iload_n 2, 1) := dk_28 (dk_at dksX5_lay_0 0 rfl rfl)
theorem dX5_lay_1 : decode cX5_lay 1 = .ok (.ifCond .eq 33, 3) := dk_153 0 33 (dk_at dksX5_lay_0 1 rfl rfl)
theorem dX5_lay_4 : decode cX5_lay 4 = .ok (.iload_n 2, 1) := dk_28 (dk_at dksX5_lay_0 4 rfl rfl)
theorem dX5_lay_5 : decode cX5_lay 5 = .ok (.iconst 3, 1) := dk_6 (dk_at dksX5_lay_0 5 rfl rfl)
theorem dX5_lay_6 : decode cX5_lay 6 = .ok (.if_icmp .eq 28, 3) := dk_159 0 28 (dk_at dksX5_lay_0 6 rfl rfl)
theorem dX5_lay_9 : decode cX5_lay 9 = .ok (.iload_n 2, 1) := dk_28 (dk_at dksX5_lay_0 9 rfl rfl)
theorem dX5_lay_10 : decode cX5_lay 10 = .ok (.iconst 1, 1) := dk_4 (dk_at dksX5_lay_0 10 rfl rfl)
theorem dX5_lay_11 : decode cX5_lay 11 = .ok (.if_icmp .ne 11, 3) := dk_160 0 11 (dk_at dksX5_lay_0 11 rfl rfl)
theorem dX5_lay_14 : decode cX5_lay 14 = .ok (.aload_n 0, 1) := dk_42 (dk_at dksX5_lay_0 14 rfl rfl)
theorem dX5_lay_15 : decode cX5_lay 15 = .ok (.iload_n 3, 1) := dk_29 (dk_at dksX5_lay_0 15 rfl rfl)
theorem dX5_lay_16 : decode cX5_lay 16 = .ok (.invokevirtual 133, 3) := dk_182 0 133 (dk_at dksX5_lay_0 16 rfl rfl)
theorem dX5_lay_19 : decode cX5_lay 19 = .ok (.ifCond .ne 15, 3) := dk_154 0 15 (dk_at dksX5_lay_0 19 rfl rfl)
theorem dX5_lay_22 : decode cX5_lay 22 = .ok (.iload_n 2, 1) := dk_28 (dk_at dksX5_lay_0 22 rfl rfl)
theorem dX5_lay_23 : decode cX5_lay 23 = .ok (.iconst 2, 1) := dk_5 (dk_at dksX5_lay_0 23 rfl rfl)
theorem dX5_lay_24 : decode cX5_lay 24 = .ok (.if_icmp .ne 14, 3) := dk_160 0 14 (dk_at dksX5_lay_1 0 rfl rfl)
theorem dX5_lay_27 : decode cX5_lay 27 = .ok (.iload_n 3, 1) := dk_29 (dk_at dksX5_lay_1 3 rfl rfl)
theorem dX5_lay_28 : decode cX5_lay 28 = .ok (.invokestatic 302, 3) := dk_184 1 46 (dk_at dksX5_lay_1 4 rfl rfl)
theorem dX5_lay_31 : decode cX5_lay 31 = .ok (.ifCond .eq 7, 3) := dk_153 0 7 (dk_at dksX5_lay_1 7 rfl rfl)
theorem dX5_lay_34 : decode cX5_lay 34 = .ok (.iconst 1, 1) := dk_4 (dk_at dksX5_lay_1 10 rfl rfl)
theorem dX5_lay_35 : decode cX5_lay 35 = .ok (.goto 4, 3) := dk_167 0 4 (dk_at dksX5_lay_1 11 rfl rfl)
theorem dX5_lay_38 : decode cX5_lay 38 = .ok (.iconst 0, 1) := dk_3 (dk_at dksX5_lay_1 14 rfl rfl)
theorem dX5_lay_39 : decode cX5_lay 39 = .ok (.istore 4, 2) := dk_54 4 (dk_at dksX5_lay_1 15 rfl rfl)
theorem dX5_lay_41 : decode cX5_lay 41 = .ok (.iload_n 1, 1) := dk_27 (dk_at dksX5_lay_1 17 rfl rfl)
theorem dX5_lay_42 : decode cX5_lay 42 = .ok (.invokestatic 316, 3) := dk_184 1 60 (dk_at dksX5_lay_1 18 rfl rfl)
theorem dX5_lay_45 : decode cX5_lay 45 = .ok (.ifCond .eq 8, 3) := dk_153 0 8 (dk_at dksX5_lay_1 21 rfl rfl)
theorem dX5_lay_48 : decode cX5_lay 48 = .ok (.iload 4, 2) := dk_21 4 (dk_at dksX5_lay_2 0 rfl rfl)
theorem dX5_lay_50 : decode cX5_lay 50 = .ok (.ifCond .ne 6, 3) := dk_154 0 6 (dk_at dksX5_lay_2 2 rfl rfl)
theorem dX5_lay_53 : decode cX5_lay 53 = .ok (.ldc 100, 2) := dk_18 100 (dk_at dksX5_lay_2 5 rfl rfl)
theorem dX5_lay_55 : decode cX5_lay 55 = .ok (.ireturn, 1) := dk_172 (dk_at dksX5_lay_2 7 rfl rfl)
theorem dX5_lay_56 : decode cX5_lay 56 = .ok (.iload_n 2, 1) := dk_28 (dk_at dksX5_lay_2 8 rfl rfl)
theorem dX5_lay_57 : decode cX5_lay 57 = .ok (.iconst 2, 1) := dk_5 (dk_at dksX5_lay_2 9 rfl rfl)
theorem dX5_lay_58 : decode cX5_lay 58 = .ok (.if_icmp .ne 16, 3) := dk_160 0 16 (dk_at dksX5_lay_2 10 rfl rfl)
theorem dX5_lay_61 : decode cX5_lay 61 = .ok (.aload_n 0, 1) := dk_42 (dk_at dksX5_lay_2 13 rfl rfl)
theorem dX5_lay_62 : decode cX5_lay 62 = .ok (.getfield 19, 3) := dk_180 0 19 (dk_at dksX5_lay_2 14 rfl rfl)
theorem dX5_lay_65 : decode cX5_lay 65 = .ok (.iload_n 3, 1) := dk_29 (dk_at dksX5_lay_2 17 rfl rfl)
theorem dX5_lay_66 : decode cX5_lay 66 = .ok (.iaload, 1) := dk_46 (dk_at dksX5_lay_2 18 rfl rfl)
theorem dX5_lay_67 : decode cX5_lay 67 = .ok (.ifCond .ge 7, 3) := dk_156 0 7 (dk_at dksX5_lay_2 19 rfl rfl)
theorem dX5_lay_70 : decode cX5_lay 70 = .ok (.ldc_w 308, 3) := dk_19 1 52 (dk_at dksX5_lay_3 0 rfl rfl)
theorem dX5_lay_73 : decode cX5_lay 73 = .ok (.ireturn, 1) := dk_172 (dk_at dksX5_lay_3 3 rfl rfl)
theorem dX5_lay_74 : decode cX5_lay 74 = .ok (.aload_n 0, 1) := dk_42 (dk_at dksX5_lay_3 4 rfl rfl)
theorem dX5_lay_75 : decode cX5_lay 75 = .ok (.getfield 28, 3) := dk_180 0 28 (dk_at dksX5_lay_3 5 rfl rfl)
theorem dX5_lay_78 : decode cX5_lay 78 = .ok (.iload_n 1, 1) := dk_27 (dk_at dksX5_lay_3 8 rfl rfl)
theorem dX5_lay_79 : decode cX5_lay 79 = .ok (.iaload, 1) := dk_46 (dk_at dksX5_lay_3 9 rfl rfl)
theorem dX5_lay_80 : decode cX5_lay 80 = .ok (.istore 5, 2) := dk_54 5 (dk_at dksX5_lay_3 10 rfl rfl)
theorem dX5_lay_82 : decode cX5_lay 82 = .ok (.aload_n 0, 1) := dk_42 (dk_at dksX5_lay_3 12 rfl rfl)
theorem dX5_lay_83 : decode cX5_lay 83 = .ok (.getfield 28, 3) := dk_180 0 28 (dk_at dksX5_lay_3 13 rfl rfl)
theorem dX5_lay_86 : decode cX5_lay 86 = .ok (.iload_n 1, 1) := dk_27 (dk_at dksX5_lay_3 16 rfl rfl)
theorem dX5_lay_87 : decode cX5_lay 87 = .ok (.iload_n 2, 1) := dk_28 (dk_at dksX5_lay_3 17 rfl rfl)
theorem dX5_lay_88 : decode cX5_lay 88 = .ok (.iastore, 1) := dk_79 (dk_at dksX5_lay_3 18 rfl rfl)
theorem dX5_lay_89 : decode cX5_lay 89 = .ok (.aload_n 0, 1) := dk_42 (dk_at dksX5_lay_3 19 rfl rfl)
theorem dX5_lay_90 : decode cX5_lay 90 = .ok (.getfield 31, 3) := dk_180 0 31 (dk_at dksX5_lay_3 20 rfl rfl)
theorem dX5_lay_93 : decode cX5_lay 93 = .ok (.iload_n 1, 1) := dk_27 (dk_at dksX5_lay_3 23 rfl rfl)
theorem dX5_lay_94 : decode cX5_lay 94 = .ok (.iload_n 2, 1) := dk_28 (dk_at dksX5_lay_4 0 rfl rfl)
theorem dX5_lay_95 : decode cX5_lay 95 = .ok (.iconst 1, 1) := dk_4 (dk_at dksX5_lay_4 1 rfl rfl)
theorem dX5_lay_96 : decode cX5_lay 96 = .ok (.if_icmp .ne 12, 3) := dk_160 0 12 (dk_at dksX5_lay_4 2 rfl rfl)
theorem dX5_lay_99 : decode cX5_lay 99 = .ok (.aload_n 0, 1) := dk_42 (dk_at dksX5_lay_4 5 rfl rfl)
theorem dX5_lay_100 : decode cX5_lay 100 = .ok (.iload_n 3, 1) := dk_29 (dk_at dksX5_lay_4 6 rfl rfl)
theorem dX5_lay_101 : decode cX5_lay 101 = .ok (.iconst 0, 1) := dk_3 (dk_at dksX5_lay_4 7 rfl rfl)
theorem dX5_lay_102 : decode cX5_lay 102 = .ok (.invokevirtual 75, 3) := dk_182 0 75 (dk_at dksX5_lay_4 8 rfl rfl)
theorem dX5_lay_105 : decode cX5_lay 105 = .ok (.goto 4, 3) := dk_167 0 4 (dk_at dksX5_lay_4 11 rfl rfl)
theorem dX5_lay_108 : decode cX5_lay 108 = .ok (.iload_n 3, 1) := dk_29 (dk_at dksX5_lay_4 14 rfl rfl)
theorem dX5_lay_109 : decode cX5_lay 109 = .ok (.iastore, 1) := dk_79 (dk_at dksX5_lay_4 15 rfl rfl)
theorem dX5_lay_110 : decode cX5_lay 110 = .ok (.aload_n 0, 1) := dk_42 (dk_at dksX5_lay_4 16 rfl rfl)
theorem dX5_lay_111 : decode cX5_lay 111 = .ok (.getfield 34, 3) := dk_180 0 34 (dk_at dksX5_lay_4 17 rfl rfl)
theorem dX5_lay_114 : decode cX5_lay 114 = .ok (.iload_n 1, 1) := dk_27 (dk_at dksX5_lay_4 20 rfl rfl)
theorem dX5_lay_115 : decode cX5_lay 115 = .ok (.iload_n 2, 1) := dk_28 (dk_at dksX5_lay_4 21 rfl rfl)
theorem dX5_lay_116 : decode cX5_lay 116 = .ok (.iconst 1, 1) := dk_4 (dk_at dksX5_lay_4 22 rfl rfl)
theorem dX5_lay_117 : decode cX5_lay 117 = .ok (.if_icmp .ne 11, 3) := dk_160 0 11 (dk_at dksX5_lay_5 0 rfl rfl)
theorem dX5_lay_120 : decode cX5_lay 120 = .ok (.aload_n 0, 1) := dk_42 (dk_at dksX5_lay_5 3 rfl rfl)
theorem dX5_lay_121 : decode cX5_lay 121 = .ok (.iload_n 3, 1) := dk_29 (dk_at dksX5_lay_5 4 rfl rfl)
theorem dX5_lay_122 : decode cX5_lay 122 = .ok (.invokevirtual 142, 3) := dk_182 0 142 (dk_at dksX5_lay_5 5 rfl rfl)
theorem dX5_lay_125 : decode cX5_lay 125 = .ok (.goto 4, 3) := dk_167 0 4 (dk_at dksX5_lay_5 8 rfl rfl)
theorem dX5_lay_128 : decode cX5_lay 128 = .ok (.iconst 0, 1) := dk_3 (dk_at dksX5_lay_5 11 rfl rfl)
theorem dX5_lay_129 : decode cX5_lay 129 = .ok (.iastore, 1) := dk_79 (dk_at dksX5_lay_5 12 rfl rfl)
theorem dX5_lay_130 : decode cX5_lay 130 = .ok (.iload_n 2, 1) := dk_28 (dk_at dksX5_lay_5 13 rfl rfl)
theorem dX5_lay_131 : decode cX5_lay 131 = .ok (.iconst 2, 1) := dk_5 (dk_at dksX5_lay_5 14 rfl rfl)
theorem dX5_lay_132 : decode cX5_lay 132 = .ok (.if_icmp .ne 55, 3) := dk_160 0 55 (dk_at dksX5_lay_5 15 rfl rfl)
theorem dX5_lay_135 : decode cX5_lay 135 = .ok (.aload_n 0, 1) := dk_42 (dk_at dksX5_lay_5 18 rfl rfl)
theorem dX5_lay_136 : decode cX5_lay 136 = .ok (.getfield 37, 3) := dk_180 0 37 (dk_at dksX5_lay_5 19 rfl rfl)
theorem dX5_lay_139 : decode cX5_lay 139 = .ok (.iload_n 1, 1) := dk_27 (dk_at dksX5_lay_5 22 rfl rfl)
theorem dX5_lay_140 : decode cX5_lay 140 = .ok (.aload_n 0, 1) := dk_42 (dk_at dksX5_lay_5 23 rfl rfl)
theorem dX5_lay_141 : decode cX5_lay 141 = .ok (.getfield 22, 3) := dk_180 0 22 (dk_at dksX5_lay_6 0 rfl rfl)
theorem dX5_lay_144 : decode cX5_lay 144 = .ok (.iload_n 3, 1) := dk_29 (dk_at dksX5_lay_6 3 rfl rfl)
theorem dX5_lay_145 : decode cX5_lay 145 = .ok (.iaload, 1) := dk_46 (dk_at dksX5_lay_6 4 rfl rfl)
theorem dX5_lay_146 : decode cX5_lay 146 = .ok (.iastore, 1) := dk_79 (dk_at dksX5_lay_6 5 rfl rfl)
theorem dX5_lay_147 : decode cX5_lay 147 = .ok (.iconst 0, 1) := dk_3 (dk_at dksX5_lay_6 6 rfl rfl)
theorem dX5_lay_148 : decode cX5_lay 148 = .ok (.istore 6, 2) := dk_54 6 (dk_at dksX5_lay_6 7 rfl rfl)
theorem dX5_lay_150 : decode cX5_lay 150 = .ok (.iload 6, 2) := dk_21 6 (dk_at dksX5_lay_6 9 rfl rfl)
theorem dX5_lay_152 : decode cX5_lay 152 = .ok (.bipush 24, 2) := dk_16 24 (dk_at dksX5_lay_6 11 rfl rfl)
theorem dX5_lay_154 : decode cX5_lay 154 = .ok (.if_icmp .ge 33, 3) := dk_162 0 33 (dk_at dksX5_lay_6 13 rfl rfl)
theorem dX5_lay_157 : decode cX5_lay 157 = .ok (.aload_n 0, 1) := dk_42 (dk_at dksX5_lay_6 16 rfl rfl)
theorem dX5_lay_158 : decode cX5_lay 158 = .ok (.getfield 40, 3) := dk_180 0 40 (dk_at dksX5_lay_6 17 rfl rfl)
theorem dX5_lay_161 : decode cX5_lay 161 = .ok (.bipush 24, 2) := dk_16 24 (dk_at dksX5_lay_6 20 rfl rfl)
theorem dX5_lay_163 : decode cX5_lay 163 = .ok (.iload_n 1, 1) := dk_27 (dk_at dksX5_lay_6 22 rfl rfl)
theorem dX5_lay_164 : decode cX5_lay 164 = .ok (.imul, 1) := dk_104 (dk_at dksX5_lay_6 23 rfl rfl)
theorem dX5_lay_165 : decode cX5_lay 165 = .ok (.iload 6, 2) := dk_21 6 (dk_at dksX5_lay_7 0 rfl rfl)
theorem dX5_lay_167 : decode cX5_lay 167 = .ok (.iadd, 1) := dk_96 (dk_at dksX5_lay_7 2 rfl rfl)
theorem dX5_lay_168 : decode cX5_lay 168 = .ok (.aload_n 0, 1) := dk_42 (dk_at dksX5_lay_7 3 rfl rfl)
theorem dX5_lay_169 : decode cX5_lay 169 = .ok (.getfield 25, 3) := dk_180 0 25 (dk_at dksX5_lay_7 4 rfl rfl)
theorem dX5_lay_172 : decode cX5_lay 172 = .ok (.bipush 24, 2) := dk_16 24 (dk_at dksX5_lay_7 7 rfl rfl)
theorem dX5_lay_174 : decode cX5_lay 174 = .ok (.iload_n 3, 1) := dk_29 (dk_at dksX5_lay_7 9 rfl rfl)
theorem dX5_lay_175 : decode cX5_lay 175 = .ok (.imul, 1) := dk_104 (dk_at dksX5_lay_7 10 rfl rfl)
theorem dX5_lay_176 : decode cX5_lay 176 = .ok (.iload 6, 2) := dk_21 6 (dk_at dksX5_lay_7 11 rfl rfl)
theorem dX5_lay_178 : decode cX5_lay 178 = .ok (.iadd, 1) := dk_96 (dk_at dksX5_lay_7 13 rfl rfl)
theorem dX5_lay_179 : decode cX5_lay 179 = .ok (.iaload, 1) := dk_46 (dk_at dksX5_lay_7 14 rfl rfl)
theorem dX5_lay_180 : decode cX5_lay 180 = .ok (.iastore, 1) := dk_79 (dk_at dksX5_lay_7 15 rfl rfl)
theorem dX5_lay_181 : decode cX5_lay 181 = .ok (.iinc 6 1, 3) := dk_132 6 1 (dk_at dksX5_lay_7 16 rfl rfl)
theorem dX5_lay_184 : decode cX5_lay 184 = .ok (.goto (-34), 3) := dk_167 255 222 (dk_at dksX5_lay_7 19 rfl rfl)
theorem dX5_lay_187 : decode cX5_lay 187 = .ok (.iload 5, 2) := dk_21 5 (dk_at dksX5_lay_7 22 rfl rfl)
theorem dX5_lay_189 : decode cX5_lay 189 = .ok (.ireturn, 1) := dk_172 (dk_at dksX5_lay_8 0 rfl rfl)
abbrev cX5_isSlot : ByteArray := prog_18_method_83_code
def yX5_isSlot : MethodName := ⟨RX5, "isSlot", "(I)Z"⟩
def dkwX5_isSlot_0 : List UInt8 := [26, 133, 9, 20, 1, 58, 184, 0, 71, 172]
abbrev dktX5_isSlot_0 : List UInt8 := dkwX5_isSlot_0 ++ []
theorem dksX5_isSlot_0 : cX5_isSlot.data.toList.drop 0 = dktX5_isSlot_0 := by decide +kernel
theorem dX5_isSlot_0 : decode cX5_isSlot 0 = .ok (.iload_n 0, 1) := dk_26 (dk_at dksX5_isSlot_0 0 rfl rfl)
theorem dX5_isSlot_1 : decode cX5_isSlot 1 = .ok (.i2l, 1) := dk_133 (dk_at dksX5_isSlot_0 1 rfl rfl)
theorem dX5_isSlot_2 : decode cX5_isSlot 2 = .ok (.lconst 0, 1) := dk_9 (dk_at dksX5_isSlot_0 2 rfl rfl)
theorem dX5_isSlot_3 : decode cX5_isSlot 3 = .ok (.ldc2_w 314, 3) := dk_20 1 58 (dk_at dksX5_isSlot_0 3 rfl rfl)
theorem dX5_isSlot_6 : decode cX5_isSlot 6 = .ok (.invokestatic 71, 3) := dk_184 0 71 (dk_at dksX5_isSlot_0 6 rfl rfl)
theorem dX5_isSlot_9 : decode cX5_isSlot 9 = .ok (.ireturn, 1) := dk_172 (dk_at dksX5_isSlot_0 9 rfl rfl)
abbrev cX5_ask : ByteArray := prog_18_method_85_code
def yX5_ask : MethodName := ⟨RX5, "ask", "(II)I"⟩
def dkwX5_ask_2 : List UInt8 := [180, 0, 31, 27, 46, 28, 184, 0, 145, 153, 0, 12, 42, 180, 0, 34, 27, 46, 167, 0, 5, 18, 148, 172]
abbrev dktX5_ask_2 : List UInt8 := dkwX5_ask_2 ++ []
def dkwX5_ask_1 : List UInt8 := [180, 0, 28, 27, 46, 154, 0, 7, 19, 1, 52, 172, 42, 180, 0, 28, 27, 46, 4, 160, 0, 25, 42]
abbrev dktX5_ask_1 : List UInt8 := dkwX5_ask_1 ++ dktX5_ask_2
def dkwX5_ask_0 : List UInt8 := [27, 184, 1, 60, 153, 0, 15, 28, 133, 9, 20, 0, 94, 184, 0, 71, 154, 0, 6, 18, 100, 172, 42]
abbrev dktX5_ask_0 : List UInt8 := dkwX5_ask_0 ++ dktX5_ask_1
theorem dksX5_ask_0 : cX5_ask.data.toList.drop 0 = dktX5_ask_0 := by decide +kernel
theorem dksX5_ask_1 : cX5_ask.data.toList.drop 23 = dktX5_ask_1 := dk_seg dksX5_ask_0 23 rfl rfl
theorem dksX5_ask_2 : cX5_ask.data.toList.drop 46 = dktX5_ask_2 := dk_seg dksX5_ask_1 23 rfl rfl
theorem dX5_ask_0 : decode cX5_ask 0 = .ok (.iload_n 1, 1) := dk_27 (dk_at dksX5_ask_0 0 rfl rfl)
theorem dX5_ask_1 : decode cX5_ask 1 = .ok (.invokestatic 316, 3) := dk_184 1 60 (dk_at dksX5_ask_0 1 rfl rfl)
theorem dX5_ask_4 : decode cX5_ask 4 = .ok (.ifCond .eq 15, 3) := dk_153 0 15 (dk_at dksX5_ask_0 4 rfl rfl)
theorem dX5_ask_7 : decode cX5_ask 7 = .ok (.iload_n 2, 1) := dk_28 (dk_at dksX5_ask_0 7 rfl rfl)
theorem dX5_ask_8 : decode cX5_ask 8 = .ok (.i2l, 1) := dk_133 (dk_at dksX5_ask_0 8 rfl rfl)
theorem dX5_ask_9 : decode cX5_ask 9 = .ok (.lconst 0, 1) := dk_9 (dk_at dksX5_ask_0 9 rfl rfl)
theorem dX5_ask_10 : decode cX5_ask 10 = .ok (.ldc2_w 94, 3) := dk_20 0 94 (dk_at dksX5_ask_0 10 rfl rfl)
theorem dX5_ask_13 : decode cX5_ask 13 = .ok (.invokestatic 71, 3) := dk_184 0 71 (dk_at dksX5_ask_0 13 rfl rfl)
theorem dX5_ask_16 : decode cX5_ask 16 = .ok (.ifCond .ne 6, 3) := dk_154 0 6 (dk_at dksX5_ask_0 16 rfl rfl)
theorem dX5_ask_19 : decode cX5_ask 19 = .ok (.ldc 100, 2) := dk_18 100 (dk_at dksX5_ask_0 19 rfl rfl)
theorem dX5_ask_21 : decode cX5_ask 21 = .ok (.ireturn, 1) := dk_172 (dk_at dksX5_ask_0 21 rfl rfl)
theorem dX5_ask_22 : decode cX5_ask 22 = .ok (.aload_n 0, 1) := dk_42 (dk_at dksX5_ask_0 22 rfl rfl)
theorem dX5_ask_23 : decode cX5_ask 23 = .ok (.getfield 28, 3) := dk_180 0 28 (dk_at dksX5_ask_1 0 rfl rfl)
theorem dX5_ask_26 : decode cX5_ask 26 = .ok (.iload_n 1, 1) := dk_27 (dk_at dksX5_ask_1 3 rfl rfl)
theorem dX5_ask_27 : decode cX5_ask 27 = .ok (.iaload, 1) := dk_46 (dk_at dksX5_ask_1 4 rfl rfl)
theorem dX5_ask_28 : decode cX5_ask 28 = .ok (.ifCond .ne 7, 3) := dk_154 0 7 (dk_at dksX5_ask_1 5 rfl rfl)
theorem dX5_ask_31 : decode cX5_ask 31 = .ok (.ldc_w 308, 3) := dk_19 1 52 (dk_at dksX5_ask_1 8 rfl rfl)
theorem dX5_ask_34 : decode cX5_ask 34 = .ok (.ireturn, 1) := dk_172 (dk_at dksX5_ask_1 11 rfl rfl)
theorem dX5_ask_35 : decode cX5_ask 35 = .ok (.aload_n 0, 1) := dk_42 (dk_at dksX5_ask_1 12 rfl rfl)
theorem dX5_ask_36 : decode cX5_ask 36 = .ok (.getfield 28, 3) := dk_180 0 28 (dk_at dksX5_ask_1 13 rfl rfl)
theorem dX5_ask_39 : decode cX5_ask 39 = .ok (.iload_n 1, 1) := dk_27 (dk_at dksX5_ask_1 16 rfl rfl)
theorem dX5_ask_40 : decode cX5_ask 40 = .ok (.iaload, 1) := dk_46 (dk_at dksX5_ask_1 17 rfl rfl)
theorem dX5_ask_41 : decode cX5_ask 41 = .ok (.iconst 1, 1) := dk_4 (dk_at dksX5_ask_1 18 rfl rfl)
theorem dX5_ask_42 : decode cX5_ask 42 = .ok (.if_icmp .ne 25, 3) := dk_160 0 25 (dk_at dksX5_ask_1 19 rfl rfl)
theorem dX5_ask_45 : decode cX5_ask 45 = .ok (.aload_n 0, 1) := dk_42 (dk_at dksX5_ask_1 22 rfl rfl)
theorem dX5_ask_46 : decode cX5_ask 46 = .ok (.getfield 31, 3) := dk_180 0 31 (dk_at dksX5_ask_2 0 rfl rfl)
theorem dX5_ask_49 : decode cX5_ask 49 = .ok (.iload_n 1, 1) := dk_27 (dk_at dksX5_ask_2 3 rfl rfl)
theorem dX5_ask_50 : decode cX5_ask 50 = .ok (.iaload, 1) := dk_46 (dk_at dksX5_ask_2 4 rfl rfl)
theorem dX5_ask_51 : decode cX5_ask 51 = .ok (.iload_n 2, 1) := dk_28 (dk_at dksX5_ask_2 5 rfl rfl)
theorem dX5_ask_52 : decode cX5_ask 52 = .ok (.invokestatic 145, 3) := dk_184 0 145 (dk_at dksX5_ask_2 6 rfl rfl)
theorem dX5_ask_55 : decode cX5_ask 55 = .ok (.ifCond .eq 12, 3) := dk_153 0 12 (dk_at dksX5_ask_2 9 rfl rfl)
theorem dX5_ask_58 : decode cX5_ask 58 = .ok (.aload_n 0, 1) := dk_42 (dk_at dksX5_ask_2 12 rfl rfl)
theorem dX5_ask_59 : decode cX5_ask 59 = .ok (.getfield 34, 3) := dk_180 0 34 (dk_at dksX5_ask_2 13 rfl rfl)
theorem dX5_ask_62 : decode cX5_ask 62 = .ok (.iload_n 1, 1) := dk_27 (dk_at dksX5_ask_2 16 rfl rfl)
theorem dX5_ask_63 : decode cX5_ask 63 = .ok (.iaload, 1) := dk_46 (dk_at dksX5_ask_2 17 rfl rfl)
theorem dX5_ask_64 : decode cX5_ask 64 = .ok (.goto 5, 3) := dk_167 0 5 (dk_at dksX5_ask_2 18 rfl rfl)
theorem dX5_ask_67 : decode cX5_ask 67 = .ok (.ldc 148, 2) := dk_18 148 (dk_at dksX5_ask_2 21 rfl rfl)
theorem dX5_ask_69 : decode cX5_ask 69 = .ok (.ireturn, 1) := dk_172 (dk_at dksX5_ask_2 23 rfl rfl)
abbrev cX5_item : ByteArray := prog_18_method_86_code
def yX5_item : MethodName := ⟨RX5, "item", "(II)I"⟩
def dkwX5_item_3 : List UInt8 := [29, 18, 70, 160, 0, 8, 18, 148, 167, 0, 4, 29, 172]
abbrev dktX5_item_3 : List UInt8 := dkwX5_item_3 ++ []
def dkwX5_item_2 : List UInt8 := [100, 133, 184, 0, 71, 154, 0, 7, 19, 1, 53, 172, 42, 180, 0, 40, 16, 24, 27, 104, 28, 96, 46, 62]
abbrev dktX5_item_2 : List UInt8 := dkwX5_item_2 ++ dktX5_item_3
def dkwX5_item_1 : List UInt8 := [27, 46, 154, 0, 9, 19, 1, 52, 167, 0, 5, 18, 148, 172, 28, 133, 9, 42, 180, 0, 37, 27, 46, 4]
abbrev dktX5_item_1 : List UInt8 := dkwX5_item_1 ++ dktX5_item_2
def dkwX5_item_0 : List UInt8 := [27, 184, 1, 60, 154, 0, 6, 18, 100, 172, 42, 180, 0, 28, 27, 46, 5, 159, 0, 21, 42, 180, 0, 28]
abbrev dktX5_item_0 : List UInt8 := dkwX5_item_0 ++ dktX5_item_1
theorem dksX5_item_0 : cX5_item.data.toList.drop 0 = dktX5_item_0 := by decide +kernel
theorem dksX5_item_1 : cX5_item.data.toList.drop 24 = dktX5_item_1 := dk_seg dksX5_item_0 24 rfl rfl
theorem dksX5_item_2 : cX5_item.data.toList.drop 48 = dktX5_item_2 := dk_seg dksX5_item_1 24 rfl rfl
theorem dksX5_item_3 : cX5_item.data.toList.drop 72 = dktX5_item_3 := dk_seg dksX5_item_2 24 rfl rfl
theorem dX5_item_0 : decode cX5_item 0 = .ok (.iload_n 1, 1) := dk_27 (dk_at dksX5_item_0 0 rfl rfl)
theorem dX5_item_1 : decode cX5_item 1 = .ok (.invokestatic 316, 3) := dk_184 1 60 (dk_at dksX5_item_0 1 rfl rfl)
theorem dX5_item_4 : decode cX5_item 4 = .ok (.ifCond .ne 6, 3) := dk_154 0 6 (dk_at dksX5_item_0 4 rfl rfl)
theorem dX5_item_7 : decode cX5_item 7 = .ok (.ldc 100, 2) := dk_18 100 (dk_at dksX5_item_0 7 rfl rfl)
theorem dX5_item_9 : decode cX5_item 9 = .ok (.ireturn, 1) := dk_172 (dk_at dksX5_item_0 9 rfl rfl)
theorem dX5_item_10 : decode cX5_item 10 = .ok (.aload_n 0, 1) := dk_42 (dk_at dksX5_item_0 10 rfl rfl)
theorem dX5_item_11 : decode cX5_item 11 = .ok (.getfield 28, 3) := dk_180 0 28 (dk_at dksX5_item_0 11 rfl rfl)
theorem dX5_item_14 : decode cX5_item 14 = .ok (.iload_n 1, 1) := dk_27 (dk_at dksX5_item_0 14 rfl rfl)
theorem dX5_item_15 : decode cX5_item 15 = .ok (.iaload, 1) := dk_46 (dk_at dksX5_item_0 15 rfl rfl)
theorem dX5_item_16 : decode cX5_item 16 = .ok (.iconst 2, 1) := dk_5 (dk_at dksX5_item_0 16 rfl rfl)
theorem dX5_item_17 : decode cX5_item 17 = .ok (.if_icmp .eq 21, 3) := dk_159 0 21 (dk_at dksX5_item_0 17 rfl rfl)
theorem dX5_item_20 : decode cX5_item 20 = .ok (.aload_n 0, 1) := dk_42 (dk_at dksX5_item_0 20 rfl rfl)
theorem dX5_item_21 : decode cX5_item 21 = .ok (.getfield 28, 3) := dk_180 0 28 (dk_at dksX5_item_0 21 rfl rfl)
theorem dX5_item_24 : decode cX5_item 24 = .ok (.iload_n 1, 1) := dk_27 (dk_at dksX5_item_1 0 rfl rfl)
theorem dX5_item_25 : decode cX5_item 25 = .ok (.iaload, 1) := dk_46 (dk_at dksX5_item_1 1 rfl rfl)
theorem dX5_item_26 : decode cX5_item 26 = .ok (.ifCond .ne 9, 3) := dk_154 0 9 (dk_at dksX5_item_1 2 rfl rfl)
theorem dX5_item_29 : decode cX5_item 29 = .ok (.ldc_w 308, 3) := dk_19 1 52 (dk_at dksX5_item_1 5 rfl rfl)
theorem dX5_item_32 : decode cX5_item 32 = .ok (.goto 5, 3) := dk_167 0 5 (dk_at dksX5_item_1 8 rfl rfl)
theorem dX5_item_35 : decode cX5_item 35 = .ok (.ldc 148, 2) := dk_18 148 (dk_at dksX5_item_1 11 rfl rfl)
theorem dX5_item_37 : decode cX5_item 37 = .ok (.ireturn, 1) := dk_172 (dk_at dksX5_item_1 13 rfl rfl)
theorem dX5_item_38 : decode cX5_item 38 = .ok (.iload_n 2, 1) := dk_28 (dk_at dksX5_item_1 14 rfl rfl)
theorem dX5_item_39 : decode cX5_item 39 = .ok (.i2l, 1) := dk_133 (dk_at dksX5_item_1 15 rfl rfl)
theorem dX5_item_40 : decode cX5_item 40 = .ok (.lconst 0, 1) := dk_9 (dk_at dksX5_item_1 16 rfl rfl)
theorem dX5_item_41 : decode cX5_item 41 = .ok (.aload_n 0, 1) := dk_42 (dk_at dksX5_item_1 17 rfl rfl)
theorem dX5_item_42 : decode cX5_item 42 = .ok (.getfield 37, 3) := dk_180 0 37 (dk_at dksX5_item_1 18 rfl rfl)
theorem dX5_item_45 : decode cX5_item 45 = .ok (.iload_n 1, 1) := dk_27 (dk_at dksX5_item_1 21 rfl rfl)
theorem dX5_item_46 : decode cX5_item 46 = .ok (.iaload, 1) := dk_46 (dk_at dksX5_item_1 22 rfl rfl)
theorem dX5_item_47 : decode cX5_item 47 = .ok (.iconst 1, 1) := dk_4 (dk_at dksX5_item_1 23 rfl rfl)
theorem dX5_item_48 : decode cX5_item 48 = .ok (.isub, 1) := dk_100 (dk_at dksX5_item_2 0 rfl rfl)
theorem dX5_item_49 : decode cX5_item 49 = .ok (.i2l, 1) := dk_133 (dk_at dksX5_item_2 1 rfl rfl)
theorem dX5_item_50 : decode cX5_item 50 = .ok (.invokestatic 71, 3) := dk_184 0 71 (dk_at dksX5_item_2 2 rfl rfl)
theorem dX5_item_53 : decode cX5_item 53 = .ok (.ifCond .ne 7, 3) := dk_154 0 7 (dk_at dksX5_item_2 5 rfl rfl)
theorem dX5_item_56 : decode cX5_item 56 = .ok (.ldc_w 309, 3) := dk_19 1 53 (dk_at dksX5_item_2 8 rfl rfl)
theorem dX5_item_59 : decode cX5_item 59 = .ok (.ireturn, 1) := dk_172 (dk_at dksX5_item_2 11 rfl rfl)
theorem dX5_item_60 : decode cX5_item 60 = .ok (.aload_n 0, 1) := dk_42 (dk_at dksX5_item_2 12 rfl rfl)
theorem dX5_item_61 : decode cX5_item 61 = .ok (.getfield 40, 3) := dk_180 0 40 (dk_at dksX5_item_2 13 rfl rfl)
theorem dX5_item_64 : decode cX5_item 64 = .ok (.bipush 24, 2) := dk_16 24 (dk_at dksX5_item_2 16 rfl rfl)
theorem dX5_item_66 : decode cX5_item 66 = .ok (.iload_n 1, 1) := dk_27 (dk_at dksX5_item_2 18 rfl rfl)
theorem dX5_item_67 : decode cX5_item 67 = .ok (.imul, 1) := dk_104 (dk_at dksX5_item_2 19 rfl rfl)
theorem dX5_item_68 : decode cX5_item 68 = .ok (.iload_n 2, 1) := dk_28 (dk_at dksX5_item_2 20 rfl rfl)
theorem dX5_item_69 : decode cX5_item 69 = .ok (.iadd, 1) := dk_96 (dk_at dksX5_item_2 21 rfl rfl)
theorem dX5_item_70 : decode cX5_item 70 = .ok (.iaload, 1) := dk_46 (dk_at dksX5_item_2 22 rfl rfl)
theorem dX5_item_71 : decode cX5_item 71 = .ok (.istore_n 3, 1) := dk_62 (dk_at dksX5_item_2 23 rfl rfl)
theorem dX5_item_72 : decode cX5_item 72 = .ok (.iload_n 3, 1) := dk_29 (dk_at dksX5_item_3 0 rfl rfl)
theorem dX5_item_73 : decode cX5_item 73 = .ok (.ldc 70, 2) := dk_18 70 (dk_at dksX5_item_3 1 rfl rfl)
theorem dX5_item_75 : decode cX5_item 75 = .ok (.if_icmp .ne 8, 3) := dk_160 0 8 (dk_at dksX5_item_3 3 rfl rfl)
theorem dX5_item_78 : decode cX5_item 78 = .ok (.ldc 148, 2) := dk_18 148 (dk_at dksX5_item_3 6 rfl rfl)
theorem dX5_item_80 : decode cX5_item 80 = .ok (.goto 4, 3) := dk_167 0 4 (dk_at dksX5_item_3 8 rfl rfl)
theorem dX5_item_83 : decode cX5_item 83 = .ok (.iload_n 3, 1) := dk_29 (dk_at dksX5_item_3 11 rfl rfl)
theorem dX5_item_84 : decode cX5_item 84 = .ok (.ireturn, 1) := dk_172 (dk_at dksX5_item_3 12 rfl rfl)
abbrev cX5_rest : ByteArray := prog_18_method_87_code
def yX5_rest : MethodName := ⟨RX5, "rest", "(II)I"⟩
def dkwX5_rest_2 : List UInt8 := [180, 0, 31, 27, 46, 28, 112, 172]
abbrev dktX5_rest_2 : List UInt8 := dkwX5_rest_2 ++ []
def dkwX5_rest_1 : List UInt8 := [27, 46, 154, 0, 9, 19, 1, 52, 167, 0, 5, 18, 148, 172, 28, 154, 0, 8, 18, 152, 167, 0, 11, 42]
abbrev dktX5_rest_1 : List UInt8 := dkwX5_rest_1 ++ dktX5_rest_2
def dkwX5_rest_0 : List UInt8 := [27, 184, 1, 60, 154, 0, 6, 18, 100, 172, 42, 180, 0, 28, 27, 46, 6, 159, 0, 21, 42, 180, 0, 28]
abbrev dktX5_rest_0 : List UInt8 := dkwX5_rest_0 ++ dktX5_rest_1
theorem dksX5_rest_0 : cX5_rest.data.toList.drop 0 = dktX5_rest_0 := by decide +kernel
theorem dksX5_rest_1 : cX5_rest.data.toList.drop 24 = dktX5_rest_1 := dk_seg dksX5_rest_0 24 rfl rfl
theorem dksX5_rest_2 : cX5_rest.data.toList.drop 48 = dktX5_rest_2 := dk_seg dksX5_rest_1 24 rfl rfl
theorem dX5_rest_0 : decode cX5_rest 0 = .ok (.iload_n 1, 1) := dk_27 (dk_at dksX5_rest_0 0 rfl rfl)
theorem dX5_rest_1 : decode cX5_rest 1 = .ok (.invokestatic 316, 3) := dk_184 1 60 (dk_at dksX5_rest_0 1 rfl rfl)
theorem dX5_rest_4 : decode cX5_rest 4 = .ok (.ifCond .ne 6, 3) := dk_154 0 6 (dk_at dksX5_rest_0 4 rfl rfl)
theorem dX5_rest_7 : decode cX5_rest 7 = .ok (.ldc 100, 2) := dk_18 100 (dk_at dksX5_rest_0 7 rfl rfl)
theorem dX5_rest_9 : decode cX5_rest 9 = .ok (.ireturn, 1) := dk_172 (dk_at dksX5_rest_0 9 rfl rfl)
theorem dX5_rest_10 : decode cX5_rest 10 = .ok (.aload_n 0, 1) := dk_42 (dk_at dksX5_rest_0 10 rfl rfl)
theorem dX5_rest_11 : decode cX5_rest 11 = .ok (.getfield 28, 3) := dk_180 0 28 (dk_at dksX5_rest_0 11 rfl rfl)
theorem dX5_rest_14 : decode cX5_rest 14 = .ok (.iload_n 1, 1) := dk_27 (dk_at dksX5_rest_0 14 rfl rfl)
theorem dX5_rest_15 : decode cX5_rest 15 = .ok (.iaload, 1) := dk_46 (dk_at dksX5_rest_0 15 rfl rfl)
theorem dX5_rest_16 : decode cX5_rest 16 = .ok (.iconst 3, 1) := dk_6 (dk_at dksX5_rest_0 16 rfl rfl)
theorem dX5_rest_17 : decode cX5_rest 17 = .ok (.if_icmp .eq 21, 3) := dk_159 0 21 (dk_at dksX5_rest_0 17 rfl rfl)
theorem dX5_rest_20 : decode cX5_rest 20 = .ok (.aload_n 0, 1) := dk_42 (dk_at dksX5_rest_0 20 rfl rfl)
theorem dX5_rest_21 : decode cX5_rest 21 = .ok (.getfield 28, 3) := dk_180 0 28 (dk_at dksX5_rest_0 21 rfl rfl)
theorem dX5_rest_24 : decode cX5_rest 24 = .ok (.iload_n 1, 1) := dk_27 (dk_at dksX5_rest_1 0 rfl rfl)
theorem dX5_rest_25 : decode cX5_rest 25 = .ok (.iaload, 1) := dk_46 (dk_at dksX5_rest_1 1 rfl rfl)
theorem dX5_rest_26 : decode cX5_rest 26 = .ok (.ifCond .ne 9, 3) := dk_154 0 9 (dk_at dksX5_rest_1 2 rfl rfl)
theorem dX5_rest_29 : decode cX5_rest 29 = .ok (.ldc_w 308, 3) := dk_19 1 52 (dk_at dksX5_rest_1 5 rfl rfl)
theorem dX5_rest_32 : decode cX5_rest 32 = .ok (.goto 5, 3) := dk_167 0 5 (dk_at dksX5_rest_1 8 rfl rfl)
theorem dX5_rest_35 : decode cX5_rest 35 = .ok (.ldc 148, 2) := dk_18 148 (dk_at dksX5_rest_1 11 rfl rfl)
theorem dX5_rest_37 : decode cX5_rest 37 = .ok (.ireturn, 1) := dk_172 (dk_at dksX5_rest_1 13 rfl rfl)
theorem dX5_rest_38 : decode cX5_rest 38 = .ok (.iload_n 2, 1) := dk_28 (dk_at dksX5_rest_1 14 rfl rfl)
theorem dX5_rest_39 : decode cX5_rest 39 = .ok (.ifCond .ne 8, 3) := dk_154 0 8 (dk_at dksX5_rest_1 15 rfl rfl)
theorem dX5_rest_42 : decode cX5_rest 42 = .ok (.ldc 152, 2) := dk_18 152 (dk_at dksX5_rest_1 18 rfl rfl)
theorem dX5_rest_44 : decode cX5_rest 44 = .ok (.goto 11, 3) := dk_167 0 11 (dk_at dksX5_rest_1 20 rfl rfl)
theorem dX5_rest_47 : decode cX5_rest 47 = .ok (.aload_n 0, 1) := dk_42 (dk_at dksX5_rest_1 23 rfl rfl)
theorem dX5_rest_48 : decode cX5_rest 48 = .ok (.getfield 31, 3) := dk_180 0 31 (dk_at dksX5_rest_2 0 rfl rfl)
theorem dX5_rest_51 : decode cX5_rest 51 = .ok (.iload_n 1, 1) := dk_27 (dk_at dksX5_rest_2 3 rfl rfl)
theorem dX5_rest_52 : decode cX5_rest 52 = .ok (.iaload, 1) := dk_46 (dk_at dksX5_rest_2 4 rfl rfl)
theorem dX5_rest_53 : decode cX5_rest 53 = .ok (.iload_n 2, 1) := dk_28 (dk_at dksX5_rest_2 5 rfl rfl)
theorem dX5_rest_54 : decode cX5_rest 54 = .ok (.irem, 1) := dk_112 (dk_at dksX5_rest_2 6 rfl rfl)
theorem dX5_rest_55 : decode cX5_rest 55 = .ok (.ireturn, 1) := dk_172 (dk_at dksX5_rest_2 7 rfl rfl)
abbrev cX5_tell : ByteArray := prog_18_method_88_code
def yX5_tell : MethodName := ⟨RX5, "tell", "(I)I"⟩
def dkwX5_tell_1 : List UInt8 := [180, 1, 63, 4, 96, 181, 1, 63, 42, 180, 1, 63, 172]
abbrev dktX5_tell_1 : List UInt8 := dkwX5_tell_1 ++ []
def dkwX5_tell_0 : List UInt8 := [42, 180, 1, 63, 16, 60, 160, 0, 6, 18, 101, 172, 42, 180, 0, 64, 42, 180, 1, 63, 27, 79, 42, 89]
abbrev dktX5_tell_0 : List UInt8 := dkwX5_tell_0 ++ dktX5_tell_1
theorem dksX5_tell_0 : cX5_tell.data.toList.drop 0 = dktX5_tell_0 := by decide +kernel
theorem dksX5_tell_1 : cX5_tell.data.toList.drop 24 = dktX5_tell_1 := dk_seg dksX5_tell_0 24 rfl rfl
theorem dX5_tell_0 : decode cX5_tell 0 = .ok (.aload_n 0, 1) := dk_42 (dk_at dksX5_tell_0 0 rfl rfl)
theorem dX5_tell_1 : decode cX5_tell 1 = .ok (.getfield 319, 3) := dk_180 1 63 (dk_at dksX5_tell_0 1 rfl rfl)
theorem dX5_tell_4 : decode cX5_tell 4 = .ok (.bipush 60, 2) := dk_16 60 (dk_at dksX5_tell_0 4 rfl rfl)
theorem dX5_tell_6 : decode cX5_tell 6 = .ok (.if_icmp .ne 6, 3) := dk_160 0 6 (dk_at dksX5_tell_0 6 rfl rfl)
theorem dX5_tell_9 : decode cX5_tell 9 = .ok (.ldc 101, 2) := dk_18 101 (dk_at dksX5_tell_0 9 rfl rfl)
theorem dX5_tell_11 : decode cX5_tell 11 = .ok (.ireturn, 1) := dk_172 (dk_at dksX5_tell_0 11 rfl rfl)
theorem dX5_tell_12 : decode cX5_tell 12 = .ok (.aload_n 0, 1) := dk_42 (dk_at dksX5_tell_0 12 rfl rfl)
theorem dX5_tell_13 : decode cX5_tell 13 = .ok (.getfield 64, 3) := dk_180 0 64 (dk_at dksX5_tell_0 13 rfl rfl)
theorem dX5_tell_16 : decode cX5_tell 16 = .ok (.aload_n 0, 1) := dk_42 (dk_at dksX5_tell_0 16 rfl rfl)
theorem dX5_tell_17 : decode cX5_tell 17 = .ok (.getfield 319, 3) := dk_180 1 63 (dk_at dksX5_tell_0 17 rfl rfl)
theorem dX5_tell_20 : decode cX5_tell 20 = .ok (.iload_n 1, 1) := dk_27 (dk_at dksX5_tell_0 20 rfl rfl)
theorem dX5_tell_21 : decode cX5_tell 21 = .ok (.iastore, 1) := dk_79 (dk_at dksX5_tell_0 21 rfl rfl)
theorem dX5_tell_22 : decode cX5_tell 22 = .ok (.aload_n 0, 1) := dk_42 (dk_at dksX5_tell_0 22 rfl rfl)
theorem dX5_tell_23 : decode cX5_tell 23 = .ok (.dup, 1) := dk_89 (dk_at dksX5_tell_0 23 rfl rfl)
theorem dX5_tell_24 : decode cX5_tell 24 = .ok (.getfield 319, 3) := dk_180 1 63 (dk_at dksX5_tell_1 0 rfl rfl)
theorem dX5_tell_27 : decode cX5_tell 27 = .ok (.iconst 1, 1) := dk_4 (dk_at dksX5_tell_1 3 rfl rfl)
theorem dX5_tell_28 : decode cX5_tell 28 = .ok (.iadd, 1) := dk_96 (dk_at dksX5_tell_1 4 rfl rfl)
theorem dX5_tell_29 : decode cX5_tell 29 = .ok (.putfield 319, 3) := dk_181 1 63 (dk_at dksX5_tell_1 5 rfl rfl)
theorem dX5_tell_32 : decode cX5_tell 32 = .ok (.aload_n 0, 1) := dk_42 (dk_at dksX5_tell_1 8 rfl rfl)
theorem dX5_tell_33 : decode cX5_tell 33 = .ok (.getfield 319, 3) := dk_180 1 63 (dk_at dksX5_tell_1 9 rfl rfl)
theorem dX5_tell_36 : decode cX5_tell 36 = .ok (.ireturn, 1) := dk_172 (dk_at dksX5_tell_1 12 rfl rfl)
abbrev cX5_check : ByteArray := prog_18_method_90_code
def yX5_check : MethodName := ⟨RX5, "check", "(I)I"⟩
def dkwX5_check_8 : List UInt8 := [21, 4, 96, 172]
abbrev dktX5_check_8 : List UInt8 := dkwX5_check_8 ++ []
def dkwX5_check_7 : List UInt8 := [132, 4, 1, 167, 255, 224, 21, 4, 28, 160, 0, 13, 21, 4, 29, 160, 0, 7, 3, 167, 0, 7, 4]
abbrev dktX5_check_7 : List UInt8 := dkwX5_check_7 ++ dktX5_check_8
def dkwX5_check_6 : List UInt8 := [21, 4, 29, 162, 0, 26, 42, 180, 0, 64, 21, 4, 46, 42, 180, 0, 67, 21, 4, 46, 160, 0, 9]
abbrev dktX5_check_6 : List UInt8 := dkwX5_check_6 ++ dktX5_check_7
def dkwX5_check_5 : List UInt8 := [167, 255, 202, 42, 42, 180, 0, 16, 42, 180, 0, 7, 182, 1, 72, 3, 54, 4, 21, 4, 28, 162, 0, 32]
abbrev dktX5_check_5 : List UInt8 := dkwX5_check_5 ++ dktX5_check_6
def dkwX5_check_4 : List UInt8 := [184, 0, 157, 79, 42, 180, 0, 67, 29, 4, 96, 42, 7, 182, 0, 175, 79, 132, 3, 2, 132, 4, 1]
abbrev dktX5_check_4 : List UInt8 := dkwX5_check_4 ++ dktX5_check_5
def dkwX5_check_3 : List UInt8 := [180, 0, 7, 5, 46, 17, 39, 15, 162, 0, 42, 42, 182, 0, 172, 42, 180, 0, 67, 29, 42, 182, 0, 123]
abbrev dktX5_check_3 : List UInt8 := dkwX5_check_3 ++ dktX5_check_4
def dkwX5_check_2 : List UInt8 := [42, 180, 0, 13, 42, 180, 0, 7, 182, 1, 72, 3, 62, 3, 54, 4, 21, 4, 27, 162, 0, 54, 42]
abbrev dktX5_check_2 : List UInt8 := dkwX5_check_2 ++ dktX5_check_3
def dkwX5_check_1 : List UInt8 := [172, 42, 180, 1, 68, 154, 0, 6, 18, 152, 172, 42, 42, 180, 0, 7, 42, 180, 0, 16, 182, 1, 72, 42]
abbrev dktX5_check_1 : List UInt8 := dkwX5_check_1 ++ dktX5_check_2
def dkwX5_check_0 : List UInt8 := [42, 180, 1, 63, 61, 42, 3, 181, 1, 63, 27, 133, 10, 20, 1, 66, 184, 0, 71, 154, 0, 6, 18, 100]
abbrev dktX5_check_0 : List UInt8 := dkwX5_check_0 ++ dktX5_check_1
theorem dksX5_check_0 : cX5_check.data.toList.drop 0 = dktX5_check_0 := by decide +kernel
theorem dksX5_check_1 : cX5_check.data.toList.drop 24 = dktX5_check_1 := dk_seg dksX5_check_0 24 rfl rfl
theorem dksX5_check_2 : cX5_check.data.toList.drop 48 = dktX5_check_2 := dk_seg dksX5_check_1 24 rfl rfl
theorem dksX5_check_3 : cX5_check.data.toList.drop 71 = dktX5_check_3 := dk_seg dksX5_check_2 23 rfl rfl
theorem dksX5_check_4 : cX5_check.data.toList.drop 95 = dktX5_check_4 := dk_seg dksX5_check_3 24 rfl rfl
theorem dksX5_check_5 : cX5_check.data.toList.drop 118 = dktX5_check_5 := dk_seg dksX5_check_4 23 rfl rfl
theorem dksX5_check_6 : cX5_check.data.toList.drop 142 = dktX5_check_6 := dk_seg dksX5_check_5 24 rfl rfl
theorem dksX5_check_7 : cX5_check.data.toList.drop 165 = dktX5_check_7 := dk_seg dksX5_check_6 23 rfl rfl
theorem dksX5_check_8 : cX5_check.data.toList.drop 188 = dktX5_check_8 := dk_seg dksX5_check_7 23 rfl rfl
theorem dX5_check_0 : decode cX5_check 0 = .ok (.aload_n 0, 1) := dk_42 (dk_at dksX5_check_0 0 rfl rfl)
theorem dX5_check_1 : decode cX5_check 1 = .ok (.getfield 319, 3) := dk_180 1 63 (dk_at dksX5_check_0 1 rfl rfl)
theorem dX5_check_4 : decode cX5_check 4 = .ok (.istore_n 2, 1) := dk_61 (dk_at dksX5_check_0 4 rfl rfl)
theorem dX5_check_5 : decode cX5_check 5 = .ok (.aload_n 0, 1) := dk_42 (dk_at dksX5_check_0 5 rfl rfl)
theorem dX5_check_6 : decode cX5_check 6 = .ok (.iconst 0, 1) := dk_3 (dk_at dksX5_check_0 6 rfl rfl)
theorem dX5_check_7 : decode cX5_check 7 = .ok (.putfield 319, 3) := dk_181 1 63 (dk_at dksX5_check_0 7 rfl rfl)
theorem dX5_check_10 : decode cX5_check 10 = .ok (.iload_n 1, 1) := dk_27 (dk_at dksX5_check_0 10 rfl rfl)
theorem dX5_check_11 : decode cX5_check 11 = .ok (.i2l, 1) := dk_133 (dk_at dksX5_check_0 11 rfl rfl)
theorem dX5_check_12 : decode cX5_check 12 = .ok (.lconst 1, 1) := dk_10 (dk_at dksX5_check_0 12 rfl rfl)
theorem dX5_check_13 : decode cX5_check 13 = .ok (.ldc2_w 322, 3) := dk_20 1 66 (dk_at dksX5_check_0 13 rfl rfl)
theorem dX5_check_16 : decode cX5_check 16 = .ok (.invokestatic 71, 3) := dk_184 0 71 (dk_at dksX5_check_0 16 rfl rfl)
theorem dX5_check_19 : decode cX5_check 19 = .ok (.ifCond .ne 6, 3) := dk_154 0 6 (dk_at dksX5_check_0 19 rfl rfl)
theorem dX5_check_22 : decode cX5_check 22 = .ok (.ldc 100, 2) := dk_18 100 (dk_at dksX5_check_0 22 rfl rfl)
theorem dX5_check_24 : decode cX5_check 24 = .ok (.ireturn, 1) := dk_172 (dk_at dksX5_check_1 0 rfl rfl)
theorem dX5_check_25 : decode cX5_check 25 = .ok (.aload_n 0, 1) := dk_42 (dk_at dksX5_check_1 1 rfl rfl)
theorem dX5_check_26 : decode cX5_check 26 = .ok (.getfield 324, 3) := dk_180 1 68 (dk_at dksX5_check_1 2 rfl rfl)
theorem dX5_check_29 : decode cX5_check 29 = .ok (.ifCond .ne 6, 3) := dk_154 0 6 (dk_at dksX5_check_1 5 rfl rfl)
theorem dX5_check_32 : decode cX5_check 32 = .ok (.ldc 152, 2) := dk_18 152 (dk_at dksX5_check_1 8 rfl rfl)
theorem dX5_check_34 : decode cX5_check 34 = .ok (.ireturn, 1) := dk_172 (dk_at dksX5_check_1 10 rfl rfl)
theorem dX5_check_35 : decode cX5_check 35 = .ok (.aload_n 0, 1) := dk_42 (dk_at dksX5_check_1 11 rfl rfl)
theorem dX5_check_36 : decode cX5_check 36 = .ok (.aload_n 0, 1) := dk_42 (dk_at dksX5_check_1 12 rfl rfl)
theorem dX5_check_37 : decode cX5_check 37 = .ok (.getfield 7, 3) := dk_180 0 7 (dk_at dksX5_check_1 13 rfl rfl)
theorem dX5_check_40 : decode cX5_check 40 = .ok (.aload_n 0, 1) := dk_42 (dk_at dksX5_check_1 16 rfl rfl)
theorem dX5_check_41 : decode cX5_check 41 = .ok (.getfield 16, 3) := dk_180 0 16 (dk_at dksX5_check_1 17 rfl rfl)
theorem dX5_check_44 : decode cX5_check 44 = .ok (.invokevirtual 328, 3) := dk_182 1 72 (dk_at dksX5_check_1 20 rfl rfl)
theorem dX5_check_47 : decode cX5_check 47 = .ok (.aload_n 0, 1) := dk_42 (dk_at dksX5_check_1 23 rfl rfl)
theorem dX5_check_48 : decode cX5_check 48 = .ok (.aload_n 0, 1) := dk_42 (dk_at dksX5_check_2 0 rfl rfl)
theorem dX5_check_49 : decode cX5_check 49 = .ok (.getfield 13, 3) := dk_180 0 13 (dk_at dksX5_check_2 1 rfl rfl)
theorem dX5_check_52 : decode cX5_check 52 = .ok (.aload_n 0, 1) := dk_42 (dk_at dksX5_check_2 4 rfl rfl)
theorem dX5_check_53 : decode cX5_check 53 = .ok (.getfield 7, 3) := dk_180 0 7 (dk_at dksX5_check_2 5 rfl rfl)
theorem dX5_check_56 : decode cX5_check 56 = .ok (.invokevirtual 328, 3) := dk_182 1 72 (dk_at dksX5_check_2 8 rfl rfl)
theorem dX5_check_59 : decode cX5_check 59 = .ok (.iconst 0, 1) := dk_3 (dk_at dksX5_check_2 11 rfl rfl)
theorem dX5_check_60 : decode cX5_check 60 = .ok (.istore_n 3, 1) := dk_62 (dk_at dksX5_check_2 12 rfl rfl)
theorem dX5_check_61 : decode cX5_check 61 = .ok (.iconst 0, 1) := dk_3 (dk_at dksX5_check_2 13 rfl rfl)
theorem dX5_check_62 : decode cX5_check 62 = .ok (.istore 4, 2) := dk_54 4 (dk_at dksX5_check_2 14 rfl rfl)
theorem dX5_check_64 : decode cX5_check 64 = .ok (.iload 4, 2) := dk_21 4 (dk_at dksX5_check_2 16 rfl rfl)
theorem dX5_check_66 : decode cX5_check 66 = .ok (.iload_n 1, 1) := dk_27 (dk_at dksX5_check_2 18 rfl rfl)
theorem dX5_check_67 : decode cX5_check 67 = .ok (.if_icmp .ge 54, 3) := dk_162 0 54 (dk_at dksX5_check_2 19 rfl rfl)
theorem dX5_check_70 : decode cX5_check 70 = .ok (.aload_n 0, 1) := dk_42 (dk_at dksX5_check_2 22 rfl rfl)
theorem dX5_check_71 : decode cX5_check 71 = .ok (.getfield 7, 3) := dk_180 0 7 (dk_at dksX5_check_3 0 rfl rfl)
theorem dX5_check_74 : decode cX5_check 74 = .ok (.iconst 2, 1) := dk_5 (dk_at dksX5_check_3 3 rfl rfl)
theorem dX5_check_75 : decode cX5_check 75 = .ok (.iaload, 1) := dk_46 (dk_at dksX5_check_3 4 rfl rfl)
theorem dX5_check_76 : decode cX5_check 76 = .ok (.sipush 9999, 3) := dk_17 39 15 (dk_at dksX5_check_3 5 rfl rfl)
theorem dX5_check_79 : decode cX5_check 79 = .ok (.if_icmp .ge 42, 3) := dk_162 0 42 (dk_at dksX5_check_3 8 rfl rfl)
theorem dX5_check_82 : decode cX5_check 82 = .ok (.aload_n 0, 1) := dk_42 (dk_at dksX5_check_3 11 rfl rfl)
theorem dX5_check_83 : decode cX5_check 83 = .ok (.invokevirtual 172, 3) := dk_182 0 172 (dk_at dksX5_check_3 12 rfl rfl)
theorem dX5_check_86 : decode cX5_check 86 = .ok (.aload_n 0, 1) := dk_42 (dk_at dksX5_check_3 15 rfl rfl)
theorem dX5_check_87 : decode cX5_check 87 = .ok (.getfield 67, 3) := dk_180 0 67 (dk_at dksX5_check_3 16 rfl rfl)
theorem dX5_check_90 : decode cX5_check 90 = .ok (.iload_n 3, 1) := dk_29 (dk_at dksX5_check_3 19 rfl rfl)
theorem dX5_check_91 : decode cX5_check 91 = .ok (.aload_n 0, 1) := dk_42 (dk_at dksX5_check_3 20 rfl rfl)
theorem dX5_check_92 : decode cX5_check 92 = .ok (.invokevirtual 123, 3) := dk_182 0 123 (dk_at dksX5_check_3 21 rfl rfl)
theorem dX5_check_95 : decode cX5_check 95 = .ok (.invokestatic 157, 3) := dk_184 0 157 (dk_at dksX5_check_4 0 rfl rfl)
theorem dX5_check_98 : decode cX5_check 98 = .ok (.iastore, 1) := dk_79 (dk_at dksX5_check_4 3 rfl rfl)
theorem dX5_check_99 : decode cX5_check 99 = .ok (.aload_n 0, 1) := dk_42 (dk_at dksX5_check_4 4 rfl rfl)
theorem dX5_check_100 : decode cX5_check 100 = .ok (.getfield 67, 3) := dk_180 0 67 (dk_at dksX5_check_4 5 rfl rfl)
theorem dX5_check_103 : decode cX5_check 103 = .ok (.iload_n 3, 1) := dk_29 (dk_at dksX5_check_4 8 rfl rfl)
theorem dX5_check_104 : decode cX5_check 104 = .ok (.iconst 1, 1) := dk_4 (dk_at dksX5_check_4 9 rfl rfl)
theorem dX5_check_105 : decode cX5_check 105 = .ok (.iadd, 1) := dk_96 (dk_at dksX5_check_4 10 rfl rfl)
theorem dX5_check_106 : decode cX5_check 106 = .ok (.aload_n 0, 1) := dk_42 (dk_at dksX5_check_4 11 rfl rfl)
theorem dX5_check_107 : decode cX5_check 107 = .ok (.iconst 4, 1) := dk_7 (dk_at dksX5_check_4 12 rfl rfl)
theorem dX5_check_108 : decode cX5_check 108 = .ok (.invokevirtual 175, 3) := dk_182 0 175 (dk_at dksX5_check_4 13 rfl rfl)
theorem dX5_check_111 : decode cX5_check 111 = .ok (.iastore, 1) := dk_79 (dk_at dksX5_check_4 16 rfl rfl)
theorem dX5_check_112 : decode cX5_check 112 = .ok (.iinc 3 2, 3) := dk_132 3 2 (dk_at dksX5_check_4 17 rfl rfl)
theorem dX5_check_115 : decode cX5_check 115 = .ok (.iinc 4 1, 3) := dk_132 4 1 (dk_at dksX5_check_4 20 rfl rfl)
theorem dX5_check_118 : decode cX5_check 118 = .ok (.goto (-54), 3) := dk_167 255 202 (dk_at dksX5_check_5 0 rfl rfl)
theorem dX5_check_121 : decode cX5_check 121 = .ok (.aload_n 0, 1) := dk_42 (dk_at dksX5_check_5 3 rfl rfl)
theorem dX5_check_122 : decode cX5_check 122 = .ok (.aload_n 0, 1) := dk_42 (dk_at dksX5_check_5 4 rfl rfl)
theorem dX5_check_123 : decode cX5_check 123 = .ok (.getfield 16, 3) := dk_180 0 16 (dk_at dksX5_check_5 5 rfl rfl)
theorem dX5_check_126 : decode cX5_check 126 = .ok (.aload_n 0, 1) := dk_42 (dk_at dksX5_check_5 8 rfl rfl)
theorem dX5_check_127 : decode cX5_check 127 = .ok (.getfield 7, 3) := dk_180 0 7 (dk_at dksX5_check_5 9 rfl rfl)
theorem dX5_check_130 : decode cX5_check 130 = .ok (.invokevirtual 328, 3) := dk_182 1 72 (dk_at dksX5_check_5 12 rfl rfl)
theorem dX5_check_133 : decode cX5_check 133 = .ok (.iconst 0, 1) := dk_3 (dk_at dksX5_check_5 15 rfl rfl)
theorem dX5_check_134 : decode cX5_check 134 = .ok (.istore 4, 2) := dk_54 4 (dk_at dksX5_check_5 16 rfl rfl)
theorem dX5_check_136 : decode cX5_check 136 = .ok (.iload 4, 2) := dk_21 4 (dk_at dksX5_check_5 18 rfl rfl)
theorem dX5_check_138 : decode cX5_check 138 = .ok (.iload_n 2, 1) := dk_28 (dk_at dksX5_check_5 20 rfl rfl)
theorem dX5_check_139 : decode cX5_check 139 = .ok (.if_icmp .ge 32, 3) := dk_162 0 32 (dk_at dksX5_check_5 21 rfl rfl)
theorem dX5_check_142 : decode cX5_check 142 = .ok (.iload 4, 2) := dk_21 4 (dk_at dksX5_check_6 0 rfl rfl)
theorem dX5_check_144 : decode cX5_check 144 = .ok (.iload_n 3, 1) := dk_29 (dk_at dksX5_check_6 2 rfl rfl)
theorem dX5_check_145 : decode cX5_check 145 = .ok (.if_icmp .ge 26, 3) := dk_162 0 26 (dk_at dksX5_check_6 3 rfl rfl)
theorem dX5_check_148 : decode cX5_check 148 = .ok (.aload_n 0, 1) := dk_42 (dk_at dksX5_check_6 6 rfl rfl)
theorem dX5_check_149 : decode cX5_check 149 = .ok (.getfield 64, 3) := dk_180 0 64 (dk_at dksX5_check_6 7 rfl rfl)
theorem dX5_check_152 : decode cX5_check 152 = .ok (.iload 4, 2) := dk_21 4 (dk_at dksX5_check_6 10 rfl rfl)
theorem dX5_check_154 : decode cX5_check 154 = .ok (.iaload, 1) := dk_46 (dk_at dksX5_check_6 12 rfl rfl)
theorem dX5_check_155 : decode cX5_check 155 = .ok (.aload_n 0, 1) := dk_42 (dk_at dksX5_check_6 13 rfl rfl)
theorem dX5_check_156 : decode cX5_check 156 = .ok (.getfield 67, 3) := dk_180 0 67 (dk_at dksX5_check_6 14 rfl rfl)
theorem dX5_check_159 : decode cX5_check 159 = .ok (.iload 4, 2) := dk_21 4 (dk_at dksX5_check_6 17 rfl rfl)
theorem dX5_check_161 : decode cX5_check 161 = .ok (.iaload, 1) := dk_46 (dk_at dksX5_check_6 19 rfl rfl)
theorem dX5_check_162 : decode cX5_check 162 = .ok (.if_icmp .ne 9, 3) := dk_160 0 9 (dk_at dksX5_check_6 20 rfl rfl)
theorem dX5_check_165 : decode cX5_check 165 = .ok (.iinc 4 1, 3) := dk_132 4 1 (dk_at dksX5_check_7 0 rfl rfl)
theorem dX5_check_168 : decode cX5_check 168 = .ok (.goto (-32), 3) := dk_167 255 224 (dk_at dksX5_check_7 3 rfl rfl)
theorem dX5_check_171 : decode cX5_check 171 = .ok (.iload 4, 2) := dk_21 4 (dk_at dksX5_check_7 6 rfl rfl)
theorem dX5_check_173 : decode cX5_check 173 = .ok (.iload_n 2, 1) := dk_28 (dk_at dksX5_check_7 8 rfl rfl)
theorem dX5_check_174 : decode cX5_check 174 = .ok (.if_icmp .ne 13, 3) := dk_160 0 13 (dk_at dksX5_check_7 9 rfl rfl)
theorem dX5_check_177 : decode cX5_check 177 = .ok (.iload 4, 2) := dk_21 4 (dk_at dksX5_check_7 12 rfl rfl)
theorem dX5_check_179 : decode cX5_check 179 = .ok (.iload_n 3, 1) := dk_29 (dk_at dksX5_check_7 14 rfl rfl)
theorem dX5_check_180 : decode cX5_check 180 = .ok (.if_icmp .ne 7, 3) := dk_160 0 7 (dk_at dksX5_check_7 15 rfl rfl)
theorem dX5_check_183 : decode cX5_check 183 = .ok (.iconst 0, 1) := dk_3 (dk_at dksX5_check_7 18 rfl rfl)
theorem dX5_check_184 : decode cX5_check 184 = .ok (.goto 7, 3) := dk_167 0 7 (dk_at dksX5_check_7 19 rfl rfl)
theorem dX5_check_187 : decode cX5_check 187 = .ok (.iconst 1, 1) := dk_4 (dk_at dksX5_check_7 22 rfl rfl)
theorem dX5_check_188 : decode cX5_check 188 = .ok (.iload 4, 2) := dk_21 4 (dk_at dksX5_check_8 0 rfl rfl)
theorem dX5_check_190 : decode cX5_check 190 = .ok (.iadd, 1) := dk_96 (dk_at dksX5_check_8 2 rfl rfl)
theorem dX5_check_191 : decode cX5_check 191 = .ok (.ireturn, 1) := dk_172 (dk_at dksX5_check_8 3 rfl rfl)
abbrev cX5_setAside : ByteArray := prog_18_method_89_code
def yX5_setAside : MethodName := ⟨RX5, "setAside", "([I[I)V"⟩
def dkwX5_setAside_0 : List UInt8 := [3, 62, 29, 17, 11, 53, 162, 0, 15, 44, 29, 43, 29, 46, 79, 132, 3, 1, 167, 255, 240, 177]
abbrev dktX5_setAside_0 : List UInt8 := dkwX5_setAside_0 ++ []
theorem dksX5_setAside_0 : cX5_setAside.data.toList.drop 0 = dktX5_setAside_0 := by decide +kernel
theorem dX5_setAside_0 : decode cX5_setAside 0 = .ok (.iconst 0, 1) := dk_3 (dk_at dksX5_setAside_0 0 rfl rfl)
theorem dX5_setAside_1 : decode cX5_setAside 1 = .ok (.istore_n 3, 1) := dk_62 (dk_at dksX5_setAside_0 1 rfl rfl)
theorem dX5_setAside_2 : decode cX5_setAside 2 = .ok (.iload_n 3, 1) := dk_29 (dk_at dksX5_setAside_0 2 rfl rfl)
theorem dX5_setAside_3 : decode cX5_setAside 3 = .ok (.sipush 2869, 3) := dk_17 11 53 (dk_at dksX5_setAside_0 3 rfl rfl)
theorem dX5_setAside_6 : decode cX5_setAside 6 = .ok (.if_icmp .ge 15, 3) := dk_162 0 15 (dk_at dksX5_setAside_0 6 rfl rfl)
theorem dX5_setAside_9 : decode cX5_setAside 9 = .ok (.aload_n 2, 1) := dk_44 (dk_at dksX5_setAside_0 9 rfl rfl)
theorem dX5_setAside_10 : decode cX5_setAside 10 = .ok (.iload_n 3, 1) := dk_29 (dk_at dksX5_setAside_0 10 rfl rfl)
theorem dX5_setAside_11 : decode cX5_setAside 11 = .ok (.aload_n 1, 1) := dk_43 (dk_at dksX5_setAside_0 11 rfl rfl)
theorem dX5_setAside_12 : decode cX5_setAside 12 = .ok (.iload_n 3, 1) := dk_29 (dk_at dksX5_setAside_0 12 rfl rfl)
theorem dX5_setAside_13 : decode cX5_setAside 13 = .ok (.iaload, 1) := dk_46 (dk_at dksX5_setAside_0 13 rfl rfl)
theorem dX5_setAside_14 : decode cX5_setAside 14 = .ok (.iastore, 1) := dk_79 (dk_at dksX5_setAside_0 14 rfl rfl)
theorem dX5_setAside_15 : decode cX5_setAside 15 = .ok (.iinc 3 1, 3) := dk_132 3 1 (dk_at dksX5_setAside_0 15 rfl rfl)
theorem dX5_setAside_18 : decode cX5_setAside 18 = .ok (.goto (-16), 3) := dk_167 255 240 (dk_at dksX5_setAside_0 18 rfl rfl)
theorem dX5_setAside_21 : decode cX5_setAside 21 = .ok (.return_, 1) := dk_177 (dk_at dksX5_setAside_0 21 rfl rfl)
abbrev cX5_keep : ByteArray := prog_18_method_91_code
def yX5_keep : MethodName := ⟨RX5, "keep", "()I"⟩
def dkwX5_keep_0 : List UInt8 := [42, 4, 181, 1, 68, 42, 42, 180, 0, 7, 42, 180, 0, 13, 182, 1, 72, 42, 180, 0, 7, 3, 46, 172]
abbrev dktX5_keep_0 : List UInt8 := dkwX5_keep_0 ++ []
theorem dksX5_keep_0 : cX5_keep.data.toList.drop 0 = dktX5_keep_0 := by decide +kernel
theorem dX5_keep_0 : decode cX5_keep 0 = .ok (.aload_n 0, 1) := dk_42 (dk_at dksX5_keep_0 0 rfl rfl)
theorem dX5_keep_1 : decode cX5_keep 1 = .ok (.iconst 1, 1) := dk_4 (dk_at dksX5_keep_0 1 rfl rfl)
theorem dX5_keep_2 : decode cX5_keep 2 = .ok (.putfield 324, 3) := dk_181 1 68 (dk_at dksX5_keep_0 2 rfl rfl)
theorem dX5_keep_5 : decode cX5_keep 5 = .ok (.aload_n 0, 1) := dk_42 (dk_at dksX5_keep_0 5 rfl rfl)
theorem dX5_keep_6 : decode cX5_keep 6 = .ok (.aload_n 0, 1) := dk_42 (dk_at dksX5_keep_0 6 rfl rfl)
theorem dX5_keep_7 : decode cX5_keep 7 = .ok (.getfield 7, 3) := dk_180 0 7 (dk_at dksX5_keep_0 7 rfl rfl)
theorem dX5_keep_10 : decode cX5_keep 10 = .ok (.aload_n 0, 1) := dk_42 (dk_at dksX5_keep_0 10 rfl rfl)
theorem dX5_keep_11 : decode cX5_keep 11 = .ok (.getfield 13, 3) := dk_180 0 13 (dk_at dksX5_keep_0 11 rfl rfl)
theorem dX5_keep_14 : decode cX5_keep 14 = .ok (.invokevirtual 328, 3) := dk_182 1 72 (dk_at dksX5_keep_0 14 rfl rfl)
theorem dX5_keep_17 : decode cX5_keep 17 = .ok (.aload_n 0, 1) := dk_42 (dk_at dksX5_keep_0 17 rfl rfl)
theorem dX5_keep_18 : decode cX5_keep 18 = .ok (.getfield 7, 3) := dk_180 0 7 (dk_at dksX5_keep_0 18 rfl rfl)
theorem dX5_keep_21 : decode cX5_keep 21 = .ok (.iconst 0, 1) := dk_3 (dk_at dksX5_keep_0 21 rfl rfl)
theorem dX5_keep_22 : decode cX5_keep 22 = .ok (.iaload, 1) := dk_46 (dk_at dksX5_keep_0 22 rfl rfl)
theorem dX5_keep_23 : decode cX5_keep 23 = .ok (.ireturn, 1) := dk_172 (dk_at dksX5_keep_0 23 rfl rfl)
abbrev cX5_back : ByteArray := prog_18_method_92_code
def yX5_back : MethodName := ⟨RX5, "back", "()I"⟩
def dkwX5_back_1 : List UInt8 := [180, 0, 7, 3, 46, 172]
abbrev dktX5_back_1 : List UInt8 := dkwX5_back_1 ++ []
def dkwX5_back_0 : List UInt8 := [42, 180, 1, 68, 154, 0, 6, 18, 152, 172, 42, 42, 180, 0, 13, 42, 180, 0, 7, 182, 1, 72, 42]
abbrev dktX5_back_0 : List UInt8 := dkwX5_back_0 ++ dktX5_back_1
theorem dksX5_back_0 : cX5_back.data.toList.drop 0 = dktX5_back_0 := by decide +kernel
theorem dksX5_back_1 : cX5_back.data.toList.drop 23 = dktX5_back_1 := dk_seg dksX5_back_0 23 rfl rfl
theorem dX5_back_0 : decode cX5_back 0 = .ok (.aload_n 0, 1) := dk_42 (dk_at dksX5_back_0 0 rfl rfl)
theorem dX5_back_1 : decode cX5_back 1 = .ok (.getfield 324, 3) := dk_180 1 68 (dk_at dksX5_back_0 1 rfl rfl)
theorem dX5_back_4 : decode cX5_back 4 = .ok (.ifCond .ne 6, 3) := dk_154 0 6 (dk_at dksX5_back_0 4 rfl rfl)
theorem dX5_back_7 : decode cX5_back 7 = .ok (.ldc 152, 2) := dk_18 152 (dk_at dksX5_back_0 7 rfl rfl)
theorem dX5_back_9 : decode cX5_back 9 = .ok (.ireturn, 1) := dk_172 (dk_at dksX5_back_0 9 rfl rfl)
theorem dX5_back_10 : decode cX5_back 10 = .ok (.aload_n 0, 1) := dk_42 (dk_at dksX5_back_0 10 rfl rfl)
theorem dX5_back_11 : decode cX5_back 11 = .ok (.aload_n 0, 1) := dk_42 (dk_at dksX5_back_0 11 rfl rfl)
theorem dX5_back_12 : decode cX5_back 12 = .ok (.getfield 13, 3) := dk_180 0 13 (dk_at dksX5_back_0 12 rfl rfl)
theorem dX5_back_15 : decode cX5_back 15 = .ok (.aload_n 0, 1) := dk_42 (dk_at dksX5_back_0 15 rfl rfl)
theorem dX5_back_16 : decode cX5_back 16 = .ok (.getfield 7, 3) := dk_180 0 7 (dk_at dksX5_back_0 16 rfl rfl)
theorem dX5_back_19 : decode cX5_back 19 = .ok (.invokevirtual 328, 3) := dk_182 1 72 (dk_at dksX5_back_0 19 rfl rfl)
theorem dX5_back_22 : decode cX5_back 22 = .ok (.aload_n 0, 1) := dk_42 (dk_at dksX5_back_0 22 rfl rfl)
theorem dX5_back_23 : decode cX5_back 23 = .ok (.getfield 7, 3) := dk_180 0 7 (dk_at dksX5_back_1 0 rfl rfl)
theorem dX5_back_26 : decode cX5_back 26 = .ok (.iconst 0, 1) := dk_3 (dk_at dksX5_back_1 3 rfl rfl)
theorem dX5_back_27 : decode cX5_back 27 = .ok (.iaload, 1) := dk_46 (dk_at dksX5_back_1 4 rfl rfl)
theorem dX5_back_28 : decode cX5_back 28 = .ok (.ireturn, 1) := dk_172 (dk_at dksX5_back_1 5 rfl rfl)
abbrev cX5_count : ByteArray := prog_18_method_93_code
def yX5_count : MethodName := ⟨RX5, "count", "(I)I"⟩
def dkwX5_count_4 : List UInt8 := [180, 0, 7, 8, 46, 172, 18, 100, 172]
abbrev dktX5_count_4 : List UInt8 := dkwX5_count_4 ++ []
def dkwX5_count_3 : List UInt8 := [180, 0, 7, 7, 46, 172, 42, 180, 0, 7, 4, 46, 172, 42, 180, 1, 63, 172, 42, 180, 0, 200, 172, 42]
abbrev dktX5_count_3 : List UInt8 := dkwX5_count_3 ++ dktX5_count_4
def dkwX5_count_2 : List UInt8 := [42, 180, 0, 7, 3, 46, 172, 42, 182, 0, 123, 184, 0, 157, 172, 42, 180, 0, 7, 5, 46, 172, 42]
abbrev dktX5_count_2 : List UInt8 := dkwX5_count_2 ++ dktX5_count_3
def dkwX5_count_1 : List UInt8 := [170, 0, 0, 0, 0, 0, 100, 0, 0, 0, 0, 0, 0, 0, 7, 0, 0, 0, 47, 0, 0, 0, 54, 0, 0, 0, 62, 0, 0, 0, 69, 0, 0, 0, 76, 0, 0, 0, 83, 0, 0, 0, 88, 0, 0, 0, 93]
abbrev dktX5_count_1 : List UInt8 := dkwX5_count_1 ++ dktX5_count_2
def dkwX5_count_0 : List UInt8 := [27]
abbrev dktX5_count_0 : List UInt8 := dkwX5_count_0 ++ dktX5_count_1
theorem dksX5_count_0 : cX5_count.data.toList.drop 0 = dktX5_count_0 := by decide +kernel
theorem dksX5_count_1 : cX5_count.data.toList.drop 1 = dktX5_count_1 := dk_seg dksX5_count_0 1 rfl rfl
theorem dksX5_count_2 : cX5_count.data.toList.drop 48 = dktX5_count_2 := dk_seg dksX5_count_1 47 rfl rfl
theorem dksX5_count_3 : cX5_count.data.toList.drop 71 = dktX5_count_3 := dk_seg dksX5_count_2 23 rfl rfl
theorem dksX5_count_4 : cX5_count.data.toList.drop 95 = dktX5_count_4 := dk_seg dksX5_count_3 24 rfl rfl
theorem dX5_count_0 : decode cX5_count 0 = .ok (.iload_n 1, 1) := dk_27 (dk_at dksX5_count_0 0 rfl rfl)
theorem dX5_count_1 : decode cX5_count 1 = .ok (.tableswitch 100 0 7 #[47, 54, 62, 69, 76, 83, 88, 93], 47) := by decide +kernel
theorem dX5_count_48 : decode cX5_count 48 = .ok (.aload_n 0, 1) := dk_42 (dk_at dksX5_count_2 0 rfl rfl)
theorem dX5_count_49 : decode cX5_count 49 = .ok (.getfield 7, 3) := dk_180 0 7 (dk_at dksX5_count_2 1 rfl rfl)
theorem dX5_count_52 : decode cX5_count 52 = .ok (.iconst 0, 1) := dk_3 (dk_at dksX5_count_2 4 rfl rfl)
theorem dX5_count_53 : decode cX5_count 53 = .ok (.iaload, 1) := dk_46 (dk_at dksX5_count_2 5 rfl rfl)
theorem dX5_count_54 : decode cX5_count 54 = .ok (.ireturn, 1) := dk_172 (dk_at dksX5_count_2 6 rfl rfl)
theorem dX5_count_55 : decode cX5_count 55 = .ok (.aload_n 0, 1) := dk_42 (dk_at dksX5_count_2 7 rfl rfl)
theorem dX5_count_56 : decode cX5_count 56 = .ok (.invokevirtual 123, 3) := dk_182 0 123 (dk_at dksX5_count_2 8 rfl rfl)
theorem dX5_count_59 : decode cX5_count 59 = .ok (.invokestatic 157, 3) := dk_184 0 157 (dk_at dksX5_count_2 11 rfl rfl)
theorem dX5_count_62 : decode cX5_count 62 = .ok (.ireturn, 1) := dk_172 (dk_at dksX5_count_2 14 rfl rfl)
theorem dX5_count_63 : decode cX5_count 63 = .ok (.aload_n 0, 1) := dk_42 (dk_at dksX5_count_2 15 rfl rfl)
theorem dX5_count_64 : decode cX5_count 64 = .ok (.getfield 7, 3) := dk_180 0 7 (dk_at dksX5_count_2 16 rfl rfl)
theorem dX5_count_67 : decode cX5_count 67 = .ok (.iconst 2, 1) := dk_5 (dk_at dksX5_count_2 19 rfl rfl)
theorem dX5_count_68 : decode cX5_count 68 = .ok (.iaload, 1) := dk_46 (dk_at dksX5_count_2 20 rfl rfl)
theorem dX5_count_69 : decode cX5_count 69 = .ok (.ireturn, 1) := dk_172 (dk_at dksX5_count_2 21 rfl rfl)
theorem dX5_count_70 : decode cX5_count 70 = .ok (.aload_n 0, 1) := dk_42 (dk_at dksX5_count_2 22 rfl rfl)
theorem dX5_count_71 : decode cX5_count 71 = .ok (.getfield 7, 3) := dk_180 0 7 (dk_at dksX5_count_3 0 rfl rfl)
theorem dX5_count_74 : decode cX5_count 74 = .ok (.iconst 4, 1) := dk_7 (dk_at dksX5_count_3 3 rfl rfl)
theorem dX5_count_75 : decode cX5_count 75 = .ok (.iaload, 1) := dk_46 (dk_at dksX5_count_3 4 rfl rfl)
theorem dX5_count_76 : decode cX5_count 76 = .ok (.ireturn, 1) := dk_172 (dk_at dksX5_count_3 5 rfl rfl)
theorem dX5_count_77 : decode cX5_count 77 = .ok (.aload_n 0, 1) := dk_42 (dk_at dksX5_count_3 6 rfl rfl)
theorem dX5_count_78 : decode cX5_count 78 = .ok (.getfield 7, 3) := dk_180 0 7 (dk_at dksX5_count_3 7 rfl rfl)
theorem dX5_count_81 : decode cX5_count 81 = .ok (.iconst 1, 1) := dk_4 (dk_at dksX5_count_3 10 rfl rfl)
theorem dX5_count_82 : decode cX5_count 82 = .ok (.iaload, 1) := dk_46 (dk_at dksX5_count_3 11 rfl rfl)
theorem dX5_count_83 : decode cX5_count 83 = .ok (.ireturn, 1) := dk_172 (dk_at dksX5_count_3 12 rfl rfl)
theorem dX5_count_84 : decode cX5_count 84 = .ok (.aload_n 0, 1) := dk_42 (dk_at dksX5_count_3 13 rfl rfl)
theorem dX5_count_85 : decode cX5_count 85 = .ok (.getfield 319, 3) := dk_180 1 63 (dk_at dksX5_count_3 14 rfl rfl)
theorem dX5_count_88 : decode cX5_count 88 = .ok (.ireturn, 1) := dk_172 (dk_at dksX5_count_3 17 rfl rfl)
theorem dX5_count_89 : decode cX5_count 89 = .ok (.aload_n 0, 1) := dk_42 (dk_at dksX5_count_3 18 rfl rfl)
theorem dX5_count_90 : decode cX5_count 90 = .ok (.getfield 200, 3) := dk_180 0 200 (dk_at dksX5_count_3 19 rfl rfl)
theorem dX5_count_93 : decode cX5_count 93 = .ok (.ireturn, 1) := dk_172 (dk_at dksX5_count_3 22 rfl rfl)
theorem dX5_count_94 : decode cX5_count 94 = .ok (.aload_n 0, 1) := dk_42 (dk_at dksX5_count_3 23 rfl rfl)
theorem dX5_count_95 : decode cX5_count 95 = .ok (.getfield 7, 3) := dk_180 0 7 (dk_at dksX5_count_4 0 rfl rfl)
theorem dX5_count_98 : decode cX5_count 98 = .ok (.iconst 5, 1) := dk_8 (dk_at dksX5_count_4 3 rfl rfl)
theorem dX5_count_99 : decode cX5_count 99 = .ok (.iaload, 1) := dk_46 (dk_at dksX5_count_4 4 rfl rfl)
theorem dX5_count_100 : decode cX5_count 100 = .ok (.ireturn, 1) := dk_172 (dk_at dksX5_count_4 5 rfl rfl)
theorem dX5_count_101 : decode cX5_count 101 = .ok (.ldc 100, 2) := dk_18 100 (dk_at dksX5_count_4 6 rfl rfl)
theorem dX5_count_103 : decode cX5_count 103 = .ok (.ireturn, 1) := dk_172 (dk_at dksX5_count_4 8 rfl rfl)
