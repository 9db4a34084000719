set_option maxRecDepth 100000
abbrev cX0_init : ByteArray := prog_1_method_5_code
def yX0_init : MethodName := ⟨RX0, "<init>", "()V"⟩
def dkwX0_init_9 : List UInt8 := [181, 0, 91, 42, 16, 60, 188, 10, 181, 0, 95, 42, 16, 60, 188, 10, 181, 0, 98, 177]
abbrev dktX0_init_9 : List UInt8 := dkwX0_init_9 ++ []
def dkwX0_init_8 : List UInt8 := [183, 0, 86, 83, 89, 7, 187, 0, 84, 89, 183, 0, 86, 83, 181, 0, 87, 42, 16, 24, 188, 6]
abbrev dktX0_init_8 : List UInt8 := dkwX0_init_8 ++ dktX0_init_9
def dkwX0_init_7 : List UInt8 := [187, 0, 84, 89, 183, 0, 86, 83, 89, 5, 187, 0, 84, 89, 183, 0, 86, 83, 89, 6, 187, 0, 84, 89]
abbrev dktX0_init_7 : List UInt8 := dkwX0_init_7 ++ dktX0_init_8
def dkwX0_init_6 : List UInt8 := [183, 0, 79, 83, 181, 0, 80, 42, 8, 189, 0, 84, 89, 3, 187, 0, 84, 89, 183, 0, 86, 83, 89, 4]
abbrev dktX0_init_6 : List UInt8 := dkwX0_init_6 ++ dktX0_init_7
def dkwX0_init_5 : List UInt8 := [187, 0, 77, 89, 183, 0, 79, 83, 89, 5, 187, 0, 77, 89, 183, 0, 79, 83, 89, 6, 187, 0, 77, 89]
abbrev dktX0_init_5 : List UInt8 := dkwX0_init_5 ++ dktX0_init_6
def dkwX0_init_4 : List UInt8 := [16, 9, 188, 10, 181, 0, 74, 42, 7, 189, 0, 77, 89, 3, 187, 0, 77, 89, 183, 0, 79, 83, 89, 4]
abbrev dktX0_init_4 : List UInt8 := dkwX0_init_4 ++ dktX0_init_5
def dkwX0_init_3 : List UInt8 := [183, 0, 63, 181, 0, 64, 42, 17, 0, 128, 188, 10, 181, 0, 68, 42, 16, 9, 188, 10, 181, 0, 71, 42]
abbrev dktX0_init_3 : List UInt8 := dkwX0_init_3 ++ dktX0_init_4
def dkwX0_init_2 : List UInt8 := [181, 0, 50, 42, 16, 96, 188, 10, 181, 0, 53, 42, 16, 96, 188, 8, 181, 0, 57, 42, 187, 0, 61, 89]
abbrev dktX0_init_2 : List UInt8 := dkwX0_init_2 ++ dktX0_init_3
def dkwX0_init_1 : List UInt8 := [181, 0, 44, 42, 187, 0, 37, 89, 183, 0, 39, 181, 0, 47, 42, 187, 0, 37, 89, 183, 0, 39]
abbrev dktX0_init_1 : List UInt8 := dkwX0_init_1 ++ dktX0_init_2
def dkwX0_init_0 : List UInt8 := [42, 183, 0, 34, 42, 187, 0, 37, 89, 183, 0, 39, 181, 0, 40, 42, 187, 0, 37, 89, 183, 0, 39]
abbrev dktX0_init_0 : List UInt8 := dkwX0_init_0 ++ dktX0_init_1
theorem dksX0_init_0 : cX0_init.data.toList.drop 0 = dktX0_init_0 := by decide +kernel
theorem dksX0_init_1 : cX0_init.data.toList.drop 23 = dktX0_init_1 := dk_seg dksX0_init_0 23 rfl rfl
theorem dksX0_init_2 : cX0_init.data.toList.drop 45 = dktX0_init_2 := dk_seg dksX0_init_1 22 rfl rfl
theorem dksX0_init_3 : cX0_init.data.toList.drop 69 = dktX0_init_3 := dk_seg dksX0_init_2 24 rfl rfl
theorem dksX0_init_4 : cX0_init.data.toList.drop 93 = dktX0_init_4 := dk_seg dksX0_init_3 24 rfl rfl
theorem dksX0_init_5 : cX0_init.data.toList.drop 117 = dktX0_init_5 := dk_seg dksX0_init_4 24 rfl rfl
theorem dksX0_init_6 : cX0_init.data.toList.drop 141 = dktX0_init_6 := dk_seg dksX0_init_5 24 rfl rfl
theorem dksX0_init_7 : cX0_init.data.toList.drop 165 = dktX0_init_7 := dk_seg dksX0_init_6 24 rfl rfl
theorem dksX0_init_8 : cX0_init.data.toList.drop 189 = dktX0_init_8 := dk_seg dksX0_init_7 24 rfl rfl
theorem dksX0_init_9 : cX0_init.data.toList.drop 211 = dktX0_init_9 := dk_seg dksX0_init_8 22 rfl rfl
theorem dX0_init_0 : decode cX0_init 0 = .ok (.aload_n 0, 1) := dk_42 (dk_at dksX0_init_0 0 rfl rfl)
theorem dX0_init_1 : decode cX0_init 1 = .ok (.invokespecial 34, 3) := dk_183 0 34 (dk_at dksX0_init_0 1 rfl rfl)
theorem dX0_init_4 : decode cX0_init 4 = .ok (.aload_n 0, 1) := dk_42 (dk_at dksX0_init_0 4 rfl rfl)
theorem dX0_init_5 : decode cX0_init 5 = .ok (.new 37, 3) := dk_187 0 37 (dk_at dksX0_init_0 5 rfl rfl)
theorem dX0_init_8 : decode cX0_init 8 = .ok (.dup, 1) := dk_89 (dk_at dksX0_init_0 8 rfl rfl)
theorem dX0_init_9 : decode cX0_init 9 = .ok (.invokespecial 39, 3) := dk_183 0 39 (dk_at dksX0_init_0 9 rfl rfl)
theorem dX0_init_12 : decode cX0_init 12 = .ok (.putfield 40, 3) := dk_181 0 40 (dk_at dksX0_init_0 12 rfl rfl)
theorem dX0_init_15 : decode cX0_init 15 = .ok (.aload_n 0, 1) := dk_42 (dk_at dksX0_init_0 15 rfl rfl)
theorem dX0_init_16 : decode cX0_init 16 = .ok (.new 37, 3) := dk_187 0 37 (dk_at dksX0_init_0 16 rfl rfl)
theorem dX0_init_19 : decode cX0_init 19 = .ok (.dup, 1) := dk_89 (dk_at dksX0_init_0 19 rfl rfl)
theorem dX0_init_20 : decode cX0_init 20 = .ok (.invokespecial 39, 3) := dk_183 0 39 (dk_at dksX0_init_0 20 rfl rfl)
theorem dX0_init_23 : decode cX0_init 23 = .ok (.putfield 44, 3) := dk_181 0 44 (dk_at dksX0_init_1 0 rfl rfl)
theorem dX0_init_26 : decode cX0_init 26 = .ok (.aload_n 0, 1) := dk_42 (dk_at dksX0_init_1 3 rfl rfl)
theorem dX0_init_27 : decode cX0_init 27 = .ok (.new 37, 3) := dk_187 0 37 (dk_at dksX0_init_1 4 rfl rfl)
theorem dX0_init_30 : decode cX0_init 30 = .ok (.dup, 1) := dk_89 (dk_at dksX0_init_1 7 rfl rfl)
theorem dX0_init_31 : decode cX0_init 31 = .ok (.invokespecial 39, 3) := dk_183 0 39 (dk_at dksX0_init_1 8 rfl rfl)
theorem dX0_init_34 : decode cX0_init 34 = .ok (.putfield 47, 3) := dk_181 0 47 (dk_at dksX0_init_1 11 rfl rfl)
theorem dX0_init_37 : decode cX0_init 37 = .ok (.aload_n 0, 1) := dk_42 (dk_at dksX0_init_1 14 rfl rfl)
theorem dX0_init_38 : decode cX0_init 38 = .ok (.new 37, 3) := dk_187 0 37 (dk_at dksX0_init_1 15 rfl rfl)
theorem dX0_init_41 : decode cX0_init 41 = .ok (.dup, 1) := dk_89 (dk_at dksX0_init_1 18 rfl rfl)
theorem dX0_init_42 : decode cX0_init 42 = .ok (.invokespecial 39, 3) := dk_183 0 39 (dk_at dksX0_init_1 19 rfl rfl)
theorem dX0_init_45 : decode cX0_init 45 = .ok (.putfield 50, 3) := dk_181 0 50 (dk_at dksX0_init_2 0 rfl rfl)
theorem dX0_init_48 : decode cX0_init 48 = .ok (.aload_n 0, 1) := dk_42 (dk_at dksX0_init_2 3 rfl rfl)
theorem dX0_init_49 : decode cX0_init 49 = .ok (.bipush 96, 2) := dk_16 96 (dk_at dksX0_init_2 4 rfl rfl)
theorem dX0_init_51 : decode cX0_init 51 = .ok (.newarray .int, 2) := dk_188_10 (dk_at dksX0_init_2 6 rfl rfl)
theorem dX0_init_53 : decode cX0_init 53 = .ok (.putfield 53, 3) := dk_181 0 53 (dk_at dksX0_init_2 8 rfl rfl)
theorem dX0_init_56 : decode cX0_init 56 = .ok (.aload_n 0, 1) := dk_42 (dk_at dksX0_init_2 11 rfl rfl)
theorem dX0_init_57 : decode cX0_init 57 = .ok (.bipush 96, 2) := dk_16 96 (dk_at dksX0_init_2 12 rfl rfl)
theorem dX0_init_59 : decode cX0_init 59 = .ok (.newarray .byte, 2) := dk_188_8 (dk_at dksX0_init_2 14 rfl rfl)
theorem dX0_init_61 : decode cX0_init 61 = .ok (.putfield 57, 3) := dk_181 0 57 (dk_at dksX0_init_2 16 rfl rfl)
theorem dX0_init_64 : decode cX0_init 64 = .ok (.aload_n 0, 1) := dk_42 (dk_at dksX0_init_2 19 rfl rfl)
theorem dX0_init_65 : decode cX0_init 65 = .ok (.new 61, 3) := dk_187 0 61 (dk_at dksX0_init_2 20 rfl rfl)
theorem dX0_init_68 : decode cX0_init 68 = .ok (.dup, 1) := dk_89 (dk_at dksX0_init_2 23 rfl rfl)
theorem dX0_init_69 : decode cX0_init 69 = .ok (.invokespecial 63, 3) := dk_183 0 63 (dk_at dksX0_init_3 0 rfl rfl)
theorem dX0_init_72 : decode cX0_init 72 = .ok (.putfield 64, 3) := dk_181 0 64 (dk_at dksX0_init_3 3 rfl rfl)
theorem dX0_init_75 : decode cX0_init 75 = .ok (.aload_n 0, 1) := dk_42 (dk_at dksX0_init_3 6 rfl rfl)
theorem dX0_init_76 : decode cX0_init 76 = .ok (.sipush 128, 3) := dk_17 0 128 (dk_at dksX0_init_3 7 rfl rfl)
theorem dX0_init_79 : decode cX0_init 79 = .ok (.newarray .int, 2) := dk_188_10 (dk_at dksX0_init_3 10 rfl rfl)
theorem dX0_init_81 : decode cX0_init 81 = .ok (.putfield 68, 3) := dk_181 0 68 (dk_at dksX0_init_3 12 rfl rfl)
theorem dX0_init_84 : decode cX0_init 84 = .ok (.aload_n 0, 1) := dk_42 (dk_at dksX0_init_3 15 rfl rfl)
theorem dX0_init_85 : decode cX0_init 85 = .ok (.bipush 9, 2) := dk_16 9 (dk_at dksX0_init_3 16 rfl rfl)
theorem dX0_init_87 : decode cX0_init 87 = .ok (.newarray .int, 2) := dk_188_10 (dk_at dksX0_init_3 18 rfl rfl)
theorem dX0_init_89 : decode cX0_init 89 = .ok (.putfield 71, 3) := dk_181 0 71 (dk_at dksX0_init_3 20 rfl rfl)
theorem dX0_init_92 : decode cX0_init 92 = .ok (.aload_n 0, 1) := dk_42 (dk_at dksX0_init_3 23 rfl rfl)
theorem dX0_init_93 : decode cX0_init 93 = .ok (.bipush 9, 2) := dk_16 9 (dk_at dksX0_init_4 0 rfl rfl)
theorem dX0_init_95 : decode cX0_init 95 = .ok (.newarray .int, 2) := dk_188_10 (dk_at dksX0_init_4 2 rfl rfl)
theorem dX0_init_97 : decode cX0_init 97 = .ok (.putfield 74, 3) := dk_181 0 74 (dk_at dksX0_init_4 4 rfl rfl)
theorem dX0_init_100 : decode cX0_init 100 = .ok (.aload_n 0, 1) := dk_42 (dk_at dksX0_init_4 7 rfl rfl)
theorem dX0_init_101 : decode cX0_init 101 = .ok (.iconst 4, 1) := dk_7 (dk_at dksX0_init_4 8 rfl rfl)
theorem dX0_init_102 : decode cX0_init 102 = .ok (.anewarray 77, 3) := dk_189 0 77 (dk_at dksX0_init_4 9 rfl rfl)
theorem dX0_init_105 : decode cX0_init 105 = .ok (.dup, 1) := dk_89 (dk_at dksX0_init_4 12 rfl rfl)
theorem dX0_init_106 : decode cX0_init 106 = .ok (.iconst 0, 1) := dk_3 (dk_at dksX0_init_4 13 rfl rfl)
theorem dX0_init_107 : decode cX0_init 107 = .ok (.new 77, 3) := dk_187 0 77 (dk_at dksX0_init_4 14 rfl rfl)
theorem dX0_init_110 : decode cX0_init 110 = .ok (.dup, 1) := dk_89 (dk_at dksX0_init_4 17 rfl rfl)
theorem dX0_init_111 : decode cX0_init 111 = .ok (.invokespecial 79, 3) := dk_183 0 79 (dk_at dksX0_init_4 18 rfl rfl)
theorem dX0_init_114 : decode cX0_init 114 = .ok (.aastore, 1) := dk_83 (dk_at dksX0_init_4 21 rfl rfl)
theorem dX0_init_115 : decode cX0_init 115 = .ok (.dup, 1) := dk_89 (dk_at dksX0_init_4 22 rfl rfl)
theorem dX0_init_116 : decode cX0_init 116 = .ok (.iconst 1, 1) := dk_4 (dk_at dksX0_init_4 23 rfl rfl)
theorem dX0_init_117 : decode cX0_init 117 = .ok (.new 77, 3) := dk_187 0 77 (dk_at dksX0_init_5 0 rfl rfl)
theorem dX0_init_120 : decode cX0_init 120 = .ok (.dup, 1) := dk_89 (dk_at dksX0_init_5 3 rfl rfl)
theorem dX0_init_121 : decode cX0_init 121 = .ok (.invokespecial 79, 3) := dk_183 0 79 (dk_at dksX0_init_5 4 rfl rfl)
theorem dX0_init_124 : decode cX0_init 124 = .ok (.aastore, 1) := dk_83 (dk_at dksX0_init_5 7 rfl rfl)
theorem dX0_init_125 : decode cX0_init 125 = .ok (.dup, 1) := dk_89 (dk_at dksX0_init_5 8 rfl rfl)
theorem dX0_init_126 : decode cX0_init 126 = .ok (.iconst 2, 1) := dk_5 (dk_at dksX0_init_5 9 rfl rfl)
theorem dX0_init_127 : decode cX0_init 127 = .ok (.new 77, 3) := dk_187 0 77 (dk_at dksX0_init_5 10 rfl rfl)
theorem dX0_init_130 : decode cX0_init 130 = .ok (.dup, 1) := dk_89 (dk_at dksX0_init_5 13 rfl rfl)
theorem dX0_init_131 : decode cX0_init 131 = .ok (.invokespecial 79, 3) := dk_183 0 79 (dk_at dksX0_init_5 14 rfl rfl)
theorem dX0_init_134 : decode cX0_init 134 = .ok (.aastore, 1) := dk_83 (dk_at dksX0_init_5 17 rfl rfl)
theorem dX0_init_135 : decode cX0_init 135 = .ok (.dup, 1) := dk_89 (dk_at dksX0_init_5 18 rfl rfl)
theorem dX0_init_136 : decode cX0_init 136 = .ok (.iconst 3, 1) := dk_6 (dk_at dksX0_init_5 19 rfl rfl)
theorem dX0_init_137 : decode cX0_init 137 = .ok (.new 77, 3) := dk_187 0 77 (dk_at dksX0_init_5 20 rfl rfl)
theorem dX0_init_140 : decode cX0_init 140 = .ok (.dup, 1) := dk_89 (dk_at dksX0_init_5 23 rfl rfl)
theorem dX0_init_141 : decode cX0_init 141 = .ok (.invokespecial 79, 3) := dk_183 0 79 (dk_at dksX0_init_6 0 rfl rfl)
theorem dX0_init_144 : decode cX0_init 144 = .ok (.aastore, 1) := dk_83 (dk_at dksX0_init_6 3 rfl rfl)
theorem dX0_init_145 : decode cX0_init 145 = .ok (.putfield 80, 3) := dk_181 0 80 (dk_at dksX0_init_6 4 rfl rfl)
theorem dX0_init_148 : decode cX0_init 148 = .ok (.aload_n 0, 1) := dk_42 (dk_at dksX0_init_6 7 rfl rfl)
theorem dX0_init_149 : decode cX0_init 149 = .ok (.iconst 5, 1) := dk_8 (dk_at dksX0_init_6 8 rfl rfl)
theorem dX0_init_150 : decode cX0_init 150 = .ok (.anewarray 84, 3) := dk_189 0 84 (dk_at dksX0_init_6 9 rfl rfl)
theorem dX0_init_153 : decode cX0_init 153 = .ok (.dup, 1) := dk_89 (dk_at dksX0_init_6 12 rfl rfl)
theorem dX0_init_154 : decode cX0_init 154 = .ok (.iconst 0, 1) := dk_3 (dk_at dksX0_init_6 13 rfl rfl)
theorem dX0_init_155 : decode cX0_init 155 = .ok (.new 84, 3) := dk_187 0 84 (dk_at dksX0_init_6 14 rfl rfl)
theorem dX0_init_158 : decode cX0_init 158 = .ok (.dup, 1) := dk_89 (dk_at dksX0_init_6 17 rfl rfl)
theorem dX0_init_159 : decode cX0_init 159 = .ok (.invokespecial 86, 3) := dk_183 0 86 (dk_at dksX0_init_6 18 rfl rfl)
theorem dX0_init_162 : decode cX0_init 162 = .ok (.aastore, 1) := dk_83 (dk_at dksX0_init_6 21 rfl rfl)
theorem dX0_init_163 : decode cX0_init 163 = .ok (.dup, 1) := dk_89 (dk_at dksX0_init_6 22 rfl rfl)
theorem dX0_init_164 : decode cX0_init 164 = .ok (.iconst 1, 1) := dk_4 (dk_at dksX0_init_6 23 rfl rfl)
theorem dX0_init_165 : decode cX0_init 165 = .ok (.new 84, 3) := dk_187 0 84 (dk_at dksX0_init_7 0 rfl rfl)
theorem dX0_init_168 : decode cX0_init 168 = .ok (.dup, 1) := dk_89 (dk_at dksX0_init_7 3 rfl rfl)
theorem dX0_init_169 : decode cX0_init 169 = .ok (.invokespecial 86, 3) := dk_183 0 86 (dk_at dksX0_init_7 4 rfl rfl)
theorem dX0_init_172 : decode cX0_init 172 = .ok (.aastore, 1) := dk_83 (dk_at dksX0_init_7 7 rfl rfl)
theorem dX0_init_173 : decode cX0_init 173 = .ok (.dup, 1) := dk_89 (dk_at dksX0_init_7 8 rfl rfl)
theorem dX0_init_174 : decode cX0_init 174 = .ok (.iconst 2, 1) := dk_5 (dk_at dksX0_init_7 9 rfl rfl)
theorem dX0_init_175 : decode cX0_init 175 = .ok (.new 84, 3) := dk_187 0 84 (dk_at dksX0_init_7 10 rfl rfl)
theorem dX0_init_178 : decode cX0_init 178 = .ok (.dup, 1) := dk_89 (dk_at dksX0_init_7 13 rfl rfl)
theorem dX0_init_179 : decode cX0_init 179 = .ok (.invokespecial 86, 3) := dk_183 0 86 (dk_at dksX0_init_7 14 rfl rfl)
theorem dX0_init_182 : decode cX0_init 182 = .ok (.aastore, 1) := dk_83 (dk_at dksX0_init_7 17 rfl rfl)
theorem dX0_init_183 : decode cX0_init 183 = .ok (.dup, 1) := dk_89 (dk_at dksX0_init_7 18 rfl rfl)
theorem dX0_init_184 : decode cX0_init 184 = .ok (.iconst 3, 1) := dk_6 (dk_at dksX0_init_7 19 rfl rfl)
theorem dX0_init_185 : decode cX0_init 185 = .ok (.new 84, 3) := dk_187 0 84 (dk_at dksX0_init_7 20 rfl rfl)
theorem dX0_init_188 : decode cX0_init 188 = .ok (.dup, 1) := dk_89 (dk_at dksX0_init_7 23 rfl rfl)
theorem dX0_init_189 : decode cX0_init 189 = .ok (.invokespecial 86, 3) := dk_183 0 86 (dk_at dksX0_init_8 0 rfl rfl)
theorem dX0_init_192 : decode cX0_init 192 = .ok (.aastore, 1) := dk_83 (dk_at dksX0_init_8 3 rfl rfl)
theorem dX0_init_193 : decode cX0_init 193 = .ok (.dup, 1) := dk_89 (dk_at dksX0_init_8 4 rfl rfl)
theorem dX0_init_194 : decode cX0_init 194 = .ok (.iconst 4, 1) := dk_7 (dk_at dksX0_init_8 5 rfl rfl)
theorem dX0_init_195 : decode cX0_init 195 = .ok (.new 84, 3) := dk_187 0 84 (dk_at dksX0_init_8 6 rfl rfl)
theorem dX0_init_198 : decode cX0_init 198 = .ok (.dup, 1) := dk_89 (dk_at dksX0_init_8 9 rfl rfl)
theorem dX0_init_199 : decode cX0_init 199 = .ok (.invokespecial 86, 3) := dk_183 0 86 (dk_at dksX0_init_8 10 rfl rfl)
theorem dX0_init_202 : decode cX0_init 202 = .ok (.aastore, 1) := dk_83 (dk_at dksX0_init_8 13 rfl rfl)
theorem dX0_init_203 : decode cX0_init 203 = .ok (.putfield 87, 3) := dk_181 0 87 (dk_at dksX0_init_8 14 rfl rfl)
theorem dX0_init_206 : decode cX0_init 206 = .ok (.aload_n 0, 1) := dk_42 (dk_at dksX0_init_8 17 rfl rfl)
theorem dX0_init_207 : decode cX0_init 207 = .ok (.bipush 24, 2) := dk_16 24 (dk_at dksX0_init_8 18 rfl rfl)
theorem dX0_init_209 : decode cX0_init 209 = .ok (.newarray .float, 2) := dk_188_6 (dk_at dksX0_init_8 20 rfl rfl)
theorem dX0_init_211 : decode cX0_init 211 = .ok (.putfield 91, 3) := dk_181 0 91 (dk_at dksX0_init_9 0 rfl rfl)
theorem dX0_init_214 : decode cX0_init 214 = .ok (.aload_n 0, 1) := dk_42 (dk_at dksX0_init_9 3 rfl rfl)
theorem dX0_init_215 : decode cX0_init 215 = .ok (.bipush 60, 2) := dk_16 60 (dk_at dksX0_init_9 4 rfl rfl)
theorem dX0_init_217 : decode cX0_init 217 = .ok (.newarray .int, 2) := dk_188_10 (dk_at dksX0_init_9 6 rfl rfl)
theorem dX0_init_219 : decode cX0_init 219 = .ok (.putfield 95, 3) := dk_181 0 95 (dk_at dksX0_init_9 8 rfl rfl)
theorem dX0_init_222 : decode cX0_init 222 = .ok (.aload_n 0, 1) := dk_42 (dk_at dksX0_init_9 11 rfl rfl)
theorem dX0_init_223 : decode cX0_init 223 = .ok (.bipush 60, 2) := dk_16 60 (dk_at dksX0_init_9 12 rfl rfl)
theorem dX0_init_225 : decode cX0_init 225 = .ok (.newarray .int, 2) := dk_188_10 (dk_at dksX0_init_9 14 rfl rfl)
theorem dX0_init_227 : decode cX0_init 227 = .ok (.putfield 98, 3) := dk_181 0 98 (dk_at dksX0_init_9 16 rfl rfl)
theorem dX0_init_230 : decode cX0_init 230 = .ok (.return_, 1) := dk_177 (dk_at dksX0_init_9 19 rfl rfl)
abbrev cX0_feed : ByteArray := prog_1_method_9_code
def yX0_feed : MethodName := ⟨RX0, "feed", "(III)I"⟩
def dkwX0_feed_1 : List UInt8 := [182, 0, 126, 42, 29, 182, 0, 126, 42, 180, 0, 122, 172]
abbrev dktX0_feed_1 : List UInt8 := dkwX0_feed_1 ++ []
def dkwX0_feed_0 : List UInt8 := [42, 180, 0, 122, 16, 12, 96, 16, 96, 164, 0, 6, 18, 125, 172, 42, 27, 182, 0, 126, 42, 28]
abbrev dktX0_feed_0 : List UInt8 := dkwX0_feed_0 ++ dktX0_feed_1
theorem dksX0_feed_0 : cX0_feed.data.toList.drop 0 = dktX0_feed_0 := by decide +kernel
theorem dksX0_feed_1 : cX0_feed.data.toList.drop 22 = dktX0_feed_1 := dk_seg dksX0_feed_0 22 rfl rfl
theorem dX0_feed_0 : decode cX0_feed 0 = .ok (.aload_n 0, 1) := dk_42 (dk_at dksX0_feed_0 0 rfl rfl)
theorem dX0_feed_1 : decode cX0_feed 1 = .ok (.getfield 122, 3) := dk_180 0 122 (dk_at dksX0_feed_0 1 rfl rfl)
theorem dX0_feed_4 : decode cX0_feed 4 = .ok (.bipush 12, 2) := dk_16 12 (dk_at dksX0_feed_0 4 rfl rfl)
theorem dX0_feed_6 : decode cX0_feed 6 = .ok (.iadd, 1) := dk_96 (dk_at dksX0_feed_0 6 rfl rfl)
theorem dX0_feed_7 : decode cX0_feed 7 = .ok (.bipush 96, 2) := dk_16 96 (dk_at dksX0_feed_0 7 rfl rfl)
theorem dX0_feed_9 : decode cX0_feed 9 = .ok (.if_icmp .le 6, 3) := dk_164 0 6 (dk_at dksX0_feed_0 9 rfl rfl)
theorem dX0_feed_12 : decode cX0_feed 12 = .ok (.ldc 125, 2) := dk_18 125 (dk_at dksX0_feed_0 12 rfl rfl)
theorem dX0_feed_14 : decode cX0_feed 14 = .ok (.ireturn, 1) := dk_172 (dk_at dksX0_feed_0 14 rfl rfl)
theorem dX0_feed_15 : decode cX0_feed 15 = .ok (.aload_n 0, 1) := dk_42 (dk_at dksX0_feed_0 15 rfl rfl)
theorem dX0_feed_16 : decode cX0_feed 16 = .ok (.iload_n 1, 1) := dk_27 (dk_at dksX0_feed_0 16 rfl rfl)
theorem dX0_feed_17 : decode cX0_feed 17 = .ok (.invokevirtual 126, 3) := dk_182 0 126 (dk_at dksX0_feed_0 17 rfl rfl)
theorem dX0_feed_20 : decode cX0_feed 20 = .ok (.aload_n 0, 1) := dk_42 (dk_at dksX0_feed_0 20 rfl rfl)
theorem dX0_feed_21 : decode cX0_feed 21 = .ok (.iload_n 2, 1) := dk_28 (dk_at dksX0_feed_0 21 rfl rfl)
theorem dX0_feed_22 : decode cX0_feed 22 = .ok (.invokevirtual 126, 3) := dk_182 0 126 (dk_at dksX0_feed_1 0 rfl rfl)
theorem dX0_feed_25 : decode cX0_feed 25 = .ok (.aload_n 0, 1) := dk_42 (dk_at dksX0_feed_1 3 rfl rfl)
theorem dX0_feed_26 : decode cX0_feed 26 = .ok (.iload_n 3, 1) := dk_29 (dk_at dksX0_feed_1 4 rfl rfl)
theorem dX0_feed_27 : decode cX0_feed 27 = .ok (.invokevirtual 126, 3) := dk_182 0 126 (dk_at dksX0_feed_1 5 rfl rfl)
theorem dX0_feed_30 : decode cX0_feed 30 = .ok (.aload_n 0, 1) := dk_42 (dk_at dksX0_feed_1 8 rfl rfl)
theorem dX0_feed_31 : decode cX0_feed 31 = .ok (.getfield 122, 3) := dk_180 0 122 (dk_at dksX0_feed_1 9 rfl rfl)
theorem dX0_feed_34 : decode cX0_feed 34 = .ok (.ireturn, 1) := dk_172 (dk_at dksX0_feed_1 12 rfl rfl)
abbrev cX0_four : ByteArray := prog_1_method_10_code
def yX0_four : MethodName := ⟨RX0, "four", "(I)V"⟩
def dkwX0_four_1 : List UInt8 := [180, 0, 122, 4, 96, 181, 0, 122, 132, 2, 248, 167, 255, 226, 177]
abbrev dktX0_four_1 : List UInt8 := dkwX0_four_1 ++ []
def dkwX0_four_0 : List UInt8 := [16, 24, 61, 28, 155, 0, 32, 42, 180, 0, 57, 42, 180, 0, 122, 27, 28, 122, 145, 84, 42, 89]
abbrev dktX0_four_0 : List UInt8 := dkwX0_four_0 ++ dktX0_four_1
theorem dksX0_four_0 : cX0_four.data.toList.drop 0 = dktX0_four_0 := by decide +kernel
theorem dksX0_four_1 : cX0_four.data.toList.drop 22 = dktX0_four_1 := dk_seg dksX0_four_0 22 rfl rfl
theorem dX0_four_0 : decode cX0_four 0 = .ok (.bipush 24, 2) := dk_16 24 (dk_at dksX0_four_0 0 rfl rfl)
theorem dX0_four_2 : decode cX0_four 2 = .ok (.istore_n 2, 1) := dk_61 (dk_at dksX0_four_0 2 rfl rfl)
theorem dX0_four_3 : decode cX0_four 3 = .ok (.iload_n 2, 1) := dk_28 (dk_at dksX0_four_0 3 rfl rfl)
theorem dX0_four_4 : decode cX0_four 4 = .ok (.ifCond .lt 32, 3) := dk_155 0 32 (dk_at dksX0_four_0 4 rfl rfl)
theorem dX0_four_7 : decode cX0_four 7 = .ok (.aload_n 0, 1) := dk_42 (dk_at dksX0_four_0 7 rfl rfl)
theorem dX0_four_8 : decode cX0_four 8 = .ok (.getfield 57, 3) := dk_180 0 57 (dk_at dksX0_four_0 8 rfl rfl)
theorem dX0_four_11 : decode cX0_four 11 = .ok (.aload_n 0, 1) := dk_42 (dk_at dksX0_four_0 11 rfl rfl)
theorem dX0_four_12 : decode cX0_four 12 = .ok (.getfield 122, 3) := dk_180 0 122 (dk_at dksX0_four_0 12 rfl rfl)
theorem dX0_four_15 : decode cX0_four 15 = .ok (.iload_n 1, 1) := dk_27 (dk_at dksX0_four_0 15 rfl rfl)
theorem dX0_four_16 : decode cX0_four 16 = .ok (.iload_n 2, 1) := dk_28 (dk_at dksX0_four_0 16 rfl rfl)
theorem dX0_four_17 : decode cX0_four 17 = .ok (.ishr, 1) := dk_122 (dk_at dksX0_four_0 17 rfl rfl)
theorem dX0_four_18 : decode cX0_four 18 = .ok (.i2b, 1) := dk_145 (dk_at dksX0_four_0 18 rfl rfl)
theorem dX0_four_19 : decode cX0_four 19 = .ok (.bastore, 1) := dk_84 (dk_at dksX0_four_0 19 rfl rfl)
theorem dX0_four_20 : decode cX0_four 20 = .ok (.aload_n 0, 1) := dk_42 (dk_at dksX0_four_0 20 rfl rfl)
theorem dX0_four_21 : decode cX0_four 21 = .ok (.dup, 1) := dk_89 (dk_at dksX0_four_0 21 rfl rfl)
theorem dX0_four_22 : decode cX0_four 22 = .ok (.getfield 122, 3) := dk_180 0 122 (dk_at dksX0_four_1 0 rfl rfl)
theorem dX0_four_25 : decode cX0_four 25 = .ok (.iconst 1, 1) := dk_4 (dk_at dksX0_four_1 3 rfl rfl)
theorem dX0_four_26 : decode cX0_four 26 = .ok (.iadd, 1) := dk_96 (dk_at dksX0_four_1 4 rfl rfl)
theorem dX0_four_27 : decode cX0_four 27 = .ok (.putfield 122, 3) := dk_181 0 122 (dk_at dksX0_four_1 5 rfl rfl)
theorem dX0_four_30 : decode cX0_four 30 = .ok (.iinc 2 (-8), 3) := dk_132 2 248 (dk_at dksX0_four_1 8 rfl rfl)
theorem dX0_four_33 : decode cX0_four 33 = .ok (.goto (-30), 3) := dk_167 255 226 (dk_at dksX0_four_1 11 rfl rfl)
theorem dX0_four_36 : decode cX0_four 36 = .ok (.return_, 1) := dk_177 (dk_at dksX0_four_1 14 rfl rfl)
abbrev cX0_trim : ByteArray := prog_1_method_11_code
def yX0_trim : MethodName := ⟨RX0, "trim", "(I)I"⟩
def dkwX0_trim_0 : List UInt8 := [27, 3, 42, 180, 0, 122, 184, 0, 105, 154, 0, 6, 18, 130, 172, 42, 27, 181, 0, 122, 27, 172]
abbrev dktX0_trim_0 : List UInt8 := dkwX0_trim_0 ++ []
theorem dksX0_trim_0 : cX0_trim.data.toList.drop 0 = dktX0_trim_0 := by decide +kernel
theorem dX0_trim_0 : decode cX0_trim 0 = .ok (.iload_n 1, 1) := dk_27 (dk_at dksX0_trim_0 0 rfl rfl)
theorem dX0_trim_1 : decode cX0_trim 1 = .ok (.iconst 0, 1) := dk_3 (dk_at dksX0_trim_0 1 rfl rfl)
theorem dX0_trim_2 : decode cX0_trim 2 = .ok (.aload_n 0, 1) := dk_42 (dk_at dksX0_trim_0 2 rfl rfl)
theorem dX0_trim_3 : decode cX0_trim 3 = .ok (.getfield 122, 3) := dk_180 0 122 (dk_at dksX0_trim_0 3 rfl rfl)
theorem dX0_trim_6 : decode cX0_trim 6 = .ok (.invokestatic 105, 3) := dk_184 0 105 (dk_at dksX0_trim_0 6 rfl rfl)
theorem dX0_trim_9 : decode cX0_trim 9 = .ok (.ifCond .ne 6, 3) := dk_154 0 6 (dk_at dksX0_trim_0 9 rfl rfl)
theorem dX0_trim_12 : decode cX0_trim 12 = .ok (.ldc 130, 2) := dk_18 130 (dk_at dksX0_trim_0 12 rfl rfl)
theorem dX0_trim_14 : decode cX0_trim 14 = .ok (.ireturn, 1) := dk_172 (dk_at dksX0_trim_0 14 rfl rfl)
theorem dX0_trim_15 : decode cX0_trim 15 = .ok (.aload_n 0, 1) := dk_42 (dk_at dksX0_trim_0 15 rfl rfl)
theorem dX0_trim_16 : decode cX0_trim 16 = .ok (.iload_n 1, 1) := dk_27 (dk_at dksX0_trim_0 16 rfl rfl)
theorem dX0_trim_17 : decode cX0_trim 17 = .ok (.putfield 122, 3) := dk_181 0 122 (dk_at dksX0_trim_0 17 rfl rfl)
theorem dX0_trim_20 : decode cX0_trim 20 = .ok (.iload_n 1, 1) := dk_27 (dk_at dksX0_trim_0 20 rfl rfl)
theorem dX0_trim_21 : decode cX0_trim 21 = .ok (.ireturn, 1) := dk_172 (dk_at dksX0_trim_0 21 rfl rfl)
abbrev cX0_isIn : ByteArray := prog_1_method_1_code
def yX0_isIn : MethodName := ⟨RX0, "isIn", "(III)Z"⟩
def dkwX0_isIn_0 : List UInt8 := [26, 27, 161, 0, 12, 26, 28, 163, 0, 7, 4, 167, 0, 4, 3, 172]
abbrev dktX0_isIn_0 : List UInt8 := dkwX0_isIn_0 ++ []
theorem dksX0_isIn_0 : cX0_isIn.data.toList.drop 0 = dktX0_isIn_0 := by decide +kernel
theorem dX0_isIn_0 : decode cX0_isIn 0 = .ok (.iload_n 0, 1) := dk_26 (dk_at dksX0_isIn_0 0 rfl rfl)
theorem dX0_isIn_1 : decode cX0_isIn 1 = .ok (.iload_n 1, 1) := dk_27 (dk_at dksX0_isIn_0 1 rfl rfl)
theorem dX0_isIn_2 : decode cX0_isIn 2 = .ok (.if_icmp .lt 12, 3) := dk_161 0 12 (dk_at dksX0_isIn_0 2 rfl rfl)
theorem dX0_isIn_5 : decode cX0_isIn 5 = .ok (.iload_n 0, 1) := dk_26 (dk_at dksX0_isIn_0 5 rfl rfl)
theorem dX0_isIn_6 : decode cX0_isIn 6 = .ok (.iload_n 2, 1) := dk_28 (dk_at dksX0_isIn_0 6 rfl rfl)
theorem dX0_isIn_7 : decode cX0_isIn 7 = .ok (.if_icmp .gt 7, 3) := dk_163 0 7 (dk_at dksX0_isIn_0 7 rfl rfl)
theorem dX0_isIn_10 : decode cX0_isIn 10 = .ok (.iconst 1, 1) := dk_4 (dk_at dksX0_isIn_0 10 rfl rfl)
theorem dX0_isIn_11 : decode cX0_isIn 11 = .ok (.goto 4, 3) := dk_167 0 4 (dk_at dksX0_isIn_0 11 rfl rfl)
theorem dX0_isIn_14 : decode cX0_isIn 14 = .ok (.iconst 0, 1) := dk_3 (dk_at dksX0_isIn_0 14 rfl rfl)
theorem dX0_isIn_15 : decode cX0_isIn 15 = .ok (.ireturn, 1) := dk_172 (dk_at dksX0_isIn_0 15 rfl rfl)
abbrev cX0_text : ByteArray := prog_1_method_29_code
def yX0_text : MethodName := ⟨RX0, "text", "()I"⟩
def dkwX0_text_4 : List UInt8 := [181, 0, 122, 45, 191]
abbrev dktX0_text_4 : List UInt8 := dkwX0_text_4 ++ []
def dkwX0_text_3 : List UInt8 := [181, 0, 122, 28, 172, 76, 16, 156, 43, 180, 0, 134, 100, 61, 42, 3, 181, 0, 122, 28, 172, 78, 42, 3]
abbrev dktX0_text_3 : List UInt8 := dkwX0_text_3 ++ dktX0_text_4
def dkwX0_text_2 : List UInt8 := [180, 0, 40, 89, 180, 0, 237, 4, 96, 181, 0, 237, 42, 180, 0, 40, 180, 0, 237, 4, 100, 61, 42, 3]
abbrev dktX0_text_2 : List UInt8 := dkwX0_text_2 ++ dktX0_text_3
def dkwX0_text_1 : List UInt8 := [181, 0, 122, 28, 172, 42, 180, 0, 40, 180, 0, 240, 42, 180, 0, 40, 180, 0, 237, 43, 83, 42]
abbrev dktX0_text_1 : List UInt8 := dkwX0_text_1 ++ dktX0_text_2
def dkwX0_text_0 : List UInt8 := [42, 182, 0, 233, 76, 42, 180, 0, 40, 180, 0, 237, 16, 14, 160, 0, 13, 18, 125, 61, 42, 3]
abbrev dktX0_text_0 : List UInt8 := dkwX0_text_0 ++ dktX0_text_1
theorem dksX0_text_0 : cX0_text.data.toList.drop 0 = dktX0_text_0 := by decide +kernel
theorem dksX0_text_1 : cX0_text.data.toList.drop 22 = dktX0_text_1 := dk_seg dksX0_text_0 22 rfl rfl
theorem dksX0_text_2 : cX0_text.data.toList.drop 44 = dktX0_text_2 := dk_seg dksX0_text_1 22 rfl rfl
theorem dksX0_text_3 : cX0_text.data.toList.drop 68 = dktX0_text_3 := dk_seg dksX0_text_2 24 rfl rfl
theorem dksX0_text_4 : cX0_text.data.toList.drop 92 = dktX0_text_4 := dk_seg dksX0_text_3 24 rfl rfl
theorem dX0_text_0 : decode cX0_text 0 = .ok (.aload_n 0, 1) := dk_42 (dk_at dksX0_text_0 0 rfl rfl)
theorem dX0_text_1 : decode cX0_text 1 = .ok (.invokevirtual 233, 3) := dk_182 0 233 (dk_at dksX0_text_0 1 rfl rfl)
theorem dX0_text_4 : decode cX0_text 4 = .ok (.astore_n 1, 1) := dk_76 (dk_at dksX0_text_0 4 rfl rfl)
theorem dX0_text_5 : decode cX0_text 5 = .ok (.aload_n 0, 1) := dk_42 (dk_at dksX0_text_0 5 rfl rfl)
theorem dX0_text_6 : decode cX0_text 6 = .ok (.getfield 40, 3) := dk_180 0 40 (dk_at dksX0_text_0 6 rfl rfl)
theorem dX0_text_9 : decode cX0_text 9 = .ok (.getfield 237, 3) := dk_180 0 237 (dk_at dksX0_text_0 9 rfl rfl)
theorem dX0_text_12 : decode cX0_text 12 = .ok (.bipush 14, 2) := dk_16 14 (dk_at dksX0_text_0 12 rfl rfl)
theorem dX0_text_14 : decode cX0_text 14 = .ok (.if_icmp .ne 13, 3) := dk_160 0 13 (dk_at dksX0_text_0 14 rfl rfl)
theorem dX0_text_17 : decode cX0_text 17 = .ok (.ldc 125, 2) := dk_18 125 (dk_at dksX0_text_0 17 rfl rfl)
theorem dX0_text_19 : decode cX0_text 19 = .ok (.istore_n 2, 1) := dk_61 (dk_at dksX0_text_0 19 rfl rfl)
theorem dX0_text_20 : decode cX0_text 20 = .ok (.aload_n 0, 1) := dk_42 (dk_at dksX0_text_0 20 rfl rfl)
theorem dX0_text_21 : decode cX0_text 21 = .ok (.iconst 0, 1) := dk_3 (dk_at dksX0_text_0 21 rfl rfl)
theorem dX0_text_22 : decode cX0_text 22 = .ok (.putfield 122, 3) := dk_181 0 122 (dk_at dksX0_text_1 0 rfl rfl)
theorem dX0_text_25 : decode cX0_text 25 = .ok (.iload_n 2, 1) := dk_28 (dk_at dksX0_text_1 3 rfl rfl)
theorem dX0_text_26 : decode cX0_text 26 = .ok (.ireturn, 1) := dk_172 (dk_at dksX0_text_1 4 rfl rfl)
theorem dX0_text_27 : decode cX0_text 27 = .ok (.aload_n 0, 1) := dk_42 (dk_at dksX0_text_1 5 rfl rfl)
theorem dX0_text_28 : decode cX0_text 28 = .ok (.getfield 40, 3) := dk_180 0 40 (dk_at dksX0_text_1 6 rfl rfl)
theorem dX0_text_31 : decode cX0_text 31 = .ok (.getfield 240, 3) := dk_180 0 240 (dk_at dksX0_text_1 9 rfl rfl)
theorem dX0_text_34 : decode cX0_text 34 = .ok (.aload_n 0, 1) := dk_42 (dk_at dksX0_text_1 12 rfl rfl)
theorem dX0_text_35 : decode cX0_text 35 = .ok (.getfield 40, 3) := dk_180 0 40 (dk_at dksX0_text_1 13 rfl rfl)
theorem dX0_text_38 : decode cX0_text 38 = .ok (.getfield 237, 3) := dk_180 0 237 (dk_at dksX0_text_1 16 rfl rfl)
theorem dX0_text_41 : decode cX0_text 41 = .ok (.aload_n 1, 1) := dk_43 (dk_at dksX0_text_1 19 rfl rfl)
theorem dX0_text_42 : decode cX0_text 42 = .ok (.aastore, 1) := dk_83 (dk_at dksX0_text_1 20 rfl rfl)
theorem dX0_text_43 : decode cX0_text 43 = .ok (.aload_n 0, 1) := dk_42 (dk_at dksX0_text_1 21 rfl rfl)
theorem dX0_text_44 : decode cX0_text 44 = .ok (.getfield 40, 3) := dk_180 0 40 (dk_at dksX0_text_2 0 rfl rfl)
theorem dX0_text_47 : decode cX0_text 47 = .ok (.dup, 1) := dk_89 (dk_at dksX0_text_2 3 rfl rfl)
theorem dX0_text_48 : decode cX0_text 48 = .ok (.getfield 237, 3) := dk_180 0 237 (dk_at dksX0_text_2 4 rfl rfl)
theorem dX0_text_51 : decode cX0_text 51 = .ok (.iconst 1, 1) := dk_4 (dk_at dksX0_text_2 7 rfl rfl)
theorem dX0_text_52 : decode cX0_text 52 = .ok (.iadd, 1) := dk_96 (dk_at dksX0_text_2 8 rfl rfl)
theorem dX0_text_53 : decode cX0_text 53 = .ok (.putfield 237, 3) := dk_181 0 237 (dk_at dksX0_text_2 9 rfl rfl)
theorem dX0_text_56 : decode cX0_text 56 = .ok (.aload_n 0, 1) := dk_42 (dk_at dksX0_text_2 12 rfl rfl)
theorem dX0_text_57 : decode cX0_text 57 = .ok (.getfield 40, 3) := dk_180 0 40 (dk_at dksX0_text_2 13 rfl rfl)
theorem dX0_text_60 : decode cX0_text 60 = .ok (.getfield 237, 3) := dk_180 0 237 (dk_at dksX0_text_2 16 rfl rfl)
theorem dX0_text_63 : decode cX0_text 63 = .ok (.iconst 1, 1) := dk_4 (dk_at dksX0_text_2 19 rfl rfl)
theorem dX0_text_64 : decode cX0_text 64 = .ok (.isub, 1) := dk_100 (dk_at dksX0_text_2 20 rfl rfl)
theorem dX0_text_65 : decode cX0_text 65 = .ok (.istore_n 2, 1) := dk_61 (dk_at dksX0_text_2 21 rfl rfl)
theorem dX0_text_66 : decode cX0_text 66 = .ok (.aload_n 0, 1) := dk_42 (dk_at dksX0_text_2 22 rfl rfl)
theorem dX0_text_67 : decode cX0_text 67 = .ok (.iconst 0, 1) := dk_3 (dk_at dksX0_text_2 23 rfl rfl)
theorem dX0_text_68 : decode cX0_text 68 = .ok (.putfield 122, 3) := dk_181 0 122 (dk_at dksX0_text_3 0 rfl rfl)
theorem dX0_text_71 : decode cX0_text 71 = .ok (.iload_n 2, 1) := dk_28 (dk_at dksX0_text_3 3 rfl rfl)
theorem dX0_text_72 : decode cX0_text 72 = .ok (.ireturn, 1) := dk_172 (dk_at dksX0_text_3 4 rfl rfl)
theorem dX0_text_73 : decode cX0_text 73 = .ok (.astore_n 1, 1) := dk_76 (dk_at dksX0_text_3 5 rfl rfl)
theorem dX0_text_74 : decode cX0_text 74 = .ok (.bipush (-100), 2) := dk_16 156 (dk_at dksX0_text_3 6 rfl rfl)
theorem dX0_text_76 : decode cX0_text 76 = .ok (.aload_n 1, 1) := dk_43 (dk_at dksX0_text_3 8 rfl rfl)
theorem dX0_text_77 : decode cX0_text 77 = .ok (.getfield 134, 3) := dk_180 0 134 (dk_at dksX0_text_3 9 rfl rfl)
theorem dX0_text_80 : decode cX0_text 80 = .ok (.isub, 1) := dk_100 (dk_at dksX0_text_3 12 rfl rfl)
theorem dX0_text_81 : decode cX0_text 81 = .ok (.istore_n 2, 1) := dk_61 (dk_at dksX0_text_3 13 rfl rfl)
theorem dX0_text_82 : decode cX0_text 82 = .ok (.aload_n 0, 1) := dk_42 (dk_at dksX0_text_3 14 rfl rfl)
theorem dX0_text_83 : decode cX0_text 83 = .ok (.iconst 0, 1) := dk_3 (dk_at dksX0_text_3 15 rfl rfl)
theorem dX0_text_84 : decode cX0_text 84 = .ok (.putfield 122, 3) := dk_181 0 122 (dk_at dksX0_text_3 16 rfl rfl)
theorem dX0_text_87 : decode cX0_text 87 = .ok (.iload_n 2, 1) := dk_28 (dk_at dksX0_text_3 19 rfl rfl)
theorem dX0_text_88 : decode cX0_text 88 = .ok (.ireturn, 1) := dk_172 (dk_at dksX0_text_3 20 rfl rfl)
theorem dX0_text_89 : decode cX0_text 89 = .ok (.astore_n 3, 1) := dk_78 (dk_at dksX0_text_3 21 rfl rfl)
theorem dX0_text_90 : decode cX0_text 90 = .ok (.aload_n 0, 1) := dk_42 (dk_at dksX0_text_3 22 rfl rfl)
theorem dX0_text_91 : decode cX0_text 91 = .ok (.iconst 0, 1) := dk_3 (dk_at dksX0_text_3 23 rfl rfl)
theorem dX0_text_92 : decode cX0_text 92 = .ok (.putfield 122, 3) := dk_181 0 122 (dk_at dksX0_text_4 0 rfl rfl)
theorem dX0_text_95 : decode cX0_text 95 = .ok (.aload_n 3, 1) := dk_45 (dk_at dksX0_text_4 3 rfl rfl)
theorem dX0_text_96 : decode cX0_text 96 = .ok (.athrow, 1) := dk_191 (dk_at dksX0_text_4 4 rfl rfl)
abbrev cX0_textRead : ByteArray := prog_1_method_28_code
def yX0_textRead : MethodName := ⟨RX0, "textRead", "()LLeaningStreet$Text;"⟩
def dkwX0_textRead_3 : List UInt8 := [180, 0, 202, 183, 0, 230, 176]
abbrev dktX0_textRead_3 : List UInt8 := dkwX0_textRead_3 ++ []
def dkwX0_textRead_2 : List UInt8 := [180, 0, 131, 42, 180, 0, 140, 162, 0, 7, 42, 182, 0, 150, 187, 0, 228, 89, 42, 180, 0, 193, 43, 42]
abbrev dktX0_textRead_2 : List UInt8 := dkwX0_textRead_2 ++ dktX0_textRead_3
def dkwX0_textRead_1 : List UInt8 := [3, 181, 0, 202, 42, 182, 0, 163, 42, 42, 182, 0, 221, 181, 0, 193, 42, 182, 0, 224, 76, 42]
abbrev dktX0_textRead_1 : List UInt8 := dkwX0_textRead_1 ++ dktX0_textRead_2
def dkwX0_textRead_0 : List UInt8 := [42, 42, 180, 0, 122, 181, 0, 140, 42, 3, 181, 0, 137, 42, 3, 181, 0, 199, 42, 3, 181, 0, 196, 42]
abbrev dktX0_textRead_0 : List UInt8 := dkwX0_textRead_0 ++ dktX0_textRead_1
theorem dksX0_textRead_0 : cX0_textRead.data.toList.drop 0 = dktX0_textRead_0 := by decide +kernel
theorem dksX0_textRead_1 : cX0_textRead.data.toList.drop 24 = dktX0_textRead_1 := dk_seg dksX0_textRead_0 24 rfl rfl
theorem dksX0_textRead_2 : cX0_textRead.data.toList.drop 46 = dktX0_textRead_2 := dk_seg dksX0_textRead_1 22 rfl rfl
theorem dksX0_textRead_3 : cX0_textRead.data.toList.drop 70 = dktX0_textRead_3 := dk_seg dksX0_textRead_2 24 rfl rfl
theorem dX0_textRead_0 : decode cX0_textRead 0 = .ok (.aload_n 0, 1) := dk_42 (dk_at dksX0_textRead_0 0 rfl rfl)
theorem dX0_textRead_1 : decode cX0_textRead 1 = .ok (.aload_n 0, 1) := dk_42 (dk_at dksX0_textRead_0 1 rfl rfl)
theorem dX0_textRead_2 : decode cX0_textRead 2 = .ok (.getfield 122, 3) := dk_180 0 122 (dk_at dksX0_textRead_0 2 rfl rfl)
theorem dX0_textRead_5 : decode cX0_textRead 5 = .ok (.putfield 140, 3) := dk_181 0 140 (dk_at dksX0_textRead_0 5 rfl rfl)
theorem dX0_textRead_8 : decode cX0_textRead 8 = .ok (.aload_n 0, 1) := dk_42 (dk_at dksX0_textRead_0 8 rfl rfl)
theorem dX0_textRead_9 : decode cX0_textRead 9 = .ok (.iconst 0, 1) := dk_3 (dk_at dksX0_textRead_0 9 rfl rfl)
theorem dX0_textRead_10 : decode cX0_textRead 10 = .ok (.putfield 137, 3) := dk_181 0 137 (dk_at dksX0_textRead_0 10 rfl rfl)
theorem dX0_textRead_13 : decode cX0_textRead 13 = .ok (.aload_n 0, 1) := dk_42 (dk_at dksX0_textRead_0 13 rfl rfl)
theorem dX0_textRead_14 : decode cX0_textRead 14 = .ok (.iconst 0, 1) := dk_3 (dk_at dksX0_textRead_0 14 rfl rfl)
theorem dX0_textRead_15 : decode cX0_textRead 15 = .ok (.putfield 199, 3) := dk_181 0 199 (dk_at dksX0_textRead_0 15 rfl rfl)
theorem dX0_textRead_18 : decode cX0_textRead 18 = .ok (.aload_n 0, 1) := dk_42 (dk_at dksX0_textRead_0 18 rfl rfl)
theorem dX0_textRead_19 : decode cX0_textRead 19 = .ok (.iconst 0, 1) := dk_3 (dk_at dksX0_textRead_0 19 rfl rfl)
theorem dX0_textRead_20 : decode cX0_textRead 20 = .ok (.putfield 196, 3) := dk_181 0 196 (dk_at dksX0_textRead_0 20 rfl rfl)
theorem dX0_textRead_23 : decode cX0_textRead 23 = .ok (.aload_n 0, 1) := dk_42 (dk_at dksX0_textRead_0 23 rfl rfl)
theorem dX0_textRead_24 : decode cX0_textRead 24 = .ok (.iconst 0, 1) := dk_3 (dk_at dksX0_textRead_1 0 rfl rfl)
theorem dX0_textRead_25 : decode cX0_textRead 25 = .ok (.putfield 202, 3) := dk_181 0 202 (dk_at dksX0_textRead_1 1 rfl rfl)
theorem dX0_textRead_28 : decode cX0_textRead 28 = .ok (.aload_n 0, 1) := dk_42 (dk_at dksX0_textRead_1 4 rfl rfl)
theorem dX0_textRead_29 : decode cX0_textRead 29 = .ok (.invokevirtual 163, 3) := dk_182 0 163 (dk_at dksX0_textRead_1 5 rfl rfl)
theorem dX0_textRead_32 : decode cX0_textRead 32 = .ok (.aload_n 0, 1) := dk_42 (dk_at dksX0_textRead_1 8 rfl rfl)
theorem dX0_textRead_33 : decode cX0_textRead 33 = .ok (.aload_n 0, 1) := dk_42 (dk_at dksX0_textRead_1 9 rfl rfl)
theorem dX0_textRead_34 : decode cX0_textRead 34 = .ok (.invokevirtual 221, 3) := dk_182 0 221 (dk_at dksX0_textRead_1 10 rfl rfl)
theorem dX0_textRead_37 : decode cX0_textRead 37 = .ok (.putfield 193, 3) := dk_181 0 193 (dk_at dksX0_textRead_1 13 rfl rfl)
theorem dX0_textRead_40 : decode cX0_textRead 40 = .ok (.aload_n 0, 1) := dk_42 (dk_at dksX0_textRead_1 16 rfl rfl)
theorem dX0_textRead_41 : decode cX0_textRead 41 = .ok (.invokevirtual 224, 3) := dk_182 0 224 (dk_at dksX0_textRead_1 17 rfl rfl)
theorem dX0_textRead_44 : decode cX0_textRead 44 = .ok (.astore_n 1, 1) := dk_76 (dk_at dksX0_textRead_1 20 rfl rfl)
theorem dX0_textRead_45 : decode cX0_textRead 45 = .ok (.aload_n 0, 1) := dk_42 (dk_at dksX0_textRead_1 21 rfl rfl)
theorem dX0_textRead_46 : decode cX0_textRead 46 = .ok (.getfield 131, 3) := dk_180 0 131 (dk_at dksX0_textRead_2 0 rfl rfl)
theorem dX0_textRead_49 : decode cX0_textRead 49 = .ok (.aload_n 0, 1) := dk_42 (dk_at dksX0_textRead_2 3 rfl rfl)
theorem dX0_textRead_50 : decode cX0_textRead 50 = .ok (.getfield 140, 3) := dk_180 0 140 (dk_at dksX0_textRead_2 4 rfl rfl)
theorem dX0_textRead_53 : decode cX0_textRead 53 = .ok (.if_icmp .ge 7, 3) := dk_162 0 7 (dk_at dksX0_textRead_2 7 rfl rfl)
theorem dX0_textRead_56 : decode cX0_textRead 56 = .ok (.aload_n 0, 1) := dk_42 (dk_at dksX0_textRead_2 10 rfl rfl)
theorem dX0_textRead_57 : decode cX0_textRead 57 = .ok (.invokevirtual 150, 3) := dk_182 0 150 (dk_at dksX0_textRead_2 11 rfl rfl)
theorem dX0_textRead_60 : decode cX0_textRead 60 = .ok (.new 228, 3) := dk_187 0 228 (dk_at dksX0_textRead_2 14 rfl rfl)
theorem dX0_textRead_63 : decode cX0_textRead 63 = .ok (.dup, 1) := dk_89 (dk_at dksX0_textRead_2 17 rfl rfl)
theorem dX0_textRead_64 : decode cX0_textRead 64 = .ok (.aload_n 0, 1) := dk_42 (dk_at dksX0_textRead_2 18 rfl rfl)
theorem dX0_textRead_65 : decode cX0_textRead 65 = .ok (.getfield 193, 3) := dk_180 0 193 (dk_at dksX0_textRead_2 19 rfl rfl)
theorem dX0_textRead_68 : decode cX0_textRead 68 = .ok (.aload_n 1, 1) := dk_43 (dk_at dksX0_textRead_2 22 rfl rfl)
theorem dX0_textRead_69 : decode cX0_textRead 69 = .ok (.aload_n 0, 1) := dk_42 (dk_at dksX0_textRead_2 23 rfl rfl)
theorem dX0_textRead_70 : decode cX0_textRead 70 = .ok (.getfield 202, 3) := dk_180 0 202 (dk_at dksX0_textRead_3 0 rfl rfl)
theorem dX0_textRead_73 : decode cX0_textRead 73 = .ok (.invokespecial 230, 3) := dk_183 0 230 (dk_at dksX0_textRead_3 3 rfl rfl)
theorem dX0_textRead_76 : decode cX0_textRead 76 = .ok (.areturn, 1) := dk_176 (dk_at dksX0_textRead_3 6 rfl rfl)
abbrev cX0_goes : ByteArray := prog_1_method_15_code
def yX0_goes : MethodName := ⟨RX0, "goes", "()V"⟩
def dkwX0_goes_12 : List UInt8 := [29, 153, 0, 7, 42, 182, 0, 150, 177]
abbrev dktX0_goes_12 : List UInt8 := dkwX0_goes_12 ++ []
def dkwX0_goes_11 : List UInt8 := [100, 51, 184, 0, 147, 153, 0, 7, 4, 167, 0, 4, 3, 54, 4, 21, 4, 153, 0, 15, 28, 154, 0, 7]
abbrev dktX0_goes_11 : List UInt8 := dkwX0_goes_11 ++ dktX0_goes_12
def dkwX0_goes_10 : List UInt8 := [27, 158, 0, 35, 42, 180, 0, 57, 27, 4, 100, 51, 184, 0, 143, 154, 0, 17, 42, 180, 0, 57, 27, 4]
abbrev dktX0_goes_10 : List UInt8 := dkwX0_goes_10 ++ dktX0_goes_11
def dkwX0_goes_9 : List UInt8 := [180, 0, 140, 162, 0, 13, 42, 89, 180, 0, 137, 4, 96, 181, 0, 137, 42, 180, 0, 131, 27, 160, 0, 39]
abbrev dktX0_goes_9 : List UInt8 := dkwX0_goes_9 ++ dktX0_goes_10
def dkwX0_goes_8 : List UInt8 := [184, 0, 147, 153, 0, 37, 42, 89, 180, 0, 137, 4, 96, 181, 0, 137, 167, 255, 220, 42, 180, 0, 131, 42]
abbrev dktX0_goes_8 : List UInt8 := dkwX0_goes_8 ++ dktX0_goes_9
def dkwX0_goes_7 : List UInt8 := [29, 153, 0, 42, 42, 180, 0, 137, 42, 180, 0, 140, 162, 0, 52, 42, 180, 0, 57, 42, 180, 0, 137, 51]
abbrev dktX0_goes_7 : List UInt8 := dkwX0_goes_7 ++ dktX0_goes_8
def dkwX0_goes_6 : List UInt8 := [42, 180, 0, 137, 51, 184, 0, 143, 153, 0, 80, 42, 89, 180, 0, 137, 4, 96, 181, 0, 137, 167, 255, 220]
abbrev dktX0_goes_6 : List UInt8 := dkwX0_goes_6 ++ dktX0_goes_7
def dkwX0_goes_5 : List UInt8 := [167, 0, 4, 3, 62, 28, 153, 0, 42, 42, 180, 0, 137, 42, 180, 0, 140, 162, 0, 95, 42, 180, 0, 57]
abbrev dktX0_goes_5 : List UInt8 := dkwX0_goes_5 ++ dktX0_goes_6
def dkwX0_goes_4 : List UInt8 := [42, 180, 0, 140, 162, 0, 22, 42, 180, 0, 57, 42, 180, 0, 131, 51, 184, 0, 147, 153, 0, 7, 4]
abbrev dktX0_goes_4 : List UInt8 := dkwX0_goes_4 ++ dktX0_goes_5
def dkwX0_goes_3 : List UInt8 := [180, 0, 57, 42, 180, 0, 131, 51, 184, 0, 143, 153, 0, 7, 4, 167, 0, 4, 3, 61, 42, 180, 0, 131]
abbrev dktX0_goes_3 : List UInt8 := dkwX0_goes_3 ++ dktX0_goes_4
def dkwX0_goes_2 : List UInt8 := [167, 255, 221, 42, 42, 180, 0, 131, 181, 0, 137, 42, 180, 0, 131, 42, 180, 0, 140, 162, 0, 22, 42]
abbrev dktX0_goes_2 : List UInt8 := dkwX0_goes_2 ++ dktX0_goes_3
def dkwX0_goes_1 : List UInt8 := [42, 180, 0, 57, 42, 180, 0, 131, 51, 16, 32, 160, 0, 16, 42, 89, 180, 0, 131, 4, 96, 181, 0, 131]
abbrev dktX0_goes_1 : List UInt8 := dkwX0_goes_1 ++ dktX0_goes_2
def dkwX0_goes_0 : List UInt8 := [42, 180, 0, 137, 60, 42, 42, 180, 0, 137, 181, 0, 131, 42, 180, 0, 131, 42, 180, 0, 140, 162, 0, 30]
abbrev dktX0_goes_0 : List UInt8 := dkwX0_goes_0 ++ dktX0_goes_1
theorem dksX0_goes_0 : cX0_goes.data.toList.drop 0 = dktX0_goes_0 := by decide +kernel
theorem dksX0_goes_1 : cX0_goes.data.toList.drop 24 = dktX0_goes_1 := dk_seg dksX0_goes_0 24 rfl rfl
theorem dksX0_goes_2 : cX0_goes.data.toList.drop 48 = dktX0_goes_2 := dk_seg dksX0_goes_1 24 rfl rfl
theorem dksX0_goes_3 : cX0_goes.data.toList.drop 71 = dktX0_goes_3 := dk_seg dksX0_goes_2 23 rfl rfl
theorem dksX0_goes_4 : cX0_goes.data.toList.drop 95 = dktX0_goes_4 := dk_seg dksX0_goes_3 24 rfl rfl
theorem dksX0_goes_5 : cX0_goes.data.toList.drop 118 = dktX0_goes_5 := dk_seg dksX0_goes_4 23 rfl rfl
theorem dksX0_goes_6 : cX0_goes.data.toList.drop 142 = dktX0_goes_6 := dk_seg dksX0_goes_5 24 rfl rfl
theorem dksX0_goes_7 : cX0_goes.data.toList.drop 166 = dktX0_goes_7 := dk_seg dksX0_goes_6 24 rfl rfl
theorem dksX0_goes_8 : cX0_goes.data.toList.drop 190 = dktX0_goes_8 := dk_seg dksX0_goes_7 24 rfl rfl
theorem dksX0_goes_9 : cX0_goes.data.toList.drop 214 = dktX0_goes_9 := dk_seg dksX0_goes_8 24 rfl rfl
theorem dksX0_goes_10 : cX0_goes.data.toList.drop 238 = dktX0_goes_10 := dk_seg dksX0_goes_9 24 rfl rfl
theorem dksX0_goes_11 : cX0_goes.data.toList.drop 262 = dktX0_goes_11 := dk_seg dksX0_goes_10 24 rfl rfl
theorem dksX0_goes_12 : cX0_goes.data.toList.drop 286 = dktX0_goes_12 := dk_seg dksX0_goes_11 24 rfl rfl
theorem dX0_goes_0 : decode cX0_goes 0 = .ok (.aload_n 0, 1) := dk_42 (dk_at dksX0_goes_0 0 rfl rfl)
theorem dX0_goes_1 : decode cX0_goes 1 = .ok (.getfield 137, 3) := dk_180 0 137 (dk_at dksX0_goes_0 1 rfl rfl)
theorem dX0_goes_4 : decode cX0_goes 4 = .ok (.istore_n 1, 1) := dk_60 (dk_at dksX0_goes_0 4 rfl rfl)
theorem dX0_goes_5 : decode cX0_goes 5 = .ok (.aload_n 0, 1) := dk_42 (dk_at dksX0_goes_0 5 rfl rfl)
theorem dX0_goes_6 : decode cX0_goes 6 = .ok (.aload_n 0, 1) := dk_42 (dk_at dksX0_goes_0 6 rfl rfl)
theorem dX0_goes_7 : decode cX0_goes 7 = .ok (.getfield 137, 3) := dk_180 0 137 (dk_at dksX0_goes_0 7 rfl rfl)
theorem dX0_goes_10 : decode cX0_goes 10 = .ok (.putfield 131, 3) := dk_181 0 131 (dk_at dksX0_goes_0 10 rfl rfl)
theorem dX0_goes_13 : decode cX0_goes 13 = .ok (.aload_n 0, 1) := dk_42 (dk_at dksX0_goes_0 13 rfl rfl)
theorem dX0_goes_14 : decode cX0_goes 14 = .ok (.getfield 131, 3) := dk_180 0 131 (dk_at dksX0_goes_0 14 rfl rfl)
theorem dX0_goes_17 : decode cX0_goes 17 = .ok (.aload_n 0, 1) := dk_42 (dk_at dksX0_goes_0 17 rfl rfl)
theorem dX0_goes_18 : decode cX0_goes 18 = .ok (.getfield 140, 3) := dk_180 0 140 (dk_at dksX0_goes_0 18 rfl rfl)
theorem dX0_goes_21 : decode cX0_goes 21 = .ok (.if_icmp .ge 30, 3) := dk_162 0 30 (dk_at dksX0_goes_0 21 rfl rfl)
theorem dX0_goes_24 : decode cX0_goes 24 = .ok (.aload_n 0, 1) := dk_42 (dk_at dksX0_goes_1 0 rfl rfl)
theorem dX0_goes_25 : decode cX0_goes 25 = .ok (.getfield 57, 3) := dk_180 0 57 (dk_at dksX0_goes_1 1 rfl rfl)
theorem dX0_goes_28 : decode cX0_goes 28 = .ok (.aload_n 0, 1) := dk_42 (dk_at dksX0_goes_1 4 rfl rfl)
theorem dX0_goes_29 : decode cX0_goes 29 = .ok (.getfield 131, 3) := dk_180 0 131 (dk_at dksX0_goes_1 5 rfl rfl)
theorem dX0_goes_32 : decode cX0_goes 32 = .ok (.baload, 1) := dk_51 (dk_at dksX0_goes_1 8 rfl rfl)
theorem dX0_goes_33 : decode cX0_goes 33 = .ok (.bipush 32, 2) := dk_16 32 (dk_at dksX0_goes_1 9 rfl rfl)
theorem dX0_goes_35 : decode cX0_goes 35 = .ok (.if_icmp .ne 16, 3) := dk_160 0 16 (dk_at dksX0_goes_1 11 rfl rfl)
theorem dX0_goes_38 : decode cX0_goes 38 = .ok (.aload_n 0, 1) := dk_42 (dk_at dksX0_goes_1 14 rfl rfl)
theorem dX0_goes_39 : decode cX0_goes 39 = .ok (.dup, 1) := dk_89 (dk_at dksX0_goes_1 15 rfl rfl)
theorem dX0_goes_40 : decode cX0_goes 40 = .ok (.getfield 131, 3) := dk_180 0 131 (dk_at dksX0_goes_1 16 rfl rfl)
theorem dX0_goes_43 : decode cX0_goes 43 = .ok (.iconst 1, 1) := dk_4 (dk_at dksX0_goes_1 19 rfl rfl)
theorem dX0_goes_44 : decode cX0_goes 44 = .ok (.iadd, 1) := dk_96 (dk_at dksX0_goes_1 20 rfl rfl)
theorem dX0_goes_45 : decode cX0_goes 45 = .ok (.putfield 131, 3) := dk_181 0 131 (dk_at dksX0_goes_1 21 rfl rfl)
theorem dX0_goes_48 : decode cX0_goes 48 = .ok (.goto (-35), 3) := dk_167 255 221 (dk_at dksX0_goes_2 0 rfl rfl)
theorem dX0_goes_51 : decode cX0_goes 51 = .ok (.aload_n 0, 1) := dk_42 (dk_at dksX0_goes_2 3 rfl rfl)
theorem dX0_goes_52 : decode cX0_goes 52 = .ok (.aload_n 0, 1) := dk_42 (dk_at dksX0_goes_2 4 rfl rfl)
theorem dX0_goes_53 : decode cX0_goes 53 = .ok (.getfield 131, 3) := dk_180 0 131 (dk_at dksX0_goes_2 5 rfl rfl)
theorem dX0_goes_56 : decode cX0_goes 56 = .ok (.putfield 137, 3) := dk_181 0 137 (dk_at dksX0_goes_2 8 rfl rfl)
theorem dX0_goes_59 : decode cX0_goes 59 = .ok (.aload_n 0, 1) := dk_42 (dk_at dksX0_goes_2 11 rfl rfl)
theorem dX0_goes_60 : decode cX0_goes 60 = .ok (.getfield 131, 3) := dk_180 0 131 (dk_at dksX0_goes_2 12 rfl rfl)
theorem dX0_goes_63 : decode cX0_goes 63 = .ok (.aload_n 0, 1) := dk_42 (dk_at dksX0_goes_2 15 rfl rfl)
theorem dX0_goes_64 : decode cX0_goes 64 = .ok (.getfield 140, 3) := dk_180 0 140 (dk_at dksX0_goes_2 16 rfl rfl)
theorem dX0_goes_67 : decode cX0_goes 67 = .ok (.if_icmp .ge 22, 3) := dk_162 0 22 (dk_at dksX0_goes_2 19 rfl rfl)
theorem dX0_goes_70 : decode cX0_goes 70 = .ok (.aload_n 0, 1) := dk_42 (dk_at dksX0_goes_2 22 rfl rfl)
theorem dX0_goes_71 : decode cX0_goes 71 = .ok (.getfield 57, 3) := dk_180 0 57 (dk_at dksX0_goes_3 0 rfl rfl)
theorem dX0_goes_74 : decode cX0_goes 74 = .ok (.aload_n 0, 1) := dk_42 (dk_at dksX0_goes_3 3 rfl rfl)
theorem dX0_goes_75 : decode cX0_goes 75 = .ok (.getfield 131, 3) := dk_180 0 131 (dk_at dksX0_goes_3 4 rfl rfl)
theorem dX0_goes_78 : decode cX0_goes 78 = .ok (.baload, 1) := dk_51 (dk_at dksX0_goes_3 7 rfl rfl)
theorem dX0_goes_79 : decode cX0_goes 79 = .ok (.invokestatic 143, 3) := dk_184 0 143 (dk_at dksX0_goes_3 8 rfl rfl)
theorem dX0_goes_82 : decode cX0_goes 82 = .ok (.ifCond .eq 7, 3) := dk_153 0 7 (dk_at dksX0_goes_3 11 rfl rfl)
theorem dX0_goes_85 : decode cX0_goes 85 = .ok (.iconst 1, 1) := dk_4 (dk_at dksX0_goes_3 14 rfl rfl)
theorem dX0_goes_86 : decode cX0_goes 86 = .ok (.goto 4, 3) := dk_167 0 4 (dk_at dksX0_goes_3 15 rfl rfl)
theorem dX0_goes_89 : decode cX0_goes 89 = .ok (.iconst 0, 1) := dk_3 (dk_at dksX0_goes_3 18 rfl rfl)
theorem dX0_goes_90 : decode cX0_goes 90 = .ok (.istore_n 2, 1) := dk_61 (dk_at dksX0_goes_3 19 rfl rfl)
theorem dX0_goes_91 : decode cX0_goes 91 = .ok (.aload_n 0, 1) := dk_42 (dk_at dksX0_goes_3 20 rfl rfl)
theorem dX0_goes_92 : decode cX0_goes 92 = .ok (.getfield 131, 3) := dk_180 0 131 (dk_at dksX0_goes_3 21 rfl rfl)
theorem dX0_goes_95 : decode cX0_goes 95 = .ok (.aload_n 0, 1) := dk_42 (dk_at dksX0_goes_4 0 rfl rfl)
theorem dX0_goes_96 : decode cX0_goes 96 = .ok (.getfield 140, 3) := dk_180 0 140 (dk_at dksX0_goes_4 1 rfl rfl)
theorem dX0_goes_99 : decode cX0_goes 99 = .ok (.if_icmp .ge 22, 3) := dk_162 0 22 (dk_at dksX0_goes_4 4 rfl rfl)
theorem dX0_goes_102 : decode cX0_goes 102 = .ok (.aload_n 0, 1) := dk_42 (dk_at dksX0_goes_4 7 rfl rfl)
theorem dX0_goes_103 : decode cX0_goes 103 = .ok (.getfield 57, 3) := dk_180 0 57 (dk_at dksX0_goes_4 8 rfl rfl)
theorem dX0_goes_106 : decode cX0_goes 106 = .ok (.aload_n 0, 1) := dk_42 (dk_at dksX0_goes_4 11 rfl rfl)
theorem dX0_goes_107 : decode cX0_goes 107 = .ok (.getfield 131, 3) := dk_180 0 131 (dk_at dksX0_goes_4 12 rfl rfl)
theorem dX0_goes_110 : decode cX0_goes 110 = .ok (.baload, 1) := dk_51 (dk_at dksX0_goes_4 15 rfl rfl)
theorem dX0_goes_111 : decode cX0_goes 111 = .ok (.invokestatic 147, 3) := dk_184 0 147 (dk_at dksX0_goes_4 16 rfl rfl)
theorem dX0_goes_114 : decode cX0_goes 114 = .ok (.ifCond .eq 7, 3) := dk_153 0 7 (dk_at dksX0_goes_4 19 rfl rfl)
theorem dX0_goes_117 : decode cX0_goes 117 = .ok (.iconst 1, 1) := dk_4 (dk_at dksX0_goes_4 22 rfl rfl)
theorem dX0_goes_118 : decode cX0_goes 118 = .ok (.goto 4, 3) := dk_167 0 4 (dk_at dksX0_goes_5 0 rfl rfl)
theorem dX0_goes_121 : decode cX0_goes 121 = .ok (.iconst 0, 1) := dk_3 (dk_at dksX0_goes_5 3 rfl rfl)
theorem dX0_goes_122 : decode cX0_goes 122 = .ok (.istore_n 3, 1) := dk_62 (dk_at dksX0_goes_5 4 rfl rfl)
theorem dX0_goes_123 : decode cX0_goes 123 = .ok (.iload_n 2, 1) := dk_28 (dk_at dksX0_goes_5 5 rfl rfl)
theorem dX0_goes_124 : decode cX0_goes 124 = .ok (.ifCond .eq 42, 3) := dk_153 0 42 (dk_at dksX0_goes_5 6 rfl rfl)
theorem dX0_goes_127 : decode cX0_goes 127 = .ok (.aload_n 0, 1) := dk_42 (dk_at dksX0_goes_5 9 rfl rfl)
theorem dX0_goes_128 : decode cX0_goes 128 = .ok (.getfield 137, 3) := dk_180 0 137 (dk_at dksX0_goes_5 10 rfl rfl)
theorem dX0_goes_131 : decode cX0_goes 131 = .ok (.aload_n 0, 1) := dk_42 (dk_at dksX0_goes_5 13 rfl rfl)
theorem dX0_goes_132 : decode cX0_goes 132 = .ok (.getfield 140, 3) := dk_180 0 140 (dk_at dksX0_goes_5 14 rfl rfl)
theorem dX0_goes_135 : decode cX0_goes 135 = .ok (.if_icmp .ge 95, 3) := dk_162 0 95 (dk_at dksX0_goes_5 17 rfl rfl)
theorem dX0_goes_138 : decode cX0_goes 138 = .ok (.aload_n 0, 1) := dk_42 (dk_at dksX0_goes_5 20 rfl rfl)
theorem dX0_goes_139 : decode cX0_goes 139 = .ok (.getfield 57, 3) := dk_180 0 57 (dk_at dksX0_goes_5 21 rfl rfl)
theorem dX0_goes_142 : decode cX0_goes 142 = .ok (.aload_n 0, 1) := dk_42 (dk_at dksX0_goes_6 0 rfl rfl)
theorem dX0_goes_143 : decode cX0_goes 143 = .ok (.getfield 137, 3) := dk_180 0 137 (dk_at dksX0_goes_6 1 rfl rfl)
theorem dX0_goes_146 : decode cX0_goes 146 = .ok (.baload, 1) := dk_51 (dk_at dksX0_goes_6 4 rfl rfl)
theorem dX0_goes_147 : decode cX0_goes 147 = .ok (.invokestatic 143, 3) := dk_184 0 143 (dk_at dksX0_goes_6 5 rfl rfl)
theorem dX0_goes_150 : decode cX0_goes 150 = .ok (.ifCond .eq 80, 3) := dk_153 0 80 (dk_at dksX0_goes_6 8 rfl rfl)
theorem dX0_goes_153 : decode cX0_goes 153 = .ok (.aload_n 0, 1) := dk_42 (dk_at dksX0_goes_6 11 rfl rfl)
theorem dX0_goes_154 : decode cX0_goes 154 = .ok (.dup, 1) := dk_89 (dk_at dksX0_goes_6 12 rfl rfl)
theorem dX0_goes_155 : decode cX0_goes 155 = .ok (.getfield 137, 3) := dk_180 0 137 (dk_at dksX0_goes_6 13 rfl rfl)
theorem dX0_goes_158 : decode cX0_goes 158 = .ok (.iconst 1, 1) := dk_4 (dk_at dksX0_goes_6 16 rfl rfl)
theorem dX0_goes_159 : decode cX0_goes 159 = .ok (.iadd, 1) := dk_96 (dk_at dksX0_goes_6 17 rfl rfl)
theorem dX0_goes_160 : decode cX0_goes 160 = .ok (.putfield 137, 3) := dk_181 0 137 (dk_at dksX0_goes_6 18 rfl rfl)
theorem dX0_goes_163 : decode cX0_goes 163 = .ok (.goto (-36), 3) := dk_167 255 220 (dk_at dksX0_goes_6 21 rfl rfl)
theorem dX0_goes_166 : decode cX0_goes 166 = .ok (.iload_n 3, 1) := dk_29 (dk_at dksX0_goes_7 0 rfl rfl)
theorem dX0_goes_167 : decode cX0_goes 167 = .ok (.ifCond .eq 42, 3) := dk_153 0 42 (dk_at dksX0_goes_7 1 rfl rfl)
theorem dX0_goes_170 : decode cX0_goes 170 = .ok (.aload_n 0, 1) := dk_42 (dk_at dksX0_goes_7 4 rfl rfl)
theorem dX0_goes_171 : decode cX0_goes 171 = .ok (.getfield 137, 3) := dk_180 0 137 (dk_at dksX0_goes_7 5 rfl rfl)
theorem dX0_goes_174 : decode cX0_goes 174 = .ok (.aload_n 0, 1) := dk_42 (dk_at dksX0_goes_7 8 rfl rfl)
theorem dX0_goes_175 : decode cX0_goes 175 = .ok (.getfield 140, 3) := dk_180 0 140 (dk_at dksX0_goes_7 9 rfl rfl)
theorem dX0_goes_178 : decode cX0_goes 178 = .ok (.if_icmp .ge 52, 3) := dk_162 0 52 (dk_at dksX0_goes_7 12 rfl rfl)
theorem dX0_goes_181 : decode cX0_goes 181 = .ok (.aload_n 0, 1) := dk_42 (dk_at dksX0_goes_7 15 rfl rfl)
theorem dX0_goes_182 : decode cX0_goes 182 = .ok (.getfield 57, 3) := dk_180 0 57 (dk_at dksX0_goes_7 16 rfl rfl)
theorem dX0_goes_185 : decode cX0_goes 185 = .ok (.aload_n 0, 1) := dk_42 (dk_at dksX0_goes_7 19 rfl rfl)
theorem dX0_goes_186 : decode cX0_goes 186 = .ok (.getfield 137, 3) := dk_180 0 137 (dk_at dksX0_goes_7 20 rfl rfl)
theorem dX0_goes_189 : decode cX0_goes 189 = .ok (.baload, 1) := dk_51 (dk_at dksX0_goes_7 23 rfl rfl)
theorem dX0_goes_190 : decode cX0_goes 190 = .ok (.invokestatic 147, 3) := dk_184 0 147 (dk_at dksX0_goes_8 0 rfl rfl)
theorem dX0_goes_193 : decode cX0_goes 193 = .ok (.ifCond .eq 37, 3) := dk_153 0 37 (dk_at dksX0_goes_8 3 rfl rfl)
theorem dX0_goes_196 : decode cX0_goes 196 = .ok (.aload_n 0, 1) := dk_42 (dk_at dksX0_goes_8 6 rfl rfl)
theorem dX0_goes_197 : decode cX0_goes 197 = .ok (.dup, 1) := dk_89 (dk_at dksX0_goes_8 7 rfl rfl)
theorem dX0_goes_198 : decode cX0_goes 198 = .ok (.getfield 137, 3) := dk_180 0 137 (dk_at dksX0_goes_8 8 rfl rfl)
theorem dX0_goes_201 : decode cX0_goes 201 = .ok (.iconst 1, 1) := dk_4 (dk_at dksX0_goes_8 11 rfl rfl)
theorem dX0_goes_202 : decode cX0_goes 202 = .ok (.iadd, 1) := dk_96 (dk_at dksX0_goes_8 12 rfl rfl)
theorem dX0_goes_203 : decode cX0_goes 203 = .ok (.putfield 137, 3) := dk_181 0 137 (dk_at dksX0_goes_8 13 rfl rfl)
theorem dX0_goes_206 : decode cX0_goes 206 = .ok (.goto (-36), 3) := dk_167 255 220 (dk_at dksX0_goes_8 16 rfl rfl)
theorem dX0_goes_209 : decode cX0_goes 209 = .ok (.aload_n 0, 1) := dk_42 (dk_at dksX0_goes_8 19 rfl rfl)
theorem dX0_goes_210 : decode cX0_goes 210 = .ok (.getfield 131, 3) := dk_180 0 131 (dk_at dksX0_goes_8 20 rfl rfl)
theorem dX0_goes_213 : decode cX0_goes 213 = .ok (.aload_n 0, 1) := dk_42 (dk_at dksX0_goes_8 23 rfl rfl)
theorem dX0_goes_214 : decode cX0_goes 214 = .ok (.getfield 140, 3) := dk_180 0 140 (dk_at dksX0_goes_9 0 rfl rfl)
theorem dX0_goes_217 : decode cX0_goes 217 = .ok (.if_icmp .ge 13, 3) := dk_162 0 13 (dk_at dksX0_goes_9 3 rfl rfl)
theorem dX0_goes_220 : decode cX0_goes 220 = .ok (.aload_n 0, 1) := dk_42 (dk_at dksX0_goes_9 6 rfl rfl)
theorem dX0_goes_221 : decode cX0_goes 221 = .ok (.dup, 1) := dk_89 (dk_at dksX0_goes_9 7 rfl rfl)
theorem dX0_goes_222 : decode cX0_goes 222 = .ok (.getfield 137, 3) := dk_180 0 137 (dk_at dksX0_goes_9 8 rfl rfl)
theorem dX0_goes_225 : decode cX0_goes 225 = .ok (.iconst 1, 1) := dk_4 (dk_at dksX0_goes_9 11 rfl rfl)
theorem dX0_goes_226 : decode cX0_goes 226 = .ok (.iadd, 1) := dk_96 (dk_at dksX0_goes_9 12 rfl rfl)
theorem dX0_goes_227 : decode cX0_goes 227 = .ok (.putfield 137, 3) := dk_181 0 137 (dk_at dksX0_goes_9 13 rfl rfl)
theorem dX0_goes_230 : decode cX0_goes 230 = .ok (.aload_n 0, 1) := dk_42 (dk_at dksX0_goes_9 16 rfl rfl)
theorem dX0_goes_231 : decode cX0_goes 231 = .ok (.getfield 131, 3) := dk_180 0 131 (dk_at dksX0_goes_9 17 rfl rfl)
theorem dX0_goes_234 : decode cX0_goes 234 = .ok (.iload_n 1, 1) := dk_27 (dk_at dksX0_goes_9 20 rfl rfl)
theorem dX0_goes_235 : decode cX0_goes 235 = .ok (.if_icmp .ne 39, 3) := dk_160 0 39 (dk_at dksX0_goes_9 21 rfl rfl)
theorem dX0_goes_238 : decode cX0_goes 238 = .ok (.iload_n 1, 1) := dk_27 (dk_at dksX0_goes_10 0 rfl rfl)
theorem dX0_goes_239 : decode cX0_goes 239 = .ok (.ifCond .le 35, 3) := dk_158 0 35 (dk_at dksX0_goes_10 1 rfl rfl)
theorem dX0_goes_242 : decode cX0_goes 242 = .ok (.aload_n 0, 1) := dk_42 (dk_at dksX0_goes_10 4 rfl rfl)
theorem dX0_goes_243 : decode cX0_goes 243 = .ok (.getfield 57, 3) := dk_180 0 57 (dk_at dksX0_goes_10 5 rfl rfl)
theorem dX0_goes_246 : decode cX0_goes 246 = .ok (.iload_n 1, 1) := dk_27 (dk_at dksX0_goes_10 8 rfl rfl)
theorem dX0_goes_247 : decode cX0_goes 247 = .ok (.iconst 1, 1) := dk_4 (dk_at dksX0_goes_10 9 rfl rfl)
theorem dX0_goes_248 : decode cX0_goes 248 = .ok (.isub, 1) := dk_100 (dk_at dksX0_goes_10 10 rfl rfl)
theorem dX0_goes_249 : decode cX0_goes 249 = .ok (.baload, 1) := dk_51 (dk_at dksX0_goes_10 11 rfl rfl)
theorem dX0_goes_250 : decode cX0_goes 250 = .ok (.invokestatic 143, 3) := dk_184 0 143 (dk_at dksX0_goes_10 12 rfl rfl)
theorem dX0_goes_253 : decode cX0_goes 253 = .ok (.ifCond .ne 17, 3) := dk_154 0 17 (dk_at dksX0_goes_10 15 rfl rfl)
theorem dX0_goes_256 : decode cX0_goes 256 = .ok (.aload_n 0, 1) := dk_42 (dk_at dksX0_goes_10 18 rfl rfl)
theorem dX0_goes_257 : decode cX0_goes 257 = .ok (.getfield 57, 3) := dk_180 0 57 (dk_at dksX0_goes_10 19 rfl rfl)
theorem dX0_goes_260 : decode cX0_goes 260 = .ok (.iload_n 1, 1) := dk_27 (dk_at dksX0_goes_10 22 rfl rfl)
theorem dX0_goes_261 : decode cX0_goes 261 = .ok (.iconst 1, 1) := dk_4 (dk_at dksX0_goes_10 23 rfl rfl)
theorem dX0_goes_262 : decode cX0_goes 262 = .ok (.isub, 1) := dk_100 (dk_at dksX0_goes_11 0 rfl rfl)
theorem dX0_goes_263 : decode cX0_goes 263 = .ok (.baload, 1) := dk_51 (dk_at dksX0_goes_11 1 rfl rfl)
theorem dX0_goes_264 : decode cX0_goes 264 = .ok (.invokestatic 147, 3) := dk_184 0 147 (dk_at dksX0_goes_11 2 rfl rfl)
theorem dX0_goes_267 : decode cX0_goes 267 = .ok (.ifCond .eq 7, 3) := dk_153 0 7 (dk_at dksX0_goes_11 5 rfl rfl)
theorem dX0_goes_270 : decode cX0_goes 270 = .ok (.iconst 1, 1) := dk_4 (dk_at dksX0_goes_11 8 rfl rfl)
theorem dX0_goes_271 : decode cX0_goes 271 = .ok (.goto 4, 3) := dk_167 0 4 (dk_at dksX0_goes_11 9 rfl rfl)
theorem dX0_goes_274 : decode cX0_goes 274 = .ok (.iconst 0, 1) := dk_3 (dk_at dksX0_goes_11 12 rfl rfl)
theorem dX0_goes_275 : decode cX0_goes 275 = .ok (.istore 4, 2) := dk_54 4 (dk_at dksX0_goes_11 13 rfl rfl)
theorem dX0_goes_277 : decode cX0_goes 277 = .ok (.iload 4, 2) := dk_21 4 (dk_at dksX0_goes_11 15 rfl rfl)
theorem dX0_goes_279 : decode cX0_goes 279 = .ok (.ifCond .eq 15, 3) := dk_153 0 15 (dk_at dksX0_goes_11 17 rfl rfl)
theorem dX0_goes_282 : decode cX0_goes 282 = .ok (.iload_n 2, 1) := dk_28 (dk_at dksX0_goes_11 20 rfl rfl)
theorem dX0_goes_283 : decode cX0_goes 283 = .ok (.ifCond .ne 7, 3) := dk_154 0 7 (dk_at dksX0_goes_11 21 rfl rfl)
theorem dX0_goes_286 : decode cX0_goes 286 = .ok (.iload_n 3, 1) := dk_29 (dk_at dksX0_goes_12 0 rfl rfl)
theorem dX0_goes_287 : decode cX0_goes 287 = .ok (.ifCond .eq 7, 3) := dk_153 0 7 (dk_at dksX0_goes_12 1 rfl rfl)
theorem dX0_goes_290 : decode cX0_goes 290 = .ok (.aload_n 0, 1) := dk_42 (dk_at dksX0_goes_12 4 rfl rfl)
theorem dX0_goes_291 : decode cX0_goes 291 = .ok (.invokevirtual 150, 3) := dk_182 0 150 (dk_at dksX0_goes_12 5 rfl rfl)
theorem dX0_goes_294 : decode cX0_goes 294 = .ok (.return_, 1) := dk_177 (dk_at dksX0_goes_12 8 rfl rfl)
abbrev cX0_isLetter : ByteArray := prog_1_method_13_code
def yX0_isLetter : MethodName := ⟨RX0, "isLetter", "(I)Z"⟩
def dkwX0_isLetter_0 : List UInt8 := [26, 16, 97, 16, 122, 184, 0, 105, 172]
abbrev dktX0_isLetter_0 : List UInt8 := dkwX0_isLetter_0 ++ []
theorem dksX0_isLetter_0 : cX0_isLetter.data.toList.drop 0 = dktX0_isLetter_0 := by decide +kernel
theorem dX0_isLetter_0 : decode cX0_isLetter 0 = .ok (.iload_n 0, 1) := dk_26 (dk_at dksX0_isLetter_0 0 rfl rfl)
theorem dX0_isLetter_1 : decode cX0_isLetter 1 = .ok (.bipush 97, 2) := dk_16 97 (dk_at dksX0_isLetter_0 1 rfl rfl)
theorem dX0_isLetter_3 : decode cX0_isLetter 3 = .ok (.bipush 122, 2) := dk_16 122 (dk_at dksX0_isLetter_0 3 rfl rfl)
theorem dX0_isLetter_5 : decode cX0_isLetter 5 = .ok (.invokestatic 105, 3) := dk_184 0 105 (dk_at dksX0_isLetter_0 5 rfl rfl)
theorem dX0_isLetter_8 : decode cX0_isLetter 8 = .ok (.ireturn, 1) := dk_172 (dk_at dksX0_isLetter_0 8 rfl rfl)
abbrev cX0_isDigit : ByteArray := prog_1_method_14_code
def yX0_isDigit : MethodName := ⟨RX0, "isDigit", "(I)Z"⟩
def dkwX0_isDigit_0 : List UInt8 := [26, 16, 48, 16, 57, 184, 0, 105, 172]
abbrev dktX0_isDigit_0 : List UInt8 := dkwX0_isDigit_0 ++ []
theorem dksX0_isDigit_0 : cX0_isDigit.data.toList.drop 0 = dktX0_isDigit_0 := by decide +kernel
theorem dX0_isDigit_0 : decode cX0_isDigit 0 = .ok (.iload_n 0, 1) := dk_26 (dk_at dksX0_isDigit_0 0 rfl rfl)
theorem dX0_isDigit_1 : decode cX0_isDigit 1 = .ok (.bipush 48, 2) := dk_16 48 (dk_at dksX0_isDigit_0 1 rfl rfl)
theorem dX0_isDigit_3 : decode cX0_isDigit 3 = .ok (.bipush 57, 2) := dk_16 57 (dk_at dksX0_isDigit_0 3 rfl rfl)
theorem dX0_isDigit_5 : decode cX0_isDigit 5 = .ok (.invokestatic 105, 3) := dk_184 0 105 (dk_at dksX0_isDigit_0 5 rfl rfl)
theorem dX0_isDigit_8 : decode cX0_isDigit 8 = .ok (.ireturn, 1) := dk_172 (dk_at dksX0_isDigit_0 8 rfl rfl)
abbrev cX0_wrong : ByteArray := prog_1_method_12_code
def yX0_wrong : MethodName := ⟨RX0, "wrong", "()V"⟩
def dkwX0_wrong_0 : List UInt8 := [42, 180, 0, 64, 42, 180, 0, 131, 181, 0, 134, 42, 180, 0, 64, 191]
abbrev dktX0_wrong_0 : List UInt8 := dkwX0_wrong_0 ++ []
theorem dksX0_wrong_0 : cX0_wrong.data.toList.drop 0 = dktX0_wrong_0 := by decide +kernel
theorem dX0_wrong_0 : decode cX0_wrong 0 = .ok (.aload_n 0, 1) := dk_42 (dk_at dksX0_wrong_0 0 rfl rfl)
theorem dX0_wrong_1 : decode cX0_wrong 1 = .ok (.getfield 64, 3) := dk_180 0 64 (dk_at dksX0_wrong_0 1 rfl rfl)
theorem dX0_wrong_4 : decode cX0_wrong 4 = .ok (.aload_n 0, 1) := dk_42 (dk_at dksX0_wrong_0 4 rfl rfl)
theorem dX0_wrong_5 : decode cX0_wrong 5 = .ok (.getfield 131, 3) := dk_180 0 131 (dk_at dksX0_wrong_0 5 rfl rfl)
theorem dX0_wrong_8 : decode cX0_wrong 8 = .ok (.putfield 134, 3) := dk_181 0 134 (dk_at dksX0_wrong_0 8 rfl rfl)
theorem dX0_wrong_11 : decode cX0_wrong 11 = .ok (.aload_n 0, 1) := dk_42 (dk_at dksX0_wrong_0 11 rfl rfl)
theorem dX0_wrong_12 : decode cX0_wrong 12 = .ok (.getfield 64, 3) := dk_180 0 64 (dk_at dksX0_wrong_0 12 rfl rfl)
theorem dX0_wrong_15 : decode cX0_wrong 15 = .ok (.athrow, 1) := dk_191 (dk_at dksX0_wrong_0 15 rfl rfl)
abbrev cX0_key : ByteArray := prog_1_method_27_code
def yX0_key : MethodName := ⟨RX0, "key", "()I"⟩
def dkwX0_key_2 : List UInt8 := [182, 0, 150, 42, 182, 0, 163, 27, 172]
abbrev dktX0_key_2 : List UInt8 := dkwX0_key_2 ++ []
def dkwX0_key_1 : List UInt8 := [167, 0, 17, 42, 18, 219, 182, 0, 213, 153, 0, 7, 5, 167, 0, 4, 2, 60, 27, 2, 160, 0, 7, 42]
abbrev dktX0_key_1 : List UInt8 := dkwX0_key_1 ++ dktX0_key_2
def dkwX0_key_0 : List UInt8 := [42, 18, 211, 182, 0, 213, 153, 0, 7, 3, 167, 0, 30, 42, 18, 217, 182, 0, 213, 153, 0, 7, 4]
abbrev dktX0_key_0 : List UInt8 := dkwX0_key_0 ++ dktX0_key_1
theorem dksX0_key_0 : cX0_key.data.toList.drop 0 = dktX0_key_0 := by decide +kernel
theorem dksX0_key_1 : cX0_key.data.toList.drop 23 = dktX0_key_1 := dk_seg dksX0_key_0 23 rfl rfl
theorem dksX0_key_2 : cX0_key.data.toList.drop 47 = dktX0_key_2 := dk_seg dksX0_key_1 24 rfl rfl
theorem dX0_key_0 : decode cX0_key 0 = .ok (.aload_n 0, 1) := dk_42 (dk_at dksX0_key_0 0 rfl rfl)
theorem dX0_key_1 : decode cX0_key 1 = .ok (.ldc 211, 2) := dk_18 211 (dk_at dksX0_key_0 1 rfl rfl)
theorem dX0_key_3 : decode cX0_key 3 = .ok (.invokevirtual 213, 3) := dk_182 0 213 (dk_at dksX0_key_0 3 rfl rfl)
theorem dX0_key_6 : decode cX0_key 6 = .ok (.ifCond .eq 7, 3) := dk_153 0 7 (dk_at dksX0_key_0 6 rfl rfl)
theorem dX0_key_9 : decode cX0_key 9 = .ok (.iconst 0, 1) := dk_3 (dk_at dksX0_key_0 9 rfl rfl)
theorem dX0_key_10 : decode cX0_key 10 = .ok (.goto 30, 3) := dk_167 0 30 (dk_at dksX0_key_0 10 rfl rfl)
theorem dX0_key_13 : decode cX0_key 13 = .ok (.aload_n 0, 1) := dk_42 (dk_at dksX0_key_0 13 rfl rfl)
theorem dX0_key_14 : decode cX0_key 14 = .ok (.ldc 217, 2) := dk_18 217 (dk_at dksX0_key_0 14 rfl rfl)
theorem dX0_key_16 : decode cX0_key 16 = .ok (.invokevirtual 213, 3) := dk_182 0 213 (dk_at dksX0_key_0 16 rfl rfl)
theorem dX0_key_19 : decode cX0_key 19 = .ok (.ifCond .eq 7, 3) := dk_153 0 7 (dk_at dksX0_key_0 19 rfl rfl)
theorem dX0_key_22 : decode cX0_key 22 = .ok (.iconst 1, 1) := dk_4 (dk_at dksX0_key_0 22 rfl rfl)
theorem dX0_key_23 : decode cX0_key 23 = .ok (.goto 17, 3) := dk_167 0 17 (dk_at dksX0_key_1 0 rfl rfl)
theorem dX0_key_26 : decode cX0_key 26 = .ok (.aload_n 0, 1) := dk_42 (dk_at dksX0_key_1 3 rfl rfl)
theorem dX0_key_27 : decode cX0_key 27 = .ok (.ldc 219, 2) := dk_18 219 (dk_at dksX0_key_1 4 rfl rfl)
theorem dX0_key_29 : decode cX0_key 29 = .ok (.invokevirtual 213, 3) := dk_182 0 213 (dk_at dksX0_key_1 6 rfl rfl)
theorem dX0_key_32 : decode cX0_key 32 = .ok (.ifCond .eq 7, 3) := dk_153 0 7 (dk_at dksX0_key_1 9 rfl rfl)
theorem dX0_key_35 : decode cX0_key 35 = .ok (.iconst 2, 1) := dk_5 (dk_at dksX0_key_1 12 rfl rfl)
theorem dX0_key_36 : decode cX0_key 36 = .ok (.goto 4, 3) := dk_167 0 4 (dk_at dksX0_key_1 13 rfl rfl)
theorem dX0_key_39 : decode cX0_key 39 = .ok (.iconst (-1), 1) := dk_2 (dk_at dksX0_key_1 16 rfl rfl)
theorem dX0_key_40 : decode cX0_key 40 = .ok (.istore_n 1, 1) := dk_60 (dk_at dksX0_key_1 17 rfl rfl)
theorem dX0_key_41 : decode cX0_key 41 = .ok (.iload_n 1, 1) := dk_27 (dk_at dksX0_key_1 18 rfl rfl)
theorem dX0_key_42 : decode cX0_key 42 = .ok (.iconst (-1), 1) := dk_2 (dk_at dksX0_key_1 19 rfl rfl)
theorem dX0_key_43 : decode cX0_key 43 = .ok (.if_icmp .ne 7, 3) := dk_160 0 7 (dk_at dksX0_key_1 20 rfl rfl)
theorem dX0_key_46 : decode cX0_key 46 = .ok (.aload_n 0, 1) := dk_42 (dk_at dksX0_key_1 23 rfl rfl)
theorem dX0_key_47 : decode cX0_key 47 = .ok (.invokevirtual 150, 3) := dk_182 0 150 (dk_at dksX0_key_2 0 rfl rfl)
theorem dX0_key_50 : decode cX0_key 50 = .ok (.aload_n 0, 1) := dk_42 (dk_at dksX0_key_2 3 rfl rfl)
theorem dX0_key_51 : decode cX0_key 51 = .ok (.invokevirtual 163, 3) := dk_182 0 163 (dk_at dksX0_key_2 4 rfl rfl)
theorem dX0_key_54 : decode cX0_key 54 = .ok (.iload_n 1, 1) := dk_27 (dk_at dksX0_key_2 7 rfl rfl)
theorem dX0_key_55 : decode cX0_key 55 = .ok (.ireturn, 1) := dk_172 (dk_at dksX0_key_2 8 rfl rfl)
abbrev cX0_isWord : ByteArray := prog_1_method_16_code
def yX0_isWord : MethodName := ⟨RX0, "isWord", "(Ljava/lang/String;)Z"⟩
def dkwX0_isWord_2 : List UInt8 := [29, 182, 0, 159, 160, 0, 7, 4, 167, 0, 4, 3, 61, 132, 3, 1, 167, 255, 216, 28, 172]
abbrev dktX0_isWord_2 : List UInt8 := dkwX0_isWord_2 ++ []
def dkwX0_isWord_1 : List UInt8 := [29, 43, 182, 0, 153, 162, 0, 38, 28, 153, 0, 34, 42, 180, 0, 57, 42, 180, 0, 131, 29, 96, 51, 43]
abbrev dktX0_isWord_1 : List UInt8 := dkwX0_isWord_1 ++ dktX0_isWord_2
def dkwX0_isWord_0 : List UInt8 := [42, 180, 0, 137, 42, 180, 0, 131, 100, 43, 182, 0, 153, 160, 0, 7, 4, 167, 0, 4, 3, 61, 3, 62]
abbrev dktX0_isWord_0 : List UInt8 := dkwX0_isWord_0 ++ dktX0_isWord_1
theorem dksX0_isWord_0 : cX0_isWord.data.toList.drop 0 = dktX0_isWord_0 := by decide +kernel
theorem dksX0_isWord_1 : cX0_isWord.data.toList.drop 24 = dktX0_isWord_1 := dk_seg dksX0_isWord_0 24 rfl rfl
theorem dksX0_isWord_2 : cX0_isWord.data.toList.drop 48 = dktX0_isWord_2 := dk_seg dksX0_isWord_1 24 rfl rfl
theorem dX0_isWord_0 : decode cX0_isWord 0 = .ok (.aload_n 0, 1) := dk_42 (dk_at dksX0_isWord_0 0 rfl rfl)
theorem dX0_isWord_1 : decode cX0_isWord 1 = .ok (.getfield 137, 3) := dk_180 0 137 (dk_at dksX0_isWord_0 1 rfl rfl)
theorem dX0_isWord_4 : decode cX0_isWord 4 = .ok (.aload_n 0, 1) := dk_42 (dk_at dksX0_isWord_0 4 rfl rfl)
theorem dX0_isWord_5 : decode cX0_isWord 5 = .ok (.getfield 131, 3) := dk_180 0 131 (dk_at dksX0_isWord_0 5 rfl rfl)
theorem dX0_isWord_8 : decode cX0_isWord 8 = .ok (.isub, 1) := dk_100 (dk_at dksX0_isWord_0 8 rfl rfl)
theorem dX0_isWord_9 : decode cX0_isWord 9 = .ok (.aload_n 1, 1) := dk_43 (dk_at dksX0_isWord_0 9 rfl rfl)
theorem dX0_isWord_10 : decode cX0_isWord 10 = .ok (.invokevirtual 153, 3) := dk_182 0 153 (dk_at dksX0_isWord_0 10 rfl rfl)
theorem dX0_isWord_13 : decode cX0_isWord 13 = .ok (.if_icmp .ne 7, 3) := dk_160 0 7 (dk_at dksX0_isWord_0 13 rfl rfl)
theorem dX0_isWord_16 : decode cX0_isWord 16 = .ok (.iconst 1, 1) := dk_4 (dk_at dksX0_isWord_0 16 rfl rfl)
theorem dX0_isWord_17 : decode cX0_isWord 17 = .ok (.goto 4, 3) := dk_167 0 4 (dk_at dksX0_isWord_0 17 rfl rfl)
theorem dX0_isWord_20 : decode cX0_isWord 20 = .ok (.iconst 0, 1) := dk_3 (dk_at dksX0_isWord_0 20 rfl rfl)
theorem dX0_isWord_21 : decode cX0_isWord 21 = .ok (.istore_n 2, 1) := dk_61 (dk_at dksX0_isWord_0 21 rfl rfl)
theorem dX0_isWord_22 : decode cX0_isWord 22 = .ok (.iconst 0, 1) := dk_3 (dk_at dksX0_isWord_0 22 rfl rfl)
theorem dX0_isWord_23 : decode cX0_isWord 23 = .ok (.istore_n 3, 1) := dk_62 (dk_at dksX0_isWord_0 23 rfl rfl)
theorem dX0_isWord_24 : decode cX0_isWord 24 = .ok (.iload_n 3, 1) := dk_29 (dk_at dksX0_isWord_1 0 rfl rfl)
theorem dX0_isWord_25 : decode cX0_isWord 25 = .ok (.aload_n 1, 1) := dk_43 (dk_at dksX0_isWord_1 1 rfl rfl)
theorem dX0_isWord_26 : decode cX0_isWord 26 = .ok (.invokevirtual 153, 3) := dk_182 0 153 (dk_at dksX0_isWord_1 2 rfl rfl)
theorem dX0_isWord_29 : decode cX0_isWord 29 = .ok (.if_icmp .ge 38, 3) := dk_162 0 38 (dk_at dksX0_isWord_1 5 rfl rfl)
theorem dX0_isWord_32 : decode cX0_isWord 32 = .ok (.iload_n 2, 1) := dk_28 (dk_at dksX0_isWord_1 8 rfl rfl)
theorem dX0_isWord_33 : decode cX0_isWord 33 = .ok (.ifCond .eq 34, 3) := dk_153 0 34 (dk_at dksX0_isWord_1 9 rfl rfl)
theorem dX0_isWord_36 : decode cX0_isWord 36 = .ok (.aload_n 0, 1) := dk_42 (dk_at dksX0_isWord_1 12 rfl rfl)
theorem dX0_isWord_37 : decode cX0_isWord 37 = .ok (.getfield 57, 3) := dk_180 0 57 (dk_at dksX0_isWord_1 13 rfl rfl)
theorem dX0_isWord_40 : decode cX0_isWord 40 = .ok (.aload_n 0, 1) := dk_42 (dk_at dksX0_isWord_1 16 rfl rfl)
theorem dX0_isWord_41 : decode cX0_isWord 41 = .ok (.getfield 131, 3) := dk_180 0 131 (dk_at dksX0_isWord_1 17 rfl rfl)
theorem dX0_isWord_44 : decode cX0_isWord 44 = .ok (.iload_n 3, 1) := dk_29 (dk_at dksX0_isWord_1 20 rfl rfl)
theorem dX0_isWord_45 : decode cX0_isWord 45 = .ok (.iadd, 1) := dk_96 (dk_at dksX0_isWord_1 21 rfl rfl)
theorem dX0_isWord_46 : decode cX0_isWord 46 = .ok (.baload, 1) := dk_51 (dk_at dksX0_isWord_1 22 rfl rfl)
theorem dX0_isWord_47 : decode cX0_isWord 47 = .ok (.aload_n 1, 1) := dk_43 (dk_at dksX0_isWord_1 23 rfl rfl)
theorem dX0_isWord_48 : decode cX0_isWord 48 = .ok (.iload_n 3, 1) := dk_29 (dk_at dksX0_isWord_2 0 rfl rfl)
theorem dX0_isWord_49 : decode cX0_isWord 49 = .ok (.invokevirtual 159, 3) := dk_182 0 159 (dk_at dksX0_isWord_2 1 rfl rfl)
theorem dX0_isWord_52 : decode cX0_isWord 52 = .ok (.if_icmp .ne 7, 3) := dk_160 0 7 (dk_at dksX0_isWord_2 4 rfl rfl)
theorem dX0_isWord_55 : decode cX0_isWord 55 = .ok (.iconst 1, 1) := dk_4 (dk_at dksX0_isWord_2 7 rfl rfl)
theorem dX0_isWord_56 : decode cX0_isWord 56 = .ok (.goto 4, 3) := dk_167 0 4 (dk_at dksX0_isWord_2 8 rfl rfl)
theorem dX0_isWord_59 : decode cX0_isWord 59 = .ok (.iconst 0, 1) := dk_3 (dk_at dksX0_isWord_2 11 rfl rfl)
theorem dX0_isWord_60 : decode cX0_isWord 60 = .ok (.istore_n 2, 1) := dk_61 (dk_at dksX0_isWord_2 12 rfl rfl)
theorem dX0_isWord_61 : decode cX0_isWord 61 = .ok (.iinc 3 1, 3) := dk_132 3 1 (dk_at dksX0_isWord_2 13 rfl rfl)
theorem dX0_isWord_64 : decode cX0_isWord 64 = .ok (.goto (-40), 3) := dk_167 255 216 (dk_at dksX0_isWord_2 16 rfl rfl)
theorem dX0_isWord_67 : decode cX0_isWord 67 = .ok (.iload_n 2, 1) := dk_28 (dk_at dksX0_isWord_2 19 rfl rfl)
theorem dX0_isWord_68 : decode cX0_isWord 68 = .ok (.ireturn, 1) := dk_172 (dk_at dksX0_isWord_2 20 rfl rfl)
abbrev cX0_expression : ByteArray := prog_1_method_19_code
def yX0_expression : MethodName := ⟨RX0, "expression", "()LLeaningStreet$Words;"⟩
def dkwX0_expression_0 : List UInt8 := [187, 0, 110, 89, 183, 0, 166, 76, 42, 43, 182, 0, 167, 43, 176]
abbrev dktX0_expression_0 : List UInt8 := dkwX0_expression_0 ++ []
theorem dksX0_expression_0 : cX0_expression.data.toList.drop 0 = dktX0_expression_0 := by decide +kernel
theorem dX0_expression_0 : decode cX0_expression 0 = .ok (.new 110, 3) := dk_187 0 110 (dk_at dksX0_expression_0 0 rfl rfl)
theorem dX0_expression_3 : decode cX0_expression 3 = .ok (.dup, 1) := dk_89 (dk_at dksX0_expression_0 3 rfl rfl)
theorem dX0_expression_4 : decode cX0_expression 4 = .ok (.invokespecial 166, 3) := dk_183 0 166 (dk_at dksX0_expression_0 4 rfl rfl)
theorem dX0_expression_7 : decode cX0_expression 7 = .ok (.astore_n 1, 1) := dk_76 (dk_at dksX0_expression_0 7 rfl rfl)
theorem dX0_expression_8 : decode cX0_expression 8 = .ok (.aload_n 0, 1) := dk_42 (dk_at dksX0_expression_0 8 rfl rfl)
theorem dX0_expression_9 : decode cX0_expression 9 = .ok (.aload_n 1, 1) := dk_43 (dk_at dksX0_expression_0 9 rfl rfl)
theorem dX0_expression_10 : decode cX0_expression 10 = .ok (.invokevirtual 167, 3) := dk_182 0 167 (dk_at dksX0_expression_0 10 rfl rfl)
theorem dX0_expression_13 : decode cX0_expression 13 = .ok (.aload_n 1, 1) := dk_43 (dk_at dksX0_expression_0 13 rfl rfl)
theorem dX0_expression_14 : decode cX0_expression 14 = .ok (.areturn, 1) := dk_176 (dk_at dksX0_expression_0 14 rfl rfl)
abbrev cX0_or : ByteArray := prog_1_method_20_code
def yX0_or : MethodName := ⟨RX0, "or", "(LLeaningStreet$Words;)V"⟩
def dkwX0_or_1 : List UInt8 := [16, 11, 3, 182, 0, 177, 167, 255, 231, 177]
abbrev dktX0_or_1 : List UInt8 := dkwX0_or_1 ++ []
def dkwX0_or_0 : List UInt8 := [42, 43, 182, 0, 171, 42, 16, 124, 182, 0, 174, 153, 0, 22, 42, 182, 0, 163, 42, 43, 182, 0, 171, 43]
abbrev dktX0_or_0 : List UInt8 := dkwX0_or_0 ++ dktX0_or_1
theorem dksX0_or_0 : cX0_or.data.toList.drop 0 = dktX0_or_0 := by decide +kernel
theorem dksX0_or_1 : cX0_or.data.toList.drop 24 = dktX0_or_1 := dk_seg dksX0_or_0 24 rfl rfl
theorem dX0_or_0 : decode cX0_or 0 = .ok (.aload_n 0, 1) := dk_42 (dk_at dksX0_or_0 0 rfl rfl)
theorem dX0_or_1 : decode cX0_or 1 = .ok (.aload_n 1, 1) := dk_43 (dk_at dksX0_or_0 1 rfl rfl)
theorem dX0_or_2 : decode cX0_or 2 = .ok (.invokevirtual 171, 3) := dk_182 0 171 (dk_at dksX0_or_0 2 rfl rfl)
theorem dX0_or_5 : decode cX0_or 5 = .ok (.aload_n 0, 1) := dk_42 (dk_at dksX0_or_0 5 rfl rfl)
theorem dX0_or_6 : decode cX0_or 6 = .ok (.bipush 124, 2) := dk_16 124 (dk_at dksX0_or_0 6 rfl rfl)
theorem dX0_or_8 : decode cX0_or 8 = .ok (.invokevirtual 174, 3) := dk_182 0 174 (dk_at dksX0_or_0 8 rfl rfl)
theorem dX0_or_11 : decode cX0_or 11 = .ok (.ifCond .eq 22, 3) := dk_153 0 22 (dk_at dksX0_or_0 11 rfl rfl)
theorem dX0_or_14 : decode cX0_or 14 = .ok (.aload_n 0, 1) := dk_42 (dk_at dksX0_or_0 14 rfl rfl)
theorem dX0_or_15 : decode cX0_or 15 = .ok (.invokevirtual 163, 3) := dk_182 0 163 (dk_at dksX0_or_0 15 rfl rfl)
theorem dX0_or_18 : decode cX0_or 18 = .ok (.aload_n 0, 1) := dk_42 (dk_at dksX0_or_0 18 rfl rfl)
theorem dX0_or_19 : decode cX0_or 19 = .ok (.aload_n 1, 1) := dk_43 (dk_at dksX0_or_0 19 rfl rfl)
theorem dX0_or_20 : decode cX0_or 20 = .ok (.invokevirtual 171, 3) := dk_182 0 171 (dk_at dksX0_or_0 20 rfl rfl)
theorem dX0_or_23 : decode cX0_or 23 = .ok (.aload_n 1, 1) := dk_43 (dk_at dksX0_or_0 23 rfl rfl)
theorem dX0_or_24 : decode cX0_or 24 = .ok (.bipush 11, 2) := dk_16 11 (dk_at dksX0_or_1 0 rfl rfl)
theorem dX0_or_26 : decode cX0_or 26 = .ok (.iconst 0, 1) := dk_3 (dk_at dksX0_or_1 2 rfl rfl)
theorem dX0_or_27 : decode cX0_or 27 = .ok (.invokevirtual 177, 3) := dk_182 0 177 (dk_at dksX0_or_1 3 rfl rfl)
theorem dX0_or_30 : decode cX0_or 30 = .ok (.goto (-25), 3) := dk_167 255 231 (dk_at dksX0_or_1 6 rfl rfl)
theorem dX0_or_33 : decode cX0_or 33 = .ok (.return_, 1) := dk_177 (dk_at dksX0_or_1 9 rfl rfl)
abbrev cX0_and : ByteArray := prog_1_method_21_code
def yX0_and : MethodName := ⟨RX0, "and", "(LLeaningStreet$Words;)V"⟩
def dkwX0_and_1 : List UInt8 := [16, 10, 3, 182, 0, 177, 167, 255, 231, 177]
abbrev dktX0_and_1 : List UInt8 := dkwX0_and_1 ++ []
def dkwX0_and_0 : List UInt8 := [42, 43, 182, 0, 181, 42, 16, 38, 182, 0, 174, 153, 0, 22, 42, 182, 0, 163, 42, 43, 182, 0, 181, 43]
abbrev dktX0_and_0 : List UInt8 := dkwX0_and_0 ++ dktX0_and_1
theorem dksX0_and_0 : cX0_and.data.toList.drop 0 = dktX0_and_0 := by decide +kernel
theorem dksX0_and_1 : cX0_and.data.toList.drop 24 = dktX0_and_1 := dk_seg dksX0_and_0 24 rfl rfl
theorem dX0_and_0 : decode cX0_and 0 = .ok (.aload_n 0, 1) := dk_42 (dk_at dksX0_and_0 0 rfl rfl)
theorem dX0_and_1 : decode cX0_and 1 = .ok (.aload_n 1, 1) := dk_43 (dk_at dksX0_and_0 1 rfl rfl)
theorem dX0_and_2 : decode cX0_and 2 = .ok (.invokevirtual 181, 3) := dk_182 0 181 (dk_at dksX0_and_0 2 rfl rfl)
theorem dX0_and_5 : decode cX0_and 5 = .ok (.aload_n 0, 1) := dk_42 (dk_at dksX0_and_0 5 rfl rfl)
theorem dX0_and_6 : decode cX0_and 6 = .ok (.bipush 38, 2) := dk_16 38 (dk_at dksX0_and_0 6 rfl rfl)
theorem dX0_and_8 : decode cX0_and 8 = .ok (.invokevirtual 174, 3) := dk_182 0 174 (dk_at dksX0_and_0 8 rfl rfl)
theorem dX0_and_11 : decode cX0_and 11 = .ok (.ifCond .eq 22, 3) := dk_153 0 22 (dk_at dksX0_and_0 11 rfl rfl)
theorem dX0_and_14 : decode cX0_and 14 = .ok (.aload_n 0, 1) := dk_42 (dk_at dksX0_and_0 14 rfl rfl)
theorem dX0_and_15 : decode cX0_and 15 = .ok (.invokevirtual 163, 3) := dk_182 0 163 (dk_at dksX0_and_0 15 rfl rfl)
theorem dX0_and_18 : decode cX0_and 18 = .ok (.aload_n 0, 1) := dk_42 (dk_at dksX0_and_0 18 rfl rfl)
theorem dX0_and_19 : decode cX0_and 19 = .ok (.aload_n 1, 1) := dk_43 (dk_at dksX0_and_0 19 rfl rfl)
theorem dX0_and_20 : decode cX0_and 20 = .ok (.invokevirtual 181, 3) := dk_182 0 181 (dk_at dksX0_and_0 20 rfl rfl)
theorem dX0_and_23 : decode cX0_and 23 = .ok (.aload_n 1, 1) := dk_43 (dk_at dksX0_and_0 23 rfl rfl)
theorem dX0_and_24 : decode cX0_and 24 = .ok (.bipush 10, 2) := dk_16 10 (dk_at dksX0_and_1 0 rfl rfl)
theorem dX0_and_26 : decode cX0_and 26 = .ok (.iconst 0, 1) := dk_3 (dk_at dksX0_and_1 2 rfl rfl)
theorem dX0_and_27 : decode cX0_and 27 = .ok (.invokevirtual 177, 3) := dk_182 0 177 (dk_at dksX0_and_1 3 rfl rfl)
theorem dX0_and_30 : decode cX0_and 30 = .ok (.goto (-25), 3) := dk_167 255 231 (dk_at dksX0_and_1 6 rfl rfl)
theorem dX0_and_33 : decode cX0_and 33 = .ok (.return_, 1) := dk_177 (dk_at dksX0_and_1 9 rfl rfl)
abbrev cX0_test : ByteArray := prog_1_method_22_code
def yX0_test : MethodName := ⟨RX0, "test", "(LLeaningStreet$Words;)V"⟩
def dkwX0_test_3 : List UInt8 := [177]
abbrev dktX0_test_3 : List UInt8 := dkwX0_test_3 ++ []
def dkwX0_test_2 : List UInt8 := [167, 0, 4, 3, 61, 28, 153, 0, 18, 42, 182, 0, 163, 42, 43, 182, 0, 184, 43, 28, 3, 182, 0, 177]
abbrev dktX0_test_2 : List UInt8 := dkwX0_test_2 ++ dktX0_test_3
def dkwX0_test_1 : List UInt8 := [182, 0, 174, 153, 0, 8, 16, 8, 167, 0, 18, 42, 16, 62, 182, 0, 174, 153, 0, 8, 16, 9]
abbrev dktX0_test_1 : List UInt8 := dkwX0_test_1 ++ dktX0_test_2
def dkwX0_test_0 : List UInt8 := [42, 43, 182, 0, 184, 42, 16, 60, 182, 0, 174, 153, 0, 8, 16, 7, 167, 0, 32, 42, 16, 61]
abbrev dktX0_test_0 : List UInt8 := dkwX0_test_0 ++ dktX0_test_1
theorem dksX0_test_0 : cX0_test.data.toList.drop 0 = dktX0_test_0 := by decide +kernel
theorem dksX0_test_1 : cX0_test.data.toList.drop 22 = dktX0_test_1 := dk_seg dksX0_test_0 22 rfl rfl
theorem dksX0_test_2 : cX0_test.data.toList.drop 44 = dktX0_test_2 := dk_seg dksX0_test_1 22 rfl rfl
theorem dksX0_test_3 : cX0_test.data.toList.drop 68 = dktX0_test_3 := dk_seg dksX0_test_2 24 rfl rfl
theorem dX0_test_0 : decode cX0_test 0 = .ok (.aload_n 0, 1) := dk_42 (dk_at dksX0_test_0 0 rfl rfl)
theorem dX0_test_1 : decode cX0_test 1 = .ok (.aload_n 1, 1) := dk_43 (dk_at dksX0_test_0 1 rfl rfl)
theorem dX0_test_2 : decode cX0_test 2 = .ok (.invokevirtual 184, 3) := dk_182 0 184 (dk_at dksX0_test_0 2 rfl rfl)
theorem dX0_test_5 : decode cX0_test 5 = .ok (.aload_n 0, 1) := dk_42 (dk_at dksX0_test_0 5 rfl rfl)
theorem dX0_test_6 : decode cX0_test 6 = .ok (.bipush 60, 2) := dk_16 60 (dk_at dksX0_test_0 6 rfl rfl)
theorem dX0_test_8 : decode cX0_test 8 = .ok (.invokevirtual 174, 3) := dk_182 0 174 (dk_at dksX0_test_0 8 rfl rfl)
theorem dX0_test_11 : decode cX0_test 11 = .ok (.ifCond .eq 8, 3) := dk_153 0 8 (dk_at dksX0_test_0 11 rfl rfl)
theorem dX0_test_14 : decode cX0_test 14 = .ok (.bipush 7, 2) := dk_16 7 (dk_at dksX0_test_0 14 rfl rfl)
theorem dX0_test_16 : decode cX0_test 16 = .ok (.goto 32, 3) := dk_167 0 32 (dk_at dksX0_test_0 16 rfl rfl)
theorem dX0_test_19 : decode cX0_test 19 = .ok (.aload_n 0, 1) := dk_42 (dk_at dksX0_test_0 19 rfl rfl)
theorem dX0_test_20 : decode cX0_test 20 = .ok (.bipush 61, 2) := dk_16 61 (dk_at dksX0_test_0 20 rfl rfl)
theorem dX0_test_22 : decode cX0_test 22 = .ok (.invokevirtual 174, 3) := dk_182 0 174 (dk_at dksX0_test_1 0 rfl rfl)
theorem dX0_test_25 : decode cX0_test 25 = .ok (.ifCond .eq 8, 3) := dk_153 0 8 (dk_at dksX0_test_1 3 rfl rfl)
theorem dX0_test_28 : decode cX0_test 28 = .ok (.bipush 8, 2) := dk_16 8 (dk_at dksX0_test_1 6 rfl rfl)
theorem dX0_test_30 : decode cX0_test 30 = .ok (.goto 18, 3) := dk_167 0 18 (dk_at dksX0_test_1 8 rfl rfl)
theorem dX0_test_33 : decode cX0_test 33 = .ok (.aload_n 0, 1) := dk_42 (dk_at dksX0_test_1 11 rfl rfl)
theorem dX0_test_34 : decode cX0_test 34 = .ok (.bipush 62, 2) := dk_16 62 (dk_at dksX0_test_1 12 rfl rfl)
theorem dX0_test_36 : decode cX0_test 36 = .ok (.invokevirtual 174, 3) := dk_182 0 174 (dk_at dksX0_test_1 14 rfl rfl)
theorem dX0_test_39 : decode cX0_test 39 = .ok (.ifCond .eq 8, 3) := dk_153 0 8 (dk_at dksX0_test_1 17 rfl rfl)
theorem dX0_test_42 : decode cX0_test 42 = .ok (.bipush 9, 2) := dk_16 9 (dk_at dksX0_test_1 20 rfl rfl)
theorem dX0_test_44 : decode cX0_test 44 = .ok (.goto 4, 3) := dk_167 0 4 (dk_at dksX0_test_2 0 rfl rfl)
theorem dX0_test_47 : decode cX0_test 47 = .ok (.iconst 0, 1) := dk_3 (dk_at dksX0_test_2 3 rfl rfl)
theorem dX0_test_48 : decode cX0_test 48 = .ok (.istore_n 2, 1) := dk_61 (dk_at dksX0_test_2 4 rfl rfl)
theorem dX0_test_49 : decode cX0_test 49 = .ok (.iload_n 2, 1) := dk_28 (dk_at dksX0_test_2 5 rfl rfl)
theorem dX0_test_50 : decode cX0_test 50 = .ok (.ifCond .eq 18, 3) := dk_153 0 18 (dk_at dksX0_test_2 6 rfl rfl)
theorem dX0_test_53 : decode cX0_test 53 = .ok (.aload_n 0, 1) := dk_42 (dk_at dksX0_test_2 9 rfl rfl)
theorem dX0_test_54 : decode cX0_test 54 = .ok (.invokevirtual 163, 3) := dk_182 0 163 (dk_at dksX0_test_2 10 rfl rfl)
theorem dX0_test_57 : decode cX0_test 57 = .ok (.aload_n 0, 1) := dk_42 (dk_at dksX0_test_2 13 rfl rfl)
theorem dX0_test_58 : decode cX0_test 58 = .ok (.aload_n 1, 1) := dk_43 (dk_at dksX0_test_2 14 rfl rfl)
theorem dX0_test_59 : decode cX0_test 59 = .ok (.invokevirtual 184, 3) := dk_182 0 184 (dk_at dksX0_test_2 15 rfl rfl)
theorem dX0_test_62 : decode cX0_test 62 = .ok (.aload_n 1, 1) := dk_43 (dk_at dksX0_test_2 18 rfl rfl)
theorem dX0_test_63 : decode cX0_test 63 = .ok (.iload_n 2, 1) := dk_28 (dk_at dksX0_test_2 19 rfl rfl)
theorem dX0_test_64 : decode cX0_test 64 = .ok (.iconst 0, 1) := dk_3 (dk_at dksX0_test_2 20 rfl rfl)
theorem dX0_test_65 : decode cX0_test 65 = .ok (.invokevirtual 177, 3) := dk_182 0 177 (dk_at dksX0_test_2 21 rfl rfl)
theorem dX0_test_68 : decode cX0_test 68 = .ok (.return_, 1) := dk_177 (dk_at dksX0_test_3 0 rfl rfl)
abbrev cX0_sum : ByteArray := prog_1_method_23_code
def yX0_sum : MethodName := ⟨RX0, "sum", "(LLeaningStreet$Words;)V"⟩
def dkwX0_sum_2 : List UInt8 := [43, 28, 3, 182, 0, 177, 167, 255, 207, 177]
abbrev dktX0_sum_2 : List UInt8 := dkwX0_sum_2 ++ []
def dkwX0_sum_1 : List UInt8 := [16, 43, 182, 0, 174, 153, 0, 7, 8, 167, 0, 5, 16, 6, 61, 42, 182, 0, 163, 42, 43, 182, 0, 187]
abbrev dktX0_sum_1 : List UInt8 := dkwX0_sum_1 ++ dktX0_sum_2
def dkwX0_sum_0 : List UInt8 := [42, 43, 182, 0, 187, 42, 16, 43, 182, 0, 174, 154, 0, 12, 42, 16, 45, 182, 0, 174, 153, 0, 37, 42]
abbrev dktX0_sum_0 : List UInt8 := dkwX0_sum_0 ++ dktX0_sum_1
theorem dksX0_sum_0 : cX0_sum.data.toList.drop 0 = dktX0_sum_0 := by decide +kernel
theorem dksX0_sum_1 : cX0_sum.data.toList.drop 24 = dktX0_sum_1 := dk_seg dksX0_sum_0 24 rfl rfl
theorem dksX0_sum_2 : cX0_sum.data.toList.drop 48 = dktX0_sum_2 := dk_seg dksX0_sum_1 24 rfl rfl
theorem dX0_sum_0 : decode cX0_sum 0 = .ok (.aload_n 0, 1) := dk_42 (dk_at dksX0_sum_0 0 rfl rfl)
theorem dX0_sum_1 : decode cX0_sum 1 = .ok (.aload_n 1, 1) := dk_43 (dk_at dksX0_sum_0 1 rfl rfl)
theorem dX0_sum_2 : decode cX0_sum 2 = .ok (.invokevirtual 187, 3) := dk_182 0 187 (dk_at dksX0_sum_0 2 rfl rfl)
theorem dX0_sum_5 : decode cX0_sum 5 = .ok (.aload_n 0, 1) := dk_42 (dk_at dksX0_sum_0 5 rfl rfl)
theorem dX0_sum_6 : decode cX0_sum 6 = .ok (.bipush 43, 2) := dk_16 43 (dk_at dksX0_sum_0 6 rfl rfl)
theorem dX0_sum_8 : decode cX0_sum 8 = .ok (.invokevirtual 174, 3) := dk_182 0 174 (dk_at dksX0_sum_0 8 rfl rfl)
theorem dX0_sum_11 : decode cX0_sum 11 = .ok (.ifCond .ne 12, 3) := dk_154 0 12 (dk_at dksX0_sum_0 11 rfl rfl)
theorem dX0_sum_14 : decode cX0_sum 14 = .ok (.aload_n 0, 1) := dk_42 (dk_at dksX0_sum_0 14 rfl rfl)
theorem dX0_sum_15 : decode cX0_sum 15 = .ok (.bipush 45, 2) := dk_16 45 (dk_at dksX0_sum_0 15 rfl rfl)
theorem dX0_sum_17 : decode cX0_sum 17 = .ok (.invokevirtual 174, 3) := dk_182 0 174 (dk_at dksX0_sum_0 17 rfl rfl)
theorem dX0_sum_20 : decode cX0_sum 20 = .ok (.ifCond .eq 37, 3) := dk_153 0 37 (dk_at dksX0_sum_0 20 rfl rfl)
theorem dX0_sum_23 : decode cX0_sum 23 = .ok (.aload_n 0, 1) := dk_42 (dk_at dksX0_sum_0 23 rfl rfl)
theorem dX0_sum_24 : decode cX0_sum 24 = .ok (.bipush 43, 2) := dk_16 43 (dk_at dksX0_sum_1 0 rfl rfl)
theorem dX0_sum_26 : decode cX0_sum 26 = .ok (.invokevirtual 174, 3) := dk_182 0 174 (dk_at dksX0_sum_1 2 rfl rfl)
theorem dX0_sum_29 : decode cX0_sum 29 = .ok (.ifCond .eq 7, 3) := dk_153 0 7 (dk_at dksX0_sum_1 5 rfl rfl)
theorem dX0_sum_32 : decode cX0_sum 32 = .ok (.iconst 5, 1) := dk_8 (dk_at dksX0_sum_1 8 rfl rfl)
theorem dX0_sum_33 : decode cX0_sum 33 = .ok (.goto 5, 3) := dk_167 0 5 (dk_at dksX0_sum_1 9 rfl rfl)
theorem dX0_sum_36 : decode cX0_sum 36 = .ok (.bipush 6, 2) := dk_16 6 (dk_at dksX0_sum_1 12 rfl rfl)
theorem dX0_sum_38 : decode cX0_sum 38 = .ok (.istore_n 2, 1) := dk_61 (dk_at dksX0_sum_1 14 rfl rfl)
theorem dX0_sum_39 : decode cX0_sum 39 = .ok (.aload_n 0, 1) := dk_42 (dk_at dksX0_sum_1 15 rfl rfl)
theorem dX0_sum_40 : decode cX0_sum 40 = .ok (.invokevirtual 163, 3) := dk_182 0 163 (dk_at dksX0_sum_1 16 rfl rfl)
theorem dX0_sum_43 : decode cX0_sum 43 = .ok (.aload_n 0, 1) := dk_42 (dk_at dksX0_sum_1 19 rfl rfl)
theorem dX0_sum_44 : decode cX0_sum 44 = .ok (.aload_n 1, 1) := dk_43 (dk_at dksX0_sum_1 20 rfl rfl)
theorem dX0_sum_45 : decode cX0_sum 45 = .ok (.invokevirtual 187, 3) := dk_182 0 187 (dk_at dksX0_sum_1 21 rfl rfl)
theorem dX0_sum_48 : decode cX0_sum 48 = .ok (.aload_n 1, 1) := dk_43 (dk_at dksX0_sum_2 0 rfl rfl)
theorem dX0_sum_49 : decode cX0_sum 49 = .ok (.iload_n 2, 1) := dk_28 (dk_at dksX0_sum_2 1 rfl rfl)
theorem dX0_sum_50 : decode cX0_sum 50 = .ok (.iconst 0, 1) := dk_3 (dk_at dksX0_sum_2 2 rfl rfl)
theorem dX0_sum_51 : decode cX0_sum 51 = .ok (.invokevirtual 177, 3) := dk_182 0 177 (dk_at dksX0_sum_2 3 rfl rfl)
theorem dX0_sum_54 : decode cX0_sum 54 = .ok (.goto (-49), 3) := dk_167 255 207 (dk_at dksX0_sum_2 6 rfl rfl)
theorem dX0_sum_57 : decode cX0_sum 57 = .ok (.return_, 1) := dk_177 (dk_at dksX0_sum_2 9 rfl rfl)
abbrev cX0_term : ByteArray := prog_1_method_24_code
def yX0_term : MethodName := ⟨RX0, "term", "(LLeaningStreet$Words;)V"⟩
def dkwX0_term_2 : List UInt8 := [43, 28, 3, 182, 0, 177, 167, 255, 207, 177]
abbrev dktX0_term_2 : List UInt8 := dkwX0_term_2 ++ []
def dkwX0_term_1 : List UInt8 := [16, 42, 182, 0, 174, 153, 0, 7, 7, 167, 0, 5, 16, 12, 61, 42, 182, 0, 163, 42, 43, 182, 0, 190]
abbrev dktX0_term_1 : List UInt8 := dkwX0_term_1 ++ dktX0_term_2
def dkwX0_term_0 : List UInt8 := [42, 43, 182, 0, 190, 42, 16, 42, 182, 0, 174, 154, 0, 12, 42, 16, 47, 182, 0, 174, 153, 0, 37, 42]
abbrev dktX0_term_0 : List UInt8 := dkwX0_term_0 ++ dktX0_term_1
theorem dksX0_term_0 : cX0_term.data.toList.drop 0 = dktX0_term_0 := by decide +kernel
theorem dksX0_term_1 : cX0_term.data.toList.drop 24 = dktX0_term_1 := dk_seg dksX0_term_0 24 rfl rfl
theorem dksX0_term_2 : cX0_term.data.toList.drop 48 = dktX0_term_2 := dk_seg dksX0_term_1 24 rfl rfl
theorem dX0_term_0 : decode cX0_term 0 = .ok (.aload_n 0, 1) := dk_42 (dk_at dksX0_term_0 0 rfl rfl)
theorem dX0_term_1 : decode cX0_term 1 = .ok (.aload_n 1, 1) := dk_43 (dk_at dksX0_term_0 1 rfl rfl)
theorem dX0_term_2 : decode cX0_term 2 = .ok (.invokevirtual 190, 3) := dk_182 0 190 (dk_at dksX0_term_0 2 rfl rfl)
theorem dX0_term_5 : decode cX0_term 5 = .ok (.aload_n 0, 1) := dk_42 (dk_at dksX0_term_0 5 rfl rfl)
theorem dX0_term_6 : decode cX0_term 6 = .ok (.bipush 42, 2) := dk_16 42 (dk_at dksX0_term_0 6 rfl rfl)
theorem dX0_term_8 : decode cX0_term 8 = .ok (.invokevirtual 174, 3) := dk_182 0 174 (dk_at dksX0_term_0 8 rfl rfl)
theorem dX0_term_11 : decode cX0_term 11 = .ok (.ifCond .ne 12, 3) := dk_154 0 12 (dk_at dksX0_term_0 11 rfl rfl)
theorem dX0_term_14 : decode cX0_term 14 = .ok (.aload_n 0, 1) := dk_42 (dk_at dksX0_term_0 14 rfl rfl)
theorem dX0_term_15 : decode cX0_term 15 = .ok (.bipush 47, 2) := dk_16 47 (dk_at dksX0_term_0 15 rfl rfl)
theorem dX0_term_17 : decode cX0_term 17 = .ok (.invokevirtual 174, 3) := dk_182 0 174 (dk_at dksX0_term_0 17 rfl rfl)
theorem dX0_term_20 : decode cX0_term 20 = .ok (.ifCond .eq 37, 3) := dk_153 0 37 (dk_at dksX0_term_0 20 rfl rfl)
theorem dX0_term_23 : decode cX0_term 23 = .ok (.aload_n 0, 1) := dk_42 (dk_at dksX0_term_0 23 rfl rfl)
theorem dX0_term_24 : decode cX0_term 24 = .ok (.bipush 42, 2) := dk_16 42 (dk_at dksX0_term_1 0 rfl rfl)
theorem dX0_term_26 : decode cX0_term 26 = .ok (.invokevirtual 174, 3) := dk_182 0 174 (dk_at dksX0_term_1 2 rfl rfl)
theorem dX0_term_29 : decode cX0_term 29 = .ok (.ifCond .eq 7, 3) := dk_153 0 7 (dk_at dksX0_term_1 5 rfl rfl)
theorem dX0_term_32 : decode cX0_term 32 = .ok (.iconst 4, 1) := dk_7 (dk_at dksX0_term_1 8 rfl rfl)
theorem dX0_term_33 : decode cX0_term 33 = .ok (.goto 5, 3) := dk_167 0 5 (dk_at dksX0_term_1 9 rfl rfl)
theorem dX0_term_36 : decode cX0_term 36 = .ok (.bipush 12, 2) := dk_16 12 (dk_at dksX0_term_1 12 rfl rfl)
theorem dX0_term_38 : decode cX0_term 38 = .ok (.istore_n 2, 1) := dk_61 (dk_at dksX0_term_1 14 rfl rfl)
theorem dX0_term_39 : decode cX0_term 39 = .ok (.aload_n 0, 1) := dk_42 (dk_at dksX0_term_1 15 rfl rfl)
theorem dX0_term_40 : decode cX0_term 40 = .ok (.invokevirtual 163, 3) := dk_182 0 163 (dk_at dksX0_term_1 16 rfl rfl)
theorem dX0_term_43 : decode cX0_term 43 = .ok (.aload_n 0, 1) := dk_42 (dk_at dksX0_term_1 19 rfl rfl)
theorem dX0_term_44 : decode cX0_term 44 = .ok (.aload_n 1, 1) := dk_43 (dk_at dksX0_term_1 20 rfl rfl)
theorem dX0_term_45 : decode cX0_term 45 = .ok (.invokevirtual 190, 3) := dk_182 0 190 (dk_at dksX0_term_1 21 rfl rfl)
theorem dX0_term_48 : decode cX0_term 48 = .ok (.aload_n 1, 1) := dk_43 (dk_at dksX0_term_2 0 rfl rfl)
theorem dX0_term_49 : decode cX0_term 49 = .ok (.iload_n 2, 1) := dk_28 (dk_at dksX0_term_2 1 rfl rfl)
theorem dX0_term_50 : decode cX0_term 50 = .ok (.iconst 0, 1) := dk_3 (dk_at dksX0_term_2 2 rfl rfl)
theorem dX0_term_51 : decode cX0_term 51 = .ok (.invokevirtual 177, 3) := dk_182 0 177 (dk_at dksX0_term_2 3 rfl rfl)
theorem dX0_term_54 : decode cX0_term 54 = .ok (.goto (-49), 3) := dk_167 255 207 (dk_at dksX0_term_2 6 rfl rfl)
theorem dX0_term_57 : decode cX0_term 57 = .ok (.return_, 1) := dk_177 (dk_at dksX0_term_2 9 rfl rfl)
abbrev cX0_piece : ByteArray := prog_1_method_26_code
def yX0_piece : MethodName := ⟨RX0, "piece", "(LLeaningStreet$Words;)V"⟩
def dkwX0_piece_10 : List UInt8 := [43, 5, 42, 180, 0, 57, 42, 180, 0, 131, 51, 182, 0, 177, 42, 182, 0, 163, 177]
abbrev dktX0_piece_10 : List UInt8 := dkwX0_piece_10 ++ []
def dkwX0_piece_9 : List UInt8 := [180, 0, 131, 51, 182, 0, 208, 154, 0, 7, 42, 182, 0, 150, 42, 89, 180, 0, 202, 4, 96, 181, 0, 202]
abbrev dktX0_piece_9 : List UInt8 := dkwX0_piece_9 ++ dktX0_piece_10
def dkwX0_piece_8 : List UInt8 := [159, 0, 32, 42, 180, 0, 137, 42, 180, 0, 131, 100, 4, 160, 0, 19, 42, 42, 180, 0, 57, 42]
abbrev dktX0_piece_8 : List UInt8 := dkwX0_piece_8 ++ dktX0_piece_9
def dkwX0_piece_7 : List UInt8 := [96, 181, 0, 202, 43, 4, 42, 182, 0, 205, 182, 0, 177, 167, 0, 75, 42, 180, 0, 131, 42, 180, 0, 140]
abbrev dktX0_piece_7 : List UInt8 := dkwX0_piece_7 ++ dktX0_piece_8
def dkwX0_piece_6 : List UInt8 := [162, 0, 40, 42, 180, 0, 57, 42, 180, 0, 131, 51, 184, 0, 147, 153, 0, 25, 42, 89, 180, 0, 202, 4]
abbrev dktX0_piece_6 : List UInt8 := dkwX0_piece_6 ++ dktX0_piece_7
def dkwX0_piece_5 : List UInt8 := [182, 0, 163, 42, 89, 180, 0, 199, 4, 100, 181, 0, 199, 167, 0, 123, 42, 180, 0, 131, 42, 180, 0, 140]
abbrev dktX0_piece_5 : List UInt8 := dkwX0_piece_5 ++ dktX0_piece_6
def dkwX0_piece_4 : List UInt8 := [182, 0, 163, 42, 43, 182, 0, 167, 42, 16, 41, 182, 0, 174, 154, 0, 7, 42, 182, 0, 150, 42]
abbrev dktX0_piece_4 : List UInt8 := dkwX0_piece_4 ++ dktX0_piece_5
def dkwX0_piece_3 : List UInt8 := [180, 0, 199, 16, 8, 160, 0, 7, 42, 182, 0, 150, 42, 89, 180, 0, 199, 4, 96, 181, 0, 199, 42]
abbrev dktX0_piece_3 : List UInt8 := dkwX0_piece_3 ++ dktX0_piece_4
def dkwX0_piece_2 : List UInt8 := [89, 180, 0, 196, 4, 100, 181, 0, 196, 167, 0, 194, 42, 16, 40, 182, 0, 174, 153, 0, 65, 42]
abbrev dktX0_piece_2 : List UInt8 := dkwX0_piece_2 ++ dktX0_piece_3
def dkwX0_piece_1 : List UInt8 := [180, 0, 196, 4, 96, 181, 0, 196, 42, 182, 0, 163, 42, 43, 182, 0, 190, 43, 6, 3, 182, 0, 177, 42]
abbrev dktX0_piece_1 : List UInt8 := dkwX0_piece_1 ++ dktX0_piece_2
def dkwX0_piece_0 : List UInt8 := [42, 16, 33, 182, 0, 174, 153, 0, 54, 42, 180, 0, 196, 16, 8, 160, 0, 7, 42, 182, 0, 150, 42, 89]
abbrev dktX0_piece_0 : List UInt8 := dkwX0_piece_0 ++ dktX0_piece_1
theorem dksX0_piece_0 : cX0_piece.data.toList.drop 0 = dktX0_piece_0 := by decide +kernel
theorem dksX0_piece_1 : cX0_piece.data.toList.drop 24 = dktX0_piece_1 := dk_seg dksX0_piece_0 24 rfl rfl
theorem dksX0_piece_2 : cX0_piece.data.toList.drop 48 = dktX0_piece_2 := dk_seg dksX0_piece_1 24 rfl rfl
theorem dksX0_piece_3 : cX0_piece.data.toList.drop 70 = dktX0_piece_3 := dk_seg dksX0_piece_2 22 rfl rfl
theorem dksX0_piece_4 : cX0_piece.data.toList.drop 93 = dktX0_piece_4 := dk_seg dksX0_piece_3 23 rfl rfl
theorem dksX0_piece_5 : cX0_piece.data.toList.drop 115 = dktX0_piece_5 := dk_seg dksX0_piece_4 22 rfl rfl
theorem dksX0_piece_6 : cX0_piece.data.toList.drop 139 = dktX0_piece_6 := dk_seg dksX0_piece_5 24 rfl rfl
theorem dksX0_piece_7 : cX0_piece.data.toList.drop 163 = dktX0_piece_7 := dk_seg dksX0_piece_6 24 rfl rfl
theorem dksX0_piece_8 : cX0_piece.data.toList.drop 187 = dktX0_piece_8 := dk_seg dksX0_piece_7 24 rfl rfl
theorem dksX0_piece_9 : cX0_piece.data.toList.drop 209 = dktX0_piece_9 := dk_seg dksX0_piece_8 22 rfl rfl
theorem dksX0_piece_10 : cX0_piece.data.toList.drop 233 = dktX0_piece_10 := dk_seg dksX0_piece_9 24 rfl rfl
theorem dX0_piece_0 : decode cX0_piece 0 = .ok (.aload_n 0, 1) := dk_42 (dk_at dksX0_piece_0 0 rfl rfl)
theorem dX0_piece_1 : decode cX0_piece 1 = .ok (.bipush 33, 2) := dk_16 33 (dk_at dksX0_piece_0 1 rfl rfl)
theorem dX0_piece_3 : decode cX0_piece 3 = .ok (.invokevirtual 174, 3) := dk_182 0 174 (dk_at dksX0_piece_0 3 rfl rfl)
theorem dX0_piece_6 : decode cX0_piece 6 = .ok (.ifCond .eq 54, 3) := dk_153 0 54 (dk_at dksX0_piece_0 6 rfl rfl)
theorem dX0_piece_9 : decode cX0_piece 9 = .ok (.aload_n 0, 1) := dk_42 (dk_at dksX0_piece_0 9 rfl rfl)
theorem dX0_piece_10 : decode cX0_piece 10 = .ok (.getfield 196, 3) := dk_180 0 196 (dk_at dksX0_piece_0 10 rfl rfl)
theorem dX0_piece_13 : decode cX0_piece 13 = .ok (.bipush 8, 2) := dk_16 8 (dk_at dksX0_piece_0 13 rfl rfl)
theorem dX0_piece_15 : decode cX0_piece 15 = .ok (.if_icmp .ne 7, 3) := dk_160 0 7 (dk_at dksX0_piece_0 15 rfl rfl)
theorem dX0_piece_18 : decode cX0_piece 18 = .ok (.aload_n 0, 1) := dk_42 (dk_at dksX0_piece_0 18 rfl rfl)
theorem dX0_piece_19 : decode cX0_piece 19 = .ok (.invokevirtual 150, 3) := dk_182 0 150 (dk_at dksX0_piece_0 19 rfl rfl)
theorem dX0_piece_22 : decode cX0_piece 22 = .ok (.aload_n 0, 1) := dk_42 (dk_at dksX0_piece_0 22 rfl rfl)
theorem dX0_piece_23 : decode cX0_piece 23 = .ok (.dup, 1) := dk_89 (dk_at dksX0_piece_0 23 rfl rfl)
theorem dX0_piece_24 : decode cX0_piece 24 = .ok (.getfield 196, 3) := dk_180 0 196 (dk_at dksX0_piece_1 0 rfl rfl)
theorem dX0_piece_27 : decode cX0_piece 27 = .ok (.iconst 1, 1) := dk_4 (dk_at dksX0_piece_1 3 rfl rfl)
theorem dX0_piece_28 : decode cX0_piece 28 = .ok (.iadd, 1) := dk_96 (dk_at dksX0_piece_1 4 rfl rfl)
theorem dX0_piece_29 : decode cX0_piece 29 = .ok (.putfield 196, 3) := dk_181 0 196 (dk_at dksX0_piece_1 5 rfl rfl)
theorem dX0_piece_32 : decode cX0_piece 32 = .ok (.aload_n 0, 1) := dk_42 (dk_at dksX0_piece_1 8 rfl rfl)
theorem dX0_piece_33 : decode cX0_piece 33 = .ok (.invokevirtual 163, 3) := dk_182 0 163 (dk_at dksX0_piece_1 9 rfl rfl)
theorem dX0_piece_36 : decode cX0_piece 36 = .ok (.aload_n 0, 1) := dk_42 (dk_at dksX0_piece_1 12 rfl rfl)
theorem dX0_piece_37 : decode cX0_piece 37 = .ok (.aload_n 1, 1) := dk_43 (dk_at dksX0_piece_1 13 rfl rfl)
theorem dX0_piece_38 : decode cX0_piece 38 = .ok (.invokevirtual 190, 3) := dk_182 0 190 (dk_at dksX0_piece_1 14 rfl rfl)
theorem dX0_piece_41 : decode cX0_piece 41 = .ok (.aload_n 1, 1) := dk_43 (dk_at dksX0_piece_1 17 rfl rfl)
theorem dX0_piece_42 : decode cX0_piece 42 = .ok (.iconst 3, 1) := dk_6 (dk_at dksX0_piece_1 18 rfl rfl)
theorem dX0_piece_43 : decode cX0_piece 43 = .ok (.iconst 0, 1) := dk_3 (dk_at dksX0_piece_1 19 rfl rfl)
theorem dX0_piece_44 : decode cX0_piece 44 = .ok (.invokevirtual 177, 3) := dk_182 0 177 (dk_at dksX0_piece_1 20 rfl rfl)
theorem dX0_piece_47 : decode cX0_piece 47 = .ok (.aload_n 0, 1) := dk_42 (dk_at dksX0_piece_1 23 rfl rfl)
theorem dX0_piece_48 : decode cX0_piece 48 = .ok (.dup, 1) := dk_89 (dk_at dksX0_piece_2 0 rfl rfl)
theorem dX0_piece_49 : decode cX0_piece 49 = .ok (.getfield 196, 3) := dk_180 0 196 (dk_at dksX0_piece_2 1 rfl rfl)
theorem dX0_piece_52 : decode cX0_piece 52 = .ok (.iconst 1, 1) := dk_4 (dk_at dksX0_piece_2 4 rfl rfl)
theorem dX0_piece_53 : decode cX0_piece 53 = .ok (.isub, 1) := dk_100 (dk_at dksX0_piece_2 5 rfl rfl)
theorem dX0_piece_54 : decode cX0_piece 54 = .ok (.putfield 196, 3) := dk_181 0 196 (dk_at dksX0_piece_2 6 rfl rfl)
theorem dX0_piece_57 : decode cX0_piece 57 = .ok (.goto 194, 3) := dk_167 0 194 (dk_at dksX0_piece_2 9 rfl rfl)
theorem dX0_piece_60 : decode cX0_piece 60 = .ok (.aload_n 0, 1) := dk_42 (dk_at dksX0_piece_2 12 rfl rfl)
theorem dX0_piece_61 : decode cX0_piece 61 = .ok (.bipush 40, 2) := dk_16 40 (dk_at dksX0_piece_2 13 rfl rfl)
theorem dX0_piece_63 : decode cX0_piece 63 = .ok (.invokevirtual 174, 3) := dk_182 0 174 (dk_at dksX0_piece_2 15 rfl rfl)
theorem dX0_piece_66 : decode cX0_piece 66 = .ok (.ifCond .eq 65, 3) := dk_153 0 65 (dk_at dksX0_piece_2 18 rfl rfl)
theorem dX0_piece_69 : decode cX0_piece 69 = .ok (.aload_n 0, 1) := dk_42 (dk_at dksX0_piece_2 21 rfl rfl)
theorem dX0_piece_70 : decode cX0_piece 70 = .ok (.getfield 199, 3) := dk_180 0 199 (dk_at dksX0_piece_3 0 rfl rfl)
theorem dX0_piece_73 : decode cX0_piece 73 = .ok (.bipush 8, 2) := dk_16 8 (dk_at dksX0_piece_3 3 rfl rfl)
theorem dX0_piece_75 : decode cX0_piece 75 = .ok (.if_icmp .ne 7, 3) := dk_160 0 7 (dk_at dksX0_piece_3 5 rfl rfl)
theorem dX0_piece_78 : decode cX0_piece 78 = .ok (.aload_n 0, 1) := dk_42 (dk_at dksX0_piece_3 8 rfl rfl)
theorem dX0_piece_79 : decode cX0_piece 79 = .ok (.invokevirtual 150, 3) := dk_182 0 150 (dk_at dksX0_piece_3 9 rfl rfl)
theorem dX0_piece_82 : decode cX0_piece 82 = .ok (.aload_n 0, 1) := dk_42 (dk_at dksX0_piece_3 12 rfl rfl)
theorem dX0_piece_83 : decode cX0_piece 83 = .ok (.dup, 1) := dk_89 (dk_at dksX0_piece_3 13 rfl rfl)
theorem dX0_piece_84 : decode cX0_piece 84 = .ok (.getfield 199, 3) := dk_180 0 199 (dk_at dksX0_piece_3 14 rfl rfl)
theorem dX0_piece_87 : decode cX0_piece 87 = .ok (.iconst 1, 1) := dk_4 (dk_at dksX0_piece_3 17 rfl rfl)
theorem dX0_piece_88 : decode cX0_piece 88 = .ok (.iadd, 1) := dk_96 (dk_at dksX0_piece_3 18 rfl rfl)
theorem dX0_piece_89 : decode cX0_piece 89 = .ok (.putfield 199, 3) := dk_181 0 199 (dk_at dksX0_piece_3 19 rfl rfl)
theorem dX0_piece_92 : decode cX0_piece 92 = .ok (.aload_n 0, 1) := dk_42 (dk_at dksX0_piece_3 22 rfl rfl)
theorem dX0_piece_93 : decode cX0_piece 93 = .ok (.invokevirtual 163, 3) := dk_182 0 163 (dk_at dksX0_piece_4 0 rfl rfl)
theorem dX0_piece_96 : decode cX0_piece 96 = .ok (.aload_n 0, 1) := dk_42 (dk_at dksX0_piece_4 3 rfl rfl)
theorem dX0_piece_97 : decode cX0_piece 97 = .ok (.aload_n 1, 1) := dk_43 (dk_at dksX0_piece_4 4 rfl rfl)
theorem dX0_piece_98 : decode cX0_piece 98 = .ok (.invokevirtual 167, 3) := dk_182 0 167 (dk_at dksX0_piece_4 5 rfl rfl)
theorem dX0_piece_101 : decode cX0_piece 101 = .ok (.aload_n 0, 1) := dk_42 (dk_at dksX0_piece_4 8 rfl rfl)
theorem dX0_piece_102 : decode cX0_piece 102 = .ok (.bipush 41, 2) := dk_16 41 (dk_at dksX0_piece_4 9 rfl rfl)
theorem dX0_piece_104 : decode cX0_piece 104 = .ok (.invokevirtual 174, 3) := dk_182 0 174 (dk_at dksX0_piece_4 11 rfl rfl)
theorem dX0_piece_107 : decode cX0_piece 107 = .ok (.ifCond .ne 7, 3) := dk_154 0 7 (dk_at dksX0_piece_4 14 rfl rfl)
theorem dX0_piece_110 : decode cX0_piece 110 = .ok (.aload_n 0, 1) := dk_42 (dk_at dksX0_piece_4 17 rfl rfl)
theorem dX0_piece_111 : decode cX0_piece 111 = .ok (.invokevirtual 150, 3) := dk_182 0 150 (dk_at dksX0_piece_4 18 rfl rfl)
theorem dX0_piece_114 : decode cX0_piece 114 = .ok (.aload_n 0, 1) := dk_42 (dk_at dksX0_piece_4 21 rfl rfl)
theorem dX0_piece_115 : decode cX0_piece 115 = .ok (.invokevirtual 163, 3) := dk_182 0 163 (dk_at dksX0_piece_5 0 rfl rfl)
theorem dX0_piece_118 : decode cX0_piece 118 = .ok (.aload_n 0, 1) := dk_42 (dk_at dksX0_piece_5 3 rfl rfl)
theorem dX0_piece_119 : decode cX0_piece 119 = .ok (.dup, 1) := dk_89 (dk_at dksX0_piece_5 4 rfl rfl)
theorem dX0_piece_120 : decode cX0_piece 120 = .ok (.getfield 199, 3) := dk_180 0 199 (dk_at dksX0_piece_5 5 rfl rfl)
theorem dX0_piece_123 : decode cX0_piece 123 = .ok (.iconst 1, 1) := dk_4 (dk_at dksX0_piece_5 8 rfl rfl)
theorem dX0_piece_124 : decode cX0_piece 124 = .ok (.isub, 1) := dk_100 (dk_at dksX0_piece_5 9 rfl rfl)
theorem dX0_piece_125 : decode cX0_piece 125 = .ok (.putfield 199, 3) := dk_181 0 199 (dk_at dksX0_piece_5 10 rfl rfl)
theorem dX0_piece_128 : decode cX0_piece 128 = .ok (.goto 123, 3) := dk_167 0 123 (dk_at dksX0_piece_5 13 rfl rfl)
theorem dX0_piece_131 : decode cX0_piece 131 = .ok (.aload_n 0, 1) := dk_42 (dk_at dksX0_piece_5 16 rfl rfl)
theorem dX0_piece_132 : decode cX0_piece 132 = .ok (.getfield 131, 3) := dk_180 0 131 (dk_at dksX0_piece_5 17 rfl rfl)
theorem dX0_piece_135 : decode cX0_piece 135 = .ok (.aload_n 0, 1) := dk_42 (dk_at dksX0_piece_5 20 rfl rfl)
theorem dX0_piece_136 : decode cX0_piece 136 = .ok (.getfield 140, 3) := dk_180 0 140 (dk_at dksX0_piece_5 21 rfl rfl)
theorem dX0_piece_139 : decode cX0_piece 139 = .ok (.if_icmp .ge 40, 3) := dk_162 0 40 (dk_at dksX0_piece_6 0 rfl rfl)
theorem dX0_piece_142 : decode cX0_piece 142 = .ok (.aload_n 0, 1) := dk_42 (dk_at dksX0_piece_6 3 rfl rfl)
theorem dX0_piece_143 : decode cX0_piece 143 = .ok (.getfield 57, 3) := dk_180 0 57 (dk_at dksX0_piece_6 4 rfl rfl)
theorem dX0_piece_146 : decode cX0_piece 146 = .ok (.aload_n 0, 1) := dk_42 (dk_at dksX0_piece_6 7 rfl rfl)
theorem dX0_piece_147 : decode cX0_piece 147 = .ok (.getfield 131, 3) := dk_180 0 131 (dk_at dksX0_piece_6 8 rfl rfl)
theorem dX0_piece_150 : decode cX0_piece 150 = .ok (.baload, 1) := dk_51 (dk_at dksX0_piece_6 11 rfl rfl)
theorem dX0_piece_151 : decode cX0_piece 151 = .ok (.invokestatic 147, 3) := dk_184 0 147 (dk_at dksX0_piece_6 12 rfl rfl)
theorem dX0_piece_154 : decode cX0_piece 154 = .ok (.ifCond .eq 25, 3) := dk_153 0 25 (dk_at dksX0_piece_6 15 rfl rfl)
theorem dX0_piece_157 : decode cX0_piece 157 = .ok (.aload_n 0, 1) := dk_42 (dk_at dksX0_piece_6 18 rfl rfl)
theorem dX0_piece_158 : decode cX0_piece 158 = .ok (.dup, 1) := dk_89 (dk_at dksX0_piece_6 19 rfl rfl)
theorem dX0_piece_159 : decode cX0_piece 159 = .ok (.getfield 202, 3) := dk_180 0 202 (dk_at dksX0_piece_6 20 rfl rfl)
theorem dX0_piece_162 : decode cX0_piece 162 = .ok (.iconst 1, 1) := dk_4 (dk_at dksX0_piece_6 23 rfl rfl)
theorem dX0_piece_163 : decode cX0_piece 163 = .ok (.iadd, 1) := dk_96 (dk_at dksX0_piece_7 0 rfl rfl)
theorem dX0_piece_164 : decode cX0_piece 164 = .ok (.putfield 202, 3) := dk_181 0 202 (dk_at dksX0_piece_7 1 rfl rfl)
theorem dX0_piece_167 : decode cX0_piece 167 = .ok (.aload_n 1, 1) := dk_43 (dk_at dksX0_piece_7 4 rfl rfl)
theorem dX0_piece_168 : decode cX0_piece 168 = .ok (.iconst 1, 1) := dk_4 (dk_at dksX0_piece_7 5 rfl rfl)
theorem dX0_piece_169 : decode cX0_piece 169 = .ok (.aload_n 0, 1) := dk_42 (dk_at dksX0_piece_7 6 rfl rfl)
theorem dX0_piece_170 : decode cX0_piece 170 = .ok (.invokevirtual 205, 3) := dk_182 0 205 (dk_at dksX0_piece_7 7 rfl rfl)
theorem dX0_piece_173 : decode cX0_piece 173 = .ok (.invokevirtual 177, 3) := dk_182 0 177 (dk_at dksX0_piece_7 10 rfl rfl)
theorem dX0_piece_176 : decode cX0_piece 176 = .ok (.goto 75, 3) := dk_167 0 75 (dk_at dksX0_piece_7 13 rfl rfl)
theorem dX0_piece_179 : decode cX0_piece 179 = .ok (.aload_n 0, 1) := dk_42 (dk_at dksX0_piece_7 16 rfl rfl)
theorem dX0_piece_180 : decode cX0_piece 180 = .ok (.getfield 131, 3) := dk_180 0 131 (dk_at dksX0_piece_7 17 rfl rfl)
theorem dX0_piece_183 : decode cX0_piece 183 = .ok (.aload_n 0, 1) := dk_42 (dk_at dksX0_piece_7 20 rfl rfl)
theorem dX0_piece_184 : decode cX0_piece 184 = .ok (.getfield 140, 3) := dk_180 0 140 (dk_at dksX0_piece_7 21 rfl rfl)
theorem dX0_piece_187 : decode cX0_piece 187 = .ok (.if_icmp .eq 32, 3) := dk_159 0 32 (dk_at dksX0_piece_8 0 rfl rfl)
theorem dX0_piece_190 : decode cX0_piece 190 = .ok (.aload_n 0, 1) := dk_42 (dk_at dksX0_piece_8 3 rfl rfl)
theorem dX0_piece_191 : decode cX0_piece 191 = .ok (.getfield 137, 3) := dk_180 0 137 (dk_at dksX0_piece_8 4 rfl rfl)
theorem dX0_piece_194 : decode cX0_piece 194 = .ok (.aload_n 0, 1) := dk_42 (dk_at dksX0_piece_8 7 rfl rfl)
theorem dX0_piece_195 : decode cX0_piece 195 = .ok (.getfield 131, 3) := dk_180 0 131 (dk_at dksX0_piece_8 8 rfl rfl)
theorem dX0_piece_198 : decode cX0_piece 198 = .ok (.isub, 1) := dk_100 (dk_at dksX0_piece_8 11 rfl rfl)
theorem dX0_piece_199 : decode cX0_piece 199 = .ok (.iconst 1, 1) := dk_4 (dk_at dksX0_piece_8 12 rfl rfl)
theorem dX0_piece_200 : decode cX0_piece 200 = .ok (.if_icmp .ne 19, 3) := dk_160 0 19 (dk_at dksX0_piece_8 13 rfl rfl)
theorem dX0_piece_203 : decode cX0_piece 203 = .ok (.aload_n 0, 1) := dk_42 (dk_at dksX0_piece_8 16 rfl rfl)
theorem dX0_piece_204 : decode cX0_piece 204 = .ok (.aload_n 0, 1) := dk_42 (dk_at dksX0_piece_8 17 rfl rfl)
theorem dX0_piece_205 : decode cX0_piece 205 = .ok (.getfield 57, 3) := dk_180 0 57 (dk_at dksX0_piece_8 18 rfl rfl)
theorem dX0_piece_208 : decode cX0_piece 208 = .ok (.aload_n 0, 1) := dk_42 (dk_at dksX0_piece_8 21 rfl rfl)
theorem dX0_piece_209 : decode cX0_piece 209 = .ok (.getfield 131, 3) := dk_180 0 131 (dk_at dksX0_piece_9 0 rfl rfl)
theorem dX0_piece_212 : decode cX0_piece 212 = .ok (.baload, 1) := dk_51 (dk_at dksX0_piece_9 3 rfl rfl)
theorem dX0_piece_213 : decode cX0_piece 213 = .ok (.invokevirtual 208, 3) := dk_182 0 208 (dk_at dksX0_piece_9 4 rfl rfl)
theorem dX0_piece_216 : decode cX0_piece 216 = .ok (.ifCond .ne 7, 3) := dk_154 0 7 (dk_at dksX0_piece_9 7 rfl rfl)
theorem dX0_piece_219 : decode cX0_piece 219 = .ok (.aload_n 0, 1) := dk_42 (dk_at dksX0_piece_9 10 rfl rfl)
theorem dX0_piece_220 : decode cX0_piece 220 = .ok (.invokevirtual 150, 3) := dk_182 0 150 (dk_at dksX0_piece_9 11 rfl rfl)
theorem dX0_piece_223 : decode cX0_piece 223 = .ok (.aload_n 0, 1) := dk_42 (dk_at dksX0_piece_9 14 rfl rfl)
theorem dX0_piece_224 : decode cX0_piece 224 = .ok (.dup, 1) := dk_89 (dk_at dksX0_piece_9 15 rfl rfl)
theorem dX0_piece_225 : decode cX0_piece 225 = .ok (.getfield 202, 3) := dk_180 0 202 (dk_at dksX0_piece_9 16 rfl rfl)
theorem dX0_piece_228 : decode cX0_piece 228 = .ok (.iconst 1, 1) := dk_4 (dk_at dksX0_piece_9 19 rfl rfl)
theorem dX0_piece_229 : decode cX0_piece 229 = .ok (.iadd, 1) := dk_96 (dk_at dksX0_piece_9 20 rfl rfl)
theorem dX0_piece_230 : decode cX0_piece 230 = .ok (.putfield 202, 3) := dk_181 0 202 (dk_at dksX0_piece_9 21 rfl rfl)
theorem dX0_piece_233 : decode cX0_piece 233 = .ok (.aload_n 1, 1) := dk_43 (dk_at dksX0_piece_10 0 rfl rfl)
theorem dX0_piece_234 : decode cX0_piece 234 = .ok (.iconst 2, 1) := dk_5 (dk_at dksX0_piece_10 1 rfl rfl)
theorem dX0_piece_235 : decode cX0_piece 235 = .ok (.aload_n 0, 1) := dk_42 (dk_at dksX0_piece_10 2 rfl rfl)
theorem dX0_piece_236 : decode cX0_piece 236 = .ok (.getfield 57, 3) := dk_180 0 57 (dk_at dksX0_piece_10 3 rfl rfl)
theorem dX0_piece_239 : decode cX0_piece 239 = .ok (.aload_n 0, 1) := dk_42 (dk_at dksX0_piece_10 6 rfl rfl)
theorem dX0_piece_240 : decode cX0_piece 240 = .ok (.getfield 131, 3) := dk_180 0 131 (dk_at dksX0_piece_10 7 rfl rfl)
theorem dX0_piece_243 : decode cX0_piece 243 = .ok (.baload, 1) := dk_51 (dk_at dksX0_piece_10 10 rfl rfl)
theorem dX0_piece_244 : decode cX0_piece 244 = .ok (.invokevirtual 177, 3) := dk_182 0 177 (dk_at dksX0_piece_10 11 rfl rfl)
theorem dX0_piece_247 : decode cX0_piece 247 = .ok (.aload_n 0, 1) := dk_42 (dk_at dksX0_piece_10 14 rfl rfl)
theorem dX0_piece_248 : decode cX0_piece 248 = .ok (.invokevirtual 163, 3) := dk_182 0 163 (dk_at dksX0_piece_10 15 rfl rfl)
theorem dX0_piece_251 : decode cX0_piece 251 = .ok (.return_, 1) := dk_177 (dk_at dksX0_piece_10 18 rfl rfl)
abbrev cX0_isSign : ByteArray := prog_1_method_17_code
def yX0_isSign : MethodName := ⟨RX0, "isSign", "(I)Z"⟩
def dkwX0_isSign_1 : List UInt8 := [42, 180, 0, 57, 42, 180, 0, 131, 51, 27, 160, 0, 7, 4, 167, 0, 4, 3, 172]
abbrev dktX0_isSign_1 : List UInt8 := dkwX0_isSign_1 ++ []
def dkwX0_isSign_0 : List UInt8 := [42, 180, 0, 131, 42, 180, 0, 140, 162, 0, 33, 42, 180, 0, 137, 42, 180, 0, 131, 100, 4, 160, 0, 20]
abbrev dktX0_isSign_0 : List UInt8 := dkwX0_isSign_0 ++ dktX0_isSign_1
theorem dksX0_isSign_0 : cX0_isSign.data.toList.drop 0 = dktX0_isSign_0 := by decide +kernel
theorem dksX0_isSign_1 : cX0_isSign.data.toList.drop 24 = dktX0_isSign_1 := dk_seg dksX0_isSign_0 24 rfl rfl
theorem dX0_isSign_0 : decode cX0_isSign 0 = .ok (.aload_n 0, 1) := dk_42 (dk_at dksX0_isSign_0 0 rfl rfl)
theorem dX0_isSign_1 : decode cX0_isSign 1 = .ok (.getfield 131, 3) := dk_180 0 131 (dk_at dksX0_isSign_0 1 rfl rfl)
theorem dX0_isSign_4 : decode cX0_isSign 4 = .ok (.aload_n 0, 1) := dk_42 (dk_at dksX0_isSign_0 4 rfl rfl)
theorem dX0_isSign_5 : decode cX0_isSign 5 = .ok (.getfield 140, 3) := dk_180 0 140 (dk_at dksX0_isSign_0 5 rfl rfl)
theorem dX0_isSign_8 : decode cX0_isSign 8 = .ok (.if_icmp .ge 33, 3) := dk_162 0 33 (dk_at dksX0_isSign_0 8 rfl rfl)
theorem dX0_isSign_11 : decode cX0_isSign 11 = .ok (.aload_n 0, 1) := dk_42 (dk_at dksX0_isSign_0 11 rfl rfl)
theorem dX0_isSign_12 : decode cX0_isSign 12 = .ok (.getfield 137, 3) := dk_180 0 137 (dk_at dksX0_isSign_0 12 rfl rfl)
theorem dX0_isSign_15 : decode cX0_isSign 15 = .ok (.aload_n 0, 1) := dk_42 (dk_at dksX0_isSign_0 15 rfl rfl)
theorem dX0_isSign_16 : decode cX0_isSign 16 = .ok (.getfield 131, 3) := dk_180 0 131 (dk_at dksX0_isSign_0 16 rfl rfl)
theorem dX0_isSign_19 : decode cX0_isSign 19 = .ok (.isub, 1) := dk_100 (dk_at dksX0_isSign_0 19 rfl rfl)
theorem dX0_isSign_20 : decode cX0_isSign 20 = .ok (.iconst 1, 1) := dk_4 (dk_at dksX0_isSign_0 20 rfl rfl)
theorem dX0_isSign_21 : decode cX0_isSign 21 = .ok (.if_icmp .ne 20, 3) := dk_160 0 20 (dk_at dksX0_isSign_0 21 rfl rfl)
theorem dX0_isSign_24 : decode cX0_isSign 24 = .ok (.aload_n 0, 1) := dk_42 (dk_at dksX0_isSign_1 0 rfl rfl)
theorem dX0_isSign_25 : decode cX0_isSign 25 = .ok (.getfield 57, 3) := dk_180 0 57 (dk_at dksX0_isSign_1 1 rfl rfl)
theorem dX0_isSign_28 : decode cX0_isSign 28 = .ok (.aload_n 0, 1) := dk_42 (dk_at dksX0_isSign_1 4 rfl rfl)
theorem dX0_isSign_29 : decode cX0_isSign 29 = .ok (.getfield 131, 3) := dk_180 0 131 (dk_at dksX0_isSign_1 5 rfl rfl)
theorem dX0_isSign_32 : decode cX0_isSign 32 = .ok (.baload, 1) := dk_51 (dk_at dksX0_isSign_1 8 rfl rfl)
theorem dX0_isSign_33 : decode cX0_isSign 33 = .ok (.iload_n 1, 1) := dk_27 (dk_at dksX0_isSign_1 9 rfl rfl)
theorem dX0_isSign_34 : decode cX0_isSign 34 = .ok (.if_icmp .ne 7, 3) := dk_160 0 7 (dk_at dksX0_isSign_1 10 rfl rfl)
theorem dX0_isSign_37 : decode cX0_isSign 37 = .ok (.iconst 1, 1) := dk_4 (dk_at dksX0_isSign_1 13 rfl rfl)
theorem dX0_isSign_38 : decode cX0_isSign 38 = .ok (.goto 4, 3) := dk_167 0 4 (dk_at dksX0_isSign_1 14 rfl rfl)
theorem dX0_isSign_41 : decode cX0_isSign 41 = .ok (.iconst 0, 1) := dk_3 (dk_at dksX0_isSign_1 17 rfl rfl)
theorem dX0_isSign_42 : decode cX0_isSign 42 = .ok (.ireturn, 1) := dk_172 (dk_at dksX0_isSign_1 18 rfl rfl)
abbrev cX0_number : ByteArray := prog_1_method_18_code
def yX0_number : MethodName := ⟨RX0, "number", "()I"⟩
def dkwX0_number_3 : List UInt8 := [16, 48, 100, 60, 132, 2, 1, 167, 255, 230, 42, 182, 0, 163, 27, 172]
abbrev dktX0_number_3 : List UInt8 := dkwX0_number_3 ++ []
def dkwX0_number_2 : List UInt8 := [180, 0, 131, 61, 28, 42, 180, 0, 137, 162, 0, 24, 16, 10, 27, 104, 42, 180, 0, 57, 28, 51, 96]
abbrev dktX0_number_2 : List UInt8 := dkwX0_number_2 ++ dktX0_number_3
def dkwX0_number_1 : List UInt8 := [153, 0, 16, 42, 180, 0, 137, 42, 180, 0, 131, 100, 7, 164, 0, 7, 42, 182, 0, 150, 3, 60, 42]
abbrev dktX0_number_1 : List UInt8 := dkwX0_number_1 ++ dktX0_number_2
def dkwX0_number_0 : List UInt8 := [42, 180, 0, 131, 42, 180, 0, 140, 159, 0, 31, 42, 180, 0, 57, 42, 180, 0, 131, 51, 184, 0, 147]
abbrev dktX0_number_0 : List UInt8 := dkwX0_number_0 ++ dktX0_number_1
theorem dksX0_number_0 : cX0_number.data.toList.drop 0 = dktX0_number_0 := by decide +kernel
theorem dksX0_number_1 : cX0_number.data.toList.drop 23 = dktX0_number_1 := dk_seg dksX0_number_0 23 rfl rfl
theorem dksX0_number_2 : cX0_number.data.toList.drop 46 = dktX0_number_2 := dk_seg dksX0_number_1 23 rfl rfl
theorem dksX0_number_3 : cX0_number.data.toList.drop 69 = dktX0_number_3 := dk_seg dksX0_number_2 23 rfl rfl
theorem dX0_number_0 : decode cX0_number 0 = .ok (.aload_n 0, 1) := dk_42 (dk_at dksX0_number_0 0 rfl rfl)
theorem dX0_number_1 : decode cX0_number 1 = .ok (.getfield 131, 3) := dk_180 0 131 (dk_at dksX0_number_0 1 rfl rfl)
theorem dX0_number_4 : decode cX0_number 4 = .ok (.aload_n 0, 1) := dk_42 (dk_at dksX0_number_0 4 rfl rfl)
theorem dX0_number_5 : decode cX0_number 5 = .ok (.getfield 140, 3) := dk_180 0 140 (dk_at dksX0_number_0 5 rfl rfl)
theorem dX0_number_8 : decode cX0_number 8 = .ok (.if_icmp .eq 31, 3) := dk_159 0 31 (dk_at dksX0_number_0 8 rfl rfl)
theorem dX0_number_11 : decode cX0_number 11 = .ok (.aload_n 0, 1) := dk_42 (dk_at dksX0_number_0 11 rfl rfl)
theorem dX0_number_12 : decode cX0_number 12 = .ok (.getfield 57, 3) := dk_180 0 57 (dk_at dksX0_number_0 12 rfl rfl)
theorem dX0_number_15 : decode cX0_number 15 = .ok (.aload_n 0, 1) := dk_42 (dk_at dksX0_number_0 15 rfl rfl)
theorem dX0_number_16 : decode cX0_number 16 = .ok (.getfield 131, 3) := dk_180 0 131 (dk_at dksX0_number_0 16 rfl rfl)
theorem dX0_number_19 : decode cX0_number 19 = .ok (.baload, 1) := dk_51 (dk_at dksX0_number_0 19 rfl rfl)
theorem dX0_number_20 : decode cX0_number 20 = .ok (.invokestatic 147, 3) := dk_184 0 147 (dk_at dksX0_number_0 20 rfl rfl)
theorem dX0_number_23 : decode cX0_number 23 = .ok (.ifCond .eq 16, 3) := dk_153 0 16 (dk_at dksX0_number_1 0 rfl rfl)
theorem dX0_number_26 : decode cX0_number 26 = .ok (.aload_n 0, 1) := dk_42 (dk_at dksX0_number_1 3 rfl rfl)
theorem dX0_number_27 : decode cX0_number 27 = .ok (.getfield 137, 3) := dk_180 0 137 (dk_at dksX0_number_1 4 rfl rfl)
theorem dX0_number_30 : decode cX0_number 30 = .ok (.aload_n 0, 1) := dk_42 (dk_at dksX0_number_1 7 rfl rfl)
theorem dX0_number_31 : decode cX0_number 31 = .ok (.getfield 131, 3) := dk_180 0 131 (dk_at dksX0_number_1 8 rfl rfl)
theorem dX0_number_34 : decode cX0_number 34 = .ok (.isub, 1) := dk_100 (dk_at dksX0_number_1 11 rfl rfl)
theorem dX0_number_35 : decode cX0_number 35 = .ok (.iconst 4, 1) := dk_7 (dk_at dksX0_number_1 12 rfl rfl)
theorem dX0_number_36 : decode cX0_number 36 = .ok (.if_icmp .le 7, 3) := dk_164 0 7 (dk_at dksX0_number_1 13 rfl rfl)
theorem dX0_number_39 : decode cX0_number 39 = .ok (.aload_n 0, 1) := dk_42 (dk_at dksX0_number_1 16 rfl rfl)
theorem dX0_number_40 : decode cX0_number 40 = .ok (.invokevirtual 150, 3) := dk_182 0 150 (dk_at dksX0_number_1 17 rfl rfl)
theorem dX0_number_43 : decode cX0_number 43 = .ok (.iconst 0, 1) := dk_3 (dk_at dksX0_number_1 20 rfl rfl)
theorem dX0_number_44 : decode cX0_number 44 = .ok (.istore_n 1, 1) := dk_60 (dk_at dksX0_number_1 21 rfl rfl)
theorem dX0_number_45 : decode cX0_number 45 = .ok (.aload_n 0, 1) := dk_42 (dk_at dksX0_number_1 22 rfl rfl)
theorem dX0_number_46 : decode cX0_number 46 = .ok (.getfield 131, 3) := dk_180 0 131 (dk_at dksX0_number_2 0 rfl rfl)
theorem dX0_number_49 : decode cX0_number 49 = .ok (.istore_n 2, 1) := dk_61 (dk_at dksX0_number_2 3 rfl rfl)
theorem dX0_number_50 : decode cX0_number 50 = .ok (.iload_n 2, 1) := dk_28 (dk_at dksX0_number_2 4 rfl rfl)
theorem dX0_number_51 : decode cX0_number 51 = .ok (.aload_n 0, 1) := dk_42 (dk_at dksX0_number_2 5 rfl rfl)
theorem dX0_number_52 : decode cX0_number 52 = .ok (.getfield 137, 3) := dk_180 0 137 (dk_at dksX0_number_2 6 rfl rfl)
theorem dX0_number_55 : decode cX0_number 55 = .ok (.if_icmp .ge 24, 3) := dk_162 0 24 (dk_at dksX0_number_2 9 rfl rfl)
theorem dX0_number_58 : decode cX0_number 58 = .ok (.bipush 10, 2) := dk_16 10 (dk_at dksX0_number_2 12 rfl rfl)
theorem dX0_number_60 : decode cX0_number 60 = .ok (.iload_n 1, 1) := dk_27 (dk_at dksX0_number_2 14 rfl rfl)
theorem dX0_number_61 : decode cX0_number 61 = .ok (.imul, 1) := dk_104 (dk_at dksX0_number_2 15 rfl rfl)
theorem dX0_number_62 : decode cX0_number 62 = .ok (.aload_n 0, 1) := dk_42 (dk_at dksX0_number_2 16 rfl rfl)
theorem dX0_number_63 : decode cX0_number 63 = .ok (.getfield 57, 3) := dk_180 0 57 (dk_at dksX0_number_2 17 rfl rfl)
theorem dX0_number_66 : decode cX0_number 66 = .ok (.iload_n 2, 1) := dk_28 (dk_at dksX0_number_2 20 rfl rfl)
theorem dX0_number_67 : decode cX0_number 67 = .ok (.baload, 1) := dk_51 (dk_at dksX0_number_2 21 rfl rfl)
theorem dX0_number_68 : decode cX0_number 68 = .ok (.iadd, 1) := dk_96 (dk_at dksX0_number_2 22 rfl rfl)
theorem dX0_number_69 : decode cX0_number 69 = .ok (.bipush 48, 2) := dk_16 48 (dk_at dksX0_number_3 0 rfl rfl)
theorem dX0_number_71 : decode cX0_number 71 = .ok (.isub, 1) := dk_100 (dk_at dksX0_number_3 2 rfl rfl)
theorem dX0_number_72 : decode cX0_number 72 = .ok (.istore_n 1, 1) := dk_60 (dk_at dksX0_number_3 3 rfl rfl)
theorem dX0_number_73 : decode cX0_number 73 = .ok (.iinc 2 1, 3) := dk_132 2 1 (dk_at dksX0_number_3 4 rfl rfl)
theorem dX0_number_76 : decode cX0_number 76 = .ok (.goto (-26), 3) := dk_167 255 230 (dk_at dksX0_number_3 7 rfl rfl)
theorem dX0_number_79 : decode cX0_number 79 = .ok (.aload_n 0, 1) := dk_42 (dk_at dksX0_number_3 10 rfl rfl)
theorem dX0_number_80 : decode cX0_number 80 = .ok (.invokevirtual 163, 3) := dk_182 0 163 (dk_at dksX0_number_3 11 rfl rfl)
theorem dX0_number_83 : decode cX0_number 83 = .ok (.iload_n 1, 1) := dk_27 (dk_at dksX0_number_3 14 rfl rfl)
theorem dX0_number_84 : decode cX0_number 84 = .ok (.ireturn, 1) := dk_172 (dk_at dksX0_number_3 15 rfl rfl)
abbrev cX0_isName : ByteArray := prog_1_method_25_code
def yX0_isName : MethodName := ⟨RX0, "isName", "(I)Z"⟩
def dkwX0_isName_4 : List UInt8 := [160, 0, 7, 4, 167, 0, 4, 3, 172, 3, 172]
abbrev dktX0_isName_4 : List UInt8 := dkwX0_isName_4 ++ []
def dkwX0_isName_3 : List UInt8 := [167, 0, 4, 3, 172, 42, 180, 0, 193, 4, 160, 0, 7, 4, 167, 0, 4, 3, 172, 42, 180, 0, 193, 5]
abbrev dktX0_isName_3 : List UInt8 := dkwX0_isName_3 ++ dktX0_isName_4
def dkwX0_isName_2 : List UInt8 := [42, 180, 0, 193, 154, 0, 7, 4, 167, 0, 4, 3, 172, 42, 180, 0, 193, 4, 159, 0, 7, 4]
abbrev dktX0_isName_2 : List UInt8 := dkwX0_isName_2 ++ dktX0_isName_3
def dkwX0_isName_1 : List UInt8 := [171, 0, 0, 0, 0, 0, 114, 0, 0, 0, 6, 0, 0, 0, 99, 0, 0, 0, 72, 0, 0, 0, 100, 0, 0, 0, 86, 0, 0, 0, 108, 0, 0, 0, 59, 0, 0, 0, 112, 0, 0, 0, 100, 0, 0, 0, 114, 0, 0, 0, 86, 0, 0, 0, 119, 0, 0, 0, 59]
abbrev dktX0_isName_1 : List UInt8 := dkwX0_isName_1 ++ dktX0_isName_2
def dkwX0_isName_0 : List UInt8 := [27]
abbrev dktX0_isName_0 : List UInt8 := dkwX0_isName_0 ++ dktX0_isName_1
theorem dksX0_isName_0 : cX0_isName.data.toList.drop 0 = dktX0_isName_0 := by decide +kernel
theorem dksX0_isName_1 : cX0_isName.data.toList.drop 1 = dktX0_isName_1 := dk_seg dksX0_isName_0 1 rfl rfl
theorem dksX0_isName_2 : cX0_isName.data.toList.drop 60 = dktX0_isName_2 := dk_seg dksX0_isName_1 59 rfl rfl
theorem dksX0_isName_3 : cX0_isName.data.toList.drop 82 = dktX0_isName_3 := dk_seg dksX0_isName_2 22 rfl rfl
theorem dksX0_isName_4 : cX0_isName.data.toList.drop 106 = dktX0_isName_4 := dk_seg dksX0_isName_3 24 rfl rfl
theorem dX0_isName_0 : decode cX0_isName 0 = .ok (.iload_n 1, 1) := dk_27 (dk_at dksX0_isName_0 0 rfl rfl)
theorem dX0_isName_1 : decode cX0_isName 1 = .ok (.lookupswitch 114 #[(99, 72), (100, 86), (108, 59), (112, 100), (114, 86), (119, 59)], 59) := by decide +kernel
theorem dX0_isName_60 : decode cX0_isName 60 = .ok (.aload_n 0, 1) := dk_42 (dk_at dksX0_isName_2 0 rfl rfl)
theorem dX0_isName_61 : decode cX0_isName 61 = .ok (.getfield 193, 3) := dk_180 0 193 (dk_at dksX0_isName_2 1 rfl rfl)
theorem dX0_isName_64 : decode cX0_isName 64 = .ok (.ifCond .ne 7, 3) := dk_154 0 7 (dk_at dksX0_isName_2 4 rfl rfl)
theorem dX0_isName_67 : decode cX0_isName 67 = .ok (.iconst 1, 1) := dk_4 (dk_at dksX0_isName_2 7 rfl rfl)
theorem dX0_isName_68 : decode cX0_isName 68 = .ok (.goto 4, 3) := dk_167 0 4 (dk_at dksX0_isName_2 8 rfl rfl)
theorem dX0_isName_71 : decode cX0_isName 71 = .ok (.iconst 0, 1) := dk_3 (dk_at dksX0_isName_2 11 rfl rfl)
theorem dX0_isName_72 : decode cX0_isName 72 = .ok (.ireturn, 1) := dk_172 (dk_at dksX0_isName_2 12 rfl rfl)
theorem dX0_isName_73 : decode cX0_isName 73 = .ok (.aload_n 0, 1) := dk_42 (dk_at dksX0_isName_2 13 rfl rfl)
theorem dX0_isName_74 : decode cX0_isName 74 = .ok (.getfield 193, 3) := dk_180 0 193 (dk_at dksX0_isName_2 14 rfl rfl)
theorem dX0_isName_77 : decode cX0_isName 77 = .ok (.iconst 1, 1) := dk_4 (dk_at dksX0_isName_2 17 rfl rfl)
theorem dX0_isName_78 : decode cX0_isName 78 = .ok (.if_icmp .eq 7, 3) := dk_159 0 7 (dk_at dksX0_isName_2 18 rfl rfl)
theorem dX0_isName_81 : decode cX0_isName 81 = .ok (.iconst 1, 1) := dk_4 (dk_at dksX0_isName_2 21 rfl rfl)
theorem dX0_isName_82 : decode cX0_isName 82 = .ok (.goto 4, 3) := dk_167 0 4 (dk_at dksX0_isName_3 0 rfl rfl)
theorem dX0_isName_85 : decode cX0_isName 85 = .ok (.iconst 0, 1) := dk_3 (dk_at dksX0_isName_3 3 rfl rfl)
theorem dX0_isName_86 : decode cX0_isName 86 = .ok (.ireturn, 1) := dk_172 (dk_at dksX0_isName_3 4 rfl rfl)
theorem dX0_isName_87 : decode cX0_isName 87 = .ok (.aload_n 0, 1) := dk_42 (dk_at dksX0_isName_3 5 rfl rfl)
theorem dX0_isName_88 : decode cX0_isName 88 = .ok (.getfield 193, 3) := dk_180 0 193 (dk_at dksX0_isName_3 6 rfl rfl)
theorem dX0_isName_91 : decode cX0_isName 91 = .ok (.iconst 1, 1) := dk_4 (dk_at dksX0_isName_3 9 rfl rfl)
theorem dX0_isName_92 : decode cX0_isName 92 = .ok (.if_icmp .ne 7, 3) := dk_160 0 7 (dk_at dksX0_isName_3 10 rfl rfl)
theorem dX0_isName_95 : decode cX0_isName 95 = .ok (.iconst 1, 1) := dk_4 (dk_at dksX0_isName_3 13 rfl rfl)
theorem dX0_isName_96 : decode cX0_isName 96 = .ok (.goto 4, 3) := dk_167 0 4 (dk_at dksX0_isName_3 14 rfl rfl)
theorem dX0_isName_99 : decode cX0_isName 99 = .ok (.iconst 0, 1) := dk_3 (dk_at dksX0_isName_3 17 rfl rfl)
theorem dX0_isName_100 : decode cX0_isName 100 = .ok (.ireturn, 1) := dk_172 (dk_at dksX0_isName_3 18 rfl rfl)
theorem dX0_isName_101 : decode cX0_isName 101 = .ok (.aload_n 0, 1) := dk_42 (dk_at dksX0_isName_3 19 rfl rfl)
theorem dX0_isName_102 : decode cX0_isName 102 = .ok (.getfield 193, 3) := dk_180 0 193 (dk_at dksX0_isName_3 20 rfl rfl)
theorem dX0_isName_105 : decode cX0_isName 105 = .ok (.iconst 2, 1) := dk_5 (dk_at dksX0_isName_3 23 rfl rfl)
theorem dX0_isName_106 : decode cX0_isName 106 = .ok (.if_icmp .ne 7, 3) := dk_160 0 7 (dk_at dksX0_isName_4 0 rfl rfl)
theorem dX0_isName_109 : decode cX0_isName 109 = .ok (.iconst 1, 1) := dk_4 (dk_at dksX0_isName_4 3 rfl rfl)
theorem dX0_isName_110 : decode cX0_isName 110 = .ok (.goto 4, 3) := dk_167 0 4 (dk_at dksX0_isName_4 4 rfl rfl)
theorem dX0_isName_113 : decode cX0_isName 113 = .ok (.iconst 0, 1) := dk_3 (dk_at dksX0_isName_4 7 rfl rfl)
theorem dX0_isName_114 : decode cX0_isName 114 = .ok (.ireturn, 1) := dk_172 (dk_at dksX0_isName_4 8 rfl rfl)
theorem dX0_isName_115 : decode cX0_isName 115 = .ok (.iconst 0, 1) := dk_3 (dk_at dksX0_isName_4 9 rfl rfl)
theorem dX0_isName_116 : decode cX0_isName 116 = .ok (.ireturn, 1) := dk_172 (dk_at dksX0_isName_4 10 rfl rfl)
abbrev cX0_textTold : ByteArray := prog_1_method_30_code
def yX0_textTold : MethodName := ⟨RX0, "textTold", "(II)I"⟩
def dkwX0_textTold_2 : List UInt8 := [167, 0, 15, 42, 180, 0, 40, 180, 0, 240, 27, 50, 180, 0, 246, 172]
abbrev dktX0_textTold_2 : List UInt8 := dkwX0_textTold_2 ++ []
def dkwX0_textTold_1 : List UInt8 := [154, 0, 6, 18, 130, 172, 28, 154, 0, 18, 42, 180, 0, 40, 180, 0, 240, 27, 50, 180, 0, 244]
abbrev dktX0_textTold_1 : List UInt8 := dkwX0_textTold_1 ++ dktX0_textTold_2
def dkwX0_textTold_0 : List UInt8 := [27, 3, 42, 180, 0, 40, 180, 0, 237, 4, 100, 184, 0, 105, 153, 0, 12, 28, 3, 4, 184, 0, 105]
abbrev dktX0_textTold_0 : List UInt8 := dkwX0_textTold_0 ++ dktX0_textTold_1
theorem dksX0_textTold_0 : cX0_textTold.data.toList.drop 0 = dktX0_textTold_0 := by decide +kernel
theorem dksX0_textTold_1 : cX0_textTold.data.toList.drop 23 = dktX0_textTold_1 := dk_seg dksX0_textTold_0 23 rfl rfl
theorem dksX0_textTold_2 : cX0_textTold.data.toList.drop 45 = dktX0_textTold_2 := dk_seg dksX0_textTold_1 22 rfl rfl
theorem dX0_textTold_0 : decode cX0_textTold 0 = .ok (.iload_n 1, 1) := dk_27 (dk_at dksX0_textTold_0 0 rfl rfl)
theorem dX0_textTold_1 : decode cX0_textTold 1 = .ok (.iconst 0, 1) := dk_3 (dk_at dksX0_textTold_0 1 rfl rfl)
theorem dX0_textTold_2 : decode cX0_textTold 2 = .ok (.aload_n 0, 1) := dk_42 (dk_at dksX0_textTold_0 2 rfl rfl)
theorem dX0_textTold_3 : decode cX0_textTold 3 = .ok (.getfield 40, 3) := dk_180 0 40 (dk_at dksX0_textTold_0 3 rfl rfl)
theorem dX0_textTold_6 : decode cX0_textTold 6 = .ok (.getfield 237, 3) := dk_180 0 237 (dk_at dksX0_textTold_0 6 rfl rfl)
theorem dX0_textTold_9 : decode cX0_textTold 9 = .ok (.iconst 1, 1) := dk_4 (dk_at dksX0_textTold_0 9 rfl rfl)
theorem dX0_textTold_10 : decode cX0_textTold 10 = .ok (.isub, 1) := dk_100 (dk_at dksX0_textTold_0 10 rfl rfl)
theorem dX0_textTold_11 : decode cX0_textTold 11 = .ok (.invokestatic 105, 3) := dk_184 0 105 (dk_at dksX0_textTold_0 11 rfl rfl)
theorem dX0_textTold_14 : decode cX0_textTold 14 = .ok (.ifCond .eq 12, 3) := dk_153 0 12 (dk_at dksX0_textTold_0 14 rfl rfl)
theorem dX0_textTold_17 : decode cX0_textTold 17 = .ok (.iload_n 2, 1) := dk_28 (dk_at dksX0_textTold_0 17 rfl rfl)
theorem dX0_textTold_18 : decode cX0_textTold 18 = .ok (.iconst 0, 1) := dk_3 (dk_at dksX0_textTold_0 18 rfl rfl)
theorem dX0_textTold_19 : decode cX0_textTold 19 = .ok (.iconst 1, 1) := dk_4 (dk_at dksX0_textTold_0 19 rfl rfl)
theorem dX0_textTold_20 : decode cX0_textTold 20 = .ok (.invokestatic 105, 3) := dk_184 0 105 (dk_at dksX0_textTold_0 20 rfl rfl)
theorem dX0_textTold_23 : decode cX0_textTold 23 = .ok (.ifCond .ne 6, 3) := dk_154 0 6 (dk_at dksX0_textTold_1 0 rfl rfl)
theorem dX0_textTold_26 : decode cX0_textTold 26 = .ok (.ldc 130, 2) := dk_18 130 (dk_at dksX0_textTold_1 3 rfl rfl)
theorem dX0_textTold_28 : decode cX0_textTold 28 = .ok (.ireturn, 1) := dk_172 (dk_at dksX0_textTold_1 5 rfl rfl)
theorem dX0_textTold_29 : decode cX0_textTold 29 = .ok (.iload_n 2, 1) := dk_28 (dk_at dksX0_textTold_1 6 rfl rfl)
theorem dX0_textTold_30 : decode cX0_textTold 30 = .ok (.ifCond .ne 18, 3) := dk_154 0 18 (dk_at dksX0_textTold_1 7 rfl rfl)
theorem dX0_textTold_33 : decode cX0_textTold 33 = .ok (.aload_n 0, 1) := dk_42 (dk_at dksX0_textTold_1 10 rfl rfl)
theorem dX0_textTold_34 : decode cX0_textTold 34 = .ok (.getfield 40, 3) := dk_180 0 40 (dk_at dksX0_textTold_1 11 rfl rfl)
theorem dX0_textTold_37 : decode cX0_textTold 37 = .ok (.getfield 240, 3) := dk_180 0 240 (dk_at dksX0_textTold_1 14 rfl rfl)
theorem dX0_textTold_40 : decode cX0_textTold 40 = .ok (.iload_n 1, 1) := dk_27 (dk_at dksX0_textTold_1 17 rfl rfl)
theorem dX0_textTold_41 : decode cX0_textTold 41 = .ok (.aaload, 1) := dk_50 (dk_at dksX0_textTold_1 18 rfl rfl)
theorem dX0_textTold_42 : decode cX0_textTold 42 = .ok (.getfield 244, 3) := dk_180 0 244 (dk_at dksX0_textTold_1 19 rfl rfl)
theorem dX0_textTold_45 : decode cX0_textTold 45 = .ok (.goto 15, 3) := dk_167 0 15 (dk_at dksX0_textTold_2 0 rfl rfl)
theorem dX0_textTold_48 : decode cX0_textTold 48 = .ok (.aload_n 0, 1) := dk_42 (dk_at dksX0_textTold_2 3 rfl rfl)
theorem dX0_textTold_49 : decode cX0_textTold 49 = .ok (.getfield 40, 3) := dk_180 0 40 (dk_at dksX0_textTold_2 4 rfl rfl)
theorem dX0_textTold_52 : decode cX0_textTold 52 = .ok (.getfield 240, 3) := dk_180 0 240 (dk_at dksX0_textTold_2 7 rfl rfl)
theorem dX0_textTold_55 : decode cX0_textTold 55 = .ok (.iload_n 1, 1) := dk_27 (dk_at dksX0_textTold_2 10 rfl rfl)
theorem dX0_textTold_56 : decode cX0_textTold 56 = .ok (.aaload, 1) := dk_50 (dk_at dksX0_textTold_2 11 rfl rfl)
theorem dX0_textTold_57 : decode cX0_textTold 57 = .ok (.getfield 246, 3) := dk_180 0 246 (dk_at dksX0_textTold_2 12 rfl rfl)
theorem dX0_textTold_60 : decode cX0_textTold 60 = .ok (.ireturn, 1) := dk_172 (dk_at dksX0_textTold_2 15 rfl rfl)
abbrev cX0_why : ByteArray := prog_1_method_32_code
def yX0_why : MethodName := ⟨RX0, "why", "(I)I"⟩
def dkwX0_why_0 : List UInt8 := [27, 3, 5, 184, 0, 105, 153, 0, 14, 42, 27, 182, 0, 247, 184, 0, 251, 167, 0, 5, 18, 130, 172]
abbrev dktX0_why_0 : List UInt8 := dkwX0_why_0 ++ []
theorem dksX0_why_0 : cX0_why.data.toList.drop 0 = dktX0_why_0 := by decide +kernel
theorem dX0_why_0 : decode cX0_why 0 = .ok (.iload_n 1, 1) := dk_27 (dk_at dksX0_why_0 0 rfl rfl)
theorem dX0_why_1 : decode cX0_why 1 = .ok (.iconst 0, 1) := dk_3 (dk_at dksX0_why_0 1 rfl rfl)
theorem dX0_why_2 : decode cX0_why 2 = .ok (.iconst 2, 1) := dk_5 (dk_at dksX0_why_0 2 rfl rfl)
theorem dX0_why_3 : decode cX0_why 3 = .ok (.invokestatic 105, 3) := dk_184 0 105 (dk_at dksX0_why_0 3 rfl rfl)
theorem dX0_why_6 : decode cX0_why 6 = .ok (.ifCond .eq 14, 3) := dk_153 0 14 (dk_at dksX0_why_0 6 rfl rfl)
theorem dX0_why_9 : decode cX0_why 9 = .ok (.aload_n 0, 1) := dk_42 (dk_at dksX0_why_0 9 rfl rfl)
theorem dX0_why_10 : decode cX0_why 10 = .ok (.iload_n 1, 1) := dk_27 (dk_at dksX0_why_0 10 rfl rfl)
theorem dX0_why_11 : decode cX0_why 11 = .ok (.invokevirtual 247, 3) := dk_182 0 247 (dk_at dksX0_why_0 11 rfl rfl)
theorem dX0_why_14 : decode cX0_why 14 = .ok (.invokestatic 251, 3) := dk_184 0 251 (dk_at dksX0_why_0 14 rfl rfl)
theorem dX0_why_17 : decode cX0_why 17 = .ok (.goto 5, 3) := dk_167 0 5 (dk_at dksX0_why_0 17 rfl rfl)
theorem dX0_why_20 : decode cX0_why 20 = .ok (.ldc 130, 2) := dk_18 130 (dk_at dksX0_why_0 20 rfl rfl)
theorem dX0_why_22 : decode cX0_why 22 = .ok (.ireturn, 1) := dk_172 (dk_at dksX0_why_0 22 rfl rfl)
abbrev cX0_counts : ByteArray := prog_1_method_31_code
def yX0_counts : MethodName := ⟨RX0, "counts", "(I)I"⟩
def dkwX0_counts_1 : List UInt8 := [180, 0, 244, 27, 160, 0, 7, 29, 167, 0, 4, 28, 61, 132, 3, 1, 167, 255, 220, 28, 172]
abbrev dktX0_counts_1 : List UInt8 := dkwX0_counts_1 ++ []
def dkwX0_counts_0 : List UInt8 := [2, 61, 3, 62, 29, 42, 180, 0, 40, 180, 0, 237, 162, 0, 31, 42, 180, 0, 40, 180, 0, 240, 29, 50]
abbrev dktX0_counts_0 : List UInt8 := dkwX0_counts_0 ++ dktX0_counts_1
theorem dksX0_counts_0 : cX0_counts.data.toList.drop 0 = dktX0_counts_0 := by decide +kernel
theorem dksX0_counts_1 : cX0_counts.data.toList.drop 24 = dktX0_counts_1 := dk_seg dksX0_counts_0 24 rfl rfl
theorem dX0_counts_0 : decode cX0_counts 0 = .ok (.iconst (-1), 1) := dk_2 (dk_at dksX0_counts_0 0 rfl rfl)
theorem dX0_counts_1 : decode cX0_counts 1 = .ok (.istore_n 2, 1) := dk_61 (dk_at dksX0_counts_0 1 rfl rfl)
theorem dX0_counts_2 : decode cX0_counts 2 = .ok (.iconst 0, 1) := dk_3 (dk_at dksX0_counts_0 2 rfl rfl)
theorem dX0_counts_3 : decode cX0_counts 3 = .ok (.istore_n 3, 1) := dk_62 (dk_at dksX0_counts_0 3 rfl rfl)
theorem dX0_counts_4 : decode cX0_counts 4 = .ok (.iload_n 3, 1) := dk_29 (dk_at dksX0_counts_0 4 rfl rfl)
theorem dX0_counts_5 : decode cX0_counts 5 = .ok (.aload_n 0, 1) := dk_42 (dk_at dksX0_counts_0 5 rfl rfl)
theorem dX0_counts_6 : decode cX0_counts 6 = .ok (.getfield 40, 3) := dk_180 0 40 (dk_at dksX0_counts_0 6 rfl rfl)
theorem dX0_counts_9 : decode cX0_counts 9 = .ok (.getfield 237, 3) := dk_180 0 237 (dk_at dksX0_counts_0 9 rfl rfl)
theorem dX0_counts_12 : decode cX0_counts 12 = .ok (.if_icmp .ge 31, 3) := dk_162 0 31 (dk_at dksX0_counts_0 12 rfl rfl)
theorem dX0_counts_15 : decode cX0_counts 15 = .ok (.aload_n 0, 1) := dk_42 (dk_at dksX0_counts_0 15 rfl rfl)
theorem dX0_counts_16 : decode cX0_counts 16 = .ok (.getfield 40, 3) := dk_180 0 40 (dk_at dksX0_counts_0 16 rfl rfl)
theorem dX0_counts_19 : decode cX0_counts 19 = .ok (.getfield 240, 3) := dk_180 0 240 (dk_at dksX0_counts_0 19 rfl rfl)
theorem dX0_counts_22 : decode cX0_counts 22 = .ok (.iload_n 3, 1) := dk_29 (dk_at dksX0_counts_0 22 rfl rfl)
theorem dX0_counts_23 : decode cX0_counts 23 = .ok (.aaload, 1) := dk_50 (dk_at dksX0_counts_0 23 rfl rfl)
theorem dX0_counts_24 : decode cX0_counts 24 = .ok (.getfield 244, 3) := dk_180 0 244 (dk_at dksX0_counts_1 0 rfl rfl)
theorem dX0_counts_27 : decode cX0_counts 27 = .ok (.iload_n 1, 1) := dk_27 (dk_at dksX0_counts_1 3 rfl rfl)
theorem dX0_counts_28 : decode cX0_counts 28 = .ok (.if_icmp .ne 7, 3) := dk_160 0 7 (dk_at dksX0_counts_1 4 rfl rfl)
theorem dX0_counts_31 : decode cX0_counts 31 = .ok (.iload_n 3, 1) := dk_29 (dk_at dksX0_counts_1 7 rfl rfl)
theorem dX0_counts_32 : decode cX0_counts 32 = .ok (.goto 4, 3) := dk_167 0 4 (dk_at dksX0_counts_1 8 rfl rfl)
theorem dX0_counts_35 : decode cX0_counts 35 = .ok (.iload_n 2, 1) := dk_28 (dk_at dksX0_counts_1 11 rfl rfl)
theorem dX0_counts_36 : decode cX0_counts 36 = .ok (.istore_n 2, 1) := dk_61 (dk_at dksX0_counts_1 12 rfl rfl)
theorem dX0_counts_37 : decode cX0_counts 37 = .ok (.iinc 3 1, 3) := dk_132 3 1 (dk_at dksX0_counts_1 13 rfl rfl)
theorem dX0_counts_40 : decode cX0_counts 40 = .ok (.goto (-36), 3) := dk_167 255 220 (dk_at dksX0_counts_1 16 rfl rfl)
theorem dX0_counts_43 : decode cX0_counts 43 = .ok (.iload_n 2, 1) := dk_28 (dk_at dksX0_counts_1 19 rfl rfl)
theorem dX0_counts_44 : decode cX0_counts 44 = .ok (.ireturn, 1) := dk_172 (dk_at dksX0_counts_1 20 rfl rfl)
abbrev cX0_orNone : ByteArray := prog_1_method_2_code
def yX0_orNone : MethodName := ⟨RX0, "orNone", "(I)I"⟩
def dkwX0_orNone_0 : List UInt8 := [26, 2, 160, 0, 8, 18, 3, 167, 0, 4, 26, 172]
abbrev dktX0_orNone_0 : List UInt8 := dkwX0_orNone_0 ++ []
theorem dksX0_orNone_0 : cX0_orNone.data.toList.drop 0 = dktX0_orNone_0 := by decide +kernel
theorem dX0_orNone_0 : decode cX0_orNone 0 = .ok (.iload_n 0, 1) := dk_26 (dk_at dksX0_orNone_0 0 rfl rfl)
theorem dX0_orNone_1 : decode cX0_orNone 1 = .ok (.iconst (-1), 1) := dk_2 (dk_at dksX0_orNone_0 1 rfl rfl)
theorem dX0_orNone_2 : decode cX0_orNone 2 = .ok (.if_icmp .ne 8, 3) := dk_160 0 8 (dk_at dksX0_orNone_0 2 rfl rfl)
theorem dX0_orNone_5 : decode cX0_orNone 5 = .ok (.ldc 3, 2) := dk_18 3 (dk_at dksX0_orNone_0 5 rfl rfl)
theorem dX0_orNone_7 : decode cX0_orNone 7 = .ok (.goto 4, 3) := dk_167 0 4 (dk_at dksX0_orNone_0 7 rfl rfl)
theorem dX0_orNone_10 : decode cX0_orNone 10 = .ok (.iload_n 0, 1) := dk_26 (dk_at dksX0_orNone_0 10 rfl rfl)
theorem dX0_orNone_11 : decode cX0_orNone 11 = .ok (.ireturn, 1) := dk_172 (dk_at dksX0_orNone_0 11 rfl rfl)
abbrev cX0_house : ByteArray := prog_1_method_35_code
def yX0_house : MethodName := ⟨RX0, "house", "(IIII)I"⟩
def dkwX0_house_2 : List UInt8 := [160, 0, 8, 18, 125, 167, 0, 12, 42, 27, 28, 29, 21, 4, 182, 1, 19, 172]
abbrev dktX0_house_2 : List UInt8 := dkwX0_house_2 ++ []
def dkwX0_house_1 : List UInt8 := [153, 0, 12, 6, 21, 4, 184, 1, 15, 154, 0, 6, 18, 130, 172, 42, 180, 0, 40, 180, 0, 101, 16, 9]
abbrev dktX0_house_1 : List UInt8 := dkwX0_house_1 ++ dktX0_house_2
def dkwX0_house_0 : List UInt8 := [27, 3, 8, 184, 0, 105, 153, 0, 28, 4, 28, 184, 1, 15, 153, 0, 20, 5, 29, 184, 1, 15]
abbrev dktX0_house_0 : List UInt8 := dkwX0_house_0 ++ dktX0_house_1
theorem dksX0_house_0 : cX0_house.data.toList.drop 0 = dktX0_house_0 := by decide +kernel
theorem dksX0_house_1 : cX0_house.data.toList.drop 22 = dktX0_house_1 := dk_seg dksX0_house_0 22 rfl rfl
theorem dksX0_house_2 : cX0_house.data.toList.drop 46 = dktX0_house_2 := dk_seg dksX0_house_1 24 rfl rfl
theorem dX0_house_0 : decode cX0_house 0 = .ok (.iload_n 1, 1) := dk_27 (dk_at dksX0_house_0 0 rfl rfl)
theorem dX0_house_1 : decode cX0_house 1 = .ok (.iconst 0, 1) := dk_3 (dk_at dksX0_house_0 1 rfl rfl)
theorem dX0_house_2 : decode cX0_house 2 = .ok (.iconst 5, 1) := dk_8 (dk_at dksX0_house_0 2 rfl rfl)
theorem dX0_house_3 : decode cX0_house 3 = .ok (.invokestatic 105, 3) := dk_184 0 105 (dk_at dksX0_house_0 3 rfl rfl)
theorem dX0_house_6 : decode cX0_house 6 = .ok (.ifCond .eq 28, 3) := dk_153 0 28 (dk_at dksX0_house_0 6 rfl rfl)
theorem dX0_house_9 : decode cX0_house 9 = .ok (.iconst 1, 1) := dk_4 (dk_at dksX0_house_0 9 rfl rfl)
theorem dX0_house_10 : decode cX0_house 10 = .ok (.iload_n 2, 1) := dk_28 (dk_at dksX0_house_0 10 rfl rfl)
theorem dX0_house_11 : decode cX0_house 11 = .ok (.invokestatic 271, 3) := dk_184 1 15 (dk_at dksX0_house_0 11 rfl rfl)
theorem dX0_house_14 : decode cX0_house 14 = .ok (.ifCond .eq 20, 3) := dk_153 0 20 (dk_at dksX0_house_0 14 rfl rfl)
theorem dX0_house_17 : decode cX0_house 17 = .ok (.iconst 2, 1) := dk_5 (dk_at dksX0_house_0 17 rfl rfl)
theorem dX0_house_18 : decode cX0_house 18 = .ok (.iload_n 3, 1) := dk_29 (dk_at dksX0_house_0 18 rfl rfl)
theorem dX0_house_19 : decode cX0_house 19 = .ok (.invokestatic 271, 3) := dk_184 1 15 (dk_at dksX0_house_0 19 rfl rfl)
theorem dX0_house_22 : decode cX0_house 22 = .ok (.ifCond .eq 12, 3) := dk_153 0 12 (dk_at dksX0_house_1 0 rfl rfl)
theorem dX0_house_25 : decode cX0_house 25 = .ok (.iconst 3, 1) := dk_6 (dk_at dksX0_house_1 3 rfl rfl)
theorem dX0_house_26 : decode cX0_house 26 = .ok (.iload 4, 2) := dk_21 4 (dk_at dksX0_house_1 4 rfl rfl)
theorem dX0_house_28 : decode cX0_house 28 = .ok (.invokestatic 271, 3) := dk_184 1 15 (dk_at dksX0_house_1 6 rfl rfl)
theorem dX0_house_31 : decode cX0_house 31 = .ok (.ifCond .ne 6, 3) := dk_154 0 6 (dk_at dksX0_house_1 9 rfl rfl)
theorem dX0_house_34 : decode cX0_house 34 = .ok (.ldc 130, 2) := dk_18 130 (dk_at dksX0_house_1 12 rfl rfl)
theorem dX0_house_36 : decode cX0_house 36 = .ok (.ireturn, 1) := dk_172 (dk_at dksX0_house_1 14 rfl rfl)
theorem dX0_house_37 : decode cX0_house 37 = .ok (.aload_n 0, 1) := dk_42 (dk_at dksX0_house_1 15 rfl rfl)
theorem dX0_house_38 : decode cX0_house 38 = .ok (.getfield 40, 3) := dk_180 0 40 (dk_at dksX0_house_1 16 rfl rfl)
theorem dX0_house_41 : decode cX0_house 41 = .ok (.getfield 101, 3) := dk_180 0 101 (dk_at dksX0_house_1 19 rfl rfl)
theorem dX0_house_44 : decode cX0_house 44 = .ok (.bipush 9, 2) := dk_16 9 (dk_at dksX0_house_1 22 rfl rfl)
theorem dX0_house_46 : decode cX0_house 46 = .ok (.if_icmp .ne 8, 3) := dk_160 0 8 (dk_at dksX0_house_2 0 rfl rfl)
theorem dX0_house_49 : decode cX0_house 49 = .ok (.ldc 125, 2) := dk_18 125 (dk_at dksX0_house_2 3 rfl rfl)
theorem dX0_house_51 : decode cX0_house 51 = .ok (.goto 12, 3) := dk_167 0 12 (dk_at dksX0_house_2 5 rfl rfl)
theorem dX0_house_54 : decode cX0_house 54 = .ok (.aload_n 0, 1) := dk_42 (dk_at dksX0_house_2 8 rfl rfl)
theorem dX0_house_55 : decode cX0_house 55 = .ok (.iload_n 1, 1) := dk_27 (dk_at dksX0_house_2 9 rfl rfl)
theorem dX0_house_56 : decode cX0_house 56 = .ok (.iload_n 2, 1) := dk_28 (dk_at dksX0_house_2 10 rfl rfl)
theorem dX0_house_57 : decode cX0_house 57 = .ok (.iload_n 3, 1) := dk_29 (dk_at dksX0_house_2 11 rfl rfl)
theorem dX0_house_58 : decode cX0_house 58 = .ok (.iload 4, 2) := dk_21 4 (dk_at dksX0_house_2 12 rfl rfl)
theorem dX0_house_60 : decode cX0_house 60 = .ok (.invokevirtual 275, 3) := dk_182 1 19 (dk_at dksX0_house_2 14 rfl rfl)
theorem dX0_house_63 : decode cX0_house 63 = .ok (.ireturn, 1) := dk_172 (dk_at dksX0_house_2 17 rfl rfl)
abbrev cX0_isOf : ByteArray := prog_1_method_34_code
def yX0_isOf : MethodName := ⟨RX0, "isOf", "(II)Z"⟩
def dkwX0_isOf_2 : List UInt8 := [16, 9, 167, 0, 5, 16, 99, 184, 0, 105, 172]
abbrev dktX0_isOf_2 : List UInt8 := dkwX0_isOf_2 ++ []
def dkwX0_isOf_1 : List UInt8 := [160, 0, 8, 16, 50, 167, 0, 26, 26, 7, 160, 0, 9, 17, 3, 231, 167, 0, 15, 26, 8, 160, 0, 8]
abbrev dktX0_isOf_1 : List UInt8 := dkwX0_isOf_1 ++ dktX0_isOf_2
def dkwX0_isOf_0 : List UInt8 := [27, 26, 4, 160, 0, 7, 4, 167, 0, 14, 26, 5, 160, 0, 8, 16, 206, 167, 0, 4, 3, 26, 5]
abbrev dktX0_isOf_0 : List UInt8 := dkwX0_isOf_0 ++ dktX0_isOf_1
theorem dksX0_isOf_0 : cX0_isOf.data.toList.drop 0 = dktX0_isOf_0 := by decide +kernel
theorem dksX0_isOf_1 : cX0_isOf.data.toList.drop 23 = dktX0_isOf_1 := dk_seg dksX0_isOf_0 23 rfl rfl
theorem dksX0_isOf_2 : cX0_isOf.data.toList.drop 47 = dktX0_isOf_2 := dk_seg dksX0_isOf_1 24 rfl rfl
theorem dX0_isOf_0 : decode cX0_isOf 0 = .ok (.iload_n 1, 1) := dk_27 (dk_at dksX0_isOf_0 0 rfl rfl)
theorem dX0_isOf_1 : decode cX0_isOf 1 = .ok (.iload_n 0, 1) := dk_26 (dk_at dksX0_isOf_0 1 rfl rfl)
theorem dX0_isOf_2 : decode cX0_isOf 2 = .ok (.iconst 1, 1) := dk_4 (dk_at dksX0_isOf_0 2 rfl rfl)
theorem dX0_isOf_3 : decode cX0_isOf 3 = .ok (.if_icmp .ne 7, 3) := dk_160 0 7 (dk_at dksX0_isOf_0 3 rfl rfl)
theorem dX0_isOf_6 : decode cX0_isOf 6 = .ok (.iconst 1, 1) := dk_4 (dk_at dksX0_isOf_0 6 rfl rfl)
theorem dX0_isOf_7 : decode cX0_isOf 7 = .ok (.goto 14, 3) := dk_167 0 14 (dk_at dksX0_isOf_0 7 rfl rfl)
theorem dX0_isOf_10 : decode cX0_isOf 10 = .ok (.iload_n 0, 1) := dk_26 (dk_at dksX0_isOf_0 10 rfl rfl)
theorem dX0_isOf_11 : decode cX0_isOf 11 = .ok (.iconst 2, 1) := dk_5 (dk_at dksX0_isOf_0 11 rfl rfl)
theorem dX0_isOf_12 : decode cX0_isOf 12 = .ok (.if_icmp .ne 8, 3) := dk_160 0 8 (dk_at dksX0_isOf_0 12 rfl rfl)
theorem dX0_isOf_15 : decode cX0_isOf 15 = .ok (.bipush (-50), 2) := dk_16 206 (dk_at dksX0_isOf_0 15 rfl rfl)
theorem dX0_isOf_17 : decode cX0_isOf 17 = .ok (.goto 4, 3) := dk_167 0 4 (dk_at dksX0_isOf_0 17 rfl rfl)
theorem dX0_isOf_20 : decode cX0_isOf 20 = .ok (.iconst 0, 1) := dk_3 (dk_at dksX0_isOf_0 20 rfl rfl)
theorem dX0_isOf_21 : decode cX0_isOf 21 = .ok (.iload_n 0, 1) := dk_26 (dk_at dksX0_isOf_0 21 rfl rfl)
theorem dX0_isOf_22 : decode cX0_isOf 22 = .ok (.iconst 2, 1) := dk_5 (dk_at dksX0_isOf_0 22 rfl rfl)
theorem dX0_isOf_23 : decode cX0_isOf 23 = .ok (.if_icmp .ne 8, 3) := dk_160 0 8 (dk_at dksX0_isOf_1 0 rfl rfl)
theorem dX0_isOf_26 : decode cX0_isOf 26 = .ok (.bipush 50, 2) := dk_16 50 (dk_at dksX0_isOf_1 3 rfl rfl)
theorem dX0_isOf_28 : decode cX0_isOf 28 = .ok (.goto 26, 3) := dk_167 0 26 (dk_at dksX0_isOf_1 5 rfl rfl)
theorem dX0_isOf_31 : decode cX0_isOf 31 = .ok (.iload_n 0, 1) := dk_26 (dk_at dksX0_isOf_1 8 rfl rfl)
theorem dX0_isOf_32 : decode cX0_isOf 32 = .ok (.iconst 4, 1) := dk_7 (dk_at dksX0_isOf_1 9 rfl rfl)
theorem dX0_isOf_33 : decode cX0_isOf 33 = .ok (.if_icmp .ne 9, 3) := dk_160 0 9 (dk_at dksX0_isOf_1 10 rfl rfl)
theorem dX0_isOf_36 : decode cX0_isOf 36 = .ok (.sipush 999, 3) := dk_17 3 231 (dk_at dksX0_isOf_1 13 rfl rfl)
theorem dX0_isOf_39 : decode cX0_isOf 39 = .ok (.goto 15, 3) := dk_167 0 15 (dk_at dksX0_isOf_1 16 rfl rfl)
theorem dX0_isOf_42 : decode cX0_isOf 42 = .ok (.iload_n 0, 1) := dk_26 (dk_at dksX0_isOf_1 19 rfl rfl)
theorem dX0_isOf_43 : decode cX0_isOf 43 = .ok (.iconst 5, 1) := dk_8 (dk_at dksX0_isOf_1 20 rfl rfl)
theorem dX0_isOf_44 : decode cX0_isOf 44 = .ok (.if_icmp .ne 8, 3) := dk_160 0 8 (dk_at dksX0_isOf_1 21 rfl rfl)
theorem dX0_isOf_47 : decode cX0_isOf 47 = .ok (.bipush 9, 2) := dk_16 9 (dk_at dksX0_isOf_2 0 rfl rfl)
theorem dX0_isOf_49 : decode cX0_isOf 49 = .ok (.goto 5, 3) := dk_167 0 5 (dk_at dksX0_isOf_2 2 rfl rfl)
theorem dX0_isOf_52 : decode cX0_isOf 52 = .ok (.bipush 99, 2) := dk_16 99 (dk_at dksX0_isOf_2 5 rfl rfl)
theorem dX0_isOf_54 : decode cX0_isOf 54 = .ok (.invokestatic 105, 3) := dk_184 0 105 (dk_at dksX0_isOf_2 7 rfl rfl)
theorem dX0_isOf_57 : decode cX0_isOf 57 = .ok (.ireturn, 1) := dk_172 (dk_at dksX0_isOf_2 10 rfl rfl)
abbrev cX0_comes : ByteArray := prog_1_method_33_code
def yX0_comes : MethodName := ⟨RX0, "comes", "(IIII)I"⟩
def dkwX0_comes_2 : List UInt8 := [180, 0, 40, 89, 180, 0, 101, 4, 96, 181, 0, 101, 21, 5, 172]
abbrev dktX0_comes_2 : List UInt8 := dkwX0_comes_2 ++ []
def dkwX0_comes_1 : List UInt8 := [181, 1, 5, 25, 6, 21, 4, 181, 1, 8, 42, 180, 0, 40, 180, 1, 11, 21, 5, 25, 6, 83, 42]
abbrev dktX0_comes_1 : List UInt8 := dkwX0_comes_1 ++ dktX0_comes_2
def dkwX0_comes_0 : List UInt8 := [42, 180, 0, 40, 180, 0, 101, 54, 5, 27, 184, 0, 254, 58, 6, 25, 6, 28, 181, 1, 2, 25, 6, 29]
abbrev dktX0_comes_0 : List UInt8 := dkwX0_comes_0 ++ dktX0_comes_1
theorem dksX0_comes_0 : cX0_comes.data.toList.drop 0 = dktX0_comes_0 := by decide +kernel
theorem dksX0_comes_1 : cX0_comes.data.toList.drop 24 = dktX0_comes_1 := dk_seg dksX0_comes_0 24 rfl rfl
theorem dksX0_comes_2 : cX0_comes.data.toList.drop 47 = dktX0_comes_2 := dk_seg dksX0_comes_1 23 rfl rfl
theorem dX0_comes_0 : decode cX0_comes 0 = .ok (.aload_n 0, 1) := dk_42 (dk_at dksX0_comes_0 0 rfl rfl)
theorem dX0_comes_1 : decode cX0_comes 1 = .ok (.getfield 40, 3) := dk_180 0 40 (dk_at dksX0_comes_0 1 rfl rfl)
theorem dX0_comes_4 : decode cX0_comes 4 = .ok (.getfield 101, 3) := dk_180 0 101 (dk_at dksX0_comes_0 4 rfl rfl)
theorem dX0_comes_7 : decode cX0_comes 7 = .ok (.istore 5, 2) := dk_54 5 (dk_at dksX0_comes_0 7 rfl rfl)
theorem dX0_comes_9 : decode cX0_comes 9 = .ok (.iload_n 1, 1) := dk_27 (dk_at dksX0_comes_0 9 rfl rfl)
theorem dX0_comes_10 : decode cX0_comes 10 = .ok (.invokestatic 254, 3) := dk_184 0 254 (dk_at dksX0_comes_0 10 rfl rfl)
theorem dX0_comes_13 : decode cX0_comes 13 = .ok (.astore 6, 2) := dk_58 6 (dk_at dksX0_comes_0 13 rfl rfl)
theorem dX0_comes_15 : decode cX0_comes 15 = .ok (.aload 6, 2) := dk_25 6 (dk_at dksX0_comes_0 15 rfl rfl)
theorem dX0_comes_17 : decode cX0_comes 17 = .ok (.iload_n 2, 1) := dk_28 (dk_at dksX0_comes_0 17 rfl rfl)
theorem dX0_comes_18 : decode cX0_comes 18 = .ok (.putfield 258, 3) := dk_181 1 2 (dk_at dksX0_comes_0 18 rfl rfl)
theorem dX0_comes_21 : decode cX0_comes 21 = .ok (.aload 6, 2) := dk_25 6 (dk_at dksX0_comes_0 21 rfl rfl)
theorem dX0_comes_23 : decode cX0_comes 23 = .ok (.iload_n 3, 1) := dk_29 (dk_at dksX0_comes_0 23 rfl rfl)
theorem dX0_comes_24 : decode cX0_comes 24 = .ok (.putfield 261, 3) := dk_181 1 5 (dk_at dksX0_comes_1 0 rfl rfl)
theorem dX0_comes_27 : decode cX0_comes 27 = .ok (.aload 6, 2) := dk_25 6 (dk_at dksX0_comes_1 3 rfl rfl)
theorem dX0_comes_29 : decode cX0_comes 29 = .ok (.iload 4, 2) := dk_21 4 (dk_at dksX0_comes_1 5 rfl rfl)
theorem dX0_comes_31 : decode cX0_comes 31 = .ok (.putfield 264, 3) := dk_181 1 8 (dk_at dksX0_comes_1 7 rfl rfl)
theorem dX0_comes_34 : decode cX0_comes 34 = .ok (.aload_n 0, 1) := dk_42 (dk_at dksX0_comes_1 10 rfl rfl)
theorem dX0_comes_35 : decode cX0_comes 35 = .ok (.getfield 40, 3) := dk_180 0 40 (dk_at dksX0_comes_1 11 rfl rfl)
theorem dX0_comes_38 : decode cX0_comes 38 = .ok (.getfield 267, 3) := dk_180 1 11 (dk_at dksX0_comes_1 14 rfl rfl)
theorem dX0_comes_41 : decode cX0_comes 41 = .ok (.iload 5, 2) := dk_21 5 (dk_at dksX0_comes_1 17 rfl rfl)
theorem dX0_comes_43 : decode cX0_comes 43 = .ok (.aload 6, 2) := dk_25 6 (dk_at dksX0_comes_1 19 rfl rfl)
theorem dX0_comes_45 : decode cX0_comes 45 = .ok (.aastore, 1) := dk_83 (dk_at dksX0_comes_1 21 rfl rfl)
theorem dX0_comes_46 : decode cX0_comes 46 = .ok (.aload_n 0, 1) := dk_42 (dk_at dksX0_comes_1 22 rfl rfl)
theorem dX0_comes_47 : decode cX0_comes 47 = .ok (.getfield 40, 3) := dk_180 0 40 (dk_at dksX0_comes_2 0 rfl rfl)
theorem dX0_comes_50 : decode cX0_comes 50 = .ok (.dup, 1) := dk_89 (dk_at dksX0_comes_2 3 rfl rfl)
theorem dX0_comes_51 : decode cX0_comes 51 = .ok (.getfield 101, 3) := dk_180 0 101 (dk_at dksX0_comes_2 4 rfl rfl)
theorem dX0_comes_54 : decode cX0_comes 54 = .ok (.iconst 1, 1) := dk_4 (dk_at dksX0_comes_2 7 rfl rfl)
theorem dX0_comes_55 : decode cX0_comes 55 = .ok (.iadd, 1) := dk_96 (dk_at dksX0_comes_2 8 rfl rfl)
theorem dX0_comes_56 : decode cX0_comes 56 = .ok (.putfield 101, 3) := dk_181 0 101 (dk_at dksX0_comes_2 9 rfl rfl)
theorem dX0_comes_59 : decode cX0_comes 59 = .ok (.iload 5, 2) := dk_21 5 (dk_at dksX0_comes_2 12 rfl rfl)
theorem dX0_comes_61 : decode cX0_comes 61 = .ok (.ireturn, 1) := dk_172 (dk_at dksX0_comes_2 14 rfl rfl)
abbrev cX0_houseOf : ByteArray := prog_1_method_4_code
def yX0_houseOf : MethodName := ⟨RX0, "houseOf", "(I)LLeaningStreet$House;"⟩
def dkwX0_houseOf_3 : List UInt8 := [187, 0, 25, 89, 183, 0, 27, 176, 187, 0, 28, 89, 183, 0, 30, 176, 187, 0, 31, 89, 183, 0, 33, 176]
abbrev dktX0_houseOf_3 : List UInt8 := dkwX0_houseOf_3 ++ []
def dkwX0_houseOf_2 : List UInt8 := [187, 0, 13, 89, 183, 0, 15, 176, 187, 0, 19, 89, 183, 0, 21, 176, 187, 0, 22, 89, 183, 0, 24, 176]
abbrev dktX0_houseOf_2 : List UInt8 := dkwX0_houseOf_2 ++ dktX0_houseOf_3
def dkwX0_houseOf_1 : List UInt8 := [170, 0, 0, 0, 0, 0, 75, 0, 0, 0, 1, 0, 0, 0, 5, 0, 0, 0, 35, 0, 0, 0, 43, 0, 0, 0, 51, 0, 0, 0, 59, 0, 0, 0, 67]
abbrev dktX0_houseOf_1 : List UInt8 := dkwX0_houseOf_1 ++ dktX0_houseOf_2
def dkwX0_houseOf_0 : List UInt8 := [26]
abbrev dktX0_houseOf_0 : List UInt8 := dkwX0_houseOf_0 ++ dktX0_houseOf_1
theorem dksX0_houseOf_0 : cX0_houseOf.data.toList.drop 0 = dktX0_houseOf_0 := by decide +kernel
theorem dksX0_houseOf_1 : cX0_houseOf.data.toList.drop 1 = dktX0_houseOf_1 := dk_seg dksX0_houseOf_0 1 rfl rfl
theorem dksX0_houseOf_2 : cX0_houseOf.data.toList.drop 36 = dktX0_houseOf_2 := dk_seg dksX0_houseOf_1 35 rfl rfl
theorem dksX0_houseOf_3 : cX0_houseOf.data.toList.drop 60 = dktX0_houseOf_3 := dk_seg dksX0_houseOf_2 24 rfl rfl
theorem dX0_houseOf_0 : decode cX0_houseOf 0 = .ok (.iload_n 0, 1) := dk_26 (dk_at dksX0_houseOf_0 0 rfl rfl)
theorem dX0_houseOf_1 : decode cX0_houseOf 1 = .ok (.tableswitch 75 1 5 #[35, 43, 51, 59, 67], 35) := by decide +kernel
theorem dX0_houseOf_36 : decode cX0_houseOf 36 = .ok (.new 13, 3) := dk_187 0 13 (dk_at dksX0_houseOf_2 0 rfl rfl)
theorem dX0_houseOf_39 : decode cX0_houseOf 39 = .ok (.dup, 1) := dk_89 (dk_at dksX0_houseOf_2 3 rfl rfl)
theorem dX0_houseOf_40 : decode cX0_houseOf 40 = .ok (.invokespecial 15, 3) := dk_183 0 15 (dk_at dksX0_houseOf_2 4 rfl rfl)
theorem dX0_houseOf_43 : decode cX0_houseOf 43 = .ok (.areturn, 1) := dk_176 (dk_at dksX0_houseOf_2 7 rfl rfl)
theorem dX0_houseOf_44 : decode cX0_houseOf 44 = .ok (.new 19, 3) := dk_187 0 19 (dk_at dksX0_houseOf_2 8 rfl rfl)
theorem dX0_houseOf_47 : decode cX0_houseOf 47 = .ok (.dup, 1) := dk_89 (dk_at dksX0_houseOf_2 11 rfl rfl)
theorem dX0_houseOf_48 : decode cX0_houseOf 48 = .ok (.invokespecial 21, 3) := dk_183 0 21 (dk_at dksX0_houseOf_2 12 rfl rfl)
theorem dX0_houseOf_51 : decode cX0_houseOf 51 = .ok (.areturn, 1) := dk_176 (dk_at dksX0_houseOf_2 15 rfl rfl)
theorem dX0_houseOf_52 : decode cX0_houseOf 52 = .ok (.new 22, 3) := dk_187 0 22 (dk_at dksX0_houseOf_2 16 rfl rfl)
theorem dX0_houseOf_55 : decode cX0_houseOf 55 = .ok (.dup, 1) := dk_89 (dk_at dksX0_houseOf_2 19 rfl rfl)
theorem dX0_houseOf_56 : decode cX0_houseOf 56 = .ok (.invokespecial 24, 3) := dk_183 0 24 (dk_at dksX0_houseOf_2 20 rfl rfl)
theorem dX0_houseOf_59 : decode cX0_houseOf 59 = .ok (.areturn, 1) := dk_176 (dk_at dksX0_houseOf_2 23 rfl rfl)
theorem dX0_houseOf_60 : decode cX0_houseOf 60 = .ok (.new 25, 3) := dk_187 0 25 (dk_at dksX0_houseOf_3 0 rfl rfl)
theorem dX0_houseOf_63 : decode cX0_houseOf 63 = .ok (.dup, 1) := dk_89 (dk_at dksX0_houseOf_3 3 rfl rfl)
theorem dX0_houseOf_64 : decode cX0_houseOf 64 = .ok (.invokespecial 27, 3) := dk_183 0 27 (dk_at dksX0_houseOf_3 4 rfl rfl)
theorem dX0_houseOf_67 : decode cX0_houseOf 67 = .ok (.areturn, 1) := dk_176 (dk_at dksX0_houseOf_3 7 rfl rfl)
theorem dX0_houseOf_68 : decode cX0_houseOf 68 = .ok (.new 28, 3) := dk_187 0 28 (dk_at dksX0_houseOf_3 8 rfl rfl)
theorem dX0_houseOf_71 : decode cX0_houseOf 71 = .ok (.dup, 1) := dk_89 (dk_at dksX0_houseOf_3 11 rfl rfl)
theorem dX0_houseOf_72 : decode cX0_houseOf 72 = .ok (.invokespecial 30, 3) := dk_183 0 30 (dk_at dksX0_houseOf_3 12 rfl rfl)
theorem dX0_houseOf_75 : decode cX0_houseOf 75 = .ok (.areturn, 1) := dk_176 (dk_at dksX0_houseOf_3 15 rfl rfl)
theorem dX0_houseOf_76 : decode cX0_houseOf 76 = .ok (.new 31, 3) := dk_187 0 31 (dk_at dksX0_houseOf_3 16 rfl rfl)
theorem dX0_houseOf_79 : decode cX0_houseOf 79 = .ok (.dup, 1) := dk_89 (dk_at dksX0_houseOf_3 19 rfl rfl)
theorem dX0_houseOf_80 : decode cX0_houseOf 80 = .ok (.invokespecial 33, 3) := dk_183 0 33 (dk_at dksX0_houseOf_3 20 rfl rfl)
theorem dX0_houseOf_83 : decode cX0_houseOf 83 = .ok (.areturn, 1) := dk_176 (dk_at dksX0_houseOf_3 23 rfl rfl)
abbrev cX0_told : ByteArray := prog_1_method_39_code
def yX0_told : MethodName := ⟨RX0, "told", "(II)I"⟩
def dkwX0_told_4 : List UInt8 := [172, 45, 182, 1, 69, 172, 42, 27, 182, 1, 72, 172, 45, 182, 1, 75, 172, 18, 130, 172]
abbrev dktX0_told_4 : List UInt8 := dkwX0_told_4 ++ []
def dkwX0_told_3 : List UInt8 := [172, 45, 180, 1, 66, 172, 45, 180, 1, 46, 153, 0, 7, 4, 167, 0, 4, 3, 172, 42, 45, 182, 1, 59]
abbrev dktX0_told_3 : List UInt8 := dkwX0_told_3 ++ dktX0_told_4
def dkwX0_told_2 : List UInt8 := [45, 182, 1, 63, 172, 45, 180, 1, 2, 172, 45, 180, 1, 5, 172, 45, 180, 1, 8, 172, 45, 180, 1, 32]
abbrev dktX0_told_2 : List UInt8 := dkwX0_told_2 ++ dktX0_told_3
def dkwX0_told_1 : List UInt8 := [170, 0, 0, 0, 0, 123, 0, 0, 0, 0, 0, 0, 0, 10, 0, 0, 0, 58, 0, 0, 0, 63, 0, 0, 0, 68, 0, 0, 0, 73, 0, 0, 0, 78, 0, 0, 0, 83, 0, 0, 0, 88, 0, 0, 0, 101, 0, 0, 0, 107, 0, 0, 0, 112, 0, 0, 0, 118]
abbrev dktX0_told_1 : List UInt8 := dkwX0_told_1 ++ dktX0_told_2
def dkwX0_told_0 : List UInt8 := [42, 27, 182, 1, 43, 154, 0, 6, 18, 130, 172, 42, 180, 0, 40, 180, 1, 11, 27, 50, 78, 28]
abbrev dktX0_told_0 : List UInt8 := dkwX0_told_0 ++ dktX0_told_1
theorem dksX0_told_0 : cX0_told.data.toList.drop 0 = dktX0_told_0 := by decide +kernel
theorem dksX0_told_1 : cX0_told.data.toList.drop 22 = dktX0_told_1 := dk_seg dksX0_told_0 22 rfl rfl
theorem dksX0_told_2 : cX0_told.data.toList.drop 80 = dktX0_told_2 := dk_seg dksX0_told_1 58 rfl rfl
theorem dksX0_told_3 : cX0_told.data.toList.drop 104 = dktX0_told_3 := dk_seg dksX0_told_2 24 rfl rfl
theorem dksX0_told_4 : cX0_told.data.toList.drop 128 = dktX0_told_4 := dk_seg dksX0_told_3 24 rfl rfl
theorem dX0_told_0 : decode cX0_told 0 = .ok (.aload_n 0, 1) := dk_42 (dk_at dksX0_told_0 0 rfl rfl)
theorem dX0_told_1 : decode cX0_told 1 = .ok (.iload_n 1, 1) := dk_27 (dk_at dksX0_told_0 1 rfl rfl)
theorem dX0_told_2 : decode cX0_told 2 = .ok (.invokevirtual 299, 3) := dk_182 1 43 (dk_at dksX0_told_0 2 rfl rfl)
theorem dX0_told_5 : decode cX0_told 5 = .ok (.ifCond .ne 6, 3) := dk_154 0 6 (dk_at dksX0_told_0 5 rfl rfl)
theorem dX0_told_8 : decode cX0_told 8 = .ok (.ldc 130, 2) := dk_18 130 (dk_at dksX0_told_0 8 rfl rfl)
theorem dX0_told_10 : decode cX0_told 10 = .ok (.ireturn, 1) := dk_172 (dk_at dksX0_told_0 10 rfl rfl)
theorem dX0_told_11 : decode cX0_told 11 = .ok (.aload_n 0, 1) := dk_42 (dk_at dksX0_told_0 11 rfl rfl)
theorem dX0_told_12 : decode cX0_told 12 = .ok (.getfield 40, 3) := dk_180 0 40 (dk_at dksX0_told_0 12 rfl rfl)
theorem dX0_told_15 : decode cX0_told 15 = .ok (.getfield 267, 3) := dk_180 1 11 (dk_at dksX0_told_0 15 rfl rfl)
theorem dX0_told_18 : decode cX0_told 18 = .ok (.iload_n 1, 1) := dk_27 (dk_at dksX0_told_0 18 rfl rfl)
theorem dX0_told_19 : decode cX0_told 19 = .ok (.aaload, 1) := dk_50 (dk_at dksX0_told_0 19 rfl rfl)
theorem dX0_told_20 : decode cX0_told 20 = .ok (.astore_n 3, 1) := dk_78 (dk_at dksX0_told_0 20 rfl rfl)
theorem dX0_told_21 : decode cX0_told 21 = .ok (.iload_n 2, 1) := dk_28 (dk_at dksX0_told_0 21 rfl rfl)
theorem dX0_told_22 : decode cX0_told 22 = .ok (.tableswitch 123 0 10 #[58, 63, 68, 73, 78, 83, 88, 101, 107, 112, 118], 58) := by decide +kernel
theorem dX0_told_80 : decode cX0_told 80 = .ok (.aload_n 3, 1) := dk_45 (dk_at dksX0_told_2 0 rfl rfl)
theorem dX0_told_81 : decode cX0_told 81 = .ok (.invokevirtual 319, 3) := dk_182 1 63 (dk_at dksX0_told_2 1 rfl rfl)
theorem dX0_told_84 : decode cX0_told 84 = .ok (.ireturn, 1) := dk_172 (dk_at dksX0_told_2 4 rfl rfl)
theorem dX0_told_85 : decode cX0_told 85 = .ok (.aload_n 3, 1) := dk_45 (dk_at dksX0_told_2 5 rfl rfl)
theorem dX0_told_86 : decode cX0_told 86 = .ok (.getfield 258, 3) := dk_180 1 2 (dk_at dksX0_told_2 6 rfl rfl)
theorem dX0_told_89 : decode cX0_told 89 = .ok (.ireturn, 1) := dk_172 (dk_at dksX0_told_2 9 rfl rfl)
theorem dX0_told_90 : decode cX0_told 90 = .ok (.aload_n 3, 1) := dk_45 (dk_at dksX0_told_2 10 rfl rfl)
theorem dX0_told_91 : decode cX0_told 91 = .ok (.getfield 261, 3) := dk_180 1 5 (dk_at dksX0_told_2 11 rfl rfl)
theorem dX0_told_94 : decode cX0_told 94 = .ok (.ireturn, 1) := dk_172 (dk_at dksX0_told_2 14 rfl rfl)
theorem dX0_told_95 : decode cX0_told 95 = .ok (.aload_n 3, 1) := dk_45 (dk_at dksX0_told_2 15 rfl rfl)
theorem dX0_told_96 : decode cX0_told 96 = .ok (.getfield 264, 3) := dk_180 1 8 (dk_at dksX0_told_2 16 rfl rfl)
theorem dX0_told_99 : decode cX0_told 99 = .ok (.ireturn, 1) := dk_172 (dk_at dksX0_told_2 19 rfl rfl)
theorem dX0_told_100 : decode cX0_told 100 = .ok (.aload_n 3, 1) := dk_45 (dk_at dksX0_told_2 20 rfl rfl)
theorem dX0_told_101 : decode cX0_told 101 = .ok (.getfield 288, 3) := dk_180 1 32 (dk_at dksX0_told_2 21 rfl rfl)
theorem dX0_told_104 : decode cX0_told 104 = .ok (.ireturn, 1) := dk_172 (dk_at dksX0_told_3 0 rfl rfl)
theorem dX0_told_105 : decode cX0_told 105 = .ok (.aload_n 3, 1) := dk_45 (dk_at dksX0_told_3 1 rfl rfl)
theorem dX0_told_106 : decode cX0_told 106 = .ok (.getfield 322, 3) := dk_180 1 66 (dk_at dksX0_told_3 2 rfl rfl)
theorem dX0_told_109 : decode cX0_told 109 = .ok (.ireturn, 1) := dk_172 (dk_at dksX0_told_3 5 rfl rfl)
theorem dX0_told_110 : decode cX0_told 110 = .ok (.aload_n 3, 1) := dk_45 (dk_at dksX0_told_3 6 rfl rfl)
theorem dX0_told_111 : decode cX0_told 111 = .ok (.getfield 302, 3) := dk_180 1 46 (dk_at dksX0_told_3 7 rfl rfl)
theorem dX0_told_114 : decode cX0_told 114 = .ok (.ifCond .eq 7, 3) := dk_153 0 7 (dk_at dksX0_told_3 10 rfl rfl)
theorem dX0_told_117 : decode cX0_told 117 = .ok (.iconst 1, 1) := dk_4 (dk_at dksX0_told_3 13 rfl rfl)
theorem dX0_told_118 : decode cX0_told 118 = .ok (.goto 4, 3) := dk_167 0 4 (dk_at dksX0_told_3 14 rfl rfl)
theorem dX0_told_121 : decode cX0_told 121 = .ok (.iconst 0, 1) := dk_3 (dk_at dksX0_told_3 17 rfl rfl)
theorem dX0_told_122 : decode cX0_told 122 = .ok (.ireturn, 1) := dk_172 (dk_at dksX0_told_3 18 rfl rfl)
theorem dX0_told_123 : decode cX0_told 123 = .ok (.aload_n 0, 1) := dk_42 (dk_at dksX0_told_3 19 rfl rfl)
theorem dX0_told_124 : decode cX0_told 124 = .ok (.aload_n 3, 1) := dk_45 (dk_at dksX0_told_3 20 rfl rfl)
theorem dX0_told_125 : decode cX0_told 125 = .ok (.invokevirtual 315, 3) := dk_182 1 59 (dk_at dksX0_told_3 21 rfl rfl)
theorem dX0_told_128 : decode cX0_told 128 = .ok (.ireturn, 1) := dk_172 (dk_at dksX0_told_4 0 rfl rfl)
theorem dX0_told_129 : decode cX0_told 129 = .ok (.aload_n 3, 1) := dk_45 (dk_at dksX0_told_4 1 rfl rfl)
theorem dX0_told_130 : decode cX0_told 130 = .ok (.invokevirtual 325, 3) := dk_182 1 69 (dk_at dksX0_told_4 2 rfl rfl)
theorem dX0_told_133 : decode cX0_told 133 = .ok (.ireturn, 1) := dk_172 (dk_at dksX0_told_4 5 rfl rfl)
theorem dX0_told_134 : decode cX0_told 134 = .ok (.aload_n 0, 1) := dk_42 (dk_at dksX0_told_4 6 rfl rfl)
theorem dX0_told_135 : decode cX0_told 135 = .ok (.iload_n 1, 1) := dk_27 (dk_at dksX0_told_4 7 rfl rfl)
theorem dX0_told_136 : decode cX0_told 136 = .ok (.invokevirtual 328, 3) := dk_182 1 72 (dk_at dksX0_told_4 8 rfl rfl)
theorem dX0_told_139 : decode cX0_told 139 = .ok (.ireturn, 1) := dk_172 (dk_at dksX0_told_4 11 rfl rfl)
theorem dX0_told_140 : decode cX0_told 140 = .ok (.aload_n 3, 1) := dk_45 (dk_at dksX0_told_4 12 rfl rfl)
theorem dX0_told_141 : decode cX0_told 141 = .ok (.invokevirtual 331, 3) := dk_182 1 75 (dk_at dksX0_told_4 13 rfl rfl)
theorem dX0_told_144 : decode cX0_told 144 = .ok (.ireturn, 1) := dk_172 (dk_at dksX0_told_4 16 rfl rfl)
theorem dX0_told_145 : decode cX0_told 145 = .ok (.ldc 130, 2) := dk_18 130 (dk_at dksX0_told_4 17 rfl rfl)
theorem dX0_told_147 : decode cX0_told 147 = .ok (.ireturn, 1) := dk_172 (dk_at dksX0_told_4 19 rfl rfl)
abbrev cX0_isHouse : ByteArray := prog_1_method_6_code
def yX0_isHouse : MethodName := ⟨RX0, "isHouse", "(I)Z"⟩
def dkwX0_isHouse_0 : List UInt8 := [27, 3, 42, 180, 0, 40, 180, 0, 101, 4, 100, 184, 0, 105, 172]
abbrev dktX0_isHouse_0 : List UInt8 := dkwX0_isHouse_0 ++ []
theorem dksX0_isHouse_0 : cX0_isHouse.data.toList.drop 0 = dktX0_isHouse_0 := by decide +kernel
theorem dX0_isHouse_0 : decode cX0_isHouse 0 = .ok (.iload_n 1, 1) := dk_27 (dk_at dksX0_isHouse_0 0 rfl rfl)
theorem dX0_isHouse_1 : decode cX0_isHouse 1 = .ok (.iconst 0, 1) := dk_3 (dk_at dksX0_isHouse_0 1 rfl rfl)
theorem dX0_isHouse_2 : decode cX0_isHouse 2 = .ok (.aload_n 0, 1) := dk_42 (dk_at dksX0_isHouse_0 2 rfl rfl)
theorem dX0_isHouse_3 : decode cX0_isHouse 3 = .ok (.getfield 40, 3) := dk_180 0 40 (dk_at dksX0_isHouse_0 3 rfl rfl)
theorem dX0_isHouse_6 : decode cX0_isHouse 6 = .ok (.getfield 101, 3) := dk_180 0 101 (dk_at dksX0_isHouse_0 6 rfl rfl)
theorem dX0_isHouse_9 : decode cX0_isHouse 9 = .ok (.iconst 1, 1) := dk_4 (dk_at dksX0_isHouse_0 9 rfl rfl)
theorem dX0_isHouse_10 : decode cX0_isHouse 10 = .ok (.isub, 1) := dk_100 (dk_at dksX0_isHouse_0 10 rfl rfl)
theorem dX0_isHouse_11 : decode cX0_isHouse 11 = .ok (.invokestatic 105, 3) := dk_184 0 105 (dk_at dksX0_isHouse_0 11 rfl rfl)
theorem dX0_isHouse_14 : decode cX0_isHouse 14 = .ok (.ireturn, 1) := dk_172 (dk_at dksX0_isHouse_0 14 rfl rfl)
abbrev cX0_pushOf : ByteArray := prog_1_method_36_code
def yX0_pushOf : MethodName := ⟨RX0, "pushOf", "(LLeaningStreet$House;)I"⟩
def dkwX0_pushOf_4 : List UInt8 := [182, 1, 29, 172]
abbrev dktX0_pushOf_4 : List UInt8 := dkwX0_pushOf_4 ++ []
def dkwX0_pushOf_3 : List UInt8 := [42, 42, 180, 0, 40, 180, 0, 240, 29, 50, 180, 1, 35, 182, 1, 39, 3, 17, 3, 231, 184, 1, 26]
abbrev dktX0_pushOf_3 : List UInt8 := dkwX0_pushOf_3 ++ dktX0_pushOf_4
def dkwX0_pushOf_2 : List UInt8 := [180, 1, 2, 79, 42, 180, 0, 68, 16, 108, 28, 79, 42, 180, 0, 68, 16, 99, 43, 180, 1, 32, 79, 43]
abbrev dktX0_pushOf_2 : List UInt8 := dkwX0_pushOf_2 ++ dktX0_pushOf_3
def dkwX0_pushOf_1 : List UInt8 := [28, 104, 16, 10, 108, 3, 17, 3, 231, 184, 1, 26, 182, 1, 29, 172, 42, 180, 0, 68, 16, 119, 43]
abbrev dktX0_pushOf_1 : List UInt8 := dkwX0_pushOf_1 ++ dktX0_pushOf_2
def dkwX0_pushOf_0 : List UInt8 := [43, 180, 1, 5, 184, 1, 23, 61, 42, 3, 182, 0, 247, 62, 29, 2, 160, 0, 24, 43, 43, 180, 1, 2]
abbrev dktX0_pushOf_0 : List UInt8 := dkwX0_pushOf_0 ++ dktX0_pushOf_1
theorem dksX0_pushOf_0 : cX0_pushOf.data.toList.drop 0 = dktX0_pushOf_0 := by decide +kernel
theorem dksX0_pushOf_1 : cX0_pushOf.data.toList.drop 24 = dktX0_pushOf_1 := dk_seg dksX0_pushOf_0 24 rfl rfl
theorem dksX0_pushOf_2 : cX0_pushOf.data.toList.drop 47 = dktX0_pushOf_2 := dk_seg dksX0_pushOf_1 23 rfl rfl
theorem dksX0_pushOf_3 : cX0_pushOf.data.toList.drop 71 = dktX0_pushOf_3 := dk_seg dksX0_pushOf_2 24 rfl rfl
theorem dksX0_pushOf_4 : cX0_pushOf.data.toList.drop 94 = dktX0_pushOf_4 := dk_seg dksX0_pushOf_3 23 rfl rfl
theorem dX0_pushOf_0 : decode cX0_pushOf 0 = .ok (.aload_n 1, 1) := dk_43 (dk_at dksX0_pushOf_0 0 rfl rfl)
theorem dX0_pushOf_1 : decode cX0_pushOf 1 = .ok (.getfield 261, 3) := dk_180 1 5 (dk_at dksX0_pushOf_0 1 rfl rfl)
theorem dX0_pushOf_4 : decode cX0_pushOf 4 = .ok (.invokestatic 279, 3) := dk_184 1 23 (dk_at dksX0_pushOf_0 4 rfl rfl)
theorem dX0_pushOf_7 : decode cX0_pushOf 7 = .ok (.istore_n 2, 1) := dk_61 (dk_at dksX0_pushOf_0 7 rfl rfl)
theorem dX0_pushOf_8 : decode cX0_pushOf 8 = .ok (.aload_n 0, 1) := dk_42 (dk_at dksX0_pushOf_0 8 rfl rfl)
theorem dX0_pushOf_9 : decode cX0_pushOf 9 = .ok (.iconst 0, 1) := dk_3 (dk_at dksX0_pushOf_0 9 rfl rfl)
theorem dX0_pushOf_10 : decode cX0_pushOf 10 = .ok (.invokevirtual 247, 3) := dk_182 0 247 (dk_at dksX0_pushOf_0 10 rfl rfl)
theorem dX0_pushOf_13 : decode cX0_pushOf 13 = .ok (.istore_n 3, 1) := dk_62 (dk_at dksX0_pushOf_0 13 rfl rfl)
theorem dX0_pushOf_14 : decode cX0_pushOf 14 = .ok (.iload_n 3, 1) := dk_29 (dk_at dksX0_pushOf_0 14 rfl rfl)
theorem dX0_pushOf_15 : decode cX0_pushOf 15 = .ok (.iconst (-1), 1) := dk_2 (dk_at dksX0_pushOf_0 15 rfl rfl)
theorem dX0_pushOf_16 : decode cX0_pushOf 16 = .ok (.if_icmp .ne 24, 3) := dk_160 0 24 (dk_at dksX0_pushOf_0 16 rfl rfl)
theorem dX0_pushOf_19 : decode cX0_pushOf 19 = .ok (.aload_n 1, 1) := dk_43 (dk_at dksX0_pushOf_0 19 rfl rfl)
theorem dX0_pushOf_20 : decode cX0_pushOf 20 = .ok (.aload_n 1, 1) := dk_43 (dk_at dksX0_pushOf_0 20 rfl rfl)
theorem dX0_pushOf_21 : decode cX0_pushOf 21 = .ok (.getfield 258, 3) := dk_180 1 2 (dk_at dksX0_pushOf_0 21 rfl rfl)
theorem dX0_pushOf_24 : decode cX0_pushOf 24 = .ok (.iload_n 2, 1) := dk_28 (dk_at dksX0_pushOf_1 0 rfl rfl)
theorem dX0_pushOf_25 : decode cX0_pushOf 25 = .ok (.imul, 1) := dk_104 (dk_at dksX0_pushOf_1 1 rfl rfl)
theorem dX0_pushOf_26 : decode cX0_pushOf 26 = .ok (.bipush 10, 2) := dk_16 10 (dk_at dksX0_pushOf_1 2 rfl rfl)
theorem dX0_pushOf_28 : decode cX0_pushOf 28 = .ok (.idiv, 1) := dk_108 (dk_at dksX0_pushOf_1 4 rfl rfl)
theorem dX0_pushOf_29 : decode cX0_pushOf 29 = .ok (.iconst 0, 1) := dk_3 (dk_at dksX0_pushOf_1 5 rfl rfl)
theorem dX0_pushOf_30 : decode cX0_pushOf 30 = .ok (.sipush 999, 3) := dk_17 3 231 (dk_at dksX0_pushOf_1 6 rfl rfl)
theorem dX0_pushOf_33 : decode cX0_pushOf 33 = .ok (.invokestatic 282, 3) := dk_184 1 26 (dk_at dksX0_pushOf_1 9 rfl rfl)
theorem dX0_pushOf_36 : decode cX0_pushOf 36 = .ok (.invokevirtual 285, 3) := dk_182 1 29 (dk_at dksX0_pushOf_1 12 rfl rfl)
theorem dX0_pushOf_39 : decode cX0_pushOf 39 = .ok (.ireturn, 1) := dk_172 (dk_at dksX0_pushOf_1 15 rfl rfl)
theorem dX0_pushOf_40 : decode cX0_pushOf 40 = .ok (.aload_n 0, 1) := dk_42 (dk_at dksX0_pushOf_1 16 rfl rfl)
theorem dX0_pushOf_41 : decode cX0_pushOf 41 = .ok (.getfield 68, 3) := dk_180 0 68 (dk_at dksX0_pushOf_1 17 rfl rfl)
theorem dX0_pushOf_44 : decode cX0_pushOf 44 = .ok (.bipush 119, 2) := dk_16 119 (dk_at dksX0_pushOf_1 20 rfl rfl)
theorem dX0_pushOf_46 : decode cX0_pushOf 46 = .ok (.aload_n 1, 1) := dk_43 (dk_at dksX0_pushOf_1 22 rfl rfl)
theorem dX0_pushOf_47 : decode cX0_pushOf 47 = .ok (.getfield 258, 3) := dk_180 1 2 (dk_at dksX0_pushOf_2 0 rfl rfl)
theorem dX0_pushOf_50 : decode cX0_pushOf 50 = .ok (.iastore, 1) := dk_79 (dk_at dksX0_pushOf_2 3 rfl rfl)
theorem dX0_pushOf_51 : decode cX0_pushOf 51 = .ok (.aload_n 0, 1) := dk_42 (dk_at dksX0_pushOf_2 4 rfl rfl)
theorem dX0_pushOf_52 : decode cX0_pushOf 52 = .ok (.getfield 68, 3) := dk_180 0 68 (dk_at dksX0_pushOf_2 5 rfl rfl)
theorem dX0_pushOf_55 : decode cX0_pushOf 55 = .ok (.bipush 108, 2) := dk_16 108 (dk_at dksX0_pushOf_2 8 rfl rfl)
theorem dX0_pushOf_57 : decode cX0_pushOf 57 = .ok (.iload_n 2, 1) := dk_28 (dk_at dksX0_pushOf_2 10 rfl rfl)
theorem dX0_pushOf_58 : decode cX0_pushOf 58 = .ok (.iastore, 1) := dk_79 (dk_at dksX0_pushOf_2 11 rfl rfl)
theorem dX0_pushOf_59 : decode cX0_pushOf 59 = .ok (.aload_n 0, 1) := dk_42 (dk_at dksX0_pushOf_2 12 rfl rfl)
theorem dX0_pushOf_60 : decode cX0_pushOf 60 = .ok (.getfield 68, 3) := dk_180 0 68 (dk_at dksX0_pushOf_2 13 rfl rfl)
theorem dX0_pushOf_63 : decode cX0_pushOf 63 = .ok (.bipush 99, 2) := dk_16 99 (dk_at dksX0_pushOf_2 16 rfl rfl)
theorem dX0_pushOf_65 : decode cX0_pushOf 65 = .ok (.aload_n 1, 1) := dk_43 (dk_at dksX0_pushOf_2 18 rfl rfl)
theorem dX0_pushOf_66 : decode cX0_pushOf 66 = .ok (.getfield 288, 3) := dk_180 1 32 (dk_at dksX0_pushOf_2 19 rfl rfl)
theorem dX0_pushOf_69 : decode cX0_pushOf 69 = .ok (.iastore, 1) := dk_79 (dk_at dksX0_pushOf_2 22 rfl rfl)
theorem dX0_pushOf_70 : decode cX0_pushOf 70 = .ok (.aload_n 1, 1) := dk_43 (dk_at dksX0_pushOf_2 23 rfl rfl)
theorem dX0_pushOf_71 : decode cX0_pushOf 71 = .ok (.aload_n 0, 1) := dk_42 (dk_at dksX0_pushOf_3 0 rfl rfl)
theorem dX0_pushOf_72 : decode cX0_pushOf 72 = .ok (.aload_n 0, 1) := dk_42 (dk_at dksX0_pushOf_3 1 rfl rfl)
theorem dX0_pushOf_73 : decode cX0_pushOf 73 = .ok (.getfield 40, 3) := dk_180 0 40 (dk_at dksX0_pushOf_3 2 rfl rfl)
theorem dX0_pushOf_76 : decode cX0_pushOf 76 = .ok (.getfield 240, 3) := dk_180 0 240 (dk_at dksX0_pushOf_3 5 rfl rfl)
theorem dX0_pushOf_79 : decode cX0_pushOf 79 = .ok (.iload_n 3, 1) := dk_29 (dk_at dksX0_pushOf_3 8 rfl rfl)
theorem dX0_pushOf_80 : decode cX0_pushOf 80 = .ok (.aaload, 1) := dk_50 (dk_at dksX0_pushOf_3 9 rfl rfl)
theorem dX0_pushOf_81 : decode cX0_pushOf 81 = .ok (.getfield 291, 3) := dk_180 1 35 (dk_at dksX0_pushOf_3 10 rfl rfl)
theorem dX0_pushOf_84 : decode cX0_pushOf 84 = .ok (.invokevirtual 295, 3) := dk_182 1 39 (dk_at dksX0_pushOf_3 13 rfl rfl)
theorem dX0_pushOf_87 : decode cX0_pushOf 87 = .ok (.iconst 0, 1) := dk_3 (dk_at dksX0_pushOf_3 16 rfl rfl)
theorem dX0_pushOf_88 : decode cX0_pushOf 88 = .ok (.sipush 999, 3) := dk_17 3 231 (dk_at dksX0_pushOf_3 17 rfl rfl)
theorem dX0_pushOf_91 : decode cX0_pushOf 91 = .ok (.invokestatic 282, 3) := dk_184 1 26 (dk_at dksX0_pushOf_3 20 rfl rfl)
theorem dX0_pushOf_94 : decode cX0_pushOf 94 = .ok (.invokevirtual 285, 3) := dk_182 1 29 (dk_at dksX0_pushOf_4 0 rfl rfl)
theorem dX0_pushOf_97 : decode cX0_pushOf 97 = .ok (.ireturn, 1) := dk_172 (dk_at dksX0_pushOf_4 3 rfl rfl)
abbrev cX0_within : ByteArray := prog_1_method_3_code
def yX0_within : MethodName := ⟨RX0, "within", "(III)I"⟩
def dkwX0_within_0 : List UInt8 := [27, 28, 26, 184, 0, 4, 184, 0, 10, 172]
abbrev dktX0_within_0 : List UInt8 := dkwX0_within_0 ++ []
theorem dksX0_within_0 : cX0_within.data.toList.drop 0 = dktX0_within_0 := by decide +kernel
theorem dX0_within_0 : decode cX0_within 0 = .ok (.iload_n 1, 1) := dk_27 (dk_at dksX0_within_0 0 rfl rfl)
theorem dX0_within_1 : decode cX0_within 1 = .ok (.iload_n 2, 1) := dk_28 (dk_at dksX0_within_0 1 rfl rfl)
theorem dX0_within_2 : decode cX0_within 2 = .ok (.iload_n 0, 1) := dk_26 (dk_at dksX0_within_0 2 rfl rfl)
theorem dX0_within_3 : decode cX0_within 3 = .ok (.invokestatic 4, 3) := dk_184 0 4 (dk_at dksX0_within_0 3 rfl rfl)
theorem dX0_within_6 : decode cX0_within 6 = .ok (.invokestatic 10, 3) := dk_184 0 10 (dk_at dksX0_within_0 6 rfl rfl)
theorem dX0_within_9 : decode cX0_within 9 = .ok (.ireturn, 1) := dk_172 (dk_at dksX0_within_0 9 rfl rfl)
abbrev cX0_reckon : ByteArray := prog_1_method_8_code
def yX0_reckon : MethodName := ⟨RX0, "reckon", "(LLeaningStreet$Words;)I"⟩
def dkwX0_reckon_6 : List UInt8 := [180, 0, 53, 3, 46, 172]
abbrev dktX0_reckon_6 : List UInt8 := dkwX0_reckon_6 ++ []
def dkwX0_reckon_5 : List UInt8 := [180, 0, 53, 28, 4, 100, 46, 42, 180, 0, 53, 28, 46, 184, 0, 118, 79, 132, 3, 1, 167, 255, 124, 42]
abbrev dktX0_reckon_5 : List UInt8 := dkwX0_reckon_5 ++ dktX0_reckon_6
def dkwX0_reckon_4 : List UInt8 := [4, 167, 0, 4, 3, 79, 167, 0, 33, 132, 2, 255, 42, 180, 0, 53, 28, 4, 100, 21, 4, 42]
abbrev dktX0_reckon_4 : List UInt8 := dkwX0_reckon_4 ++ dktX0_reckon_5
def dkwX0_reckon_3 : List UInt8 := [21, 4, 6, 160, 0, 30, 42, 180, 0, 53, 28, 4, 100, 42, 180, 0, 53, 28, 4, 100, 46, 154, 0, 7]
abbrev dktX0_reckon_3 : List UInt8 := dkwX0_reckon_3 ++ dktX0_reckon_4
def dkwX0_reckon_2 : List UInt8 := [29, 46, 167, 0, 14, 42, 180, 0, 68, 43, 180, 0, 115, 29, 46, 46, 79, 132, 2, 1, 167, 0, 66]
abbrev dktX0_reckon_2 : List UInt8 := dkwX0_reckon_2 ++ dktX0_reckon_3
def dkwX0_reckon_1 : List UInt8 := [159, 0, 9, 21, 4, 5, 160, 0, 41, 42, 180, 0, 53, 28, 21, 4, 4, 160, 0, 12, 43, 180, 0, 115]
abbrev dktX0_reckon_1 : List UInt8 := dkwX0_reckon_1 ++ dktX0_reckon_2
def dkwX0_reckon_0 : List UInt8 := [3, 61, 3, 62, 29, 43, 180, 0, 109, 162, 0, 130, 43, 180, 0, 112, 29, 46, 54, 4, 21, 4, 4]
abbrev dktX0_reckon_0 : List UInt8 := dkwX0_reckon_0 ++ dktX0_reckon_1
theorem dksX0_reckon_0 : cX0_reckon.data.toList.drop 0 = dktX0_reckon_0 := by decide +kernel
theorem dksX0_reckon_1 : cX0_reckon.data.toList.drop 23 = dktX0_reckon_1 := dk_seg dksX0_reckon_0 23 rfl rfl
theorem dksX0_reckon_2 : cX0_reckon.data.toList.drop 47 = dktX0_reckon_2 := dk_seg dksX0_reckon_1 24 rfl rfl
theorem dksX0_reckon_3 : cX0_reckon.data.toList.drop 70 = dktX0_reckon_3 := dk_seg dksX0_reckon_2 23 rfl rfl
theorem dksX0_reckon_4 : cX0_reckon.data.toList.drop 94 = dktX0_reckon_4 := dk_seg dksX0_reckon_3 24 rfl rfl
theorem dksX0_reckon_5 : cX0_reckon.data.toList.drop 116 = dktX0_reckon_5 := dk_seg dksX0_reckon_4 22 rfl rfl
theorem dksX0_reckon_6 : cX0_reckon.data.toList.drop 140 = dktX0_reckon_6 := dk_seg dksX0_reckon_5 24 rfl rfl
theorem dX0_reckon_0 : decode cX0_reckon 0 = .ok (.iconst 0, 1) := dk_3 (dk_at dksX0_reckon_0 0 rfl rfl)
theorem dX0_reckon_1 : decode cX0_reckon 1 = .ok (.istore_n 2, 1) := dk_61 (dk_at dksX0_reckon_0 1 rfl rfl)
theorem dX0_reckon_2 : decode cX0_reckon 2 = .ok (.iconst 0, 1) := dk_3 (dk_at dksX0_reckon_0 2 rfl rfl)
theorem dX0_reckon_3 : decode cX0_reckon 3 = .ok (.istore_n 3, 1) := dk_62 (dk_at dksX0_reckon_0 3 rfl rfl)
theorem dX0_reckon_4 : decode cX0_reckon 4 = .ok (.iload_n 3, 1) := dk_29 (dk_at dksX0_reckon_0 4 rfl rfl)
theorem dX0_reckon_5 : decode cX0_reckon 5 = .ok (.aload_n 1, 1) := dk_43 (dk_at dksX0_reckon_0 5 rfl rfl)
theorem dX0_reckon_6 : decode cX0_reckon 6 = .ok (.getfield 109, 3) := dk_180 0 109 (dk_at dksX0_reckon_0 6 rfl rfl)
theorem dX0_reckon_9 : decode cX0_reckon 9 = .ok (.if_icmp .ge 130, 3) := dk_162 0 130 (dk_at dksX0_reckon_0 9 rfl rfl)
theorem dX0_reckon_12 : decode cX0_reckon 12 = .ok (.aload_n 1, 1) := dk_43 (dk_at dksX0_reckon_0 12 rfl rfl)
theorem dX0_reckon_13 : decode cX0_reckon 13 = .ok (.getfield 112, 3) := dk_180 0 112 (dk_at dksX0_reckon_0 13 rfl rfl)
theorem dX0_reckon_16 : decode cX0_reckon 16 = .ok (.iload_n 3, 1) := dk_29 (dk_at dksX0_reckon_0 16 rfl rfl)
theorem dX0_reckon_17 : decode cX0_reckon 17 = .ok (.iaload, 1) := dk_46 (dk_at dksX0_reckon_0 17 rfl rfl)
theorem dX0_reckon_18 : decode cX0_reckon 18 = .ok (.istore 4, 2) := dk_54 4 (dk_at dksX0_reckon_0 18 rfl rfl)
theorem dX0_reckon_20 : decode cX0_reckon 20 = .ok (.iload 4, 2) := dk_21 4 (dk_at dksX0_reckon_0 20 rfl rfl)
theorem dX0_reckon_22 : decode cX0_reckon 22 = .ok (.iconst 1, 1) := dk_4 (dk_at dksX0_reckon_0 22 rfl rfl)
theorem dX0_reckon_23 : decode cX0_reckon 23 = .ok (.if_icmp .eq 9, 3) := dk_159 0 9 (dk_at dksX0_reckon_1 0 rfl rfl)
theorem dX0_reckon_26 : decode cX0_reckon 26 = .ok (.iload 4, 2) := dk_21 4 (dk_at dksX0_reckon_1 3 rfl rfl)
theorem dX0_reckon_28 : decode cX0_reckon 28 = .ok (.iconst 2, 1) := dk_5 (dk_at dksX0_reckon_1 5 rfl rfl)
theorem dX0_reckon_29 : decode cX0_reckon 29 = .ok (.if_icmp .ne 41, 3) := dk_160 0 41 (dk_at dksX0_reckon_1 6 rfl rfl)
theorem dX0_reckon_32 : decode cX0_reckon 32 = .ok (.aload_n 0, 1) := dk_42 (dk_at dksX0_reckon_1 9 rfl rfl)
theorem dX0_reckon_33 : decode cX0_reckon 33 = .ok (.getfield 53, 3) := dk_180 0 53 (dk_at dksX0_reckon_1 10 rfl rfl)
theorem dX0_reckon_36 : decode cX0_reckon 36 = .ok (.iload_n 2, 1) := dk_28 (dk_at dksX0_reckon_1 13 rfl rfl)
theorem dX0_reckon_37 : decode cX0_reckon 37 = .ok (.iload 4, 2) := dk_21 4 (dk_at dksX0_reckon_1 14 rfl rfl)
theorem dX0_reckon_39 : decode cX0_reckon 39 = .ok (.iconst 1, 1) := dk_4 (dk_at dksX0_reckon_1 16 rfl rfl)
theorem dX0_reckon_40 : decode cX0_reckon 40 = .ok (.if_icmp .ne 12, 3) := dk_160 0 12 (dk_at dksX0_reckon_1 17 rfl rfl)
theorem dX0_reckon_43 : decode cX0_reckon 43 = .ok (.aload_n 1, 1) := dk_43 (dk_at dksX0_reckon_1 20 rfl rfl)
theorem dX0_reckon_44 : decode cX0_reckon 44 = .ok (.getfield 115, 3) := dk_180 0 115 (dk_at dksX0_reckon_1 21 rfl rfl)
theorem dX0_reckon_47 : decode cX0_reckon 47 = .ok (.iload_n 3, 1) := dk_29 (dk_at dksX0_reckon_2 0 rfl rfl)
theorem dX0_reckon_48 : decode cX0_reckon 48 = .ok (.iaload, 1) := dk_46 (dk_at dksX0_reckon_2 1 rfl rfl)
theorem dX0_reckon_49 : decode cX0_reckon 49 = .ok (.goto 14, 3) := dk_167 0 14 (dk_at dksX0_reckon_2 2 rfl rfl)
theorem dX0_reckon_52 : decode cX0_reckon 52 = .ok (.aload_n 0, 1) := dk_42 (dk_at dksX0_reckon_2 5 rfl rfl)
theorem dX0_reckon_53 : decode cX0_reckon 53 = .ok (.getfield 68, 3) := dk_180 0 68 (dk_at dksX0_reckon_2 6 rfl rfl)
theorem dX0_reckon_56 : decode cX0_reckon 56 = .ok (.aload_n 1, 1) := dk_43 (dk_at dksX0_reckon_2 9 rfl rfl)
theorem dX0_reckon_57 : decode cX0_reckon 57 = .ok (.getfield 115, 3) := dk_180 0 115 (dk_at dksX0_reckon_2 10 rfl rfl)
theorem dX0_reckon_60 : decode cX0_reckon 60 = .ok (.iload_n 3, 1) := dk_29 (dk_at dksX0_reckon_2 13 rfl rfl)
theorem dX0_reckon_61 : decode cX0_reckon 61 = .ok (.iaload, 1) := dk_46 (dk_at dksX0_reckon_2 14 rfl rfl)
theorem dX0_reckon_62 : decode cX0_reckon 62 = .ok (.iaload, 1) := dk_46 (dk_at dksX0_reckon_2 15 rfl rfl)
theorem dX0_reckon_63 : decode cX0_reckon 63 = .ok (.iastore, 1) := dk_79 (dk_at dksX0_reckon_2 16 rfl rfl)
theorem dX0_reckon_64 : decode cX0_reckon 64 = .ok (.iinc 2 1, 3) := dk_132 2 1 (dk_at dksX0_reckon_2 17 rfl rfl)
theorem dX0_reckon_67 : decode cX0_reckon 67 = .ok (.goto 66, 3) := dk_167 0 66 (dk_at dksX0_reckon_2 20 rfl rfl)
theorem dX0_reckon_70 : decode cX0_reckon 70 = .ok (.iload 4, 2) := dk_21 4 (dk_at dksX0_reckon_3 0 rfl rfl)
theorem dX0_reckon_72 : decode cX0_reckon 72 = .ok (.iconst 3, 1) := dk_6 (dk_at dksX0_reckon_3 2 rfl rfl)
theorem dX0_reckon_73 : decode cX0_reckon 73 = .ok (.if_icmp .ne 30, 3) := dk_160 0 30 (dk_at dksX0_reckon_3 3 rfl rfl)
theorem dX0_reckon_76 : decode cX0_reckon 76 = .ok (.aload_n 0, 1) := dk_42 (dk_at dksX0_reckon_3 6 rfl rfl)
theorem dX0_reckon_77 : decode cX0_reckon 77 = .ok (.getfield 53, 3) := dk_180 0 53 (dk_at dksX0_reckon_3 7 rfl rfl)
theorem dX0_reckon_80 : decode cX0_reckon 80 = .ok (.iload_n 2, 1) := dk_28 (dk_at dksX0_reckon_3 10 rfl rfl)
theorem dX0_reckon_81 : decode cX0_reckon 81 = .ok (.iconst 1, 1) := dk_4 (dk_at dksX0_reckon_3 11 rfl rfl)
theorem dX0_reckon_82 : decode cX0_reckon 82 = .ok (.isub, 1) := dk_100 (dk_at dksX0_reckon_3 12 rfl rfl)
theorem dX0_reckon_83 : decode cX0_reckon 83 = .ok (.aload_n 0, 1) := dk_42 (dk_at dksX0_reckon_3 13 rfl rfl)
theorem dX0_reckon_84 : decode cX0_reckon 84 = .ok (.getfield 53, 3) := dk_180 0 53 (dk_at dksX0_reckon_3 14 rfl rfl)
theorem dX0_reckon_87 : decode cX0_reckon 87 = .ok (.iload_n 2, 1) := dk_28 (dk_at dksX0_reckon_3 17 rfl rfl)
theorem dX0_reckon_88 : decode cX0_reckon 88 = .ok (.iconst 1, 1) := dk_4 (dk_at dksX0_reckon_3 18 rfl rfl)
theorem dX0_reckon_89 : decode cX0_reckon 89 = .ok (.isub, 1) := dk_100 (dk_at dksX0_reckon_3 19 rfl rfl)
theorem dX0_reckon_90 : decode cX0_reckon 90 = .ok (.iaload, 1) := dk_46 (dk_at dksX0_reckon_3 20 rfl rfl)
theorem dX0_reckon_91 : decode cX0_reckon 91 = .ok (.ifCond .ne 7, 3) := dk_154 0 7 (dk_at dksX0_reckon_3 21 rfl rfl)
theorem dX0_reckon_94 : decode cX0_reckon 94 = .ok (.iconst 1, 1) := dk_4 (dk_at dksX0_reckon_4 0 rfl rfl)
theorem dX0_reckon_95 : decode cX0_reckon 95 = .ok (.goto 4, 3) := dk_167 0 4 (dk_at dksX0_reckon_4 1 rfl rfl)
theorem dX0_reckon_98 : decode cX0_reckon 98 = .ok (.iconst 0, 1) := dk_3 (dk_at dksX0_reckon_4 4 rfl rfl)
theorem dX0_reckon_99 : decode cX0_reckon 99 = .ok (.iastore, 1) := dk_79 (dk_at dksX0_reckon_4 5 rfl rfl)
theorem dX0_reckon_100 : decode cX0_reckon 100 = .ok (.goto 33, 3) := dk_167 0 33 (dk_at dksX0_reckon_4 6 rfl rfl)
theorem dX0_reckon_103 : decode cX0_reckon 103 = .ok (.iinc 2 (-1), 3) := dk_132 2 255 (dk_at dksX0_reckon_4 9 rfl rfl)
theorem dX0_reckon_106 : decode cX0_reckon 106 = .ok (.aload_n 0, 1) := dk_42 (dk_at dksX0_reckon_4 12 rfl rfl)
theorem dX0_reckon_107 : decode cX0_reckon 107 = .ok (.getfield 53, 3) := dk_180 0 53 (dk_at dksX0_reckon_4 13 rfl rfl)
theorem dX0_reckon_110 : decode cX0_reckon 110 = .ok (.iload_n 2, 1) := dk_28 (dk_at dksX0_reckon_4 16 rfl rfl)
theorem dX0_reckon_111 : decode cX0_reckon 111 = .ok (.iconst 1, 1) := dk_4 (dk_at dksX0_reckon_4 17 rfl rfl)
theorem dX0_reckon_112 : decode cX0_reckon 112 = .ok (.isub, 1) := dk_100 (dk_at dksX0_reckon_4 18 rfl rfl)
theorem dX0_reckon_113 : decode cX0_reckon 113 = .ok (.iload 4, 2) := dk_21 4 (dk_at dksX0_reckon_4 19 rfl rfl)
theorem dX0_reckon_115 : decode cX0_reckon 115 = .ok (.aload_n 0, 1) := dk_42 (dk_at dksX0_reckon_4 21 rfl rfl)
theorem dX0_reckon_116 : decode cX0_reckon 116 = .ok (.getfield 53, 3) := dk_180 0 53 (dk_at dksX0_reckon_5 0 rfl rfl)
theorem dX0_reckon_119 : decode cX0_reckon 119 = .ok (.iload_n 2, 1) := dk_28 (dk_at dksX0_reckon_5 3 rfl rfl)
theorem dX0_reckon_120 : decode cX0_reckon 120 = .ok (.iconst 1, 1) := dk_4 (dk_at dksX0_reckon_5 4 rfl rfl)
theorem dX0_reckon_121 : decode cX0_reckon 121 = .ok (.isub, 1) := dk_100 (dk_at dksX0_reckon_5 5 rfl rfl)
theorem dX0_reckon_122 : decode cX0_reckon 122 = .ok (.iaload, 1) := dk_46 (dk_at dksX0_reckon_5 6 rfl rfl)
theorem dX0_reckon_123 : decode cX0_reckon 123 = .ok (.aload_n 0, 1) := dk_42 (dk_at dksX0_reckon_5 7 rfl rfl)
theorem dX0_reckon_124 : decode cX0_reckon 124 = .ok (.getfield 53, 3) := dk_180 0 53 (dk_at dksX0_reckon_5 8 rfl rfl)
theorem dX0_reckon_127 : decode cX0_reckon 127 = .ok (.iload_n 2, 1) := dk_28 (dk_at dksX0_reckon_5 11 rfl rfl)
theorem dX0_reckon_128 : decode cX0_reckon 128 = .ok (.iaload, 1) := dk_46 (dk_at dksX0_reckon_5 12 rfl rfl)
theorem dX0_reckon_129 : decode cX0_reckon 129 = .ok (.invokestatic 118, 3) := dk_184 0 118 (dk_at dksX0_reckon_5 13 rfl rfl)
theorem dX0_reckon_132 : decode cX0_reckon 132 = .ok (.iastore, 1) := dk_79 (dk_at dksX0_reckon_5 16 rfl rfl)
theorem dX0_reckon_133 : decode cX0_reckon 133 = .ok (.iinc 3 1, 3) := dk_132 3 1 (dk_at dksX0_reckon_5 17 rfl rfl)
theorem dX0_reckon_136 : decode cX0_reckon 136 = .ok (.goto (-132), 3) := dk_167 255 124 (dk_at dksX0_reckon_5 20 rfl rfl)
theorem dX0_reckon_139 : decode cX0_reckon 139 = .ok (.aload_n 0, 1) := dk_42 (dk_at dksX0_reckon_5 23 rfl rfl)
theorem dX0_reckon_140 : decode cX0_reckon 140 = .ok (.getfield 53, 3) := dk_180 0 53 (dk_at dksX0_reckon_6 0 rfl rfl)
theorem dX0_reckon_143 : decode cX0_reckon 143 = .ok (.iconst 0, 1) := dk_3 (dk_at dksX0_reckon_6 3 rfl rfl)
theorem dX0_reckon_144 : decode cX0_reckon 144 = .ok (.iaload, 1) := dk_46 (dk_at dksX0_reckon_6 4 rfl rfl)
theorem dX0_reckon_145 : decode cX0_reckon 145 = .ok (.ireturn, 1) := dk_172 (dk_at dksX0_reckon_6 5 rfl rfl)
abbrev cX0_both : ByteArray := prog_1_method_7_code
def yX0_both : MethodName := ⟨RX0, "both", "(III)I"⟩
def dkwX0_both_5 : List UInt8 := [154, 0, 7, 28, 153, 0, 7, 4, 167, 0, 4, 3, 172]
abbrev dktX0_both_5 : List UInt8 := dkwX0_both_5 ++ []
def dkwX0_both_4 : List UInt8 := [164, 0, 7, 4, 167, 0, 4, 3, 172, 27, 153, 0, 11, 28, 153, 0, 7, 4, 167, 0, 4, 3, 172, 27]
abbrev dktX0_both_4 : List UInt8 := dkwX0_both_4 ++ dktX0_both_5
def dkwX0_both_3 : List UInt8 := [27, 28, 162, 0, 7, 4, 167, 0, 4, 3, 172, 27, 28, 160, 0, 7, 4, 167, 0, 4, 3, 172, 27, 28]
abbrev dktX0_both_3 : List UInt8 := dkwX0_both_3 ++ dktX0_both_4
def dkwX0_both_2 : List UInt8 := [27, 28, 104, 172, 28, 154, 0, 7, 3, 167, 0, 6, 27, 28, 108, 172, 27, 28, 96, 172, 27, 28, 100, 172]
abbrev dktX0_both_2 : List UInt8 := dkwX0_both_2 ++ dktX0_both_3
def dkwX0_both_1 : List UInt8 := [170, 0, 0, 0, 0, 0, 122, 0, 0, 0, 4, 0, 0, 0, 12, 0, 0, 0, 51, 0, 0, 0, 67, 0, 0, 0, 71, 0, 0, 0, 75, 0, 0, 0, 86, 0, 0, 0, 97, 0, 0, 0, 108, 0, 0, 0, 122, 0, 0, 0, 55]
abbrev dktX0_both_1 : List UInt8 := dkwX0_both_1 ++ dktX0_both_2
def dkwX0_both_0 : List UInt8 := [26]
abbrev dktX0_both_0 : List UInt8 := dkwX0_both_0 ++ dktX0_both_1
theorem dksX0_both_0 : cX0_both.data.toList.drop 0 = dktX0_both_0 := by decide +kernel
theorem dksX0_both_1 : cX0_both.data.toList.drop 1 = dktX0_both_1 := dk_seg dksX0_both_0 1 rfl rfl
theorem dksX0_both_2 : cX0_both.data.toList.drop 52 = dktX0_both_2 := dk_seg dksX0_both_1 51 rfl rfl
theorem dksX0_both_3 : cX0_both.data.toList.drop 76 = dktX0_both_3 := dk_seg dksX0_both_2 24 rfl rfl
theorem dksX0_both_4 : cX0_both.data.toList.drop 100 = dktX0_both_4 := dk_seg dksX0_both_3 24 rfl rfl
theorem dksX0_both_5 : cX0_both.data.toList.drop 124 = dktX0_both_5 := dk_seg dksX0_both_4 24 rfl rfl
theorem dX0_both_0 : decode cX0_both 0 = .ok (.iload_n 0, 1) := dk_26 (dk_at dksX0_both_0 0 rfl rfl)
theorem dX0_both_1 : decode cX0_both 1 = .ok (.tableswitch 122 4 12 #[51, 67, 71, 75, 86, 97, 108, 122, 55], 51) := by decide +kernel
theorem dX0_both_52 : decode cX0_both 52 = .ok (.iload_n 1, 1) := dk_27 (dk_at dksX0_both_2 0 rfl rfl)
theorem dX0_both_53 : decode cX0_both 53 = .ok (.iload_n 2, 1) := dk_28 (dk_at dksX0_both_2 1 rfl rfl)
theorem dX0_both_54 : decode cX0_both 54 = .ok (.imul, 1) := dk_104 (dk_at dksX0_both_2 2 rfl rfl)
theorem dX0_both_55 : decode cX0_both 55 = .ok (.ireturn, 1) := dk_172 (dk_at dksX0_both_2 3 rfl rfl)
theorem dX0_both_56 : decode cX0_both 56 = .ok (.iload_n 2, 1) := dk_28 (dk_at dksX0_both_2 4 rfl rfl)
theorem dX0_both_57 : decode cX0_both 57 = .ok (.ifCond .ne 7, 3) := dk_154 0 7 (dk_at dksX0_both_2 5 rfl rfl)
theorem dX0_both_60 : decode cX0_both 60 = .ok (.iconst 0, 1) := dk_3 (dk_at dksX0_both_2 8 rfl rfl)
theorem dX0_both_61 : decode cX0_both 61 = .ok (.goto 6, 3) := dk_167 0 6 (dk_at dksX0_both_2 9 rfl rfl)
theorem dX0_both_64 : decode cX0_both 64 = .ok (.iload_n 1, 1) := dk_27 (dk_at dksX0_both_2 12 rfl rfl)
theorem dX0_both_65 : decode cX0_both 65 = .ok (.iload_n 2, 1) := dk_28 (dk_at dksX0_both_2 13 rfl rfl)
theorem dX0_both_66 : decode cX0_both 66 = .ok (.idiv, 1) := dk_108 (dk_at dksX0_both_2 14 rfl rfl)
theorem dX0_both_67 : decode cX0_both 67 = .ok (.ireturn, 1) := dk_172 (dk_at dksX0_both_2 15 rfl rfl)
theorem dX0_both_68 : decode cX0_both 68 = .ok (.iload_n 1, 1) := dk_27 (dk_at dksX0_both_2 16 rfl rfl)
theorem dX0_both_69 : decode cX0_both 69 = .ok (.iload_n 2, 1) := dk_28 (dk_at dksX0_both_2 17 rfl rfl)
theorem dX0_both_70 : decode cX0_both 70 = .ok (.iadd, 1) := dk_96 (dk_at dksX0_both_2 18 rfl rfl)
theorem dX0_both_71 : decode cX0_both 71 = .ok (.ireturn, 1) := dk_172 (dk_at dksX0_both_2 19 rfl rfl)
theorem dX0_both_72 : decode cX0_both 72 = .ok (.iload_n 1, 1) := dk_27 (dk_at dksX0_both_2 20 rfl rfl)
theorem dX0_both_73 : decode cX0_both 73 = .ok (.iload_n 2, 1) := dk_28 (dk_at dksX0_both_2 21 rfl rfl)
theorem dX0_both_74 : decode cX0_both 74 = .ok (.isub, 1) := dk_100 (dk_at dksX0_both_2 22 rfl rfl)
theorem dX0_both_75 : decode cX0_both 75 = .ok (.ireturn, 1) := dk_172 (dk_at dksX0_both_2 23 rfl rfl)
theorem dX0_both_76 : decode cX0_both 76 = .ok (.iload_n 1, 1) := dk_27 (dk_at dksX0_both_3 0 rfl rfl)
theorem dX0_both_77 : decode cX0_both 77 = .ok (.iload_n 2, 1) := dk_28 (dk_at dksX0_both_3 1 rfl rfl)
theorem dX0_both_78 : decode cX0_both 78 = .ok (.if_icmp .ge 7, 3) := dk_162 0 7 (dk_at dksX0_both_3 2 rfl rfl)
theorem dX0_both_81 : decode cX0_both 81 = .ok (.iconst 1, 1) := dk_4 (dk_at dksX0_both_3 5 rfl rfl)
theorem dX0_both_82 : decode cX0_both 82 = .ok (.goto 4, 3) := dk_167 0 4 (dk_at dksX0_both_3 6 rfl rfl)
theorem dX0_both_85 : decode cX0_both 85 = .ok (.iconst 0, 1) := dk_3 (dk_at dksX0_both_3 9 rfl rfl)
theorem dX0_both_86 : decode cX0_both 86 = .ok (.ireturn, 1) := dk_172 (dk_at dksX0_both_3 10 rfl rfl)
theorem dX0_both_87 : decode cX0_both 87 = .ok (.iload_n 1, 1) := dk_27 (dk_at dksX0_both_3 11 rfl rfl)
theorem dX0_both_88 : decode cX0_both 88 = .ok (.iload_n 2, 1) := dk_28 (dk_at dksX0_both_3 12 rfl rfl)
theorem dX0_both_89 : decode cX0_both 89 = .ok (.if_icmp .ne 7, 3) := dk_160 0 7 (dk_at dksX0_both_3 13 rfl rfl)
theorem dX0_both_92 : decode cX0_both 92 = .ok (.iconst 1, 1) := dk_4 (dk_at dksX0_both_3 16 rfl rfl)
theorem dX0_both_93 : decode cX0_both 93 = .ok (.goto 4, 3) := dk_167 0 4 (dk_at dksX0_both_3 17 rfl rfl)
theorem dX0_both_96 : decode cX0_both 96 = .ok (.iconst 0, 1) := dk_3 (dk_at dksX0_both_3 20 rfl rfl)
theorem dX0_both_97 : decode cX0_both 97 = .ok (.ireturn, 1) := dk_172 (dk_at dksX0_both_3 21 rfl rfl)
theorem dX0_both_98 : decode cX0_both 98 = .ok (.iload_n 1, 1) := dk_27 (dk_at dksX0_both_3 22 rfl rfl)
theorem dX0_both_99 : decode cX0_both 99 = .ok (.iload_n 2, 1) := dk_28 (dk_at dksX0_both_3 23 rfl rfl)
theorem dX0_both_100 : decode cX0_both 100 = .ok (.if_icmp .le 7, 3) := dk_164 0 7 (dk_at dksX0_both_4 0 rfl rfl)
theorem dX0_both_103 : decode cX0_both 103 = .ok (.iconst 1, 1) := dk_4 (dk_at dksX0_both_4 3 rfl rfl)
theorem dX0_both_104 : decode cX0_both 104 = .ok (.goto 4, 3) := dk_167 0 4 (dk_at dksX0_both_4 4 rfl rfl)
theorem dX0_both_107 : decode cX0_both 107 = .ok (.iconst 0, 1) := dk_3 (dk_at dksX0_both_4 7 rfl rfl)
theorem dX0_both_108 : decode cX0_both 108 = .ok (.ireturn, 1) := dk_172 (dk_at dksX0_both_4 8 rfl rfl)
theorem dX0_both_109 : decode cX0_both 109 = .ok (.iload_n 1, 1) := dk_27 (dk_at dksX0_both_4 9 rfl rfl)
theorem dX0_both_110 : decode cX0_both 110 = .ok (.ifCond .eq 11, 3) := dk_153 0 11 (dk_at dksX0_both_4 10 rfl rfl)
theorem dX0_both_113 : decode cX0_both 113 = .ok (.iload_n 2, 1) := dk_28 (dk_at dksX0_both_4 13 rfl rfl)
theorem dX0_both_114 : decode cX0_both 114 = .ok (.ifCond .eq 7, 3) := dk_153 0 7 (dk_at dksX0_both_4 14 rfl rfl)
theorem dX0_both_117 : decode cX0_both 117 = .ok (.iconst 1, 1) := dk_4 (dk_at dksX0_both_4 17 rfl rfl)
theorem dX0_both_118 : decode cX0_both 118 = .ok (.goto 4, 3) := dk_167 0 4 (dk_at dksX0_both_4 18 rfl rfl)
theorem dX0_both_121 : decode cX0_both 121 = .ok (.iconst 0, 1) := dk_3 (dk_at dksX0_both_4 21 rfl rfl)
theorem dX0_both_122 : decode cX0_both 122 = .ok (.ireturn, 1) := dk_172 (dk_at dksX0_both_4 22 rfl rfl)
theorem dX0_both_123 : decode cX0_both 123 = .ok (.iload_n 1, 1) := dk_27 (dk_at dksX0_both_4 23 rfl rfl)
theorem dX0_both_124 : decode cX0_both 124 = .ok (.ifCond .ne 7, 3) := dk_154 0 7 (dk_at dksX0_both_5 0 rfl rfl)
theorem dX0_both_127 : decode cX0_both 127 = .ok (.iload_n 2, 1) := dk_28 (dk_at dksX0_both_5 3 rfl rfl)
theorem dX0_both_128 : decode cX0_both 128 = .ok (.ifCond .eq 7, 3) := dk_153 0 7 (dk_at dksX0_both_5 4 rfl rfl)
theorem dX0_both_131 : decode cX0_both 131 = .ok (.iconst 1, 1) := dk_4 (dk_at dksX0_both_5 7 rfl rfl)
theorem dX0_both_132 : decode cX0_both 132 = .ok (.goto 4, 3) := dk_167 0 4 (dk_at dksX0_both_5 8 rfl rfl)
theorem dX0_both_135 : decode cX0_both 135 = .ok (.iconst 0, 1) := dk_3 (dk_at dksX0_both_5 11 rfl rfl)
theorem dX0_both_136 : decode cX0_both 136 = .ok (.ireturn, 1) := dk_172 (dk_at dksX0_both_5 12 rfl rfl)
abbrev cX0_thrustOn : ByteArray := prog_1_method_38_code
def yX0_thrustOn : MethodName := ⟨RX0, "thrustOn", "(I)I"⟩
def dkwX0_thrustOn_5 : List UInt8 := [42, 42, 180, 0, 40, 180, 1, 11, 21, 4, 50, 182, 1, 59, 167, 0, 4, 3, 100, 54, 5, 21, 5, 172]
abbrev dktX0_thrustOn_5 : List UInt8 := dkwX0_thrustOn_5 ++ []
def dkwX0_thrustOn_4 : List UInt8 := [21, 5, 21, 4, 2, 159, 0, 36, 42, 180, 0, 40, 180, 1, 11, 21, 4, 50, 180, 1, 5, 156, 0, 20]
abbrev dktX0_thrustOn_4 : List UInt8 := dkwX0_thrustOn_4 ++ dktX0_thrustOn_5
def dkwX0_thrustOn_3 : List UInt8 := [158, 0, 19, 42, 42, 180, 0, 40, 180, 1, 11, 29, 50, 182, 1, 59, 167, 0, 4, 3, 96, 54, 5]
abbrev dktX0_thrustOn_3 : List UInt8 := dkwX0_thrustOn_3 ++ dktX0_thrustOn_4
def dkwX0_thrustOn_2 : List UInt8 := [180, 1, 56, 54, 5, 21, 5, 29, 2, 159, 0, 34, 42, 180, 0, 40, 180, 1, 11, 29, 50, 180, 1, 5]
abbrev dktX0_thrustOn_2 : List UInt8 := dkwX0_thrustOn_2 ++ dktX0_thrustOn_3
def dkwX0_thrustOn_1 : List UInt8 := [61, 42, 27, 2, 28, 182, 1, 53, 62, 42, 27, 4, 28, 182, 1, 53, 54, 4, 42, 180, 0, 40]
abbrev dktX0_thrustOn_1 : List UInt8 := dkwX0_thrustOn_1 ++ dktX0_thrustOn_2
def dkwX0_thrustOn_0 : List UInt8 := [42, 180, 0, 40, 180, 1, 11, 27, 50, 180, 1, 46, 154, 0, 5, 3, 172, 42, 180, 0, 40, 182, 1, 50]
abbrev dktX0_thrustOn_0 : List UInt8 := dkwX0_thrustOn_0 ++ dktX0_thrustOn_1
theorem dksX0_thrustOn_0 : cX0_thrustOn.data.toList.drop 0 = dktX0_thrustOn_0 := by decide +kernel
theorem dksX0_thrustOn_1 : cX0_thrustOn.data.toList.drop 24 = dktX0_thrustOn_1 := dk_seg dksX0_thrustOn_0 24 rfl rfl
theorem dksX0_thrustOn_2 : cX0_thrustOn.data.toList.drop 46 = dktX0_thrustOn_2 := dk_seg dksX0_thrustOn_1 22 rfl rfl
theorem dksX0_thrustOn_3 : cX0_thrustOn.data.toList.drop 70 = dktX0_thrustOn_3 := dk_seg dksX0_thrustOn_2 24 rfl rfl
theorem dksX0_thrustOn_4 : cX0_thrustOn.data.toList.drop 93 = dktX0_thrustOn_4 := dk_seg dksX0_thrustOn_3 23 rfl rfl
theorem dksX0_thrustOn_5 : cX0_thrustOn.data.toList.drop 117 = dktX0_thrustOn_5 := dk_seg dksX0_thrustOn_4 24 rfl rfl
theorem dX0_thrustOn_0 : decode cX0_thrustOn 0 = .ok (.aload_n 0, 1) := dk_42 (dk_at dksX0_thrustOn_0 0 rfl rfl)
theorem dX0_thrustOn_1 : decode cX0_thrustOn 1 = .ok (.getfield 40, 3) := dk_180 0 40 (dk_at dksX0_thrustOn_0 1 rfl rfl)
theorem dX0_thrustOn_4 : decode cX0_thrustOn 4 = .ok (.getfield 267, 3) := dk_180 1 11 (dk_at dksX0_thrustOn_0 4 rfl rfl)
theorem dX0_thrustOn_7 : decode cX0_thrustOn 7 = .ok (.iload_n 1, 1) := dk_27 (dk_at dksX0_thrustOn_0 7 rfl rfl)
theorem dX0_thrustOn_8 : decode cX0_thrustOn 8 = .ok (.aaload, 1) := dk_50 (dk_at dksX0_thrustOn_0 8 rfl rfl)
theorem dX0_thrustOn_9 : decode cX0_thrustOn 9 = .ok (.getfield 302, 3) := dk_180 1 46 (dk_at dksX0_thrustOn_0 9 rfl rfl)
theorem dX0_thrustOn_12 : decode cX0_thrustOn 12 = .ok (.ifCond .ne 5, 3) := dk_154 0 5 (dk_at dksX0_thrustOn_0 12 rfl rfl)
theorem dX0_thrustOn_15 : decode cX0_thrustOn 15 = .ok (.iconst 0, 1) := dk_3 (dk_at dksX0_thrustOn_0 15 rfl rfl)
theorem dX0_thrustOn_16 : decode cX0_thrustOn 16 = .ok (.ireturn, 1) := dk_172 (dk_at dksX0_thrustOn_0 16 rfl rfl)
theorem dX0_thrustOn_17 : decode cX0_thrustOn 17 = .ok (.aload_n 0, 1) := dk_42 (dk_at dksX0_thrustOn_0 17 rfl rfl)
theorem dX0_thrustOn_18 : decode cX0_thrustOn 18 = .ok (.getfield 40, 3) := dk_180 0 40 (dk_at dksX0_thrustOn_0 18 rfl rfl)
theorem dX0_thrustOn_21 : decode cX0_thrustOn 21 = .ok (.invokevirtual 306, 3) := dk_182 1 50 (dk_at dksX0_thrustOn_0 21 rfl rfl)
theorem dX0_thrustOn_24 : decode cX0_thrustOn 24 = .ok (.istore_n 2, 1) := dk_61 (dk_at dksX0_thrustOn_1 0 rfl rfl)
theorem dX0_thrustOn_25 : decode cX0_thrustOn 25 = .ok (.aload_n 0, 1) := dk_42 (dk_at dksX0_thrustOn_1 1 rfl rfl)
theorem dX0_thrustOn_26 : decode cX0_thrustOn 26 = .ok (.iload_n 1, 1) := dk_27 (dk_at dksX0_thrustOn_1 2 rfl rfl)
theorem dX0_thrustOn_27 : decode cX0_thrustOn 27 = .ok (.iconst (-1), 1) := dk_2 (dk_at dksX0_thrustOn_1 3 rfl rfl)
theorem dX0_thrustOn_28 : decode cX0_thrustOn 28 = .ok (.iload_n 2, 1) := dk_28 (dk_at dksX0_thrustOn_1 4 rfl rfl)
theorem dX0_thrustOn_29 : decode cX0_thrustOn 29 = .ok (.invokevirtual 309, 3) := dk_182 1 53 (dk_at dksX0_thrustOn_1 5 rfl rfl)
theorem dX0_thrustOn_32 : decode cX0_thrustOn 32 = .ok (.istore_n 3, 1) := dk_62 (dk_at dksX0_thrustOn_1 8 rfl rfl)
theorem dX0_thrustOn_33 : decode cX0_thrustOn 33 = .ok (.aload_n 0, 1) := dk_42 (dk_at dksX0_thrustOn_1 9 rfl rfl)
theorem dX0_thrustOn_34 : decode cX0_thrustOn 34 = .ok (.iload_n 1, 1) := dk_27 (dk_at dksX0_thrustOn_1 10 rfl rfl)
theorem dX0_thrustOn_35 : decode cX0_thrustOn 35 = .ok (.iconst 1, 1) := dk_4 (dk_at dksX0_thrustOn_1 11 rfl rfl)
theorem dX0_thrustOn_36 : decode cX0_thrustOn 36 = .ok (.iload_n 2, 1) := dk_28 (dk_at dksX0_thrustOn_1 12 rfl rfl)
theorem dX0_thrustOn_37 : decode cX0_thrustOn 37 = .ok (.invokevirtual 309, 3) := dk_182 1 53 (dk_at dksX0_thrustOn_1 13 rfl rfl)
theorem dX0_thrustOn_40 : decode cX0_thrustOn 40 = .ok (.istore 4, 2) := dk_54 4 (dk_at dksX0_thrustOn_1 16 rfl rfl)
theorem dX0_thrustOn_42 : decode cX0_thrustOn 42 = .ok (.aload_n 0, 1) := dk_42 (dk_at dksX0_thrustOn_1 18 rfl rfl)
theorem dX0_thrustOn_43 : decode cX0_thrustOn 43 = .ok (.getfield 40, 3) := dk_180 0 40 (dk_at dksX0_thrustOn_1 19 rfl rfl)
theorem dX0_thrustOn_46 : decode cX0_thrustOn 46 = .ok (.getfield 312, 3) := dk_180 1 56 (dk_at dksX0_thrustOn_2 0 rfl rfl)
theorem dX0_thrustOn_49 : decode cX0_thrustOn 49 = .ok (.istore 5, 2) := dk_54 5 (dk_at dksX0_thrustOn_2 3 rfl rfl)
theorem dX0_thrustOn_51 : decode cX0_thrustOn 51 = .ok (.iload 5, 2) := dk_21 5 (dk_at dksX0_thrustOn_2 5 rfl rfl)
theorem dX0_thrustOn_53 : decode cX0_thrustOn 53 = .ok (.iload_n 3, 1) := dk_29 (dk_at dksX0_thrustOn_2 7 rfl rfl)
theorem dX0_thrustOn_54 : decode cX0_thrustOn 54 = .ok (.iconst (-1), 1) := dk_2 (dk_at dksX0_thrustOn_2 8 rfl rfl)
theorem dX0_thrustOn_55 : decode cX0_thrustOn 55 = .ok (.if_icmp .eq 34, 3) := dk_159 0 34 (dk_at dksX0_thrustOn_2 9 rfl rfl)
theorem dX0_thrustOn_58 : decode cX0_thrustOn 58 = .ok (.aload_n 0, 1) := dk_42 (dk_at dksX0_thrustOn_2 12 rfl rfl)
theorem dX0_thrustOn_59 : decode cX0_thrustOn 59 = .ok (.getfield 40, 3) := dk_180 0 40 (dk_at dksX0_thrustOn_2 13 rfl rfl)
theorem dX0_thrustOn_62 : decode cX0_thrustOn 62 = .ok (.getfield 267, 3) := dk_180 1 11 (dk_at dksX0_thrustOn_2 16 rfl rfl)
theorem dX0_thrustOn_65 : decode cX0_thrustOn 65 = .ok (.iload_n 3, 1) := dk_29 (dk_at dksX0_thrustOn_2 19 rfl rfl)
theorem dX0_thrustOn_66 : decode cX0_thrustOn 66 = .ok (.aaload, 1) := dk_50 (dk_at dksX0_thrustOn_2 20 rfl rfl)
theorem dX0_thrustOn_67 : decode cX0_thrustOn 67 = .ok (.getfield 261, 3) := dk_180 1 5 (dk_at dksX0_thrustOn_2 21 rfl rfl)
theorem dX0_thrustOn_70 : decode cX0_thrustOn 70 = .ok (.ifCond .le 19, 3) := dk_158 0 19 (dk_at dksX0_thrustOn_3 0 rfl rfl)
theorem dX0_thrustOn_73 : decode cX0_thrustOn 73 = .ok (.aload_n 0, 1) := dk_42 (dk_at dksX0_thrustOn_3 3 rfl rfl)
theorem dX0_thrustOn_74 : decode cX0_thrustOn 74 = .ok (.aload_n 0, 1) := dk_42 (dk_at dksX0_thrustOn_3 4 rfl rfl)
theorem dX0_thrustOn_75 : decode cX0_thrustOn 75 = .ok (.getfield 40, 3) := dk_180 0 40 (dk_at dksX0_thrustOn_3 5 rfl rfl)
theorem dX0_thrustOn_78 : decode cX0_thrustOn 78 = .ok (.getfield 267, 3) := dk_180 1 11 (dk_at dksX0_thrustOn_3 8 rfl rfl)
theorem dX0_thrustOn_81 : decode cX0_thrustOn 81 = .ok (.iload_n 3, 1) := dk_29 (dk_at dksX0_thrustOn_3 11 rfl rfl)
theorem dX0_thrustOn_82 : decode cX0_thrustOn 82 = .ok (.aaload, 1) := dk_50 (dk_at dksX0_thrustOn_3 12 rfl rfl)
theorem dX0_thrustOn_83 : decode cX0_thrustOn 83 = .ok (.invokevirtual 315, 3) := dk_182 1 59 (dk_at dksX0_thrustOn_3 13 rfl rfl)
theorem dX0_thrustOn_86 : decode cX0_thrustOn 86 = .ok (.goto 4, 3) := dk_167 0 4 (dk_at dksX0_thrustOn_3 16 rfl rfl)
theorem dX0_thrustOn_89 : decode cX0_thrustOn 89 = .ok (.iconst 0, 1) := dk_3 (dk_at dksX0_thrustOn_3 19 rfl rfl)
theorem dX0_thrustOn_90 : decode cX0_thrustOn 90 = .ok (.iadd, 1) := dk_96 (dk_at dksX0_thrustOn_3 20 rfl rfl)
theorem dX0_thrustOn_91 : decode cX0_thrustOn 91 = .ok (.istore 5, 2) := dk_54 5 (dk_at dksX0_thrustOn_3 21 rfl rfl)
theorem dX0_thrustOn_93 : decode cX0_thrustOn 93 = .ok (.iload 5, 2) := dk_21 5 (dk_at dksX0_thrustOn_4 0 rfl rfl)
theorem dX0_thrustOn_95 : decode cX0_thrustOn 95 = .ok (.iload 4, 2) := dk_21 4 (dk_at dksX0_thrustOn_4 2 rfl rfl)
theorem dX0_thrustOn_97 : decode cX0_thrustOn 97 = .ok (.iconst (-1), 1) := dk_2 (dk_at dksX0_thrustOn_4 4 rfl rfl)
theorem dX0_thrustOn_98 : decode cX0_thrustOn 98 = .ok (.if_icmp .eq 36, 3) := dk_159 0 36 (dk_at dksX0_thrustOn_4 5 rfl rfl)
theorem dX0_thrustOn_101 : decode cX0_thrustOn 101 = .ok (.aload_n 0, 1) := dk_42 (dk_at dksX0_thrustOn_4 8 rfl rfl)
theorem dX0_thrustOn_102 : decode cX0_thrustOn 102 = .ok (.getfield 40, 3) := dk_180 0 40 (dk_at dksX0_thrustOn_4 9 rfl rfl)
theorem dX0_thrustOn_105 : decode cX0_thrustOn 105 = .ok (.getfield 267, 3) := dk_180 1 11 (dk_at dksX0_thrustOn_4 12 rfl rfl)
theorem dX0_thrustOn_108 : decode cX0_thrustOn 108 = .ok (.iload 4, 2) := dk_21 4 (dk_at dksX0_thrustOn_4 15 rfl rfl)
theorem dX0_thrustOn_110 : decode cX0_thrustOn 110 = .ok (.aaload, 1) := dk_50 (dk_at dksX0_thrustOn_4 17 rfl rfl)
theorem dX0_thrustOn_111 : decode cX0_thrustOn 111 = .ok (.getfield 261, 3) := dk_180 1 5 (dk_at dksX0_thrustOn_4 18 rfl rfl)
theorem dX0_thrustOn_114 : decode cX0_thrustOn 114 = .ok (.ifCond .ge 20, 3) := dk_156 0 20 (dk_at dksX0_thrustOn_4 21 rfl rfl)
theorem dX0_thrustOn_117 : decode cX0_thrustOn 117 = .ok (.aload_n 0, 1) := dk_42 (dk_at dksX0_thrustOn_5 0 rfl rfl)
theorem dX0_thrustOn_118 : decode cX0_thrustOn 118 = .ok (.aload_n 0, 1) := dk_42 (dk_at dksX0_thrustOn_5 1 rfl rfl)
theorem dX0_thrustOn_119 : decode cX0_thrustOn 119 = .ok (.getfield 40, 3) := dk_180 0 40 (dk_at dksX0_thrustOn_5 2 rfl rfl)
theorem dX0_thrustOn_122 : decode cX0_thrustOn 122 = .ok (.getfield 267, 3) := dk_180 1 11 (dk_at dksX0_thrustOn_5 5 rfl rfl)
theorem dX0_thrustOn_125 : decode cX0_thrustOn 125 = .ok (.iload 4, 2) := dk_21 4 (dk_at dksX0_thrustOn_5 8 rfl rfl)
theorem dX0_thrustOn_127 : decode cX0_thrustOn 127 = .ok (.aaload, 1) := dk_50 (dk_at dksX0_thrustOn_5 10 rfl rfl)
theorem dX0_thrustOn_128 : decode cX0_thrustOn 128 = .ok (.invokevirtual 315, 3) := dk_182 1 59 (dk_at dksX0_thrustOn_5 11 rfl rfl)
theorem dX0_thrustOn_131 : decode cX0_thrustOn 131 = .ok (.goto 4, 3) := dk_167 0 4 (dk_at dksX0_thrustOn_5 14 rfl rfl)
theorem dX0_thrustOn_134 : decode cX0_thrustOn 134 = .ok (.iconst 0, 1) := dk_3 (dk_at dksX0_thrustOn_5 17 rfl rfl)
theorem dX0_thrustOn_135 : decode cX0_thrustOn 135 = .ok (.isub, 1) := dk_100 (dk_at dksX0_thrustOn_5 18 rfl rfl)
theorem dX0_thrustOn_136 : decode cX0_thrustOn 136 = .ok (.istore 5, 2) := dk_54 5 (dk_at dksX0_thrustOn_5 19 rfl rfl)
theorem dX0_thrustOn_138 : decode cX0_thrustOn 138 = .ok (.iload 5, 2) := dk_21 5 (dk_at dksX0_thrustOn_5 21 rfl rfl)
theorem dX0_thrustOn_140 : decode cX0_thrustOn 140 = .ok (.ireturn, 1) := dk_172 (dk_at dksX0_thrustOn_5 23 rfl rfl)
abbrev cX0_nextOf : ByteArray := prog_1_method_37_code
def yX0_nextOf : MethodName := ⟨RX0, "nextOf", "(III)I"⟩
def dkwX0_nextOf_2 : List UInt8 := [172]
abbrev dktX0_nextOf_2 : List UInt8 := dkwX0_nextOf_2 ++ []
def dkwX0_nextOf_1 : List UInt8 := [21, 4, 28, 96, 54, 4, 167, 255, 232, 42, 21, 4, 182, 1, 43, 153, 0, 8, 21, 4, 167, 0, 4, 2]
abbrev dktX0_nextOf_1 : List UInt8 := dkwX0_nextOf_1 ++ dktX0_nextOf_2
def dkwX0_nextOf_0 : List UInt8 := [27, 28, 96, 54, 4, 42, 21, 4, 182, 1, 43, 153, 0, 21, 29, 21, 4, 122, 4, 126, 154, 0, 12]
abbrev dktX0_nextOf_0 : List UInt8 := dkwX0_nextOf_0 ++ dktX0_nextOf_1
theorem dksX0_nextOf_0 : cX0_nextOf.data.toList.drop 0 = dktX0_nextOf_0 := by decide +kernel
theorem dksX0_nextOf_1 : cX0_nextOf.data.toList.drop 23 = dktX0_nextOf_1 := dk_seg dksX0_nextOf_0 23 rfl rfl
theorem dksX0_nextOf_2 : cX0_nextOf.data.toList.drop 47 = dktX0_nextOf_2 := dk_seg dksX0_nextOf_1 24 rfl rfl
theorem dX0_nextOf_0 : decode cX0_nextOf 0 = .ok (.iload_n 1, 1) := dk_27 (dk_at dksX0_nextOf_0 0 rfl rfl)
theorem dX0_nextOf_1 : decode cX0_nextOf 1 = .ok (.iload_n 2, 1) := dk_28 (dk_at dksX0_nextOf_0 1 rfl rfl)
theorem dX0_nextOf_2 : decode cX0_nextOf 2 = .ok (.iadd, 1) := dk_96 (dk_at dksX0_nextOf_0 2 rfl rfl)
theorem dX0_nextOf_3 : decode cX0_nextOf 3 = .ok (.istore 4, 2) := dk_54 4 (dk_at dksX0_nextOf_0 3 rfl rfl)
theorem dX0_nextOf_5 : decode cX0_nextOf 5 = .ok (.aload_n 0, 1) := dk_42 (dk_at dksX0_nextOf_0 5 rfl rfl)
theorem dX0_nextOf_6 : decode cX0_nextOf 6 = .ok (.iload 4, 2) := dk_21 4 (dk_at dksX0_nextOf_0 6 rfl rfl)
theorem dX0_nextOf_8 : decode cX0_nextOf 8 = .ok (.invokevirtual 299, 3) := dk_182 1 43 (dk_at dksX0_nextOf_0 8 rfl rfl)
theorem dX0_nextOf_11 : decode cX0_nextOf 11 = .ok (.ifCond .eq 21, 3) := dk_153 0 21 (dk_at dksX0_nextOf_0 11 rfl rfl)
theorem dX0_nextOf_14 : decode cX0_nextOf 14 = .ok (.iload_n 3, 1) := dk_29 (dk_at dksX0_nextOf_0 14 rfl rfl)
theorem dX0_nextOf_15 : decode cX0_nextOf 15 = .ok (.iload 4, 2) := dk_21 4 (dk_at dksX0_nextOf_0 15 rfl rfl)
theorem dX0_nextOf_17 : decode cX0_nextOf 17 = .ok (.ishr, 1) := dk_122 (dk_at dksX0_nextOf_0 17 rfl rfl)
theorem dX0_nextOf_18 : decode cX0_nextOf 18 = .ok (.iconst 1, 1) := dk_4 (dk_at dksX0_nextOf_0 18 rfl rfl)
theorem dX0_nextOf_19 : decode cX0_nextOf 19 = .ok (.iand, 1) := dk_126 (dk_at dksX0_nextOf_0 19 rfl rfl)
theorem dX0_nextOf_20 : decode cX0_nextOf 20 = .ok (.ifCond .ne 12, 3) := dk_154 0 12 (dk_at dksX0_nextOf_0 20 rfl rfl)
theorem dX0_nextOf_23 : decode cX0_nextOf 23 = .ok (.iload 4, 2) := dk_21 4 (dk_at dksX0_nextOf_1 0 rfl rfl)
theorem dX0_nextOf_25 : decode cX0_nextOf 25 = .ok (.iload_n 2, 1) := dk_28 (dk_at dksX0_nextOf_1 2 rfl rfl)
theorem dX0_nextOf_26 : decode cX0_nextOf 26 = .ok (.iadd, 1) := dk_96 (dk_at dksX0_nextOf_1 3 rfl rfl)
theorem dX0_nextOf_27 : decode cX0_nextOf 27 = .ok (.istore 4, 2) := dk_54 4 (dk_at dksX0_nextOf_1 4 rfl rfl)
theorem dX0_nextOf_29 : decode cX0_nextOf 29 = .ok (.goto (-24), 3) := dk_167 255 232 (dk_at dksX0_nextOf_1 6 rfl rfl)
theorem dX0_nextOf_32 : decode cX0_nextOf 32 = .ok (.aload_n 0, 1) := dk_42 (dk_at dksX0_nextOf_1 9 rfl rfl)
theorem dX0_nextOf_33 : decode cX0_nextOf 33 = .ok (.iload 4, 2) := dk_21 4 (dk_at dksX0_nextOf_1 10 rfl rfl)
theorem dX0_nextOf_35 : decode cX0_nextOf 35 = .ok (.invokevirtual 299, 3) := dk_182 1 43 (dk_at dksX0_nextOf_1 12 rfl rfl)
theorem dX0_nextOf_38 : decode cX0_nextOf 38 = .ok (.ifCond .eq 8, 3) := dk_153 0 8 (dk_at dksX0_nextOf_1 15 rfl rfl)
theorem dX0_nextOf_41 : decode cX0_nextOf 41 = .ok (.iload 4, 2) := dk_21 4 (dk_at dksX0_nextOf_1 18 rfl rfl)
theorem dX0_nextOf_43 : decode cX0_nextOf 43 = .ok (.goto 4, 3) := dk_167 0 4 (dk_at dksX0_nextOf_1 20 rfl rfl)
theorem dX0_nextOf_46 : decode cX0_nextOf 46 = .ok (.iconst (-1), 1) := dk_2 (dk_at dksX0_nextOf_1 23 rfl rfl)
theorem dX0_nextOf_47 : decode cX0_nextOf 47 = .ok (.ireturn, 1) := dk_172 (dk_at dksX0_nextOf_2 0 rfl rfl)
abbrev cX0_as : ByteArray := prog_1_method_41_code
def yX0_as : MethodName := ⟨RX0, "as", "(II)I"⟩
def dkwX0_as_1 : List UInt8 := [180, 1, 11, 27, 50, 78, 45, 28, 184, 1, 78, 180, 1, 8, 172, 58, 4, 19, 1, 84, 172]
abbrev dktX0_as_1 : List UInt8 := dkwX0_as_1 ++ []
def dkwX0_as_0 : List UInt8 := [42, 27, 182, 1, 43, 153, 0, 12, 28, 3, 8, 184, 0, 105, 154, 0, 6, 18, 130, 172, 42, 180, 0, 40]
abbrev dktX0_as_0 : List UInt8 := dkwX0_as_0 ++ dktX0_as_1
theorem dksX0_as_0 : cX0_as.data.toList.drop 0 = dktX0_as_0 := by decide +kernel
theorem dksX0_as_1 : cX0_as.data.toList.drop 24 = dktX0_as_1 := dk_seg dksX0_as_0 24 rfl rfl
theorem dX0_as_0 : decode cX0_as 0 = .ok (.aload_n 0, 1) := dk_42 (dk_at dksX0_as_0 0 rfl rfl)
theorem dX0_as_1 : decode cX0_as 1 = .ok (.iload_n 1, 1) := dk_27 (dk_at dksX0_as_0 1 rfl rfl)
theorem dX0_as_2 : decode cX0_as 2 = .ok (.invokevirtual 299, 3) := dk_182 1 43 (dk_at dksX0_as_0 2 rfl rfl)
theorem dX0_as_5 : decode cX0_as 5 = .ok (.ifCond .eq 12, 3) := dk_153 0 12 (dk_at dksX0_as_0 5 rfl rfl)
theorem dX0_as_8 : decode cX0_as 8 = .ok (.iload_n 2, 1) := dk_28 (dk_at dksX0_as_0 8 rfl rfl)
theorem dX0_as_9 : decode cX0_as 9 = .ok (.iconst 0, 1) := dk_3 (dk_at dksX0_as_0 9 rfl rfl)
theorem dX0_as_10 : decode cX0_as 10 = .ok (.iconst 5, 1) := dk_8 (dk_at dksX0_as_0 10 rfl rfl)
theorem dX0_as_11 : decode cX0_as 11 = .ok (.invokestatic 105, 3) := dk_184 0 105 (dk_at dksX0_as_0 11 rfl rfl)
theorem dX0_as_14 : decode cX0_as 14 = .ok (.ifCond .ne 6, 3) := dk_154 0 6 (dk_at dksX0_as_0 14 rfl rfl)
theorem dX0_as_17 : decode cX0_as 17 = .ok (.ldc 130, 2) := dk_18 130 (dk_at dksX0_as_0 17 rfl rfl)
theorem dX0_as_19 : decode cX0_as 19 = .ok (.ireturn, 1) := dk_172 (dk_at dksX0_as_0 19 rfl rfl)
theorem dX0_as_20 : decode cX0_as 20 = .ok (.aload_n 0, 1) := dk_42 (dk_at dksX0_as_0 20 rfl rfl)
theorem dX0_as_21 : decode cX0_as 21 = .ok (.getfield 40, 3) := dk_180 0 40 (dk_at dksX0_as_0 21 rfl rfl)
theorem dX0_as_24 : decode cX0_as 24 = .ok (.getfield 267, 3) := dk_180 1 11 (dk_at dksX0_as_1 0 rfl rfl)
theorem dX0_as_27 : decode cX0_as 27 = .ok (.iload_n 1, 1) := dk_27 (dk_at dksX0_as_1 3 rfl rfl)
theorem dX0_as_28 : decode cX0_as 28 = .ok (.aaload, 1) := dk_50 (dk_at dksX0_as_1 4 rfl rfl)
theorem dX0_as_29 : decode cX0_as 29 = .ok (.astore_n 3, 1) := dk_78 (dk_at dksX0_as_1 5 rfl rfl)
theorem dX0_as_30 : decode cX0_as 30 = .ok (.aload_n 3, 1) := dk_45 (dk_at dksX0_as_1 6 rfl rfl)
theorem dX0_as_31 : decode cX0_as 31 = .ok (.iload_n 2, 1) := dk_28 (dk_at dksX0_as_1 7 rfl rfl)
theorem dX0_as_32 : decode cX0_as 32 = .ok (.invokestatic 334, 3) := dk_184 1 78 (dk_at dksX0_as_1 8 rfl rfl)
theorem dX0_as_35 : decode cX0_as 35 = .ok (.getfield 264, 3) := dk_180 1 8 (dk_at dksX0_as_1 11 rfl rfl)
theorem dX0_as_38 : decode cX0_as 38 = .ok (.ireturn, 1) := dk_172 (dk_at dksX0_as_1 14 rfl rfl)
theorem dX0_as_39 : decode cX0_as 39 = .ok (.astore 4, 2) := dk_58 4 (dk_at dksX0_as_1 15 rfl rfl)
theorem dX0_as_41 : decode cX0_as 41 = .ok (.ldc_w 340, 3) := dk_19 1 84 (dk_at dksX0_as_1 17 rfl rfl)
theorem dX0_as_44 : decode cX0_as 44 = .ok (.ireturn, 1) := dk_172 (dk_at dksX0_as_1 20 rfl rfl)
abbrev cX0_takenFor : ByteArray := prog_1_method_40_code
def yX0_takenFor : MethodName := ⟨RX0, "takenFor", "(Ljava/lang/Object;I)LLeaningStreet$House;"⟩
def dkwX0_takenFor_3 : List UInt8 := [176, 42, 192, 0, 31, 176]
abbrev dktX0_takenFor_3 : List UInt8 := dkwX0_takenFor_3 ++ []
def dkwX0_takenFor_2 : List UInt8 := [42, 192, 0, 13, 176, 42, 192, 0, 19, 176, 42, 192, 0, 22, 176, 42, 192, 0, 25, 176, 42, 192, 0, 28]
abbrev dktX0_takenFor_2 : List UInt8 := dkwX0_takenFor_2 ++ dktX0_takenFor_3
def dkwX0_takenFor_1 : List UInt8 := [170, 0, 0, 0, 0, 0, 60, 0, 0, 0, 1, 0, 0, 0, 5, 0, 0, 0, 35, 0, 0, 0, 40, 0, 0, 0, 45, 0, 0, 0, 50, 0, 0, 0, 55]
abbrev dktX0_takenFor_1 : List UInt8 := dkwX0_takenFor_1 ++ dktX0_takenFor_2
def dkwX0_takenFor_0 : List UInt8 := [27]
abbrev dktX0_takenFor_0 : List UInt8 := dkwX0_takenFor_0 ++ dktX0_takenFor_1
theorem dksX0_takenFor_0 : cX0_takenFor.data.toList.drop 0 = dktX0_takenFor_0 := by decide +kernel
theorem dksX0_takenFor_1 : cX0_takenFor.data.toList.drop 1 = dktX0_takenFor_1 := dk_seg dksX0_takenFor_0 1 rfl rfl
theorem dksX0_takenFor_2 : cX0_takenFor.data.toList.drop 36 = dktX0_takenFor_2 := dk_seg dksX0_takenFor_1 35 rfl rfl
theorem dksX0_takenFor_3 : cX0_takenFor.data.toList.drop 60 = dktX0_takenFor_3 := dk_seg dksX0_takenFor_2 24 rfl rfl
theorem dX0_takenFor_0 : decode cX0_takenFor 0 = .ok (.iload_n 1, 1) := dk_27 (dk_at dksX0_takenFor_0 0 rfl rfl)
theorem dX0_takenFor_1 : decode cX0_takenFor 1 = .ok (.tableswitch 60 1 5 #[35, 40, 45, 50, 55], 35) := by decide +kernel
theorem dX0_takenFor_36 : decode cX0_takenFor 36 = .ok (.aload_n 0, 1) := dk_42 (dk_at dksX0_takenFor_2 0 rfl rfl)
theorem dX0_takenFor_37 : decode cX0_takenFor 37 = .ok (.checkcast 13, 3) := dk_192 0 13 (dk_at dksX0_takenFor_2 1 rfl rfl)
theorem dX0_takenFor_40 : decode cX0_takenFor 40 = .ok (.areturn, 1) := dk_176 (dk_at dksX0_takenFor_2 4 rfl rfl)
theorem dX0_takenFor_41 : decode cX0_takenFor 41 = .ok (.aload_n 0, 1) := dk_42 (dk_at dksX0_takenFor_2 5 rfl rfl)
theorem dX0_takenFor_42 : decode cX0_takenFor 42 = .ok (.checkcast 19, 3) := dk_192 0 19 (dk_at dksX0_takenFor_2 6 rfl rfl)
theorem dX0_takenFor_45 : decode cX0_takenFor 45 = .ok (.areturn, 1) := dk_176 (dk_at dksX0_takenFor_2 9 rfl rfl)
theorem dX0_takenFor_46 : decode cX0_takenFor 46 = .ok (.aload_n 0, 1) := dk_42 (dk_at dksX0_takenFor_2 10 rfl rfl)
theorem dX0_takenFor_47 : decode cX0_takenFor 47 = .ok (.checkcast 22, 3) := dk_192 0 22 (dk_at dksX0_takenFor_2 11 rfl rfl)
theorem dX0_takenFor_50 : decode cX0_takenFor 50 = .ok (.areturn, 1) := dk_176 (dk_at dksX0_takenFor_2 14 rfl rfl)
theorem dX0_takenFor_51 : decode cX0_takenFor 51 = .ok (.aload_n 0, 1) := dk_42 (dk_at dksX0_takenFor_2 15 rfl rfl)
theorem dX0_takenFor_52 : decode cX0_takenFor 52 = .ok (.checkcast 25, 3) := dk_192 0 25 (dk_at dksX0_takenFor_2 16 rfl rfl)
theorem dX0_takenFor_55 : decode cX0_takenFor 55 = .ok (.areturn, 1) := dk_176 (dk_at dksX0_takenFor_2 19 rfl rfl)
theorem dX0_takenFor_56 : decode cX0_takenFor 56 = .ok (.aload_n 0, 1) := dk_42 (dk_at dksX0_takenFor_2 20 rfl rfl)
theorem dX0_takenFor_57 : decode cX0_takenFor 57 = .ok (.checkcast 28, 3) := dk_192 0 28 (dk_at dksX0_takenFor_2 21 rfl rfl)
theorem dX0_takenFor_60 : decode cX0_takenFor 60 = .ok (.areturn, 1) := dk_176 (dk_at dksX0_takenFor_3 0 rfl rfl)
theorem dX0_takenFor_61 : decode cX0_takenFor 61 = .ok (.aload_n 0, 1) := dk_42 (dk_at dksX0_takenFor_3 1 rfl rfl)
theorem dX0_takenFor_62 : decode cX0_takenFor 62 = .ok (.checkcast 31, 3) := dk_192 0 31 (dk_at dksX0_takenFor_3 2 rfl rfl)
theorem dX0_takenFor_65 : decode cX0_takenFor 65 = .ok (.areturn, 1) := dk_176 (dk_at dksX0_takenFor_3 5 rfl rfl)
abbrev cX0_turns : ByteArray := prog_1_method_42_code
def yX0_turns : MethodName := ⟨RX0, "turns", "(II)I"⟩
def dkwX0_turns_2 : List UInt8 := [180, 1, 11, 27, 50, 45, 182, 1, 85, 45, 182, 1, 63, 172]
abbrev dktX0_turns_2 : List UInt8 := dkwX0_turns_2 ++ []
def dkwX0_turns_1 : List UInt8 := [180, 1, 11, 27, 50, 78, 42, 180, 0, 40, 180, 1, 11, 27, 28, 184, 0, 254, 83, 42, 180, 0, 40]
abbrev dktX0_turns_1 : List UInt8 := dkwX0_turns_1 ++ dktX0_turns_2
def dkwX0_turns_0 : List UInt8 := [42, 27, 182, 1, 43, 153, 0, 12, 28, 3, 8, 184, 0, 105, 154, 0, 6, 18, 130, 172, 42, 180, 0, 40]
abbrev dktX0_turns_0 : List UInt8 := dkwX0_turns_0 ++ dktX0_turns_1
theorem dksX0_turns_0 : cX0_turns.data.toList.drop 0 = dktX0_turns_0 := by decide +kernel
theorem dksX0_turns_1 : cX0_turns.data.toList.drop 24 = dktX0_turns_1 := dk_seg dksX0_turns_0 24 rfl rfl
theorem dksX0_turns_2 : cX0_turns.data.toList.drop 47 = dktX0_turns_2 := dk_seg dksX0_turns_1 23 rfl rfl
theorem dX0_turns_0 : decode cX0_turns 0 = .ok (.aload_n 0, 1) := dk_42 (dk_at dksX0_turns_0 0 rfl rfl)
theorem dX0_turns_1 : decode cX0_turns 1 = .ok (.iload_n 1, 1) := dk_27 (dk_at dksX0_turns_0 1 rfl rfl)
theorem dX0_turns_2 : decode cX0_turns 2 = .ok (.invokevirtual 299, 3) := dk_182 1 43 (dk_at dksX0_turns_0 2 rfl rfl)
theorem dX0_turns_5 : decode cX0_turns 5 = .ok (.ifCond .eq 12, 3) := dk_153 0 12 (dk_at dksX0_turns_0 5 rfl rfl)
theorem dX0_turns_8 : decode cX0_turns 8 = .ok (.iload_n 2, 1) := dk_28 (dk_at dksX0_turns_0 8 rfl rfl)
theorem dX0_turns_9 : decode cX0_turns 9 = .ok (.iconst 0, 1) := dk_3 (dk_at dksX0_turns_0 9 rfl rfl)
theorem dX0_turns_10 : decode cX0_turns 10 = .ok (.iconst 5, 1) := dk_8 (dk_at dksX0_turns_0 10 rfl rfl)
theorem dX0_turns_11 : decode cX0_turns 11 = .ok (.invokestatic 105, 3) := dk_184 0 105 (dk_at dksX0_turns_0 11 rfl rfl)
theorem dX0_turns_14 : decode cX0_turns 14 = .ok (.ifCond .ne 6, 3) := dk_154 0 6 (dk_at dksX0_turns_0 14 rfl rfl)
theorem dX0_turns_17 : decode cX0_turns 17 = .ok (.ldc 130, 2) := dk_18 130 (dk_at dksX0_turns_0 17 rfl rfl)
theorem dX0_turns_19 : decode cX0_turns 19 = .ok (.ireturn, 1) := dk_172 (dk_at dksX0_turns_0 19 rfl rfl)
theorem dX0_turns_20 : decode cX0_turns 20 = .ok (.aload_n 0, 1) := dk_42 (dk_at dksX0_turns_0 20 rfl rfl)
theorem dX0_turns_21 : decode cX0_turns 21 = .ok (.getfield 40, 3) := dk_180 0 40 (dk_at dksX0_turns_0 21 rfl rfl)
theorem dX0_turns_24 : decode cX0_turns 24 = .ok (.getfield 267, 3) := dk_180 1 11 (dk_at dksX0_turns_1 0 rfl rfl)
theorem dX0_turns_27 : decode cX0_turns 27 = .ok (.iload_n 1, 1) := dk_27 (dk_at dksX0_turns_1 3 rfl rfl)
theorem dX0_turns_28 : decode cX0_turns 28 = .ok (.aaload, 1) := dk_50 (dk_at dksX0_turns_1 4 rfl rfl)
theorem dX0_turns_29 : decode cX0_turns 29 = .ok (.astore_n 3, 1) := dk_78 (dk_at dksX0_turns_1 5 rfl rfl)
theorem dX0_turns_30 : decode cX0_turns 30 = .ok (.aload_n 0, 1) := dk_42 (dk_at dksX0_turns_1 6 rfl rfl)
theorem dX0_turns_31 : decode cX0_turns 31 = .ok (.getfield 40, 3) := dk_180 0 40 (dk_at dksX0_turns_1 7 rfl rfl)
theorem dX0_turns_34 : decode cX0_turns 34 = .ok (.getfield 267, 3) := dk_180 1 11 (dk_at dksX0_turns_1 10 rfl rfl)
theorem dX0_turns_37 : decode cX0_turns 37 = .ok (.iload_n 1, 1) := dk_27 (dk_at dksX0_turns_1 13 rfl rfl)
theorem dX0_turns_38 : decode cX0_turns 38 = .ok (.iload_n 2, 1) := dk_28 (dk_at dksX0_turns_1 14 rfl rfl)
theorem dX0_turns_39 : decode cX0_turns 39 = .ok (.invokestatic 254, 3) := dk_184 0 254 (dk_at dksX0_turns_1 15 rfl rfl)
theorem dX0_turns_42 : decode cX0_turns 42 = .ok (.aastore, 1) := dk_83 (dk_at dksX0_turns_1 18 rfl rfl)
theorem dX0_turns_43 : decode cX0_turns 43 = .ok (.aload_n 0, 1) := dk_42 (dk_at dksX0_turns_1 19 rfl rfl)
theorem dX0_turns_44 : decode cX0_turns 44 = .ok (.getfield 40, 3) := dk_180 0 40 (dk_at dksX0_turns_1 20 rfl rfl)
theorem dX0_turns_47 : decode cX0_turns 47 = .ok (.getfield 267, 3) := dk_180 1 11 (dk_at dksX0_turns_2 0 rfl rfl)
theorem dX0_turns_50 : decode cX0_turns 50 = .ok (.iload_n 1, 1) := dk_27 (dk_at dksX0_turns_2 3 rfl rfl)
theorem dX0_turns_51 : decode cX0_turns 51 = .ok (.aaload, 1) := dk_50 (dk_at dksX0_turns_2 4 rfl rfl)
theorem dX0_turns_52 : decode cX0_turns 52 = .ok (.aload_n 3, 1) := dk_45 (dk_at dksX0_turns_2 5 rfl rfl)
theorem dX0_turns_53 : decode cX0_turns 53 = .ok (.invokevirtual 341, 3) := dk_182 1 85 (dk_at dksX0_turns_2 6 rfl rfl)
theorem dX0_turns_56 : decode cX0_turns 56 = .ok (.aload_n 3, 1) := dk_45 (dk_at dksX0_turns_2 9 rfl rfl)
theorem dX0_turns_57 : decode cX0_turns 57 = .ok (.invokevirtual 319, 3) := dk_182 1 63 (dk_at dksX0_turns_2 10 rfl rfl)
theorem dX0_turns_60 : decode cX0_turns 60 = .ok (.ireturn, 1) := dk_172 (dk_at dksX0_turns_2 13 rfl rfl)
abbrev cX0_set : ByteArray := prog_1_method_44_code
def yX0_set : MethodName := ⟨RX0, "set", "(III)I"⟩
def dkwX0_set_1 : List UInt8 := [153, 0, 20, 42, 180, 0, 40, 180, 1, 11, 27, 50, 28, 29, 184, 1, 89, 167, 0, 5, 18, 130, 172]
abbrev dktX0_set_1 : List UInt8 := dkwX0_set_1 ++ []
def dkwX0_set_0 : List UInt8 := [42, 27, 182, 1, 43, 153, 0, 37, 28, 4, 8, 184, 0, 105, 153, 0, 28, 28, 29, 184, 1, 15]
abbrev dktX0_set_0 : List UInt8 := dkwX0_set_0 ++ dktX0_set_1
theorem dksX0_set_0 : cX0_set.data.toList.drop 0 = dktX0_set_0 := by decide +kernel
theorem dksX0_set_1 : cX0_set.data.toList.drop 22 = dktX0_set_1 := dk_seg dksX0_set_0 22 rfl rfl
theorem dX0_set_0 : decode cX0_set 0 = .ok (.aload_n 0, 1) := dk_42 (dk_at dksX0_set_0 0 rfl rfl)
theorem dX0_set_1 : decode cX0_set 1 = .ok (.iload_n 1, 1) := dk_27 (dk_at dksX0_set_0 1 rfl rfl)
theorem dX0_set_2 : decode cX0_set 2 = .ok (.invokevirtual 299, 3) := dk_182 1 43 (dk_at dksX0_set_0 2 rfl rfl)
theorem dX0_set_5 : decode cX0_set 5 = .ok (.ifCond .eq 37, 3) := dk_153 0 37 (dk_at dksX0_set_0 5 rfl rfl)
theorem dX0_set_8 : decode cX0_set 8 = .ok (.iload_n 2, 1) := dk_28 (dk_at dksX0_set_0 8 rfl rfl)
theorem dX0_set_9 : decode cX0_set 9 = .ok (.iconst 1, 1) := dk_4 (dk_at dksX0_set_0 9 rfl rfl)
theorem dX0_set_10 : decode cX0_set 10 = .ok (.iconst 5, 1) := dk_8 (dk_at dksX0_set_0 10 rfl rfl)
theorem dX0_set_11 : decode cX0_set 11 = .ok (.invokestatic 105, 3) := dk_184 0 105 (dk_at dksX0_set_0 11 rfl rfl)
theorem dX0_set_14 : decode cX0_set 14 = .ok (.ifCond .eq 28, 3) := dk_153 0 28 (dk_at dksX0_set_0 14 rfl rfl)
theorem dX0_set_17 : decode cX0_set 17 = .ok (.iload_n 2, 1) := dk_28 (dk_at dksX0_set_0 17 rfl rfl)
theorem dX0_set_18 : decode cX0_set 18 = .ok (.iload_n 3, 1) := dk_29 (dk_at dksX0_set_0 18 rfl rfl)
theorem dX0_set_19 : decode cX0_set 19 = .ok (.invokestatic 271, 3) := dk_184 1 15 (dk_at dksX0_set_0 19 rfl rfl)
theorem dX0_set_22 : decode cX0_set 22 = .ok (.ifCond .eq 20, 3) := dk_153 0 20 (dk_at dksX0_set_1 0 rfl rfl)
theorem dX0_set_25 : decode cX0_set 25 = .ok (.aload_n 0, 1) := dk_42 (dk_at dksX0_set_1 3 rfl rfl)
theorem dX0_set_26 : decode cX0_set 26 = .ok (.getfield 40, 3) := dk_180 0 40 (dk_at dksX0_set_1 4 rfl rfl)
theorem dX0_set_29 : decode cX0_set 29 = .ok (.getfield 267, 3) := dk_180 1 11 (dk_at dksX0_set_1 7 rfl rfl)
theorem dX0_set_32 : decode cX0_set 32 = .ok (.iload_n 1, 1) := dk_27 (dk_at dksX0_set_1 10 rfl rfl)
theorem dX0_set_33 : decode cX0_set 33 = .ok (.aaload, 1) := dk_50 (dk_at dksX0_set_1 11 rfl rfl)
theorem dX0_set_34 : decode cX0_set 34 = .ok (.iload_n 2, 1) := dk_28 (dk_at dksX0_set_1 12 rfl rfl)
theorem dX0_set_35 : decode cX0_set 35 = .ok (.iload_n 3, 1) := dk_29 (dk_at dksX0_set_1 13 rfl rfl)
theorem dX0_set_36 : decode cX0_set 36 = .ok (.invokestatic 345, 3) := dk_184 1 89 (dk_at dksX0_set_1 14 rfl rfl)
theorem dX0_set_39 : decode cX0_set 39 = .ok (.goto 5, 3) := dk_167 0 5 (dk_at dksX0_set_1 17 rfl rfl)
theorem dX0_set_42 : decode cX0_set 42 = .ok (.ldc 130, 2) := dk_18 130 (dk_at dksX0_set_1 20 rfl rfl)
theorem dX0_set_44 : decode cX0_set 44 = .ok (.ireturn, 1) := dk_172 (dk_at dksX0_set_1 22 rfl rfl)
abbrev cX0_becomes : ByteArray := prog_1_method_43_code
def yX0_becomes : MethodName := ⟨RX0, "becomes", "(LLeaningStreet$House;II)I"⟩
def dkwX0_becomes_4 : List UInt8 := [42, 180, 1, 66, 62, 42, 28, 181, 1, 66, 29, 172]
abbrev dktX0_becomes_4 : List UInt8 := dkwX0_becomes_4 ++ []
def dkwX0_becomes_3 : List UInt8 := [42, 180, 1, 8, 62, 42, 28, 181, 1, 8, 29, 172, 42, 180, 1, 32, 62, 42, 28, 181, 1, 32, 29, 172]
abbrev dktX0_becomes_3 : List UInt8 := dkwX0_becomes_3 ++ dktX0_becomes_4
def dkwX0_becomes_2 : List UInt8 := [42, 180, 1, 2, 62, 42, 28, 181, 1, 2, 29, 172, 42, 180, 1, 5, 62, 42, 28, 181, 1, 5, 29, 172]
abbrev dktX0_becomes_2 : List UInt8 := dkwX0_becomes_2 ++ dktX0_becomes_3
def dkwX0_becomes_1 : List UInt8 := [170, 0, 0, 0, 0, 0, 79, 0, 0, 0, 1, 0, 0, 0, 4, 0, 0, 0, 31, 0, 0, 0, 43, 0, 0, 0, 55, 0, 0, 0, 67]
abbrev dktX0_becomes_1 : List UInt8 := dkwX0_becomes_1 ++ dktX0_becomes_2
def dkwX0_becomes_0 : List UInt8 := [27]
abbrev dktX0_becomes_0 : List UInt8 := dkwX0_becomes_0 ++ dktX0_becomes_1
theorem dksX0_becomes_0 : cX0_becomes.data.toList.drop 0 = dktX0_becomes_0 := by decide +kernel
theorem dksX0_becomes_1 : cX0_becomes.data.toList.drop 1 = dktX0_becomes_1 := dk_seg dksX0_becomes_0 1 rfl rfl
theorem dksX0_becomes_2 : cX0_becomes.data.toList.drop 32 = dktX0_becomes_2 := dk_seg dksX0_becomes_1 31 rfl rfl
theorem dksX0_becomes_3 : cX0_becomes.data.toList.drop 56 = dktX0_becomes_3 := dk_seg dksX0_becomes_2 24 rfl rfl
theorem dksX0_becomes_4 : cX0_becomes.data.toList.drop 80 = dktX0_becomes_4 := dk_seg dksX0_becomes_3 24 rfl rfl
theorem dX0_becomes_0 : decode cX0_becomes 0 = .ok (.iload_n 1, 1) := dk_27 (dk_at dksX0_becomes_0 0 rfl rfl)
theorem dX0_becomes_1 : decode cX0_becomes 1 = .ok (.tableswitch 79 1 4 #[31, 43, 55, 67], 31) := by decide +kernel
theorem dX0_becomes_32 : decode cX0_becomes 32 = .ok (.aload_n 0, 1) := dk_42 (dk_at dksX0_becomes_2 0 rfl rfl)
theorem dX0_becomes_33 : decode cX0_becomes 33 = .ok (.getfield 258, 3) := dk_180 1 2 (dk_at dksX0_becomes_2 1 rfl rfl)
theorem dX0_becomes_36 : decode cX0_becomes 36 = .ok (.istore_n 3, 1) := dk_62 (dk_at dksX0_becomes_2 4 rfl rfl)
theorem dX0_becomes_37 : decode cX0_becomes 37 = .ok (.aload_n 0, 1) := dk_42 (dk_at dksX0_becomes_2 5 rfl rfl)
theorem dX0_becomes_38 : decode cX0_becomes 38 = .ok (.iload_n 2, 1) := dk_28 (dk_at dksX0_becomes_2 6 rfl rfl)
theorem dX0_becomes_39 : decode cX0_becomes 39 = .ok (.putfield 258, 3) := dk_181 1 2 (dk_at dksX0_becomes_2 7 rfl rfl)
theorem dX0_becomes_42 : decode cX0_becomes 42 = .ok (.iload_n 3, 1) := dk_29 (dk_at dksX0_becomes_2 10 rfl rfl)
theorem dX0_becomes_43 : decode cX0_becomes 43 = .ok (.ireturn, 1) := dk_172 (dk_at dksX0_becomes_2 11 rfl rfl)
theorem dX0_becomes_44 : decode cX0_becomes 44 = .ok (.aload_n 0, 1) := dk_42 (dk_at dksX0_becomes_2 12 rfl rfl)
theorem dX0_becomes_45 : decode cX0_becomes 45 = .ok (.getfield 261, 3) := dk_180 1 5 (dk_at dksX0_becomes_2 13 rfl rfl)
theorem dX0_becomes_48 : decode cX0_becomes 48 = .ok (.istore_n 3, 1) := dk_62 (dk_at dksX0_becomes_2 16 rfl rfl)
theorem dX0_becomes_49 : decode cX0_becomes 49 = .ok (.aload_n 0, 1) := dk_42 (dk_at dksX0_becomes_2 17 rfl rfl)
theorem dX0_becomes_50 : decode cX0_becomes 50 = .ok (.iload_n 2, 1) := dk_28 (dk_at dksX0_becomes_2 18 rfl rfl)
theorem dX0_becomes_51 : decode cX0_becomes 51 = .ok (.putfield 261, 3) := dk_181 1 5 (dk_at dksX0_becomes_2 19 rfl rfl)
theorem dX0_becomes_54 : decode cX0_becomes 54 = .ok (.iload_n 3, 1) := dk_29 (dk_at dksX0_becomes_2 22 rfl rfl)
theorem dX0_becomes_55 : decode cX0_becomes 55 = .ok (.ireturn, 1) := dk_172 (dk_at dksX0_becomes_2 23 rfl rfl)
theorem dX0_becomes_56 : decode cX0_becomes 56 = .ok (.aload_n 0, 1) := dk_42 (dk_at dksX0_becomes_3 0 rfl rfl)
theorem dX0_becomes_57 : decode cX0_becomes 57 = .ok (.getfield 264, 3) := dk_180 1 8 (dk_at dksX0_becomes_3 1 rfl rfl)
theorem dX0_becomes_60 : decode cX0_becomes 60 = .ok (.istore_n 3, 1) := dk_62 (dk_at dksX0_becomes_3 4 rfl rfl)
theorem dX0_becomes_61 : decode cX0_becomes 61 = .ok (.aload_n 0, 1) := dk_42 (dk_at dksX0_becomes_3 5 rfl rfl)
theorem dX0_becomes_62 : decode cX0_becomes 62 = .ok (.iload_n 2, 1) := dk_28 (dk_at dksX0_becomes_3 6 rfl rfl)
theorem dX0_becomes_63 : decode cX0_becomes 63 = .ok (.putfield 264, 3) := dk_181 1 8 (dk_at dksX0_becomes_3 7 rfl rfl)
theorem dX0_becomes_66 : decode cX0_becomes 66 = .ok (.iload_n 3, 1) := dk_29 (dk_at dksX0_becomes_3 10 rfl rfl)
theorem dX0_becomes_67 : decode cX0_becomes 67 = .ok (.ireturn, 1) := dk_172 (dk_at dksX0_becomes_3 11 rfl rfl)
theorem dX0_becomes_68 : decode cX0_becomes 68 = .ok (.aload_n 0, 1) := dk_42 (dk_at dksX0_becomes_3 12 rfl rfl)
theorem dX0_becomes_69 : decode cX0_becomes 69 = .ok (.getfield 288, 3) := dk_180 1 32 (dk_at dksX0_becomes_3 13 rfl rfl)
theorem dX0_becomes_72 : decode cX0_becomes 72 = .ok (.istore_n 3, 1) := dk_62 (dk_at dksX0_becomes_3 16 rfl rfl)
theorem dX0_becomes_73 : decode cX0_becomes 73 = .ok (.aload_n 0, 1) := dk_42 (dk_at dksX0_becomes_3 17 rfl rfl)
theorem dX0_becomes_74 : decode cX0_becomes 74 = .ok (.iload_n 2, 1) := dk_28 (dk_at dksX0_becomes_3 18 rfl rfl)
theorem dX0_becomes_75 : decode cX0_becomes 75 = .ok (.putfield 288, 3) := dk_181 1 32 (dk_at dksX0_becomes_3 19 rfl rfl)
theorem dX0_becomes_78 : decode cX0_becomes 78 = .ok (.iload_n 3, 1) := dk_29 (dk_at dksX0_becomes_3 22 rfl rfl)
theorem dX0_becomes_79 : decode cX0_becomes 79 = .ok (.ireturn, 1) := dk_172 (dk_at dksX0_becomes_3 23 rfl rfl)
theorem dX0_becomes_80 : decode cX0_becomes 80 = .ok (.aload_n 0, 1) := dk_42 (dk_at dksX0_becomes_4 0 rfl rfl)
theorem dX0_becomes_81 : decode cX0_becomes 81 = .ok (.getfield 322, 3) := dk_180 1 66 (dk_at dksX0_becomes_4 1 rfl rfl)
theorem dX0_becomes_84 : decode cX0_becomes 84 = .ok (.istore_n 3, 1) := dk_62 (dk_at dksX0_becomes_4 4 rfl rfl)
theorem dX0_becomes_85 : decode cX0_becomes 85 = .ok (.aload_n 0, 1) := dk_42 (dk_at dksX0_becomes_4 5 rfl rfl)
theorem dX0_becomes_86 : decode cX0_becomes 86 = .ok (.iload_n 2, 1) := dk_28 (dk_at dksX0_becomes_4 6 rfl rfl)
theorem dX0_becomes_87 : decode cX0_becomes 87 = .ok (.putfield 322, 3) := dk_181 1 66 (dk_at dksX0_becomes_4 7 rfl rfl)
theorem dX0_becomes_90 : decode cX0_becomes 90 = .ok (.iload_n 3, 1) := dk_29 (dk_at dksX0_becomes_4 10 rfl rfl)
theorem dX0_becomes_91 : decode cX0_becomes 91 = .ok (.ireturn, 1) := dk_172 (dk_at dksX0_becomes_4 11 rfl rfl)
abbrev cX0_fells : ByteArray := prog_1_method_45_code
def yX0_fells : MethodName := ⟨RX0, "fells", "(I)I"⟩
def dkwX0_fells_2 : List UInt8 := [182, 1, 50, 184, 1, 97, 172]
abbrev dktX0_fells_2 : List UInt8 := dkwX0_fells_2 ++ []
def dkwX0_fells_1 : List UInt8 := [154, 0, 7, 19, 1, 93, 172, 42, 180, 0, 40, 180, 1, 11, 27, 50, 182, 1, 94, 42, 180, 0, 40]
abbrev dktX0_fells_1 : List UInt8 := dkwX0_fells_1 ++ dktX0_fells_2
def dkwX0_fells_0 : List UInt8 := [42, 27, 182, 1, 43, 154, 0, 6, 18, 130, 172, 42, 180, 0, 40, 180, 1, 11, 27, 50, 180, 1, 46]
abbrev dktX0_fells_0 : List UInt8 := dkwX0_fells_0 ++ dktX0_fells_1
theorem dksX0_fells_0 : cX0_fells.data.toList.drop 0 = dktX0_fells_0 := by decide +kernel
theorem dksX0_fells_1 : cX0_fells.data.toList.drop 23 = dktX0_fells_1 := dk_seg dksX0_fells_0 23 rfl rfl
theorem dksX0_fells_2 : cX0_fells.data.toList.drop 46 = dktX0_fells_2 := dk_seg dksX0_fells_1 23 rfl rfl
theorem dX0_fells_0 : decode cX0_fells 0 = .ok (.aload_n 0, 1) := dk_42 (dk_at dksX0_fells_0 0 rfl rfl)
theorem dX0_fells_1 : decode cX0_fells 1 = .ok (.iload_n 1, 1) := dk_27 (dk_at dksX0_fells_0 1 rfl rfl)
theorem dX0_fells_2 : decode cX0_fells 2 = .ok (.invokevirtual 299, 3) := dk_182 1 43 (dk_at dksX0_fells_0 2 rfl rfl)
theorem dX0_fells_5 : decode cX0_fells 5 = .ok (.ifCond .ne 6, 3) := dk_154 0 6 (dk_at dksX0_fells_0 5 rfl rfl)
theorem dX0_fells_8 : decode cX0_fells 8 = .ok (.ldc 130, 2) := dk_18 130 (dk_at dksX0_fells_0 8 rfl rfl)
theorem dX0_fells_10 : decode cX0_fells 10 = .ok (.ireturn, 1) := dk_172 (dk_at dksX0_fells_0 10 rfl rfl)
theorem dX0_fells_11 : decode cX0_fells 11 = .ok (.aload_n 0, 1) := dk_42 (dk_at dksX0_fells_0 11 rfl rfl)
theorem dX0_fells_12 : decode cX0_fells 12 = .ok (.getfield 40, 3) := dk_180 0 40 (dk_at dksX0_fells_0 12 rfl rfl)
theorem dX0_fells_15 : decode cX0_fells 15 = .ok (.getfield 267, 3) := dk_180 1 11 (dk_at dksX0_fells_0 15 rfl rfl)
theorem dX0_fells_18 : decode cX0_fells 18 = .ok (.iload_n 1, 1) := dk_27 (dk_at dksX0_fells_0 18 rfl rfl)
theorem dX0_fells_19 : decode cX0_fells 19 = .ok (.aaload, 1) := dk_50 (dk_at dksX0_fells_0 19 rfl rfl)
theorem dX0_fells_20 : decode cX0_fells 20 = .ok (.getfield 302, 3) := dk_180 1 46 (dk_at dksX0_fells_0 20 rfl rfl)
theorem dX0_fells_23 : decode cX0_fells 23 = .ok (.ifCond .ne 7, 3) := dk_154 0 7 (dk_at dksX0_fells_1 0 rfl rfl)
theorem dX0_fells_26 : decode cX0_fells 26 = .ok (.ldc_w 349, 3) := dk_19 1 93 (dk_at dksX0_fells_1 3 rfl rfl)
theorem dX0_fells_29 : decode cX0_fells 29 = .ok (.ireturn, 1) := dk_172 (dk_at dksX0_fells_1 6 rfl rfl)
theorem dX0_fells_30 : decode cX0_fells 30 = .ok (.aload_n 0, 1) := dk_42 (dk_at dksX0_fells_1 7 rfl rfl)
theorem dX0_fells_31 : decode cX0_fells 31 = .ok (.getfield 40, 3) := dk_180 0 40 (dk_at dksX0_fells_1 8 rfl rfl)
theorem dX0_fells_34 : decode cX0_fells 34 = .ok (.getfield 267, 3) := dk_180 1 11 (dk_at dksX0_fells_1 11 rfl rfl)
theorem dX0_fells_37 : decode cX0_fells 37 = .ok (.iload_n 1, 1) := dk_27 (dk_at dksX0_fells_1 14 rfl rfl)
theorem dX0_fells_38 : decode cX0_fells 38 = .ok (.aaload, 1) := dk_50 (dk_at dksX0_fells_1 15 rfl rfl)
theorem dX0_fells_39 : decode cX0_fells 39 = .ok (.invokevirtual 350, 3) := dk_182 1 94 (dk_at dksX0_fells_1 16 rfl rfl)
theorem dX0_fells_42 : decode cX0_fells 42 = .ok (.aload_n 0, 1) := dk_42 (dk_at dksX0_fells_1 19 rfl rfl)
theorem dX0_fells_43 : decode cX0_fells 43 = .ok (.getfield 40, 3) := dk_180 0 40 (dk_at dksX0_fells_1 20 rfl rfl)
theorem dX0_fells_46 : decode cX0_fells 46 = .ok (.invokevirtual 306, 3) := dk_182 1 50 (dk_at dksX0_fells_2 0 rfl rfl)
theorem dX0_fells_49 : decode cX0_fells 49 = .ok (.invokestatic 353, 3) := dk_184 1 97 (dk_at dksX0_fells_2 3 rfl rfl)
theorem dX0_fells_52 : decode cX0_fells 52 = .ok (.ireturn, 1) := dk_172 (dk_at dksX0_fells_2 6 rfl rfl)
abbrev cX0_raises : ByteArray := prog_1_method_46_code
def yX0_raises : MethodName := ⟨RX0, "raises", "(I)I"⟩
def dkwX0_raises_2 : List UInt8 := [181, 1, 32, 42, 180, 0, 40, 182, 1, 50, 184, 1, 97, 172]
abbrev dktX0_raises_2 : List UInt8 := dkwX0_raises_2 ++ []
def dkwX0_raises_1 : List UInt8 := [180, 1, 46, 153, 0, 7, 19, 1, 93, 172, 44, 4, 181, 1, 46, 44, 3, 181, 1, 5, 44, 3]
abbrev dktX0_raises_1 : List UInt8 := dkwX0_raises_1 ++ dktX0_raises_2
def dkwX0_raises_0 : List UInt8 := [42, 27, 182, 1, 43, 154, 0, 6, 18, 130, 172, 42, 180, 0, 40, 180, 1, 11, 27, 50, 77, 44]
abbrev dktX0_raises_0 : List UInt8 := dkwX0_raises_0 ++ dktX0_raises_1
theorem dksX0_raises_0 : cX0_raises.data.toList.drop 0 = dktX0_raises_0 := by decide +kernel
theorem dksX0_raises_1 : cX0_raises.data.toList.drop 22 = dktX0_raises_1 := dk_seg dksX0_raises_0 22 rfl rfl
theorem dksX0_raises_2 : cX0_raises.data.toList.drop 44 = dktX0_raises_2 := dk_seg dksX0_raises_1 22 rfl rfl
theorem dX0_raises_0 : decode cX0_raises 0 = .ok (.aload_n 0, 1) := dk_42 (dk_at dksX0_raises_0 0 rfl rfl)
theorem dX0_raises_1 : decode cX0_raises 1 = .ok (.iload_n 1, 1) := dk_27 (dk_at dksX0_raises_0 1 rfl rfl)
theorem dX0_raises_2 : decode cX0_raises 2 = .ok (.invokevirtual 299, 3) := dk_182 1 43 (dk_at dksX0_raises_0 2 rfl rfl)
theorem dX0_raises_5 : decode cX0_raises 5 = .ok (.ifCond .ne 6, 3) := dk_154 0 6 (dk_at dksX0_raises_0 5 rfl rfl)
theorem dX0_raises_8 : decode cX0_raises 8 = .ok (.ldc 130, 2) := dk_18 130 (dk_at dksX0_raises_0 8 rfl rfl)
theorem dX0_raises_10 : decode cX0_raises 10 = .ok (.ireturn, 1) := dk_172 (dk_at dksX0_raises_0 10 rfl rfl)
theorem dX0_raises_11 : decode cX0_raises 11 = .ok (.aload_n 0, 1) := dk_42 (dk_at dksX0_raises_0 11 rfl rfl)
theorem dX0_raises_12 : decode cX0_raises 12 = .ok (.getfield 40, 3) := dk_180 0 40 (dk_at dksX0_raises_0 12 rfl rfl)
theorem dX0_raises_15 : decode cX0_raises 15 = .ok (.getfield 267, 3) := dk_180 1 11 (dk_at dksX0_raises_0 15 rfl rfl)
theorem dX0_raises_18 : decode cX0_raises 18 = .ok (.iload_n 1, 1) := dk_27 (dk_at dksX0_raises_0 18 rfl rfl)
theorem dX0_raises_19 : decode cX0_raises 19 = .ok (.aaload, 1) := dk_50 (dk_at dksX0_raises_0 19 rfl rfl)
theorem dX0_raises_20 : decode cX0_raises 20 = .ok (.astore_n 2, 1) := dk_77 (dk_at dksX0_raises_0 20 rfl rfl)
theorem dX0_raises_21 : decode cX0_raises 21 = .ok (.aload_n 2, 1) := dk_44 (dk_at dksX0_raises_0 21 rfl rfl)
theorem dX0_raises_22 : decode cX0_raises 22 = .ok (.getfield 302, 3) := dk_180 1 46 (dk_at dksX0_raises_1 0 rfl rfl)
theorem dX0_raises_25 : decode cX0_raises 25 = .ok (.ifCond .eq 7, 3) := dk_153 0 7 (dk_at dksX0_raises_1 3 rfl rfl)
theorem dX0_raises_28 : decode cX0_raises 28 = .ok (.ldc_w 349, 3) := dk_19 1 93 (dk_at dksX0_raises_1 6 rfl rfl)
theorem dX0_raises_31 : decode cX0_raises 31 = .ok (.ireturn, 1) := dk_172 (dk_at dksX0_raises_1 9 rfl rfl)
theorem dX0_raises_32 : decode cX0_raises 32 = .ok (.aload_n 2, 1) := dk_44 (dk_at dksX0_raises_1 10 rfl rfl)
theorem dX0_raises_33 : decode cX0_raises 33 = .ok (.iconst 1, 1) := dk_4 (dk_at dksX0_raises_1 11 rfl rfl)
theorem dX0_raises_34 : decode cX0_raises 34 = .ok (.putfield 302, 3) := dk_181 1 46 (dk_at dksX0_raises_1 12 rfl rfl)
theorem dX0_raises_37 : decode cX0_raises 37 = .ok (.aload_n 2, 1) := dk_44 (dk_at dksX0_raises_1 15 rfl rfl)
theorem dX0_raises_38 : decode cX0_raises 38 = .ok (.iconst 0, 1) := dk_3 (dk_at dksX0_raises_1 16 rfl rfl)
theorem dX0_raises_39 : decode cX0_raises 39 = .ok (.putfield 261, 3) := dk_181 1 5 (dk_at dksX0_raises_1 17 rfl rfl)
theorem dX0_raises_42 : decode cX0_raises 42 = .ok (.aload_n 2, 1) := dk_44 (dk_at dksX0_raises_1 20 rfl rfl)
theorem dX0_raises_43 : decode cX0_raises 43 = .ok (.iconst 0, 1) := dk_3 (dk_at dksX0_raises_1 21 rfl rfl)
theorem dX0_raises_44 : decode cX0_raises 44 = .ok (.putfield 288, 3) := dk_181 1 32 (dk_at dksX0_raises_2 0 rfl rfl)
theorem dX0_raises_47 : decode cX0_raises 47 = .ok (.aload_n 0, 1) := dk_42 (dk_at dksX0_raises_2 3 rfl rfl)
theorem dX0_raises_48 : decode cX0_raises 48 = .ok (.getfield 40, 3) := dk_180 0 40 (dk_at dksX0_raises_2 4 rfl rfl)
theorem dX0_raises_51 : decode cX0_raises 51 = .ok (.invokevirtual 306, 3) := dk_182 1 50 (dk_at dksX0_raises_2 7 rfl rfl)
theorem dX0_raises_54 : decode cX0_raises 54 = .ok (.invokestatic 353, 3) := dk_184 1 97 (dk_at dksX0_raises_2 10 rfl rfl)
theorem dX0_raises_57 : decode cX0_raises 57 = .ok (.ireturn, 1) := dk_172 (dk_at dksX0_raises_2 13 rfl rfl)
abbrev cX0_snow : ByteArray := prog_1_method_47_code
def yX0_snow : MethodName := ⟨RX0, "snow", "(I)I"⟩
def dkwX0_snow_1 : List UInt8 := [180, 0, 40, 27, 181, 1, 56, 28, 172]
abbrev dktX0_snow_1 : List UInt8 := dkwX0_snow_1 ++ []
def dkwX0_snow_0 : List UInt8 := [27, 16, 236, 16, 20, 184, 0, 105, 154, 0, 6, 18, 130, 172, 42, 180, 0, 40, 180, 1, 56, 61, 42]
abbrev dktX0_snow_0 : List UInt8 := dkwX0_snow_0 ++ dktX0_snow_1
theorem dksX0_snow_0 : cX0_snow.data.toList.drop 0 = dktX0_snow_0 := by decide +kernel
theorem dksX0_snow_1 : cX0_snow.data.toList.drop 23 = dktX0_snow_1 := dk_seg dksX0_snow_0 23 rfl rfl
theorem dX0_snow_0 : decode cX0_snow 0 = .ok (.iload_n 1, 1) := dk_27 (dk_at dksX0_snow_0 0 rfl rfl)
theorem dX0_snow_1 : decode cX0_snow 1 = .ok (.bipush (-20), 2) := dk_16 236 (dk_at dksX0_snow_0 1 rfl rfl)
theorem dX0_snow_3 : decode cX0_snow 3 = .ok (.bipush 20, 2) := dk_16 20 (dk_at dksX0_snow_0 3 rfl rfl)
theorem dX0_snow_5 : decode cX0_snow 5 = .ok (.invokestatic 105, 3) := dk_184 0 105 (dk_at dksX0_snow_0 5 rfl rfl)
theorem dX0_snow_8 : decode cX0_snow 8 = .ok (.ifCond .ne 6, 3) := dk_154 0 6 (dk_at dksX0_snow_0 8 rfl rfl)
theorem dX0_snow_11 : decode cX0_snow 11 = .ok (.ldc 130, 2) := dk_18 130 (dk_at dksX0_snow_0 11 rfl rfl)
theorem dX0_snow_13 : decode cX0_snow 13 = .ok (.ireturn, 1) := dk_172 (dk_at dksX0_snow_0 13 rfl rfl)
theorem dX0_snow_14 : decode cX0_snow 14 = .ok (.aload_n 0, 1) := dk_42 (dk_at dksX0_snow_0 14 rfl rfl)
theorem dX0_snow_15 : decode cX0_snow 15 = .ok (.getfield 40, 3) := dk_180 0 40 (dk_at dksX0_snow_0 15 rfl rfl)
theorem dX0_snow_18 : decode cX0_snow 18 = .ok (.getfield 312, 3) := dk_180 1 56 (dk_at dksX0_snow_0 18 rfl rfl)
theorem dX0_snow_21 : decode cX0_snow 21 = .ok (.istore_n 2, 1) := dk_61 (dk_at dksX0_snow_0 21 rfl rfl)
theorem dX0_snow_22 : decode cX0_snow 22 = .ok (.aload_n 0, 1) := dk_42 (dk_at dksX0_snow_0 22 rfl rfl)
theorem dX0_snow_23 : decode cX0_snow 23 = .ok (.getfield 40, 3) := dk_180 0 40 (dk_at dksX0_snow_1 0 rfl rfl)
theorem dX0_snow_26 : decode cX0_snow 26 = .ok (.iload_n 1, 1) := dk_27 (dk_at dksX0_snow_1 3 rfl rfl)
theorem dX0_snow_27 : decode cX0_snow 27 = .ok (.putfield 312, 3) := dk_181 1 56 (dk_at dksX0_snow_1 4 rfl rfl)
theorem dX0_snow_30 : decode cX0_snow 30 = .ok (.iload_n 2, 1) := dk_28 (dk_at dksX0_snow_1 7 rfl rfl)
theorem dX0_snow_31 : decode cX0_snow 31 = .ok (.ireturn, 1) := dk_172 (dk_at dksX0_snow_1 8 rfl rfl)
abbrev cX0_deal : ByteArray := prog_1_method_48_code
def yX0_deal : MethodName := ⟨RX0, "deal", "(I)I"⟩
def dkwX0_deal_4 : List UInt8 := [167, 255, 175, 28, 172]
abbrev dktX0_deal_4 : List UInt8 := dkwX0_deal_4 ++ []
def dkwX0_deal_3 : List UInt8 := [42, 29, 21, 4, 21, 5, 42, 180, 0, 40, 182, 1, 102, 16, 60, 112, 182, 1, 19, 54, 6, 132, 2, 1]
abbrev dktX0_deal_3 : List UInt8 := dkwX0_deal_3 ++ dktX0_deal_4
def dkwX0_deal_2 : List UInt8 := [182, 1, 102, 16, 60, 112, 96, 54, 4, 42, 180, 0, 40, 182, 1, 102, 16, 41, 112, 16, 20, 100, 54, 5]
abbrev dktX0_deal_2 : List UInt8 := dkwX0_deal_2 ++ dktX0_deal_3
def dkwX0_deal_1 : List UInt8 := [180, 0, 101, 16, 9, 162, 0, 70, 42, 180, 0, 40, 182, 1, 102, 16, 6, 112, 62, 4, 42, 180, 0, 40]
abbrev dktX0_deal_1 : List UInt8 := dkwX0_deal_1 ++ dktX0_deal_2
def dkwX0_deal_0 : List UInt8 := [27, 4, 16, 9, 184, 0, 105, 154, 0, 6, 18, 130, 172, 3, 61, 28, 27, 162, 0, 82, 42, 180, 0, 40]
abbrev dktX0_deal_0 : List UInt8 := dkwX0_deal_0 ++ dktX0_deal_1
theorem dksX0_deal_0 : cX0_deal.data.toList.drop 0 = dktX0_deal_0 := by decide +kernel
theorem dksX0_deal_1 : cX0_deal.data.toList.drop 24 = dktX0_deal_1 := dk_seg dksX0_deal_0 24 rfl rfl
theorem dksX0_deal_2 : cX0_deal.data.toList.drop 48 = dktX0_deal_2 := dk_seg dksX0_deal_1 24 rfl rfl
theorem dksX0_deal_3 : cX0_deal.data.toList.drop 72 = dktX0_deal_3 := dk_seg dksX0_deal_2 24 rfl rfl
theorem dksX0_deal_4 : cX0_deal.data.toList.drop 96 = dktX0_deal_4 := dk_seg dksX0_deal_3 24 rfl rfl
theorem dX0_deal_0 : decode cX0_deal 0 = .ok (.iload_n 1, 1) := dk_27 (dk_at dksX0_deal_0 0 rfl rfl)
theorem dX0_deal_1 : decode cX0_deal 1 = .ok (.iconst 1, 1) := dk_4 (dk_at dksX0_deal_0 1 rfl rfl)
theorem dX0_deal_2 : decode cX0_deal 2 = .ok (.bipush 9, 2) := dk_16 9 (dk_at dksX0_deal_0 2 rfl rfl)
theorem dX0_deal_4 : decode cX0_deal 4 = .ok (.invokestatic 105, 3) := dk_184 0 105 (dk_at dksX0_deal_0 4 rfl rfl)
theorem dX0_deal_7 : decode cX0_deal 7 = .ok (.ifCond .ne 6, 3) := dk_154 0 6 (dk_at dksX0_deal_0 7 rfl rfl)
theorem dX0_deal_10 : decode cX0_deal 10 = .ok (.ldc 130, 2) := dk_18 130 (dk_at dksX0_deal_0 10 rfl rfl)
theorem dX0_deal_12 : decode cX0_deal 12 = .ok (.ireturn, 1) := dk_172 (dk_at dksX0_deal_0 12 rfl rfl)
theorem dX0_deal_13 : decode cX0_deal 13 = .ok (.iconst 0, 1) := dk_3 (dk_at dksX0_deal_0 13 rfl rfl)
theorem dX0_deal_14 : decode cX0_deal 14 = .ok (.istore_n 2, 1) := dk_61 (dk_at dksX0_deal_0 14 rfl rfl)
theorem dX0_deal_15 : decode cX0_deal 15 = .ok (.iload_n 2, 1) := dk_28 (dk_at dksX0_deal_0 15 rfl rfl)
theorem dX0_deal_16 : decode cX0_deal 16 = .ok (.iload_n 1, 1) := dk_27 (dk_at dksX0_deal_0 16 rfl rfl)
theorem dX0_deal_17 : decode cX0_deal 17 = .ok (.if_icmp .ge 82, 3) := dk_162 0 82 (dk_at dksX0_deal_0 17 rfl rfl)
theorem dX0_deal_20 : decode cX0_deal 20 = .ok (.aload_n 0, 1) := dk_42 (dk_at dksX0_deal_0 20 rfl rfl)
theorem dX0_deal_21 : decode cX0_deal 21 = .ok (.getfield 40, 3) := dk_180 0 40 (dk_at dksX0_deal_0 21 rfl rfl)
theorem dX0_deal_24 : decode cX0_deal 24 = .ok (.getfield 101, 3) := dk_180 0 101 (dk_at dksX0_deal_1 0 rfl rfl)
theorem dX0_deal_27 : decode cX0_deal 27 = .ok (.bipush 9, 2) := dk_16 9 (dk_at dksX0_deal_1 3 rfl rfl)
theorem dX0_deal_29 : decode cX0_deal 29 = .ok (.if_icmp .ge 70, 3) := dk_162 0 70 (dk_at dksX0_deal_1 5 rfl rfl)
theorem dX0_deal_32 : decode cX0_deal 32 = .ok (.aload_n 0, 1) := dk_42 (dk_at dksX0_deal_1 8 rfl rfl)
theorem dX0_deal_33 : decode cX0_deal 33 = .ok (.getfield 40, 3) := dk_180 0 40 (dk_at dksX0_deal_1 9 rfl rfl)
theorem dX0_deal_36 : decode cX0_deal 36 = .ok (.invokevirtual 358, 3) := dk_182 1 102 (dk_at dksX0_deal_1 12 rfl rfl)
theorem dX0_deal_39 : decode cX0_deal 39 = .ok (.bipush 6, 2) := dk_16 6 (dk_at dksX0_deal_1 15 rfl rfl)
theorem dX0_deal_41 : decode cX0_deal 41 = .ok (.irem, 1) := dk_112 (dk_at dksX0_deal_1 17 rfl rfl)
theorem dX0_deal_42 : decode cX0_deal 42 = .ok (.istore_n 3, 1) := dk_62 (dk_at dksX0_deal_1 18 rfl rfl)
theorem dX0_deal_43 : decode cX0_deal 43 = .ok (.iconst 1, 1) := dk_4 (dk_at dksX0_deal_1 19 rfl rfl)
theorem dX0_deal_44 : decode cX0_deal 44 = .ok (.aload_n 0, 1) := dk_42 (dk_at dksX0_deal_1 20 rfl rfl)
theorem dX0_deal_45 : decode cX0_deal 45 = .ok (.getfield 40, 3) := dk_180 0 40 (dk_at dksX0_deal_1 21 rfl rfl)
theorem dX0_deal_48 : decode cX0_deal 48 = .ok (.invokevirtual 358, 3) := dk_182 1 102 (dk_at dksX0_deal_2 0 rfl rfl)
theorem dX0_deal_51 : decode cX0_deal 51 = .ok (.bipush 60, 2) := dk_16 60 (dk_at dksX0_deal_2 3 rfl rfl)
theorem dX0_deal_53 : decode cX0_deal 53 = .ok (.irem, 1) := dk_112 (dk_at dksX0_deal_2 5 rfl rfl)
theorem dX0_deal_54 : decode cX0_deal 54 = .ok (.iadd, 1) := dk_96 (dk_at dksX0_deal_2 6 rfl rfl)
theorem dX0_deal_55 : decode cX0_deal 55 = .ok (.istore 4, 2) := dk_54 4 (dk_at dksX0_deal_2 7 rfl rfl)
theorem dX0_deal_57 : decode cX0_deal 57 = .ok (.aload_n 0, 1) := dk_42 (dk_at dksX0_deal_2 9 rfl rfl)
theorem dX0_deal_58 : decode cX0_deal 58 = .ok (.getfield 40, 3) := dk_180 0 40 (dk_at dksX0_deal_2 10 rfl rfl)
theorem dX0_deal_61 : decode cX0_deal 61 = .ok (.invokevirtual 358, 3) := dk_182 1 102 (dk_at dksX0_deal_2 13 rfl rfl)
theorem dX0_deal_64 : decode cX0_deal 64 = .ok (.bipush 41, 2) := dk_16 41 (dk_at dksX0_deal_2 16 rfl rfl)
theorem dX0_deal_66 : decode cX0_deal 66 = .ok (.irem, 1) := dk_112 (dk_at dksX0_deal_2 18 rfl rfl)
theorem dX0_deal_67 : decode cX0_deal 67 = .ok (.bipush 20, 2) := dk_16 20 (dk_at dksX0_deal_2 19 rfl rfl)
theorem dX0_deal_69 : decode cX0_deal 69 = .ok (.isub, 1) := dk_100 (dk_at dksX0_deal_2 21 rfl rfl)
theorem dX0_deal_70 : decode cX0_deal 70 = .ok (.istore 5, 2) := dk_54 5 (dk_at dksX0_deal_2 22 rfl rfl)
theorem dX0_deal_72 : decode cX0_deal 72 = .ok (.aload_n 0, 1) := dk_42 (dk_at dksX0_deal_3 0 rfl rfl)
theorem dX0_deal_73 : decode cX0_deal 73 = .ok (.iload_n 3, 1) := dk_29 (dk_at dksX0_deal_3 1 rfl rfl)
theorem dX0_deal_74 : decode cX0_deal 74 = .ok (.iload 4, 2) := dk_21 4 (dk_at dksX0_deal_3 2 rfl rfl)
theorem dX0_deal_76 : decode cX0_deal 76 = .ok (.iload 5, 2) := dk_21 5 (dk_at dksX0_deal_3 4 rfl rfl)
theorem dX0_deal_78 : decode cX0_deal 78 = .ok (.aload_n 0, 1) := dk_42 (dk_at dksX0_deal_3 6 rfl rfl)
theorem dX0_deal_79 : decode cX0_deal 79 = .ok (.getfield 40, 3) := dk_180 0 40 (dk_at dksX0_deal_3 7 rfl rfl)
theorem dX0_deal_82 : decode cX0_deal 82 = .ok (.invokevirtual 358, 3) := dk_182 1 102 (dk_at dksX0_deal_3 10 rfl rfl)
theorem dX0_deal_85 : decode cX0_deal 85 = .ok (.bipush 60, 2) := dk_16 60 (dk_at dksX0_deal_3 13 rfl rfl)
theorem dX0_deal_87 : decode cX0_deal 87 = .ok (.irem, 1) := dk_112 (dk_at dksX0_deal_3 15 rfl rfl)
theorem dX0_deal_88 : decode cX0_deal 88 = .ok (.invokevirtual 275, 3) := dk_182 1 19 (dk_at dksX0_deal_3 16 rfl rfl)
theorem dX0_deal_91 : decode cX0_deal 91 = .ok (.istore 6, 2) := dk_54 6 (dk_at dksX0_deal_3 19 rfl rfl)
theorem dX0_deal_93 : decode cX0_deal 93 = .ok (.iinc 2 1, 3) := dk_132 2 1 (dk_at dksX0_deal_3 21 rfl rfl)
theorem dX0_deal_96 : decode cX0_deal 96 = .ok (.goto (-81), 3) := dk_167 255 175 (dk_at dksX0_deal_4 0 rfl rfl)
theorem dX0_deal_99 : decode cX0_deal 99 = .ok (.iload_n 2, 1) := dk_28 (dk_at dksX0_deal_4 3 rfl rfl)
theorem dX0_deal_100 : decode cX0_deal 100 = .ok (.ireturn, 1) := dk_172 (dk_at dksX0_deal_4 4 rfl rfl)
abbrev cX0_seed : ByteArray := prog_1_method_49_code
def yX0_seed : MethodName := ⟨RX0, "seed", "(I)I"⟩
def dkwX0_seed_0 : List UInt8 := [42, 180, 0, 40, 180, 1, 105, 61, 42, 180, 0, 40, 27, 181, 1, 105, 28, 172]
abbrev dktX0_seed_0 : List UInt8 := dkwX0_seed_0 ++ []
theorem dksX0_seed_0 : cX0_seed.data.toList.drop 0 = dktX0_seed_0 := by decide +kernel
theorem dX0_seed_0 : decode cX0_seed 0 = .ok (.aload_n 0, 1) := dk_42 (dk_at dksX0_seed_0 0 rfl rfl)
theorem dX0_seed_1 : decode cX0_seed 1 = .ok (.getfield 40, 3) := dk_180 0 40 (dk_at dksX0_seed_0 1 rfl rfl)
theorem dX0_seed_4 : decode cX0_seed 4 = .ok (.getfield 361, 3) := dk_180 1 105 (dk_at dksX0_seed_0 4 rfl rfl)
theorem dX0_seed_7 : decode cX0_seed 7 = .ok (.istore_n 2, 1) := dk_61 (dk_at dksX0_seed_0 7 rfl rfl)
theorem dX0_seed_8 : decode cX0_seed 8 = .ok (.aload_n 0, 1) := dk_42 (dk_at dksX0_seed_0 8 rfl rfl)
theorem dX0_seed_9 : decode cX0_seed 9 = .ok (.getfield 40, 3) := dk_180 0 40 (dk_at dksX0_seed_0 9 rfl rfl)
theorem dX0_seed_12 : decode cX0_seed 12 = .ok (.iload_n 1, 1) := dk_27 (dk_at dksX0_seed_0 12 rfl rfl)
theorem dX0_seed_13 : decode cX0_seed 13 = .ok (.putfield 361, 3) := dk_181 1 105 (dk_at dksX0_seed_0 13 rfl rfl)
theorem dX0_seed_16 : decode cX0_seed 16 = .ok (.iload_n 2, 1) := dk_28 (dk_at dksX0_seed_0 16 rfl rfl)
theorem dX0_seed_17 : decode cX0_seed 17 = .ok (.ireturn, 1) := dk_172 (dk_at dksX0_seed_0 17 rfl rfl)
abbrev cX0_days : ByteArray := prog_1_method_56_code
def yX0_days : MethodName := ⟨RX0, "days", "(I)I"⟩
def dkwX0_days_2 : List UInt8 := [182, 1, 50, 184, 1, 97, 100, 172]
abbrev dktX0_days_2 : List UInt8 := dkwX0_days_2 ++ []
def dkwX0_days_1 : List UInt8 := [42, 27, 17, 39, 15, 42, 180, 0, 40, 180, 1, 126, 100, 184, 0, 4, 182, 1, 132, 28, 42, 180, 0, 40]
abbrev dktX0_days_1 : List UInt8 := dkwX0_days_1 ++ dktX0_days_2
def dkwX0_days_0 : List UInt8 := [27, 4, 16, 100, 184, 0, 105, 154, 0, 6, 18, 130, 172, 42, 180, 0, 40, 182, 1, 50, 184, 1, 97, 61]
abbrev dktX0_days_0 : List UInt8 := dkwX0_days_0 ++ dktX0_days_1
theorem dksX0_days_0 : cX0_days.data.toList.drop 0 = dktX0_days_0 := by decide +kernel
theorem dksX0_days_1 : cX0_days.data.toList.drop 24 = dktX0_days_1 := dk_seg dksX0_days_0 24 rfl rfl
theorem dksX0_days_2 : cX0_days.data.toList.drop 48 = dktX0_days_2 := dk_seg dksX0_days_1 24 rfl rfl
theorem dX0_days_0 : decode cX0_days 0 = .ok (.iload_n 1, 1) := dk_27 (dk_at dksX0_days_0 0 rfl rfl)
theorem dX0_days_1 : decode cX0_days 1 = .ok (.iconst 1, 1) := dk_4 (dk_at dksX0_days_0 1 rfl rfl)
theorem dX0_days_2 : decode cX0_days 2 = .ok (.bipush 100, 2) := dk_16 100 (dk_at dksX0_days_0 2 rfl rfl)
theorem dX0_days_4 : decode cX0_days 4 = .ok (.invokestatic 105, 3) := dk_184 0 105 (dk_at dksX0_days_0 4 rfl rfl)
theorem dX0_days_7 : decode cX0_days 7 = .ok (.ifCond .ne 6, 3) := dk_154 0 6 (dk_at dksX0_days_0 7 rfl rfl)
theorem dX0_days_10 : decode cX0_days 10 = .ok (.ldc 130, 2) := dk_18 130 (dk_at dksX0_days_0 10 rfl rfl)
theorem dX0_days_12 : decode cX0_days 12 = .ok (.ireturn, 1) := dk_172 (dk_at dksX0_days_0 12 rfl rfl)
theorem dX0_days_13 : decode cX0_days 13 = .ok (.aload_n 0, 1) := dk_42 (dk_at dksX0_days_0 13 rfl rfl)
theorem dX0_days_14 : decode cX0_days 14 = .ok (.getfield 40, 3) := dk_180 0 40 (dk_at dksX0_days_0 14 rfl rfl)
theorem dX0_days_17 : decode cX0_days 17 = .ok (.invokevirtual 306, 3) := dk_182 1 50 (dk_at dksX0_days_0 17 rfl rfl)
theorem dX0_days_20 : decode cX0_days 20 = .ok (.invokestatic 353, 3) := dk_184 1 97 (dk_at dksX0_days_0 20 rfl rfl)
theorem dX0_days_23 : decode cX0_days 23 = .ok (.istore_n 2, 1) := dk_61 (dk_at dksX0_days_0 23 rfl rfl)
theorem dX0_days_24 : decode cX0_days 24 = .ok (.aload_n 0, 1) := dk_42 (dk_at dksX0_days_1 0 rfl rfl)
theorem dX0_days_25 : decode cX0_days 25 = .ok (.iload_n 1, 1) := dk_27 (dk_at dksX0_days_1 1 rfl rfl)
theorem dX0_days_26 : decode cX0_days 26 = .ok (.sipush 9999, 3) := dk_17 39 15 (dk_at dksX0_days_1 2 rfl rfl)
theorem dX0_days_29 : decode cX0_days 29 = .ok (.aload_n 0, 1) := dk_42 (dk_at dksX0_days_1 5 rfl rfl)
theorem dX0_days_30 : decode cX0_days 30 = .ok (.getfield 40, 3) := dk_180 0 40 (dk_at dksX0_days_1 6 rfl rfl)
theorem dX0_days_33 : decode cX0_days 33 = .ok (.getfield 382, 3) := dk_180 1 126 (dk_at dksX0_days_1 9 rfl rfl)
theorem dX0_days_36 : decode cX0_days 36 = .ok (.isub, 1) := dk_100 (dk_at dksX0_days_1 12 rfl rfl)
theorem dX0_days_37 : decode cX0_days 37 = .ok (.invokestatic 4, 3) := dk_184 0 4 (dk_at dksX0_days_1 13 rfl rfl)
theorem dX0_days_40 : decode cX0_days 40 = .ok (.invokevirtual 388, 3) := dk_182 1 132 (dk_at dksX0_days_1 16 rfl rfl)
theorem dX0_days_43 : decode cX0_days 43 = .ok (.iload_n 2, 1) := dk_28 (dk_at dksX0_days_1 19 rfl rfl)
theorem dX0_days_44 : decode cX0_days 44 = .ok (.aload_n 0, 1) := dk_42 (dk_at dksX0_days_1 20 rfl rfl)
theorem dX0_days_45 : decode cX0_days 45 = .ok (.getfield 40, 3) := dk_180 0 40 (dk_at dksX0_days_1 21 rfl rfl)
theorem dX0_days_48 : decode cX0_days 48 = .ok (.invokevirtual 306, 3) := dk_182 1 50 (dk_at dksX0_days_2 0 rfl rfl)
theorem dX0_days_51 : decode cX0_days 51 = .ok (.invokestatic 353, 3) := dk_184 1 97 (dk_at dksX0_days_2 3 rfl rfl)
theorem dX0_days_54 : decode cX0_days 54 = .ok (.isub, 1) := dk_100 (dk_at dksX0_days_2 6 rfl rfl)
theorem dX0_days_55 : decode cX0_days 55 = .ok (.ireturn, 1) := dk_172 (dk_at dksX0_days_2 7 rfl rfl)
abbrev cX0_goesOn : ByteArray := prog_1_method_55_code
def yX0_goesOn : MethodName := ⟨RX0, "goesOn", "(I)V"⟩
def dkwX0_goesOn_0 : List UInt8 := [3, 61, 28, 27, 162, 0, 13, 42, 182, 1, 129, 132, 2, 1, 167, 255, 244, 177]
abbrev dktX0_goesOn_0 : List UInt8 := dkwX0_goesOn_0 ++ []
theorem dksX0_goesOn_0 : cX0_goesOn.data.toList.drop 0 = dktX0_goesOn_0 := by decide +kernel
theorem dX0_goesOn_0 : decode cX0_goesOn 0 = .ok (.iconst 0, 1) := dk_3 (dk_at dksX0_goesOn_0 0 rfl rfl)
theorem dX0_goesOn_1 : decode cX0_goesOn 1 = .ok (.istore_n 2, 1) := dk_61 (dk_at dksX0_goesOn_0 1 rfl rfl)
theorem dX0_goesOn_2 : decode cX0_goesOn 2 = .ok (.iload_n 2, 1) := dk_28 (dk_at dksX0_goesOn_0 2 rfl rfl)
theorem dX0_goesOn_3 : decode cX0_goesOn 3 = .ok (.iload_n 1, 1) := dk_27 (dk_at dksX0_goesOn_0 3 rfl rfl)
theorem dX0_goesOn_4 : decode cX0_goesOn 4 = .ok (.if_icmp .ge 13, 3) := dk_162 0 13 (dk_at dksX0_goesOn_0 4 rfl rfl)
theorem dX0_goesOn_7 : decode cX0_goesOn 7 = .ok (.aload_n 0, 1) := dk_42 (dk_at dksX0_goesOn_0 7 rfl rfl)
theorem dX0_goesOn_8 : decode cX0_goesOn 8 = .ok (.invokevirtual 385, 3) := dk_182 1 129 (dk_at dksX0_goesOn_0 8 rfl rfl)
theorem dX0_goesOn_11 : decode cX0_goesOn 11 = .ok (.iinc 2 1, 3) := dk_132 2 1 (dk_at dksX0_goesOn_0 11 rfl rfl)
theorem dX0_goesOn_14 : decode cX0_goesOn 14 = .ok (.goto (-12), 3) := dk_167 255 244 (dk_at dksX0_goesOn_0 14 rfl rfl)
theorem dX0_goesOn_17 : decode cX0_goesOn 17 = .ok (.return_, 1) := dk_177 (dk_at dksX0_goesOn_0 17 rfl rfl)
abbrev cX0_aDay : ByteArray := prog_1_method_54_code
def yX0_aDay : MethodName := ⟨RX0, "aDay", "()V"⟩
def dkwX0_aDay_1 : List UInt8 := [182, 1, 123, 96, 181, 1, 120, 42, 180, 0, 40, 89, 180, 1, 126, 4, 96, 181, 1, 126, 177]
abbrev dktX0_aDay_1 : List UInt8 := dkwX0_aDay_1 ++ []
def dkwX0_aDay_0 : List UInt8 := [42, 182, 1, 111, 42, 182, 1, 114, 42, 182, 1, 117, 42, 180, 0, 40, 89, 180, 1, 120, 42, 180, 0, 40]
abbrev dktX0_aDay_0 : List UInt8 := dkwX0_aDay_0 ++ dktX0_aDay_1
theorem dksX0_aDay_0 : cX0_aDay.data.toList.drop 0 = dktX0_aDay_0 := by decide +kernel
theorem dksX0_aDay_1 : cX0_aDay.data.toList.drop 24 = dktX0_aDay_1 := dk_seg dksX0_aDay_0 24 rfl rfl
theorem dX0_aDay_0 : decode cX0_aDay 0 = .ok (.aload_n 0, 1) := dk_42 (dk_at dksX0_aDay_0 0 rfl rfl)
theorem dX0_aDay_1 : decode cX0_aDay 1 = .ok (.invokevirtual 367, 3) := dk_182 1 111 (dk_at dksX0_aDay_0 1 rfl rfl)
theorem dX0_aDay_4 : decode cX0_aDay 4 = .ok (.aload_n 0, 1) := dk_42 (dk_at dksX0_aDay_0 4 rfl rfl)
theorem dX0_aDay_5 : decode cX0_aDay 5 = .ok (.invokevirtual 370, 3) := dk_182 1 114 (dk_at dksX0_aDay_0 5 rfl rfl)
theorem dX0_aDay_8 : decode cX0_aDay 8 = .ok (.aload_n 0, 1) := dk_42 (dk_at dksX0_aDay_0 8 rfl rfl)
theorem dX0_aDay_9 : decode cX0_aDay 9 = .ok (.invokevirtual 373, 3) := dk_182 1 117 (dk_at dksX0_aDay_0 9 rfl rfl)
theorem dX0_aDay_12 : decode cX0_aDay 12 = .ok (.aload_n 0, 1) := dk_42 (dk_at dksX0_aDay_0 12 rfl rfl)
theorem dX0_aDay_13 : decode cX0_aDay 13 = .ok (.getfield 40, 3) := dk_180 0 40 (dk_at dksX0_aDay_0 13 rfl rfl)
theorem dX0_aDay_16 : decode cX0_aDay 16 = .ok (.dup, 1) := dk_89 (dk_at dksX0_aDay_0 16 rfl rfl)
theorem dX0_aDay_17 : decode cX0_aDay 17 = .ok (.getfield 376, 3) := dk_180 1 120 (dk_at dksX0_aDay_0 17 rfl rfl)
theorem dX0_aDay_20 : decode cX0_aDay 20 = .ok (.aload_n 0, 1) := dk_42 (dk_at dksX0_aDay_0 20 rfl rfl)
theorem dX0_aDay_21 : decode cX0_aDay 21 = .ok (.getfield 40, 3) := dk_180 0 40 (dk_at dksX0_aDay_0 21 rfl rfl)
theorem dX0_aDay_24 : decode cX0_aDay 24 = .ok (.invokevirtual 379, 3) := dk_182 1 123 (dk_at dksX0_aDay_1 0 rfl rfl)
theorem dX0_aDay_27 : decode cX0_aDay 27 = .ok (.iadd, 1) := dk_96 (dk_at dksX0_aDay_1 3 rfl rfl)
theorem dX0_aDay_28 : decode cX0_aDay 28 = .ok (.putfield 376, 3) := dk_181 1 120 (dk_at dksX0_aDay_1 4 rfl rfl)
theorem dX0_aDay_31 : decode cX0_aDay 31 = .ok (.aload_n 0, 1) := dk_42 (dk_at dksX0_aDay_1 7 rfl rfl)
theorem dX0_aDay_32 : decode cX0_aDay 32 = .ok (.getfield 40, 3) := dk_180 0 40 (dk_at dksX0_aDay_1 8 rfl rfl)
theorem dX0_aDay_35 : decode cX0_aDay 35 = .ok (.dup, 1) := dk_89 (dk_at dksX0_aDay_1 11 rfl rfl)
theorem dX0_aDay_36 : decode cX0_aDay 36 = .ok (.getfield 382, 3) := dk_180 1 126 (dk_at dksX0_aDay_1 12 rfl rfl)
theorem dX0_aDay_39 : decode cX0_aDay 39 = .ok (.iconst 1, 1) := dk_4 (dk_at dksX0_aDay_1 15 rfl rfl)
theorem dX0_aDay_40 : decode cX0_aDay 40 = .ok (.iadd, 1) := dk_96 (dk_at dksX0_aDay_1 16 rfl rfl)
theorem dX0_aDay_41 : decode cX0_aDay 41 = .ok (.putfield 382, 3) := dk_181 1 126 (dk_at dksX0_aDay_1 17 rfl rfl)
theorem dX0_aDay_44 : decode cX0_aDay 44 = .ok (.return_, 1) := dk_177 (dk_at dksX0_aDay_1 20 rfl rfl)
abbrev cX0_findThrusts : ByteArray := prog_1_method_50_code
def yX0_findThrusts : MethodName := ⟨RX0, "findThrusts", "()V"⟩
def dkwX0_findThrusts_3 : List UInt8 := [167, 0, 4, 3, 79, 132, 1, 1, 167, 255, 180, 177]
abbrev dktX0_findThrusts_3 : List UInt8 := dkwX0_findThrusts_3 ++ []
def dkwX0_findThrusts_2 : List UInt8 := [180, 0, 71, 27, 46, 184, 1, 23, 42, 180, 0, 40, 180, 1, 11, 27, 50, 182, 1, 69, 100, 184, 0, 10]
abbrev dktX0_findThrusts_2 : List UInt8 := dkwX0_findThrusts_2 ++ dktX0_findThrusts_3
def dkwX0_findThrusts_1 : List UInt8 := [42, 180, 0, 74, 27, 42, 180, 0, 40, 180, 1, 11, 27, 50, 180, 1, 46, 153, 0, 32, 3, 42]
abbrev dktX0_findThrusts_1 : List UInt8 := dkwX0_findThrusts_1 ++ dktX0_findThrusts_2
def dkwX0_findThrusts_0 : List UInt8 := [3, 60, 27, 42, 180, 0, 40, 180, 0, 101, 162, 0, 71, 42, 180, 0, 71, 27, 42, 27, 182, 1, 72, 79]
abbrev dktX0_findThrusts_0 : List UInt8 := dkwX0_findThrusts_0 ++ dktX0_findThrusts_1
theorem dksX0_findThrusts_0 : cX0_findThrusts.data.toList.drop 0 = dktX0_findThrusts_0 := by decide +kernel
theorem dksX0_findThrusts_1 : cX0_findThrusts.data.toList.drop 24 = dktX0_findThrusts_1 := dk_seg dksX0_findThrusts_0 24 rfl rfl
theorem dksX0_findThrusts_2 : cX0_findThrusts.data.toList.drop 46 = dktX0_findThrusts_2 := dk_seg dksX0_findThrusts_1 22 rfl rfl
theorem dksX0_findThrusts_3 : cX0_findThrusts.data.toList.drop 70 = dktX0_findThrusts_3 := dk_seg dksX0_findThrusts_2 24 rfl rfl
theorem dX0_findThrusts_0 : decode cX0_findThrusts 0 = .ok (.iconst 0, 1) := dk_3 (dk_at dksX0_findThrusts_0 0 rfl rfl)
theorem dX0_findThrusts_1 : decode cX0_findThrusts 1 = .ok (.istore_n 1, 1) := dk_60 (dk_at dksX0_findThrusts_0 1 rfl rfl)
theorem dX0_findThrusts_2 : decode cX0_findThrusts 2 = .ok (.iload_n 1, 1) := dk_27 (dk_at dksX0_findThrusts_0 2 rfl rfl)
theorem dX0_findThrusts_3 : decode cX0_findThrusts 3 = .ok (.aload_n 0, 1) := dk_42 (dk_at dksX0_findThrusts_0 3 rfl rfl)
theorem dX0_findThrusts_4 : decode cX0_findThrusts 4 = .ok (.getfield 40, 3) := dk_180 0 40 (dk_at dksX0_findThrusts_0 4 rfl rfl)
theorem dX0_findThrusts_7 : decode cX0_findThrusts 7 = .ok (.getfield 101, 3) := dk_180 0 101 (dk_at dksX0_findThrusts_0 7 rfl rfl)
theorem dX0_findThrusts_10 : decode cX0_findThrusts 10 = .ok (.if_icmp .ge 71, 3) := dk_162 0 71 (dk_at dksX0_findThrusts_0 10 rfl rfl)
theorem dX0_findThrusts_13 : decode cX0_findThrusts 13 = .ok (.aload_n 0, 1) := dk_42 (dk_at dksX0_findThrusts_0 13 rfl rfl)
theorem dX0_findThrusts_14 : decode cX0_findThrusts 14 = .ok (.getfield 71, 3) := dk_180 0 71 (dk_at dksX0_findThrusts_0 14 rfl rfl)
theorem dX0_findThrusts_17 : decode cX0_findThrusts 17 = .ok (.iload_n 1, 1) := dk_27 (dk_at dksX0_findThrusts_0 17 rfl rfl)
theorem dX0_findThrusts_18 : decode cX0_findThrusts 18 = .ok (.aload_n 0, 1) := dk_42 (dk_at dksX0_findThrusts_0 18 rfl rfl)
theorem dX0_findThrusts_19 : decode cX0_findThrusts 19 = .ok (.iload_n 1, 1) := dk_27 (dk_at dksX0_findThrusts_0 19 rfl rfl)
theorem dX0_findThrusts_20 : decode cX0_findThrusts 20 = .ok (.invokevirtual 328, 3) := dk_182 1 72 (dk_at dksX0_findThrusts_0 20 rfl rfl)
theorem dX0_findThrusts_23 : decode cX0_findThrusts 23 = .ok (.iastore, 1) := dk_79 (dk_at dksX0_findThrusts_0 23 rfl rfl)
theorem dX0_findThrusts_24 : decode cX0_findThrusts 24 = .ok (.aload_n 0, 1) := dk_42 (dk_at dksX0_findThrusts_1 0 rfl rfl)
theorem dX0_findThrusts_25 : decode cX0_findThrusts 25 = .ok (.getfield 74, 3) := dk_180 0 74 (dk_at dksX0_findThrusts_1 1 rfl rfl)
theorem dX0_findThrusts_28 : decode cX0_findThrusts 28 = .ok (.iload_n 1, 1) := dk_27 (dk_at dksX0_findThrusts_1 4 rfl rfl)
theorem dX0_findThrusts_29 : decode cX0_findThrusts 29 = .ok (.aload_n 0, 1) := dk_42 (dk_at dksX0_findThrusts_1 5 rfl rfl)
theorem dX0_findThrusts_30 : decode cX0_findThrusts 30 = .ok (.getfield 40, 3) := dk_180 0 40 (dk_at dksX0_findThrusts_1 6 rfl rfl)
theorem dX0_findThrusts_33 : decode cX0_findThrusts 33 = .ok (.getfield 267, 3) := dk_180 1 11 (dk_at dksX0_findThrusts_1 9 rfl rfl)
theorem dX0_findThrusts_36 : decode cX0_findThrusts 36 = .ok (.iload_n 1, 1) := dk_27 (dk_at dksX0_findThrusts_1 12 rfl rfl)
theorem dX0_findThrusts_37 : decode cX0_findThrusts 37 = .ok (.aaload, 1) := dk_50 (dk_at dksX0_findThrusts_1 13 rfl rfl)
theorem dX0_findThrusts_38 : decode cX0_findThrusts 38 = .ok (.getfield 302, 3) := dk_180 1 46 (dk_at dksX0_findThrusts_1 14 rfl rfl)
theorem dX0_findThrusts_41 : decode cX0_findThrusts 41 = .ok (.ifCond .eq 32, 3) := dk_153 0 32 (dk_at dksX0_findThrusts_1 17 rfl rfl)
theorem dX0_findThrusts_44 : decode cX0_findThrusts 44 = .ok (.iconst 0, 1) := dk_3 (dk_at dksX0_findThrusts_1 20 rfl rfl)
theorem dX0_findThrusts_45 : decode cX0_findThrusts 45 = .ok (.aload_n 0, 1) := dk_42 (dk_at dksX0_findThrusts_1 21 rfl rfl)
theorem dX0_findThrusts_46 : decode cX0_findThrusts 46 = .ok (.getfield 71, 3) := dk_180 0 71 (dk_at dksX0_findThrusts_2 0 rfl rfl)
theorem dX0_findThrusts_49 : decode cX0_findThrusts 49 = .ok (.iload_n 1, 1) := dk_27 (dk_at dksX0_findThrusts_2 3 rfl rfl)
theorem dX0_findThrusts_50 : decode cX0_findThrusts 50 = .ok (.iaload, 1) := dk_46 (dk_at dksX0_findThrusts_2 4 rfl rfl)
theorem dX0_findThrusts_51 : decode cX0_findThrusts 51 = .ok (.invokestatic 279, 3) := dk_184 1 23 (dk_at dksX0_findThrusts_2 5 rfl rfl)
theorem dX0_findThrusts_54 : decode cX0_findThrusts 54 = .ok (.aload_n 0, 1) := dk_42 (dk_at dksX0_findThrusts_2 8 rfl rfl)
theorem dX0_findThrusts_55 : decode cX0_findThrusts 55 = .ok (.getfield 40, 3) := dk_180 0 40 (dk_at dksX0_findThrusts_2 9 rfl rfl)
theorem dX0_findThrusts_58 : decode cX0_findThrusts 58 = .ok (.getfield 267, 3) := dk_180 1 11 (dk_at dksX0_findThrusts_2 12 rfl rfl)
theorem dX0_findThrusts_61 : decode cX0_findThrusts 61 = .ok (.iload_n 1, 1) := dk_27 (dk_at dksX0_findThrusts_2 15 rfl rfl)
theorem dX0_findThrusts_62 : decode cX0_findThrusts 62 = .ok (.aaload, 1) := dk_50 (dk_at dksX0_findThrusts_2 16 rfl rfl)
theorem dX0_findThrusts_63 : decode cX0_findThrusts 63 = .ok (.invokevirtual 325, 3) := dk_182 1 69 (dk_at dksX0_findThrusts_2 17 rfl rfl)
theorem dX0_findThrusts_66 : decode cX0_findThrusts 66 = .ok (.isub, 1) := dk_100 (dk_at dksX0_findThrusts_2 20 rfl rfl)
theorem dX0_findThrusts_67 : decode cX0_findThrusts 67 = .ok (.invokestatic 10, 3) := dk_184 0 10 (dk_at dksX0_findThrusts_2 21 rfl rfl)
theorem dX0_findThrusts_70 : decode cX0_findThrusts 70 = .ok (.goto 4, 3) := dk_167 0 4 (dk_at dksX0_findThrusts_3 0 rfl rfl)
theorem dX0_findThrusts_73 : decode cX0_findThrusts 73 = .ok (.iconst 0, 1) := dk_3 (dk_at dksX0_findThrusts_3 3 rfl rfl)
theorem dX0_findThrusts_74 : decode cX0_findThrusts 74 = .ok (.iastore, 1) := dk_79 (dk_at dksX0_findThrusts_3 4 rfl rfl)
theorem dX0_findThrusts_75 : decode cX0_findThrusts 75 = .ok (.iinc 1 1, 3) := dk_132 1 1 (dk_at dksX0_findThrusts_3 5 rfl rfl)
theorem dX0_findThrusts_78 : decode cX0_findThrusts 78 = .ok (.goto (-76), 3) := dk_167 255 180 (dk_at dksX0_findThrusts_3 8 rfl rfl)
theorem dX0_findThrusts_81 : decode cX0_findThrusts 81 = .ok (.return_, 1) := dk_177 (dk_at dksX0_findThrusts_3 11 rfl rfl)
abbrev cX0_cracks : ByteArray := prog_1_method_51_code
def yX0_cracks : MethodName := ⟨RX0, "cracks", "()V"⟩
def dkwX0_cracks_4 : List UInt8 := [167, 255, 169, 177]
abbrev dktX0_cracks_4 : List UInt8 := dkwX0_cracks_4 ++ []
def dkwX0_cracks_3 : List UInt8 := [158, 0, 7, 4, 167, 0, 4, 2, 96, 16, 206, 16, 50, 184, 1, 26, 181, 1, 5, 132, 1, 1]
abbrev dktX0_cracks_3 : List UInt8 := dkwX0_cracks_3 ++ dktX0_cracks_4
def dkwX0_cracks_2 : List UInt8 := [180, 0, 74, 27, 46, 96, 184, 0, 4, 181, 1, 32, 44, 44, 180, 1, 5, 42, 180, 0, 71, 27, 46]
abbrev dktX0_cracks_2 : List UInt8 := dkwX0_cracks_2 ++ dktX0_cracks_3
def dkwX0_cracks_1 : List UInt8 := [167, 0, 64, 42, 180, 0, 40, 180, 1, 11, 27, 50, 77, 44, 17, 3, 231, 44, 180, 1, 32, 42]
abbrev dktX0_cracks_1 : List UInt8 := dkwX0_cracks_1 ++ dktX0_cracks_2
def dkwX0_cracks_0 : List UInt8 := [3, 60, 27, 42, 180, 0, 40, 180, 0, 101, 162, 0, 82, 42, 180, 0, 74, 27, 46, 154, 0, 6]
abbrev dktX0_cracks_0 : List UInt8 := dkwX0_cracks_0 ++ dktX0_cracks_1
theorem dksX0_cracks_0 : cX0_cracks.data.toList.drop 0 = dktX0_cracks_0 := by decide +kernel
theorem dksX0_cracks_1 : cX0_cracks.data.toList.drop 22 = dktX0_cracks_1 := dk_seg dksX0_cracks_0 22 rfl rfl
theorem dksX0_cracks_2 : cX0_cracks.data.toList.drop 44 = dktX0_cracks_2 := dk_seg dksX0_cracks_1 22 rfl rfl
theorem dksX0_cracks_3 : cX0_cracks.data.toList.drop 67 = dktX0_cracks_3 := dk_seg dksX0_cracks_2 23 rfl rfl
theorem dksX0_cracks_4 : cX0_cracks.data.toList.drop 89 = dktX0_cracks_4 := dk_seg dksX0_cracks_3 22 rfl rfl
theorem dX0_cracks_0 : decode cX0_cracks 0 = .ok (.iconst 0, 1) := dk_3 (dk_at dksX0_cracks_0 0 rfl rfl)
theorem dX0_cracks_1 : decode cX0_cracks 1 = .ok (.istore_n 1, 1) := dk_60 (dk_at dksX0_cracks_0 1 rfl rfl)
theorem dX0_cracks_2 : decode cX0_cracks 2 = .ok (.iload_n 1, 1) := dk_27 (dk_at dksX0_cracks_0 2 rfl rfl)
theorem dX0_cracks_3 : decode cX0_cracks 3 = .ok (.aload_n 0, 1) := dk_42 (dk_at dksX0_cracks_0 3 rfl rfl)
theorem dX0_cracks_4 : decode cX0_cracks 4 = .ok (.getfield 40, 3) := dk_180 0 40 (dk_at dksX0_cracks_0 4 rfl rfl)
theorem dX0_cracks_7 : decode cX0_cracks 7 = .ok (.getfield 101, 3) := dk_180 0 101 (dk_at dksX0_cracks_0 7 rfl rfl)
theorem dX0_cracks_10 : decode cX0_cracks 10 = .ok (.if_icmp .ge 82, 3) := dk_162 0 82 (dk_at dksX0_cracks_0 10 rfl rfl)
theorem dX0_cracks_13 : decode cX0_cracks 13 = .ok (.aload_n 0, 1) := dk_42 (dk_at dksX0_cracks_0 13 rfl rfl)
theorem dX0_cracks_14 : decode cX0_cracks 14 = .ok (.getfield 74, 3) := dk_180 0 74 (dk_at dksX0_cracks_0 14 rfl rfl)
theorem dX0_cracks_17 : decode cX0_cracks 17 = .ok (.iload_n 1, 1) := dk_27 (dk_at dksX0_cracks_0 17 rfl rfl)
theorem dX0_cracks_18 : decode cX0_cracks 18 = .ok (.iaload, 1) := dk_46 (dk_at dksX0_cracks_0 18 rfl rfl)
theorem dX0_cracks_19 : decode cX0_cracks 19 = .ok (.ifCond .ne 6, 3) := dk_154 0 6 (dk_at dksX0_cracks_0 19 rfl rfl)
theorem dX0_cracks_22 : decode cX0_cracks 22 = .ok (.goto 64, 3) := dk_167 0 64 (dk_at dksX0_cracks_1 0 rfl rfl)
theorem dX0_cracks_25 : decode cX0_cracks 25 = .ok (.aload_n 0, 1) := dk_42 (dk_at dksX0_cracks_1 3 rfl rfl)
theorem dX0_cracks_26 : decode cX0_cracks 26 = .ok (.getfield 40, 3) := dk_180 0 40 (dk_at dksX0_cracks_1 4 rfl rfl)
theorem dX0_cracks_29 : decode cX0_cracks 29 = .ok (.getfield 267, 3) := dk_180 1 11 (dk_at dksX0_cracks_1 7 rfl rfl)
theorem dX0_cracks_32 : decode cX0_cracks 32 = .ok (.iload_n 1, 1) := dk_27 (dk_at dksX0_cracks_1 10 rfl rfl)
theorem dX0_cracks_33 : decode cX0_cracks 33 = .ok (.aaload, 1) := dk_50 (dk_at dksX0_cracks_1 11 rfl rfl)
theorem dX0_cracks_34 : decode cX0_cracks 34 = .ok (.astore_n 2, 1) := dk_77 (dk_at dksX0_cracks_1 12 rfl rfl)
theorem dX0_cracks_35 : decode cX0_cracks 35 = .ok (.aload_n 2, 1) := dk_44 (dk_at dksX0_cracks_1 13 rfl rfl)
theorem dX0_cracks_36 : decode cX0_cracks 36 = .ok (.sipush 999, 3) := dk_17 3 231 (dk_at dksX0_cracks_1 14 rfl rfl)
theorem dX0_cracks_39 : decode cX0_cracks 39 = .ok (.aload_n 2, 1) := dk_44 (dk_at dksX0_cracks_1 17 rfl rfl)
theorem dX0_cracks_40 : decode cX0_cracks 40 = .ok (.getfield 288, 3) := dk_180 1 32 (dk_at dksX0_cracks_1 18 rfl rfl)
theorem dX0_cracks_43 : decode cX0_cracks 43 = .ok (.aload_n 0, 1) := dk_42 (dk_at dksX0_cracks_1 21 rfl rfl)
theorem dX0_cracks_44 : decode cX0_cracks 44 = .ok (.getfield 74, 3) := dk_180 0 74 (dk_at dksX0_cracks_2 0 rfl rfl)
theorem dX0_cracks_47 : decode cX0_cracks 47 = .ok (.iload_n 1, 1) := dk_27 (dk_at dksX0_cracks_2 3 rfl rfl)
theorem dX0_cracks_48 : decode cX0_cracks 48 = .ok (.iaload, 1) := dk_46 (dk_at dksX0_cracks_2 4 rfl rfl)
theorem dX0_cracks_49 : decode cX0_cracks 49 = .ok (.iadd, 1) := dk_96 (dk_at dksX0_cracks_2 5 rfl rfl)
theorem dX0_cracks_50 : decode cX0_cracks 50 = .ok (.invokestatic 4, 3) := dk_184 0 4 (dk_at dksX0_cracks_2 6 rfl rfl)
theorem dX0_cracks_53 : decode cX0_cracks 53 = .ok (.putfield 288, 3) := dk_181 1 32 (dk_at dksX0_cracks_2 9 rfl rfl)
theorem dX0_cracks_56 : decode cX0_cracks 56 = .ok (.aload_n 2, 1) := dk_44 (dk_at dksX0_cracks_2 12 rfl rfl)
theorem dX0_cracks_57 : decode cX0_cracks 57 = .ok (.aload_n 2, 1) := dk_44 (dk_at dksX0_cracks_2 13 rfl rfl)
theorem dX0_cracks_58 : decode cX0_cracks 58 = .ok (.getfield 261, 3) := dk_180 1 5 (dk_at dksX0_cracks_2 14 rfl rfl)
theorem dX0_cracks_61 : decode cX0_cracks 61 = .ok (.aload_n 0, 1) := dk_42 (dk_at dksX0_cracks_2 17 rfl rfl)
theorem dX0_cracks_62 : decode cX0_cracks 62 = .ok (.getfield 71, 3) := dk_180 0 71 (dk_at dksX0_cracks_2 18 rfl rfl)
theorem dX0_cracks_65 : decode cX0_cracks 65 = .ok (.iload_n 1, 1) := dk_27 (dk_at dksX0_cracks_2 21 rfl rfl)
theorem dX0_cracks_66 : decode cX0_cracks 66 = .ok (.iaload, 1) := dk_46 (dk_at dksX0_cracks_2 22 rfl rfl)
theorem dX0_cracks_67 : decode cX0_cracks 67 = .ok (.ifCond .le 7, 3) := dk_158 0 7 (dk_at dksX0_cracks_3 0 rfl rfl)
theorem dX0_cracks_70 : decode cX0_cracks 70 = .ok (.iconst 1, 1) := dk_4 (dk_at dksX0_cracks_3 3 rfl rfl)
theorem dX0_cracks_71 : decode cX0_cracks 71 = .ok (.goto 4, 3) := dk_167 0 4 (dk_at dksX0_cracks_3 4 rfl rfl)
theorem dX0_cracks_74 : decode cX0_cracks 74 = .ok (.iconst (-1), 1) := dk_2 (dk_at dksX0_cracks_3 7 rfl rfl)
theorem dX0_cracks_75 : decode cX0_cracks 75 = .ok (.iadd, 1) := dk_96 (dk_at dksX0_cracks_3 8 rfl rfl)
theorem dX0_cracks_76 : decode cX0_cracks 76 = .ok (.bipush (-50), 2) := dk_16 206 (dk_at dksX0_cracks_3 9 rfl rfl)
theorem dX0_cracks_78 : decode cX0_cracks 78 = .ok (.bipush 50, 2) := dk_16 50 (dk_at dksX0_cracks_3 11 rfl rfl)
theorem dX0_cracks_80 : decode cX0_cracks 80 = .ok (.invokestatic 282, 3) := dk_184 1 26 (dk_at dksX0_cracks_3 13 rfl rfl)
theorem dX0_cracks_83 : decode cX0_cracks 83 = .ok (.putfield 261, 3) := dk_181 1 5 (dk_at dksX0_cracks_3 16 rfl rfl)
theorem dX0_cracks_86 : decode cX0_cracks 86 = .ok (.iinc 1 1, 3) := dk_132 1 1 (dk_at dksX0_cracks_3 19 rfl rfl)
theorem dX0_cracks_89 : decode cX0_cracks 89 = .ok (.goto (-87), 3) := dk_167 255 169 (dk_at dksX0_cracks_4 0 rfl rfl)
theorem dX0_cracks_92 : decode cX0_cracks 92 = .ok (.return_, 1) := dk_177 (dk_at dksX0_cracks_4 3 rfl rfl)
abbrev cX0_fall : ByteArray := prog_1_method_53_code
def yX0_fall : MethodName := ⟨RX0, "fall", "()V"⟩
def dkwX0_fall_7 : List UInt8 := [54, 5, 21, 5, 153, 0, 10, 25, 4, 182, 1, 94, 4, 61, 132, 3, 1, 167, 255, 156, 167, 255, 145, 177]
abbrev dktX0_fall_7 : List UInt8 := dkwX0_fall_7 ++ []
def dkwX0_fall_6 : List UInt8 := [16, 236, 163, 0, 21, 42, 42, 29, 2, 27, 182, 1, 53, 182, 1, 108, 153, 0, 7, 4, 167, 0, 4, 3]
abbrev dktX0_fall_6 : List UInt8 := dkwX0_fall_6 ++ dktX0_fall_7
def dkwX0_fall_5 : List UInt8 := [16, 20, 161, 0, 17, 42, 42, 29, 4, 27, 182, 1, 53, 182, 1, 108, 154, 0, 27, 25, 4, 180, 1, 5]
abbrev dktX0_fall_5 : List UInt8 := dkwX0_fall_5 ++ dktX0_fall_6
def dkwX0_fall_4 : List UInt8 := [42, 180, 0, 40, 180, 1, 11, 29, 50, 58, 4, 25, 4, 180, 1, 46, 153, 0, 55, 25, 4, 180, 1, 5]
abbrev dktX0_fall_4 : List UInt8 := dkwX0_fall_4 ++ dktX0_fall_5
def dkwX0_fall_3 : List UInt8 := [167, 255, 198, 4, 61, 28, 153, 0, 113, 3, 61, 3, 62, 29, 42, 180, 0, 40, 180, 0, 101, 162, 0, 95]
abbrev dktX0_fall_3 : List UInt8 := dkwX0_fall_3 ++ dktX0_fall_4
def dkwX0_fall_2 : List UInt8 := [180, 1, 32, 16, 100, 161, 0, 15, 42, 180, 0, 40, 180, 1, 11, 28, 50, 182, 1, 94, 132, 2, 1]
abbrev dktX0_fall_2 : List UInt8 := dkwX0_fall_2 ++ dktX0_fall_3
def dkwX0_fall_1 : List UInt8 := [180, 0, 40, 180, 1, 11, 28, 50, 180, 1, 46, 153, 0, 32, 42, 180, 0, 40, 180, 1, 11, 28, 50]
abbrev dktX0_fall_1 : List UInt8 := dkwX0_fall_1 ++ dktX0_fall_2
def dkwX0_fall_0 : List UInt8 := [42, 180, 0, 40, 182, 1, 50, 60, 3, 61, 28, 42, 180, 0, 40, 180, 0, 101, 162, 0, 53, 42]
abbrev dktX0_fall_0 : List UInt8 := dkwX0_fall_0 ++ dktX0_fall_1
theorem dksX0_fall_0 : cX0_fall.data.toList.drop 0 = dktX0_fall_0 := by decide +kernel
theorem dksX0_fall_1 : cX0_fall.data.toList.drop 22 = dktX0_fall_1 := dk_seg dksX0_fall_0 22 rfl rfl
theorem dksX0_fall_2 : cX0_fall.data.toList.drop 45 = dktX0_fall_2 := dk_seg dksX0_fall_1 23 rfl rfl
theorem dksX0_fall_3 : cX0_fall.data.toList.drop 68 = dktX0_fall_3 := dk_seg dksX0_fall_2 23 rfl rfl
theorem dksX0_fall_4 : cX0_fall.data.toList.drop 92 = dktX0_fall_4 := dk_seg dksX0_fall_3 24 rfl rfl
theorem dksX0_fall_5 : cX0_fall.data.toList.drop 116 = dktX0_fall_5 := dk_seg dksX0_fall_4 24 rfl rfl
theorem dksX0_fall_6 : cX0_fall.data.toList.drop 140 = dktX0_fall_6 := dk_seg dksX0_fall_5 24 rfl rfl
theorem dksX0_fall_7 : cX0_fall.data.toList.drop 164 = dktX0_fall_7 := dk_seg dksX0_fall_6 24 rfl rfl
theorem dX0_fall_0 : decode cX0_fall 0 = .ok (.aload_n 0, 1) := dk_42 (dk_at dksX0_fall_0 0 rfl rfl)
theorem dX0_fall_1 : decode cX0_fall 1 = .ok (.getfield 40, 3) := dk_180 0 40 (dk_at dksX0_fall_0 1 rfl rfl)
theorem dX0_fall_4 : decode cX0_fall 4 = .ok (.invokevirtual 306, 3) := dk_182 1 50 (dk_at dksX0_fall_0 4 rfl rfl)
theorem dX0_fall_7 : decode cX0_fall 7 = .ok (.istore_n 1, 1) := dk_60 (dk_at dksX0_fall_0 7 rfl rfl)
theorem dX0_fall_8 : decode cX0_fall 8 = .ok (.iconst 0, 1) := dk_3 (dk_at dksX0_fall_0 8 rfl rfl)
theorem dX0_fall_9 : decode cX0_fall 9 = .ok (.istore_n 2, 1) := dk_61 (dk_at dksX0_fall_0 9 rfl rfl)
theorem dX0_fall_10 : decode cX0_fall 10 = .ok (.iload_n 2, 1) := dk_28 (dk_at dksX0_fall_0 10 rfl rfl)
theorem dX0_fall_11 : decode cX0_fall 11 = .ok (.aload_n 0, 1) := dk_42 (dk_at dksX0_fall_0 11 rfl rfl)
theorem dX0_fall_12 : decode cX0_fall 12 = .ok (.getfield 40, 3) := dk_180 0 40 (dk_at dksX0_fall_0 12 rfl rfl)
theorem dX0_fall_15 : decode cX0_fall 15 = .ok (.getfield 101, 3) := dk_180 0 101 (dk_at dksX0_fall_0 15 rfl rfl)
theorem dX0_fall_18 : decode cX0_fall 18 = .ok (.if_icmp .ge 53, 3) := dk_162 0 53 (dk_at dksX0_fall_0 18 rfl rfl)
theorem dX0_fall_21 : decode cX0_fall 21 = .ok (.aload_n 0, 1) := dk_42 (dk_at dksX0_fall_0 21 rfl rfl)
theorem dX0_fall_22 : decode cX0_fall 22 = .ok (.getfield 40, 3) := dk_180 0 40 (dk_at dksX0_fall_1 0 rfl rfl)
theorem dX0_fall_25 : decode cX0_fall 25 = .ok (.getfield 267, 3) := dk_180 1 11 (dk_at dksX0_fall_1 3 rfl rfl)
theorem dX0_fall_28 : decode cX0_fall 28 = .ok (.iload_n 2, 1) := dk_28 (dk_at dksX0_fall_1 6 rfl rfl)
theorem dX0_fall_29 : decode cX0_fall 29 = .ok (.aaload, 1) := dk_50 (dk_at dksX0_fall_1 7 rfl rfl)
theorem dX0_fall_30 : decode cX0_fall 30 = .ok (.getfield 302, 3) := dk_180 1 46 (dk_at dksX0_fall_1 8 rfl rfl)
theorem dX0_fall_33 : decode cX0_fall 33 = .ok (.ifCond .eq 32, 3) := dk_153 0 32 (dk_at dksX0_fall_1 11 rfl rfl)
theorem dX0_fall_36 : decode cX0_fall 36 = .ok (.aload_n 0, 1) := dk_42 (dk_at dksX0_fall_1 14 rfl rfl)
theorem dX0_fall_37 : decode cX0_fall 37 = .ok (.getfield 40, 3) := dk_180 0 40 (dk_at dksX0_fall_1 15 rfl rfl)
theorem dX0_fall_40 : decode cX0_fall 40 = .ok (.getfield 267, 3) := dk_180 1 11 (dk_at dksX0_fall_1 18 rfl rfl)
theorem dX0_fall_43 : decode cX0_fall 43 = .ok (.iload_n 2, 1) := dk_28 (dk_at dksX0_fall_1 21 rfl rfl)
theorem dX0_fall_44 : decode cX0_fall 44 = .ok (.aaload, 1) := dk_50 (dk_at dksX0_fall_1 22 rfl rfl)
theorem dX0_fall_45 : decode cX0_fall 45 = .ok (.getfield 288, 3) := dk_180 1 32 (dk_at dksX0_fall_2 0 rfl rfl)
theorem dX0_fall_48 : decode cX0_fall 48 = .ok (.bipush 100, 2) := dk_16 100 (dk_at dksX0_fall_2 3 rfl rfl)
theorem dX0_fall_50 : decode cX0_fall 50 = .ok (.if_icmp .lt 15, 3) := dk_161 0 15 (dk_at dksX0_fall_2 5 rfl rfl)
theorem dX0_fall_53 : decode cX0_fall 53 = .ok (.aload_n 0, 1) := dk_42 (dk_at dksX0_fall_2 8 rfl rfl)
theorem dX0_fall_54 : decode cX0_fall 54 = .ok (.getfield 40, 3) := dk_180 0 40 (dk_at dksX0_fall_2 9 rfl rfl)
theorem dX0_fall_57 : decode cX0_fall 57 = .ok (.getfield 267, 3) := dk_180 1 11 (dk_at dksX0_fall_2 12 rfl rfl)
theorem dX0_fall_60 : decode cX0_fall 60 = .ok (.iload_n 2, 1) := dk_28 (dk_at dksX0_fall_2 15 rfl rfl)
theorem dX0_fall_61 : decode cX0_fall 61 = .ok (.aaload, 1) := dk_50 (dk_at dksX0_fall_2 16 rfl rfl)
theorem dX0_fall_62 : decode cX0_fall 62 = .ok (.invokevirtual 350, 3) := dk_182 1 94 (dk_at dksX0_fall_2 17 rfl rfl)
theorem dX0_fall_65 : decode cX0_fall 65 = .ok (.iinc 2 1, 3) := dk_132 2 1 (dk_at dksX0_fall_2 20 rfl rfl)
theorem dX0_fall_68 : decode cX0_fall 68 = .ok (.goto (-58), 3) := dk_167 255 198 (dk_at dksX0_fall_3 0 rfl rfl)
theorem dX0_fall_71 : decode cX0_fall 71 = .ok (.iconst 1, 1) := dk_4 (dk_at dksX0_fall_3 3 rfl rfl)
theorem dX0_fall_72 : decode cX0_fall 72 = .ok (.istore_n 2, 1) := dk_61 (dk_at dksX0_fall_3 4 rfl rfl)
theorem dX0_fall_73 : decode cX0_fall 73 = .ok (.iload_n 2, 1) := dk_28 (dk_at dksX0_fall_3 5 rfl rfl)
theorem dX0_fall_74 : decode cX0_fall 74 = .ok (.ifCond .eq 113, 3) := dk_153 0 113 (dk_at dksX0_fall_3 6 rfl rfl)
theorem dX0_fall_77 : decode cX0_fall 77 = .ok (.iconst 0, 1) := dk_3 (dk_at dksX0_fall_3 9 rfl rfl)
theorem dX0_fall_78 : decode cX0_fall 78 = .ok (.istore_n 2, 1) := dk_61 (dk_at dksX0_fall_3 10 rfl rfl)
theorem dX0_fall_79 : decode cX0_fall 79 = .ok (.iconst 0, 1) := dk_3 (dk_at dksX0_fall_3 11 rfl rfl)
theorem dX0_fall_80 : decode cX0_fall 80 = .ok (.istore_n 3, 1) := dk_62 (dk_at dksX0_fall_3 12 rfl rfl)
theorem dX0_fall_81 : decode cX0_fall 81 = .ok (.iload_n 3, 1) := dk_29 (dk_at dksX0_fall_3 13 rfl rfl)
theorem dX0_fall_82 : decode cX0_fall 82 = .ok (.aload_n 0, 1) := dk_42 (dk_at dksX0_fall_3 14 rfl rfl)
theorem dX0_fall_83 : decode cX0_fall 83 = .ok (.getfield 40, 3) := dk_180 0 40 (dk_at dksX0_fall_3 15 rfl rfl)
theorem dX0_fall_86 : decode cX0_fall 86 = .ok (.getfield 101, 3) := dk_180 0 101 (dk_at dksX0_fall_3 18 rfl rfl)
theorem dX0_fall_89 : decode cX0_fall 89 = .ok (.if_icmp .ge 95, 3) := dk_162 0 95 (dk_at dksX0_fall_3 21 rfl rfl)
theorem dX0_fall_92 : decode cX0_fall 92 = .ok (.aload_n 0, 1) := dk_42 (dk_at dksX0_fall_4 0 rfl rfl)
theorem dX0_fall_93 : decode cX0_fall 93 = .ok (.getfield 40, 3) := dk_180 0 40 (dk_at dksX0_fall_4 1 rfl rfl)
theorem dX0_fall_96 : decode cX0_fall 96 = .ok (.getfield 267, 3) := dk_180 1 11 (dk_at dksX0_fall_4 4 rfl rfl)
theorem dX0_fall_99 : decode cX0_fall 99 = .ok (.iload_n 3, 1) := dk_29 (dk_at dksX0_fall_4 7 rfl rfl)
theorem dX0_fall_100 : decode cX0_fall 100 = .ok (.aaload, 1) := dk_50 (dk_at dksX0_fall_4 8 rfl rfl)
theorem dX0_fall_101 : decode cX0_fall 101 = .ok (.astore 4, 2) := dk_58 4 (dk_at dksX0_fall_4 9 rfl rfl)
theorem dX0_fall_103 : decode cX0_fall 103 = .ok (.aload 4, 2) := dk_25 4 (dk_at dksX0_fall_4 11 rfl rfl)
theorem dX0_fall_105 : decode cX0_fall 105 = .ok (.getfield 302, 3) := dk_180 1 46 (dk_at dksX0_fall_4 13 rfl rfl)
theorem dX0_fall_108 : decode cX0_fall 108 = .ok (.ifCond .eq 55, 3) := dk_153 0 55 (dk_at dksX0_fall_4 16 rfl rfl)
theorem dX0_fall_111 : decode cX0_fall 111 = .ok (.aload 4, 2) := dk_25 4 (dk_at dksX0_fall_4 19 rfl rfl)
theorem dX0_fall_113 : decode cX0_fall 113 = .ok (.getfield 261, 3) := dk_180 1 5 (dk_at dksX0_fall_4 21 rfl rfl)
theorem dX0_fall_116 : decode cX0_fall 116 = .ok (.bipush 20, 2) := dk_16 20 (dk_at dksX0_fall_5 0 rfl rfl)
theorem dX0_fall_118 : decode cX0_fall 118 = .ok (.if_icmp .lt 17, 3) := dk_161 0 17 (dk_at dksX0_fall_5 2 rfl rfl)
theorem dX0_fall_121 : decode cX0_fall 121 = .ok (.aload_n 0, 1) := dk_42 (dk_at dksX0_fall_5 5 rfl rfl)
theorem dX0_fall_122 : decode cX0_fall 122 = .ok (.aload_n 0, 1) := dk_42 (dk_at dksX0_fall_5 6 rfl rfl)
theorem dX0_fall_123 : decode cX0_fall 123 = .ok (.iload_n 3, 1) := dk_29 (dk_at dksX0_fall_5 7 rfl rfl)
theorem dX0_fall_124 : decode cX0_fall 124 = .ok (.iconst 1, 1) := dk_4 (dk_at dksX0_fall_5 8 rfl rfl)
theorem dX0_fall_125 : decode cX0_fall 125 = .ok (.iload_n 1, 1) := dk_27 (dk_at dksX0_fall_5 9 rfl rfl)
theorem dX0_fall_126 : decode cX0_fall 126 = .ok (.invokevirtual 309, 3) := dk_182 1 53 (dk_at dksX0_fall_5 10 rfl rfl)
theorem dX0_fall_129 : decode cX0_fall 129 = .ok (.invokevirtual 364, 3) := dk_182 1 108 (dk_at dksX0_fall_5 13 rfl rfl)
theorem dX0_fall_132 : decode cX0_fall 132 = .ok (.ifCond .ne 27, 3) := dk_154 0 27 (dk_at dksX0_fall_5 16 rfl rfl)
theorem dX0_fall_135 : decode cX0_fall 135 = .ok (.aload 4, 2) := dk_25 4 (dk_at dksX0_fall_5 19 rfl rfl)
theorem dX0_fall_137 : decode cX0_fall 137 = .ok (.getfield 261, 3) := dk_180 1 5 (dk_at dksX0_fall_5 21 rfl rfl)
theorem dX0_fall_140 : decode cX0_fall 140 = .ok (.bipush (-20), 2) := dk_16 236 (dk_at dksX0_fall_6 0 rfl rfl)
theorem dX0_fall_142 : decode cX0_fall 142 = .ok (.if_icmp .gt 21, 3) := dk_163 0 21 (dk_at dksX0_fall_6 2 rfl rfl)
theorem dX0_fall_145 : decode cX0_fall 145 = .ok (.aload_n 0, 1) := dk_42 (dk_at dksX0_fall_6 5 rfl rfl)
theorem dX0_fall_146 : decode cX0_fall 146 = .ok (.aload_n 0, 1) := dk_42 (dk_at dksX0_fall_6 6 rfl rfl)
theorem dX0_fall_147 : decode cX0_fall 147 = .ok (.iload_n 3, 1) := dk_29 (dk_at dksX0_fall_6 7 rfl rfl)
theorem dX0_fall_148 : decode cX0_fall 148 = .ok (.iconst (-1), 1) := dk_2 (dk_at dksX0_fall_6 8 rfl rfl)
theorem dX0_fall_149 : decode cX0_fall 149 = .ok (.iload_n 1, 1) := dk_27 (dk_at dksX0_fall_6 9 rfl rfl)
theorem dX0_fall_150 : decode cX0_fall 150 = .ok (.invokevirtual 309, 3) := dk_182 1 53 (dk_at dksX0_fall_6 10 rfl rfl)
theorem dX0_fall_153 : decode cX0_fall 153 = .ok (.invokevirtual 364, 3) := dk_182 1 108 (dk_at dksX0_fall_6 13 rfl rfl)
theorem dX0_fall_156 : decode cX0_fall 156 = .ok (.ifCond .eq 7, 3) := dk_153 0 7 (dk_at dksX0_fall_6 16 rfl rfl)
theorem dX0_fall_159 : decode cX0_fall 159 = .ok (.iconst 1, 1) := dk_4 (dk_at dksX0_fall_6 19 rfl rfl)
theorem dX0_fall_160 : decode cX0_fall 160 = .ok (.goto 4, 3) := dk_167 0 4 (dk_at dksX0_fall_6 20 rfl rfl)
theorem dX0_fall_163 : decode cX0_fall 163 = .ok (.iconst 0, 1) := dk_3 (dk_at dksX0_fall_6 23 rfl rfl)
theorem dX0_fall_164 : decode cX0_fall 164 = .ok (.istore 5, 2) := dk_54 5 (dk_at dksX0_fall_7 0 rfl rfl)
theorem dX0_fall_166 : decode cX0_fall 166 = .ok (.iload 5, 2) := dk_21 5 (dk_at dksX0_fall_7 2 rfl rfl)
theorem dX0_fall_168 : decode cX0_fall 168 = .ok (.ifCond .eq 10, 3) := dk_153 0 10 (dk_at dksX0_fall_7 4 rfl rfl)
theorem dX0_fall_171 : decode cX0_fall 171 = .ok (.aload 4, 2) := dk_25 4 (dk_at dksX0_fall_7 7 rfl rfl)
theorem dX0_fall_173 : decode cX0_fall 173 = .ok (.invokevirtual 350, 3) := dk_182 1 94 (dk_at dksX0_fall_7 9 rfl rfl)
theorem dX0_fall_176 : decode cX0_fall 176 = .ok (.iconst 1, 1) := dk_4 (dk_at dksX0_fall_7 12 rfl rfl)
theorem dX0_fall_177 : decode cX0_fall 177 = .ok (.istore_n 2, 1) := dk_61 (dk_at dksX0_fall_7 13 rfl rfl)
theorem dX0_fall_178 : decode cX0_fall 178 = .ok (.iinc 3 1, 3) := dk_132 3 1 (dk_at dksX0_fall_7 14 rfl rfl)
theorem dX0_fall_181 : decode cX0_fall 181 = .ok (.goto (-100), 3) := dk_167 255 156 (dk_at dksX0_fall_7 17 rfl rfl)
theorem dX0_fall_184 : decode cX0_fall 184 = .ok (.goto (-111), 3) := dk_167 255 145 (dk_at dksX0_fall_7 20 rfl rfl)
theorem dX0_fall_187 : decode cX0_fall 187 = .ok (.return_, 1) := dk_177 (dk_at dksX0_fall_7 23 rfl rfl)
abbrev cX0_isDown : ByteArray := prog_1_method_52_code
def yX0_isDown : MethodName := ⟨RX0, "isDown", "(I)Z"⟩
def dkwX0_isDown_1 : List UInt8 := [3, 172]
abbrev dktX0_isDown_1 : List UInt8 := dkwX0_isDown_1 ++ []
def dkwX0_isDown_0 : List UInt8 := [27, 2, 159, 0, 22, 42, 180, 0, 40, 180, 1, 11, 27, 50, 180, 1, 46, 154, 0, 7, 4, 167, 0, 4]
abbrev dktX0_isDown_0 : List UInt8 := dkwX0_isDown_0 ++ dktX0_isDown_1
theorem dksX0_isDown_0 : cX0_isDown.data.toList.drop 0 = dktX0_isDown_0 := by decide +kernel
theorem dksX0_isDown_1 : cX0_isDown.data.toList.drop 24 = dktX0_isDown_1 := dk_seg dksX0_isDown_0 24 rfl rfl
theorem dX0_isDown_0 : decode cX0_isDown 0 = .ok (.iload_n 1, 1) := dk_27 (dk_at dksX0_isDown_0 0 rfl rfl)
theorem dX0_isDown_1 : decode cX0_isDown 1 = .ok (.iconst (-1), 1) := dk_2 (dk_at dksX0_isDown_0 1 rfl rfl)
theorem dX0_isDown_2 : decode cX0_isDown 2 = .ok (.if_icmp .eq 22, 3) := dk_159 0 22 (dk_at dksX0_isDown_0 2 rfl rfl)
theorem dX0_isDown_5 : decode cX0_isDown 5 = .ok (.aload_n 0, 1) := dk_42 (dk_at dksX0_isDown_0 5 rfl rfl)
theorem dX0_isDown_6 : decode cX0_isDown 6 = .ok (.getfield 40, 3) := dk_180 0 40 (dk_at dksX0_isDown_0 6 rfl rfl)
theorem dX0_isDown_9 : decode cX0_isDown 9 = .ok (.getfield 267, 3) := dk_180 1 11 (dk_at dksX0_isDown_0 9 rfl rfl)
theorem dX0_isDown_12 : decode cX0_isDown 12 = .ok (.iload_n 1, 1) := dk_27 (dk_at dksX0_isDown_0 12 rfl rfl)
theorem dX0_isDown_13 : decode cX0_isDown 13 = .ok (.aaload, 1) := dk_50 (dk_at dksX0_isDown_0 13 rfl rfl)
theorem dX0_isDown_14 : decode cX0_isDown 14 = .ok (.getfield 302, 3) := dk_180 1 46 (dk_at dksX0_isDown_0 14 rfl rfl)
theorem dX0_isDown_17 : decode cX0_isDown 17 = .ok (.ifCond .ne 7, 3) := dk_154 0 7 (dk_at dksX0_isDown_0 17 rfl rfl)
theorem dX0_isDown_20 : decode cX0_isDown 20 = .ok (.iconst 1, 1) := dk_4 (dk_at dksX0_isDown_0 20 rfl rfl)
theorem dX0_isDown_21 : decode cX0_isDown 21 = .ok (.goto 4, 3) := dk_167 0 4 (dk_at dksX0_isDown_0 21 rfl rfl)
theorem dX0_isDown_24 : decode cX0_isDown 24 = .ok (.iconst 0, 1) := dk_3 (dk_at dksX0_isDown_1 0 rfl rfl)
theorem dX0_isDown_25 : decode cX0_isDown 25 = .ok (.ireturn, 1) := dk_172 (dk_at dksX0_isDown_1 1 rfl rfl)
abbrev cX0_street : ByteArray := prog_1_method_57_code
def yX0_street : MethodName := ⟨RX0, "street", "(I)I"⟩
def dkwX0_street_5 : List UInt8 := [132, 3, 1, 167, 255, 223, 28, 172, 18, 130, 172]
abbrev dktX0_street_5 : List UInt8 := dkwX0_street_5 ++ []
def dkwX0_street_4 : List UInt8 := [162, 0, 28, 28, 42, 180, 0, 74, 29, 46, 158, 0, 9, 4, 29, 120, 167, 0, 4, 3, 128, 61]
abbrev dktX0_street_4 : List UInt8 := dkwX0_street_4 ++ dktX0_street_5
def dkwX0_street_3 : List UInt8 := [42, 180, 0, 40, 182, 1, 123, 172, 42, 182, 1, 111, 3, 61, 3, 62, 29, 42, 180, 0, 40, 180, 0, 101]
abbrev dktX0_street_3 : List UInt8 := dkwX0_street_3 ++ dktX0_street_4
def dkwX0_street_2 : List UInt8 := [42, 180, 0, 40, 180, 1, 120, 172, 42, 180, 0, 40, 182, 1, 50, 172, 42, 180, 0, 40, 182, 1, 135, 172]
abbrev dktX0_street_2 : List UInt8 := dkwX0_street_2 ++ dktX0_street_3
def dkwX0_street_1 : List UInt8 := [170, 0, 0, 0, 0, 0, 113, 0, 0, 0, 0, 0, 0, 0, 4, 0, 0, 0, 35, 0, 0, 0, 43, 0, 0, 0, 51, 0, 0, 0, 59, 0, 0, 0, 67]
abbrev dktX0_street_1 : List UInt8 := dkwX0_street_1 ++ dktX0_street_2
def dkwX0_street_0 : List UInt8 := [27]
abbrev dktX0_street_0 : List UInt8 := dkwX0_street_0 ++ dktX0_street_1
theorem dksX0_street_0 : cX0_street.data.toList.drop 0 = dktX0_street_0 := by decide +kernel
theorem dksX0_street_1 : cX0_street.data.toList.drop 1 = dktX0_street_1 := dk_seg dksX0_street_0 1 rfl rfl
theorem dksX0_street_2 : cX0_street.data.toList.drop 36 = dktX0_street_2 := dk_seg dksX0_street_1 35 rfl rfl
theorem dksX0_street_3 : cX0_street.data.toList.drop 60 = dktX0_street_3 := dk_seg dksX0_street_2 24 rfl rfl
theorem dksX0_street_4 : cX0_street.data.toList.drop 84 = dktX0_street_4 := dk_seg dksX0_street_3 24 rfl rfl
theorem dksX0_street_5 : cX0_street.data.toList.drop 106 = dktX0_street_5 := dk_seg dksX0_street_4 22 rfl rfl
theorem dX0_street_0 : decode cX0_street 0 = .ok (.iload_n 1, 1) := dk_27 (dk_at dksX0_street_0 0 rfl rfl)
theorem dX0_street_1 : decode cX0_street 1 = .ok (.tableswitch 113 0 4 #[35, 43, 51, 59, 67], 35) := by decide +kernel
theorem dX0_street_36 : decode cX0_street 36 = .ok (.aload_n 0, 1) := dk_42 (dk_at dksX0_street_2 0 rfl rfl)
theorem dX0_street_37 : decode cX0_street 37 = .ok (.getfield 40, 3) := dk_180 0 40 (dk_at dksX0_street_2 1 rfl rfl)
theorem dX0_street_40 : decode cX0_street 40 = .ok (.getfield 376, 3) := dk_180 1 120 (dk_at dksX0_street_2 4 rfl rfl)
theorem dX0_street_43 : decode cX0_street 43 = .ok (.ireturn, 1) := dk_172 (dk_at dksX0_street_2 7 rfl rfl)
theorem dX0_street_44 : decode cX0_street 44 = .ok (.aload_n 0, 1) := dk_42 (dk_at dksX0_street_2 8 rfl rfl)
theorem dX0_street_45 : decode cX0_street 45 = .ok (.getfield 40, 3) := dk_180 0 40 (dk_at dksX0_street_2 9 rfl rfl)
theorem dX0_street_48 : decode cX0_street 48 = .ok (.invokevirtual 306, 3) := dk_182 1 50 (dk_at dksX0_street_2 12 rfl rfl)
theorem dX0_street_51 : decode cX0_street 51 = .ok (.ireturn, 1) := dk_172 (dk_at dksX0_street_2 15 rfl rfl)
theorem dX0_street_52 : decode cX0_street 52 = .ok (.aload_n 0, 1) := dk_42 (dk_at dksX0_street_2 16 rfl rfl)
theorem dX0_street_53 : decode cX0_street 53 = .ok (.getfield 40, 3) := dk_180 0 40 (dk_at dksX0_street_2 17 rfl rfl)
theorem dX0_street_56 : decode cX0_street 56 = .ok (.invokevirtual 391, 3) := dk_182 1 135 (dk_at dksX0_street_2 20 rfl rfl)
theorem dX0_street_59 : decode cX0_street 59 = .ok (.ireturn, 1) := dk_172 (dk_at dksX0_street_2 23 rfl rfl)
theorem dX0_street_60 : decode cX0_street 60 = .ok (.aload_n 0, 1) := dk_42 (dk_at dksX0_street_3 0 rfl rfl)
theorem dX0_street_61 : decode cX0_street 61 = .ok (.getfield 40, 3) := dk_180 0 40 (dk_at dksX0_street_3 1 rfl rfl)
theorem dX0_street_64 : decode cX0_street 64 = .ok (.invokevirtual 379, 3) := dk_182 1 123 (dk_at dksX0_street_3 4 rfl rfl)
theorem dX0_street_67 : decode cX0_street 67 = .ok (.ireturn, 1) := dk_172 (dk_at dksX0_street_3 7 rfl rfl)
theorem dX0_street_68 : decode cX0_street 68 = .ok (.aload_n 0, 1) := dk_42 (dk_at dksX0_street_3 8 rfl rfl)
theorem dX0_street_69 : decode cX0_street 69 = .ok (.invokevirtual 367, 3) := dk_182 1 111 (dk_at dksX0_street_3 9 rfl rfl)
theorem dX0_street_72 : decode cX0_street 72 = .ok (.iconst 0, 1) := dk_3 (dk_at dksX0_street_3 12 rfl rfl)
theorem dX0_street_73 : decode cX0_street 73 = .ok (.istore_n 2, 1) := dk_61 (dk_at dksX0_street_3 13 rfl rfl)
theorem dX0_street_74 : decode cX0_street 74 = .ok (.iconst 0, 1) := dk_3 (dk_at dksX0_street_3 14 rfl rfl)
theorem dX0_street_75 : decode cX0_street 75 = .ok (.istore_n 3, 1) := dk_62 (dk_at dksX0_street_3 15 rfl rfl)
theorem dX0_street_76 : decode cX0_street 76 = .ok (.iload_n 3, 1) := dk_29 (dk_at dksX0_street_3 16 rfl rfl)
theorem dX0_street_77 : decode cX0_street 77 = .ok (.aload_n 0, 1) := dk_42 (dk_at dksX0_street_3 17 rfl rfl)
theorem dX0_street_78 : decode cX0_street 78 = .ok (.getfield 40, 3) := dk_180 0 40 (dk_at dksX0_street_3 18 rfl rfl)
theorem dX0_street_81 : decode cX0_street 81 = .ok (.getfield 101, 3) := dk_180 0 101 (dk_at dksX0_street_3 21 rfl rfl)
theorem dX0_street_84 : decode cX0_street 84 = .ok (.if_icmp .ge 28, 3) := dk_162 0 28 (dk_at dksX0_street_4 0 rfl rfl)
theorem dX0_street_87 : decode cX0_street 87 = .ok (.iload_n 2, 1) := dk_28 (dk_at dksX0_street_4 3 rfl rfl)
theorem dX0_street_88 : decode cX0_street 88 = .ok (.aload_n 0, 1) := dk_42 (dk_at dksX0_street_4 4 rfl rfl)
theorem dX0_street_89 : decode cX0_street 89 = .ok (.getfield 74, 3) := dk_180 0 74 (dk_at dksX0_street_4 5 rfl rfl)
theorem dX0_street_92 : decode cX0_street 92 = .ok (.iload_n 3, 1) := dk_29 (dk_at dksX0_street_4 8 rfl rfl)
theorem dX0_street_93 : decode cX0_street 93 = .ok (.iaload, 1) := dk_46 (dk_at dksX0_street_4 9 rfl rfl)
theorem dX0_street_94 : decode cX0_street 94 = .ok (.ifCond .le 9, 3) := dk_158 0 9 (dk_at dksX0_street_4 10 rfl rfl)
theorem dX0_street_97 : decode cX0_street 97 = .ok (.iconst 1, 1) := dk_4 (dk_at dksX0_street_4 13 rfl rfl)
theorem dX0_street_98 : decode cX0_street 98 = .ok (.iload_n 3, 1) := dk_29 (dk_at dksX0_street_4 14 rfl rfl)
theorem dX0_street_99 : decode cX0_street 99 = .ok (.ishl, 1) := dk_120 (dk_at dksX0_street_4 15 rfl rfl)
theorem dX0_street_100 : decode cX0_street 100 = .ok (.goto 4, 3) := dk_167 0 4 (dk_at dksX0_street_4 16 rfl rfl)
theorem dX0_street_103 : decode cX0_street 103 = .ok (.iconst 0, 1) := dk_3 (dk_at dksX0_street_4 19 rfl rfl)
theorem dX0_street_104 : decode cX0_street 104 = .ok (.ior, 1) := dk_128 (dk_at dksX0_street_4 20 rfl rfl)
theorem dX0_street_105 : decode cX0_street 105 = .ok (.istore_n 2, 1) := dk_61 (dk_at dksX0_street_4 21 rfl rfl)
theorem dX0_street_106 : decode cX0_street 106 = .ok (.iinc 3 1, 3) := dk_132 3 1 (dk_at dksX0_street_5 0 rfl rfl)
theorem dX0_street_109 : decode cX0_street 109 = .ok (.goto (-33), 3) := dk_167 255 223 (dk_at dksX0_street_5 3 rfl rfl)
theorem dX0_street_112 : decode cX0_street 112 = .ok (.iload_n 2, 1) := dk_28 (dk_at dksX0_street_5 6 rfl rfl)
theorem dX0_street_113 : decode cX0_street 113 = .ok (.ireturn, 1) := dk_172 (dk_at dksX0_street_5 7 rfl rfl)
theorem dX0_street_114 : decode cX0_street 114 = .ok (.ldc 130, 2) := dk_18 130 (dk_at dksX0_street_5 8 rfl rfl)
theorem dX0_street_116 : decode cX0_street 116 = .ok (.ireturn, 1) := dk_172 (dk_at dksX0_street_5 10 rfl rfl)
abbrev cX0_behind : ByteArray := prog_1_method_60_code
def yX0_behind : MethodName := ⟨RX0, "behind", "(II)I"⟩
def dkwX0_behind_4 : List UInt8 := [100, 50, 180, 1, 5, 62, 42, 182, 1, 144, 29, 172]
abbrev dktX0_behind_4 : List UInt8 := dkwX0_behind_4 ++ []
def dkwX0_behind_3 : List UInt8 := [28, 5, 160, 0, 13, 42, 180, 0, 40, 180, 1, 120, 167, 0, 17, 42, 180, 0, 40, 180, 1, 11, 28, 6]
abbrev dktX0_behind_3 : List UInt8 := dkwX0_behind_3 ++ dktX0_behind_4
def dkwX0_behind_2 : List UInt8 := [180, 0, 40, 182, 1, 50, 167, 0, 47, 28, 4, 160, 0, 13, 42, 180, 0, 40, 182, 1, 135, 167, 0, 32]
abbrev dktX0_behind_2 : List UInt8 := dkwX0_behind_2 ++ dktX0_behind_3
def dkwX0_behind_1 : List UInt8 := [182, 1, 43, 154, 0, 6, 18, 130, 172, 42, 182, 1, 141, 42, 27, 182, 1, 132, 28, 154, 0, 13, 42]
abbrev dktX0_behind_1 : List UInt8 := dkwX0_behind_1 ++ dktX0_behind_2
def dkwX0_behind_0 : List UInt8 := [27, 3, 16, 100, 184, 0, 105, 153, 0, 22, 28, 155, 0, 18, 28, 5, 164, 0, 16, 42, 28, 6, 100]
abbrev dktX0_behind_0 : List UInt8 := dkwX0_behind_0 ++ dktX0_behind_1
theorem dksX0_behind_0 : cX0_behind.data.toList.drop 0 = dktX0_behind_0 := by decide +kernel
theorem dksX0_behind_1 : cX0_behind.data.toList.drop 23 = dktX0_behind_1 := dk_seg dksX0_behind_0 23 rfl rfl
theorem dksX0_behind_2 : cX0_behind.data.toList.drop 46 = dktX0_behind_2 := dk_seg dksX0_behind_1 23 rfl rfl
theorem dksX0_behind_3 : cX0_behind.data.toList.drop 70 = dktX0_behind_3 := dk_seg dksX0_behind_2 24 rfl rfl
theorem dksX0_behind_4 : cX0_behind.data.toList.drop 94 = dktX0_behind_4 := dk_seg dksX0_behind_3 24 rfl rfl
theorem dX0_behind_0 : decode cX0_behind 0 = .ok (.iload_n 1, 1) := dk_27 (dk_at dksX0_behind_0 0 rfl rfl)
theorem dX0_behind_1 : decode cX0_behind 1 = .ok (.iconst 0, 1) := dk_3 (dk_at dksX0_behind_0 1 rfl rfl)
theorem dX0_behind_2 : decode cX0_behind 2 = .ok (.bipush 100, 2) := dk_16 100 (dk_at dksX0_behind_0 2 rfl rfl)
theorem dX0_behind_4 : decode cX0_behind 4 = .ok (.invokestatic 105, 3) := dk_184 0 105 (dk_at dksX0_behind_0 4 rfl rfl)
theorem dX0_behind_7 : decode cX0_behind 7 = .ok (.ifCond .eq 22, 3) := dk_153 0 22 (dk_at dksX0_behind_0 7 rfl rfl)
theorem dX0_behind_10 : decode cX0_behind 10 = .ok (.iload_n 2, 1) := dk_28 (dk_at dksX0_behind_0 10 rfl rfl)
theorem dX0_behind_11 : decode cX0_behind 11 = .ok (.ifCond .lt 18, 3) := dk_155 0 18 (dk_at dksX0_behind_0 11 rfl rfl)
theorem dX0_behind_14 : decode cX0_behind 14 = .ok (.iload_n 2, 1) := dk_28 (dk_at dksX0_behind_0 14 rfl rfl)
theorem dX0_behind_15 : decode cX0_behind 15 = .ok (.iconst 2, 1) := dk_5 (dk_at dksX0_behind_0 15 rfl rfl)
theorem dX0_behind_16 : decode cX0_behind 16 = .ok (.if_icmp .le 16, 3) := dk_164 0 16 (dk_at dksX0_behind_0 16 rfl rfl)
theorem dX0_behind_19 : decode cX0_behind 19 = .ok (.aload_n 0, 1) := dk_42 (dk_at dksX0_behind_0 19 rfl rfl)
theorem dX0_behind_20 : decode cX0_behind 20 = .ok (.iload_n 2, 1) := dk_28 (dk_at dksX0_behind_0 20 rfl rfl)
theorem dX0_behind_21 : decode cX0_behind 21 = .ok (.iconst 3, 1) := dk_6 (dk_at dksX0_behind_0 21 rfl rfl)
theorem dX0_behind_22 : decode cX0_behind 22 = .ok (.isub, 1) := dk_100 (dk_at dksX0_behind_0 22 rfl rfl)
theorem dX0_behind_23 : decode cX0_behind 23 = .ok (.invokevirtual 299, 3) := dk_182 1 43 (dk_at dksX0_behind_1 0 rfl rfl)
theorem dX0_behind_26 : decode cX0_behind 26 = .ok (.ifCond .ne 6, 3) := dk_154 0 6 (dk_at dksX0_behind_1 3 rfl rfl)
theorem dX0_behind_29 : decode cX0_behind 29 = .ok (.ldc 130, 2) := dk_18 130 (dk_at dksX0_behind_1 6 rfl rfl)
theorem dX0_behind_31 : decode cX0_behind 31 = .ok (.ireturn, 1) := dk_172 (dk_at dksX0_behind_1 8 rfl rfl)
theorem dX0_behind_32 : decode cX0_behind 32 = .ok (.aload_n 0, 1) := dk_42 (dk_at dksX0_behind_1 9 rfl rfl)
theorem dX0_behind_33 : decode cX0_behind 33 = .ok (.invokevirtual 397, 3) := dk_182 1 141 (dk_at dksX0_behind_1 10 rfl rfl)
theorem dX0_behind_36 : decode cX0_behind 36 = .ok (.aload_n 0, 1) := dk_42 (dk_at dksX0_behind_1 13 rfl rfl)
theorem dX0_behind_37 : decode cX0_behind 37 = .ok (.iload_n 1, 1) := dk_27 (dk_at dksX0_behind_1 14 rfl rfl)
theorem dX0_behind_38 : decode cX0_behind 38 = .ok (.invokevirtual 388, 3) := dk_182 1 132 (dk_at dksX0_behind_1 15 rfl rfl)
theorem dX0_behind_41 : decode cX0_behind 41 = .ok (.iload_n 2, 1) := dk_28 (dk_at dksX0_behind_1 18 rfl rfl)
theorem dX0_behind_42 : decode cX0_behind 42 = .ok (.ifCond .ne 13, 3) := dk_154 0 13 (dk_at dksX0_behind_1 19 rfl rfl)
theorem dX0_behind_45 : decode cX0_behind 45 = .ok (.aload_n 0, 1) := dk_42 (dk_at dksX0_behind_1 22 rfl rfl)
theorem dX0_behind_46 : decode cX0_behind 46 = .ok (.getfield 40, 3) := dk_180 0 40 (dk_at dksX0_behind_2 0 rfl rfl)
theorem dX0_behind_49 : decode cX0_behind 49 = .ok (.invokevirtual 306, 3) := dk_182 1 50 (dk_at dksX0_behind_2 3 rfl rfl)
theorem dX0_behind_52 : decode cX0_behind 52 = .ok (.goto 47, 3) := dk_167 0 47 (dk_at dksX0_behind_2 6 rfl rfl)
theorem dX0_behind_55 : decode cX0_behind 55 = .ok (.iload_n 2, 1) := dk_28 (dk_at dksX0_behind_2 9 rfl rfl)
theorem dX0_behind_56 : decode cX0_behind 56 = .ok (.iconst 1, 1) := dk_4 (dk_at dksX0_behind_2 10 rfl rfl)
theorem dX0_behind_57 : decode cX0_behind 57 = .ok (.if_icmp .ne 13, 3) := dk_160 0 13 (dk_at dksX0_behind_2 11 rfl rfl)
theorem dX0_behind_60 : decode cX0_behind 60 = .ok (.aload_n 0, 1) := dk_42 (dk_at dksX0_behind_2 14 rfl rfl)
theorem dX0_behind_61 : decode cX0_behind 61 = .ok (.getfield 40, 3) := dk_180 0 40 (dk_at dksX0_behind_2 15 rfl rfl)
theorem dX0_behind_64 : decode cX0_behind 64 = .ok (.invokevirtual 391, 3) := dk_182 1 135 (dk_at dksX0_behind_2 18 rfl rfl)
theorem dX0_behind_67 : decode cX0_behind 67 = .ok (.goto 32, 3) := dk_167 0 32 (dk_at dksX0_behind_2 21 rfl rfl)
theorem dX0_behind_70 : decode cX0_behind 70 = .ok (.iload_n 2, 1) := dk_28 (dk_at dksX0_behind_3 0 rfl rfl)
theorem dX0_behind_71 : decode cX0_behind 71 = .ok (.iconst 2, 1) := dk_5 (dk_at dksX0_behind_3 1 rfl rfl)
theorem dX0_behind_72 : decode cX0_behind 72 = .ok (.if_icmp .ne 13, 3) := dk_160 0 13 (dk_at dksX0_behind_3 2 rfl rfl)
theorem dX0_behind_75 : decode cX0_behind 75 = .ok (.aload_n 0, 1) := dk_42 (dk_at dksX0_behind_3 5 rfl rfl)
theorem dX0_behind_76 : decode cX0_behind 76 = .ok (.getfield 40, 3) := dk_180 0 40 (dk_at dksX0_behind_3 6 rfl rfl)
theorem dX0_behind_79 : decode cX0_behind 79 = .ok (.getfield 376, 3) := dk_180 1 120 (dk_at dksX0_behind_3 9 rfl rfl)
theorem dX0_behind_82 : decode cX0_behind 82 = .ok (.goto 17, 3) := dk_167 0 17 (dk_at dksX0_behind_3 12 rfl rfl)
theorem dX0_behind_85 : decode cX0_behind 85 = .ok (.aload_n 0, 1) := dk_42 (dk_at dksX0_behind_3 15 rfl rfl)
theorem dX0_behind_86 : decode cX0_behind 86 = .ok (.getfield 40, 3) := dk_180 0 40 (dk_at dksX0_behind_3 16 rfl rfl)
theorem dX0_behind_89 : decode cX0_behind 89 = .ok (.getfield 267, 3) := dk_180 1 11 (dk_at dksX0_behind_3 19 rfl rfl)
theorem dX0_behind_92 : decode cX0_behind 92 = .ok (.iload_n 2, 1) := dk_28 (dk_at dksX0_behind_3 22 rfl rfl)
theorem dX0_behind_93 : decode cX0_behind 93 = .ok (.iconst 3, 1) := dk_6 (dk_at dksX0_behind_3 23 rfl rfl)
theorem dX0_behind_94 : decode cX0_behind 94 = .ok (.isub, 1) := dk_100 (dk_at dksX0_behind_4 0 rfl rfl)
theorem dX0_behind_95 : decode cX0_behind 95 = .ok (.aaload, 1) := dk_50 (dk_at dksX0_behind_4 1 rfl rfl)
theorem dX0_behind_96 : decode cX0_behind 96 = .ok (.getfield 261, 3) := dk_180 1 5 (dk_at dksX0_behind_4 2 rfl rfl)
theorem dX0_behind_99 : decode cX0_behind 99 = .ok (.istore_n 3, 1) := dk_62 (dk_at dksX0_behind_4 5 rfl rfl)
theorem dX0_behind_100 : decode cX0_behind 100 = .ok (.aload_n 0, 1) := dk_42 (dk_at dksX0_behind_4 6 rfl rfl)
theorem dX0_behind_101 : decode cX0_behind 101 = .ok (.invokevirtual 400, 3) := dk_182 1 144 (dk_at dksX0_behind_4 7 rfl rfl)
theorem dX0_behind_104 : decode cX0_behind 104 = .ok (.iload_n 3, 1) := dk_29 (dk_at dksX0_behind_4 10 rfl rfl)
theorem dX0_behind_105 : decode cX0_behind 105 = .ok (.ireturn, 1) := dk_172 (dk_at dksX0_behind_4 11 rfl rfl)
abbrev cX0_thinks : ByteArray := prog_1_method_58_code
def yX0_thinks : MethodName := ⟨RX0, "thinks", "()V"⟩
def dkwX0_thinks_0 : List UInt8 := [42, 180, 0, 50, 42, 180, 0, 40, 182, 1, 137, 177]
abbrev dktX0_thinks_0 : List UInt8 := dkwX0_thinks_0 ++ []
theorem dksX0_thinks_0 : cX0_thinks.data.toList.drop 0 = dktX0_thinks_0 := by decide +kernel
theorem dX0_thinks_0 : decode cX0_thinks 0 = .ok (.aload_n 0, 1) := dk_42 (dk_at dksX0_thinks_0 0 rfl rfl)
theorem dX0_thinks_1 : decode cX0_thinks 1 = .ok (.getfield 50, 3) := dk_180 0 50 (dk_at dksX0_thinks_0 1 rfl rfl)
theorem dX0_thinks_4 : decode cX0_thinks 4 = .ok (.aload_n 0, 1) := dk_42 (dk_at dksX0_thinks_0 4 rfl rfl)
theorem dX0_thinks_5 : decode cX0_thinks 5 = .ok (.getfield 40, 3) := dk_180 0 40 (dk_at dksX0_thinks_0 5 rfl rfl)
theorem dX0_thinks_8 : decode cX0_thinks 8 = .ok (.invokevirtual 393, 3) := dk_182 1 137 (dk_at dksX0_thinks_0 8 rfl rfl)
theorem dX0_thinks_11 : decode cX0_thinks 11 = .ok (.return_, 1) := dk_177 (dk_at dksX0_thinks_0 11 rfl rfl)
abbrev cX0_putsBack : ByteArray := prog_1_method_59_code
def yX0_putsBack : MethodName := ⟨RX0, "putsBack", "()V"⟩
def dkwX0_putsBack_0 : List UInt8 := [42, 180, 0, 40, 42, 180, 0, 50, 182, 1, 137, 177]
abbrev dktX0_putsBack_0 : List UInt8 := dkwX0_putsBack_0 ++ []
theorem dksX0_putsBack_0 : cX0_putsBack.data.toList.drop 0 = dktX0_putsBack_0 := by decide +kernel
theorem dX0_putsBack_0 : decode cX0_putsBack 0 = .ok (.aload_n 0, 1) := dk_42 (dk_at dksX0_putsBack_0 0 rfl rfl)
theorem dX0_putsBack_1 : decode cX0_putsBack 1 = .ok (.getfield 40, 3) := dk_180 0 40 (dk_at dksX0_putsBack_0 1 rfl rfl)
theorem dX0_putsBack_4 : decode cX0_putsBack 4 = .ok (.aload_n 0, 1) := dk_42 (dk_at dksX0_putsBack_0 4 rfl rfl)
theorem dX0_putsBack_5 : decode cX0_putsBack 5 = .ok (.getfield 50, 3) := dk_180 0 50 (dk_at dksX0_putsBack_0 5 rfl rfl)
theorem dX0_putsBack_8 : decode cX0_putsBack 8 = .ok (.invokevirtual 393, 3) := dk_182 1 137 (dk_at dksX0_putsBack_0 8 rfl rfl)
theorem dX0_putsBack_11 : decode cX0_putsBack 11 = .ok (.return_, 1) := dk_177 (dk_at dksX0_putsBack_0 11 rfl rfl)
abbrev cX0_lasts : ByteArray := prog_1_method_61_code
def yX0_lasts : MethodName := ⟨RX0, "lasts", "()I"⟩
def dkwX0_lasts_2 : List UInt8 := [28, 17, 1, 44, 163, 0, 7, 28, 167, 0, 5, 18, 3, 172]
abbrev dktX0_lasts_2 : List UInt8 := dkwX0_lasts_2 ++ []
def dkwX0_lasts_1 : List UInt8 := [180, 0, 40, 182, 1, 50, 27, 160, 0, 13, 42, 182, 1, 129, 132, 2, 1, 167, 255, 231, 42, 182, 1, 144]
abbrev dktX0_lasts_1 : List UInt8 := dkwX0_lasts_1 ++ dktX0_lasts_2
def dkwX0_lasts_0 : List UInt8 := [42, 182, 1, 141, 42, 180, 0, 40, 182, 1, 50, 60, 3, 61, 28, 17, 1, 44, 163, 0, 24, 42]
abbrev dktX0_lasts_0 : List UInt8 := dkwX0_lasts_0 ++ dktX0_lasts_1
theorem dksX0_lasts_0 : cX0_lasts.data.toList.drop 0 = dktX0_lasts_0 := by decide +kernel
theorem dksX0_lasts_1 : cX0_lasts.data.toList.drop 22 = dktX0_lasts_1 := dk_seg dksX0_lasts_0 22 rfl rfl
theorem dksX0_lasts_2 : cX0_lasts.data.toList.drop 46 = dktX0_lasts_2 := dk_seg dksX0_lasts_1 24 rfl rfl
theorem dX0_lasts_0 : decode cX0_lasts 0 = .ok (.aload_n 0, 1) := dk_42 (dk_at dksX0_lasts_0 0 rfl rfl)
theorem dX0_lasts_1 : decode cX0_lasts 1 = .ok (.invokevirtual 397, 3) := dk_182 1 141 (dk_at dksX0_lasts_0 1 rfl rfl)
theorem dX0_lasts_4 : decode cX0_lasts 4 = .ok (.aload_n 0, 1) := dk_42 (dk_at dksX0_lasts_0 4 rfl rfl)
theorem dX0_lasts_5 : decode cX0_lasts 5 = .ok (.getfield 40, 3) := dk_180 0 40 (dk_at dksX0_lasts_0 5 rfl rfl)
theorem dX0_lasts_8 : decode cX0_lasts 8 = .ok (.invokevirtual 306, 3) := dk_182 1 50 (dk_at dksX0_lasts_0 8 rfl rfl)
theorem dX0_lasts_11 : decode cX0_lasts 11 = .ok (.istore_n 1, 1) := dk_60 (dk_at dksX0_lasts_0 11 rfl rfl)
theorem dX0_lasts_12 : decode cX0_lasts 12 = .ok (.iconst 0, 1) := dk_3 (dk_at dksX0_lasts_0 12 rfl rfl)
theorem dX0_lasts_13 : decode cX0_lasts 13 = .ok (.istore_n 2, 1) := dk_61 (dk_at dksX0_lasts_0 13 rfl rfl)
theorem dX0_lasts_14 : decode cX0_lasts 14 = .ok (.iload_n 2, 1) := dk_28 (dk_at dksX0_lasts_0 14 rfl rfl)
theorem dX0_lasts_15 : decode cX0_lasts 15 = .ok (.sipush 300, 3) := dk_17 1 44 (dk_at dksX0_lasts_0 15 rfl rfl)
theorem dX0_lasts_18 : decode cX0_lasts 18 = .ok (.if_icmp .gt 24, 3) := dk_163 0 24 (dk_at dksX0_lasts_0 18 rfl rfl)
theorem dX0_lasts_21 : decode cX0_lasts 21 = .ok (.aload_n 0, 1) := dk_42 (dk_at dksX0_lasts_0 21 rfl rfl)
theorem dX0_lasts_22 : decode cX0_lasts 22 = .ok (.getfield 40, 3) := dk_180 0 40 (dk_at dksX0_lasts_1 0 rfl rfl)
theorem dX0_lasts_25 : decode cX0_lasts 25 = .ok (.invokevirtual 306, 3) := dk_182 1 50 (dk_at dksX0_lasts_1 3 rfl rfl)
theorem dX0_lasts_28 : decode cX0_lasts 28 = .ok (.iload_n 1, 1) := dk_27 (dk_at dksX0_lasts_1 6 rfl rfl)
theorem dX0_lasts_29 : decode cX0_lasts 29 = .ok (.if_icmp .ne 13, 3) := dk_160 0 13 (dk_at dksX0_lasts_1 7 rfl rfl)
theorem dX0_lasts_32 : decode cX0_lasts 32 = .ok (.aload_n 0, 1) := dk_42 (dk_at dksX0_lasts_1 10 rfl rfl)
theorem dX0_lasts_33 : decode cX0_lasts 33 = .ok (.invokevirtual 385, 3) := dk_182 1 129 (dk_at dksX0_lasts_1 11 rfl rfl)
theorem dX0_lasts_36 : decode cX0_lasts 36 = .ok (.iinc 2 1, 3) := dk_132 2 1 (dk_at dksX0_lasts_1 14 rfl rfl)
theorem dX0_lasts_39 : decode cX0_lasts 39 = .ok (.goto (-25), 3) := dk_167 255 231 (dk_at dksX0_lasts_1 17 rfl rfl)
theorem dX0_lasts_42 : decode cX0_lasts 42 = .ok (.aload_n 0, 1) := dk_42 (dk_at dksX0_lasts_1 20 rfl rfl)
theorem dX0_lasts_43 : decode cX0_lasts 43 = .ok (.invokevirtual 400, 3) := dk_182 1 144 (dk_at dksX0_lasts_1 21 rfl rfl)
theorem dX0_lasts_46 : decode cX0_lasts 46 = .ok (.iload_n 2, 1) := dk_28 (dk_at dksX0_lasts_2 0 rfl rfl)
theorem dX0_lasts_47 : decode cX0_lasts 47 = .ok (.sipush 300, 3) := dk_17 1 44 (dk_at dksX0_lasts_2 1 rfl rfl)
theorem dX0_lasts_50 : decode cX0_lasts 50 = .ok (.if_icmp .gt 7, 3) := dk_163 0 7 (dk_at dksX0_lasts_2 4 rfl rfl)
theorem dX0_lasts_53 : decode cX0_lasts 53 = .ok (.iload_n 2, 1) := dk_28 (dk_at dksX0_lasts_2 7 rfl rfl)
theorem dX0_lasts_54 : decode cX0_lasts 54 = .ok (.goto 5, 3) := dk_167 0 5 (dk_at dksX0_lasts_2 8 rfl rfl)
theorem dX0_lasts_57 : decode cX0_lasts 57 = .ok (.ldc 3, 2) := dk_18 3 (dk_at dksX0_lasts_2 11 rfl rfl)
theorem dX0_lasts_59 : decode cX0_lasts 59 = .ok (.ireturn, 1) := dk_172 (dk_at dksX0_lasts_2 13 rfl rfl)
abbrev cX0_taken : ByteArray := prog_1_method_63_code
def yX0_taken : MethodName := ⟨RX0, "taken", "(II)I"⟩
def dkwX0_taken_3 : List UInt8 := [21, 4, 2, 130, 126, 4, 27, 120, 2, 130, 126, 172]
abbrev dktX0_taken_3 : List UInt8 := dkwX0_taken_3 ++ []
def dkwX0_taken_2 : List UInt8 := [182, 1, 147, 62, 42, 180, 0, 40, 180, 1, 11, 27, 50, 182, 1, 94, 42, 28, 182, 1, 147, 54, 4, 29]
abbrev dktX0_taken_2 : List UInt8 := dkwX0_taken_2 ++ dktX0_taken_3
def dkwX0_taken_1 : List UInt8 := [180, 0, 40, 180, 1, 11, 27, 50, 180, 1, 46, 154, 0, 7, 19, 1, 93, 172, 42, 182, 1, 141, 42, 28]
abbrev dktX0_taken_1 : List UInt8 := dkwX0_taken_1 ++ dktX0_taken_2
def dkwX0_taken_0 : List UInt8 := [42, 27, 182, 1, 43, 153, 0, 13, 28, 4, 16, 60, 184, 0, 105, 154, 0, 6, 18, 130, 172, 42]
abbrev dktX0_taken_0 : List UInt8 := dkwX0_taken_0 ++ dktX0_taken_1
theorem dksX0_taken_0 : cX0_taken.data.toList.drop 0 = dktX0_taken_0 := by decide +kernel
theorem dksX0_taken_1 : cX0_taken.data.toList.drop 22 = dktX0_taken_1 := dk_seg dksX0_taken_0 22 rfl rfl
theorem dksX0_taken_2 : cX0_taken.data.toList.drop 46 = dktX0_taken_2 := dk_seg dksX0_taken_1 24 rfl rfl
theorem dksX0_taken_3 : cX0_taken.data.toList.drop 70 = dktX0_taken_3 := dk_seg dksX0_taken_2 24 rfl rfl
theorem dX0_taken_0 : decode cX0_taken 0 = .ok (.aload_n 0, 1) := dk_42 (dk_at dksX0_taken_0 0 rfl rfl)
theorem dX0_taken_1 : decode cX0_taken 1 = .ok (.iload_n 1, 1) := dk_27 (dk_at dksX0_taken_0 1 rfl rfl)
theorem dX0_taken_2 : decode cX0_taken 2 = .ok (.invokevirtual 299, 3) := dk_182 1 43 (dk_at dksX0_taken_0 2 rfl rfl)
theorem dX0_taken_5 : decode cX0_taken 5 = .ok (.ifCond .eq 13, 3) := dk_153 0 13 (dk_at dksX0_taken_0 5 rfl rfl)
theorem dX0_taken_8 : decode cX0_taken 8 = .ok (.iload_n 2, 1) := dk_28 (dk_at dksX0_taken_0 8 rfl rfl)
theorem dX0_taken_9 : decode cX0_taken 9 = .ok (.iconst 1, 1) := dk_4 (dk_at dksX0_taken_0 9 rfl rfl)
theorem dX0_taken_10 : decode cX0_taken 10 = .ok (.bipush 60, 2) := dk_16 60 (dk_at dksX0_taken_0 10 rfl rfl)
theorem dX0_taken_12 : decode cX0_taken 12 = .ok (.invokestatic 105, 3) := dk_184 0 105 (dk_at dksX0_taken_0 12 rfl rfl)
theorem dX0_taken_15 : decode cX0_taken 15 = .ok (.ifCond .ne 6, 3) := dk_154 0 6 (dk_at dksX0_taken_0 15 rfl rfl)
theorem dX0_taken_18 : decode cX0_taken 18 = .ok (.ldc 130, 2) := dk_18 130 (dk_at dksX0_taken_0 18 rfl rfl)
theorem dX0_taken_20 : decode cX0_taken 20 = .ok (.ireturn, 1) := dk_172 (dk_at dksX0_taken_0 20 rfl rfl)
theorem dX0_taken_21 : decode cX0_taken 21 = .ok (.aload_n 0, 1) := dk_42 (dk_at dksX0_taken_0 21 rfl rfl)
theorem dX0_taken_22 : decode cX0_taken 22 = .ok (.getfield 40, 3) := dk_180 0 40 (dk_at dksX0_taken_1 0 rfl rfl)
theorem dX0_taken_25 : decode cX0_taken 25 = .ok (.getfield 267, 3) := dk_180 1 11 (dk_at dksX0_taken_1 3 rfl rfl)
theorem dX0_taken_28 : decode cX0_taken 28 = .ok (.iload_n 1, 1) := dk_27 (dk_at dksX0_taken_1 6 rfl rfl)
theorem dX0_taken_29 : decode cX0_taken 29 = .ok (.aaload, 1) := dk_50 (dk_at dksX0_taken_1 7 rfl rfl)
theorem dX0_taken_30 : decode cX0_taken 30 = .ok (.getfield 302, 3) := dk_180 1 46 (dk_at dksX0_taken_1 8 rfl rfl)
theorem dX0_taken_33 : decode cX0_taken 33 = .ok (.ifCond .ne 7, 3) := dk_154 0 7 (dk_at dksX0_taken_1 11 rfl rfl)
theorem dX0_taken_36 : decode cX0_taken 36 = .ok (.ldc_w 349, 3) := dk_19 1 93 (dk_at dksX0_taken_1 14 rfl rfl)
theorem dX0_taken_39 : decode cX0_taken 39 = .ok (.ireturn, 1) := dk_172 (dk_at dksX0_taken_1 17 rfl rfl)
theorem dX0_taken_40 : decode cX0_taken 40 = .ok (.aload_n 0, 1) := dk_42 (dk_at dksX0_taken_1 18 rfl rfl)
theorem dX0_taken_41 : decode cX0_taken 41 = .ok (.invokevirtual 397, 3) := dk_182 1 141 (dk_at dksX0_taken_1 19 rfl rfl)
theorem dX0_taken_44 : decode cX0_taken 44 = .ok (.aload_n 0, 1) := dk_42 (dk_at dksX0_taken_1 22 rfl rfl)
theorem dX0_taken_45 : decode cX0_taken 45 = .ok (.iload_n 2, 1) := dk_28 (dk_at dksX0_taken_1 23 rfl rfl)
theorem dX0_taken_46 : decode cX0_taken 46 = .ok (.invokevirtual 403, 3) := dk_182 1 147 (dk_at dksX0_taken_2 0 rfl rfl)
theorem dX0_taken_49 : decode cX0_taken 49 = .ok (.istore_n 3, 1) := dk_62 (dk_at dksX0_taken_2 3 rfl rfl)
theorem dX0_taken_50 : decode cX0_taken 50 = .ok (.aload_n 0, 1) := dk_42 (dk_at dksX0_taken_2 4 rfl rfl)
theorem dX0_taken_51 : decode cX0_taken 51 = .ok (.getfield 40, 3) := dk_180 0 40 (dk_at dksX0_taken_2 5 rfl rfl)
theorem dX0_taken_54 : decode cX0_taken 54 = .ok (.getfield 267, 3) := dk_180 1 11 (dk_at dksX0_taken_2 8 rfl rfl)
theorem dX0_taken_57 : decode cX0_taken 57 = .ok (.iload_n 1, 1) := dk_27 (dk_at dksX0_taken_2 11 rfl rfl)
theorem dX0_taken_58 : decode cX0_taken 58 = .ok (.aaload, 1) := dk_50 (dk_at dksX0_taken_2 12 rfl rfl)
theorem dX0_taken_59 : decode cX0_taken 59 = .ok (.invokevirtual 350, 3) := dk_182 1 94 (dk_at dksX0_taken_2 13 rfl rfl)
theorem dX0_taken_62 : decode cX0_taken 62 = .ok (.aload_n 0, 1) := dk_42 (dk_at dksX0_taken_2 16 rfl rfl)
theorem dX0_taken_63 : decode cX0_taken 63 = .ok (.iload_n 2, 1) := dk_28 (dk_at dksX0_taken_2 17 rfl rfl)
theorem dX0_taken_64 : decode cX0_taken 64 = .ok (.invokevirtual 403, 3) := dk_182 1 147 (dk_at dksX0_taken_2 18 rfl rfl)
theorem dX0_taken_67 : decode cX0_taken 67 = .ok (.istore 4, 2) := dk_54 4 (dk_at dksX0_taken_2 21 rfl rfl)
theorem dX0_taken_69 : decode cX0_taken 69 = .ok (.iload_n 3, 1) := dk_29 (dk_at dksX0_taken_2 23 rfl rfl)
theorem dX0_taken_70 : decode cX0_taken 70 = .ok (.iload 4, 2) := dk_21 4 (dk_at dksX0_taken_3 0 rfl rfl)
theorem dX0_taken_72 : decode cX0_taken 72 = .ok (.iconst (-1), 1) := dk_2 (dk_at dksX0_taken_3 2 rfl rfl)
theorem dX0_taken_73 : decode cX0_taken 73 = .ok (.ixor, 1) := dk_130 (dk_at dksX0_taken_3 3 rfl rfl)
theorem dX0_taken_74 : decode cX0_taken 74 = .ok (.iand, 1) := dk_126 (dk_at dksX0_taken_3 4 rfl rfl)
theorem dX0_taken_75 : decode cX0_taken 75 = .ok (.iconst 1, 1) := dk_4 (dk_at dksX0_taken_3 5 rfl rfl)
theorem dX0_taken_76 : decode cX0_taken 76 = .ok (.iload_n 1, 1) := dk_27 (dk_at dksX0_taken_3 6 rfl rfl)
theorem dX0_taken_77 : decode cX0_taken 77 = .ok (.ishl, 1) := dk_120 (dk_at dksX0_taken_3 7 rfl rfl)
theorem dX0_taken_78 : decode cX0_taken 78 = .ok (.iconst (-1), 1) := dk_2 (dk_at dksX0_taken_3 8 rfl rfl)
theorem dX0_taken_79 : decode cX0_taken 79 = .ok (.ixor, 1) := dk_130 (dk_at dksX0_taken_3 9 rfl rfl)
theorem dX0_taken_80 : decode cX0_taken 80 = .ok (.iand, 1) := dk_126 (dk_at dksX0_taken_3 10 rfl rfl)
theorem dX0_taken_81 : decode cX0_taken 81 = .ok (.ireturn, 1) := dk_172 (dk_at dksX0_taken_3 11 rfl rfl)
abbrev cX0_standingBehind : ByteArray := prog_1_method_62_code
def yX0_standingBehind : MethodName := ⟨RX0, "standingBehind", "(I)I"⟩
def dkwX0_standingBehind_0 : List UInt8 := [42, 27, 182, 1, 132, 42, 180, 0, 40, 182, 1, 50, 61, 42, 182, 1, 144, 28, 172]
abbrev dktX0_standingBehind_0 : List UInt8 := dkwX0_standingBehind_0 ++ []
theorem dksX0_standingBehind_0 : cX0_standingBehind.data.toList.drop 0 = dktX0_standingBehind_0 := by decide +kernel
theorem dX0_standingBehind_0 : decode cX0_standingBehind 0 = .ok (.aload_n 0, 1) := dk_42 (dk_at dksX0_standingBehind_0 0 rfl rfl)
theorem dX0_standingBehind_1 : decode cX0_standingBehind 1 = .ok (.iload_n 1, 1) := dk_27 (dk_at dksX0_standingBehind_0 1 rfl rfl)
theorem dX0_standingBehind_2 : decode cX0_standingBehind 2 = .ok (.invokevirtual 388, 3) := dk_182 1 132 (dk_at dksX0_standingBehind_0 2 rfl rfl)
theorem dX0_standingBehind_5 : decode cX0_standingBehind 5 = .ok (.aload_n 0, 1) := dk_42 (dk_at dksX0_standingBehind_0 5 rfl rfl)
theorem dX0_standingBehind_6 : decode cX0_standingBehind 6 = .ok (.getfield 40, 3) := dk_180 0 40 (dk_at dksX0_standingBehind_0 6 rfl rfl)
theorem dX0_standingBehind_9 : decode cX0_standingBehind 9 = .ok (.invokevirtual 306, 3) := dk_182 1 50 (dk_at dksX0_standingBehind_0 9 rfl rfl)
theorem dX0_standingBehind_12 : decode cX0_standingBehind 12 = .ok (.istore_n 2, 1) := dk_61 (dk_at dksX0_standingBehind_0 12 rfl rfl)
theorem dX0_standingBehind_13 : decode cX0_standingBehind 13 = .ok (.aload_n 0, 1) := dk_42 (dk_at dksX0_standingBehind_0 13 rfl rfl)
theorem dX0_standingBehind_14 : decode cX0_standingBehind 14 = .ok (.invokevirtual 400, 3) := dk_182 1 144 (dk_at dksX0_standingBehind_0 14 rfl rfl)
theorem dX0_standingBehind_17 : decode cX0_standingBehind 17 = .ok (.iload_n 2, 1) := dk_28 (dk_at dksX0_standingBehind_0 17 rfl rfl)
theorem dX0_standingBehind_18 : decode cX0_standingBehind 18 = .ok (.ireturn, 1) := dk_172 (dk_at dksX0_standingBehind_0 18 rfl rfl)
abbrev cX0_propped : ByteArray := prog_1_method_64_code
def yX0_propped : MethodName := ⟨RX0, "propped", "(I)I"⟩
def dkwX0_propped_5 : List UInt8 := [132, 4, 1, 167, 255, 185, 132, 3, 1, 167, 255, 170, 18, 3, 172]
abbrev dktX0_propped_5 : List UInt8 := dkwX0_propped_5 ++ []
def dkwX0_propped_4 : List UInt8 := [29, 96, 181, 1, 66, 42, 27, 182, 1, 147, 28, 160, 0, 11, 16, 10, 21, 4, 104, 29, 96, 172]
abbrev dktX0_propped_4 : List UInt8 := dkwX0_propped_4 ++ dktX0_propped_5
def dkwX0_propped_3 : List UInt8 := [180, 1, 66, 29, 96, 16, 9, 163, 0, 39, 42, 180, 0, 40, 180, 1, 11, 21, 4, 50, 89, 180, 1, 66]
abbrev dktX0_propped_3 : List UInt8 := dkwX0_propped_3 ++ dktX0_propped_4
def dkwX0_propped_2 : List UInt8 := [21, 4, 42, 180, 0, 40, 180, 0, 101, 162, 0, 65, 42, 180, 0, 40, 180, 1, 11, 21, 4, 50]
abbrev dktX0_propped_2 : List UInt8 := dkwX0_propped_2 ++ dktX0_propped_3
def dkwX0_propped_1 : List UInt8 := [61, 42, 27, 182, 1, 147, 28, 160, 0, 5, 3, 172, 4, 62, 29, 16, 9, 163, 0, 86, 3, 54, 4]
abbrev dktX0_propped_1 : List UInt8 := dkwX0_propped_1 ++ dktX0_propped_2
def dkwX0_propped_0 : List UInt8 := [27, 4, 16, 40, 184, 0, 105, 154, 0, 6, 18, 130, 172, 42, 182, 1, 141, 42, 180, 0, 40, 182, 1, 50]
abbrev dktX0_propped_0 : List UInt8 := dkwX0_propped_0 ++ dktX0_propped_1
theorem dksX0_propped_0 : cX0_propped.data.toList.drop 0 = dktX0_propped_0 := by decide +kernel
theorem dksX0_propped_1 : cX0_propped.data.toList.drop 24 = dktX0_propped_1 := dk_seg dksX0_propped_0 24 rfl rfl
theorem dksX0_propped_2 : cX0_propped.data.toList.drop 47 = dktX0_propped_2 := dk_seg dksX0_propped_1 23 rfl rfl
theorem dksX0_propped_3 : cX0_propped.data.toList.drop 69 = dktX0_propped_3 := dk_seg dksX0_propped_2 22 rfl rfl
theorem dksX0_propped_4 : cX0_propped.data.toList.drop 93 = dktX0_propped_4 := dk_seg dksX0_propped_3 24 rfl rfl
theorem dksX0_propped_5 : cX0_propped.data.toList.drop 115 = dktX0_propped_5 := dk_seg dksX0_propped_4 22 rfl rfl
theorem dX0_propped_0 : decode cX0_propped 0 = .ok (.iload_n 1, 1) := dk_27 (dk_at dksX0_propped_0 0 rfl rfl)
theorem dX0_propped_1 : decode cX0_propped 1 = .ok (.iconst 1, 1) := dk_4 (dk_at dksX0_propped_0 1 rfl rfl)
theorem dX0_propped_2 : decode cX0_propped 2 = .ok (.bipush 40, 2) := dk_16 40 (dk_at dksX0_propped_0 2 rfl rfl)
theorem dX0_propped_4 : decode cX0_propped 4 = .ok (.invokestatic 105, 3) := dk_184 0 105 (dk_at dksX0_propped_0 4 rfl rfl)
theorem dX0_propped_7 : decode cX0_propped 7 = .ok (.ifCond .ne 6, 3) := dk_154 0 6 (dk_at dksX0_propped_0 7 rfl rfl)
theorem dX0_propped_10 : decode cX0_propped 10 = .ok (.ldc 130, 2) := dk_18 130 (dk_at dksX0_propped_0 10 rfl rfl)
theorem dX0_propped_12 : decode cX0_propped 12 = .ok (.ireturn, 1) := dk_172 (dk_at dksX0_propped_0 12 rfl rfl)
theorem dX0_propped_13 : decode cX0_propped 13 = .ok (.aload_n 0, 1) := dk_42 (dk_at dksX0_propped_0 13 rfl rfl)
theorem dX0_propped_14 : decode cX0_propped 14 = .ok (.invokevirtual 397, 3) := dk_182 1 141 (dk_at dksX0_propped_0 14 rfl rfl)
theorem dX0_propped_17 : decode cX0_propped 17 = .ok (.aload_n 0, 1) := dk_42 (dk_at dksX0_propped_0 17 rfl rfl)
theorem dX0_propped_18 : decode cX0_propped 18 = .ok (.getfield 40, 3) := dk_180 0 40 (dk_at dksX0_propped_0 18 rfl rfl)
theorem dX0_propped_21 : decode cX0_propped 21 = .ok (.invokevirtual 306, 3) := dk_182 1 50 (dk_at dksX0_propped_0 21 rfl rfl)
theorem dX0_propped_24 : decode cX0_propped 24 = .ok (.istore_n 2, 1) := dk_61 (dk_at dksX0_propped_1 0 rfl rfl)
theorem dX0_propped_25 : decode cX0_propped 25 = .ok (.aload_n 0, 1) := dk_42 (dk_at dksX0_propped_1 1 rfl rfl)
theorem dX0_propped_26 : decode cX0_propped 26 = .ok (.iload_n 1, 1) := dk_27 (dk_at dksX0_propped_1 2 rfl rfl)
theorem dX0_propped_27 : decode cX0_propped 27 = .ok (.invokevirtual 403, 3) := dk_182 1 147 (dk_at dksX0_propped_1 3 rfl rfl)
theorem dX0_propped_30 : decode cX0_propped 30 = .ok (.iload_n 2, 1) := dk_28 (dk_at dksX0_propped_1 6 rfl rfl)
theorem dX0_propped_31 : decode cX0_propped 31 = .ok (.if_icmp .ne 5, 3) := dk_160 0 5 (dk_at dksX0_propped_1 7 rfl rfl)
theorem dX0_propped_34 : decode cX0_propped 34 = .ok (.iconst 0, 1) := dk_3 (dk_at dksX0_propped_1 10 rfl rfl)
theorem dX0_propped_35 : decode cX0_propped 35 = .ok (.ireturn, 1) := dk_172 (dk_at dksX0_propped_1 11 rfl rfl)
theorem dX0_propped_36 : decode cX0_propped 36 = .ok (.iconst 1, 1) := dk_4 (dk_at dksX0_propped_1 12 rfl rfl)
theorem dX0_propped_37 : decode cX0_propped 37 = .ok (.istore_n 3, 1) := dk_62 (dk_at dksX0_propped_1 13 rfl rfl)
theorem dX0_propped_38 : decode cX0_propped 38 = .ok (.iload_n 3, 1) := dk_29 (dk_at dksX0_propped_1 14 rfl rfl)
theorem dX0_propped_39 : decode cX0_propped 39 = .ok (.bipush 9, 2) := dk_16 9 (dk_at dksX0_propped_1 15 rfl rfl)
theorem dX0_propped_41 : decode cX0_propped 41 = .ok (.if_icmp .gt 86, 3) := dk_163 0 86 (dk_at dksX0_propped_1 17 rfl rfl)
theorem dX0_propped_44 : decode cX0_propped 44 = .ok (.iconst 0, 1) := dk_3 (dk_at dksX0_propped_1 20 rfl rfl)
theorem dX0_propped_45 : decode cX0_propped 45 = .ok (.istore 4, 2) := dk_54 4 (dk_at dksX0_propped_1 21 rfl rfl)
theorem dX0_propped_47 : decode cX0_propped 47 = .ok (.iload 4, 2) := dk_21 4 (dk_at dksX0_propped_2 0 rfl rfl)
theorem dX0_propped_49 : decode cX0_propped 49 = .ok (.aload_n 0, 1) := dk_42 (dk_at dksX0_propped_2 2 rfl rfl)
theorem dX0_propped_50 : decode cX0_propped 50 = .ok (.getfield 40, 3) := dk_180 0 40 (dk_at dksX0_propped_2 3 rfl rfl)
theorem dX0_propped_53 : decode cX0_propped 53 = .ok (.getfield 101, 3) := dk_180 0 101 (dk_at dksX0_propped_2 6 rfl rfl)
theorem dX0_propped_56 : decode cX0_propped 56 = .ok (.if_icmp .ge 65, 3) := dk_162 0 65 (dk_at dksX0_propped_2 9 rfl rfl)
theorem dX0_propped_59 : decode cX0_propped 59 = .ok (.aload_n 0, 1) := dk_42 (dk_at dksX0_propped_2 12 rfl rfl)
theorem dX0_propped_60 : decode cX0_propped 60 = .ok (.getfield 40, 3) := dk_180 0 40 (dk_at dksX0_propped_2 13 rfl rfl)
theorem dX0_propped_63 : decode cX0_propped 63 = .ok (.getfield 267, 3) := dk_180 1 11 (dk_at dksX0_propped_2 16 rfl rfl)
theorem dX0_propped_66 : decode cX0_propped 66 = .ok (.iload 4, 2) := dk_21 4 (dk_at dksX0_propped_2 19 rfl rfl)
theorem dX0_propped_68 : decode cX0_propped 68 = .ok (.aaload, 1) := dk_50 (dk_at dksX0_propped_2 21 rfl rfl)
theorem dX0_propped_69 : decode cX0_propped 69 = .ok (.getfield 322, 3) := dk_180 1 66 (dk_at dksX0_propped_3 0 rfl rfl)
theorem dX0_propped_72 : decode cX0_propped 72 = .ok (.iload_n 3, 1) := dk_29 (dk_at dksX0_propped_3 3 rfl rfl)
theorem dX0_propped_73 : decode cX0_propped 73 = .ok (.iadd, 1) := dk_96 (dk_at dksX0_propped_3 4 rfl rfl)
theorem dX0_propped_74 : decode cX0_propped 74 = .ok (.bipush 9, 2) := dk_16 9 (dk_at dksX0_propped_3 5 rfl rfl)
theorem dX0_propped_76 : decode cX0_propped 76 = .ok (.if_icmp .gt 39, 3) := dk_163 0 39 (dk_at dksX0_propped_3 7 rfl rfl)
theorem dX0_propped_79 : decode cX0_propped 79 = .ok (.aload_n 0, 1) := dk_42 (dk_at dksX0_propped_3 10 rfl rfl)
theorem dX0_propped_80 : decode cX0_propped 80 = .ok (.getfield 40, 3) := dk_180 0 40 (dk_at dksX0_propped_3 11 rfl rfl)
theorem dX0_propped_83 : decode cX0_propped 83 = .ok (.getfield 267, 3) := dk_180 1 11 (dk_at dksX0_propped_3 14 rfl rfl)
theorem dX0_propped_86 : decode cX0_propped 86 = .ok (.iload 4, 2) := dk_21 4 (dk_at dksX0_propped_3 17 rfl rfl)
theorem dX0_propped_88 : decode cX0_propped 88 = .ok (.aaload, 1) := dk_50 (dk_at dksX0_propped_3 19 rfl rfl)
theorem dX0_propped_89 : decode cX0_propped 89 = .ok (.dup, 1) := dk_89 (dk_at dksX0_propped_3 20 rfl rfl)
theorem dX0_propped_90 : decode cX0_propped 90 = .ok (.getfield 322, 3) := dk_180 1 66 (dk_at dksX0_propped_3 21 rfl rfl)
theorem dX0_propped_93 : decode cX0_propped 93 = .ok (.iload_n 3, 1) := dk_29 (dk_at dksX0_propped_4 0 rfl rfl)
theorem dX0_propped_94 : decode cX0_propped 94 = .ok (.iadd, 1) := dk_96 (dk_at dksX0_propped_4 1 rfl rfl)
theorem dX0_propped_95 : decode cX0_propped 95 = .ok (.putfield 322, 3) := dk_181 1 66 (dk_at dksX0_propped_4 2 rfl rfl)
theorem dX0_propped_98 : decode cX0_propped 98 = .ok (.aload_n 0, 1) := dk_42 (dk_at dksX0_propped_4 5 rfl rfl)
theorem dX0_propped_99 : decode cX0_propped 99 = .ok (.iload_n 1, 1) := dk_27 (dk_at dksX0_propped_4 6 rfl rfl)
theorem dX0_propped_100 : decode cX0_propped 100 = .ok (.invokevirtual 403, 3) := dk_182 1 147 (dk_at dksX0_propped_4 7 rfl rfl)
theorem dX0_propped_103 : decode cX0_propped 103 = .ok (.iload_n 2, 1) := dk_28 (dk_at dksX0_propped_4 10 rfl rfl)
theorem dX0_propped_104 : decode cX0_propped 104 = .ok (.if_icmp .ne 11, 3) := dk_160 0 11 (dk_at dksX0_propped_4 11 rfl rfl)
theorem dX0_propped_107 : decode cX0_propped 107 = .ok (.bipush 10, 2) := dk_16 10 (dk_at dksX0_propped_4 14 rfl rfl)
theorem dX0_propped_109 : decode cX0_propped 109 = .ok (.iload 4, 2) := dk_21 4 (dk_at dksX0_propped_4 16 rfl rfl)
theorem dX0_propped_111 : decode cX0_propped 111 = .ok (.imul, 1) := dk_104 (dk_at dksX0_propped_4 18 rfl rfl)
theorem dX0_propped_112 : decode cX0_propped 112 = .ok (.iload_n 3, 1) := dk_29 (dk_at dksX0_propped_4 19 rfl rfl)
theorem dX0_propped_113 : decode cX0_propped 113 = .ok (.iadd, 1) := dk_96 (dk_at dksX0_propped_4 20 rfl rfl)
theorem dX0_propped_114 : decode cX0_propped 114 = .ok (.ireturn, 1) := dk_172 (dk_at dksX0_propped_4 21 rfl rfl)
theorem dX0_propped_115 : decode cX0_propped 115 = .ok (.iinc 4 1, 3) := dk_132 4 1 (dk_at dksX0_propped_5 0 rfl rfl)
theorem dX0_propped_118 : decode cX0_propped 118 = .ok (.goto (-71), 3) := dk_167 255 185 (dk_at dksX0_propped_5 3 rfl rfl)
theorem dX0_propped_121 : decode cX0_propped 121 = .ok (.iinc 3 1, 3) := dk_132 3 1 (dk_at dksX0_propped_5 6 rfl rfl)
theorem dX0_propped_124 : decode cX0_propped 124 = .ok (.goto (-86), 3) := dk_167 255 170 (dk_at dksX0_propped_5 9 rfl rfl)
theorem dX0_propped_127 : decode cX0_propped 127 = .ok (.ldc 3, 2) := dk_18 3 (dk_at dksX0_propped_5 12 rfl rfl)
theorem dX0_propped_129 : decode cX0_propped 129 = .ok (.ireturn, 1) := dk_172 (dk_at dksX0_propped_5 14 rfl rfl)
abbrev cX0_wall : ByteArray := prog_1_method_65_code
def yX0_wall : MethodName := ⟨RX0, "wall", "(II)I"⟩
def dkwX0_wall_5 : List UInt8 := [167, 0, 13, 28, 154, 0, 7, 29, 167, 0, 5, 21, 4, 172]
abbrev dktX0_wall_5 : List UInt8 := dkwX0_wall_5 ++ []
def dkwX0_wall_4 : List UInt8 := [21, 4, 21, 6, 184, 0, 10, 54, 4, 132, 5, 1, 167, 255, 186, 29, 2, 160, 0, 8, 18, 3]
abbrev dktX0_wall_4 : List UInt8 := dkwX0_wall_4 ++ dktX0_wall_5
def dkwX0_wall_3 : List UInt8 := [182, 1, 147, 184, 1, 97, 100, 54, 6, 21, 6, 21, 4, 164, 0, 8, 21, 5, 167, 0, 4, 29, 62]
abbrev dktX0_wall_3 : List UInt8 := dkwX0_wall_3 ++ dktX0_wall_4
def dkwX0_wall_2 : List UInt8 := [180, 0, 40, 180, 1, 11, 21, 5, 50, 3, 181, 1, 8, 42, 180, 0, 40, 180, 0, 101, 42, 27]
abbrev dktX0_wall_2 : List UInt8 := dkwX0_wall_2 ++ dktX0_wall_3
def dkwX0_wall_1 : List UInt8 := [182, 1, 141, 2, 62, 2, 54, 4, 3, 54, 5, 21, 5, 42, 180, 0, 40, 180, 0, 101, 162, 0, 64, 42]
abbrev dktX0_wall_1 : List UInt8 := dkwX0_wall_1 ++ dktX0_wall_2
def dkwX0_wall_0 : List UInt8 := [27, 4, 16, 60, 184, 0, 105, 153, 0, 12, 28, 3, 4, 184, 0, 105, 154, 0, 6, 18, 130, 172, 42]
abbrev dktX0_wall_0 : List UInt8 := dkwX0_wall_0 ++ dktX0_wall_1
theorem dksX0_wall_0 : cX0_wall.data.toList.drop 0 = dktX0_wall_0 := by decide +kernel
theorem dksX0_wall_1 : cX0_wall.data.toList.drop 23 = dktX0_wall_1 := dk_seg dksX0_wall_0 23 rfl rfl
theorem dksX0_wall_2 : cX0_wall.data.toList.drop 47 = dktX0_wall_2 := dk_seg dksX0_wall_1 24 rfl rfl
theorem dksX0_wall_3 : cX0_wall.data.toList.drop 69 = dktX0_wall_3 := dk_seg dksX0_wall_2 22 rfl rfl
theorem dksX0_wall_4 : cX0_wall.data.toList.drop 92 = dktX0_wall_4 := dk_seg dksX0_wall_3 23 rfl rfl
theorem dksX0_wall_5 : cX0_wall.data.toList.drop 114 = dktX0_wall_5 := dk_seg dksX0_wall_4 22 rfl rfl
theorem dX0_wall_0 : decode cX0_wall 0 = .ok (.iload_n 1, 1) := dk_27 (dk_at dksX0_wall_0 0 rfl rfl)
theorem dX0_wall_1 : decode cX0_wall 1 = .ok (.iconst 1, 1) := dk_4 (dk_at dksX0_wall_0 1 rfl rfl)
theorem dX0_wall_2 : decode cX0_wall 2 = .ok (.bipush 60, 2) := dk_16 60 (dk_at dksX0_wall_0 2 rfl rfl)
theorem dX0_wall_4 : decode cX0_wall 4 = .ok (.invokestatic 105, 3) := dk_184 0 105 (dk_at dksX0_wall_0 4 rfl rfl)
theorem dX0_wall_7 : decode cX0_wall 7 = .ok (.ifCond .eq 12, 3) := dk_153 0 12 (dk_at dksX0_wall_0 7 rfl rfl)
theorem dX0_wall_10 : decode cX0_wall 10 = .ok (.iload_n 2, 1) := dk_28 (dk_at dksX0_wall_0 10 rfl rfl)
theorem dX0_wall_11 : decode cX0_wall 11 = .ok (.iconst 0, 1) := dk_3 (dk_at dksX0_wall_0 11 rfl rfl)
theorem dX0_wall_12 : decode cX0_wall 12 = .ok (.iconst 1, 1) := dk_4 (dk_at dksX0_wall_0 12 rfl rfl)
theorem dX0_wall_13 : decode cX0_wall 13 = .ok (.invokestatic 105, 3) := dk_184 0 105 (dk_at dksX0_wall_0 13 rfl rfl)
theorem dX0_wall_16 : decode cX0_wall 16 = .ok (.ifCond .ne 6, 3) := dk_154 0 6 (dk_at dksX0_wall_0 16 rfl rfl)
theorem dX0_wall_19 : decode cX0_wall 19 = .ok (.ldc 130, 2) := dk_18 130 (dk_at dksX0_wall_0 19 rfl rfl)
theorem dX0_wall_21 : decode cX0_wall 21 = .ok (.ireturn, 1) := dk_172 (dk_at dksX0_wall_0 21 rfl rfl)
theorem dX0_wall_22 : decode cX0_wall 22 = .ok (.aload_n 0, 1) := dk_42 (dk_at dksX0_wall_0 22 rfl rfl)
theorem dX0_wall_23 : decode cX0_wall 23 = .ok (.invokevirtual 397, 3) := dk_182 1 141 (dk_at dksX0_wall_1 0 rfl rfl)
theorem dX0_wall_26 : decode cX0_wall 26 = .ok (.iconst (-1), 1) := dk_2 (dk_at dksX0_wall_1 3 rfl rfl)
theorem dX0_wall_27 : decode cX0_wall 27 = .ok (.istore_n 3, 1) := dk_62 (dk_at dksX0_wall_1 4 rfl rfl)
theorem dX0_wall_28 : decode cX0_wall 28 = .ok (.iconst (-1), 1) := dk_2 (dk_at dksX0_wall_1 5 rfl rfl)
theorem dX0_wall_29 : decode cX0_wall 29 = .ok (.istore 4, 2) := dk_54 4 (dk_at dksX0_wall_1 6 rfl rfl)
theorem dX0_wall_31 : decode cX0_wall 31 = .ok (.iconst 0, 1) := dk_3 (dk_at dksX0_wall_1 8 rfl rfl)
theorem dX0_wall_32 : decode cX0_wall 32 = .ok (.istore 5, 2) := dk_54 5 (dk_at dksX0_wall_1 9 rfl rfl)
theorem dX0_wall_34 : decode cX0_wall 34 = .ok (.iload 5, 2) := dk_21 5 (dk_at dksX0_wall_1 11 rfl rfl)
theorem dX0_wall_36 : decode cX0_wall 36 = .ok (.aload_n 0, 1) := dk_42 (dk_at dksX0_wall_1 13 rfl rfl)
theorem dX0_wall_37 : decode cX0_wall 37 = .ok (.getfield 40, 3) := dk_180 0 40 (dk_at dksX0_wall_1 14 rfl rfl)
theorem dX0_wall_40 : decode cX0_wall 40 = .ok (.getfield 101, 3) := dk_180 0 101 (dk_at dksX0_wall_1 17 rfl rfl)
theorem dX0_wall_43 : decode cX0_wall 43 = .ok (.if_icmp .ge 64, 3) := dk_162 0 64 (dk_at dksX0_wall_1 20 rfl rfl)
theorem dX0_wall_46 : decode cX0_wall 46 = .ok (.aload_n 0, 1) := dk_42 (dk_at dksX0_wall_1 23 rfl rfl)
theorem dX0_wall_47 : decode cX0_wall 47 = .ok (.getfield 40, 3) := dk_180 0 40 (dk_at dksX0_wall_2 0 rfl rfl)
theorem dX0_wall_50 : decode cX0_wall 50 = .ok (.getfield 267, 3) := dk_180 1 11 (dk_at dksX0_wall_2 3 rfl rfl)
theorem dX0_wall_53 : decode cX0_wall 53 = .ok (.iload 5, 2) := dk_21 5 (dk_at dksX0_wall_2 6 rfl rfl)
theorem dX0_wall_55 : decode cX0_wall 55 = .ok (.aaload, 1) := dk_50 (dk_at dksX0_wall_2 8 rfl rfl)
theorem dX0_wall_56 : decode cX0_wall 56 = .ok (.iconst 0, 1) := dk_3 (dk_at dksX0_wall_2 9 rfl rfl)
theorem dX0_wall_57 : decode cX0_wall 57 = .ok (.putfield 264, 3) := dk_181 1 8 (dk_at dksX0_wall_2 10 rfl rfl)
theorem dX0_wall_60 : decode cX0_wall 60 = .ok (.aload_n 0, 1) := dk_42 (dk_at dksX0_wall_2 13 rfl rfl)
theorem dX0_wall_61 : decode cX0_wall 61 = .ok (.getfield 40, 3) := dk_180 0 40 (dk_at dksX0_wall_2 14 rfl rfl)
theorem dX0_wall_64 : decode cX0_wall 64 = .ok (.getfield 101, 3) := dk_180 0 101 (dk_at dksX0_wall_2 17 rfl rfl)
theorem dX0_wall_67 : decode cX0_wall 67 = .ok (.aload_n 0, 1) := dk_42 (dk_at dksX0_wall_2 20 rfl rfl)
theorem dX0_wall_68 : decode cX0_wall 68 = .ok (.iload_n 1, 1) := dk_27 (dk_at dksX0_wall_2 21 rfl rfl)
theorem dX0_wall_69 : decode cX0_wall 69 = .ok (.invokevirtual 403, 3) := dk_182 1 147 (dk_at dksX0_wall_3 0 rfl rfl)
theorem dX0_wall_72 : decode cX0_wall 72 = .ok (.invokestatic 353, 3) := dk_184 1 97 (dk_at dksX0_wall_3 3 rfl rfl)
theorem dX0_wall_75 : decode cX0_wall 75 = .ok (.isub, 1) := dk_100 (dk_at dksX0_wall_3 6 rfl rfl)
theorem dX0_wall_76 : decode cX0_wall 76 = .ok (.istore 6, 2) := dk_54 6 (dk_at dksX0_wall_3 7 rfl rfl)
theorem dX0_wall_78 : decode cX0_wall 78 = .ok (.iload 6, 2) := dk_21 6 (dk_at dksX0_wall_3 9 rfl rfl)
theorem dX0_wall_80 : decode cX0_wall 80 = .ok (.iload 4, 2) := dk_21 4 (dk_at dksX0_wall_3 11 rfl rfl)
theorem dX0_wall_82 : decode cX0_wall 82 = .ok (.if_icmp .le 8, 3) := dk_164 0 8 (dk_at dksX0_wall_3 13 rfl rfl)
theorem dX0_wall_85 : decode cX0_wall 85 = .ok (.iload 5, 2) := dk_21 5 (dk_at dksX0_wall_3 16 rfl rfl)
theorem dX0_wall_87 : decode cX0_wall 87 = .ok (.goto 4, 3) := dk_167 0 4 (dk_at dksX0_wall_3 18 rfl rfl)
theorem dX0_wall_90 : decode cX0_wall 90 = .ok (.iload_n 3, 1) := dk_29 (dk_at dksX0_wall_3 21 rfl rfl)
theorem dX0_wall_91 : decode cX0_wall 91 = .ok (.istore_n 3, 1) := dk_62 (dk_at dksX0_wall_3 22 rfl rfl)
theorem dX0_wall_92 : decode cX0_wall 92 = .ok (.iload 4, 2) := dk_21 4 (dk_at dksX0_wall_4 0 rfl rfl)
theorem dX0_wall_94 : decode cX0_wall 94 = .ok (.iload 6, 2) := dk_21 6 (dk_at dksX0_wall_4 2 rfl rfl)
theorem dX0_wall_96 : decode cX0_wall 96 = .ok (.invokestatic 10, 3) := dk_184 0 10 (dk_at dksX0_wall_4 4 rfl rfl)
theorem dX0_wall_99 : decode cX0_wall 99 = .ok (.istore 4, 2) := dk_54 4 (dk_at dksX0_wall_4 7 rfl rfl)
theorem dX0_wall_101 : decode cX0_wall 101 = .ok (.iinc 5 1, 3) := dk_132 5 1 (dk_at dksX0_wall_4 9 rfl rfl)
theorem dX0_wall_104 : decode cX0_wall 104 = .ok (.goto (-70), 3) := dk_167 255 186 (dk_at dksX0_wall_4 12 rfl rfl)
theorem dX0_wall_107 : decode cX0_wall 107 = .ok (.iload_n 3, 1) := dk_29 (dk_at dksX0_wall_4 15 rfl rfl)
theorem dX0_wall_108 : decode cX0_wall 108 = .ok (.iconst (-1), 1) := dk_2 (dk_at dksX0_wall_4 16 rfl rfl)
theorem dX0_wall_109 : decode cX0_wall 109 = .ok (.if_icmp .ne 8, 3) := dk_160 0 8 (dk_at dksX0_wall_4 17 rfl rfl)
theorem dX0_wall_112 : decode cX0_wall 112 = .ok (.ldc 3, 2) := dk_18 3 (dk_at dksX0_wall_4 20 rfl rfl)
theorem dX0_wall_114 : decode cX0_wall 114 = .ok (.goto 13, 3) := dk_167 0 13 (dk_at dksX0_wall_5 0 rfl rfl)
theorem dX0_wall_117 : decode cX0_wall 117 = .ok (.iload_n 2, 1) := dk_28 (dk_at dksX0_wall_5 3 rfl rfl)
theorem dX0_wall_118 : decode cX0_wall 118 = .ok (.ifCond .ne 7, 3) := dk_154 0 7 (dk_at dksX0_wall_5 4 rfl rfl)
theorem dX0_wall_121 : decode cX0_wall 121 = .ok (.iload_n 3, 1) := dk_29 (dk_at dksX0_wall_5 7 rfl rfl)
theorem dX0_wall_122 : decode cX0_wall 122 = .ok (.goto 5, 3) := dk_167 0 5 (dk_at dksX0_wall_5 8 rfl rfl)
theorem dX0_wall_125 : decode cX0_wall 125 = .ok (.iload 4, 2) := dk_21 4 (dk_at dksX0_wall_5 11 rfl rfl)
theorem dX0_wall_127 : decode cX0_wall 127 = .ok (.ireturn, 1) := dk_172 (dk_at dksX0_wall_5 13 rfl rfl)
abbrev cX0_snows : ByteArray := prog_1_method_66_code
def yX0_snows : MethodName := ⟨RX0, "snows", "(I)I"⟩
def dkwX0_snows_3 : List UInt8 := [167, 255, 218, 29, 184, 0, 251, 172]
abbrev dktX0_snows_3 : List UInt8 := dkwX0_snows_3 ++ []
def dkwX0_snows_2 : List UInt8 := [181, 1, 56, 42, 27, 182, 1, 147, 28, 160, 0, 8, 21, 4, 167, 0, 4, 2, 62, 132, 4, 255]
abbrev dktX0_snows_2 : List UInt8 := dkwX0_snows_2 ++ dktX0_snows_3
def dkwX0_snows_1 : List UInt8 := [61, 2, 62, 16, 20, 54, 4, 21, 4, 155, 0, 39, 29, 2, 160, 0, 34, 42, 180, 0, 40, 21, 4]
abbrev dktX0_snows_1 : List UInt8 := dkwX0_snows_1 ++ dktX0_snows_2
def dkwX0_snows_0 : List UInt8 := [27, 4, 16, 60, 184, 0, 105, 154, 0, 6, 18, 130, 172, 42, 182, 1, 141, 42, 180, 0, 40, 182, 1, 50]
abbrev dktX0_snows_0 : List UInt8 := dkwX0_snows_0 ++ dktX0_snows_1
theorem dksX0_snows_0 : cX0_snows.data.toList.drop 0 = dktX0_snows_0 := by decide +kernel
theorem dksX0_snows_1 : cX0_snows.data.toList.drop 24 = dktX0_snows_1 := dk_seg dksX0_snows_0 24 rfl rfl
theorem dksX0_snows_2 : cX0_snows.data.toList.drop 47 = dktX0_snows_2 := dk_seg dksX0_snows_1 23 rfl rfl
theorem dksX0_snows_3 : cX0_snows.data.toList.drop 69 = dktX0_snows_3 := dk_seg dksX0_snows_2 22 rfl rfl
theorem dX0_snows_0 : decode cX0_snows 0 = .ok (.iload_n 1, 1) := dk_27 (dk_at dksX0_snows_0 0 rfl rfl)
theorem dX0_snows_1 : decode cX0_snows 1 = .ok (.iconst 1, 1) := dk_4 (dk_at dksX0_snows_0 1 rfl rfl)
theorem dX0_snows_2 : decode cX0_snows 2 = .ok (.bipush 60, 2) := dk_16 60 (dk_at dksX0_snows_0 2 rfl rfl)
theorem dX0_snows_4 : decode cX0_snows 4 = .ok (.invokestatic 105, 3) := dk_184 0 105 (dk_at dksX0_snows_0 4 rfl rfl)
theorem dX0_snows_7 : decode cX0_snows 7 = .ok (.ifCond .ne 6, 3) := dk_154 0 6 (dk_at dksX0_snows_0 7 rfl rfl)
theorem dX0_snows_10 : decode cX0_snows 10 = .ok (.ldc 130, 2) := dk_18 130 (dk_at dksX0_snows_0 10 rfl rfl)
theorem dX0_snows_12 : decode cX0_snows 12 = .ok (.ireturn, 1) := dk_172 (dk_at dksX0_snows_0 12 rfl rfl)
theorem dX0_snows_13 : decode cX0_snows 13 = .ok (.aload_n 0, 1) := dk_42 (dk_at dksX0_snows_0 13 rfl rfl)
theorem dX0_snows_14 : decode cX0_snows 14 = .ok (.invokevirtual 397, 3) := dk_182 1 141 (dk_at dksX0_snows_0 14 rfl rfl)
theorem dX0_snows_17 : decode cX0_snows 17 = .ok (.aload_n 0, 1) := dk_42 (dk_at dksX0_snows_0 17 rfl rfl)
theorem dX0_snows_18 : decode cX0_snows 18 = .ok (.getfield 40, 3) := dk_180 0 40 (dk_at dksX0_snows_0 18 rfl rfl)
theorem dX0_snows_21 : decode cX0_snows 21 = .ok (.invokevirtual 306, 3) := dk_182 1 50 (dk_at dksX0_snows_0 21 rfl rfl)
theorem dX0_snows_24 : decode cX0_snows 24 = .ok (.istore_n 2, 1) := dk_61 (dk_at dksX0_snows_1 0 rfl rfl)
theorem dX0_snows_25 : decode cX0_snows 25 = .ok (.iconst (-1), 1) := dk_2 (dk_at dksX0_snows_1 1 rfl rfl)
theorem dX0_snows_26 : decode cX0_snows 26 = .ok (.istore_n 3, 1) := dk_62 (dk_at dksX0_snows_1 2 rfl rfl)
theorem dX0_snows_27 : decode cX0_snows 27 = .ok (.bipush 20, 2) := dk_16 20 (dk_at dksX0_snows_1 3 rfl rfl)
theorem dX0_snows_29 : decode cX0_snows 29 = .ok (.istore 4, 2) := dk_54 4 (dk_at dksX0_snows_1 5 rfl rfl)
theorem dX0_snows_31 : decode cX0_snows 31 = .ok (.iload 4, 2) := dk_21 4 (dk_at dksX0_snows_1 7 rfl rfl)
theorem dX0_snows_33 : decode cX0_snows 33 = .ok (.ifCond .lt 39, 3) := dk_155 0 39 (dk_at dksX0_snows_1 9 rfl rfl)
theorem dX0_snows_36 : decode cX0_snows 36 = .ok (.iload_n 3, 1) := dk_29 (dk_at dksX0_snows_1 12 rfl rfl)
theorem dX0_snows_37 : decode cX0_snows 37 = .ok (.iconst (-1), 1) := dk_2 (dk_at dksX0_snows_1 13 rfl rfl)
theorem dX0_snows_38 : decode cX0_snows 38 = .ok (.if_icmp .ne 34, 3) := dk_160 0 34 (dk_at dksX0_snows_1 14 rfl rfl)
theorem dX0_snows_41 : decode cX0_snows 41 = .ok (.aload_n 0, 1) := dk_42 (dk_at dksX0_snows_1 17 rfl rfl)
theorem dX0_snows_42 : decode cX0_snows 42 = .ok (.getfield 40, 3) := dk_180 0 40 (dk_at dksX0_snows_1 18 rfl rfl)
theorem dX0_snows_45 : decode cX0_snows 45 = .ok (.iload 4, 2) := dk_21 4 (dk_at dksX0_snows_1 21 rfl rfl)
theorem dX0_snows_47 : decode cX0_snows 47 = .ok (.putfield 312, 3) := dk_181 1 56 (dk_at dksX0_snows_2 0 rfl rfl)
theorem dX0_snows_50 : decode cX0_snows 50 = .ok (.aload_n 0, 1) := dk_42 (dk_at dksX0_snows_2 3 rfl rfl)
theorem dX0_snows_51 : decode cX0_snows 51 = .ok (.iload_n 1, 1) := dk_27 (dk_at dksX0_snows_2 4 rfl rfl)
theorem dX0_snows_52 : decode cX0_snows 52 = .ok (.invokevirtual 403, 3) := dk_182 1 147 (dk_at dksX0_snows_2 5 rfl rfl)
theorem dX0_snows_55 : decode cX0_snows 55 = .ok (.iload_n 2, 1) := dk_28 (dk_at dksX0_snows_2 8 rfl rfl)
theorem dX0_snows_56 : decode cX0_snows 56 = .ok (.if_icmp .ne 8, 3) := dk_160 0 8 (dk_at dksX0_snows_2 9 rfl rfl)
theorem dX0_snows_59 : decode cX0_snows 59 = .ok (.iload 4, 2) := dk_21 4 (dk_at dksX0_snows_2 12 rfl rfl)
theorem dX0_snows_61 : decode cX0_snows 61 = .ok (.goto 4, 3) := dk_167 0 4 (dk_at dksX0_snows_2 14 rfl rfl)
theorem dX0_snows_64 : decode cX0_snows 64 = .ok (.iconst (-1), 1) := dk_2 (dk_at dksX0_snows_2 17 rfl rfl)
theorem dX0_snows_65 : decode cX0_snows 65 = .ok (.istore_n 3, 1) := dk_62 (dk_at dksX0_snows_2 18 rfl rfl)
theorem dX0_snows_66 : decode cX0_snows 66 = .ok (.iinc 4 (-1), 3) := dk_132 4 255 (dk_at dksX0_snows_2 19 rfl rfl)
theorem dX0_snows_69 : decode cX0_snows 69 = .ok (.goto (-38), 3) := dk_167 255 218 (dk_at dksX0_snows_3 0 rfl rfl)
theorem dX0_snows_72 : decode cX0_snows 72 = .ok (.iload_n 3, 1) := dk_29 (dk_at dksX0_snows_3 3 rfl rfl)
theorem dX0_snows_73 : decode cX0_snows 73 = .ok (.invokestatic 251, 3) := dk_184 0 251 (dk_at dksX0_snows_3 4 rfl rfl)
theorem dX0_snows_76 : decode cX0_snows 76 = .ok (.ireturn, 1) := dk_172 (dk_at dksX0_snows_3 7 rfl rfl)
abbrev cX0_fee : ByteArray := prog_1_method_67_code
def yX0_fee : MethodName := ⟨RX0, "fee", "()I"⟩
def dkwX0_fee_2 : List UInt8 := [42, 42, 180, 0, 40, 180, 0, 240, 27, 50, 180, 1, 35, 182, 1, 39, 172]
abbrev dktX0_fee_2 : List UInt8 := dkwX0_fee_2 ++ []
def dkwX0_fee_1 : List UInt8 := [16, 114, 42, 180, 0, 40, 180, 1, 120, 79, 42, 180, 0, 68, 16, 100, 42, 180, 0, 40, 180, 1, 126, 79]
abbrev dktX0_fee_1 : List UInt8 := dkwX0_fee_1 ++ dktX0_fee_2
def dkwX0_fee_0 : List UInt8 := [42, 4, 182, 0, 247, 60, 27, 2, 160, 0, 11, 42, 180, 0, 40, 180, 1, 120, 172, 42, 180, 0, 68]
abbrev dktX0_fee_0 : List UInt8 := dkwX0_fee_0 ++ dktX0_fee_1
theorem dksX0_fee_0 : cX0_fee.data.toList.drop 0 = dktX0_fee_0 := by decide +kernel
theorem dksX0_fee_1 : cX0_fee.data.toList.drop 23 = dktX0_fee_1 := dk_seg dksX0_fee_0 23 rfl rfl
theorem dksX0_fee_2 : cX0_fee.data.toList.drop 47 = dktX0_fee_2 := dk_seg dksX0_fee_1 24 rfl rfl
theorem dX0_fee_0 : decode cX0_fee 0 = .ok (.aload_n 0, 1) := dk_42 (dk_at dksX0_fee_0 0 rfl rfl)
theorem dX0_fee_1 : decode cX0_fee 1 = .ok (.iconst 1, 1) := dk_4 (dk_at dksX0_fee_0 1 rfl rfl)
theorem dX0_fee_2 : decode cX0_fee 2 = .ok (.invokevirtual 247, 3) := dk_182 0 247 (dk_at dksX0_fee_0 2 rfl rfl)
theorem dX0_fee_5 : decode cX0_fee 5 = .ok (.istore_n 1, 1) := dk_60 (dk_at dksX0_fee_0 5 rfl rfl)
theorem dX0_fee_6 : decode cX0_fee 6 = .ok (.iload_n 1, 1) := dk_27 (dk_at dksX0_fee_0 6 rfl rfl)
theorem dX0_fee_7 : decode cX0_fee 7 = .ok (.iconst (-1), 1) := dk_2 (dk_at dksX0_fee_0 7 rfl rfl)
theorem dX0_fee_8 : decode cX0_fee 8 = .ok (.if_icmp .ne 11, 3) := dk_160 0 11 (dk_at dksX0_fee_0 8 rfl rfl)
theorem dX0_fee_11 : decode cX0_fee 11 = .ok (.aload_n 0, 1) := dk_42 (dk_at dksX0_fee_0 11 rfl rfl)
theorem dX0_fee_12 : decode cX0_fee 12 = .ok (.getfield 40, 3) := dk_180 0 40 (dk_at dksX0_fee_0 12 rfl rfl)
theorem dX0_fee_15 : decode cX0_fee 15 = .ok (.getfield 376, 3) := dk_180 1 120 (dk_at dksX0_fee_0 15 rfl rfl)
theorem dX0_fee_18 : decode cX0_fee 18 = .ok (.ireturn, 1) := dk_172 (dk_at dksX0_fee_0 18 rfl rfl)
theorem dX0_fee_19 : decode cX0_fee 19 = .ok (.aload_n 0, 1) := dk_42 (dk_at dksX0_fee_0 19 rfl rfl)
theorem dX0_fee_20 : decode cX0_fee 20 = .ok (.getfield 68, 3) := dk_180 0 68 (dk_at dksX0_fee_0 20 rfl rfl)
theorem dX0_fee_23 : decode cX0_fee 23 = .ok (.bipush 114, 2) := dk_16 114 (dk_at dksX0_fee_1 0 rfl rfl)
theorem dX0_fee_25 : decode cX0_fee 25 = .ok (.aload_n 0, 1) := dk_42 (dk_at dksX0_fee_1 2 rfl rfl)
theorem dX0_fee_26 : decode cX0_fee 26 = .ok (.getfield 40, 3) := dk_180 0 40 (dk_at dksX0_fee_1 3 rfl rfl)
theorem dX0_fee_29 : decode cX0_fee 29 = .ok (.getfield 376, 3) := dk_180 1 120 (dk_at dksX0_fee_1 6 rfl rfl)
theorem dX0_fee_32 : decode cX0_fee 32 = .ok (.iastore, 1) := dk_79 (dk_at dksX0_fee_1 9 rfl rfl)
theorem dX0_fee_33 : decode cX0_fee 33 = .ok (.aload_n 0, 1) := dk_42 (dk_at dksX0_fee_1 10 rfl rfl)
theorem dX0_fee_34 : decode cX0_fee 34 = .ok (.getfield 68, 3) := dk_180 0 68 (dk_at dksX0_fee_1 11 rfl rfl)
theorem dX0_fee_37 : decode cX0_fee 37 = .ok (.bipush 100, 2) := dk_16 100 (dk_at dksX0_fee_1 14 rfl rfl)
theorem dX0_fee_39 : decode cX0_fee 39 = .ok (.aload_n 0, 1) := dk_42 (dk_at dksX0_fee_1 16 rfl rfl)
theorem dX0_fee_40 : decode cX0_fee 40 = .ok (.getfield 40, 3) := dk_180 0 40 (dk_at dksX0_fee_1 17 rfl rfl)
theorem dX0_fee_43 : decode cX0_fee 43 = .ok (.getfield 382, 3) := dk_180 1 126 (dk_at dksX0_fee_1 20 rfl rfl)
theorem dX0_fee_46 : decode cX0_fee 46 = .ok (.iastore, 1) := dk_79 (dk_at dksX0_fee_1 23 rfl rfl)
theorem dX0_fee_47 : decode cX0_fee 47 = .ok (.aload_n 0, 1) := dk_42 (dk_at dksX0_fee_2 0 rfl rfl)
theorem dX0_fee_48 : decode cX0_fee 48 = .ok (.aload_n 0, 1) := dk_42 (dk_at dksX0_fee_2 1 rfl rfl)
theorem dX0_fee_49 : decode cX0_fee 49 = .ok (.getfield 40, 3) := dk_180 0 40 (dk_at dksX0_fee_2 2 rfl rfl)
theorem dX0_fee_52 : decode cX0_fee 52 = .ok (.getfield 240, 3) := dk_180 0 240 (dk_at dksX0_fee_2 5 rfl rfl)
theorem dX0_fee_55 : decode cX0_fee 55 = .ok (.iload_n 1, 1) := dk_27 (dk_at dksX0_fee_2 8 rfl rfl)
theorem dX0_fee_56 : decode cX0_fee 56 = .ok (.aaload, 1) := dk_50 (dk_at dksX0_fee_2 9 rfl rfl)
theorem dX0_fee_57 : decode cX0_fee 57 = .ok (.getfield 291, 3) := dk_180 1 35 (dk_at dksX0_fee_2 10 rfl rfl)
theorem dX0_fee_60 : decode cX0_fee 60 = .ok (.invokevirtual 295, 3) := dk_182 1 39 (dk_at dksX0_fee_2 13 rfl rfl)
theorem dX0_fee_63 : decode cX0_fee 63 = .ok (.ireturn, 1) := dk_172 (dk_at dksX0_fee_2 16 rfl rfl)
abbrev cX0_fine : ByteArray := prog_1_method_68_code
def yX0_fine : MethodName := ⟨RX0, "fine", "(I)I"⟩
def dkwX0_fine_3 : List UInt8 := [180, 1, 66, 79, 42, 42, 180, 0, 40, 180, 0, 240, 28, 50, 180, 1, 35, 182, 1, 39, 172]
abbrev dktX0_fine_3 : List UInt8 := dkwX0_fine_3 ++ []
def dkwX0_fine_2 : List UInt8 := [180, 1, 11, 27, 50, 180, 1, 32, 79, 42, 180, 0, 68, 16, 112, 42, 180, 0, 40, 180, 1, 11, 27, 50]
abbrev dktX0_fine_2 : List UInt8 := dkwX0_fine_2 ++ dktX0_fine_3
def dkwX0_fine_1 : List UInt8 := [180, 0, 40, 180, 1, 11, 27, 50, 180, 1, 32, 172, 42, 180, 0, 68, 16, 99, 42, 180, 0, 40]
abbrev dktX0_fine_1 : List UInt8 := dkwX0_fine_1 ++ dktX0_fine_2
def dkwX0_fine_0 : List UInt8 := [42, 27, 182, 1, 43, 154, 0, 6, 18, 130, 172, 42, 5, 182, 0, 247, 61, 28, 2, 160, 0, 16, 42]
abbrev dktX0_fine_0 : List UInt8 := dkwX0_fine_0 ++ dktX0_fine_1
theorem dksX0_fine_0 : cX0_fine.data.toList.drop 0 = dktX0_fine_0 := by decide +kernel
theorem dksX0_fine_1 : cX0_fine.data.toList.drop 23 = dktX0_fine_1 := dk_seg dksX0_fine_0 23 rfl rfl
theorem dksX0_fine_2 : cX0_fine.data.toList.drop 45 = dktX0_fine_2 := dk_seg dksX0_fine_1 22 rfl rfl
theorem dksX0_fine_3 : cX0_fine.data.toList.drop 69 = dktX0_fine_3 := dk_seg dksX0_fine_2 24 rfl rfl
theorem dX0_fine_0 : decode cX0_fine 0 = .ok (.aload_n 0, 1) := dk_42 (dk_at dksX0_fine_0 0 rfl rfl)
theorem dX0_fine_1 : decode cX0_fine 1 = .ok (.iload_n 1, 1) := dk_27 (dk_at dksX0_fine_0 1 rfl rfl)
theorem dX0_fine_2 : decode cX0_fine 2 = .ok (.invokevirtual 299, 3) := dk_182 1 43 (dk_at dksX0_fine_0 2 rfl rfl)
theorem dX0_fine_5 : decode cX0_fine 5 = .ok (.ifCond .ne 6, 3) := dk_154 0 6 (dk_at dksX0_fine_0 5 rfl rfl)
theorem dX0_fine_8 : decode cX0_fine 8 = .ok (.ldc 130, 2) := dk_18 130 (dk_at dksX0_fine_0 8 rfl rfl)
theorem dX0_fine_10 : decode cX0_fine 10 = .ok (.ireturn, 1) := dk_172 (dk_at dksX0_fine_0 10 rfl rfl)
theorem dX0_fine_11 : decode cX0_fine 11 = .ok (.aload_n 0, 1) := dk_42 (dk_at dksX0_fine_0 11 rfl rfl)
theorem dX0_fine_12 : decode cX0_fine 12 = .ok (.iconst 2, 1) := dk_5 (dk_at dksX0_fine_0 12 rfl rfl)
theorem dX0_fine_13 : decode cX0_fine 13 = .ok (.invokevirtual 247, 3) := dk_182 0 247 (dk_at dksX0_fine_0 13 rfl rfl)
theorem dX0_fine_16 : decode cX0_fine 16 = .ok (.istore_n 2, 1) := dk_61 (dk_at dksX0_fine_0 16 rfl rfl)
theorem dX0_fine_17 : decode cX0_fine 17 = .ok (.iload_n 2, 1) := dk_28 (dk_at dksX0_fine_0 17 rfl rfl)
theorem dX0_fine_18 : decode cX0_fine 18 = .ok (.iconst (-1), 1) := dk_2 (dk_at dksX0_fine_0 18 rfl rfl)
theorem dX0_fine_19 : decode cX0_fine 19 = .ok (.if_icmp .ne 16, 3) := dk_160 0 16 (dk_at dksX0_fine_0 19 rfl rfl)
theorem dX0_fine_22 : decode cX0_fine 22 = .ok (.aload_n 0, 1) := dk_42 (dk_at dksX0_fine_0 22 rfl rfl)
theorem dX0_fine_23 : decode cX0_fine 23 = .ok (.getfield 40, 3) := dk_180 0 40 (dk_at dksX0_fine_1 0 rfl rfl)
theorem dX0_fine_26 : decode cX0_fine 26 = .ok (.getfield 267, 3) := dk_180 1 11 (dk_at dksX0_fine_1 3 rfl rfl)
theorem dX0_fine_29 : decode cX0_fine 29 = .ok (.iload_n 1, 1) := dk_27 (dk_at dksX0_fine_1 6 rfl rfl)
theorem dX0_fine_30 : decode cX0_fine 30 = .ok (.aaload, 1) := dk_50 (dk_at dksX0_fine_1 7 rfl rfl)
theorem dX0_fine_31 : decode cX0_fine 31 = .ok (.getfield 288, 3) := dk_180 1 32 (dk_at dksX0_fine_1 8 rfl rfl)
theorem dX0_fine_34 : decode cX0_fine 34 = .ok (.ireturn, 1) := dk_172 (dk_at dksX0_fine_1 11 rfl rfl)
theorem dX0_fine_35 : decode cX0_fine 35 = .ok (.aload_n 0, 1) := dk_42 (dk_at dksX0_fine_1 12 rfl rfl)
theorem dX0_fine_36 : decode cX0_fine 36 = .ok (.getfield 68, 3) := dk_180 0 68 (dk_at dksX0_fine_1 13 rfl rfl)
theorem dX0_fine_39 : decode cX0_fine 39 = .ok (.bipush 99, 2) := dk_16 99 (dk_at dksX0_fine_1 16 rfl rfl)
theorem dX0_fine_41 : decode cX0_fine 41 = .ok (.aload_n 0, 1) := dk_42 (dk_at dksX0_fine_1 18 rfl rfl)
theorem dX0_fine_42 : decode cX0_fine 42 = .ok (.getfield 40, 3) := dk_180 0 40 (dk_at dksX0_fine_1 19 rfl rfl)
theorem dX0_fine_45 : decode cX0_fine 45 = .ok (.getfield 267, 3) := dk_180 1 11 (dk_at dksX0_fine_2 0 rfl rfl)
theorem dX0_fine_48 : decode cX0_fine 48 = .ok (.iload_n 1, 1) := dk_27 (dk_at dksX0_fine_2 3 rfl rfl)
theorem dX0_fine_49 : decode cX0_fine 49 = .ok (.aaload, 1) := dk_50 (dk_at dksX0_fine_2 4 rfl rfl)
theorem dX0_fine_50 : decode cX0_fine 50 = .ok (.getfield 288, 3) := dk_180 1 32 (dk_at dksX0_fine_2 5 rfl rfl)
theorem dX0_fine_53 : decode cX0_fine 53 = .ok (.iastore, 1) := dk_79 (dk_at dksX0_fine_2 8 rfl rfl)
theorem dX0_fine_54 : decode cX0_fine 54 = .ok (.aload_n 0, 1) := dk_42 (dk_at dksX0_fine_2 9 rfl rfl)
theorem dX0_fine_55 : decode cX0_fine 55 = .ok (.getfield 68, 3) := dk_180 0 68 (dk_at dksX0_fine_2 10 rfl rfl)
theorem dX0_fine_58 : decode cX0_fine 58 = .ok (.bipush 112, 2) := dk_16 112 (dk_at dksX0_fine_2 13 rfl rfl)
theorem dX0_fine_60 : decode cX0_fine 60 = .ok (.aload_n 0, 1) := dk_42 (dk_at dksX0_fine_2 15 rfl rfl)
theorem dX0_fine_61 : decode cX0_fine 61 = .ok (.getfield 40, 3) := dk_180 0 40 (dk_at dksX0_fine_2 16 rfl rfl)
theorem dX0_fine_64 : decode cX0_fine 64 = .ok (.getfield 267, 3) := dk_180 1 11 (dk_at dksX0_fine_2 19 rfl rfl)
theorem dX0_fine_67 : decode cX0_fine 67 = .ok (.iload_n 1, 1) := dk_27 (dk_at dksX0_fine_2 22 rfl rfl)
theorem dX0_fine_68 : decode cX0_fine 68 = .ok (.aaload, 1) := dk_50 (dk_at dksX0_fine_2 23 rfl rfl)
theorem dX0_fine_69 : decode cX0_fine 69 = .ok (.getfield 322, 3) := dk_180 1 66 (dk_at dksX0_fine_3 0 rfl rfl)
theorem dX0_fine_72 : decode cX0_fine 72 = .ok (.iastore, 1) := dk_79 (dk_at dksX0_fine_3 3 rfl rfl)
theorem dX0_fine_73 : decode cX0_fine 73 = .ok (.aload_n 0, 1) := dk_42 (dk_at dksX0_fine_3 4 rfl rfl)
theorem dX0_fine_74 : decode cX0_fine 74 = .ok (.aload_n 0, 1) := dk_42 (dk_at dksX0_fine_3 5 rfl rfl)
theorem dX0_fine_75 : decode cX0_fine 75 = .ok (.getfield 40, 3) := dk_180 0 40 (dk_at dksX0_fine_3 6 rfl rfl)
theorem dX0_fine_78 : decode cX0_fine 78 = .ok (.getfield 240, 3) := dk_180 0 240 (dk_at dksX0_fine_3 9 rfl rfl)
theorem dX0_fine_81 : decode cX0_fine 81 = .ok (.iload_n 2, 1) := dk_28 (dk_at dksX0_fine_3 12 rfl rfl)
theorem dX0_fine_82 : decode cX0_fine 82 = .ok (.aaload, 1) := dk_50 (dk_at dksX0_fine_3 13 rfl rfl)
theorem dX0_fine_83 : decode cX0_fine 83 = .ok (.getfield 291, 3) := dk_180 1 35 (dk_at dksX0_fine_3 14 rfl rfl)
theorem dX0_fine_86 : decode cX0_fine 86 = .ok (.invokevirtual 295, 3) := dk_182 1 39 (dk_at dksX0_fine_3 17 rfl rfl)
theorem dX0_fine_89 : decode cX0_fine 89 = .ok (.ireturn, 1) := dk_172 (dk_at dksX0_fine_3 20 rfl rfl)
abbrev cX0_sheet : ByteArray := prog_1_method_72_code
def yX0_sheet : MethodName := ⟨RX0, "sheet", "(III)I"⟩
def dkwX0_sheet_3 : List UInt8 := [58, 4, 19, 1, 163, 172]
abbrev dktX0_sheet_3 : List UInt8 := dkwX0_sheet_3 ++ []
def dkwX0_sheet_2 : List UInt8 := [180, 0, 80, 27, 50, 28, 4, 160, 0, 7, 4, 167, 0, 4, 3, 29, 184, 1, 157, 181, 1, 153, 29, 172]
abbrev dktX0_sheet_2 : List UInt8 := dkwX0_sheet_2 ++ dktX0_sheet_3
def dkwX0_sheet_1 : List UInt8 := [164, 0, 6, 18, 130, 172, 28, 156, 0, 15, 42, 180, 0, 80, 27, 50, 1, 181, 1, 153, 3, 172, 42]
abbrev dktX0_sheet_1 : List UInt8 := dkwX0_sheet_1 ++ dktX0_sheet_2
def dkwX0_sheet_0 : List UInt8 := [27, 184, 1, 150, 153, 0, 22, 28, 2, 4, 184, 0, 105, 153, 0, 13, 28, 155, 0, 12, 29, 16, 24]
abbrev dktX0_sheet_0 : List UInt8 := dkwX0_sheet_0 ++ dktX0_sheet_1
theorem dksX0_sheet_0 : cX0_sheet.data.toList.drop 0 = dktX0_sheet_0 := by decide +kernel
theorem dksX0_sheet_1 : cX0_sheet.data.toList.drop 23 = dktX0_sheet_1 := dk_seg dksX0_sheet_0 23 rfl rfl
theorem dksX0_sheet_2 : cX0_sheet.data.toList.drop 46 = dktX0_sheet_2 := dk_seg dksX0_sheet_1 23 rfl rfl
theorem dksX0_sheet_3 : cX0_sheet.data.toList.drop 70 = dktX0_sheet_3 := dk_seg dksX0_sheet_2 24 rfl rfl
theorem dX0_sheet_0 : decode cX0_sheet 0 = .ok (.iload_n 1, 1) := dk_27 (dk_at dksX0_sheet_0 0 rfl rfl)
theorem dX0_sheet_1 : decode cX0_sheet 1 = .ok (.invokestatic 406, 3) := dk_184 1 150 (dk_at dksX0_sheet_0 1 rfl rfl)
theorem dX0_sheet_4 : decode cX0_sheet 4 = .ok (.ifCond .eq 22, 3) := dk_153 0 22 (dk_at dksX0_sheet_0 4 rfl rfl)
theorem dX0_sheet_7 : decode cX0_sheet 7 = .ok (.iload_n 2, 1) := dk_28 (dk_at dksX0_sheet_0 7 rfl rfl)
theorem dX0_sheet_8 : decode cX0_sheet 8 = .ok (.iconst (-1), 1) := dk_2 (dk_at dksX0_sheet_0 8 rfl rfl)
theorem dX0_sheet_9 : decode cX0_sheet 9 = .ok (.iconst 1, 1) := dk_4 (dk_at dksX0_sheet_0 9 rfl rfl)
theorem dX0_sheet_10 : decode cX0_sheet 10 = .ok (.invokestatic 105, 3) := dk_184 0 105 (dk_at dksX0_sheet_0 10 rfl rfl)
theorem dX0_sheet_13 : decode cX0_sheet 13 = .ok (.ifCond .eq 13, 3) := dk_153 0 13 (dk_at dksX0_sheet_0 13 rfl rfl)
theorem dX0_sheet_16 : decode cX0_sheet 16 = .ok (.iload_n 2, 1) := dk_28 (dk_at dksX0_sheet_0 16 rfl rfl)
theorem dX0_sheet_17 : decode cX0_sheet 17 = .ok (.ifCond .lt 12, 3) := dk_155 0 12 (dk_at dksX0_sheet_0 17 rfl rfl)
theorem dX0_sheet_20 : decode cX0_sheet 20 = .ok (.iload_n 3, 1) := dk_29 (dk_at dksX0_sheet_0 20 rfl rfl)
theorem dX0_sheet_21 : decode cX0_sheet 21 = .ok (.bipush 24, 2) := dk_16 24 (dk_at dksX0_sheet_0 21 rfl rfl)
theorem dX0_sheet_23 : decode cX0_sheet 23 = .ok (.if_icmp .le 6, 3) := dk_164 0 6 (dk_at dksX0_sheet_1 0 rfl rfl)
theorem dX0_sheet_26 : decode cX0_sheet 26 = .ok (.ldc 130, 2) := dk_18 130 (dk_at dksX0_sheet_1 3 rfl rfl)
theorem dX0_sheet_28 : decode cX0_sheet 28 = .ok (.ireturn, 1) := dk_172 (dk_at dksX0_sheet_1 5 rfl rfl)
theorem dX0_sheet_29 : decode cX0_sheet 29 = .ok (.iload_n 2, 1) := dk_28 (dk_at dksX0_sheet_1 6 rfl rfl)
theorem dX0_sheet_30 : decode cX0_sheet 30 = .ok (.ifCond .ge 15, 3) := dk_156 0 15 (dk_at dksX0_sheet_1 7 rfl rfl)
theorem dX0_sheet_33 : decode cX0_sheet 33 = .ok (.aload_n 0, 1) := dk_42 (dk_at dksX0_sheet_1 10 rfl rfl)
theorem dX0_sheet_34 : decode cX0_sheet 34 = .ok (.getfield 80, 3) := dk_180 0 80 (dk_at dksX0_sheet_1 11 rfl rfl)
theorem dX0_sheet_37 : decode cX0_sheet 37 = .ok (.iload_n 1, 1) := dk_27 (dk_at dksX0_sheet_1 14 rfl rfl)
theorem dX0_sheet_38 : decode cX0_sheet 38 = .ok (.aaload, 1) := dk_50 (dk_at dksX0_sheet_1 15 rfl rfl)
theorem dX0_sheet_39 : decode cX0_sheet 39 = .ok (.aconst_null, 1) := dk_1 (dk_at dksX0_sheet_1 16 rfl rfl)
theorem dX0_sheet_40 : decode cX0_sheet 40 = .ok (.putfield 409, 3) := dk_181 1 153 (dk_at dksX0_sheet_1 17 rfl rfl)
theorem dX0_sheet_43 : decode cX0_sheet 43 = .ok (.iconst 0, 1) := dk_3 (dk_at dksX0_sheet_1 20 rfl rfl)
theorem dX0_sheet_44 : decode cX0_sheet 44 = .ok (.ireturn, 1) := dk_172 (dk_at dksX0_sheet_1 21 rfl rfl)
theorem dX0_sheet_45 : decode cX0_sheet 45 = .ok (.aload_n 0, 1) := dk_42 (dk_at dksX0_sheet_1 22 rfl rfl)
theorem dX0_sheet_46 : decode cX0_sheet 46 = .ok (.getfield 80, 3) := dk_180 0 80 (dk_at dksX0_sheet_2 0 rfl rfl)
theorem dX0_sheet_49 : decode cX0_sheet 49 = .ok (.iload_n 1, 1) := dk_27 (dk_at dksX0_sheet_2 3 rfl rfl)
theorem dX0_sheet_50 : decode cX0_sheet 50 = .ok (.aaload, 1) := dk_50 (dk_at dksX0_sheet_2 4 rfl rfl)
theorem dX0_sheet_51 : decode cX0_sheet 51 = .ok (.iload_n 2, 1) := dk_28 (dk_at dksX0_sheet_2 5 rfl rfl)
theorem dX0_sheet_52 : decode cX0_sheet 52 = .ok (.iconst 1, 1) := dk_4 (dk_at dksX0_sheet_2 6 rfl rfl)
theorem dX0_sheet_53 : decode cX0_sheet 53 = .ok (.if_icmp .ne 7, 3) := dk_160 0 7 (dk_at dksX0_sheet_2 7 rfl rfl)
theorem dX0_sheet_56 : decode cX0_sheet 56 = .ok (.iconst 1, 1) := dk_4 (dk_at dksX0_sheet_2 10 rfl rfl)
theorem dX0_sheet_57 : decode cX0_sheet 57 = .ok (.goto 4, 3) := dk_167 0 4 (dk_at dksX0_sheet_2 11 rfl rfl)
theorem dX0_sheet_60 : decode cX0_sheet 60 = .ok (.iconst 0, 1) := dk_3 (dk_at dksX0_sheet_2 14 rfl rfl)
theorem dX0_sheet_61 : decode cX0_sheet 61 = .ok (.iload_n 3, 1) := dk_29 (dk_at dksX0_sheet_2 15 rfl rfl)
theorem dX0_sheet_62 : decode cX0_sheet 62 = .ok (.invokestatic 413, 3) := dk_184 1 157 (dk_at dksX0_sheet_2 16 rfl rfl)
theorem dX0_sheet_65 : decode cX0_sheet 65 = .ok (.putfield 409, 3) := dk_181 1 153 (dk_at dksX0_sheet_2 19 rfl rfl)
theorem dX0_sheet_68 : decode cX0_sheet 68 = .ok (.iload_n 3, 1) := dk_29 (dk_at dksX0_sheet_2 22 rfl rfl)
theorem dX0_sheet_69 : decode cX0_sheet 69 = .ok (.ireturn, 1) := dk_172 (dk_at dksX0_sheet_2 23 rfl rfl)
theorem dX0_sheet_70 : decode cX0_sheet 70 = .ok (.astore 4, 2) := dk_58 4 (dk_at dksX0_sheet_3 0 rfl rfl)
theorem dX0_sheet_72 : decode cX0_sheet 72 = .ok (.ldc_w 419, 3) := dk_19 1 163 (dk_at dksX0_sheet_3 2 rfl rfl)
theorem dX0_sheet_75 : decode cX0_sheet 75 = .ok (.ireturn, 1) := dk_172 (dk_at dksX0_sheet_3 5 rfl rfl)
abbrev cX0_isSheet : ByteArray := prog_1_method_69_code
def yX0_isSheet : MethodName := ⟨RX0, "isSheet", "(I)Z"⟩
def dkwX0_isSheet_0 : List UInt8 := [26, 3, 6, 184, 0, 105, 172]
abbrev dktX0_isSheet_0 : List UInt8 := dkwX0_isSheet_0 ++ []
theorem dksX0_isSheet_0 : cX0_isSheet.data.toList.drop 0 = dktX0_isSheet_0 := by decide +kernel
theorem dX0_isSheet_0 : decode cX0_isSheet 0 = .ok (.iload_n 0, 1) := dk_26 (dk_at dksX0_isSheet_0 0 rfl rfl)
theorem dX0_isSheet_1 : decode cX0_isSheet 1 = .ok (.iconst 0, 1) := dk_3 (dk_at dksX0_isSheet_0 1 rfl rfl)
theorem dX0_isSheet_2 : decode cX0_isSheet 2 = .ok (.iconst 3, 1) := dk_6 (dk_at dksX0_isSheet_0 2 rfl rfl)
theorem dX0_isSheet_3 : decode cX0_isSheet 3 = .ok (.invokestatic 105, 3) := dk_184 0 105 (dk_at dksX0_isSheet_0 3 rfl rfl)
theorem dX0_isSheet_6 : decode cX0_isSheet 6 = .ok (.ireturn, 1) := dk_172 (dk_at dksX0_isSheet_0 6 rfl rfl)
abbrev cX0_rowOf : ByteArray := prog_1_method_71_code
def yX0_rowOf : MethodName := ⟨RX0, "rowOf", "(ZI)Ljava/lang/Object;"⟩
def dkwX0_rowOf_0 : List UInt8 := [26, 153, 0, 7, 27, 188, 6, 176, 27, 188, 9, 176]
abbrev dktX0_rowOf_0 : List UInt8 := dkwX0_rowOf_0 ++ []
theorem dksX0_rowOf_0 : cX0_rowOf.data.toList.drop 0 = dktX0_rowOf_0 := by decide +kernel
theorem dX0_rowOf_0 : decode cX0_rowOf 0 = .ok (.iload_n 0, 1) := dk_26 (dk_at dksX0_rowOf_0 0 rfl rfl)
theorem dX0_rowOf_1 : decode cX0_rowOf 1 = .ok (.ifCond .eq 7, 3) := dk_153 0 7 (dk_at dksX0_rowOf_0 1 rfl rfl)
theorem dX0_rowOf_4 : decode cX0_rowOf 4 = .ok (.iload_n 1, 1) := dk_27 (dk_at dksX0_rowOf_0 4 rfl rfl)
theorem dX0_rowOf_5 : decode cX0_rowOf 5 = .ok (.newarray .float, 2) := dk_188_6 (dk_at dksX0_rowOf_0 5 rfl rfl)
theorem dX0_rowOf_7 : decode cX0_rowOf 7 = .ok (.areturn, 1) := dk_176 (dk_at dksX0_rowOf_0 7 rfl rfl)
theorem dX0_rowOf_8 : decode cX0_rowOf 8 = .ok (.iload_n 1, 1) := dk_27 (dk_at dksX0_rowOf_0 8 rfl rfl)
theorem dX0_rowOf_9 : decode cX0_rowOf 9 = .ok (.newarray .short, 2) := dk_188_9 (dk_at dksX0_rowOf_0 9 rfl rfl)
theorem dX0_rowOf_11 : decode cX0_rowOf 11 = .ok (.areturn, 1) := dk_176 (dk_at dksX0_rowOf_0 11 rfl rfl)
abbrev cX0_mark : ByteArray := prog_1_method_74_code
def yX0_mark : MethodName := ⟨RX0, "mark", "(III)I"⟩
def dkwX0_mark_2 : List UInt8 := [28, 29, 184, 1, 184, 167, 0, 6, 19, 1, 188, 172]
abbrev dktX0_mark_2 : List UInt8 := dkwX0_mark_2 ++ []
def dkwX0_mark_1 : List UInt8 := [154, 0, 7, 19, 1, 180, 172, 28, 3, 25, 4, 182, 1, 181, 4, 100, 184, 0, 105, 153, 0, 13, 25, 4]
abbrev dktX0_mark_1 : List UInt8 := dkwX0_mark_1 ++ dktX0_mark_2
def dkwX0_mark_0 : List UInt8 := [27, 184, 1, 150, 154, 0, 6, 18, 130, 172, 42, 180, 0, 80, 27, 50, 58, 4, 25, 4, 182, 1, 177]
abbrev dktX0_mark_0 : List UInt8 := dkwX0_mark_0 ++ dktX0_mark_1
theorem dksX0_mark_0 : cX0_mark.data.toList.drop 0 = dktX0_mark_0 := by decide +kernel
theorem dksX0_mark_1 : cX0_mark.data.toList.drop 23 = dktX0_mark_1 := dk_seg dksX0_mark_0 23 rfl rfl
theorem dksX0_mark_2 : cX0_mark.data.toList.drop 47 = dktX0_mark_2 := dk_seg dksX0_mark_1 24 rfl rfl
theorem dX0_mark_0 : decode cX0_mark 0 = .ok (.iload_n 1, 1) := dk_27 (dk_at dksX0_mark_0 0 rfl rfl)
theorem dX0_mark_1 : decode cX0_mark 1 = .ok (.invokestatic 406, 3) := dk_184 1 150 (dk_at dksX0_mark_0 1 rfl rfl)
theorem dX0_mark_4 : decode cX0_mark 4 = .ok (.ifCond .ne 6, 3) := dk_154 0 6 (dk_at dksX0_mark_0 4 rfl rfl)
theorem dX0_mark_7 : decode cX0_mark 7 = .ok (.ldc 130, 2) := dk_18 130 (dk_at dksX0_mark_0 7 rfl rfl)
theorem dX0_mark_9 : decode cX0_mark 9 = .ok (.ireturn, 1) := dk_172 (dk_at dksX0_mark_0 9 rfl rfl)
theorem dX0_mark_10 : decode cX0_mark 10 = .ok (.aload_n 0, 1) := dk_42 (dk_at dksX0_mark_0 10 rfl rfl)
theorem dX0_mark_11 : decode cX0_mark 11 = .ok (.getfield 80, 3) := dk_180 0 80 (dk_at dksX0_mark_0 11 rfl rfl)
theorem dX0_mark_14 : decode cX0_mark 14 = .ok (.iload_n 1, 1) := dk_27 (dk_at dksX0_mark_0 14 rfl rfl)
theorem dX0_mark_15 : decode cX0_mark 15 = .ok (.aaload, 1) := dk_50 (dk_at dksX0_mark_0 15 rfl rfl)
theorem dX0_mark_16 : decode cX0_mark 16 = .ok (.astore 4, 2) := dk_58 4 (dk_at dksX0_mark_0 16 rfl rfl)
theorem dX0_mark_18 : decode cX0_mark 18 = .ok (.aload 4, 2) := dk_25 4 (dk_at dksX0_mark_0 18 rfl rfl)
theorem dX0_mark_20 : decode cX0_mark 20 = .ok (.invokevirtual 433, 3) := dk_182 1 177 (dk_at dksX0_mark_0 20 rfl rfl)
theorem dX0_mark_23 : decode cX0_mark 23 = .ok (.ifCond .ne 7, 3) := dk_154 0 7 (dk_at dksX0_mark_1 0 rfl rfl)
theorem dX0_mark_26 : decode cX0_mark 26 = .ok (.ldc_w 436, 3) := dk_19 1 180 (dk_at dksX0_mark_1 3 rfl rfl)
theorem dX0_mark_29 : decode cX0_mark 29 = .ok (.ireturn, 1) := dk_172 (dk_at dksX0_mark_1 6 rfl rfl)
theorem dX0_mark_30 : decode cX0_mark 30 = .ok (.iload_n 2, 1) := dk_28 (dk_at dksX0_mark_1 7 rfl rfl)
theorem dX0_mark_31 : decode cX0_mark 31 = .ok (.iconst 0, 1) := dk_3 (dk_at dksX0_mark_1 8 rfl rfl)
theorem dX0_mark_32 : decode cX0_mark 32 = .ok (.aload 4, 2) := dk_25 4 (dk_at dksX0_mark_1 9 rfl rfl)
theorem dX0_mark_34 : decode cX0_mark 34 = .ok (.invokevirtual 437, 3) := dk_182 1 181 (dk_at dksX0_mark_1 11 rfl rfl)
theorem dX0_mark_37 : decode cX0_mark 37 = .ok (.iconst 1, 1) := dk_4 (dk_at dksX0_mark_1 14 rfl rfl)
theorem dX0_mark_38 : decode cX0_mark 38 = .ok (.isub, 1) := dk_100 (dk_at dksX0_mark_1 15 rfl rfl)
theorem dX0_mark_39 : decode cX0_mark 39 = .ok (.invokestatic 105, 3) := dk_184 0 105 (dk_at dksX0_mark_1 16 rfl rfl)
theorem dX0_mark_42 : decode cX0_mark 42 = .ok (.ifCond .eq 13, 3) := dk_153 0 13 (dk_at dksX0_mark_1 19 rfl rfl)
theorem dX0_mark_45 : decode cX0_mark 45 = .ok (.aload 4, 2) := dk_25 4 (dk_at dksX0_mark_1 22 rfl rfl)
theorem dX0_mark_47 : decode cX0_mark 47 = .ok (.iload_n 2, 1) := dk_28 (dk_at dksX0_mark_2 0 rfl rfl)
theorem dX0_mark_48 : decode cX0_mark 48 = .ok (.iload_n 3, 1) := dk_29 (dk_at dksX0_mark_2 1 rfl rfl)
theorem dX0_mark_49 : decode cX0_mark 49 = .ok (.invokestatic 440, 3) := dk_184 1 184 (dk_at dksX0_mark_2 2 rfl rfl)
theorem dX0_mark_52 : decode cX0_mark 52 = .ok (.goto 6, 3) := dk_167 0 6 (dk_at dksX0_mark_2 5 rfl rfl)
theorem dX0_mark_55 : decode cX0_mark 55 = .ok (.ldc_w 444, 3) := dk_19 1 188 (dk_at dksX0_mark_2 8 rfl rfl)
theorem dX0_mark_58 : decode cX0_mark 58 = .ok (.ireturn, 1) := dk_172 (dk_at dksX0_mark_2 11 rfl rfl)
abbrev cX0_markIn : ByteArray := prog_1_method_73_code
def yX0_markIn : MethodName := ⟨RX0, "markIn", "(LLeaningStreet$Sheet;II)I"⟩
def dkwX0_markIn_2 : List UInt8 := [154, 0, 6, 18, 130, 172, 42, 27, 28, 182, 1, 174, 4, 172]
abbrev dktX0_markIn_2 : List UInt8 := dkwX0_markIn_2 ++ []
def dkwX0_markIn_1 : List UInt8 := [27, 19, 1, 171, 81, 4, 172, 42, 182, 1, 164, 153, 0, 19, 28, 19, 1, 172, 19, 1, 173, 184, 0, 105]
abbrev dktX0_markIn_1 : List UInt8 := dkwX0_markIn_1 ++ dktX0_markIn_2
def dkwX0_markIn_0 : List UInt8 := [28, 18, 3, 160, 0, 28, 42, 182, 1, 164, 154, 0, 7, 19, 1, 84, 172, 42, 180, 1, 153, 192, 1, 168]
abbrev dktX0_markIn_0 : List UInt8 := dkwX0_markIn_0 ++ dktX0_markIn_1
theorem dksX0_markIn_0 : cX0_markIn.data.toList.drop 0 = dktX0_markIn_0 := by decide +kernel
theorem dksX0_markIn_1 : cX0_markIn.data.toList.drop 24 = dktX0_markIn_1 := dk_seg dksX0_markIn_0 24 rfl rfl
theorem dksX0_markIn_2 : cX0_markIn.data.toList.drop 48 = dktX0_markIn_2 := dk_seg dksX0_markIn_1 24 rfl rfl
theorem dX0_markIn_0 : decode cX0_markIn 0 = .ok (.iload_n 2, 1) := dk_28 (dk_at dksX0_markIn_0 0 rfl rfl)
theorem dX0_markIn_1 : decode cX0_markIn 1 = .ok (.ldc 3, 2) := dk_18 3 (dk_at dksX0_markIn_0 1 rfl rfl)
theorem dX0_markIn_3 : decode cX0_markIn 3 = .ok (.if_icmp .ne 28, 3) := dk_160 0 28 (dk_at dksX0_markIn_0 3 rfl rfl)
theorem dX0_markIn_6 : decode cX0_markIn 6 = .ok (.aload_n 0, 1) := dk_42 (dk_at dksX0_markIn_0 6 rfl rfl)
theorem dX0_markIn_7 : decode cX0_markIn 7 = .ok (.invokevirtual 420, 3) := dk_182 1 164 (dk_at dksX0_markIn_0 7 rfl rfl)
theorem dX0_markIn_10 : decode cX0_markIn 10 = .ok (.ifCond .ne 7, 3) := dk_154 0 7 (dk_at dksX0_markIn_0 10 rfl rfl)
theorem dX0_markIn_13 : decode cX0_markIn 13 = .ok (.ldc_w 340, 3) := dk_19 1 84 (dk_at dksX0_markIn_0 13 rfl rfl)
theorem dX0_markIn_16 : decode cX0_markIn 16 = .ok (.ireturn, 1) := dk_172 (dk_at dksX0_markIn_0 16 rfl rfl)
theorem dX0_markIn_17 : decode cX0_markIn 17 = .ok (.aload_n 0, 1) := dk_42 (dk_at dksX0_markIn_0 17 rfl rfl)
theorem dX0_markIn_18 : decode cX0_markIn 18 = .ok (.getfield 409, 3) := dk_180 1 153 (dk_at dksX0_markIn_0 18 rfl rfl)
theorem dX0_markIn_21 : decode cX0_markIn 21 = .ok (.checkcast 424, 3) := dk_192 1 168 (dk_at dksX0_markIn_0 21 rfl rfl)
theorem dX0_markIn_24 : decode cX0_markIn 24 = .ok (.iload_n 1, 1) := dk_27 (dk_at dksX0_markIn_1 0 rfl rfl)
theorem dX0_markIn_25 : decode cX0_markIn 25 = .ok (.ldc_w 427, 3) := dk_19 1 171 (dk_at dksX0_markIn_1 1 rfl rfl)
theorem dX0_markIn_28 : decode cX0_markIn 28 = .ok (.fastore, 1) := dk_81 (dk_at dksX0_markIn_1 4 rfl rfl)
theorem dX0_markIn_29 : decode cX0_markIn 29 = .ok (.iconst 1, 1) := dk_4 (dk_at dksX0_markIn_1 5 rfl rfl)
theorem dX0_markIn_30 : decode cX0_markIn 30 = .ok (.ireturn, 1) := dk_172 (dk_at dksX0_markIn_1 6 rfl rfl)
theorem dX0_markIn_31 : decode cX0_markIn 31 = .ok (.aload_n 0, 1) := dk_42 (dk_at dksX0_markIn_1 7 rfl rfl)
theorem dX0_markIn_32 : decode cX0_markIn 32 = .ok (.invokevirtual 420, 3) := dk_182 1 164 (dk_at dksX0_markIn_1 8 rfl rfl)
theorem dX0_markIn_35 : decode cX0_markIn 35 = .ok (.ifCond .eq 19, 3) := dk_153 0 19 (dk_at dksX0_markIn_1 11 rfl rfl)
theorem dX0_markIn_38 : decode cX0_markIn 38 = .ok (.iload_n 2, 1) := dk_28 (dk_at dksX0_markIn_1 14 rfl rfl)
theorem dX0_markIn_39 : decode cX0_markIn 39 = .ok (.ldc_w 428, 3) := dk_19 1 172 (dk_at dksX0_markIn_1 15 rfl rfl)
theorem dX0_markIn_42 : decode cX0_markIn 42 = .ok (.ldc_w 429, 3) := dk_19 1 173 (dk_at dksX0_markIn_1 18 rfl rfl)
theorem dX0_markIn_45 : decode cX0_markIn 45 = .ok (.invokestatic 105, 3) := dk_184 0 105 (dk_at dksX0_markIn_1 21 rfl rfl)
theorem dX0_markIn_48 : decode cX0_markIn 48 = .ok (.ifCond .ne 6, 3) := dk_154 0 6 (dk_at dksX0_markIn_2 0 rfl rfl)
theorem dX0_markIn_51 : decode cX0_markIn 51 = .ok (.ldc 130, 2) := dk_18 130 (dk_at dksX0_markIn_2 3 rfl rfl)
theorem dX0_markIn_53 : decode cX0_markIn 53 = .ok (.ireturn, 1) := dk_172 (dk_at dksX0_markIn_2 5 rfl rfl)
theorem dX0_markIn_54 : decode cX0_markIn 54 = .ok (.aload_n 0, 1) := dk_42 (dk_at dksX0_markIn_2 6 rfl rfl)
theorem dX0_markIn_55 : decode cX0_markIn 55 = .ok (.iload_n 1, 1) := dk_27 (dk_at dksX0_markIn_2 7 rfl rfl)
theorem dX0_markIn_56 : decode cX0_markIn 56 = .ok (.iload_n 2, 1) := dk_28 (dk_at dksX0_markIn_2 8 rfl rfl)
theorem dX0_markIn_57 : decode cX0_markIn 57 = .ok (.invokevirtual 430, 3) := dk_182 1 174 (dk_at dksX0_markIn_2 9 rfl rfl)
theorem dX0_markIn_60 : decode cX0_markIn 60 = .ok (.iconst 1, 1) := dk_4 (dk_at dksX0_markIn_2 12 rfl rfl)
theorem dX0_markIn_61 : decode cX0_markIn 61 = .ok (.ireturn, 1) := dk_172 (dk_at dksX0_markIn_2 13 rfl rfl)
abbrev cX0_pour : ByteArray := prog_1_method_75_code
def yX0_pour : MethodName := ⟨RX0, "pour", "(I)I"⟩
def dkwX0_pour_5 : List UInt8 := [4, 96, 62, 132, 4, 1, 167, 255, 164, 29, 172]
abbrev dktX0_pour_5 : List UInt8 := dkwX0_pour_5 ++ []
def dkwX0_pour_4 : List UInt8 := [180, 0, 40, 180, 1, 11, 21, 4, 50, 6, 21, 5, 184, 1, 89, 21, 5, 160, 0, 7, 3, 167, 0, 4]
abbrev dktX0_pour_4 : List UInt8 := dkwX0_pour_4 ++ dktX0_pour_5
def dkwX0_pour_3 : List UInt8 := [184, 1, 26, 167, 0, 16, 42, 180, 0, 40, 180, 1, 11, 21, 4, 50, 180, 1, 8, 54, 5, 29, 42]
abbrev dktX0_pour_3 : List UInt8 := dkwX0_pour_3 ++ dktX0_pour_4
def dkwX0_pour_2 : List UInt8 := [182, 1, 181, 162, 0, 77, 44, 21, 4, 182, 1, 189, 153, 0, 18, 44, 21, 4, 182, 1, 192, 3, 16, 99]
abbrev dktX0_pour_2 : List UInt8 := dkwX0_pour_2 ++ dktX0_pour_3
def dkwX0_pour_1 : List UInt8 := [19, 1, 180, 172, 3, 62, 3, 54, 4, 21, 4, 42, 180, 0, 40, 180, 0, 101, 162, 0, 86, 21, 4, 44]
abbrev dktX0_pour_1 : List UInt8 := dkwX0_pour_1 ++ dktX0_pour_2
def dkwX0_pour_0 : List UInt8 := [27, 184, 1, 150, 154, 0, 6, 18, 130, 172, 42, 180, 0, 80, 27, 50, 77, 44, 182, 1, 177, 154, 0, 7]
abbrev dktX0_pour_0 : List UInt8 := dkwX0_pour_0 ++ dktX0_pour_1
theorem dksX0_pour_0 : cX0_pour.data.toList.drop 0 = dktX0_pour_0 := by decide +kernel
theorem dksX0_pour_1 : cX0_pour.data.toList.drop 24 = dktX0_pour_1 := dk_seg dksX0_pour_0 24 rfl rfl
theorem dksX0_pour_2 : cX0_pour.data.toList.drop 48 = dktX0_pour_2 := dk_seg dksX0_pour_1 24 rfl rfl
theorem dksX0_pour_3 : cX0_pour.data.toList.drop 72 = dktX0_pour_3 := dk_seg dksX0_pour_2 24 rfl rfl
theorem dksX0_pour_4 : cX0_pour.data.toList.drop 95 = dktX0_pour_4 := dk_seg dksX0_pour_3 23 rfl rfl
theorem dksX0_pour_5 : cX0_pour.data.toList.drop 119 = dktX0_pour_5 := dk_seg dksX0_pour_4 24 rfl rfl
theorem dX0_pour_0 : decode cX0_pour 0 = .ok (.iload_n 1, 1) := dk_27 (dk_at dksX0_pour_0 0 rfl rfl)
theorem dX0_pour_1 : decode cX0_pour 1 = .ok (.invokestatic 406, 3) := dk_184 1 150 (dk_at dksX0_pour_0 1 rfl rfl)
theorem dX0_pour_4 : decode cX0_pour 4 = .ok (.ifCond .ne 6, 3) := dk_154 0 6 (dk_at dksX0_pour_0 4 rfl rfl)
theorem dX0_pour_7 : decode cX0_pour 7 = .ok (.ldc 130, 2) := dk_18 130 (dk_at dksX0_pour_0 7 rfl rfl)
theorem dX0_pour_9 : decode cX0_pour 9 = .ok (.ireturn, 1) := dk_172 (dk_at dksX0_pour_0 9 rfl rfl)
theorem dX0_pour_10 : decode cX0_pour 10 = .ok (.aload_n 0, 1) := dk_42 (dk_at dksX0_pour_0 10 rfl rfl)
theorem dX0_pour_11 : decode cX0_pour 11 = .ok (.getfield 80, 3) := dk_180 0 80 (dk_at dksX0_pour_0 11 rfl rfl)
theorem dX0_pour_14 : decode cX0_pour 14 = .ok (.iload_n 1, 1) := dk_27 (dk_at dksX0_pour_0 14 rfl rfl)
theorem dX0_pour_15 : decode cX0_pour 15 = .ok (.aaload, 1) := dk_50 (dk_at dksX0_pour_0 15 rfl rfl)
theorem dX0_pour_16 : decode cX0_pour 16 = .ok (.astore_n 2, 1) := dk_77 (dk_at dksX0_pour_0 16 rfl rfl)
theorem dX0_pour_17 : decode cX0_pour 17 = .ok (.aload_n 2, 1) := dk_44 (dk_at dksX0_pour_0 17 rfl rfl)
theorem dX0_pour_18 : decode cX0_pour 18 = .ok (.invokevirtual 433, 3) := dk_182 1 177 (dk_at dksX0_pour_0 18 rfl rfl)
theorem dX0_pour_21 : decode cX0_pour 21 = .ok (.ifCond .ne 7, 3) := dk_154 0 7 (dk_at dksX0_pour_0 21 rfl rfl)
theorem dX0_pour_24 : decode cX0_pour 24 = .ok (.ldc_w 436, 3) := dk_19 1 180 (dk_at dksX0_pour_1 0 rfl rfl)
theorem dX0_pour_27 : decode cX0_pour 27 = .ok (.ireturn, 1) := dk_172 (dk_at dksX0_pour_1 3 rfl rfl)
theorem dX0_pour_28 : decode cX0_pour 28 = .ok (.iconst 0, 1) := dk_3 (dk_at dksX0_pour_1 4 rfl rfl)
theorem dX0_pour_29 : decode cX0_pour 29 = .ok (.istore_n 3, 1) := dk_62 (dk_at dksX0_pour_1 5 rfl rfl)
theorem dX0_pour_30 : decode cX0_pour 30 = .ok (.iconst 0, 1) := dk_3 (dk_at dksX0_pour_1 6 rfl rfl)
theorem dX0_pour_31 : decode cX0_pour 31 = .ok (.istore 4, 2) := dk_54 4 (dk_at dksX0_pour_1 7 rfl rfl)
theorem dX0_pour_33 : decode cX0_pour 33 = .ok (.iload 4, 2) := dk_21 4 (dk_at dksX0_pour_1 9 rfl rfl)
theorem dX0_pour_35 : decode cX0_pour 35 = .ok (.aload_n 0, 1) := dk_42 (dk_at dksX0_pour_1 11 rfl rfl)
theorem dX0_pour_36 : decode cX0_pour 36 = .ok (.getfield 40, 3) := dk_180 0 40 (dk_at dksX0_pour_1 12 rfl rfl)
theorem dX0_pour_39 : decode cX0_pour 39 = .ok (.getfield 101, 3) := dk_180 0 101 (dk_at dksX0_pour_1 15 rfl rfl)
theorem dX0_pour_42 : decode cX0_pour 42 = .ok (.if_icmp .ge 86, 3) := dk_162 0 86 (dk_at dksX0_pour_1 18 rfl rfl)
theorem dX0_pour_45 : decode cX0_pour 45 = .ok (.iload 4, 2) := dk_21 4 (dk_at dksX0_pour_1 21 rfl rfl)
theorem dX0_pour_47 : decode cX0_pour 47 = .ok (.aload_n 2, 1) := dk_44 (dk_at dksX0_pour_1 23 rfl rfl)
theorem dX0_pour_48 : decode cX0_pour 48 = .ok (.invokevirtual 437, 3) := dk_182 1 181 (dk_at dksX0_pour_2 0 rfl rfl)
theorem dX0_pour_51 : decode cX0_pour 51 = .ok (.if_icmp .ge 77, 3) := dk_162 0 77 (dk_at dksX0_pour_2 3 rfl rfl)
theorem dX0_pour_54 : decode cX0_pour 54 = .ok (.aload_n 2, 1) := dk_44 (dk_at dksX0_pour_2 6 rfl rfl)
theorem dX0_pour_55 : decode cX0_pour 55 = .ok (.iload 4, 2) := dk_21 4 (dk_at dksX0_pour_2 7 rfl rfl)
theorem dX0_pour_57 : decode cX0_pour 57 = .ok (.invokevirtual 445, 3) := dk_182 1 189 (dk_at dksX0_pour_2 9 rfl rfl)
theorem dX0_pour_60 : decode cX0_pour 60 = .ok (.ifCond .eq 18, 3) := dk_153 0 18 (dk_at dksX0_pour_2 12 rfl rfl)
theorem dX0_pour_63 : decode cX0_pour 63 = .ok (.aload_n 2, 1) := dk_44 (dk_at dksX0_pour_2 15 rfl rfl)
theorem dX0_pour_64 : decode cX0_pour 64 = .ok (.iload 4, 2) := dk_21 4 (dk_at dksX0_pour_2 16 rfl rfl)
theorem dX0_pour_66 : decode cX0_pour 66 = .ok (.invokevirtual 448, 3) := dk_182 1 192 (dk_at dksX0_pour_2 18 rfl rfl)
theorem dX0_pour_69 : decode cX0_pour 69 = .ok (.iconst 0, 1) := dk_3 (dk_at dksX0_pour_2 21 rfl rfl)
theorem dX0_pour_70 : decode cX0_pour 70 = .ok (.bipush 99, 2) := dk_16 99 (dk_at dksX0_pour_2 22 rfl rfl)
theorem dX0_pour_72 : decode cX0_pour 72 = .ok (.invokestatic 282, 3) := dk_184 1 26 (dk_at dksX0_pour_3 0 rfl rfl)
theorem dX0_pour_75 : decode cX0_pour 75 = .ok (.goto 16, 3) := dk_167 0 16 (dk_at dksX0_pour_3 3 rfl rfl)
theorem dX0_pour_78 : decode cX0_pour 78 = .ok (.aload_n 0, 1) := dk_42 (dk_at dksX0_pour_3 6 rfl rfl)
theorem dX0_pour_79 : decode cX0_pour 79 = .ok (.getfield 40, 3) := dk_180 0 40 (dk_at dksX0_pour_3 7 rfl rfl)
theorem dX0_pour_82 : decode cX0_pour 82 = .ok (.getfield 267, 3) := dk_180 1 11 (dk_at dksX0_pour_3 10 rfl rfl)
theorem dX0_pour_85 : decode cX0_pour 85 = .ok (.iload 4, 2) := dk_21 4 (dk_at dksX0_pour_3 13 rfl rfl)
theorem dX0_pour_87 : decode cX0_pour 87 = .ok (.aaload, 1) := dk_50 (dk_at dksX0_pour_3 15 rfl rfl)
theorem dX0_pour_88 : decode cX0_pour 88 = .ok (.getfield 264, 3) := dk_180 1 8 (dk_at dksX0_pour_3 16 rfl rfl)
theorem dX0_pour_91 : decode cX0_pour 91 = .ok (.istore 5, 2) := dk_54 5 (dk_at dksX0_pour_3 19 rfl rfl)
theorem dX0_pour_93 : decode cX0_pour 93 = .ok (.iload_n 3, 1) := dk_29 (dk_at dksX0_pour_3 21 rfl rfl)
theorem dX0_pour_94 : decode cX0_pour 94 = .ok (.aload_n 0, 1) := dk_42 (dk_at dksX0_pour_3 22 rfl rfl)
theorem dX0_pour_95 : decode cX0_pour 95 = .ok (.getfield 40, 3) := dk_180 0 40 (dk_at dksX0_pour_4 0 rfl rfl)
theorem dX0_pour_98 : decode cX0_pour 98 = .ok (.getfield 267, 3) := dk_180 1 11 (dk_at dksX0_pour_4 3 rfl rfl)
theorem dX0_pour_101 : decode cX0_pour 101 = .ok (.iload 4, 2) := dk_21 4 (dk_at dksX0_pour_4 6 rfl rfl)
theorem dX0_pour_103 : decode cX0_pour 103 = .ok (.aaload, 1) := dk_50 (dk_at dksX0_pour_4 8 rfl rfl)
theorem dX0_pour_104 : decode cX0_pour 104 = .ok (.iconst 3, 1) := dk_6 (dk_at dksX0_pour_4 9 rfl rfl)
theorem dX0_pour_105 : decode cX0_pour 105 = .ok (.iload 5, 2) := dk_21 5 (dk_at dksX0_pour_4 10 rfl rfl)
theorem dX0_pour_107 : decode cX0_pour 107 = .ok (.invokestatic 345, 3) := dk_184 1 89 (dk_at dksX0_pour_4 12 rfl rfl)
theorem dX0_pour_110 : decode cX0_pour 110 = .ok (.iload 5, 2) := dk_21 5 (dk_at dksX0_pour_4 15 rfl rfl)
theorem dX0_pour_112 : decode cX0_pour 112 = .ok (.if_icmp .ne 7, 3) := dk_160 0 7 (dk_at dksX0_pour_4 17 rfl rfl)
theorem dX0_pour_115 : decode cX0_pour 115 = .ok (.iconst 0, 1) := dk_3 (dk_at dksX0_pour_4 20 rfl rfl)
theorem dX0_pour_116 : decode cX0_pour 116 = .ok (.goto 4, 3) := dk_167 0 4 (dk_at dksX0_pour_4 21 rfl rfl)
theorem dX0_pour_119 : decode cX0_pour 119 = .ok (.iconst 1, 1) := dk_4 (dk_at dksX0_pour_5 0 rfl rfl)
theorem dX0_pour_120 : decode cX0_pour 120 = .ok (.iadd, 1) := dk_96 (dk_at dksX0_pour_5 1 rfl rfl)
theorem dX0_pour_121 : decode cX0_pour 121 = .ok (.istore_n 3, 1) := dk_62 (dk_at dksX0_pour_5 2 rfl rfl)
theorem dX0_pour_122 : decode cX0_pour 122 = .ok (.iinc 4 1, 3) := dk_132 4 1 (dk_at dksX0_pour_5 3 rfl rfl)
theorem dX0_pour_125 : decode cX0_pour 125 = .ok (.goto (-92), 3) := dk_167 255 164 (dk_at dksX0_pour_5 6 rfl rfl)
theorem dX0_pour_128 : decode cX0_pour 128 = .ok (.iload_n 3, 1) := dk_29 (dk_at dksX0_pour_5 9 rfl rfl)
theorem dX0_pour_129 : decode cX0_pour 129 = .ok (.ireturn, 1) := dk_172 (dk_at dksX0_pour_5 10 rfl rfl)
abbrev cX0_reads : ByteArray := prog_1_method_76_code
def yX0_reads : MethodName := ⟨RX0, "reads", "(I)I"⟩
def dkwX0_reads_3 : List UInt8 := [159, 0, 5, 29, 172, 132, 3, 1, 167, 255, 207, 18, 3, 172]
abbrev dktX0_reads_3 : List UInt8 := dkwX0_reads_3 ++ []
def dkwX0_reads_2 : List UInt8 := [182, 1, 43, 153, 0, 23, 44, 29, 182, 1, 192, 42, 180, 0, 40, 180, 1, 11, 29, 50, 180, 1, 5]
abbrev dktX0_reads_2 : List UInt8 := dkwX0_reads_2 ++ dktX0_reads_3
def dkwX0_reads_1 : List UInt8 := [19, 1, 180, 172, 3, 62, 29, 44, 182, 1, 181, 162, 0, 47, 44, 29, 182, 1, 189, 153, 0, 33, 42, 29]
abbrev dktX0_reads_1 : List UInt8 := dkwX0_reads_1 ++ dktX0_reads_2
def dkwX0_reads_0 : List UInt8 := [27, 184, 1, 150, 154, 0, 6, 18, 130, 172, 42, 180, 0, 80, 27, 50, 77, 44, 182, 1, 177, 154, 0, 7]
abbrev dktX0_reads_0 : List UInt8 := dkwX0_reads_0 ++ dktX0_reads_1
theorem dksX0_reads_0 : cX0_reads.data.toList.drop 0 = dktX0_reads_0 := by decide +kernel
theorem dksX0_reads_1 : cX0_reads.data.toList.drop 24 = dktX0_reads_1 := dk_seg dksX0_reads_0 24 rfl rfl
theorem dksX0_reads_2 : cX0_reads.data.toList.drop 48 = dktX0_reads_2 := dk_seg dksX0_reads_1 24 rfl rfl
theorem dksX0_reads_3 : cX0_reads.data.toList.drop 71 = dktX0_reads_3 := dk_seg dksX0_reads_2 23 rfl rfl
theorem dX0_reads_0 : decode cX0_reads 0 = .ok (.iload_n 1, 1) := dk_27 (dk_at dksX0_reads_0 0 rfl rfl)
theorem dX0_reads_1 : decode cX0_reads 1 = .ok (.invokestatic 406, 3) := dk_184 1 150 (dk_at dksX0_reads_0 1 rfl rfl)
theorem dX0_reads_4 : decode cX0_reads 4 = .ok (.ifCond .ne 6, 3) := dk_154 0 6 (dk_at dksX0_reads_0 4 rfl rfl)
theorem dX0_reads_7 : decode cX0_reads 7 = .ok (.ldc 130, 2) := dk_18 130 (dk_at dksX0_reads_0 7 rfl rfl)
theorem dX0_reads_9 : decode cX0_reads 9 = .ok (.ireturn, 1) := dk_172 (dk_at dksX0_reads_0 9 rfl rfl)
theorem dX0_reads_10 : decode cX0_reads 10 = .ok (.aload_n 0, 1) := dk_42 (dk_at dksX0_reads_0 10 rfl rfl)
theorem dX0_reads_11 : decode cX0_reads 11 = .ok (.getfield 80, 3) := dk_180 0 80 (dk_at dksX0_reads_0 11 rfl rfl)
theorem dX0_reads_14 : decode cX0_reads 14 = .ok (.iload_n 1, 1) := dk_27 (dk_at dksX0_reads_0 14 rfl rfl)
theorem dX0_reads_15 : decode cX0_reads 15 = .ok (.aaload, 1) := dk_50 (dk_at dksX0_reads_0 15 rfl rfl)
theorem dX0_reads_16 : decode cX0_reads 16 = .ok (.astore_n 2, 1) := dk_77 (dk_at dksX0_reads_0 16 rfl rfl)
theorem dX0_reads_17 : decode cX0_reads 17 = .ok (.aload_n 2, 1) := dk_44 (dk_at dksX0_reads_0 17 rfl rfl)
theorem dX0_reads_18 : decode cX0_reads 18 = .ok (.invokevirtual 433, 3) := dk_182 1 177 (dk_at dksX0_reads_0 18 rfl rfl)
theorem dX0_reads_21 : decode cX0_reads 21 = .ok (.ifCond .ne 7, 3) := dk_154 0 7 (dk_at dksX0_reads_0 21 rfl rfl)
theorem dX0_reads_24 : decode cX0_reads 24 = .ok (.ldc_w 436, 3) := dk_19 1 180 (dk_at dksX0_reads_1 0 rfl rfl)
theorem dX0_reads_27 : decode cX0_reads 27 = .ok (.ireturn, 1) := dk_172 (dk_at dksX0_reads_1 3 rfl rfl)
theorem dX0_reads_28 : decode cX0_reads 28 = .ok (.iconst 0, 1) := dk_3 (dk_at dksX0_reads_1 4 rfl rfl)
theorem dX0_reads_29 : decode cX0_reads 29 = .ok (.istore_n 3, 1) := dk_62 (dk_at dksX0_reads_1 5 rfl rfl)
theorem dX0_reads_30 : decode cX0_reads 30 = .ok (.iload_n 3, 1) := dk_29 (dk_at dksX0_reads_1 6 rfl rfl)
theorem dX0_reads_31 : decode cX0_reads 31 = .ok (.aload_n 2, 1) := dk_44 (dk_at dksX0_reads_1 7 rfl rfl)
theorem dX0_reads_32 : decode cX0_reads 32 = .ok (.invokevirtual 437, 3) := dk_182 1 181 (dk_at dksX0_reads_1 8 rfl rfl)
theorem dX0_reads_35 : decode cX0_reads 35 = .ok (.if_icmp .ge 47, 3) := dk_162 0 47 (dk_at dksX0_reads_1 11 rfl rfl)
theorem dX0_reads_38 : decode cX0_reads 38 = .ok (.aload_n 2, 1) := dk_44 (dk_at dksX0_reads_1 14 rfl rfl)
theorem dX0_reads_39 : decode cX0_reads 39 = .ok (.iload_n 3, 1) := dk_29 (dk_at dksX0_reads_1 15 rfl rfl)
theorem dX0_reads_40 : decode cX0_reads 40 = .ok (.invokevirtual 445, 3) := dk_182 1 189 (dk_at dksX0_reads_1 16 rfl rfl)
theorem dX0_reads_43 : decode cX0_reads 43 = .ok (.ifCond .eq 33, 3) := dk_153 0 33 (dk_at dksX0_reads_1 19 rfl rfl)
theorem dX0_reads_46 : decode cX0_reads 46 = .ok (.aload_n 0, 1) := dk_42 (dk_at dksX0_reads_1 22 rfl rfl)
theorem dX0_reads_47 : decode cX0_reads 47 = .ok (.iload_n 3, 1) := dk_29 (dk_at dksX0_reads_1 23 rfl rfl)
theorem dX0_reads_48 : decode cX0_reads 48 = .ok (.invokevirtual 299, 3) := dk_182 1 43 (dk_at dksX0_reads_2 0 rfl rfl)
theorem dX0_reads_51 : decode cX0_reads 51 = .ok (.ifCond .eq 23, 3) := dk_153 0 23 (dk_at dksX0_reads_2 3 rfl rfl)
theorem dX0_reads_54 : decode cX0_reads 54 = .ok (.aload_n 2, 1) := dk_44 (dk_at dksX0_reads_2 6 rfl rfl)
theorem dX0_reads_55 : decode cX0_reads 55 = .ok (.iload_n 3, 1) := dk_29 (dk_at dksX0_reads_2 7 rfl rfl)
theorem dX0_reads_56 : decode cX0_reads 56 = .ok (.invokevirtual 448, 3) := dk_182 1 192 (dk_at dksX0_reads_2 8 rfl rfl)
theorem dX0_reads_59 : decode cX0_reads 59 = .ok (.aload_n 0, 1) := dk_42 (dk_at dksX0_reads_2 11 rfl rfl)
theorem dX0_reads_60 : decode cX0_reads 60 = .ok (.getfield 40, 3) := dk_180 0 40 (dk_at dksX0_reads_2 12 rfl rfl)
theorem dX0_reads_63 : decode cX0_reads 63 = .ok (.getfield 267, 3) := dk_180 1 11 (dk_at dksX0_reads_2 15 rfl rfl)
theorem dX0_reads_66 : decode cX0_reads 66 = .ok (.iload_n 3, 1) := dk_29 (dk_at dksX0_reads_2 18 rfl rfl)
theorem dX0_reads_67 : decode cX0_reads 67 = .ok (.aaload, 1) := dk_50 (dk_at dksX0_reads_2 19 rfl rfl)
theorem dX0_reads_68 : decode cX0_reads 68 = .ok (.getfield 261, 3) := dk_180 1 5 (dk_at dksX0_reads_2 20 rfl rfl)
theorem dX0_reads_71 : decode cX0_reads 71 = .ok (.if_icmp .eq 5, 3) := dk_159 0 5 (dk_at dksX0_reads_3 0 rfl rfl)
theorem dX0_reads_74 : decode cX0_reads 74 = .ok (.iload_n 3, 1) := dk_29 (dk_at dksX0_reads_3 3 rfl rfl)
theorem dX0_reads_75 : decode cX0_reads 75 = .ok (.ireturn, 1) := dk_172 (dk_at dksX0_reads_3 4 rfl rfl)
theorem dX0_reads_76 : decode cX0_reads 76 = .ok (.iinc 3 1, 3) := dk_132 3 1 (dk_at dksX0_reads_3 5 rfl rfl)
theorem dX0_reads_79 : decode cX0_reads 79 = .ok (.goto (-49), 3) := dk_167 255 207 (dk_at dksX0_reads_3 8 rfl rfl)
theorem dX0_reads_82 : decode cX0_reads 82 = .ok (.ldc 3, 2) := dk_18 3 (dk_at dksX0_reads_3 11 rfl rfl)
theorem dX0_reads_84 : decode cX0_reads 84 = .ok (.ireturn, 1) := dk_172 (dk_at dksX0_reads_3 13 rfl rfl)
abbrev cX0_began : ByteArray := prog_1_method_78_code
def yX0_began : MethodName := ⟨RX0, "began", "(III)I"⟩
def dkwX0_began_5 : List UInt8 := [2, 160, 0, 8, 18, 3, 167, 0, 15, 29, 154, 0, 8, 21, 5, 167, 0, 6, 22, 6, 136, 172]
abbrev dktX0_began_5 : List UInt8 := dkwX0_began_5 ++ []
def dkwX0_began_4 : List UInt8 := [22, 9, 22, 6, 148, 156, 0, 11, 21, 8, 54, 5, 22, 9, 55, 6, 132, 8, 1, 167, 255, 208, 21, 5]
abbrev dktX0_began_4 : List UInt8 := dkwX0_began_4 ++ dktX0_began_5
def dkwX0_began_3 : List UInt8 := [180, 0, 101, 162, 0, 42, 42, 25, 4, 21, 8, 28, 182, 1, 198, 55, 9, 21, 5, 2, 159, 0, 11]
abbrev dktX0_began_3 : List UInt8 := dkwX0_began_3 ++ dktX0_began_4
def dkwX0_began_2 : List UInt8 := [19, 1, 180, 172, 42, 182, 1, 141, 2, 54, 5, 9, 55, 6, 3, 54, 8, 21, 8, 42, 180, 0, 40]
abbrev dktX0_began_2 : List UInt8 := dkwX0_began_2 ++ dktX0_began_3
def dkwX0_began_1 : List UInt8 := [154, 0, 6, 18, 130, 172, 42, 180, 0, 80, 27, 50, 58, 4, 25, 4, 182, 1, 177, 154, 0, 7]
abbrev dktX0_began_1 : List UInt8 := dkwX0_began_1 ++ dktX0_began_2
def dkwX0_began_0 : List UInt8 := [27, 184, 1, 150, 153, 0, 22, 28, 3, 16, 60, 184, 0, 105, 153, 0, 12, 29, 3, 4, 184, 0, 105]
abbrev dktX0_began_0 : List UInt8 := dkwX0_began_0 ++ dktX0_began_1
theorem dksX0_began_0 : cX0_began.data.toList.drop 0 = dktX0_began_0 := by decide +kernel
theorem dksX0_began_1 : cX0_began.data.toList.drop 23 = dktX0_began_1 := dk_seg dksX0_began_0 23 rfl rfl
theorem dksX0_began_2 : cX0_began.data.toList.drop 45 = dktX0_began_2 := dk_seg dksX0_began_1 22 rfl rfl
theorem dksX0_began_3 : cX0_began.data.toList.drop 68 = dktX0_began_3 := dk_seg dksX0_began_2 23 rfl rfl
theorem dksX0_began_4 : cX0_began.data.toList.drop 91 = dktX0_began_4 := dk_seg dksX0_began_3 23 rfl rfl
theorem dksX0_began_5 : cX0_began.data.toList.drop 115 = dktX0_began_5 := dk_seg dksX0_began_4 24 rfl rfl
theorem dX0_began_0 : decode cX0_began 0 = .ok (.iload_n 1, 1) := dk_27 (dk_at dksX0_began_0 0 rfl rfl)
theorem dX0_began_1 : decode cX0_began 1 = .ok (.invokestatic 406, 3) := dk_184 1 150 (dk_at dksX0_began_0 1 rfl rfl)
theorem dX0_began_4 : decode cX0_began 4 = .ok (.ifCond .eq 22, 3) := dk_153 0 22 (dk_at dksX0_began_0 4 rfl rfl)
theorem dX0_began_7 : decode cX0_began 7 = .ok (.iload_n 2, 1) := dk_28 (dk_at dksX0_began_0 7 rfl rfl)
theorem dX0_began_8 : decode cX0_began 8 = .ok (.iconst 0, 1) := dk_3 (dk_at dksX0_began_0 8 rfl rfl)
theorem dX0_began_9 : decode cX0_began 9 = .ok (.bipush 60, 2) := dk_16 60 (dk_at dksX0_began_0 9 rfl rfl)
theorem dX0_began_11 : decode cX0_began 11 = .ok (.invokestatic 105, 3) := dk_184 0 105 (dk_at dksX0_began_0 11 rfl rfl)
theorem dX0_began_14 : decode cX0_began 14 = .ok (.ifCond .eq 12, 3) := dk_153 0 12 (dk_at dksX0_began_0 14 rfl rfl)
theorem dX0_began_17 : decode cX0_began 17 = .ok (.iload_n 3, 1) := dk_29 (dk_at dksX0_began_0 17 rfl rfl)
theorem dX0_began_18 : decode cX0_began 18 = .ok (.iconst 0, 1) := dk_3 (dk_at dksX0_began_0 18 rfl rfl)
theorem dX0_began_19 : decode cX0_began 19 = .ok (.iconst 1, 1) := dk_4 (dk_at dksX0_began_0 19 rfl rfl)
theorem dX0_began_20 : decode cX0_began 20 = .ok (.invokestatic 105, 3) := dk_184 0 105 (dk_at dksX0_began_0 20 rfl rfl)
theorem dX0_began_23 : decode cX0_began 23 = .ok (.ifCond .ne 6, 3) := dk_154 0 6 (dk_at dksX0_began_1 0 rfl rfl)
theorem dX0_began_26 : decode cX0_began 26 = .ok (.ldc 130, 2) := dk_18 130 (dk_at dksX0_began_1 3 rfl rfl)
theorem dX0_began_28 : decode cX0_began 28 = .ok (.ireturn, 1) := dk_172 (dk_at dksX0_began_1 5 rfl rfl)
theorem dX0_began_29 : decode cX0_began 29 = .ok (.aload_n 0, 1) := dk_42 (dk_at dksX0_began_1 6 rfl rfl)
theorem dX0_began_30 : decode cX0_began 30 = .ok (.getfield 80, 3) := dk_180 0 80 (dk_at dksX0_began_1 7 rfl rfl)
theorem dX0_began_33 : decode cX0_began 33 = .ok (.iload_n 1, 1) := dk_27 (dk_at dksX0_began_1 10 rfl rfl)
theorem dX0_began_34 : decode cX0_began 34 = .ok (.aaload, 1) := dk_50 (dk_at dksX0_began_1 11 rfl rfl)
theorem dX0_began_35 : decode cX0_began 35 = .ok (.astore 4, 2) := dk_58 4 (dk_at dksX0_began_1 12 rfl rfl)
theorem dX0_began_37 : decode cX0_began 37 = .ok (.aload 4, 2) := dk_25 4 (dk_at dksX0_began_1 14 rfl rfl)
theorem dX0_began_39 : decode cX0_began 39 = .ok (.invokevirtual 433, 3) := dk_182 1 177 (dk_at dksX0_began_1 16 rfl rfl)
theorem dX0_began_42 : decode cX0_began 42 = .ok (.ifCond .ne 7, 3) := dk_154 0 7 (dk_at dksX0_began_1 19 rfl rfl)
theorem dX0_began_45 : decode cX0_began 45 = .ok (.ldc_w 436, 3) := dk_19 1 180 (dk_at dksX0_began_2 0 rfl rfl)
theorem dX0_began_48 : decode cX0_began 48 = .ok (.ireturn, 1) := dk_172 (dk_at dksX0_began_2 3 rfl rfl)
theorem dX0_began_49 : decode cX0_began 49 = .ok (.aload_n 0, 1) := dk_42 (dk_at dksX0_began_2 4 rfl rfl)
theorem dX0_began_50 : decode cX0_began 50 = .ok (.invokevirtual 397, 3) := dk_182 1 141 (dk_at dksX0_began_2 5 rfl rfl)
theorem dX0_began_53 : decode cX0_began 53 = .ok (.iconst (-1), 1) := dk_2 (dk_at dksX0_began_2 8 rfl rfl)
theorem dX0_began_54 : decode cX0_began 54 = .ok (.istore 5, 2) := dk_54 5 (dk_at dksX0_began_2 9 rfl rfl)
theorem dX0_began_56 : decode cX0_began 56 = .ok (.lconst 0, 1) := dk_9 (dk_at dksX0_began_2 11 rfl rfl)
theorem dX0_began_57 : decode cX0_began 57 = .ok (.lstore 6, 2) := dk_55 6 (dk_at dksX0_began_2 12 rfl rfl)
theorem dX0_began_59 : decode cX0_began 59 = .ok (.iconst 0, 1) := dk_3 (dk_at dksX0_began_2 14 rfl rfl)
theorem dX0_began_60 : decode cX0_began 60 = .ok (.istore 8, 2) := dk_54 8 (dk_at dksX0_began_2 15 rfl rfl)
theorem dX0_began_62 : decode cX0_began 62 = .ok (.iload 8, 2) := dk_21 8 (dk_at dksX0_began_2 17 rfl rfl)
theorem dX0_began_64 : decode cX0_began 64 = .ok (.aload_n 0, 1) := dk_42 (dk_at dksX0_began_2 19 rfl rfl)
theorem dX0_began_65 : decode cX0_began 65 = .ok (.getfield 40, 3) := dk_180 0 40 (dk_at dksX0_began_2 20 rfl rfl)
theorem dX0_began_68 : decode cX0_began 68 = .ok (.getfield 101, 3) := dk_180 0 101 (dk_at dksX0_began_3 0 rfl rfl)
theorem dX0_began_71 : decode cX0_began 71 = .ok (.if_icmp .ge 42, 3) := dk_162 0 42 (dk_at dksX0_began_3 3 rfl rfl)
theorem dX0_began_74 : decode cX0_began 74 = .ok (.aload_n 0, 1) := dk_42 (dk_at dksX0_began_3 6 rfl rfl)
theorem dX0_began_75 : decode cX0_began 75 = .ok (.aload 4, 2) := dk_25 4 (dk_at dksX0_began_3 7 rfl rfl)
theorem dX0_began_77 : decode cX0_began 77 = .ok (.iload 8, 2) := dk_21 8 (dk_at dksX0_began_3 9 rfl rfl)
theorem dX0_began_79 : decode cX0_began 79 = .ok (.iload_n 2, 1) := dk_28 (dk_at dksX0_began_3 11 rfl rfl)
theorem dX0_began_80 : decode cX0_began 80 = .ok (.invokevirtual 454, 3) := dk_182 1 198 (dk_at dksX0_began_3 12 rfl rfl)
theorem dX0_began_83 : decode cX0_began 83 = .ok (.lstore 9, 2) := dk_55 9 (dk_at dksX0_began_3 15 rfl rfl)
theorem dX0_began_85 : decode cX0_began 85 = .ok (.iload 5, 2) := dk_21 5 (dk_at dksX0_began_3 17 rfl rfl)
theorem dX0_began_87 : decode cX0_began 87 = .ok (.iconst (-1), 1) := dk_2 (dk_at dksX0_began_3 19 rfl rfl)
theorem dX0_began_88 : decode cX0_began 88 = .ok (.if_icmp .eq 11, 3) := dk_159 0 11 (dk_at dksX0_began_3 20 rfl rfl)
theorem dX0_began_91 : decode cX0_began 91 = .ok (.lload 9, 2) := dk_22 9 (dk_at dksX0_began_4 0 rfl rfl)
theorem dX0_began_93 : decode cX0_began 93 = .ok (.lload 6, 2) := dk_22 6 (dk_at dksX0_began_4 2 rfl rfl)
theorem dX0_began_95 : decode cX0_began 95 = .ok (.lcmp, 1) := dk_148 (dk_at dksX0_began_4 4 rfl rfl)
theorem dX0_began_96 : decode cX0_began 96 = .ok (.ifCond .ge 11, 3) := dk_156 0 11 (dk_at dksX0_began_4 5 rfl rfl)
theorem dX0_began_99 : decode cX0_began 99 = .ok (.iload 8, 2) := dk_21 8 (dk_at dksX0_began_4 8 rfl rfl)
theorem dX0_began_101 : decode cX0_began 101 = .ok (.istore 5, 2) := dk_54 5 (dk_at dksX0_began_4 10 rfl rfl)
theorem dX0_began_103 : decode cX0_began 103 = .ok (.lload 9, 2) := dk_22 9 (dk_at dksX0_began_4 12 rfl rfl)
theorem dX0_began_105 : decode cX0_began 105 = .ok (.lstore 6, 2) := dk_55 6 (dk_at dksX0_began_4 14 rfl rfl)
theorem dX0_began_107 : decode cX0_began 107 = .ok (.iinc 8 1, 3) := dk_132 8 1 (dk_at dksX0_began_4 16 rfl rfl)
theorem dX0_began_110 : decode cX0_began 110 = .ok (.goto (-48), 3) := dk_167 255 208 (dk_at dksX0_began_4 19 rfl rfl)
theorem dX0_began_113 : decode cX0_began 113 = .ok (.iload 5, 2) := dk_21 5 (dk_at dksX0_began_4 22 rfl rfl)
theorem dX0_began_115 : decode cX0_began 115 = .ok (.iconst (-1), 1) := dk_2 (dk_at dksX0_began_5 0 rfl rfl)
theorem dX0_began_116 : decode cX0_began 116 = .ok (.if_icmp .ne 8, 3) := dk_160 0 8 (dk_at dksX0_began_5 1 rfl rfl)
theorem dX0_began_119 : decode cX0_began 119 = .ok (.ldc 3, 2) := dk_18 3 (dk_at dksX0_began_5 4 rfl rfl)
theorem dX0_began_121 : decode cX0_began 121 = .ok (.goto 15, 3) := dk_167 0 15 (dk_at dksX0_began_5 6 rfl rfl)
theorem dX0_began_124 : decode cX0_began 124 = .ok (.iload_n 3, 1) := dk_29 (dk_at dksX0_began_5 9 rfl rfl)
theorem dX0_began_125 : decode cX0_began 125 = .ok (.ifCond .ne 8, 3) := dk_154 0 8 (dk_at dksX0_began_5 10 rfl rfl)
theorem dX0_began_128 : decode cX0_began 128 = .ok (.iload 5, 2) := dk_21 5 (dk_at dksX0_began_5 13 rfl rfl)
theorem dX0_began_130 : decode cX0_began 130 = .ok (.goto 6, 3) := dk_167 0 6 (dk_at dksX0_began_5 15 rfl rfl)
theorem dX0_began_133 : decode cX0_began 133 = .ok (.lload 6, 2) := dk_22 6 (dk_at dksX0_began_5 18 rfl rfl)
theorem dX0_began_135 : decode cX0_began 135 = .ok (.l2i, 1) := dk_136 (dk_at dksX0_began_5 20 rfl rfl)
theorem dX0_began_136 : decode cX0_began 136 = .ok (.ireturn, 1) := dk_172 (dk_at dksX0_began_5 21 rfl rfl)
abbrev cX0_offBy : ByteArray := prog_1_method_77_code
def yX0_offBy : MethodName := ⟨RX0, "offBy", "(LLeaningStreet$Sheet;II)J"⟩
def dkwX0_offBy_4 : List UInt8 := [132, 6, 1, 167, 255, 184, 42, 182, 1, 144, 22, 4, 173]
abbrev dktX0_offBy_4 : List UInt8 := dkwX0_offBy_4 ++ []
def dkwX0_offBy_3 : List UInt8 := [153, 0, 20, 43, 21, 6, 182, 1, 192, 133, 21, 7, 133, 101, 184, 1, 195, 167, 0, 4, 9, 97, 55, 4]
abbrev dktX0_offBy_3 : List UInt8 := dkwX0_offBy_3 ++ dktX0_offBy_4
def dkwX0_offBy_2 : List UInt8 := [180, 1, 11, 21, 6, 50, 180, 1, 32, 167, 0, 4, 3, 54, 7, 22, 4, 43, 21, 6, 182, 1, 189]
abbrev dktX0_offBy_2 : List UInt8 := dkwX0_offBy_2 ++ dktX0_offBy_3
def dkwX0_offBy_1 : List UInt8 := [21, 6, 43, 182, 1, 181, 162, 0, 69, 42, 21, 6, 182, 1, 43, 153, 0, 19, 42, 180, 0, 40]
abbrev dktX0_offBy_1 : List UInt8 := dkwX0_offBy_1 ++ dktX0_offBy_2
def dkwX0_offBy_0 : List UInt8 := [42, 180, 0, 40, 180, 1, 11, 28, 50, 3, 181, 1, 8, 42, 29, 182, 1, 132, 9, 55, 4, 3, 54, 6]
abbrev dktX0_offBy_0 : List UInt8 := dkwX0_offBy_0 ++ dktX0_offBy_1
theorem dksX0_offBy_0 : cX0_offBy.data.toList.drop 0 = dktX0_offBy_0 := by decide +kernel
theorem dksX0_offBy_1 : cX0_offBy.data.toList.drop 24 = dktX0_offBy_1 := dk_seg dksX0_offBy_0 24 rfl rfl
theorem dksX0_offBy_2 : cX0_offBy.data.toList.drop 46 = dktX0_offBy_2 := dk_seg dksX0_offBy_1 22 rfl rfl
theorem dksX0_offBy_3 : cX0_offBy.data.toList.drop 69 = dktX0_offBy_3 := dk_seg dksX0_offBy_2 23 rfl rfl
theorem dksX0_offBy_4 : cX0_offBy.data.toList.drop 93 = dktX0_offBy_4 := dk_seg dksX0_offBy_3 24 rfl rfl
theorem dX0_offBy_0 : decode cX0_offBy 0 = .ok (.aload_n 0, 1) := dk_42 (dk_at dksX0_offBy_0 0 rfl rfl)
theorem dX0_offBy_1 : decode cX0_offBy 1 = .ok (.getfield 40, 3) := dk_180 0 40 (dk_at dksX0_offBy_0 1 rfl rfl)
theorem dX0_offBy_4 : decode cX0_offBy 4 = .ok (.getfield 267, 3) := dk_180 1 11 (dk_at dksX0_offBy_0 4 rfl rfl)
theorem dX0_offBy_7 : decode cX0_offBy 7 = .ok (.iload_n 2, 1) := dk_28 (dk_at dksX0_offBy_0 7 rfl rfl)
theorem dX0_offBy_8 : decode cX0_offBy 8 = .ok (.aaload, 1) := dk_50 (dk_at dksX0_offBy_0 8 rfl rfl)
theorem dX0_offBy_9 : decode cX0_offBy 9 = .ok (.iconst 0, 1) := dk_3 (dk_at dksX0_offBy_0 9 rfl rfl)
theorem dX0_offBy_10 : decode cX0_offBy 10 = .ok (.putfield 264, 3) := dk_181 1 8 (dk_at dksX0_offBy_0 10 rfl rfl)
theorem dX0_offBy_13 : decode cX0_offBy 13 = .ok (.aload_n 0, 1) := dk_42 (dk_at dksX0_offBy_0 13 rfl rfl)
theorem dX0_offBy_14 : decode cX0_offBy 14 = .ok (.iload_n 3, 1) := dk_29 (dk_at dksX0_offBy_0 14 rfl rfl)
theorem dX0_offBy_15 : decode cX0_offBy 15 = .ok (.invokevirtual 388, 3) := dk_182 1 132 (dk_at dksX0_offBy_0 15 rfl rfl)
theorem dX0_offBy_18 : decode cX0_offBy 18 = .ok (.lconst 0, 1) := dk_9 (dk_at dksX0_offBy_0 18 rfl rfl)
theorem dX0_offBy_19 : decode cX0_offBy 19 = .ok (.lstore 4, 2) := dk_55 4 (dk_at dksX0_offBy_0 19 rfl rfl)
theorem dX0_offBy_21 : decode cX0_offBy 21 = .ok (.iconst 0, 1) := dk_3 (dk_at dksX0_offBy_0 21 rfl rfl)
theorem dX0_offBy_22 : decode cX0_offBy 22 = .ok (.istore 6, 2) := dk_54 6 (dk_at dksX0_offBy_0 22 rfl rfl)
theorem dX0_offBy_24 : decode cX0_offBy 24 = .ok (.iload 6, 2) := dk_21 6 (dk_at dksX0_offBy_1 0 rfl rfl)
theorem dX0_offBy_26 : decode cX0_offBy 26 = .ok (.aload_n 1, 1) := dk_43 (dk_at dksX0_offBy_1 2 rfl rfl)
theorem dX0_offBy_27 : decode cX0_offBy 27 = .ok (.invokevirtual 437, 3) := dk_182 1 181 (dk_at dksX0_offBy_1 3 rfl rfl)
theorem dX0_offBy_30 : decode cX0_offBy 30 = .ok (.if_icmp .ge 69, 3) := dk_162 0 69 (dk_at dksX0_offBy_1 6 rfl rfl)
theorem dX0_offBy_33 : decode cX0_offBy 33 = .ok (.aload_n 0, 1) := dk_42 (dk_at dksX0_offBy_1 9 rfl rfl)
theorem dX0_offBy_34 : decode cX0_offBy 34 = .ok (.iload 6, 2) := dk_21 6 (dk_at dksX0_offBy_1 10 rfl rfl)
theorem dX0_offBy_36 : decode cX0_offBy 36 = .ok (.invokevirtual 299, 3) := dk_182 1 43 (dk_at dksX0_offBy_1 12 rfl rfl)
theorem dX0_offBy_39 : decode cX0_offBy 39 = .ok (.ifCond .eq 19, 3) := dk_153 0 19 (dk_at dksX0_offBy_1 15 rfl rfl)
theorem dX0_offBy_42 : decode cX0_offBy 42 = .ok (.aload_n 0, 1) := dk_42 (dk_at dksX0_offBy_1 18 rfl rfl)
theorem dX0_offBy_43 : decode cX0_offBy 43 = .ok (.getfield 40, 3) := dk_180 0 40 (dk_at dksX0_offBy_1 19 rfl rfl)
theorem dX0_offBy_46 : decode cX0_offBy 46 = .ok (.getfield 267, 3) := dk_180 1 11 (dk_at dksX0_offBy_2 0 rfl rfl)
theorem dX0_offBy_49 : decode cX0_offBy 49 = .ok (.iload 6, 2) := dk_21 6 (dk_at dksX0_offBy_2 3 rfl rfl)
theorem dX0_offBy_51 : decode cX0_offBy 51 = .ok (.aaload, 1) := dk_50 (dk_at dksX0_offBy_2 5 rfl rfl)
theorem dX0_offBy_52 : decode cX0_offBy 52 = .ok (.getfield 288, 3) := dk_180 1 32 (dk_at dksX0_offBy_2 6 rfl rfl)
theorem dX0_offBy_55 : decode cX0_offBy 55 = .ok (.goto 4, 3) := dk_167 0 4 (dk_at dksX0_offBy_2 9 rfl rfl)
theorem dX0_offBy_58 : decode cX0_offBy 58 = .ok (.iconst 0, 1) := dk_3 (dk_at dksX0_offBy_2 12 rfl rfl)
theorem dX0_offBy_59 : decode cX0_offBy 59 = .ok (.istore 7, 2) := dk_54 7 (dk_at dksX0_offBy_2 13 rfl rfl)
theorem dX0_offBy_61 : decode cX0_offBy 61 = .ok (.lload 4, 2) := dk_22 4 (dk_at dksX0_offBy_2 15 rfl rfl)
theorem dX0_offBy_63 : decode cX0_offBy 63 = .ok (.aload_n 1, 1) := dk_43 (dk_at dksX0_offBy_2 17 rfl rfl)
theorem dX0_offBy_64 : decode cX0_offBy 64 = .ok (.iload 6, 2) := dk_21 6 (dk_at dksX0_offBy_2 18 rfl rfl)
theorem dX0_offBy_66 : decode cX0_offBy 66 = .ok (.invokevirtual 445, 3) := dk_182 1 189 (dk_at dksX0_offBy_2 20 rfl rfl)
theorem dX0_offBy_69 : decode cX0_offBy 69 = .ok (.ifCond .eq 20, 3) := dk_153 0 20 (dk_at dksX0_offBy_3 0 rfl rfl)
theorem dX0_offBy_72 : decode cX0_offBy 72 = .ok (.aload_n 1, 1) := dk_43 (dk_at dksX0_offBy_3 3 rfl rfl)
theorem dX0_offBy_73 : decode cX0_offBy 73 = .ok (.iload 6, 2) := dk_21 6 (dk_at dksX0_offBy_3 4 rfl rfl)
theorem dX0_offBy_75 : decode cX0_offBy 75 = .ok (.invokevirtual 448, 3) := dk_182 1 192 (dk_at dksX0_offBy_3 6 rfl rfl)
theorem dX0_offBy_78 : decode cX0_offBy 78 = .ok (.i2l, 1) := dk_133 (dk_at dksX0_offBy_3 9 rfl rfl)
theorem dX0_offBy_79 : decode cX0_offBy 79 = .ok (.iload 7, 2) := dk_21 7 (dk_at dksX0_offBy_3 10 rfl rfl)
theorem dX0_offBy_81 : decode cX0_offBy 81 = .ok (.i2l, 1) := dk_133 (dk_at dksX0_offBy_3 12 rfl rfl)
theorem dX0_offBy_82 : decode cX0_offBy 82 = .ok (.lsub, 1) := dk_101 (dk_at dksX0_offBy_3 13 rfl rfl)
theorem dX0_offBy_83 : decode cX0_offBy 83 = .ok (.invokestatic 451, 3) := dk_184 1 195 (dk_at dksX0_offBy_3 14 rfl rfl)
theorem dX0_offBy_86 : decode cX0_offBy 86 = .ok (.goto 4, 3) := dk_167 0 4 (dk_at dksX0_offBy_3 17 rfl rfl)
theorem dX0_offBy_89 : decode cX0_offBy 89 = .ok (.lconst 0, 1) := dk_9 (dk_at dksX0_offBy_3 20 rfl rfl)
theorem dX0_offBy_90 : decode cX0_offBy 90 = .ok (.ladd, 1) := dk_97 (dk_at dksX0_offBy_3 21 rfl rfl)
theorem dX0_offBy_91 : decode cX0_offBy 91 = .ok (.lstore 4, 2) := dk_55 4 (dk_at dksX0_offBy_3 22 rfl rfl)
theorem dX0_offBy_93 : decode cX0_offBy 93 = .ok (.iinc 6 1, 3) := dk_132 6 1 (dk_at dksX0_offBy_4 0 rfl rfl)
theorem dX0_offBy_96 : decode cX0_offBy 96 = .ok (.goto (-72), 3) := dk_167 255 184 (dk_at dksX0_offBy_4 3 rfl rfl)
theorem dX0_offBy_99 : decode cX0_offBy 99 = .ok (.aload_n 0, 1) := dk_42 (dk_at dksX0_offBy_4 6 rfl rfl)
theorem dX0_offBy_100 : decode cX0_offBy 100 = .ok (.invokevirtual 400, 3) := dk_182 1 144 (dk_at dksX0_offBy_4 7 rfl rfl)
theorem dX0_offBy_103 : decode cX0_offBy 103 = .ok (.lload 4, 2) := dk_22 4 (dk_at dksX0_offBy_4 10 rfl rfl)
theorem dX0_offBy_105 : decode cX0_offBy 105 = .ok (.lreturn, 1) := dk_173 (dk_at dksX0_offBy_4 12 rfl rfl)
abbrev cX0_copy : ByteArray := prog_1_method_80_code
def yX0_copy : MethodName := ⟨RX0, "copy", "(IIIII)I"⟩
def dkwX0_copy_5 : List UInt8 := [25, 7, 21, 4, 21, 5, 182, 1, 210, 21, 5, 172]
abbrev dktX0_copy_5 : List UInt8 := dkwX0_copy_5 ++ []
def dkwX0_copy_4 : List UInt8 := [163, 0, 16, 21, 4, 25, 7, 182, 1, 181, 21, 5, 100, 164, 0, 7, 19, 1, 188, 172, 42, 25, 6, 28]
abbrev dktX0_copy_4 : List UInt8 := dkwX0_copy_4 ++ dktX0_copy_5
def dkwX0_copy_3 : List UInt8 := [28, 155, 0, 38, 21, 4, 155, 0, 33, 21, 5, 155, 0, 28, 28, 25, 6, 182, 1, 181, 21, 5, 100]
abbrev dktX0_copy_3 : List UInt8 := dkwX0_copy_3 ++ dktX0_copy_4
def dkwX0_copy_2 : List UInt8 := [154, 0, 7, 19, 1, 180, 172, 25, 6, 182, 1, 164, 25, 7, 182, 1, 164, 159, 0, 7, 19, 1, 84, 172]
abbrev dktX0_copy_2 : List UInt8 := dkwX0_copy_2 ++ dktX0_copy_3
def dkwX0_copy_1 : List UInt8 := [58, 6, 42, 180, 0, 80, 29, 50, 58, 7, 25, 6, 182, 1, 177, 153, 0, 11, 25, 7, 182, 1, 177]
abbrev dktX0_copy_1 : List UInt8 := dkwX0_copy_1 ++ dktX0_copy_2
def dkwX0_copy_0 : List UInt8 := [27, 184, 1, 150, 153, 0, 10, 29, 184, 1, 150, 154, 0, 6, 18, 130, 172, 42, 180, 0, 80, 27, 50]
abbrev dktX0_copy_0 : List UInt8 := dkwX0_copy_0 ++ dktX0_copy_1
theorem dksX0_copy_0 : cX0_copy.data.toList.drop 0 = dktX0_copy_0 := by decide +kernel
theorem dksX0_copy_1 : cX0_copy.data.toList.drop 23 = dktX0_copy_1 := dk_seg dksX0_copy_0 23 rfl rfl
theorem dksX0_copy_2 : cX0_copy.data.toList.drop 46 = dktX0_copy_2 := dk_seg dksX0_copy_1 23 rfl rfl
theorem dksX0_copy_3 : cX0_copy.data.toList.drop 70 = dktX0_copy_3 := dk_seg dksX0_copy_2 24 rfl rfl
theorem dksX0_copy_4 : cX0_copy.data.toList.drop 93 = dktX0_copy_4 := dk_seg dksX0_copy_3 23 rfl rfl
theorem dksX0_copy_5 : cX0_copy.data.toList.drop 117 = dktX0_copy_5 := dk_seg dksX0_copy_4 24 rfl rfl
theorem dX0_copy_0 : decode cX0_copy 0 = .ok (.iload_n 1, 1) := dk_27 (dk_at dksX0_copy_0 0 rfl rfl)
theorem dX0_copy_1 : decode cX0_copy 1 = .ok (.invokestatic 406, 3) := dk_184 1 150 (dk_at dksX0_copy_0 1 rfl rfl)
theorem dX0_copy_4 : decode cX0_copy 4 = .ok (.ifCond .eq 10, 3) := dk_153 0 10 (dk_at dksX0_copy_0 4 rfl rfl)
theorem dX0_copy_7 : decode cX0_copy 7 = .ok (.iload_n 3, 1) := dk_29 (dk_at dksX0_copy_0 7 rfl rfl)
theorem dX0_copy_8 : decode cX0_copy 8 = .ok (.invokestatic 406, 3) := dk_184 1 150 (dk_at dksX0_copy_0 8 rfl rfl)
theorem dX0_copy_11 : decode cX0_copy 11 = .ok (.ifCond .ne 6, 3) := dk_154 0 6 (dk_at dksX0_copy_0 11 rfl rfl)
theorem dX0_copy_14 : decode cX0_copy 14 = .ok (.ldc 130, 2) := dk_18 130 (dk_at dksX0_copy_0 14 rfl rfl)
theorem dX0_copy_16 : decode cX0_copy 16 = .ok (.ireturn, 1) := dk_172 (dk_at dksX0_copy_0 16 rfl rfl)
theorem dX0_copy_17 : decode cX0_copy 17 = .ok (.aload_n 0, 1) := dk_42 (dk_at dksX0_copy_0 17 rfl rfl)
theorem dX0_copy_18 : decode cX0_copy 18 = .ok (.getfield 80, 3) := dk_180 0 80 (dk_at dksX0_copy_0 18 rfl rfl)
theorem dX0_copy_21 : decode cX0_copy 21 = .ok (.iload_n 1, 1) := dk_27 (dk_at dksX0_copy_0 21 rfl rfl)
theorem dX0_copy_22 : decode cX0_copy 22 = .ok (.aaload, 1) := dk_50 (dk_at dksX0_copy_0 22 rfl rfl)
theorem dX0_copy_23 : decode cX0_copy 23 = .ok (.astore 6, 2) := dk_58 6 (dk_at dksX0_copy_1 0 rfl rfl)
theorem dX0_copy_25 : decode cX0_copy 25 = .ok (.aload_n 0, 1) := dk_42 (dk_at dksX0_copy_1 2 rfl rfl)
theorem dX0_copy_26 : decode cX0_copy 26 = .ok (.getfield 80, 3) := dk_180 0 80 (dk_at dksX0_copy_1 3 rfl rfl)
theorem dX0_copy_29 : decode cX0_copy 29 = .ok (.iload_n 3, 1) := dk_29 (dk_at dksX0_copy_1 6 rfl rfl)
theorem dX0_copy_30 : decode cX0_copy 30 = .ok (.aaload, 1) := dk_50 (dk_at dksX0_copy_1 7 rfl rfl)
theorem dX0_copy_31 : decode cX0_copy 31 = .ok (.astore 7, 2) := dk_58 7 (dk_at dksX0_copy_1 8 rfl rfl)
theorem dX0_copy_33 : decode cX0_copy 33 = .ok (.aload 6, 2) := dk_25 6 (dk_at dksX0_copy_1 10 rfl rfl)
theorem dX0_copy_35 : decode cX0_copy 35 = .ok (.invokevirtual 433, 3) := dk_182 1 177 (dk_at dksX0_copy_1 12 rfl rfl)
theorem dX0_copy_38 : decode cX0_copy 38 = .ok (.ifCond .eq 11, 3) := dk_153 0 11 (dk_at dksX0_copy_1 15 rfl rfl)
theorem dX0_copy_41 : decode cX0_copy 41 = .ok (.aload 7, 2) := dk_25 7 (dk_at dksX0_copy_1 18 rfl rfl)
theorem dX0_copy_43 : decode cX0_copy 43 = .ok (.invokevirtual 433, 3) := dk_182 1 177 (dk_at dksX0_copy_1 20 rfl rfl)
theorem dX0_copy_46 : decode cX0_copy 46 = .ok (.ifCond .ne 7, 3) := dk_154 0 7 (dk_at dksX0_copy_2 0 rfl rfl)
theorem dX0_copy_49 : decode cX0_copy 49 = .ok (.ldc_w 436, 3) := dk_19 1 180 (dk_at dksX0_copy_2 3 rfl rfl)
theorem dX0_copy_52 : decode cX0_copy 52 = .ok (.ireturn, 1) := dk_172 (dk_at dksX0_copy_2 6 rfl rfl)
theorem dX0_copy_53 : decode cX0_copy 53 = .ok (.aload 6, 2) := dk_25 6 (dk_at dksX0_copy_2 7 rfl rfl)
theorem dX0_copy_55 : decode cX0_copy 55 = .ok (.invokevirtual 420, 3) := dk_182 1 164 (dk_at dksX0_copy_2 9 rfl rfl)
theorem dX0_copy_58 : decode cX0_copy 58 = .ok (.aload 7, 2) := dk_25 7 (dk_at dksX0_copy_2 12 rfl rfl)
theorem dX0_copy_60 : decode cX0_copy 60 = .ok (.invokevirtual 420, 3) := dk_182 1 164 (dk_at dksX0_copy_2 14 rfl rfl)
theorem dX0_copy_63 : decode cX0_copy 63 = .ok (.if_icmp .eq 7, 3) := dk_159 0 7 (dk_at dksX0_copy_2 17 rfl rfl)
theorem dX0_copy_66 : decode cX0_copy 66 = .ok (.ldc_w 340, 3) := dk_19 1 84 (dk_at dksX0_copy_2 20 rfl rfl)
theorem dX0_copy_69 : decode cX0_copy 69 = .ok (.ireturn, 1) := dk_172 (dk_at dksX0_copy_2 23 rfl rfl)
theorem dX0_copy_70 : decode cX0_copy 70 = .ok (.iload_n 2, 1) := dk_28 (dk_at dksX0_copy_3 0 rfl rfl)
theorem dX0_copy_71 : decode cX0_copy 71 = .ok (.ifCond .lt 38, 3) := dk_155 0 38 (dk_at dksX0_copy_3 1 rfl rfl)
theorem dX0_copy_74 : decode cX0_copy 74 = .ok (.iload 4, 2) := dk_21 4 (dk_at dksX0_copy_3 4 rfl rfl)
theorem dX0_copy_76 : decode cX0_copy 76 = .ok (.ifCond .lt 33, 3) := dk_155 0 33 (dk_at dksX0_copy_3 6 rfl rfl)
theorem dX0_copy_79 : decode cX0_copy 79 = .ok (.iload 5, 2) := dk_21 5 (dk_at dksX0_copy_3 9 rfl rfl)
theorem dX0_copy_81 : decode cX0_copy 81 = .ok (.ifCond .lt 28, 3) := dk_155 0 28 (dk_at dksX0_copy_3 11 rfl rfl)
theorem dX0_copy_84 : decode cX0_copy 84 = .ok (.iload_n 2, 1) := dk_28 (dk_at dksX0_copy_3 14 rfl rfl)
theorem dX0_copy_85 : decode cX0_copy 85 = .ok (.aload 6, 2) := dk_25 6 (dk_at dksX0_copy_3 15 rfl rfl)
theorem dX0_copy_87 : decode cX0_copy 87 = .ok (.invokevirtual 437, 3) := dk_182 1 181 (dk_at dksX0_copy_3 17 rfl rfl)
theorem dX0_copy_90 : decode cX0_copy 90 = .ok (.iload 5, 2) := dk_21 5 (dk_at dksX0_copy_3 20 rfl rfl)
theorem dX0_copy_92 : decode cX0_copy 92 = .ok (.isub, 1) := dk_100 (dk_at dksX0_copy_3 22 rfl rfl)
theorem dX0_copy_93 : decode cX0_copy 93 = .ok (.if_icmp .gt 16, 3) := dk_163 0 16 (dk_at dksX0_copy_4 0 rfl rfl)
theorem dX0_copy_96 : decode cX0_copy 96 = .ok (.iload 4, 2) := dk_21 4 (dk_at dksX0_copy_4 3 rfl rfl)
theorem dX0_copy_98 : decode cX0_copy 98 = .ok (.aload 7, 2) := dk_25 7 (dk_at dksX0_copy_4 5 rfl rfl)
theorem dX0_copy_100 : decode cX0_copy 100 = .ok (.invokevirtual 437, 3) := dk_182 1 181 (dk_at dksX0_copy_4 7 rfl rfl)
theorem dX0_copy_103 : decode cX0_copy 103 = .ok (.iload 5, 2) := dk_21 5 (dk_at dksX0_copy_4 10 rfl rfl)
theorem dX0_copy_105 : decode cX0_copy 105 = .ok (.isub, 1) := dk_100 (dk_at dksX0_copy_4 12 rfl rfl)
theorem dX0_copy_106 : decode cX0_copy 106 = .ok (.if_icmp .le 7, 3) := dk_164 0 7 (dk_at dksX0_copy_4 13 rfl rfl)
theorem dX0_copy_109 : decode cX0_copy 109 = .ok (.ldc_w 444, 3) := dk_19 1 188 (dk_at dksX0_copy_4 16 rfl rfl)
theorem dX0_copy_112 : decode cX0_copy 112 = .ok (.ireturn, 1) := dk_172 (dk_at dksX0_copy_4 19 rfl rfl)
theorem dX0_copy_113 : decode cX0_copy 113 = .ok (.aload_n 0, 1) := dk_42 (dk_at dksX0_copy_4 20 rfl rfl)
theorem dX0_copy_114 : decode cX0_copy 114 = .ok (.aload 6, 2) := dk_25 6 (dk_at dksX0_copy_4 21 rfl rfl)
theorem dX0_copy_116 : decode cX0_copy 116 = .ok (.iload_n 2, 1) := dk_28 (dk_at dksX0_copy_4 23 rfl rfl)
theorem dX0_copy_117 : decode cX0_copy 117 = .ok (.aload 7, 2) := dk_25 7 (dk_at dksX0_copy_5 0 rfl rfl)
theorem dX0_copy_119 : decode cX0_copy 119 = .ok (.iload 4, 2) := dk_21 4 (dk_at dksX0_copy_5 2 rfl rfl)
theorem dX0_copy_121 : decode cX0_copy 121 = .ok (.iload 5, 2) := dk_21 5 (dk_at dksX0_copy_5 4 rfl rfl)
theorem dX0_copy_123 : decode cX0_copy 123 = .ok (.invokevirtual 466, 3) := dk_182 1 210 (dk_at dksX0_copy_5 6 rfl rfl)
theorem dX0_copy_126 : decode cX0_copy 126 = .ok (.iload 5, 2) := dk_21 5 (dk_at dksX0_copy_5 9 rfl rfl)
theorem dX0_copy_128 : decode cX0_copy 128 = .ok (.ireturn, 1) := dk_172 (dk_at dksX0_copy_5 11 rfl rfl)
abbrev cX0_carries : ByteArray := prog_1_method_79_code
def yX0_carries : MethodName := ⟨RX0, "carries", "(LLeaningStreet$Sheet;ILLeaningStreet$Sheet;II)V"⟩
def dkwX0_carries_4 : List UInt8 := [180, 0, 91, 21, 8, 48, 81, 132, 8, 1, 167, 255, 231, 177]
abbrev dktX0_carries_4 : List UInt8 := dkwX0_carries_4 ++ []
def dkwX0_carries_3 : List UInt8 := [132, 8, 1, 167, 255, 232, 3, 54, 8, 21, 8, 21, 5, 162, 0, 24, 25, 7, 21, 4, 21, 8, 96, 42]
abbrev dktX0_carries_3 : List UInt8 := dkwX0_carries_3 ++ dktX0_carries_4
def dkwX0_carries_2 : List UInt8 := [3, 54, 8, 21, 8, 21, 5, 162, 0, 23, 42, 180, 0, 91, 21, 8, 25, 6, 28, 21, 8, 96, 48, 81]
abbrev dktX0_carries_2 : List UInt8 := dkwX0_carries_2 ++ dktX0_carries_3
def dkwX0_carries_1 : List UInt8 := [21, 5, 184, 1, 204, 177, 43, 180, 1, 153, 192, 1, 168, 58, 6, 45, 180, 1, 153, 192, 1, 168, 58, 7]
abbrev dktX0_carries_1 : List UInt8 := dkwX0_carries_1 ++ dktX0_carries_2
def dkwX0_carries_0 : List UInt8 := [43, 182, 1, 164, 154, 0, 26, 43, 180, 1, 153, 192, 1, 202, 28, 45, 180, 1, 153, 192, 1, 202, 21, 4]
abbrev dktX0_carries_0 : List UInt8 := dkwX0_carries_0 ++ dktX0_carries_1
theorem dksX0_carries_0 : cX0_carries.data.toList.drop 0 = dktX0_carries_0 := by decide +kernel
theorem dksX0_carries_1 : cX0_carries.data.toList.drop 24 = dktX0_carries_1 := dk_seg dksX0_carries_0 24 rfl rfl
theorem dksX0_carries_2 : cX0_carries.data.toList.drop 48 = dktX0_carries_2 := dk_seg dksX0_carries_1 24 rfl rfl
theorem dksX0_carries_3 : cX0_carries.data.toList.drop 72 = dktX0_carries_3 := dk_seg dksX0_carries_2 24 rfl rfl
theorem dksX0_carries_4 : cX0_carries.data.toList.drop 96 = dktX0_carries_4 := dk_seg dksX0_carries_3 24 rfl rfl
theorem dX0_carries_0 : decode cX0_carries 0 = .ok (.aload_n 1, 1) := dk_43 (dk_at dksX0_carries_0 0 rfl rfl)
theorem dX0_carries_1 : decode cX0_carries 1 = .ok (.invokevirtual 420, 3) := dk_182 1 164 (dk_at dksX0_carries_0 1 rfl rfl)
theorem dX0_carries_4 : decode cX0_carries 4 = .ok (.ifCond .ne 26, 3) := dk_154 0 26 (dk_at dksX0_carries_0 4 rfl rfl)
theorem dX0_carries_7 : decode cX0_carries 7 = .ok (.aload_n 1, 1) := dk_43 (dk_at dksX0_carries_0 7 rfl rfl)
theorem dX0_carries_8 : decode cX0_carries 8 = .ok (.getfield 409, 3) := dk_180 1 153 (dk_at dksX0_carries_0 8 rfl rfl)
theorem dX0_carries_11 : decode cX0_carries 11 = .ok (.checkcast 458, 3) := dk_192 1 202 (dk_at dksX0_carries_0 11 rfl rfl)
theorem dX0_carries_14 : decode cX0_carries 14 = .ok (.iload_n 2, 1) := dk_28 (dk_at dksX0_carries_0 14 rfl rfl)
theorem dX0_carries_15 : decode cX0_carries 15 = .ok (.aload_n 3, 1) := dk_45 (dk_at dksX0_carries_0 15 rfl rfl)
theorem dX0_carries_16 : decode cX0_carries 16 = .ok (.getfield 409, 3) := dk_180 1 153 (dk_at dksX0_carries_0 16 rfl rfl)
theorem dX0_carries_19 : decode cX0_carries 19 = .ok (.checkcast 458, 3) := dk_192 1 202 (dk_at dksX0_carries_0 19 rfl rfl)
theorem dX0_carries_22 : decode cX0_carries 22 = .ok (.iload 4, 2) := dk_21 4 (dk_at dksX0_carries_0 22 rfl rfl)
theorem dX0_carries_24 : decode cX0_carries 24 = .ok (.iload 5, 2) := dk_21 5 (dk_at dksX0_carries_1 0 rfl rfl)
theorem dX0_carries_26 : decode cX0_carries 26 = .ok (.invokestatic 460, 3) := dk_184 1 204 (dk_at dksX0_carries_1 2 rfl rfl)
theorem dX0_carries_29 : decode cX0_carries 29 = .ok (.return_, 1) := dk_177 (dk_at dksX0_carries_1 5 rfl rfl)
theorem dX0_carries_30 : decode cX0_carries 30 = .ok (.aload_n 1, 1) := dk_43 (dk_at dksX0_carries_1 6 rfl rfl)
theorem dX0_carries_31 : decode cX0_carries 31 = .ok (.getfield 409, 3) := dk_180 1 153 (dk_at dksX0_carries_1 7 rfl rfl)
theorem dX0_carries_34 : decode cX0_carries 34 = .ok (.checkcast 424, 3) := dk_192 1 168 (dk_at dksX0_carries_1 10 rfl rfl)
theorem dX0_carries_37 : decode cX0_carries 37 = .ok (.astore 6, 2) := dk_58 6 (dk_at dksX0_carries_1 13 rfl rfl)
theorem dX0_carries_39 : decode cX0_carries 39 = .ok (.aload_n 3, 1) := dk_45 (dk_at dksX0_carries_1 15 rfl rfl)
theorem dX0_carries_40 : decode cX0_carries 40 = .ok (.getfield 409, 3) := dk_180 1 153 (dk_at dksX0_carries_1 16 rfl rfl)
theorem dX0_carries_43 : decode cX0_carries 43 = .ok (.checkcast 424, 3) := dk_192 1 168 (dk_at dksX0_carries_1 19 rfl rfl)
theorem dX0_carries_46 : decode cX0_carries 46 = .ok (.astore 7, 2) := dk_58 7 (dk_at dksX0_carries_1 22 rfl rfl)
theorem dX0_carries_48 : decode cX0_carries 48 = .ok (.iconst 0, 1) := dk_3 (dk_at dksX0_carries_2 0 rfl rfl)
theorem dX0_carries_49 : decode cX0_carries 49 = .ok (.istore 8, 2) := dk_54 8 (dk_at dksX0_carries_2 1 rfl rfl)
theorem dX0_carries_51 : decode cX0_carries 51 = .ok (.iload 8, 2) := dk_21 8 (dk_at dksX0_carries_2 3 rfl rfl)
theorem dX0_carries_53 : decode cX0_carries 53 = .ok (.iload 5, 2) := dk_21 5 (dk_at dksX0_carries_2 5 rfl rfl)
theorem dX0_carries_55 : decode cX0_carries 55 = .ok (.if_icmp .ge 23, 3) := dk_162 0 23 (dk_at dksX0_carries_2 7 rfl rfl)
theorem dX0_carries_58 : decode cX0_carries 58 = .ok (.aload_n 0, 1) := dk_42 (dk_at dksX0_carries_2 10 rfl rfl)
theorem dX0_carries_59 : decode cX0_carries 59 = .ok (.getfield 91, 3) := dk_180 0 91 (dk_at dksX0_carries_2 11 rfl rfl)
theorem dX0_carries_62 : decode cX0_carries 62 = .ok (.iload 8, 2) := dk_21 8 (dk_at dksX0_carries_2 14 rfl rfl)
theorem dX0_carries_64 : decode cX0_carries 64 = .ok (.aload 6, 2) := dk_25 6 (dk_at dksX0_carries_2 16 rfl rfl)
theorem dX0_carries_66 : decode cX0_carries 66 = .ok (.iload_n 2, 1) := dk_28 (dk_at dksX0_carries_2 18 rfl rfl)
theorem dX0_carries_67 : decode cX0_carries 67 = .ok (.iload 8, 2) := dk_21 8 (dk_at dksX0_carries_2 19 rfl rfl)
theorem dX0_carries_69 : decode cX0_carries 69 = .ok (.iadd, 1) := dk_96 (dk_at dksX0_carries_2 21 rfl rfl)
theorem dX0_carries_70 : decode cX0_carries 70 = .ok (.faload, 1) := dk_48 (dk_at dksX0_carries_2 22 rfl rfl)
theorem dX0_carries_71 : decode cX0_carries 71 = .ok (.fastore, 1) := dk_81 (dk_at dksX0_carries_2 23 rfl rfl)
theorem dX0_carries_72 : decode cX0_carries 72 = .ok (.iinc 8 1, 3) := dk_132 8 1 (dk_at dksX0_carries_3 0 rfl rfl)
theorem dX0_carries_75 : decode cX0_carries 75 = .ok (.goto (-24), 3) := dk_167 255 232 (dk_at dksX0_carries_3 3 rfl rfl)
theorem dX0_carries_78 : decode cX0_carries 78 = .ok (.iconst 0, 1) := dk_3 (dk_at dksX0_carries_3 6 rfl rfl)
theorem dX0_carries_79 : decode cX0_carries 79 = .ok (.istore 8, 2) := dk_54 8 (dk_at dksX0_carries_3 7 rfl rfl)
theorem dX0_carries_81 : decode cX0_carries 81 = .ok (.iload 8, 2) := dk_21 8 (dk_at dksX0_carries_3 9 rfl rfl)
theorem dX0_carries_83 : decode cX0_carries 83 = .ok (.iload 5, 2) := dk_21 5 (dk_at dksX0_carries_3 11 rfl rfl)
theorem dX0_carries_85 : decode cX0_carries 85 = .ok (.if_icmp .ge 24, 3) := dk_162 0 24 (dk_at dksX0_carries_3 13 rfl rfl)
theorem dX0_carries_88 : decode cX0_carries 88 = .ok (.aload 7, 2) := dk_25 7 (dk_at dksX0_carries_3 16 rfl rfl)
theorem dX0_carries_90 : decode cX0_carries 90 = .ok (.iload 4, 2) := dk_21 4 (dk_at dksX0_carries_3 18 rfl rfl)
theorem dX0_carries_92 : decode cX0_carries 92 = .ok (.iload 8, 2) := dk_21 8 (dk_at dksX0_carries_3 20 rfl rfl)
theorem dX0_carries_94 : decode cX0_carries 94 = .ok (.iadd, 1) := dk_96 (dk_at dksX0_carries_3 22 rfl rfl)
theorem dX0_carries_95 : decode cX0_carries 95 = .ok (.aload_n 0, 1) := dk_42 (dk_at dksX0_carries_3 23 rfl rfl)
theorem dX0_carries_96 : decode cX0_carries 96 = .ok (.getfield 91, 3) := dk_180 0 91 (dk_at dksX0_carries_4 0 rfl rfl)
theorem dX0_carries_99 : decode cX0_carries 99 = .ok (.iload 8, 2) := dk_21 8 (dk_at dksX0_carries_4 3 rfl rfl)
theorem dX0_carries_101 : decode cX0_carries 101 = .ok (.faload, 1) := dk_48 (dk_at dksX0_carries_4 5 rfl rfl)
theorem dX0_carries_102 : decode cX0_carries 102 = .ok (.fastore, 1) := dk_81 (dk_at dksX0_carries_4 6 rfl rfl)
theorem dX0_carries_103 : decode cX0_carries 103 = .ok (.iinc 8 1, 3) := dk_132 8 1 (dk_at dksX0_carries_4 7 rfl rfl)
theorem dX0_carries_106 : decode cX0_carries 106 = .ok (.goto (-25), 3) := dk_167 255 231 (dk_at dksX0_carries_4 10 rfl rfl)
theorem dX0_carries_109 : decode cX0_carries 109 = .ok (.return_, 1) := dk_177 (dk_at dksX0_carries_4 13 rfl rfl)
abbrev cX0_lay : ByteArray := prog_1_method_82_code
def yX0_lay : MethodName := ⟨RX0, "lay", "(III)I"⟩
def dkwX0_lay_6 : List UInt8 := [21, 4, 172]
abbrev dktX0_lay_6 : List UInt8 := dkwX0_lay_6 ++ []
def dkwX0_lay_5 : List UInt8 := [42, 180, 0, 80, 29, 50, 182, 1, 224, 167, 0, 11, 187, 1, 228, 89, 29, 183, 1, 230, 181, 1, 232]
abbrev dktX0_lay_5 : List UInt8 := dkwX0_lay_5 ++ dktX0_lay_6
def dkwX0_lay_4 : List UInt8 := [160, 0, 18, 42, 180, 0, 40, 180, 1, 11, 29, 50, 182, 1, 220, 167, 0, 29, 28, 5, 160, 0, 16, 42]
abbrev dktX0_lay_4 : List UInt8 := dkwX0_lay_4 ++ dktX0_lay_5
def dkwX0_lay_3 : List UInt8 := [50, 182, 1, 217, 54, 4, 42, 180, 0, 87, 27, 50, 28, 154, 0, 7, 1, 167, 0, 49, 28, 4]
abbrev dktX0_lay_3 : List UInt8 := dkwX0_lay_3 ++ dktX0_lay_4
def dkwX0_lay_2 : List UInt8 := [160, 0, 19, 42, 180, 0, 80, 29, 50, 182, 1, 177, 154, 0, 7, 19, 1, 180, 172, 42, 180, 0, 87, 27]
abbrev dktX0_lay_2 : List UInt8 := dkwX0_lay_2 ++ dktX0_lay_3
def dkwX0_lay_1 : List UInt8 := [182, 1, 43, 153, 0, 15, 28, 5, 160, 0, 13, 29, 184, 1, 150, 154, 0, 6, 18, 130, 172, 28, 5]
abbrev dktX0_lay_1 : List UInt8 := dkwX0_lay_1 ++ dktX0_lay_2
def dkwX0_lay_0 : List UInt8 := [27, 184, 1, 214, 153, 0, 37, 28, 3, 6, 184, 0, 105, 153, 0, 28, 28, 4, 160, 0, 11, 42, 29]
abbrev dktX0_lay_0 : List UInt8 := dkwX0_lay_0 ++ dktX0_lay_1
theorem dksX0_lay_0 : cX0_lay.data.toList.drop 0 = dktX0_lay_0 := by decide +kernel
theorem dksX0_lay_1 : cX0_lay.data.toList.drop 23 = dktX0_lay_1 := dk_seg dksX0_lay_0 23 rfl rfl
theorem dksX0_lay_2 : cX0_lay.data.toList.drop 46 = dktX0_lay_2 := dk_seg dksX0_lay_1 23 rfl rfl
theorem dksX0_lay_3 : cX0_lay.data.toList.drop 70 = dktX0_lay_3 := dk_seg dksX0_lay_2 24 rfl rfl
theorem dksX0_lay_4 : cX0_lay.data.toList.drop 92 = dktX0_lay_4 := dk_seg dksX0_lay_3 22 rfl rfl
theorem dksX0_lay_5 : cX0_lay.data.toList.drop 116 = dktX0_lay_5 := dk_seg dksX0_lay_4 24 rfl rfl
theorem dksX0_lay_6 : cX0_lay.data.toList.drop 139 = dktX0_lay_6 := dk_seg dksX0_lay_5 23 rfl rfl
theorem dX0_lay_0 : decode cX0_lay 0 = .ok (.iload_n 1, 1) := dk_27 (dk_at dksX0_lay_0 0 rfl rfl)
theorem dX0_lay_1 : decode cX0_lay 1 = .ok (.invokestatic 470, 3) := dk_184 1 214 (dk_at dksX0_lay_0 1 rfl rfl)
theorem dX0_lay_4 : decode cX0_lay 4 = .ok (.ifCond .eq 37, 3) := dk_153 0 37 (dk_at dksX0_lay_0 4 rfl rfl)
theorem dX0_lay_7 : decode cX0_lay 7 = .ok (.iload_n 2, 1) := dk_28 (dk_at dksX0_lay_0 7 rfl rfl)
theorem dX0_lay_8 : decode cX0_lay 8 = .ok (.iconst 0, 1) := dk_3 (dk_at dksX0_lay_0 8 rfl rfl)
theorem dX0_lay_9 : decode cX0_lay 9 = .ok (.iconst 3, 1) := dk_6 (dk_at dksX0_lay_0 9 rfl rfl)
theorem dX0_lay_10 : decode cX0_lay 10 = .ok (.invokestatic 105, 3) := dk_184 0 105 (dk_at dksX0_lay_0 10 rfl rfl)
theorem dX0_lay_13 : decode cX0_lay 13 = .ok (.ifCond .eq 28, 3) := dk_153 0 28 (dk_at dksX0_lay_0 13 rfl rfl)
theorem dX0_lay_16 : decode cX0_lay 16 = .ok (.iload_n 2, 1) := dk_28 (dk_at dksX0_lay_0 16 rfl rfl)
theorem dX0_lay_17 : decode cX0_lay 17 = .ok (.iconst 1, 1) := dk_4 (dk_at dksX0_lay_0 17 rfl rfl)
theorem dX0_lay_18 : decode cX0_lay 18 = .ok (.if_icmp .ne 11, 3) := dk_160 0 11 (dk_at dksX0_lay_0 18 rfl rfl)
theorem dX0_lay_21 : decode cX0_lay 21 = .ok (.aload_n 0, 1) := dk_42 (dk_at dksX0_lay_0 21 rfl rfl)
theorem dX0_lay_22 : decode cX0_lay 22 = .ok (.iload_n 3, 1) := dk_29 (dk_at dksX0_lay_0 22 rfl rfl)
theorem dX0_lay_23 : decode cX0_lay 23 = .ok (.invokevirtual 299, 3) := dk_182 1 43 (dk_at dksX0_lay_1 0 rfl rfl)
theorem dX0_lay_26 : decode cX0_lay 26 = .ok (.ifCond .eq 15, 3) := dk_153 0 15 (dk_at dksX0_lay_1 3 rfl rfl)
theorem dX0_lay_29 : decode cX0_lay 29 = .ok (.iload_n 2, 1) := dk_28 (dk_at dksX0_lay_1 6 rfl rfl)
theorem dX0_lay_30 : decode cX0_lay 30 = .ok (.iconst 2, 1) := dk_5 (dk_at dksX0_lay_1 7 rfl rfl)
theorem dX0_lay_31 : decode cX0_lay 31 = .ok (.if_icmp .ne 13, 3) := dk_160 0 13 (dk_at dksX0_lay_1 8 rfl rfl)
theorem dX0_lay_34 : decode cX0_lay 34 = .ok (.iload_n 3, 1) := dk_29 (dk_at dksX0_lay_1 11 rfl rfl)
theorem dX0_lay_35 : decode cX0_lay 35 = .ok (.invokestatic 406, 3) := dk_184 1 150 (dk_at dksX0_lay_1 12 rfl rfl)
theorem dX0_lay_38 : decode cX0_lay 38 = .ok (.ifCond .ne 6, 3) := dk_154 0 6 (dk_at dksX0_lay_1 15 rfl rfl)
theorem dX0_lay_41 : decode cX0_lay 41 = .ok (.ldc 130, 2) := dk_18 130 (dk_at dksX0_lay_1 18 rfl rfl)
theorem dX0_lay_43 : decode cX0_lay 43 = .ok (.ireturn, 1) := dk_172 (dk_at dksX0_lay_1 20 rfl rfl)
theorem dX0_lay_44 : decode cX0_lay 44 = .ok (.iload_n 2, 1) := dk_28 (dk_at dksX0_lay_1 21 rfl rfl)
theorem dX0_lay_45 : decode cX0_lay 45 = .ok (.iconst 2, 1) := dk_5 (dk_at dksX0_lay_1 22 rfl rfl)
theorem dX0_lay_46 : decode cX0_lay 46 = .ok (.if_icmp .ne 19, 3) := dk_160 0 19 (dk_at dksX0_lay_2 0 rfl rfl)
theorem dX0_lay_49 : decode cX0_lay 49 = .ok (.aload_n 0, 1) := dk_42 (dk_at dksX0_lay_2 3 rfl rfl)
theorem dX0_lay_50 : decode cX0_lay 50 = .ok (.getfield 80, 3) := dk_180 0 80 (dk_at dksX0_lay_2 4 rfl rfl)
theorem dX0_lay_53 : decode cX0_lay 53 = .ok (.iload_n 3, 1) := dk_29 (dk_at dksX0_lay_2 7 rfl rfl)
theorem dX0_lay_54 : decode cX0_lay 54 = .ok (.aaload, 1) := dk_50 (dk_at dksX0_lay_2 8 rfl rfl)
theorem dX0_lay_55 : decode cX0_lay 55 = .ok (.invokevirtual 433, 3) := dk_182 1 177 (dk_at dksX0_lay_2 9 rfl rfl)
theorem dX0_lay_58 : decode cX0_lay 58 = .ok (.ifCond .ne 7, 3) := dk_154 0 7 (dk_at dksX0_lay_2 12 rfl rfl)
theorem dX0_lay_61 : decode cX0_lay 61 = .ok (.ldc_w 436, 3) := dk_19 1 180 (dk_at dksX0_lay_2 15 rfl rfl)
theorem dX0_lay_64 : decode cX0_lay 64 = .ok (.ireturn, 1) := dk_172 (dk_at dksX0_lay_2 18 rfl rfl)
theorem dX0_lay_65 : decode cX0_lay 65 = .ok (.aload_n 0, 1) := dk_42 (dk_at dksX0_lay_2 19 rfl rfl)
theorem dX0_lay_66 : decode cX0_lay 66 = .ok (.getfield 87, 3) := dk_180 0 87 (dk_at dksX0_lay_2 20 rfl rfl)
theorem dX0_lay_69 : decode cX0_lay 69 = .ok (.iload_n 1, 1) := dk_27 (dk_at dksX0_lay_2 23 rfl rfl)
theorem dX0_lay_70 : decode cX0_lay 70 = .ok (.aaload, 1) := dk_50 (dk_at dksX0_lay_3 0 rfl rfl)
theorem dX0_lay_71 : decode cX0_lay 71 = .ok (.invokevirtual 473, 3) := dk_182 1 217 (dk_at dksX0_lay_3 1 rfl rfl)
theorem dX0_lay_74 : decode cX0_lay 74 = .ok (.istore 4, 2) := dk_54 4 (dk_at dksX0_lay_3 4 rfl rfl)
theorem dX0_lay_76 : decode cX0_lay 76 = .ok (.aload_n 0, 1) := dk_42 (dk_at dksX0_lay_3 6 rfl rfl)
theorem dX0_lay_77 : decode cX0_lay 77 = .ok (.getfield 87, 3) := dk_180 0 87 (dk_at dksX0_lay_3 7 rfl rfl)
theorem dX0_lay_80 : decode cX0_lay 80 = .ok (.iload_n 1, 1) := dk_27 (dk_at dksX0_lay_3 10 rfl rfl)
theorem dX0_lay_81 : decode cX0_lay 81 = .ok (.aaload, 1) := dk_50 (dk_at dksX0_lay_3 11 rfl rfl)
theorem dX0_lay_82 : decode cX0_lay 82 = .ok (.iload_n 2, 1) := dk_28 (dk_at dksX0_lay_3 12 rfl rfl)
theorem dX0_lay_83 : decode cX0_lay 83 = .ok (.ifCond .ne 7, 3) := dk_154 0 7 (dk_at dksX0_lay_3 13 rfl rfl)
theorem dX0_lay_86 : decode cX0_lay 86 = .ok (.aconst_null, 1) := dk_1 (dk_at dksX0_lay_3 16 rfl rfl)
theorem dX0_lay_87 : decode cX0_lay 87 = .ok (.goto 49, 3) := dk_167 0 49 (dk_at dksX0_lay_3 17 rfl rfl)
theorem dX0_lay_90 : decode cX0_lay 90 = .ok (.iload_n 2, 1) := dk_28 (dk_at dksX0_lay_3 20 rfl rfl)
theorem dX0_lay_91 : decode cX0_lay 91 = .ok (.iconst 1, 1) := dk_4 (dk_at dksX0_lay_3 21 rfl rfl)
theorem dX0_lay_92 : decode cX0_lay 92 = .ok (.if_icmp .ne 18, 3) := dk_160 0 18 (dk_at dksX0_lay_4 0 rfl rfl)
theorem dX0_lay_95 : decode cX0_lay 95 = .ok (.aload_n 0, 1) := dk_42 (dk_at dksX0_lay_4 3 rfl rfl)
theorem dX0_lay_96 : decode cX0_lay 96 = .ok (.getfield 40, 3) := dk_180 0 40 (dk_at dksX0_lay_4 4 rfl rfl)
theorem dX0_lay_99 : decode cX0_lay 99 = .ok (.getfield 267, 3) := dk_180 1 11 (dk_at dksX0_lay_4 7 rfl rfl)
theorem dX0_lay_102 : decode cX0_lay 102 = .ok (.iload_n 3, 1) := dk_29 (dk_at dksX0_lay_4 10 rfl rfl)
theorem dX0_lay_103 : decode cX0_lay 103 = .ok (.aaload, 1) := dk_50 (dk_at dksX0_lay_4 11 rfl rfl)
theorem dX0_lay_104 : decode cX0_lay 104 = .ok (.invokevirtual 476, 3) := dk_182 1 220 (dk_at dksX0_lay_4 12 rfl rfl)
theorem dX0_lay_107 : decode cX0_lay 107 = .ok (.goto 29, 3) := dk_167 0 29 (dk_at dksX0_lay_4 15 rfl rfl)
theorem dX0_lay_110 : decode cX0_lay 110 = .ok (.iload_n 2, 1) := dk_28 (dk_at dksX0_lay_4 18 rfl rfl)
theorem dX0_lay_111 : decode cX0_lay 111 = .ok (.iconst 2, 1) := dk_5 (dk_at dksX0_lay_4 19 rfl rfl)
theorem dX0_lay_112 : decode cX0_lay 112 = .ok (.if_icmp .ne 16, 3) := dk_160 0 16 (dk_at dksX0_lay_4 20 rfl rfl)
theorem dX0_lay_115 : decode cX0_lay 115 = .ok (.aload_n 0, 1) := dk_42 (dk_at dksX0_lay_4 23 rfl rfl)
theorem dX0_lay_116 : decode cX0_lay 116 = .ok (.aload_n 0, 1) := dk_42 (dk_at dksX0_lay_5 0 rfl rfl)
theorem dX0_lay_117 : decode cX0_lay 117 = .ok (.getfield 80, 3) := dk_180 0 80 (dk_at dksX0_lay_5 1 rfl rfl)
theorem dX0_lay_120 : decode cX0_lay 120 = .ok (.iload_n 3, 1) := dk_29 (dk_at dksX0_lay_5 4 rfl rfl)
theorem dX0_lay_121 : decode cX0_lay 121 = .ok (.aaload, 1) := dk_50 (dk_at dksX0_lay_5 5 rfl rfl)
theorem dX0_lay_122 : decode cX0_lay 122 = .ok (.invokevirtual 480, 3) := dk_182 1 224 (dk_at dksX0_lay_5 6 rfl rfl)
theorem dX0_lay_125 : decode cX0_lay 125 = .ok (.goto 11, 3) := dk_167 0 11 (dk_at dksX0_lay_5 9 rfl rfl)
theorem dX0_lay_128 : decode cX0_lay 128 = .ok (.new 484, 3) := dk_187 1 228 (dk_at dksX0_lay_5 12 rfl rfl)
theorem dX0_lay_131 : decode cX0_lay 131 = .ok (.dup, 1) := dk_89 (dk_at dksX0_lay_5 15 rfl rfl)
theorem dX0_lay_132 : decode cX0_lay 132 = .ok (.iload_n 3, 1) := dk_29 (dk_at dksX0_lay_5 16 rfl rfl)
theorem dX0_lay_133 : decode cX0_lay 133 = .ok (.invokespecial 486, 3) := dk_183 1 230 (dk_at dksX0_lay_5 17 rfl rfl)
theorem dX0_lay_136 : decode cX0_lay 136 = .ok (.putfield 488, 3) := dk_181 1 232 (dk_at dksX0_lay_5 20 rfl rfl)
theorem dX0_lay_139 : decode cX0_lay 139 = .ok (.iload 4, 2) := dk_21 4 (dk_at dksX0_lay_6 0 rfl rfl)
theorem dX0_lay_141 : decode cX0_lay 141 = .ok (.ireturn, 1) := dk_172 (dk_at dksX0_lay_6 2 rfl rfl)
abbrev cX0_isSlot : ByteArray := prog_1_method_70_code
def yX0_isSlot : MethodName := ⟨RX0, "isSlot", "(I)Z"⟩
def dkwX0_isSlot_0 : List UInt8 := [26, 3, 7, 184, 0, 105, 172]
abbrev dktX0_isSlot_0 : List UInt8 := dkwX0_isSlot_0 ++ []
theorem dksX0_isSlot_0 : cX0_isSlot.data.toList.drop 0 = dktX0_isSlot_0 := by decide +kernel
theorem dX0_isSlot_0 : decode cX0_isSlot 0 = .ok (.iload_n 0, 1) := dk_26 (dk_at dksX0_isSlot_0 0 rfl rfl)
theorem dX0_isSlot_1 : decode cX0_isSlot 1 = .ok (.iconst 0, 1) := dk_3 (dk_at dksX0_isSlot_0 1 rfl rfl)
theorem dX0_isSlot_2 : decode cX0_isSlot 2 = .ok (.iconst 4, 1) := dk_7 (dk_at dksX0_isSlot_0 2 rfl rfl)
theorem dX0_isSlot_3 : decode cX0_isSlot 3 = .ok (.invokestatic 105, 3) := dk_184 0 105 (dk_at dksX0_isSlot_0 3 rfl rfl)
theorem dX0_isSlot_6 : decode cX0_isSlot 6 = .ok (.ireturn, 1) := dk_172 (dk_at dksX0_isSlot_0 6 rfl rfl)
abbrev cX0_own : ByteArray := prog_1_method_81_code
def yX0_own : MethodName := ⟨RX0, "own", "(LLeaningStreet$Sheet;)LLeaningStreet$Sheet;"⟩
def dkwX0_own_1 : List UInt8 := [43, 3, 44, 3, 43, 182, 1, 181, 182, 1, 210, 44, 176]
abbrev dktX0_own_1 : List UInt8 := dkwX0_own_1 ++ []
def dkwX0_own_0 : List UInt8 := [187, 0, 77, 89, 183, 0, 79, 77, 44, 43, 182, 1, 164, 43, 182, 1, 181, 184, 1, 157, 181, 1, 153, 42]
abbrev dktX0_own_0 : List UInt8 := dkwX0_own_0 ++ dktX0_own_1
theorem dksX0_own_0 : cX0_own.data.toList.drop 0 = dktX0_own_0 := by decide +kernel
theorem dksX0_own_1 : cX0_own.data.toList.drop 24 = dktX0_own_1 := dk_seg dksX0_own_0 24 rfl rfl
theorem dX0_own_0 : decode cX0_own 0 = .ok (.new 77, 3) := dk_187 0 77 (dk_at dksX0_own_0 0 rfl rfl)
theorem dX0_own_3 : decode cX0_own 3 = .ok (.dup, 1) := dk_89 (dk_at dksX0_own_0 3 rfl rfl)
theorem dX0_own_4 : decode cX0_own 4 = .ok (.invokespecial 79, 3) := dk_183 0 79 (dk_at dksX0_own_0 4 rfl rfl)
theorem dX0_own_7 : decode cX0_own 7 = .ok (.astore_n 2, 1) := dk_77 (dk_at dksX0_own_0 7 rfl rfl)
theorem dX0_own_8 : decode cX0_own 8 = .ok (.aload_n 2, 1) := dk_44 (dk_at dksX0_own_0 8 rfl rfl)
theorem dX0_own_9 : decode cX0_own 9 = .ok (.aload_n 1, 1) := dk_43 (dk_at dksX0_own_0 9 rfl rfl)
theorem dX0_own_10 : decode cX0_own 10 = .ok (.invokevirtual 420, 3) := dk_182 1 164 (dk_at dksX0_own_0 10 rfl rfl)
theorem dX0_own_13 : decode cX0_own 13 = .ok (.aload_n 1, 1) := dk_43 (dk_at dksX0_own_0 13 rfl rfl)
theorem dX0_own_14 : decode cX0_own 14 = .ok (.invokevirtual 437, 3) := dk_182 1 181 (dk_at dksX0_own_0 14 rfl rfl)
theorem dX0_own_17 : decode cX0_own 17 = .ok (.invokestatic 413, 3) := dk_184 1 157 (dk_at dksX0_own_0 17 rfl rfl)
theorem dX0_own_20 : decode cX0_own 20 = .ok (.putfield 409, 3) := dk_181 1 153 (dk_at dksX0_own_0 20 rfl rfl)
theorem dX0_own_23 : decode cX0_own 23 = .ok (.aload_n 0, 1) := dk_42 (dk_at dksX0_own_0 23 rfl rfl)
theorem dX0_own_24 : decode cX0_own 24 = .ok (.aload_n 1, 1) := dk_43 (dk_at dksX0_own_1 0 rfl rfl)
theorem dX0_own_25 : decode cX0_own 25 = .ok (.iconst 0, 1) := dk_3 (dk_at dksX0_own_1 1 rfl rfl)
theorem dX0_own_26 : decode cX0_own 26 = .ok (.aload_n 2, 1) := dk_44 (dk_at dksX0_own_1 2 rfl rfl)
theorem dX0_own_27 : decode cX0_own 27 = .ok (.iconst 0, 1) := dk_3 (dk_at dksX0_own_1 3 rfl rfl)
theorem dX0_own_28 : decode cX0_own 28 = .ok (.aload_n 1, 1) := dk_43 (dk_at dksX0_own_1 4 rfl rfl)
theorem dX0_own_29 : decode cX0_own 29 = .ok (.invokevirtual 437, 3) := dk_182 1 181 (dk_at dksX0_own_1 5 rfl rfl)
theorem dX0_own_32 : decode cX0_own 32 = .ok (.invokevirtual 466, 3) := dk_182 1 210 (dk_at dksX0_own_1 8 rfl rfl)
theorem dX0_own_35 : decode cX0_own 35 = .ok (.aload_n 2, 1) := dk_44 (dk_at dksX0_own_1 11 rfl rfl)
theorem dX0_own_36 : decode cX0_own 36 = .ok (.areturn, 1) := dk_176 (dk_at dksX0_own_1 12 rfl rfl)
abbrev cX0_ask : ByteArray := prog_1_method_83_code
def yX0_ask : MethodName := ⟨RX0, "ask", "(II)I"⟩
def dkwX0_ask_2 : List UInt8 := [185, 1, 235, 1, 0, 172, 58, 4, 19, 1, 84, 172]
abbrev dktX0_ask_2 : List UInt8 := dkwX0_ask_2 ++ []
def dkwX0_ask_1 : List UInt8 := [50, 180, 1, 232, 78, 45, 199, 0, 7, 19, 1, 180, 172, 45, 28, 184, 1, 78, 58, 4, 25, 4]
abbrev dktX0_ask_1 : List UInt8 := dkwX0_ask_1 ++ dktX0_ask_2
def dkwX0_ask_0 : List UInt8 := [27, 184, 1, 214, 153, 0, 12, 28, 3, 8, 184, 0, 105, 154, 0, 6, 18, 130, 172, 42, 180, 0, 87, 27]
abbrev dktX0_ask_0 : List UInt8 := dkwX0_ask_0 ++ dktX0_ask_1
theorem dksX0_ask_0 : cX0_ask.data.toList.drop 0 = dktX0_ask_0 := by decide +kernel
theorem dksX0_ask_1 : cX0_ask.data.toList.drop 24 = dktX0_ask_1 := dk_seg dksX0_ask_0 24 rfl rfl
theorem dksX0_ask_2 : cX0_ask.data.toList.drop 46 = dktX0_ask_2 := dk_seg dksX0_ask_1 22 rfl rfl
theorem dX0_ask_0 : decode cX0_ask 0 = .ok (.iload_n 1, 1) := dk_27 (dk_at dksX0_ask_0 0 rfl rfl)
theorem dX0_ask_1 : decode cX0_ask 1 = .ok (.invokestatic 470, 3) := dk_184 1 214 (dk_at dksX0_ask_0 1 rfl rfl)
theorem dX0_ask_4 : decode cX0_ask 4 = .ok (.ifCond .eq 12, 3) := dk_153 0 12 (dk_at dksX0_ask_0 4 rfl rfl)
theorem dX0_ask_7 : decode cX0_ask 7 = .ok (.iload_n 2, 1) := dk_28 (dk_at dksX0_ask_0 7 rfl rfl)
theorem dX0_ask_8 : decode cX0_ask 8 = .ok (.iconst 0, 1) := dk_3 (dk_at dksX0_ask_0 8 rfl rfl)
theorem dX0_ask_9 : decode cX0_ask 9 = .ok (.iconst 5, 1) := dk_8 (dk_at dksX0_ask_0 9 rfl rfl)
theorem dX0_ask_10 : decode cX0_ask 10 = .ok (.invokestatic 105, 3) := dk_184 0 105 (dk_at dksX0_ask_0 10 rfl rfl)
theorem dX0_ask_13 : decode cX0_ask 13 = .ok (.ifCond .ne 6, 3) := dk_154 0 6 (dk_at dksX0_ask_0 13 rfl rfl)
theorem dX0_ask_16 : decode cX0_ask 16 = .ok (.ldc 130, 2) := dk_18 130 (dk_at dksX0_ask_0 16 rfl rfl)
theorem dX0_ask_18 : decode cX0_ask 18 = .ok (.ireturn, 1) := dk_172 (dk_at dksX0_ask_0 18 rfl rfl)
theorem dX0_ask_19 : decode cX0_ask 19 = .ok (.aload_n 0, 1) := dk_42 (dk_at dksX0_ask_0 19 rfl rfl)
theorem dX0_ask_20 : decode cX0_ask 20 = .ok (.getfield 87, 3) := dk_180 0 87 (dk_at dksX0_ask_0 20 rfl rfl)
theorem dX0_ask_23 : decode cX0_ask 23 = .ok (.iload_n 1, 1) := dk_27 (dk_at dksX0_ask_0 23 rfl rfl)
theorem dX0_ask_24 : decode cX0_ask 24 = .ok (.aaload, 1) := dk_50 (dk_at dksX0_ask_1 0 rfl rfl)
theorem dX0_ask_25 : decode cX0_ask 25 = .ok (.getfield 488, 3) := dk_180 1 232 (dk_at dksX0_ask_1 1 rfl rfl)
theorem dX0_ask_28 : decode cX0_ask 28 = .ok (.astore_n 3, 1) := dk_78 (dk_at dksX0_ask_1 4 rfl rfl)
theorem dX0_ask_29 : decode cX0_ask 29 = .ok (.aload_n 3, 1) := dk_45 (dk_at dksX0_ask_1 5 rfl rfl)
theorem dX0_ask_30 : decode cX0_ask 30 = .ok (.ifnonnull 7, 3) := dk_199 0 7 (dk_at dksX0_ask_1 6 rfl rfl)
theorem dX0_ask_33 : decode cX0_ask 33 = .ok (.ldc_w 436, 3) := dk_19 1 180 (dk_at dksX0_ask_1 9 rfl rfl)
theorem dX0_ask_36 : decode cX0_ask 36 = .ok (.ireturn, 1) := dk_172 (dk_at dksX0_ask_1 12 rfl rfl)
theorem dX0_ask_37 : decode cX0_ask 37 = .ok (.aload_n 3, 1) := dk_45 (dk_at dksX0_ask_1 13 rfl rfl)
theorem dX0_ask_38 : decode cX0_ask 38 = .ok (.iload_n 2, 1) := dk_28 (dk_at dksX0_ask_1 14 rfl rfl)
theorem dX0_ask_39 : decode cX0_ask 39 = .ok (.invokestatic 334, 3) := dk_184 1 78 (dk_at dksX0_ask_1 15 rfl rfl)
theorem dX0_ask_42 : decode cX0_ask 42 = .ok (.astore 4, 2) := dk_58 4 (dk_at dksX0_ask_1 18 rfl rfl)
theorem dX0_ask_44 : decode cX0_ask 44 = .ok (.aload 4, 2) := dk_25 4 (dk_at dksX0_ask_1 20 rfl rfl)
theorem dX0_ask_46 : decode cX0_ask 46 = .ok (.invokeinterface 491 1, 5) := by decide +kernel
theorem dX0_ask_51 : decode cX0_ask 51 = .ok (.ireturn, 1) := dk_172 (dk_at dksX0_ask_2 5 rfl rfl)
theorem dX0_ask_52 : decode cX0_ask 52 = .ok (.astore 4, 2) := dk_58 4 (dk_at dksX0_ask_2 6 rfl rfl)
theorem dX0_ask_54 : decode cX0_ask 54 = .ok (.ldc_w 340, 3) := dk_19 1 84 (dk_at dksX0_ask_2 8 rfl rfl)
theorem dX0_ask_57 : decode cX0_ask 57 = .ok (.ireturn, 1) := dk_172 (dk_at dksX0_ask_2 11 rfl rfl)
abbrev cX0_item : ByteArray := prog_1_method_84_code
def yX0_item : MethodName := ⟨RX0, "item", "(II)I"⟩
def dkwX0_item_3 : List UInt8 := [167, 0, 6, 19, 1, 84, 172, 58, 4, 19, 1, 84, 172]
abbrev dktX0_item_3 : List UInt8 := dkwX0_item_3 ++ []
def dkwX0_item_2 : List UInt8 := [154, 0, 7, 19, 1, 188, 172, 25, 4, 28, 182, 1, 189, 153, 0, 12, 25, 4, 28, 182, 1, 192]
abbrev dktX0_item_2 : List UInt8 := dkwX0_item_2 ++ dktX0_item_3
def dkwX0_item_1 : List UInt8 := [19, 1, 180, 172, 45, 192, 0, 77, 58, 4, 28, 3, 25, 4, 182, 1, 181, 4, 100, 184, 0, 105]
abbrev dktX0_item_1 : List UInt8 := dkwX0_item_1 ++ dktX0_item_2
def dkwX0_item_0 : List UInt8 := [27, 184, 1, 214, 154, 0, 6, 18, 130, 172, 42, 180, 0, 87, 27, 50, 180, 1, 232, 78, 45, 199, 0, 7]
abbrev dktX0_item_0 : List UInt8 := dkwX0_item_0 ++ dktX0_item_1
theorem dksX0_item_0 : cX0_item.data.toList.drop 0 = dktX0_item_0 := by decide +kernel
theorem dksX0_item_1 : cX0_item.data.toList.drop 24 = dktX0_item_1 := dk_seg dksX0_item_0 24 rfl rfl
theorem dksX0_item_2 : cX0_item.data.toList.drop 46 = dktX0_item_2 := dk_seg dksX0_item_1 22 rfl rfl
theorem dksX0_item_3 : cX0_item.data.toList.drop 68 = dktX0_item_3 := dk_seg dksX0_item_2 22 rfl rfl
theorem dX0_item_0 : decode cX0_item 0 = .ok (.iload_n 1, 1) := dk_27 (dk_at dksX0_item_0 0 rfl rfl)
theorem dX0_item_1 : decode cX0_item 1 = .ok (.invokestatic 470, 3) := dk_184 1 214 (dk_at dksX0_item_0 1 rfl rfl)
theorem dX0_item_4 : decode cX0_item 4 = .ok (.ifCond .ne 6, 3) := dk_154 0 6 (dk_at dksX0_item_0 4 rfl rfl)
theorem dX0_item_7 : decode cX0_item 7 = .ok (.ldc 130, 2) := dk_18 130 (dk_at dksX0_item_0 7 rfl rfl)
theorem dX0_item_9 : decode cX0_item 9 = .ok (.ireturn, 1) := dk_172 (dk_at dksX0_item_0 9 rfl rfl)
theorem dX0_item_10 : decode cX0_item 10 = .ok (.aload_n 0, 1) := dk_42 (dk_at dksX0_item_0 10 rfl rfl)
theorem dX0_item_11 : decode cX0_item 11 = .ok (.getfield 87, 3) := dk_180 0 87 (dk_at dksX0_item_0 11 rfl rfl)
theorem dX0_item_14 : decode cX0_item 14 = .ok (.iload_n 1, 1) := dk_27 (dk_at dksX0_item_0 14 rfl rfl)
theorem dX0_item_15 : decode cX0_item 15 = .ok (.aaload, 1) := dk_50 (dk_at dksX0_item_0 15 rfl rfl)
theorem dX0_item_16 : decode cX0_item 16 = .ok (.getfield 488, 3) := dk_180 1 232 (dk_at dksX0_item_0 16 rfl rfl)
theorem dX0_item_19 : decode cX0_item 19 = .ok (.astore_n 3, 1) := dk_78 (dk_at dksX0_item_0 19 rfl rfl)
theorem dX0_item_20 : decode cX0_item 20 = .ok (.aload_n 3, 1) := dk_45 (dk_at dksX0_item_0 20 rfl rfl)
theorem dX0_item_21 : decode cX0_item 21 = .ok (.ifnonnull 7, 3) := dk_199 0 7 (dk_at dksX0_item_0 21 rfl rfl)
theorem dX0_item_24 : decode cX0_item 24 = .ok (.ldc_w 436, 3) := dk_19 1 180 (dk_at dksX0_item_1 0 rfl rfl)
theorem dX0_item_27 : decode cX0_item 27 = .ok (.ireturn, 1) := dk_172 (dk_at dksX0_item_1 3 rfl rfl)
theorem dX0_item_28 : decode cX0_item 28 = .ok (.aload_n 3, 1) := dk_45 (dk_at dksX0_item_1 4 rfl rfl)
theorem dX0_item_29 : decode cX0_item 29 = .ok (.checkcast 77, 3) := dk_192 0 77 (dk_at dksX0_item_1 5 rfl rfl)
theorem dX0_item_32 : decode cX0_item 32 = .ok (.astore 4, 2) := dk_58 4 (dk_at dksX0_item_1 8 rfl rfl)
theorem dX0_item_34 : decode cX0_item 34 = .ok (.iload_n 2, 1) := dk_28 (dk_at dksX0_item_1 10 rfl rfl)
theorem dX0_item_35 : decode cX0_item 35 = .ok (.iconst 0, 1) := dk_3 (dk_at dksX0_item_1 11 rfl rfl)
theorem dX0_item_36 : decode cX0_item 36 = .ok (.aload 4, 2) := dk_25 4 (dk_at dksX0_item_1 12 rfl rfl)
theorem dX0_item_38 : decode cX0_item 38 = .ok (.invokevirtual 437, 3) := dk_182 1 181 (dk_at dksX0_item_1 14 rfl rfl)
theorem dX0_item_41 : decode cX0_item 41 = .ok (.iconst 1, 1) := dk_4 (dk_at dksX0_item_1 17 rfl rfl)
theorem dX0_item_42 : decode cX0_item 42 = .ok (.isub, 1) := dk_100 (dk_at dksX0_item_1 18 rfl rfl)
theorem dX0_item_43 : decode cX0_item 43 = .ok (.invokestatic 105, 3) := dk_184 0 105 (dk_at dksX0_item_1 19 rfl rfl)
theorem dX0_item_46 : decode cX0_item 46 = .ok (.ifCond .ne 7, 3) := dk_154 0 7 (dk_at dksX0_item_2 0 rfl rfl)
theorem dX0_item_49 : decode cX0_item 49 = .ok (.ldc_w 444, 3) := dk_19 1 188 (dk_at dksX0_item_2 3 rfl rfl)
theorem dX0_item_52 : decode cX0_item 52 = .ok (.ireturn, 1) := dk_172 (dk_at dksX0_item_2 6 rfl rfl)
theorem dX0_item_53 : decode cX0_item 53 = .ok (.aload 4, 2) := dk_25 4 (dk_at dksX0_item_2 7 rfl rfl)
theorem dX0_item_55 : decode cX0_item 55 = .ok (.iload_n 2, 1) := dk_28 (dk_at dksX0_item_2 9 rfl rfl)
theorem dX0_item_56 : decode cX0_item 56 = .ok (.invokevirtual 445, 3) := dk_182 1 189 (dk_at dksX0_item_2 10 rfl rfl)
theorem dX0_item_59 : decode cX0_item 59 = .ok (.ifCond .eq 12, 3) := dk_153 0 12 (dk_at dksX0_item_2 13 rfl rfl)
theorem dX0_item_62 : decode cX0_item 62 = .ok (.aload 4, 2) := dk_25 4 (dk_at dksX0_item_2 16 rfl rfl)
theorem dX0_item_64 : decode cX0_item 64 = .ok (.iload_n 2, 1) := dk_28 (dk_at dksX0_item_2 18 rfl rfl)
theorem dX0_item_65 : decode cX0_item 65 = .ok (.invokevirtual 448, 3) := dk_182 1 192 (dk_at dksX0_item_2 19 rfl rfl)
theorem dX0_item_68 : decode cX0_item 68 = .ok (.goto 6, 3) := dk_167 0 6 (dk_at dksX0_item_3 0 rfl rfl)
theorem dX0_item_71 : decode cX0_item 71 = .ok (.ldc_w 340, 3) := dk_19 1 84 (dk_at dksX0_item_3 3 rfl rfl)
theorem dX0_item_74 : decode cX0_item 74 = .ok (.ireturn, 1) := dk_172 (dk_at dksX0_item_3 6 rfl rfl)
theorem dX0_item_75 : decode cX0_item 75 = .ok (.astore 4, 2) := dk_58 4 (dk_at dksX0_item_3 7 rfl rfl)
theorem dX0_item_77 : decode cX0_item 77 = .ok (.ldc_w 340, 3) := dk_19 1 84 (dk_at dksX0_item_3 9 rfl rfl)
theorem dX0_item_80 : decode cX0_item 80 = .ok (.ireturn, 1) := dk_172 (dk_at dksX0_item_3 12 rfl rfl)
abbrev cX0_rest : ByteArray := prog_1_method_85_code
def yX0_rest : MethodName := ⟨RX0, "rest", "(II)I"⟩
def dkwX0_rest_2 : List UInt8 := [28, 154, 0, 9, 19, 1, 93, 167, 0, 7, 21, 4, 28, 112, 172]
abbrev dktX0_rest_2 : List UInt8 := dkwX0_rest_2 ++ []
def dkwX0_rest_1 : List UInt8 := [19, 1, 180, 172, 45, 193, 1, 228, 154, 0, 7, 19, 1, 84, 172, 45, 192, 1, 228, 180, 1, 238, 54, 4]
abbrev dktX0_rest_1 : List UInt8 := dkwX0_rest_1 ++ dktX0_rest_2
def dkwX0_rest_0 : List UInt8 := [27, 184, 1, 214, 154, 0, 6, 18, 130, 172, 42, 180, 0, 87, 27, 50, 180, 1, 232, 78, 45, 199, 0, 7]
abbrev dktX0_rest_0 : List UInt8 := dkwX0_rest_0 ++ dktX0_rest_1
theorem dksX0_rest_0 : cX0_rest.data.toList.drop 0 = dktX0_rest_0 := by decide +kernel
theorem dksX0_rest_1 : cX0_rest.data.toList.drop 24 = dktX0_rest_1 := dk_seg dksX0_rest_0 24 rfl rfl
theorem dksX0_rest_2 : cX0_rest.data.toList.drop 48 = dktX0_rest_2 := dk_seg dksX0_rest_1 24 rfl rfl
theorem dX0_rest_0 : decode cX0_rest 0 = .ok (.iload_n 1, 1) := dk_27 (dk_at dksX0_rest_0 0 rfl rfl)
theorem dX0_rest_1 : decode cX0_rest 1 = .ok (.invokestatic 470, 3) := dk_184 1 214 (dk_at dksX0_rest_0 1 rfl rfl)
theorem dX0_rest_4 : decode cX0_rest 4 = .ok (.ifCond .ne 6, 3) := dk_154 0 6 (dk_at dksX0_rest_0 4 rfl rfl)
theorem dX0_rest_7 : decode cX0_rest 7 = .ok (.ldc 130, 2) := dk_18 130 (dk_at dksX0_rest_0 7 rfl rfl)
theorem dX0_rest_9 : decode cX0_rest 9 = .ok (.ireturn, 1) := dk_172 (dk_at dksX0_rest_0 9 rfl rfl)
theorem dX0_rest_10 : decode cX0_rest 10 = .ok (.aload_n 0, 1) := dk_42 (dk_at dksX0_rest_0 10 rfl rfl)
theorem dX0_rest_11 : decode cX0_rest 11 = .ok (.getfield 87, 3) := dk_180 0 87 (dk_at dksX0_rest_0 11 rfl rfl)
theorem dX0_rest_14 : decode cX0_rest 14 = .ok (.iload_n 1, 1) := dk_27 (dk_at dksX0_rest_0 14 rfl rfl)
theorem dX0_rest_15 : decode cX0_rest 15 = .ok (.aaload, 1) := dk_50 (dk_at dksX0_rest_0 15 rfl rfl)
theorem dX0_rest_16 : decode cX0_rest 16 = .ok (.getfield 488, 3) := dk_180 1 232 (dk_at dksX0_rest_0 16 rfl rfl)
theorem dX0_rest_19 : decode cX0_rest 19 = .ok (.astore_n 3, 1) := dk_78 (dk_at dksX0_rest_0 19 rfl rfl)
theorem dX0_rest_20 : decode cX0_rest 20 = .ok (.aload_n 3, 1) := dk_45 (dk_at dksX0_rest_0 20 rfl rfl)
theorem dX0_rest_21 : decode cX0_rest 21 = .ok (.ifnonnull 7, 3) := dk_199 0 7 (dk_at dksX0_rest_0 21 rfl rfl)
theorem dX0_rest_24 : decode cX0_rest 24 = .ok (.ldc_w 436, 3) := dk_19 1 180 (dk_at dksX0_rest_1 0 rfl rfl)
theorem dX0_rest_27 : decode cX0_rest 27 = .ok (.ireturn, 1) := dk_172 (dk_at dksX0_rest_1 3 rfl rfl)
theorem dX0_rest_28 : decode cX0_rest 28 = .ok (.aload_n 3, 1) := dk_45 (dk_at dksX0_rest_1 4 rfl rfl)
theorem dX0_rest_29 : decode cX0_rest 29 = .ok (.instanceof 484, 3) := dk_193 1 228 (dk_at dksX0_rest_1 5 rfl rfl)
theorem dX0_rest_32 : decode cX0_rest 32 = .ok (.ifCond .ne 7, 3) := dk_154 0 7 (dk_at dksX0_rest_1 8 rfl rfl)
theorem dX0_rest_35 : decode cX0_rest 35 = .ok (.ldc_w 340, 3) := dk_19 1 84 (dk_at dksX0_rest_1 11 rfl rfl)
theorem dX0_rest_38 : decode cX0_rest 38 = .ok (.ireturn, 1) := dk_172 (dk_at dksX0_rest_1 14 rfl rfl)
theorem dX0_rest_39 : decode cX0_rest 39 = .ok (.aload_n 3, 1) := dk_45 (dk_at dksX0_rest_1 15 rfl rfl)
theorem dX0_rest_40 : decode cX0_rest 40 = .ok (.checkcast 484, 3) := dk_192 1 228 (dk_at dksX0_rest_1 16 rfl rfl)
theorem dX0_rest_43 : decode cX0_rest 43 = .ok (.getfield 494, 3) := dk_180 1 238 (dk_at dksX0_rest_1 19 rfl rfl)
theorem dX0_rest_46 : decode cX0_rest 46 = .ok (.istore 4, 2) := dk_54 4 (dk_at dksX0_rest_1 22 rfl rfl)
theorem dX0_rest_48 : decode cX0_rest 48 = .ok (.iload_n 2, 1) := dk_28 (dk_at dksX0_rest_2 0 rfl rfl)
theorem dX0_rest_49 : decode cX0_rest 49 = .ok (.ifCond .ne 9, 3) := dk_154 0 9 (dk_at dksX0_rest_2 1 rfl rfl)
theorem dX0_rest_52 : decode cX0_rest 52 = .ok (.ldc_w 349, 3) := dk_19 1 93 (dk_at dksX0_rest_2 4 rfl rfl)
theorem dX0_rest_55 : decode cX0_rest 55 = .ok (.goto 7, 3) := dk_167 0 7 (dk_at dksX0_rest_2 7 rfl rfl)
theorem dX0_rest_58 : decode cX0_rest 58 = .ok (.iload 4, 2) := dk_21 4 (dk_at dksX0_rest_2 10 rfl rfl)
theorem dX0_rest_60 : decode cX0_rest 60 = .ok (.iload_n 2, 1) := dk_28 (dk_at dksX0_rest_2 12 rfl rfl)
theorem dX0_rest_61 : decode cX0_rest 61 = .ok (.irem, 1) := dk_112 (dk_at dksX0_rest_2 13 rfl rfl)
theorem dX0_rest_62 : decode cX0_rest 62 = .ok (.ireturn, 1) := dk_172 (dk_at dksX0_rest_2 14 rfl rfl)
abbrev cX0_tell : ByteArray := prog_1_method_86_code
def yX0_tell : MethodName := ⟨RX0, "tell", "(I)I"⟩
def dkwX0_tell_1 : List UInt8 := [180, 1, 241, 4, 96, 181, 1, 241, 42, 180, 1, 241, 172]
abbrev dktX0_tell_1 : List UInt8 := dkwX0_tell_1 ++ []
def dkwX0_tell_0 : List UInt8 := [42, 180, 1, 241, 16, 60, 160, 0, 6, 18, 125, 172, 42, 180, 0, 95, 42, 180, 1, 241, 27, 79, 42, 89]
abbrev dktX0_tell_0 : List UInt8 := dkwX0_tell_0 ++ dktX0_tell_1
theorem dksX0_tell_0 : cX0_tell.data.toList.drop 0 = dktX0_tell_0 := by decide +kernel
theorem dksX0_tell_1 : cX0_tell.data.toList.drop 24 = dktX0_tell_1 := dk_seg dksX0_tell_0 24 rfl rfl
theorem dX0_tell_0 : decode cX0_tell 0 = .ok (.aload_n 0, 1) := dk_42 (dk_at dksX0_tell_0 0 rfl rfl)
theorem dX0_tell_1 : decode cX0_tell 1 = .ok (.getfield 497, 3) := dk_180 1 241 (dk_at dksX0_tell_0 1 rfl rfl)
theorem dX0_tell_4 : decode cX0_tell 4 = .ok (.bipush 60, 2) := dk_16 60 (dk_at dksX0_tell_0 4 rfl rfl)
theorem dX0_tell_6 : decode cX0_tell 6 = .ok (.if_icmp .ne 6, 3) := dk_160 0 6 (dk_at dksX0_tell_0 6 rfl rfl)
theorem dX0_tell_9 : decode cX0_tell 9 = .ok (.ldc 125, 2) := dk_18 125 (dk_at dksX0_tell_0 9 rfl rfl)
theorem dX0_tell_11 : decode cX0_tell 11 = .ok (.ireturn, 1) := dk_172 (dk_at dksX0_tell_0 11 rfl rfl)
theorem dX0_tell_12 : decode cX0_tell 12 = .ok (.aload_n 0, 1) := dk_42 (dk_at dksX0_tell_0 12 rfl rfl)
theorem dX0_tell_13 : decode cX0_tell 13 = .ok (.getfield 95, 3) := dk_180 0 95 (dk_at dksX0_tell_0 13 rfl rfl)
theorem dX0_tell_16 : decode cX0_tell 16 = .ok (.aload_n 0, 1) := dk_42 (dk_at dksX0_tell_0 16 rfl rfl)
theorem dX0_tell_17 : decode cX0_tell 17 = .ok (.getfield 497, 3) := dk_180 1 241 (dk_at dksX0_tell_0 17 rfl rfl)
theorem dX0_tell_20 : decode cX0_tell 20 = .ok (.iload_n 1, 1) := dk_27 (dk_at dksX0_tell_0 20 rfl rfl)
theorem dX0_tell_21 : decode cX0_tell 21 = .ok (.iastore, 1) := dk_79 (dk_at dksX0_tell_0 21 rfl rfl)
theorem dX0_tell_22 : decode cX0_tell 22 = .ok (.aload_n 0, 1) := dk_42 (dk_at dksX0_tell_0 22 rfl rfl)
theorem dX0_tell_23 : decode cX0_tell 23 = .ok (.dup, 1) := dk_89 (dk_at dksX0_tell_0 23 rfl rfl)
theorem dX0_tell_24 : decode cX0_tell 24 = .ok (.getfield 497, 3) := dk_180 1 241 (dk_at dksX0_tell_1 0 rfl rfl)
theorem dX0_tell_27 : decode cX0_tell 27 = .ok (.iconst 1, 1) := dk_4 (dk_at dksX0_tell_1 3 rfl rfl)
theorem dX0_tell_28 : decode cX0_tell 28 = .ok (.iadd, 1) := dk_96 (dk_at dksX0_tell_1 4 rfl rfl)
theorem dX0_tell_29 : decode cX0_tell 29 = .ok (.putfield 497, 3) := dk_181 1 241 (dk_at dksX0_tell_1 5 rfl rfl)
theorem dX0_tell_32 : decode cX0_tell 32 = .ok (.aload_n 0, 1) := dk_42 (dk_at dksX0_tell_1 8 rfl rfl)
theorem dX0_tell_33 : decode cX0_tell 33 = .ok (.getfield 497, 3) := dk_180 1 241 (dk_at dksX0_tell_1 9 rfl rfl)
theorem dX0_tell_36 : decode cX0_tell 36 = .ok (.ireturn, 1) := dk_172 (dk_at dksX0_tell_1 12 rfl rfl)
abbrev cX0_check : ByteArray := prog_1_method_88_code
def yX0_check : MethodName := ⟨RX0, "check", "(I)I"⟩
def dkwX0_check_4 : List UInt8 := [96, 167, 0, 4, 3, 172]
abbrev dktX0_check_4 : List UInt8 := dkwX0_check_4 ++ []
def dkwX0_check_3 : List UInt8 := [160, 0, 6, 167, 0, 8, 4, 21, 4, 96, 172, 132, 4, 1, 167, 255, 216, 28, 29, 162, 0, 9, 4, 28]
abbrev dktX0_check_3 : List UInt8 := dkwX0_check_3 ++ dktX0_check_4
def dkwX0_check_2 : List UInt8 := [162, 0, 40, 21, 4, 29, 162, 0, 23, 42, 180, 0, 95, 21, 4, 46, 42, 180, 0, 98, 21, 4, 46]
abbrev dktX0_check_2 : List UInt8 := dkwX0_check_2 ++ dktX0_check_3
def dkwX0_check_1 : List UInt8 := [180, 1, 244, 154, 0, 7, 19, 1, 93, 172, 42, 27, 182, 1, 247, 62, 3, 54, 4, 21, 4, 28]
abbrev dktX0_check_1 : List UInt8 := dkwX0_check_1 ++ dktX0_check_2
def dkwX0_check_0 : List UInt8 := [42, 180, 1, 241, 61, 42, 3, 181, 1, 241, 27, 4, 16, 30, 184, 0, 105, 154, 0, 6, 18, 130, 172, 42]
abbrev dktX0_check_0 : List UInt8 := dkwX0_check_0 ++ dktX0_check_1
theorem dksX0_check_0 : cX0_check.data.toList.drop 0 = dktX0_check_0 := by decide +kernel
theorem dksX0_check_1 : cX0_check.data.toList.drop 24 = dktX0_check_1 := dk_seg dksX0_check_0 24 rfl rfl
theorem dksX0_check_2 : cX0_check.data.toList.drop 46 = dktX0_check_2 := dk_seg dksX0_check_1 22 rfl rfl
theorem dksX0_check_3 : cX0_check.data.toList.drop 69 = dktX0_check_3 := dk_seg dksX0_check_2 23 rfl rfl
theorem dksX0_check_4 : cX0_check.data.toList.drop 93 = dktX0_check_4 := dk_seg dksX0_check_3 24 rfl rfl
theorem dX0_check_0 : decode cX0_check 0 = .ok (.aload_n 0, 1) := dk_42 (dk_at dksX0_check_0 0 rfl rfl)
theorem dX0_check_1 : decode cX0_check 1 = .ok (.getfield 497, 3) := dk_180 1 241 (dk_at dksX0_check_0 1 rfl rfl)
theorem dX0_check_4 : decode cX0_check 4 = .ok (.istore_n 2, 1) := dk_61 (dk_at dksX0_check_0 4 rfl rfl)
theorem dX0_check_5 : decode cX0_check 5 = .ok (.aload_n 0, 1) := dk_42 (dk_at dksX0_check_0 5 rfl rfl)
theorem dX0_check_6 : decode cX0_check 6 = .ok (.iconst 0, 1) := dk_3 (dk_at dksX0_check_0 6 rfl rfl)
theorem dX0_check_7 : decode cX0_check 7 = .ok (.putfield 497, 3) := dk_181 1 241 (dk_at dksX0_check_0 7 rfl rfl)
theorem dX0_check_10 : decode cX0_check 10 = .ok (.iload_n 1, 1) := dk_27 (dk_at dksX0_check_0 10 rfl rfl)
theorem dX0_check_11 : decode cX0_check 11 = .ok (.iconst 1, 1) := dk_4 (dk_at dksX0_check_0 11 rfl rfl)
theorem dX0_check_12 : decode cX0_check 12 = .ok (.bipush 30, 2) := dk_16 30 (dk_at dksX0_check_0 12 rfl rfl)
theorem dX0_check_14 : decode cX0_check 14 = .ok (.invokestatic 105, 3) := dk_184 0 105 (dk_at dksX0_check_0 14 rfl rfl)
theorem dX0_check_17 : decode cX0_check 17 = .ok (.ifCond .ne 6, 3) := dk_154 0 6 (dk_at dksX0_check_0 17 rfl rfl)
theorem dX0_check_20 : decode cX0_check 20 = .ok (.ldc 130, 2) := dk_18 130 (dk_at dksX0_check_0 20 rfl rfl)
theorem dX0_check_22 : decode cX0_check 22 = .ok (.ireturn, 1) := dk_172 (dk_at dksX0_check_0 22 rfl rfl)
theorem dX0_check_23 : decode cX0_check 23 = .ok (.aload_n 0, 1) := dk_42 (dk_at dksX0_check_0 23 rfl rfl)
theorem dX0_check_24 : decode cX0_check 24 = .ok (.getfield 500, 3) := dk_180 1 244 (dk_at dksX0_check_1 0 rfl rfl)
theorem dX0_check_27 : decode cX0_check 27 = .ok (.ifCond .ne 7, 3) := dk_154 0 7 (dk_at dksX0_check_1 3 rfl rfl)
theorem dX0_check_30 : decode cX0_check 30 = .ok (.ldc_w 349, 3) := dk_19 1 93 (dk_at dksX0_check_1 6 rfl rfl)
theorem dX0_check_33 : decode cX0_check 33 = .ok (.ireturn, 1) := dk_172 (dk_at dksX0_check_1 9 rfl rfl)
theorem dX0_check_34 : decode cX0_check 34 = .ok (.aload_n 0, 1) := dk_42 (dk_at dksX0_check_1 10 rfl rfl)
theorem dX0_check_35 : decode cX0_check 35 = .ok (.iload_n 1, 1) := dk_27 (dk_at dksX0_check_1 11 rfl rfl)
theorem dX0_check_36 : decode cX0_check 36 = .ok (.invokevirtual 503, 3) := dk_182 1 247 (dk_at dksX0_check_1 12 rfl rfl)
theorem dX0_check_39 : decode cX0_check 39 = .ok (.istore_n 3, 1) := dk_62 (dk_at dksX0_check_1 15 rfl rfl)
theorem dX0_check_40 : decode cX0_check 40 = .ok (.iconst 0, 1) := dk_3 (dk_at dksX0_check_1 16 rfl rfl)
theorem dX0_check_41 : decode cX0_check 41 = .ok (.istore 4, 2) := dk_54 4 (dk_at dksX0_check_1 17 rfl rfl)
theorem dX0_check_43 : decode cX0_check 43 = .ok (.iload 4, 2) := dk_21 4 (dk_at dksX0_check_1 19 rfl rfl)
theorem dX0_check_45 : decode cX0_check 45 = .ok (.iload_n 2, 1) := dk_28 (dk_at dksX0_check_1 21 rfl rfl)
theorem dX0_check_46 : decode cX0_check 46 = .ok (.if_icmp .ge 40, 3) := dk_162 0 40 (dk_at dksX0_check_2 0 rfl rfl)
theorem dX0_check_49 : decode cX0_check 49 = .ok (.iload 4, 2) := dk_21 4 (dk_at dksX0_check_2 3 rfl rfl)
theorem dX0_check_51 : decode cX0_check 51 = .ok (.iload_n 3, 1) := dk_29 (dk_at dksX0_check_2 5 rfl rfl)
theorem dX0_check_52 : decode cX0_check 52 = .ok (.if_icmp .ge 23, 3) := dk_162 0 23 (dk_at dksX0_check_2 6 rfl rfl)
theorem dX0_check_55 : decode cX0_check 55 = .ok (.aload_n 0, 1) := dk_42 (dk_at dksX0_check_2 9 rfl rfl)
theorem dX0_check_56 : decode cX0_check 56 = .ok (.getfield 95, 3) := dk_180 0 95 (dk_at dksX0_check_2 10 rfl rfl)
theorem dX0_check_59 : decode cX0_check 59 = .ok (.iload 4, 2) := dk_21 4 (dk_at dksX0_check_2 13 rfl rfl)
theorem dX0_check_61 : decode cX0_check 61 = .ok (.iaload, 1) := dk_46 (dk_at dksX0_check_2 15 rfl rfl)
theorem dX0_check_62 : decode cX0_check 62 = .ok (.aload_n 0, 1) := dk_42 (dk_at dksX0_check_2 16 rfl rfl)
theorem dX0_check_63 : decode cX0_check 63 = .ok (.getfield 98, 3) := dk_180 0 98 (dk_at dksX0_check_2 17 rfl rfl)
theorem dX0_check_66 : decode cX0_check 66 = .ok (.iload 4, 2) := dk_21 4 (dk_at dksX0_check_2 20 rfl rfl)
theorem dX0_check_68 : decode cX0_check 68 = .ok (.iaload, 1) := dk_46 (dk_at dksX0_check_2 22 rfl rfl)
theorem dX0_check_69 : decode cX0_check 69 = .ok (.if_icmp .ne 6, 3) := dk_160 0 6 (dk_at dksX0_check_3 0 rfl rfl)
theorem dX0_check_72 : decode cX0_check 72 = .ok (.goto 8, 3) := dk_167 0 8 (dk_at dksX0_check_3 3 rfl rfl)
theorem dX0_check_75 : decode cX0_check 75 = .ok (.iconst 1, 1) := dk_4 (dk_at dksX0_check_3 6 rfl rfl)
theorem dX0_check_76 : decode cX0_check 76 = .ok (.iload 4, 2) := dk_21 4 (dk_at dksX0_check_3 7 rfl rfl)
theorem dX0_check_78 : decode cX0_check 78 = .ok (.iadd, 1) := dk_96 (dk_at dksX0_check_3 9 rfl rfl)
theorem dX0_check_79 : decode cX0_check 79 = .ok (.ireturn, 1) := dk_172 (dk_at dksX0_check_3 10 rfl rfl)
theorem dX0_check_80 : decode cX0_check 80 = .ok (.iinc 4 1, 3) := dk_132 4 1 (dk_at dksX0_check_3 11 rfl rfl)
theorem dX0_check_83 : decode cX0_check 83 = .ok (.goto (-40), 3) := dk_167 255 216 (dk_at dksX0_check_3 14 rfl rfl)
theorem dX0_check_86 : decode cX0_check 86 = .ok (.iload_n 2, 1) := dk_28 (dk_at dksX0_check_3 17 rfl rfl)
theorem dX0_check_87 : decode cX0_check 87 = .ok (.iload_n 3, 1) := dk_29 (dk_at dksX0_check_3 18 rfl rfl)
theorem dX0_check_88 : decode cX0_check 88 = .ok (.if_icmp .ge 9, 3) := dk_162 0 9 (dk_at dksX0_check_3 19 rfl rfl)
theorem dX0_check_91 : decode cX0_check 91 = .ok (.iconst 1, 1) := dk_4 (dk_at dksX0_check_3 22 rfl rfl)
theorem dX0_check_92 : decode cX0_check 92 = .ok (.iload_n 2, 1) := dk_28 (dk_at dksX0_check_3 23 rfl rfl)
theorem dX0_check_93 : decode cX0_check 93 = .ok (.iadd, 1) := dk_96 (dk_at dksX0_check_4 0 rfl rfl)
theorem dX0_check_94 : decode cX0_check 94 = .ok (.goto 4, 3) := dk_167 0 4 (dk_at dksX0_check_4 1 rfl rfl)
theorem dX0_check_97 : decode cX0_check 97 = .ok (.iconst 0, 1) := dk_3 (dk_at dksX0_check_4 4 rfl rfl)
theorem dX0_check_98 : decode cX0_check 98 = .ok (.ireturn, 1) := dk_172 (dk_at dksX0_check_4 5 rfl rfl)
abbrev cX0_rowsOfDays : ByteArray := prog_1_method_87_code
def yX0_rowsOfDays : MethodName := ⟨RX0, "rowsOfDays", "(I)I"⟩
def dkwX0_rowsOfDays_4 : List UInt8 := [182, 1, 137, 5, 28, 104, 172]
abbrev dktX0_rowsOfDays_4 : List UInt8 := dkwX0_rowsOfDays_4 ++ []
def dkwX0_rowsOfDays_3 : List UInt8 := [4, 96, 42, 180, 0, 40, 182, 1, 135, 79, 132, 2, 1, 167, 255, 196, 42, 180, 0, 40, 42, 180, 0, 47]
abbrev dktX0_rowsOfDays_3 : List UInt8 := dkwX0_rowsOfDays_3 ++ dktX0_rowsOfDays_4
def dkwX0_rowsOfDays_2 : List UInt8 := [180, 0, 98, 5, 28, 104, 42, 180, 0, 40, 182, 1, 50, 184, 1, 97, 79, 42, 180, 0, 98, 5, 28, 104]
abbrev dktX0_rowsOfDays_2 : List UInt8 := dkwX0_rowsOfDays_2 ++ dktX0_rowsOfDays_3
def dkwX0_rowsOfDays_1 : List UInt8 := [28, 27, 162, 0, 61, 42, 180, 0, 40, 180, 1, 126, 17, 39, 15, 162, 0, 48, 42, 182, 1, 129, 42]
abbrev dktX0_rowsOfDays_1 : List UInt8 := dkwX0_rowsOfDays_1 ++ dktX0_rowsOfDays_2
def dkwX0_rowsOfDays_0 : List UInt8 := [42, 180, 0, 47, 42, 180, 0, 40, 182, 1, 137, 42, 180, 0, 40, 42, 180, 0, 44, 182, 1, 137, 3, 61]
abbrev dktX0_rowsOfDays_0 : List UInt8 := dkwX0_rowsOfDays_0 ++ dktX0_rowsOfDays_1
theorem dksX0_rowsOfDays_0 : cX0_rowsOfDays.data.toList.drop 0 = dktX0_rowsOfDays_0 := by decide +kernel
theorem dksX0_rowsOfDays_1 : cX0_rowsOfDays.data.toList.drop 24 = dktX0_rowsOfDays_1 := dk_seg dksX0_rowsOfDays_0 24 rfl rfl
theorem dksX0_rowsOfDays_2 : cX0_rowsOfDays.data.toList.drop 47 = dktX0_rowsOfDays_2 := dk_seg dksX0_rowsOfDays_1 23 rfl rfl
theorem dksX0_rowsOfDays_3 : cX0_rowsOfDays.data.toList.drop 71 = dktX0_rowsOfDays_3 := dk_seg dksX0_rowsOfDays_2 24 rfl rfl
theorem dksX0_rowsOfDays_4 : cX0_rowsOfDays.data.toList.drop 95 = dktX0_rowsOfDays_4 := dk_seg dksX0_rowsOfDays_3 24 rfl rfl
theorem dX0_rowsOfDays_0 : decode cX0_rowsOfDays 0 = .ok (.aload_n 0, 1) := dk_42 (dk_at dksX0_rowsOfDays_0 0 rfl rfl)
theorem dX0_rowsOfDays_1 : decode cX0_rowsOfDays 1 = .ok (.getfield 47, 3) := dk_180 0 47 (dk_at dksX0_rowsOfDays_0 1 rfl rfl)
theorem dX0_rowsOfDays_4 : decode cX0_rowsOfDays 4 = .ok (.aload_n 0, 1) := dk_42 (dk_at dksX0_rowsOfDays_0 4 rfl rfl)
theorem dX0_rowsOfDays_5 : decode cX0_rowsOfDays 5 = .ok (.getfield 40, 3) := dk_180 0 40 (dk_at dksX0_rowsOfDays_0 5 rfl rfl)
theorem dX0_rowsOfDays_8 : decode cX0_rowsOfDays 8 = .ok (.invokevirtual 393, 3) := dk_182 1 137 (dk_at dksX0_rowsOfDays_0 8 rfl rfl)
theorem dX0_rowsOfDays_11 : decode cX0_rowsOfDays 11 = .ok (.aload_n 0, 1) := dk_42 (dk_at dksX0_rowsOfDays_0 11 rfl rfl)
theorem dX0_rowsOfDays_12 : decode cX0_rowsOfDays 12 = .ok (.getfield 40, 3) := dk_180 0 40 (dk_at dksX0_rowsOfDays_0 12 rfl rfl)
theorem dX0_rowsOfDays_15 : decode cX0_rowsOfDays 15 = .ok (.aload_n 0, 1) := dk_42 (dk_at dksX0_rowsOfDays_0 15 rfl rfl)
theorem dX0_rowsOfDays_16 : decode cX0_rowsOfDays 16 = .ok (.getfield 44, 3) := dk_180 0 44 (dk_at dksX0_rowsOfDays_0 16 rfl rfl)
theorem dX0_rowsOfDays_19 : decode cX0_rowsOfDays 19 = .ok (.invokevirtual 393, 3) := dk_182 1 137 (dk_at dksX0_rowsOfDays_0 19 rfl rfl)
theorem dX0_rowsOfDays_22 : decode cX0_rowsOfDays 22 = .ok (.iconst 0, 1) := dk_3 (dk_at dksX0_rowsOfDays_0 22 rfl rfl)
theorem dX0_rowsOfDays_23 : decode cX0_rowsOfDays 23 = .ok (.istore_n 2, 1) := dk_61 (dk_at dksX0_rowsOfDays_0 23 rfl rfl)
theorem dX0_rowsOfDays_24 : decode cX0_rowsOfDays 24 = .ok (.iload_n 2, 1) := dk_28 (dk_at dksX0_rowsOfDays_1 0 rfl rfl)
theorem dX0_rowsOfDays_25 : decode cX0_rowsOfDays 25 = .ok (.iload_n 1, 1) := dk_27 (dk_at dksX0_rowsOfDays_1 1 rfl rfl)
theorem dX0_rowsOfDays_26 : decode cX0_rowsOfDays 26 = .ok (.if_icmp .ge 61, 3) := dk_162 0 61 (dk_at dksX0_rowsOfDays_1 2 rfl rfl)
theorem dX0_rowsOfDays_29 : decode cX0_rowsOfDays 29 = .ok (.aload_n 0, 1) := dk_42 (dk_at dksX0_rowsOfDays_1 5 rfl rfl)
theorem dX0_rowsOfDays_30 : decode cX0_rowsOfDays 30 = .ok (.getfield 40, 3) := dk_180 0 40 (dk_at dksX0_rowsOfDays_1 6 rfl rfl)
theorem dX0_rowsOfDays_33 : decode cX0_rowsOfDays 33 = .ok (.getfield 382, 3) := dk_180 1 126 (dk_at dksX0_rowsOfDays_1 9 rfl rfl)
theorem dX0_rowsOfDays_36 : decode cX0_rowsOfDays 36 = .ok (.sipush 9999, 3) := dk_17 39 15 (dk_at dksX0_rowsOfDays_1 12 rfl rfl)
theorem dX0_rowsOfDays_39 : decode cX0_rowsOfDays 39 = .ok (.if_icmp .ge 48, 3) := dk_162 0 48 (dk_at dksX0_rowsOfDays_1 15 rfl rfl)
theorem dX0_rowsOfDays_42 : decode cX0_rowsOfDays 42 = .ok (.aload_n 0, 1) := dk_42 (dk_at dksX0_rowsOfDays_1 18 rfl rfl)
theorem dX0_rowsOfDays_43 : decode cX0_rowsOfDays 43 = .ok (.invokevirtual 385, 3) := dk_182 1 129 (dk_at dksX0_rowsOfDays_1 19 rfl rfl)
theorem dX0_rowsOfDays_46 : decode cX0_rowsOfDays 46 = .ok (.aload_n 0, 1) := dk_42 (dk_at dksX0_rowsOfDays_1 22 rfl rfl)
theorem dX0_rowsOfDays_47 : decode cX0_rowsOfDays 47 = .ok (.getfield 98, 3) := dk_180 0 98 (dk_at dksX0_rowsOfDays_2 0 rfl rfl)
theorem dX0_rowsOfDays_50 : decode cX0_rowsOfDays 50 = .ok (.iconst 2, 1) := dk_5 (dk_at dksX0_rowsOfDays_2 3 rfl rfl)
theorem dX0_rowsOfDays_51 : decode cX0_rowsOfDays 51 = .ok (.iload_n 2, 1) := dk_28 (dk_at dksX0_rowsOfDays_2 4 rfl rfl)
theorem dX0_rowsOfDays_52 : decode cX0_rowsOfDays 52 = .ok (.imul, 1) := dk_104 (dk_at dksX0_rowsOfDays_2 5 rfl rfl)
theorem dX0_rowsOfDays_53 : decode cX0_rowsOfDays 53 = .ok (.aload_n 0, 1) := dk_42 (dk_at dksX0_rowsOfDays_2 6 rfl rfl)
theorem dX0_rowsOfDays_54 : decode cX0_rowsOfDays 54 = .ok (.getfield 40, 3) := dk_180 0 40 (dk_at dksX0_rowsOfDays_2 7 rfl rfl)
theorem dX0_rowsOfDays_57 : decode cX0_rowsOfDays 57 = .ok (.invokevirtual 306, 3) := dk_182 1 50 (dk_at dksX0_rowsOfDays_2 10 rfl rfl)
theorem dX0_rowsOfDays_60 : decode cX0_rowsOfDays 60 = .ok (.invokestatic 353, 3) := dk_184 1 97 (dk_at dksX0_rowsOfDays_2 13 rfl rfl)
theorem dX0_rowsOfDays_63 : decode cX0_rowsOfDays 63 = .ok (.iastore, 1) := dk_79 (dk_at dksX0_rowsOfDays_2 16 rfl rfl)
theorem dX0_rowsOfDays_64 : decode cX0_rowsOfDays 64 = .ok (.aload_n 0, 1) := dk_42 (dk_at dksX0_rowsOfDays_2 17 rfl rfl)
theorem dX0_rowsOfDays_65 : decode cX0_rowsOfDays 65 = .ok (.getfield 98, 3) := dk_180 0 98 (dk_at dksX0_rowsOfDays_2 18 rfl rfl)
theorem dX0_rowsOfDays_68 : decode cX0_rowsOfDays 68 = .ok (.iconst 2, 1) := dk_5 (dk_at dksX0_rowsOfDays_2 21 rfl rfl)
theorem dX0_rowsOfDays_69 : decode cX0_rowsOfDays 69 = .ok (.iload_n 2, 1) := dk_28 (dk_at dksX0_rowsOfDays_2 22 rfl rfl)
theorem dX0_rowsOfDays_70 : decode cX0_rowsOfDays 70 = .ok (.imul, 1) := dk_104 (dk_at dksX0_rowsOfDays_2 23 rfl rfl)
theorem dX0_rowsOfDays_71 : decode cX0_rowsOfDays 71 = .ok (.iconst 1, 1) := dk_4 (dk_at dksX0_rowsOfDays_3 0 rfl rfl)
theorem dX0_rowsOfDays_72 : decode cX0_rowsOfDays 72 = .ok (.iadd, 1) := dk_96 (dk_at dksX0_rowsOfDays_3 1 rfl rfl)
theorem dX0_rowsOfDays_73 : decode cX0_rowsOfDays 73 = .ok (.aload_n 0, 1) := dk_42 (dk_at dksX0_rowsOfDays_3 2 rfl rfl)
theorem dX0_rowsOfDays_74 : decode cX0_rowsOfDays 74 = .ok (.getfield 40, 3) := dk_180 0 40 (dk_at dksX0_rowsOfDays_3 3 rfl rfl)
theorem dX0_rowsOfDays_77 : decode cX0_rowsOfDays 77 = .ok (.invokevirtual 391, 3) := dk_182 1 135 (dk_at dksX0_rowsOfDays_3 6 rfl rfl)
theorem dX0_rowsOfDays_80 : decode cX0_rowsOfDays 80 = .ok (.iastore, 1) := dk_79 (dk_at dksX0_rowsOfDays_3 9 rfl rfl)
theorem dX0_rowsOfDays_81 : decode cX0_rowsOfDays 81 = .ok (.iinc 2 1, 3) := dk_132 2 1 (dk_at dksX0_rowsOfDays_3 10 rfl rfl)
theorem dX0_rowsOfDays_84 : decode cX0_rowsOfDays 84 = .ok (.goto (-60), 3) := dk_167 255 196 (dk_at dksX0_rowsOfDays_3 13 rfl rfl)
theorem dX0_rowsOfDays_87 : decode cX0_rowsOfDays 87 = .ok (.aload_n 0, 1) := dk_42 (dk_at dksX0_rowsOfDays_3 16 rfl rfl)
theorem dX0_rowsOfDays_88 : decode cX0_rowsOfDays 88 = .ok (.getfield 40, 3) := dk_180 0 40 (dk_at dksX0_rowsOfDays_3 17 rfl rfl)
theorem dX0_rowsOfDays_91 : decode cX0_rowsOfDays 91 = .ok (.aload_n 0, 1) := dk_42 (dk_at dksX0_rowsOfDays_3 20 rfl rfl)
theorem dX0_rowsOfDays_92 : decode cX0_rowsOfDays 92 = .ok (.getfield 47, 3) := dk_180 0 47 (dk_at dksX0_rowsOfDays_3 21 rfl rfl)
theorem dX0_rowsOfDays_95 : decode cX0_rowsOfDays 95 = .ok (.invokevirtual 393, 3) := dk_182 1 137 (dk_at dksX0_rowsOfDays_4 0 rfl rfl)
theorem dX0_rowsOfDays_98 : decode cX0_rowsOfDays 98 = .ok (.iconst 2, 1) := dk_5 (dk_at dksX0_rowsOfDays_4 3 rfl rfl)
theorem dX0_rowsOfDays_99 : decode cX0_rowsOfDays 99 = .ok (.iload_n 2, 1) := dk_28 (dk_at dksX0_rowsOfDays_4 4 rfl rfl)
theorem dX0_rowsOfDays_100 : decode cX0_rowsOfDays 100 = .ok (.imul, 1) := dk_104 (dk_at dksX0_rowsOfDays_4 5 rfl rfl)
theorem dX0_rowsOfDays_101 : decode cX0_rowsOfDays 101 = .ok (.ireturn, 1) := dk_172 (dk_at dksX0_rowsOfDays_4 6 rfl rfl)
abbrev cX0_keep : ByteArray := prog_1_method_89_code
def yX0_keep : MethodName := ⟨RX0, "keep", "()I"⟩
def dkwX0_keep_0 : List UInt8 := [42, 180, 0, 44, 42, 180, 0, 40, 182, 1, 137, 42, 4, 181, 1, 244, 42, 180, 0, 40, 180, 0, 101, 172]
abbrev dktX0_keep_0 : List UInt8 := dkwX0_keep_0 ++ []
theorem dksX0_keep_0 : cX0_keep.data.toList.drop 0 = dktX0_keep_0 := by decide +kernel
theorem dX0_keep_0 : decode cX0_keep 0 = .ok (.aload_n 0, 1) := dk_42 (dk_at dksX0_keep_0 0 rfl rfl)
theorem dX0_keep_1 : decode cX0_keep 1 = .ok (.getfield 44, 3) := dk_180 0 44 (dk_at dksX0_keep_0 1 rfl rfl)
theorem dX0_keep_4 : decode cX0_keep 4 = .ok (.aload_n 0, 1) := dk_42 (dk_at dksX0_keep_0 4 rfl rfl)
theorem dX0_keep_5 : decode cX0_keep 5 = .ok (.getfield 40, 3) := dk_180 0 40 (dk_at dksX0_keep_0 5 rfl rfl)
theorem dX0_keep_8 : decode cX0_keep 8 = .ok (.invokevirtual 393, 3) := dk_182 1 137 (dk_at dksX0_keep_0 8 rfl rfl)
theorem dX0_keep_11 : decode cX0_keep 11 = .ok (.aload_n 0, 1) := dk_42 (dk_at dksX0_keep_0 11 rfl rfl)
theorem dX0_keep_12 : decode cX0_keep 12 = .ok (.iconst 1, 1) := dk_4 (dk_at dksX0_keep_0 12 rfl rfl)
theorem dX0_keep_13 : decode cX0_keep 13 = .ok (.putfield 500, 3) := dk_181 1 244 (dk_at dksX0_keep_0 13 rfl rfl)
theorem dX0_keep_16 : decode cX0_keep 16 = .ok (.aload_n 0, 1) := dk_42 (dk_at dksX0_keep_0 16 rfl rfl)
theorem dX0_keep_17 : decode cX0_keep 17 = .ok (.getfield 40, 3) := dk_180 0 40 (dk_at dksX0_keep_0 17 rfl rfl)
theorem dX0_keep_20 : decode cX0_keep 20 = .ok (.getfield 101, 3) := dk_180 0 101 (dk_at dksX0_keep_0 20 rfl rfl)
theorem dX0_keep_23 : decode cX0_keep 23 = .ok (.ireturn, 1) := dk_172 (dk_at dksX0_keep_0 23 rfl rfl)
abbrev cX0_back : ByteArray := prog_1_method_90_code
def yX0_back : MethodName := ⟨RX0, "back", "()I"⟩
def dkwX0_back_1 : List UInt8 := [180, 0, 40, 180, 0, 101, 172]
abbrev dktX0_back_1 : List UInt8 := dkwX0_back_1 ++ []
def dkwX0_back_0 : List UInt8 := [42, 180, 1, 244, 154, 0, 7, 19, 1, 93, 172, 42, 180, 0, 40, 42, 180, 0, 44, 182, 1, 137, 42]
abbrev dktX0_back_0 : List UInt8 := dkwX0_back_0 ++ dktX0_back_1
theorem dksX0_back_0 : cX0_back.data.toList.drop 0 = dktX0_back_0 := by decide +kernel
theorem dksX0_back_1 : cX0_back.data.toList.drop 23 = dktX0_back_1 := dk_seg dksX0_back_0 23 rfl rfl
theorem dX0_back_0 : decode cX0_back 0 = .ok (.aload_n 0, 1) := dk_42 (dk_at dksX0_back_0 0 rfl rfl)
theorem dX0_back_1 : decode cX0_back 1 = .ok (.getfield 500, 3) := dk_180 1 244 (dk_at dksX0_back_0 1 rfl rfl)
theorem dX0_back_4 : decode cX0_back 4 = .ok (.ifCond .ne 7, 3) := dk_154 0 7 (dk_at dksX0_back_0 4 rfl rfl)
theorem dX0_back_7 : decode cX0_back 7 = .ok (.ldc_w 349, 3) := dk_19 1 93 (dk_at dksX0_back_0 7 rfl rfl)
theorem dX0_back_10 : decode cX0_back 10 = .ok (.ireturn, 1) := dk_172 (dk_at dksX0_back_0 10 rfl rfl)
theorem dX0_back_11 : decode cX0_back 11 = .ok (.aload_n 0, 1) := dk_42 (dk_at dksX0_back_0 11 rfl rfl)
theorem dX0_back_12 : decode cX0_back 12 = .ok (.getfield 40, 3) := dk_180 0 40 (dk_at dksX0_back_0 12 rfl rfl)
theorem dX0_back_15 : decode cX0_back 15 = .ok (.aload_n 0, 1) := dk_42 (dk_at dksX0_back_0 15 rfl rfl)
theorem dX0_back_16 : decode cX0_back 16 = .ok (.getfield 44, 3) := dk_180 0 44 (dk_at dksX0_back_0 16 rfl rfl)
theorem dX0_back_19 : decode cX0_back 19 = .ok (.invokevirtual 393, 3) := dk_182 1 137 (dk_at dksX0_back_0 19 rfl rfl)
theorem dX0_back_22 : decode cX0_back 22 = .ok (.aload_n 0, 1) := dk_42 (dk_at dksX0_back_0 22 rfl rfl)
theorem dX0_back_23 : decode cX0_back 23 = .ok (.getfield 40, 3) := dk_180 0 40 (dk_at dksX0_back_1 0 rfl rfl)
theorem dX0_back_26 : decode cX0_back 26 = .ok (.getfield 101, 3) := dk_180 0 101 (dk_at dksX0_back_1 3 rfl rfl)
theorem dX0_back_29 : decode cX0_back 29 = .ok (.ireturn, 1) := dk_172 (dk_at dksX0_back_1 6 rfl rfl)
abbrev cX0_count : ByteArray := prog_1_method_91_code
def yX0_count : MethodName := ⟨RX0, "count", "(I)I"⟩
def dkwX0_count_4 : List UInt8 := [172, 42, 180, 0, 122, 172, 42, 180, 0, 40, 180, 1, 105, 172, 18, 130, 172]
abbrev dktX0_count_4 : List UInt8 := dkwX0_count_4 ++ []
def dkwX0_count_3 : List UInt8 := [180, 1, 126, 172, 42, 180, 0, 40, 180, 1, 56, 172, 42, 180, 0, 40, 180, 0, 237, 172, 42, 180, 1, 241]
abbrev dktX0_count_3 : List UInt8 := dkwX0_count_3 ++ dktX0_count_4
def dkwX0_count_2 : List UInt8 := [42, 180, 0, 40, 180, 0, 101, 172, 42, 180, 0, 40, 182, 1, 50, 184, 1, 97, 172, 42, 180, 0, 40]
abbrev dktX0_count_2 : List UInt8 := dkwX0_count_2 ++ dktX0_count_3
def dkwX0_count_1 : List UInt8 := [170, 0, 0, 0, 0, 0, 108, 0, 0, 0, 0, 0, 0, 0, 7, 0, 0, 0, 47, 0, 0, 0, 55, 0, 0, 0, 66, 0, 0, 0, 74, 0, 0, 0, 82, 0, 0, 0, 90, 0, 0, 0, 95, 0, 0, 0, 100]
abbrev dktX0_count_1 : List UInt8 := dkwX0_count_1 ++ dktX0_count_2
def dkwX0_count_0 : List UInt8 := [27]
abbrev dktX0_count_0 : List UInt8 := dkwX0_count_0 ++ dktX0_count_1
theorem dksX0_count_0 : cX0_count.data.toList.drop 0 = dktX0_count_0 := by decide +kernel
theorem dksX0_count_1 : cX0_count.data.toList.drop 1 = dktX0_count_1 := dk_seg dksX0_count_0 1 rfl rfl
theorem dksX0_count_2 : cX0_count.data.toList.drop 48 = dktX0_count_2 := dk_seg dksX0_count_1 47 rfl rfl
theorem dksX0_count_3 : cX0_count.data.toList.drop 71 = dktX0_count_3 := dk_seg dksX0_count_2 23 rfl rfl
theorem dksX0_count_4 : cX0_count.data.toList.drop 95 = dktX0_count_4 := dk_seg dksX0_count_3 24 rfl rfl
theorem dX0_count_0 : decode cX0_count 0 = .ok (.iload_n 1, 1) := dk_27 (dk_at dksX0_count_0 0 rfl rfl)
theorem dX0_count_1 : decode cX0_count 1 = .ok (.tableswitch 108 0 7 #[47, 55, 66, 74, 82, 90, 95, 100], 47) := by decide +kernel
theorem dX0_count_48 : decode cX0_count 48 = .ok (.aload_n 0, 1) := dk_42 (dk_at dksX0_count_2 0 rfl rfl)
theorem dX0_count_49 : decode cX0_count 49 = .ok (.getfield 40, 3) := dk_180 0 40 (dk_at dksX0_count_2 1 rfl rfl)
theorem dX0_count_52 : decode cX0_count 52 = .ok (.getfield 101, 3) := dk_180 0 101 (dk_at dksX0_count_2 4 rfl rfl)
theorem dX0_count_55 : decode cX0_count 55 = .ok (.ireturn, 1) := dk_172 (dk_at dksX0_count_2 7 rfl rfl)
theorem dX0_count_56 : decode cX0_count 56 = .ok (.aload_n 0, 1) := dk_42 (dk_at dksX0_count_2 8 rfl rfl)
theorem dX0_count_57 : decode cX0_count 57 = .ok (.getfield 40, 3) := dk_180 0 40 (dk_at dksX0_count_2 9 rfl rfl)
theorem dX0_count_60 : decode cX0_count 60 = .ok (.invokevirtual 306, 3) := dk_182 1 50 (dk_at dksX0_count_2 12 rfl rfl)
theorem dX0_count_63 : decode cX0_count 63 = .ok (.invokestatic 353, 3) := dk_184 1 97 (dk_at dksX0_count_2 15 rfl rfl)
theorem dX0_count_66 : decode cX0_count 66 = .ok (.ireturn, 1) := dk_172 (dk_at dksX0_count_2 18 rfl rfl)
theorem dX0_count_67 : decode cX0_count 67 = .ok (.aload_n 0, 1) := dk_42 (dk_at dksX0_count_2 19 rfl rfl)
theorem dX0_count_68 : decode cX0_count 68 = .ok (.getfield 40, 3) := dk_180 0 40 (dk_at dksX0_count_2 20 rfl rfl)
theorem dX0_count_71 : decode cX0_count 71 = .ok (.getfield 382, 3) := dk_180 1 126 (dk_at dksX0_count_3 0 rfl rfl)
theorem dX0_count_74 : decode cX0_count 74 = .ok (.ireturn, 1) := dk_172 (dk_at dksX0_count_3 3 rfl rfl)
theorem dX0_count_75 : decode cX0_count 75 = .ok (.aload_n 0, 1) := dk_42 (dk_at dksX0_count_3 4 rfl rfl)
theorem dX0_count_76 : decode cX0_count 76 = .ok (.getfield 40, 3) := dk_180 0 40 (dk_at dksX0_count_3 5 rfl rfl)
theorem dX0_count_79 : decode cX0_count 79 = .ok (.getfield 312, 3) := dk_180 1 56 (dk_at dksX0_count_3 8 rfl rfl)
theorem dX0_count_82 : decode cX0_count 82 = .ok (.ireturn, 1) := dk_172 (dk_at dksX0_count_3 11 rfl rfl)
theorem dX0_count_83 : decode cX0_count 83 = .ok (.aload_n 0, 1) := dk_42 (dk_at dksX0_count_3 12 rfl rfl)
theorem dX0_count_84 : decode cX0_count 84 = .ok (.getfield 40, 3) := dk_180 0 40 (dk_at dksX0_count_3 13 rfl rfl)
theorem dX0_count_87 : decode cX0_count 87 = .ok (.getfield 237, 3) := dk_180 0 237 (dk_at dksX0_count_3 16 rfl rfl)
theorem dX0_count_90 : decode cX0_count 90 = .ok (.ireturn, 1) := dk_172 (dk_at dksX0_count_3 19 rfl rfl)
theorem dX0_count_91 : decode cX0_count 91 = .ok (.aload_n 0, 1) := dk_42 (dk_at dksX0_count_3 20 rfl rfl)
theorem dX0_count_92 : decode cX0_count 92 = .ok (.getfield 497, 3) := dk_180 1 241 (dk_at dksX0_count_3 21 rfl rfl)
theorem dX0_count_95 : decode cX0_count 95 = .ok (.ireturn, 1) := dk_172 (dk_at dksX0_count_4 0 rfl rfl)
theorem dX0_count_96 : decode cX0_count 96 = .ok (.aload_n 0, 1) := dk_42 (dk_at dksX0_count_4 1 rfl rfl)
theorem dX0_count_97 : decode cX0_count 97 = .ok (.getfield 122, 3) := dk_180 0 122 (dk_at dksX0_count_4 2 rfl rfl)
theorem dX0_count_100 : decode cX0_count 100 = .ok (.ireturn, 1) := dk_172 (dk_at dksX0_count_4 5 rfl rfl)
theorem dX0_count_101 : decode cX0_count 101 = .ok (.aload_n 0, 1) := dk_42 (dk_at dksX0_count_4 6 rfl rfl)
theorem dX0_count_102 : decode cX0_count 102 = .ok (.getfield 40, 3) := dk_180 0 40 (dk_at dksX0_count_4 7 rfl rfl)
theorem dX0_count_105 : decode cX0_count 105 = .ok (.getfield 361, 3) := dk_180 1 105 (dk_at dksX0_count_4 10 rfl rfl)
theorem dX0_count_108 : decode cX0_count 108 = .ok (.ireturn, 1) := dk_172 (dk_at dksX0_count_4 13 rfl rfl)
theorem dX0_count_109 : decode cX0_count 109 = .ok (.ldc 130, 2) := dk_18 130 (dk_at dksX0_count_4 14 rfl rfl)
theorem dX0_count_111 : decode cX0_count 111 = .ok (.ireturn, 1) := dk_172 (dk_at dksX0_count_4 16 rfl rfl)
