set_option maxRecDepth 100000
abbrev cX6_init : ByteArray := prog_11_method_1_code
def yX6_init : MethodName := ⟨RX6, "<init>", "()V"⟩
def dkwX6_init_9 : List UInt8 := [132, 1, 1, 167, 255, 241, 177]
abbrev dktX6_init_9 : List UInt8 := dkwX6_init_9 ++ []
def dkwX6_init_8 : List UInt8 := [42, 18, 69, 188, 4, 181, 0, 85, 3, 60, 27, 7, 162, 0, 16, 42, 180, 0, 7, 27, 2, 79]
abbrev dktX6_init_8 : List UInt8 := dkwX6_init_8 ++ dktX6_init_9
def dkwX6_init_7 : List UInt8 := [42, 18, 69, 188, 10, 181, 0, 76, 42, 18, 69, 188, 10, 181, 0, 79, 42, 16, 12, 188, 10, 181, 0, 82]
abbrev dktX6_init_7 : List UInt8 := dkwX6_init_7 ++ dktX6_init_8
def dkwX6_init_6 : List UInt8 := [17, 1, 144, 188, 10, 181, 0, 66, 42, 18, 69, 188, 11, 181, 0, 70, 42, 18, 69, 188, 10, 181, 0, 73]
abbrev dktX6_init_6 : List UInt8 := dkwX6_init_6 ++ dktX6_init_7
def dkwX6_init_5 : List UInt8 := [188, 4, 181, 0, 57, 42, 18, 56, 188, 10, 181, 0, 60, 42, 18, 56, 188, 10, 181, 0, 63, 42]
abbrev dktX6_init_5 : List UInt8 := dkwX6_init_5 ++ dktX6_init_6
def dkwX6_init_4 : List UInt8 := [188, 10, 181, 0, 46, 42, 6, 188, 4, 181, 0, 49, 42, 16, 60, 188, 10, 181, 0, 53, 42, 18, 56]
abbrev dktX6_init_4 : List UInt8 := dkwX6_init_4 ++ dktX6_init_5
def dkwX6_init_3 : List UInt8 := [181, 0, 37, 42, 16, 30, 188, 10, 181, 0, 40, 42, 16, 30, 188, 10, 181, 0, 43, 42, 17, 0, 200]
abbrev dktX6_init_3 : List UInt8 := dkwX6_init_3 ++ dktX6_init_4
def dkwX6_init_2 : List UInt8 := [181, 0, 27, 42, 8, 188, 10, 181, 0, 31, 42, 16, 35, 188, 10, 181, 0, 34, 42, 16, 30, 188, 10]
abbrev dktX6_init_2 : List UInt8 := dkwX6_init_2 ++ dktX6_init_3
def dkwX6_init_1 : List UInt8 := [181, 0, 16, 42, 16, 60, 188, 11, 181, 0, 20, 42, 17, 2, 88, 188, 8, 181, 0, 23, 42, 2]
abbrev dktX6_init_1 : List UInt8 := dkwX6_init_1 ++ dktX6_init_2
def dkwX6_init_0 : List UInt8 := [42, 183, 0, 1, 42, 7, 188, 10, 181, 0, 7, 42, 7, 188, 10, 181, 0, 13, 42, 17, 0, 240, 188, 11]
abbrev dktX6_init_0 : List UInt8 := dkwX6_init_0 ++ dktX6_init_1
theorem dksX6_init_0 : cX6_init.data.toList.drop 0 = dktX6_init_0 := by decide +kernel
theorem dksX6_init_1 : cX6_init.data.toList.drop 24 = dktX6_init_1 := dk_seg dksX6_init_0 24 rfl rfl
theorem dksX6_init_2 : cX6_init.data.toList.drop 46 = dktX6_init_2 := dk_seg dksX6_init_1 22 rfl rfl
theorem dksX6_init_3 : cX6_init.data.toList.drop 69 = dktX6_init_3 := dk_seg dksX6_init_2 23 rfl rfl
theorem dksX6_init_4 : cX6_init.data.toList.drop 92 = dktX6_init_4 := dk_seg dksX6_init_3 23 rfl rfl
theorem dksX6_init_5 : cX6_init.data.toList.drop 115 = dktX6_init_5 := dk_seg dksX6_init_4 23 rfl rfl
theorem dksX6_init_6 : cX6_init.data.toList.drop 137 = dktX6_init_6 := dk_seg dksX6_init_5 22 rfl rfl
theorem dksX6_init_7 : cX6_init.data.toList.drop 161 = dktX6_init_7 := dk_seg dksX6_init_6 24 rfl rfl
theorem dksX6_init_8 : cX6_init.data.toList.drop 185 = dktX6_init_8 := dk_seg dksX6_init_7 24 rfl rfl
theorem dksX6_init_9 : cX6_init.data.toList.drop 207 = dktX6_init_9 := dk_seg dksX6_init_8 22 rfl rfl
theorem dX6_init_0 : decode cX6_init 0 = .ok (.aload_n 0, 1) := dk_42 (dk_at dksX6_init_0 0 rfl rfl)
theorem dX6_init_1 : decode cX6_init 1 = .ok (.invokespecial 1, 3) := dk_183 0 1 (dk_at dksX6_init_0 1 rfl rfl)
theorem dX6_init_4 : decode cX6_init 4 = .ok (.aload_n 0, 1) := dk_42 (dk_at dksX6_init_0 4 rfl rfl)
theorem dX6_init_5 : decode cX6_init 5 = .ok (.iconst 4, 1) := dk_7 (dk_at dksX6_init_0 5 rfl rfl)
theorem dX6_init_6 : decode cX6_init 6 = .ok (.newarray .int, 2) := dk_188_10 (dk_at dksX6_init_0 6 rfl rfl)
theorem dX6_init_8 : decode cX6_init 8 = .ok (.putfield 7, 3) := dk_181 0 7 (dk_at dksX6_init_0 8 rfl rfl)
theorem dX6_init_11 : decode cX6_init 11 = .ok (.aload_n 0, 1) := dk_42 (dk_at dksX6_init_0 11 rfl rfl)
theorem dX6_init_12 : decode cX6_init 12 = .ok (.iconst 4, 1) := dk_7 (dk_at dksX6_init_0 12 rfl rfl)
theorem dX6_init_13 : decode cX6_init 13 = .ok (.newarray .int, 2) := dk_188_10 (dk_at dksX6_init_0 13 rfl rfl)
theorem dX6_init_15 : decode cX6_init 15 = .ok (.putfield 13, 3) := dk_181 0 13 (dk_at dksX6_init_0 15 rfl rfl)
theorem dX6_init_18 : decode cX6_init 18 = .ok (.aload_n 0, 1) := dk_42 (dk_at dksX6_init_0 18 rfl rfl)
theorem dX6_init_19 : decode cX6_init 19 = .ok (.sipush 240, 3) := dk_17 0 240 (dk_at dksX6_init_0 19 rfl rfl)
theorem dX6_init_22 : decode cX6_init 22 = .ok (.newarray .long, 2) := dk_188_11 (dk_at dksX6_init_0 22 rfl rfl)
theorem dX6_init_24 : decode cX6_init 24 = .ok (.putfield 16, 3) := dk_181 0 16 (dk_at dksX6_init_1 0 rfl rfl)
theorem dX6_init_27 : decode cX6_init 27 = .ok (.aload_n 0, 1) := dk_42 (dk_at dksX6_init_1 3 rfl rfl)
theorem dX6_init_28 : decode cX6_init 28 = .ok (.bipush 60, 2) := dk_16 60 (dk_at dksX6_init_1 4 rfl rfl)
theorem dX6_init_30 : decode cX6_init 30 = .ok (.newarray .long, 2) := dk_188_11 (dk_at dksX6_init_1 6 rfl rfl)
theorem dX6_init_32 : decode cX6_init 32 = .ok (.putfield 20, 3) := dk_181 0 20 (dk_at dksX6_init_1 8 rfl rfl)
theorem dX6_init_35 : decode cX6_init 35 = .ok (.aload_n 0, 1) := dk_42 (dk_at dksX6_init_1 11 rfl rfl)
theorem dX6_init_36 : decode cX6_init 36 = .ok (.sipush 600, 3) := dk_17 2 88 (dk_at dksX6_init_1 12 rfl rfl)
theorem dX6_init_39 : decode cX6_init 39 = .ok (.newarray .byte, 2) := dk_188_8 (dk_at dksX6_init_1 15 rfl rfl)
theorem dX6_init_41 : decode cX6_init 41 = .ok (.putfield 23, 3) := dk_181 0 23 (dk_at dksX6_init_1 17 rfl rfl)
theorem dX6_init_44 : decode cX6_init 44 = .ok (.aload_n 0, 1) := dk_42 (dk_at dksX6_init_1 20 rfl rfl)
theorem dX6_init_45 : decode cX6_init 45 = .ok (.iconst (-1), 1) := dk_2 (dk_at dksX6_init_1 21 rfl rfl)
theorem dX6_init_46 : decode cX6_init 46 = .ok (.putfield 27, 3) := dk_181 0 27 (dk_at dksX6_init_2 0 rfl rfl)
theorem dX6_init_49 : decode cX6_init 49 = .ok (.aload_n 0, 1) := dk_42 (dk_at dksX6_init_2 3 rfl rfl)
theorem dX6_init_50 : decode cX6_init 50 = .ok (.iconst 5, 1) := dk_8 (dk_at dksX6_init_2 4 rfl rfl)
theorem dX6_init_51 : decode cX6_init 51 = .ok (.newarray .int, 2) := dk_188_10 (dk_at dksX6_init_2 5 rfl rfl)
theorem dX6_init_53 : decode cX6_init 53 = .ok (.putfield 31, 3) := dk_181 0 31 (dk_at dksX6_init_2 7 rfl rfl)
theorem dX6_init_56 : decode cX6_init 56 = .ok (.aload_n 0, 1) := dk_42 (dk_at dksX6_init_2 10 rfl rfl)
theorem dX6_init_57 : decode cX6_init 57 = .ok (.bipush 35, 2) := dk_16 35 (dk_at dksX6_init_2 11 rfl rfl)
theorem dX6_init_59 : decode cX6_init 59 = .ok (.newarray .int, 2) := dk_188_10 (dk_at dksX6_init_2 13 rfl rfl)
theorem dX6_init_61 : decode cX6_init 61 = .ok (.putfield 34, 3) := dk_181 0 34 (dk_at dksX6_init_2 15 rfl rfl)
theorem dX6_init_64 : decode cX6_init 64 = .ok (.aload_n 0, 1) := dk_42 (dk_at dksX6_init_2 18 rfl rfl)
theorem dX6_init_65 : decode cX6_init 65 = .ok (.bipush 30, 2) := dk_16 30 (dk_at dksX6_init_2 19 rfl rfl)
theorem dX6_init_67 : decode cX6_init 67 = .ok (.newarray .int, 2) := dk_188_10 (dk_at dksX6_init_2 21 rfl rfl)
theorem dX6_init_69 : decode cX6_init 69 = .ok (.putfield 37, 3) := dk_181 0 37 (dk_at dksX6_init_3 0 rfl rfl)
theorem dX6_init_72 : decode cX6_init 72 = .ok (.aload_n 0, 1) := dk_42 (dk_at dksX6_init_3 3 rfl rfl)
theorem dX6_init_73 : decode cX6_init 73 = .ok (.bipush 30, 2) := dk_16 30 (dk_at dksX6_init_3 4 rfl rfl)
theorem dX6_init_75 : decode cX6_init 75 = .ok (.newarray .int, 2) := dk_188_10 (dk_at dksX6_init_3 6 rfl rfl)
theorem dX6_init_77 : decode cX6_init 77 = .ok (.putfield 40, 3) := dk_181 0 40 (dk_at dksX6_init_3 8 rfl rfl)
theorem dX6_init_80 : decode cX6_init 80 = .ok (.aload_n 0, 1) := dk_42 (dk_at dksX6_init_3 11 rfl rfl)
theorem dX6_init_81 : decode cX6_init 81 = .ok (.bipush 30, 2) := dk_16 30 (dk_at dksX6_init_3 12 rfl rfl)
theorem dX6_init_83 : decode cX6_init 83 = .ok (.newarray .int, 2) := dk_188_10 (dk_at dksX6_init_3 14 rfl rfl)
theorem dX6_init_85 : decode cX6_init 85 = .ok (.putfield 43, 3) := dk_181 0 43 (dk_at dksX6_init_3 16 rfl rfl)
theorem dX6_init_88 : decode cX6_init 88 = .ok (.aload_n 0, 1) := dk_42 (dk_at dksX6_init_3 19 rfl rfl)
theorem dX6_init_89 : decode cX6_init 89 = .ok (.sipush 200, 3) := dk_17 0 200 (dk_at dksX6_init_3 20 rfl rfl)
theorem dX6_init_92 : decode cX6_init 92 = .ok (.newarray .int, 2) := dk_188_10 (dk_at dksX6_init_4 0 rfl rfl)
theorem dX6_init_94 : decode cX6_init 94 = .ok (.putfield 46, 3) := dk_181 0 46 (dk_at dksX6_init_4 2 rfl rfl)
theorem dX6_init_97 : decode cX6_init 97 = .ok (.aload_n 0, 1) := dk_42 (dk_at dksX6_init_4 5 rfl rfl)
theorem dX6_init_98 : decode cX6_init 98 = .ok (.iconst 3, 1) := dk_6 (dk_at dksX6_init_4 6 rfl rfl)
theorem dX6_init_99 : decode cX6_init 99 = .ok (.newarray .boolean, 2) := dk_188_4 (dk_at dksX6_init_4 7 rfl rfl)
theorem dX6_init_101 : decode cX6_init 101 = .ok (.putfield 49, 3) := dk_181 0 49 (dk_at dksX6_init_4 9 rfl rfl)
theorem dX6_init_104 : decode cX6_init 104 = .ok (.aload_n 0, 1) := dk_42 (dk_at dksX6_init_4 12 rfl rfl)
theorem dX6_init_105 : decode cX6_init 105 = .ok (.bipush 60, 2) := dk_16 60 (dk_at dksX6_init_4 13 rfl rfl)
theorem dX6_init_107 : decode cX6_init 107 = .ok (.newarray .int, 2) := dk_188_10 (dk_at dksX6_init_4 15 rfl rfl)
theorem dX6_init_109 : decode cX6_init 109 = .ok (.putfield 53, 3) := dk_181 0 53 (dk_at dksX6_init_4 17 rfl rfl)
theorem dX6_init_112 : decode cX6_init 112 = .ok (.aload_n 0, 1) := dk_42 (dk_at dksX6_init_4 20 rfl rfl)
theorem dX6_init_113 : decode cX6_init 113 = .ok (.ldc 56, 2) := dk_18 56 (dk_at dksX6_init_4 21 rfl rfl)
theorem dX6_init_115 : decode cX6_init 115 = .ok (.newarray .boolean, 2) := dk_188_4 (dk_at dksX6_init_5 0 rfl rfl)
theorem dX6_init_117 : decode cX6_init 117 = .ok (.putfield 57, 3) := dk_181 0 57 (dk_at dksX6_init_5 2 rfl rfl)
theorem dX6_init_120 : decode cX6_init 120 = .ok (.aload_n 0, 1) := dk_42 (dk_at dksX6_init_5 5 rfl rfl)
theorem dX6_init_121 : decode cX6_init 121 = .ok (.ldc 56, 2) := dk_18 56 (dk_at dksX6_init_5 6 rfl rfl)
theorem dX6_init_123 : decode cX6_init 123 = .ok (.newarray .int, 2) := dk_188_10 (dk_at dksX6_init_5 8 rfl rfl)
theorem dX6_init_125 : decode cX6_init 125 = .ok (.putfield 60, 3) := dk_181 0 60 (dk_at dksX6_init_5 10 rfl rfl)
theorem dX6_init_128 : decode cX6_init 128 = .ok (.aload_n 0, 1) := dk_42 (dk_at dksX6_init_5 13 rfl rfl)
theorem dX6_init_129 : decode cX6_init 129 = .ok (.ldc 56, 2) := dk_18 56 (dk_at dksX6_init_5 14 rfl rfl)
theorem dX6_init_131 : decode cX6_init 131 = .ok (.newarray .int, 2) := dk_188_10 (dk_at dksX6_init_5 16 rfl rfl)
theorem dX6_init_133 : decode cX6_init 133 = .ok (.putfield 63, 3) := dk_181 0 63 (dk_at dksX6_init_5 18 rfl rfl)
theorem dX6_init_136 : decode cX6_init 136 = .ok (.aload_n 0, 1) := dk_42 (dk_at dksX6_init_5 21 rfl rfl)
theorem dX6_init_137 : decode cX6_init 137 = .ok (.sipush 400, 3) := dk_17 1 144 (dk_at dksX6_init_6 0 rfl rfl)
theorem dX6_init_140 : decode cX6_init 140 = .ok (.newarray .int, 2) := dk_188_10 (dk_at dksX6_init_6 3 rfl rfl)
theorem dX6_init_142 : decode cX6_init 142 = .ok (.putfield 66, 3) := dk_181 0 66 (dk_at dksX6_init_6 5 rfl rfl)
theorem dX6_init_145 : decode cX6_init 145 = .ok (.aload_n 0, 1) := dk_42 (dk_at dksX6_init_6 8 rfl rfl)
theorem dX6_init_146 : decode cX6_init 146 = .ok (.ldc 69, 2) := dk_18 69 (dk_at dksX6_init_6 9 rfl rfl)
theorem dX6_init_148 : decode cX6_init 148 = .ok (.newarray .long, 2) := dk_188_11 (dk_at dksX6_init_6 11 rfl rfl)
theorem dX6_init_150 : decode cX6_init 150 = .ok (.putfield 70, 3) := dk_181 0 70 (dk_at dksX6_init_6 13 rfl rfl)
theorem dX6_init_153 : decode cX6_init 153 = .ok (.aload_n 0, 1) := dk_42 (dk_at dksX6_init_6 16 rfl rfl)
theorem dX6_init_154 : decode cX6_init 154 = .ok (.ldc 69, 2) := dk_18 69 (dk_at dksX6_init_6 17 rfl rfl)
theorem dX6_init_156 : decode cX6_init 156 = .ok (.newarray .int, 2) := dk_188_10 (dk_at dksX6_init_6 19 rfl rfl)
theorem dX6_init_158 : decode cX6_init 158 = .ok (.putfield 73, 3) := dk_181 0 73 (dk_at dksX6_init_6 21 rfl rfl)
theorem dX6_init_161 : decode cX6_init 161 = .ok (.aload_n 0, 1) := dk_42 (dk_at dksX6_init_7 0 rfl rfl)
theorem dX6_init_162 : decode cX6_init 162 = .ok (.ldc 69, 2) := dk_18 69 (dk_at dksX6_init_7 1 rfl rfl)
theorem dX6_init_164 : decode cX6_init 164 = .ok (.newarray .int, 2) := dk_188_10 (dk_at dksX6_init_7 3 rfl rfl)
theorem dX6_init_166 : decode cX6_init 166 = .ok (.putfield 76, 3) := dk_181 0 76 (dk_at dksX6_init_7 5 rfl rfl)
theorem dX6_init_169 : decode cX6_init 169 = .ok (.aload_n 0, 1) := dk_42 (dk_at dksX6_init_7 8 rfl rfl)
theorem dX6_init_170 : decode cX6_init 170 = .ok (.ldc 69, 2) := dk_18 69 (dk_at dksX6_init_7 9 rfl rfl)
theorem dX6_init_172 : decode cX6_init 172 = .ok (.newarray .int, 2) := dk_188_10 (dk_at dksX6_init_7 11 rfl rfl)
theorem dX6_init_174 : decode cX6_init 174 = .ok (.putfield 79, 3) := dk_181 0 79 (dk_at dksX6_init_7 13 rfl rfl)
theorem dX6_init_177 : decode cX6_init 177 = .ok (.aload_n 0, 1) := dk_42 (dk_at dksX6_init_7 16 rfl rfl)
theorem dX6_init_178 : decode cX6_init 178 = .ok (.bipush 12, 2) := dk_16 12 (dk_at dksX6_init_7 17 rfl rfl)
theorem dX6_init_180 : decode cX6_init 180 = .ok (.newarray .int, 2) := dk_188_10 (dk_at dksX6_init_7 19 rfl rfl)
theorem dX6_init_182 : decode cX6_init 182 = .ok (.putfield 82, 3) := dk_181 0 82 (dk_at dksX6_init_7 21 rfl rfl)
theorem dX6_init_185 : decode cX6_init 185 = .ok (.aload_n 0, 1) := dk_42 (dk_at dksX6_init_8 0 rfl rfl)
theorem dX6_init_186 : decode cX6_init 186 = .ok (.ldc 69, 2) := dk_18 69 (dk_at dksX6_init_8 1 rfl rfl)
theorem dX6_init_188 : decode cX6_init 188 = .ok (.newarray .boolean, 2) := dk_188_4 (dk_at dksX6_init_8 3 rfl rfl)
theorem dX6_init_190 : decode cX6_init 190 = .ok (.putfield 85, 3) := dk_181 0 85 (dk_at dksX6_init_8 5 rfl rfl)
theorem dX6_init_193 : decode cX6_init 193 = .ok (.iconst 0, 1) := dk_3 (dk_at dksX6_init_8 8 rfl rfl)
theorem dX6_init_194 : decode cX6_init 194 = .ok (.istore_n 1, 1) := dk_60 (dk_at dksX6_init_8 9 rfl rfl)
theorem dX6_init_195 : decode cX6_init 195 = .ok (.iload_n 1, 1) := dk_27 (dk_at dksX6_init_8 10 rfl rfl)
theorem dX6_init_196 : decode cX6_init 196 = .ok (.iconst 4, 1) := dk_7 (dk_at dksX6_init_8 11 rfl rfl)
theorem dX6_init_197 : decode cX6_init 197 = .ok (.if_icmp .ge 16, 3) := dk_162 0 16 (dk_at dksX6_init_8 12 rfl rfl)
theorem dX6_init_200 : decode cX6_init 200 = .ok (.aload_n 0, 1) := dk_42 (dk_at dksX6_init_8 15 rfl rfl)
theorem dX6_init_201 : decode cX6_init 201 = .ok (.getfield 7, 3) := dk_180 0 7 (dk_at dksX6_init_8 16 rfl rfl)
theorem dX6_init_204 : decode cX6_init 204 = .ok (.iload_n 1, 1) := dk_27 (dk_at dksX6_init_8 19 rfl rfl)
theorem dX6_init_205 : decode cX6_init 205 = .ok (.iconst (-1), 1) := dk_2 (dk_at dksX6_init_8 20 rfl rfl)
theorem dX6_init_206 : decode cX6_init 206 = .ok (.iastore, 1) := dk_79 (dk_at dksX6_init_8 21 rfl rfl)
theorem dX6_init_207 : decode cX6_init 207 = .ok (.iinc 1 1, 3) := dk_132 1 1 (dk_at dksX6_init_9 0 rfl rfl)
theorem dX6_init_210 : decode cX6_init 210 = .ok (.goto (-15), 3) := dk_167 255 241 (dk_at dksX6_init_9 3 rfl rfl)
theorem dX6_init_213 : decode cX6_init 213 = .ok (.return_, 1) := dk_177 (dk_at dksX6_init_9 6 rfl rfl)

def spM0 : List wCell := [.inl (6, [(0, 0), (3, 0), (3, 0), (3, 0), (3, 0), (3, 0), (0, 0), (0, 0), (0, 0), (0, 0), (0, 0), (1, 0), (0, 0), (0, 0), (0, 0), (0, 0), (3, 0), (3, 0), (3, 0), (3, 0), (3, 0), (3, 0), (3, 0), (0, 0), (0, 0), (0, 0), (0, 0), (0, 0), (0, 0), (0, 0), (0, 0), (3, 0), (3, 0), (3, 0), (0, 0), (3, 0), (0, 0), (0, 0), (0, 0), (3, 0), (0, 0), (3, 0), (3, 0), (3, 0), (3, 0), (3, 0), (3, 0), (0, 0)])]
def gbX6_init_195 (N : Nat)   (K : (wMem → Option wMem)) (rec : (Int32 → wMem → Option wMem)) (x1_ : Int32) (μ : wMem) : Option wMem :=
  if (4 : Int32) ≤ x1_ then K  μ else wG (ok_in x1_ 4) (wLet (wSI μ 1 (Int32.toNatClampNeg x1_) (-1 : Int32)) fun μ3 => wLet (x1_ + 1 : Int32) fun x4 => rec x4 μ3)
def gX6_init_195 (N : Nat)   (K : (wMem → Option wMem)) : Nat → (Int32 → wMem → Option wMem)
  | 0 => fun _ _ => none
  | k + 1 => gbX6_init_195 N   K (gX6_init_195 N   K k)
set_option maxHeartbeats 4000000 in
set_option maxRecDepth 100000 in
theorem tX6_init_195 {p : Program} {l : Launch} {e : Env} {s : State} {m : MethodId} {args : Array Value} {below : List Frame} {meth : Method} {c : Code} {D : va_G} {q : Nat → Nat} {ca : wCA} {A : Nat → Prop} {q0 : Nat → Nat} (C : wC p ({ frames := 1, cells := 23, slots := 487793, locals := 20 } : Room) s m args meth c cX6_init yX6_init.cls 2 none D vwCl spM q ca A) (N : Nat)    (K : (wMem → Option wMem)) (r0 : wMem) (hK : ∀  (μ : wMem), K  μ = some r0 → wJ p l e ({ frames := 1, cells := 23, slots := 487793, locals := 20 } : Room) s m args below meth c 2 D vwCl spM q ca A (MQ below (va_Qv (fun (u : Nat → Nat) => ∀ j, j < spM0.length → u j = q0 j) (fun (u : Nat → Nat) t => va_P D vwCl (wWs spM u ca r0) t.heap ∧ wInj spM u ∧ ∀ i, i < spM.length → A (u i)) A) args s ({ frames := 1, cells := 23, slots := 487793, locals := 20 } : Room).cells ({ frames := 1, cells := 23, slots := 487793, locals := 20 } : Room).slots A) 23 487793 μ 213 [] []) : ∀ (k : Nat) (x1_ : Int32) (μ : wMem), gX6_init_195 N   K k x1_ μ = some r0 → wJ p l e ({ frames := 1, cells := 23, slots := 487793, locals := 20 } : Room) s m args below meth c 2 D vwCl spM q ca A (MQ below (va_Qv (fun (u : Nat → Nat) => ∀ j, j < spM0.length → u j = q0 j) (fun (u : Nat → Nat) t => va_P D vwCl (wWs spM u ca r0) t.heap ∧ wInj spM u ∧ ∀ i, i < spM.length → A (u i)) A) args s ({ frames := 1, cells := 23, slots := 487793, locals := 20 } : Room).cells ({ frames := 1, cells := 23, slots := 487793, locals := 20 } : Room).slots A) 23 487793 μ 195 [(0, .ref (q 0)), (1, .int x1_)] [] := by
  intro k
  induction k with
  | zero =>
    intro x1_ μ hf
    cases hf
  | succ k ih =>
    intro x1_ μ hf
    replace hf : gbX6_init_195 N   K (gX6_init_195 N   K k) x1_ μ = some r0 := hf
    unfold gbX6_init_195 at hf
    refine wr_iload_n 195 C dX6_init_195 1 rfl rfl ?_
    refine wr_iconst 196 C dX6_init_196 (v := 4) rfl ?_
    refine wr_icmp_ge 197 213 C dX6_init_197 (by decide) (fun c1 => ?_) (fun c1 => ?_)
    · replace hf := o_pos c1 hf
      refine wr_sub [] [] rfl ?_
      exact hK  μ hf
    · replace hf := o_neg c1 hf
      refine wr_aload_n 200 C dX6_init_200 0 rfl rfl ?_
      refine gespM_0_1_X6 201 C dX6_init_201 ?_
      refine wr_iload_n 204 C dX6_init_204 1 rfl rfl ?_
      refine wr_iconst 205 C dX6_init_205 (v := (-1)) rfl ?_
      obtain ⟨g2, hf⟩ := o_g hf
      obtain ⟨μ3, eμ3, hf⟩ := o_let hf
      refine wr_iast 206 C dX6_init_206 spM_1 g2 eμ3 ?_
      obtain ⟨x4, ex4, hf⟩ := o_let hf
      refine wr_iinc 207 [(1, .int x4), (0, .ref (q 0))] C dX6_init_207 1 rfl (ex4.trans rfl) (Nat.le_of_ble_eq_true rfl) rfl ?_
      refine wr_goto 210 C dX6_init_210 (tgt := 195) (by decide) ?_
      refine wr_sub [(0, .ref (q 0)), (1, .int x4)] [1, 0] rfl ?_
      exact ih x4 μ3 hf
def fX6_init (N : Nat) (μ : wMem) : Option wMem :=
  wLet (wZ μ 1) fun μ1_ => wLet (wZ μ1_ 2) fun μ2_ => wLet (wZ μ2_ 3) fun μ3_ => wLet (wZ μ3_ 4) fun μ4_ => wLet (wZ μ4_ 5) fun μ5_ => wLet (wSI μ5_ 0 15 (-1)) fun μ6_ => wLet (wZ μ6_ 6) fun μ7_ => wLet (wZ μ7_ 7) fun μ8_ => wLet (wZ μ8_ 8) fun μ9_ => wLet (wZ μ9_ 9) fun μ10_ => wLet (wZ μ10_ 10) fun μ11_ => wLet (wZ μ11_ 11) fun μ12_ => wLet (wZ μ12_ 12) fun μ13_ => wLet (wZ μ13_ 13) fun μ14_ => wLet (wZ μ14_ 14) fun μ15_ => wLet (wZ μ15_ 15) fun μ16_ => wLet (wZ μ16_ 16) fun μ17_ => wLet (wZ μ17_ 17) fun μ18_ => wLet (wZ μ18_ 18) fun μ19_ => wLet (wZ μ19_ 19) fun μ20_ => wLet (wZ μ20_ 20) fun μ21_ => wLet (wZ μ21_ 21) fun μ22_ => wLet (wZ μ22_ 22) fun μ23_ => wLet (wZ μ23_ 23) fun μ24_ => gX6_init_195 N (fun (μ9 : wMem) => some μ9) N 0 μ24_
set_option maxHeartbeats 4000000 in
set_option maxRecDepth 100000 in
theorem tX6_init (l : Launch) {D : va_G} {q : Nat → Nat} {ca : wCA} (N : Nat) (μ r0 : wMem) (hf : fX6_init N μ = some r0) : wMg l yX6_init cX6_init 2 ({ frames := 1, cells := 23, slots := 487793, locals := 20 } : Room) D vwCl spM0 spM q ca [.ref (q 0)] μ r0 := by
  refine wMg_intro (by decide) (Nat.le_of_ble_eq_true rfl) ?_
  intro p e s m args below meth c A hnm C
  unfold fX6_init at hf
  refine wr_sub [(0, .ref (q 0))] [0] rfl ?_
  refine wr_aload_n 0 C dX6_init_0 0 rfl rfl ?_
  refine wr_objInit 1 C dX6_init_1 q1396 q174 q175 ⟨Nat.le_of_ble_eq_true rfl, Nat.le_of_ble_eq_true rfl⟩ (Nat.le_of_ble_eq_true rfl) ?_
  have e0 : q 0 = q 0 := rfl
  refine wr_aload_n 4 C dX6_init_4 0 rfl rfl ?_
  refine wr_iconst 5 C dX6_init_5 (v := 4) rfl ?_
  obtain ⟨μ1_, eμ1_, hf⟩ := o_let hf
  refine wr_new_int (kc1 := 1) (ks1 := 4) 6 C dX6_init_6 q252 (by decide) rfl (Nat.le_of_ble_eq_true rfl) rfl rfl ⟨Nat.le_of_ble_eq_true rfl, Nat.le_of_ble_eq_true rfl⟩ 1 rfl rfl eμ1_ [.inl (6, [(0, 0), (3, 0), (3, 0), (3, 0), (3, 0), (3, 0), (0, 0), (0, 0), (0, 0), (0, 0), (0, 0), (1, 0), (0, 0), (0, 0), (0, 0), (0, 0), (3, 0), (3, 0), (3, 0), (3, 0), (3, 0), (3, 0), (3, 0), (0, 0), (0, 0), (0, 0), (0, 0), (0, 0), (0, 0), (0, 0), (0, 0), (3, 0), (3, 0), (3, 0), (0, 0), (3, 0), (0, 0), (0, 0), (0, 0), (3, 0), (0, 0), (3, 0), (3, 0), (3, 0), (3, 0), (3, 0), (3, 0), (0, 0)]), .inr (0, 4)] rfl (fun q1 hq1 C => ?_)
  rw [← hq1 0 (by decide)]
  have e0 : q1 0 = q 0 := (hq1 0 (by decide)).trans e0
  refine wr_putFR (c0 := 0) (x := 1) 8 1 [.inl (6, [(0, 0), (2, 1), (3, 0), (3, 0), (3, 0), (3, 0), (0, 0), (0, 0), (0, 0), (0, 0), (0, 0), (1, 0), (0, 0), (0, 0), (0, 0), (0, 0), (3, 0), (3, 0), (3, 0), (3, 0), (3, 0), (3, 0), (3, 0), (0, 0), (0, 0), (0, 0), (0, 0), (0, 0), (0, 0), (0, 0), (0, 0), (3, 0), (3, 0), (3, 0), (0, 0), (3, 0), (0, 0), (0, 0), (0, 0), (3, 0), (0, 0), (3, 0), (3, 0), (3, 0), (3, 0), (3, 0), (3, 0), (0, 0)]), .inr (0, 4)] C dX6_init_8 rfl rfl in_X6 tyX6 tyX6_ok nmX6 (by decide) (Nat.le_of_ble_eq_true rfl) q1400 rfl (hnm.trans rfl) rfl (fun _ => rfl) (fun _ => rfl) rfl (fun C => ?_)
  refine wr_aload_n 11 C dX6_init_11 0 rfl rfl ?_
  refine wr_iconst 12 C dX6_init_12 (v := 4) rfl ?_
  obtain ⟨μ2_, eμ2_, hf⟩ := o_let hf
  refine wr_new_int (kc1 := 2) (ks1 := 8) 13 C dX6_init_13 q252 (by decide) rfl (Nat.le_of_ble_eq_true rfl) rfl rfl ⟨Nat.le_of_ble_eq_true rfl, Nat.le_of_ble_eq_true rfl⟩ 2 rfl rfl eμ2_ [.inl (6, [(0, 0), (2, 1), (3, 0), (3, 0), (3, 0), (3, 0), (0, 0), (0, 0), (0, 0), (0, 0), (0, 0), (1, 0), (0, 0), (0, 0), (0, 0), (0, 0), (3, 0), (3, 0), (3, 0), (3, 0), (3, 0), (3, 0), (3, 0), (0, 0), (0, 0), (0, 0), (0, 0), (0, 0), (0, 0), (0, 0), (0, 0), (3, 0), (3, 0), (3, 0), (0, 0), (3, 0), (0, 0), (0, 0), (0, 0), (3, 0), (0, 0), (3, 0), (3, 0), (3, 0), (3, 0), (3, 0), (3, 0), (0, 0)]), .inr (0, 4), .inr (0, 4)] rfl (fun q2 hq2 C => ?_)
  rw [← hq2 0 (by decide)]
  have e0 : q2 0 = q 0 := (hq2 0 (by decide)).trans e0
  refine wr_putFR (c0 := 0) (x := 2) 15 2 [.inl (6, [(0, 0), (2, 1), (2, 2), (3, 0), (3, 0), (3, 0), (0, 0), (0, 0), (0, 0), (0, 0), (0, 0), (1, 0), (0, 0), (0, 0), (0, 0), (0, 0), (3, 0), (3, 0), (3, 0), (3, 0), (3, 0), (3, 0), (3, 0), (0, 0), (0, 0), (0, 0), (0, 0), (0, 0), (0, 0), (0, 0), (0, 0), (3, 0), (3, 0), (3, 0), (0, 0), (3, 0), (0, 0), (0, 0), (0, 0), (3, 0), (0, 0), (3, 0), (3, 0), (3, 0), (3, 0), (3, 0), (3, 0), (0, 0)]), .inr (0, 4), .inr (0, 4)] C dX6_init_15 rfl rfl in_X6 tyX6 tyX6_ok nmX6 (by decide) (Nat.le_of_ble_eq_true rfl) q1401 rfl (hnm.trans rfl) rfl (fun _ => rfl) (fun _ => rfl) rfl (fun C => ?_)
  refine wr_aload_n 18 C dX6_init_18 0 rfl rfl ?_
  refine wr_sipush 19 C dX6_init_19 (v := 240) rfl ?_
  obtain ⟨μ3_, eμ3_, hf⟩ := o_let hf
  refine wr_new_long (kc1 := 3) (ks1 := 248) 22 C dX6_init_22 q301 (by decide) rfl (Nat.le_of_ble_eq_true rfl) rfl rfl ⟨Nat.le_of_ble_eq_true rfl, Nat.le_of_ble_eq_true rfl⟩ 3 rfl rfl eμ3_ [.inl (6, [(0, 0), (2, 1), (2, 2), (3, 0), (3, 0), (3, 0), (0, 0), (0, 0), (0, 0), (0, 0), (0, 0), (1, 0), (0, 0), (0, 0), (0, 0), (0, 0), (3, 0), (3, 0), (3, 0), (3, 0), (3, 0), (3, 0), (3, 0), (0, 0), (0, 0), (0, 0), (0, 0), (0, 0), (0, 0), (0, 0), (0, 0), (3, 0), (3, 0), (3, 0), (0, 0), (3, 0), (0, 0), (0, 0), (0, 0), (3, 0), (0, 0), (3, 0), (3, 0), (3, 0), (3, 0), (3, 0), (3, 0), (0, 0)]), .inr (0, 4), .inr (0, 4), .inr (1, 240)] rfl (fun q3 hq3 C => ?_)
  rw [← hq3 0 (by decide)]
  have e0 : q3 0 = q 0 := (hq3 0 (by decide)).trans e0
  refine wr_putFR (c0 := 0) (x := 3) 24 3 [.inl (6, [(0, 0), (2, 1), (2, 2), (2, 3), (3, 0), (3, 0), (0, 0), (0, 0), (0, 0), (0, 0), (0, 0), (1, 0), (0, 0), (0, 0), (0, 0), (0, 0), (3, 0), (3, 0), (3, 0), (3, 0), (3, 0), (3, 0), (3, 0), (0, 0), (0, 0), (0, 0), (0, 0), (0, 0), (0, 0), (0, 0), (0, 0), (3, 0), (3, 0), (3, 0), (0, 0), (3, 0), (0, 0), (0, 0), (0, 0), (3, 0), (0, 0), (3, 0), (3, 0), (3, 0), (3, 0), (3, 0), (3, 0), (0, 0)]), .inr (0, 4), .inr (0, 4), .inr (1, 240)] C dX6_init_24 rfl rfl in_X6 tyX6 tyX6_ok nmX6 (by decide) (Nat.le_of_ble_eq_true rfl) q1402 rfl (hnm.trans rfl) rfl (fun _ => rfl) (fun _ => rfl) rfl (fun C => ?_)
  refine wr_aload_n 27 C dX6_init_27 0 rfl rfl ?_
  refine wr_bipush 28 C dX6_init_28 (v := 60) rfl ?_
  obtain ⟨μ4_, eμ4_, hf⟩ := o_let hf
  refine wr_new_long (kc1 := 4) (ks1 := 308) 30 C dX6_init_30 q301 (by decide) rfl (Nat.le_of_ble_eq_true rfl) rfl rfl ⟨Nat.le_of_ble_eq_true rfl, Nat.le_of_ble_eq_true rfl⟩ 4 rfl rfl eμ4_ [.inl (6, [(0, 0), (2, 1), (2, 2), (2, 3), (3, 0), (3, 0), (0, 0), (0, 0), (0, 0), (0, 0), (0, 0), (1, 0), (0, 0), (0, 0), (0, 0), (0, 0), (3, 0), (3, 0), (3, 0), (3, 0), (3, 0), (3, 0), (3, 0), (0, 0), (0, 0), (0, 0), (0, 0), (0, 0), (0, 0), (0, 0), (0, 0), (3, 0), (3, 0), (3, 0), (0, 0), (3, 0), (0, 0), (0, 0), (0, 0), (3, 0), (0, 0), (3, 0), (3, 0), (3, 0), (3, 0), (3, 0), (3, 0), (0, 0)]), .inr (0, 4), .inr (0, 4), .inr (1, 240), .inr (1, 60)] rfl (fun q4 hq4 C => ?_)
  rw [← hq4 0 (by decide)]
  have e0 : q4 0 = q 0 := (hq4 0 (by decide)).trans e0
  refine wr_putFR (c0 := 0) (x := 4) 32 4 [.inl (6, [(0, 0), (2, 1), (2, 2), (2, 3), (2, 4), (3, 0), (0, 0), (0, 0), (0, 0), (0, 0), (0, 0), (1, 0), (0, 0), (0, 0), (0, 0), (0, 0), (3, 0), (3, 0), (3, 0), (3, 0), (3, 0), (3, 0), (3, 0), (0, 0), (0, 0), (0, 0), (0, 0), (0, 0), (0, 0), (0, 0), (0, 0), (3, 0), (3, 0), (3, 0), (0, 0), (3, 0), (0, 0), (0, 0), (0, 0), (3, 0), (0, 0), (3, 0), (3, 0), (3, 0), (3, 0), (3, 0), (3, 0), (0, 0)]), .inr (0, 4), .inr (0, 4), .inr (1, 240), .inr (1, 60)] C dX6_init_32 rfl rfl in_X6 tyX6 tyX6_ok nmX6 (by decide) (Nat.le_of_ble_eq_true rfl) q1403 rfl (hnm.trans rfl) rfl (fun _ => rfl) (fun _ => rfl) rfl (fun C => ?_)
  refine wr_aload_n 35 C dX6_init_35 0 rfl rfl ?_
  refine wr_sipush 36 C dX6_init_36 (v := 600) rfl ?_
  obtain ⟨μ5_, eμ5_, hf⟩ := o_let hf
  refine wr_new_byte (kc1 := 5) (ks1 := 908) 39 C dX6_init_39 q263 (by decide) rfl (Nat.le_of_ble_eq_true rfl) rfl rfl ⟨Nat.le_of_ble_eq_true rfl, Nat.le_of_ble_eq_true rfl⟩ 5 rfl rfl eμ5_ [.inl (6, [(0, 0), (2, 1), (2, 2), (2, 3), (2, 4), (3, 0), (0, 0), (0, 0), (0, 0), (0, 0), (0, 0), (1, 0), (0, 0), (0, 0), (0, 0), (0, 0), (3, 0), (3, 0), (3, 0), (3, 0), (3, 0), (3, 0), (3, 0), (0, 0), (0, 0), (0, 0), (0, 0), (0, 0), (0, 0), (0, 0), (0, 0), (3, 0), (3, 0), (3, 0), (0, 0), (3, 0), (0, 0), (0, 0), (0, 0), (3, 0), (0, 0), (3, 0), (3, 0), (3, 0), (3, 0), (3, 0), (3, 0), (0, 0)]), .inr (0, 4), .inr (0, 4), .inr (1, 240), .inr (1, 60), .inr (2, 600)] rfl (fun q5 hq5 C => ?_)
  rw [← hq5 0 (by decide)]
  have e0 : q5 0 = q 0 := (hq5 0 (by decide)).trans e0
  refine wr_putFR (c0 := 0) (x := 5) 41 5 [.inl (6, [(0, 0), (2, 1), (2, 2), (2, 3), (2, 4), (2, 5), (0, 0), (0, 0), (0, 0), (0, 0), (0, 0), (1, 0), (0, 0), (0, 0), (0, 0), (0, 0), (3, 0), (3, 0), (3, 0), (3, 0), (3, 0), (3, 0), (3, 0), (0, 0), (0, 0), (0, 0), (0, 0), (0, 0), (0, 0), (0, 0), (0, 0), (3, 0), (3, 0), (3, 0), (0, 0), (3, 0), (0, 0), (0, 0), (0, 0), (3, 0), (0, 0), (3, 0), (3, 0), (3, 0), (3, 0), (3, 0), (3, 0), (0, 0)]), .inr (0, 4), .inr (0, 4), .inr (1, 240), .inr (1, 60), .inr (2, 600)] C dX6_init_41 rfl rfl in_X6 tyX6 tyX6_ok nmX6 (by decide) (Nat.le_of_ble_eq_true rfl) q1404 rfl (hnm.trans rfl) rfl (fun _ => rfl) (fun _ => rfl) rfl (fun C => ?_)
  refine wr_aload_n 44 C dX6_init_44 0 rfl rfl ?_
  refine wr_iconst 45 C dX6_init_45 (v := (-1)) rfl ?_
  obtain ⟨μ6_, eμ6_, hf⟩ := o_let hf
  refine wr_putI (c0 := 0) 46 15 C dX6_init_46 rfl rfl in_X6 tyX6 tyX6_ok nmX6 (by decide) rfl q1414 rfl rfl eμ6_ ?_
  refine wr_aload_n 49 C dX6_init_49 0 rfl rfl ?_
  refine wr_iconst 50 C dX6_init_50 (v := 5) rfl ?_
  obtain ⟨μ7_, eμ7_, hf⟩ := o_let hf
  refine wr_new_int (kc1 := 6) (ks1 := 913) 51 C dX6_init_51 q252 (by decide) rfl (Nat.le_of_ble_eq_true rfl) rfl rfl ⟨Nat.le_of_ble_eq_true rfl, Nat.le_of_ble_eq_true rfl⟩ 6 rfl rfl eμ7_ [.inl (6, [(0, 0), (2, 1), (2, 2), (2, 3), (2, 4), (2, 5), (0, 0), (0, 0), (0, 0), (0, 0), (0, 0), (1, 0), (0, 0), (0, 0), (0, 0), (0, 0), (3, 0), (3, 0), (3, 0), (3, 0), (3, 0), (3, 0), (3, 0), (0, 0), (0, 0), (0, 0), (0, 0), (0, 0), (0, 0), (0, 0), (0, 0), (3, 0), (3, 0), (3, 0), (0, 0), (3, 0), (0, 0), (0, 0), (0, 0), (3, 0), (0, 0), (3, 0), (3, 0), (3, 0), (3, 0), (3, 0), (3, 0), (0, 0)]), .inr (0, 4), .inr (0, 4), .inr (1, 240), .inr (1, 60), .inr (2, 600), .inr (0, 5)] rfl (fun q6 hq6 C => ?_)
  rw [← hq6 0 (by decide)]
  have e0 : q6 0 = q 0 := (hq6 0 (by decide)).trans e0
  refine wr_putFR (c0 := 0) (x := 6) 53 16 [.inl (6, [(0, 0), (2, 1), (2, 2), (2, 3), (2, 4), (2, 5), (0, 0), (0, 0), (0, 0), (0, 0), (0, 0), (1, 0), (0, 0), (0, 0), (0, 0), (0, 0), (2, 6), (3, 0), (3, 0), (3, 0), (3, 0), (3, 0), (3, 0), (0, 0), (0, 0), (0, 0), (0, 0), (0, 0), (0, 0), (0, 0), (0, 0), (3, 0), (3, 0), (3, 0), (0, 0), (3, 0), (0, 0), (0, 0), (0, 0), (3, 0), (0, 0), (3, 0), (3, 0), (3, 0), (3, 0), (3, 0), (3, 0), (0, 0)]), .inr (0, 4), .inr (0, 4), .inr (1, 240), .inr (1, 60), .inr (2, 600), .inr (0, 5)] C dX6_init_53 rfl rfl in_X6 tyX6 tyX6_ok nmX6 (by decide) (Nat.le_of_ble_eq_true rfl) q1415 rfl (hnm.trans rfl) rfl (fun _ => rfl) (fun _ => rfl) rfl (fun C => ?_)
  refine wr_aload_n 56 C dX6_init_56 0 rfl rfl ?_
  refine wr_bipush 57 C dX6_init_57 (v := 35) rfl ?_
  obtain ⟨μ8_, eμ8_, hf⟩ := o_let hf
  refine wr_new_int (kc1 := 7) (ks1 := 948) 59 C dX6_init_59 q252 (by decide) rfl (Nat.le_of_ble_eq_true rfl) rfl rfl ⟨Nat.le_of_ble_eq_true rfl, Nat.le_of_ble_eq_true rfl⟩ 7 rfl rfl eμ8_ [.inl (6, [(0, 0), (2, 1), (2, 2), (2, 3), (2, 4), (2, 5), (0, 0), (0, 0), (0, 0), (0, 0), (0, 0), (1, 0), (0, 0), (0, 0), (0, 0), (0, 0), (2, 6), (3, 0), (3, 0), (3, 0), (3, 0), (3, 0), (3, 0), (0, 0), (0, 0), (0, 0), (0, 0), (0, 0), (0, 0), (0, 0), (0, 0), (3, 0), (3, 0), (3, 0), (0, 0), (3, 0), (0, 0), (0, 0), (0, 0), (3, 0), (0, 0), (3, 0), (3, 0), (3, 0), (3, 0), (3, 0), (3, 0), (0, 0)]), .inr (0, 4), .inr (0, 4), .inr (1, 240), .inr (1, 60), .inr (2, 600), .inr (0, 5), .inr (0, 35)] rfl (fun q7 hq7 C => ?_)
  rw [← hq7 0 (by decide)]
  have e0 : q7 0 = q 0 := (hq7 0 (by decide)).trans e0
  refine wr_putFR (c0 := 0) (x := 7) 61 17 [.inl (6, [(0, 0), (2, 1), (2, 2), (2, 3), (2, 4), (2, 5), (0, 0), (0, 0), (0, 0), (0, 0), (0, 0), (1, 0), (0, 0), (0, 0), (0, 0), (0, 0), (2, 6), (2, 7), (3, 0), (3, 0), (3, 0), (3, 0), (3, 0), (0, 0), (0, 0), (0, 0), (0, 0), (0, 0), (0, 0), (0, 0), (0, 0), (3, 0), (3, 0), (3, 0), (0, 0), (3, 0), (0, 0), (0, 0), (0, 0), (3, 0), (0, 0), (3, 0), (3, 0), (3, 0), (3, 0), (3, 0), (3, 0), (0, 0)]), .inr (0, 4), .inr (0, 4), .inr (1, 240), .inr (1, 60), .inr (2, 600), .inr (0, 5), .inr (0, 35)] C dX6_init_61 rfl rfl in_X6 tyX6 tyX6_ok nmX6 (by decide) (Nat.le_of_ble_eq_true rfl) q1416 rfl (hnm.trans rfl) rfl (fun _ => rfl) (fun _ => rfl) rfl (fun C => ?_)
  refine wr_aload_n 64 C dX6_init_64 0 rfl rfl ?_
  refine wr_bipush 65 C dX6_init_65 (v := 30) rfl ?_
  obtain ⟨μ9_, eμ9_, hf⟩ := o_let hf
  refine wr_new_int (kc1 := 8) (ks1 := 978) 67 C dX6_init_67 q252 (by decide) rfl (Nat.le_of_ble_eq_true rfl) rfl rfl ⟨Nat.le_of_ble_eq_true rfl, Nat.le_of_ble_eq_true rfl⟩ 8 rfl rfl eμ9_ [.inl (6, [(0, 0), (2, 1), (2, 2), (2, 3), (2, 4), (2, 5), (0, 0), (0, 0), (0, 0), (0, 0), (0, 0), (1, 0), (0, 0), (0, 0), (0, 0), (0, 0), (2, 6), (2, 7), (3, 0), (3, 0), (3, 0), (3, 0), (3, 0), (0, 0), (0, 0), (0, 0), (0, 0), (0, 0), (0, 0), (0, 0), (0, 0), (3, 0), (3, 0), (3, 0), (0, 0), (3, 0), (0, 0), (0, 0), (0, 0), (3, 0), (0, 0), (3, 0), (3, 0), (3, 0), (3, 0), (3, 0), (3, 0), (0, 0)]), .inr (0, 4), .inr (0, 4), .inr (1, 240), .inr (1, 60), .inr (2, 600), .inr (0, 5), .inr (0, 35), .inr (0, 30)] rfl (fun q8 hq8 C => ?_)
  rw [← hq8 0 (by decide)]
  have e0 : q8 0 = q 0 := (hq8 0 (by decide)).trans e0
  refine wr_putFR (c0 := 0) (x := 8) 69 18 [.inl (6, [(0, 0), (2, 1), (2, 2), (2, 3), (2, 4), (2, 5), (0, 0), (0, 0), (0, 0), (0, 0), (0, 0), (1, 0), (0, 0), (0, 0), (0, 0), (0, 0), (2, 6), (2, 7), (2, 8), (3, 0), (3, 0), (3, 0), (3, 0), (0, 0), (0, 0), (0, 0), (0, 0), (0, 0), (0, 0), (0, 0), (0, 0), (3, 0), (3, 0), (3, 0), (0, 0), (3, 0), (0, 0), (0, 0), (0, 0), (3, 0), (0, 0), (3, 0), (3, 0), (3, 0), (3, 0), (3, 0), (3, 0), (0, 0)]), .inr (0, 4), .inr (0, 4), .inr (1, 240), .inr (1, 60), .inr (2, 600), .inr (0, 5), .inr (0, 35), .inr (0, 30)] C dX6_init_69 rfl rfl in_X6 tyX6 tyX6_ok nmX6 (by decide) (Nat.le_of_ble_eq_true rfl) q1417 rfl (hnm.trans rfl) rfl (fun _ => rfl) (fun _ => rfl) rfl (fun C => ?_)
  refine wr_aload_n 72 C dX6_init_72 0 rfl rfl ?_
  refine wr_bipush 73 C dX6_init_73 (v := 30) rfl ?_
  obtain ⟨μ10_, eμ10_, hf⟩ := o_let hf
  refine wr_new_int (kc1 := 9) (ks1 := 1008) 75 C dX6_init_75 q252 (by decide) rfl (Nat.le_of_ble_eq_true rfl) rfl rfl ⟨Nat.le_of_ble_eq_true rfl, Nat.le_of_ble_eq_true rfl⟩ 9 rfl rfl eμ10_ [.inl (6, [(0, 0), (2, 1), (2, 2), (2, 3), (2, 4), (2, 5), (0, 0), (0, 0), (0, 0), (0, 0), (0, 0), (1, 0), (0, 0), (0, 0), (0, 0), (0, 0), (2, 6), (2, 7), (2, 8), (3, 0), (3, 0), (3, 0), (3, 0), (0, 0), (0, 0), (0, 0), (0, 0), (0, 0), (0, 0), (0, 0), (0, 0), (3, 0), (3, 0), (3, 0), (0, 0), (3, 0), (0, 0), (0, 0), (0, 0), (3, 0), (0, 0), (3, 0), (3, 0), (3, 0), (3, 0), (3, 0), (3, 0), (0, 0)]), .inr (0, 4), .inr (0, 4), .inr (1, 240), .inr (1, 60), .inr (2, 600), .inr (0, 5), .inr (0, 35), .inr (0, 30), .inr (0, 30)] rfl (fun q9 hq9 C => ?_)
  rw [← hq9 0 (by decide)]
  have e0 : q9 0 = q 0 := (hq9 0 (by decide)).trans e0
  refine wr_putFR (c0 := 0) (x := 9) 77 19 [.inl (6, [(0, 0), (2, 1), (2, 2), (2, 3), (2, 4), (2, 5), (0, 0), (0, 0), (0, 0), (0, 0), (0, 0), (1, 0), (0, 0), (0, 0), (0, 0), (0, 0), (2, 6), (2, 7), (2, 8), (2, 9), (3, 0), (3, 0), (3, 0), (0, 0), (0, 0), (0, 0), (0, 0), (0, 0), (0, 0), (0, 0), (0, 0), (3, 0), (3, 0), (3, 0), (0, 0), (3, 0), (0, 0), (0, 0), (0, 0), (3, 0), (0, 0), (3, 0), (3, 0), (3, 0), (3, 0), (3, 0), (3, 0), (0, 0)]), .inr (0, 4), .inr (0, 4), .inr (1, 240), .inr (1, 60), .inr (2, 600), .inr (0, 5), .inr (0, 35), .inr (0, 30), .inr (0, 30)] C dX6_init_77 rfl rfl in_X6 tyX6 tyX6_ok nmX6 (by decide) (Nat.le_of_ble_eq_true rfl) q1418 rfl (hnm.trans rfl) rfl (fun _ => rfl) (fun _ => rfl) rfl (fun C => ?_)
  refine wr_aload_n 80 C dX6_init_80 0 rfl rfl ?_
  refine wr_bipush 81 C dX6_init_81 (v := 30) rfl ?_
  obtain ⟨μ11_, eμ11_, hf⟩ := o_let hf
  refine wr_new_int (kc1 := 10) (ks1 := 1038) 83 C dX6_init_83 q252 (by decide) rfl (Nat.le_of_ble_eq_true rfl) rfl rfl ⟨Nat.le_of_ble_eq_true rfl, Nat.le_of_ble_eq_true rfl⟩ 10 rfl rfl eμ11_ [.inl (6, [(0, 0), (2, 1), (2, 2), (2, 3), (2, 4), (2, 5), (0, 0), (0, 0), (0, 0), (0, 0), (0, 0), (1, 0), (0, 0), (0, 0), (0, 0), (0, 0), (2, 6), (2, 7), (2, 8), (2, 9), (3, 0), (3, 0), (3, 0), (0, 0), (0, 0), (0, 0), (0, 0), (0, 0), (0, 0), (0, 0), (0, 0), (3, 0), (3, 0), (3, 0), (0, 0), (3, 0), (0, 0), (0, 0), (0, 0), (3, 0), (0, 0), (3, 0), (3, 0), (3, 0), (3, 0), (3, 0), (3, 0), (0, 0)]), .inr (0, 4), .inr (0, 4), .inr (1, 240), .inr (1, 60), .inr (2, 600), .inr (0, 5), .inr (0, 35), .inr (0, 30), .inr (0, 30), .inr (0, 30)] rfl (fun q10 hq10 C => ?_)
  rw [← hq10 0 (by decide)]
  have e0 : q10 0 = q 0 := (hq10 0 (by decide)).trans e0
  refine wr_putFR (c0 := 0) (x := 10) 85 20 [.inl (6, [(0, 0), (2, 1), (2, 2), (2, 3), (2, 4), (2, 5), (0, 0), (0, 0), (0, 0), (0, 0), (0, 0), (1, 0), (0, 0), (0, 0), (0, 0), (0, 0), (2, 6), (2, 7), (2, 8), (2, 9), (2, 10), (3, 0), (3, 0), (0, 0), (0, 0), (0, 0), (0, 0), (0, 0), (0, 0), (0, 0), (0, 0), (3, 0), (3, 0), (3, 0), (0, 0), (3, 0), (0, 0), (0, 0), (0, 0), (3, 0), (0, 0), (3, 0), (3, 0), (3, 0), (3, 0), (3, 0), (3, 0), (0, 0)]), .inr (0, 4), .inr (0, 4), .inr (1, 240), .inr (1, 60), .inr (2, 600), .inr (0, 5), .inr (0, 35), .inr (0, 30), .inr (0, 30), .inr (0, 30)] C dX6_init_85 rfl rfl in_X6 tyX6 tyX6_ok nmX6 (by decide) (Nat.le_of_ble_eq_true rfl) q1419 rfl (hnm.trans rfl) rfl (fun _ => rfl) (fun _ => rfl) rfl (fun C => ?_)
  refine wr_aload_n 88 C dX6_init_88 0 rfl rfl ?_
  refine wr_sipush 89 C dX6_init_89 (v := 200) rfl ?_
  obtain ⟨μ12_, eμ12_, hf⟩ := o_let hf
  refine wr_new_int (kc1 := 11) (ks1 := 1238) 92 C dX6_init_92 q252 (by decide) rfl (Nat.le_of_ble_eq_true rfl) rfl rfl ⟨Nat.le_of_ble_eq_true rfl, Nat.le_of_ble_eq_true rfl⟩ 11 rfl rfl eμ12_ [.inl (6, [(0, 0), (2, 1), (2, 2), (2, 3), (2, 4), (2, 5), (0, 0), (0, 0), (0, 0), (0, 0), (0, 0), (1, 0), (0, 0), (0, 0), (0, 0), (0, 0), (2, 6), (2, 7), (2, 8), (2, 9), (2, 10), (3, 0), (3, 0), (0, 0), (0, 0), (0, 0), (0, 0), (0, 0), (0, 0), (0, 0), (0, 0), (3, 0), (3, 0), (3, 0), (0, 0), (3, 0), (0, 0), (0, 0), (0, 0), (3, 0), (0, 0), (3, 0), (3, 0), (3, 0), (3, 0), (3, 0), (3, 0), (0, 0)]), .inr (0, 4), .inr (0, 4), .inr (1, 240), .inr (1, 60), .inr (2, 600), .inr (0, 5), .inr (0, 35), .inr (0, 30), .inr (0, 30), .inr (0, 30), .inr (0, 200)] rfl (fun q11 hq11 C => ?_)
  rw [← hq11 0 (by decide)]
  have e0 : q11 0 = q 0 := (hq11 0 (by decide)).trans e0
  refine wr_putFR (c0 := 0) (x := 11) 94 21 [.inl (6, [(0, 0), (2, 1), (2, 2), (2, 3), (2, 4), (2, 5), (0, 0), (0, 0), (0, 0), (0, 0), (0, 0), (1, 0), (0, 0), (0, 0), (0, 0), (0, 0), (2, 6), (2, 7), (2, 8), (2, 9), (2, 10), (2, 11), (3, 0), (0, 0), (0, 0), (0, 0), (0, 0), (0, 0), (0, 0), (0, 0), (0, 0), (3, 0), (3, 0), (3, 0), (0, 0), (3, 0), (0, 0), (0, 0), (0, 0), (3, 0), (0, 0), (3, 0), (3, 0), (3, 0), (3, 0), (3, 0), (3, 0), (0, 0)]), .inr (0, 4), .inr (0, 4), .inr (1, 240), .inr (1, 60), .inr (2, 600), .inr (0, 5), .inr (0, 35), .inr (0, 30), .inr (0, 30), .inr (0, 30), .inr (0, 200)] C dX6_init_94 rfl rfl in_X6 tyX6 tyX6_ok nmX6 (by decide) (Nat.le_of_ble_eq_true rfl) q1420 rfl (hnm.trans rfl) rfl (fun _ => rfl) (fun _ => rfl) rfl (fun C => ?_)
  refine wr_aload_n 97 C dX6_init_97 0 rfl rfl ?_
  refine wr_iconst 98 C dX6_init_98 (v := 3) rfl ?_
  obtain ⟨μ13_, eμ13_, hf⟩ := o_let hf
  refine wr_new_boolean (kc1 := 12) (ks1 := 1241) 99 C dX6_init_99 q300 (by decide) rfl (Nat.le_of_ble_eq_true rfl) rfl rfl ⟨Nat.le_of_ble_eq_true rfl, Nat.le_of_ble_eq_true rfl⟩ 12 rfl rfl eμ13_ [.inl (6, [(0, 0), (2, 1), (2, 2), (2, 3), (2, 4), (2, 5), (0, 0), (0, 0), (0, 0), (0, 0), (0, 0), (1, 0), (0, 0), (0, 0), (0, 0), (0, 0), (2, 6), (2, 7), (2, 8), (2, 9), (2, 10), (2, 11), (3, 0), (0, 0), (0, 0), (0, 0), (0, 0), (0, 0), (0, 0), (0, 0), (0, 0), (3, 0), (3, 0), (3, 0), (0, 0), (3, 0), (0, 0), (0, 0), (0, 0), (3, 0), (0, 0), (3, 0), (3, 0), (3, 0), (3, 0), (3, 0), (3, 0), (0, 0)]), .inr (0, 4), .inr (0, 4), .inr (1, 240), .inr (1, 60), .inr (2, 600), .inr (0, 5), .inr (0, 35), .inr (0, 30), .inr (0, 30), .inr (0, 30), .inr (0, 200), .inr (3, 3)] rfl (fun q12 hq12 C => ?_)
  rw [← hq12 0 (by decide)]
  have e0 : q12 0 = q 0 := (hq12 0 (by decide)).trans e0
  refine wr_putFR (c0 := 0) (x := 12) 101 22 [.inl (6, [(0, 0), (2, 1), (2, 2), (2, 3), (2, 4), (2, 5), (0, 0), (0, 0), (0, 0), (0, 0), (0, 0), (1, 0), (0, 0), (0, 0), (0, 0), (0, 0), (2, 6), (2, 7), (2, 8), (2, 9), (2, 10), (2, 11), (2, 12), (0, 0), (0, 0), (0, 0), (0, 0), (0, 0), (0, 0), (0, 0), (0, 0), (3, 0), (3, 0), (3, 0), (0, 0), (3, 0), (0, 0), (0, 0), (0, 0), (3, 0), (0, 0), (3, 0), (3, 0), (3, 0), (3, 0), (3, 0), (3, 0), (0, 0)]), .inr (0, 4), .inr (0, 4), .inr (1, 240), .inr (1, 60), .inr (2, 600), .inr (0, 5), .inr (0, 35), .inr (0, 30), .inr (0, 30), .inr (0, 30), .inr (0, 200), .inr (3, 3)] C dX6_init_101 rfl rfl in_X6 tyX6 tyX6_ok nmX6 (by decide) (Nat.le_of_ble_eq_true rfl) q1421 rfl (hnm.trans rfl) rfl (fun _ => rfl) (fun _ => rfl) rfl (fun C => ?_)
  refine wr_aload_n 104 C dX6_init_104 0 rfl rfl ?_
  refine wr_bipush 105 C dX6_init_105 (v := 60) rfl ?_
  obtain ⟨μ14_, eμ14_, hf⟩ := o_let hf
  refine wr_new_int (kc1 := 13) (ks1 := 1301) 107 C dX6_init_107 q252 (by decide) rfl (Nat.le_of_ble_eq_true rfl) rfl rfl ⟨Nat.le_of_ble_eq_true rfl, Nat.le_of_ble_eq_true rfl⟩ 13 rfl rfl eμ14_ [.inl (6, [(0, 0), (2, 1), (2, 2), (2, 3), (2, 4), (2, 5), (0, 0), (0, 0), (0, 0), (0, 0), (0, 0), (1, 0), (0, 0), (0, 0), (0, 0), (0, 0), (2, 6), (2, 7), (2, 8), (2, 9), (2, 10), (2, 11), (2, 12), (0, 0), (0, 0), (0, 0), (0, 0), (0, 0), (0, 0), (0, 0), (0, 0), (3, 0), (3, 0), (3, 0), (0, 0), (3, 0), (0, 0), (0, 0), (0, 0), (3, 0), (0, 0), (3, 0), (3, 0), (3, 0), (3, 0), (3, 0), (3, 0), (0, 0)]), .inr (0, 4), .inr (0, 4), .inr (1, 240), .inr (1, 60), .inr (2, 600), .inr (0, 5), .inr (0, 35), .inr (0, 30), .inr (0, 30), .inr (0, 30), .inr (0, 200), .inr (3, 3), .inr (0, 60)] rfl (fun q13 hq13 C => ?_)
  rw [← hq13 0 (by decide)]
  have e0 : q13 0 = q 0 := (hq13 0 (by decide)).trans e0
  refine wr_putFR (c0 := 0) (x := 13) 109 31 [.inl (6, [(0, 0), (2, 1), (2, 2), (2, 3), (2, 4), (2, 5), (0, 0), (0, 0), (0, 0), (0, 0), (0, 0), (1, 0), (0, 0), (0, 0), (0, 0), (0, 0), (2, 6), (2, 7), (2, 8), (2, 9), (2, 10), (2, 11), (2, 12), (0, 0), (0, 0), (0, 0), (0, 0), (0, 0), (0, 0), (0, 0), (0, 0), (2, 13), (3, 0), (3, 0), (0, 0), (3, 0), (0, 0), (0, 0), (0, 0), (3, 0), (0, 0), (3, 0), (3, 0), (3, 0), (3, 0), (3, 0), (3, 0), (0, 0)]), .inr (0, 4), .inr (0, 4), .inr (1, 240), .inr (1, 60), .inr (2, 600), .inr (0, 5), .inr (0, 35), .inr (0, 30), .inr (0, 30), .inr (0, 30), .inr (0, 200), .inr (3, 3), .inr (0, 60)] C dX6_init_109 rfl rfl in_X6 tyX6 tyX6_ok nmX6 (by decide) (Nat.le_of_ble_eq_true rfl) q1430 rfl (hnm.trans rfl) rfl (fun _ => rfl) (fun _ => rfl) rfl (fun C => ?_)
  refine wr_aload_n 112 C dX6_init_112 0 rfl rfl ?_
  refine wr_ldc 113 C dX6_init_113 q1397 ?_
  obtain ⟨μ15_, eμ15_, hf⟩ := o_let hf
  refine wr_new_boolean (kc1 := 14) (ks1 := 95381) 115 C dX6_init_115 q300 (by decide) rfl (Nat.le_of_ble_eq_true rfl) rfl rfl ⟨Nat.le_of_ble_eq_true rfl, Nat.le_of_ble_eq_true rfl⟩ 14 rfl rfl eμ15_ [.inl (6, [(0, 0), (2, 1), (2, 2), (2, 3), (2, 4), (2, 5), (0, 0), (0, 0), (0, 0), (0, 0), (0, 0), (1, 0), (0, 0), (0, 0), (0, 0), (0, 0), (2, 6), (2, 7), (2, 8), (2, 9), (2, 10), (2, 11), (2, 12), (0, 0), (0, 0), (0, 0), (0, 0), (0, 0), (0, 0), (0, 0), (0, 0), (2, 13), (3, 0), (3, 0), (0, 0), (3, 0), (0, 0), (0, 0), (0, 0), (3, 0), (0, 0), (3, 0), (3, 0), (3, 0), (3, 0), (3, 0), (3, 0), (0, 0)]), .inr (0, 4), .inr (0, 4), .inr (1, 240), .inr (1, 60), .inr (2, 600), .inr (0, 5), .inr (0, 35), .inr (0, 30), .inr (0, 30), .inr (0, 30), .inr (0, 200), .inr (3, 3), .inr (0, 60), .inr (3, 94080)] rfl (fun q14 hq14 C => ?_)
  rw [← hq14 0 (by decide)]
  have e0 : q14 0 = q 0 := (hq14 0 (by decide)).trans e0
  refine wr_putFR (c0 := 0) (x := 14) 117 32 [.inl (6, [(0, 0), (2, 1), (2, 2), (2, 3), (2, 4), (2, 5), (0, 0), (0, 0), (0, 0), (0, 0), (0, 0), (1, 0), (0, 0), (0, 0), (0, 0), (0, 0), (2, 6), (2, 7), (2, 8), (2, 9), (2, 10), (2, 11), (2, 12), (0, 0), (0, 0), (0, 0), (0, 0), (0, 0), (0, 0), (0, 0), (0, 0), (2, 13), (2, 14), (3, 0), (0, 0), (3, 0), (0, 0), (0, 0), (0, 0), (3, 0), (0, 0), (3, 0), (3, 0), (3, 0), (3, 0), (3, 0), (3, 0), (0, 0)]), .inr (0, 4), .inr (0, 4), .inr (1, 240), .inr (1, 60), .inr (2, 600), .inr (0, 5), .inr (0, 35), .inr (0, 30), .inr (0, 30), .inr (0, 30), .inr (0, 200), .inr (3, 3), .inr (0, 60), .inr (3, 94080)] C dX6_init_117 rfl rfl in_X6 tyX6 tyX6_ok nmX6 (by decide) (Nat.le_of_ble_eq_true rfl) q1431 rfl (hnm.trans rfl) rfl (fun _ => rfl) (fun _ => rfl) rfl (fun C => ?_)
  refine wr_aload_n 120 C dX6_init_120 0 rfl rfl ?_
  refine wr_ldc 121 C dX6_init_121 q1397 ?_
  obtain ⟨μ16_, eμ16_, hf⟩ := o_let hf
  refine wr_new_int (kc1 := 15) (ks1 := 189461) 123 C dX6_init_123 q252 (by decide) rfl (Nat.le_of_ble_eq_true rfl) rfl rfl ⟨Nat.le_of_ble_eq_true rfl, Nat.le_of_ble_eq_true rfl⟩ 15 rfl rfl eμ16_ [.inl (6, [(0, 0), (2, 1), (2, 2), (2, 3), (2, 4), (2, 5), (0, 0), (0, 0), (0, 0), (0, 0), (0, 0), (1, 0), (0, 0), (0, 0), (0, 0), (0, 0), (2, 6), (2, 7), (2, 8), (2, 9), (2, 10), (2, 11), (2, 12), (0, 0), (0, 0), (0, 0), (0, 0), (0, 0), (0, 0), (0, 0), (0, 0), (2, 13), (2, 14), (3, 0), (0, 0), (3, 0), (0, 0), (0, 0), (0, 0), (3, 0), (0, 0), (3, 0), (3, 0), (3, 0), (3, 0), (3, 0), (3, 0), (0, 0)]), .inr (0, 4), .inr (0, 4), .inr (1, 240), .inr (1, 60), .inr (2, 600), .inr (0, 5), .inr (0, 35), .inr (0, 30), .inr (0, 30), .inr (0, 30), .inr (0, 200), .inr (3, 3), .inr (0, 60), .inr (3, 94080), .inr (0, 94080)] rfl (fun q15 hq15 C => ?_)
  rw [← hq15 0 (by decide)]
  have e0 : q15 0 = q 0 := (hq15 0 (by decide)).trans e0
  refine wr_putFR (c0 := 0) (x := 15) 125 33 [.inl (6, [(0, 0), (2, 1), (2, 2), (2, 3), (2, 4), (2, 5), (0, 0), (0, 0), (0, 0), (0, 0), (0, 0), (1, 0), (0, 0), (0, 0), (0, 0), (0, 0), (2, 6), (2, 7), (2, 8), (2, 9), (2, 10), (2, 11), (2, 12), (0, 0), (0, 0), (0, 0), (0, 0), (0, 0), (0, 0), (0, 0), (0, 0), (2, 13), (2, 14), (2, 15), (0, 0), (3, 0), (0, 0), (0, 0), (0, 0), (3, 0), (0, 0), (3, 0), (3, 0), (3, 0), (3, 0), (3, 0), (3, 0), (0, 0)]), .inr (0, 4), .inr (0, 4), .inr (1, 240), .inr (1, 60), .inr (2, 600), .inr (0, 5), .inr (0, 35), .inr (0, 30), .inr (0, 30), .inr (0, 30), .inr (0, 200), .inr (3, 3), .inr (0, 60), .inr (3, 94080), .inr (0, 94080)] C dX6_init_125 rfl rfl in_X6 tyX6 tyX6_ok nmX6 (by decide) (Nat.le_of_ble_eq_true rfl) q1432 rfl (hnm.trans rfl) rfl (fun _ => rfl) (fun _ => rfl) rfl (fun C => ?_)
  refine wr_aload_n 128 C dX6_init_128 0 rfl rfl ?_
  refine wr_ldc 129 C dX6_init_129 q1397 ?_
  obtain ⟨μ17_, eμ17_, hf⟩ := o_let hf
  refine wr_new_int (kc1 := 16) (ks1 := 283541) 131 C dX6_init_131 q252 (by decide) rfl (Nat.le_of_ble_eq_true rfl) rfl rfl ⟨Nat.le_of_ble_eq_true rfl, Nat.le_of_ble_eq_true rfl⟩ 16 rfl rfl eμ17_ [.inl (6, [(0, 0), (2, 1), (2, 2), (2, 3), (2, 4), (2, 5), (0, 0), (0, 0), (0, 0), (0, 0), (0, 0), (1, 0), (0, 0), (0, 0), (0, 0), (0, 0), (2, 6), (2, 7), (2, 8), (2, 9), (2, 10), (2, 11), (2, 12), (0, 0), (0, 0), (0, 0), (0, 0), (0, 0), (0, 0), (0, 0), (0, 0), (2, 13), (2, 14), (2, 15), (0, 0), (3, 0), (0, 0), (0, 0), (0, 0), (3, 0), (0, 0), (3, 0), (3, 0), (3, 0), (3, 0), (3, 0), (3, 0), (0, 0)]), .inr (0, 4), .inr (0, 4), .inr (1, 240), .inr (1, 60), .inr (2, 600), .inr (0, 5), .inr (0, 35), .inr (0, 30), .inr (0, 30), .inr (0, 30), .inr (0, 200), .inr (3, 3), .inr (0, 60), .inr (3, 94080), .inr (0, 94080), .inr (0, 94080)] rfl (fun q16 hq16 C => ?_)
  rw [← hq16 0 (by decide)]
  have e0 : q16 0 = q 0 := (hq16 0 (by decide)).trans e0
  refine wr_putFR (c0 := 0) (x := 16) 133 35 [.inl (6, [(0, 0), (2, 1), (2, 2), (2, 3), (2, 4), (2, 5), (0, 0), (0, 0), (0, 0), (0, 0), (0, 0), (1, 0), (0, 0), (0, 0), (0, 0), (0, 0), (2, 6), (2, 7), (2, 8), (2, 9), (2, 10), (2, 11), (2, 12), (0, 0), (0, 0), (0, 0), (0, 0), (0, 0), (0, 0), (0, 0), (0, 0), (2, 13), (2, 14), (2, 15), (0, 0), (2, 16), (0, 0), (0, 0), (0, 0), (3, 0), (0, 0), (3, 0), (3, 0), (3, 0), (3, 0), (3, 0), (3, 0), (0, 0)]), .inr (0, 4), .inr (0, 4), .inr (1, 240), .inr (1, 60), .inr (2, 600), .inr (0, 5), .inr (0, 35), .inr (0, 30), .inr (0, 30), .inr (0, 30), .inr (0, 200), .inr (3, 3), .inr (0, 60), .inr (3, 94080), .inr (0, 94080), .inr (0, 94080)] C dX6_init_133 rfl rfl in_X6 tyX6 tyX6_ok nmX6 (by decide) (Nat.le_of_ble_eq_true rfl) q1434 rfl (hnm.trans rfl) rfl (fun _ => rfl) (fun _ => rfl) rfl (fun C => ?_)
  refine wr_aload_n 136 C dX6_init_136 0 rfl rfl ?_
  refine wr_sipush 137 C dX6_init_137 (v := 400) rfl ?_
  obtain ⟨μ18_, eμ18_, hf⟩ := o_let hf
  refine wr_new_int (kc1 := 17) (ks1 := 283941) 140 C dX6_init_140 q252 (by decide) rfl (Nat.le_of_ble_eq_true rfl) rfl rfl ⟨Nat.le_of_ble_eq_true rfl, Nat.le_of_ble_eq_true rfl⟩ 17 rfl rfl eμ18_ [.inl (6, [(0, 0), (2, 1), (2, 2), (2, 3), (2, 4), (2, 5), (0, 0), (0, 0), (0, 0), (0, 0), (0, 0), (1, 0), (0, 0), (0, 0), (0, 0), (0, 0), (2, 6), (2, 7), (2, 8), (2, 9), (2, 10), (2, 11), (2, 12), (0, 0), (0, 0), (0, 0), (0, 0), (0, 0), (0, 0), (0, 0), (0, 0), (2, 13), (2, 14), (2, 15), (0, 0), (2, 16), (0, 0), (0, 0), (0, 0), (3, 0), (0, 0), (3, 0), (3, 0), (3, 0), (3, 0), (3, 0), (3, 0), (0, 0)]), .inr (0, 4), .inr (0, 4), .inr (1, 240), .inr (1, 60), .inr (2, 600), .inr (0, 5), .inr (0, 35), .inr (0, 30), .inr (0, 30), .inr (0, 30), .inr (0, 200), .inr (3, 3), .inr (0, 60), .inr (3, 94080), .inr (0, 94080), .inr (0, 94080), .inr (0, 400)] rfl (fun q17 hq17 C => ?_)
  rw [← hq17 0 (by decide)]
  have e0 : q17 0 = q 0 := (hq17 0 (by decide)).trans e0
  refine wr_putFR (c0 := 0) (x := 17) 142 39 [.inl (6, [(0, 0), (2, 1), (2, 2), (2, 3), (2, 4), (2, 5), (0, 0), (0, 0), (0, 0), (0, 0), (0, 0), (1, 0), (0, 0), (0, 0), (0, 0), (0, 0), (2, 6), (2, 7), (2, 8), (2, 9), (2, 10), (2, 11), (2, 12), (0, 0), (0, 0), (0, 0), (0, 0), (0, 0), (0, 0), (0, 0), (0, 0), (2, 13), (2, 14), (2, 15), (0, 0), (2, 16), (0, 0), (0, 0), (0, 0), (2, 17), (0, 0), (3, 0), (3, 0), (3, 0), (3, 0), (3, 0), (3, 0), (0, 0)]), .inr (0, 4), .inr (0, 4), .inr (1, 240), .inr (1, 60), .inr (2, 600), .inr (0, 5), .inr (0, 35), .inr (0, 30), .inr (0, 30), .inr (0, 30), .inr (0, 200), .inr (3, 3), .inr (0, 60), .inr (3, 94080), .inr (0, 94080), .inr (0, 94080), .inr (0, 400)] C dX6_init_142 rfl rfl in_X6 tyX6 tyX6_ok nmX6 (by decide) (Nat.le_of_ble_eq_true rfl) q1438 rfl (hnm.trans rfl) rfl (fun _ => rfl) (fun _ => rfl) rfl (fun C => ?_)
  refine wr_aload_n 145 C dX6_init_145 0 rfl rfl ?_
  refine wr_ldc 146 C dX6_init_146 q1398 ?_
  obtain ⟨μ19_, eμ19_, hf⟩ := o_let hf
  refine wr_new_long (kc1 := 18) (ks1 := 324709) 148 C dX6_init_148 q301 (by decide) rfl (Nat.le_of_ble_eq_true rfl) rfl rfl ⟨Nat.le_of_ble_eq_true rfl, Nat.le_of_ble_eq_true rfl⟩ 18 rfl rfl eμ19_ [.inl (6, [(0, 0), (2, 1), (2, 2), (2, 3), (2, 4), (2, 5), (0, 0), (0, 0), (0, 0), (0, 0), (0, 0), (1, 0), (0, 0), (0, 0), (0, 0), (0, 0), (2, 6), (2, 7), (2, 8), (2, 9), (2, 10), (2, 11), (2, 12), (0, 0), (0, 0), (0, 0), (0, 0), (0, 0), (0, 0), (0, 0), (0, 0), (2, 13), (2, 14), (2, 15), (0, 0), (2, 16), (0, 0), (0, 0), (0, 0), (2, 17), (0, 0), (3, 0), (3, 0), (3, 0), (3, 0), (3, 0), (3, 0), (0, 0)]), .inr (0, 4), .inr (0, 4), .inr (1, 240), .inr (1, 60), .inr (2, 600), .inr (0, 5), .inr (0, 35), .inr (0, 30), .inr (0, 30), .inr (0, 30), .inr (0, 200), .inr (3, 3), .inr (0, 60), .inr (3, 94080), .inr (0, 94080), .inr (0, 94080), .inr (0, 400), .inr (1, 40768)] rfl (fun q18 hq18 C => ?_)
  rw [← hq18 0 (by decide)]
  have e0 : q18 0 = q 0 := (hq18 0 (by decide)).trans e0
  refine wr_putFR (c0 := 0) (x := 18) 150 41 [.inl (6, [(0, 0), (2, 1), (2, 2), (2, 3), (2, 4), (2, 5), (0, 0), (0, 0), (0, 0), (0, 0), (0, 0), (1, 0), (0, 0), (0, 0), (0, 0), (0, 0), (2, 6), (2, 7), (2, 8), (2, 9), (2, 10), (2, 11), (2, 12), (0, 0), (0, 0), (0, 0), (0, 0), (0, 0), (0, 0), (0, 0), (0, 0), (2, 13), (2, 14), (2, 15), (0, 0), (2, 16), (0, 0), (0, 0), (0, 0), (2, 17), (0, 0), (2, 18), (3, 0), (3, 0), (3, 0), (3, 0), (3, 0), (0, 0)]), .inr (0, 4), .inr (0, 4), .inr (1, 240), .inr (1, 60), .inr (2, 600), .inr (0, 5), .inr (0, 35), .inr (0, 30), .inr (0, 30), .inr (0, 30), .inr (0, 200), .inr (3, 3), .inr (0, 60), .inr (3, 94080), .inr (0, 94080), .inr (0, 94080), .inr (0, 400), .inr (1, 40768)] C dX6_init_150 rfl rfl in_X6 tyX6 tyX6_ok nmX6 (by decide) (Nat.le_of_ble_eq_true rfl) q1440 rfl (hnm.trans rfl) rfl (fun _ => rfl) (fun _ => rfl) rfl (fun C => ?_)
  refine wr_aload_n 153 C dX6_init_153 0 rfl rfl ?_
  refine wr_ldc 154 C dX6_init_154 q1398 ?_
  obtain ⟨μ20_, eμ20_, hf⟩ := o_let hf
  refine wr_new_int (kc1 := 19) (ks1 := 365477) 156 C dX6_init_156 q252 (by decide) rfl (Nat.le_of_ble_eq_true rfl) rfl rfl ⟨Nat.le_of_ble_eq_true rfl, Nat.le_of_ble_eq_true rfl⟩ 19 rfl rfl eμ20_ [.inl (6, [(0, 0), (2, 1), (2, 2), (2, 3), (2, 4), (2, 5), (0, 0), (0, 0), (0, 0), (0, 0), (0, 0), (1, 0), (0, 0), (0, 0), (0, 0), (0, 0), (2, 6), (2, 7), (2, 8), (2, 9), (2, 10), (2, 11), (2, 12), (0, 0), (0, 0), (0, 0), (0, 0), (0, 0), (0, 0), (0, 0), (0, 0), (2, 13), (2, 14), (2, 15), (0, 0), (2, 16), (0, 0), (0, 0), (0, 0), (2, 17), (0, 0), (2, 18), (3, 0), (3, 0), (3, 0), (3, 0), (3, 0), (0, 0)]), .inr (0, 4), .inr (0, 4), .inr (1, 240), .inr (1, 60), .inr (2, 600), .inr (0, 5), .inr (0, 35), .inr (0, 30), .inr (0, 30), .inr (0, 30), .inr (0, 200), .inr (3, 3), .inr (0, 60), .inr (3, 94080), .inr (0, 94080), .inr (0, 94080), .inr (0, 400), .inr (1, 40768), .inr (0, 40768)] rfl (fun q19 hq19 C => ?_)
  rw [← hq19 0 (by decide)]
  have e0 : q19 0 = q 0 := (hq19 0 (by decide)).trans e0
  refine wr_putFR (c0 := 0) (x := 19) 158 42 [.inl (6, [(0, 0), (2, 1), (2, 2), (2, 3), (2, 4), (2, 5), (0, 0), (0, 0), (0, 0), (0, 0), (0, 0), (1, 0), (0, 0), (0, 0), (0, 0), (0, 0), (2, 6), (2, 7), (2, 8), (2, 9), (2, 10), (2, 11), (2, 12), (0, 0), (0, 0), (0, 0), (0, 0), (0, 0), (0, 0), (0, 0), (0, 0), (2, 13), (2, 14), (2, 15), (0, 0), (2, 16), (0, 0), (0, 0), (0, 0), (2, 17), (0, 0), (2, 18), (2, 19), (3, 0), (3, 0), (3, 0), (3, 0), (0, 0)]), .inr (0, 4), .inr (0, 4), .inr (1, 240), .inr (1, 60), .inr (2, 600), .inr (0, 5), .inr (0, 35), .inr (0, 30), .inr (0, 30), .inr (0, 30), .inr (0, 200), .inr (3, 3), .inr (0, 60), .inr (3, 94080), .inr (0, 94080), .inr (0, 94080), .inr (0, 400), .inr (1, 40768), .inr (0, 40768)] C dX6_init_158 rfl rfl in_X6 tyX6 tyX6_ok nmX6 (by decide) (Nat.le_of_ble_eq_true rfl) q1441 rfl (hnm.trans rfl) rfl (fun _ => rfl) (fun _ => rfl) rfl (fun C => ?_)
  refine wr_aload_n 161 C dX6_init_161 0 rfl rfl ?_
  refine wr_ldc 162 C dX6_init_162 q1398 ?_
  obtain ⟨μ21_, eμ21_, hf⟩ := o_let hf
  refine wr_new_int (kc1 := 20) (ks1 := 406245) 164 C dX6_init_164 q252 (by decide) rfl (Nat.le_of_ble_eq_true rfl) rfl rfl ⟨Nat.le_of_ble_eq_true rfl, Nat.le_of_ble_eq_true rfl⟩ 20 rfl rfl eμ21_ [.inl (6, [(0, 0), (2, 1), (2, 2), (2, 3), (2, 4), (2, 5), (0, 0), (0, 0), (0, 0), (0, 0), (0, 0), (1, 0), (0, 0), (0, 0), (0, 0), (0, 0), (2, 6), (2, 7), (2, 8), (2, 9), (2, 10), (2, 11), (2, 12), (0, 0), (0, 0), (0, 0), (0, 0), (0, 0), (0, 0), (0, 0), (0, 0), (2, 13), (2, 14), (2, 15), (0, 0), (2, 16), (0, 0), (0, 0), (0, 0), (2, 17), (0, 0), (2, 18), (2, 19), (3, 0), (3, 0), (3, 0), (3, 0), (0, 0)]), .inr (0, 4), .inr (0, 4), .inr (1, 240), .inr (1, 60), .inr (2, 600), .inr (0, 5), .inr (0, 35), .inr (0, 30), .inr (0, 30), .inr (0, 30), .inr (0, 200), .inr (3, 3), .inr (0, 60), .inr (3, 94080), .inr (0, 94080), .inr (0, 94080), .inr (0, 400), .inr (1, 40768), .inr (0, 40768), .inr (0, 40768)] rfl (fun q20 hq20 C => ?_)
  rw [← hq20 0 (by decide)]
  have e0 : q20 0 = q 0 := (hq20 0 (by decide)).trans e0
  refine wr_putFR (c0 := 0) (x := 20) 166 43 [.inl (6, [(0, 0), (2, 1), (2, 2), (2, 3), (2, 4), (2, 5), (0, 0), (0, 0), (0, 0), (0, 0), (0, 0), (1, 0), (0, 0), (0, 0), (0, 0), (0, 0), (2, 6), (2, 7), (2, 8), (2, 9), (2, 10), (2, 11), (2, 12), (0, 0), (0, 0), (0, 0), (0, 0), (0, 0), (0, 0), (0, 0), (0, 0), (2, 13), (2, 14), (2, 15), (0, 0), (2, 16), (0, 0), (0, 0), (0, 0), (2, 17), (0, 0), (2, 18), (2, 19), (2, 20), (3, 0), (3, 0), (3, 0), (0, 0)]), .inr (0, 4), .inr (0, 4), .inr (1, 240), .inr (1, 60), .inr (2, 600), .inr (0, 5), .inr (0, 35), .inr (0, 30), .inr (0, 30), .inr (0, 30), .inr (0, 200), .inr (3, 3), .inr (0, 60), .inr (3, 94080), .inr (0, 94080), .inr (0, 94080), .inr (0, 400), .inr (1, 40768), .inr (0, 40768), .inr (0, 40768)] C dX6_init_166 rfl rfl in_X6 tyX6 tyX6_ok nmX6 (by decide) (Nat.le_of_ble_eq_true rfl) q1442 rfl (hnm.trans rfl) rfl (fun _ => rfl) (fun _ => rfl) rfl (fun C => ?_)
  refine wr_aload_n 169 C dX6_init_169 0 rfl rfl ?_
  refine wr_ldc 170 C dX6_init_170 q1398 ?_
  obtain ⟨μ22_, eμ22_, hf⟩ := o_let hf
  refine wr_new_int (kc1 := 21) (ks1 := 447013) 172 C dX6_init_172 q252 (by decide) rfl (Nat.le_of_ble_eq_true rfl) rfl rfl ⟨Nat.le_of_ble_eq_true rfl, Nat.le_of_ble_eq_true rfl⟩ 21 rfl rfl eμ22_ [.inl (6, [(0, 0), (2, 1), (2, 2), (2, 3), (2, 4), (2, 5), (0, 0), (0, 0), (0, 0), (0, 0), (0, 0), (1, 0), (0, 0), (0, 0), (0, 0), (0, 0), (2, 6), (2, 7), (2, 8), (2, 9), (2, 10), (2, 11), (2, 12), (0, 0), (0, 0), (0, 0), (0, 0), (0, 0), (0, 0), (0, 0), (0, 0), (2, 13), (2, 14), (2, 15), (0, 0), (2, 16), (0, 0), (0, 0), (0, 0), (2, 17), (0, 0), (2, 18), (2, 19), (2, 20), (3, 0), (3, 0), (3, 0), (0, 0)]), .inr (0, 4), .inr (0, 4), .inr (1, 240), .inr (1, 60), .inr (2, 600), .inr (0, 5), .inr (0, 35), .inr (0, 30), .inr (0, 30), .inr (0, 30), .inr (0, 200), .inr (3, 3), .inr (0, 60), .inr (3, 94080), .inr (0, 94080), .inr (0, 94080), .inr (0, 400), .inr (1, 40768), .inr (0, 40768), .inr (0, 40768), .inr (0, 40768)] rfl (fun q21 hq21 C => ?_)
  rw [← hq21 0 (by decide)]
  have e0 : q21 0 = q 0 := (hq21 0 (by decide)).trans e0
  refine wr_putFR (c0 := 0) (x := 21) 174 44 [.inl (6, [(0, 0), (2, 1), (2, 2), (2, 3), (2, 4), (2, 5), (0, 0), (0, 0), (0, 0), (0, 0), (0, 0), (1, 0), (0, 0), (0, 0), (0, 0), (0, 0), (2, 6), (2, 7), (2, 8), (2, 9), (2, 10), (2, 11), (2, 12), (0, 0), (0, 0), (0, 0), (0, 0), (0, 0), (0, 0), (0, 0), (0, 0), (2, 13), (2, 14), (2, 15), (0, 0), (2, 16), (0, 0), (0, 0), (0, 0), (2, 17), (0, 0), (2, 18), (2, 19), (2, 20), (2, 21), (3, 0), (3, 0), (0, 0)]), .inr (0, 4), .inr (0, 4), .inr (1, 240), .inr (1, 60), .inr (2, 600), .inr (0, 5), .inr (0, 35), .inr (0, 30), .inr (0, 30), .inr (0, 30), .inr (0, 200), .inr (3, 3), .inr (0, 60), .inr (3, 94080), .inr (0, 94080), .inr (0, 94080), .inr (0, 400), .inr (1, 40768), .inr (0, 40768), .inr (0, 40768), .inr (0, 40768)] C dX6_init_174 rfl rfl in_X6 tyX6 tyX6_ok nmX6 (by decide) (Nat.le_of_ble_eq_true rfl) q1443 rfl (hnm.trans rfl) rfl (fun _ => rfl) (fun _ => rfl) rfl (fun C => ?_)
  refine wr_aload_n 177 C dX6_init_177 0 rfl rfl ?_
  refine wr_bipush 178 C dX6_init_178 (v := 12) rfl ?_
  obtain ⟨μ23_, eμ23_, hf⟩ := o_let hf
  refine wr_new_int (kc1 := 22) (ks1 := 447025) 180 C dX6_init_180 q252 (by decide) rfl (Nat.le_of_ble_eq_true rfl) rfl rfl ⟨Nat.le_of_ble_eq_true rfl, Nat.le_of_ble_eq_true rfl⟩ 22 rfl rfl eμ23_ [.inl (6, [(0, 0), (2, 1), (2, 2), (2, 3), (2, 4), (2, 5), (0, 0), (0, 0), (0, 0), (0, 0), (0, 0), (1, 0), (0, 0), (0, 0), (0, 0), (0, 0), (2, 6), (2, 7), (2, 8), (2, 9), (2, 10), (2, 11), (2, 12), (0, 0), (0, 0), (0, 0), (0, 0), (0, 0), (0, 0), (0, 0), (0, 0), (2, 13), (2, 14), (2, 15), (0, 0), (2, 16), (0, 0), (0, 0), (0, 0), (2, 17), (0, 0), (2, 18), (2, 19), (2, 20), (2, 21), (3, 0), (3, 0), (0, 0)]), .inr (0, 4), .inr (0, 4), .inr (1, 240), .inr (1, 60), .inr (2, 600), .inr (0, 5), .inr (0, 35), .inr (0, 30), .inr (0, 30), .inr (0, 30), .inr (0, 200), .inr (3, 3), .inr (0, 60), .inr (3, 94080), .inr (0, 94080), .inr (0, 94080), .inr (0, 400), .inr (1, 40768), .inr (0, 40768), .inr (0, 40768), .inr (0, 40768), .inr (0, 12)] rfl (fun q22 hq22 C => ?_)
  rw [← hq22 0 (by decide)]
  have e0 : q22 0 = q 0 := (hq22 0 (by decide)).trans e0
  refine wr_putFR (c0 := 0) (x := 22) 182 45 [.inl (6, [(0, 0), (2, 1), (2, 2), (2, 3), (2, 4), (2, 5), (0, 0), (0, 0), (0, 0), (0, 0), (0, 0), (1, 0), (0, 0), (0, 0), (0, 0), (0, 0), (2, 6), (2, 7), (2, 8), (2, 9), (2, 10), (2, 11), (2, 12), (0, 0), (0, 0), (0, 0), (0, 0), (0, 0), (0, 0), (0, 0), (0, 0), (2, 13), (2, 14), (2, 15), (0, 0), (2, 16), (0, 0), (0, 0), (0, 0), (2, 17), (0, 0), (2, 18), (2, 19), (2, 20), (2, 21), (2, 22), (3, 0), (0, 0)]), .inr (0, 4), .inr (0, 4), .inr (1, 240), .inr (1, 60), .inr (2, 600), .inr (0, 5), .inr (0, 35), .inr (0, 30), .inr (0, 30), .inr (0, 30), .inr (0, 200), .inr (3, 3), .inr (0, 60), .inr (3, 94080), .inr (0, 94080), .inr (0, 94080), .inr (0, 400), .inr (1, 40768), .inr (0, 40768), .inr (0, 40768), .inr (0, 40768), .inr (0, 12)] C dX6_init_182 rfl rfl in_X6 tyX6 tyX6_ok nmX6 (by decide) (Nat.le_of_ble_eq_true rfl) q1444 rfl (hnm.trans rfl) rfl (fun _ => rfl) (fun _ => rfl) rfl (fun C => ?_)
  refine wr_aload_n 185 C dX6_init_185 0 rfl rfl ?_
  refine wr_ldc 186 C dX6_init_186 q1398 ?_
  obtain ⟨μ24_, eμ24_, hf⟩ := o_let hf
  refine wr_new_boolean (kc1 := 23) (ks1 := 487793) 188 C dX6_init_188 q300 (by decide) rfl (Nat.le_of_ble_eq_true rfl) rfl rfl ⟨Nat.le_of_ble_eq_true rfl, Nat.le_of_ble_eq_true rfl⟩ 23 rfl rfl eμ24_ [.inl (6, [(0, 0), (2, 1), (2, 2), (2, 3), (2, 4), (2, 5), (0, 0), (0, 0), (0, 0), (0, 0), (0, 0), (1, 0), (0, 0), (0, 0), (0, 0), (0, 0), (2, 6), (2, 7), (2, 8), (2, 9), (2, 10), (2, 11), (2, 12), (0, 0), (0, 0), (0, 0), (0, 0), (0, 0), (0, 0), (0, 0), (0, 0), (2, 13), (2, 14), (2, 15), (0, 0), (2, 16), (0, 0), (0, 0), (0, 0), (2, 17), (0, 0), (2, 18), (2, 19), (2, 20), (2, 21), (2, 22), (3, 0), (0, 0)]), .inr (0, 4), .inr (0, 4), .inr (1, 240), .inr (1, 60), .inr (2, 600), .inr (0, 5), .inr (0, 35), .inr (0, 30), .inr (0, 30), .inr (0, 30), .inr (0, 200), .inr (3, 3), .inr (0, 60), .inr (3, 94080), .inr (0, 94080), .inr (0, 94080), .inr (0, 400), .inr (1, 40768), .inr (0, 40768), .inr (0, 40768), .inr (0, 40768), .inr (0, 12), .inr (3, 40768)] rfl (fun q23 hq23 C => ?_)
  rw [← hq23 0 (by decide)]
  have e0 : q23 0 = q 0 := (hq23 0 (by decide)).trans e0
  refine wr_putFR (c0 := 0) (x := 23) 190 46 spM C dX6_init_190 rfl rfl in_X6 tyX6 tyX6_ok nmX6 (by decide) (Nat.le_of_ble_eq_true rfl) q1445 rfl (hnm.trans rfl) rfl (fun _ => rfl) (fun _ => rfl) rfl (fun C => ?_)
  refine wr_iconst 193 C dX6_init_193 (v := 0) rfl ?_
  refine wr_istore_n 194 [(1, .int 0), (0, .ref (q23 0))] C dX6_init_194 rfl rfl (Nat.le_of_ble_eq_true rfl) rfl ?_
  refine wr_sub [(0, .ref (q23 0)), (1, .int 0)] [1, 0] rfl ?_
  refine tX6_init_195 (q0 := q) C N _ r0 (fun μ9 hf => ?_) N 0 μ24_ hf
  exact wr_vretG 213 C dX6_init_213 ⟨Nat.le_refl _, Nat.le_refl _⟩ (Option.some.inj hf) (fun j hj => by
    obtain rfl : j = 0 := Nat.lt_one_iff.mp hj
    exact e0)
