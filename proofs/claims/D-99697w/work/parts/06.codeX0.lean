set_option maxRecDepth 100000
abbrev cX0_init : ByteArray := prog_1_method_4_code
def yX0_init : MethodName := ⟨RX0, "<init>", "()V"⟩
def dkwX0_init_8 : List UInt8 := [183, 0, 95, 83, 181, 0, 98, 42, 182, 0, 102, 177]
abbrev dktX0_init_8 : List UInt8 := dkwX0_init_8 ++ []
def dkwX0_init_7 : List UInt8 := [183, 0, 95, 83, 89, 4, 187, 0, 93, 89, 1, 183, 0, 95, 83, 89, 5, 187, 0, 93, 89, 1]
abbrev dktX0_init_7 : List UInt8 := dkwX0_init_7 ++ dktX0_init_8
def dkwX0_init_6 : List UInt8 := [181, 0, 86, 42, 17, 2, 139, 188, 4, 181, 0, 89, 42, 6, 189, 0, 93, 89, 3, 187, 0, 93, 89, 1]
abbrev dktX0_init_6 : List UInt8 := dkwX0_init_6 ++ dktX0_init_7
def dkwX0_init_5 : List UInt8 := [42, 183, 0, 78, 181, 0, 79, 42, 16, 64, 188, 10, 181, 0, 83, 42, 187, 0, 50, 89, 183, 0, 52]
abbrev dktX0_init_5 : List UInt8 := dkwX0_init_5 ++ dktX0_init_6
def dkwX0_init_4 : List UInt8 := [16, 6, 188, 10, 181, 0, 64, 42, 187, 0, 67, 89, 42, 183, 0, 69, 181, 0, 72, 42, 187, 0, 76, 89]
abbrev dktX0_init_4 : List UInt8 := dkwX0_init_4 ++ dktX0_init_5
def dkwX0_init_3 : List UInt8 := [181, 0, 53, 42, 187, 0, 50, 89, 183, 0, 52, 181, 0, 57, 42, 16, 6, 188, 10, 181, 0, 60, 42]
abbrev dktX0_init_3 : List UInt8 := dkwX0_init_3 ++ dktX0_init_4
def dkwX0_init_2 : List UInt8 := [187, 0, 39, 89, 183, 0, 41, 181, 0, 42, 42, 2, 181, 0, 46, 42, 187, 0, 50, 89, 183, 0, 52]
abbrev dktX0_init_2 : List UInt8 := dkwX0_init_2 ++ dktX0_init_3
def dkwX0_init_1 : List UInt8 := [181, 0, 28, 42, 187, 0, 25, 89, 183, 0, 27, 181, 0, 32, 42, 17, 6, 64, 188, 8, 181, 0, 35, 42]
abbrev dktX0_init_1 : List UInt8 := dkwX0_init_1 ++ dktX0_init_2
def dkwX0_init_0 : List UInt8 := [42, 183, 0, 10, 42, 187, 0, 16, 89, 183, 0, 18, 181, 0, 19, 42, 187, 0, 25, 89, 183, 0, 27]
abbrev dktX0_init_0 : List UInt8 := dkwX0_init_0 ++ dktX0_init_1
theorem dksX0_init_0 : cX0_init.data.toList.drop 0 = dktX0_init_0 := by decide +kernel
theorem dksX0_init_1 : cX0_init.data.toList.drop 23 = dktX0_init_1 := dk_seg dksX0_init_0 23 rfl rfl
theorem dksX0_init_2 : cX0_init.data.toList.drop 47 = dktX0_init_2 := dk_seg dksX0_init_1 24 rfl rfl
theorem dksX0_init_3 : cX0_init.data.toList.drop 70 = dktX0_init_3 := dk_seg dksX0_init_2 23 rfl rfl
theorem dksX0_init_4 : cX0_init.data.toList.drop 93 = dktX0_init_4 := dk_seg dksX0_init_3 23 rfl rfl
theorem dksX0_init_5 : cX0_init.data.toList.drop 117 = dktX0_init_5 := dk_seg dksX0_init_4 24 rfl rfl
theorem dksX0_init_6 : cX0_init.data.toList.drop 140 = dktX0_init_6 := dk_seg dksX0_init_5 23 rfl rfl
theorem dksX0_init_7 : cX0_init.data.toList.drop 164 = dktX0_init_7 := dk_seg dksX0_init_6 24 rfl rfl
theorem dksX0_init_8 : cX0_init.data.toList.drop 186 = dktX0_init_8 := dk_seg dksX0_init_7 22 rfl rfl
theorem dX0_init_0 : decode cX0_init 0 = .ok (.aload_n 0, 1) := dk_42 (dk_at dksX0_init_0 0 rfl rfl)
theorem dX0_init_1 : decode cX0_init 1 = .ok (.invokespecial 10, 3) := dk_183 0 10 (dk_at dksX0_init_0 1 rfl rfl)
theorem dX0_init_4 : decode cX0_init 4 = .ok (.aload_n 0, 1) := dk_42 (dk_at dksX0_init_0 4 rfl rfl)
theorem dX0_init_5 : decode cX0_init 5 = .ok (.new 16, 3) := dk_187 0 16 (dk_at dksX0_init_0 5 rfl rfl)
theorem dX0_init_8 : decode cX0_init 8 = .ok (.dup, 1) := dk_89 (dk_at dksX0_init_0 8 rfl rfl)
theorem dX0_init_9 : decode cX0_init 9 = .ok (.invokespecial 18, 3) := dk_183 0 18 (dk_at dksX0_init_0 9 rfl rfl)
theorem dX0_init_12 : decode cX0_init 12 = .ok (.putfield 19, 3) := dk_181 0 19 (dk_at dksX0_init_0 12 rfl rfl)
theorem dX0_init_15 : decode cX0_init 15 = .ok (.aload_n 0, 1) := dk_42 (dk_at dksX0_init_0 15 rfl rfl)
theorem dX0_init_16 : decode cX0_init 16 = .ok (.new 25, 3) := dk_187 0 25 (dk_at dksX0_init_0 16 rfl rfl)
theorem dX0_init_19 : decode cX0_init 19 = .ok (.dup, 1) := dk_89 (dk_at dksX0_init_0 19 rfl rfl)
theorem dX0_init_20 : decode cX0_init 20 = .ok (.invokespecial 27, 3) := dk_183 0 27 (dk_at dksX0_init_0 20 rfl rfl)
theorem dX0_init_23 : decode cX0_init 23 = .ok (.putfield 28, 3) := dk_181 0 28 (dk_at dksX0_init_1 0 rfl rfl)
theorem dX0_init_26 : decode cX0_init 26 = .ok (.aload_n 0, 1) := dk_42 (dk_at dksX0_init_1 3 rfl rfl)
theorem dX0_init_27 : decode cX0_init 27 = .ok (.new 25, 3) := dk_187 0 25 (dk_at dksX0_init_1 4 rfl rfl)
theorem dX0_init_30 : decode cX0_init 30 = .ok (.dup, 1) := dk_89 (dk_at dksX0_init_1 7 rfl rfl)
theorem dX0_init_31 : decode cX0_init 31 = .ok (.invokespecial 27, 3) := dk_183 0 27 (dk_at dksX0_init_1 8 rfl rfl)
theorem dX0_init_34 : decode cX0_init 34 = .ok (.putfield 32, 3) := dk_181 0 32 (dk_at dksX0_init_1 11 rfl rfl)
theorem dX0_init_37 : decode cX0_init 37 = .ok (.aload_n 0, 1) := dk_42 (dk_at dksX0_init_1 14 rfl rfl)
theorem dX0_init_38 : decode cX0_init 38 = .ok (.sipush 1600, 3) := dk_17 6 64 (dk_at dksX0_init_1 15 rfl rfl)
theorem dX0_init_41 : decode cX0_init 41 = .ok (.newarray .byte, 2) := dk_188_8 (dk_at dksX0_init_1 18 rfl rfl)
theorem dX0_init_43 : decode cX0_init 43 = .ok (.putfield 35, 3) := dk_181 0 35 (dk_at dksX0_init_1 20 rfl rfl)
theorem dX0_init_46 : decode cX0_init 46 = .ok (.aload_n 0, 1) := dk_42 (dk_at dksX0_init_1 23 rfl rfl)
theorem dX0_init_47 : decode cX0_init 47 = .ok (.new 39, 3) := dk_187 0 39 (dk_at dksX0_init_2 0 rfl rfl)
theorem dX0_init_50 : decode cX0_init 50 = .ok (.dup, 1) := dk_89 (dk_at dksX0_init_2 3 rfl rfl)
theorem dX0_init_51 : decode cX0_init 51 = .ok (.invokespecial 41, 3) := dk_183 0 41 (dk_at dksX0_init_2 4 rfl rfl)
theorem dX0_init_54 : decode cX0_init 54 = .ok (.putfield 42, 3) := dk_181 0 42 (dk_at dksX0_init_2 7 rfl rfl)
theorem dX0_init_57 : decode cX0_init 57 = .ok (.aload_n 0, 1) := dk_42 (dk_at dksX0_init_2 10 rfl rfl)
theorem dX0_init_58 : decode cX0_init 58 = .ok (.iconst (-1), 1) := dk_2 (dk_at dksX0_init_2 11 rfl rfl)
theorem dX0_init_59 : decode cX0_init 59 = .ok (.putfield 46, 3) := dk_181 0 46 (dk_at dksX0_init_2 12 rfl rfl)
theorem dX0_init_62 : decode cX0_init 62 = .ok (.aload_n 0, 1) := dk_42 (dk_at dksX0_init_2 15 rfl rfl)
theorem dX0_init_63 : decode cX0_init 63 = .ok (.new 50, 3) := dk_187 0 50 (dk_at dksX0_init_2 16 rfl rfl)
theorem dX0_init_66 : decode cX0_init 66 = .ok (.dup, 1) := dk_89 (dk_at dksX0_init_2 19 rfl rfl)
theorem dX0_init_67 : decode cX0_init 67 = .ok (.invokespecial 52, 3) := dk_183 0 52 (dk_at dksX0_init_2 20 rfl rfl)
theorem dX0_init_70 : decode cX0_init 70 = .ok (.putfield 53, 3) := dk_181 0 53 (dk_at dksX0_init_3 0 rfl rfl)
theorem dX0_init_73 : decode cX0_init 73 = .ok (.aload_n 0, 1) := dk_42 (dk_at dksX0_init_3 3 rfl rfl)
theorem dX0_init_74 : decode cX0_init 74 = .ok (.new 50, 3) := dk_187 0 50 (dk_at dksX0_init_3 4 rfl rfl)
theorem dX0_init_77 : decode cX0_init 77 = .ok (.dup, 1) := dk_89 (dk_at dksX0_init_3 7 rfl rfl)
theorem dX0_init_78 : decode cX0_init 78 = .ok (.invokespecial 52, 3) := dk_183 0 52 (dk_at dksX0_init_3 8 rfl rfl)
theorem dX0_init_81 : decode cX0_init 81 = .ok (.putfield 57, 3) := dk_181 0 57 (dk_at dksX0_init_3 11 rfl rfl)
theorem dX0_init_84 : decode cX0_init 84 = .ok (.aload_n 0, 1) := dk_42 (dk_at dksX0_init_3 14 rfl rfl)
theorem dX0_init_85 : decode cX0_init 85 = .ok (.bipush 6, 2) := dk_16 6 (dk_at dksX0_init_3 15 rfl rfl)
theorem dX0_init_87 : decode cX0_init 87 = .ok (.newarray .int, 2) := dk_188_10 (dk_at dksX0_init_3 17 rfl rfl)
theorem dX0_init_89 : decode cX0_init 89 = .ok (.putfield 60, 3) := dk_181 0 60 (dk_at dksX0_init_3 19 rfl rfl)
theorem dX0_init_92 : decode cX0_init 92 = .ok (.aload_n 0, 1) := dk_42 (dk_at dksX0_init_3 22 rfl rfl)
theorem dX0_init_93 : decode cX0_init 93 = .ok (.bipush 6, 2) := dk_16 6 (dk_at dksX0_init_4 0 rfl rfl)
theorem dX0_init_95 : decode cX0_init 95 = .ok (.newarray .int, 2) := dk_188_10 (dk_at dksX0_init_4 2 rfl rfl)
theorem dX0_init_97 : decode cX0_init 97 = .ok (.putfield 64, 3) := dk_181 0 64 (dk_at dksX0_init_4 4 rfl rfl)
theorem dX0_init_100 : decode cX0_init 100 = .ok (.aload_n 0, 1) := dk_42 (dk_at dksX0_init_4 7 rfl rfl)
theorem dX0_init_101 : decode cX0_init 101 = .ok (.new 67, 3) := dk_187 0 67 (dk_at dksX0_init_4 8 rfl rfl)
theorem dX0_init_104 : decode cX0_init 104 = .ok (.dup, 1) := dk_89 (dk_at dksX0_init_4 11 rfl rfl)
theorem dX0_init_105 : decode cX0_init 105 = .ok (.aload_n 0, 1) := dk_42 (dk_at dksX0_init_4 12 rfl rfl)
theorem dX0_init_106 : decode cX0_init 106 = .ok (.invokespecial 69, 3) := dk_183 0 69 (dk_at dksX0_init_4 13 rfl rfl)
theorem dX0_init_109 : decode cX0_init 109 = .ok (.putfield 72, 3) := dk_181 0 72 (dk_at dksX0_init_4 16 rfl rfl)
theorem dX0_init_112 : decode cX0_init 112 = .ok (.aload_n 0, 1) := dk_42 (dk_at dksX0_init_4 19 rfl rfl)
theorem dX0_init_113 : decode cX0_init 113 = .ok (.new 76, 3) := dk_187 0 76 (dk_at dksX0_init_4 20 rfl rfl)
theorem dX0_init_116 : decode cX0_init 116 = .ok (.dup, 1) := dk_89 (dk_at dksX0_init_4 23 rfl rfl)
theorem dX0_init_117 : decode cX0_init 117 = .ok (.aload_n 0, 1) := dk_42 (dk_at dksX0_init_5 0 rfl rfl)
theorem dX0_init_118 : decode cX0_init 118 = .ok (.invokespecial 78, 3) := dk_183 0 78 (dk_at dksX0_init_5 1 rfl rfl)
theorem dX0_init_121 : decode cX0_init 121 = .ok (.putfield 79, 3) := dk_181 0 79 (dk_at dksX0_init_5 4 rfl rfl)
theorem dX0_init_124 : decode cX0_init 124 = .ok (.aload_n 0, 1) := dk_42 (dk_at dksX0_init_5 7 rfl rfl)
theorem dX0_init_125 : decode cX0_init 125 = .ok (.bipush 64, 2) := dk_16 64 (dk_at dksX0_init_5 8 rfl rfl)
theorem dX0_init_127 : decode cX0_init 127 = .ok (.newarray .int, 2) := dk_188_10 (dk_at dksX0_init_5 10 rfl rfl)
theorem dX0_init_129 : decode cX0_init 129 = .ok (.putfield 83, 3) := dk_181 0 83 (dk_at dksX0_init_5 12 rfl rfl)
theorem dX0_init_132 : decode cX0_init 132 = .ok (.aload_n 0, 1) := dk_42 (dk_at dksX0_init_5 15 rfl rfl)
theorem dX0_init_133 : decode cX0_init 133 = .ok (.new 50, 3) := dk_187 0 50 (dk_at dksX0_init_5 16 rfl rfl)
theorem dX0_init_136 : decode cX0_init 136 = .ok (.dup, 1) := dk_89 (dk_at dksX0_init_5 19 rfl rfl)
theorem dX0_init_137 : decode cX0_init 137 = .ok (.invokespecial 52, 3) := dk_183 0 52 (dk_at dksX0_init_5 20 rfl rfl)
theorem dX0_init_140 : decode cX0_init 140 = .ok (.putfield 86, 3) := dk_181 0 86 (dk_at dksX0_init_6 0 rfl rfl)
theorem dX0_init_143 : decode cX0_init 143 = .ok (.aload_n 0, 1) := dk_42 (dk_at dksX0_init_6 3 rfl rfl)
theorem dX0_init_144 : decode cX0_init 144 = .ok (.sipush 651, 3) := dk_17 2 139 (dk_at dksX0_init_6 4 rfl rfl)
theorem dX0_init_147 : decode cX0_init 147 = .ok (.newarray .boolean, 2) := dk_188_4 (dk_at dksX0_init_6 7 rfl rfl)
theorem dX0_init_149 : decode cX0_init 149 = .ok (.putfield 89, 3) := dk_181 0 89 (dk_at dksX0_init_6 9 rfl rfl)
theorem dX0_init_152 : decode cX0_init 152 = .ok (.aload_n 0, 1) := dk_42 (dk_at dksX0_init_6 12 rfl rfl)
theorem dX0_init_153 : decode cX0_init 153 = .ok (.iconst 3, 1) := dk_6 (dk_at dksX0_init_6 13 rfl rfl)
theorem dX0_init_154 : decode cX0_init 154 = .ok (.anewarray 93, 3) := dk_189 0 93 (dk_at dksX0_init_6 14 rfl rfl)
theorem dX0_init_157 : decode cX0_init 157 = .ok (.dup, 1) := dk_89 (dk_at dksX0_init_6 17 rfl rfl)
theorem dX0_init_158 : decode cX0_init 158 = .ok (.iconst 0, 1) := dk_3 (dk_at dksX0_init_6 18 rfl rfl)
theorem dX0_init_159 : decode cX0_init 159 = .ok (.new 93, 3) := dk_187 0 93 (dk_at dksX0_init_6 19 rfl rfl)
theorem dX0_init_162 : decode cX0_init 162 = .ok (.dup, 1) := dk_89 (dk_at dksX0_init_6 22 rfl rfl)
theorem dX0_init_163 : decode cX0_init 163 = .ok (.aconst_null, 1) := dk_1 (dk_at dksX0_init_6 23 rfl rfl)
theorem dX0_init_164 : decode cX0_init 164 = .ok (.invokespecial 95, 3) := dk_183 0 95 (dk_at dksX0_init_7 0 rfl rfl)
theorem dX0_init_167 : decode cX0_init 167 = .ok (.aastore, 1) := dk_83 (dk_at dksX0_init_7 3 rfl rfl)
theorem dX0_init_168 : decode cX0_init 168 = .ok (.dup, 1) := dk_89 (dk_at dksX0_init_7 4 rfl rfl)
theorem dX0_init_169 : decode cX0_init 169 = .ok (.iconst 1, 1) := dk_4 (dk_at dksX0_init_7 5 rfl rfl)
theorem dX0_init_170 : decode cX0_init 170 = .ok (.new 93, 3) := dk_187 0 93 (dk_at dksX0_init_7 6 rfl rfl)
theorem dX0_init_173 : decode cX0_init 173 = .ok (.dup, 1) := dk_89 (dk_at dksX0_init_7 9 rfl rfl)
theorem dX0_init_174 : decode cX0_init 174 = .ok (.aconst_null, 1) := dk_1 (dk_at dksX0_init_7 10 rfl rfl)
theorem dX0_init_175 : decode cX0_init 175 = .ok (.invokespecial 95, 3) := dk_183 0 95 (dk_at dksX0_init_7 11 rfl rfl)
theorem dX0_init_178 : decode cX0_init 178 = .ok (.aastore, 1) := dk_83 (dk_at dksX0_init_7 14 rfl rfl)
theorem dX0_init_179 : decode cX0_init 179 = .ok (.dup, 1) := dk_89 (dk_at dksX0_init_7 15 rfl rfl)
theorem dX0_init_180 : decode cX0_init 180 = .ok (.iconst 2, 1) := dk_5 (dk_at dksX0_init_7 16 rfl rfl)
theorem dX0_init_181 : decode cX0_init 181 = .ok (.new 93, 3) := dk_187 0 93 (dk_at dksX0_init_7 17 rfl rfl)
theorem dX0_init_184 : decode cX0_init 184 = .ok (.dup, 1) := dk_89 (dk_at dksX0_init_7 20 rfl rfl)
theorem dX0_init_185 : decode cX0_init 185 = .ok (.aconst_null, 1) := dk_1 (dk_at dksX0_init_7 21 rfl rfl)
theorem dX0_init_186 : decode cX0_init 186 = .ok (.invokespecial 95, 3) := dk_183 0 95 (dk_at dksX0_init_8 0 rfl rfl)
theorem dX0_init_189 : decode cX0_init 189 = .ok (.aastore, 1) := dk_83 (dk_at dksX0_init_8 3 rfl rfl)
theorem dX0_init_190 : decode cX0_init 190 = .ok (.putfield 98, 3) := dk_181 0 98 (dk_at dksX0_init_8 4 rfl rfl)
theorem dX0_init_193 : decode cX0_init 193 = .ok (.aload_n 0, 1) := dk_42 (dk_at dksX0_init_8 7 rfl rfl)
theorem dX0_init_194 : decode cX0_init 194 = .ok (.invokevirtual 102, 3) := dk_182 0 102 (dk_at dksX0_init_8 8 rfl rfl)
theorem dX0_init_197 : decode cX0_init 197 = .ok (.return_, 1) := dk_177 (dk_at dksX0_init_8 11 rfl rfl)
abbrev cX0_start : ByteArray := prog_1_method_5_code
def yX0_start : MethodName := ⟨RX0, "start", "()V"⟩
def dkwX0_start_2 : List UInt8 := [180, 0, 98, 27, 50, 1, 181, 0, 115, 132, 1, 1, 167, 255, 238, 177]
abbrev dktX0_start_2 : List UInt8 := dkwX0_start_2 ++ []
def dkwX0_start_1 : List UInt8 := [182, 0, 109, 42, 180, 0, 86, 182, 0, 109, 42, 3, 181, 0, 112, 3, 60, 27, 6, 162, 0, 19, 42]
abbrev dktX0_start_1 : List UInt8 := dkwX0_start_1 ++ dktX0_start_2
def dkwX0_start_0 : List UInt8 := [42, 180, 0, 28, 42, 180, 0, 19, 182, 0, 105, 42, 180, 0, 53, 182, 0, 109, 42, 180, 0, 57]
abbrev dktX0_start_0 : List UInt8 := dkwX0_start_0 ++ dktX0_start_1
theorem dksX0_start_0 : cX0_start.data.toList.drop 0 = dktX0_start_0 := by decide +kernel
theorem dksX0_start_1 : cX0_start.data.toList.drop 22 = dktX0_start_1 := dk_seg dksX0_start_0 22 rfl rfl
theorem dksX0_start_2 : cX0_start.data.toList.drop 45 = dktX0_start_2 := dk_seg dksX0_start_1 23 rfl rfl
theorem dX0_start_0 : decode cX0_start 0 = .ok (.aload_n 0, 1) := dk_42 (dk_at dksX0_start_0 0 rfl rfl)
theorem dX0_start_1 : decode cX0_start 1 = .ok (.getfield 28, 3) := dk_180 0 28 (dk_at dksX0_start_0 1 rfl rfl)
theorem dX0_start_4 : decode cX0_start 4 = .ok (.aload_n 0, 1) := dk_42 (dk_at dksX0_start_0 4 rfl rfl)
theorem dX0_start_5 : decode cX0_start 5 = .ok (.getfield 19, 3) := dk_180 0 19 (dk_at dksX0_start_0 5 rfl rfl)
theorem dX0_start_8 : decode cX0_start 8 = .ok (.invokevirtual 105, 3) := dk_182 0 105 (dk_at dksX0_start_0 8 rfl rfl)
theorem dX0_start_11 : decode cX0_start 11 = .ok (.aload_n 0, 1) := dk_42 (dk_at dksX0_start_0 11 rfl rfl)
theorem dX0_start_12 : decode cX0_start 12 = .ok (.getfield 53, 3) := dk_180 0 53 (dk_at dksX0_start_0 12 rfl rfl)
theorem dX0_start_15 : decode cX0_start 15 = .ok (.invokevirtual 109, 3) := dk_182 0 109 (dk_at dksX0_start_0 15 rfl rfl)
theorem dX0_start_18 : decode cX0_start 18 = .ok (.aload_n 0, 1) := dk_42 (dk_at dksX0_start_0 18 rfl rfl)
theorem dX0_start_19 : decode cX0_start 19 = .ok (.getfield 57, 3) := dk_180 0 57 (dk_at dksX0_start_0 19 rfl rfl)
theorem dX0_start_22 : decode cX0_start 22 = .ok (.invokevirtual 109, 3) := dk_182 0 109 (dk_at dksX0_start_1 0 rfl rfl)
theorem dX0_start_25 : decode cX0_start 25 = .ok (.aload_n 0, 1) := dk_42 (dk_at dksX0_start_1 3 rfl rfl)
theorem dX0_start_26 : decode cX0_start 26 = .ok (.getfield 86, 3) := dk_180 0 86 (dk_at dksX0_start_1 4 rfl rfl)
theorem dX0_start_29 : decode cX0_start 29 = .ok (.invokevirtual 109, 3) := dk_182 0 109 (dk_at dksX0_start_1 7 rfl rfl)
theorem dX0_start_32 : decode cX0_start 32 = .ok (.aload_n 0, 1) := dk_42 (dk_at dksX0_start_1 10 rfl rfl)
theorem dX0_start_33 : decode cX0_start 33 = .ok (.iconst 0, 1) := dk_3 (dk_at dksX0_start_1 11 rfl rfl)
theorem dX0_start_34 : decode cX0_start 34 = .ok (.putfield 112, 3) := dk_181 0 112 (dk_at dksX0_start_1 12 rfl rfl)
theorem dX0_start_37 : decode cX0_start 37 = .ok (.iconst 0, 1) := dk_3 (dk_at dksX0_start_1 15 rfl rfl)
theorem dX0_start_38 : decode cX0_start 38 = .ok (.istore_n 1, 1) := dk_60 (dk_at dksX0_start_1 16 rfl rfl)
theorem dX0_start_39 : decode cX0_start 39 = .ok (.iload_n 1, 1) := dk_27 (dk_at dksX0_start_1 17 rfl rfl)
theorem dX0_start_40 : decode cX0_start 40 = .ok (.iconst 3, 1) := dk_6 (dk_at dksX0_start_1 18 rfl rfl)
theorem dX0_start_41 : decode cX0_start 41 = .ok (.if_icmp .ge 19, 3) := dk_162 0 19 (dk_at dksX0_start_1 19 rfl rfl)
theorem dX0_start_44 : decode cX0_start 44 = .ok (.aload_n 0, 1) := dk_42 (dk_at dksX0_start_1 22 rfl rfl)
theorem dX0_start_45 : decode cX0_start 45 = .ok (.getfield 98, 3) := dk_180 0 98 (dk_at dksX0_start_2 0 rfl rfl)
theorem dX0_start_48 : decode cX0_start 48 = .ok (.iload_n 1, 1) := dk_27 (dk_at dksX0_start_2 3 rfl rfl)
theorem dX0_start_49 : decode cX0_start 49 = .ok (.aaload, 1) := dk_50 (dk_at dksX0_start_2 4 rfl rfl)
theorem dX0_start_50 : decode cX0_start 50 = .ok (.aconst_null, 1) := dk_1 (dk_at dksX0_start_2 5 rfl rfl)
theorem dX0_start_51 : decode cX0_start 51 = .ok (.putfield 115, 3) := dk_181 0 115 (dk_at dksX0_start_2 6 rfl rfl)
theorem dX0_start_54 : decode cX0_start 54 = .ok (.iinc 1 1, 3) := dk_132 1 1 (dk_at dksX0_start_2 9 rfl rfl)
theorem dX0_start_57 : decode cX0_start 57 = .ok (.goto (-18), 3) := dk_167 255 238 (dk_at dksX0_start_2 12 rfl rfl)
theorem dX0_start_60 : decode cX0_start 60 = .ok (.return_, 1) := dk_177 (dk_at dksX0_start_2 15 rfl rfl)
abbrev cX0_feed : ByteArray := prog_1_method_13_code
def yX0_feed : MethodName := ⟨RX0, "feed", "(IIIII)I"⟩
def dkwX0_feed_2 : List UInt8 := [172]
abbrev dktX0_feed_2 : List UInt8 := dkwX0_feed_2 ++ []
def dkwX0_feed_1 : List UInt8 := [182, 0, 154, 42, 29, 182, 0, 154, 42, 21, 4, 182, 0, 154, 42, 21, 5, 182, 0, 154, 42, 180, 0, 151]
abbrev dktX0_feed_1 : List UInt8 := dkwX0_feed_1 ++ dktX0_feed_2
def dkwX0_feed_0 : List UInt8 := [42, 180, 0, 151, 16, 20, 96, 17, 6, 64, 164, 0, 5, 2, 172, 42, 27, 182, 0, 154, 42, 28]
abbrev dktX0_feed_0 : List UInt8 := dkwX0_feed_0 ++ dktX0_feed_1
theorem dksX0_feed_0 : cX0_feed.data.toList.drop 0 = dktX0_feed_0 := by decide +kernel
theorem dksX0_feed_1 : cX0_feed.data.toList.drop 22 = dktX0_feed_1 := dk_seg dksX0_feed_0 22 rfl rfl
theorem dksX0_feed_2 : cX0_feed.data.toList.drop 46 = dktX0_feed_2 := dk_seg dksX0_feed_1 24 rfl rfl
theorem dX0_feed_0 : decode cX0_feed 0 = .ok (.aload_n 0, 1) := dk_42 (dk_at dksX0_feed_0 0 rfl rfl)
theorem dX0_feed_1 : decode cX0_feed 1 = .ok (.getfield 151, 3) := dk_180 0 151 (dk_at dksX0_feed_0 1 rfl rfl)
theorem dX0_feed_4 : decode cX0_feed 4 = .ok (.bipush 20, 2) := dk_16 20 (dk_at dksX0_feed_0 4 rfl rfl)
theorem dX0_feed_6 : decode cX0_feed 6 = .ok (.iadd, 1) := dk_96 (dk_at dksX0_feed_0 6 rfl rfl)
theorem dX0_feed_7 : decode cX0_feed 7 = .ok (.sipush 1600, 3) := dk_17 6 64 (dk_at dksX0_feed_0 7 rfl rfl)
theorem dX0_feed_10 : decode cX0_feed 10 = .ok (.if_icmp .le 5, 3) := dk_164 0 5 (dk_at dksX0_feed_0 10 rfl rfl)
theorem dX0_feed_13 : decode cX0_feed 13 = .ok (.iconst (-1), 1) := dk_2 (dk_at dksX0_feed_0 13 rfl rfl)
theorem dX0_feed_14 : decode cX0_feed 14 = .ok (.ireturn, 1) := dk_172 (dk_at dksX0_feed_0 14 rfl rfl)
theorem dX0_feed_15 : decode cX0_feed 15 = .ok (.aload_n 0, 1) := dk_42 (dk_at dksX0_feed_0 15 rfl rfl)
theorem dX0_feed_16 : decode cX0_feed 16 = .ok (.iload_n 1, 1) := dk_27 (dk_at dksX0_feed_0 16 rfl rfl)
theorem dX0_feed_17 : decode cX0_feed 17 = .ok (.invokevirtual 154, 3) := dk_182 0 154 (dk_at dksX0_feed_0 17 rfl rfl)
theorem dX0_feed_20 : decode cX0_feed 20 = .ok (.aload_n 0, 1) := dk_42 (dk_at dksX0_feed_0 20 rfl rfl)
theorem dX0_feed_21 : decode cX0_feed 21 = .ok (.iload_n 2, 1) := dk_28 (dk_at dksX0_feed_0 21 rfl rfl)
theorem dX0_feed_22 : decode cX0_feed 22 = .ok (.invokevirtual 154, 3) := dk_182 0 154 (dk_at dksX0_feed_1 0 rfl rfl)
theorem dX0_feed_25 : decode cX0_feed 25 = .ok (.aload_n 0, 1) := dk_42 (dk_at dksX0_feed_1 3 rfl rfl)
theorem dX0_feed_26 : decode cX0_feed 26 = .ok (.iload_n 3, 1) := dk_29 (dk_at dksX0_feed_1 4 rfl rfl)
theorem dX0_feed_27 : decode cX0_feed 27 = .ok (.invokevirtual 154, 3) := dk_182 0 154 (dk_at dksX0_feed_1 5 rfl rfl)
theorem dX0_feed_30 : decode cX0_feed 30 = .ok (.aload_n 0, 1) := dk_42 (dk_at dksX0_feed_1 8 rfl rfl)
theorem dX0_feed_31 : decode cX0_feed 31 = .ok (.iload 4, 2) := dk_21 4 (dk_at dksX0_feed_1 9 rfl rfl)
theorem dX0_feed_33 : decode cX0_feed 33 = .ok (.invokevirtual 154, 3) := dk_182 0 154 (dk_at dksX0_feed_1 11 rfl rfl)
theorem dX0_feed_36 : decode cX0_feed 36 = .ok (.aload_n 0, 1) := dk_42 (dk_at dksX0_feed_1 14 rfl rfl)
theorem dX0_feed_37 : decode cX0_feed 37 = .ok (.iload 5, 2) := dk_21 5 (dk_at dksX0_feed_1 15 rfl rfl)
theorem dX0_feed_39 : decode cX0_feed 39 = .ok (.invokevirtual 154, 3) := dk_182 0 154 (dk_at dksX0_feed_1 17 rfl rfl)
theorem dX0_feed_42 : decode cX0_feed 42 = .ok (.aload_n 0, 1) := dk_42 (dk_at dksX0_feed_1 20 rfl rfl)
theorem dX0_feed_43 : decode cX0_feed 43 = .ok (.getfield 151, 3) := dk_180 0 151 (dk_at dksX0_feed_1 21 rfl rfl)
theorem dX0_feed_46 : decode cX0_feed 46 = .ok (.ireturn, 1) := dk_172 (dk_at dksX0_feed_2 0 rfl rfl)
abbrev cX0_bytes : ByteArray := prog_1_method_14_code
def yX0_bytes : MethodName := ⟨RX0, "bytes", "(I)V"⟩
def dkwX0_bytes_1 : List UInt8 := [180, 0, 151, 4, 96, 181, 0, 151, 132, 2, 248, 167, 255, 226, 177]
abbrev dktX0_bytes_1 : List UInt8 := dkwX0_bytes_1 ++ []
def dkwX0_bytes_0 : List UInt8 := [16, 24, 61, 28, 155, 0, 32, 42, 180, 0, 35, 42, 180, 0, 151, 27, 28, 122, 145, 84, 42, 89]
abbrev dktX0_bytes_0 : List UInt8 := dkwX0_bytes_0 ++ dktX0_bytes_1
theorem dksX0_bytes_0 : cX0_bytes.data.toList.drop 0 = dktX0_bytes_0 := by decide +kernel
theorem dksX0_bytes_1 : cX0_bytes.data.toList.drop 22 = dktX0_bytes_1 := dk_seg dksX0_bytes_0 22 rfl rfl
theorem dX0_bytes_0 : decode cX0_bytes 0 = .ok (.bipush 24, 2) := dk_16 24 (dk_at dksX0_bytes_0 0 rfl rfl)
theorem dX0_bytes_2 : decode cX0_bytes 2 = .ok (.istore_n 2, 1) := dk_61 (dk_at dksX0_bytes_0 2 rfl rfl)
theorem dX0_bytes_3 : decode cX0_bytes 3 = .ok (.iload_n 2, 1) := dk_28 (dk_at dksX0_bytes_0 3 rfl rfl)
theorem dX0_bytes_4 : decode cX0_bytes 4 = .ok (.ifCond .lt 32, 3) := dk_155 0 32 (dk_at dksX0_bytes_0 4 rfl rfl)
theorem dX0_bytes_7 : decode cX0_bytes 7 = .ok (.aload_n 0, 1) := dk_42 (dk_at dksX0_bytes_0 7 rfl rfl)
theorem dX0_bytes_8 : decode cX0_bytes 8 = .ok (.getfield 35, 3) := dk_180 0 35 (dk_at dksX0_bytes_0 8 rfl rfl)
theorem dX0_bytes_11 : decode cX0_bytes 11 = .ok (.aload_n 0, 1) := dk_42 (dk_at dksX0_bytes_0 11 rfl rfl)
theorem dX0_bytes_12 : decode cX0_bytes 12 = .ok (.getfield 151, 3) := dk_180 0 151 (dk_at dksX0_bytes_0 12 rfl rfl)
theorem dX0_bytes_15 : decode cX0_bytes 15 = .ok (.iload_n 1, 1) := dk_27 (dk_at dksX0_bytes_0 15 rfl rfl)
theorem dX0_bytes_16 : decode cX0_bytes 16 = .ok (.iload_n 2, 1) := dk_28 (dk_at dksX0_bytes_0 16 rfl rfl)
theorem dX0_bytes_17 : decode cX0_bytes 17 = .ok (.ishr, 1) := dk_122 (dk_at dksX0_bytes_0 17 rfl rfl)
theorem dX0_bytes_18 : decode cX0_bytes 18 = .ok (.i2b, 1) := dk_145 (dk_at dksX0_bytes_0 18 rfl rfl)
theorem dX0_bytes_19 : decode cX0_bytes 19 = .ok (.bastore, 1) := dk_84 (dk_at dksX0_bytes_0 19 rfl rfl)
theorem dX0_bytes_20 : decode cX0_bytes 20 = .ok (.aload_n 0, 1) := dk_42 (dk_at dksX0_bytes_0 20 rfl rfl)
theorem dX0_bytes_21 : decode cX0_bytes 21 = .ok (.dup, 1) := dk_89 (dk_at dksX0_bytes_0 21 rfl rfl)
theorem dX0_bytes_22 : decode cX0_bytes 22 = .ok (.getfield 151, 3) := dk_180 0 151 (dk_at dksX0_bytes_1 0 rfl rfl)
theorem dX0_bytes_25 : decode cX0_bytes 25 = .ok (.iconst 1, 1) := dk_4 (dk_at dksX0_bytes_1 3 rfl rfl)
theorem dX0_bytes_26 : decode cX0_bytes 26 = .ok (.iadd, 1) := dk_96 (dk_at dksX0_bytes_1 4 rfl rfl)
theorem dX0_bytes_27 : decode cX0_bytes 27 = .ok (.putfield 151, 3) := dk_181 0 151 (dk_at dksX0_bytes_1 5 rfl rfl)
theorem dX0_bytes_30 : decode cX0_bytes 30 = .ok (.iinc 2 (-8), 3) := dk_132 2 248 (dk_at dksX0_bytes_1 8 rfl rfl)
theorem dX0_bytes_33 : decode cX0_bytes 33 = .ok (.goto (-30), 3) := dk_167 255 226 (dk_at dksX0_bytes_1 11 rfl rfl)
theorem dX0_bytes_36 : decode cX0_bytes 36 = .ok (.return_, 1) := dk_177 (dk_at dksX0_bytes_1 14 rfl rfl)
abbrev cX0_end : ByteArray := prog_1_method_15_code
def yX0_end : MethodName := ⟨RX0, "end", "(I)I"⟩
def dkwX0_end_0 : List UInt8 := [27, 155, 0, 11, 27, 42, 180, 0, 151, 164, 0, 5, 2, 172, 42, 27, 181, 0, 151, 27, 172]
abbrev dktX0_end_0 : List UInt8 := dkwX0_end_0 ++ []
theorem dksX0_end_0 : cX0_end.data.toList.drop 0 = dktX0_end_0 := by decide +kernel
theorem dX0_end_0 : decode cX0_end 0 = .ok (.iload_n 1, 1) := dk_27 (dk_at dksX0_end_0 0 rfl rfl)
theorem dX0_end_1 : decode cX0_end 1 = .ok (.ifCond .lt 11, 3) := dk_155 0 11 (dk_at dksX0_end_0 1 rfl rfl)
theorem dX0_end_4 : decode cX0_end 4 = .ok (.iload_n 1, 1) := dk_27 (dk_at dksX0_end_0 4 rfl rfl)
theorem dX0_end_5 : decode cX0_end 5 = .ok (.aload_n 0, 1) := dk_42 (dk_at dksX0_end_0 5 rfl rfl)
theorem dX0_end_6 : decode cX0_end 6 = .ok (.getfield 151, 3) := dk_180 0 151 (dk_at dksX0_end_0 6 rfl rfl)
theorem dX0_end_9 : decode cX0_end 9 = .ok (.if_icmp .le 5, 3) := dk_164 0 5 (dk_at dksX0_end_0 9 rfl rfl)
theorem dX0_end_12 : decode cX0_end 12 = .ok (.iconst (-1), 1) := dk_2 (dk_at dksX0_end_0 12 rfl rfl)
theorem dX0_end_13 : decode cX0_end 13 = .ok (.ireturn, 1) := dk_172 (dk_at dksX0_end_0 13 rfl rfl)
theorem dX0_end_14 : decode cX0_end 14 = .ok (.aload_n 0, 1) := dk_42 (dk_at dksX0_end_0 14 rfl rfl)
theorem dX0_end_15 : decode cX0_end 15 = .ok (.iload_n 1, 1) := dk_27 (dk_at dksX0_end_0 15 rfl rfl)
theorem dX0_end_16 : decode cX0_end 16 = .ok (.putfield 151, 3) := dk_181 0 151 (dk_at dksX0_end_0 16 rfl rfl)
theorem dX0_end_19 : decode cX0_end 19 = .ok (.iload_n 1, 1) := dk_27 (dk_at dksX0_end_0 19 rfl rfl)
theorem dX0_end_20 : decode cX0_end 20 = .ok (.ireturn, 1) := dk_172 (dk_at dksX0_end_0 20 rfl rfl)
abbrev cX0_regiment : ByteArray := prog_1_method_16_code
def yX0_regiment : MethodName := ⟨RX0, "regiment", "()I"⟩
def dkwX0_regiment_3 : List UInt8 := [182, 0, 143, 172]
abbrev dktX0_regiment_3 : List UInt8 := dkwX0_regiment_3 ++ []
def dkwX0_regiment_2 : List UInt8 := [44, 180, 0, 170, 181, 0, 158, 42, 44, 180, 0, 173, 181, 0, 46, 2, 172, 42, 182, 0, 102, 42]
abbrev dktX0_regiment_2 : List UInt8 := dkwX0_regiment_2 ++ dktX0_regiment_3
def dkwX0_regiment_1 : List UInt8 := [89, 42, 180, 0, 35, 27, 42, 180, 0, 42, 183, 0, 163, 182, 0, 166, 181, 0, 19, 167, 0, 22, 77, 42]
abbrev dktX0_regiment_1 : List UInt8 := dkwX0_regiment_1 ++ dktX0_regiment_2
def dkwX0_regiment_0 : List UInt8 := [42, 180, 0, 151, 60, 42, 3, 181, 0, 151, 42, 3, 181, 0, 158, 42, 2, 181, 0, 46, 42, 187, 0, 161]
abbrev dktX0_regiment_0 : List UInt8 := dkwX0_regiment_0 ++ dktX0_regiment_1
theorem dksX0_regiment_0 : cX0_regiment.data.toList.drop 0 = dktX0_regiment_0 := by decide +kernel
theorem dksX0_regiment_1 : cX0_regiment.data.toList.drop 24 = dktX0_regiment_1 := dk_seg dksX0_regiment_0 24 rfl rfl
theorem dksX0_regiment_2 : cX0_regiment.data.toList.drop 48 = dktX0_regiment_2 := dk_seg dksX0_regiment_1 24 rfl rfl
theorem dksX0_regiment_3 : cX0_regiment.data.toList.drop 70 = dktX0_regiment_3 := dk_seg dksX0_regiment_2 22 rfl rfl
theorem dX0_regiment_0 : decode cX0_regiment 0 = .ok (.aload_n 0, 1) := dk_42 (dk_at dksX0_regiment_0 0 rfl rfl)
theorem dX0_regiment_1 : decode cX0_regiment 1 = .ok (.getfield 151, 3) := dk_180 0 151 (dk_at dksX0_regiment_0 1 rfl rfl)
theorem dX0_regiment_4 : decode cX0_regiment 4 = .ok (.istore_n 1, 1) := dk_60 (dk_at dksX0_regiment_0 4 rfl rfl)
theorem dX0_regiment_5 : decode cX0_regiment 5 = .ok (.aload_n 0, 1) := dk_42 (dk_at dksX0_regiment_0 5 rfl rfl)
theorem dX0_regiment_6 : decode cX0_regiment 6 = .ok (.iconst 0, 1) := dk_3 (dk_at dksX0_regiment_0 6 rfl rfl)
theorem dX0_regiment_7 : decode cX0_regiment 7 = .ok (.putfield 151, 3) := dk_181 0 151 (dk_at dksX0_regiment_0 7 rfl rfl)
theorem dX0_regiment_10 : decode cX0_regiment 10 = .ok (.aload_n 0, 1) := dk_42 (dk_at dksX0_regiment_0 10 rfl rfl)
theorem dX0_regiment_11 : decode cX0_regiment 11 = .ok (.iconst 0, 1) := dk_3 (dk_at dksX0_regiment_0 11 rfl rfl)
theorem dX0_regiment_12 : decode cX0_regiment 12 = .ok (.putfield 158, 3) := dk_181 0 158 (dk_at dksX0_regiment_0 12 rfl rfl)
theorem dX0_regiment_15 : decode cX0_regiment 15 = .ok (.aload_n 0, 1) := dk_42 (dk_at dksX0_regiment_0 15 rfl rfl)
theorem dX0_regiment_16 : decode cX0_regiment 16 = .ok (.iconst (-1), 1) := dk_2 (dk_at dksX0_regiment_0 16 rfl rfl)
theorem dX0_regiment_17 : decode cX0_regiment 17 = .ok (.putfield 46, 3) := dk_181 0 46 (dk_at dksX0_regiment_0 17 rfl rfl)
theorem dX0_regiment_20 : decode cX0_regiment 20 = .ok (.aload_n 0, 1) := dk_42 (dk_at dksX0_regiment_0 20 rfl rfl)
theorem dX0_regiment_21 : decode cX0_regiment 21 = .ok (.new 161, 3) := dk_187 0 161 (dk_at dksX0_regiment_0 21 rfl rfl)
theorem dX0_regiment_24 : decode cX0_regiment 24 = .ok (.dup, 1) := dk_89 (dk_at dksX0_regiment_1 0 rfl rfl)
theorem dX0_regiment_25 : decode cX0_regiment 25 = .ok (.aload_n 0, 1) := dk_42 (dk_at dksX0_regiment_1 1 rfl rfl)
theorem dX0_regiment_26 : decode cX0_regiment 26 = .ok (.getfield 35, 3) := dk_180 0 35 (dk_at dksX0_regiment_1 2 rfl rfl)
theorem dX0_regiment_29 : decode cX0_regiment 29 = .ok (.iload_n 1, 1) := dk_27 (dk_at dksX0_regiment_1 5 rfl rfl)
theorem dX0_regiment_30 : decode cX0_regiment 30 = .ok (.aload_n 0, 1) := dk_42 (dk_at dksX0_regiment_1 6 rfl rfl)
theorem dX0_regiment_31 : decode cX0_regiment 31 = .ok (.getfield 42, 3) := dk_180 0 42 (dk_at dksX0_regiment_1 7 rfl rfl)
theorem dX0_regiment_34 : decode cX0_regiment 34 = .ok (.invokespecial 163, 3) := dk_183 0 163 (dk_at dksX0_regiment_1 10 rfl rfl)
theorem dX0_regiment_37 : decode cX0_regiment 37 = .ok (.invokevirtual 166, 3) := dk_182 0 166 (dk_at dksX0_regiment_1 13 rfl rfl)
theorem dX0_regiment_40 : decode cX0_regiment 40 = .ok (.putfield 19, 3) := dk_181 0 19 (dk_at dksX0_regiment_1 16 rfl rfl)
theorem dX0_regiment_43 : decode cX0_regiment 43 = .ok (.goto 22, 3) := dk_167 0 22 (dk_at dksX0_regiment_1 19 rfl rfl)
theorem dX0_regiment_46 : decode cX0_regiment 46 = .ok (.astore_n 2, 1) := dk_77 (dk_at dksX0_regiment_1 22 rfl rfl)
theorem dX0_regiment_47 : decode cX0_regiment 47 = .ok (.aload_n 0, 1) := dk_42 (dk_at dksX0_regiment_1 23 rfl rfl)
theorem dX0_regiment_48 : decode cX0_regiment 48 = .ok (.aload_n 2, 1) := dk_44 (dk_at dksX0_regiment_2 0 rfl rfl)
theorem dX0_regiment_49 : decode cX0_regiment 49 = .ok (.getfield 170, 3) := dk_180 0 170 (dk_at dksX0_regiment_2 1 rfl rfl)
theorem dX0_regiment_52 : decode cX0_regiment 52 = .ok (.putfield 158, 3) := dk_181 0 158 (dk_at dksX0_regiment_2 4 rfl rfl)
theorem dX0_regiment_55 : decode cX0_regiment 55 = .ok (.aload_n 0, 1) := dk_42 (dk_at dksX0_regiment_2 7 rfl rfl)
theorem dX0_regiment_56 : decode cX0_regiment 56 = .ok (.aload_n 2, 1) := dk_44 (dk_at dksX0_regiment_2 8 rfl rfl)
theorem dX0_regiment_57 : decode cX0_regiment 57 = .ok (.getfield 173, 3) := dk_180 0 173 (dk_at dksX0_regiment_2 9 rfl rfl)
theorem dX0_regiment_60 : decode cX0_regiment 60 = .ok (.putfield 46, 3) := dk_181 0 46 (dk_at dksX0_regiment_2 12 rfl rfl)
theorem dX0_regiment_63 : decode cX0_regiment 63 = .ok (.iconst (-1), 1) := dk_2 (dk_at dksX0_regiment_2 15 rfl rfl)
theorem dX0_regiment_64 : decode cX0_regiment 64 = .ok (.ireturn, 1) := dk_172 (dk_at dksX0_regiment_2 16 rfl rfl)
theorem dX0_regiment_65 : decode cX0_regiment 65 = .ok (.aload_n 0, 1) := dk_42 (dk_at dksX0_regiment_2 17 rfl rfl)
theorem dX0_regiment_66 : decode cX0_regiment 66 = .ok (.invokevirtual 102, 3) := dk_182 0 102 (dk_at dksX0_regiment_2 18 rfl rfl)
theorem dX0_regiment_69 : decode cX0_regiment 69 = .ok (.aload_n 0, 1) := dk_42 (dk_at dksX0_regiment_2 21 rfl rfl)
theorem dX0_regiment_70 : decode cX0_regiment 70 = .ok (.invokevirtual 143, 3) := dk_182 0 143 (dk_at dksX0_regiment_3 0 rfl rfl)
theorem dX0_regiment_73 : decode cX0_regiment 73 = .ok (.ireturn, 1) := dk_172 (dk_at dksX0_regiment_3 3 rfl rfl)
abbrev cX0_men : ByteArray := prog_1_method_9_code
def yX0_men : MethodName := ⟨RX0, "men", "()I"⟩
def dkwX0_men_0 : List UInt8 := [42, 180, 0, 19, 180, 0, 137, 182, 0, 121, 172]
abbrev dktX0_men_0 : List UInt8 := dkwX0_men_0 ++ []
theorem dksX0_men_0 : cX0_men.data.toList.drop 0 = dktX0_men_0 := by decide +kernel
theorem dX0_men_0 : decode cX0_men 0 = .ok (.aload_n 0, 1) := dk_42 (dk_at dksX0_men_0 0 rfl rfl)
theorem dX0_men_1 : decode cX0_men 1 = .ok (.getfield 19, 3) := dk_180 0 19 (dk_at dksX0_men_0 1 rfl rfl)
theorem dX0_men_4 : decode cX0_men 4 = .ok (.getfield 137, 3) := dk_180 0 137 (dk_at dksX0_men_0 4 rfl rfl)
theorem dX0_men_7 : decode cX0_men 7 = .ok (.invokevirtual 121, 3) := dk_182 0 121 (dk_at dksX0_men_0 7 rfl rfl)
theorem dX0_men_10 : decode cX0_men 10 = .ok (.ireturn, 1) := dk_172 (dk_at dksX0_men_0 10 rfl rfl)
abbrev cX0_fault : ByteArray := prog_1_method_17_code
def yX0_fault : MethodName := ⟨RX0, "fault", "(I)I"⟩
def dkwX0_fault_1 : List UInt8 := [172]
abbrev dktX0_fault_1 : List UInt8 := dkwX0_fault_1 ++ []
def dkwX0_fault_0 : List UInt8 := [27, 154, 0, 10, 42, 180, 0, 158, 167, 0, 16, 27, 4, 160, 0, 10, 42, 180, 0, 46, 167, 0, 4, 2]
abbrev dktX0_fault_0 : List UInt8 := dkwX0_fault_0 ++ dktX0_fault_1
theorem dksX0_fault_0 : cX0_fault.data.toList.drop 0 = dktX0_fault_0 := by decide +kernel
theorem dksX0_fault_1 : cX0_fault.data.toList.drop 24 = dktX0_fault_1 := dk_seg dksX0_fault_0 24 rfl rfl
theorem dX0_fault_0 : decode cX0_fault 0 = .ok (.iload_n 1, 1) := dk_27 (dk_at dksX0_fault_0 0 rfl rfl)
theorem dX0_fault_1 : decode cX0_fault 1 = .ok (.ifCond .ne 10, 3) := dk_154 0 10 (dk_at dksX0_fault_0 1 rfl rfl)
theorem dX0_fault_4 : decode cX0_fault 4 = .ok (.aload_n 0, 1) := dk_42 (dk_at dksX0_fault_0 4 rfl rfl)
theorem dX0_fault_5 : decode cX0_fault 5 = .ok (.getfield 158, 3) := dk_180 0 158 (dk_at dksX0_fault_0 5 rfl rfl)
theorem dX0_fault_8 : decode cX0_fault 8 = .ok (.goto 16, 3) := dk_167 0 16 (dk_at dksX0_fault_0 8 rfl rfl)
theorem dX0_fault_11 : decode cX0_fault 11 = .ok (.iload_n 1, 1) := dk_27 (dk_at dksX0_fault_0 11 rfl rfl)
theorem dX0_fault_12 : decode cX0_fault 12 = .ok (.iconst 1, 1) := dk_4 (dk_at dksX0_fault_0 12 rfl rfl)
theorem dX0_fault_13 : decode cX0_fault 13 = .ok (.if_icmp .ne 10, 3) := dk_160 0 10 (dk_at dksX0_fault_0 13 rfl rfl)
theorem dX0_fault_16 : decode cX0_fault 16 = .ok (.aload_n 0, 1) := dk_42 (dk_at dksX0_fault_0 16 rfl rfl)
theorem dX0_fault_17 : decode cX0_fault 17 = .ok (.getfield 46, 3) := dk_180 0 46 (dk_at dksX0_fault_0 17 rfl rfl)
theorem dX0_fault_20 : decode cX0_fault 20 = .ok (.goto 4, 3) := dk_167 0 4 (dk_at dksX0_fault_0 20 rfl rfl)
theorem dX0_fault_23 : decode cX0_fault 23 = .ok (.iconst (-1), 1) := dk_2 (dk_at dksX0_fault_0 23 rfl rfl)
theorem dX0_fault_24 : decode cX0_fault 24 = .ok (.ireturn, 1) := dk_172 (dk_at dksX0_fault_1 0 rfl rfl)
abbrev cX0_man : ByteArray := prog_1_method_19_code
def yX0_man : MethodName := ⟨RX0, "man", "(II)I"⟩
def dkwX0_man_4 : List UInt8 := [42, 180, 0, 28, 180, 0, 198, 27, 46, 172, 42, 27, 182, 0, 201, 172, 16, 254, 172]
abbrev dktX0_man_4 : List UInt8 := dkwX0_man_4 ++ []
def dkwX0_man_3 : List UInt8 := [180, 0, 192, 27, 46, 172, 42, 180, 0, 19, 180, 0, 137, 27, 182, 0, 184, 192, 0, 187, 180, 0, 195, 172]
abbrev dktX0_man_3 : List UInt8 := dkwX0_man_3 ++ dktX0_man_4
def dkwX0_man_2 : List UInt8 := [42, 180, 0, 19, 180, 0, 137, 27, 182, 0, 184, 192, 0, 187, 180, 0, 189, 172, 42, 180, 0, 28]
abbrev dktX0_man_2 : List UInt8 := dkwX0_man_2 ++ dktX0_man_3
def dkwX0_man_1 : List UInt8 := [170, 0, 0, 0, 0, 0, 0, 98, 0, 0, 0, 0, 0, 0, 0, 4, 0, 0, 0, 36, 0, 0, 0, 54, 0, 0, 0, 64, 0, 0, 0, 82, 0, 0, 0, 92]
abbrev dktX0_man_1 : List UInt8 := dkwX0_man_1 ++ dktX0_man_2
def dkwX0_man_0 : List UInt8 := [42, 27, 182, 0, 180, 154, 0, 6, 16, 254, 172, 28]
abbrev dktX0_man_0 : List UInt8 := dkwX0_man_0 ++ dktX0_man_1
theorem dksX0_man_0 : cX0_man.data.toList.drop 0 = dktX0_man_0 := by decide +kernel
theorem dksX0_man_1 : cX0_man.data.toList.drop 12 = dktX0_man_1 := dk_seg dksX0_man_0 12 rfl rfl
theorem dksX0_man_2 : cX0_man.data.toList.drop 48 = dktX0_man_2 := dk_seg dksX0_man_1 36 rfl rfl
theorem dksX0_man_3 : cX0_man.data.toList.drop 70 = dktX0_man_3 := dk_seg dksX0_man_2 22 rfl rfl
theorem dksX0_man_4 : cX0_man.data.toList.drop 94 = dktX0_man_4 := dk_seg dksX0_man_3 24 rfl rfl
theorem dX0_man_0 : decode cX0_man 0 = .ok (.aload_n 0, 1) := dk_42 (dk_at dksX0_man_0 0 rfl rfl)
theorem dX0_man_1 : decode cX0_man 1 = .ok (.iload_n 1, 1) := dk_27 (dk_at dksX0_man_0 1 rfl rfl)
theorem dX0_man_2 : decode cX0_man 2 = .ok (.invokevirtual 180, 3) := dk_182 0 180 (dk_at dksX0_man_0 2 rfl rfl)
theorem dX0_man_5 : decode cX0_man 5 = .ok (.ifCond .ne 6, 3) := dk_154 0 6 (dk_at dksX0_man_0 5 rfl rfl)
theorem dX0_man_8 : decode cX0_man 8 = .ok (.bipush (-2), 2) := dk_16 254 (dk_at dksX0_man_0 8 rfl rfl)
theorem dX0_man_10 : decode cX0_man 10 = .ok (.ireturn, 1) := dk_172 (dk_at dksX0_man_0 10 rfl rfl)
theorem dX0_man_11 : decode cX0_man 11 = .ok (.iload_n 2, 1) := dk_28 (dk_at dksX0_man_0 11 rfl rfl)
theorem dX0_man_12 : decode cX0_man 12 = .ok (.tableswitch 98 0 4 #[36, 54, 64, 82, 92], 36) := by decide +kernel
theorem dX0_man_48 : decode cX0_man 48 = .ok (.aload_n 0, 1) := dk_42 (dk_at dksX0_man_2 0 rfl rfl)
theorem dX0_man_49 : decode cX0_man 49 = .ok (.getfield 19, 3) := dk_180 0 19 (dk_at dksX0_man_2 1 rfl rfl)
theorem dX0_man_52 : decode cX0_man 52 = .ok (.getfield 137, 3) := dk_180 0 137 (dk_at dksX0_man_2 4 rfl rfl)
theorem dX0_man_55 : decode cX0_man 55 = .ok (.iload_n 1, 1) := dk_27 (dk_at dksX0_man_2 7 rfl rfl)
theorem dX0_man_56 : decode cX0_man 56 = .ok (.invokevirtual 184, 3) := dk_182 0 184 (dk_at dksX0_man_2 8 rfl rfl)
theorem dX0_man_59 : decode cX0_man 59 = .ok (.checkcast 187, 3) := dk_192 0 187 (dk_at dksX0_man_2 11 rfl rfl)
theorem dX0_man_62 : decode cX0_man 62 = .ok (.getfield 189, 3) := dk_180 0 189 (dk_at dksX0_man_2 14 rfl rfl)
theorem dX0_man_65 : decode cX0_man 65 = .ok (.ireturn, 1) := dk_172 (dk_at dksX0_man_2 17 rfl rfl)
theorem dX0_man_66 : decode cX0_man 66 = .ok (.aload_n 0, 1) := dk_42 (dk_at dksX0_man_2 18 rfl rfl)
theorem dX0_man_67 : decode cX0_man 67 = .ok (.getfield 28, 3) := dk_180 0 28 (dk_at dksX0_man_2 19 rfl rfl)
theorem dX0_man_70 : decode cX0_man 70 = .ok (.getfield 192, 3) := dk_180 0 192 (dk_at dksX0_man_3 0 rfl rfl)
theorem dX0_man_73 : decode cX0_man 73 = .ok (.iload_n 1, 1) := dk_27 (dk_at dksX0_man_3 3 rfl rfl)
theorem dX0_man_74 : decode cX0_man 74 = .ok (.iaload, 1) := dk_46 (dk_at dksX0_man_3 4 rfl rfl)
theorem dX0_man_75 : decode cX0_man 75 = .ok (.ireturn, 1) := dk_172 (dk_at dksX0_man_3 5 rfl rfl)
theorem dX0_man_76 : decode cX0_man 76 = .ok (.aload_n 0, 1) := dk_42 (dk_at dksX0_man_3 6 rfl rfl)
theorem dX0_man_77 : decode cX0_man 77 = .ok (.getfield 19, 3) := dk_180 0 19 (dk_at dksX0_man_3 7 rfl rfl)
theorem dX0_man_80 : decode cX0_man 80 = .ok (.getfield 137, 3) := dk_180 0 137 (dk_at dksX0_man_3 10 rfl rfl)
theorem dX0_man_83 : decode cX0_man 83 = .ok (.iload_n 1, 1) := dk_27 (dk_at dksX0_man_3 13 rfl rfl)
theorem dX0_man_84 : decode cX0_man 84 = .ok (.invokevirtual 184, 3) := dk_182 0 184 (dk_at dksX0_man_3 14 rfl rfl)
theorem dX0_man_87 : decode cX0_man 87 = .ok (.checkcast 187, 3) := dk_192 0 187 (dk_at dksX0_man_3 17 rfl rfl)
theorem dX0_man_90 : decode cX0_man 90 = .ok (.getfield 195, 3) := dk_180 0 195 (dk_at dksX0_man_3 20 rfl rfl)
theorem dX0_man_93 : decode cX0_man 93 = .ok (.ireturn, 1) := dk_172 (dk_at dksX0_man_3 23 rfl rfl)
theorem dX0_man_94 : decode cX0_man 94 = .ok (.aload_n 0, 1) := dk_42 (dk_at dksX0_man_4 0 rfl rfl)
theorem dX0_man_95 : decode cX0_man 95 = .ok (.getfield 28, 3) := dk_180 0 28 (dk_at dksX0_man_4 1 rfl rfl)
theorem dX0_man_98 : decode cX0_man 98 = .ok (.getfield 198, 3) := dk_180 0 198 (dk_at dksX0_man_4 4 rfl rfl)
theorem dX0_man_101 : decode cX0_man 101 = .ok (.iload_n 1, 1) := dk_27 (dk_at dksX0_man_4 7 rfl rfl)
theorem dX0_man_102 : decode cX0_man 102 = .ok (.iaload, 1) := dk_46 (dk_at dksX0_man_4 8 rfl rfl)
theorem dX0_man_103 : decode cX0_man 103 = .ok (.ireturn, 1) := dk_172 (dk_at dksX0_man_4 9 rfl rfl)
theorem dX0_man_104 : decode cX0_man 104 = .ok (.aload_n 0, 1) := dk_42 (dk_at dksX0_man_4 10 rfl rfl)
theorem dX0_man_105 : decode cX0_man 105 = .ok (.iload_n 1, 1) := dk_27 (dk_at dksX0_man_4 11 rfl rfl)
theorem dX0_man_106 : decode cX0_man 106 = .ok (.invokevirtual 201, 3) := dk_182 0 201 (dk_at dksX0_man_4 12 rfl rfl)
theorem dX0_man_109 : decode cX0_man 109 = .ok (.ireturn, 1) := dk_172 (dk_at dksX0_man_4 15 rfl rfl)
theorem dX0_man_110 : decode cX0_man 110 = .ok (.bipush (-2), 2) := dk_16 254 (dk_at dksX0_man_4 16 rfl rfl)
theorem dX0_man_112 : decode cX0_man 112 = .ok (.ireturn, 1) := dk_172 (dk_at dksX0_man_4 18 rfl rfl)
abbrev cX0_isMan : ByteArray := prog_1_method_11_code
def yX0_isMan : MethodName := ⟨RX0, "isMan", "(I)Z"⟩
def dkwX0_isMan_0 : List UInt8 := [27, 3, 42, 182, 0, 143, 4, 100, 184, 0, 145, 172]
abbrev dktX0_isMan_0 : List UInt8 := dkwX0_isMan_0 ++ []
theorem dksX0_isMan_0 : cX0_isMan.data.toList.drop 0 = dktX0_isMan_0 := by decide +kernel
theorem dX0_isMan_0 : decode cX0_isMan 0 = .ok (.iload_n 1, 1) := dk_27 (dk_at dksX0_isMan_0 0 rfl rfl)
theorem dX0_isMan_1 : decode cX0_isMan 1 = .ok (.iconst 0, 1) := dk_3 (dk_at dksX0_isMan_0 1 rfl rfl)
theorem dX0_isMan_2 : decode cX0_isMan 2 = .ok (.aload_n 0, 1) := dk_42 (dk_at dksX0_isMan_0 2 rfl rfl)
theorem dX0_isMan_3 : decode cX0_isMan 3 = .ok (.invokevirtual 143, 3) := dk_182 0 143 (dk_at dksX0_isMan_0 3 rfl rfl)
theorem dX0_isMan_6 : decode cX0_isMan 6 = .ok (.iconst 1, 1) := dk_4 (dk_at dksX0_isMan_0 6 rfl rfl)
theorem dX0_isMan_7 : decode cX0_isMan 7 = .ok (.isub, 1) := dk_100 (dk_at dksX0_isMan_0 7 rfl rfl)
theorem dX0_isMan_8 : decode cX0_isMan 8 = .ok (.invokestatic 145, 3) := dk_184 0 145 (dk_at dksX0_isMan_0 8 rfl rfl)
theorem dX0_isMan_11 : decode cX0_isMan 11 = .ok (.ireturn, 1) := dk_172 (dk_at dksX0_isMan_0 11 rfl rfl)
abbrev cX0_isIn : ByteArray := prog_1_method_1_code
def yX0_isIn : MethodName := ⟨RX0, "isIn", "(III)Z"⟩
def dkwX0_isIn_0 : List UInt8 := [26, 27, 161, 0, 12, 26, 28, 163, 0, 7, 4, 167, 0, 4, 3, 172]
abbrev dktX0_isIn_0 : List UInt8 := dkwX0_isIn_0 ++ []
theorem dksX0_isIn_0 : cX0_isIn.data.toList.drop 0 = dktX0_isIn_0 := by decide +kernel
theorem dX0_isIn_0 : decode cX0_isIn 0 = .ok (.iload_n 0, 1) := dk_26 (dk_at dksX0_isIn_0 0 rfl rfl)
theorem dX0_isIn_1 : decode cX0_isIn 1 = .ok (.iload_n 1, 1) := dk_27 (dk_at dksX0_isIn_0 1 rfl rfl)
theorem dX0_isIn_2 : decode cX0_isIn 2 = .ok (.if_icmp .lt 12, 3) := dk_161 0 12 (dk_at dksX0_isIn_0 2 rfl rfl)
theorem dX0_isIn_5 : decode cX0_isIn 5 = .ok (.iload_n 0, 1) := dk_26 (dk_at dksX0_isIn_0 5 rfl rfl)
theorem dX0_isIn_6 : decode cX0_isIn 6 = .ok (.iload_n 2, 1) := dk_28 (dk_at dksX0_isIn_0 6 rfl rfl)
theorem dX0_isIn_7 : decode cX0_isIn 7 = .ok (.if_icmp .gt 7, 3) := dk_163 0 7 (dk_at dksX0_isIn_0 7 rfl rfl)
theorem dX0_isIn_10 : decode cX0_isIn 10 = .ok (.iconst 1, 1) := dk_4 (dk_at dksX0_isIn_0 10 rfl rfl)
theorem dX0_isIn_11 : decode cX0_isIn 11 = .ok (.goto 4, 3) := dk_167 0 4 (dk_at dksX0_isIn_0 11 rfl rfl)
theorem dX0_isIn_14 : decode cX0_isIn 14 = .ok (.iconst 0, 1) := dk_3 (dk_at dksX0_isIn_0 14 rfl rfl)
theorem dX0_isIn_15 : decode cX0_isIn 15 = .ok (.ireturn, 1) := dk_172 (dk_at dksX0_isIn_0 15 rfl rfl)
abbrev cX0_fitting : ByteArray := prog_1_method_18_code
def yX0_fitting : MethodName := ⟨RX0, "fitting", "(I)I"⟩
def dkwX0_fitting_1 : List UInt8 := [182, 0, 176, 153, 0, 9, 28, 4, 29, 120, 128, 61, 132, 3, 1, 167, 255, 223, 28, 172]
abbrev dktX0_fitting_1 : List UInt8 := dkwX0_fitting_1 ++ []
def dkwX0_fitting_0 : List UInt8 := [3, 61, 3, 62, 29, 42, 182, 0, 149, 162, 0, 31, 42, 180, 0, 19, 42, 180, 0, 28, 27, 29]
abbrev dktX0_fitting_0 : List UInt8 := dkwX0_fitting_0 ++ dktX0_fitting_1
theorem dksX0_fitting_0 : cX0_fitting.data.toList.drop 0 = dktX0_fitting_0 := by decide +kernel
theorem dksX0_fitting_1 : cX0_fitting.data.toList.drop 22 = dktX0_fitting_1 := dk_seg dksX0_fitting_0 22 rfl rfl
theorem dX0_fitting_0 : decode cX0_fitting 0 = .ok (.iconst 0, 1) := dk_3 (dk_at dksX0_fitting_0 0 rfl rfl)
theorem dX0_fitting_1 : decode cX0_fitting 1 = .ok (.istore_n 2, 1) := dk_61 (dk_at dksX0_fitting_0 1 rfl rfl)
theorem dX0_fitting_2 : decode cX0_fitting 2 = .ok (.iconst 0, 1) := dk_3 (dk_at dksX0_fitting_0 2 rfl rfl)
theorem dX0_fitting_3 : decode cX0_fitting 3 = .ok (.istore_n 3, 1) := dk_62 (dk_at dksX0_fitting_0 3 rfl rfl)
theorem dX0_fitting_4 : decode cX0_fitting 4 = .ok (.iload_n 3, 1) := dk_29 (dk_at dksX0_fitting_0 4 rfl rfl)
theorem dX0_fitting_5 : decode cX0_fitting 5 = .ok (.aload_n 0, 1) := dk_42 (dk_at dksX0_fitting_0 5 rfl rfl)
theorem dX0_fitting_6 : decode cX0_fitting 6 = .ok (.invokevirtual 149, 3) := dk_182 0 149 (dk_at dksX0_fitting_0 6 rfl rfl)
theorem dX0_fitting_9 : decode cX0_fitting 9 = .ok (.if_icmp .ge 31, 3) := dk_162 0 31 (dk_at dksX0_fitting_0 9 rfl rfl)
theorem dX0_fitting_12 : decode cX0_fitting 12 = .ok (.aload_n 0, 1) := dk_42 (dk_at dksX0_fitting_0 12 rfl rfl)
theorem dX0_fitting_13 : decode cX0_fitting 13 = .ok (.getfield 19, 3) := dk_180 0 19 (dk_at dksX0_fitting_0 13 rfl rfl)
theorem dX0_fitting_16 : decode cX0_fitting 16 = .ok (.aload_n 0, 1) := dk_42 (dk_at dksX0_fitting_0 16 rfl rfl)
theorem dX0_fitting_17 : decode cX0_fitting 17 = .ok (.getfield 28, 3) := dk_180 0 28 (dk_at dksX0_fitting_0 17 rfl rfl)
theorem dX0_fitting_20 : decode cX0_fitting 20 = .ok (.iload_n 1, 1) := dk_27 (dk_at dksX0_fitting_0 20 rfl rfl)
theorem dX0_fitting_21 : decode cX0_fitting 21 = .ok (.iload_n 3, 1) := dk_29 (dk_at dksX0_fitting_0 21 rfl rfl)
theorem dX0_fitting_22 : decode cX0_fitting 22 = .ok (.invokevirtual 176, 3) := dk_182 0 176 (dk_at dksX0_fitting_1 0 rfl rfl)
theorem dX0_fitting_25 : decode cX0_fitting 25 = .ok (.ifCond .eq 9, 3) := dk_153 0 9 (dk_at dksX0_fitting_1 3 rfl rfl)
theorem dX0_fitting_28 : decode cX0_fitting 28 = .ok (.iload_n 2, 1) := dk_28 (dk_at dksX0_fitting_1 6 rfl rfl)
theorem dX0_fitting_29 : decode cX0_fitting 29 = .ok (.iconst 1, 1) := dk_4 (dk_at dksX0_fitting_1 7 rfl rfl)
theorem dX0_fitting_30 : decode cX0_fitting 30 = .ok (.iload_n 3, 1) := dk_29 (dk_at dksX0_fitting_1 8 rfl rfl)
theorem dX0_fitting_31 : decode cX0_fitting 31 = .ok (.ishl, 1) := dk_120 (dk_at dksX0_fitting_1 9 rfl rfl)
theorem dX0_fitting_32 : decode cX0_fitting 32 = .ok (.ior, 1) := dk_128 (dk_at dksX0_fitting_1 10 rfl rfl)
theorem dX0_fitting_33 : decode cX0_fitting 33 = .ok (.istore_n 2, 1) := dk_61 (dk_at dksX0_fitting_1 11 rfl rfl)
theorem dX0_fitting_34 : decode cX0_fitting 34 = .ok (.iinc 3 1, 3) := dk_132 3 1 (dk_at dksX0_fitting_1 12 rfl rfl)
theorem dX0_fitting_37 : decode cX0_fitting 37 = .ok (.goto (-33), 3) := dk_167 255 223 (dk_at dksX0_fitting_1 15 rfl rfl)
theorem dX0_fitting_40 : decode cX0_fitting 40 = .ok (.iload_n 2, 1) := dk_28 (dk_at dksX0_fitting_1 18 rfl rfl)
theorem dX0_fitting_41 : decode cX0_fitting 41 = .ok (.ireturn, 1) := dk_172 (dk_at dksX0_fitting_1 19 rfl rfl)
abbrev cX0_coats : ByteArray := prog_1_method_10_code
def yX0_coats : MethodName := ⟨RX0, "coats", "()I"⟩
def dkwX0_coats_0 : List UInt8 := [42, 180, 0, 19, 180, 0, 140, 182, 0, 121, 172]
abbrev dktX0_coats_0 : List UInt8 := dkwX0_coats_0 ++ []
theorem dksX0_coats_0 : cX0_coats.data.toList.drop 0 = dktX0_coats_0 := by decide +kernel
theorem dX0_coats_0 : decode cX0_coats 0 = .ok (.aload_n 0, 1) := dk_42 (dk_at dksX0_coats_0 0 rfl rfl)
theorem dX0_coats_1 : decode cX0_coats 1 = .ok (.getfield 19, 3) := dk_180 0 19 (dk_at dksX0_coats_0 1 rfl rfl)
theorem dX0_coats_4 : decode cX0_coats 4 = .ok (.getfield 140, 3) := dk_180 0 140 (dk_at dksX0_coats_0 4 rfl rfl)
theorem dX0_coats_7 : decode cX0_coats 7 = .ok (.invokevirtual 121, 3) := dk_182 0 121 (dk_at dksX0_coats_0 7 rfl rfl)
theorem dX0_coats_10 : decode cX0_coats 10 = .ok (.ireturn, 1) := dk_172 (dk_at dksX0_coats_0 10 rfl rfl)
abbrev cX0_within : ByteArray := prog_1_method_2_code
def yX0_within : MethodName := ⟨RX0, "within", "(II)I"⟩
def dkwX0_within_0 : List UInt8 := [3, 27, 26, 184, 0, 1, 184, 0, 7, 172]
abbrev dktX0_within_0 : List UInt8 := dkwX0_within_0 ++ []
theorem dksX0_within_0 : cX0_within.data.toList.drop 0 = dktX0_within_0 := by decide +kernel
theorem dX0_within_0 : decode cX0_within 0 = .ok (.iconst 0, 1) := dk_3 (dk_at dksX0_within_0 0 rfl rfl)
theorem dX0_within_1 : decode cX0_within 1 = .ok (.iload_n 1, 1) := dk_27 (dk_at dksX0_within_0 1 rfl rfl)
theorem dX0_within_2 : decode cX0_within 2 = .ok (.iload_n 0, 1) := dk_26 (dk_at dksX0_within_0 2 rfl rfl)
theorem dX0_within_3 : decode cX0_within 3 = .ok (.invokestatic 1, 3) := dk_184 0 1 (dk_at dksX0_within_0 3 rfl rfl)
theorem dX0_within_6 : decode cX0_within 6 = .ok (.invokestatic 7, 3) := dk_184 0 7 (dk_at dksX0_within_0 6 rfl rfl)
theorem dX0_within_9 : decode cX0_within 9 = .ok (.ireturn, 1) := dk_172 (dk_at dksX0_within_0 9 rfl rfl)
abbrev cX0_coat : ByteArray := prog_1_method_20_code
def yX0_coat : MethodName := ⟨RX0, "coat", "(II)I"⟩
def dkwX0_coat_4 : List UInt8 := [122, 4, 126, 172, 42, 180, 0, 28, 27, 182, 0, 222, 172, 16, 254, 172]
abbrev dktX0_coat_4 : List UInt8 := dkwX0_coat_4 ++ []
def dkwX0_coat_3 : List UInt8 := [180, 0, 213, 27, 46, 172, 42, 180, 0, 28, 180, 0, 216, 27, 46, 172, 42, 180, 0, 28, 180, 0, 219, 27]
abbrev dktX0_coat_3 : List UInt8 := dkwX0_coat_3 ++ dktX0_coat_4
def dkwX0_coat_2 : List UInt8 := [42, 180, 0, 28, 180, 0, 208, 27, 46, 172, 42, 180, 0, 28, 180, 0, 210, 27, 46, 172, 42, 180, 0, 28]
abbrev dktX0_coat_2 : List UInt8 := dkwX0_coat_2 ++ dktX0_coat_3
def dkwX0_coat_1 : List UInt8 := [170, 0, 0, 0, 0, 0, 0, 101, 0, 0, 0, 0, 0, 0, 0, 5, 0, 0, 0, 40, 0, 0, 0, 50, 0, 0, 0, 60, 0, 0, 0, 70, 0, 0, 0, 80, 0, 0, 0, 92]
abbrev dktX0_coat_1 : List UInt8 := dkwX0_coat_1 ++ dktX0_coat_2
def dkwX0_coat_0 : List UInt8 := [42, 27, 182, 0, 205, 154, 0, 6, 16, 254, 172, 28]
abbrev dktX0_coat_0 : List UInt8 := dkwX0_coat_0 ++ dktX0_coat_1
theorem dksX0_coat_0 : cX0_coat.data.toList.drop 0 = dktX0_coat_0 := by decide +kernel
theorem dksX0_coat_1 : cX0_coat.data.toList.drop 12 = dktX0_coat_1 := dk_seg dksX0_coat_0 12 rfl rfl
theorem dksX0_coat_2 : cX0_coat.data.toList.drop 52 = dktX0_coat_2 := dk_seg dksX0_coat_1 40 rfl rfl
theorem dksX0_coat_3 : cX0_coat.data.toList.drop 76 = dktX0_coat_3 := dk_seg dksX0_coat_2 24 rfl rfl
theorem dksX0_coat_4 : cX0_coat.data.toList.drop 100 = dktX0_coat_4 := dk_seg dksX0_coat_3 24 rfl rfl
theorem dX0_coat_0 : decode cX0_coat 0 = .ok (.aload_n 0, 1) := dk_42 (dk_at dksX0_coat_0 0 rfl rfl)
theorem dX0_coat_1 : decode cX0_coat 1 = .ok (.iload_n 1, 1) := dk_27 (dk_at dksX0_coat_0 1 rfl rfl)
theorem dX0_coat_2 : decode cX0_coat 2 = .ok (.invokevirtual 205, 3) := dk_182 0 205 (dk_at dksX0_coat_0 2 rfl rfl)
theorem dX0_coat_5 : decode cX0_coat 5 = .ok (.ifCond .ne 6, 3) := dk_154 0 6 (dk_at dksX0_coat_0 5 rfl rfl)
theorem dX0_coat_8 : decode cX0_coat 8 = .ok (.bipush (-2), 2) := dk_16 254 (dk_at dksX0_coat_0 8 rfl rfl)
theorem dX0_coat_10 : decode cX0_coat 10 = .ok (.ireturn, 1) := dk_172 (dk_at dksX0_coat_0 10 rfl rfl)
theorem dX0_coat_11 : decode cX0_coat 11 = .ok (.iload_n 2, 1) := dk_28 (dk_at dksX0_coat_0 11 rfl rfl)
theorem dX0_coat_12 : decode cX0_coat 12 = .ok (.tableswitch 101 0 5 #[40, 50, 60, 70, 80, 92], 40) := by decide +kernel
theorem dX0_coat_52 : decode cX0_coat 52 = .ok (.aload_n 0, 1) := dk_42 (dk_at dksX0_coat_2 0 rfl rfl)
theorem dX0_coat_53 : decode cX0_coat 53 = .ok (.getfield 28, 3) := dk_180 0 28 (dk_at dksX0_coat_2 1 rfl rfl)
theorem dX0_coat_56 : decode cX0_coat 56 = .ok (.getfield 208, 3) := dk_180 0 208 (dk_at dksX0_coat_2 4 rfl rfl)
theorem dX0_coat_59 : decode cX0_coat 59 = .ok (.iload_n 1, 1) := dk_27 (dk_at dksX0_coat_2 7 rfl rfl)
theorem dX0_coat_60 : decode cX0_coat 60 = .ok (.iaload, 1) := dk_46 (dk_at dksX0_coat_2 8 rfl rfl)
theorem dX0_coat_61 : decode cX0_coat 61 = .ok (.ireturn, 1) := dk_172 (dk_at dksX0_coat_2 9 rfl rfl)
theorem dX0_coat_62 : decode cX0_coat 62 = .ok (.aload_n 0, 1) := dk_42 (dk_at dksX0_coat_2 10 rfl rfl)
theorem dX0_coat_63 : decode cX0_coat 63 = .ok (.getfield 28, 3) := dk_180 0 28 (dk_at dksX0_coat_2 11 rfl rfl)
theorem dX0_coat_66 : decode cX0_coat 66 = .ok (.getfield 210, 3) := dk_180 0 210 (dk_at dksX0_coat_2 14 rfl rfl)
theorem dX0_coat_69 : decode cX0_coat 69 = .ok (.iload_n 1, 1) := dk_27 (dk_at dksX0_coat_2 17 rfl rfl)
theorem dX0_coat_70 : decode cX0_coat 70 = .ok (.iaload, 1) := dk_46 (dk_at dksX0_coat_2 18 rfl rfl)
theorem dX0_coat_71 : decode cX0_coat 71 = .ok (.ireturn, 1) := dk_172 (dk_at dksX0_coat_2 19 rfl rfl)
theorem dX0_coat_72 : decode cX0_coat 72 = .ok (.aload_n 0, 1) := dk_42 (dk_at dksX0_coat_2 20 rfl rfl)
theorem dX0_coat_73 : decode cX0_coat 73 = .ok (.getfield 28, 3) := dk_180 0 28 (dk_at dksX0_coat_2 21 rfl rfl)
theorem dX0_coat_76 : decode cX0_coat 76 = .ok (.getfield 213, 3) := dk_180 0 213 (dk_at dksX0_coat_3 0 rfl rfl)
theorem dX0_coat_79 : decode cX0_coat 79 = .ok (.iload_n 1, 1) := dk_27 (dk_at dksX0_coat_3 3 rfl rfl)
theorem dX0_coat_80 : decode cX0_coat 80 = .ok (.iaload, 1) := dk_46 (dk_at dksX0_coat_3 4 rfl rfl)
theorem dX0_coat_81 : decode cX0_coat 81 = .ok (.ireturn, 1) := dk_172 (dk_at dksX0_coat_3 5 rfl rfl)
theorem dX0_coat_82 : decode cX0_coat 82 = .ok (.aload_n 0, 1) := dk_42 (dk_at dksX0_coat_3 6 rfl rfl)
theorem dX0_coat_83 : decode cX0_coat 83 = .ok (.getfield 28, 3) := dk_180 0 28 (dk_at dksX0_coat_3 7 rfl rfl)
theorem dX0_coat_86 : decode cX0_coat 86 = .ok (.getfield 216, 3) := dk_180 0 216 (dk_at dksX0_coat_3 10 rfl rfl)
theorem dX0_coat_89 : decode cX0_coat 89 = .ok (.iload_n 1, 1) := dk_27 (dk_at dksX0_coat_3 13 rfl rfl)
theorem dX0_coat_90 : decode cX0_coat 90 = .ok (.iaload, 1) := dk_46 (dk_at dksX0_coat_3 14 rfl rfl)
theorem dX0_coat_91 : decode cX0_coat 91 = .ok (.ireturn, 1) := dk_172 (dk_at dksX0_coat_3 15 rfl rfl)
theorem dX0_coat_92 : decode cX0_coat 92 = .ok (.aload_n 0, 1) := dk_42 (dk_at dksX0_coat_3 16 rfl rfl)
theorem dX0_coat_93 : decode cX0_coat 93 = .ok (.getfield 28, 3) := dk_180 0 28 (dk_at dksX0_coat_3 17 rfl rfl)
theorem dX0_coat_96 : decode cX0_coat 96 = .ok (.getfield 219, 3) := dk_180 0 219 (dk_at dksX0_coat_3 20 rfl rfl)
theorem dX0_coat_99 : decode cX0_coat 99 = .ok (.iload_n 1, 1) := dk_27 (dk_at dksX0_coat_3 23 rfl rfl)
theorem dX0_coat_100 : decode cX0_coat 100 = .ok (.ishr, 1) := dk_122 (dk_at dksX0_coat_4 0 rfl rfl)
theorem dX0_coat_101 : decode cX0_coat 101 = .ok (.iconst 1, 1) := dk_4 (dk_at dksX0_coat_4 1 rfl rfl)
theorem dX0_coat_102 : decode cX0_coat 102 = .ok (.iand, 1) := dk_126 (dk_at dksX0_coat_4 2 rfl rfl)
theorem dX0_coat_103 : decode cX0_coat 103 = .ok (.ireturn, 1) := dk_172 (dk_at dksX0_coat_4 3 rfl rfl)
theorem dX0_coat_104 : decode cX0_coat 104 = .ok (.aload_n 0, 1) := dk_42 (dk_at dksX0_coat_4 4 rfl rfl)
theorem dX0_coat_105 : decode cX0_coat 105 = .ok (.getfield 28, 3) := dk_180 0 28 (dk_at dksX0_coat_4 5 rfl rfl)
theorem dX0_coat_108 : decode cX0_coat 108 = .ok (.iload_n 1, 1) := dk_27 (dk_at dksX0_coat_4 8 rfl rfl)
theorem dX0_coat_109 : decode cX0_coat 109 = .ok (.invokevirtual 222, 3) := dk_182 0 222 (dk_at dksX0_coat_4 9 rfl rfl)
theorem dX0_coat_112 : decode cX0_coat 112 = .ok (.ireturn, 1) := dk_172 (dk_at dksX0_coat_4 12 rfl rfl)
theorem dX0_coat_113 : decode cX0_coat 113 = .ok (.bipush (-2), 2) := dk_16 254 (dk_at dksX0_coat_4 13 rfl rfl)
theorem dX0_coat_115 : decode cX0_coat 115 = .ok (.ireturn, 1) := dk_172 (dk_at dksX0_coat_4 15 rfl rfl)
abbrev cX0_isCoat : ByteArray := prog_1_method_12_code
def yX0_isCoat : MethodName := ⟨RX0, "isCoat", "(I)Z"⟩
def dkwX0_isCoat_0 : List UInt8 := [27, 3, 42, 182, 0, 149, 4, 100, 184, 0, 145, 172]
abbrev dktX0_isCoat_0 : List UInt8 := dkwX0_isCoat_0 ++ []
theorem dksX0_isCoat_0 : cX0_isCoat.data.toList.drop 0 = dktX0_isCoat_0 := by decide +kernel
theorem dX0_isCoat_0 : decode cX0_isCoat 0 = .ok (.iload_n 1, 1) := dk_27 (dk_at dksX0_isCoat_0 0 rfl rfl)
theorem dX0_isCoat_1 : decode cX0_isCoat 1 = .ok (.iconst 0, 1) := dk_3 (dk_at dksX0_isCoat_0 1 rfl rfl)
theorem dX0_isCoat_2 : decode cX0_isCoat 2 = .ok (.aload_n 0, 1) := dk_42 (dk_at dksX0_isCoat_0 2 rfl rfl)
theorem dX0_isCoat_3 : decode cX0_isCoat 3 = .ok (.invokevirtual 149, 3) := dk_182 0 149 (dk_at dksX0_isCoat_0 3 rfl rfl)
theorem dX0_isCoat_6 : decode cX0_isCoat 6 = .ok (.iconst 1, 1) := dk_4 (dk_at dksX0_isCoat_0 6 rfl rfl)
theorem dX0_isCoat_7 : decode cX0_isCoat 7 = .ok (.isub, 1) := dk_100 (dk_at dksX0_isCoat_0 7 rfl rfl)
theorem dX0_isCoat_8 : decode cX0_isCoat 8 = .ok (.invokestatic 145, 3) := dk_184 0 145 (dk_at dksX0_isCoat_0 8 rfl rfl)
theorem dX0_isCoat_11 : decode cX0_isCoat 11 = .ok (.ireturn, 1) := dk_172 (dk_at dksX0_isCoat_0 11 rfl rfl)
abbrev cX0_misfit : ByteArray := prog_1_method_21_code
def yX0_misfit : MethodName := ⟨RX0, "misfit", "(II)I"⟩
def dkwX0_misfit_1 : List UInt8 := [27, 28, 182, 0, 225, 167, 0, 4, 2, 172]
abbrev dktX0_misfit_1 : List UInt8 := dkwX0_misfit_1 ++ []
def dkwX0_misfit_0 : List UInt8 := [42, 27, 182, 0, 180, 153, 0, 27, 42, 28, 182, 0, 205, 153, 0, 19, 42, 180, 0, 19, 42, 180, 0, 28]
abbrev dktX0_misfit_0 : List UInt8 := dkwX0_misfit_0 ++ dktX0_misfit_1
theorem dksX0_misfit_0 : cX0_misfit.data.toList.drop 0 = dktX0_misfit_0 := by decide +kernel
theorem dksX0_misfit_1 : cX0_misfit.data.toList.drop 24 = dktX0_misfit_1 := dk_seg dksX0_misfit_0 24 rfl rfl
theorem dX0_misfit_0 : decode cX0_misfit 0 = .ok (.aload_n 0, 1) := dk_42 (dk_at dksX0_misfit_0 0 rfl rfl)
theorem dX0_misfit_1 : decode cX0_misfit 1 = .ok (.iload_n 1, 1) := dk_27 (dk_at dksX0_misfit_0 1 rfl rfl)
theorem dX0_misfit_2 : decode cX0_misfit 2 = .ok (.invokevirtual 180, 3) := dk_182 0 180 (dk_at dksX0_misfit_0 2 rfl rfl)
theorem dX0_misfit_5 : decode cX0_misfit 5 = .ok (.ifCond .eq 27, 3) := dk_153 0 27 (dk_at dksX0_misfit_0 5 rfl rfl)
theorem dX0_misfit_8 : decode cX0_misfit 8 = .ok (.aload_n 0, 1) := dk_42 (dk_at dksX0_misfit_0 8 rfl rfl)
theorem dX0_misfit_9 : decode cX0_misfit 9 = .ok (.iload_n 2, 1) := dk_28 (dk_at dksX0_misfit_0 9 rfl rfl)
theorem dX0_misfit_10 : decode cX0_misfit 10 = .ok (.invokevirtual 205, 3) := dk_182 0 205 (dk_at dksX0_misfit_0 10 rfl rfl)
theorem dX0_misfit_13 : decode cX0_misfit 13 = .ok (.ifCond .eq 19, 3) := dk_153 0 19 (dk_at dksX0_misfit_0 13 rfl rfl)
theorem dX0_misfit_16 : decode cX0_misfit 16 = .ok (.aload_n 0, 1) := dk_42 (dk_at dksX0_misfit_0 16 rfl rfl)
theorem dX0_misfit_17 : decode cX0_misfit 17 = .ok (.getfield 19, 3) := dk_180 0 19 (dk_at dksX0_misfit_0 17 rfl rfl)
theorem dX0_misfit_20 : decode cX0_misfit 20 = .ok (.aload_n 0, 1) := dk_42 (dk_at dksX0_misfit_0 20 rfl rfl)
theorem dX0_misfit_21 : decode cX0_misfit 21 = .ok (.getfield 28, 3) := dk_180 0 28 (dk_at dksX0_misfit_0 21 rfl rfl)
theorem dX0_misfit_24 : decode cX0_misfit 24 = .ok (.iload_n 1, 1) := dk_27 (dk_at dksX0_misfit_1 0 rfl rfl)
theorem dX0_misfit_25 : decode cX0_misfit 25 = .ok (.iload_n 2, 1) := dk_28 (dk_at dksX0_misfit_1 1 rfl rfl)
theorem dX0_misfit_26 : decode cX0_misfit 26 = .ok (.invokevirtual 225, 3) := dk_182 0 225 (dk_at dksX0_misfit_1 2 rfl rfl)
theorem dX0_misfit_29 : decode cX0_misfit 29 = .ok (.goto 4, 3) := dk_167 0 4 (dk_at dksX0_misfit_1 5 rfl rfl)
theorem dX0_misfit_32 : decode cX0_misfit 32 = .ok (.iconst (-1), 1) := dk_2 (dk_at dksX0_misfit_1 8 rfl rfl)
theorem dX0_misfit_33 : decode cX0_misfit 33 = .ok (.ireturn, 1) := dk_172 (dk_at dksX0_misfit_1 9 rfl rfl)
abbrev cX0_day : ByteArray := prog_1_method_22_code
def yX0_day : MethodName := ⟨RX0, "day", "()I"⟩
def dkwX0_day_1 : List UInt8 := [180, 0, 19, 182, 0, 235, 172]
abbrev dktX0_day_1 : List UInt8 := dkwX0_day_1 ++ []
def dkwX0_day_0 : List UInt8 := [42, 180, 0, 28, 180, 0, 229, 17, 3, 231, 160, 0, 5, 2, 172, 42, 182, 0, 232, 42, 180, 0, 28, 42]
abbrev dktX0_day_0 : List UInt8 := dkwX0_day_0 ++ dktX0_day_1
theorem dksX0_day_0 : cX0_day.data.toList.drop 0 = dktX0_day_0 := by decide +kernel
theorem dksX0_day_1 : cX0_day.data.toList.drop 24 = dktX0_day_1 := dk_seg dksX0_day_0 24 rfl rfl
theorem dX0_day_0 : decode cX0_day 0 = .ok (.aload_n 0, 1) := dk_42 (dk_at dksX0_day_0 0 rfl rfl)
theorem dX0_day_1 : decode cX0_day 1 = .ok (.getfield 28, 3) := dk_180 0 28 (dk_at dksX0_day_0 1 rfl rfl)
theorem dX0_day_4 : decode cX0_day 4 = .ok (.getfield 229, 3) := dk_180 0 229 (dk_at dksX0_day_0 4 rfl rfl)
theorem dX0_day_7 : decode cX0_day 7 = .ok (.sipush 999, 3) := dk_17 3 231 (dk_at dksX0_day_0 7 rfl rfl)
theorem dX0_day_10 : decode cX0_day 10 = .ok (.if_icmp .ne 5, 3) := dk_160 0 5 (dk_at dksX0_day_0 10 rfl rfl)
theorem dX0_day_13 : decode cX0_day 13 = .ok (.iconst (-1), 1) := dk_2 (dk_at dksX0_day_0 13 rfl rfl)
theorem dX0_day_14 : decode cX0_day 14 = .ok (.ireturn, 1) := dk_172 (dk_at dksX0_day_0 14 rfl rfl)
theorem dX0_day_15 : decode cX0_day 15 = .ok (.aload_n 0, 1) := dk_42 (dk_at dksX0_day_0 15 rfl rfl)
theorem dX0_day_16 : decode cX0_day 16 = .ok (.invokevirtual 232, 3) := dk_182 0 232 (dk_at dksX0_day_0 16 rfl rfl)
theorem dX0_day_19 : decode cX0_day 19 = .ok (.aload_n 0, 1) := dk_42 (dk_at dksX0_day_0 19 rfl rfl)
theorem dX0_day_20 : decode cX0_day 20 = .ok (.getfield 28, 3) := dk_180 0 28 (dk_at dksX0_day_0 20 rfl rfl)
theorem dX0_day_23 : decode cX0_day 23 = .ok (.aload_n 0, 1) := dk_42 (dk_at dksX0_day_0 23 rfl rfl)
theorem dX0_day_24 : decode cX0_day 24 = .ok (.getfield 19, 3) := dk_180 0 19 (dk_at dksX0_day_1 0 rfl rfl)
theorem dX0_day_27 : decode cX0_day 27 = .ok (.invokevirtual 235, 3) := dk_182 0 235 (dk_at dksX0_day_1 3 rfl rfl)
theorem dX0_day_30 : decode cX0_day 30 = .ok (.ireturn, 1) := dk_172 (dk_at dksX0_day_1 6 rfl rfl)
abbrev cX0_keepAct : ByteArray := prog_1_method_7_code
def yX0_keepAct : MethodName := ⟨RX0, "keepAct", "()V"⟩
def dkwX0_keepAct_2 : List UInt8 := [180, 0, 57, 182, 0, 109, 177]
abbrev dktX0_keepAct_2 : List UInt8 := dkwX0_keepAct_2 ++ []
def dkwX0_keepAct_1 : List UInt8 := [180, 0, 53, 187, 0, 93, 89, 42, 180, 0, 28, 184, 0, 129, 183, 0, 95, 182, 0, 133, 87, 42]
abbrev dktX0_keepAct_1 : List UInt8 := dkwX0_keepAct_1 ++ dktX0_keepAct_2
def dkwX0_keepAct_0 : List UInt8 := [42, 180, 0, 53, 182, 0, 121, 16, 40, 160, 0, 12, 42, 180, 0, 53, 3, 182, 0, 125, 87, 42]
abbrev dktX0_keepAct_0 : List UInt8 := dkwX0_keepAct_0 ++ dktX0_keepAct_1
theorem dksX0_keepAct_0 : cX0_keepAct.data.toList.drop 0 = dktX0_keepAct_0 := by decide +kernel
theorem dksX0_keepAct_1 : cX0_keepAct.data.toList.drop 22 = dktX0_keepAct_1 := dk_seg dksX0_keepAct_0 22 rfl rfl
theorem dksX0_keepAct_2 : cX0_keepAct.data.toList.drop 44 = dktX0_keepAct_2 := dk_seg dksX0_keepAct_1 22 rfl rfl
theorem dX0_keepAct_0 : decode cX0_keepAct 0 = .ok (.aload_n 0, 1) := dk_42 (dk_at dksX0_keepAct_0 0 rfl rfl)
theorem dX0_keepAct_1 : decode cX0_keepAct 1 = .ok (.getfield 53, 3) := dk_180 0 53 (dk_at dksX0_keepAct_0 1 rfl rfl)
theorem dX0_keepAct_4 : decode cX0_keepAct 4 = .ok (.invokevirtual 121, 3) := dk_182 0 121 (dk_at dksX0_keepAct_0 4 rfl rfl)
theorem dX0_keepAct_7 : decode cX0_keepAct 7 = .ok (.bipush 40, 2) := dk_16 40 (dk_at dksX0_keepAct_0 7 rfl rfl)
theorem dX0_keepAct_9 : decode cX0_keepAct 9 = .ok (.if_icmp .ne 12, 3) := dk_160 0 12 (dk_at dksX0_keepAct_0 9 rfl rfl)
theorem dX0_keepAct_12 : decode cX0_keepAct 12 = .ok (.aload_n 0, 1) := dk_42 (dk_at dksX0_keepAct_0 12 rfl rfl)
theorem dX0_keepAct_13 : decode cX0_keepAct 13 = .ok (.getfield 53, 3) := dk_180 0 53 (dk_at dksX0_keepAct_0 13 rfl rfl)
theorem dX0_keepAct_16 : decode cX0_keepAct 16 = .ok (.iconst 0, 1) := dk_3 (dk_at dksX0_keepAct_0 16 rfl rfl)
theorem dX0_keepAct_17 : decode cX0_keepAct 17 = .ok (.invokevirtual 125, 3) := dk_182 0 125 (dk_at dksX0_keepAct_0 17 rfl rfl)
theorem dX0_keepAct_20 : decode cX0_keepAct 20 = .ok (.pop, 1) := dk_87 (dk_at dksX0_keepAct_0 20 rfl rfl)
theorem dX0_keepAct_21 : decode cX0_keepAct 21 = .ok (.aload_n 0, 1) := dk_42 (dk_at dksX0_keepAct_0 21 rfl rfl)
theorem dX0_keepAct_22 : decode cX0_keepAct 22 = .ok (.getfield 53, 3) := dk_180 0 53 (dk_at dksX0_keepAct_1 0 rfl rfl)
theorem dX0_keepAct_25 : decode cX0_keepAct 25 = .ok (.new 93, 3) := dk_187 0 93 (dk_at dksX0_keepAct_1 3 rfl rfl)
theorem dX0_keepAct_28 : decode cX0_keepAct 28 = .ok (.dup, 1) := dk_89 (dk_at dksX0_keepAct_1 6 rfl rfl)
theorem dX0_keepAct_29 : decode cX0_keepAct 29 = .ok (.aload_n 0, 1) := dk_42 (dk_at dksX0_keepAct_1 7 rfl rfl)
theorem dX0_keepAct_30 : decode cX0_keepAct 30 = .ok (.getfield 28, 3) := dk_180 0 28 (dk_at dksX0_keepAct_1 8 rfl rfl)
theorem dX0_keepAct_33 : decode cX0_keepAct 33 = .ok (.invokestatic 129, 3) := dk_184 0 129 (dk_at dksX0_keepAct_1 11 rfl rfl)
theorem dX0_keepAct_36 : decode cX0_keepAct 36 = .ok (.invokespecial 95, 3) := dk_183 0 95 (dk_at dksX0_keepAct_1 14 rfl rfl)
theorem dX0_keepAct_39 : decode cX0_keepAct 39 = .ok (.invokevirtual 133, 3) := dk_182 0 133 (dk_at dksX0_keepAct_1 17 rfl rfl)
theorem dX0_keepAct_42 : decode cX0_keepAct 42 = .ok (.pop, 1) := dk_87 (dk_at dksX0_keepAct_1 20 rfl rfl)
theorem dX0_keepAct_43 : decode cX0_keepAct 43 = .ok (.aload_n 0, 1) := dk_42 (dk_at dksX0_keepAct_1 21 rfl rfl)
theorem dX0_keepAct_44 : decode cX0_keepAct 44 = .ok (.getfield 57, 3) := dk_180 0 57 (dk_at dksX0_keepAct_2 0 rfl rfl)
theorem dX0_keepAct_47 : decode cX0_keepAct 47 = .ok (.invokevirtual 109, 3) := dk_182 0 109 (dk_at dksX0_keepAct_2 3 rfl rfl)
theorem dX0_keepAct_50 : decode cX0_keepAct 50 = .ok (.return_, 1) := dk_177 (dk_at dksX0_keepAct_2 6 rfl rfl)
abbrev cX0_copy : ByteArray := prog_1_method_6_code
def yX0_copy : MethodName := ⟨RX0, "copy", "(LTailorRegiment$State;)LTailorRegiment$State;"⟩
def dkwX0_copy_0 : List UInt8 := [187, 0, 25, 89, 183, 0, 27, 76, 43, 42, 182, 0, 118, 43, 176]
abbrev dktX0_copy_0 : List UInt8 := dkwX0_copy_0 ++ []
theorem dksX0_copy_0 : cX0_copy.data.toList.drop 0 = dktX0_copy_0 := by decide +kernel
theorem dX0_copy_0 : decode cX0_copy 0 = .ok (.new 25, 3) := dk_187 0 25 (dk_at dksX0_copy_0 0 rfl rfl)
theorem dX0_copy_3 : decode cX0_copy 3 = .ok (.dup, 1) := dk_89 (dk_at dksX0_copy_0 3 rfl rfl)
theorem dX0_copy_4 : decode cX0_copy 4 = .ok (.invokespecial 27, 3) := dk_183 0 27 (dk_at dksX0_copy_0 4 rfl rfl)
theorem dX0_copy_7 : decode cX0_copy 7 = .ok (.astore_n 1, 1) := dk_76 (dk_at dksX0_copy_0 7 rfl rfl)
theorem dX0_copy_8 : decode cX0_copy 8 = .ok (.aload_n 1, 1) := dk_43 (dk_at dksX0_copy_0 8 rfl rfl)
theorem dX0_copy_9 : decode cX0_copy 9 = .ok (.aload_n 0, 1) := dk_42 (dk_at dksX0_copy_0 9 rfl rfl)
theorem dX0_copy_10 : decode cX0_copy 10 = .ok (.invokevirtual 118, 3) := dk_182 0 118 (dk_at dksX0_copy_0 10 rfl rfl)
theorem dX0_copy_13 : decode cX0_copy 13 = .ok (.aload_n 1, 1) := dk_43 (dk_at dksX0_copy_0 13 rfl rfl)
theorem dX0_copy_14 : decode cX0_copy 14 = .ok (.areturn, 1) := dk_176 (dk_at dksX0_copy_0 14 rfl rfl)
abbrev cX0_don : ByteArray := prog_1_method_23_code
def yX0_don : MethodName := ⟨RX0, "don", "(II)I"⟩
def dkwX0_don_2 : List UInt8 := [180, 0, 198, 27, 28, 79, 29, 172]
abbrev dktX0_don_2 : List UInt8 := dkwX0_don_2 ++ []
def dkwX0_don_1 : List UInt8 := [155, 0, 6, 16, 254, 172, 42, 182, 0, 232, 42, 180, 0, 28, 180, 0, 198, 27, 46, 62, 42, 180, 0, 28]
abbrev dktX0_don_1 : List UInt8 := dkwX0_don_1 ++ dktX0_don_2
def dkwX0_don_0 : List UInt8 := [42, 27, 182, 0, 180, 153, 0, 22, 42, 28, 182, 0, 205, 153, 0, 14, 42, 180, 0, 28, 28, 182, 0, 222]
abbrev dktX0_don_0 : List UInt8 := dkwX0_don_0 ++ dktX0_don_1
theorem dksX0_don_0 : cX0_don.data.toList.drop 0 = dktX0_don_0 := by decide +kernel
theorem dksX0_don_1 : cX0_don.data.toList.drop 24 = dktX0_don_1 := dk_seg dksX0_don_0 24 rfl rfl
theorem dksX0_don_2 : cX0_don.data.toList.drop 48 = dktX0_don_2 := dk_seg dksX0_don_1 24 rfl rfl
theorem dX0_don_0 : decode cX0_don 0 = .ok (.aload_n 0, 1) := dk_42 (dk_at dksX0_don_0 0 rfl rfl)
theorem dX0_don_1 : decode cX0_don 1 = .ok (.iload_n 1, 1) := dk_27 (dk_at dksX0_don_0 1 rfl rfl)
theorem dX0_don_2 : decode cX0_don 2 = .ok (.invokevirtual 180, 3) := dk_182 0 180 (dk_at dksX0_don_0 2 rfl rfl)
theorem dX0_don_5 : decode cX0_don 5 = .ok (.ifCond .eq 22, 3) := dk_153 0 22 (dk_at dksX0_don_0 5 rfl rfl)
theorem dX0_don_8 : decode cX0_don 8 = .ok (.aload_n 0, 1) := dk_42 (dk_at dksX0_don_0 8 rfl rfl)
theorem dX0_don_9 : decode cX0_don 9 = .ok (.iload_n 2, 1) := dk_28 (dk_at dksX0_don_0 9 rfl rfl)
theorem dX0_don_10 : decode cX0_don 10 = .ok (.invokevirtual 205, 3) := dk_182 0 205 (dk_at dksX0_don_0 10 rfl rfl)
theorem dX0_don_13 : decode cX0_don 13 = .ok (.ifCond .eq 14, 3) := dk_153 0 14 (dk_at dksX0_don_0 13 rfl rfl)
theorem dX0_don_16 : decode cX0_don 16 = .ok (.aload_n 0, 1) := dk_42 (dk_at dksX0_don_0 16 rfl rfl)
theorem dX0_don_17 : decode cX0_don 17 = .ok (.getfield 28, 3) := dk_180 0 28 (dk_at dksX0_don_0 17 rfl rfl)
theorem dX0_don_20 : decode cX0_don 20 = .ok (.iload_n 2, 1) := dk_28 (dk_at dksX0_don_0 20 rfl rfl)
theorem dX0_don_21 : decode cX0_don 21 = .ok (.invokevirtual 222, 3) := dk_182 0 222 (dk_at dksX0_don_0 21 rfl rfl)
theorem dX0_don_24 : decode cX0_don 24 = .ok (.ifCond .lt 6, 3) := dk_155 0 6 (dk_at dksX0_don_1 0 rfl rfl)
theorem dX0_don_27 : decode cX0_don 27 = .ok (.bipush (-2), 2) := dk_16 254 (dk_at dksX0_don_1 3 rfl rfl)
theorem dX0_don_29 : decode cX0_don 29 = .ok (.ireturn, 1) := dk_172 (dk_at dksX0_don_1 5 rfl rfl)
theorem dX0_don_30 : decode cX0_don 30 = .ok (.aload_n 0, 1) := dk_42 (dk_at dksX0_don_1 6 rfl rfl)
theorem dX0_don_31 : decode cX0_don 31 = .ok (.invokevirtual 232, 3) := dk_182 0 232 (dk_at dksX0_don_1 7 rfl rfl)
theorem dX0_don_34 : decode cX0_don 34 = .ok (.aload_n 0, 1) := dk_42 (dk_at dksX0_don_1 10 rfl rfl)
theorem dX0_don_35 : decode cX0_don 35 = .ok (.getfield 28, 3) := dk_180 0 28 (dk_at dksX0_don_1 11 rfl rfl)
theorem dX0_don_38 : decode cX0_don 38 = .ok (.getfield 198, 3) := dk_180 0 198 (dk_at dksX0_don_1 14 rfl rfl)
theorem dX0_don_41 : decode cX0_don 41 = .ok (.iload_n 1, 1) := dk_27 (dk_at dksX0_don_1 17 rfl rfl)
theorem dX0_don_42 : decode cX0_don 42 = .ok (.iaload, 1) := dk_46 (dk_at dksX0_don_1 18 rfl rfl)
theorem dX0_don_43 : decode cX0_don 43 = .ok (.istore_n 3, 1) := dk_62 (dk_at dksX0_don_1 19 rfl rfl)
theorem dX0_don_44 : decode cX0_don 44 = .ok (.aload_n 0, 1) := dk_42 (dk_at dksX0_don_1 20 rfl rfl)
theorem dX0_don_45 : decode cX0_don 45 = .ok (.getfield 28, 3) := dk_180 0 28 (dk_at dksX0_don_1 21 rfl rfl)
theorem dX0_don_48 : decode cX0_don 48 = .ok (.getfield 198, 3) := dk_180 0 198 (dk_at dksX0_don_2 0 rfl rfl)
theorem dX0_don_51 : decode cX0_don 51 = .ok (.iload_n 1, 1) := dk_27 (dk_at dksX0_don_2 3 rfl rfl)
theorem dX0_don_52 : decode cX0_don 52 = .ok (.iload_n 2, 1) := dk_28 (dk_at dksX0_don_2 4 rfl rfl)
theorem dX0_don_53 : decode cX0_don 53 = .ok (.iastore, 1) := dk_79 (dk_at dksX0_don_2 5 rfl rfl)
theorem dX0_don_54 : decode cX0_don 54 = .ok (.iload_n 3, 1) := dk_29 (dk_at dksX0_don_2 6 rfl rfl)
theorem dX0_don_55 : decode cX0_don 55 = .ok (.ireturn, 1) := dk_172 (dk_at dksX0_don_2 7 rfl rfl)
abbrev cX0_doff : ByteArray := prog_1_method_24_code
def yX0_doff : MethodName := ⟨RX0, "doff", "(I)I"⟩
def dkwX0_doff_2 : List UInt8 := [172]
abbrev dktX0_doff_2 : List UInt8 := dkwX0_doff_2 ++ []
def dkwX0_doff_1 : List UInt8 := [182, 0, 232, 42, 180, 0, 28, 180, 0, 198, 27, 46, 61, 42, 180, 0, 28, 180, 0, 198, 27, 2, 79, 28]
abbrev dktX0_doff_1 : List UInt8 := dkwX0_doff_1 ++ dktX0_doff_2
def dkwX0_doff_0 : List UInt8 := [42, 27, 182, 0, 180, 153, 0, 15, 42, 180, 0, 28, 180, 0, 198, 27, 46, 156, 0, 5, 2, 172, 42]
abbrev dktX0_doff_0 : List UInt8 := dkwX0_doff_0 ++ dktX0_doff_1
theorem dksX0_doff_0 : cX0_doff.data.toList.drop 0 = dktX0_doff_0 := by decide +kernel
theorem dksX0_doff_1 : cX0_doff.data.toList.drop 23 = dktX0_doff_1 := dk_seg dksX0_doff_0 23 rfl rfl
theorem dksX0_doff_2 : cX0_doff.data.toList.drop 47 = dktX0_doff_2 := dk_seg dksX0_doff_1 24 rfl rfl
theorem dX0_doff_0 : decode cX0_doff 0 = .ok (.aload_n 0, 1) := dk_42 (dk_at dksX0_doff_0 0 rfl rfl)
theorem dX0_doff_1 : decode cX0_doff 1 = .ok (.iload_n 1, 1) := dk_27 (dk_at dksX0_doff_0 1 rfl rfl)
theorem dX0_doff_2 : decode cX0_doff 2 = .ok (.invokevirtual 180, 3) := dk_182 0 180 (dk_at dksX0_doff_0 2 rfl rfl)
theorem dX0_doff_5 : decode cX0_doff 5 = .ok (.ifCond .eq 15, 3) := dk_153 0 15 (dk_at dksX0_doff_0 5 rfl rfl)
theorem dX0_doff_8 : decode cX0_doff 8 = .ok (.aload_n 0, 1) := dk_42 (dk_at dksX0_doff_0 8 rfl rfl)
theorem dX0_doff_9 : decode cX0_doff 9 = .ok (.getfield 28, 3) := dk_180 0 28 (dk_at dksX0_doff_0 9 rfl rfl)
theorem dX0_doff_12 : decode cX0_doff 12 = .ok (.getfield 198, 3) := dk_180 0 198 (dk_at dksX0_doff_0 12 rfl rfl)
theorem dX0_doff_15 : decode cX0_doff 15 = .ok (.iload_n 1, 1) := dk_27 (dk_at dksX0_doff_0 15 rfl rfl)
theorem dX0_doff_16 : decode cX0_doff 16 = .ok (.iaload, 1) := dk_46 (dk_at dksX0_doff_0 16 rfl rfl)
theorem dX0_doff_17 : decode cX0_doff 17 = .ok (.ifCond .ge 5, 3) := dk_156 0 5 (dk_at dksX0_doff_0 17 rfl rfl)
theorem dX0_doff_20 : decode cX0_doff 20 = .ok (.iconst (-1), 1) := dk_2 (dk_at dksX0_doff_0 20 rfl rfl)
theorem dX0_doff_21 : decode cX0_doff 21 = .ok (.ireturn, 1) := dk_172 (dk_at dksX0_doff_0 21 rfl rfl)
theorem dX0_doff_22 : decode cX0_doff 22 = .ok (.aload_n 0, 1) := dk_42 (dk_at dksX0_doff_0 22 rfl rfl)
theorem dX0_doff_23 : decode cX0_doff 23 = .ok (.invokevirtual 232, 3) := dk_182 0 232 (dk_at dksX0_doff_1 0 rfl rfl)
theorem dX0_doff_26 : decode cX0_doff 26 = .ok (.aload_n 0, 1) := dk_42 (dk_at dksX0_doff_1 3 rfl rfl)
theorem dX0_doff_27 : decode cX0_doff 27 = .ok (.getfield 28, 3) := dk_180 0 28 (dk_at dksX0_doff_1 4 rfl rfl)
theorem dX0_doff_30 : decode cX0_doff 30 = .ok (.getfield 198, 3) := dk_180 0 198 (dk_at dksX0_doff_1 7 rfl rfl)
theorem dX0_doff_33 : decode cX0_doff 33 = .ok (.iload_n 1, 1) := dk_27 (dk_at dksX0_doff_1 10 rfl rfl)
theorem dX0_doff_34 : decode cX0_doff 34 = .ok (.iaload, 1) := dk_46 (dk_at dksX0_doff_1 11 rfl rfl)
theorem dX0_doff_35 : decode cX0_doff 35 = .ok (.istore_n 2, 1) := dk_61 (dk_at dksX0_doff_1 12 rfl rfl)
theorem dX0_doff_36 : decode cX0_doff 36 = .ok (.aload_n 0, 1) := dk_42 (dk_at dksX0_doff_1 13 rfl rfl)
theorem dX0_doff_37 : decode cX0_doff 37 = .ok (.getfield 28, 3) := dk_180 0 28 (dk_at dksX0_doff_1 14 rfl rfl)
theorem dX0_doff_40 : decode cX0_doff 40 = .ok (.getfield 198, 3) := dk_180 0 198 (dk_at dksX0_doff_1 17 rfl rfl)
theorem dX0_doff_43 : decode cX0_doff 43 = .ok (.iload_n 1, 1) := dk_27 (dk_at dksX0_doff_1 20 rfl rfl)
theorem dX0_doff_44 : decode cX0_doff 44 = .ok (.iconst (-1), 1) := dk_2 (dk_at dksX0_doff_1 21 rfl rfl)
theorem dX0_doff_45 : decode cX0_doff 45 = .ok (.iastore, 1) := dk_79 (dk_at dksX0_doff_1 22 rfl rfl)
theorem dX0_doff_46 : decode cX0_doff 46 = .ok (.iload_n 2, 1) := dk_28 (dk_at dksX0_doff_1 23 rfl rfl)
theorem dX0_doff_47 : decode cX0_doff 47 = .ok (.ireturn, 1) := dk_172 (dk_at dksX0_doff_2 0 rfl rfl)
abbrev cX0_letout : ByteArray := prog_1_method_25_code
def yX0_letout : MethodName := ⟨RX0, "letout", "(II)I"⟩
def dkwX0_letout_3 : List UInt8 := [92, 46, 28, 100, 79, 42, 180, 0, 28, 180, 0, 210, 27, 46, 172]
abbrev dktX0_letout_3 : List UInt8 := dkwX0_letout_3 ++ []
def dkwX0_letout_2 : List UInt8 := [182, 0, 232, 42, 180, 0, 28, 180, 0, 210, 27, 92, 46, 28, 96, 79, 42, 180, 0, 28, 180, 0, 213, 27]
abbrev dktX0_letout_2 : List UInt8 := dkwX0_letout_2 ++ dktX0_letout_3
def dkwX0_letout_1 : List UInt8 := [153, 0, 19, 42, 180, 0, 28, 180, 0, 210, 27, 46, 28, 96, 16, 99, 164, 0, 5, 2, 172, 42]
abbrev dktX0_letout_1 : List UInt8 := dkwX0_letout_1 ++ dktX0_letout_2
def dkwX0_letout_0 : List UInt8 := [42, 27, 182, 0, 205, 153, 0, 36, 28, 4, 42, 180, 0, 28, 180, 0, 213, 27, 46, 184, 0, 145]
abbrev dktX0_letout_0 : List UInt8 := dkwX0_letout_0 ++ dktX0_letout_1
theorem dksX0_letout_0 : cX0_letout.data.toList.drop 0 = dktX0_letout_0 := by decide +kernel
theorem dksX0_letout_1 : cX0_letout.data.toList.drop 22 = dktX0_letout_1 := dk_seg dksX0_letout_0 22 rfl rfl
theorem dksX0_letout_2 : cX0_letout.data.toList.drop 44 = dktX0_letout_2 := dk_seg dksX0_letout_1 22 rfl rfl
theorem dksX0_letout_3 : cX0_letout.data.toList.drop 68 = dktX0_letout_3 := dk_seg dksX0_letout_2 24 rfl rfl
theorem dX0_letout_0 : decode cX0_letout 0 = .ok (.aload_n 0, 1) := dk_42 (dk_at dksX0_letout_0 0 rfl rfl)
theorem dX0_letout_1 : decode cX0_letout 1 = .ok (.iload_n 1, 1) := dk_27 (dk_at dksX0_letout_0 1 rfl rfl)
theorem dX0_letout_2 : decode cX0_letout 2 = .ok (.invokevirtual 205, 3) := dk_182 0 205 (dk_at dksX0_letout_0 2 rfl rfl)
theorem dX0_letout_5 : decode cX0_letout 5 = .ok (.ifCond .eq 36, 3) := dk_153 0 36 (dk_at dksX0_letout_0 5 rfl rfl)
theorem dX0_letout_8 : decode cX0_letout 8 = .ok (.iload_n 2, 1) := dk_28 (dk_at dksX0_letout_0 8 rfl rfl)
theorem dX0_letout_9 : decode cX0_letout 9 = .ok (.iconst 1, 1) := dk_4 (dk_at dksX0_letout_0 9 rfl rfl)
theorem dX0_letout_10 : decode cX0_letout 10 = .ok (.aload_n 0, 1) := dk_42 (dk_at dksX0_letout_0 10 rfl rfl)
theorem dX0_letout_11 : decode cX0_letout 11 = .ok (.getfield 28, 3) := dk_180 0 28 (dk_at dksX0_letout_0 11 rfl rfl)
theorem dX0_letout_14 : decode cX0_letout 14 = .ok (.getfield 213, 3) := dk_180 0 213 (dk_at dksX0_letout_0 14 rfl rfl)
theorem dX0_letout_17 : decode cX0_letout 17 = .ok (.iload_n 1, 1) := dk_27 (dk_at dksX0_letout_0 17 rfl rfl)
theorem dX0_letout_18 : decode cX0_letout 18 = .ok (.iaload, 1) := dk_46 (dk_at dksX0_letout_0 18 rfl rfl)
theorem dX0_letout_19 : decode cX0_letout 19 = .ok (.invokestatic 145, 3) := dk_184 0 145 (dk_at dksX0_letout_0 19 rfl rfl)
theorem dX0_letout_22 : decode cX0_letout 22 = .ok (.ifCond .eq 19, 3) := dk_153 0 19 (dk_at dksX0_letout_1 0 rfl rfl)
theorem dX0_letout_25 : decode cX0_letout 25 = .ok (.aload_n 0, 1) := dk_42 (dk_at dksX0_letout_1 3 rfl rfl)
theorem dX0_letout_26 : decode cX0_letout 26 = .ok (.getfield 28, 3) := dk_180 0 28 (dk_at dksX0_letout_1 4 rfl rfl)
theorem dX0_letout_29 : decode cX0_letout 29 = .ok (.getfield 210, 3) := dk_180 0 210 (dk_at dksX0_letout_1 7 rfl rfl)
theorem dX0_letout_32 : decode cX0_letout 32 = .ok (.iload_n 1, 1) := dk_27 (dk_at dksX0_letout_1 10 rfl rfl)
theorem dX0_letout_33 : decode cX0_letout 33 = .ok (.iaload, 1) := dk_46 (dk_at dksX0_letout_1 11 rfl rfl)
theorem dX0_letout_34 : decode cX0_letout 34 = .ok (.iload_n 2, 1) := dk_28 (dk_at dksX0_letout_1 12 rfl rfl)
theorem dX0_letout_35 : decode cX0_letout 35 = .ok (.iadd, 1) := dk_96 (dk_at dksX0_letout_1 13 rfl rfl)
theorem dX0_letout_36 : decode cX0_letout 36 = .ok (.bipush 99, 2) := dk_16 99 (dk_at dksX0_letout_1 14 rfl rfl)
theorem dX0_letout_38 : decode cX0_letout 38 = .ok (.if_icmp .le 5, 3) := dk_164 0 5 (dk_at dksX0_letout_1 16 rfl rfl)
theorem dX0_letout_41 : decode cX0_letout 41 = .ok (.iconst (-1), 1) := dk_2 (dk_at dksX0_letout_1 19 rfl rfl)
theorem dX0_letout_42 : decode cX0_letout 42 = .ok (.ireturn, 1) := dk_172 (dk_at dksX0_letout_1 20 rfl rfl)
theorem dX0_letout_43 : decode cX0_letout 43 = .ok (.aload_n 0, 1) := dk_42 (dk_at dksX0_letout_1 21 rfl rfl)
theorem dX0_letout_44 : decode cX0_letout 44 = .ok (.invokevirtual 232, 3) := dk_182 0 232 (dk_at dksX0_letout_2 0 rfl rfl)
theorem dX0_letout_47 : decode cX0_letout 47 = .ok (.aload_n 0, 1) := dk_42 (dk_at dksX0_letout_2 3 rfl rfl)
theorem dX0_letout_48 : decode cX0_letout 48 = .ok (.getfield 28, 3) := dk_180 0 28 (dk_at dksX0_letout_2 4 rfl rfl)
theorem dX0_letout_51 : decode cX0_letout 51 = .ok (.getfield 210, 3) := dk_180 0 210 (dk_at dksX0_letout_2 7 rfl rfl)
theorem dX0_letout_54 : decode cX0_letout 54 = .ok (.iload_n 1, 1) := dk_27 (dk_at dksX0_letout_2 10 rfl rfl)
theorem dX0_letout_55 : decode cX0_letout 55 = .ok (.dup2, 1) := dk_92 (dk_at dksX0_letout_2 11 rfl rfl)
theorem dX0_letout_56 : decode cX0_letout 56 = .ok (.iaload, 1) := dk_46 (dk_at dksX0_letout_2 12 rfl rfl)
theorem dX0_letout_57 : decode cX0_letout 57 = .ok (.iload_n 2, 1) := dk_28 (dk_at dksX0_letout_2 13 rfl rfl)
theorem dX0_letout_58 : decode cX0_letout 58 = .ok (.iadd, 1) := dk_96 (dk_at dksX0_letout_2 14 rfl rfl)
theorem dX0_letout_59 : decode cX0_letout 59 = .ok (.iastore, 1) := dk_79 (dk_at dksX0_letout_2 15 rfl rfl)
theorem dX0_letout_60 : decode cX0_letout 60 = .ok (.aload_n 0, 1) := dk_42 (dk_at dksX0_letout_2 16 rfl rfl)
theorem dX0_letout_61 : decode cX0_letout 61 = .ok (.getfield 28, 3) := dk_180 0 28 (dk_at dksX0_letout_2 17 rfl rfl)
theorem dX0_letout_64 : decode cX0_letout 64 = .ok (.getfield 213, 3) := dk_180 0 213 (dk_at dksX0_letout_2 20 rfl rfl)
theorem dX0_letout_67 : decode cX0_letout 67 = .ok (.iload_n 1, 1) := dk_27 (dk_at dksX0_letout_2 23 rfl rfl)
theorem dX0_letout_68 : decode cX0_letout 68 = .ok (.dup2, 1) := dk_92 (dk_at dksX0_letout_3 0 rfl rfl)
theorem dX0_letout_69 : decode cX0_letout 69 = .ok (.iaload, 1) := dk_46 (dk_at dksX0_letout_3 1 rfl rfl)
theorem dX0_letout_70 : decode cX0_letout 70 = .ok (.iload_n 2, 1) := dk_28 (dk_at dksX0_letout_3 2 rfl rfl)
theorem dX0_letout_71 : decode cX0_letout 71 = .ok (.isub, 1) := dk_100 (dk_at dksX0_letout_3 3 rfl rfl)
theorem dX0_letout_72 : decode cX0_letout 72 = .ok (.iastore, 1) := dk_79 (dk_at dksX0_letout_3 4 rfl rfl)
theorem dX0_letout_73 : decode cX0_letout 73 = .ok (.aload_n 0, 1) := dk_42 (dk_at dksX0_letout_3 5 rfl rfl)
theorem dX0_letout_74 : decode cX0_letout 74 = .ok (.getfield 28, 3) := dk_180 0 28 (dk_at dksX0_letout_3 6 rfl rfl)
theorem dX0_letout_77 : decode cX0_letout 77 = .ok (.getfield 210, 3) := dk_180 0 210 (dk_at dksX0_letout_3 9 rfl rfl)
theorem dX0_letout_80 : decode cX0_letout 80 = .ok (.iload_n 1, 1) := dk_27 (dk_at dksX0_letout_3 12 rfl rfl)
theorem dX0_letout_81 : decode cX0_letout 81 = .ok (.iaload, 1) := dk_46 (dk_at dksX0_letout_3 13 rfl rfl)
theorem dX0_letout_82 : decode cX0_letout 82 = .ok (.ireturn, 1) := dk_172 (dk_at dksX0_letout_3 14 rfl rfl)
abbrev cX0_takein : ByteArray := prog_1_method_26_code
def yX0_takein : MethodName := ⟨RX0, "takein", "(II)I"⟩
def dkwX0_takein_3 : List UInt8 := [92, 46, 28, 96, 79, 42, 180, 0, 28, 180, 0, 210, 27, 46, 172]
abbrev dktX0_takein_3 : List UInt8 := dkwX0_takein_3 ++ []
def dkwX0_takein_2 : List UInt8 := [182, 0, 232, 42, 180, 0, 28, 180, 0, 210, 27, 92, 46, 28, 100, 79, 42, 180, 0, 28, 180, 0, 213, 27]
abbrev dktX0_takein_2 : List UInt8 := dkwX0_takein_2 ++ dktX0_takein_3
def dkwX0_takein_1 : List UInt8 := [153, 0, 19, 42, 180, 0, 28, 180, 0, 213, 27, 46, 28, 96, 16, 99, 164, 0, 5, 2, 172, 42]
abbrev dktX0_takein_1 : List UInt8 := dkwX0_takein_1 ++ dktX0_takein_2
def dkwX0_takein_0 : List UInt8 := [42, 27, 182, 0, 205, 153, 0, 36, 28, 4, 42, 180, 0, 28, 180, 0, 210, 27, 46, 184, 0, 145]
abbrev dktX0_takein_0 : List UInt8 := dkwX0_takein_0 ++ dktX0_takein_1
theorem dksX0_takein_0 : cX0_takein.data.toList.drop 0 = dktX0_takein_0 := by decide +kernel
theorem dksX0_takein_1 : cX0_takein.data.toList.drop 22 = dktX0_takein_1 := dk_seg dksX0_takein_0 22 rfl rfl
theorem dksX0_takein_2 : cX0_takein.data.toList.drop 44 = dktX0_takein_2 := dk_seg dksX0_takein_1 22 rfl rfl
theorem dksX0_takein_3 : cX0_takein.data.toList.drop 68 = dktX0_takein_3 := dk_seg dksX0_takein_2 24 rfl rfl
theorem dX0_takein_0 : decode cX0_takein 0 = .ok (.aload_n 0, 1) := dk_42 (dk_at dksX0_takein_0 0 rfl rfl)
theorem dX0_takein_1 : decode cX0_takein 1 = .ok (.iload_n 1, 1) := dk_27 (dk_at dksX0_takein_0 1 rfl rfl)
theorem dX0_takein_2 : decode cX0_takein 2 = .ok (.invokevirtual 205, 3) := dk_182 0 205 (dk_at dksX0_takein_0 2 rfl rfl)
theorem dX0_takein_5 : decode cX0_takein 5 = .ok (.ifCond .eq 36, 3) := dk_153 0 36 (dk_at dksX0_takein_0 5 rfl rfl)
theorem dX0_takein_8 : decode cX0_takein 8 = .ok (.iload_n 2, 1) := dk_28 (dk_at dksX0_takein_0 8 rfl rfl)
theorem dX0_takein_9 : decode cX0_takein 9 = .ok (.iconst 1, 1) := dk_4 (dk_at dksX0_takein_0 9 rfl rfl)
theorem dX0_takein_10 : decode cX0_takein 10 = .ok (.aload_n 0, 1) := dk_42 (dk_at dksX0_takein_0 10 rfl rfl)
theorem dX0_takein_11 : decode cX0_takein 11 = .ok (.getfield 28, 3) := dk_180 0 28 (dk_at dksX0_takein_0 11 rfl rfl)
theorem dX0_takein_14 : decode cX0_takein 14 = .ok (.getfield 210, 3) := dk_180 0 210 (dk_at dksX0_takein_0 14 rfl rfl)
theorem dX0_takein_17 : decode cX0_takein 17 = .ok (.iload_n 1, 1) := dk_27 (dk_at dksX0_takein_0 17 rfl rfl)
theorem dX0_takein_18 : decode cX0_takein 18 = .ok (.iaload, 1) := dk_46 (dk_at dksX0_takein_0 18 rfl rfl)
theorem dX0_takein_19 : decode cX0_takein 19 = .ok (.invokestatic 145, 3) := dk_184 0 145 (dk_at dksX0_takein_0 19 rfl rfl)
theorem dX0_takein_22 : decode cX0_takein 22 = .ok (.ifCond .eq 19, 3) := dk_153 0 19 (dk_at dksX0_takein_1 0 rfl rfl)
theorem dX0_takein_25 : decode cX0_takein 25 = .ok (.aload_n 0, 1) := dk_42 (dk_at dksX0_takein_1 3 rfl rfl)
theorem dX0_takein_26 : decode cX0_takein 26 = .ok (.getfield 28, 3) := dk_180 0 28 (dk_at dksX0_takein_1 4 rfl rfl)
theorem dX0_takein_29 : decode cX0_takein 29 = .ok (.getfield 213, 3) := dk_180 0 213 (dk_at dksX0_takein_1 7 rfl rfl)
theorem dX0_takein_32 : decode cX0_takein 32 = .ok (.iload_n 1, 1) := dk_27 (dk_at dksX0_takein_1 10 rfl rfl)
theorem dX0_takein_33 : decode cX0_takein 33 = .ok (.iaload, 1) := dk_46 (dk_at dksX0_takein_1 11 rfl rfl)
theorem dX0_takein_34 : decode cX0_takein 34 = .ok (.iload_n 2, 1) := dk_28 (dk_at dksX0_takein_1 12 rfl rfl)
theorem dX0_takein_35 : decode cX0_takein 35 = .ok (.iadd, 1) := dk_96 (dk_at dksX0_takein_1 13 rfl rfl)
theorem dX0_takein_36 : decode cX0_takein 36 = .ok (.bipush 99, 2) := dk_16 99 (dk_at dksX0_takein_1 14 rfl rfl)
theorem dX0_takein_38 : decode cX0_takein 38 = .ok (.if_icmp .le 5, 3) := dk_164 0 5 (dk_at dksX0_takein_1 16 rfl rfl)
theorem dX0_takein_41 : decode cX0_takein 41 = .ok (.iconst (-1), 1) := dk_2 (dk_at dksX0_takein_1 19 rfl rfl)
theorem dX0_takein_42 : decode cX0_takein 42 = .ok (.ireturn, 1) := dk_172 (dk_at dksX0_takein_1 20 rfl rfl)
theorem dX0_takein_43 : decode cX0_takein 43 = .ok (.aload_n 0, 1) := dk_42 (dk_at dksX0_takein_1 21 rfl rfl)
theorem dX0_takein_44 : decode cX0_takein 44 = .ok (.invokevirtual 232, 3) := dk_182 0 232 (dk_at dksX0_takein_2 0 rfl rfl)
theorem dX0_takein_47 : decode cX0_takein 47 = .ok (.aload_n 0, 1) := dk_42 (dk_at dksX0_takein_2 3 rfl rfl)
theorem dX0_takein_48 : decode cX0_takein 48 = .ok (.getfield 28, 3) := dk_180 0 28 (dk_at dksX0_takein_2 4 rfl rfl)
theorem dX0_takein_51 : decode cX0_takein 51 = .ok (.getfield 210, 3) := dk_180 0 210 (dk_at dksX0_takein_2 7 rfl rfl)
theorem dX0_takein_54 : decode cX0_takein 54 = .ok (.iload_n 1, 1) := dk_27 (dk_at dksX0_takein_2 10 rfl rfl)
theorem dX0_takein_55 : decode cX0_takein 55 = .ok (.dup2, 1) := dk_92 (dk_at dksX0_takein_2 11 rfl rfl)
theorem dX0_takein_56 : decode cX0_takein 56 = .ok (.iaload, 1) := dk_46 (dk_at dksX0_takein_2 12 rfl rfl)
theorem dX0_takein_57 : decode cX0_takein 57 = .ok (.iload_n 2, 1) := dk_28 (dk_at dksX0_takein_2 13 rfl rfl)
theorem dX0_takein_58 : decode cX0_takein 58 = .ok (.isub, 1) := dk_100 (dk_at dksX0_takein_2 14 rfl rfl)
theorem dX0_takein_59 : decode cX0_takein 59 = .ok (.iastore, 1) := dk_79 (dk_at dksX0_takein_2 15 rfl rfl)
theorem dX0_takein_60 : decode cX0_takein 60 = .ok (.aload_n 0, 1) := dk_42 (dk_at dksX0_takein_2 16 rfl rfl)
theorem dX0_takein_61 : decode cX0_takein 61 = .ok (.getfield 28, 3) := dk_180 0 28 (dk_at dksX0_takein_2 17 rfl rfl)
theorem dX0_takein_64 : decode cX0_takein 64 = .ok (.getfield 213, 3) := dk_180 0 213 (dk_at dksX0_takein_2 20 rfl rfl)
theorem dX0_takein_67 : decode cX0_takein 67 = .ok (.iload_n 1, 1) := dk_27 (dk_at dksX0_takein_2 23 rfl rfl)
theorem dX0_takein_68 : decode cX0_takein 68 = .ok (.dup2, 1) := dk_92 (dk_at dksX0_takein_3 0 rfl rfl)
theorem dX0_takein_69 : decode cX0_takein 69 = .ok (.iaload, 1) := dk_46 (dk_at dksX0_takein_3 1 rfl rfl)
theorem dX0_takein_70 : decode cX0_takein 70 = .ok (.iload_n 2, 1) := dk_28 (dk_at dksX0_takein_3 2 rfl rfl)
theorem dX0_takein_71 : decode cX0_takein 71 = .ok (.iadd, 1) := dk_96 (dk_at dksX0_takein_3 3 rfl rfl)
theorem dX0_takein_72 : decode cX0_takein 72 = .ok (.iastore, 1) := dk_79 (dk_at dksX0_takein_3 4 rfl rfl)
theorem dX0_takein_73 : decode cX0_takein 73 = .ok (.aload_n 0, 1) := dk_42 (dk_at dksX0_takein_3 5 rfl rfl)
theorem dX0_takein_74 : decode cX0_takein 74 = .ok (.getfield 28, 3) := dk_180 0 28 (dk_at dksX0_takein_3 6 rfl rfl)
theorem dX0_takein_77 : decode cX0_takein 77 = .ok (.getfield 210, 3) := dk_180 0 210 (dk_at dksX0_takein_3 9 rfl rfl)
theorem dX0_takein_80 : decode cX0_takein 80 = .ok (.iload_n 1, 1) := dk_27 (dk_at dksX0_takein_3 12 rfl rfl)
theorem dX0_takein_81 : decode cX0_takein 81 = .ok (.iaload, 1) := dk_46 (dk_at dksX0_takein_3 13 rfl rfl)
theorem dX0_takein_82 : decode cX0_takein 82 = .ok (.ireturn, 1) := dk_172 (dk_at dksX0_takein_3 14 rfl rfl)
abbrev cX0_hem : ByteArray := prog_1_method_27_code
def yX0_hem : MethodName := ⟨RX0, "hem", "(II)I"⟩
def dkwX0_hem_2 : List UInt8 := [180, 0, 28, 180, 0, 208, 27, 46, 172]
abbrev dktX0_hem_2 : List UInt8 := dkwX0_hem_2 ++ []
def dkwX0_hem_1 : List UInt8 := [154, 0, 5, 2, 172, 42, 182, 0, 232, 42, 180, 0, 28, 180, 0, 208, 27, 92, 46, 28, 100, 79, 42]
abbrev dktX0_hem_1 : List UInt8 := dkwX0_hem_1 ++ dktX0_hem_2
def dkwX0_hem_0 : List UInt8 := [42, 27, 182, 0, 205, 153, 0, 20, 28, 4, 42, 180, 0, 28, 180, 0, 208, 27, 46, 184, 0, 145]
abbrev dktX0_hem_0 : List UInt8 := dkwX0_hem_0 ++ dktX0_hem_1
theorem dksX0_hem_0 : cX0_hem.data.toList.drop 0 = dktX0_hem_0 := by decide +kernel
theorem dksX0_hem_1 : cX0_hem.data.toList.drop 22 = dktX0_hem_1 := dk_seg dksX0_hem_0 22 rfl rfl
theorem dksX0_hem_2 : cX0_hem.data.toList.drop 45 = dktX0_hem_2 := dk_seg dksX0_hem_1 23 rfl rfl
theorem dX0_hem_0 : decode cX0_hem 0 = .ok (.aload_n 0, 1) := dk_42 (dk_at dksX0_hem_0 0 rfl rfl)
theorem dX0_hem_1 : decode cX0_hem 1 = .ok (.iload_n 1, 1) := dk_27 (dk_at dksX0_hem_0 1 rfl rfl)
theorem dX0_hem_2 : decode cX0_hem 2 = .ok (.invokevirtual 205, 3) := dk_182 0 205 (dk_at dksX0_hem_0 2 rfl rfl)
theorem dX0_hem_5 : decode cX0_hem 5 = .ok (.ifCond .eq 20, 3) := dk_153 0 20 (dk_at dksX0_hem_0 5 rfl rfl)
theorem dX0_hem_8 : decode cX0_hem 8 = .ok (.iload_n 2, 1) := dk_28 (dk_at dksX0_hem_0 8 rfl rfl)
theorem dX0_hem_9 : decode cX0_hem 9 = .ok (.iconst 1, 1) := dk_4 (dk_at dksX0_hem_0 9 rfl rfl)
theorem dX0_hem_10 : decode cX0_hem 10 = .ok (.aload_n 0, 1) := dk_42 (dk_at dksX0_hem_0 10 rfl rfl)
theorem dX0_hem_11 : decode cX0_hem 11 = .ok (.getfield 28, 3) := dk_180 0 28 (dk_at dksX0_hem_0 11 rfl rfl)
theorem dX0_hem_14 : decode cX0_hem 14 = .ok (.getfield 208, 3) := dk_180 0 208 (dk_at dksX0_hem_0 14 rfl rfl)
theorem dX0_hem_17 : decode cX0_hem 17 = .ok (.iload_n 1, 1) := dk_27 (dk_at dksX0_hem_0 17 rfl rfl)
theorem dX0_hem_18 : decode cX0_hem 18 = .ok (.iaload, 1) := dk_46 (dk_at dksX0_hem_0 18 rfl rfl)
theorem dX0_hem_19 : decode cX0_hem 19 = .ok (.invokestatic 145, 3) := dk_184 0 145 (dk_at dksX0_hem_0 19 rfl rfl)
theorem dX0_hem_22 : decode cX0_hem 22 = .ok (.ifCond .ne 5, 3) := dk_154 0 5 (dk_at dksX0_hem_1 0 rfl rfl)
theorem dX0_hem_25 : decode cX0_hem 25 = .ok (.iconst (-1), 1) := dk_2 (dk_at dksX0_hem_1 3 rfl rfl)
theorem dX0_hem_26 : decode cX0_hem 26 = .ok (.ireturn, 1) := dk_172 (dk_at dksX0_hem_1 4 rfl rfl)
theorem dX0_hem_27 : decode cX0_hem 27 = .ok (.aload_n 0, 1) := dk_42 (dk_at dksX0_hem_1 5 rfl rfl)
theorem dX0_hem_28 : decode cX0_hem 28 = .ok (.invokevirtual 232, 3) := dk_182 0 232 (dk_at dksX0_hem_1 6 rfl rfl)
theorem dX0_hem_31 : decode cX0_hem 31 = .ok (.aload_n 0, 1) := dk_42 (dk_at dksX0_hem_1 9 rfl rfl)
theorem dX0_hem_32 : decode cX0_hem 32 = .ok (.getfield 28, 3) := dk_180 0 28 (dk_at dksX0_hem_1 10 rfl rfl)
theorem dX0_hem_35 : decode cX0_hem 35 = .ok (.getfield 208, 3) := dk_180 0 208 (dk_at dksX0_hem_1 13 rfl rfl)
theorem dX0_hem_38 : decode cX0_hem 38 = .ok (.iload_n 1, 1) := dk_27 (dk_at dksX0_hem_1 16 rfl rfl)
theorem dX0_hem_39 : decode cX0_hem 39 = .ok (.dup2, 1) := dk_92 (dk_at dksX0_hem_1 17 rfl rfl)
theorem dX0_hem_40 : decode cX0_hem 40 = .ok (.iaload, 1) := dk_46 (dk_at dksX0_hem_1 18 rfl rfl)
theorem dX0_hem_41 : decode cX0_hem 41 = .ok (.iload_n 2, 1) := dk_28 (dk_at dksX0_hem_1 19 rfl rfl)
theorem dX0_hem_42 : decode cX0_hem 42 = .ok (.isub, 1) := dk_100 (dk_at dksX0_hem_1 20 rfl rfl)
theorem dX0_hem_43 : decode cX0_hem 43 = .ok (.iastore, 1) := dk_79 (dk_at dksX0_hem_1 21 rfl rfl)
theorem dX0_hem_44 : decode cX0_hem 44 = .ok (.aload_n 0, 1) := dk_42 (dk_at dksX0_hem_1 22 rfl rfl)
theorem dX0_hem_45 : decode cX0_hem 45 = .ok (.getfield 28, 3) := dk_180 0 28 (dk_at dksX0_hem_2 0 rfl rfl)
theorem dX0_hem_48 : decode cX0_hem 48 = .ok (.getfield 208, 3) := dk_180 0 208 (dk_at dksX0_hem_2 3 rfl rfl)
theorem dX0_hem_51 : decode cX0_hem 51 = .ok (.iload_n 1, 1) := dk_27 (dk_at dksX0_hem_2 6 rfl rfl)
theorem dX0_hem_52 : decode cX0_hem 52 = .ok (.iaload, 1) := dk_46 (dk_at dksX0_hem_2 7 rfl rfl)
theorem dX0_hem_53 : decode cX0_hem 53 = .ok (.ireturn, 1) := dk_172 (dk_at dksX0_hem_2 8 rfl rfl)
abbrev cX0_turn : ByteArray := prog_1_method_28_code
def yX0_turn : MethodName := ⟨RX0, "turn", "(I)I"⟩
def dkwX0_turn_2 : List UInt8 := [42, 180, 0, 28, 89, 180, 0, 219, 4, 27, 120, 128, 181, 0, 219, 28, 172]
abbrev dktX0_turn_2 : List UInt8 := dkwX0_turn_2 ++ []
def dkwX0_turn_1 : List UInt8 := [42, 182, 0, 232, 42, 180, 0, 28, 180, 0, 216, 27, 46, 61, 42, 180, 0, 28, 180, 0, 216, 27, 3, 79]
abbrev dktX0_turn_1 : List UInt8 := dkwX0_turn_1 ++ dktX0_turn_2
def dkwX0_turn_0 : List UInt8 := [42, 27, 182, 0, 205, 153, 0, 17, 42, 180, 0, 28, 180, 0, 219, 27, 184, 0, 239, 153, 0, 5, 2, 172]
abbrev dktX0_turn_0 : List UInt8 := dkwX0_turn_0 ++ dktX0_turn_1
theorem dksX0_turn_0 : cX0_turn.data.toList.drop 0 = dktX0_turn_0 := by decide +kernel
theorem dksX0_turn_1 : cX0_turn.data.toList.drop 24 = dktX0_turn_1 := dk_seg dksX0_turn_0 24 rfl rfl
theorem dksX0_turn_2 : cX0_turn.data.toList.drop 48 = dktX0_turn_2 := dk_seg dksX0_turn_1 24 rfl rfl
theorem dX0_turn_0 : decode cX0_turn 0 = .ok (.aload_n 0, 1) := dk_42 (dk_at dksX0_turn_0 0 rfl rfl)
theorem dX0_turn_1 : decode cX0_turn 1 = .ok (.iload_n 1, 1) := dk_27 (dk_at dksX0_turn_0 1 rfl rfl)
theorem dX0_turn_2 : decode cX0_turn 2 = .ok (.invokevirtual 205, 3) := dk_182 0 205 (dk_at dksX0_turn_0 2 rfl rfl)
theorem dX0_turn_5 : decode cX0_turn 5 = .ok (.ifCond .eq 17, 3) := dk_153 0 17 (dk_at dksX0_turn_0 5 rfl rfl)
theorem dX0_turn_8 : decode cX0_turn 8 = .ok (.aload_n 0, 1) := dk_42 (dk_at dksX0_turn_0 8 rfl rfl)
theorem dX0_turn_9 : decode cX0_turn 9 = .ok (.getfield 28, 3) := dk_180 0 28 (dk_at dksX0_turn_0 9 rfl rfl)
theorem dX0_turn_12 : decode cX0_turn 12 = .ok (.getfield 219, 3) := dk_180 0 219 (dk_at dksX0_turn_0 12 rfl rfl)
theorem dX0_turn_15 : decode cX0_turn 15 = .ok (.iload_n 1, 1) := dk_27 (dk_at dksX0_turn_0 15 rfl rfl)
theorem dX0_turn_16 : decode cX0_turn 16 = .ok (.invokestatic 239, 3) := dk_184 0 239 (dk_at dksX0_turn_0 16 rfl rfl)
theorem dX0_turn_19 : decode cX0_turn 19 = .ok (.ifCond .eq 5, 3) := dk_153 0 5 (dk_at dksX0_turn_0 19 rfl rfl)
theorem dX0_turn_22 : decode cX0_turn 22 = .ok (.iconst (-1), 1) := dk_2 (dk_at dksX0_turn_0 22 rfl rfl)
theorem dX0_turn_23 : decode cX0_turn 23 = .ok (.ireturn, 1) := dk_172 (dk_at dksX0_turn_0 23 rfl rfl)
theorem dX0_turn_24 : decode cX0_turn 24 = .ok (.aload_n 0, 1) := dk_42 (dk_at dksX0_turn_1 0 rfl rfl)
theorem dX0_turn_25 : decode cX0_turn 25 = .ok (.invokevirtual 232, 3) := dk_182 0 232 (dk_at dksX0_turn_1 1 rfl rfl)
theorem dX0_turn_28 : decode cX0_turn 28 = .ok (.aload_n 0, 1) := dk_42 (dk_at dksX0_turn_1 4 rfl rfl)
theorem dX0_turn_29 : decode cX0_turn 29 = .ok (.getfield 28, 3) := dk_180 0 28 (dk_at dksX0_turn_1 5 rfl rfl)
theorem dX0_turn_32 : decode cX0_turn 32 = .ok (.getfield 216, 3) := dk_180 0 216 (dk_at dksX0_turn_1 8 rfl rfl)
theorem dX0_turn_35 : decode cX0_turn 35 = .ok (.iload_n 1, 1) := dk_27 (dk_at dksX0_turn_1 11 rfl rfl)
theorem dX0_turn_36 : decode cX0_turn 36 = .ok (.iaload, 1) := dk_46 (dk_at dksX0_turn_1 12 rfl rfl)
theorem dX0_turn_37 : decode cX0_turn 37 = .ok (.istore_n 2, 1) := dk_61 (dk_at dksX0_turn_1 13 rfl rfl)
theorem dX0_turn_38 : decode cX0_turn 38 = .ok (.aload_n 0, 1) := dk_42 (dk_at dksX0_turn_1 14 rfl rfl)
theorem dX0_turn_39 : decode cX0_turn 39 = .ok (.getfield 28, 3) := dk_180 0 28 (dk_at dksX0_turn_1 15 rfl rfl)
theorem dX0_turn_42 : decode cX0_turn 42 = .ok (.getfield 216, 3) := dk_180 0 216 (dk_at dksX0_turn_1 18 rfl rfl)
theorem dX0_turn_45 : decode cX0_turn 45 = .ok (.iload_n 1, 1) := dk_27 (dk_at dksX0_turn_1 21 rfl rfl)
theorem dX0_turn_46 : decode cX0_turn 46 = .ok (.iconst 0, 1) := dk_3 (dk_at dksX0_turn_1 22 rfl rfl)
theorem dX0_turn_47 : decode cX0_turn 47 = .ok (.iastore, 1) := dk_79 (dk_at dksX0_turn_1 23 rfl rfl)
theorem dX0_turn_48 : decode cX0_turn 48 = .ok (.aload_n 0, 1) := dk_42 (dk_at dksX0_turn_2 0 rfl rfl)
theorem dX0_turn_49 : decode cX0_turn 49 = .ok (.getfield 28, 3) := dk_180 0 28 (dk_at dksX0_turn_2 1 rfl rfl)
theorem dX0_turn_52 : decode cX0_turn 52 = .ok (.dup, 1) := dk_89 (dk_at dksX0_turn_2 4 rfl rfl)
theorem dX0_turn_53 : decode cX0_turn 53 = .ok (.getfield 219, 3) := dk_180 0 219 (dk_at dksX0_turn_2 5 rfl rfl)
theorem dX0_turn_56 : decode cX0_turn 56 = .ok (.iconst 1, 1) := dk_4 (dk_at dksX0_turn_2 8 rfl rfl)
theorem dX0_turn_57 : decode cX0_turn 57 = .ok (.iload_n 1, 1) := dk_27 (dk_at dksX0_turn_2 9 rfl rfl)
theorem dX0_turn_58 : decode cX0_turn 58 = .ok (.ishl, 1) := dk_120 (dk_at dksX0_turn_2 10 rfl rfl)
theorem dX0_turn_59 : decode cX0_turn 59 = .ok (.ior, 1) := dk_128 (dk_at dksX0_turn_2 11 rfl rfl)
theorem dX0_turn_60 : decode cX0_turn 60 = .ok (.putfield 219, 3) := dk_181 0 219 (dk_at dksX0_turn_2 12 rfl rfl)
theorem dX0_turn_63 : decode cX0_turn 63 = .ok (.iload_n 2, 1) := dk_28 (dk_at dksX0_turn_2 15 rfl rfl)
theorem dX0_turn_64 : decode cX0_turn 64 = .ok (.ireturn, 1) := dk_172 (dk_at dksX0_turn_2 16 rfl rfl)
abbrev cX0_has : ByteArray := prog_1_method_3_code
def yX0_has : MethodName := ⟨RX0, "has", "(II)Z"⟩
def dkwX0_has_0 : List UInt8 := [26, 27, 122, 4, 126, 4, 160, 0, 7, 4, 167, 0, 4, 3, 172]
abbrev dktX0_has_0 : List UInt8 := dkwX0_has_0 ++ []
theorem dksX0_has_0 : cX0_has.data.toList.drop 0 = dktX0_has_0 := by decide +kernel
theorem dX0_has_0 : decode cX0_has 0 = .ok (.iload_n 0, 1) := dk_26 (dk_at dksX0_has_0 0 rfl rfl)
theorem dX0_has_1 : decode cX0_has 1 = .ok (.iload_n 1, 1) := dk_27 (dk_at dksX0_has_0 1 rfl rfl)
theorem dX0_has_2 : decode cX0_has 2 = .ok (.ishr, 1) := dk_122 (dk_at dksX0_has_0 2 rfl rfl)
theorem dX0_has_3 : decode cX0_has 3 = .ok (.iconst 1, 1) := dk_4 (dk_at dksX0_has_0 3 rfl rfl)
theorem dX0_has_4 : decode cX0_has 4 = .ok (.iand, 1) := dk_126 (dk_at dksX0_has_0 4 rfl rfl)
theorem dX0_has_5 : decode cX0_has 5 = .ok (.iconst 1, 1) := dk_4 (dk_at dksX0_has_0 5 rfl rfl)
theorem dX0_has_6 : decode cX0_has 6 = .ok (.if_icmp .ne 7, 3) := dk_160 0 7 (dk_at dksX0_has_0 6 rfl rfl)
theorem dX0_has_9 : decode cX0_has 9 = .ok (.iconst 1, 1) := dk_4 (dk_at dksX0_has_0 9 rfl rfl)
theorem dX0_has_10 : decode cX0_has 10 = .ok (.goto 4, 3) := dk_167 0 4 (dk_at dksX0_has_0 10 rfl rfl)
theorem dX0_has_13 : decode cX0_has 13 = .ok (.iconst 0, 1) := dk_3 (dk_at dksX0_has_0 13 rfl rfl)
theorem dX0_has_14 : decode cX0_has 14 = .ok (.ireturn, 1) := dk_172 (dk_at dksX0_has_0 14 rfl rfl)
abbrev cX0_undo : ByteArray := prog_1_method_29_code
def yX0_undo : MethodName := ⟨RX0, "undo", "()Z"⟩
def dkwX0_undo_1 : List UInt8 := [180, 0, 53, 182, 0, 121, 4, 100, 182, 0, 125, 192, 0, 93, 182, 0, 247, 182, 0, 133, 87, 4, 172]
abbrev dktX0_undo_1 : List UInt8 := dkwX0_undo_1 ++ []
def dkwX0_undo_0 : List UInt8 := [42, 180, 0, 53, 182, 0, 243, 153, 0, 5, 3, 172, 42, 180, 0, 57, 42, 42, 180, 0, 53, 42]
abbrev dktX0_undo_0 : List UInt8 := dkwX0_undo_0 ++ dktX0_undo_1
theorem dksX0_undo_0 : cX0_undo.data.toList.drop 0 = dktX0_undo_0 := by decide +kernel
theorem dksX0_undo_1 : cX0_undo.data.toList.drop 22 = dktX0_undo_1 := dk_seg dksX0_undo_0 22 rfl rfl
theorem dX0_undo_0 : decode cX0_undo 0 = .ok (.aload_n 0, 1) := dk_42 (dk_at dksX0_undo_0 0 rfl rfl)
theorem dX0_undo_1 : decode cX0_undo 1 = .ok (.getfield 53, 3) := dk_180 0 53 (dk_at dksX0_undo_0 1 rfl rfl)
theorem dX0_undo_4 : decode cX0_undo 4 = .ok (.invokevirtual 243, 3) := dk_182 0 243 (dk_at dksX0_undo_0 4 rfl rfl)
theorem dX0_undo_7 : decode cX0_undo 7 = .ok (.ifCond .eq 5, 3) := dk_153 0 5 (dk_at dksX0_undo_0 7 rfl rfl)
theorem dX0_undo_10 : decode cX0_undo 10 = .ok (.iconst 0, 1) := dk_3 (dk_at dksX0_undo_0 10 rfl rfl)
theorem dX0_undo_11 : decode cX0_undo 11 = .ok (.ireturn, 1) := dk_172 (dk_at dksX0_undo_0 11 rfl rfl)
theorem dX0_undo_12 : decode cX0_undo 12 = .ok (.aload_n 0, 1) := dk_42 (dk_at dksX0_undo_0 12 rfl rfl)
theorem dX0_undo_13 : decode cX0_undo 13 = .ok (.getfield 57, 3) := dk_180 0 57 (dk_at dksX0_undo_0 13 rfl rfl)
theorem dX0_undo_16 : decode cX0_undo 16 = .ok (.aload_n 0, 1) := dk_42 (dk_at dksX0_undo_0 16 rfl rfl)
theorem dX0_undo_17 : decode cX0_undo 17 = .ok (.aload_n 0, 1) := dk_42 (dk_at dksX0_undo_0 17 rfl rfl)
theorem dX0_undo_18 : decode cX0_undo 18 = .ok (.getfield 53, 3) := dk_180 0 53 (dk_at dksX0_undo_0 18 rfl rfl)
theorem dX0_undo_21 : decode cX0_undo 21 = .ok (.aload_n 0, 1) := dk_42 (dk_at dksX0_undo_0 21 rfl rfl)
theorem dX0_undo_22 : decode cX0_undo 22 = .ok (.getfield 53, 3) := dk_180 0 53 (dk_at dksX0_undo_1 0 rfl rfl)
theorem dX0_undo_25 : decode cX0_undo 25 = .ok (.invokevirtual 121, 3) := dk_182 0 121 (dk_at dksX0_undo_1 3 rfl rfl)
theorem dX0_undo_28 : decode cX0_undo 28 = .ok (.iconst 1, 1) := dk_4 (dk_at dksX0_undo_1 6 rfl rfl)
theorem dX0_undo_29 : decode cX0_undo 29 = .ok (.isub, 1) := dk_100 (dk_at dksX0_undo_1 7 rfl rfl)
theorem dX0_undo_30 : decode cX0_undo 30 = .ok (.invokevirtual 125, 3) := dk_182 0 125 (dk_at dksX0_undo_1 8 rfl rfl)
theorem dX0_undo_33 : decode cX0_undo 33 = .ok (.checkcast 93, 3) := dk_192 0 93 (dk_at dksX0_undo_1 11 rfl rfl)
theorem dX0_undo_36 : decode cX0_undo 36 = .ok (.invokevirtual 247, 3) := dk_182 0 247 (dk_at dksX0_undo_1 14 rfl rfl)
theorem dX0_undo_39 : decode cX0_undo 39 = .ok (.invokevirtual 133, 3) := dk_182 0 133 (dk_at dksX0_undo_1 17 rfl rfl)
theorem dX0_undo_42 : decode cX0_undo 42 = .ok (.pop, 1) := dk_87 (dk_at dksX0_undo_1 20 rfl rfl)
theorem dX0_undo_43 : decode cX0_undo 43 = .ok (.iconst 1, 1) := dk_4 (dk_at dksX0_undo_1 21 rfl rfl)
theorem dX0_undo_44 : decode cX0_undo 44 = .ok (.ireturn, 1) := dk_172 (dk_at dksX0_undo_1 22 rfl rfl)
abbrev cX0_turned : ByteArray := prog_1_method_8_code
def yX0_turned : MethodName := ⟨RX0, "turned", "(LTailorRegiment$Kept;)LTailorRegiment$Kept;"⟩
def dkwX0_turned_1 : List UInt8 := [43, 176]
abbrev dktX0_turned_1 : List UInt8 := dkwX0_turned_1 ++ []
def dkwX0_turned_0 : List UInt8 := [42, 180, 0, 28, 184, 0, 129, 77, 42, 180, 0, 28, 43, 180, 0, 115, 182, 0, 118, 43, 44, 181, 0, 115]
abbrev dktX0_turned_0 : List UInt8 := dkwX0_turned_0 ++ dktX0_turned_1
theorem dksX0_turned_0 : cX0_turned.data.toList.drop 0 = dktX0_turned_0 := by decide +kernel
theorem dksX0_turned_1 : cX0_turned.data.toList.drop 24 = dktX0_turned_1 := dk_seg dksX0_turned_0 24 rfl rfl
theorem dX0_turned_0 : decode cX0_turned 0 = .ok (.aload_n 0, 1) := dk_42 (dk_at dksX0_turned_0 0 rfl rfl)
theorem dX0_turned_1 : decode cX0_turned 1 = .ok (.getfield 28, 3) := dk_180 0 28 (dk_at dksX0_turned_0 1 rfl rfl)
theorem dX0_turned_4 : decode cX0_turned 4 = .ok (.invokestatic 129, 3) := dk_184 0 129 (dk_at dksX0_turned_0 4 rfl rfl)
theorem dX0_turned_7 : decode cX0_turned 7 = .ok (.astore_n 2, 1) := dk_77 (dk_at dksX0_turned_0 7 rfl rfl)
theorem dX0_turned_8 : decode cX0_turned 8 = .ok (.aload_n 0, 1) := dk_42 (dk_at dksX0_turned_0 8 rfl rfl)
theorem dX0_turned_9 : decode cX0_turned 9 = .ok (.getfield 28, 3) := dk_180 0 28 (dk_at dksX0_turned_0 9 rfl rfl)
theorem dX0_turned_12 : decode cX0_turned 12 = .ok (.aload_n 1, 1) := dk_43 (dk_at dksX0_turned_0 12 rfl rfl)
theorem dX0_turned_13 : decode cX0_turned 13 = .ok (.getfield 115, 3) := dk_180 0 115 (dk_at dksX0_turned_0 13 rfl rfl)
theorem dX0_turned_16 : decode cX0_turned 16 = .ok (.invokevirtual 118, 3) := dk_182 0 118 (dk_at dksX0_turned_0 16 rfl rfl)
theorem dX0_turned_19 : decode cX0_turned 19 = .ok (.aload_n 1, 1) := dk_43 (dk_at dksX0_turned_0 19 rfl rfl)
theorem dX0_turned_20 : decode cX0_turned 20 = .ok (.aload_n 2, 1) := dk_44 (dk_at dksX0_turned_0 20 rfl rfl)
theorem dX0_turned_21 : decode cX0_turned 21 = .ok (.putfield 115, 3) := dk_181 0 115 (dk_at dksX0_turned_0 21 rfl rfl)
theorem dX0_turned_24 : decode cX0_turned 24 = .ok (.aload_n 1, 1) := dk_43 (dk_at dksX0_turned_1 0 rfl rfl)
theorem dX0_turned_25 : decode cX0_turned 25 = .ok (.areturn, 1) := dk_176 (dk_at dksX0_turned_1 1 rfl rfl)
abbrev cX0_redo : ByteArray := prog_1_method_30_code
def yX0_redo : MethodName := ⟨RX0, "redo", "()Z"⟩
def dkwX0_redo_1 : List UInt8 := [180, 0, 57, 182, 0, 121, 4, 100, 182, 0, 125, 192, 0, 93, 182, 0, 247, 182, 0, 133, 87, 4, 172]
abbrev dktX0_redo_1 : List UInt8 := dkwX0_redo_1 ++ []
def dkwX0_redo_0 : List UInt8 := [42, 180, 0, 57, 182, 0, 243, 153, 0, 5, 3, 172, 42, 180, 0, 53, 42, 42, 180, 0, 57, 42]
abbrev dktX0_redo_0 : List UInt8 := dkwX0_redo_0 ++ dktX0_redo_1
theorem dksX0_redo_0 : cX0_redo.data.toList.drop 0 = dktX0_redo_0 := by decide +kernel
theorem dksX0_redo_1 : cX0_redo.data.toList.drop 22 = dktX0_redo_1 := dk_seg dksX0_redo_0 22 rfl rfl
theorem dX0_redo_0 : decode cX0_redo 0 = .ok (.aload_n 0, 1) := dk_42 (dk_at dksX0_redo_0 0 rfl rfl)
theorem dX0_redo_1 : decode cX0_redo 1 = .ok (.getfield 57, 3) := dk_180 0 57 (dk_at dksX0_redo_0 1 rfl rfl)
theorem dX0_redo_4 : decode cX0_redo 4 = .ok (.invokevirtual 243, 3) := dk_182 0 243 (dk_at dksX0_redo_0 4 rfl rfl)
theorem dX0_redo_7 : decode cX0_redo 7 = .ok (.ifCond .eq 5, 3) := dk_153 0 5 (dk_at dksX0_redo_0 7 rfl rfl)
theorem dX0_redo_10 : decode cX0_redo 10 = .ok (.iconst 0, 1) := dk_3 (dk_at dksX0_redo_0 10 rfl rfl)
theorem dX0_redo_11 : decode cX0_redo 11 = .ok (.ireturn, 1) := dk_172 (dk_at dksX0_redo_0 11 rfl rfl)
theorem dX0_redo_12 : decode cX0_redo 12 = .ok (.aload_n 0, 1) := dk_42 (dk_at dksX0_redo_0 12 rfl rfl)
theorem dX0_redo_13 : decode cX0_redo 13 = .ok (.getfield 53, 3) := dk_180 0 53 (dk_at dksX0_redo_0 13 rfl rfl)
theorem dX0_redo_16 : decode cX0_redo 16 = .ok (.aload_n 0, 1) := dk_42 (dk_at dksX0_redo_0 16 rfl rfl)
theorem dX0_redo_17 : decode cX0_redo 17 = .ok (.aload_n 0, 1) := dk_42 (dk_at dksX0_redo_0 17 rfl rfl)
theorem dX0_redo_18 : decode cX0_redo 18 = .ok (.getfield 57, 3) := dk_180 0 57 (dk_at dksX0_redo_0 18 rfl rfl)
theorem dX0_redo_21 : decode cX0_redo 21 = .ok (.aload_n 0, 1) := dk_42 (dk_at dksX0_redo_0 21 rfl rfl)
theorem dX0_redo_22 : decode cX0_redo 22 = .ok (.getfield 57, 3) := dk_180 0 57 (dk_at dksX0_redo_1 0 rfl rfl)
theorem dX0_redo_25 : decode cX0_redo 25 = .ok (.invokevirtual 121, 3) := dk_182 0 121 (dk_at dksX0_redo_1 3 rfl rfl)
theorem dX0_redo_28 : decode cX0_redo 28 = .ok (.iconst 1, 1) := dk_4 (dk_at dksX0_redo_1 6 rfl rfl)
theorem dX0_redo_29 : decode cX0_redo 29 = .ok (.isub, 1) := dk_100 (dk_at dksX0_redo_1 7 rfl rfl)
theorem dX0_redo_30 : decode cX0_redo 30 = .ok (.invokevirtual 125, 3) := dk_182 0 125 (dk_at dksX0_redo_1 8 rfl rfl)
theorem dX0_redo_33 : decode cX0_redo 33 = .ok (.checkcast 93, 3) := dk_192 0 93 (dk_at dksX0_redo_1 11 rfl rfl)
theorem dX0_redo_36 : decode cX0_redo 36 = .ok (.invokevirtual 247, 3) := dk_182 0 247 (dk_at dksX0_redo_1 14 rfl rfl)
theorem dX0_redo_39 : decode cX0_redo 39 = .ok (.invokevirtual 133, 3) := dk_182 0 133 (dk_at dksX0_redo_1 17 rfl rfl)
theorem dX0_redo_42 : decode cX0_redo 42 = .ok (.pop, 1) := dk_87 (dk_at dksX0_redo_1 20 rfl rfl)
theorem dX0_redo_43 : decode cX0_redo 43 = .ok (.iconst 1, 1) := dk_4 (dk_at dksX0_redo_1 21 rfl rfl)
theorem dX0_redo_44 : decode cX0_redo 44 = .ok (.ireturn, 1) := dk_172 (dk_at dksX0_redo_1 22 rfl rfl)
abbrev cX0_will : ByteArray := prog_1_method_31_code
def yX0_will : MethodName := ⟨RX0, "will", "(III)I"⟩
def dkwX0_will_4 : List UInt8 := [180, 0, 198, 27, 46, 172]
abbrev dktX0_will_4 : List UInt8 := dkwX0_will_4 ++ []
def dkwX0_will_3 : List UInt8 := [180, 0, 32, 42, 180, 0, 19, 3, 182, 0, 250, 54, 5, 132, 4, 1, 167, 255, 214, 42, 180, 0, 32]
abbrev dktX0_will_3 : List UInt8 := dkwX0_will_3 ++ dktX0_will_4
def dkwX0_will_2 : List UInt8 := [162, 0, 42, 29, 4, 160, 0, 17, 42, 180, 0, 32, 42, 180, 0, 19, 182, 0, 235, 167, 0, 15, 42]
abbrev dktX0_will_2 : List UInt8 := dkwX0_will_2 ++ dktX0_will_3
def dkwX0_will_1 : List UInt8 := [154, 0, 6, 16, 254, 172, 42, 180, 0, 32, 42, 180, 0, 28, 182, 0, 118, 3, 54, 4, 21, 4, 28]
abbrev dktX0_will_1 : List UInt8 := dkwX0_will_1 ++ dktX0_will_2
def dkwX0_will_0 : List UInt8 := [42, 27, 182, 0, 180, 153, 0, 22, 28, 3, 16, 60, 184, 0, 145, 153, 0, 12, 29, 3, 4, 184, 0, 145]
abbrev dktX0_will_0 : List UInt8 := dkwX0_will_0 ++ dktX0_will_1
theorem dksX0_will_0 : cX0_will.data.toList.drop 0 = dktX0_will_0 := by decide +kernel
theorem dksX0_will_1 : cX0_will.data.toList.drop 24 = dktX0_will_1 := dk_seg dksX0_will_0 24 rfl rfl
theorem dksX0_will_2 : cX0_will.data.toList.drop 47 = dktX0_will_2 := dk_seg dksX0_will_1 23 rfl rfl
theorem dksX0_will_3 : cX0_will.data.toList.drop 70 = dktX0_will_3 := dk_seg dksX0_will_2 23 rfl rfl
theorem dksX0_will_4 : cX0_will.data.toList.drop 93 = dktX0_will_4 := dk_seg dksX0_will_3 23 rfl rfl
theorem dX0_will_0 : decode cX0_will 0 = .ok (.aload_n 0, 1) := dk_42 (dk_at dksX0_will_0 0 rfl rfl)
theorem dX0_will_1 : decode cX0_will 1 = .ok (.iload_n 1, 1) := dk_27 (dk_at dksX0_will_0 1 rfl rfl)
theorem dX0_will_2 : decode cX0_will 2 = .ok (.invokevirtual 180, 3) := dk_182 0 180 (dk_at dksX0_will_0 2 rfl rfl)
theorem dX0_will_5 : decode cX0_will 5 = .ok (.ifCond .eq 22, 3) := dk_153 0 22 (dk_at dksX0_will_0 5 rfl rfl)
theorem dX0_will_8 : decode cX0_will 8 = .ok (.iload_n 2, 1) := dk_28 (dk_at dksX0_will_0 8 rfl rfl)
theorem dX0_will_9 : decode cX0_will 9 = .ok (.iconst 0, 1) := dk_3 (dk_at dksX0_will_0 9 rfl rfl)
theorem dX0_will_10 : decode cX0_will 10 = .ok (.bipush 60, 2) := dk_16 60 (dk_at dksX0_will_0 10 rfl rfl)
theorem dX0_will_12 : decode cX0_will 12 = .ok (.invokestatic 145, 3) := dk_184 0 145 (dk_at dksX0_will_0 12 rfl rfl)
theorem dX0_will_15 : decode cX0_will 15 = .ok (.ifCond .eq 12, 3) := dk_153 0 12 (dk_at dksX0_will_0 15 rfl rfl)
theorem dX0_will_18 : decode cX0_will 18 = .ok (.iload_n 3, 1) := dk_29 (dk_at dksX0_will_0 18 rfl rfl)
theorem dX0_will_19 : decode cX0_will 19 = .ok (.iconst 0, 1) := dk_3 (dk_at dksX0_will_0 19 rfl rfl)
theorem dX0_will_20 : decode cX0_will 20 = .ok (.iconst 1, 1) := dk_4 (dk_at dksX0_will_0 20 rfl rfl)
theorem dX0_will_21 : decode cX0_will 21 = .ok (.invokestatic 145, 3) := dk_184 0 145 (dk_at dksX0_will_0 21 rfl rfl)
theorem dX0_will_24 : decode cX0_will 24 = .ok (.ifCond .ne 6, 3) := dk_154 0 6 (dk_at dksX0_will_1 0 rfl rfl)
theorem dX0_will_27 : decode cX0_will 27 = .ok (.bipush (-2), 2) := dk_16 254 (dk_at dksX0_will_1 3 rfl rfl)
theorem dX0_will_29 : decode cX0_will 29 = .ok (.ireturn, 1) := dk_172 (dk_at dksX0_will_1 5 rfl rfl)
theorem dX0_will_30 : decode cX0_will 30 = .ok (.aload_n 0, 1) := dk_42 (dk_at dksX0_will_1 6 rfl rfl)
theorem dX0_will_31 : decode cX0_will 31 = .ok (.getfield 32, 3) := dk_180 0 32 (dk_at dksX0_will_1 7 rfl rfl)
theorem dX0_will_34 : decode cX0_will 34 = .ok (.aload_n 0, 1) := dk_42 (dk_at dksX0_will_1 10 rfl rfl)
theorem dX0_will_35 : decode cX0_will 35 = .ok (.getfield 28, 3) := dk_180 0 28 (dk_at dksX0_will_1 11 rfl rfl)
theorem dX0_will_38 : decode cX0_will 38 = .ok (.invokevirtual 118, 3) := dk_182 0 118 (dk_at dksX0_will_1 14 rfl rfl)
theorem dX0_will_41 : decode cX0_will 41 = .ok (.iconst 0, 1) := dk_3 (dk_at dksX0_will_1 17 rfl rfl)
theorem dX0_will_42 : decode cX0_will 42 = .ok (.istore 4, 2) := dk_54 4 (dk_at dksX0_will_1 18 rfl rfl)
theorem dX0_will_44 : decode cX0_will 44 = .ok (.iload 4, 2) := dk_21 4 (dk_at dksX0_will_1 20 rfl rfl)
theorem dX0_will_46 : decode cX0_will 46 = .ok (.iload_n 2, 1) := dk_28 (dk_at dksX0_will_1 22 rfl rfl)
theorem dX0_will_47 : decode cX0_will 47 = .ok (.if_icmp .ge 42, 3) := dk_162 0 42 (dk_at dksX0_will_2 0 rfl rfl)
theorem dX0_will_50 : decode cX0_will 50 = .ok (.iload_n 3, 1) := dk_29 (dk_at dksX0_will_2 3 rfl rfl)
theorem dX0_will_51 : decode cX0_will 51 = .ok (.iconst 1, 1) := dk_4 (dk_at dksX0_will_2 4 rfl rfl)
theorem dX0_will_52 : decode cX0_will 52 = .ok (.if_icmp .ne 17, 3) := dk_160 0 17 (dk_at dksX0_will_2 5 rfl rfl)
theorem dX0_will_55 : decode cX0_will 55 = .ok (.aload_n 0, 1) := dk_42 (dk_at dksX0_will_2 8 rfl rfl)
theorem dX0_will_56 : decode cX0_will 56 = .ok (.getfield 32, 3) := dk_180 0 32 (dk_at dksX0_will_2 9 rfl rfl)
theorem dX0_will_59 : decode cX0_will 59 = .ok (.aload_n 0, 1) := dk_42 (dk_at dksX0_will_2 12 rfl rfl)
theorem dX0_will_60 : decode cX0_will 60 = .ok (.getfield 19, 3) := dk_180 0 19 (dk_at dksX0_will_2 13 rfl rfl)
theorem dX0_will_63 : decode cX0_will 63 = .ok (.invokevirtual 235, 3) := dk_182 0 235 (dk_at dksX0_will_2 16 rfl rfl)
theorem dX0_will_66 : decode cX0_will 66 = .ok (.goto 15, 3) := dk_167 0 15 (dk_at dksX0_will_2 19 rfl rfl)
theorem dX0_will_69 : decode cX0_will 69 = .ok (.aload_n 0, 1) := dk_42 (dk_at dksX0_will_2 22 rfl rfl)
theorem dX0_will_70 : decode cX0_will 70 = .ok (.getfield 32, 3) := dk_180 0 32 (dk_at dksX0_will_3 0 rfl rfl)
theorem dX0_will_73 : decode cX0_will 73 = .ok (.aload_n 0, 1) := dk_42 (dk_at dksX0_will_3 3 rfl rfl)
theorem dX0_will_74 : decode cX0_will 74 = .ok (.getfield 19, 3) := dk_180 0 19 (dk_at dksX0_will_3 4 rfl rfl)
theorem dX0_will_77 : decode cX0_will 77 = .ok (.iconst 0, 1) := dk_3 (dk_at dksX0_will_3 7 rfl rfl)
theorem dX0_will_78 : decode cX0_will 78 = .ok (.invokevirtual 250, 3) := dk_182 0 250 (dk_at dksX0_will_3 8 rfl rfl)
theorem dX0_will_81 : decode cX0_will 81 = .ok (.istore 5, 2) := dk_54 5 (dk_at dksX0_will_3 11 rfl rfl)
theorem dX0_will_83 : decode cX0_will 83 = .ok (.iinc 4 1, 3) := dk_132 4 1 (dk_at dksX0_will_3 13 rfl rfl)
theorem dX0_will_86 : decode cX0_will 86 = .ok (.goto (-42), 3) := dk_167 255 214 (dk_at dksX0_will_3 16 rfl rfl)
theorem dX0_will_89 : decode cX0_will 89 = .ok (.aload_n 0, 1) := dk_42 (dk_at dksX0_will_3 19 rfl rfl)
theorem dX0_will_90 : decode cX0_will 90 = .ok (.getfield 32, 3) := dk_180 0 32 (dk_at dksX0_will_3 20 rfl rfl)
theorem dX0_will_93 : decode cX0_will 93 = .ok (.getfield 198, 3) := dk_180 0 198 (dk_at dksX0_will_4 0 rfl rfl)
theorem dX0_will_96 : decode cX0_will 96 = .ok (.iload_n 1, 1) := dk_27 (dk_at dksX0_will_4 3 rfl rfl)
theorem dX0_will_97 : decode cX0_will 97 = .ok (.iaload, 1) := dk_46 (dk_at dksX0_will_4 4 rfl rfl)
theorem dX0_will_98 : decode cX0_will 98 = .ok (.ireturn, 1) := dk_172 (dk_at dksX0_will_4 5 rfl rfl)
abbrev cX0_out : ByteArray := prog_1_method_33_code
def yX0_out : MethodName := ⟨RX0, "out", "(I)I"⟩
def dkwX0_out_0 : List UInt8 := [42, 27, 182, 0, 180, 153, 0, 13, 42, 4, 27, 120, 182, 1, 1, 167, 0, 4, 2, 172]
abbrev dktX0_out_0 : List UInt8 := dkwX0_out_0 ++ []
theorem dksX0_out_0 : cX0_out.data.toList.drop 0 = dktX0_out_0 := by decide +kernel
theorem dX0_out_0 : decode cX0_out 0 = .ok (.aload_n 0, 1) := dk_42 (dk_at dksX0_out_0 0 rfl rfl)
theorem dX0_out_1 : decode cX0_out 1 = .ok (.iload_n 1, 1) := dk_27 (dk_at dksX0_out_0 1 rfl rfl)
theorem dX0_out_2 : decode cX0_out 2 = .ok (.invokevirtual 180, 3) := dk_182 0 180 (dk_at dksX0_out_0 2 rfl rfl)
theorem dX0_out_5 : decode cX0_out 5 = .ok (.ifCond .eq 13, 3) := dk_153 0 13 (dk_at dksX0_out_0 5 rfl rfl)
theorem dX0_out_8 : decode cX0_out 8 = .ok (.aload_n 0, 1) := dk_42 (dk_at dksX0_out_0 8 rfl rfl)
theorem dX0_out_9 : decode cX0_out 9 = .ok (.iconst 1, 1) := dk_4 (dk_at dksX0_out_0 9 rfl rfl)
theorem dX0_out_10 : decode cX0_out 10 = .ok (.iload_n 1, 1) := dk_27 (dk_at dksX0_out_0 10 rfl rfl)
theorem dX0_out_11 : decode cX0_out 11 = .ok (.ishl, 1) := dk_120 (dk_at dksX0_out_0 11 rfl rfl)
theorem dX0_out_12 : decode cX0_out 12 = .ok (.invokevirtual 257, 3) := dk_182 1 1 (dk_at dksX0_out_0 12 rfl rfl)
theorem dX0_out_15 : decode cX0_out 15 = .ok (.goto 4, 3) := dk_167 0 4 (dk_at dksX0_out_0 15 rfl rfl)
theorem dX0_out_18 : decode cX0_out 18 = .ok (.iconst (-1), 1) := dk_2 (dk_at dksX0_out_0 18 rfl rfl)
theorem dX0_out_19 : decode cX0_out 19 = .ok (.ireturn, 1) := dk_172 (dk_at dksX0_out_0 19 rfl rfl)
abbrev cX0_bareBehind : ByteArray := prog_1_method_32_code
def yX0_bareBehind : MethodName := ⟨RX0, "bareBehind", "(I)I"⟩
def dkwX0_bareBehind_2 : List UInt8 := [132, 2, 1, 167, 255, 220, 2, 172]
abbrev dktX0_bareBehind_2 : List UInt8 := dkwX0_bareBehind_2 ++ []
def dkwX0_bareBehind_1 : List UInt8 := [182, 0, 254, 27, 126, 154, 0, 5, 28, 172, 42, 180, 0, 32, 42, 180, 0, 19, 3, 182, 0, 250, 87]
abbrev dktX0_bareBehind_1 : List UInt8 := dkwX0_bareBehind_1 ++ dktX0_bareBehind_2
def dkwX0_bareBehind_0 : List UInt8 := [42, 180, 0, 32, 42, 180, 0, 28, 182, 0, 118, 3, 61, 28, 16, 60, 163, 0, 36, 42, 180, 0, 32]
abbrev dktX0_bareBehind_0 : List UInt8 := dkwX0_bareBehind_0 ++ dktX0_bareBehind_1
theorem dksX0_bareBehind_0 : cX0_bareBehind.data.toList.drop 0 = dktX0_bareBehind_0 := by decide +kernel
theorem dksX0_bareBehind_1 : cX0_bareBehind.data.toList.drop 23 = dktX0_bareBehind_1 := dk_seg dksX0_bareBehind_0 23 rfl rfl
theorem dksX0_bareBehind_2 : cX0_bareBehind.data.toList.drop 46 = dktX0_bareBehind_2 := dk_seg dksX0_bareBehind_1 23 rfl rfl
theorem dX0_bareBehind_0 : decode cX0_bareBehind 0 = .ok (.aload_n 0, 1) := dk_42 (dk_at dksX0_bareBehind_0 0 rfl rfl)
theorem dX0_bareBehind_1 : decode cX0_bareBehind 1 = .ok (.getfield 32, 3) := dk_180 0 32 (dk_at dksX0_bareBehind_0 1 rfl rfl)
theorem dX0_bareBehind_4 : decode cX0_bareBehind 4 = .ok (.aload_n 0, 1) := dk_42 (dk_at dksX0_bareBehind_0 4 rfl rfl)
theorem dX0_bareBehind_5 : decode cX0_bareBehind 5 = .ok (.getfield 28, 3) := dk_180 0 28 (dk_at dksX0_bareBehind_0 5 rfl rfl)
theorem dX0_bareBehind_8 : decode cX0_bareBehind 8 = .ok (.invokevirtual 118, 3) := dk_182 0 118 (dk_at dksX0_bareBehind_0 8 rfl rfl)
theorem dX0_bareBehind_11 : decode cX0_bareBehind 11 = .ok (.iconst 0, 1) := dk_3 (dk_at dksX0_bareBehind_0 11 rfl rfl)
theorem dX0_bareBehind_12 : decode cX0_bareBehind 12 = .ok (.istore_n 2, 1) := dk_61 (dk_at dksX0_bareBehind_0 12 rfl rfl)
theorem dX0_bareBehind_13 : decode cX0_bareBehind 13 = .ok (.iload_n 2, 1) := dk_28 (dk_at dksX0_bareBehind_0 13 rfl rfl)
theorem dX0_bareBehind_14 : decode cX0_bareBehind 14 = .ok (.bipush 60, 2) := dk_16 60 (dk_at dksX0_bareBehind_0 14 rfl rfl)
theorem dX0_bareBehind_16 : decode cX0_bareBehind 16 = .ok (.if_icmp .gt 36, 3) := dk_163 0 36 (dk_at dksX0_bareBehind_0 16 rfl rfl)
theorem dX0_bareBehind_19 : decode cX0_bareBehind 19 = .ok (.aload_n 0, 1) := dk_42 (dk_at dksX0_bareBehind_0 19 rfl rfl)
theorem dX0_bareBehind_20 : decode cX0_bareBehind 20 = .ok (.getfield 32, 3) := dk_180 0 32 (dk_at dksX0_bareBehind_0 20 rfl rfl)
theorem dX0_bareBehind_23 : decode cX0_bareBehind 23 = .ok (.invokevirtual 254, 3) := dk_182 0 254 (dk_at dksX0_bareBehind_1 0 rfl rfl)
theorem dX0_bareBehind_26 : decode cX0_bareBehind 26 = .ok (.iload_n 1, 1) := dk_27 (dk_at dksX0_bareBehind_1 3 rfl rfl)
theorem dX0_bareBehind_27 : decode cX0_bareBehind 27 = .ok (.iand, 1) := dk_126 (dk_at dksX0_bareBehind_1 4 rfl rfl)
theorem dX0_bareBehind_28 : decode cX0_bareBehind 28 = .ok (.ifCond .ne 5, 3) := dk_154 0 5 (dk_at dksX0_bareBehind_1 5 rfl rfl)
theorem dX0_bareBehind_31 : decode cX0_bareBehind 31 = .ok (.iload_n 2, 1) := dk_28 (dk_at dksX0_bareBehind_1 8 rfl rfl)
theorem dX0_bareBehind_32 : decode cX0_bareBehind 32 = .ok (.ireturn, 1) := dk_172 (dk_at dksX0_bareBehind_1 9 rfl rfl)
theorem dX0_bareBehind_33 : decode cX0_bareBehind 33 = .ok (.aload_n 0, 1) := dk_42 (dk_at dksX0_bareBehind_1 10 rfl rfl)
theorem dX0_bareBehind_34 : decode cX0_bareBehind 34 = .ok (.getfield 32, 3) := dk_180 0 32 (dk_at dksX0_bareBehind_1 11 rfl rfl)
theorem dX0_bareBehind_37 : decode cX0_bareBehind 37 = .ok (.aload_n 0, 1) := dk_42 (dk_at dksX0_bareBehind_1 14 rfl rfl)
theorem dX0_bareBehind_38 : decode cX0_bareBehind 38 = .ok (.getfield 19, 3) := dk_180 0 19 (dk_at dksX0_bareBehind_1 15 rfl rfl)
theorem dX0_bareBehind_41 : decode cX0_bareBehind 41 = .ok (.iconst 0, 1) := dk_3 (dk_at dksX0_bareBehind_1 18 rfl rfl)
theorem dX0_bareBehind_42 : decode cX0_bareBehind 42 = .ok (.invokevirtual 250, 3) := dk_182 0 250 (dk_at dksX0_bareBehind_1 19 rfl rfl)
theorem dX0_bareBehind_45 : decode cX0_bareBehind 45 = .ok (.pop, 1) := dk_87 (dk_at dksX0_bareBehind_1 22 rfl rfl)
theorem dX0_bareBehind_46 : decode cX0_bareBehind 46 = .ok (.iinc 2 1, 3) := dk_132 2 1 (dk_at dksX0_bareBehind_2 0 rfl rfl)
theorem dX0_bareBehind_49 : decode cX0_bareBehind 49 = .ok (.goto (-36), 3) := dk_167 255 220 (dk_at dksX0_bareBehind_2 3 rfl rfl)
theorem dX0_bareBehind_52 : decode cX0_bareBehind 52 = .ok (.iconst (-1), 1) := dk_2 (dk_at dksX0_bareBehind_2 6 rfl rfl)
theorem dX0_bareBehind_53 : decode cX0_bareBehind 53 = .ok (.ireturn, 1) := dk_172 (dk_at dksX0_bareBehind_2 7 rfl rfl)
abbrev cX0_rout : ByteArray := prog_1_method_34_code
def yX0_rout : MethodName := ⟨RX0, "rout", "()I"⟩
def dkwX0_rout_0 : List UInt8 := [42, 16, 63, 182, 1, 1, 172]
abbrev dktX0_rout_0 : List UInt8 := dkwX0_rout_0 ++ []
theorem dksX0_rout_0 : cX0_rout.data.toList.drop 0 = dktX0_rout_0 := by decide +kernel
theorem dX0_rout_0 : decode cX0_rout 0 = .ok (.aload_n 0, 1) := dk_42 (dk_at dksX0_rout_0 0 rfl rfl)
theorem dX0_rout_1 : decode cX0_rout 1 = .ok (.bipush 63, 2) := dk_16 63 (dk_at dksX0_rout_0 1 rfl rfl)
theorem dX0_rout_3 : decode cX0_rout 3 = .ok (.invokevirtual 257, 3) := dk_182 1 1 (dk_at dksX0_rout_0 3 rfl rfl)
theorem dX0_rout_6 : decode cX0_rout 6 = .ok (.ireturn, 1) := dk_172 (dk_at dksX0_rout_0 6 rfl rfl)
abbrev cX0_fitted : ByteArray := prog_1_method_35_code
def yX0_fitted : MethodName := ⟨RX0, "fitted", "()I"⟩
def dkwX0_fitted_0 : List UInt8 := [42, 180, 0, 28, 42, 180, 0, 19, 182, 1, 4, 172]
abbrev dktX0_fitted_0 : List UInt8 := dkwX0_fitted_0 ++ []
theorem dksX0_fitted_0 : cX0_fitted.data.toList.drop 0 = dktX0_fitted_0 := by decide +kernel
theorem dX0_fitted_0 : decode cX0_fitted 0 = .ok (.aload_n 0, 1) := dk_42 (dk_at dksX0_fitted_0 0 rfl rfl)
theorem dX0_fitted_1 : decode cX0_fitted 1 = .ok (.getfield 28, 3) := dk_180 0 28 (dk_at dksX0_fitted_0 1 rfl rfl)
theorem dX0_fitted_4 : decode cX0_fitted 4 = .ok (.aload_n 0, 1) := dk_42 (dk_at dksX0_fitted_0 4 rfl rfl)
theorem dX0_fitted_5 : decode cX0_fitted 5 = .ok (.getfield 19, 3) := dk_180 0 19 (dk_at dksX0_fitted_0 5 rfl rfl)
theorem dX0_fitted_8 : decode cX0_fitted 8 = .ok (.invokevirtual 260, 3) := dk_182 1 4 (dk_at dksX0_fitted_0 8 rfl rfl)
theorem dX0_fitted_11 : decode cX0_fitted 11 = .ok (.ireturn, 1) := dk_172 (dk_at dksX0_fitted_0 11 rfl rfl)
abbrev cX0_lies : ByteArray := prog_1_method_36_code
def yX0_lies : MethodName := ⟨RX0, "lies", "(I)I"⟩
def dkwX0_lies_1 : List UInt8 := [16, 254, 172]
abbrev dktX0_lies_1 : List UInt8 := dkwX0_lies_1 ++ []
def dkwX0_lies_0 : List UInt8 := [27, 3, 42, 180, 0, 112, 4, 100, 184, 0, 145, 153, 0, 12, 42, 180, 0, 60, 27, 46, 167, 0, 5]
abbrev dktX0_lies_0 : List UInt8 := dkwX0_lies_0 ++ dktX0_lies_1
theorem dksX0_lies_0 : cX0_lies.data.toList.drop 0 = dktX0_lies_0 := by decide +kernel
theorem dksX0_lies_1 : cX0_lies.data.toList.drop 23 = dktX0_lies_1 := dk_seg dksX0_lies_0 23 rfl rfl
theorem dX0_lies_0 : decode cX0_lies 0 = .ok (.iload_n 1, 1) := dk_27 (dk_at dksX0_lies_0 0 rfl rfl)
theorem dX0_lies_1 : decode cX0_lies 1 = .ok (.iconst 0, 1) := dk_3 (dk_at dksX0_lies_0 1 rfl rfl)
theorem dX0_lies_2 : decode cX0_lies 2 = .ok (.aload_n 0, 1) := dk_42 (dk_at dksX0_lies_0 2 rfl rfl)
theorem dX0_lies_3 : decode cX0_lies 3 = .ok (.getfield 112, 3) := dk_180 0 112 (dk_at dksX0_lies_0 3 rfl rfl)
theorem dX0_lies_6 : decode cX0_lies 6 = .ok (.iconst 1, 1) := dk_4 (dk_at dksX0_lies_0 6 rfl rfl)
theorem dX0_lies_7 : decode cX0_lies 7 = .ok (.isub, 1) := dk_100 (dk_at dksX0_lies_0 7 rfl rfl)
theorem dX0_lies_8 : decode cX0_lies 8 = .ok (.invokestatic 145, 3) := dk_184 0 145 (dk_at dksX0_lies_0 8 rfl rfl)
theorem dX0_lies_11 : decode cX0_lies 11 = .ok (.ifCond .eq 12, 3) := dk_153 0 12 (dk_at dksX0_lies_0 11 rfl rfl)
theorem dX0_lies_14 : decode cX0_lies 14 = .ok (.aload_n 0, 1) := dk_42 (dk_at dksX0_lies_0 14 rfl rfl)
theorem dX0_lies_15 : decode cX0_lies 15 = .ok (.getfield 60, 3) := dk_180 0 60 (dk_at dksX0_lies_0 15 rfl rfl)
theorem dX0_lies_18 : decode cX0_lies 18 = .ok (.iload_n 1, 1) := dk_27 (dk_at dksX0_lies_0 18 rfl rfl)
theorem dX0_lies_19 : decode cX0_lies 19 = .ok (.iaload, 1) := dk_46 (dk_at dksX0_lies_0 19 rfl rfl)
theorem dX0_lies_20 : decode cX0_lies 20 = .ok (.goto 5, 3) := dk_167 0 5 (dk_at dksX0_lies_0 20 rfl rfl)
theorem dX0_lies_23 : decode cX0_lies 23 = .ok (.bipush (-2), 2) := dk_16 254 (dk_at dksX0_lies_1 0 rfl rfl)
theorem dX0_lies_25 : decode cX0_lies 25 = .ok (.ireturn, 1) := dk_172 (dk_at dksX0_lies_1 2 rfl rfl)
abbrev cX0_dress : ByteArray := prog_1_method_38_code
def yX0_dress : MethodName := ⟨RX0, "dress", "(I)I"⟩
def dkwX0_dress_1 : List UInt8 := [42, 42, 182, 0, 143, 181, 0, 112, 27, 154, 0, 10, 42, 180, 1, 7, 167, 0, 7, 42, 180, 1, 10, 172]
abbrev dktX0_dress_1 : List UInt8 := dkwX0_dress_1 ++ []
def dkwX0_dress_0 : List UInt8 := [27, 3, 4, 184, 0, 145, 154, 0, 5, 2, 172, 42, 2, 181, 1, 7, 42, 3, 3, 3, 3, 182, 1, 19]
abbrev dktX0_dress_0 : List UInt8 := dkwX0_dress_0 ++ dktX0_dress_1
theorem dksX0_dress_0 : cX0_dress.data.toList.drop 0 = dktX0_dress_0 := by decide +kernel
theorem dksX0_dress_1 : cX0_dress.data.toList.drop 24 = dktX0_dress_1 := dk_seg dksX0_dress_0 24 rfl rfl
theorem dX0_dress_0 : decode cX0_dress 0 = .ok (.iload_n 1, 1) := dk_27 (dk_at dksX0_dress_0 0 rfl rfl)
theorem dX0_dress_1 : decode cX0_dress 1 = .ok (.iconst 0, 1) := dk_3 (dk_at dksX0_dress_0 1 rfl rfl)
theorem dX0_dress_2 : decode cX0_dress 2 = .ok (.iconst 1, 1) := dk_4 (dk_at dksX0_dress_0 2 rfl rfl)
theorem dX0_dress_3 : decode cX0_dress 3 = .ok (.invokestatic 145, 3) := dk_184 0 145 (dk_at dksX0_dress_0 3 rfl rfl)
theorem dX0_dress_6 : decode cX0_dress 6 = .ok (.ifCond .ne 5, 3) := dk_154 0 5 (dk_at dksX0_dress_0 6 rfl rfl)
theorem dX0_dress_9 : decode cX0_dress 9 = .ok (.iconst (-1), 1) := dk_2 (dk_at dksX0_dress_0 9 rfl rfl)
theorem dX0_dress_10 : decode cX0_dress 10 = .ok (.ireturn, 1) := dk_172 (dk_at dksX0_dress_0 10 rfl rfl)
theorem dX0_dress_11 : decode cX0_dress 11 = .ok (.aload_n 0, 1) := dk_42 (dk_at dksX0_dress_0 11 rfl rfl)
theorem dX0_dress_12 : decode cX0_dress 12 = .ok (.iconst (-1), 1) := dk_2 (dk_at dksX0_dress_0 12 rfl rfl)
theorem dX0_dress_13 : decode cX0_dress 13 = .ok (.putfield 263, 3) := dk_181 1 7 (dk_at dksX0_dress_0 13 rfl rfl)
theorem dX0_dress_16 : decode cX0_dress 16 = .ok (.aload_n 0, 1) := dk_42 (dk_at dksX0_dress_0 16 rfl rfl)
theorem dX0_dress_17 : decode cX0_dress 17 = .ok (.iconst 0, 1) := dk_3 (dk_at dksX0_dress_0 17 rfl rfl)
theorem dX0_dress_18 : decode cX0_dress 18 = .ok (.iconst 0, 1) := dk_3 (dk_at dksX0_dress_0 18 rfl rfl)
theorem dX0_dress_19 : decode cX0_dress 19 = .ok (.iconst 0, 1) := dk_3 (dk_at dksX0_dress_0 19 rfl rfl)
theorem dX0_dress_20 : decode cX0_dress 20 = .ok (.iconst 0, 1) := dk_3 (dk_at dksX0_dress_0 20 rfl rfl)
theorem dX0_dress_21 : decode cX0_dress 21 = .ok (.invokevirtual 275, 3) := dk_182 1 19 (dk_at dksX0_dress_0 21 rfl rfl)
theorem dX0_dress_24 : decode cX0_dress 24 = .ok (.aload_n 0, 1) := dk_42 (dk_at dksX0_dress_1 0 rfl rfl)
theorem dX0_dress_25 : decode cX0_dress 25 = .ok (.aload_n 0, 1) := dk_42 (dk_at dksX0_dress_1 1 rfl rfl)
theorem dX0_dress_26 : decode cX0_dress 26 = .ok (.invokevirtual 143, 3) := dk_182 0 143 (dk_at dksX0_dress_1 2 rfl rfl)
theorem dX0_dress_29 : decode cX0_dress 29 = .ok (.putfield 112, 3) := dk_181 0 112 (dk_at dksX0_dress_1 5 rfl rfl)
theorem dX0_dress_32 : decode cX0_dress 32 = .ok (.iload_n 1, 1) := dk_27 (dk_at dksX0_dress_1 8 rfl rfl)
theorem dX0_dress_33 : decode cX0_dress 33 = .ok (.ifCond .ne 10, 3) := dk_154 0 10 (dk_at dksX0_dress_1 9 rfl rfl)
theorem dX0_dress_36 : decode cX0_dress 36 = .ok (.aload_n 0, 1) := dk_42 (dk_at dksX0_dress_1 12 rfl rfl)
theorem dX0_dress_37 : decode cX0_dress 37 = .ok (.getfield 263, 3) := dk_180 1 7 (dk_at dksX0_dress_1 13 rfl rfl)
theorem dX0_dress_40 : decode cX0_dress 40 = .ok (.goto 7, 3) := dk_167 0 7 (dk_at dksX0_dress_1 16 rfl rfl)
theorem dX0_dress_43 : decode cX0_dress 43 = .ok (.aload_n 0, 1) := dk_42 (dk_at dksX0_dress_1 19 rfl rfl)
theorem dX0_dress_44 : decode cX0_dress 44 = .ok (.getfield 266, 3) := dk_180 1 10 (dk_at dksX0_dress_1 20 rfl rfl)
theorem dX0_dress_47 : decode cX0_dress 47 = .ok (.ireturn, 1) := dk_172 (dk_at dksX0_dress_1 23 rfl rfl)
abbrev cX0_goDress : ByteArray := prog_1_method_37_code
def yX0_goDress : MethodName := ⟨RX0, "goDress", "(IIII)V"⟩
def dkwX0_goDress_7 : List UInt8 := [182, 1, 19, 177]
abbrev dktX0_goDress_7 : List UInt8 := dkwX0_goDress_7 ++ []
def dkwX0_goDress_6 : List UInt8 := [182, 1, 19, 132, 5, 1, 167, 255, 174, 42, 180, 0, 64, 27, 2, 79, 42, 27, 4, 96, 28, 29, 21, 4]
abbrev dktX0_goDress_6 : List UInt8 := dkwX0_goDress_6 ++ dktX0_goDress_7
def dkwX0_goDress_5 : List UInt8 := [21, 5, 120, 128, 29, 4, 96, 21, 4, 42, 180, 0, 19, 42, 180, 0, 28, 27, 21, 5, 182, 0, 225, 96]
abbrev dktX0_goDress_5 : List UInt8 := dkwX0_goDress_5 ++ dktX0_goDress_6
def dkwX0_goDress_4 : List UInt8 := [182, 0, 176, 154, 0, 6, 167, 0, 44, 42, 180, 0, 64, 27, 21, 5, 79, 42, 27, 4, 96, 28, 4]
abbrev dktX0_goDress_4 : List UInt8 := dkwX0_goDress_4 ++ dktX0_goDress_5
def dkwX0_goDress_3 : List UInt8 := [162, 0, 79, 28, 21, 5, 184, 0, 239, 154, 0, 64, 42, 180, 0, 19, 42, 180, 0, 28, 27, 21, 5]
abbrev dktX0_goDress_3 : List UInt8 := dkwX0_goDress_3 ++ dktX0_goDress_4
def dkwX0_goDress_2 : List UInt8 := [180, 0, 64, 3, 42, 180, 0, 60, 3, 27, 184, 1, 13, 177, 3, 54, 5, 21, 5, 42, 182, 0, 149]
abbrev dktX0_goDress_2 : List UInt8 := dkwX0_goDress_2 ++ dktX0_goDress_3
def dkwX0_goDress_1 : List UInt8 := [21, 4, 42, 180, 1, 10, 161, 0, 4, 177, 42, 29, 181, 1, 7, 42, 21, 4, 181, 1, 10, 42]
abbrev dktX0_goDress_1 : List UInt8 := dkwX0_goDress_1 ++ dktX0_goDress_2
def dkwX0_goDress_0 : List UInt8 := [27, 42, 182, 0, 143, 160, 0, 55, 29, 42, 180, 1, 7, 161, 0, 20, 29, 42, 180, 1, 7, 160, 0, 13]
abbrev dktX0_goDress_0 : List UInt8 := dkwX0_goDress_0 ++ dktX0_goDress_1
theorem dksX0_goDress_0 : cX0_goDress.data.toList.drop 0 = dktX0_goDress_0 := by decide +kernel
theorem dksX0_goDress_1 : cX0_goDress.data.toList.drop 24 = dktX0_goDress_1 := dk_seg dksX0_goDress_0 24 rfl rfl
theorem dksX0_goDress_2 : cX0_goDress.data.toList.drop 46 = dktX0_goDress_2 := dk_seg dksX0_goDress_1 22 rfl rfl
theorem dksX0_goDress_3 : cX0_goDress.data.toList.drop 69 = dktX0_goDress_3 := dk_seg dksX0_goDress_2 23 rfl rfl
theorem dksX0_goDress_4 : cX0_goDress.data.toList.drop 92 = dktX0_goDress_4 := dk_seg dksX0_goDress_3 23 rfl rfl
theorem dksX0_goDress_5 : cX0_goDress.data.toList.drop 115 = dktX0_goDress_5 := dk_seg dksX0_goDress_4 23 rfl rfl
theorem dksX0_goDress_6 : cX0_goDress.data.toList.drop 139 = dktX0_goDress_6 := dk_seg dksX0_goDress_5 24 rfl rfl
theorem dksX0_goDress_7 : cX0_goDress.data.toList.drop 163 = dktX0_goDress_7 := dk_seg dksX0_goDress_6 24 rfl rfl
theorem dX0_goDress_0 : decode cX0_goDress 0 = .ok (.iload_n 1, 1) := dk_27 (dk_at dksX0_goDress_0 0 rfl rfl)
theorem dX0_goDress_1 : decode cX0_goDress 1 = .ok (.aload_n 0, 1) := dk_42 (dk_at dksX0_goDress_0 1 rfl rfl)
theorem dX0_goDress_2 : decode cX0_goDress 2 = .ok (.invokevirtual 143, 3) := dk_182 0 143 (dk_at dksX0_goDress_0 2 rfl rfl)
theorem dX0_goDress_5 : decode cX0_goDress 5 = .ok (.if_icmp .ne 55, 3) := dk_160 0 55 (dk_at dksX0_goDress_0 5 rfl rfl)
theorem dX0_goDress_8 : decode cX0_goDress 8 = .ok (.iload_n 3, 1) := dk_29 (dk_at dksX0_goDress_0 8 rfl rfl)
theorem dX0_goDress_9 : decode cX0_goDress 9 = .ok (.aload_n 0, 1) := dk_42 (dk_at dksX0_goDress_0 9 rfl rfl)
theorem dX0_goDress_10 : decode cX0_goDress 10 = .ok (.getfield 263, 3) := dk_180 1 7 (dk_at dksX0_goDress_0 10 rfl rfl)
theorem dX0_goDress_13 : decode cX0_goDress 13 = .ok (.if_icmp .lt 20, 3) := dk_161 0 20 (dk_at dksX0_goDress_0 13 rfl rfl)
theorem dX0_goDress_16 : decode cX0_goDress 16 = .ok (.iload_n 3, 1) := dk_29 (dk_at dksX0_goDress_0 16 rfl rfl)
theorem dX0_goDress_17 : decode cX0_goDress 17 = .ok (.aload_n 0, 1) := dk_42 (dk_at dksX0_goDress_0 17 rfl rfl)
theorem dX0_goDress_18 : decode cX0_goDress 18 = .ok (.getfield 263, 3) := dk_180 1 7 (dk_at dksX0_goDress_0 18 rfl rfl)
theorem dX0_goDress_21 : decode cX0_goDress 21 = .ok (.if_icmp .ne 13, 3) := dk_160 0 13 (dk_at dksX0_goDress_0 21 rfl rfl)
theorem dX0_goDress_24 : decode cX0_goDress 24 = .ok (.iload 4, 2) := dk_21 4 (dk_at dksX0_goDress_1 0 rfl rfl)
theorem dX0_goDress_26 : decode cX0_goDress 26 = .ok (.aload_n 0, 1) := dk_42 (dk_at dksX0_goDress_1 2 rfl rfl)
theorem dX0_goDress_27 : decode cX0_goDress 27 = .ok (.getfield 266, 3) := dk_180 1 10 (dk_at dksX0_goDress_1 3 rfl rfl)
theorem dX0_goDress_30 : decode cX0_goDress 30 = .ok (.if_icmp .lt 4, 3) := dk_161 0 4 (dk_at dksX0_goDress_1 6 rfl rfl)
theorem dX0_goDress_33 : decode cX0_goDress 33 = .ok (.return_, 1) := dk_177 (dk_at dksX0_goDress_1 9 rfl rfl)
theorem dX0_goDress_34 : decode cX0_goDress 34 = .ok (.aload_n 0, 1) := dk_42 (dk_at dksX0_goDress_1 10 rfl rfl)
theorem dX0_goDress_35 : decode cX0_goDress 35 = .ok (.iload_n 3, 1) := dk_29 (dk_at dksX0_goDress_1 11 rfl rfl)
theorem dX0_goDress_36 : decode cX0_goDress 36 = .ok (.putfield 263, 3) := dk_181 1 7 (dk_at dksX0_goDress_1 12 rfl rfl)
theorem dX0_goDress_39 : decode cX0_goDress 39 = .ok (.aload_n 0, 1) := dk_42 (dk_at dksX0_goDress_1 15 rfl rfl)
theorem dX0_goDress_40 : decode cX0_goDress 40 = .ok (.iload 4, 2) := dk_21 4 (dk_at dksX0_goDress_1 16 rfl rfl)
theorem dX0_goDress_42 : decode cX0_goDress 42 = .ok (.putfield 266, 3) := dk_181 1 10 (dk_at dksX0_goDress_1 18 rfl rfl)
theorem dX0_goDress_45 : decode cX0_goDress 45 = .ok (.aload_n 0, 1) := dk_42 (dk_at dksX0_goDress_1 21 rfl rfl)
theorem dX0_goDress_46 : decode cX0_goDress 46 = .ok (.getfield 64, 3) := dk_180 0 64 (dk_at dksX0_goDress_2 0 rfl rfl)
theorem dX0_goDress_49 : decode cX0_goDress 49 = .ok (.iconst 0, 1) := dk_3 (dk_at dksX0_goDress_2 3 rfl rfl)
theorem dX0_goDress_50 : decode cX0_goDress 50 = .ok (.aload_n 0, 1) := dk_42 (dk_at dksX0_goDress_2 4 rfl rfl)
theorem dX0_goDress_51 : decode cX0_goDress 51 = .ok (.getfield 60, 3) := dk_180 0 60 (dk_at dksX0_goDress_2 5 rfl rfl)
theorem dX0_goDress_54 : decode cX0_goDress 54 = .ok (.iconst 0, 1) := dk_3 (dk_at dksX0_goDress_2 8 rfl rfl)
theorem dX0_goDress_55 : decode cX0_goDress 55 = .ok (.iload_n 1, 1) := dk_27 (dk_at dksX0_goDress_2 9 rfl rfl)
theorem dX0_goDress_56 : decode cX0_goDress 56 = .ok (.invokestatic 269, 3) := dk_184 1 13 (dk_at dksX0_goDress_2 10 rfl rfl)
theorem dX0_goDress_59 : decode cX0_goDress 59 = .ok (.return_, 1) := dk_177 (dk_at dksX0_goDress_2 13 rfl rfl)
theorem dX0_goDress_60 : decode cX0_goDress 60 = .ok (.iconst 0, 1) := dk_3 (dk_at dksX0_goDress_2 14 rfl rfl)
theorem dX0_goDress_61 : decode cX0_goDress 61 = .ok (.istore 5, 2) := dk_54 5 (dk_at dksX0_goDress_2 15 rfl rfl)
theorem dX0_goDress_63 : decode cX0_goDress 63 = .ok (.iload 5, 2) := dk_21 5 (dk_at dksX0_goDress_2 17 rfl rfl)
theorem dX0_goDress_65 : decode cX0_goDress 65 = .ok (.aload_n 0, 1) := dk_42 (dk_at dksX0_goDress_2 19 rfl rfl)
theorem dX0_goDress_66 : decode cX0_goDress 66 = .ok (.invokevirtual 149, 3) := dk_182 0 149 (dk_at dksX0_goDress_2 20 rfl rfl)
theorem dX0_goDress_69 : decode cX0_goDress 69 = .ok (.if_icmp .ge 79, 3) := dk_162 0 79 (dk_at dksX0_goDress_3 0 rfl rfl)
theorem dX0_goDress_72 : decode cX0_goDress 72 = .ok (.iload_n 2, 1) := dk_28 (dk_at dksX0_goDress_3 3 rfl rfl)
theorem dX0_goDress_73 : decode cX0_goDress 73 = .ok (.iload 5, 2) := dk_21 5 (dk_at dksX0_goDress_3 4 rfl rfl)
theorem dX0_goDress_75 : decode cX0_goDress 75 = .ok (.invokestatic 239, 3) := dk_184 0 239 (dk_at dksX0_goDress_3 6 rfl rfl)
theorem dX0_goDress_78 : decode cX0_goDress 78 = .ok (.ifCond .ne 64, 3) := dk_154 0 64 (dk_at dksX0_goDress_3 9 rfl rfl)
theorem dX0_goDress_81 : decode cX0_goDress 81 = .ok (.aload_n 0, 1) := dk_42 (dk_at dksX0_goDress_3 12 rfl rfl)
theorem dX0_goDress_82 : decode cX0_goDress 82 = .ok (.getfield 19, 3) := dk_180 0 19 (dk_at dksX0_goDress_3 13 rfl rfl)
theorem dX0_goDress_85 : decode cX0_goDress 85 = .ok (.aload_n 0, 1) := dk_42 (dk_at dksX0_goDress_3 16 rfl rfl)
theorem dX0_goDress_86 : decode cX0_goDress 86 = .ok (.getfield 28, 3) := dk_180 0 28 (dk_at dksX0_goDress_3 17 rfl rfl)
theorem dX0_goDress_89 : decode cX0_goDress 89 = .ok (.iload_n 1, 1) := dk_27 (dk_at dksX0_goDress_3 20 rfl rfl)
theorem dX0_goDress_90 : decode cX0_goDress 90 = .ok (.iload 5, 2) := dk_21 5 (dk_at dksX0_goDress_3 21 rfl rfl)
theorem dX0_goDress_92 : decode cX0_goDress 92 = .ok (.invokevirtual 176, 3) := dk_182 0 176 (dk_at dksX0_goDress_4 0 rfl rfl)
theorem dX0_goDress_95 : decode cX0_goDress 95 = .ok (.ifCond .ne 6, 3) := dk_154 0 6 (dk_at dksX0_goDress_4 3 rfl rfl)
theorem dX0_goDress_98 : decode cX0_goDress 98 = .ok (.goto 44, 3) := dk_167 0 44 (dk_at dksX0_goDress_4 6 rfl rfl)
theorem dX0_goDress_101 : decode cX0_goDress 101 = .ok (.aload_n 0, 1) := dk_42 (dk_at dksX0_goDress_4 9 rfl rfl)
theorem dX0_goDress_102 : decode cX0_goDress 102 = .ok (.getfield 64, 3) := dk_180 0 64 (dk_at dksX0_goDress_4 10 rfl rfl)
theorem dX0_goDress_105 : decode cX0_goDress 105 = .ok (.iload_n 1, 1) := dk_27 (dk_at dksX0_goDress_4 13 rfl rfl)
theorem dX0_goDress_106 : decode cX0_goDress 106 = .ok (.iload 5, 2) := dk_21 5 (dk_at dksX0_goDress_4 14 rfl rfl)
theorem dX0_goDress_108 : decode cX0_goDress 108 = .ok (.iastore, 1) := dk_79 (dk_at dksX0_goDress_4 16 rfl rfl)
theorem dX0_goDress_109 : decode cX0_goDress 109 = .ok (.aload_n 0, 1) := dk_42 (dk_at dksX0_goDress_4 17 rfl rfl)
theorem dX0_goDress_110 : decode cX0_goDress 110 = .ok (.iload_n 1, 1) := dk_27 (dk_at dksX0_goDress_4 18 rfl rfl)
theorem dX0_goDress_111 : decode cX0_goDress 111 = .ok (.iconst 1, 1) := dk_4 (dk_at dksX0_goDress_4 19 rfl rfl)
theorem dX0_goDress_112 : decode cX0_goDress 112 = .ok (.iadd, 1) := dk_96 (dk_at dksX0_goDress_4 20 rfl rfl)
theorem dX0_goDress_113 : decode cX0_goDress 113 = .ok (.iload_n 2, 1) := dk_28 (dk_at dksX0_goDress_4 21 rfl rfl)
theorem dX0_goDress_114 : decode cX0_goDress 114 = .ok (.iconst 1, 1) := dk_4 (dk_at dksX0_goDress_4 22 rfl rfl)
theorem dX0_goDress_115 : decode cX0_goDress 115 = .ok (.iload 5, 2) := dk_21 5 (dk_at dksX0_goDress_5 0 rfl rfl)
theorem dX0_goDress_117 : decode cX0_goDress 117 = .ok (.ishl, 1) := dk_120 (dk_at dksX0_goDress_5 2 rfl rfl)
theorem dX0_goDress_118 : decode cX0_goDress 118 = .ok (.ior, 1) := dk_128 (dk_at dksX0_goDress_5 3 rfl rfl)
theorem dX0_goDress_119 : decode cX0_goDress 119 = .ok (.iload_n 3, 1) := dk_29 (dk_at dksX0_goDress_5 4 rfl rfl)
theorem dX0_goDress_120 : decode cX0_goDress 120 = .ok (.iconst 1, 1) := dk_4 (dk_at dksX0_goDress_5 5 rfl rfl)
theorem dX0_goDress_121 : decode cX0_goDress 121 = .ok (.iadd, 1) := dk_96 (dk_at dksX0_goDress_5 6 rfl rfl)
theorem dX0_goDress_122 : decode cX0_goDress 122 = .ok (.iload 4, 2) := dk_21 4 (dk_at dksX0_goDress_5 7 rfl rfl)
theorem dX0_goDress_124 : decode cX0_goDress 124 = .ok (.aload_n 0, 1) := dk_42 (dk_at dksX0_goDress_5 9 rfl rfl)
theorem dX0_goDress_125 : decode cX0_goDress 125 = .ok (.getfield 19, 3) := dk_180 0 19 (dk_at dksX0_goDress_5 10 rfl rfl)
theorem dX0_goDress_128 : decode cX0_goDress 128 = .ok (.aload_n 0, 1) := dk_42 (dk_at dksX0_goDress_5 13 rfl rfl)
theorem dX0_goDress_129 : decode cX0_goDress 129 = .ok (.getfield 28, 3) := dk_180 0 28 (dk_at dksX0_goDress_5 14 rfl rfl)
theorem dX0_goDress_132 : decode cX0_goDress 132 = .ok (.iload_n 1, 1) := dk_27 (dk_at dksX0_goDress_5 17 rfl rfl)
theorem dX0_goDress_133 : decode cX0_goDress 133 = .ok (.iload 5, 2) := dk_21 5 (dk_at dksX0_goDress_5 18 rfl rfl)
theorem dX0_goDress_135 : decode cX0_goDress 135 = .ok (.invokevirtual 225, 3) := dk_182 0 225 (dk_at dksX0_goDress_5 20 rfl rfl)
theorem dX0_goDress_138 : decode cX0_goDress 138 = .ok (.iadd, 1) := dk_96 (dk_at dksX0_goDress_5 23 rfl rfl)
theorem dX0_goDress_139 : decode cX0_goDress 139 = .ok (.invokevirtual 275, 3) := dk_182 1 19 (dk_at dksX0_goDress_6 0 rfl rfl)
theorem dX0_goDress_142 : decode cX0_goDress 142 = .ok (.iinc 5 1, 3) := dk_132 5 1 (dk_at dksX0_goDress_6 3 rfl rfl)
theorem dX0_goDress_145 : decode cX0_goDress 145 = .ok (.goto (-82), 3) := dk_167 255 174 (dk_at dksX0_goDress_6 6 rfl rfl)
theorem dX0_goDress_148 : decode cX0_goDress 148 = .ok (.aload_n 0, 1) := dk_42 (dk_at dksX0_goDress_6 9 rfl rfl)
theorem dX0_goDress_149 : decode cX0_goDress 149 = .ok (.getfield 64, 3) := dk_180 0 64 (dk_at dksX0_goDress_6 10 rfl rfl)
theorem dX0_goDress_152 : decode cX0_goDress 152 = .ok (.iload_n 1, 1) := dk_27 (dk_at dksX0_goDress_6 13 rfl rfl)
theorem dX0_goDress_153 : decode cX0_goDress 153 = .ok (.iconst (-1), 1) := dk_2 (dk_at dksX0_goDress_6 14 rfl rfl)
theorem dX0_goDress_154 : decode cX0_goDress 154 = .ok (.iastore, 1) := dk_79 (dk_at dksX0_goDress_6 15 rfl rfl)
theorem dX0_goDress_155 : decode cX0_goDress 155 = .ok (.aload_n 0, 1) := dk_42 (dk_at dksX0_goDress_6 16 rfl rfl)
theorem dX0_goDress_156 : decode cX0_goDress 156 = .ok (.iload_n 1, 1) := dk_27 (dk_at dksX0_goDress_6 17 rfl rfl)
theorem dX0_goDress_157 : decode cX0_goDress 157 = .ok (.iconst 1, 1) := dk_4 (dk_at dksX0_goDress_6 18 rfl rfl)
theorem dX0_goDress_158 : decode cX0_goDress 158 = .ok (.iadd, 1) := dk_96 (dk_at dksX0_goDress_6 19 rfl rfl)
theorem dX0_goDress_159 : decode cX0_goDress 159 = .ok (.iload_n 2, 1) := dk_28 (dk_at dksX0_goDress_6 20 rfl rfl)
theorem dX0_goDress_160 : decode cX0_goDress 160 = .ok (.iload_n 3, 1) := dk_29 (dk_at dksX0_goDress_6 21 rfl rfl)
theorem dX0_goDress_161 : decode cX0_goDress 161 = .ok (.iload 4, 2) := dk_21 4 (dk_at dksX0_goDress_6 22 rfl rfl)
theorem dX0_goDress_163 : decode cX0_goDress 163 = .ok (.invokevirtual 275, 3) := dk_182 1 19 (dk_at dksX0_goDress_7 0 rfl rfl)
theorem dX0_goDress_166 : decode cX0_goDress 166 = .ok (.return_, 1) := dk_177 (dk_at dksX0_goDress_7 3 rfl rfl)
abbrev cX0_rota : ByteArray := prog_1_method_39_code
def yX0_rota : MethodName := ⟨RX0, "rota", "(I)I"⟩
def dkwX0_rota_5 : List UInt8 := [167, 255, 164, 27, 154, 0, 7, 28, 167, 0, 4, 29, 172]
abbrev dktX0_rota_5 : List UInt8 := dkwX0_rota_5 ++ []
def dkwX0_rota_4 : List UInt8 := [132, 6, 1, 167, 255, 200, 21, 5, 29, 163, 0, 6, 167, 0, 9, 21, 4, 61, 21, 5, 62, 132, 4, 1]
abbrev dktX0_rota_4 : List UInt8 := dkwX0_rota_4 ++ dktX0_rota_5
def dkwX0_rota_3 : List UInt8 := [21, 4, 96, 42, 182, 0, 143, 112, 46, 182, 0, 176, 153, 0, 7, 4, 167, 0, 4, 3, 96, 54, 5]
abbrev dktX0_rota_3 : List UInt8 := dkwX0_rota_3 ++ dktX0_rota_4
def dkwX0_rota_2 : List UInt8 := [162, 0, 53, 21, 5, 42, 180, 0, 19, 42, 180, 0, 28, 21, 6, 42, 180, 0, 28, 180, 0, 198, 21, 6]
abbrev dktX0_rota_2 : List UInt8 := dkwX0_rota_2 ++ dktX0_rota_3
def dkwX0_rota_1 : List UInt8 := [54, 4, 21, 4, 42, 182, 0, 143, 162, 0, 89, 3, 54, 5, 3, 54, 6, 21, 6, 42, 182, 0, 143]
abbrev dktX0_rota_1 : List UInt8 := dkwX0_rota_1 ++ dktX0_rota_2
def dkwX0_rota_0 : List UInt8 := [42, 182, 0, 143, 153, 0, 12, 27, 3, 4, 184, 0, 145, 154, 0, 5, 2, 172, 3, 61, 2, 62, 3]
abbrev dktX0_rota_0 : List UInt8 := dkwX0_rota_0 ++ dktX0_rota_1
theorem dksX0_rota_0 : cX0_rota.data.toList.drop 0 = dktX0_rota_0 := by decide +kernel
theorem dksX0_rota_1 : cX0_rota.data.toList.drop 23 = dktX0_rota_1 := dk_seg dksX0_rota_0 23 rfl rfl
theorem dksX0_rota_2 : cX0_rota.data.toList.drop 46 = dktX0_rota_2 := dk_seg dksX0_rota_1 23 rfl rfl
theorem dksX0_rota_3 : cX0_rota.data.toList.drop 70 = dktX0_rota_3 := dk_seg dksX0_rota_2 24 rfl rfl
theorem dksX0_rota_4 : cX0_rota.data.toList.drop 93 = dktX0_rota_4 := dk_seg dksX0_rota_3 23 rfl rfl
theorem dksX0_rota_5 : cX0_rota.data.toList.drop 117 = dktX0_rota_5 := dk_seg dksX0_rota_4 24 rfl rfl
theorem dX0_rota_0 : decode cX0_rota 0 = .ok (.aload_n 0, 1) := dk_42 (dk_at dksX0_rota_0 0 rfl rfl)
theorem dX0_rota_1 : decode cX0_rota 1 = .ok (.invokevirtual 143, 3) := dk_182 0 143 (dk_at dksX0_rota_0 1 rfl rfl)
theorem dX0_rota_4 : decode cX0_rota 4 = .ok (.ifCond .eq 12, 3) := dk_153 0 12 (dk_at dksX0_rota_0 4 rfl rfl)
theorem dX0_rota_7 : decode cX0_rota 7 = .ok (.iload_n 1, 1) := dk_27 (dk_at dksX0_rota_0 7 rfl rfl)
theorem dX0_rota_8 : decode cX0_rota 8 = .ok (.iconst 0, 1) := dk_3 (dk_at dksX0_rota_0 8 rfl rfl)
theorem dX0_rota_9 : decode cX0_rota 9 = .ok (.iconst 1, 1) := dk_4 (dk_at dksX0_rota_0 9 rfl rfl)
theorem dX0_rota_10 : decode cX0_rota 10 = .ok (.invokestatic 145, 3) := dk_184 0 145 (dk_at dksX0_rota_0 10 rfl rfl)
theorem dX0_rota_13 : decode cX0_rota 13 = .ok (.ifCond .ne 5, 3) := dk_154 0 5 (dk_at dksX0_rota_0 13 rfl rfl)
theorem dX0_rota_16 : decode cX0_rota 16 = .ok (.iconst (-1), 1) := dk_2 (dk_at dksX0_rota_0 16 rfl rfl)
theorem dX0_rota_17 : decode cX0_rota 17 = .ok (.ireturn, 1) := dk_172 (dk_at dksX0_rota_0 17 rfl rfl)
theorem dX0_rota_18 : decode cX0_rota 18 = .ok (.iconst 0, 1) := dk_3 (dk_at dksX0_rota_0 18 rfl rfl)
theorem dX0_rota_19 : decode cX0_rota 19 = .ok (.istore_n 2, 1) := dk_61 (dk_at dksX0_rota_0 19 rfl rfl)
theorem dX0_rota_20 : decode cX0_rota 20 = .ok (.iconst (-1), 1) := dk_2 (dk_at dksX0_rota_0 20 rfl rfl)
theorem dX0_rota_21 : decode cX0_rota 21 = .ok (.istore_n 3, 1) := dk_62 (dk_at dksX0_rota_0 21 rfl rfl)
theorem dX0_rota_22 : decode cX0_rota 22 = .ok (.iconst 0, 1) := dk_3 (dk_at dksX0_rota_0 22 rfl rfl)
theorem dX0_rota_23 : decode cX0_rota 23 = .ok (.istore 4, 2) := dk_54 4 (dk_at dksX0_rota_1 0 rfl rfl)
theorem dX0_rota_25 : decode cX0_rota 25 = .ok (.iload 4, 2) := dk_21 4 (dk_at dksX0_rota_1 2 rfl rfl)
theorem dX0_rota_27 : decode cX0_rota 27 = .ok (.aload_n 0, 1) := dk_42 (dk_at dksX0_rota_1 4 rfl rfl)
theorem dX0_rota_28 : decode cX0_rota 28 = .ok (.invokevirtual 143, 3) := dk_182 0 143 (dk_at dksX0_rota_1 5 rfl rfl)
theorem dX0_rota_31 : decode cX0_rota 31 = .ok (.if_icmp .ge 89, 3) := dk_162 0 89 (dk_at dksX0_rota_1 8 rfl rfl)
theorem dX0_rota_34 : decode cX0_rota 34 = .ok (.iconst 0, 1) := dk_3 (dk_at dksX0_rota_1 11 rfl rfl)
theorem dX0_rota_35 : decode cX0_rota 35 = .ok (.istore 5, 2) := dk_54 5 (dk_at dksX0_rota_1 12 rfl rfl)
theorem dX0_rota_37 : decode cX0_rota 37 = .ok (.iconst 0, 1) := dk_3 (dk_at dksX0_rota_1 14 rfl rfl)
theorem dX0_rota_38 : decode cX0_rota 38 = .ok (.istore 6, 2) := dk_54 6 (dk_at dksX0_rota_1 15 rfl rfl)
theorem dX0_rota_40 : decode cX0_rota 40 = .ok (.iload 6, 2) := dk_21 6 (dk_at dksX0_rota_1 17 rfl rfl)
theorem dX0_rota_42 : decode cX0_rota 42 = .ok (.aload_n 0, 1) := dk_42 (dk_at dksX0_rota_1 19 rfl rfl)
theorem dX0_rota_43 : decode cX0_rota 43 = .ok (.invokevirtual 143, 3) := dk_182 0 143 (dk_at dksX0_rota_1 20 rfl rfl)
theorem dX0_rota_46 : decode cX0_rota 46 = .ok (.if_icmp .ge 53, 3) := dk_162 0 53 (dk_at dksX0_rota_2 0 rfl rfl)
theorem dX0_rota_49 : decode cX0_rota 49 = .ok (.iload 5, 2) := dk_21 5 (dk_at dksX0_rota_2 3 rfl rfl)
theorem dX0_rota_51 : decode cX0_rota 51 = .ok (.aload_n 0, 1) := dk_42 (dk_at dksX0_rota_2 5 rfl rfl)
theorem dX0_rota_52 : decode cX0_rota 52 = .ok (.getfield 19, 3) := dk_180 0 19 (dk_at dksX0_rota_2 6 rfl rfl)
theorem dX0_rota_55 : decode cX0_rota 55 = .ok (.aload_n 0, 1) := dk_42 (dk_at dksX0_rota_2 9 rfl rfl)
theorem dX0_rota_56 : decode cX0_rota 56 = .ok (.getfield 28, 3) := dk_180 0 28 (dk_at dksX0_rota_2 10 rfl rfl)
theorem dX0_rota_59 : decode cX0_rota 59 = .ok (.iload 6, 2) := dk_21 6 (dk_at dksX0_rota_2 13 rfl rfl)
theorem dX0_rota_61 : decode cX0_rota 61 = .ok (.aload_n 0, 1) := dk_42 (dk_at dksX0_rota_2 15 rfl rfl)
theorem dX0_rota_62 : decode cX0_rota 62 = .ok (.getfield 28, 3) := dk_180 0 28 (dk_at dksX0_rota_2 16 rfl rfl)
theorem dX0_rota_65 : decode cX0_rota 65 = .ok (.getfield 198, 3) := dk_180 0 198 (dk_at dksX0_rota_2 19 rfl rfl)
theorem dX0_rota_68 : decode cX0_rota 68 = .ok (.iload 6, 2) := dk_21 6 (dk_at dksX0_rota_2 22 rfl rfl)
theorem dX0_rota_70 : decode cX0_rota 70 = .ok (.iload 4, 2) := dk_21 4 (dk_at dksX0_rota_3 0 rfl rfl)
theorem dX0_rota_72 : decode cX0_rota 72 = .ok (.iadd, 1) := dk_96 (dk_at dksX0_rota_3 2 rfl rfl)
theorem dX0_rota_73 : decode cX0_rota 73 = .ok (.aload_n 0, 1) := dk_42 (dk_at dksX0_rota_3 3 rfl rfl)
theorem dX0_rota_74 : decode cX0_rota 74 = .ok (.invokevirtual 143, 3) := dk_182 0 143 (dk_at dksX0_rota_3 4 rfl rfl)
theorem dX0_rota_77 : decode cX0_rota 77 = .ok (.irem, 1) := dk_112 (dk_at dksX0_rota_3 7 rfl rfl)
theorem dX0_rota_78 : decode cX0_rota 78 = .ok (.iaload, 1) := dk_46 (dk_at dksX0_rota_3 8 rfl rfl)
theorem dX0_rota_79 : decode cX0_rota 79 = .ok (.invokevirtual 176, 3) := dk_182 0 176 (dk_at dksX0_rota_3 9 rfl rfl)
theorem dX0_rota_82 : decode cX0_rota 82 = .ok (.ifCond .eq 7, 3) := dk_153 0 7 (dk_at dksX0_rota_3 12 rfl rfl)
theorem dX0_rota_85 : decode cX0_rota 85 = .ok (.iconst 1, 1) := dk_4 (dk_at dksX0_rota_3 15 rfl rfl)
theorem dX0_rota_86 : decode cX0_rota 86 = .ok (.goto 4, 3) := dk_167 0 4 (dk_at dksX0_rota_3 16 rfl rfl)
theorem dX0_rota_89 : decode cX0_rota 89 = .ok (.iconst 0, 1) := dk_3 (dk_at dksX0_rota_3 19 rfl rfl)
theorem dX0_rota_90 : decode cX0_rota 90 = .ok (.iadd, 1) := dk_96 (dk_at dksX0_rota_3 20 rfl rfl)
theorem dX0_rota_91 : decode cX0_rota 91 = .ok (.istore 5, 2) := dk_54 5 (dk_at dksX0_rota_3 21 rfl rfl)
theorem dX0_rota_93 : decode cX0_rota 93 = .ok (.iinc 6 1, 3) := dk_132 6 1 (dk_at dksX0_rota_4 0 rfl rfl)
theorem dX0_rota_96 : decode cX0_rota 96 = .ok (.goto (-56), 3) := dk_167 255 200 (dk_at dksX0_rota_4 3 rfl rfl)
theorem dX0_rota_99 : decode cX0_rota 99 = .ok (.iload 5, 2) := dk_21 5 (dk_at dksX0_rota_4 6 rfl rfl)
theorem dX0_rota_101 : decode cX0_rota 101 = .ok (.iload_n 3, 1) := dk_29 (dk_at dksX0_rota_4 8 rfl rfl)
theorem dX0_rota_102 : decode cX0_rota 102 = .ok (.if_icmp .gt 6, 3) := dk_163 0 6 (dk_at dksX0_rota_4 9 rfl rfl)
theorem dX0_rota_105 : decode cX0_rota 105 = .ok (.goto 9, 3) := dk_167 0 9 (dk_at dksX0_rota_4 12 rfl rfl)
theorem dX0_rota_108 : decode cX0_rota 108 = .ok (.iload 4, 2) := dk_21 4 (dk_at dksX0_rota_4 15 rfl rfl)
theorem dX0_rota_110 : decode cX0_rota 110 = .ok (.istore_n 2, 1) := dk_61 (dk_at dksX0_rota_4 17 rfl rfl)
theorem dX0_rota_111 : decode cX0_rota 111 = .ok (.iload 5, 2) := dk_21 5 (dk_at dksX0_rota_4 18 rfl rfl)
theorem dX0_rota_113 : decode cX0_rota 113 = .ok (.istore_n 3, 1) := dk_62 (dk_at dksX0_rota_4 20 rfl rfl)
theorem dX0_rota_114 : decode cX0_rota 114 = .ok (.iinc 4 1, 3) := dk_132 4 1 (dk_at dksX0_rota_4 21 rfl rfl)
theorem dX0_rota_117 : decode cX0_rota 117 = .ok (.goto (-92), 3) := dk_167 255 164 (dk_at dksX0_rota_5 0 rfl rfl)
theorem dX0_rota_120 : decode cX0_rota 120 = .ok (.iload_n 1, 1) := dk_27 (dk_at dksX0_rota_5 3 rfl rfl)
theorem dX0_rota_121 : decode cX0_rota 121 = .ok (.ifCond .ne 7, 3) := dk_154 0 7 (dk_at dksX0_rota_5 4 rfl rfl)
theorem dX0_rota_124 : decode cX0_rota 124 = .ok (.iload_n 2, 1) := dk_28 (dk_at dksX0_rota_5 7 rfl rfl)
theorem dX0_rota_125 : decode cX0_rota 125 = .ok (.goto 4, 3) := dk_167 0 4 (dk_at dksX0_rota_5 8 rfl rfl)
theorem dX0_rota_128 : decode cX0_rota 128 = .ok (.iload_n 3, 1) := dk_29 (dk_at dksX0_rota_5 11 rfl rfl)
theorem dX0_rota_129 : decode cX0_rota 129 = .ok (.ireturn, 1) := dk_172 (dk_at dksX0_rota_5 12 rfl rfl)
abbrev cX0_change : ByteArray := prog_1_method_40_code
def yX0_change : MethodName := ⟨RX0, "change", "(I)I"⟩
def dkwX0_change_6 : List UInt8 := [160, 0, 7, 28, 167, 0, 4, 2, 172]
abbrev dktX0_change_6 : List UInt8 := dkwX0_change_6 ++ []
def dkwX0_change_5 : List UInt8 := [154, 0, 10, 29, 16, 6, 108, 167, 0, 25, 27, 4, 160, 0, 10, 29, 16, 6, 112, 167, 0, 13, 27, 5]
abbrev dktX0_change_5 : List UInt8 := dkwX0_change_5 ++ dktX0_change_6
def dkwX0_change_4 : List UInt8 := [21, 6, 61, 132, 5, 1, 167, 255, 185, 132, 4, 1, 167, 255, 164, 29, 156, 0, 7, 2, 167, 0, 36, 27]
abbrev dktX0_change_4 : List UInt8 := dkwX0_change_4 ++ dktX0_change_5
def dkwX0_change_3 : List UInt8 := [184, 1, 25, 54, 6, 21, 6, 28, 163, 0, 6, 167, 0, 15, 16, 6, 21, 4, 104, 21, 5, 96, 62]
abbrev dktX0_change_3 : List UInt8 := dkwX0_change_3 ++ dktX0_change_4
def dkwX0_change_2 : List UInt8 := [42, 180, 0, 32, 21, 4, 21, 5, 182, 1, 30, 42, 180, 0, 32, 42, 180, 0, 19, 182, 1, 4]
abbrev dktX0_change_2 : List UInt8 := dkwX0_change_2 ++ dktX0_change_3
def dkwX0_change_1 : List UInt8 := [4, 96, 54, 5, 21, 5, 42, 182, 0, 143, 162, 0, 68, 42, 180, 0, 32, 42, 180, 0, 28, 182, 0, 118]
abbrev dktX0_change_1 : List UInt8 := dkwX0_change_1 ++ dktX0_change_2
def dkwX0_change_0 : List UInt8 := [42, 182, 1, 23, 184, 1, 25, 61, 2, 62, 3, 54, 4, 21, 4, 42, 182, 0, 143, 162, 0, 89, 21, 4]
abbrev dktX0_change_0 : List UInt8 := dkwX0_change_0 ++ dktX0_change_1
theorem dksX0_change_0 : cX0_change.data.toList.drop 0 = dktX0_change_0 := by decide +kernel
theorem dksX0_change_1 : cX0_change.data.toList.drop 24 = dktX0_change_1 := dk_seg dksX0_change_0 24 rfl rfl
theorem dksX0_change_2 : cX0_change.data.toList.drop 48 = dktX0_change_2 := dk_seg dksX0_change_1 24 rfl rfl
theorem dksX0_change_3 : cX0_change.data.toList.drop 70 = dktX0_change_3 := dk_seg dksX0_change_2 22 rfl rfl
theorem dksX0_change_4 : cX0_change.data.toList.drop 93 = dktX0_change_4 := dk_seg dksX0_change_3 23 rfl rfl
theorem dksX0_change_5 : cX0_change.data.toList.drop 117 = dktX0_change_5 := dk_seg dksX0_change_4 24 rfl rfl
theorem dksX0_change_6 : cX0_change.data.toList.drop 141 = dktX0_change_6 := dk_seg dksX0_change_5 24 rfl rfl
theorem dX0_change_0 : decode cX0_change 0 = .ok (.aload_n 0, 1) := dk_42 (dk_at dksX0_change_0 0 rfl rfl)
theorem dX0_change_1 : decode cX0_change 1 = .ok (.invokevirtual 279, 3) := dk_182 1 23 (dk_at dksX0_change_0 1 rfl rfl)
theorem dX0_change_4 : decode cX0_change 4 = .ok (.invokestatic 281, 3) := dk_184 1 25 (dk_at dksX0_change_0 4 rfl rfl)
theorem dX0_change_7 : decode cX0_change 7 = .ok (.istore_n 2, 1) := dk_61 (dk_at dksX0_change_0 7 rfl rfl)
theorem dX0_change_8 : decode cX0_change 8 = .ok (.iconst (-1), 1) := dk_2 (dk_at dksX0_change_0 8 rfl rfl)
theorem dX0_change_9 : decode cX0_change 9 = .ok (.istore_n 3, 1) := dk_62 (dk_at dksX0_change_0 9 rfl rfl)
theorem dX0_change_10 : decode cX0_change 10 = .ok (.iconst 0, 1) := dk_3 (dk_at dksX0_change_0 10 rfl rfl)
theorem dX0_change_11 : decode cX0_change 11 = .ok (.istore 4, 2) := dk_54 4 (dk_at dksX0_change_0 11 rfl rfl)
theorem dX0_change_13 : decode cX0_change 13 = .ok (.iload 4, 2) := dk_21 4 (dk_at dksX0_change_0 13 rfl rfl)
theorem dX0_change_15 : decode cX0_change 15 = .ok (.aload_n 0, 1) := dk_42 (dk_at dksX0_change_0 15 rfl rfl)
theorem dX0_change_16 : decode cX0_change 16 = .ok (.invokevirtual 143, 3) := dk_182 0 143 (dk_at dksX0_change_0 16 rfl rfl)
theorem dX0_change_19 : decode cX0_change 19 = .ok (.if_icmp .ge 89, 3) := dk_162 0 89 (dk_at dksX0_change_0 19 rfl rfl)
theorem dX0_change_22 : decode cX0_change 22 = .ok (.iload 4, 2) := dk_21 4 (dk_at dksX0_change_0 22 rfl rfl)
theorem dX0_change_24 : decode cX0_change 24 = .ok (.iconst 1, 1) := dk_4 (dk_at dksX0_change_1 0 rfl rfl)
theorem dX0_change_25 : decode cX0_change 25 = .ok (.iadd, 1) := dk_96 (dk_at dksX0_change_1 1 rfl rfl)
theorem dX0_change_26 : decode cX0_change 26 = .ok (.istore 5, 2) := dk_54 5 (dk_at dksX0_change_1 2 rfl rfl)
theorem dX0_change_28 : decode cX0_change 28 = .ok (.iload 5, 2) := dk_21 5 (dk_at dksX0_change_1 4 rfl rfl)
theorem dX0_change_30 : decode cX0_change 30 = .ok (.aload_n 0, 1) := dk_42 (dk_at dksX0_change_1 6 rfl rfl)
theorem dX0_change_31 : decode cX0_change 31 = .ok (.invokevirtual 143, 3) := dk_182 0 143 (dk_at dksX0_change_1 7 rfl rfl)
theorem dX0_change_34 : decode cX0_change 34 = .ok (.if_icmp .ge 68, 3) := dk_162 0 68 (dk_at dksX0_change_1 10 rfl rfl)
theorem dX0_change_37 : decode cX0_change 37 = .ok (.aload_n 0, 1) := dk_42 (dk_at dksX0_change_1 13 rfl rfl)
theorem dX0_change_38 : decode cX0_change 38 = .ok (.getfield 32, 3) := dk_180 0 32 (dk_at dksX0_change_1 14 rfl rfl)
theorem dX0_change_41 : decode cX0_change 41 = .ok (.aload_n 0, 1) := dk_42 (dk_at dksX0_change_1 17 rfl rfl)
theorem dX0_change_42 : decode cX0_change 42 = .ok (.getfield 28, 3) := dk_180 0 28 (dk_at dksX0_change_1 18 rfl rfl)
theorem dX0_change_45 : decode cX0_change 45 = .ok (.invokevirtual 118, 3) := dk_182 0 118 (dk_at dksX0_change_1 21 rfl rfl)
theorem dX0_change_48 : decode cX0_change 48 = .ok (.aload_n 0, 1) := dk_42 (dk_at dksX0_change_2 0 rfl rfl)
theorem dX0_change_49 : decode cX0_change 49 = .ok (.getfield 32, 3) := dk_180 0 32 (dk_at dksX0_change_2 1 rfl rfl)
theorem dX0_change_52 : decode cX0_change 52 = .ok (.iload 4, 2) := dk_21 4 (dk_at dksX0_change_2 4 rfl rfl)
theorem dX0_change_54 : decode cX0_change 54 = .ok (.iload 5, 2) := dk_21 5 (dk_at dksX0_change_2 6 rfl rfl)
theorem dX0_change_56 : decode cX0_change 56 = .ok (.invokevirtual 286, 3) := dk_182 1 30 (dk_at dksX0_change_2 8 rfl rfl)
theorem dX0_change_59 : decode cX0_change 59 = .ok (.aload_n 0, 1) := dk_42 (dk_at dksX0_change_2 11 rfl rfl)
theorem dX0_change_60 : decode cX0_change 60 = .ok (.getfield 32, 3) := dk_180 0 32 (dk_at dksX0_change_2 12 rfl rfl)
theorem dX0_change_63 : decode cX0_change 63 = .ok (.aload_n 0, 1) := dk_42 (dk_at dksX0_change_2 15 rfl rfl)
theorem dX0_change_64 : decode cX0_change 64 = .ok (.getfield 19, 3) := dk_180 0 19 (dk_at dksX0_change_2 16 rfl rfl)
theorem dX0_change_67 : decode cX0_change 67 = .ok (.invokevirtual 260, 3) := dk_182 1 4 (dk_at dksX0_change_2 19 rfl rfl)
theorem dX0_change_70 : decode cX0_change 70 = .ok (.invokestatic 281, 3) := dk_184 1 25 (dk_at dksX0_change_3 0 rfl rfl)
theorem dX0_change_73 : decode cX0_change 73 = .ok (.istore 6, 2) := dk_54 6 (dk_at dksX0_change_3 3 rfl rfl)
theorem dX0_change_75 : decode cX0_change 75 = .ok (.iload 6, 2) := dk_21 6 (dk_at dksX0_change_3 5 rfl rfl)
theorem dX0_change_77 : decode cX0_change 77 = .ok (.iload_n 2, 1) := dk_28 (dk_at dksX0_change_3 7 rfl rfl)
theorem dX0_change_78 : decode cX0_change 78 = .ok (.if_icmp .gt 6, 3) := dk_163 0 6 (dk_at dksX0_change_3 8 rfl rfl)
theorem dX0_change_81 : decode cX0_change 81 = .ok (.goto 15, 3) := dk_167 0 15 (dk_at dksX0_change_3 11 rfl rfl)
theorem dX0_change_84 : decode cX0_change 84 = .ok (.bipush 6, 2) := dk_16 6 (dk_at dksX0_change_3 14 rfl rfl)
theorem dX0_change_86 : decode cX0_change 86 = .ok (.iload 4, 2) := dk_21 4 (dk_at dksX0_change_3 16 rfl rfl)
theorem dX0_change_88 : decode cX0_change 88 = .ok (.imul, 1) := dk_104 (dk_at dksX0_change_3 18 rfl rfl)
theorem dX0_change_89 : decode cX0_change 89 = .ok (.iload 5, 2) := dk_21 5 (dk_at dksX0_change_3 19 rfl rfl)
theorem dX0_change_91 : decode cX0_change 91 = .ok (.iadd, 1) := dk_96 (dk_at dksX0_change_3 21 rfl rfl)
theorem dX0_change_92 : decode cX0_change 92 = .ok (.istore_n 3, 1) := dk_62 (dk_at dksX0_change_3 22 rfl rfl)
theorem dX0_change_93 : decode cX0_change 93 = .ok (.iload 6, 2) := dk_21 6 (dk_at dksX0_change_4 0 rfl rfl)
theorem dX0_change_95 : decode cX0_change 95 = .ok (.istore_n 2, 1) := dk_61 (dk_at dksX0_change_4 2 rfl rfl)
theorem dX0_change_96 : decode cX0_change 96 = .ok (.iinc 5 1, 3) := dk_132 5 1 (dk_at dksX0_change_4 3 rfl rfl)
theorem dX0_change_99 : decode cX0_change 99 = .ok (.goto (-71), 3) := dk_167 255 185 (dk_at dksX0_change_4 6 rfl rfl)
theorem dX0_change_102 : decode cX0_change 102 = .ok (.iinc 4 1, 3) := dk_132 4 1 (dk_at dksX0_change_4 9 rfl rfl)
theorem dX0_change_105 : decode cX0_change 105 = .ok (.goto (-92), 3) := dk_167 255 164 (dk_at dksX0_change_4 12 rfl rfl)
theorem dX0_change_108 : decode cX0_change 108 = .ok (.iload_n 3, 1) := dk_29 (dk_at dksX0_change_4 15 rfl rfl)
theorem dX0_change_109 : decode cX0_change 109 = .ok (.ifCond .ge 7, 3) := dk_156 0 7 (dk_at dksX0_change_4 16 rfl rfl)
theorem dX0_change_112 : decode cX0_change 112 = .ok (.iconst (-1), 1) := dk_2 (dk_at dksX0_change_4 19 rfl rfl)
theorem dX0_change_113 : decode cX0_change 113 = .ok (.goto 36, 3) := dk_167 0 36 (dk_at dksX0_change_4 20 rfl rfl)
theorem dX0_change_116 : decode cX0_change 116 = .ok (.iload_n 1, 1) := dk_27 (dk_at dksX0_change_4 23 rfl rfl)
theorem dX0_change_117 : decode cX0_change 117 = .ok (.ifCond .ne 10, 3) := dk_154 0 10 (dk_at dksX0_change_5 0 rfl rfl)
theorem dX0_change_120 : decode cX0_change 120 = .ok (.iload_n 3, 1) := dk_29 (dk_at dksX0_change_5 3 rfl rfl)
theorem dX0_change_121 : decode cX0_change 121 = .ok (.bipush 6, 2) := dk_16 6 (dk_at dksX0_change_5 4 rfl rfl)
theorem dX0_change_123 : decode cX0_change 123 = .ok (.idiv, 1) := dk_108 (dk_at dksX0_change_5 6 rfl rfl)
theorem dX0_change_124 : decode cX0_change 124 = .ok (.goto 25, 3) := dk_167 0 25 (dk_at dksX0_change_5 7 rfl rfl)
theorem dX0_change_127 : decode cX0_change 127 = .ok (.iload_n 1, 1) := dk_27 (dk_at dksX0_change_5 10 rfl rfl)
theorem dX0_change_128 : decode cX0_change 128 = .ok (.iconst 1, 1) := dk_4 (dk_at dksX0_change_5 11 rfl rfl)
theorem dX0_change_129 : decode cX0_change 129 = .ok (.if_icmp .ne 10, 3) := dk_160 0 10 (dk_at dksX0_change_5 12 rfl rfl)
theorem dX0_change_132 : decode cX0_change 132 = .ok (.iload_n 3, 1) := dk_29 (dk_at dksX0_change_5 15 rfl rfl)
theorem dX0_change_133 : decode cX0_change 133 = .ok (.bipush 6, 2) := dk_16 6 (dk_at dksX0_change_5 16 rfl rfl)
theorem dX0_change_135 : decode cX0_change 135 = .ok (.irem, 1) := dk_112 (dk_at dksX0_change_5 18 rfl rfl)
theorem dX0_change_136 : decode cX0_change 136 = .ok (.goto 13, 3) := dk_167 0 13 (dk_at dksX0_change_5 19 rfl rfl)
theorem dX0_change_139 : decode cX0_change 139 = .ok (.iload_n 1, 1) := dk_27 (dk_at dksX0_change_5 22 rfl rfl)
theorem dX0_change_140 : decode cX0_change 140 = .ok (.iconst 2, 1) := dk_5 (dk_at dksX0_change_5 23 rfl rfl)
theorem dX0_change_141 : decode cX0_change 141 = .ok (.if_icmp .ne 7, 3) := dk_160 0 7 (dk_at dksX0_change_6 0 rfl rfl)
theorem dX0_change_144 : decode cX0_change 144 = .ok (.iload_n 2, 1) := dk_28 (dk_at dksX0_change_6 3 rfl rfl)
theorem dX0_change_145 : decode cX0_change 145 = .ok (.goto 4, 3) := dk_167 0 4 (dk_at dksX0_change_6 4 rfl rfl)
theorem dX0_change_148 : decode cX0_change 148 = .ok (.iconst (-1), 1) := dk_2 (dk_at dksX0_change_6 7 rfl rfl)
theorem dX0_change_149 : decode cX0_change 149 = .ok (.ireturn, 1) := dk_172 (dk_at dksX0_change_6 8 rfl rfl)
abbrev cX0_sewing : ByteArray := prog_1_method_42_code
def yX0_sewing : MethodName := ⟨RX0, "sewing", "(III)I"⟩
def dkwX0_sewing_6 : List UInt8 := [132, 5, 1, 167, 255, 167, 132, 4, 1, 167, 255, 143, 16, 156, 172]
abbrev dktX0_sewing_6 : List UInt8 := dkwX0_sewing_6 ++ []
def dkwX0_sewing_5 : List UInt8 := [160, 0, 8, 21, 5, 167, 0, 16, 21, 7, 153, 0, 8, 21, 6, 167, 0, 6, 21, 6, 116, 172]
abbrev dktX0_sewing_5 : List UInt8 := dkwX0_sewing_5 ++ dktX0_sewing_6
def dkwX0_sewing_4 : List UInt8 := [21, 5, 182, 1, 34, 154, 0, 6, 167, 0, 36, 29, 154, 0, 8, 21, 4, 167, 0, 26, 29, 4]
abbrev dktX0_sewing_4 : List UInt8 := dkwX0_sewing_4 ++ dktX0_sewing_5
def dkwX0_sewing_3 : List UInt8 := [42, 27, 28, 21, 6, 21, 5, 182, 1, 34, 54, 7, 21, 7, 154, 0, 20, 42, 27, 28, 21, 6, 116]
abbrev dktX0_sewing_3 : List UInt8 := dkwX0_sewing_3 ++ dktX0_sewing_4
def dkwX0_sewing_2 : List UInt8 := [184, 0, 7, 54, 5, 21, 5, 21, 4, 16, 20, 184, 0, 1, 163, 0, 83, 21, 4, 21, 5, 100, 54, 6]
abbrev dktX0_sewing_2 : List UInt8 := dkwX0_sewing_2 ++ dktX0_sewing_3
def dkwX0_sewing_1 : List UInt8 := [154, 0, 6, 16, 156, 172, 3, 54, 4, 21, 4, 16, 40, 163, 0, 112, 3, 21, 4, 16, 20, 100]
abbrev dktX0_sewing_1 : List UInt8 := dkwX0_sewing_1 ++ dktX0_sewing_2
def dkwX0_sewing_0 : List UInt8 := [42, 27, 182, 0, 205, 153, 0, 20, 42, 28, 182, 0, 180, 153, 0, 12, 29, 3, 5, 184, 0, 145]
abbrev dktX0_sewing_0 : List UInt8 := dkwX0_sewing_0 ++ dktX0_sewing_1
theorem dksX0_sewing_0 : cX0_sewing.data.toList.drop 0 = dktX0_sewing_0 := by decide +kernel
theorem dksX0_sewing_1 : cX0_sewing.data.toList.drop 22 = dktX0_sewing_1 := dk_seg dksX0_sewing_0 22 rfl rfl
theorem dksX0_sewing_2 : cX0_sewing.data.toList.drop 44 = dktX0_sewing_2 := dk_seg dksX0_sewing_1 22 rfl rfl
theorem dksX0_sewing_3 : cX0_sewing.data.toList.drop 68 = dktX0_sewing_3 := dk_seg dksX0_sewing_2 24 rfl rfl
theorem dksX0_sewing_4 : cX0_sewing.data.toList.drop 91 = dktX0_sewing_4 := dk_seg dksX0_sewing_3 23 rfl rfl
theorem dksX0_sewing_5 : cX0_sewing.data.toList.drop 113 = dktX0_sewing_5 := dk_seg dksX0_sewing_4 22 rfl rfl
theorem dksX0_sewing_6 : cX0_sewing.data.toList.drop 135 = dktX0_sewing_6 := dk_seg dksX0_sewing_5 22 rfl rfl
theorem dX0_sewing_0 : decode cX0_sewing 0 = .ok (.aload_n 0, 1) := dk_42 (dk_at dksX0_sewing_0 0 rfl rfl)
theorem dX0_sewing_1 : decode cX0_sewing 1 = .ok (.iload_n 1, 1) := dk_27 (dk_at dksX0_sewing_0 1 rfl rfl)
theorem dX0_sewing_2 : decode cX0_sewing 2 = .ok (.invokevirtual 205, 3) := dk_182 0 205 (dk_at dksX0_sewing_0 2 rfl rfl)
theorem dX0_sewing_5 : decode cX0_sewing 5 = .ok (.ifCond .eq 20, 3) := dk_153 0 20 (dk_at dksX0_sewing_0 5 rfl rfl)
theorem dX0_sewing_8 : decode cX0_sewing 8 = .ok (.aload_n 0, 1) := dk_42 (dk_at dksX0_sewing_0 8 rfl rfl)
theorem dX0_sewing_9 : decode cX0_sewing 9 = .ok (.iload_n 2, 1) := dk_28 (dk_at dksX0_sewing_0 9 rfl rfl)
theorem dX0_sewing_10 : decode cX0_sewing 10 = .ok (.invokevirtual 180, 3) := dk_182 0 180 (dk_at dksX0_sewing_0 10 rfl rfl)
theorem dX0_sewing_13 : decode cX0_sewing 13 = .ok (.ifCond .eq 12, 3) := dk_153 0 12 (dk_at dksX0_sewing_0 13 rfl rfl)
theorem dX0_sewing_16 : decode cX0_sewing 16 = .ok (.iload_n 3, 1) := dk_29 (dk_at dksX0_sewing_0 16 rfl rfl)
theorem dX0_sewing_17 : decode cX0_sewing 17 = .ok (.iconst 0, 1) := dk_3 (dk_at dksX0_sewing_0 17 rfl rfl)
theorem dX0_sewing_18 : decode cX0_sewing 18 = .ok (.iconst 2, 1) := dk_5 (dk_at dksX0_sewing_0 18 rfl rfl)
theorem dX0_sewing_19 : decode cX0_sewing 19 = .ok (.invokestatic 145, 3) := dk_184 0 145 (dk_at dksX0_sewing_0 19 rfl rfl)
theorem dX0_sewing_22 : decode cX0_sewing 22 = .ok (.ifCond .ne 6, 3) := dk_154 0 6 (dk_at dksX0_sewing_1 0 rfl rfl)
theorem dX0_sewing_25 : decode cX0_sewing 25 = .ok (.bipush (-100), 2) := dk_16 156 (dk_at dksX0_sewing_1 3 rfl rfl)
theorem dX0_sewing_27 : decode cX0_sewing 27 = .ok (.ireturn, 1) := dk_172 (dk_at dksX0_sewing_1 5 rfl rfl)
theorem dX0_sewing_28 : decode cX0_sewing 28 = .ok (.iconst 0, 1) := dk_3 (dk_at dksX0_sewing_1 6 rfl rfl)
theorem dX0_sewing_29 : decode cX0_sewing 29 = .ok (.istore 4, 2) := dk_54 4 (dk_at dksX0_sewing_1 7 rfl rfl)
theorem dX0_sewing_31 : decode cX0_sewing 31 = .ok (.iload 4, 2) := dk_21 4 (dk_at dksX0_sewing_1 9 rfl rfl)
theorem dX0_sewing_33 : decode cX0_sewing 33 = .ok (.bipush 40, 2) := dk_16 40 (dk_at dksX0_sewing_1 11 rfl rfl)
theorem dX0_sewing_35 : decode cX0_sewing 35 = .ok (.if_icmp .gt 112, 3) := dk_163 0 112 (dk_at dksX0_sewing_1 13 rfl rfl)
theorem dX0_sewing_38 : decode cX0_sewing 38 = .ok (.iconst 0, 1) := dk_3 (dk_at dksX0_sewing_1 16 rfl rfl)
theorem dX0_sewing_39 : decode cX0_sewing 39 = .ok (.iload 4, 2) := dk_21 4 (dk_at dksX0_sewing_1 17 rfl rfl)
theorem dX0_sewing_41 : decode cX0_sewing 41 = .ok (.bipush 20, 2) := dk_16 20 (dk_at dksX0_sewing_1 19 rfl rfl)
theorem dX0_sewing_43 : decode cX0_sewing 43 = .ok (.isub, 1) := dk_100 (dk_at dksX0_sewing_1 21 rfl rfl)
theorem dX0_sewing_44 : decode cX0_sewing 44 = .ok (.invokestatic 7, 3) := dk_184 0 7 (dk_at dksX0_sewing_2 0 rfl rfl)
theorem dX0_sewing_47 : decode cX0_sewing 47 = .ok (.istore 5, 2) := dk_54 5 (dk_at dksX0_sewing_2 3 rfl rfl)
theorem dX0_sewing_49 : decode cX0_sewing 49 = .ok (.iload 5, 2) := dk_21 5 (dk_at dksX0_sewing_2 5 rfl rfl)
theorem dX0_sewing_51 : decode cX0_sewing 51 = .ok (.iload 4, 2) := dk_21 4 (dk_at dksX0_sewing_2 7 rfl rfl)
theorem dX0_sewing_53 : decode cX0_sewing 53 = .ok (.bipush 20, 2) := dk_16 20 (dk_at dksX0_sewing_2 9 rfl rfl)
theorem dX0_sewing_55 : decode cX0_sewing 55 = .ok (.invokestatic 1, 3) := dk_184 0 1 (dk_at dksX0_sewing_2 11 rfl rfl)
theorem dX0_sewing_58 : decode cX0_sewing 58 = .ok (.if_icmp .gt 83, 3) := dk_163 0 83 (dk_at dksX0_sewing_2 14 rfl rfl)
theorem dX0_sewing_61 : decode cX0_sewing 61 = .ok (.iload 4, 2) := dk_21 4 (dk_at dksX0_sewing_2 17 rfl rfl)
theorem dX0_sewing_63 : decode cX0_sewing 63 = .ok (.iload 5, 2) := dk_21 5 (dk_at dksX0_sewing_2 19 rfl rfl)
theorem dX0_sewing_65 : decode cX0_sewing 65 = .ok (.isub, 1) := dk_100 (dk_at dksX0_sewing_2 21 rfl rfl)
theorem dX0_sewing_66 : decode cX0_sewing 66 = .ok (.istore 6, 2) := dk_54 6 (dk_at dksX0_sewing_2 22 rfl rfl)
theorem dX0_sewing_68 : decode cX0_sewing 68 = .ok (.aload_n 0, 1) := dk_42 (dk_at dksX0_sewing_3 0 rfl rfl)
theorem dX0_sewing_69 : decode cX0_sewing 69 = .ok (.iload_n 1, 1) := dk_27 (dk_at dksX0_sewing_3 1 rfl rfl)
theorem dX0_sewing_70 : decode cX0_sewing 70 = .ok (.iload_n 2, 1) := dk_28 (dk_at dksX0_sewing_3 2 rfl rfl)
theorem dX0_sewing_71 : decode cX0_sewing 71 = .ok (.iload 6, 2) := dk_21 6 (dk_at dksX0_sewing_3 3 rfl rfl)
theorem dX0_sewing_73 : decode cX0_sewing 73 = .ok (.iload 5, 2) := dk_21 5 (dk_at dksX0_sewing_3 5 rfl rfl)
theorem dX0_sewing_75 : decode cX0_sewing 75 = .ok (.invokevirtual 290, 3) := dk_182 1 34 (dk_at dksX0_sewing_3 7 rfl rfl)
theorem dX0_sewing_78 : decode cX0_sewing 78 = .ok (.istore 7, 2) := dk_54 7 (dk_at dksX0_sewing_3 10 rfl rfl)
theorem dX0_sewing_80 : decode cX0_sewing 80 = .ok (.iload 7, 2) := dk_21 7 (dk_at dksX0_sewing_3 12 rfl rfl)
theorem dX0_sewing_82 : decode cX0_sewing 82 = .ok (.ifCond .ne 20, 3) := dk_154 0 20 (dk_at dksX0_sewing_3 14 rfl rfl)
theorem dX0_sewing_85 : decode cX0_sewing 85 = .ok (.aload_n 0, 1) := dk_42 (dk_at dksX0_sewing_3 17 rfl rfl)
theorem dX0_sewing_86 : decode cX0_sewing 86 = .ok (.iload_n 1, 1) := dk_27 (dk_at dksX0_sewing_3 18 rfl rfl)
theorem dX0_sewing_87 : decode cX0_sewing 87 = .ok (.iload_n 2, 1) := dk_28 (dk_at dksX0_sewing_3 19 rfl rfl)
theorem dX0_sewing_88 : decode cX0_sewing 88 = .ok (.iload 6, 2) := dk_21 6 (dk_at dksX0_sewing_3 20 rfl rfl)
theorem dX0_sewing_90 : decode cX0_sewing 90 = .ok (.ineg, 1) := dk_116 (dk_at dksX0_sewing_3 22 rfl rfl)
theorem dX0_sewing_91 : decode cX0_sewing 91 = .ok (.iload 5, 2) := dk_21 5 (dk_at dksX0_sewing_4 0 rfl rfl)
theorem dX0_sewing_93 : decode cX0_sewing 93 = .ok (.invokevirtual 290, 3) := dk_182 1 34 (dk_at dksX0_sewing_4 2 rfl rfl)
theorem dX0_sewing_96 : decode cX0_sewing 96 = .ok (.ifCond .ne 6, 3) := dk_154 0 6 (dk_at dksX0_sewing_4 5 rfl rfl)
theorem dX0_sewing_99 : decode cX0_sewing 99 = .ok (.goto 36, 3) := dk_167 0 36 (dk_at dksX0_sewing_4 8 rfl rfl)
theorem dX0_sewing_102 : decode cX0_sewing 102 = .ok (.iload_n 3, 1) := dk_29 (dk_at dksX0_sewing_4 11 rfl rfl)
theorem dX0_sewing_103 : decode cX0_sewing 103 = .ok (.ifCond .ne 8, 3) := dk_154 0 8 (dk_at dksX0_sewing_4 12 rfl rfl)
theorem dX0_sewing_106 : decode cX0_sewing 106 = .ok (.iload 4, 2) := dk_21 4 (dk_at dksX0_sewing_4 15 rfl rfl)
theorem dX0_sewing_108 : decode cX0_sewing 108 = .ok (.goto 26, 3) := dk_167 0 26 (dk_at dksX0_sewing_4 17 rfl rfl)
theorem dX0_sewing_111 : decode cX0_sewing 111 = .ok (.iload_n 3, 1) := dk_29 (dk_at dksX0_sewing_4 20 rfl rfl)
theorem dX0_sewing_112 : decode cX0_sewing 112 = .ok (.iconst 1, 1) := dk_4 (dk_at dksX0_sewing_4 21 rfl rfl)
theorem dX0_sewing_113 : decode cX0_sewing 113 = .ok (.if_icmp .ne 8, 3) := dk_160 0 8 (dk_at dksX0_sewing_5 0 rfl rfl)
theorem dX0_sewing_116 : decode cX0_sewing 116 = .ok (.iload 5, 2) := dk_21 5 (dk_at dksX0_sewing_5 3 rfl rfl)
theorem dX0_sewing_118 : decode cX0_sewing 118 = .ok (.goto 16, 3) := dk_167 0 16 (dk_at dksX0_sewing_5 5 rfl rfl)
theorem dX0_sewing_121 : decode cX0_sewing 121 = .ok (.iload 7, 2) := dk_21 7 (dk_at dksX0_sewing_5 8 rfl rfl)
theorem dX0_sewing_123 : decode cX0_sewing 123 = .ok (.ifCond .eq 8, 3) := dk_153 0 8 (dk_at dksX0_sewing_5 10 rfl rfl)
theorem dX0_sewing_126 : decode cX0_sewing 126 = .ok (.iload 6, 2) := dk_21 6 (dk_at dksX0_sewing_5 13 rfl rfl)
theorem dX0_sewing_128 : decode cX0_sewing 128 = .ok (.goto 6, 3) := dk_167 0 6 (dk_at dksX0_sewing_5 15 rfl rfl)
theorem dX0_sewing_131 : decode cX0_sewing 131 = .ok (.iload 6, 2) := dk_21 6 (dk_at dksX0_sewing_5 18 rfl rfl)
theorem dX0_sewing_133 : decode cX0_sewing 133 = .ok (.ineg, 1) := dk_116 (dk_at dksX0_sewing_5 20 rfl rfl)
theorem dX0_sewing_134 : decode cX0_sewing 134 = .ok (.ireturn, 1) := dk_172 (dk_at dksX0_sewing_5 21 rfl rfl)
theorem dX0_sewing_135 : decode cX0_sewing 135 = .ok (.iinc 5 1, 3) := dk_132 5 1 (dk_at dksX0_sewing_6 0 rfl rfl)
theorem dX0_sewing_138 : decode cX0_sewing 138 = .ok (.goto (-89), 3) := dk_167 255 167 (dk_at dksX0_sewing_6 3 rfl rfl)
theorem dX0_sewing_141 : decode cX0_sewing 141 = .ok (.iinc 4 1, 3) := dk_132 4 1 (dk_at dksX0_sewing_6 6 rfl rfl)
theorem dX0_sewing_144 : decode cX0_sewing 144 = .ok (.goto (-113), 3) := dk_167 255 143 (dk_at dksX0_sewing_6 9 rfl rfl)
theorem dX0_sewing_147 : decode cX0_sewing 147 = .ok (.bipush (-100), 2) := dk_16 156 (dk_at dksX0_sewing_6 12 rfl rfl)
theorem dX0_sewing_149 : decode cX0_sewing 149 = .ok (.ireturn, 1) := dk_172 (dk_at dksX0_sewing_6 14 rfl rfl)
abbrev cX0_doesFit : ByteArray := prog_1_method_41_code
def yX0_doesFit : MethodName := ⟨RX0, "doesFit", "(IIII)Z"⟩
def dkwX0_doesFit_5 : List UInt8 := [167, 0, 4, 3, 172]
abbrev dktX0_doesFit_5 : List UInt8 := dkwX0_doesFit_5 ++ []
def dkwX0_doesFit_4 : List UInt8 := [21, 5, 153, 0, 23, 42, 180, 0, 19, 42, 180, 0, 32, 28, 27, 182, 0, 176, 153, 0, 7, 4]
abbrev dktX0_doesFit_4 : List UInt8 := dkwX0_doesFit_4 ++ dktX0_doesFit_5
def dkwX0_doesFit_3 : List UInt8 := [156, 0, 17, 29, 116, 42, 180, 0, 28, 180, 0, 213, 27, 46, 163, 0, 7, 4, 167, 0, 4, 3, 54, 5]
abbrev dktX0_doesFit_3 : List UInt8 := dkwX0_doesFit_3 ++ dktX0_doesFit_4
def dkwX0_doesFit_2 : List UInt8 := [155, 0, 43, 42, 180, 0, 32, 180, 0, 210, 27, 46, 3, 16, 99, 184, 0, 145, 153, 0, 25, 29]
abbrev dktX0_doesFit_2 : List UInt8 := dkwX0_doesFit_2 ++ dktX0_doesFit_3
def dkwX0_doesFit_1 : List UInt8 := [42, 180, 0, 32, 180, 0, 208, 27, 92, 46, 21, 4, 100, 79, 42, 180, 0, 32, 180, 0, 208, 27, 46]
abbrev dktX0_doesFit_1 : List UInt8 := dkwX0_doesFit_1 ++ dktX0_doesFit_2
def dkwX0_doesFit_0 : List UInt8 := [42, 180, 0, 32, 42, 180, 0, 28, 182, 0, 118, 42, 180, 0, 32, 180, 0, 210, 27, 92, 46, 29, 100, 79]
abbrev dktX0_doesFit_0 : List UInt8 := dkwX0_doesFit_0 ++ dktX0_doesFit_1
theorem dksX0_doesFit_0 : cX0_doesFit.data.toList.drop 0 = dktX0_doesFit_0 := by decide +kernel
theorem dksX0_doesFit_1 : cX0_doesFit.data.toList.drop 24 = dktX0_doesFit_1 := dk_seg dksX0_doesFit_0 24 rfl rfl
theorem dksX0_doesFit_2 : cX0_doesFit.data.toList.drop 47 = dktX0_doesFit_2 := dk_seg dksX0_doesFit_1 23 rfl rfl
theorem dksX0_doesFit_3 : cX0_doesFit.data.toList.drop 69 = dktX0_doesFit_3 := dk_seg dksX0_doesFit_2 22 rfl rfl
theorem dksX0_doesFit_4 : cX0_doesFit.data.toList.drop 93 = dktX0_doesFit_4 := dk_seg dksX0_doesFit_3 24 rfl rfl
theorem dksX0_doesFit_5 : cX0_doesFit.data.toList.drop 115 = dktX0_doesFit_5 := dk_seg dksX0_doesFit_4 22 rfl rfl
theorem dX0_doesFit_0 : decode cX0_doesFit 0 = .ok (.aload_n 0, 1) := dk_42 (dk_at dksX0_doesFit_0 0 rfl rfl)
theorem dX0_doesFit_1 : decode cX0_doesFit 1 = .ok (.getfield 32, 3) := dk_180 0 32 (dk_at dksX0_doesFit_0 1 rfl rfl)
theorem dX0_doesFit_4 : decode cX0_doesFit 4 = .ok (.aload_n 0, 1) := dk_42 (dk_at dksX0_doesFit_0 4 rfl rfl)
theorem dX0_doesFit_5 : decode cX0_doesFit 5 = .ok (.getfield 28, 3) := dk_180 0 28 (dk_at dksX0_doesFit_0 5 rfl rfl)
theorem dX0_doesFit_8 : decode cX0_doesFit 8 = .ok (.invokevirtual 118, 3) := dk_182 0 118 (dk_at dksX0_doesFit_0 8 rfl rfl)
theorem dX0_doesFit_11 : decode cX0_doesFit 11 = .ok (.aload_n 0, 1) := dk_42 (dk_at dksX0_doesFit_0 11 rfl rfl)
theorem dX0_doesFit_12 : decode cX0_doesFit 12 = .ok (.getfield 32, 3) := dk_180 0 32 (dk_at dksX0_doesFit_0 12 rfl rfl)
theorem dX0_doesFit_15 : decode cX0_doesFit 15 = .ok (.getfield 210, 3) := dk_180 0 210 (dk_at dksX0_doesFit_0 15 rfl rfl)
theorem dX0_doesFit_18 : decode cX0_doesFit 18 = .ok (.iload_n 1, 1) := dk_27 (dk_at dksX0_doesFit_0 18 rfl rfl)
theorem dX0_doesFit_19 : decode cX0_doesFit 19 = .ok (.dup2, 1) := dk_92 (dk_at dksX0_doesFit_0 19 rfl rfl)
theorem dX0_doesFit_20 : decode cX0_doesFit 20 = .ok (.iaload, 1) := dk_46 (dk_at dksX0_doesFit_0 20 rfl rfl)
theorem dX0_doesFit_21 : decode cX0_doesFit 21 = .ok (.iload_n 3, 1) := dk_29 (dk_at dksX0_doesFit_0 21 rfl rfl)
theorem dX0_doesFit_22 : decode cX0_doesFit 22 = .ok (.isub, 1) := dk_100 (dk_at dksX0_doesFit_0 22 rfl rfl)
theorem dX0_doesFit_23 : decode cX0_doesFit 23 = .ok (.iastore, 1) := dk_79 (dk_at dksX0_doesFit_0 23 rfl rfl)
theorem dX0_doesFit_24 : decode cX0_doesFit 24 = .ok (.aload_n 0, 1) := dk_42 (dk_at dksX0_doesFit_1 0 rfl rfl)
theorem dX0_doesFit_25 : decode cX0_doesFit 25 = .ok (.getfield 32, 3) := dk_180 0 32 (dk_at dksX0_doesFit_1 1 rfl rfl)
theorem dX0_doesFit_28 : decode cX0_doesFit 28 = .ok (.getfield 208, 3) := dk_180 0 208 (dk_at dksX0_doesFit_1 4 rfl rfl)
theorem dX0_doesFit_31 : decode cX0_doesFit 31 = .ok (.iload_n 1, 1) := dk_27 (dk_at dksX0_doesFit_1 7 rfl rfl)
theorem dX0_doesFit_32 : decode cX0_doesFit 32 = .ok (.dup2, 1) := dk_92 (dk_at dksX0_doesFit_1 8 rfl rfl)
theorem dX0_doesFit_33 : decode cX0_doesFit 33 = .ok (.iaload, 1) := dk_46 (dk_at dksX0_doesFit_1 9 rfl rfl)
theorem dX0_doesFit_34 : decode cX0_doesFit 34 = .ok (.iload 4, 2) := dk_21 4 (dk_at dksX0_doesFit_1 10 rfl rfl)
theorem dX0_doesFit_36 : decode cX0_doesFit 36 = .ok (.isub, 1) := dk_100 (dk_at dksX0_doesFit_1 12 rfl rfl)
theorem dX0_doesFit_37 : decode cX0_doesFit 37 = .ok (.iastore, 1) := dk_79 (dk_at dksX0_doesFit_1 13 rfl rfl)
theorem dX0_doesFit_38 : decode cX0_doesFit 38 = .ok (.aload_n 0, 1) := dk_42 (dk_at dksX0_doesFit_1 14 rfl rfl)
theorem dX0_doesFit_39 : decode cX0_doesFit 39 = .ok (.getfield 32, 3) := dk_180 0 32 (dk_at dksX0_doesFit_1 15 rfl rfl)
theorem dX0_doesFit_42 : decode cX0_doesFit 42 = .ok (.getfield 208, 3) := dk_180 0 208 (dk_at dksX0_doesFit_1 18 rfl rfl)
theorem dX0_doesFit_45 : decode cX0_doesFit 45 = .ok (.iload_n 1, 1) := dk_27 (dk_at dksX0_doesFit_1 21 rfl rfl)
theorem dX0_doesFit_46 : decode cX0_doesFit 46 = .ok (.iaload, 1) := dk_46 (dk_at dksX0_doesFit_1 22 rfl rfl)
theorem dX0_doesFit_47 : decode cX0_doesFit 47 = .ok (.ifCond .lt 43, 3) := dk_155 0 43 (dk_at dksX0_doesFit_2 0 rfl rfl)
theorem dX0_doesFit_50 : decode cX0_doesFit 50 = .ok (.aload_n 0, 1) := dk_42 (dk_at dksX0_doesFit_2 3 rfl rfl)
theorem dX0_doesFit_51 : decode cX0_doesFit 51 = .ok (.getfield 32, 3) := dk_180 0 32 (dk_at dksX0_doesFit_2 4 rfl rfl)
theorem dX0_doesFit_54 : decode cX0_doesFit 54 = .ok (.getfield 210, 3) := dk_180 0 210 (dk_at dksX0_doesFit_2 7 rfl rfl)
theorem dX0_doesFit_57 : decode cX0_doesFit 57 = .ok (.iload_n 1, 1) := dk_27 (dk_at dksX0_doesFit_2 10 rfl rfl)
theorem dX0_doesFit_58 : decode cX0_doesFit 58 = .ok (.iaload, 1) := dk_46 (dk_at dksX0_doesFit_2 11 rfl rfl)
theorem dX0_doesFit_59 : decode cX0_doesFit 59 = .ok (.iconst 0, 1) := dk_3 (dk_at dksX0_doesFit_2 12 rfl rfl)
theorem dX0_doesFit_60 : decode cX0_doesFit 60 = .ok (.bipush 99, 2) := dk_16 99 (dk_at dksX0_doesFit_2 13 rfl rfl)
theorem dX0_doesFit_62 : decode cX0_doesFit 62 = .ok (.invokestatic 145, 3) := dk_184 0 145 (dk_at dksX0_doesFit_2 15 rfl rfl)
theorem dX0_doesFit_65 : decode cX0_doesFit 65 = .ok (.ifCond .eq 25, 3) := dk_153 0 25 (dk_at dksX0_doesFit_2 18 rfl rfl)
theorem dX0_doesFit_68 : decode cX0_doesFit 68 = .ok (.iload_n 3, 1) := dk_29 (dk_at dksX0_doesFit_2 21 rfl rfl)
theorem dX0_doesFit_69 : decode cX0_doesFit 69 = .ok (.ifCond .ge 17, 3) := dk_156 0 17 (dk_at dksX0_doesFit_3 0 rfl rfl)
theorem dX0_doesFit_72 : decode cX0_doesFit 72 = .ok (.iload_n 3, 1) := dk_29 (dk_at dksX0_doesFit_3 3 rfl rfl)
theorem dX0_doesFit_73 : decode cX0_doesFit 73 = .ok (.ineg, 1) := dk_116 (dk_at dksX0_doesFit_3 4 rfl rfl)
theorem dX0_doesFit_74 : decode cX0_doesFit 74 = .ok (.aload_n 0, 1) := dk_42 (dk_at dksX0_doesFit_3 5 rfl rfl)
theorem dX0_doesFit_75 : decode cX0_doesFit 75 = .ok (.getfield 28, 3) := dk_180 0 28 (dk_at dksX0_doesFit_3 6 rfl rfl)
theorem dX0_doesFit_78 : decode cX0_doesFit 78 = .ok (.getfield 213, 3) := dk_180 0 213 (dk_at dksX0_doesFit_3 9 rfl rfl)
theorem dX0_doesFit_81 : decode cX0_doesFit 81 = .ok (.iload_n 1, 1) := dk_27 (dk_at dksX0_doesFit_3 12 rfl rfl)
theorem dX0_doesFit_82 : decode cX0_doesFit 82 = .ok (.iaload, 1) := dk_46 (dk_at dksX0_doesFit_3 13 rfl rfl)
theorem dX0_doesFit_83 : decode cX0_doesFit 83 = .ok (.if_icmp .gt 7, 3) := dk_163 0 7 (dk_at dksX0_doesFit_3 14 rfl rfl)
theorem dX0_doesFit_86 : decode cX0_doesFit 86 = .ok (.iconst 1, 1) := dk_4 (dk_at dksX0_doesFit_3 17 rfl rfl)
theorem dX0_doesFit_87 : decode cX0_doesFit 87 = .ok (.goto 4, 3) := dk_167 0 4 (dk_at dksX0_doesFit_3 18 rfl rfl)
theorem dX0_doesFit_90 : decode cX0_doesFit 90 = .ok (.iconst 0, 1) := dk_3 (dk_at dksX0_doesFit_3 21 rfl rfl)
theorem dX0_doesFit_91 : decode cX0_doesFit 91 = .ok (.istore 5, 2) := dk_54 5 (dk_at dksX0_doesFit_3 22 rfl rfl)
theorem dX0_doesFit_93 : decode cX0_doesFit 93 = .ok (.iload 5, 2) := dk_21 5 (dk_at dksX0_doesFit_4 0 rfl rfl)
theorem dX0_doesFit_95 : decode cX0_doesFit 95 = .ok (.ifCond .eq 23, 3) := dk_153 0 23 (dk_at dksX0_doesFit_4 2 rfl rfl)
theorem dX0_doesFit_98 : decode cX0_doesFit 98 = .ok (.aload_n 0, 1) := dk_42 (dk_at dksX0_doesFit_4 5 rfl rfl)
theorem dX0_doesFit_99 : decode cX0_doesFit 99 = .ok (.getfield 19, 3) := dk_180 0 19 (dk_at dksX0_doesFit_4 6 rfl rfl)
theorem dX0_doesFit_102 : decode cX0_doesFit 102 = .ok (.aload_n 0, 1) := dk_42 (dk_at dksX0_doesFit_4 9 rfl rfl)
theorem dX0_doesFit_103 : decode cX0_doesFit 103 = .ok (.getfield 32, 3) := dk_180 0 32 (dk_at dksX0_doesFit_4 10 rfl rfl)
theorem dX0_doesFit_106 : decode cX0_doesFit 106 = .ok (.iload_n 2, 1) := dk_28 (dk_at dksX0_doesFit_4 13 rfl rfl)
theorem dX0_doesFit_107 : decode cX0_doesFit 107 = .ok (.iload_n 1, 1) := dk_27 (dk_at dksX0_doesFit_4 14 rfl rfl)
theorem dX0_doesFit_108 : decode cX0_doesFit 108 = .ok (.invokevirtual 176, 3) := dk_182 0 176 (dk_at dksX0_doesFit_4 15 rfl rfl)
theorem dX0_doesFit_111 : decode cX0_doesFit 111 = .ok (.ifCond .eq 7, 3) := dk_153 0 7 (dk_at dksX0_doesFit_4 18 rfl rfl)
theorem dX0_doesFit_114 : decode cX0_doesFit 114 = .ok (.iconst 1, 1) := dk_4 (dk_at dksX0_doesFit_4 21 rfl rfl)
theorem dX0_doesFit_115 : decode cX0_doesFit 115 = .ok (.goto 4, 3) := dk_167 0 4 (dk_at dksX0_doesFit_5 0 rfl rfl)
theorem dX0_doesFit_118 : decode cX0_doesFit 118 = .ok (.iconst 0, 1) := dk_3 (dk_at dksX0_doesFit_5 3 rfl rfl)
theorem dX0_doesFit_119 : decode cX0_doesFit 119 = .ok (.ireturn, 1) := dk_172 (dk_at dksX0_doesFit_5 4 rfl rfl)
abbrev cX0_turning : ByteArray := prog_1_method_43_code
def yX0_turning : MethodName := ⟨RX0, "turning", "()I"⟩
def dkwX0_turning_3 : List UInt8 := [28, 163, 0, 6, 167, 0, 8, 29, 60, 21, 4, 61, 132, 3, 1, 167, 255, 177, 27, 172]
abbrev dktX0_turning_3 : List UInt8 := dkwX0_turning_3 ++ []
def dkwX0_turning_2 : List UInt8 := [180, 0, 216, 29, 3, 79, 42, 180, 0, 32, 42, 180, 0, 19, 182, 1, 4, 184, 1, 25, 54, 4, 21, 4]
abbrev dktX0_turning_2 : List UInt8 := dkwX0_turning_2 ++ dktX0_turning_3
def dkwX0_turning_1 : List UInt8 := [184, 0, 239, 153, 0, 6, 167, 0, 54, 42, 180, 0, 32, 42, 180, 0, 28, 182, 0, 118, 42, 180, 0, 32]
abbrev dktX0_turning_1 : List UInt8 := dkwX0_turning_1 ++ dktX0_turning_2
def dkwX0_turning_0 : List UInt8 := [2, 60, 2, 61, 3, 62, 29, 42, 182, 0, 149, 162, 0, 77, 42, 180, 0, 28, 180, 0, 219, 29]
abbrev dktX0_turning_0 : List UInt8 := dkwX0_turning_0 ++ dktX0_turning_1
theorem dksX0_turning_0 : cX0_turning.data.toList.drop 0 = dktX0_turning_0 := by decide +kernel
theorem dksX0_turning_1 : cX0_turning.data.toList.drop 22 = dktX0_turning_1 := dk_seg dksX0_turning_0 22 rfl rfl
theorem dksX0_turning_2 : cX0_turning.data.toList.drop 46 = dktX0_turning_2 := dk_seg dksX0_turning_1 24 rfl rfl
theorem dksX0_turning_3 : cX0_turning.data.toList.drop 70 = dktX0_turning_3 := dk_seg dksX0_turning_2 24 rfl rfl
theorem dX0_turning_0 : decode cX0_turning 0 = .ok (.iconst (-1), 1) := dk_2 (dk_at dksX0_turning_0 0 rfl rfl)
theorem dX0_turning_1 : decode cX0_turning 1 = .ok (.istore_n 1, 1) := dk_60 (dk_at dksX0_turning_0 1 rfl rfl)
theorem dX0_turning_2 : decode cX0_turning 2 = .ok (.iconst (-1), 1) := dk_2 (dk_at dksX0_turning_0 2 rfl rfl)
theorem dX0_turning_3 : decode cX0_turning 3 = .ok (.istore_n 2, 1) := dk_61 (dk_at dksX0_turning_0 3 rfl rfl)
theorem dX0_turning_4 : decode cX0_turning 4 = .ok (.iconst 0, 1) := dk_3 (dk_at dksX0_turning_0 4 rfl rfl)
theorem dX0_turning_5 : decode cX0_turning 5 = .ok (.istore_n 3, 1) := dk_62 (dk_at dksX0_turning_0 5 rfl rfl)
theorem dX0_turning_6 : decode cX0_turning 6 = .ok (.iload_n 3, 1) := dk_29 (dk_at dksX0_turning_0 6 rfl rfl)
theorem dX0_turning_7 : decode cX0_turning 7 = .ok (.aload_n 0, 1) := dk_42 (dk_at dksX0_turning_0 7 rfl rfl)
theorem dX0_turning_8 : decode cX0_turning 8 = .ok (.invokevirtual 149, 3) := dk_182 0 149 (dk_at dksX0_turning_0 8 rfl rfl)
theorem dX0_turning_11 : decode cX0_turning 11 = .ok (.if_icmp .ge 77, 3) := dk_162 0 77 (dk_at dksX0_turning_0 11 rfl rfl)
theorem dX0_turning_14 : decode cX0_turning 14 = .ok (.aload_n 0, 1) := dk_42 (dk_at dksX0_turning_0 14 rfl rfl)
theorem dX0_turning_15 : decode cX0_turning 15 = .ok (.getfield 28, 3) := dk_180 0 28 (dk_at dksX0_turning_0 15 rfl rfl)
theorem dX0_turning_18 : decode cX0_turning 18 = .ok (.getfield 219, 3) := dk_180 0 219 (dk_at dksX0_turning_0 18 rfl rfl)
theorem dX0_turning_21 : decode cX0_turning 21 = .ok (.iload_n 3, 1) := dk_29 (dk_at dksX0_turning_0 21 rfl rfl)
theorem dX0_turning_22 : decode cX0_turning 22 = .ok (.invokestatic 239, 3) := dk_184 0 239 (dk_at dksX0_turning_1 0 rfl rfl)
theorem dX0_turning_25 : decode cX0_turning 25 = .ok (.ifCond .eq 6, 3) := dk_153 0 6 (dk_at dksX0_turning_1 3 rfl rfl)
theorem dX0_turning_28 : decode cX0_turning 28 = .ok (.goto 54, 3) := dk_167 0 54 (dk_at dksX0_turning_1 6 rfl rfl)
theorem dX0_turning_31 : decode cX0_turning 31 = .ok (.aload_n 0, 1) := dk_42 (dk_at dksX0_turning_1 9 rfl rfl)
theorem dX0_turning_32 : decode cX0_turning 32 = .ok (.getfield 32, 3) := dk_180 0 32 (dk_at dksX0_turning_1 10 rfl rfl)
theorem dX0_turning_35 : decode cX0_turning 35 = .ok (.aload_n 0, 1) := dk_42 (dk_at dksX0_turning_1 13 rfl rfl)
theorem dX0_turning_36 : decode cX0_turning 36 = .ok (.getfield 28, 3) := dk_180 0 28 (dk_at dksX0_turning_1 14 rfl rfl)
theorem dX0_turning_39 : decode cX0_turning 39 = .ok (.invokevirtual 118, 3) := dk_182 0 118 (dk_at dksX0_turning_1 17 rfl rfl)
theorem dX0_turning_42 : decode cX0_turning 42 = .ok (.aload_n 0, 1) := dk_42 (dk_at dksX0_turning_1 20 rfl rfl)
theorem dX0_turning_43 : decode cX0_turning 43 = .ok (.getfield 32, 3) := dk_180 0 32 (dk_at dksX0_turning_1 21 rfl rfl)
theorem dX0_turning_46 : decode cX0_turning 46 = .ok (.getfield 216, 3) := dk_180 0 216 (dk_at dksX0_turning_2 0 rfl rfl)
theorem dX0_turning_49 : decode cX0_turning 49 = .ok (.iload_n 3, 1) := dk_29 (dk_at dksX0_turning_2 3 rfl rfl)
theorem dX0_turning_50 : decode cX0_turning 50 = .ok (.iconst 0, 1) := dk_3 (dk_at dksX0_turning_2 4 rfl rfl)
theorem dX0_turning_51 : decode cX0_turning 51 = .ok (.iastore, 1) := dk_79 (dk_at dksX0_turning_2 5 rfl rfl)
theorem dX0_turning_52 : decode cX0_turning 52 = .ok (.aload_n 0, 1) := dk_42 (dk_at dksX0_turning_2 6 rfl rfl)
theorem dX0_turning_53 : decode cX0_turning 53 = .ok (.getfield 32, 3) := dk_180 0 32 (dk_at dksX0_turning_2 7 rfl rfl)
theorem dX0_turning_56 : decode cX0_turning 56 = .ok (.aload_n 0, 1) := dk_42 (dk_at dksX0_turning_2 10 rfl rfl)
theorem dX0_turning_57 : decode cX0_turning 57 = .ok (.getfield 19, 3) := dk_180 0 19 (dk_at dksX0_turning_2 11 rfl rfl)
theorem dX0_turning_60 : decode cX0_turning 60 = .ok (.invokevirtual 260, 3) := dk_182 1 4 (dk_at dksX0_turning_2 14 rfl rfl)
theorem dX0_turning_63 : decode cX0_turning 63 = .ok (.invokestatic 281, 3) := dk_184 1 25 (dk_at dksX0_turning_2 17 rfl rfl)
theorem dX0_turning_66 : decode cX0_turning 66 = .ok (.istore 4, 2) := dk_54 4 (dk_at dksX0_turning_2 20 rfl rfl)
theorem dX0_turning_68 : decode cX0_turning 68 = .ok (.iload 4, 2) := dk_21 4 (dk_at dksX0_turning_2 22 rfl rfl)
theorem dX0_turning_70 : decode cX0_turning 70 = .ok (.iload_n 2, 1) := dk_28 (dk_at dksX0_turning_3 0 rfl rfl)
theorem dX0_turning_71 : decode cX0_turning 71 = .ok (.if_icmp .gt 6, 3) := dk_163 0 6 (dk_at dksX0_turning_3 1 rfl rfl)
theorem dX0_turning_74 : decode cX0_turning 74 = .ok (.goto 8, 3) := dk_167 0 8 (dk_at dksX0_turning_3 4 rfl rfl)
theorem dX0_turning_77 : decode cX0_turning 77 = .ok (.iload_n 3, 1) := dk_29 (dk_at dksX0_turning_3 7 rfl rfl)
theorem dX0_turning_78 : decode cX0_turning 78 = .ok (.istore_n 1, 1) := dk_60 (dk_at dksX0_turning_3 8 rfl rfl)
theorem dX0_turning_79 : decode cX0_turning 79 = .ok (.iload 4, 2) := dk_21 4 (dk_at dksX0_turning_3 9 rfl rfl)
theorem dX0_turning_81 : decode cX0_turning 81 = .ok (.istore_n 2, 1) := dk_61 (dk_at dksX0_turning_3 11 rfl rfl)
theorem dX0_turning_82 : decode cX0_turning 82 = .ok (.iinc 3 1, 3) := dk_132 3 1 (dk_at dksX0_turning_3 12 rfl rfl)
theorem dX0_turning_85 : decode cX0_turning 85 = .ok (.goto (-79), 3) := dk_167 255 177 (dk_at dksX0_turning_3 15 rfl rfl)
theorem dX0_turning_88 : decode cX0_turning 88 = .ok (.iload_n 1, 1) := dk_27 (dk_at dksX0_turning_3 18 rfl rfl)
theorem dX0_turning_89 : decode cX0_turning 89 = .ok (.ireturn, 1) := dk_172 (dk_at dksX0_turning_3 19 rfl rfl)
abbrev cX0_front : ByteArray := prog_1_method_45_code
def yX0_front : MethodName := ⟨RX0, "front", "(II)I"⟩
def dkwX0_front_2 : List UInt8 := [156, 0, 7, 2, 167, 0, 15, 28, 154, 0, 10, 29, 184, 1, 25, 167, 0, 4, 29, 172]
abbrev dktX0_front_2 : List UInt8 := dkwX0_front_2 ++ []
def dkwX0_front_1 : List UInt8 := [180, 0, 72, 27, 181, 1, 38, 42, 180, 0, 72, 42, 180, 0, 28, 182, 0, 254, 182, 1, 40, 62, 29]
abbrev dktX0_front_1 : List UInt8 := dkwX0_front_1 ++ dktX0_front_2
def dkwX0_front_0 : List UInt8 := [27, 3, 17, 3, 231, 184, 0, 145, 153, 0, 12, 28, 3, 4, 184, 0, 145, 154, 0, 5, 2, 172, 42]
abbrev dktX0_front_0 : List UInt8 := dkwX0_front_0 ++ dktX0_front_1
theorem dksX0_front_0 : cX0_front.data.toList.drop 0 = dktX0_front_0 := by decide +kernel
theorem dksX0_front_1 : cX0_front.data.toList.drop 23 = dktX0_front_1 := dk_seg dksX0_front_0 23 rfl rfl
theorem dksX0_front_2 : cX0_front.data.toList.drop 46 = dktX0_front_2 := dk_seg dksX0_front_1 23 rfl rfl
theorem dX0_front_0 : decode cX0_front 0 = .ok (.iload_n 1, 1) := dk_27 (dk_at dksX0_front_0 0 rfl rfl)
theorem dX0_front_1 : decode cX0_front 1 = .ok (.iconst 0, 1) := dk_3 (dk_at dksX0_front_0 1 rfl rfl)
theorem dX0_front_2 : decode cX0_front 2 = .ok (.sipush 999, 3) := dk_17 3 231 (dk_at dksX0_front_0 2 rfl rfl)
theorem dX0_front_5 : decode cX0_front 5 = .ok (.invokestatic 145, 3) := dk_184 0 145 (dk_at dksX0_front_0 5 rfl rfl)
theorem dX0_front_8 : decode cX0_front 8 = .ok (.ifCond .eq 12, 3) := dk_153 0 12 (dk_at dksX0_front_0 8 rfl rfl)
theorem dX0_front_11 : decode cX0_front 11 = .ok (.iload_n 2, 1) := dk_28 (dk_at dksX0_front_0 11 rfl rfl)
theorem dX0_front_12 : decode cX0_front 12 = .ok (.iconst 0, 1) := dk_3 (dk_at dksX0_front_0 12 rfl rfl)
theorem dX0_front_13 : decode cX0_front 13 = .ok (.iconst 1, 1) := dk_4 (dk_at dksX0_front_0 13 rfl rfl)
theorem dX0_front_14 : decode cX0_front 14 = .ok (.invokestatic 145, 3) := dk_184 0 145 (dk_at dksX0_front_0 14 rfl rfl)
theorem dX0_front_17 : decode cX0_front 17 = .ok (.ifCond .ne 5, 3) := dk_154 0 5 (dk_at dksX0_front_0 17 rfl rfl)
theorem dX0_front_20 : decode cX0_front 20 = .ok (.iconst (-1), 1) := dk_2 (dk_at dksX0_front_0 20 rfl rfl)
theorem dX0_front_21 : decode cX0_front 21 = .ok (.ireturn, 1) := dk_172 (dk_at dksX0_front_0 21 rfl rfl)
theorem dX0_front_22 : decode cX0_front 22 = .ok (.aload_n 0, 1) := dk_42 (dk_at dksX0_front_0 22 rfl rfl)
theorem dX0_front_23 : decode cX0_front 23 = .ok (.getfield 72, 3) := dk_180 0 72 (dk_at dksX0_front_1 0 rfl rfl)
theorem dX0_front_26 : decode cX0_front 26 = .ok (.iload_n 1, 1) := dk_27 (dk_at dksX0_front_1 3 rfl rfl)
theorem dX0_front_27 : decode cX0_front 27 = .ok (.putfield 294, 3) := dk_181 1 38 (dk_at dksX0_front_1 4 rfl rfl)
theorem dX0_front_30 : decode cX0_front 30 = .ok (.aload_n 0, 1) := dk_42 (dk_at dksX0_front_1 7 rfl rfl)
theorem dX0_front_31 : decode cX0_front 31 = .ok (.getfield 72, 3) := dk_180 0 72 (dk_at dksX0_front_1 8 rfl rfl)
theorem dX0_front_34 : decode cX0_front 34 = .ok (.aload_n 0, 1) := dk_42 (dk_at dksX0_front_1 11 rfl rfl)
theorem dX0_front_35 : decode cX0_front 35 = .ok (.getfield 28, 3) := dk_180 0 28 (dk_at dksX0_front_1 12 rfl rfl)
theorem dX0_front_38 : decode cX0_front 38 = .ok (.invokevirtual 254, 3) := dk_182 0 254 (dk_at dksX0_front_1 15 rfl rfl)
theorem dX0_front_41 : decode cX0_front 41 = .ok (.invokevirtual 296, 3) := dk_182 1 40 (dk_at dksX0_front_1 18 rfl rfl)
theorem dX0_front_44 : decode cX0_front 44 = .ok (.istore_n 3, 1) := dk_62 (dk_at dksX0_front_1 21 rfl rfl)
theorem dX0_front_45 : decode cX0_front 45 = .ok (.iload_n 3, 1) := dk_29 (dk_at dksX0_front_1 22 rfl rfl)
theorem dX0_front_46 : decode cX0_front 46 = .ok (.ifCond .ge 7, 3) := dk_156 0 7 (dk_at dksX0_front_2 0 rfl rfl)
theorem dX0_front_49 : decode cX0_front 49 = .ok (.iconst (-1), 1) := dk_2 (dk_at dksX0_front_2 3 rfl rfl)
theorem dX0_front_50 : decode cX0_front 50 = .ok (.goto 15, 3) := dk_167 0 15 (dk_at dksX0_front_2 4 rfl rfl)
theorem dX0_front_53 : decode cX0_front 53 = .ok (.iload_n 2, 1) := dk_28 (dk_at dksX0_front_2 7 rfl rfl)
theorem dX0_front_54 : decode cX0_front 54 = .ok (.ifCond .ne 10, 3) := dk_154 0 10 (dk_at dksX0_front_2 8 rfl rfl)
theorem dX0_front_57 : decode cX0_front 57 = .ok (.iload_n 3, 1) := dk_29 (dk_at dksX0_front_2 11 rfl rfl)
theorem dX0_front_58 : decode cX0_front 58 = .ok (.invokestatic 281, 3) := dk_184 1 25 (dk_at dksX0_front_2 12 rfl rfl)
theorem dX0_front_61 : decode cX0_front 61 = .ok (.goto 4, 3) := dk_167 0 4 (dk_at dksX0_front_2 15 rfl rfl)
theorem dX0_front_64 : decode cX0_front 64 = .ok (.iload_n 3, 1) := dk_29 (dk_at dksX0_front_2 18 rfl rfl)
theorem dX0_front_65 : decode cX0_front 65 = .ok (.ireturn, 1) := dk_172 (dk_at dksX0_front_2 19 rfl rfl)
abbrev cX0_breadthOf : ByteArray := prog_1_method_44_code
def yX0_breadthOf : MethodName := ⟨RX0, "breadthOf", "(I)I"⟩
def dkwX0_breadthOf_2 : List UInt8 := [180, 0, 198, 29, 46, 46, 167, 0, 4, 3, 96, 61, 132, 3, 1, 167, 255, 201, 28, 172]
abbrev dktX0_breadthOf_2 : List UInt8 := dkwX0_breadthOf_2 ++ []
def dkwX0_breadthOf_1 : List UInt8 := [180, 0, 28, 180, 0, 198, 29, 46, 155, 0, 23, 42, 180, 0, 28, 180, 0, 210, 42, 180, 0, 28]
abbrev dktX0_breadthOf_1 : List UInt8 := dkwX0_breadthOf_1 ++ dktX0_breadthOf_2
def dkwX0_breadthOf_0 : List UInt8 := [3, 61, 3, 62, 29, 42, 182, 0, 143, 162, 0, 53, 28, 27, 29, 184, 0, 239, 153, 0, 35, 42]
abbrev dktX0_breadthOf_0 : List UInt8 := dkwX0_breadthOf_0 ++ dktX0_breadthOf_1
theorem dksX0_breadthOf_0 : cX0_breadthOf.data.toList.drop 0 = dktX0_breadthOf_0 := by decide +kernel
theorem dksX0_breadthOf_1 : cX0_breadthOf.data.toList.drop 22 = dktX0_breadthOf_1 := dk_seg dksX0_breadthOf_0 22 rfl rfl
theorem dksX0_breadthOf_2 : cX0_breadthOf.data.toList.drop 44 = dktX0_breadthOf_2 := dk_seg dksX0_breadthOf_1 22 rfl rfl
theorem dX0_breadthOf_0 : decode cX0_breadthOf 0 = .ok (.iconst 0, 1) := dk_3 (dk_at dksX0_breadthOf_0 0 rfl rfl)
theorem dX0_breadthOf_1 : decode cX0_breadthOf 1 = .ok (.istore_n 2, 1) := dk_61 (dk_at dksX0_breadthOf_0 1 rfl rfl)
theorem dX0_breadthOf_2 : decode cX0_breadthOf 2 = .ok (.iconst 0, 1) := dk_3 (dk_at dksX0_breadthOf_0 2 rfl rfl)
theorem dX0_breadthOf_3 : decode cX0_breadthOf 3 = .ok (.istore_n 3, 1) := dk_62 (dk_at dksX0_breadthOf_0 3 rfl rfl)
theorem dX0_breadthOf_4 : decode cX0_breadthOf 4 = .ok (.iload_n 3, 1) := dk_29 (dk_at dksX0_breadthOf_0 4 rfl rfl)
theorem dX0_breadthOf_5 : decode cX0_breadthOf 5 = .ok (.aload_n 0, 1) := dk_42 (dk_at dksX0_breadthOf_0 5 rfl rfl)
theorem dX0_breadthOf_6 : decode cX0_breadthOf 6 = .ok (.invokevirtual 143, 3) := dk_182 0 143 (dk_at dksX0_breadthOf_0 6 rfl rfl)
theorem dX0_breadthOf_9 : decode cX0_breadthOf 9 = .ok (.if_icmp .ge 53, 3) := dk_162 0 53 (dk_at dksX0_breadthOf_0 9 rfl rfl)
theorem dX0_breadthOf_12 : decode cX0_breadthOf 12 = .ok (.iload_n 2, 1) := dk_28 (dk_at dksX0_breadthOf_0 12 rfl rfl)
theorem dX0_breadthOf_13 : decode cX0_breadthOf 13 = .ok (.iload_n 1, 1) := dk_27 (dk_at dksX0_breadthOf_0 13 rfl rfl)
theorem dX0_breadthOf_14 : decode cX0_breadthOf 14 = .ok (.iload_n 3, 1) := dk_29 (dk_at dksX0_breadthOf_0 14 rfl rfl)
theorem dX0_breadthOf_15 : decode cX0_breadthOf 15 = .ok (.invokestatic 239, 3) := dk_184 0 239 (dk_at dksX0_breadthOf_0 15 rfl rfl)
theorem dX0_breadthOf_18 : decode cX0_breadthOf 18 = .ok (.ifCond .eq 35, 3) := dk_153 0 35 (dk_at dksX0_breadthOf_0 18 rfl rfl)
theorem dX0_breadthOf_21 : decode cX0_breadthOf 21 = .ok (.aload_n 0, 1) := dk_42 (dk_at dksX0_breadthOf_0 21 rfl rfl)
theorem dX0_breadthOf_22 : decode cX0_breadthOf 22 = .ok (.getfield 28, 3) := dk_180 0 28 (dk_at dksX0_breadthOf_1 0 rfl rfl)
theorem dX0_breadthOf_25 : decode cX0_breadthOf 25 = .ok (.getfield 198, 3) := dk_180 0 198 (dk_at dksX0_breadthOf_1 3 rfl rfl)
theorem dX0_breadthOf_28 : decode cX0_breadthOf 28 = .ok (.iload_n 3, 1) := dk_29 (dk_at dksX0_breadthOf_1 6 rfl rfl)
theorem dX0_breadthOf_29 : decode cX0_breadthOf 29 = .ok (.iaload, 1) := dk_46 (dk_at dksX0_breadthOf_1 7 rfl rfl)
theorem dX0_breadthOf_30 : decode cX0_breadthOf 30 = .ok (.ifCond .lt 23, 3) := dk_155 0 23 (dk_at dksX0_breadthOf_1 8 rfl rfl)
theorem dX0_breadthOf_33 : decode cX0_breadthOf 33 = .ok (.aload_n 0, 1) := dk_42 (dk_at dksX0_breadthOf_1 11 rfl rfl)
theorem dX0_breadthOf_34 : decode cX0_breadthOf 34 = .ok (.getfield 28, 3) := dk_180 0 28 (dk_at dksX0_breadthOf_1 12 rfl rfl)
theorem dX0_breadthOf_37 : decode cX0_breadthOf 37 = .ok (.getfield 210, 3) := dk_180 0 210 (dk_at dksX0_breadthOf_1 15 rfl rfl)
theorem dX0_breadthOf_40 : decode cX0_breadthOf 40 = .ok (.aload_n 0, 1) := dk_42 (dk_at dksX0_breadthOf_1 18 rfl rfl)
theorem dX0_breadthOf_41 : decode cX0_breadthOf 41 = .ok (.getfield 28, 3) := dk_180 0 28 (dk_at dksX0_breadthOf_1 19 rfl rfl)
theorem dX0_breadthOf_44 : decode cX0_breadthOf 44 = .ok (.getfield 198, 3) := dk_180 0 198 (dk_at dksX0_breadthOf_2 0 rfl rfl)
theorem dX0_breadthOf_47 : decode cX0_breadthOf 47 = .ok (.iload_n 3, 1) := dk_29 (dk_at dksX0_breadthOf_2 3 rfl rfl)
theorem dX0_breadthOf_48 : decode cX0_breadthOf 48 = .ok (.iaload, 1) := dk_46 (dk_at dksX0_breadthOf_2 4 rfl rfl)
theorem dX0_breadthOf_49 : decode cX0_breadthOf 49 = .ok (.iaload, 1) := dk_46 (dk_at dksX0_breadthOf_2 5 rfl rfl)
theorem dX0_breadthOf_50 : decode cX0_breadthOf 50 = .ok (.goto 4, 3) := dk_167 0 4 (dk_at dksX0_breadthOf_2 6 rfl rfl)
theorem dX0_breadthOf_53 : decode cX0_breadthOf 53 = .ok (.iconst 0, 1) := dk_3 (dk_at dksX0_breadthOf_2 9 rfl rfl)
theorem dX0_breadthOf_54 : decode cX0_breadthOf 54 = .ok (.iadd, 1) := dk_96 (dk_at dksX0_breadthOf_2 10 rfl rfl)
theorem dX0_breadthOf_55 : decode cX0_breadthOf 55 = .ok (.istore_n 2, 1) := dk_61 (dk_at dksX0_breadthOf_2 11 rfl rfl)
theorem dX0_breadthOf_56 : decode cX0_breadthOf 56 = .ok (.iinc 3 1, 3) := dk_132 3 1 (dk_at dksX0_breadthOf_2 12 rfl rfl)
theorem dX0_breadthOf_59 : decode cX0_breadthOf 59 = .ok (.goto (-55), 3) := dk_167 255 201 (dk_at dksX0_breadthOf_2 15 rfl rfl)
theorem dX0_breadthOf_62 : decode cX0_breadthOf 62 = .ok (.iload_n 2, 1) := dk_28 (dk_at dksX0_breadthOf_2 18 rfl rfl)
theorem dX0_breadthOf_63 : decode cX0_breadthOf 63 = .ok (.ireturn, 1) := dk_172 (dk_at dksX0_breadthOf_2 19 rfl rfl)
abbrev cX0_wings : ByteArray := prog_1_method_46_code
def yX0_wings : MethodName := ⟨RX0, "wings", "(I)I"⟩
def dkwX0_wings_1 : List UInt8 := [182, 1, 43, 61, 27, 154, 0, 14, 42, 180, 0, 79, 28, 182, 1, 44, 167, 0, 4, 28, 172]
abbrev dktX0_wings_1 : List UInt8 := dkwX0_wings_1 ++ []
def dkwX0_wings_0 : List UInt8 := [27, 3, 4, 184, 0, 145, 154, 0, 5, 2, 172, 42, 180, 0, 79, 42, 180, 0, 28, 182, 0, 254]
abbrev dktX0_wings_0 : List UInt8 := dkwX0_wings_0 ++ dktX0_wings_1
theorem dksX0_wings_0 : cX0_wings.data.toList.drop 0 = dktX0_wings_0 := by decide +kernel
theorem dksX0_wings_1 : cX0_wings.data.toList.drop 22 = dktX0_wings_1 := dk_seg dksX0_wings_0 22 rfl rfl
theorem dX0_wings_0 : decode cX0_wings 0 = .ok (.iload_n 1, 1) := dk_27 (dk_at dksX0_wings_0 0 rfl rfl)
theorem dX0_wings_1 : decode cX0_wings 1 = .ok (.iconst 0, 1) := dk_3 (dk_at dksX0_wings_0 1 rfl rfl)
theorem dX0_wings_2 : decode cX0_wings 2 = .ok (.iconst 1, 1) := dk_4 (dk_at dksX0_wings_0 2 rfl rfl)
theorem dX0_wings_3 : decode cX0_wings 3 = .ok (.invokestatic 145, 3) := dk_184 0 145 (dk_at dksX0_wings_0 3 rfl rfl)
theorem dX0_wings_6 : decode cX0_wings 6 = .ok (.ifCond .ne 5, 3) := dk_154 0 5 (dk_at dksX0_wings_0 6 rfl rfl)
theorem dX0_wings_9 : decode cX0_wings 9 = .ok (.iconst (-1), 1) := dk_2 (dk_at dksX0_wings_0 9 rfl rfl)
theorem dX0_wings_10 : decode cX0_wings 10 = .ok (.ireturn, 1) := dk_172 (dk_at dksX0_wings_0 10 rfl rfl)
theorem dX0_wings_11 : decode cX0_wings 11 = .ok (.aload_n 0, 1) := dk_42 (dk_at dksX0_wings_0 11 rfl rfl)
theorem dX0_wings_12 : decode cX0_wings 12 = .ok (.getfield 79, 3) := dk_180 0 79 (dk_at dksX0_wings_0 12 rfl rfl)
theorem dX0_wings_15 : decode cX0_wings 15 = .ok (.aload_n 0, 1) := dk_42 (dk_at dksX0_wings_0 15 rfl rfl)
theorem dX0_wings_16 : decode cX0_wings 16 = .ok (.getfield 28, 3) := dk_180 0 28 (dk_at dksX0_wings_0 16 rfl rfl)
theorem dX0_wings_19 : decode cX0_wings 19 = .ok (.invokevirtual 254, 3) := dk_182 0 254 (dk_at dksX0_wings_0 19 rfl rfl)
theorem dX0_wings_22 : decode cX0_wings 22 = .ok (.invokevirtual 299, 3) := dk_182 1 43 (dk_at dksX0_wings_1 0 rfl rfl)
theorem dX0_wings_25 : decode cX0_wings 25 = .ok (.istore_n 2, 1) := dk_61 (dk_at dksX0_wings_1 3 rfl rfl)
theorem dX0_wings_26 : decode cX0_wings 26 = .ok (.iload_n 1, 1) := dk_27 (dk_at dksX0_wings_1 4 rfl rfl)
theorem dX0_wings_27 : decode cX0_wings 27 = .ok (.ifCond .ne 14, 3) := dk_154 0 14 (dk_at dksX0_wings_1 5 rfl rfl)
theorem dX0_wings_30 : decode cX0_wings 30 = .ok (.aload_n 0, 1) := dk_42 (dk_at dksX0_wings_1 8 rfl rfl)
theorem dX0_wings_31 : decode cX0_wings 31 = .ok (.getfield 79, 3) := dk_180 0 79 (dk_at dksX0_wings_1 9 rfl rfl)
theorem dX0_wings_34 : decode cX0_wings 34 = .ok (.iload_n 2, 1) := dk_28 (dk_at dksX0_wings_1 12 rfl rfl)
theorem dX0_wings_35 : decode cX0_wings 35 = .ok (.invokevirtual 300, 3) := dk_182 1 44 (dk_at dksX0_wings_1 13 rfl rfl)
theorem dX0_wings_38 : decode cX0_wings 38 = .ok (.goto 4, 3) := dk_167 0 4 (dk_at dksX0_wings_1 16 rfl rfl)
theorem dX0_wings_41 : decode cX0_wings 41 = .ok (.iload_n 2, 1) := dk_28 (dk_at dksX0_wings_1 19 rfl rfl)
theorem dX0_wings_42 : decode cX0_wings 42 = .ok (.ireturn, 1) := dk_172 (dk_at dksX0_wings_1 20 rfl rfl)
abbrev cX0_breadth : ByteArray := prog_1_method_47_code
def yX0_breadth : MethodName := ⟨RX0, "breadth", "()I"⟩
def dkwX0_breadth_0 : List UInt8 := [42, 42, 180, 0, 28, 182, 0, 254, 182, 1, 47, 172]
abbrev dktX0_breadth_0 : List UInt8 := dkwX0_breadth_0 ++ []
theorem dksX0_breadth_0 : cX0_breadth.data.toList.drop 0 = dktX0_breadth_0 := by decide +kernel
theorem dX0_breadth_0 : decode cX0_breadth 0 = .ok (.aload_n 0, 1) := dk_42 (dk_at dksX0_breadth_0 0 rfl rfl)
theorem dX0_breadth_1 : decode cX0_breadth 1 = .ok (.aload_n 0, 1) := dk_42 (dk_at dksX0_breadth_0 1 rfl rfl)
theorem dX0_breadth_2 : decode cX0_breadth 2 = .ok (.getfield 28, 3) := dk_180 0 28 (dk_at dksX0_breadth_0 2 rfl rfl)
theorem dX0_breadth_5 : decode cX0_breadth 5 = .ok (.invokevirtual 254, 3) := dk_182 0 254 (dk_at dksX0_breadth_0 5 rfl rfl)
theorem dX0_breadth_8 : decode cX0_breadth 8 = .ok (.invokevirtual 303, 3) := dk_182 1 47 (dk_at dksX0_breadth_0 8 rfl rfl)
theorem dX0_breadth_11 : decode cX0_breadth 11 = .ok (.ireturn, 1) := dk_172 (dk_at dksX0_breadth_0 11 rfl rfl)
abbrev cX0_cloth : ByteArray := prog_1_method_49_code
def yX0_cloth : MethodName := ⟨RX0, "cloth", "()I"⟩
def dkwX0_cloth_4 : List UInt8 := [61, 167, 255, 187, 132, 1, 1, 167, 255, 162, 42, 180, 0, 83, 4, 42, 182, 0, 149, 120, 4, 100, 46, 172]
abbrev dktX0_cloth_4 : List UInt8 := dkwX0_cloth_4 ++ []
def dkwX0_cloth_3 : List UInt8 := [42, 180, 0, 83, 27, 46, 162, 0, 13, 42, 180, 0, 83, 27, 29, 21, 4, 96, 79, 28, 4, 100, 27, 126]
abbrev dktX0_cloth_3 : List UInt8 := dkwX0_cloth_3 ++ dktX0_cloth_4
def dkwX0_cloth_2 : List UInt8 := [54, 4, 29, 155, 0, 40, 21, 4, 155, 0, 35, 42, 180, 0, 83, 27, 46, 155, 0, 16, 29, 21, 4, 96]
abbrev dktX0_cloth_2 : List UInt8 := dkwX0_cloth_2 ++ dktX0_cloth_3
def dkwX0_cloth_1 : List UInt8 := [2, 79, 27, 61, 28, 158, 0, 71, 42, 28, 182, 1, 53, 62, 42, 180, 0, 83, 27, 28, 2, 130, 126, 46]
abbrev dktX0_cloth_1 : List UInt8 := dkwX0_cloth_1 ++ dktX0_cloth_2
def dkwX0_cloth_0 : List UInt8 := [42, 180, 0, 83, 3, 3, 79, 4, 60, 27, 4, 42, 182, 0, 149, 120, 162, 0, 90, 42, 180, 0, 83, 27]
abbrev dktX0_cloth_0 : List UInt8 := dkwX0_cloth_0 ++ dktX0_cloth_1
theorem dksX0_cloth_0 : cX0_cloth.data.toList.drop 0 = dktX0_cloth_0 := by decide +kernel
theorem dksX0_cloth_1 : cX0_cloth.data.toList.drop 24 = dktX0_cloth_1 := dk_seg dksX0_cloth_0 24 rfl rfl
theorem dksX0_cloth_2 : cX0_cloth.data.toList.drop 48 = dktX0_cloth_2 := dk_seg dksX0_cloth_1 24 rfl rfl
theorem dksX0_cloth_3 : cX0_cloth.data.toList.drop 72 = dktX0_cloth_3 := dk_seg dksX0_cloth_2 24 rfl rfl
theorem dksX0_cloth_4 : cX0_cloth.data.toList.drop 96 = dktX0_cloth_4 := dk_seg dksX0_cloth_3 24 rfl rfl
theorem dX0_cloth_0 : decode cX0_cloth 0 = .ok (.aload_n 0, 1) := dk_42 (dk_at dksX0_cloth_0 0 rfl rfl)
theorem dX0_cloth_1 : decode cX0_cloth 1 = .ok (.getfield 83, 3) := dk_180 0 83 (dk_at dksX0_cloth_0 1 rfl rfl)
theorem dX0_cloth_4 : decode cX0_cloth 4 = .ok (.iconst 0, 1) := dk_3 (dk_at dksX0_cloth_0 4 rfl rfl)
theorem dX0_cloth_5 : decode cX0_cloth 5 = .ok (.iconst 0, 1) := dk_3 (dk_at dksX0_cloth_0 5 rfl rfl)
theorem dX0_cloth_6 : decode cX0_cloth 6 = .ok (.iastore, 1) := dk_79 (dk_at dksX0_cloth_0 6 rfl rfl)
theorem dX0_cloth_7 : decode cX0_cloth 7 = .ok (.iconst 1, 1) := dk_4 (dk_at dksX0_cloth_0 7 rfl rfl)
theorem dX0_cloth_8 : decode cX0_cloth 8 = .ok (.istore_n 1, 1) := dk_60 (dk_at dksX0_cloth_0 8 rfl rfl)
theorem dX0_cloth_9 : decode cX0_cloth 9 = .ok (.iload_n 1, 1) := dk_27 (dk_at dksX0_cloth_0 9 rfl rfl)
theorem dX0_cloth_10 : decode cX0_cloth 10 = .ok (.iconst 1, 1) := dk_4 (dk_at dksX0_cloth_0 10 rfl rfl)
theorem dX0_cloth_11 : decode cX0_cloth 11 = .ok (.aload_n 0, 1) := dk_42 (dk_at dksX0_cloth_0 11 rfl rfl)
theorem dX0_cloth_12 : decode cX0_cloth 12 = .ok (.invokevirtual 149, 3) := dk_182 0 149 (dk_at dksX0_cloth_0 12 rfl rfl)
theorem dX0_cloth_15 : decode cX0_cloth 15 = .ok (.ishl, 1) := dk_120 (dk_at dksX0_cloth_0 15 rfl rfl)
theorem dX0_cloth_16 : decode cX0_cloth 16 = .ok (.if_icmp .ge 90, 3) := dk_162 0 90 (dk_at dksX0_cloth_0 16 rfl rfl)
theorem dX0_cloth_19 : decode cX0_cloth 19 = .ok (.aload_n 0, 1) := dk_42 (dk_at dksX0_cloth_0 19 rfl rfl)
theorem dX0_cloth_20 : decode cX0_cloth 20 = .ok (.getfield 83, 3) := dk_180 0 83 (dk_at dksX0_cloth_0 20 rfl rfl)
theorem dX0_cloth_23 : decode cX0_cloth 23 = .ok (.iload_n 1, 1) := dk_27 (dk_at dksX0_cloth_0 23 rfl rfl)
theorem dX0_cloth_24 : decode cX0_cloth 24 = .ok (.iconst (-1), 1) := dk_2 (dk_at dksX0_cloth_1 0 rfl rfl)
theorem dX0_cloth_25 : decode cX0_cloth 25 = .ok (.iastore, 1) := dk_79 (dk_at dksX0_cloth_1 1 rfl rfl)
theorem dX0_cloth_26 : decode cX0_cloth 26 = .ok (.iload_n 1, 1) := dk_27 (dk_at dksX0_cloth_1 2 rfl rfl)
theorem dX0_cloth_27 : decode cX0_cloth 27 = .ok (.istore_n 2, 1) := dk_61 (dk_at dksX0_cloth_1 3 rfl rfl)
theorem dX0_cloth_28 : decode cX0_cloth 28 = .ok (.iload_n 2, 1) := dk_28 (dk_at dksX0_cloth_1 4 rfl rfl)
theorem dX0_cloth_29 : decode cX0_cloth 29 = .ok (.ifCond .le 71, 3) := dk_158 0 71 (dk_at dksX0_cloth_1 5 rfl rfl)
theorem dX0_cloth_32 : decode cX0_cloth 32 = .ok (.aload_n 0, 1) := dk_42 (dk_at dksX0_cloth_1 8 rfl rfl)
theorem dX0_cloth_33 : decode cX0_cloth 33 = .ok (.iload_n 2, 1) := dk_28 (dk_at dksX0_cloth_1 9 rfl rfl)
theorem dX0_cloth_34 : decode cX0_cloth 34 = .ok (.invokevirtual 309, 3) := dk_182 1 53 (dk_at dksX0_cloth_1 10 rfl rfl)
theorem dX0_cloth_37 : decode cX0_cloth 37 = .ok (.istore_n 3, 1) := dk_62 (dk_at dksX0_cloth_1 13 rfl rfl)
theorem dX0_cloth_38 : decode cX0_cloth 38 = .ok (.aload_n 0, 1) := dk_42 (dk_at dksX0_cloth_1 14 rfl rfl)
theorem dX0_cloth_39 : decode cX0_cloth 39 = .ok (.getfield 83, 3) := dk_180 0 83 (dk_at dksX0_cloth_1 15 rfl rfl)
theorem dX0_cloth_42 : decode cX0_cloth 42 = .ok (.iload_n 1, 1) := dk_27 (dk_at dksX0_cloth_1 18 rfl rfl)
theorem dX0_cloth_43 : decode cX0_cloth 43 = .ok (.iload_n 2, 1) := dk_28 (dk_at dksX0_cloth_1 19 rfl rfl)
theorem dX0_cloth_44 : decode cX0_cloth 44 = .ok (.iconst (-1), 1) := dk_2 (dk_at dksX0_cloth_1 20 rfl rfl)
theorem dX0_cloth_45 : decode cX0_cloth 45 = .ok (.ixor, 1) := dk_130 (dk_at dksX0_cloth_1 21 rfl rfl)
theorem dX0_cloth_46 : decode cX0_cloth 46 = .ok (.iand, 1) := dk_126 (dk_at dksX0_cloth_1 22 rfl rfl)
theorem dX0_cloth_47 : decode cX0_cloth 47 = .ok (.iaload, 1) := dk_46 (dk_at dksX0_cloth_1 23 rfl rfl)
theorem dX0_cloth_48 : decode cX0_cloth 48 = .ok (.istore 4, 2) := dk_54 4 (dk_at dksX0_cloth_2 0 rfl rfl)
theorem dX0_cloth_50 : decode cX0_cloth 50 = .ok (.iload_n 3, 1) := dk_29 (dk_at dksX0_cloth_2 2 rfl rfl)
theorem dX0_cloth_51 : decode cX0_cloth 51 = .ok (.ifCond .lt 40, 3) := dk_155 0 40 (dk_at dksX0_cloth_2 3 rfl rfl)
theorem dX0_cloth_54 : decode cX0_cloth 54 = .ok (.iload 4, 2) := dk_21 4 (dk_at dksX0_cloth_2 6 rfl rfl)
theorem dX0_cloth_56 : decode cX0_cloth 56 = .ok (.ifCond .lt 35, 3) := dk_155 0 35 (dk_at dksX0_cloth_2 8 rfl rfl)
theorem dX0_cloth_59 : decode cX0_cloth 59 = .ok (.aload_n 0, 1) := dk_42 (dk_at dksX0_cloth_2 11 rfl rfl)
theorem dX0_cloth_60 : decode cX0_cloth 60 = .ok (.getfield 83, 3) := dk_180 0 83 (dk_at dksX0_cloth_2 12 rfl rfl)
theorem dX0_cloth_63 : decode cX0_cloth 63 = .ok (.iload_n 1, 1) := dk_27 (dk_at dksX0_cloth_2 15 rfl rfl)
theorem dX0_cloth_64 : decode cX0_cloth 64 = .ok (.iaload, 1) := dk_46 (dk_at dksX0_cloth_2 16 rfl rfl)
theorem dX0_cloth_65 : decode cX0_cloth 65 = .ok (.ifCond .lt 16, 3) := dk_155 0 16 (dk_at dksX0_cloth_2 17 rfl rfl)
theorem dX0_cloth_68 : decode cX0_cloth 68 = .ok (.iload_n 3, 1) := dk_29 (dk_at dksX0_cloth_2 20 rfl rfl)
theorem dX0_cloth_69 : decode cX0_cloth 69 = .ok (.iload 4, 2) := dk_21 4 (dk_at dksX0_cloth_2 21 rfl rfl)
theorem dX0_cloth_71 : decode cX0_cloth 71 = .ok (.iadd, 1) := dk_96 (dk_at dksX0_cloth_2 23 rfl rfl)
theorem dX0_cloth_72 : decode cX0_cloth 72 = .ok (.aload_n 0, 1) := dk_42 (dk_at dksX0_cloth_3 0 rfl rfl)
theorem dX0_cloth_73 : decode cX0_cloth 73 = .ok (.getfield 83, 3) := dk_180 0 83 (dk_at dksX0_cloth_3 1 rfl rfl)
theorem dX0_cloth_76 : decode cX0_cloth 76 = .ok (.iload_n 1, 1) := dk_27 (dk_at dksX0_cloth_3 4 rfl rfl)
theorem dX0_cloth_77 : decode cX0_cloth 77 = .ok (.iaload, 1) := dk_46 (dk_at dksX0_cloth_3 5 rfl rfl)
theorem dX0_cloth_78 : decode cX0_cloth 78 = .ok (.if_icmp .ge 13, 3) := dk_162 0 13 (dk_at dksX0_cloth_3 6 rfl rfl)
theorem dX0_cloth_81 : decode cX0_cloth 81 = .ok (.aload_n 0, 1) := dk_42 (dk_at dksX0_cloth_3 9 rfl rfl)
theorem dX0_cloth_82 : decode cX0_cloth 82 = .ok (.getfield 83, 3) := dk_180 0 83 (dk_at dksX0_cloth_3 10 rfl rfl)
theorem dX0_cloth_85 : decode cX0_cloth 85 = .ok (.iload_n 1, 1) := dk_27 (dk_at dksX0_cloth_3 13 rfl rfl)
theorem dX0_cloth_86 : decode cX0_cloth 86 = .ok (.iload_n 3, 1) := dk_29 (dk_at dksX0_cloth_3 14 rfl rfl)
theorem dX0_cloth_87 : decode cX0_cloth 87 = .ok (.iload 4, 2) := dk_21 4 (dk_at dksX0_cloth_3 15 rfl rfl)
theorem dX0_cloth_89 : decode cX0_cloth 89 = .ok (.iadd, 1) := dk_96 (dk_at dksX0_cloth_3 17 rfl rfl)
theorem dX0_cloth_90 : decode cX0_cloth 90 = .ok (.iastore, 1) := dk_79 (dk_at dksX0_cloth_3 18 rfl rfl)
theorem dX0_cloth_91 : decode cX0_cloth 91 = .ok (.iload_n 2, 1) := dk_28 (dk_at dksX0_cloth_3 19 rfl rfl)
theorem dX0_cloth_92 : decode cX0_cloth 92 = .ok (.iconst 1, 1) := dk_4 (dk_at dksX0_cloth_3 20 rfl rfl)
theorem dX0_cloth_93 : decode cX0_cloth 93 = .ok (.isub, 1) := dk_100 (dk_at dksX0_cloth_3 21 rfl rfl)
theorem dX0_cloth_94 : decode cX0_cloth 94 = .ok (.iload_n 1, 1) := dk_27 (dk_at dksX0_cloth_3 22 rfl rfl)
theorem dX0_cloth_95 : decode cX0_cloth 95 = .ok (.iand, 1) := dk_126 (dk_at dksX0_cloth_3 23 rfl rfl)
theorem dX0_cloth_96 : decode cX0_cloth 96 = .ok (.istore_n 2, 1) := dk_61 (dk_at dksX0_cloth_4 0 rfl rfl)
theorem dX0_cloth_97 : decode cX0_cloth 97 = .ok (.goto (-69), 3) := dk_167 255 187 (dk_at dksX0_cloth_4 1 rfl rfl)
theorem dX0_cloth_100 : decode cX0_cloth 100 = .ok (.iinc 1 1, 3) := dk_132 1 1 (dk_at dksX0_cloth_4 4 rfl rfl)
theorem dX0_cloth_103 : decode cX0_cloth 103 = .ok (.goto (-94), 3) := dk_167 255 162 (dk_at dksX0_cloth_4 7 rfl rfl)
theorem dX0_cloth_106 : decode cX0_cloth 106 = .ok (.aload_n 0, 1) := dk_42 (dk_at dksX0_cloth_4 10 rfl rfl)
theorem dX0_cloth_107 : decode cX0_cloth 107 = .ok (.getfield 83, 3) := dk_180 0 83 (dk_at dksX0_cloth_4 11 rfl rfl)
theorem dX0_cloth_110 : decode cX0_cloth 110 = .ok (.iconst 1, 1) := dk_4 (dk_at dksX0_cloth_4 14 rfl rfl)
theorem dX0_cloth_111 : decode cX0_cloth 111 = .ok (.aload_n 0, 1) := dk_42 (dk_at dksX0_cloth_4 15 rfl rfl)
theorem dX0_cloth_112 : decode cX0_cloth 112 = .ok (.invokevirtual 149, 3) := dk_182 0 149 (dk_at dksX0_cloth_4 16 rfl rfl)
theorem dX0_cloth_115 : decode cX0_cloth 115 = .ok (.ishl, 1) := dk_120 (dk_at dksX0_cloth_4 19 rfl rfl)
theorem dX0_cloth_116 : decode cX0_cloth 116 = .ok (.iconst 1, 1) := dk_4 (dk_at dksX0_cloth_4 20 rfl rfl)
theorem dX0_cloth_117 : decode cX0_cloth 117 = .ok (.isub, 1) := dk_100 (dk_at dksX0_cloth_4 21 rfl rfl)
theorem dX0_cloth_118 : decode cX0_cloth 118 = .ok (.iaload, 1) := dk_46 (dk_at dksX0_cloth_4 22 rfl rfl)
theorem dX0_cloth_119 : decode cX0_cloth 119 = .ok (.ireturn, 1) := dk_172 (dk_at dksX0_cloth_4 23 rfl rfl)
abbrev cX0_rowOf : ByteArray := prog_1_method_48_code
def yX0_rowOf : MethodName := ⟨RX0, "rowOf", "(I)I"⟩
def dkwX0_rowOf_3 : List UInt8 := [163, 0, 7, 29, 167, 0, 4, 2, 172]
abbrev dktX0_rowOf_3 : List UInt8 := dkwX0_rowOf_3 ++ []
def dkwX0_rowOf_2 : List UInt8 := [180, 0, 208, 21, 4, 46, 184, 0, 7, 62, 132, 4, 1, 167, 255, 204, 28, 42, 180, 0, 19, 180, 1, 50]
abbrev dktX0_rowOf_2 : List UInt8 := dkwX0_rowOf_2 ++ dktX0_rowOf_3
def dkwX0_rowOf_1 : List UInt8 := [154, 0, 6, 167, 0, 31, 28, 42, 180, 0, 28, 180, 0, 210, 21, 4, 46, 96, 61, 29, 42, 180, 0, 28]
abbrev dktX0_rowOf_1 : List UInt8 := dkwX0_rowOf_1 ++ dktX0_rowOf_2
def dkwX0_rowOf_0 : List UInt8 := [3, 61, 3, 62, 3, 54, 4, 21, 4, 42, 182, 0, 149, 162, 0, 49, 27, 21, 4, 184, 0, 239]
abbrev dktX0_rowOf_0 : List UInt8 := dkwX0_rowOf_0 ++ dktX0_rowOf_1
theorem dksX0_rowOf_0 : cX0_rowOf.data.toList.drop 0 = dktX0_rowOf_0 := by decide +kernel
theorem dksX0_rowOf_1 : cX0_rowOf.data.toList.drop 22 = dktX0_rowOf_1 := dk_seg dksX0_rowOf_0 22 rfl rfl
theorem dksX0_rowOf_2 : cX0_rowOf.data.toList.drop 46 = dktX0_rowOf_2 := dk_seg dksX0_rowOf_1 24 rfl rfl
theorem dksX0_rowOf_3 : cX0_rowOf.data.toList.drop 70 = dktX0_rowOf_3 := dk_seg dksX0_rowOf_2 24 rfl rfl
theorem dX0_rowOf_0 : decode cX0_rowOf 0 = .ok (.iconst 0, 1) := dk_3 (dk_at dksX0_rowOf_0 0 rfl rfl)
theorem dX0_rowOf_1 : decode cX0_rowOf 1 = .ok (.istore_n 2, 1) := dk_61 (dk_at dksX0_rowOf_0 1 rfl rfl)
theorem dX0_rowOf_2 : decode cX0_rowOf 2 = .ok (.iconst 0, 1) := dk_3 (dk_at dksX0_rowOf_0 2 rfl rfl)
theorem dX0_rowOf_3 : decode cX0_rowOf 3 = .ok (.istore_n 3, 1) := dk_62 (dk_at dksX0_rowOf_0 3 rfl rfl)
theorem dX0_rowOf_4 : decode cX0_rowOf 4 = .ok (.iconst 0, 1) := dk_3 (dk_at dksX0_rowOf_0 4 rfl rfl)
theorem dX0_rowOf_5 : decode cX0_rowOf 5 = .ok (.istore 4, 2) := dk_54 4 (dk_at dksX0_rowOf_0 5 rfl rfl)
theorem dX0_rowOf_7 : decode cX0_rowOf 7 = .ok (.iload 4, 2) := dk_21 4 (dk_at dksX0_rowOf_0 7 rfl rfl)
theorem dX0_rowOf_9 : decode cX0_rowOf 9 = .ok (.aload_n 0, 1) := dk_42 (dk_at dksX0_rowOf_0 9 rfl rfl)
theorem dX0_rowOf_10 : decode cX0_rowOf 10 = .ok (.invokevirtual 149, 3) := dk_182 0 149 (dk_at dksX0_rowOf_0 10 rfl rfl)
theorem dX0_rowOf_13 : decode cX0_rowOf 13 = .ok (.if_icmp .ge 49, 3) := dk_162 0 49 (dk_at dksX0_rowOf_0 13 rfl rfl)
theorem dX0_rowOf_16 : decode cX0_rowOf 16 = .ok (.iload_n 1, 1) := dk_27 (dk_at dksX0_rowOf_0 16 rfl rfl)
theorem dX0_rowOf_17 : decode cX0_rowOf 17 = .ok (.iload 4, 2) := dk_21 4 (dk_at dksX0_rowOf_0 17 rfl rfl)
theorem dX0_rowOf_19 : decode cX0_rowOf 19 = .ok (.invokestatic 239, 3) := dk_184 0 239 (dk_at dksX0_rowOf_0 19 rfl rfl)
theorem dX0_rowOf_22 : decode cX0_rowOf 22 = .ok (.ifCond .ne 6, 3) := dk_154 0 6 (dk_at dksX0_rowOf_1 0 rfl rfl)
theorem dX0_rowOf_25 : decode cX0_rowOf 25 = .ok (.goto 31, 3) := dk_167 0 31 (dk_at dksX0_rowOf_1 3 rfl rfl)
theorem dX0_rowOf_28 : decode cX0_rowOf 28 = .ok (.iload_n 2, 1) := dk_28 (dk_at dksX0_rowOf_1 6 rfl rfl)
theorem dX0_rowOf_29 : decode cX0_rowOf 29 = .ok (.aload_n 0, 1) := dk_42 (dk_at dksX0_rowOf_1 7 rfl rfl)
theorem dX0_rowOf_30 : decode cX0_rowOf 30 = .ok (.getfield 28, 3) := dk_180 0 28 (dk_at dksX0_rowOf_1 8 rfl rfl)
theorem dX0_rowOf_33 : decode cX0_rowOf 33 = .ok (.getfield 210, 3) := dk_180 0 210 (dk_at dksX0_rowOf_1 11 rfl rfl)
theorem dX0_rowOf_36 : decode cX0_rowOf 36 = .ok (.iload 4, 2) := dk_21 4 (dk_at dksX0_rowOf_1 14 rfl rfl)
theorem dX0_rowOf_38 : decode cX0_rowOf 38 = .ok (.iaload, 1) := dk_46 (dk_at dksX0_rowOf_1 16 rfl rfl)
theorem dX0_rowOf_39 : decode cX0_rowOf 39 = .ok (.iadd, 1) := dk_96 (dk_at dksX0_rowOf_1 17 rfl rfl)
theorem dX0_rowOf_40 : decode cX0_rowOf 40 = .ok (.istore_n 2, 1) := dk_61 (dk_at dksX0_rowOf_1 18 rfl rfl)
theorem dX0_rowOf_41 : decode cX0_rowOf 41 = .ok (.iload_n 3, 1) := dk_29 (dk_at dksX0_rowOf_1 19 rfl rfl)
theorem dX0_rowOf_42 : decode cX0_rowOf 42 = .ok (.aload_n 0, 1) := dk_42 (dk_at dksX0_rowOf_1 20 rfl rfl)
theorem dX0_rowOf_43 : decode cX0_rowOf 43 = .ok (.getfield 28, 3) := dk_180 0 28 (dk_at dksX0_rowOf_1 21 rfl rfl)
theorem dX0_rowOf_46 : decode cX0_rowOf 46 = .ok (.getfield 208, 3) := dk_180 0 208 (dk_at dksX0_rowOf_2 0 rfl rfl)
theorem dX0_rowOf_49 : decode cX0_rowOf 49 = .ok (.iload 4, 2) := dk_21 4 (dk_at dksX0_rowOf_2 3 rfl rfl)
theorem dX0_rowOf_51 : decode cX0_rowOf 51 = .ok (.iaload, 1) := dk_46 (dk_at dksX0_rowOf_2 5 rfl rfl)
theorem dX0_rowOf_52 : decode cX0_rowOf 52 = .ok (.invokestatic 7, 3) := dk_184 0 7 (dk_at dksX0_rowOf_2 6 rfl rfl)
theorem dX0_rowOf_55 : decode cX0_rowOf 55 = .ok (.istore_n 3, 1) := dk_62 (dk_at dksX0_rowOf_2 9 rfl rfl)
theorem dX0_rowOf_56 : decode cX0_rowOf 56 = .ok (.iinc 4 1, 3) := dk_132 4 1 (dk_at dksX0_rowOf_2 10 rfl rfl)
theorem dX0_rowOf_59 : decode cX0_rowOf 59 = .ok (.goto (-52), 3) := dk_167 255 204 (dk_at dksX0_rowOf_2 13 rfl rfl)
theorem dX0_rowOf_62 : decode cX0_rowOf 62 = .ok (.iload_n 2, 1) := dk_28 (dk_at dksX0_rowOf_2 16 rfl rfl)
theorem dX0_rowOf_63 : decode cX0_rowOf 63 = .ok (.aload_n 0, 1) := dk_42 (dk_at dksX0_rowOf_2 17 rfl rfl)
theorem dX0_rowOf_64 : decode cX0_rowOf 64 = .ok (.getfield 19, 3) := dk_180 0 19 (dk_at dksX0_rowOf_2 18 rfl rfl)
theorem dX0_rowOf_67 : decode cX0_rowOf 67 = .ok (.getfield 306, 3) := dk_180 1 50 (dk_at dksX0_rowOf_2 21 rfl rfl)
theorem dX0_rowOf_70 : decode cX0_rowOf 70 = .ok (.if_icmp .gt 7, 3) := dk_163 0 7 (dk_at dksX0_rowOf_3 0 rfl rfl)
theorem dX0_rowOf_73 : decode cX0_rowOf 73 = .ok (.iload_n 3, 1) := dk_29 (dk_at dksX0_rowOf_3 3 rfl rfl)
theorem dX0_rowOf_74 : decode cX0_rowOf 74 = .ok (.goto 4, 3) := dk_167 0 4 (dk_at dksX0_rowOf_3 4 rfl rfl)
theorem dX0_rowOf_77 : decode cX0_rowOf 77 = .ok (.iconst (-1), 1) := dk_2 (dk_at dksX0_rowOf_3 7 rfl rfl)
theorem dX0_rowOf_78 : decode cX0_rowOf 78 = .ok (.ireturn, 1) := dk_172 (dk_at dksX0_rowOf_3 8 rfl rfl)
abbrev cX0_buttons : ByteArray := prog_1_method_52_code
def yX0_buttons : MethodName := ⟨RX0, "buttons", "()I"⟩
def dkwX0_buttons_1 : List UInt8 := [181, 0, 112, 27, 172]
abbrev dktX0_buttons_1 : List UInt8 := dkwX0_buttons_1 ++ []
def dkwX0_buttons_0 : List UInt8 := [3, 60, 42, 3, 27, 182, 1, 65, 154, 0, 9, 132, 1, 1, 167, 255, 244, 42, 42, 182, 0, 143]
abbrev dktX0_buttons_0 : List UInt8 := dkwX0_buttons_0 ++ dktX0_buttons_1
theorem dksX0_buttons_0 : cX0_buttons.data.toList.drop 0 = dktX0_buttons_0 := by decide +kernel
theorem dksX0_buttons_1 : cX0_buttons.data.toList.drop 22 = dktX0_buttons_1 := dk_seg dksX0_buttons_0 22 rfl rfl
theorem dX0_buttons_0 : decode cX0_buttons 0 = .ok (.iconst 0, 1) := dk_3 (dk_at dksX0_buttons_0 0 rfl rfl)
theorem dX0_buttons_1 : decode cX0_buttons 1 = .ok (.istore_n 1, 1) := dk_60 (dk_at dksX0_buttons_0 1 rfl rfl)
theorem dX0_buttons_2 : decode cX0_buttons 2 = .ok (.aload_n 0, 1) := dk_42 (dk_at dksX0_buttons_0 2 rfl rfl)
theorem dX0_buttons_3 : decode cX0_buttons 3 = .ok (.iconst 0, 1) := dk_3 (dk_at dksX0_buttons_0 3 rfl rfl)
theorem dX0_buttons_4 : decode cX0_buttons 4 = .ok (.iload_n 1, 1) := dk_27 (dk_at dksX0_buttons_0 4 rfl rfl)
theorem dX0_buttons_5 : decode cX0_buttons 5 = .ok (.invokevirtual 321, 3) := dk_182 1 65 (dk_at dksX0_buttons_0 5 rfl rfl)
theorem dX0_buttons_8 : decode cX0_buttons 8 = .ok (.ifCond .ne 9, 3) := dk_154 0 9 (dk_at dksX0_buttons_0 8 rfl rfl)
theorem dX0_buttons_11 : decode cX0_buttons 11 = .ok (.iinc 1 1, 3) := dk_132 1 1 (dk_at dksX0_buttons_0 11 rfl rfl)
theorem dX0_buttons_14 : decode cX0_buttons 14 = .ok (.goto (-12), 3) := dk_167 255 244 (dk_at dksX0_buttons_0 14 rfl rfl)
theorem dX0_buttons_17 : decode cX0_buttons 17 = .ok (.aload_n 0, 1) := dk_42 (dk_at dksX0_buttons_0 17 rfl rfl)
theorem dX0_buttons_18 : decode cX0_buttons 18 = .ok (.aload_n 0, 1) := dk_42 (dk_at dksX0_buttons_0 18 rfl rfl)
theorem dX0_buttons_19 : decode cX0_buttons 19 = .ok (.invokevirtual 143, 3) := dk_182 0 143 (dk_at dksX0_buttons_0 19 rfl rfl)
theorem dX0_buttons_22 : decode cX0_buttons 22 = .ok (.putfield 112, 3) := dk_181 0 112 (dk_at dksX0_buttons_1 0 rfl rfl)
theorem dX0_buttons_25 : decode cX0_buttons 25 = .ok (.iload_n 1, 1) := dk_27 (dk_at dksX0_buttons_1 3 rfl rfl)
theorem dX0_buttons_26 : decode cX0_buttons 26 = .ok (.ireturn, 1) := dk_172 (dk_at dksX0_buttons_1 4 rfl rfl)
abbrev cX0_goColour : ByteArray := prog_1_method_51_code
def yX0_goColour : MethodName := ⟨RX0, "goColour", "(II)Z"⟩
def dkwX0_goColour_4 : List UInt8 := [167, 255, 174, 3, 172]
abbrev dktX0_goColour_4 : List UInt8 := dkwX0_goColour_4 ++ []
def dkwX0_goColour_3 : List UInt8 := [27, 29, 79, 21, 4, 153, 0, 16, 42, 27, 4, 96, 28, 182, 1, 65, 153, 0, 5, 4, 172, 132, 3, 1]
abbrev dktX0_goColour_3 : List UInt8 := dkwX0_goColour_3 ++ dktX0_goColour_4
def dkwX0_goColour_2 : List UInt8 := [182, 1, 62, 154, 0, 7, 4, 167, 0, 4, 3, 126, 54, 4, 132, 5, 1, 167, 255, 216, 42, 180, 0, 60]
abbrev dktX0_goColour_2 : List UInt8 := dkwX0_goColour_2 ++ dktX0_goColour_3
def dkwX0_goColour_1 : List UInt8 := [21, 5, 27, 162, 0, 40, 21, 4, 42, 180, 0, 60, 21, 5, 46, 29, 160, 0, 13, 42, 27, 21, 5]
abbrev dktX0_goColour_1 : List UInt8 := dkwX0_goColour_1 ++ dktX0_goColour_2
def dkwX0_goColour_0 : List UInt8 := [27, 42, 182, 0, 143, 160, 0, 5, 4, 172, 3, 62, 29, 28, 162, 0, 83, 4, 54, 4, 3, 54, 5]
abbrev dktX0_goColour_0 : List UInt8 := dkwX0_goColour_0 ++ dktX0_goColour_1
theorem dksX0_goColour_0 : cX0_goColour.data.toList.drop 0 = dktX0_goColour_0 := by decide +kernel
theorem dksX0_goColour_1 : cX0_goColour.data.toList.drop 23 = dktX0_goColour_1 := dk_seg dksX0_goColour_0 23 rfl rfl
theorem dksX0_goColour_2 : cX0_goColour.data.toList.drop 46 = dktX0_goColour_2 := dk_seg dksX0_goColour_1 23 rfl rfl
theorem dksX0_goColour_3 : cX0_goColour.data.toList.drop 70 = dktX0_goColour_3 := dk_seg dksX0_goColour_2 24 rfl rfl
theorem dksX0_goColour_4 : cX0_goColour.data.toList.drop 94 = dktX0_goColour_4 := dk_seg dksX0_goColour_3 24 rfl rfl
theorem dX0_goColour_0 : decode cX0_goColour 0 = .ok (.iload_n 1, 1) := dk_27 (dk_at dksX0_goColour_0 0 rfl rfl)
theorem dX0_goColour_1 : decode cX0_goColour 1 = .ok (.aload_n 0, 1) := dk_42 (dk_at dksX0_goColour_0 1 rfl rfl)
theorem dX0_goColour_2 : decode cX0_goColour 2 = .ok (.invokevirtual 143, 3) := dk_182 0 143 (dk_at dksX0_goColour_0 2 rfl rfl)
theorem dX0_goColour_5 : decode cX0_goColour 5 = .ok (.if_icmp .ne 5, 3) := dk_160 0 5 (dk_at dksX0_goColour_0 5 rfl rfl)
theorem dX0_goColour_8 : decode cX0_goColour 8 = .ok (.iconst 1, 1) := dk_4 (dk_at dksX0_goColour_0 8 rfl rfl)
theorem dX0_goColour_9 : decode cX0_goColour 9 = .ok (.ireturn, 1) := dk_172 (dk_at dksX0_goColour_0 9 rfl rfl)
theorem dX0_goColour_10 : decode cX0_goColour 10 = .ok (.iconst 0, 1) := dk_3 (dk_at dksX0_goColour_0 10 rfl rfl)
theorem dX0_goColour_11 : decode cX0_goColour 11 = .ok (.istore_n 3, 1) := dk_62 (dk_at dksX0_goColour_0 11 rfl rfl)
theorem dX0_goColour_12 : decode cX0_goColour 12 = .ok (.iload_n 3, 1) := dk_29 (dk_at dksX0_goColour_0 12 rfl rfl)
theorem dX0_goColour_13 : decode cX0_goColour 13 = .ok (.iload_n 2, 1) := dk_28 (dk_at dksX0_goColour_0 13 rfl rfl)
theorem dX0_goColour_14 : decode cX0_goColour 14 = .ok (.if_icmp .ge 83, 3) := dk_162 0 83 (dk_at dksX0_goColour_0 14 rfl rfl)
theorem dX0_goColour_17 : decode cX0_goColour 17 = .ok (.iconst 1, 1) := dk_4 (dk_at dksX0_goColour_0 17 rfl rfl)
theorem dX0_goColour_18 : decode cX0_goColour 18 = .ok (.istore 4, 2) := dk_54 4 (dk_at dksX0_goColour_0 18 rfl rfl)
theorem dX0_goColour_20 : decode cX0_goColour 20 = .ok (.iconst 0, 1) := dk_3 (dk_at dksX0_goColour_0 20 rfl rfl)
theorem dX0_goColour_21 : decode cX0_goColour 21 = .ok (.istore 5, 2) := dk_54 5 (dk_at dksX0_goColour_0 21 rfl rfl)
theorem dX0_goColour_23 : decode cX0_goColour 23 = .ok (.iload 5, 2) := dk_21 5 (dk_at dksX0_goColour_1 0 rfl rfl)
theorem dX0_goColour_25 : decode cX0_goColour 25 = .ok (.iload_n 1, 1) := dk_27 (dk_at dksX0_goColour_1 2 rfl rfl)
theorem dX0_goColour_26 : decode cX0_goColour 26 = .ok (.if_icmp .ge 40, 3) := dk_162 0 40 (dk_at dksX0_goColour_1 3 rfl rfl)
theorem dX0_goColour_29 : decode cX0_goColour 29 = .ok (.iload 4, 2) := dk_21 4 (dk_at dksX0_goColour_1 6 rfl rfl)
theorem dX0_goColour_31 : decode cX0_goColour 31 = .ok (.aload_n 0, 1) := dk_42 (dk_at dksX0_goColour_1 8 rfl rfl)
theorem dX0_goColour_32 : decode cX0_goColour 32 = .ok (.getfield 60, 3) := dk_180 0 60 (dk_at dksX0_goColour_1 9 rfl rfl)
theorem dX0_goColour_35 : decode cX0_goColour 35 = .ok (.iload 5, 2) := dk_21 5 (dk_at dksX0_goColour_1 12 rfl rfl)
theorem dX0_goColour_37 : decode cX0_goColour 37 = .ok (.iaload, 1) := dk_46 (dk_at dksX0_goColour_1 14 rfl rfl)
theorem dX0_goColour_38 : decode cX0_goColour 38 = .ok (.iload_n 3, 1) := dk_29 (dk_at dksX0_goColour_1 15 rfl rfl)
theorem dX0_goColour_39 : decode cX0_goColour 39 = .ok (.if_icmp .ne 13, 3) := dk_160 0 13 (dk_at dksX0_goColour_1 16 rfl rfl)
theorem dX0_goColour_42 : decode cX0_goColour 42 = .ok (.aload_n 0, 1) := dk_42 (dk_at dksX0_goColour_1 19 rfl rfl)
theorem dX0_goColour_43 : decode cX0_goColour 43 = .ok (.iload_n 1, 1) := dk_27 (dk_at dksX0_goColour_1 20 rfl rfl)
theorem dX0_goColour_44 : decode cX0_goColour 44 = .ok (.iload 5, 2) := dk_21 5 (dk_at dksX0_goColour_1 21 rfl rfl)
theorem dX0_goColour_46 : decode cX0_goColour 46 = .ok (.invokevirtual 318, 3) := dk_182 1 62 (dk_at dksX0_goColour_2 0 rfl rfl)
theorem dX0_goColour_49 : decode cX0_goColour 49 = .ok (.ifCond .ne 7, 3) := dk_154 0 7 (dk_at dksX0_goColour_2 3 rfl rfl)
theorem dX0_goColour_52 : decode cX0_goColour 52 = .ok (.iconst 1, 1) := dk_4 (dk_at dksX0_goColour_2 6 rfl rfl)
theorem dX0_goColour_53 : decode cX0_goColour 53 = .ok (.goto 4, 3) := dk_167 0 4 (dk_at dksX0_goColour_2 7 rfl rfl)
theorem dX0_goColour_56 : decode cX0_goColour 56 = .ok (.iconst 0, 1) := dk_3 (dk_at dksX0_goColour_2 10 rfl rfl)
theorem dX0_goColour_57 : decode cX0_goColour 57 = .ok (.iand, 1) := dk_126 (dk_at dksX0_goColour_2 11 rfl rfl)
theorem dX0_goColour_58 : decode cX0_goColour 58 = .ok (.istore 4, 2) := dk_54 4 (dk_at dksX0_goColour_2 12 rfl rfl)
theorem dX0_goColour_60 : decode cX0_goColour 60 = .ok (.iinc 5 1, 3) := dk_132 5 1 (dk_at dksX0_goColour_2 14 rfl rfl)
theorem dX0_goColour_63 : decode cX0_goColour 63 = .ok (.goto (-40), 3) := dk_167 255 216 (dk_at dksX0_goColour_2 17 rfl rfl)
theorem dX0_goColour_66 : decode cX0_goColour 66 = .ok (.aload_n 0, 1) := dk_42 (dk_at dksX0_goColour_2 20 rfl rfl)
theorem dX0_goColour_67 : decode cX0_goColour 67 = .ok (.getfield 60, 3) := dk_180 0 60 (dk_at dksX0_goColour_2 21 rfl rfl)
theorem dX0_goColour_70 : decode cX0_goColour 70 = .ok (.iload_n 1, 1) := dk_27 (dk_at dksX0_goColour_3 0 rfl rfl)
theorem dX0_goColour_71 : decode cX0_goColour 71 = .ok (.iload_n 3, 1) := dk_29 (dk_at dksX0_goColour_3 1 rfl rfl)
theorem dX0_goColour_72 : decode cX0_goColour 72 = .ok (.iastore, 1) := dk_79 (dk_at dksX0_goColour_3 2 rfl rfl)
theorem dX0_goColour_73 : decode cX0_goColour 73 = .ok (.iload 4, 2) := dk_21 4 (dk_at dksX0_goColour_3 3 rfl rfl)
theorem dX0_goColour_75 : decode cX0_goColour 75 = .ok (.ifCond .eq 16, 3) := dk_153 0 16 (dk_at dksX0_goColour_3 5 rfl rfl)
theorem dX0_goColour_78 : decode cX0_goColour 78 = .ok (.aload_n 0, 1) := dk_42 (dk_at dksX0_goColour_3 8 rfl rfl)
theorem dX0_goColour_79 : decode cX0_goColour 79 = .ok (.iload_n 1, 1) := dk_27 (dk_at dksX0_goColour_3 9 rfl rfl)
theorem dX0_goColour_80 : decode cX0_goColour 80 = .ok (.iconst 1, 1) := dk_4 (dk_at dksX0_goColour_3 10 rfl rfl)
theorem dX0_goColour_81 : decode cX0_goColour 81 = .ok (.iadd, 1) := dk_96 (dk_at dksX0_goColour_3 11 rfl rfl)
theorem dX0_goColour_82 : decode cX0_goColour 82 = .ok (.iload_n 2, 1) := dk_28 (dk_at dksX0_goColour_3 12 rfl rfl)
theorem dX0_goColour_83 : decode cX0_goColour 83 = .ok (.invokevirtual 321, 3) := dk_182 1 65 (dk_at dksX0_goColour_3 13 rfl rfl)
theorem dX0_goColour_86 : decode cX0_goColour 86 = .ok (.ifCond .eq 5, 3) := dk_153 0 5 (dk_at dksX0_goColour_3 16 rfl rfl)
theorem dX0_goColour_89 : decode cX0_goColour 89 = .ok (.iconst 1, 1) := dk_4 (dk_at dksX0_goColour_3 19 rfl rfl)
theorem dX0_goColour_90 : decode cX0_goColour 90 = .ok (.ireturn, 1) := dk_172 (dk_at dksX0_goColour_3 20 rfl rfl)
theorem dX0_goColour_91 : decode cX0_goColour 91 = .ok (.iinc 3 1, 3) := dk_132 3 1 (dk_at dksX0_goColour_3 21 rfl rfl)
theorem dX0_goColour_94 : decode cX0_goColour 94 = .ok (.goto (-82), 3) := dk_167 255 174 (dk_at dksX0_goColour_4 0 rfl rfl)
theorem dX0_goColour_97 : decode cX0_goColour 97 = .ok (.iconst 0, 1) := dk_3 (dk_at dksX0_goColour_4 3 rfl rfl)
theorem dX0_goColour_98 : decode cX0_goColour 98 = .ok (.ireturn, 1) := dk_172 (dk_at dksX0_goColour_4 4 rfl rfl)
abbrev cX0_areLike : ByteArray := prog_1_method_50_code
def yX0_areLike : MethodName := ⟨RX0, "areLike", "(II)Z"⟩
def dkwX0_areLike_2 : List UInt8 := [4, 167, 0, 4, 3, 172]
abbrev dktX0_areLike_2 : List UInt8 := dkwX0_areLike_2 ++ []
def dkwX0_areLike_1 : List UInt8 := [28, 182, 0, 184, 192, 0, 187, 180, 0, 189, 100, 184, 1, 56, 42, 180, 0, 19, 180, 1, 59, 163, 0, 7]
abbrev dktX0_areLike_1 : List UInt8 := dkwX0_areLike_1 ++ dktX0_areLike_2
def dkwX0_areLike_0 : List UInt8 := [42, 180, 0, 19, 180, 0, 137, 27, 182, 0, 184, 192, 0, 187, 180, 0, 189, 42, 180, 0, 19, 180, 0, 137]
abbrev dktX0_areLike_0 : List UInt8 := dkwX0_areLike_0 ++ dktX0_areLike_1
theorem dksX0_areLike_0 : cX0_areLike.data.toList.drop 0 = dktX0_areLike_0 := by decide +kernel
theorem dksX0_areLike_1 : cX0_areLike.data.toList.drop 24 = dktX0_areLike_1 := dk_seg dksX0_areLike_0 24 rfl rfl
theorem dksX0_areLike_2 : cX0_areLike.data.toList.drop 48 = dktX0_areLike_2 := dk_seg dksX0_areLike_1 24 rfl rfl
theorem dX0_areLike_0 : decode cX0_areLike 0 = .ok (.aload_n 0, 1) := dk_42 (dk_at dksX0_areLike_0 0 rfl rfl)
theorem dX0_areLike_1 : decode cX0_areLike 1 = .ok (.getfield 19, 3) := dk_180 0 19 (dk_at dksX0_areLike_0 1 rfl rfl)
theorem dX0_areLike_4 : decode cX0_areLike 4 = .ok (.getfield 137, 3) := dk_180 0 137 (dk_at dksX0_areLike_0 4 rfl rfl)
theorem dX0_areLike_7 : decode cX0_areLike 7 = .ok (.iload_n 1, 1) := dk_27 (dk_at dksX0_areLike_0 7 rfl rfl)
theorem dX0_areLike_8 : decode cX0_areLike 8 = .ok (.invokevirtual 184, 3) := dk_182 0 184 (dk_at dksX0_areLike_0 8 rfl rfl)
theorem dX0_areLike_11 : decode cX0_areLike 11 = .ok (.checkcast 187, 3) := dk_192 0 187 (dk_at dksX0_areLike_0 11 rfl rfl)
theorem dX0_areLike_14 : decode cX0_areLike 14 = .ok (.getfield 189, 3) := dk_180 0 189 (dk_at dksX0_areLike_0 14 rfl rfl)
theorem dX0_areLike_17 : decode cX0_areLike 17 = .ok (.aload_n 0, 1) := dk_42 (dk_at dksX0_areLike_0 17 rfl rfl)
theorem dX0_areLike_18 : decode cX0_areLike 18 = .ok (.getfield 19, 3) := dk_180 0 19 (dk_at dksX0_areLike_0 18 rfl rfl)
theorem dX0_areLike_21 : decode cX0_areLike 21 = .ok (.getfield 137, 3) := dk_180 0 137 (dk_at dksX0_areLike_0 21 rfl rfl)
theorem dX0_areLike_24 : decode cX0_areLike 24 = .ok (.iload_n 2, 1) := dk_28 (dk_at dksX0_areLike_1 0 rfl rfl)
theorem dX0_areLike_25 : decode cX0_areLike 25 = .ok (.invokevirtual 184, 3) := dk_182 0 184 (dk_at dksX0_areLike_1 1 rfl rfl)
theorem dX0_areLike_28 : decode cX0_areLike 28 = .ok (.checkcast 187, 3) := dk_192 0 187 (dk_at dksX0_areLike_1 4 rfl rfl)
theorem dX0_areLike_31 : decode cX0_areLike 31 = .ok (.getfield 189, 3) := dk_180 0 189 (dk_at dksX0_areLike_1 7 rfl rfl)
theorem dX0_areLike_34 : decode cX0_areLike 34 = .ok (.isub, 1) := dk_100 (dk_at dksX0_areLike_1 10 rfl rfl)
theorem dX0_areLike_35 : decode cX0_areLike 35 = .ok (.invokestatic 312, 3) := dk_184 1 56 (dk_at dksX0_areLike_1 11 rfl rfl)
theorem dX0_areLike_38 : decode cX0_areLike 38 = .ok (.aload_n 0, 1) := dk_42 (dk_at dksX0_areLike_1 14 rfl rfl)
theorem dX0_areLike_39 : decode cX0_areLike 39 = .ok (.getfield 19, 3) := dk_180 0 19 (dk_at dksX0_areLike_1 15 rfl rfl)
theorem dX0_areLike_42 : decode cX0_areLike 42 = .ok (.getfield 315, 3) := dk_180 1 59 (dk_at dksX0_areLike_1 18 rfl rfl)
theorem dX0_areLike_45 : decode cX0_areLike 45 = .ok (.if_icmp .gt 7, 3) := dk_163 0 7 (dk_at dksX0_areLike_1 21 rfl rfl)
theorem dX0_areLike_48 : decode cX0_areLike 48 = .ok (.iconst 1, 1) := dk_4 (dk_at dksX0_areLike_2 0 rfl rfl)
theorem dX0_areLike_49 : decode cX0_areLike 49 = .ok (.goto 4, 3) := dk_167 0 4 (dk_at dksX0_areLike_2 1 rfl rfl)
theorem dX0_areLike_52 : decode cX0_areLike 52 = .ok (.iconst 0, 1) := dk_3 (dk_at dksX0_areLike_2 4 rfl rfl)
theorem dX0_areLike_53 : decode cX0_areLike 53 = .ok (.ireturn, 1) := dk_172 (dk_at dksX0_areLike_2 5 rfl rfl)
abbrev cX0_reach : ByteArray := prog_1_method_55_code
def yX0_reach : MethodName := ⟨RX0, "reach", "(II)I"⟩
def dkwX0_reach_7 : List UInt8 := [181, 0, 112, 132, 6, 1, 167, 255, 177, 132, 5, 1, 167, 255, 159, 21, 4, 172]
abbrev dktX0_reach_7 : List UInt8 := dkwX0_reach_7 ++ []
def dkwX0_reach_6 : List UInt8 := [164, 0, 6, 167, 0, 24, 42, 180, 0, 60, 3, 21, 5, 79, 42, 180, 0, 60, 4, 21, 6, 79, 42, 5]
abbrev dktX0_reach_6 : List UInt8 := dkwX0_reach_6 ++ dktX0_reach_7
def dkwX0_reach_5 : List UInt8 := [42, 27, 28, 21, 5, 21, 6, 182, 1, 72, 154, 0, 6, 167, 0, 36, 132, 4, 1, 21, 4, 4]
abbrev dktX0_reach_5 : List UInt8 := dkwX0_reach_5 ++ dktX0_reach_6
def dkwX0_reach_4 : List UInt8 := [182, 0, 149, 162, 0, 76, 29, 21, 5, 184, 0, 239, 153, 0, 61, 29, 21, 6, 184, 0, 239, 153, 0, 52]
abbrev dktX0_reach_4 : List UInt8 := dkwX0_reach_4 ++ dktX0_reach_5
def dkwX0_reach_3 : List UInt8 := [172, 3, 54, 4, 3, 54, 5, 21, 5, 42, 182, 0, 149, 162, 0, 94, 3, 54, 6, 21, 6, 42]
abbrev dktX0_reach_3 : List UInt8 := dkwX0_reach_3 ++ dktX0_reach_4
def dkwX0_reach_2 : List UInt8 := [182, 0, 180, 153, 0, 20, 42, 28, 182, 0, 180, 153, 0, 12, 27, 28, 159, 0, 7, 29, 154, 0, 5, 2]
abbrev dktX0_reach_2 : List UInt8 := dkwX0_reach_2 ++ dktX0_reach_3
def dkwX0_reach_1 : List UInt8 := [21, 4, 182, 0, 222, 156, 0, 10, 29, 4, 21, 4, 120, 128, 62, 132, 4, 1, 167, 255, 225, 42, 27]
abbrev dktX0_reach_1 : List UInt8 := dkwX0_reach_1 ++ dktX0_reach_2
def dkwX0_reach_0 : List UInt8 := [42, 3, 181, 0, 112, 3, 62, 3, 54, 4, 21, 4, 42, 182, 0, 149, 162, 0, 28, 42, 180, 0, 28]
abbrev dktX0_reach_0 : List UInt8 := dkwX0_reach_0 ++ dktX0_reach_1
theorem dksX0_reach_0 : cX0_reach.data.toList.drop 0 = dktX0_reach_0 := by decide +kernel
theorem dksX0_reach_1 : cX0_reach.data.toList.drop 23 = dktX0_reach_1 := dk_seg dksX0_reach_0 23 rfl rfl
theorem dksX0_reach_2 : cX0_reach.data.toList.drop 46 = dktX0_reach_2 := dk_seg dksX0_reach_1 23 rfl rfl
theorem dksX0_reach_3 : cX0_reach.data.toList.drop 70 = dktX0_reach_3 := dk_seg dksX0_reach_2 24 rfl rfl
theorem dksX0_reach_4 : cX0_reach.data.toList.drop 92 = dktX0_reach_4 := dk_seg dksX0_reach_3 22 rfl rfl
theorem dksX0_reach_5 : cX0_reach.data.toList.drop 116 = dktX0_reach_5 := dk_seg dksX0_reach_4 24 rfl rfl
theorem dksX0_reach_6 : cX0_reach.data.toList.drop 138 = dktX0_reach_6 := dk_seg dksX0_reach_5 22 rfl rfl
theorem dksX0_reach_7 : cX0_reach.data.toList.drop 162 = dktX0_reach_7 := dk_seg dksX0_reach_6 24 rfl rfl
theorem dX0_reach_0 : decode cX0_reach 0 = .ok (.aload_n 0, 1) := dk_42 (dk_at dksX0_reach_0 0 rfl rfl)
theorem dX0_reach_1 : decode cX0_reach 1 = .ok (.iconst 0, 1) := dk_3 (dk_at dksX0_reach_0 1 rfl rfl)
theorem dX0_reach_2 : decode cX0_reach 2 = .ok (.putfield 112, 3) := dk_181 0 112 (dk_at dksX0_reach_0 2 rfl rfl)
theorem dX0_reach_5 : decode cX0_reach 5 = .ok (.iconst 0, 1) := dk_3 (dk_at dksX0_reach_0 5 rfl rfl)
theorem dX0_reach_6 : decode cX0_reach 6 = .ok (.istore_n 3, 1) := dk_62 (dk_at dksX0_reach_0 6 rfl rfl)
theorem dX0_reach_7 : decode cX0_reach 7 = .ok (.iconst 0, 1) := dk_3 (dk_at dksX0_reach_0 7 rfl rfl)
theorem dX0_reach_8 : decode cX0_reach 8 = .ok (.istore 4, 2) := dk_54 4 (dk_at dksX0_reach_0 8 rfl rfl)
theorem dX0_reach_10 : decode cX0_reach 10 = .ok (.iload 4, 2) := dk_21 4 (dk_at dksX0_reach_0 10 rfl rfl)
theorem dX0_reach_12 : decode cX0_reach 12 = .ok (.aload_n 0, 1) := dk_42 (dk_at dksX0_reach_0 12 rfl rfl)
theorem dX0_reach_13 : decode cX0_reach 13 = .ok (.invokevirtual 149, 3) := dk_182 0 149 (dk_at dksX0_reach_0 13 rfl rfl)
theorem dX0_reach_16 : decode cX0_reach 16 = .ok (.if_icmp .ge 28, 3) := dk_162 0 28 (dk_at dksX0_reach_0 16 rfl rfl)
theorem dX0_reach_19 : decode cX0_reach 19 = .ok (.aload_n 0, 1) := dk_42 (dk_at dksX0_reach_0 19 rfl rfl)
theorem dX0_reach_20 : decode cX0_reach 20 = .ok (.getfield 28, 3) := dk_180 0 28 (dk_at dksX0_reach_0 20 rfl rfl)
theorem dX0_reach_23 : decode cX0_reach 23 = .ok (.iload 4, 2) := dk_21 4 (dk_at dksX0_reach_1 0 rfl rfl)
theorem dX0_reach_25 : decode cX0_reach 25 = .ok (.invokevirtual 222, 3) := dk_182 0 222 (dk_at dksX0_reach_1 2 rfl rfl)
theorem dX0_reach_28 : decode cX0_reach 28 = .ok (.ifCond .ge 10, 3) := dk_156 0 10 (dk_at dksX0_reach_1 5 rfl rfl)
theorem dX0_reach_31 : decode cX0_reach 31 = .ok (.iload_n 3, 1) := dk_29 (dk_at dksX0_reach_1 8 rfl rfl)
theorem dX0_reach_32 : decode cX0_reach 32 = .ok (.iconst 1, 1) := dk_4 (dk_at dksX0_reach_1 9 rfl rfl)
theorem dX0_reach_33 : decode cX0_reach 33 = .ok (.iload 4, 2) := dk_21 4 (dk_at dksX0_reach_1 10 rfl rfl)
theorem dX0_reach_35 : decode cX0_reach 35 = .ok (.ishl, 1) := dk_120 (dk_at dksX0_reach_1 12 rfl rfl)
theorem dX0_reach_36 : decode cX0_reach 36 = .ok (.ior, 1) := dk_128 (dk_at dksX0_reach_1 13 rfl rfl)
theorem dX0_reach_37 : decode cX0_reach 37 = .ok (.istore_n 3, 1) := dk_62 (dk_at dksX0_reach_1 14 rfl rfl)
theorem dX0_reach_38 : decode cX0_reach 38 = .ok (.iinc 4 1, 3) := dk_132 4 1 (dk_at dksX0_reach_1 15 rfl rfl)
theorem dX0_reach_41 : decode cX0_reach 41 = .ok (.goto (-31), 3) := dk_167 255 225 (dk_at dksX0_reach_1 18 rfl rfl)
theorem dX0_reach_44 : decode cX0_reach 44 = .ok (.aload_n 0, 1) := dk_42 (dk_at dksX0_reach_1 21 rfl rfl)
theorem dX0_reach_45 : decode cX0_reach 45 = .ok (.iload_n 1, 1) := dk_27 (dk_at dksX0_reach_1 22 rfl rfl)
theorem dX0_reach_46 : decode cX0_reach 46 = .ok (.invokevirtual 180, 3) := dk_182 0 180 (dk_at dksX0_reach_2 0 rfl rfl)
theorem dX0_reach_49 : decode cX0_reach 49 = .ok (.ifCond .eq 20, 3) := dk_153 0 20 (dk_at dksX0_reach_2 3 rfl rfl)
theorem dX0_reach_52 : decode cX0_reach 52 = .ok (.aload_n 0, 1) := dk_42 (dk_at dksX0_reach_2 6 rfl rfl)
theorem dX0_reach_53 : decode cX0_reach 53 = .ok (.iload_n 2, 1) := dk_28 (dk_at dksX0_reach_2 7 rfl rfl)
theorem dX0_reach_54 : decode cX0_reach 54 = .ok (.invokevirtual 180, 3) := dk_182 0 180 (dk_at dksX0_reach_2 8 rfl rfl)
theorem dX0_reach_57 : decode cX0_reach 57 = .ok (.ifCond .eq 12, 3) := dk_153 0 12 (dk_at dksX0_reach_2 11 rfl rfl)
theorem dX0_reach_60 : decode cX0_reach 60 = .ok (.iload_n 1, 1) := dk_27 (dk_at dksX0_reach_2 14 rfl rfl)
theorem dX0_reach_61 : decode cX0_reach 61 = .ok (.iload_n 2, 1) := dk_28 (dk_at dksX0_reach_2 15 rfl rfl)
theorem dX0_reach_62 : decode cX0_reach 62 = .ok (.if_icmp .eq 7, 3) := dk_159 0 7 (dk_at dksX0_reach_2 16 rfl rfl)
theorem dX0_reach_65 : decode cX0_reach 65 = .ok (.iload_n 3, 1) := dk_29 (dk_at dksX0_reach_2 19 rfl rfl)
theorem dX0_reach_66 : decode cX0_reach 66 = .ok (.ifCond .ne 5, 3) := dk_154 0 5 (dk_at dksX0_reach_2 20 rfl rfl)
theorem dX0_reach_69 : decode cX0_reach 69 = .ok (.iconst (-1), 1) := dk_2 (dk_at dksX0_reach_2 23 rfl rfl)
theorem dX0_reach_70 : decode cX0_reach 70 = .ok (.ireturn, 1) := dk_172 (dk_at dksX0_reach_3 0 rfl rfl)
theorem dX0_reach_71 : decode cX0_reach 71 = .ok (.iconst 0, 1) := dk_3 (dk_at dksX0_reach_3 1 rfl rfl)
theorem dX0_reach_72 : decode cX0_reach 72 = .ok (.istore 4, 2) := dk_54 4 (dk_at dksX0_reach_3 2 rfl rfl)
theorem dX0_reach_74 : decode cX0_reach 74 = .ok (.iconst 0, 1) := dk_3 (dk_at dksX0_reach_3 4 rfl rfl)
theorem dX0_reach_75 : decode cX0_reach 75 = .ok (.istore 5, 2) := dk_54 5 (dk_at dksX0_reach_3 5 rfl rfl)
theorem dX0_reach_77 : decode cX0_reach 77 = .ok (.iload 5, 2) := dk_21 5 (dk_at dksX0_reach_3 7 rfl rfl)
theorem dX0_reach_79 : decode cX0_reach 79 = .ok (.aload_n 0, 1) := dk_42 (dk_at dksX0_reach_3 9 rfl rfl)
theorem dX0_reach_80 : decode cX0_reach 80 = .ok (.invokevirtual 149, 3) := dk_182 0 149 (dk_at dksX0_reach_3 10 rfl rfl)
theorem dX0_reach_83 : decode cX0_reach 83 = .ok (.if_icmp .ge 94, 3) := dk_162 0 94 (dk_at dksX0_reach_3 13 rfl rfl)
theorem dX0_reach_86 : decode cX0_reach 86 = .ok (.iconst 0, 1) := dk_3 (dk_at dksX0_reach_3 16 rfl rfl)
theorem dX0_reach_87 : decode cX0_reach 87 = .ok (.istore 6, 2) := dk_54 6 (dk_at dksX0_reach_3 17 rfl rfl)
theorem dX0_reach_89 : decode cX0_reach 89 = .ok (.iload 6, 2) := dk_21 6 (dk_at dksX0_reach_3 19 rfl rfl)
theorem dX0_reach_91 : decode cX0_reach 91 = .ok (.aload_n 0, 1) := dk_42 (dk_at dksX0_reach_3 21 rfl rfl)
theorem dX0_reach_92 : decode cX0_reach 92 = .ok (.invokevirtual 149, 3) := dk_182 0 149 (dk_at dksX0_reach_4 0 rfl rfl)
theorem dX0_reach_95 : decode cX0_reach 95 = .ok (.if_icmp .ge 76, 3) := dk_162 0 76 (dk_at dksX0_reach_4 3 rfl rfl)
theorem dX0_reach_98 : decode cX0_reach 98 = .ok (.iload_n 3, 1) := dk_29 (dk_at dksX0_reach_4 6 rfl rfl)
theorem dX0_reach_99 : decode cX0_reach 99 = .ok (.iload 5, 2) := dk_21 5 (dk_at dksX0_reach_4 7 rfl rfl)
theorem dX0_reach_101 : decode cX0_reach 101 = .ok (.invokestatic 239, 3) := dk_184 0 239 (dk_at dksX0_reach_4 9 rfl rfl)
theorem dX0_reach_104 : decode cX0_reach 104 = .ok (.ifCond .eq 61, 3) := dk_153 0 61 (dk_at dksX0_reach_4 12 rfl rfl)
theorem dX0_reach_107 : decode cX0_reach 107 = .ok (.iload_n 3, 1) := dk_29 (dk_at dksX0_reach_4 15 rfl rfl)
theorem dX0_reach_108 : decode cX0_reach 108 = .ok (.iload 6, 2) := dk_21 6 (dk_at dksX0_reach_4 16 rfl rfl)
theorem dX0_reach_110 : decode cX0_reach 110 = .ok (.invokestatic 239, 3) := dk_184 0 239 (dk_at dksX0_reach_4 18 rfl rfl)
theorem dX0_reach_113 : decode cX0_reach 113 = .ok (.ifCond .eq 52, 3) := dk_153 0 52 (dk_at dksX0_reach_4 21 rfl rfl)
theorem dX0_reach_116 : decode cX0_reach 116 = .ok (.aload_n 0, 1) := dk_42 (dk_at dksX0_reach_5 0 rfl rfl)
theorem dX0_reach_117 : decode cX0_reach 117 = .ok (.iload_n 1, 1) := dk_27 (dk_at dksX0_reach_5 1 rfl rfl)
theorem dX0_reach_118 : decode cX0_reach 118 = .ok (.iload_n 2, 1) := dk_28 (dk_at dksX0_reach_5 2 rfl rfl)
theorem dX0_reach_119 : decode cX0_reach 119 = .ok (.iload 5, 2) := dk_21 5 (dk_at dksX0_reach_5 3 rfl rfl)
theorem dX0_reach_121 : decode cX0_reach 121 = .ok (.iload 6, 2) := dk_21 6 (dk_at dksX0_reach_5 5 rfl rfl)
theorem dX0_reach_123 : decode cX0_reach 123 = .ok (.invokevirtual 328, 3) := dk_182 1 72 (dk_at dksX0_reach_5 7 rfl rfl)
theorem dX0_reach_126 : decode cX0_reach 126 = .ok (.ifCond .ne 6, 3) := dk_154 0 6 (dk_at dksX0_reach_5 10 rfl rfl)
theorem dX0_reach_129 : decode cX0_reach 129 = .ok (.goto 36, 3) := dk_167 0 36 (dk_at dksX0_reach_5 13 rfl rfl)
theorem dX0_reach_132 : decode cX0_reach 132 = .ok (.iinc 4 1, 3) := dk_132 4 1 (dk_at dksX0_reach_5 16 rfl rfl)
theorem dX0_reach_135 : decode cX0_reach 135 = .ok (.iload 4, 2) := dk_21 4 (dk_at dksX0_reach_5 19 rfl rfl)
theorem dX0_reach_137 : decode cX0_reach 137 = .ok (.iconst 1, 1) := dk_4 (dk_at dksX0_reach_5 21 rfl rfl)
theorem dX0_reach_138 : decode cX0_reach 138 = .ok (.if_icmp .le 6, 3) := dk_164 0 6 (dk_at dksX0_reach_6 0 rfl rfl)
theorem dX0_reach_141 : decode cX0_reach 141 = .ok (.goto 24, 3) := dk_167 0 24 (dk_at dksX0_reach_6 3 rfl rfl)
theorem dX0_reach_144 : decode cX0_reach 144 = .ok (.aload_n 0, 1) := dk_42 (dk_at dksX0_reach_6 6 rfl rfl)
theorem dX0_reach_145 : decode cX0_reach 145 = .ok (.getfield 60, 3) := dk_180 0 60 (dk_at dksX0_reach_6 7 rfl rfl)
theorem dX0_reach_148 : decode cX0_reach 148 = .ok (.iconst 0, 1) := dk_3 (dk_at dksX0_reach_6 10 rfl rfl)
theorem dX0_reach_149 : decode cX0_reach 149 = .ok (.iload 5, 2) := dk_21 5 (dk_at dksX0_reach_6 11 rfl rfl)
theorem dX0_reach_151 : decode cX0_reach 151 = .ok (.iastore, 1) := dk_79 (dk_at dksX0_reach_6 13 rfl rfl)
theorem dX0_reach_152 : decode cX0_reach 152 = .ok (.aload_n 0, 1) := dk_42 (dk_at dksX0_reach_6 14 rfl rfl)
theorem dX0_reach_153 : decode cX0_reach 153 = .ok (.getfield 60, 3) := dk_180 0 60 (dk_at dksX0_reach_6 15 rfl rfl)
theorem dX0_reach_156 : decode cX0_reach 156 = .ok (.iconst 1, 1) := dk_4 (dk_at dksX0_reach_6 18 rfl rfl)
theorem dX0_reach_157 : decode cX0_reach 157 = .ok (.iload 6, 2) := dk_21 6 (dk_at dksX0_reach_6 19 rfl rfl)
theorem dX0_reach_159 : decode cX0_reach 159 = .ok (.iastore, 1) := dk_79 (dk_at dksX0_reach_6 21 rfl rfl)
theorem dX0_reach_160 : decode cX0_reach 160 = .ok (.aload_n 0, 1) := dk_42 (dk_at dksX0_reach_6 22 rfl rfl)
theorem dX0_reach_161 : decode cX0_reach 161 = .ok (.iconst 2, 1) := dk_5 (dk_at dksX0_reach_6 23 rfl rfl)
theorem dX0_reach_162 : decode cX0_reach 162 = .ok (.putfield 112, 3) := dk_181 0 112 (dk_at dksX0_reach_7 0 rfl rfl)
theorem dX0_reach_165 : decode cX0_reach 165 = .ok (.iinc 6 1, 3) := dk_132 6 1 (dk_at dksX0_reach_7 3 rfl rfl)
theorem dX0_reach_168 : decode cX0_reach 168 = .ok (.goto (-79), 3) := dk_167 255 177 (dk_at dksX0_reach_7 6 rfl rfl)
theorem dX0_reach_171 : decode cX0_reach 171 = .ok (.iinc 5 1, 3) := dk_132 5 1 (dk_at dksX0_reach_7 9 rfl rfl)
theorem dX0_reach_174 : decode cX0_reach 174 = .ok (.goto (-97), 3) := dk_167 255 159 (dk_at dksX0_reach_7 12 rfl rfl)
theorem dX0_reach_177 : decode cX0_reach 177 = .ok (.iload 4, 2) := dk_21 4 (dk_at dksX0_reach_7 15 rfl rfl)
theorem dX0_reach_179 : decode cX0_reach 179 = .ok (.ireturn, 1) := dk_172 (dk_at dksX0_reach_7 17 rfl rfl)
abbrev cX0_rests : ByteArray := prog_1_method_54_code
def yX0_rests : MethodName := ⟨RX0, "rests", "(IIII)Z"⟩
def dkwX0_rests_3 : List UInt8 := [167, 255, 188, 4, 172]
abbrev dktX0_rests_3 : List UInt8 := dkwX0_rests_3 ++ []
def dkwX0_rests_2 : List UInt8 := [28, 21, 5, 29, 182, 1, 68, 42, 28, 21, 4, 29, 182, 1, 68, 162, 0, 5, 3, 172, 132, 5, 1]
abbrev dktX0_rests_2 : List UInt8 := dkwX0_rests_2 ++ dktX0_rests_3
def dkwX0_rests_1 : List UInt8 := [167, 0, 44, 42, 27, 21, 5, 21, 4, 182, 1, 68, 42, 27, 29, 21, 4, 182, 1, 68, 161, 0, 22, 42]
abbrev dktX0_rests_1 : List UInt8 := dkwX0_rests_1 ++ dktX0_rests_2
def dkwX0_rests_0 : List UInt8 := [3, 54, 5, 21, 5, 42, 182, 0, 149, 162, 0, 65, 42, 180, 0, 28, 21, 5, 182, 0, 222, 155, 0, 6]
abbrev dktX0_rests_0 : List UInt8 := dkwX0_rests_0 ++ dktX0_rests_1
theorem dksX0_rests_0 : cX0_rests.data.toList.drop 0 = dktX0_rests_0 := by decide +kernel
theorem dksX0_rests_1 : cX0_rests.data.toList.drop 24 = dktX0_rests_1 := dk_seg dksX0_rests_0 24 rfl rfl
theorem dksX0_rests_2 : cX0_rests.data.toList.drop 48 = dktX0_rests_2 := dk_seg dksX0_rests_1 24 rfl rfl
theorem dksX0_rests_3 : cX0_rests.data.toList.drop 71 = dktX0_rests_3 := dk_seg dksX0_rests_2 23 rfl rfl
theorem dX0_rests_0 : decode cX0_rests 0 = .ok (.iconst 0, 1) := dk_3 (dk_at dksX0_rests_0 0 rfl rfl)
theorem dX0_rests_1 : decode cX0_rests 1 = .ok (.istore 5, 2) := dk_54 5 (dk_at dksX0_rests_0 1 rfl rfl)
theorem dX0_rests_3 : decode cX0_rests 3 = .ok (.iload 5, 2) := dk_21 5 (dk_at dksX0_rests_0 3 rfl rfl)
theorem dX0_rests_5 : decode cX0_rests 5 = .ok (.aload_n 0, 1) := dk_42 (dk_at dksX0_rests_0 5 rfl rfl)
theorem dX0_rests_6 : decode cX0_rests 6 = .ok (.invokevirtual 149, 3) := dk_182 0 149 (dk_at dksX0_rests_0 6 rfl rfl)
theorem dX0_rests_9 : decode cX0_rests 9 = .ok (.if_icmp .ge 65, 3) := dk_162 0 65 (dk_at dksX0_rests_0 9 rfl rfl)
theorem dX0_rests_12 : decode cX0_rests 12 = .ok (.aload_n 0, 1) := dk_42 (dk_at dksX0_rests_0 12 rfl rfl)
theorem dX0_rests_13 : decode cX0_rests 13 = .ok (.getfield 28, 3) := dk_180 0 28 (dk_at dksX0_rests_0 13 rfl rfl)
theorem dX0_rests_16 : decode cX0_rests 16 = .ok (.iload 5, 2) := dk_21 5 (dk_at dksX0_rests_0 16 rfl rfl)
theorem dX0_rests_18 : decode cX0_rests 18 = .ok (.invokevirtual 222, 3) := dk_182 0 222 (dk_at dksX0_rests_0 18 rfl rfl)
theorem dX0_rests_21 : decode cX0_rests 21 = .ok (.ifCond .lt 6, 3) := dk_155 0 6 (dk_at dksX0_rests_0 21 rfl rfl)
theorem dX0_rests_24 : decode cX0_rests 24 = .ok (.goto 44, 3) := dk_167 0 44 (dk_at dksX0_rests_1 0 rfl rfl)
theorem dX0_rests_27 : decode cX0_rests 27 = .ok (.aload_n 0, 1) := dk_42 (dk_at dksX0_rests_1 3 rfl rfl)
theorem dX0_rests_28 : decode cX0_rests 28 = .ok (.iload_n 1, 1) := dk_27 (dk_at dksX0_rests_1 4 rfl rfl)
theorem dX0_rests_29 : decode cX0_rests 29 = .ok (.iload 5, 2) := dk_21 5 (dk_at dksX0_rests_1 5 rfl rfl)
theorem dX0_rests_31 : decode cX0_rests 31 = .ok (.iload 4, 2) := dk_21 4 (dk_at dksX0_rests_1 7 rfl rfl)
theorem dX0_rests_33 : decode cX0_rests 33 = .ok (.invokevirtual 324, 3) := dk_182 1 68 (dk_at dksX0_rests_1 9 rfl rfl)
theorem dX0_rests_36 : decode cX0_rests 36 = .ok (.aload_n 0, 1) := dk_42 (dk_at dksX0_rests_1 12 rfl rfl)
theorem dX0_rests_37 : decode cX0_rests 37 = .ok (.iload_n 1, 1) := dk_27 (dk_at dksX0_rests_1 13 rfl rfl)
theorem dX0_rests_38 : decode cX0_rests 38 = .ok (.iload_n 3, 1) := dk_29 (dk_at dksX0_rests_1 14 rfl rfl)
theorem dX0_rests_39 : decode cX0_rests 39 = .ok (.iload 4, 2) := dk_21 4 (dk_at dksX0_rests_1 15 rfl rfl)
theorem dX0_rests_41 : decode cX0_rests 41 = .ok (.invokevirtual 324, 3) := dk_182 1 68 (dk_at dksX0_rests_1 17 rfl rfl)
theorem dX0_rests_44 : decode cX0_rests 44 = .ok (.if_icmp .lt 22, 3) := dk_161 0 22 (dk_at dksX0_rests_1 20 rfl rfl)
theorem dX0_rests_47 : decode cX0_rests 47 = .ok (.aload_n 0, 1) := dk_42 (dk_at dksX0_rests_1 23 rfl rfl)
theorem dX0_rests_48 : decode cX0_rests 48 = .ok (.iload_n 2, 1) := dk_28 (dk_at dksX0_rests_2 0 rfl rfl)
theorem dX0_rests_49 : decode cX0_rests 49 = .ok (.iload 5, 2) := dk_21 5 (dk_at dksX0_rests_2 1 rfl rfl)
theorem dX0_rests_51 : decode cX0_rests 51 = .ok (.iload_n 3, 1) := dk_29 (dk_at dksX0_rests_2 3 rfl rfl)
theorem dX0_rests_52 : decode cX0_rests 52 = .ok (.invokevirtual 324, 3) := dk_182 1 68 (dk_at dksX0_rests_2 4 rfl rfl)
theorem dX0_rests_55 : decode cX0_rests 55 = .ok (.aload_n 0, 1) := dk_42 (dk_at dksX0_rests_2 7 rfl rfl)
theorem dX0_rests_56 : decode cX0_rests 56 = .ok (.iload_n 2, 1) := dk_28 (dk_at dksX0_rests_2 8 rfl rfl)
theorem dX0_rests_57 : decode cX0_rests 57 = .ok (.iload 4, 2) := dk_21 4 (dk_at dksX0_rests_2 9 rfl rfl)
theorem dX0_rests_59 : decode cX0_rests 59 = .ok (.iload_n 3, 1) := dk_29 (dk_at dksX0_rests_2 11 rfl rfl)
theorem dX0_rests_60 : decode cX0_rests 60 = .ok (.invokevirtual 324, 3) := dk_182 1 68 (dk_at dksX0_rests_2 12 rfl rfl)
theorem dX0_rests_63 : decode cX0_rests 63 = .ok (.if_icmp .ge 5, 3) := dk_162 0 5 (dk_at dksX0_rests_2 15 rfl rfl)
theorem dX0_rests_66 : decode cX0_rests 66 = .ok (.iconst 0, 1) := dk_3 (dk_at dksX0_rests_2 18 rfl rfl)
theorem dX0_rests_67 : decode cX0_rests 67 = .ok (.ireturn, 1) := dk_172 (dk_at dksX0_rests_2 19 rfl rfl)
theorem dX0_rests_68 : decode cX0_rests 68 = .ok (.iinc 5 1, 3) := dk_132 5 1 (dk_at dksX0_rests_2 20 rfl rfl)
theorem dX0_rests_71 : decode cX0_rests 71 = .ok (.goto (-68), 3) := dk_167 255 188 (dk_at dksX0_rests_3 0 rfl rfl)
theorem dX0_rests_74 : decode cX0_rests 74 = .ok (.iconst 1, 1) := dk_4 (dk_at dksX0_rests_3 3 rfl rfl)
theorem dX0_rests_75 : decode cX0_rests 75 = .ok (.ireturn, 1) := dk_172 (dk_at dksX0_rests_3 4 rfl rfl)
abbrev cX0_gets : ByteArray := prog_1_method_53_code
def yX0_gets : MethodName := ⟨RX0, "gets", "(III)I"⟩
def dkwX0_gets_1 : List UInt8 := [172]
abbrev dktX0_gets_1 : List UInt8 := dkwX0_gets_1 ++ []
def dkwX0_gets_0 : List UInt8 := [28, 29, 160, 0, 9, 17, 3, 232, 167, 0, 16, 42, 180, 0, 19, 42, 180, 0, 28, 27, 28, 182, 0, 225]
abbrev dktX0_gets_0 : List UInt8 := dkwX0_gets_0 ++ dktX0_gets_1
theorem dksX0_gets_0 : cX0_gets.data.toList.drop 0 = dktX0_gets_0 := by decide +kernel
theorem dksX0_gets_1 : cX0_gets.data.toList.drop 24 = dktX0_gets_1 := dk_seg dksX0_gets_0 24 rfl rfl
theorem dX0_gets_0 : decode cX0_gets 0 = .ok (.iload_n 2, 1) := dk_28 (dk_at dksX0_gets_0 0 rfl rfl)
theorem dX0_gets_1 : decode cX0_gets 1 = .ok (.iload_n 3, 1) := dk_29 (dk_at dksX0_gets_0 1 rfl rfl)
theorem dX0_gets_2 : decode cX0_gets 2 = .ok (.if_icmp .ne 9, 3) := dk_160 0 9 (dk_at dksX0_gets_0 2 rfl rfl)
theorem dX0_gets_5 : decode cX0_gets 5 = .ok (.sipush 1000, 3) := dk_17 3 232 (dk_at dksX0_gets_0 5 rfl rfl)
theorem dX0_gets_8 : decode cX0_gets 8 = .ok (.goto 16, 3) := dk_167 0 16 (dk_at dksX0_gets_0 8 rfl rfl)
theorem dX0_gets_11 : decode cX0_gets 11 = .ok (.aload_n 0, 1) := dk_42 (dk_at dksX0_gets_0 11 rfl rfl)
theorem dX0_gets_12 : decode cX0_gets 12 = .ok (.getfield 19, 3) := dk_180 0 19 (dk_at dksX0_gets_0 12 rfl rfl)
theorem dX0_gets_15 : decode cX0_gets 15 = .ok (.aload_n 0, 1) := dk_42 (dk_at dksX0_gets_0 15 rfl rfl)
theorem dX0_gets_16 : decode cX0_gets 16 = .ok (.getfield 28, 3) := dk_180 0 28 (dk_at dksX0_gets_0 16 rfl rfl)
theorem dX0_gets_19 : decode cX0_gets 19 = .ok (.iload_n 1, 1) := dk_27 (dk_at dksX0_gets_0 19 rfl rfl)
theorem dX0_gets_20 : decode cX0_gets 20 = .ok (.iload_n 2, 1) := dk_28 (dk_at dksX0_gets_0 20 rfl rfl)
theorem dX0_gets_21 : decode cX0_gets 21 = .ok (.invokevirtual 225, 3) := dk_182 0 225 (dk_at dksX0_gets_0 21 rfl rfl)
theorem dX0_gets_24 : decode cX0_gets 24 = .ok (.ireturn, 1) := dk_172 (dk_at dksX0_gets_1 0 rfl rfl)
abbrev cX0_rags : ByteArray := prog_1_method_56_code
def yX0_rags : MethodName := ⟨RX0, "rags", "()I"⟩
def dkwX0_rags_1 : List UInt8 := [128, 60, 132, 2, 1, 167, 255, 231, 27, 172]
abbrev dktX0_rags_1 : List UInt8 := dkwX0_rags_1 ++ []
def dkwX0_rags_0 : List UInt8 := [3, 60, 3, 61, 28, 42, 182, 0, 149, 162, 0, 23, 42, 28, 182, 1, 75, 154, 0, 9, 27, 4, 28, 120]
abbrev dktX0_rags_0 : List UInt8 := dkwX0_rags_0 ++ dktX0_rags_1
theorem dksX0_rags_0 : cX0_rags.data.toList.drop 0 = dktX0_rags_0 := by decide +kernel
theorem dksX0_rags_1 : cX0_rags.data.toList.drop 24 = dktX0_rags_1 := dk_seg dksX0_rags_0 24 rfl rfl
theorem dX0_rags_0 : decode cX0_rags 0 = .ok (.iconst 0, 1) := dk_3 (dk_at dksX0_rags_0 0 rfl rfl)
theorem dX0_rags_1 : decode cX0_rags 1 = .ok (.istore_n 1, 1) := dk_60 (dk_at dksX0_rags_0 1 rfl rfl)
theorem dX0_rags_2 : decode cX0_rags 2 = .ok (.iconst 0, 1) := dk_3 (dk_at dksX0_rags_0 2 rfl rfl)
theorem dX0_rags_3 : decode cX0_rags 3 = .ok (.istore_n 2, 1) := dk_61 (dk_at dksX0_rags_0 3 rfl rfl)
theorem dX0_rags_4 : decode cX0_rags 4 = .ok (.iload_n 2, 1) := dk_28 (dk_at dksX0_rags_0 4 rfl rfl)
theorem dX0_rags_5 : decode cX0_rags 5 = .ok (.aload_n 0, 1) := dk_42 (dk_at dksX0_rags_0 5 rfl rfl)
theorem dX0_rags_6 : decode cX0_rags 6 = .ok (.invokevirtual 149, 3) := dk_182 0 149 (dk_at dksX0_rags_0 6 rfl rfl)
theorem dX0_rags_9 : decode cX0_rags 9 = .ok (.if_icmp .ge 23, 3) := dk_162 0 23 (dk_at dksX0_rags_0 9 rfl rfl)
theorem dX0_rags_12 : decode cX0_rags 12 = .ok (.aload_n 0, 1) := dk_42 (dk_at dksX0_rags_0 12 rfl rfl)
theorem dX0_rags_13 : decode cX0_rags 13 = .ok (.iload_n 2, 1) := dk_28 (dk_at dksX0_rags_0 13 rfl rfl)
theorem dX0_rags_14 : decode cX0_rags 14 = .ok (.invokevirtual 331, 3) := dk_182 1 75 (dk_at dksX0_rags_0 14 rfl rfl)
theorem dX0_rags_17 : decode cX0_rags 17 = .ok (.ifCond .ne 9, 3) := dk_154 0 9 (dk_at dksX0_rags_0 17 rfl rfl)
theorem dX0_rags_20 : decode cX0_rags 20 = .ok (.iload_n 1, 1) := dk_27 (dk_at dksX0_rags_0 20 rfl rfl)
theorem dX0_rags_21 : decode cX0_rags 21 = .ok (.iconst 1, 1) := dk_4 (dk_at dksX0_rags_0 21 rfl rfl)
theorem dX0_rags_22 : decode cX0_rags 22 = .ok (.iload_n 2, 1) := dk_28 (dk_at dksX0_rags_0 22 rfl rfl)
theorem dX0_rags_23 : decode cX0_rags 23 = .ok (.ishl, 1) := dk_120 (dk_at dksX0_rags_0 23 rfl rfl)
theorem dX0_rags_24 : decode cX0_rags 24 = .ok (.ior, 1) := dk_128 (dk_at dksX0_rags_1 0 rfl rfl)
theorem dX0_rags_25 : decode cX0_rags 25 = .ok (.istore_n 1, 1) := dk_60 (dk_at dksX0_rags_1 1 rfl rfl)
theorem dX0_rags_26 : decode cX0_rags 26 = .ok (.iinc 2 1, 3) := dk_132 2 1 (dk_at dksX0_rags_1 2 rfl rfl)
theorem dX0_rags_29 : decode cX0_rags 29 = .ok (.goto (-25), 3) := dk_167 255 231 (dk_at dksX0_rags_1 5 rfl rfl)
theorem dX0_rags_32 : decode cX0_rags 32 = .ok (.iload_n 1, 1) := dk_27 (dk_at dksX0_rags_1 8 rfl rfl)
theorem dX0_rags_33 : decode cX0_rags 33 = .ok (.ireturn, 1) := dk_172 (dk_at dksX0_rags_1 9 rfl rfl)
abbrev cX0_popular : ByteArray := prog_1_method_58_code
def yX0_popular : MethodName := ⟨RX0, "popular", "(I)I"⟩
def dkwX0_popular_2 : List UInt8 := [132, 3, 1, 167, 255, 221, 28, 172]
abbrev dktX0_popular_2 : List UInt8 := dkwX0_popular_2 ++ []
def dkwX0_popular_1 : List UInt8 := [180, 0, 19, 42, 180, 0, 28, 29, 27, 182, 0, 176, 153, 0, 7, 4, 167, 0, 4, 3, 96, 61]
abbrev dktX0_popular_1 : List UInt8 := dkwX0_popular_1 ++ dktX0_popular_2
def dkwX0_popular_0 : List UInt8 := [42, 27, 182, 0, 205, 154, 0, 5, 2, 172, 3, 61, 3, 62, 29, 42, 182, 0, 143, 162, 0, 33, 28, 42]
abbrev dktX0_popular_0 : List UInt8 := dkwX0_popular_0 ++ dktX0_popular_1
theorem dksX0_popular_0 : cX0_popular.data.toList.drop 0 = dktX0_popular_0 := by decide +kernel
theorem dksX0_popular_1 : cX0_popular.data.toList.drop 24 = dktX0_popular_1 := dk_seg dksX0_popular_0 24 rfl rfl
theorem dksX0_popular_2 : cX0_popular.data.toList.drop 46 = dktX0_popular_2 := dk_seg dksX0_popular_1 22 rfl rfl
theorem dX0_popular_0 : decode cX0_popular 0 = .ok (.aload_n 0, 1) := dk_42 (dk_at dksX0_popular_0 0 rfl rfl)
theorem dX0_popular_1 : decode cX0_popular 1 = .ok (.iload_n 1, 1) := dk_27 (dk_at dksX0_popular_0 1 rfl rfl)
theorem dX0_popular_2 : decode cX0_popular 2 = .ok (.invokevirtual 205, 3) := dk_182 0 205 (dk_at dksX0_popular_0 2 rfl rfl)
theorem dX0_popular_5 : decode cX0_popular 5 = .ok (.ifCond .ne 5, 3) := dk_154 0 5 (dk_at dksX0_popular_0 5 rfl rfl)
theorem dX0_popular_8 : decode cX0_popular 8 = .ok (.iconst (-1), 1) := dk_2 (dk_at dksX0_popular_0 8 rfl rfl)
theorem dX0_popular_9 : decode cX0_popular 9 = .ok (.ireturn, 1) := dk_172 (dk_at dksX0_popular_0 9 rfl rfl)
theorem dX0_popular_10 : decode cX0_popular 10 = .ok (.iconst 0, 1) := dk_3 (dk_at dksX0_popular_0 10 rfl rfl)
theorem dX0_popular_11 : decode cX0_popular 11 = .ok (.istore_n 2, 1) := dk_61 (dk_at dksX0_popular_0 11 rfl rfl)
theorem dX0_popular_12 : decode cX0_popular 12 = .ok (.iconst 0, 1) := dk_3 (dk_at dksX0_popular_0 12 rfl rfl)
theorem dX0_popular_13 : decode cX0_popular 13 = .ok (.istore_n 3, 1) := dk_62 (dk_at dksX0_popular_0 13 rfl rfl)
theorem dX0_popular_14 : decode cX0_popular 14 = .ok (.iload_n 3, 1) := dk_29 (dk_at dksX0_popular_0 14 rfl rfl)
theorem dX0_popular_15 : decode cX0_popular 15 = .ok (.aload_n 0, 1) := dk_42 (dk_at dksX0_popular_0 15 rfl rfl)
theorem dX0_popular_16 : decode cX0_popular 16 = .ok (.invokevirtual 143, 3) := dk_182 0 143 (dk_at dksX0_popular_0 16 rfl rfl)
theorem dX0_popular_19 : decode cX0_popular 19 = .ok (.if_icmp .ge 33, 3) := dk_162 0 33 (dk_at dksX0_popular_0 19 rfl rfl)
theorem dX0_popular_22 : decode cX0_popular 22 = .ok (.iload_n 2, 1) := dk_28 (dk_at dksX0_popular_0 22 rfl rfl)
theorem dX0_popular_23 : decode cX0_popular 23 = .ok (.aload_n 0, 1) := dk_42 (dk_at dksX0_popular_0 23 rfl rfl)
theorem dX0_popular_24 : decode cX0_popular 24 = .ok (.getfield 19, 3) := dk_180 0 19 (dk_at dksX0_popular_1 0 rfl rfl)
theorem dX0_popular_27 : decode cX0_popular 27 = .ok (.aload_n 0, 1) := dk_42 (dk_at dksX0_popular_1 3 rfl rfl)
theorem dX0_popular_28 : decode cX0_popular 28 = .ok (.getfield 28, 3) := dk_180 0 28 (dk_at dksX0_popular_1 4 rfl rfl)
theorem dX0_popular_31 : decode cX0_popular 31 = .ok (.iload_n 3, 1) := dk_29 (dk_at dksX0_popular_1 7 rfl rfl)
theorem dX0_popular_32 : decode cX0_popular 32 = .ok (.iload_n 1, 1) := dk_27 (dk_at dksX0_popular_1 8 rfl rfl)
theorem dX0_popular_33 : decode cX0_popular 33 = .ok (.invokevirtual 176, 3) := dk_182 0 176 (dk_at dksX0_popular_1 9 rfl rfl)
theorem dX0_popular_36 : decode cX0_popular 36 = .ok (.ifCond .eq 7, 3) := dk_153 0 7 (dk_at dksX0_popular_1 12 rfl rfl)
theorem dX0_popular_39 : decode cX0_popular 39 = .ok (.iconst 1, 1) := dk_4 (dk_at dksX0_popular_1 15 rfl rfl)
theorem dX0_popular_40 : decode cX0_popular 40 = .ok (.goto 4, 3) := dk_167 0 4 (dk_at dksX0_popular_1 16 rfl rfl)
theorem dX0_popular_43 : decode cX0_popular 43 = .ok (.iconst 0, 1) := dk_3 (dk_at dksX0_popular_1 19 rfl rfl)
theorem dX0_popular_44 : decode cX0_popular 44 = .ok (.iadd, 1) := dk_96 (dk_at dksX0_popular_1 20 rfl rfl)
theorem dX0_popular_45 : decode cX0_popular 45 = .ok (.istore_n 2, 1) := dk_61 (dk_at dksX0_popular_1 21 rfl rfl)
theorem dX0_popular_46 : decode cX0_popular 46 = .ok (.iinc 3 1, 3) := dk_132 3 1 (dk_at dksX0_popular_2 0 rfl rfl)
theorem dX0_popular_49 : decode cX0_popular 49 = .ok (.goto (-35), 3) := dk_167 255 221 (dk_at dksX0_popular_2 3 rfl rfl)
theorem dX0_popular_52 : decode cX0_popular 52 = .ok (.iload_n 2, 1) := dk_28 (dk_at dksX0_popular_2 6 rfl rfl)
theorem dX0_popular_53 : decode cX0_popular 53 = .ok (.ireturn, 1) := dk_172 (dk_at dksX0_popular_2 7 rfl rfl)
abbrev cX0_naked : ByteArray := prog_1_method_57_code
def yX0_naked : MethodName := ⟨RX0, "naked", "()I"⟩
def dkwX0_naked_1 : List UInt8 := [128, 60, 132, 2, 1, 167, 255, 231, 27, 172]
abbrev dktX0_naked_1 : List UInt8 := dkwX0_naked_1 ++ []
def dkwX0_naked_0 : List UInt8 := [3, 60, 3, 61, 28, 42, 182, 0, 143, 162, 0, 23, 42, 28, 182, 0, 201, 154, 0, 9, 27, 4, 28, 120]
abbrev dktX0_naked_0 : List UInt8 := dkwX0_naked_0 ++ dktX0_naked_1
theorem dksX0_naked_0 : cX0_naked.data.toList.drop 0 = dktX0_naked_0 := by decide +kernel
theorem dksX0_naked_1 : cX0_naked.data.toList.drop 24 = dktX0_naked_1 := dk_seg dksX0_naked_0 24 rfl rfl
theorem dX0_naked_0 : decode cX0_naked 0 = .ok (.iconst 0, 1) := dk_3 (dk_at dksX0_naked_0 0 rfl rfl)
theorem dX0_naked_1 : decode cX0_naked 1 = .ok (.istore_n 1, 1) := dk_60 (dk_at dksX0_naked_0 1 rfl rfl)
theorem dX0_naked_2 : decode cX0_naked 2 = .ok (.iconst 0, 1) := dk_3 (dk_at dksX0_naked_0 2 rfl rfl)
theorem dX0_naked_3 : decode cX0_naked 3 = .ok (.istore_n 2, 1) := dk_61 (dk_at dksX0_naked_0 3 rfl rfl)
theorem dX0_naked_4 : decode cX0_naked 4 = .ok (.iload_n 2, 1) := dk_28 (dk_at dksX0_naked_0 4 rfl rfl)
theorem dX0_naked_5 : decode cX0_naked 5 = .ok (.aload_n 0, 1) := dk_42 (dk_at dksX0_naked_0 5 rfl rfl)
theorem dX0_naked_6 : decode cX0_naked 6 = .ok (.invokevirtual 143, 3) := dk_182 0 143 (dk_at dksX0_naked_0 6 rfl rfl)
theorem dX0_naked_9 : decode cX0_naked 9 = .ok (.if_icmp .ge 23, 3) := dk_162 0 23 (dk_at dksX0_naked_0 9 rfl rfl)
theorem dX0_naked_12 : decode cX0_naked 12 = .ok (.aload_n 0, 1) := dk_42 (dk_at dksX0_naked_0 12 rfl rfl)
theorem dX0_naked_13 : decode cX0_naked 13 = .ok (.iload_n 2, 1) := dk_28 (dk_at dksX0_naked_0 13 rfl rfl)
theorem dX0_naked_14 : decode cX0_naked 14 = .ok (.invokevirtual 201, 3) := dk_182 0 201 (dk_at dksX0_naked_0 14 rfl rfl)
theorem dX0_naked_17 : decode cX0_naked 17 = .ok (.ifCond .ne 9, 3) := dk_154 0 9 (dk_at dksX0_naked_0 17 rfl rfl)
theorem dX0_naked_20 : decode cX0_naked 20 = .ok (.iload_n 1, 1) := dk_27 (dk_at dksX0_naked_0 20 rfl rfl)
theorem dX0_naked_21 : decode cX0_naked 21 = .ok (.iconst 1, 1) := dk_4 (dk_at dksX0_naked_0 21 rfl rfl)
theorem dX0_naked_22 : decode cX0_naked 22 = .ok (.iload_n 2, 1) := dk_28 (dk_at dksX0_naked_0 22 rfl rfl)
theorem dX0_naked_23 : decode cX0_naked 23 = .ok (.ishl, 1) := dk_120 (dk_at dksX0_naked_0 23 rfl rfl)
theorem dX0_naked_24 : decode cX0_naked 24 = .ok (.ior, 1) := dk_128 (dk_at dksX0_naked_1 0 rfl rfl)
theorem dX0_naked_25 : decode cX0_naked 25 = .ok (.istore_n 1, 1) := dk_60 (dk_at dksX0_naked_1 1 rfl rfl)
theorem dX0_naked_26 : decode cX0_naked 26 = .ok (.iinc 2 1, 3) := dk_132 2 1 (dk_at dksX0_naked_1 2 rfl rfl)
theorem dX0_naked_29 : decode cX0_naked 29 = .ok (.goto (-25), 3) := dk_167 255 231 (dk_at dksX0_naked_1 5 rfl rfl)
theorem dX0_naked_32 : decode cX0_naked 32 = .ok (.iload_n 1, 1) := dk_27 (dk_at dksX0_naked_1 8 rfl rfl)
theorem dX0_naked_33 : decode cX0_naked 33 = .ok (.ireturn, 1) := dk_172 (dk_at dksX0_naked_1 9 rfl rfl)
abbrev cX0_law : ByteArray := prog_1_method_59_code
def yX0_law : MethodName := ⟨RX0, "law", "(I)I"⟩
def dkwX0_law_3 : List UInt8 := [167, 255, 205, 28, 172]
abbrev dktX0_law_3 : List UInt8 := dkwX0_law_3 ++ []
def dkwX0_law_2 : List UInt8 := [42, 180, 0, 28, 180, 0, 198, 29, 46, 182, 0, 225, 27, 163, 0, 6, 132, 2, 1, 132, 3, 1]
abbrev dktX0_law_2 : List UInt8 := dkwX0_law_2 ++ dktX0_law_3
def dkwX0_law_1 : List UInt8 := [162, 0, 49, 42, 180, 0, 28, 180, 0, 198, 29, 46, 155, 0, 31, 42, 180, 0, 19, 42, 180, 0, 28, 29]
abbrev dktX0_law_1 : List UInt8 := dkwX0_law_1 ++ dktX0_law_2
def dkwX0_law_0 : List UInt8 := [27, 3, 17, 3, 231, 184, 0, 145, 154, 0, 5, 2, 172, 3, 61, 3, 62, 29, 42, 182, 0, 143]
abbrev dktX0_law_0 : List UInt8 := dkwX0_law_0 ++ dktX0_law_1
theorem dksX0_law_0 : cX0_law.data.toList.drop 0 = dktX0_law_0 := by decide +kernel
theorem dksX0_law_1 : cX0_law.data.toList.drop 22 = dktX0_law_1 := dk_seg dksX0_law_0 22 rfl rfl
theorem dksX0_law_2 : cX0_law.data.toList.drop 46 = dktX0_law_2 := dk_seg dksX0_law_1 24 rfl rfl
theorem dksX0_law_3 : cX0_law.data.toList.drop 68 = dktX0_law_3 := dk_seg dksX0_law_2 22 rfl rfl
theorem dX0_law_0 : decode cX0_law 0 = .ok (.iload_n 1, 1) := dk_27 (dk_at dksX0_law_0 0 rfl rfl)
theorem dX0_law_1 : decode cX0_law 1 = .ok (.iconst 0, 1) := dk_3 (dk_at dksX0_law_0 1 rfl rfl)
theorem dX0_law_2 : decode cX0_law 2 = .ok (.sipush 999, 3) := dk_17 3 231 (dk_at dksX0_law_0 2 rfl rfl)
theorem dX0_law_5 : decode cX0_law 5 = .ok (.invokestatic 145, 3) := dk_184 0 145 (dk_at dksX0_law_0 5 rfl rfl)
theorem dX0_law_8 : decode cX0_law 8 = .ok (.ifCond .ne 5, 3) := dk_154 0 5 (dk_at dksX0_law_0 8 rfl rfl)
theorem dX0_law_11 : decode cX0_law 11 = .ok (.iconst (-1), 1) := dk_2 (dk_at dksX0_law_0 11 rfl rfl)
theorem dX0_law_12 : decode cX0_law 12 = .ok (.ireturn, 1) := dk_172 (dk_at dksX0_law_0 12 rfl rfl)
theorem dX0_law_13 : decode cX0_law 13 = .ok (.iconst 0, 1) := dk_3 (dk_at dksX0_law_0 13 rfl rfl)
theorem dX0_law_14 : decode cX0_law 14 = .ok (.istore_n 2, 1) := dk_61 (dk_at dksX0_law_0 14 rfl rfl)
theorem dX0_law_15 : decode cX0_law 15 = .ok (.iconst 0, 1) := dk_3 (dk_at dksX0_law_0 15 rfl rfl)
theorem dX0_law_16 : decode cX0_law 16 = .ok (.istore_n 3, 1) := dk_62 (dk_at dksX0_law_0 16 rfl rfl)
theorem dX0_law_17 : decode cX0_law 17 = .ok (.iload_n 3, 1) := dk_29 (dk_at dksX0_law_0 17 rfl rfl)
theorem dX0_law_18 : decode cX0_law 18 = .ok (.aload_n 0, 1) := dk_42 (dk_at dksX0_law_0 18 rfl rfl)
theorem dX0_law_19 : decode cX0_law 19 = .ok (.invokevirtual 143, 3) := dk_182 0 143 (dk_at dksX0_law_0 19 rfl rfl)
theorem dX0_law_22 : decode cX0_law 22 = .ok (.if_icmp .ge 49, 3) := dk_162 0 49 (dk_at dksX0_law_1 0 rfl rfl)
theorem dX0_law_25 : decode cX0_law 25 = .ok (.aload_n 0, 1) := dk_42 (dk_at dksX0_law_1 3 rfl rfl)
theorem dX0_law_26 : decode cX0_law 26 = .ok (.getfield 28, 3) := dk_180 0 28 (dk_at dksX0_law_1 4 rfl rfl)
theorem dX0_law_29 : decode cX0_law 29 = .ok (.getfield 198, 3) := dk_180 0 198 (dk_at dksX0_law_1 7 rfl rfl)
theorem dX0_law_32 : decode cX0_law 32 = .ok (.iload_n 3, 1) := dk_29 (dk_at dksX0_law_1 10 rfl rfl)
theorem dX0_law_33 : decode cX0_law 33 = .ok (.iaload, 1) := dk_46 (dk_at dksX0_law_1 11 rfl rfl)
theorem dX0_law_34 : decode cX0_law 34 = .ok (.ifCond .lt 31, 3) := dk_155 0 31 (dk_at dksX0_law_1 12 rfl rfl)
theorem dX0_law_37 : decode cX0_law 37 = .ok (.aload_n 0, 1) := dk_42 (dk_at dksX0_law_1 15 rfl rfl)
theorem dX0_law_38 : decode cX0_law 38 = .ok (.getfield 19, 3) := dk_180 0 19 (dk_at dksX0_law_1 16 rfl rfl)
theorem dX0_law_41 : decode cX0_law 41 = .ok (.aload_n 0, 1) := dk_42 (dk_at dksX0_law_1 19 rfl rfl)
theorem dX0_law_42 : decode cX0_law 42 = .ok (.getfield 28, 3) := dk_180 0 28 (dk_at dksX0_law_1 20 rfl rfl)
theorem dX0_law_45 : decode cX0_law 45 = .ok (.iload_n 3, 1) := dk_29 (dk_at dksX0_law_1 23 rfl rfl)
theorem dX0_law_46 : decode cX0_law 46 = .ok (.aload_n 0, 1) := dk_42 (dk_at dksX0_law_2 0 rfl rfl)
theorem dX0_law_47 : decode cX0_law 47 = .ok (.getfield 28, 3) := dk_180 0 28 (dk_at dksX0_law_2 1 rfl rfl)
theorem dX0_law_50 : decode cX0_law 50 = .ok (.getfield 198, 3) := dk_180 0 198 (dk_at dksX0_law_2 4 rfl rfl)
theorem dX0_law_53 : decode cX0_law 53 = .ok (.iload_n 3, 1) := dk_29 (dk_at dksX0_law_2 7 rfl rfl)
theorem dX0_law_54 : decode cX0_law 54 = .ok (.iaload, 1) := dk_46 (dk_at dksX0_law_2 8 rfl rfl)
theorem dX0_law_55 : decode cX0_law 55 = .ok (.invokevirtual 225, 3) := dk_182 0 225 (dk_at dksX0_law_2 9 rfl rfl)
theorem dX0_law_58 : decode cX0_law 58 = .ok (.iload_n 1, 1) := dk_27 (dk_at dksX0_law_2 12 rfl rfl)
theorem dX0_law_59 : decode cX0_law 59 = .ok (.if_icmp .gt 6, 3) := dk_163 0 6 (dk_at dksX0_law_2 13 rfl rfl)
theorem dX0_law_62 : decode cX0_law 62 = .ok (.iinc 2 1, 3) := dk_132 2 1 (dk_at dksX0_law_2 16 rfl rfl)
theorem dX0_law_65 : decode cX0_law 65 = .ok (.iinc 3 1, 3) := dk_132 3 1 (dk_at dksX0_law_2 19 rfl rfl)
theorem dX0_law_68 : decode cX0_law 68 = .ok (.goto (-51), 3) := dk_167 255 205 (dk_at dksX0_law_3 0 rfl rfl)
theorem dX0_law_71 : decode cX0_law 71 = .ok (.iload_n 2, 1) := dk_28 (dk_at dksX0_law_3 3 rfl rfl)
theorem dX0_law_72 : decode cX0_law 72 = .ok (.ireturn, 1) := dk_172 (dk_at dksX0_law_3 4 rfl rfl)
abbrev cX0_ease : ByteArray := prog_1_method_60_code
def yX0_ease : MethodName := ⟨RX0, "ease", "()I"⟩
def dkwX0_ease_2 : List UInt8 := [184, 0, 7, 60, 132, 2, 1, 167, 255, 207, 27, 172]
abbrev dktX0_ease_2 : List UInt8 := dkwX0_ease_2 ++ []
def dkwX0_ease_1 : List UInt8 := [27, 42, 180, 0, 19, 42, 180, 0, 28, 28, 42, 180, 0, 28, 180, 0, 198, 28, 46, 182, 0, 225]
abbrev dktX0_ease_1 : List UInt8 := dkwX0_ease_1 ++ dktX0_ease_2
def dkwX0_ease_0 : List UInt8 := [3, 60, 3, 61, 28, 42, 182, 0, 143, 162, 0, 47, 42, 180, 0, 28, 180, 0, 198, 28, 46, 155, 0, 29]
abbrev dktX0_ease_0 : List UInt8 := dkwX0_ease_0 ++ dktX0_ease_1
theorem dksX0_ease_0 : cX0_ease.data.toList.drop 0 = dktX0_ease_0 := by decide +kernel
theorem dksX0_ease_1 : cX0_ease.data.toList.drop 24 = dktX0_ease_1 := dk_seg dksX0_ease_0 24 rfl rfl
theorem dksX0_ease_2 : cX0_ease.data.toList.drop 46 = dktX0_ease_2 := dk_seg dksX0_ease_1 22 rfl rfl
theorem dX0_ease_0 : decode cX0_ease 0 = .ok (.iconst 0, 1) := dk_3 (dk_at dksX0_ease_0 0 rfl rfl)
theorem dX0_ease_1 : decode cX0_ease 1 = .ok (.istore_n 1, 1) := dk_60 (dk_at dksX0_ease_0 1 rfl rfl)
theorem dX0_ease_2 : decode cX0_ease 2 = .ok (.iconst 0, 1) := dk_3 (dk_at dksX0_ease_0 2 rfl rfl)
theorem dX0_ease_3 : decode cX0_ease 3 = .ok (.istore_n 2, 1) := dk_61 (dk_at dksX0_ease_0 3 rfl rfl)
theorem dX0_ease_4 : decode cX0_ease 4 = .ok (.iload_n 2, 1) := dk_28 (dk_at dksX0_ease_0 4 rfl rfl)
theorem dX0_ease_5 : decode cX0_ease 5 = .ok (.aload_n 0, 1) := dk_42 (dk_at dksX0_ease_0 5 rfl rfl)
theorem dX0_ease_6 : decode cX0_ease 6 = .ok (.invokevirtual 143, 3) := dk_182 0 143 (dk_at dksX0_ease_0 6 rfl rfl)
theorem dX0_ease_9 : decode cX0_ease 9 = .ok (.if_icmp .ge 47, 3) := dk_162 0 47 (dk_at dksX0_ease_0 9 rfl rfl)
theorem dX0_ease_12 : decode cX0_ease 12 = .ok (.aload_n 0, 1) := dk_42 (dk_at dksX0_ease_0 12 rfl rfl)
theorem dX0_ease_13 : decode cX0_ease 13 = .ok (.getfield 28, 3) := dk_180 0 28 (dk_at dksX0_ease_0 13 rfl rfl)
theorem dX0_ease_16 : decode cX0_ease 16 = .ok (.getfield 198, 3) := dk_180 0 198 (dk_at dksX0_ease_0 16 rfl rfl)
theorem dX0_ease_19 : decode cX0_ease 19 = .ok (.iload_n 2, 1) := dk_28 (dk_at dksX0_ease_0 19 rfl rfl)
theorem dX0_ease_20 : decode cX0_ease 20 = .ok (.iaload, 1) := dk_46 (dk_at dksX0_ease_0 20 rfl rfl)
theorem dX0_ease_21 : decode cX0_ease 21 = .ok (.ifCond .lt 29, 3) := dk_155 0 29 (dk_at dksX0_ease_0 21 rfl rfl)
theorem dX0_ease_24 : decode cX0_ease 24 = .ok (.iload_n 1, 1) := dk_27 (dk_at dksX0_ease_1 0 rfl rfl)
theorem dX0_ease_25 : decode cX0_ease 25 = .ok (.aload_n 0, 1) := dk_42 (dk_at dksX0_ease_1 1 rfl rfl)
theorem dX0_ease_26 : decode cX0_ease 26 = .ok (.getfield 19, 3) := dk_180 0 19 (dk_at dksX0_ease_1 2 rfl rfl)
theorem dX0_ease_29 : decode cX0_ease 29 = .ok (.aload_n 0, 1) := dk_42 (dk_at dksX0_ease_1 5 rfl rfl)
theorem dX0_ease_30 : decode cX0_ease 30 = .ok (.getfield 28, 3) := dk_180 0 28 (dk_at dksX0_ease_1 6 rfl rfl)
theorem dX0_ease_33 : decode cX0_ease 33 = .ok (.iload_n 2, 1) := dk_28 (dk_at dksX0_ease_1 9 rfl rfl)
theorem dX0_ease_34 : decode cX0_ease 34 = .ok (.aload_n 0, 1) := dk_42 (dk_at dksX0_ease_1 10 rfl rfl)
theorem dX0_ease_35 : decode cX0_ease 35 = .ok (.getfield 28, 3) := dk_180 0 28 (dk_at dksX0_ease_1 11 rfl rfl)
theorem dX0_ease_38 : decode cX0_ease 38 = .ok (.getfield 198, 3) := dk_180 0 198 (dk_at dksX0_ease_1 14 rfl rfl)
theorem dX0_ease_41 : decode cX0_ease 41 = .ok (.iload_n 2, 1) := dk_28 (dk_at dksX0_ease_1 17 rfl rfl)
theorem dX0_ease_42 : decode cX0_ease 42 = .ok (.iaload, 1) := dk_46 (dk_at dksX0_ease_1 18 rfl rfl)
theorem dX0_ease_43 : decode cX0_ease 43 = .ok (.invokevirtual 225, 3) := dk_182 0 225 (dk_at dksX0_ease_1 19 rfl rfl)
theorem dX0_ease_46 : decode cX0_ease 46 = .ok (.invokestatic 7, 3) := dk_184 0 7 (dk_at dksX0_ease_2 0 rfl rfl)
theorem dX0_ease_49 : decode cX0_ease 49 = .ok (.istore_n 1, 1) := dk_60 (dk_at dksX0_ease_2 3 rfl rfl)
theorem dX0_ease_50 : decode cX0_ease 50 = .ok (.iinc 2 1, 3) := dk_132 2 1 (dk_at dksX0_ease_2 4 rfl rfl)
theorem dX0_ease_53 : decode cX0_ease 53 = .ok (.goto (-49), 3) := dk_167 255 207 (dk_at dksX0_ease_2 7 rfl rfl)
theorem dX0_ease_56 : decode cX0_ease 56 = .ok (.iload_n 1, 1) := dk_27 (dk_at dksX0_ease_2 10 rfl rfl)
theorem dX0_ease_57 : decode cX0_ease 57 = .ok (.ireturn, 1) := dk_172 (dk_at dksX0_ease_2 11 rfl rfl)
abbrev cX0_odds : ByteArray := prog_1_method_62_code
def yX0_odds : MethodName := ⟨RX0, "odds", "(II)I"⟩
def dkwX0_odds_3 : List UInt8 := [21, 4, 29, 184, 1, 78, 108, 172]
abbrev dktX0_odds_3 : List UInt8 := dkwX0_odds_3 ++ []
def dkwX0_odds_2 : List UInt8 := [21, 4, 16, 100, 104, 54, 4, 132, 5, 1, 167, 255, 227, 28, 154, 0, 7, 29, 167, 0, 5, 21, 4]
abbrev dktX0_odds_2 : List UInt8 := dkwX0_odds_2 ++ dktX0_odds_3
def dkwX0_odds_1 : List UInt8 := [54, 4, 3, 54, 5, 21, 5, 27, 162, 0, 29, 29, 16, 100, 42, 180, 0, 19, 180, 1, 81, 100, 104, 62]
abbrev dktX0_odds_1 : List UInt8 := dkwX0_odds_1 ++ dktX0_odds_2
def dkwX0_odds_0 : List UInt8 := [27, 3, 7, 184, 0, 145, 153, 0, 12, 28, 3, 4, 184, 0, 145, 154, 0, 5, 2, 172, 4, 62, 4]
abbrev dktX0_odds_0 : List UInt8 := dkwX0_odds_0 ++ dktX0_odds_1
theorem dksX0_odds_0 : cX0_odds.data.toList.drop 0 = dktX0_odds_0 := by decide +kernel
theorem dksX0_odds_1 : cX0_odds.data.toList.drop 23 = dktX0_odds_1 := dk_seg dksX0_odds_0 23 rfl rfl
theorem dksX0_odds_2 : cX0_odds.data.toList.drop 47 = dktX0_odds_2 := dk_seg dksX0_odds_1 24 rfl rfl
theorem dksX0_odds_3 : cX0_odds.data.toList.drop 70 = dktX0_odds_3 := dk_seg dksX0_odds_2 23 rfl rfl
theorem dX0_odds_0 : decode cX0_odds 0 = .ok (.iload_n 1, 1) := dk_27 (dk_at dksX0_odds_0 0 rfl rfl)
theorem dX0_odds_1 : decode cX0_odds 1 = .ok (.iconst 0, 1) := dk_3 (dk_at dksX0_odds_0 1 rfl rfl)
theorem dX0_odds_2 : decode cX0_odds 2 = .ok (.iconst 4, 1) := dk_7 (dk_at dksX0_odds_0 2 rfl rfl)
theorem dX0_odds_3 : decode cX0_odds 3 = .ok (.invokestatic 145, 3) := dk_184 0 145 (dk_at dksX0_odds_0 3 rfl rfl)
theorem dX0_odds_6 : decode cX0_odds 6 = .ok (.ifCond .eq 12, 3) := dk_153 0 12 (dk_at dksX0_odds_0 6 rfl rfl)
theorem dX0_odds_9 : decode cX0_odds 9 = .ok (.iload_n 2, 1) := dk_28 (dk_at dksX0_odds_0 9 rfl rfl)
theorem dX0_odds_10 : decode cX0_odds 10 = .ok (.iconst 0, 1) := dk_3 (dk_at dksX0_odds_0 10 rfl rfl)
theorem dX0_odds_11 : decode cX0_odds 11 = .ok (.iconst 1, 1) := dk_4 (dk_at dksX0_odds_0 11 rfl rfl)
theorem dX0_odds_12 : decode cX0_odds 12 = .ok (.invokestatic 145, 3) := dk_184 0 145 (dk_at dksX0_odds_0 12 rfl rfl)
theorem dX0_odds_15 : decode cX0_odds 15 = .ok (.ifCond .ne 5, 3) := dk_154 0 5 (dk_at dksX0_odds_0 15 rfl rfl)
theorem dX0_odds_18 : decode cX0_odds 18 = .ok (.iconst (-1), 1) := dk_2 (dk_at dksX0_odds_0 18 rfl rfl)
theorem dX0_odds_19 : decode cX0_odds 19 = .ok (.ireturn, 1) := dk_172 (dk_at dksX0_odds_0 19 rfl rfl)
theorem dX0_odds_20 : decode cX0_odds 20 = .ok (.iconst 1, 1) := dk_4 (dk_at dksX0_odds_0 20 rfl rfl)
theorem dX0_odds_21 : decode cX0_odds 21 = .ok (.istore_n 3, 1) := dk_62 (dk_at dksX0_odds_0 21 rfl rfl)
theorem dX0_odds_22 : decode cX0_odds 22 = .ok (.iconst 1, 1) := dk_4 (dk_at dksX0_odds_0 22 rfl rfl)
theorem dX0_odds_23 : decode cX0_odds 23 = .ok (.istore 4, 2) := dk_54 4 (dk_at dksX0_odds_1 0 rfl rfl)
theorem dX0_odds_25 : decode cX0_odds 25 = .ok (.iconst 0, 1) := dk_3 (dk_at dksX0_odds_1 2 rfl rfl)
theorem dX0_odds_26 : decode cX0_odds 26 = .ok (.istore 5, 2) := dk_54 5 (dk_at dksX0_odds_1 3 rfl rfl)
theorem dX0_odds_28 : decode cX0_odds 28 = .ok (.iload 5, 2) := dk_21 5 (dk_at dksX0_odds_1 5 rfl rfl)
theorem dX0_odds_30 : decode cX0_odds 30 = .ok (.iload_n 1, 1) := dk_27 (dk_at dksX0_odds_1 7 rfl rfl)
theorem dX0_odds_31 : decode cX0_odds 31 = .ok (.if_icmp .ge 29, 3) := dk_162 0 29 (dk_at dksX0_odds_1 8 rfl rfl)
theorem dX0_odds_34 : decode cX0_odds 34 = .ok (.iload_n 3, 1) := dk_29 (dk_at dksX0_odds_1 11 rfl rfl)
theorem dX0_odds_35 : decode cX0_odds 35 = .ok (.bipush 100, 2) := dk_16 100 (dk_at dksX0_odds_1 12 rfl rfl)
theorem dX0_odds_37 : decode cX0_odds 37 = .ok (.aload_n 0, 1) := dk_42 (dk_at dksX0_odds_1 14 rfl rfl)
theorem dX0_odds_38 : decode cX0_odds 38 = .ok (.getfield 19, 3) := dk_180 0 19 (dk_at dksX0_odds_1 15 rfl rfl)
theorem dX0_odds_41 : decode cX0_odds 41 = .ok (.getfield 337, 3) := dk_180 1 81 (dk_at dksX0_odds_1 18 rfl rfl)
theorem dX0_odds_44 : decode cX0_odds 44 = .ok (.isub, 1) := dk_100 (dk_at dksX0_odds_1 21 rfl rfl)
theorem dX0_odds_45 : decode cX0_odds 45 = .ok (.imul, 1) := dk_104 (dk_at dksX0_odds_1 22 rfl rfl)
theorem dX0_odds_46 : decode cX0_odds 46 = .ok (.istore_n 3, 1) := dk_62 (dk_at dksX0_odds_1 23 rfl rfl)
theorem dX0_odds_47 : decode cX0_odds 47 = .ok (.iload 4, 2) := dk_21 4 (dk_at dksX0_odds_2 0 rfl rfl)
theorem dX0_odds_49 : decode cX0_odds 49 = .ok (.bipush 100, 2) := dk_16 100 (dk_at dksX0_odds_2 2 rfl rfl)
theorem dX0_odds_51 : decode cX0_odds 51 = .ok (.imul, 1) := dk_104 (dk_at dksX0_odds_2 4 rfl rfl)
theorem dX0_odds_52 : decode cX0_odds 52 = .ok (.istore 4, 2) := dk_54 4 (dk_at dksX0_odds_2 5 rfl rfl)
theorem dX0_odds_54 : decode cX0_odds 54 = .ok (.iinc 5 1, 3) := dk_132 5 1 (dk_at dksX0_odds_2 7 rfl rfl)
theorem dX0_odds_57 : decode cX0_odds 57 = .ok (.goto (-29), 3) := dk_167 255 227 (dk_at dksX0_odds_2 10 rfl rfl)
theorem dX0_odds_60 : decode cX0_odds 60 = .ok (.iload_n 2, 1) := dk_28 (dk_at dksX0_odds_2 13 rfl rfl)
theorem dX0_odds_61 : decode cX0_odds 61 = .ok (.ifCond .ne 7, 3) := dk_154 0 7 (dk_at dksX0_odds_2 14 rfl rfl)
theorem dX0_odds_64 : decode cX0_odds 64 = .ok (.iload_n 3, 1) := dk_29 (dk_at dksX0_odds_2 17 rfl rfl)
theorem dX0_odds_65 : decode cX0_odds 65 = .ok (.goto 5, 3) := dk_167 0 5 (dk_at dksX0_odds_2 18 rfl rfl)
theorem dX0_odds_68 : decode cX0_odds 68 = .ok (.iload 4, 2) := dk_21 4 (dk_at dksX0_odds_2 21 rfl rfl)
theorem dX0_odds_70 : decode cX0_odds 70 = .ok (.iload 4, 2) := dk_21 4 (dk_at dksX0_odds_3 0 rfl rfl)
theorem dX0_odds_72 : decode cX0_odds 72 = .ok (.iload_n 3, 1) := dk_29 (dk_at dksX0_odds_3 2 rfl rfl)
theorem dX0_odds_73 : decode cX0_odds 73 = .ok (.invokestatic 334, 3) := dk_184 1 78 (dk_at dksX0_odds_3 3 rfl rfl)
theorem dX0_odds_76 : decode cX0_odds 76 = .ok (.idiv, 1) := dk_108 (dk_at dksX0_odds_3 6 rfl rfl)
theorem dX0_odds_77 : decode cX0_odds 77 = .ok (.ireturn, 1) := dk_172 (dk_at dksX0_odds_3 7 rfl rfl)
abbrev cX0_common : ByteArray := prog_1_method_61_code
def yX0_common : MethodName := ⟨RX0, "common", "(II)I"⟩
def dkwX0_common_0 : List UInt8 := [27, 154, 0, 7, 26, 167, 0, 10, 27, 26, 27, 112, 184, 1, 78, 172]
abbrev dktX0_common_0 : List UInt8 := dkwX0_common_0 ++ []
theorem dksX0_common_0 : cX0_common.data.toList.drop 0 = dktX0_common_0 := by decide +kernel
theorem dX0_common_0 : decode cX0_common 0 = .ok (.iload_n 1, 1) := dk_27 (dk_at dksX0_common_0 0 rfl rfl)
theorem dX0_common_1 : decode cX0_common 1 = .ok (.ifCond .ne 7, 3) := dk_154 0 7 (dk_at dksX0_common_0 1 rfl rfl)
theorem dX0_common_4 : decode cX0_common 4 = .ok (.iload_n 0, 1) := dk_26 (dk_at dksX0_common_0 4 rfl rfl)
theorem dX0_common_5 : decode cX0_common 5 = .ok (.goto 10, 3) := dk_167 0 10 (dk_at dksX0_common_0 5 rfl rfl)
theorem dX0_common_8 : decode cX0_common 8 = .ok (.iload_n 1, 1) := dk_27 (dk_at dksX0_common_0 8 rfl rfl)
theorem dX0_common_9 : decode cX0_common 9 = .ok (.iload_n 0, 1) := dk_26 (dk_at dksX0_common_0 9 rfl rfl)
theorem dX0_common_10 : decode cX0_common 10 = .ok (.iload_n 1, 1) := dk_27 (dk_at dksX0_common_0 10 rfl rfl)
theorem dX0_common_11 : decode cX0_common 11 = .ok (.irem, 1) := dk_112 (dk_at dksX0_common_0 11 rfl rfl)
theorem dX0_common_12 : decode cX0_common 12 = .ok (.invokestatic 334, 3) := dk_184 1 78 (dk_at dksX0_common_0 12 rfl rfl)
theorem dX0_common_15 : decode cX0_common 15 = .ok (.ireturn, 1) := dk_172 (dk_at dksX0_common_0 15 rfl rfl)
abbrev cX0_seen : ByteArray := prog_1_method_63_code
def yX0_seen : MethodName := ⟨RX0, "seen", "(IZ)I"⟩
def dkwX0_seen_2 : List UInt8 := [42, 180, 1, 86, 183, 1, 89, 182, 0, 133, 87, 42, 180, 0, 86, 182, 0, 121, 4, 100, 172]
abbrev dktX0_seen_2 : List UInt8 := dkwX0_seen_2 ++ []
def dkwX0_seen_1 : List UInt8 := [42, 180, 0, 86, 182, 0, 121, 16, 30, 160, 0, 5, 2, 172, 42, 180, 0, 86, 187, 1, 84, 89, 27, 28]
abbrev dktX0_seen_1 : List UInt8 := dkwX0_seen_1 ++ dktX0_seen_2
def dkwX0_seen_0 : List UInt8 := [27, 3, 16, 20, 184, 0, 145, 153, 0, 29, 42, 182, 0, 143, 153, 0, 22, 42, 182, 0, 149, 153, 0, 15]
abbrev dktX0_seen_0 : List UInt8 := dkwX0_seen_0 ++ dktX0_seen_1
theorem dksX0_seen_0 : cX0_seen.data.toList.drop 0 = dktX0_seen_0 := by decide +kernel
theorem dksX0_seen_1 : cX0_seen.data.toList.drop 24 = dktX0_seen_1 := dk_seg dksX0_seen_0 24 rfl rfl
theorem dksX0_seen_2 : cX0_seen.data.toList.drop 48 = dktX0_seen_2 := dk_seg dksX0_seen_1 24 rfl rfl
theorem dX0_seen_0 : decode cX0_seen 0 = .ok (.iload_n 1, 1) := dk_27 (dk_at dksX0_seen_0 0 rfl rfl)
theorem dX0_seen_1 : decode cX0_seen 1 = .ok (.iconst 0, 1) := dk_3 (dk_at dksX0_seen_0 1 rfl rfl)
theorem dX0_seen_2 : decode cX0_seen 2 = .ok (.bipush 20, 2) := dk_16 20 (dk_at dksX0_seen_0 2 rfl rfl)
theorem dX0_seen_4 : decode cX0_seen 4 = .ok (.invokestatic 145, 3) := dk_184 0 145 (dk_at dksX0_seen_0 4 rfl rfl)
theorem dX0_seen_7 : decode cX0_seen 7 = .ok (.ifCond .eq 29, 3) := dk_153 0 29 (dk_at dksX0_seen_0 7 rfl rfl)
theorem dX0_seen_10 : decode cX0_seen 10 = .ok (.aload_n 0, 1) := dk_42 (dk_at dksX0_seen_0 10 rfl rfl)
theorem dX0_seen_11 : decode cX0_seen 11 = .ok (.invokevirtual 143, 3) := dk_182 0 143 (dk_at dksX0_seen_0 11 rfl rfl)
theorem dX0_seen_14 : decode cX0_seen 14 = .ok (.ifCond .eq 22, 3) := dk_153 0 22 (dk_at dksX0_seen_0 14 rfl rfl)
theorem dX0_seen_17 : decode cX0_seen 17 = .ok (.aload_n 0, 1) := dk_42 (dk_at dksX0_seen_0 17 rfl rfl)
theorem dX0_seen_18 : decode cX0_seen 18 = .ok (.invokevirtual 149, 3) := dk_182 0 149 (dk_at dksX0_seen_0 18 rfl rfl)
theorem dX0_seen_21 : decode cX0_seen 21 = .ok (.ifCond .eq 15, 3) := dk_153 0 15 (dk_at dksX0_seen_0 21 rfl rfl)
theorem dX0_seen_24 : decode cX0_seen 24 = .ok (.aload_n 0, 1) := dk_42 (dk_at dksX0_seen_1 0 rfl rfl)
theorem dX0_seen_25 : decode cX0_seen 25 = .ok (.getfield 86, 3) := dk_180 0 86 (dk_at dksX0_seen_1 1 rfl rfl)
theorem dX0_seen_28 : decode cX0_seen 28 = .ok (.invokevirtual 121, 3) := dk_182 0 121 (dk_at dksX0_seen_1 4 rfl rfl)
theorem dX0_seen_31 : decode cX0_seen 31 = .ok (.bipush 30, 2) := dk_16 30 (dk_at dksX0_seen_1 7 rfl rfl)
theorem dX0_seen_33 : decode cX0_seen 33 = .ok (.if_icmp .ne 5, 3) := dk_160 0 5 (dk_at dksX0_seen_1 9 rfl rfl)
theorem dX0_seen_36 : decode cX0_seen 36 = .ok (.iconst (-1), 1) := dk_2 (dk_at dksX0_seen_1 12 rfl rfl)
theorem dX0_seen_37 : decode cX0_seen 37 = .ok (.ireturn, 1) := dk_172 (dk_at dksX0_seen_1 13 rfl rfl)
theorem dX0_seen_38 : decode cX0_seen 38 = .ok (.aload_n 0, 1) := dk_42 (dk_at dksX0_seen_1 14 rfl rfl)
theorem dX0_seen_39 : decode cX0_seen 39 = .ok (.getfield 86, 3) := dk_180 0 86 (dk_at dksX0_seen_1 15 rfl rfl)
theorem dX0_seen_42 : decode cX0_seen 42 = .ok (.new 340, 3) := dk_187 1 84 (dk_at dksX0_seen_1 18 rfl rfl)
theorem dX0_seen_45 : decode cX0_seen 45 = .ok (.dup, 1) := dk_89 (dk_at dksX0_seen_1 21 rfl rfl)
theorem dX0_seen_46 : decode cX0_seen 46 = .ok (.iload_n 1, 1) := dk_27 (dk_at dksX0_seen_1 22 rfl rfl)
theorem dX0_seen_47 : decode cX0_seen 47 = .ok (.iload_n 2, 1) := dk_28 (dk_at dksX0_seen_1 23 rfl rfl)
theorem dX0_seen_48 : decode cX0_seen 48 = .ok (.aload_n 0, 1) := dk_42 (dk_at dksX0_seen_2 0 rfl rfl)
theorem dX0_seen_49 : decode cX0_seen 49 = .ok (.getfield 342, 3) := dk_180 1 86 (dk_at dksX0_seen_2 1 rfl rfl)
theorem dX0_seen_52 : decode cX0_seen 52 = .ok (.invokespecial 345, 3) := dk_183 1 89 (dk_at dksX0_seen_2 4 rfl rfl)
theorem dX0_seen_55 : decode cX0_seen 55 = .ok (.invokevirtual 133, 3) := dk_182 0 133 (dk_at dksX0_seen_2 7 rfl rfl)
theorem dX0_seen_58 : decode cX0_seen 58 = .ok (.pop, 1) := dk_87 (dk_at dksX0_seen_2 10 rfl rfl)
theorem dX0_seen_59 : decode cX0_seen 59 = .ok (.aload_n 0, 1) := dk_42 (dk_at dksX0_seen_2 11 rfl rfl)
theorem dX0_seen_60 : decode cX0_seen 60 = .ok (.getfield 86, 3) := dk_180 0 86 (dk_at dksX0_seen_2 12 rfl rfl)
theorem dX0_seen_63 : decode cX0_seen 63 = .ok (.invokevirtual 121, 3) := dk_182 0 121 (dk_at dksX0_seen_2 15 rfl rfl)
theorem dX0_seen_66 : decode cX0_seen 66 = .ok (.iconst 1, 1) := dk_4 (dk_at dksX0_seen_2 18 rfl rfl)
theorem dX0_seen_67 : decode cX0_seen 67 = .ok (.isub, 1) := dk_100 (dk_at dksX0_seen_2 19 rfl rfl)
theorem dX0_seen_68 : decode cX0_seen 68 = .ok (.ireturn, 1) := dk_172 (dk_at dksX0_seen_2 20 rfl rfl)
abbrev cX0_untell : ByteArray := prog_1_method_64_code
def yX0_untell : MethodName := ⟨RX0, "untell", "(I)Z"⟩
def dkwX0_untell_2 : List UInt8 := [192, 1, 84, 42, 180, 1, 86, 181, 1, 92, 4, 172]
abbrev dktX0_untell_2 : List UInt8 := dkwX0_untell_2 ++ []
def dkwX0_untell_1 : List UInt8 := [182, 0, 184, 192, 1, 84, 180, 1, 92, 155, 0, 5, 3, 172, 42, 180, 0, 86, 27, 182, 0, 184]
abbrev dktX0_untell_1 : List UInt8 := dkwX0_untell_1 ++ dktX0_untell_2
def dkwX0_untell_0 : List UInt8 := [27, 3, 42, 180, 0, 86, 182, 0, 121, 4, 100, 184, 0, 145, 153, 0, 20, 42, 180, 0, 86, 27]
abbrev dktX0_untell_0 : List UInt8 := dkwX0_untell_0 ++ dktX0_untell_1
theorem dksX0_untell_0 : cX0_untell.data.toList.drop 0 = dktX0_untell_0 := by decide +kernel
theorem dksX0_untell_1 : cX0_untell.data.toList.drop 22 = dktX0_untell_1 := dk_seg dksX0_untell_0 22 rfl rfl
theorem dksX0_untell_2 : cX0_untell.data.toList.drop 44 = dktX0_untell_2 := dk_seg dksX0_untell_1 22 rfl rfl
theorem dX0_untell_0 : decode cX0_untell 0 = .ok (.iload_n 1, 1) := dk_27 (dk_at dksX0_untell_0 0 rfl rfl)
theorem dX0_untell_1 : decode cX0_untell 1 = .ok (.iconst 0, 1) := dk_3 (dk_at dksX0_untell_0 1 rfl rfl)
theorem dX0_untell_2 : decode cX0_untell 2 = .ok (.aload_n 0, 1) := dk_42 (dk_at dksX0_untell_0 2 rfl rfl)
theorem dX0_untell_3 : decode cX0_untell 3 = .ok (.getfield 86, 3) := dk_180 0 86 (dk_at dksX0_untell_0 3 rfl rfl)
theorem dX0_untell_6 : decode cX0_untell 6 = .ok (.invokevirtual 121, 3) := dk_182 0 121 (dk_at dksX0_untell_0 6 rfl rfl)
theorem dX0_untell_9 : decode cX0_untell 9 = .ok (.iconst 1, 1) := dk_4 (dk_at dksX0_untell_0 9 rfl rfl)
theorem dX0_untell_10 : decode cX0_untell 10 = .ok (.isub, 1) := dk_100 (dk_at dksX0_untell_0 10 rfl rfl)
theorem dX0_untell_11 : decode cX0_untell 11 = .ok (.invokestatic 145, 3) := dk_184 0 145 (dk_at dksX0_untell_0 11 rfl rfl)
theorem dX0_untell_14 : decode cX0_untell 14 = .ok (.ifCond .eq 20, 3) := dk_153 0 20 (dk_at dksX0_untell_0 14 rfl rfl)
theorem dX0_untell_17 : decode cX0_untell 17 = .ok (.aload_n 0, 1) := dk_42 (dk_at dksX0_untell_0 17 rfl rfl)
theorem dX0_untell_18 : decode cX0_untell 18 = .ok (.getfield 86, 3) := dk_180 0 86 (dk_at dksX0_untell_0 18 rfl rfl)
theorem dX0_untell_21 : decode cX0_untell 21 = .ok (.iload_n 1, 1) := dk_27 (dk_at dksX0_untell_0 21 rfl rfl)
theorem dX0_untell_22 : decode cX0_untell 22 = .ok (.invokevirtual 184, 3) := dk_182 0 184 (dk_at dksX0_untell_1 0 rfl rfl)
theorem dX0_untell_25 : decode cX0_untell 25 = .ok (.checkcast 340, 3) := dk_192 1 84 (dk_at dksX0_untell_1 3 rfl rfl)
theorem dX0_untell_28 : decode cX0_untell 28 = .ok (.getfield 348, 3) := dk_180 1 92 (dk_at dksX0_untell_1 6 rfl rfl)
theorem dX0_untell_31 : decode cX0_untell 31 = .ok (.ifCond .lt 5, 3) := dk_155 0 5 (dk_at dksX0_untell_1 9 rfl rfl)
theorem dX0_untell_34 : decode cX0_untell 34 = .ok (.iconst 0, 1) := dk_3 (dk_at dksX0_untell_1 12 rfl rfl)
theorem dX0_untell_35 : decode cX0_untell 35 = .ok (.ireturn, 1) := dk_172 (dk_at dksX0_untell_1 13 rfl rfl)
theorem dX0_untell_36 : decode cX0_untell 36 = .ok (.aload_n 0, 1) := dk_42 (dk_at dksX0_untell_1 14 rfl rfl)
theorem dX0_untell_37 : decode cX0_untell 37 = .ok (.getfield 86, 3) := dk_180 0 86 (dk_at dksX0_untell_1 15 rfl rfl)
theorem dX0_untell_40 : decode cX0_untell 40 = .ok (.iload_n 1, 1) := dk_27 (dk_at dksX0_untell_1 18 rfl rfl)
theorem dX0_untell_41 : decode cX0_untell 41 = .ok (.invokevirtual 184, 3) := dk_182 0 184 (dk_at dksX0_untell_1 19 rfl rfl)
theorem dX0_untell_44 : decode cX0_untell 44 = .ok (.checkcast 340, 3) := dk_192 1 84 (dk_at dksX0_untell_2 0 rfl rfl)
theorem dX0_untell_47 : decode cX0_untell 47 = .ok (.aload_n 0, 1) := dk_42 (dk_at dksX0_untell_2 3 rfl rfl)
theorem dX0_untell_48 : decode cX0_untell 48 = .ok (.getfield 342, 3) := dk_180 1 86 (dk_at dksX0_untell_2 4 rfl rfl)
theorem dX0_untell_51 : decode cX0_untell 51 = .ok (.putfield 348, 3) := dk_181 1 92 (dk_at dksX0_untell_2 7 rfl rfl)
theorem dX0_untell_54 : decode cX0_untell 54 = .ok (.iconst 1, 1) := dk_4 (dk_at dksX0_untell_2 10 rfl rfl)
theorem dX0_untell_55 : decode cX0_untell 55 = .ok (.ireturn, 1) := dk_172 (dk_at dksX0_untell_2 11 rfl rfl)
abbrev cX0_later : ByteArray := prog_1_method_65_code
def yX0_later : MethodName := ⟨RX0, "later", "(I)I"⟩
def dkwX0_later_1 : List UInt8 := [172, 42, 89, 180, 1, 86, 27, 96, 181, 1, 86, 42, 180, 1, 86, 172]
abbrev dktX0_later_1 : List UInt8 := dkwX0_later_1 ++ []
def dkwX0_later_0 : List UInt8 := [27, 155, 0, 22, 27, 17, 3, 232, 163, 0, 15, 42, 180, 1, 86, 27, 96, 19, 1, 95, 164, 0, 5, 2]
abbrev dktX0_later_0 : List UInt8 := dkwX0_later_0 ++ dktX0_later_1
theorem dksX0_later_0 : cX0_later.data.toList.drop 0 = dktX0_later_0 := by decide +kernel
theorem dksX0_later_1 : cX0_later.data.toList.drop 24 = dktX0_later_1 := dk_seg dksX0_later_0 24 rfl rfl
theorem dX0_later_0 : decode cX0_later 0 = .ok (.iload_n 1, 1) := dk_27 (dk_at dksX0_later_0 0 rfl rfl)
theorem dX0_later_1 : decode cX0_later 1 = .ok (.ifCond .lt 22, 3) := dk_155 0 22 (dk_at dksX0_later_0 1 rfl rfl)
theorem dX0_later_4 : decode cX0_later 4 = .ok (.iload_n 1, 1) := dk_27 (dk_at dksX0_later_0 4 rfl rfl)
theorem dX0_later_5 : decode cX0_later 5 = .ok (.sipush 1000, 3) := dk_17 3 232 (dk_at dksX0_later_0 5 rfl rfl)
theorem dX0_later_8 : decode cX0_later 8 = .ok (.if_icmp .gt 15, 3) := dk_163 0 15 (dk_at dksX0_later_0 8 rfl rfl)
theorem dX0_later_11 : decode cX0_later 11 = .ok (.aload_n 0, 1) := dk_42 (dk_at dksX0_later_0 11 rfl rfl)
theorem dX0_later_12 : decode cX0_later 12 = .ok (.getfield 342, 3) := dk_180 1 86 (dk_at dksX0_later_0 12 rfl rfl)
theorem dX0_later_15 : decode cX0_later 15 = .ok (.iload_n 1, 1) := dk_27 (dk_at dksX0_later_0 15 rfl rfl)
theorem dX0_later_16 : decode cX0_later 16 = .ok (.iadd, 1) := dk_96 (dk_at dksX0_later_0 16 rfl rfl)
theorem dX0_later_17 : decode cX0_later 17 = .ok (.ldc_w 351, 3) := dk_19 1 95 (dk_at dksX0_later_0 17 rfl rfl)
theorem dX0_later_20 : decode cX0_later 20 = .ok (.if_icmp .le 5, 3) := dk_164 0 5 (dk_at dksX0_later_0 20 rfl rfl)
theorem dX0_later_23 : decode cX0_later 23 = .ok (.iconst (-1), 1) := dk_2 (dk_at dksX0_later_0 23 rfl rfl)
theorem dX0_later_24 : decode cX0_later 24 = .ok (.ireturn, 1) := dk_172 (dk_at dksX0_later_1 0 rfl rfl)
theorem dX0_later_25 : decode cX0_later 25 = .ok (.aload_n 0, 1) := dk_42 (dk_at dksX0_later_1 1 rfl rfl)
theorem dX0_later_26 : decode cX0_later 26 = .ok (.dup, 1) := dk_89 (dk_at dksX0_later_1 2 rfl rfl)
theorem dX0_later_27 : decode cX0_later 27 = .ok (.getfield 342, 3) := dk_180 1 86 (dk_at dksX0_later_1 3 rfl rfl)
theorem dX0_later_30 : decode cX0_later 30 = .ok (.iload_n 1, 1) := dk_27 (dk_at dksX0_later_1 6 rfl rfl)
theorem dX0_later_31 : decode cX0_later 31 = .ok (.iadd, 1) := dk_96 (dk_at dksX0_later_1 7 rfl rfl)
theorem dX0_later_32 : decode cX0_later 32 = .ok (.putfield 342, 3) := dk_181 1 86 (dk_at dksX0_later_1 8 rfl rfl)
theorem dX0_later_35 : decode cX0_later 35 = .ok (.aload_n 0, 1) := dk_42 (dk_at dksX0_later_1 11 rfl rfl)
theorem dX0_later_36 : decode cX0_later 36 = .ok (.getfield 342, 3) := dk_180 1 86 (dk_at dksX0_later_1 12 rfl rfl)
theorem dX0_later_39 : decode cX0_later 39 = .ok (.ireturn, 1) := dk_172 (dk_at dksX0_later_1 15 rfl rfl)
abbrev cX0_growths : ByteArray := prog_1_method_68_code
def yX0_growths : MethodName := ⟨RX0, "growths", "(I)I"⟩
def dkwX0_growths_2 : List UInt8 := [132, 3, 1, 167, 255, 230, 28, 172]
abbrev dktX0_growths_2 : List UInt8 := dkwX0_growths_2 ++ []
def dkwX0_growths_1 : List UInt8 := [29, 16, 30, 163, 0, 26, 28, 42, 29, 27, 182, 1, 122, 153, 0, 7, 4, 167, 0, 4, 3, 96, 61]
abbrev dktX0_growths_1 : List UInt8 := dkwX0_growths_1 ++ dktX0_growths_2
def dkwX0_growths_0 : List UInt8 := [42, 182, 0, 143, 153, 0, 10, 42, 182, 0, 149, 154, 0, 5, 3, 172, 42, 182, 1, 119, 3, 61, 3, 62]
abbrev dktX0_growths_0 : List UInt8 := dkwX0_growths_0 ++ dktX0_growths_1
theorem dksX0_growths_0 : cX0_growths.data.toList.drop 0 = dktX0_growths_0 := by decide +kernel
theorem dksX0_growths_1 : cX0_growths.data.toList.drop 24 = dktX0_growths_1 := dk_seg dksX0_growths_0 24 rfl rfl
theorem dksX0_growths_2 : cX0_growths.data.toList.drop 47 = dktX0_growths_2 := dk_seg dksX0_growths_1 23 rfl rfl
theorem dX0_growths_0 : decode cX0_growths 0 = .ok (.aload_n 0, 1) := dk_42 (dk_at dksX0_growths_0 0 rfl rfl)
theorem dX0_growths_1 : decode cX0_growths 1 = .ok (.invokevirtual 143, 3) := dk_182 0 143 (dk_at dksX0_growths_0 1 rfl rfl)
theorem dX0_growths_4 : decode cX0_growths 4 = .ok (.ifCond .eq 10, 3) := dk_153 0 10 (dk_at dksX0_growths_0 4 rfl rfl)
theorem dX0_growths_7 : decode cX0_growths 7 = .ok (.aload_n 0, 1) := dk_42 (dk_at dksX0_growths_0 7 rfl rfl)
theorem dX0_growths_8 : decode cX0_growths 8 = .ok (.invokevirtual 149, 3) := dk_182 0 149 (dk_at dksX0_growths_0 8 rfl rfl)
theorem dX0_growths_11 : decode cX0_growths 11 = .ok (.ifCond .ne 5, 3) := dk_154 0 5 (dk_at dksX0_growths_0 11 rfl rfl)
theorem dX0_growths_14 : decode cX0_growths 14 = .ok (.iconst 0, 1) := dk_3 (dk_at dksX0_growths_0 14 rfl rfl)
theorem dX0_growths_15 : decode cX0_growths 15 = .ok (.ireturn, 1) := dk_172 (dk_at dksX0_growths_0 15 rfl rfl)
theorem dX0_growths_16 : decode cX0_growths 16 = .ok (.aload_n 0, 1) := dk_42 (dk_at dksX0_growths_0 16 rfl rfl)
theorem dX0_growths_17 : decode cX0_growths 17 = .ok (.invokevirtual 375, 3) := dk_182 1 119 (dk_at dksX0_growths_0 17 rfl rfl)
theorem dX0_growths_20 : decode cX0_growths 20 = .ok (.iconst 0, 1) := dk_3 (dk_at dksX0_growths_0 20 rfl rfl)
theorem dX0_growths_21 : decode cX0_growths 21 = .ok (.istore_n 2, 1) := dk_61 (dk_at dksX0_growths_0 21 rfl rfl)
theorem dX0_growths_22 : decode cX0_growths 22 = .ok (.iconst 0, 1) := dk_3 (dk_at dksX0_growths_0 22 rfl rfl)
theorem dX0_growths_23 : decode cX0_growths 23 = .ok (.istore_n 3, 1) := dk_62 (dk_at dksX0_growths_0 23 rfl rfl)
theorem dX0_growths_24 : decode cX0_growths 24 = .ok (.iload_n 3, 1) := dk_29 (dk_at dksX0_growths_1 0 rfl rfl)
theorem dX0_growths_25 : decode cX0_growths 25 = .ok (.bipush 30, 2) := dk_16 30 (dk_at dksX0_growths_1 1 rfl rfl)
theorem dX0_growths_27 : decode cX0_growths 27 = .ok (.if_icmp .gt 26, 3) := dk_163 0 26 (dk_at dksX0_growths_1 3 rfl rfl)
theorem dX0_growths_30 : decode cX0_growths 30 = .ok (.iload_n 2, 1) := dk_28 (dk_at dksX0_growths_1 6 rfl rfl)
theorem dX0_growths_31 : decode cX0_growths 31 = .ok (.aload_n 0, 1) := dk_42 (dk_at dksX0_growths_1 7 rfl rfl)
theorem dX0_growths_32 : decode cX0_growths 32 = .ok (.iload_n 3, 1) := dk_29 (dk_at dksX0_growths_1 8 rfl rfl)
theorem dX0_growths_33 : decode cX0_growths 33 = .ok (.iload_n 1, 1) := dk_27 (dk_at dksX0_growths_1 9 rfl rfl)
theorem dX0_growths_34 : decode cX0_growths 34 = .ok (.invokevirtual 378, 3) := dk_182 1 122 (dk_at dksX0_growths_1 10 rfl rfl)
theorem dX0_growths_37 : decode cX0_growths 37 = .ok (.ifCond .eq 7, 3) := dk_153 0 7 (dk_at dksX0_growths_1 13 rfl rfl)
theorem dX0_growths_40 : decode cX0_growths 40 = .ok (.iconst 1, 1) := dk_4 (dk_at dksX0_growths_1 16 rfl rfl)
theorem dX0_growths_41 : decode cX0_growths 41 = .ok (.goto 4, 3) := dk_167 0 4 (dk_at dksX0_growths_1 17 rfl rfl)
theorem dX0_growths_44 : decode cX0_growths 44 = .ok (.iconst 0, 1) := dk_3 (dk_at dksX0_growths_1 20 rfl rfl)
theorem dX0_growths_45 : decode cX0_growths 45 = .ok (.iadd, 1) := dk_96 (dk_at dksX0_growths_1 21 rfl rfl)
theorem dX0_growths_46 : decode cX0_growths 46 = .ok (.istore_n 2, 1) := dk_61 (dk_at dksX0_growths_1 22 rfl rfl)
theorem dX0_growths_47 : decode cX0_growths 47 = .ok (.iinc 3 1, 3) := dk_132 3 1 (dk_at dksX0_growths_2 0 rfl rfl)
theorem dX0_growths_50 : decode cX0_growths 50 = .ok (.goto (-26), 3) := dk_167 255 230 (dk_at dksX0_growths_2 3 rfl rfl)
theorem dX0_growths_53 : decode cX0_growths 53 = .ok (.iload_n 2, 1) := dk_28 (dk_at dksX0_growths_2 6 rfl rfl)
theorem dX0_growths_54 : decode cX0_growths 54 = .ok (.ireturn, 1) := dk_172 (dk_at dksX0_growths_2 7 rfl rfl)
abbrev cX0_layFits : ByteArray := prog_1_method_66_code
def yX0_layFits : MethodName := ⟨RX0, "layFits", "()V"⟩
def dkwX0_layFits_5 : List UInt8 := [167, 255, 138, 177]
abbrev dktX0_layFits_5 : List UInt8 := dkwX0_layFits_5 ++ []
def dkwX0_layFits_4 : List UInt8 := [96, 42, 180, 0, 19, 42, 180, 0, 32, 3, 3, 182, 0, 176, 84, 132, 2, 1, 167, 255, 152, 132, 1, 1]
abbrev dktX0_layFits_4 : List UInt8 := dkwX0_layFits_4 ++ dktX0_layFits_5
def dkwX0_layFits_3 : List UInt8 := [46, 28, 96, 184, 0, 1, 79, 42, 180, 0, 32, 28, 181, 0, 229, 42, 180, 0, 89, 16, 21, 27, 104, 28]
abbrev dktX0_layFits_3 : List UInt8 := dkwX0_layFits_3 ++ dktX0_layFits_4
def dkwX0_layFits_2 : List UInt8 := [104, 96, 184, 0, 1, 79, 42, 180, 0, 32, 180, 0, 216, 3, 16, 99, 42, 180, 0, 32, 180, 0, 216, 3]
abbrev dktX0_layFits_2 : List UInt8 := dkwX0_layFits_2 ++ dktX0_layFits_3
def dkwX0_layFits_1 : List UInt8 := [182, 0, 105, 42, 180, 0, 32, 180, 0, 192, 3, 16, 99, 42, 180, 0, 32, 180, 0, 192, 3, 46, 27, 28]
abbrev dktX0_layFits_1 : List UInt8 := dkwX0_layFits_1 ++ dktX0_layFits_2
def dkwX0_layFits_0 : List UInt8 := [3, 60, 27, 16, 30, 163, 0, 118, 3, 61, 28, 16, 20, 163, 0, 104, 42, 180, 0, 32, 42, 180, 0, 19]
abbrev dktX0_layFits_0 : List UInt8 := dkwX0_layFits_0 ++ dktX0_layFits_1
theorem dksX0_layFits_0 : cX0_layFits.data.toList.drop 0 = dktX0_layFits_0 := by decide +kernel
theorem dksX0_layFits_1 : cX0_layFits.data.toList.drop 24 = dktX0_layFits_1 := dk_seg dksX0_layFits_0 24 rfl rfl
theorem dksX0_layFits_2 : cX0_layFits.data.toList.drop 48 = dktX0_layFits_2 := dk_seg dksX0_layFits_1 24 rfl rfl
theorem dksX0_layFits_3 : cX0_layFits.data.toList.drop 72 = dktX0_layFits_3 := dk_seg dksX0_layFits_2 24 rfl rfl
theorem dksX0_layFits_4 : cX0_layFits.data.toList.drop 96 = dktX0_layFits_4 := dk_seg dksX0_layFits_3 24 rfl rfl
theorem dksX0_layFits_5 : cX0_layFits.data.toList.drop 120 = dktX0_layFits_5 := dk_seg dksX0_layFits_4 24 rfl rfl
theorem dX0_layFits_0 : decode cX0_layFits 0 = .ok (.iconst 0, 1) := dk_3 (dk_at dksX0_layFits_0 0 rfl rfl)
theorem dX0_layFits_1 : decode cX0_layFits 1 = .ok (.istore_n 1, 1) := dk_60 (dk_at dksX0_layFits_0 1 rfl rfl)
theorem dX0_layFits_2 : decode cX0_layFits 2 = .ok (.iload_n 1, 1) := dk_27 (dk_at dksX0_layFits_0 2 rfl rfl)
theorem dX0_layFits_3 : decode cX0_layFits 3 = .ok (.bipush 30, 2) := dk_16 30 (dk_at dksX0_layFits_0 3 rfl rfl)
theorem dX0_layFits_5 : decode cX0_layFits 5 = .ok (.if_icmp .gt 118, 3) := dk_163 0 118 (dk_at dksX0_layFits_0 5 rfl rfl)
theorem dX0_layFits_8 : decode cX0_layFits 8 = .ok (.iconst 0, 1) := dk_3 (dk_at dksX0_layFits_0 8 rfl rfl)
theorem dX0_layFits_9 : decode cX0_layFits 9 = .ok (.istore_n 2, 1) := dk_61 (dk_at dksX0_layFits_0 9 rfl rfl)
theorem dX0_layFits_10 : decode cX0_layFits 10 = .ok (.iload_n 2, 1) := dk_28 (dk_at dksX0_layFits_0 10 rfl rfl)
theorem dX0_layFits_11 : decode cX0_layFits 11 = .ok (.bipush 20, 2) := dk_16 20 (dk_at dksX0_layFits_0 11 rfl rfl)
theorem dX0_layFits_13 : decode cX0_layFits 13 = .ok (.if_icmp .gt 104, 3) := dk_163 0 104 (dk_at dksX0_layFits_0 13 rfl rfl)
theorem dX0_layFits_16 : decode cX0_layFits 16 = .ok (.aload_n 0, 1) := dk_42 (dk_at dksX0_layFits_0 16 rfl rfl)
theorem dX0_layFits_17 : decode cX0_layFits 17 = .ok (.getfield 32, 3) := dk_180 0 32 (dk_at dksX0_layFits_0 17 rfl rfl)
theorem dX0_layFits_20 : decode cX0_layFits 20 = .ok (.aload_n 0, 1) := dk_42 (dk_at dksX0_layFits_0 20 rfl rfl)
theorem dX0_layFits_21 : decode cX0_layFits 21 = .ok (.getfield 19, 3) := dk_180 0 19 (dk_at dksX0_layFits_0 21 rfl rfl)
theorem dX0_layFits_24 : decode cX0_layFits 24 = .ok (.invokevirtual 105, 3) := dk_182 0 105 (dk_at dksX0_layFits_1 0 rfl rfl)
theorem dX0_layFits_27 : decode cX0_layFits 27 = .ok (.aload_n 0, 1) := dk_42 (dk_at dksX0_layFits_1 3 rfl rfl)
theorem dX0_layFits_28 : decode cX0_layFits 28 = .ok (.getfield 32, 3) := dk_180 0 32 (dk_at dksX0_layFits_1 4 rfl rfl)
theorem dX0_layFits_31 : decode cX0_layFits 31 = .ok (.getfield 192, 3) := dk_180 0 192 (dk_at dksX0_layFits_1 7 rfl rfl)
theorem dX0_layFits_34 : decode cX0_layFits 34 = .ok (.iconst 0, 1) := dk_3 (dk_at dksX0_layFits_1 10 rfl rfl)
theorem dX0_layFits_35 : decode cX0_layFits 35 = .ok (.bipush 99, 2) := dk_16 99 (dk_at dksX0_layFits_1 11 rfl rfl)
theorem dX0_layFits_37 : decode cX0_layFits 37 = .ok (.aload_n 0, 1) := dk_42 (dk_at dksX0_layFits_1 13 rfl rfl)
theorem dX0_layFits_38 : decode cX0_layFits 38 = .ok (.getfield 32, 3) := dk_180 0 32 (dk_at dksX0_layFits_1 14 rfl rfl)
theorem dX0_layFits_41 : decode cX0_layFits 41 = .ok (.getfield 192, 3) := dk_180 0 192 (dk_at dksX0_layFits_1 17 rfl rfl)
theorem dX0_layFits_44 : decode cX0_layFits 44 = .ok (.iconst 0, 1) := dk_3 (dk_at dksX0_layFits_1 20 rfl rfl)
theorem dX0_layFits_45 : decode cX0_layFits 45 = .ok (.iaload, 1) := dk_46 (dk_at dksX0_layFits_1 21 rfl rfl)
theorem dX0_layFits_46 : decode cX0_layFits 46 = .ok (.iload_n 1, 1) := dk_27 (dk_at dksX0_layFits_1 22 rfl rfl)
theorem dX0_layFits_47 : decode cX0_layFits 47 = .ok (.iload_n 2, 1) := dk_28 (dk_at dksX0_layFits_1 23 rfl rfl)
theorem dX0_layFits_48 : decode cX0_layFits 48 = .ok (.imul, 1) := dk_104 (dk_at dksX0_layFits_2 0 rfl rfl)
theorem dX0_layFits_49 : decode cX0_layFits 49 = .ok (.iadd, 1) := dk_96 (dk_at dksX0_layFits_2 1 rfl rfl)
theorem dX0_layFits_50 : decode cX0_layFits 50 = .ok (.invokestatic 1, 3) := dk_184 0 1 (dk_at dksX0_layFits_2 2 rfl rfl)
theorem dX0_layFits_53 : decode cX0_layFits 53 = .ok (.iastore, 1) := dk_79 (dk_at dksX0_layFits_2 5 rfl rfl)
theorem dX0_layFits_54 : decode cX0_layFits 54 = .ok (.aload_n 0, 1) := dk_42 (dk_at dksX0_layFits_2 6 rfl rfl)
theorem dX0_layFits_55 : decode cX0_layFits 55 = .ok (.getfield 32, 3) := dk_180 0 32 (dk_at dksX0_layFits_2 7 rfl rfl)
theorem dX0_layFits_58 : decode cX0_layFits 58 = .ok (.getfield 216, 3) := dk_180 0 216 (dk_at dksX0_layFits_2 10 rfl rfl)
theorem dX0_layFits_61 : decode cX0_layFits 61 = .ok (.iconst 0, 1) := dk_3 (dk_at dksX0_layFits_2 13 rfl rfl)
theorem dX0_layFits_62 : decode cX0_layFits 62 = .ok (.bipush 99, 2) := dk_16 99 (dk_at dksX0_layFits_2 14 rfl rfl)
theorem dX0_layFits_64 : decode cX0_layFits 64 = .ok (.aload_n 0, 1) := dk_42 (dk_at dksX0_layFits_2 16 rfl rfl)
theorem dX0_layFits_65 : decode cX0_layFits 65 = .ok (.getfield 32, 3) := dk_180 0 32 (dk_at dksX0_layFits_2 17 rfl rfl)
theorem dX0_layFits_68 : decode cX0_layFits 68 = .ok (.getfield 216, 3) := dk_180 0 216 (dk_at dksX0_layFits_2 20 rfl rfl)
theorem dX0_layFits_71 : decode cX0_layFits 71 = .ok (.iconst 0, 1) := dk_3 (dk_at dksX0_layFits_2 23 rfl rfl)
theorem dX0_layFits_72 : decode cX0_layFits 72 = .ok (.iaload, 1) := dk_46 (dk_at dksX0_layFits_3 0 rfl rfl)
theorem dX0_layFits_73 : decode cX0_layFits 73 = .ok (.iload_n 2, 1) := dk_28 (dk_at dksX0_layFits_3 1 rfl rfl)
theorem dX0_layFits_74 : decode cX0_layFits 74 = .ok (.iadd, 1) := dk_96 (dk_at dksX0_layFits_3 2 rfl rfl)
theorem dX0_layFits_75 : decode cX0_layFits 75 = .ok (.invokestatic 1, 3) := dk_184 0 1 (dk_at dksX0_layFits_3 3 rfl rfl)
theorem dX0_layFits_78 : decode cX0_layFits 78 = .ok (.iastore, 1) := dk_79 (dk_at dksX0_layFits_3 6 rfl rfl)
theorem dX0_layFits_79 : decode cX0_layFits 79 = .ok (.aload_n 0, 1) := dk_42 (dk_at dksX0_layFits_3 7 rfl rfl)
theorem dX0_layFits_80 : decode cX0_layFits 80 = .ok (.getfield 32, 3) := dk_180 0 32 (dk_at dksX0_layFits_3 8 rfl rfl)
theorem dX0_layFits_83 : decode cX0_layFits 83 = .ok (.iload_n 2, 1) := dk_28 (dk_at dksX0_layFits_3 11 rfl rfl)
theorem dX0_layFits_84 : decode cX0_layFits 84 = .ok (.putfield 229, 3) := dk_181 0 229 (dk_at dksX0_layFits_3 12 rfl rfl)
theorem dX0_layFits_87 : decode cX0_layFits 87 = .ok (.aload_n 0, 1) := dk_42 (dk_at dksX0_layFits_3 15 rfl rfl)
theorem dX0_layFits_88 : decode cX0_layFits 88 = .ok (.getfield 89, 3) := dk_180 0 89 (dk_at dksX0_layFits_3 16 rfl rfl)
theorem dX0_layFits_91 : decode cX0_layFits 91 = .ok (.bipush 21, 2) := dk_16 21 (dk_at dksX0_layFits_3 19 rfl rfl)
theorem dX0_layFits_93 : decode cX0_layFits 93 = .ok (.iload_n 1, 1) := dk_27 (dk_at dksX0_layFits_3 21 rfl rfl)
theorem dX0_layFits_94 : decode cX0_layFits 94 = .ok (.imul, 1) := dk_104 (dk_at dksX0_layFits_3 22 rfl rfl)
theorem dX0_layFits_95 : decode cX0_layFits 95 = .ok (.iload_n 2, 1) := dk_28 (dk_at dksX0_layFits_3 23 rfl rfl)
theorem dX0_layFits_96 : decode cX0_layFits 96 = .ok (.iadd, 1) := dk_96 (dk_at dksX0_layFits_4 0 rfl rfl)
theorem dX0_layFits_97 : decode cX0_layFits 97 = .ok (.aload_n 0, 1) := dk_42 (dk_at dksX0_layFits_4 1 rfl rfl)
theorem dX0_layFits_98 : decode cX0_layFits 98 = .ok (.getfield 19, 3) := dk_180 0 19 (dk_at dksX0_layFits_4 2 rfl rfl)
theorem dX0_layFits_101 : decode cX0_layFits 101 = .ok (.aload_n 0, 1) := dk_42 (dk_at dksX0_layFits_4 5 rfl rfl)
theorem dX0_layFits_102 : decode cX0_layFits 102 = .ok (.getfield 32, 3) := dk_180 0 32 (dk_at dksX0_layFits_4 6 rfl rfl)
theorem dX0_layFits_105 : decode cX0_layFits 105 = .ok (.iconst 0, 1) := dk_3 (dk_at dksX0_layFits_4 9 rfl rfl)
theorem dX0_layFits_106 : decode cX0_layFits 106 = .ok (.iconst 0, 1) := dk_3 (dk_at dksX0_layFits_4 10 rfl rfl)
theorem dX0_layFits_107 : decode cX0_layFits 107 = .ok (.invokevirtual 176, 3) := dk_182 0 176 (dk_at dksX0_layFits_4 11 rfl rfl)
theorem dX0_layFits_110 : decode cX0_layFits 110 = .ok (.bastore, 1) := dk_84 (dk_at dksX0_layFits_4 14 rfl rfl)
theorem dX0_layFits_111 : decode cX0_layFits 111 = .ok (.iinc 2 1, 3) := dk_132 2 1 (dk_at dksX0_layFits_4 15 rfl rfl)
theorem dX0_layFits_114 : decode cX0_layFits 114 = .ok (.goto (-104), 3) := dk_167 255 152 (dk_at dksX0_layFits_4 18 rfl rfl)
theorem dX0_layFits_117 : decode cX0_layFits 117 = .ok (.iinc 1 1, 3) := dk_132 1 1 (dk_at dksX0_layFits_4 21 rfl rfl)
theorem dX0_layFits_120 : decode cX0_layFits 120 = .ok (.goto (-118), 3) := dk_167 255 138 (dk_at dksX0_layFits_5 0 rfl rfl)
theorem dX0_layFits_123 : decode cX0_layFits 123 = .ok (.return_, 1) := dk_177 (dk_at dksX0_layFits_5 3 rfl rfl)
abbrev cX0_isSo : ByteArray := prog_1_method_67_code
def yX0_isSo : MethodName := ⟨RX0, "isSo", "(II)Z"⟩
def dkwX0_isSo_2 : List UInt8 := [180, 1, 112, 96, 51, 25, 4, 180, 1, 115, 159, 0, 5, 3, 172, 167, 255, 202, 4, 172]
abbrev dktX0_isSo_2 : List UInt8 := dkwX0_isSo_2 ++ []
def dkwX0_isSo_1 : List UInt8 := [192, 1, 84, 58, 4, 25, 4, 28, 182, 1, 109, 153, 0, 28, 42, 180, 0, 89, 16, 21, 27, 104, 25, 4]
abbrev dktX0_isSo_1 : List UInt8 := dkwX0_isSo_1 ++ dktX0_isSo_2
def dkwX0_isSo_0 : List UInt8 := [42, 180, 0, 86, 182, 1, 96, 78, 45, 185, 1, 100, 1, 0, 153, 0, 51, 45, 185, 1, 105, 1, 0]
abbrev dktX0_isSo_0 : List UInt8 := dkwX0_isSo_0 ++ dktX0_isSo_1
theorem dksX0_isSo_0 : cX0_isSo.data.toList.drop 0 = dktX0_isSo_0 := by decide +kernel
theorem dksX0_isSo_1 : cX0_isSo.data.toList.drop 23 = dktX0_isSo_1 := dk_seg dksX0_isSo_0 23 rfl rfl
theorem dksX0_isSo_2 : cX0_isSo.data.toList.drop 47 = dktX0_isSo_2 := dk_seg dksX0_isSo_1 24 rfl rfl
theorem dX0_isSo_0 : decode cX0_isSo 0 = .ok (.aload_n 0, 1) := dk_42 (dk_at dksX0_isSo_0 0 rfl rfl)
theorem dX0_isSo_1 : decode cX0_isSo 1 = .ok (.getfield 86, 3) := dk_180 0 86 (dk_at dksX0_isSo_0 1 rfl rfl)
theorem dX0_isSo_4 : decode cX0_isSo 4 = .ok (.invokevirtual 352, 3) := dk_182 1 96 (dk_at dksX0_isSo_0 4 rfl rfl)
theorem dX0_isSo_7 : decode cX0_isSo 7 = .ok (.astore_n 3, 1) := dk_78 (dk_at dksX0_isSo_0 7 rfl rfl)
theorem dX0_isSo_8 : decode cX0_isSo 8 = .ok (.aload_n 3, 1) := dk_45 (dk_at dksX0_isSo_0 8 rfl rfl)
theorem dX0_isSo_9 : decode cX0_isSo 9 = .ok (.invokeinterface 356 1, 5) := by decide +kernel
theorem dX0_isSo_14 : decode cX0_isSo 14 = .ok (.ifCond .eq 51, 3) := dk_153 0 51 (dk_at dksX0_isSo_0 14 rfl rfl)
theorem dX0_isSo_17 : decode cX0_isSo 17 = .ok (.aload_n 3, 1) := dk_45 (dk_at dksX0_isSo_0 17 rfl rfl)
theorem dX0_isSo_18 : decode cX0_isSo 18 = .ok (.invokeinterface 361 1, 5) := by decide +kernel
theorem dX0_isSo_23 : decode cX0_isSo 23 = .ok (.checkcast 340, 3) := dk_192 1 84 (dk_at dksX0_isSo_1 0 rfl rfl)
theorem dX0_isSo_26 : decode cX0_isSo 26 = .ok (.astore 4, 2) := dk_58 4 (dk_at dksX0_isSo_1 3 rfl rfl)
theorem dX0_isSo_28 : decode cX0_isSo 28 = .ok (.aload 4, 2) := dk_25 4 (dk_at dksX0_isSo_1 5 rfl rfl)
theorem dX0_isSo_30 : decode cX0_isSo 30 = .ok (.iload_n 2, 1) := dk_28 (dk_at dksX0_isSo_1 7 rfl rfl)
theorem dX0_isSo_31 : decode cX0_isSo 31 = .ok (.invokevirtual 365, 3) := dk_182 1 109 (dk_at dksX0_isSo_1 8 rfl rfl)
theorem dX0_isSo_34 : decode cX0_isSo 34 = .ok (.ifCond .eq 28, 3) := dk_153 0 28 (dk_at dksX0_isSo_1 11 rfl rfl)
theorem dX0_isSo_37 : decode cX0_isSo 37 = .ok (.aload_n 0, 1) := dk_42 (dk_at dksX0_isSo_1 14 rfl rfl)
theorem dX0_isSo_38 : decode cX0_isSo 38 = .ok (.getfield 89, 3) := dk_180 0 89 (dk_at dksX0_isSo_1 15 rfl rfl)
theorem dX0_isSo_41 : decode cX0_isSo 41 = .ok (.bipush 21, 2) := dk_16 21 (dk_at dksX0_isSo_1 18 rfl rfl)
theorem dX0_isSo_43 : decode cX0_isSo 43 = .ok (.iload_n 1, 1) := dk_27 (dk_at dksX0_isSo_1 20 rfl rfl)
theorem dX0_isSo_44 : decode cX0_isSo 44 = .ok (.imul, 1) := dk_104 (dk_at dksX0_isSo_1 21 rfl rfl)
theorem dX0_isSo_45 : decode cX0_isSo 45 = .ok (.aload 4, 2) := dk_25 4 (dk_at dksX0_isSo_1 22 rfl rfl)
theorem dX0_isSo_47 : decode cX0_isSo 47 = .ok (.getfield 368, 3) := dk_180 1 112 (dk_at dksX0_isSo_2 0 rfl rfl)
theorem dX0_isSo_50 : decode cX0_isSo 50 = .ok (.iadd, 1) := dk_96 (dk_at dksX0_isSo_2 3 rfl rfl)
theorem dX0_isSo_51 : decode cX0_isSo 51 = .ok (.baload, 1) := dk_51 (dk_at dksX0_isSo_2 4 rfl rfl)
theorem dX0_isSo_52 : decode cX0_isSo 52 = .ok (.aload 4, 2) := dk_25 4 (dk_at dksX0_isSo_2 5 rfl rfl)
theorem dX0_isSo_54 : decode cX0_isSo 54 = .ok (.getfield 371, 3) := dk_180 1 115 (dk_at dksX0_isSo_2 7 rfl rfl)
theorem dX0_isSo_57 : decode cX0_isSo 57 = .ok (.if_icmp .eq 5, 3) := dk_159 0 5 (dk_at dksX0_isSo_2 10 rfl rfl)
theorem dX0_isSo_60 : decode cX0_isSo 60 = .ok (.iconst 0, 1) := dk_3 (dk_at dksX0_isSo_2 13 rfl rfl)
theorem dX0_isSo_61 : decode cX0_isSo 61 = .ok (.ireturn, 1) := dk_172 (dk_at dksX0_isSo_2 14 rfl rfl)
theorem dX0_isSo_62 : decode cX0_isSo 62 = .ok (.goto (-54), 3) := dk_167 255 202 (dk_at dksX0_isSo_2 15 rfl rfl)
theorem dX0_isSo_65 : decode cX0_isSo 65 = .ok (.iconst 1, 1) := dk_4 (dk_at dksX0_isSo_2 18 rfl rfl)
theorem dX0_isSo_66 : decode cX0_isSo 66 = .ok (.ireturn, 1) := dk_172 (dk_at dksX0_isSo_2 19 rfl rfl)
abbrev cX0_sure : ByteArray := prog_1_method_69_code
def yX0_sure : MethodName := ⟨RX0, "sure", "(II)I"⟩
def dkwX0_sure_2 : List UInt8 := [2, 96, 62, 167, 255, 235, 29, 172]
abbrev dktX0_sure_2 : List UInt8 := dkwX0_sure_2 ++ []
def dkwX0_sure_1 : List UInt8 := [167, 0, 5, 16, 30, 62, 42, 29, 28, 182, 1, 122, 154, 0, 18, 29, 27, 154, 0, 7, 4, 167, 0, 4]
abbrev dktX0_sure_1 : List UInt8 := dkwX0_sure_1 ++ dktX0_sure_2
def dkwX0_sure_0 : List UInt8 := [27, 3, 4, 184, 0, 145, 153, 0, 11, 42, 28, 182, 1, 125, 154, 0, 5, 2, 172, 27, 154, 0, 7, 3]
abbrev dktX0_sure_0 : List UInt8 := dkwX0_sure_0 ++ dktX0_sure_1
theorem dksX0_sure_0 : cX0_sure.data.toList.drop 0 = dktX0_sure_0 := by decide +kernel
theorem dksX0_sure_1 : cX0_sure.data.toList.drop 24 = dktX0_sure_1 := dk_seg dksX0_sure_0 24 rfl rfl
theorem dksX0_sure_2 : cX0_sure.data.toList.drop 48 = dktX0_sure_2 := dk_seg dksX0_sure_1 24 rfl rfl
theorem dX0_sure_0 : decode cX0_sure 0 = .ok (.iload_n 1, 1) := dk_27 (dk_at dksX0_sure_0 0 rfl rfl)
theorem dX0_sure_1 : decode cX0_sure 1 = .ok (.iconst 0, 1) := dk_3 (dk_at dksX0_sure_0 1 rfl rfl)
theorem dX0_sure_2 : decode cX0_sure 2 = .ok (.iconst 1, 1) := dk_4 (dk_at dksX0_sure_0 2 rfl rfl)
theorem dX0_sure_3 : decode cX0_sure 3 = .ok (.invokestatic 145, 3) := dk_184 0 145 (dk_at dksX0_sure_0 3 rfl rfl)
theorem dX0_sure_6 : decode cX0_sure 6 = .ok (.ifCond .eq 11, 3) := dk_153 0 11 (dk_at dksX0_sure_0 6 rfl rfl)
theorem dX0_sure_9 : decode cX0_sure 9 = .ok (.aload_n 0, 1) := dk_42 (dk_at dksX0_sure_0 9 rfl rfl)
theorem dX0_sure_10 : decode cX0_sure 10 = .ok (.iload_n 2, 1) := dk_28 (dk_at dksX0_sure_0 10 rfl rfl)
theorem dX0_sure_11 : decode cX0_sure 11 = .ok (.invokevirtual 381, 3) := dk_182 1 125 (dk_at dksX0_sure_0 11 rfl rfl)
theorem dX0_sure_14 : decode cX0_sure 14 = .ok (.ifCond .ne 5, 3) := dk_154 0 5 (dk_at dksX0_sure_0 14 rfl rfl)
theorem dX0_sure_17 : decode cX0_sure 17 = .ok (.iconst (-1), 1) := dk_2 (dk_at dksX0_sure_0 17 rfl rfl)
theorem dX0_sure_18 : decode cX0_sure 18 = .ok (.ireturn, 1) := dk_172 (dk_at dksX0_sure_0 18 rfl rfl)
theorem dX0_sure_19 : decode cX0_sure 19 = .ok (.iload_n 1, 1) := dk_27 (dk_at dksX0_sure_0 19 rfl rfl)
theorem dX0_sure_20 : decode cX0_sure 20 = .ok (.ifCond .ne 7, 3) := dk_154 0 7 (dk_at dksX0_sure_0 20 rfl rfl)
theorem dX0_sure_23 : decode cX0_sure 23 = .ok (.iconst 0, 1) := dk_3 (dk_at dksX0_sure_0 23 rfl rfl)
theorem dX0_sure_24 : decode cX0_sure 24 = .ok (.goto 5, 3) := dk_167 0 5 (dk_at dksX0_sure_1 0 rfl rfl)
theorem dX0_sure_27 : decode cX0_sure 27 = .ok (.bipush 30, 2) := dk_16 30 (dk_at dksX0_sure_1 3 rfl rfl)
theorem dX0_sure_29 : decode cX0_sure 29 = .ok (.istore_n 3, 1) := dk_62 (dk_at dksX0_sure_1 5 rfl rfl)
theorem dX0_sure_30 : decode cX0_sure 30 = .ok (.aload_n 0, 1) := dk_42 (dk_at dksX0_sure_1 6 rfl rfl)
theorem dX0_sure_31 : decode cX0_sure 31 = .ok (.iload_n 3, 1) := dk_29 (dk_at dksX0_sure_1 7 rfl rfl)
theorem dX0_sure_32 : decode cX0_sure 32 = .ok (.iload_n 2, 1) := dk_28 (dk_at dksX0_sure_1 8 rfl rfl)
theorem dX0_sure_33 : decode cX0_sure 33 = .ok (.invokevirtual 378, 3) := dk_182 1 122 (dk_at dksX0_sure_1 9 rfl rfl)
theorem dX0_sure_36 : decode cX0_sure 36 = .ok (.ifCond .ne 18, 3) := dk_154 0 18 (dk_at dksX0_sure_1 12 rfl rfl)
theorem dX0_sure_39 : decode cX0_sure 39 = .ok (.iload_n 3, 1) := dk_29 (dk_at dksX0_sure_1 15 rfl rfl)
theorem dX0_sure_40 : decode cX0_sure 40 = .ok (.iload_n 1, 1) := dk_27 (dk_at dksX0_sure_1 16 rfl rfl)
theorem dX0_sure_41 : decode cX0_sure 41 = .ok (.ifCond .ne 7, 3) := dk_154 0 7 (dk_at dksX0_sure_1 17 rfl rfl)
theorem dX0_sure_44 : decode cX0_sure 44 = .ok (.iconst 1, 1) := dk_4 (dk_at dksX0_sure_1 20 rfl rfl)
theorem dX0_sure_45 : decode cX0_sure 45 = .ok (.goto 4, 3) := dk_167 0 4 (dk_at dksX0_sure_1 21 rfl rfl)
theorem dX0_sure_48 : decode cX0_sure 48 = .ok (.iconst (-1), 1) := dk_2 (dk_at dksX0_sure_2 0 rfl rfl)
theorem dX0_sure_49 : decode cX0_sure 49 = .ok (.iadd, 1) := dk_96 (dk_at dksX0_sure_2 1 rfl rfl)
theorem dX0_sure_50 : decode cX0_sure 50 = .ok (.istore_n 3, 1) := dk_62 (dk_at dksX0_sure_2 2 rfl rfl)
theorem dX0_sure_51 : decode cX0_sure 51 = .ok (.goto (-21), 3) := dk_167 255 235 (dk_at dksX0_sure_2 3 rfl rfl)
theorem dX0_sure_54 : decode cX0_sure 54 = .ok (.iload_n 3, 1) := dk_29 (dk_at dksX0_sure_2 6 rfl rfl)
theorem dX0_sure_55 : decode cX0_sure 55 = .ok (.ireturn, 1) := dk_172 (dk_at dksX0_sure_2 7 rfl rfl)
abbrev cX0_ask : ByteArray := prog_1_method_71_code
def yX0_ask : MethodName := ⟨RX0, "ask", "(II)I"⟩
def dkwX0_ask_2 : List UInt8 := [21, 4, 62, 132, 4, 1, 167, 255, 227, 27, 154, 0, 7, 29, 167, 0, 9, 42, 29, 28, 182, 1, 128, 172]
abbrev dktX0_ask_2 : List UInt8 := dkwX0_ask_2 ++ []
def dkwX0_ask_1 : List UInt8 := [21, 4, 16, 20, 163, 0, 28, 42, 21, 4, 28, 182, 1, 128, 42, 29, 28, 182, 1, 128, 162, 0, 6]
abbrev dktX0_ask_1 : List UInt8 := dkwX0_ask_1 ++ dktX0_ask_2
def dkwX0_ask_0 : List UInt8 := [27, 3, 4, 184, 0, 145, 153, 0, 11, 42, 28, 182, 1, 125, 154, 0, 5, 2, 172, 3, 62, 4, 54, 4]
abbrev dktX0_ask_0 : List UInt8 := dkwX0_ask_0 ++ dktX0_ask_1
theorem dksX0_ask_0 : cX0_ask.data.toList.drop 0 = dktX0_ask_0 := by decide +kernel
theorem dksX0_ask_1 : cX0_ask.data.toList.drop 24 = dktX0_ask_1 := dk_seg dksX0_ask_0 24 rfl rfl
theorem dksX0_ask_2 : cX0_ask.data.toList.drop 47 = dktX0_ask_2 := dk_seg dksX0_ask_1 23 rfl rfl
theorem dX0_ask_0 : decode cX0_ask 0 = .ok (.iload_n 1, 1) := dk_27 (dk_at dksX0_ask_0 0 rfl rfl)
theorem dX0_ask_1 : decode cX0_ask 1 = .ok (.iconst 0, 1) := dk_3 (dk_at dksX0_ask_0 1 rfl rfl)
theorem dX0_ask_2 : decode cX0_ask 2 = .ok (.iconst 1, 1) := dk_4 (dk_at dksX0_ask_0 2 rfl rfl)
theorem dX0_ask_3 : decode cX0_ask 3 = .ok (.invokestatic 145, 3) := dk_184 0 145 (dk_at dksX0_ask_0 3 rfl rfl)
theorem dX0_ask_6 : decode cX0_ask 6 = .ok (.ifCond .eq 11, 3) := dk_153 0 11 (dk_at dksX0_ask_0 6 rfl rfl)
theorem dX0_ask_9 : decode cX0_ask 9 = .ok (.aload_n 0, 1) := dk_42 (dk_at dksX0_ask_0 9 rfl rfl)
theorem dX0_ask_10 : decode cX0_ask 10 = .ok (.iload_n 2, 1) := dk_28 (dk_at dksX0_ask_0 10 rfl rfl)
theorem dX0_ask_11 : decode cX0_ask 11 = .ok (.invokevirtual 381, 3) := dk_182 1 125 (dk_at dksX0_ask_0 11 rfl rfl)
theorem dX0_ask_14 : decode cX0_ask 14 = .ok (.ifCond .ne 5, 3) := dk_154 0 5 (dk_at dksX0_ask_0 14 rfl rfl)
theorem dX0_ask_17 : decode cX0_ask 17 = .ok (.iconst (-1), 1) := dk_2 (dk_at dksX0_ask_0 17 rfl rfl)
theorem dX0_ask_18 : decode cX0_ask 18 = .ok (.ireturn, 1) := dk_172 (dk_at dksX0_ask_0 18 rfl rfl)
theorem dX0_ask_19 : decode cX0_ask 19 = .ok (.iconst 0, 1) := dk_3 (dk_at dksX0_ask_0 19 rfl rfl)
theorem dX0_ask_20 : decode cX0_ask 20 = .ok (.istore_n 3, 1) := dk_62 (dk_at dksX0_ask_0 20 rfl rfl)
theorem dX0_ask_21 : decode cX0_ask 21 = .ok (.iconst 1, 1) := dk_4 (dk_at dksX0_ask_0 21 rfl rfl)
theorem dX0_ask_22 : decode cX0_ask 22 = .ok (.istore 4, 2) := dk_54 4 (dk_at dksX0_ask_0 22 rfl rfl)
theorem dX0_ask_24 : decode cX0_ask 24 = .ok (.iload 4, 2) := dk_21 4 (dk_at dksX0_ask_1 0 rfl rfl)
theorem dX0_ask_26 : decode cX0_ask 26 = .ok (.bipush 20, 2) := dk_16 20 (dk_at dksX0_ask_1 2 rfl rfl)
theorem dX0_ask_28 : decode cX0_ask 28 = .ok (.if_icmp .gt 28, 3) := dk_163 0 28 (dk_at dksX0_ask_1 4 rfl rfl)
theorem dX0_ask_31 : decode cX0_ask 31 = .ok (.aload_n 0, 1) := dk_42 (dk_at dksX0_ask_1 7 rfl rfl)
theorem dX0_ask_32 : decode cX0_ask 32 = .ok (.iload 4, 2) := dk_21 4 (dk_at dksX0_ask_1 8 rfl rfl)
theorem dX0_ask_34 : decode cX0_ask 34 = .ok (.iload_n 2, 1) := dk_28 (dk_at dksX0_ask_1 10 rfl rfl)
theorem dX0_ask_35 : decode cX0_ask 35 = .ok (.invokevirtual 384, 3) := dk_182 1 128 (dk_at dksX0_ask_1 11 rfl rfl)
theorem dX0_ask_38 : decode cX0_ask 38 = .ok (.aload_n 0, 1) := dk_42 (dk_at dksX0_ask_1 14 rfl rfl)
theorem dX0_ask_39 : decode cX0_ask 39 = .ok (.iload_n 3, 1) := dk_29 (dk_at dksX0_ask_1 15 rfl rfl)
theorem dX0_ask_40 : decode cX0_ask 40 = .ok (.iload_n 2, 1) := dk_28 (dk_at dksX0_ask_1 16 rfl rfl)
theorem dX0_ask_41 : decode cX0_ask 41 = .ok (.invokevirtual 384, 3) := dk_182 1 128 (dk_at dksX0_ask_1 17 rfl rfl)
theorem dX0_ask_44 : decode cX0_ask 44 = .ok (.if_icmp .ge 6, 3) := dk_162 0 6 (dk_at dksX0_ask_1 20 rfl rfl)
theorem dX0_ask_47 : decode cX0_ask 47 = .ok (.iload 4, 2) := dk_21 4 (dk_at dksX0_ask_2 0 rfl rfl)
theorem dX0_ask_49 : decode cX0_ask 49 = .ok (.istore_n 3, 1) := dk_62 (dk_at dksX0_ask_2 2 rfl rfl)
theorem dX0_ask_50 : decode cX0_ask 50 = .ok (.iinc 4 1, 3) := dk_132 4 1 (dk_at dksX0_ask_2 3 rfl rfl)
theorem dX0_ask_53 : decode cX0_ask 53 = .ok (.goto (-29), 3) := dk_167 255 227 (dk_at dksX0_ask_2 6 rfl rfl)
theorem dX0_ask_56 : decode cX0_ask 56 = .ok (.iload_n 1, 1) := dk_27 (dk_at dksX0_ask_2 9 rfl rfl)
theorem dX0_ask_57 : decode cX0_ask 57 = .ok (.ifCond .ne 7, 3) := dk_154 0 7 (dk_at dksX0_ask_2 10 rfl rfl)
theorem dX0_ask_60 : decode cX0_ask 60 = .ok (.iload_n 3, 1) := dk_29 (dk_at dksX0_ask_2 13 rfl rfl)
theorem dX0_ask_61 : decode cX0_ask 61 = .ok (.goto 9, 3) := dk_167 0 9 (dk_at dksX0_ask_2 14 rfl rfl)
theorem dX0_ask_64 : decode cX0_ask 64 = .ok (.aload_n 0, 1) := dk_42 (dk_at dksX0_ask_2 17 rfl rfl)
theorem dX0_ask_65 : decode cX0_ask 65 = .ok (.iload_n 3, 1) := dk_29 (dk_at dksX0_ask_2 18 rfl rfl)
theorem dX0_ask_66 : decode cX0_ask 66 = .ok (.iload_n 2, 1) := dk_28 (dk_at dksX0_ask_2 19 rfl rfl)
theorem dX0_ask_67 : decode cX0_ask 67 = .ok (.invokevirtual 384, 3) := dk_182 1 128 (dk_at dksX0_ask_2 20 rfl rfl)
theorem dX0_ask_70 : decode cX0_ask 70 = .ok (.ireturn, 1) := dk_172 (dk_at dksX0_ask_2 23 rfl rfl)
abbrev cX0_mostBy : ByteArray := prog_1_method_70_code
def yX0_mostBy : MethodName := ⟨RX0, "mostBy", "(II)I"⟩
def dkwX0_mostBy_2 : List UInt8 := [167, 0, 6, 132, 4, 1, 132, 5, 1, 167, 255, 209, 29, 21, 4, 184, 0, 7, 172]
abbrev dktX0_mostBy_2 : List UInt8 := dkwX0_mostBy_2 ++ []
def dkwX0_mostBy_1 : List UInt8 := [154, 0, 6, 167, 0, 27, 42, 180, 0, 89, 16, 21, 21, 5, 104, 27, 96, 51, 153, 0, 9, 132, 3, 1]
abbrev dktX0_mostBy_1 : List UInt8 := dkwX0_mostBy_1 ++ dktX0_mostBy_2
def dkwX0_mostBy_0 : List UInt8 := [3, 62, 3, 54, 4, 3, 54, 5, 21, 5, 16, 30, 163, 0, 46, 42, 21, 5, 28, 182, 1, 122]
abbrev dktX0_mostBy_0 : List UInt8 := dkwX0_mostBy_0 ++ dktX0_mostBy_1
theorem dksX0_mostBy_0 : cX0_mostBy.data.toList.drop 0 = dktX0_mostBy_0 := by decide +kernel
theorem dksX0_mostBy_1 : cX0_mostBy.data.toList.drop 22 = dktX0_mostBy_1 := dk_seg dksX0_mostBy_0 22 rfl rfl
theorem dksX0_mostBy_2 : cX0_mostBy.data.toList.drop 46 = dktX0_mostBy_2 := dk_seg dksX0_mostBy_1 24 rfl rfl
theorem dX0_mostBy_0 : decode cX0_mostBy 0 = .ok (.iconst 0, 1) := dk_3 (dk_at dksX0_mostBy_0 0 rfl rfl)
theorem dX0_mostBy_1 : decode cX0_mostBy 1 = .ok (.istore_n 3, 1) := dk_62 (dk_at dksX0_mostBy_0 1 rfl rfl)
theorem dX0_mostBy_2 : decode cX0_mostBy 2 = .ok (.iconst 0, 1) := dk_3 (dk_at dksX0_mostBy_0 2 rfl rfl)
theorem dX0_mostBy_3 : decode cX0_mostBy 3 = .ok (.istore 4, 2) := dk_54 4 (dk_at dksX0_mostBy_0 3 rfl rfl)
theorem dX0_mostBy_5 : decode cX0_mostBy 5 = .ok (.iconst 0, 1) := dk_3 (dk_at dksX0_mostBy_0 5 rfl rfl)
theorem dX0_mostBy_6 : decode cX0_mostBy 6 = .ok (.istore 5, 2) := dk_54 5 (dk_at dksX0_mostBy_0 6 rfl rfl)
theorem dX0_mostBy_8 : decode cX0_mostBy 8 = .ok (.iload 5, 2) := dk_21 5 (dk_at dksX0_mostBy_0 8 rfl rfl)
theorem dX0_mostBy_10 : decode cX0_mostBy 10 = .ok (.bipush 30, 2) := dk_16 30 (dk_at dksX0_mostBy_0 10 rfl rfl)
theorem dX0_mostBy_12 : decode cX0_mostBy 12 = .ok (.if_icmp .gt 46, 3) := dk_163 0 46 (dk_at dksX0_mostBy_0 12 rfl rfl)
theorem dX0_mostBy_15 : decode cX0_mostBy 15 = .ok (.aload_n 0, 1) := dk_42 (dk_at dksX0_mostBy_0 15 rfl rfl)
theorem dX0_mostBy_16 : decode cX0_mostBy 16 = .ok (.iload 5, 2) := dk_21 5 (dk_at dksX0_mostBy_0 16 rfl rfl)
theorem dX0_mostBy_18 : decode cX0_mostBy 18 = .ok (.iload_n 2, 1) := dk_28 (dk_at dksX0_mostBy_0 18 rfl rfl)
theorem dX0_mostBy_19 : decode cX0_mostBy 19 = .ok (.invokevirtual 378, 3) := dk_182 1 122 (dk_at dksX0_mostBy_0 19 rfl rfl)
theorem dX0_mostBy_22 : decode cX0_mostBy 22 = .ok (.ifCond .ne 6, 3) := dk_154 0 6 (dk_at dksX0_mostBy_1 0 rfl rfl)
theorem dX0_mostBy_25 : decode cX0_mostBy 25 = .ok (.goto 27, 3) := dk_167 0 27 (dk_at dksX0_mostBy_1 3 rfl rfl)
theorem dX0_mostBy_28 : decode cX0_mostBy 28 = .ok (.aload_n 0, 1) := dk_42 (dk_at dksX0_mostBy_1 6 rfl rfl)
theorem dX0_mostBy_29 : decode cX0_mostBy 29 = .ok (.getfield 89, 3) := dk_180 0 89 (dk_at dksX0_mostBy_1 7 rfl rfl)
theorem dX0_mostBy_32 : decode cX0_mostBy 32 = .ok (.bipush 21, 2) := dk_16 21 (dk_at dksX0_mostBy_1 10 rfl rfl)
theorem dX0_mostBy_34 : decode cX0_mostBy 34 = .ok (.iload 5, 2) := dk_21 5 (dk_at dksX0_mostBy_1 12 rfl rfl)
theorem dX0_mostBy_36 : decode cX0_mostBy 36 = .ok (.imul, 1) := dk_104 (dk_at dksX0_mostBy_1 14 rfl rfl)
theorem dX0_mostBy_37 : decode cX0_mostBy 37 = .ok (.iload_n 1, 1) := dk_27 (dk_at dksX0_mostBy_1 15 rfl rfl)
theorem dX0_mostBy_38 : decode cX0_mostBy 38 = .ok (.iadd, 1) := dk_96 (dk_at dksX0_mostBy_1 16 rfl rfl)
theorem dX0_mostBy_39 : decode cX0_mostBy 39 = .ok (.baload, 1) := dk_51 (dk_at dksX0_mostBy_1 17 rfl rfl)
theorem dX0_mostBy_40 : decode cX0_mostBy 40 = .ok (.ifCond .eq 9, 3) := dk_153 0 9 (dk_at dksX0_mostBy_1 18 rfl rfl)
theorem dX0_mostBy_43 : decode cX0_mostBy 43 = .ok (.iinc 3 1, 3) := dk_132 3 1 (dk_at dksX0_mostBy_1 21 rfl rfl)
theorem dX0_mostBy_46 : decode cX0_mostBy 46 = .ok (.goto 6, 3) := dk_167 0 6 (dk_at dksX0_mostBy_2 0 rfl rfl)
theorem dX0_mostBy_49 : decode cX0_mostBy 49 = .ok (.iinc 4 1, 3) := dk_132 4 1 (dk_at dksX0_mostBy_2 3 rfl rfl)
theorem dX0_mostBy_52 : decode cX0_mostBy 52 = .ok (.iinc 5 1, 3) := dk_132 5 1 (dk_at dksX0_mostBy_2 6 rfl rfl)
theorem dX0_mostBy_55 : decode cX0_mostBy 55 = .ok (.goto (-47), 3) := dk_167 255 209 (dk_at dksX0_mostBy_2 9 rfl rfl)
theorem dX0_mostBy_58 : decode cX0_mostBy 58 = .ok (.iload_n 3, 1) := dk_29 (dk_at dksX0_mostBy_2 12 rfl rfl)
theorem dX0_mostBy_59 : decode cX0_mostBy 59 = .ok (.iload 4, 2) := dk_21 4 (dk_at dksX0_mostBy_2 13 rfl rfl)
theorem dX0_mostBy_61 : decode cX0_mostBy 61 = .ok (.invokestatic 7, 3) := dk_184 0 7 (dk_at dksX0_mostBy_2 15 rfl rfl)
theorem dX0_mostBy_64 : decode cX0_mostBy 64 = .ok (.ireturn, 1) := dk_172 (dk_at dksX0_mostBy_2 18 rfl rfl)
abbrev cX0_image : ByteArray := prog_1_method_72_code
def yX0_image : MethodName := ⟨RX0, "image", "(I)I"⟩
def dkwX0_image_1 : List UInt8 := [181, 0, 115, 42, 180, 0, 28, 180, 0, 229, 172]
abbrev dktX0_image_1 : List UInt8 := dkwX0_image_1 ++ []
def dkwX0_image_0 : List UInt8 := [27, 3, 5, 184, 0, 145, 154, 0, 5, 2, 172, 42, 180, 0, 98, 27, 50, 42, 180, 0, 28, 184, 0, 129]
abbrev dktX0_image_0 : List UInt8 := dkwX0_image_0 ++ dktX0_image_1
theorem dksX0_image_0 : cX0_image.data.toList.drop 0 = dktX0_image_0 := by decide +kernel
theorem dksX0_image_1 : cX0_image.data.toList.drop 24 = dktX0_image_1 := dk_seg dksX0_image_0 24 rfl rfl
theorem dX0_image_0 : decode cX0_image 0 = .ok (.iload_n 1, 1) := dk_27 (dk_at dksX0_image_0 0 rfl rfl)
theorem dX0_image_1 : decode cX0_image 1 = .ok (.iconst 0, 1) := dk_3 (dk_at dksX0_image_0 1 rfl rfl)
theorem dX0_image_2 : decode cX0_image 2 = .ok (.iconst 2, 1) := dk_5 (dk_at dksX0_image_0 2 rfl rfl)
theorem dX0_image_3 : decode cX0_image 3 = .ok (.invokestatic 145, 3) := dk_184 0 145 (dk_at dksX0_image_0 3 rfl rfl)
theorem dX0_image_6 : decode cX0_image 6 = .ok (.ifCond .ne 5, 3) := dk_154 0 5 (dk_at dksX0_image_0 6 rfl rfl)
theorem dX0_image_9 : decode cX0_image 9 = .ok (.iconst (-1), 1) := dk_2 (dk_at dksX0_image_0 9 rfl rfl)
theorem dX0_image_10 : decode cX0_image 10 = .ok (.ireturn, 1) := dk_172 (dk_at dksX0_image_0 10 rfl rfl)
theorem dX0_image_11 : decode cX0_image 11 = .ok (.aload_n 0, 1) := dk_42 (dk_at dksX0_image_0 11 rfl rfl)
theorem dX0_image_12 : decode cX0_image 12 = .ok (.getfield 98, 3) := dk_180 0 98 (dk_at dksX0_image_0 12 rfl rfl)
theorem dX0_image_15 : decode cX0_image 15 = .ok (.iload_n 1, 1) := dk_27 (dk_at dksX0_image_0 15 rfl rfl)
theorem dX0_image_16 : decode cX0_image 16 = .ok (.aaload, 1) := dk_50 (dk_at dksX0_image_0 16 rfl rfl)
theorem dX0_image_17 : decode cX0_image 17 = .ok (.aload_n 0, 1) := dk_42 (dk_at dksX0_image_0 17 rfl rfl)
theorem dX0_image_18 : decode cX0_image 18 = .ok (.getfield 28, 3) := dk_180 0 28 (dk_at dksX0_image_0 18 rfl rfl)
theorem dX0_image_21 : decode cX0_image 21 = .ok (.invokestatic 129, 3) := dk_184 0 129 (dk_at dksX0_image_0 21 rfl rfl)
theorem dX0_image_24 : decode cX0_image 24 = .ok (.putfield 115, 3) := dk_181 0 115 (dk_at dksX0_image_1 0 rfl rfl)
theorem dX0_image_27 : decode cX0_image 27 = .ok (.aload_n 0, 1) := dk_42 (dk_at dksX0_image_1 3 rfl rfl)
theorem dX0_image_28 : decode cX0_image 28 = .ok (.getfield 28, 3) := dk_180 0 28 (dk_at dksX0_image_1 4 rfl rfl)
theorem dX0_image_31 : decode cX0_image 31 = .ok (.getfield 229, 3) := dk_180 0 229 (dk_at dksX0_image_1 7 rfl rfl)
theorem dX0_image_34 : decode cX0_image 34 = .ok (.ireturn, 1) := dk_172 (dk_at dksX0_image_1 10 rfl rfl)
abbrev cX0_back : ByteArray := prog_1_method_73_code
def yX0_back : MethodName := ⟨RX0, "back", "(I)I"⟩
def dkwX0_back_2 : List UInt8 := [180, 0, 57, 182, 0, 109, 42, 180, 0, 28, 180, 0, 229, 172]
abbrev dktX0_back_2 : List UInt8 := dkwX0_back_2 ++ []
def dkwX0_back_1 : List UInt8 := [180, 0, 28, 42, 180, 0, 98, 27, 50, 180, 0, 115, 182, 0, 118, 42, 180, 0, 53, 182, 0, 109, 42]
abbrev dktX0_back_1 : List UInt8 := dkwX0_back_1 ++ dktX0_back_2
def dkwX0_back_0 : List UInt8 := [27, 3, 5, 184, 0, 145, 153, 0, 15, 42, 180, 0, 98, 27, 50, 180, 0, 115, 199, 0, 5, 2, 172, 42]
abbrev dktX0_back_0 : List UInt8 := dkwX0_back_0 ++ dktX0_back_1
theorem dksX0_back_0 : cX0_back.data.toList.drop 0 = dktX0_back_0 := by decide +kernel
theorem dksX0_back_1 : cX0_back.data.toList.drop 24 = dktX0_back_1 := dk_seg dksX0_back_0 24 rfl rfl
theorem dksX0_back_2 : cX0_back.data.toList.drop 47 = dktX0_back_2 := dk_seg dksX0_back_1 23 rfl rfl
theorem dX0_back_0 : decode cX0_back 0 = .ok (.iload_n 1, 1) := dk_27 (dk_at dksX0_back_0 0 rfl rfl)
theorem dX0_back_1 : decode cX0_back 1 = .ok (.iconst 0, 1) := dk_3 (dk_at dksX0_back_0 1 rfl rfl)
theorem dX0_back_2 : decode cX0_back 2 = .ok (.iconst 2, 1) := dk_5 (dk_at dksX0_back_0 2 rfl rfl)
theorem dX0_back_3 : decode cX0_back 3 = .ok (.invokestatic 145, 3) := dk_184 0 145 (dk_at dksX0_back_0 3 rfl rfl)
theorem dX0_back_6 : decode cX0_back 6 = .ok (.ifCond .eq 15, 3) := dk_153 0 15 (dk_at dksX0_back_0 6 rfl rfl)
theorem dX0_back_9 : decode cX0_back 9 = .ok (.aload_n 0, 1) := dk_42 (dk_at dksX0_back_0 9 rfl rfl)
theorem dX0_back_10 : decode cX0_back 10 = .ok (.getfield 98, 3) := dk_180 0 98 (dk_at dksX0_back_0 10 rfl rfl)
theorem dX0_back_13 : decode cX0_back 13 = .ok (.iload_n 1, 1) := dk_27 (dk_at dksX0_back_0 13 rfl rfl)
theorem dX0_back_14 : decode cX0_back 14 = .ok (.aaload, 1) := dk_50 (dk_at dksX0_back_0 14 rfl rfl)
theorem dX0_back_15 : decode cX0_back 15 = .ok (.getfield 115, 3) := dk_180 0 115 (dk_at dksX0_back_0 15 rfl rfl)
theorem dX0_back_18 : decode cX0_back 18 = .ok (.ifnonnull 5, 3) := dk_199 0 5 (dk_at dksX0_back_0 18 rfl rfl)
theorem dX0_back_21 : decode cX0_back 21 = .ok (.iconst (-1), 1) := dk_2 (dk_at dksX0_back_0 21 rfl rfl)
theorem dX0_back_22 : decode cX0_back 22 = .ok (.ireturn, 1) := dk_172 (dk_at dksX0_back_0 22 rfl rfl)
theorem dX0_back_23 : decode cX0_back 23 = .ok (.aload_n 0, 1) := dk_42 (dk_at dksX0_back_0 23 rfl rfl)
theorem dX0_back_24 : decode cX0_back 24 = .ok (.getfield 28, 3) := dk_180 0 28 (dk_at dksX0_back_1 0 rfl rfl)
theorem dX0_back_27 : decode cX0_back 27 = .ok (.aload_n 0, 1) := dk_42 (dk_at dksX0_back_1 3 rfl rfl)
theorem dX0_back_28 : decode cX0_back 28 = .ok (.getfield 98, 3) := dk_180 0 98 (dk_at dksX0_back_1 4 rfl rfl)
theorem dX0_back_31 : decode cX0_back 31 = .ok (.iload_n 1, 1) := dk_27 (dk_at dksX0_back_1 7 rfl rfl)
theorem dX0_back_32 : decode cX0_back 32 = .ok (.aaload, 1) := dk_50 (dk_at dksX0_back_1 8 rfl rfl)
theorem dX0_back_33 : decode cX0_back 33 = .ok (.getfield 115, 3) := dk_180 0 115 (dk_at dksX0_back_1 9 rfl rfl)
theorem dX0_back_36 : decode cX0_back 36 = .ok (.invokevirtual 118, 3) := dk_182 0 118 (dk_at dksX0_back_1 12 rfl rfl)
theorem dX0_back_39 : decode cX0_back 39 = .ok (.aload_n 0, 1) := dk_42 (dk_at dksX0_back_1 15 rfl rfl)
theorem dX0_back_40 : decode cX0_back 40 = .ok (.getfield 53, 3) := dk_180 0 53 (dk_at dksX0_back_1 16 rfl rfl)
theorem dX0_back_43 : decode cX0_back 43 = .ok (.invokevirtual 109, 3) := dk_182 0 109 (dk_at dksX0_back_1 19 rfl rfl)
theorem dX0_back_46 : decode cX0_back 46 = .ok (.aload_n 0, 1) := dk_42 (dk_at dksX0_back_1 22 rfl rfl)
theorem dX0_back_47 : decode cX0_back 47 = .ok (.getfield 57, 3) := dk_180 0 57 (dk_at dksX0_back_2 0 rfl rfl)
theorem dX0_back_50 : decode cX0_back 50 = .ok (.invokevirtual 109, 3) := dk_182 0 109 (dk_at dksX0_back_2 3 rfl rfl)
theorem dX0_back_53 : decode cX0_back 53 = .ok (.aload_n 0, 1) := dk_42 (dk_at dksX0_back_2 6 rfl rfl)
theorem dX0_back_54 : decode cX0_back 54 = .ok (.getfield 28, 3) := dk_180 0 28 (dk_at dksX0_back_2 7 rfl rfl)
theorem dX0_back_57 : decode cX0_back 57 = .ok (.getfield 229, 3) := dk_180 0 229 (dk_at dksX0_back_2 10 rfl rfl)
theorem dX0_back_60 : decode cX0_back 60 = .ok (.ireturn, 1) := dk_172 (dk_at dksX0_back_2 13 rfl rfl)
abbrev cX0_about : ByteArray := prog_1_method_74_code
def yX0_about : MethodName := ⟨RX0, "about", "(I)I"⟩
def dkwX0_about_6 : List UInt8 := [180, 0, 112, 172, 2, 172]
abbrev dktX0_about_6 : List UInt8 := dkwX0_about_6 ++ []
def dkwX0_about_5 : List UInt8 := [182, 0, 121, 172, 42, 180, 1, 86, 172, 42, 180, 0, 151, 172, 42, 180, 0, 19, 180, 1, 137, 172, 42]
abbrev dktX0_about_5 : List UInt8 := dkwX0_about_5 ++ dktX0_about_6
def dkwX0_about_4 : List UInt8 := [180, 1, 134, 172, 42, 180, 0, 53, 182, 0, 121, 172, 42, 180, 0, 57, 182, 0, 121, 172, 42, 180, 0, 86]
abbrev dktX0_about_4 : List UInt8 := dkwX0_about_4 ++ dktX0_about_5
def dkwX0_about_3 : List UInt8 := [180, 1, 50, 172, 42, 180, 0, 19, 180, 1, 59, 172, 42, 180, 0, 28, 180, 0, 229, 172, 42, 180, 0, 28]
abbrev dktX0_about_3 : List UInt8 := dkwX0_about_3 ++ dktX0_about_4
def dkwX0_about_2 : List UInt8 := [42, 182, 0, 143, 172, 42, 182, 0, 149, 172, 42, 180, 0, 19, 180, 1, 131, 172, 42, 180, 0, 19]
abbrev dktX0_about_2 : List UInt8 := dkwX0_about_2 ++ dktX0_about_3
def dkwX0_about_1 : List UInt8 := [170, 0, 0, 0, 0, 0, 168, 0, 0, 0, 0, 0, 0, 0, 13, 0, 0, 0, 71, 0, 0, 0, 76, 0, 0, 0, 81, 0, 0, 0, 89, 0, 0, 0, 97, 0, 0, 0, 105, 0, 0, 0, 113, 0, 0, 0, 121, 0, 0, 0, 129, 0, 0, 0, 137, 0, 0, 0, 145, 0, 0, 0, 150, 0, 0, 0, 155, 0, 0, 0, 163]
abbrev dktX0_about_1 : List UInt8 := dkwX0_about_1 ++ dktX0_about_2
def dkwX0_about_0 : List UInt8 := [27]
abbrev dktX0_about_0 : List UInt8 := dkwX0_about_0 ++ dktX0_about_1
theorem dksX0_about_0 : cX0_about.data.toList.drop 0 = dktX0_about_0 := by decide +kernel
theorem dksX0_about_1 : cX0_about.data.toList.drop 1 = dktX0_about_1 := dk_seg dksX0_about_0 1 rfl rfl
theorem dksX0_about_2 : cX0_about.data.toList.drop 72 = dktX0_about_2 := dk_seg dksX0_about_1 71 rfl rfl
theorem dksX0_about_3 : cX0_about.data.toList.drop 94 = dktX0_about_3 := dk_seg dksX0_about_2 22 rfl rfl
theorem dksX0_about_4 : cX0_about.data.toList.drop 118 = dktX0_about_4 := dk_seg dksX0_about_3 24 rfl rfl
theorem dksX0_about_5 : cX0_about.data.toList.drop 142 = dktX0_about_5 := dk_seg dksX0_about_4 24 rfl rfl
theorem dksX0_about_6 : cX0_about.data.toList.drop 165 = dktX0_about_6 := dk_seg dksX0_about_5 23 rfl rfl
theorem dX0_about_0 : decode cX0_about 0 = .ok (.iload_n 1, 1) := dk_27 (dk_at dksX0_about_0 0 rfl rfl)
theorem dX0_about_1 : decode cX0_about 1 = .ok (.tableswitch 168 0 13 #[71, 76, 81, 89, 97, 105, 113, 121, 129, 137, 145, 150, 155, 163], 71) := by decide +kernel
theorem dX0_about_72 : decode cX0_about 72 = .ok (.aload_n 0, 1) := dk_42 (dk_at dksX0_about_2 0 rfl rfl)
theorem dX0_about_73 : decode cX0_about 73 = .ok (.invokevirtual 143, 3) := dk_182 0 143 (dk_at dksX0_about_2 1 rfl rfl)
theorem dX0_about_76 : decode cX0_about 76 = .ok (.ireturn, 1) := dk_172 (dk_at dksX0_about_2 4 rfl rfl)
theorem dX0_about_77 : decode cX0_about 77 = .ok (.aload_n 0, 1) := dk_42 (dk_at dksX0_about_2 5 rfl rfl)
theorem dX0_about_78 : decode cX0_about 78 = .ok (.invokevirtual 149, 3) := dk_182 0 149 (dk_at dksX0_about_2 6 rfl rfl)
theorem dX0_about_81 : decode cX0_about 81 = .ok (.ireturn, 1) := dk_172 (dk_at dksX0_about_2 9 rfl rfl)
theorem dX0_about_82 : decode cX0_about 82 = .ok (.aload_n 0, 1) := dk_42 (dk_at dksX0_about_2 10 rfl rfl)
theorem dX0_about_83 : decode cX0_about 83 = .ok (.getfield 19, 3) := dk_180 0 19 (dk_at dksX0_about_2 11 rfl rfl)
theorem dX0_about_86 : decode cX0_about 86 = .ok (.getfield 387, 3) := dk_180 1 131 (dk_at dksX0_about_2 14 rfl rfl)
theorem dX0_about_89 : decode cX0_about 89 = .ok (.ireturn, 1) := dk_172 (dk_at dksX0_about_2 17 rfl rfl)
theorem dX0_about_90 : decode cX0_about 90 = .ok (.aload_n 0, 1) := dk_42 (dk_at dksX0_about_2 18 rfl rfl)
theorem dX0_about_91 : decode cX0_about 91 = .ok (.getfield 19, 3) := dk_180 0 19 (dk_at dksX0_about_2 19 rfl rfl)
theorem dX0_about_94 : decode cX0_about 94 = .ok (.getfield 306, 3) := dk_180 1 50 (dk_at dksX0_about_3 0 rfl rfl)
theorem dX0_about_97 : decode cX0_about 97 = .ok (.ireturn, 1) := dk_172 (dk_at dksX0_about_3 3 rfl rfl)
theorem dX0_about_98 : decode cX0_about 98 = .ok (.aload_n 0, 1) := dk_42 (dk_at dksX0_about_3 4 rfl rfl)
theorem dX0_about_99 : decode cX0_about 99 = .ok (.getfield 19, 3) := dk_180 0 19 (dk_at dksX0_about_3 5 rfl rfl)
theorem dX0_about_102 : decode cX0_about 102 = .ok (.getfield 315, 3) := dk_180 1 59 (dk_at dksX0_about_3 8 rfl rfl)
theorem dX0_about_105 : decode cX0_about 105 = .ok (.ireturn, 1) := dk_172 (dk_at dksX0_about_3 11 rfl rfl)
theorem dX0_about_106 : decode cX0_about 106 = .ok (.aload_n 0, 1) := dk_42 (dk_at dksX0_about_3 12 rfl rfl)
theorem dX0_about_107 : decode cX0_about 107 = .ok (.getfield 28, 3) := dk_180 0 28 (dk_at dksX0_about_3 13 rfl rfl)
theorem dX0_about_110 : decode cX0_about 110 = .ok (.getfield 229, 3) := dk_180 0 229 (dk_at dksX0_about_3 16 rfl rfl)
theorem dX0_about_113 : decode cX0_about 113 = .ok (.ireturn, 1) := dk_172 (dk_at dksX0_about_3 19 rfl rfl)
theorem dX0_about_114 : decode cX0_about 114 = .ok (.aload_n 0, 1) := dk_42 (dk_at dksX0_about_3 20 rfl rfl)
theorem dX0_about_115 : decode cX0_about 115 = .ok (.getfield 28, 3) := dk_180 0 28 (dk_at dksX0_about_3 21 rfl rfl)
theorem dX0_about_118 : decode cX0_about 118 = .ok (.getfield 390, 3) := dk_180 1 134 (dk_at dksX0_about_4 0 rfl rfl)
theorem dX0_about_121 : decode cX0_about 121 = .ok (.ireturn, 1) := dk_172 (dk_at dksX0_about_4 3 rfl rfl)
theorem dX0_about_122 : decode cX0_about 122 = .ok (.aload_n 0, 1) := dk_42 (dk_at dksX0_about_4 4 rfl rfl)
theorem dX0_about_123 : decode cX0_about 123 = .ok (.getfield 53, 3) := dk_180 0 53 (dk_at dksX0_about_4 5 rfl rfl)
theorem dX0_about_126 : decode cX0_about 126 = .ok (.invokevirtual 121, 3) := dk_182 0 121 (dk_at dksX0_about_4 8 rfl rfl)
theorem dX0_about_129 : decode cX0_about 129 = .ok (.ireturn, 1) := dk_172 (dk_at dksX0_about_4 11 rfl rfl)
theorem dX0_about_130 : decode cX0_about 130 = .ok (.aload_n 0, 1) := dk_42 (dk_at dksX0_about_4 12 rfl rfl)
theorem dX0_about_131 : decode cX0_about 131 = .ok (.getfield 57, 3) := dk_180 0 57 (dk_at dksX0_about_4 13 rfl rfl)
theorem dX0_about_134 : decode cX0_about 134 = .ok (.invokevirtual 121, 3) := dk_182 0 121 (dk_at dksX0_about_4 16 rfl rfl)
theorem dX0_about_137 : decode cX0_about 137 = .ok (.ireturn, 1) := dk_172 (dk_at dksX0_about_4 19 rfl rfl)
theorem dX0_about_138 : decode cX0_about 138 = .ok (.aload_n 0, 1) := dk_42 (dk_at dksX0_about_4 20 rfl rfl)
theorem dX0_about_139 : decode cX0_about 139 = .ok (.getfield 86, 3) := dk_180 0 86 (dk_at dksX0_about_4 21 rfl rfl)
theorem dX0_about_142 : decode cX0_about 142 = .ok (.invokevirtual 121, 3) := dk_182 0 121 (dk_at dksX0_about_5 0 rfl rfl)
theorem dX0_about_145 : decode cX0_about 145 = .ok (.ireturn, 1) := dk_172 (dk_at dksX0_about_5 3 rfl rfl)
theorem dX0_about_146 : decode cX0_about 146 = .ok (.aload_n 0, 1) := dk_42 (dk_at dksX0_about_5 4 rfl rfl)
theorem dX0_about_147 : decode cX0_about 147 = .ok (.getfield 342, 3) := dk_180 1 86 (dk_at dksX0_about_5 5 rfl rfl)
theorem dX0_about_150 : decode cX0_about 150 = .ok (.ireturn, 1) := dk_172 (dk_at dksX0_about_5 8 rfl rfl)
theorem dX0_about_151 : decode cX0_about 151 = .ok (.aload_n 0, 1) := dk_42 (dk_at dksX0_about_5 9 rfl rfl)
theorem dX0_about_152 : decode cX0_about 152 = .ok (.getfield 151, 3) := dk_180 0 151 (dk_at dksX0_about_5 10 rfl rfl)
theorem dX0_about_155 : decode cX0_about 155 = .ok (.ireturn, 1) := dk_172 (dk_at dksX0_about_5 13 rfl rfl)
theorem dX0_about_156 : decode cX0_about 156 = .ok (.aload_n 0, 1) := dk_42 (dk_at dksX0_about_5 14 rfl rfl)
theorem dX0_about_157 : decode cX0_about 157 = .ok (.getfield 19, 3) := dk_180 0 19 (dk_at dksX0_about_5 15 rfl rfl)
theorem dX0_about_160 : decode cX0_about 160 = .ok (.getfield 393, 3) := dk_180 1 137 (dk_at dksX0_about_5 18 rfl rfl)
theorem dX0_about_163 : decode cX0_about 163 = .ok (.ireturn, 1) := dk_172 (dk_at dksX0_about_5 21 rfl rfl)
theorem dX0_about_164 : decode cX0_about 164 = .ok (.aload_n 0, 1) := dk_42 (dk_at dksX0_about_5 22 rfl rfl)
theorem dX0_about_165 : decode cX0_about 165 = .ok (.getfield 112, 3) := dk_180 0 112 (dk_at dksX0_about_6 0 rfl rfl)
theorem dX0_about_168 : decode cX0_about 168 = .ok (.ireturn, 1) := dk_172 (dk_at dksX0_about_6 3 rfl rfl)
theorem dX0_about_169 : decode cX0_about 169 = .ok (.iconst (-1), 1) := dk_2 (dk_at dksX0_about_6 4 rfl rfl)
theorem dX0_about_170 : decode cX0_about 170 = .ok (.ireturn, 1) := dk_172 (dk_at dksX0_about_6 5 rfl rfl)
