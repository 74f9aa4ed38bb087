set_option maxRecDepth 100000
abbrev cX8_init : ByteArray := prog_20_method_1_code
def yX8_init : MethodName := ⟨RX8, "<init>", "()V"⟩
def dkwX8_init_14 : List UInt8 := [42, 16, 117, 188, 10, 181, 0, 136, 177]
abbrev dktX8_init_14 : List UInt8 := dkwX8_init_14 ++ []
def dkwX8_init_13 : List UInt8 := [42, 17, 2, 139, 188, 4, 181, 0, 127, 42, 16, 31, 188, 4, 181, 0, 130, 42, 6, 188, 4, 181, 0, 133]
abbrev dktX8_init_13 : List UInt8 := dkwX8_init_13 ++ dktX8_init_14
def dkwX8_init_12 : List UInt8 := [42, 16, 30, 188, 10, 181, 0, 117, 42, 16, 30, 188, 10, 181, 0, 120, 42, 16, 30, 188, 4, 181, 0, 123]
abbrev dktX8_init_12 : List UInt8 := dkwX8_init_12 ++ dktX8_init_13
def dkwX8_init_11 : List UInt8 := [42, 16, 36, 188, 10, 181, 0, 108, 42, 16, 64, 188, 10, 181, 0, 111, 42, 16, 30, 188, 10, 181, 0, 114]
abbrev dktX8_init_11 : List UInt8 := dkwX8_init_11 ++ dktX8_init_12
def dkwX8_init_10 : List UInt8 := [17, 6, 24, 188, 10, 181, 0, 99, 42, 16, 6, 188, 10, 181, 0, 102, 42, 16, 6, 188, 10, 181, 0, 105]
abbrev dktX8_init_10 : List UInt8 := dkwX8_init_10 ++ dktX8_init_11
def dkwX8_init_9 : List UInt8 := [42, 5, 181, 0, 90, 42, 16, 39, 188, 10, 181, 0, 93, 42, 16, 39, 188, 10, 181, 0, 96, 42]
abbrev dktX8_init_9 : List UInt8 := dkwX8_init_9 ++ dktX8_init_10
def dkwX8_init_8 : List UInt8 := [181, 0, 78, 42, 16, 6, 188, 10, 181, 0, 81, 42, 16, 10, 181, 0, 84, 42, 17, 0, 150, 181, 0, 87]
abbrev dktX8_init_8 : List UInt8 := dkwX8_init_8 ++ dktX8_init_9
def dkwX8_init_7 : List UInt8 := [181, 0, 69, 42, 16, 6, 188, 10, 181, 0, 72, 42, 16, 6, 188, 10, 181, 0, 75, 42, 16, 6, 188, 10]
abbrev dktX8_init_7 : List UInt8 := dkwX8_init_7 ++ dktX8_init_8
def dkwX8_init_6 : List UInt8 := [181, 0, 60, 42, 16, 6, 188, 10, 181, 0, 63, 42, 16, 6, 188, 10, 181, 0, 66, 42, 16, 6, 188, 10]
abbrev dktX8_init_6 : List UInt8 := dkwX8_init_6 ++ dktX8_init_7
def dkwX8_init_5 : List UInt8 := [181, 0, 51, 42, 16, 6, 188, 10, 181, 0, 54, 42, 16, 6, 188, 10, 181, 0, 57, 42, 16, 6, 188, 10]
abbrev dktX8_init_5 : List UInt8 := dkwX8_init_5 ++ dktX8_init_6
def dkwX8_init_4 : List UInt8 := [181, 0, 42, 42, 16, 6, 188, 10, 181, 0, 45, 42, 16, 6, 188, 10, 181, 0, 48, 42, 16, 6, 188, 10]
abbrev dktX8_init_4 : List UInt8 := dkwX8_init_4 ++ dktX8_init_5
def dkwX8_init_3 : List UInt8 := [181, 0, 33, 42, 16, 64, 188, 10, 181, 0, 36, 42, 16, 6, 188, 10, 181, 0, 39, 42, 16, 6, 188, 10]
abbrev dktX8_init_3 : List UInt8 := dkwX8_init_3 ++ dktX8_init_4
def dkwX8_init_2 : List UInt8 := [17, 1, 64, 188, 10, 181, 0, 27, 42, 17, 1, 64, 188, 10, 181, 0, 30, 42, 17, 0, 160, 188, 10]
abbrev dktX8_init_2 : List UInt8 := dkwX8_init_2 ++ dktX8_init_3
def dkwX8_init_1 : List UInt8 := [181, 0, 17, 42, 17, 1, 64, 188, 10, 181, 0, 21, 42, 17, 1, 64, 188, 10, 181, 0, 24, 42]
abbrev dktX8_init_1 : List UInt8 := dkwX8_init_1 ++ dktX8_init_2
def dkwX8_init_0 : List UInt8 := [42, 183, 0, 1, 42, 17, 6, 64, 188, 10, 181, 0, 7, 42, 2, 181, 0, 13, 42, 16, 12, 188, 11]
abbrev dktX8_init_0 : List UInt8 := dkwX8_init_0 ++ dktX8_init_1
theorem dksX8_init_0 : cX8_init.data.toList.drop 0 = dktX8_init_0 := by decide +kernel
theorem dksX8_init_1 : cX8_init.data.toList.drop 23 = dktX8_init_1 := dk_seg dksX8_init_0 23 rfl rfl
theorem dksX8_init_2 : cX8_init.data.toList.drop 45 = dktX8_init_2 := dk_seg dksX8_init_1 22 rfl rfl
theorem dksX8_init_3 : cX8_init.data.toList.drop 68 = dktX8_init_3 := dk_seg dksX8_init_2 23 rfl rfl
theorem dksX8_init_4 : cX8_init.data.toList.drop 92 = dktX8_init_4 := dk_seg dksX8_init_3 24 rfl rfl
theorem dksX8_init_5 : cX8_init.data.toList.drop 116 = dktX8_init_5 := dk_seg dksX8_init_4 24 rfl rfl
theorem dksX8_init_6 : cX8_init.data.toList.drop 140 = dktX8_init_6 := dk_seg dksX8_init_5 24 rfl rfl
theorem dksX8_init_7 : cX8_init.data.toList.drop 164 = dktX8_init_7 := dk_seg dksX8_init_6 24 rfl rfl
theorem dksX8_init_8 : cX8_init.data.toList.drop 188 = dktX8_init_8 := dk_seg dksX8_init_7 24 rfl rfl
theorem dksX8_init_9 : cX8_init.data.toList.drop 212 = dktX8_init_9 := dk_seg dksX8_init_8 24 rfl rfl
theorem dksX8_init_10 : cX8_init.data.toList.drop 234 = dktX8_init_10 := dk_seg dksX8_init_9 22 rfl rfl
theorem dksX8_init_11 : cX8_init.data.toList.drop 258 = dktX8_init_11 := dk_seg dksX8_init_10 24 rfl rfl
theorem dksX8_init_12 : cX8_init.data.toList.drop 282 = dktX8_init_12 := dk_seg dksX8_init_11 24 rfl rfl
theorem dksX8_init_13 : cX8_init.data.toList.drop 306 = dktX8_init_13 := dk_seg dksX8_init_12 24 rfl rfl
theorem dksX8_init_14 : cX8_init.data.toList.drop 330 = dktX8_init_14 := dk_seg dksX8_init_13 24 rfl rfl
theorem dX8_init_0 : decode cX8_init 0 = .ok (.aload_n 0, 1) := dk_42 (dk_at dksX8_init_0 0 rfl rfl)
theorem dX8_init_1 : decode cX8_init 1 = .ok (.invokespecial 1, 3) := dk_183 0 1 (dk_at dksX8_init_0 1 rfl rfl)
theorem dX8_init_4 : decode cX8_init 4 = .ok (.aload_n 0, 1) := dk_42 (dk_at dksX8_init_0 4 rfl rfl)
theorem dX8_init_5 : decode cX8_init 5 = .ok (.sipush 1600, 3) := dk_17 6 64 (dk_at dksX8_init_0 5 rfl rfl)
theorem dX8_init_8 : decode cX8_init 8 = .ok (.newarray .int, 2) := dk_188_10 (dk_at dksX8_init_0 8 rfl rfl)
theorem dX8_init_10 : decode cX8_init 10 = .ok (.putfield 7, 3) := dk_181 0 7 (dk_at dksX8_init_0 10 rfl rfl)
theorem dX8_init_13 : decode cX8_init 13 = .ok (.aload_n 0, 1) := dk_42 (dk_at dksX8_init_0 13 rfl rfl)
theorem dX8_init_14 : decode cX8_init 14 = .ok (.iconst (-1), 1) := dk_2 (dk_at dksX8_init_0 14 rfl rfl)
theorem dX8_init_15 : decode cX8_init 15 = .ok (.putfield 13, 3) := dk_181 0 13 (dk_at dksX8_init_0 15 rfl rfl)
theorem dX8_init_18 : decode cX8_init 18 = .ok (.aload_n 0, 1) := dk_42 (dk_at dksX8_init_0 18 rfl rfl)
theorem dX8_init_19 : decode cX8_init 19 = .ok (.bipush 12, 2) := dk_16 12 (dk_at dksX8_init_0 19 rfl rfl)
theorem dX8_init_21 : decode cX8_init 21 = .ok (.newarray .long, 2) := dk_188_11 (dk_at dksX8_init_0 21 rfl rfl)
theorem dX8_init_23 : decode cX8_init 23 = .ok (.putfield 17, 3) := dk_181 0 17 (dk_at dksX8_init_1 0 rfl rfl)
theorem dX8_init_26 : decode cX8_init 26 = .ok (.aload_n 0, 1) := dk_42 (dk_at dksX8_init_1 3 rfl rfl)
theorem dX8_init_27 : decode cX8_init 27 = .ok (.sipush 320, 3) := dk_17 1 64 (dk_at dksX8_init_1 4 rfl rfl)
theorem dX8_init_30 : decode cX8_init 30 = .ok (.newarray .int, 2) := dk_188_10 (dk_at dksX8_init_1 7 rfl rfl)
theorem dX8_init_32 : decode cX8_init 32 = .ok (.putfield 21, 3) := dk_181 0 21 (dk_at dksX8_init_1 9 rfl rfl)
theorem dX8_init_35 : decode cX8_init 35 = .ok (.aload_n 0, 1) := dk_42 (dk_at dksX8_init_1 12 rfl rfl)
theorem dX8_init_36 : decode cX8_init 36 = .ok (.sipush 320, 3) := dk_17 1 64 (dk_at dksX8_init_1 13 rfl rfl)
theorem dX8_init_39 : decode cX8_init 39 = .ok (.newarray .int, 2) := dk_188_10 (dk_at dksX8_init_1 16 rfl rfl)
theorem dX8_init_41 : decode cX8_init 41 = .ok (.putfield 24, 3) := dk_181 0 24 (dk_at dksX8_init_1 18 rfl rfl)
theorem dX8_init_44 : decode cX8_init 44 = .ok (.aload_n 0, 1) := dk_42 (dk_at dksX8_init_1 21 rfl rfl)
theorem dX8_init_45 : decode cX8_init 45 = .ok (.sipush 320, 3) := dk_17 1 64 (dk_at dksX8_init_2 0 rfl rfl)
theorem dX8_init_48 : decode cX8_init 48 = .ok (.newarray .int, 2) := dk_188_10 (dk_at dksX8_init_2 3 rfl rfl)
theorem dX8_init_50 : decode cX8_init 50 = .ok (.putfield 27, 3) := dk_181 0 27 (dk_at dksX8_init_2 5 rfl rfl)
theorem dX8_init_53 : decode cX8_init 53 = .ok (.aload_n 0, 1) := dk_42 (dk_at dksX8_init_2 8 rfl rfl)
theorem dX8_init_54 : decode cX8_init 54 = .ok (.sipush 320, 3) := dk_17 1 64 (dk_at dksX8_init_2 9 rfl rfl)
theorem dX8_init_57 : decode cX8_init 57 = .ok (.newarray .int, 2) := dk_188_10 (dk_at dksX8_init_2 12 rfl rfl)
theorem dX8_init_59 : decode cX8_init 59 = .ok (.putfield 30, 3) := dk_181 0 30 (dk_at dksX8_init_2 14 rfl rfl)
theorem dX8_init_62 : decode cX8_init 62 = .ok (.aload_n 0, 1) := dk_42 (dk_at dksX8_init_2 17 rfl rfl)
theorem dX8_init_63 : decode cX8_init 63 = .ok (.sipush 160, 3) := dk_17 0 160 (dk_at dksX8_init_2 18 rfl rfl)
theorem dX8_init_66 : decode cX8_init 66 = .ok (.newarray .int, 2) := dk_188_10 (dk_at dksX8_init_2 21 rfl rfl)
theorem dX8_init_68 : decode cX8_init 68 = .ok (.putfield 33, 3) := dk_181 0 33 (dk_at dksX8_init_3 0 rfl rfl)
theorem dX8_init_71 : decode cX8_init 71 = .ok (.aload_n 0, 1) := dk_42 (dk_at dksX8_init_3 3 rfl rfl)
theorem dX8_init_72 : decode cX8_init 72 = .ok (.bipush 64, 2) := dk_16 64 (dk_at dksX8_init_3 4 rfl rfl)
theorem dX8_init_74 : decode cX8_init 74 = .ok (.newarray .int, 2) := dk_188_10 (dk_at dksX8_init_3 6 rfl rfl)
theorem dX8_init_76 : decode cX8_init 76 = .ok (.putfield 36, 3) := dk_181 0 36 (dk_at dksX8_init_3 8 rfl rfl)
theorem dX8_init_79 : decode cX8_init 79 = .ok (.aload_n 0, 1) := dk_42 (dk_at dksX8_init_3 11 rfl rfl)
theorem dX8_init_80 : decode cX8_init 80 = .ok (.bipush 6, 2) := dk_16 6 (dk_at dksX8_init_3 12 rfl rfl)
theorem dX8_init_82 : decode cX8_init 82 = .ok (.newarray .int, 2) := dk_188_10 (dk_at dksX8_init_3 14 rfl rfl)
theorem dX8_init_84 : decode cX8_init 84 = .ok (.putfield 39, 3) := dk_181 0 39 (dk_at dksX8_init_3 16 rfl rfl)
theorem dX8_init_87 : decode cX8_init 87 = .ok (.aload_n 0, 1) := dk_42 (dk_at dksX8_init_3 19 rfl rfl)
theorem dX8_init_88 : decode cX8_init 88 = .ok (.bipush 6, 2) := dk_16 6 (dk_at dksX8_init_3 20 rfl rfl)
theorem dX8_init_90 : decode cX8_init 90 = .ok (.newarray .int, 2) := dk_188_10 (dk_at dksX8_init_3 22 rfl rfl)
theorem dX8_init_92 : decode cX8_init 92 = .ok (.putfield 42, 3) := dk_181 0 42 (dk_at dksX8_init_4 0 rfl rfl)
theorem dX8_init_95 : decode cX8_init 95 = .ok (.aload_n 0, 1) := dk_42 (dk_at dksX8_init_4 3 rfl rfl)
theorem dX8_init_96 : decode cX8_init 96 = .ok (.bipush 6, 2) := dk_16 6 (dk_at dksX8_init_4 4 rfl rfl)
theorem dX8_init_98 : decode cX8_init 98 = .ok (.newarray .int, 2) := dk_188_10 (dk_at dksX8_init_4 6 rfl rfl)
theorem dX8_init_100 : decode cX8_init 100 = .ok (.putfield 45, 3) := dk_181 0 45 (dk_at dksX8_init_4 8 rfl rfl)
theorem dX8_init_103 : decode cX8_init 103 = .ok (.aload_n 0, 1) := dk_42 (dk_at dksX8_init_4 11 rfl rfl)
theorem dX8_init_104 : decode cX8_init 104 = .ok (.bipush 6, 2) := dk_16 6 (dk_at dksX8_init_4 12 rfl rfl)
theorem dX8_init_106 : decode cX8_init 106 = .ok (.newarray .int, 2) := dk_188_10 (dk_at dksX8_init_4 14 rfl rfl)
theorem dX8_init_108 : decode cX8_init 108 = .ok (.putfield 48, 3) := dk_181 0 48 (dk_at dksX8_init_4 16 rfl rfl)
theorem dX8_init_111 : decode cX8_init 111 = .ok (.aload_n 0, 1) := dk_42 (dk_at dksX8_init_4 19 rfl rfl)
theorem dX8_init_112 : decode cX8_init 112 = .ok (.bipush 6, 2) := dk_16 6 (dk_at dksX8_init_4 20 rfl rfl)
theorem dX8_init_114 : decode cX8_init 114 = .ok (.newarray .int, 2) := dk_188_10 (dk_at dksX8_init_4 22 rfl rfl)
theorem dX8_init_116 : decode cX8_init 116 = .ok (.putfield 51, 3) := dk_181 0 51 (dk_at dksX8_init_5 0 rfl rfl)
theorem dX8_init_119 : decode cX8_init 119 = .ok (.aload_n 0, 1) := dk_42 (dk_at dksX8_init_5 3 rfl rfl)
theorem dX8_init_120 : decode cX8_init 120 = .ok (.bipush 6, 2) := dk_16 6 (dk_at dksX8_init_5 4 rfl rfl)
theorem dX8_init_122 : decode cX8_init 122 = .ok (.newarray .int, 2) := dk_188_10 (dk_at dksX8_init_5 6 rfl rfl)
theorem dX8_init_124 : decode cX8_init 124 = .ok (.putfield 54, 3) := dk_181 0 54 (dk_at dksX8_init_5 8 rfl rfl)
theorem dX8_init_127 : decode cX8_init 127 = .ok (.aload_n 0, 1) := dk_42 (dk_at dksX8_init_5 11 rfl rfl)
theorem dX8_init_128 : decode cX8_init 128 = .ok (.bipush 6, 2) := dk_16 6 (dk_at dksX8_init_5 12 rfl rfl)
theorem dX8_init_130 : decode cX8_init 130 = .ok (.newarray .int, 2) := dk_188_10 (dk_at dksX8_init_5 14 rfl rfl)
theorem dX8_init_132 : decode cX8_init 132 = .ok (.putfield 57, 3) := dk_181 0 57 (dk_at dksX8_init_5 16 rfl rfl)
theorem dX8_init_135 : decode cX8_init 135 = .ok (.aload_n 0, 1) := dk_42 (dk_at dksX8_init_5 19 rfl rfl)
theorem dX8_init_136 : decode cX8_init 136 = .ok (.bipush 6, 2) := dk_16 6 (dk_at dksX8_init_5 20 rfl rfl)
theorem dX8_init_138 : decode cX8_init 138 = .ok (.newarray .int, 2) := dk_188_10 (dk_at dksX8_init_5 22 rfl rfl)
theorem dX8_init_140 : decode cX8_init 140 = .ok (.putfield 60, 3) := dk_181 0 60 (dk_at dksX8_init_6 0 rfl rfl)
theorem dX8_init_143 : decode cX8_init 143 = .ok (.aload_n 0, 1) := dk_42 (dk_at dksX8_init_6 3 rfl rfl)
theorem dX8_init_144 : decode cX8_init 144 = .ok (.bipush 6, 2) := dk_16 6 (dk_at dksX8_init_6 4 rfl rfl)
theorem dX8_init_146 : decode cX8_init 146 = .ok (.newarray .int, 2) := dk_188_10 (dk_at dksX8_init_6 6 rfl rfl)
theorem dX8_init_148 : decode cX8_init 148 = .ok (.putfield 63, 3) := dk_181 0 63 (dk_at dksX8_init_6 8 rfl rfl)
theorem dX8_init_151 : decode cX8_init 151 = .ok (.aload_n 0, 1) := dk_42 (dk_at dksX8_init_6 11 rfl rfl)
theorem dX8_init_152 : decode cX8_init 152 = .ok (.bipush 6, 2) := dk_16 6 (dk_at dksX8_init_6 12 rfl rfl)
theorem dX8_init_154 : decode cX8_init 154 = .ok (.newarray .int, 2) := dk_188_10 (dk_at dksX8_init_6 14 rfl rfl)
theorem dX8_init_156 : decode cX8_init 156 = .ok (.putfield 66, 3) := dk_181 0 66 (dk_at dksX8_init_6 16 rfl rfl)
theorem dX8_init_159 : decode cX8_init 159 = .ok (.aload_n 0, 1) := dk_42 (dk_at dksX8_init_6 19 rfl rfl)
theorem dX8_init_160 : decode cX8_init 160 = .ok (.bipush 6, 2) := dk_16 6 (dk_at dksX8_init_6 20 rfl rfl)
theorem dX8_init_162 : decode cX8_init 162 = .ok (.newarray .int, 2) := dk_188_10 (dk_at dksX8_init_6 22 rfl rfl)
theorem dX8_init_164 : decode cX8_init 164 = .ok (.putfield 69, 3) := dk_181 0 69 (dk_at dksX8_init_7 0 rfl rfl)
theorem dX8_init_167 : decode cX8_init 167 = .ok (.aload_n 0, 1) := dk_42 (dk_at dksX8_init_7 3 rfl rfl)
theorem dX8_init_168 : decode cX8_init 168 = .ok (.bipush 6, 2) := dk_16 6 (dk_at dksX8_init_7 4 rfl rfl)
theorem dX8_init_170 : decode cX8_init 170 = .ok (.newarray .int, 2) := dk_188_10 (dk_at dksX8_init_7 6 rfl rfl)
theorem dX8_init_172 : decode cX8_init 172 = .ok (.putfield 72, 3) := dk_181 0 72 (dk_at dksX8_init_7 8 rfl rfl)
theorem dX8_init_175 : decode cX8_init 175 = .ok (.aload_n 0, 1) := dk_42 (dk_at dksX8_init_7 11 rfl rfl)
theorem dX8_init_176 : decode cX8_init 176 = .ok (.bipush 6, 2) := dk_16 6 (dk_at dksX8_init_7 12 rfl rfl)
theorem dX8_init_178 : decode cX8_init 178 = .ok (.newarray .int, 2) := dk_188_10 (dk_at dksX8_init_7 14 rfl rfl)
theorem dX8_init_180 : decode cX8_init 180 = .ok (.putfield 75, 3) := dk_181 0 75 (dk_at dksX8_init_7 16 rfl rfl)
theorem dX8_init_183 : decode cX8_init 183 = .ok (.aload_n 0, 1) := dk_42 (dk_at dksX8_init_7 19 rfl rfl)
theorem dX8_init_184 : decode cX8_init 184 = .ok (.bipush 6, 2) := dk_16 6 (dk_at dksX8_init_7 20 rfl rfl)
theorem dX8_init_186 : decode cX8_init 186 = .ok (.newarray .int, 2) := dk_188_10 (dk_at dksX8_init_7 22 rfl rfl)
theorem dX8_init_188 : decode cX8_init 188 = .ok (.putfield 78, 3) := dk_181 0 78 (dk_at dksX8_init_8 0 rfl rfl)
theorem dX8_init_191 : decode cX8_init 191 = .ok (.aload_n 0, 1) := dk_42 (dk_at dksX8_init_8 3 rfl rfl)
theorem dX8_init_192 : decode cX8_init 192 = .ok (.bipush 6, 2) := dk_16 6 (dk_at dksX8_init_8 4 rfl rfl)
theorem dX8_init_194 : decode cX8_init 194 = .ok (.newarray .int, 2) := dk_188_10 (dk_at dksX8_init_8 6 rfl rfl)
theorem dX8_init_196 : decode cX8_init 196 = .ok (.putfield 81, 3) := dk_181 0 81 (dk_at dksX8_init_8 8 rfl rfl)
theorem dX8_init_199 : decode cX8_init 199 = .ok (.aload_n 0, 1) := dk_42 (dk_at dksX8_init_8 11 rfl rfl)
theorem dX8_init_200 : decode cX8_init 200 = .ok (.bipush 10, 2) := dk_16 10 (dk_at dksX8_init_8 12 rfl rfl)
theorem dX8_init_202 : decode cX8_init 202 = .ok (.putfield 84, 3) := dk_181 0 84 (dk_at dksX8_init_8 14 rfl rfl)
theorem dX8_init_205 : decode cX8_init 205 = .ok (.aload_n 0, 1) := dk_42 (dk_at dksX8_init_8 17 rfl rfl)
theorem dX8_init_206 : decode cX8_init 206 = .ok (.sipush 150, 3) := dk_17 0 150 (dk_at dksX8_init_8 18 rfl rfl)
theorem dX8_init_209 : decode cX8_init 209 = .ok (.putfield 87, 3) := dk_181 0 87 (dk_at dksX8_init_8 21 rfl rfl)
theorem dX8_init_212 : decode cX8_init 212 = .ok (.aload_n 0, 1) := dk_42 (dk_at dksX8_init_9 0 rfl rfl)
theorem dX8_init_213 : decode cX8_init 213 = .ok (.iconst 2, 1) := dk_5 (dk_at dksX8_init_9 1 rfl rfl)
theorem dX8_init_214 : decode cX8_init 214 = .ok (.putfield 90, 3) := dk_181 0 90 (dk_at dksX8_init_9 2 rfl rfl)
theorem dX8_init_217 : decode cX8_init 217 = .ok (.aload_n 0, 1) := dk_42 (dk_at dksX8_init_9 5 rfl rfl)
theorem dX8_init_218 : decode cX8_init 218 = .ok (.bipush 39, 2) := dk_16 39 (dk_at dksX8_init_9 6 rfl rfl)
theorem dX8_init_220 : decode cX8_init 220 = .ok (.newarray .int, 2) := dk_188_10 (dk_at dksX8_init_9 8 rfl rfl)
theorem dX8_init_222 : decode cX8_init 222 = .ok (.putfield 93, 3) := dk_181 0 93 (dk_at dksX8_init_9 10 rfl rfl)
theorem dX8_init_225 : decode cX8_init 225 = .ok (.aload_n 0, 1) := dk_42 (dk_at dksX8_init_9 13 rfl rfl)
theorem dX8_init_226 : decode cX8_init 226 = .ok (.bipush 39, 2) := dk_16 39 (dk_at dksX8_init_9 14 rfl rfl)
theorem dX8_init_228 : decode cX8_init 228 = .ok (.newarray .int, 2) := dk_188_10 (dk_at dksX8_init_9 16 rfl rfl)
theorem dX8_init_230 : decode cX8_init 230 = .ok (.putfield 96, 3) := dk_181 0 96 (dk_at dksX8_init_9 18 rfl rfl)
theorem dX8_init_233 : decode cX8_init 233 = .ok (.aload_n 0, 1) := dk_42 (dk_at dksX8_init_9 21 rfl rfl)
theorem dX8_init_234 : decode cX8_init 234 = .ok (.sipush 1560, 3) := dk_17 6 24 (dk_at dksX8_init_10 0 rfl rfl)
theorem dX8_init_237 : decode cX8_init 237 = .ok (.newarray .int, 2) := dk_188_10 (dk_at dksX8_init_10 3 rfl rfl)
theorem dX8_init_239 : decode cX8_init 239 = .ok (.putfield 99, 3) := dk_181 0 99 (dk_at dksX8_init_10 5 rfl rfl)
theorem dX8_init_242 : decode cX8_init 242 = .ok (.aload_n 0, 1) := dk_42 (dk_at dksX8_init_10 8 rfl rfl)
theorem dX8_init_243 : decode cX8_init 243 = .ok (.bipush 6, 2) := dk_16 6 (dk_at dksX8_init_10 9 rfl rfl)
theorem dX8_init_245 : decode cX8_init 245 = .ok (.newarray .int, 2) := dk_188_10 (dk_at dksX8_init_10 11 rfl rfl)
theorem dX8_init_247 : decode cX8_init 247 = .ok (.putfield 102, 3) := dk_181 0 102 (dk_at dksX8_init_10 13 rfl rfl)
theorem dX8_init_250 : decode cX8_init 250 = .ok (.aload_n 0, 1) := dk_42 (dk_at dksX8_init_10 16 rfl rfl)
theorem dX8_init_251 : decode cX8_init 251 = .ok (.bipush 6, 2) := dk_16 6 (dk_at dksX8_init_10 17 rfl rfl)
theorem dX8_init_253 : decode cX8_init 253 = .ok (.newarray .int, 2) := dk_188_10 (dk_at dksX8_init_10 19 rfl rfl)
theorem dX8_init_255 : decode cX8_init 255 = .ok (.putfield 105, 3) := dk_181 0 105 (dk_at dksX8_init_10 21 rfl rfl)
theorem dX8_init_258 : decode cX8_init 258 = .ok (.aload_n 0, 1) := dk_42 (dk_at dksX8_init_11 0 rfl rfl)
theorem dX8_init_259 : decode cX8_init 259 = .ok (.bipush 36, 2) := dk_16 36 (dk_at dksX8_init_11 1 rfl rfl)
theorem dX8_init_261 : decode cX8_init 261 = .ok (.newarray .int, 2) := dk_188_10 (dk_at dksX8_init_11 3 rfl rfl)
theorem dX8_init_263 : decode cX8_init 263 = .ok (.putfield 108, 3) := dk_181 0 108 (dk_at dksX8_init_11 5 rfl rfl)
theorem dX8_init_266 : decode cX8_init 266 = .ok (.aload_n 0, 1) := dk_42 (dk_at dksX8_init_11 8 rfl rfl)
theorem dX8_init_267 : decode cX8_init 267 = .ok (.bipush 64, 2) := dk_16 64 (dk_at dksX8_init_11 9 rfl rfl)
theorem dX8_init_269 : decode cX8_init 269 = .ok (.newarray .int, 2) := dk_188_10 (dk_at dksX8_init_11 11 rfl rfl)
theorem dX8_init_271 : decode cX8_init 271 = .ok (.putfield 111, 3) := dk_181 0 111 (dk_at dksX8_init_11 13 rfl rfl)
theorem dX8_init_274 : decode cX8_init 274 = .ok (.aload_n 0, 1) := dk_42 (dk_at dksX8_init_11 16 rfl rfl)
theorem dX8_init_275 : decode cX8_init 275 = .ok (.bipush 30, 2) := dk_16 30 (dk_at dksX8_init_11 17 rfl rfl)
theorem dX8_init_277 : decode cX8_init 277 = .ok (.newarray .int, 2) := dk_188_10 (dk_at dksX8_init_11 19 rfl rfl)
theorem dX8_init_279 : decode cX8_init 279 = .ok (.putfield 114, 3) := dk_181 0 114 (dk_at dksX8_init_11 21 rfl rfl)
theorem dX8_init_282 : decode cX8_init 282 = .ok (.aload_n 0, 1) := dk_42 (dk_at dksX8_init_12 0 rfl rfl)
theorem dX8_init_283 : decode cX8_init 283 = .ok (.bipush 30, 2) := dk_16 30 (dk_at dksX8_init_12 1 rfl rfl)
theorem dX8_init_285 : decode cX8_init 285 = .ok (.newarray .int, 2) := dk_188_10 (dk_at dksX8_init_12 3 rfl rfl)
theorem dX8_init_287 : decode cX8_init 287 = .ok (.putfield 117, 3) := dk_181 0 117 (dk_at dksX8_init_12 5 rfl rfl)
theorem dX8_init_290 : decode cX8_init 290 = .ok (.aload_n 0, 1) := dk_42 (dk_at dksX8_init_12 8 rfl rfl)
theorem dX8_init_291 : decode cX8_init 291 = .ok (.bipush 30, 2) := dk_16 30 (dk_at dksX8_init_12 9 rfl rfl)
theorem dX8_init_293 : decode cX8_init 293 = .ok (.newarray .int, 2) := dk_188_10 (dk_at dksX8_init_12 11 rfl rfl)
theorem dX8_init_295 : decode cX8_init 295 = .ok (.putfield 120, 3) := dk_181 0 120 (dk_at dksX8_init_12 13 rfl rfl)
theorem dX8_init_298 : decode cX8_init 298 = .ok (.aload_n 0, 1) := dk_42 (dk_at dksX8_init_12 16 rfl rfl)
theorem dX8_init_299 : decode cX8_init 299 = .ok (.bipush 30, 2) := dk_16 30 (dk_at dksX8_init_12 17 rfl rfl)
theorem dX8_init_301 : decode cX8_init 301 = .ok (.newarray .boolean, 2) := dk_188_4 (dk_at dksX8_init_12 19 rfl rfl)
theorem dX8_init_303 : decode cX8_init 303 = .ok (.putfield 123, 3) := dk_181 0 123 (dk_at dksX8_init_12 21 rfl rfl)
theorem dX8_init_306 : decode cX8_init 306 = .ok (.aload_n 0, 1) := dk_42 (dk_at dksX8_init_13 0 rfl rfl)
theorem dX8_init_307 : decode cX8_init 307 = .ok (.sipush 651, 3) := dk_17 2 139 (dk_at dksX8_init_13 1 rfl rfl)
theorem dX8_init_310 : decode cX8_init 310 = .ok (.newarray .boolean, 2) := dk_188_4 (dk_at dksX8_init_13 4 rfl rfl)
theorem dX8_init_312 : decode cX8_init 312 = .ok (.putfield 127, 3) := dk_181 0 127 (dk_at dksX8_init_13 6 rfl rfl)
theorem dX8_init_315 : decode cX8_init 315 = .ok (.aload_n 0, 1) := dk_42 (dk_at dksX8_init_13 9 rfl rfl)
theorem dX8_init_316 : decode cX8_init 316 = .ok (.bipush 31, 2) := dk_16 31 (dk_at dksX8_init_13 10 rfl rfl)
theorem dX8_init_318 : decode cX8_init 318 = .ok (.newarray .boolean, 2) := dk_188_4 (dk_at dksX8_init_13 12 rfl rfl)
theorem dX8_init_320 : decode cX8_init 320 = .ok (.putfield 130, 3) := dk_181 0 130 (dk_at dksX8_init_13 14 rfl rfl)
theorem dX8_init_323 : decode cX8_init 323 = .ok (.aload_n 0, 1) := dk_42 (dk_at dksX8_init_13 17 rfl rfl)
theorem dX8_init_324 : decode cX8_init 324 = .ok (.iconst 3, 1) := dk_6 (dk_at dksX8_init_13 18 rfl rfl)
theorem dX8_init_325 : decode cX8_init 325 = .ok (.newarray .boolean, 2) := dk_188_4 (dk_at dksX8_init_13 19 rfl rfl)
theorem dX8_init_327 : decode cX8_init 327 = .ok (.putfield 133, 3) := dk_181 0 133 (dk_at dksX8_init_13 21 rfl rfl)
theorem dX8_init_330 : decode cX8_init 330 = .ok (.aload_n 0, 1) := dk_42 (dk_at dksX8_init_14 0 rfl rfl)
theorem dX8_init_331 : decode cX8_init 331 = .ok (.bipush 117, 2) := dk_16 117 (dk_at dksX8_init_14 1 rfl rfl)
theorem dX8_init_333 : decode cX8_init 333 = .ok (.newarray .int, 2) := dk_188_10 (dk_at dksX8_init_14 3 rfl rfl)
theorem dX8_init_335 : decode cX8_init 335 = .ok (.putfield 136, 3) := dk_181 0 136 (dk_at dksX8_init_14 5 rfl rfl)
theorem dX8_init_338 : decode cX8_init 338 = .ok (.return_, 1) := dk_177 (dk_at dksX8_init_14 8 rfl rfl)
abbrev cX8_feed : ByteArray := prog_20_method_2_code
def yX8_feed : MethodName := ⟨RX8, "feed", "(IIIII)I"⟩
def dkwX8_feed_2 : List UInt8 := [172]
abbrev dktX8_feed_2 : List UInt8 := dkwX8_feed_2 ++ []
def dkwX8_feed_1 : List UInt8 := [182, 0, 142, 42, 29, 182, 0, 142, 42, 21, 4, 182, 0, 142, 42, 21, 5, 182, 0, 142, 42, 180, 0, 139]
abbrev dktX8_feed_1 : List UInt8 := dkwX8_feed_1 ++ dktX8_feed_2
def dkwX8_feed_0 : List UInt8 := [42, 180, 0, 139, 16, 20, 96, 17, 6, 64, 164, 0, 5, 2, 172, 42, 27, 182, 0, 142, 42, 28]
abbrev dktX8_feed_0 : List UInt8 := dkwX8_feed_0 ++ dktX8_feed_1
theorem dksX8_feed_0 : cX8_feed.data.toList.drop 0 = dktX8_feed_0 := by decide +kernel
theorem dksX8_feed_1 : cX8_feed.data.toList.drop 22 = dktX8_feed_1 := dk_seg dksX8_feed_0 22 rfl rfl
theorem dksX8_feed_2 : cX8_feed.data.toList.drop 46 = dktX8_feed_2 := dk_seg dksX8_feed_1 24 rfl rfl
theorem dX8_feed_0 : decode cX8_feed 0 = .ok (.aload_n 0, 1) := dk_42 (dk_at dksX8_feed_0 0 rfl rfl)
theorem dX8_feed_1 : decode cX8_feed 1 = .ok (.getfield 139, 3) := dk_180 0 139 (dk_at dksX8_feed_0 1 rfl rfl)
theorem dX8_feed_4 : decode cX8_feed 4 = .ok (.bipush 20, 2) := dk_16 20 (dk_at dksX8_feed_0 4 rfl rfl)
theorem dX8_feed_6 : decode cX8_feed 6 = .ok (.iadd, 1) := dk_96 (dk_at dksX8_feed_0 6 rfl rfl)
theorem dX8_feed_7 : decode cX8_feed 7 = .ok (.sipush 1600, 3) := dk_17 6 64 (dk_at dksX8_feed_0 7 rfl rfl)
theorem dX8_feed_10 : decode cX8_feed 10 = .ok (.if_icmp .le 5, 3) := dk_164 0 5 (dk_at dksX8_feed_0 10 rfl rfl)
theorem dX8_feed_13 : decode cX8_feed 13 = .ok (.iconst (-1), 1) := dk_2 (dk_at dksX8_feed_0 13 rfl rfl)
theorem dX8_feed_14 : decode cX8_feed 14 = .ok (.ireturn, 1) := dk_172 (dk_at dksX8_feed_0 14 rfl rfl)
theorem dX8_feed_15 : decode cX8_feed 15 = .ok (.aload_n 0, 1) := dk_42 (dk_at dksX8_feed_0 15 rfl rfl)
theorem dX8_feed_16 : decode cX8_feed 16 = .ok (.iload_n 1, 1) := dk_27 (dk_at dksX8_feed_0 16 rfl rfl)
theorem dX8_feed_17 : decode cX8_feed 17 = .ok (.invokevirtual 142, 3) := dk_182 0 142 (dk_at dksX8_feed_0 17 rfl rfl)
theorem dX8_feed_20 : decode cX8_feed 20 = .ok (.aload_n 0, 1) := dk_42 (dk_at dksX8_feed_0 20 rfl rfl)
theorem dX8_feed_21 : decode cX8_feed 21 = .ok (.iload_n 2, 1) := dk_28 (dk_at dksX8_feed_0 21 rfl rfl)
theorem dX8_feed_22 : decode cX8_feed 22 = .ok (.invokevirtual 142, 3) := dk_182 0 142 (dk_at dksX8_feed_1 0 rfl rfl)
theorem dX8_feed_25 : decode cX8_feed 25 = .ok (.aload_n 0, 1) := dk_42 (dk_at dksX8_feed_1 3 rfl rfl)
theorem dX8_feed_26 : decode cX8_feed 26 = .ok (.iload_n 3, 1) := dk_29 (dk_at dksX8_feed_1 4 rfl rfl)
theorem dX8_feed_27 : decode cX8_feed 27 = .ok (.invokevirtual 142, 3) := dk_182 0 142 (dk_at dksX8_feed_1 5 rfl rfl)
theorem dX8_feed_30 : decode cX8_feed 30 = .ok (.aload_n 0, 1) := dk_42 (dk_at dksX8_feed_1 8 rfl rfl)
theorem dX8_feed_31 : decode cX8_feed 31 = .ok (.iload 4, 2) := dk_21 4 (dk_at dksX8_feed_1 9 rfl rfl)
theorem dX8_feed_33 : decode cX8_feed 33 = .ok (.invokevirtual 142, 3) := dk_182 0 142 (dk_at dksX8_feed_1 11 rfl rfl)
theorem dX8_feed_36 : decode cX8_feed 36 = .ok (.aload_n 0, 1) := dk_42 (dk_at dksX8_feed_1 14 rfl rfl)
theorem dX8_feed_37 : decode cX8_feed 37 = .ok (.iload 5, 2) := dk_21 5 (dk_at dksX8_feed_1 15 rfl rfl)
theorem dX8_feed_39 : decode cX8_feed 39 = .ok (.invokevirtual 142, 3) := dk_182 0 142 (dk_at dksX8_feed_1 17 rfl rfl)
theorem dX8_feed_42 : decode cX8_feed 42 = .ok (.aload_n 0, 1) := dk_42 (dk_at dksX8_feed_1 20 rfl rfl)
theorem dX8_feed_43 : decode cX8_feed 43 = .ok (.getfield 139, 3) := dk_180 0 139 (dk_at dksX8_feed_1 21 rfl rfl)
theorem dX8_feed_46 : decode cX8_feed 46 = .ok (.ireturn, 1) := dk_172 (dk_at dksX8_feed_2 0 rfl rfl)
abbrev cX8_four : ByteArray := prog_20_method_3_code
def yX8_four : MethodName := ⟨RX8, "four", "(I)V"⟩
def dkwX8_four_1 : List UInt8 := [89, 180, 0, 139, 4, 96, 181, 0, 139, 132, 2, 248, 167, 255, 223, 177]
abbrev dktX8_four_1 : List UInt8 := dkwX8_four_1 ++ []
def dkwX8_four_0 : List UInt8 := [16, 24, 61, 28, 155, 0, 35, 42, 180, 0, 7, 42, 180, 0, 139, 27, 28, 122, 17, 0, 255, 126, 79, 42]
abbrev dktX8_four_0 : List UInt8 := dkwX8_four_0 ++ dktX8_four_1
theorem dksX8_four_0 : cX8_four.data.toList.drop 0 = dktX8_four_0 := by decide +kernel
theorem dksX8_four_1 : cX8_four.data.toList.drop 24 = dktX8_four_1 := dk_seg dksX8_four_0 24 rfl rfl
theorem dX8_four_0 : decode cX8_four 0 = .ok (.bipush 24, 2) := dk_16 24 (dk_at dksX8_four_0 0 rfl rfl)
theorem dX8_four_2 : decode cX8_four 2 = .ok (.istore_n 2, 1) := dk_61 (dk_at dksX8_four_0 2 rfl rfl)
theorem dX8_four_3 : decode cX8_four 3 = .ok (.iload_n 2, 1) := dk_28 (dk_at dksX8_four_0 3 rfl rfl)
theorem dX8_four_4 : decode cX8_four 4 = .ok (.ifCond .lt 35, 3) := dk_155 0 35 (dk_at dksX8_four_0 4 rfl rfl)
theorem dX8_four_7 : decode cX8_four 7 = .ok (.aload_n 0, 1) := dk_42 (dk_at dksX8_four_0 7 rfl rfl)
theorem dX8_four_8 : decode cX8_four 8 = .ok (.getfield 7, 3) := dk_180 0 7 (dk_at dksX8_four_0 8 rfl rfl)
theorem dX8_four_11 : decode cX8_four 11 = .ok (.aload_n 0, 1) := dk_42 (dk_at dksX8_four_0 11 rfl rfl)
theorem dX8_four_12 : decode cX8_four 12 = .ok (.getfield 139, 3) := dk_180 0 139 (dk_at dksX8_four_0 12 rfl rfl)
theorem dX8_four_15 : decode cX8_four 15 = .ok (.iload_n 1, 1) := dk_27 (dk_at dksX8_four_0 15 rfl rfl)
theorem dX8_four_16 : decode cX8_four 16 = .ok (.iload_n 2, 1) := dk_28 (dk_at dksX8_four_0 16 rfl rfl)
theorem dX8_four_17 : decode cX8_four 17 = .ok (.ishr, 1) := dk_122 (dk_at dksX8_four_0 17 rfl rfl)
theorem dX8_four_18 : decode cX8_four 18 = .ok (.sipush 255, 3) := dk_17 0 255 (dk_at dksX8_four_0 18 rfl rfl)
theorem dX8_four_21 : decode cX8_four 21 = .ok (.iand, 1) := dk_126 (dk_at dksX8_four_0 21 rfl rfl)
theorem dX8_four_22 : decode cX8_four 22 = .ok (.iastore, 1) := dk_79 (dk_at dksX8_four_0 22 rfl rfl)
theorem dX8_four_23 : decode cX8_four 23 = .ok (.aload_n 0, 1) := dk_42 (dk_at dksX8_four_0 23 rfl rfl)
theorem dX8_four_24 : decode cX8_four 24 = .ok (.dup, 1) := dk_89 (dk_at dksX8_four_1 0 rfl rfl)
theorem dX8_four_25 : decode cX8_four 25 = .ok (.getfield 139, 3) := dk_180 0 139 (dk_at dksX8_four_1 1 rfl rfl)
theorem dX8_four_28 : decode cX8_four 28 = .ok (.iconst 1, 1) := dk_4 (dk_at dksX8_four_1 4 rfl rfl)
theorem dX8_four_29 : decode cX8_four 29 = .ok (.iadd, 1) := dk_96 (dk_at dksX8_four_1 5 rfl rfl)
theorem dX8_four_30 : decode cX8_four 30 = .ok (.putfield 139, 3) := dk_181 0 139 (dk_at dksX8_four_1 6 rfl rfl)
theorem dX8_four_33 : decode cX8_four 33 = .ok (.iinc 2 (-8), 3) := dk_132 2 248 (dk_at dksX8_four_1 9 rfl rfl)
theorem dX8_four_36 : decode cX8_four 36 = .ok (.goto (-33), 3) := dk_167 255 223 (dk_at dksX8_four_1 12 rfl rfl)
theorem dX8_four_39 : decode cX8_four 39 = .ok (.return_, 1) := dk_177 (dk_at dksX8_four_1 15 rfl rfl)
abbrev cX8_end : ByteArray := prog_20_method_4_code
def yX8_end : MethodName := ⟨RX8, "end", "(I)I"⟩
def dkwX8_end_0 : List UInt8 := [27, 155, 0, 11, 27, 42, 180, 0, 139, 164, 0, 5, 2, 172, 42, 27, 181, 0, 139, 27, 172]
abbrev dktX8_end_0 : List UInt8 := dkwX8_end_0 ++ []
theorem dksX8_end_0 : cX8_end.data.toList.drop 0 = dktX8_end_0 := by decide +kernel
theorem dX8_end_0 : decode cX8_end 0 = .ok (.iload_n 1, 1) := dk_27 (dk_at dksX8_end_0 0 rfl rfl)
theorem dX8_end_1 : decode cX8_end 1 = .ok (.ifCond .lt 11, 3) := dk_155 0 11 (dk_at dksX8_end_0 1 rfl rfl)
theorem dX8_end_4 : decode cX8_end 4 = .ok (.iload_n 1, 1) := dk_27 (dk_at dksX8_end_0 4 rfl rfl)
theorem dX8_end_5 : decode cX8_end 5 = .ok (.aload_n 0, 1) := dk_42 (dk_at dksX8_end_0 5 rfl rfl)
theorem dX8_end_6 : decode cX8_end 6 = .ok (.getfield 139, 3) := dk_180 0 139 (dk_at dksX8_end_0 6 rfl rfl)
theorem dX8_end_9 : decode cX8_end 9 = .ok (.if_icmp .le 5, 3) := dk_164 0 5 (dk_at dksX8_end_0 9 rfl rfl)
theorem dX8_end_12 : decode cX8_end 12 = .ok (.iconst (-1), 1) := dk_2 (dk_at dksX8_end_0 12 rfl rfl)
theorem dX8_end_13 : decode cX8_end 13 = .ok (.ireturn, 1) := dk_172 (dk_at dksX8_end_0 13 rfl rfl)
theorem dX8_end_14 : decode cX8_end 14 = .ok (.aload_n 0, 1) := dk_42 (dk_at dksX8_end_0 14 rfl rfl)
theorem dX8_end_15 : decode cX8_end 15 = .ok (.iload_n 1, 1) := dk_27 (dk_at dksX8_end_0 15 rfl rfl)
theorem dX8_end_16 : decode cX8_end 16 = .ok (.putfield 139, 3) := dk_181 0 139 (dk_at dksX8_end_0 16 rfl rfl)
theorem dX8_end_19 : decode cX8_end 19 = .ok (.iload_n 1, 1) := dk_27 (dk_at dksX8_end_0 19 rfl rfl)
theorem dX8_end_20 : decode cX8_end 20 = .ok (.ireturn, 1) := dk_172 (dk_at dksX8_end_0 20 rfl rfl)
abbrev cX8_regiment : ByteArray := prog_20_method_44_code
def yX8_regiment : MethodName := ⟨RX8, "regiment", "()I"⟩
def dkwX8_regiment_13 : List UInt8 := [132, 1, 1, 167, 255, 241, 42, 180, 1, 131, 172]
abbrev dktX8_regiment_13 : List UInt8 := dkwX8_regiment_13 ++ []
def dkwX8_regiment_12 : List UInt8 := [42, 3, 181, 1, 155, 42, 3, 181, 1, 158, 3, 60, 27, 6, 162, 0, 16, 42, 180, 0, 133, 27, 3, 84]
abbrev dktX8_regiment_12 : List UInt8 := dkwX8_regiment_12 ++ dktX8_regiment_13
def dkwX8_regiment_11 : List UInt8 := [180, 0, 96, 16, 38, 42, 180, 1, 122, 79, 42, 182, 1, 146, 42, 3, 181, 1, 149, 42, 3, 181, 1, 152]
abbrev dktX8_regiment_11 : List UInt8 := dkwX8_regiment_11 ++ dktX8_regiment_12
def dkwX8_regiment_10 : List UInt8 := [180, 0, 81, 27, 42, 180, 0, 60, 27, 46, 79, 132, 1, 1, 167, 255, 197, 42, 182, 1, 143, 42]
abbrev dktX8_regiment_10 : List UInt8 := dkwX8_regiment_10 ++ dktX8_regiment_11
def dkwX8_regiment_9 : List UInt8 := [180, 0, 75, 27, 42, 180, 0, 54, 27, 46, 79, 42, 180, 0, 78, 27, 42, 180, 0, 57, 27, 46, 79, 42]
abbrev dktX8_regiment_9 : List UInt8 := dkwX8_regiment_9 ++ dktX8_regiment_10
def dkwX8_regiment_8 : List UInt8 := [3, 60, 27, 42, 180, 1, 134, 162, 0, 57, 42, 180, 0, 72, 27, 42, 180, 0, 51, 27, 46, 79, 42]
abbrev dktX8_regiment_8 : List UInt8 := dkwX8_regiment_8 ++ dktX8_regiment_9
def dkwX8_regiment_7 : List UInt8 := [180, 0, 45, 27, 46, 79, 42, 180, 0, 69, 27, 42, 180, 0, 48, 27, 46, 79, 132, 1, 1, 167, 255, 209]
abbrev dktX8_regiment_7 : List UInt8 := dkwX8_regiment_7 ++ dktX8_regiment_8
def dkwX8_regiment_6 : List UInt8 := [180, 1, 131, 162, 0, 45, 42, 180, 0, 63, 27, 42, 180, 0, 42, 27, 46, 79, 42, 180, 0, 66, 27, 42]
abbrev dktX8_regiment_6 : List UInt8 := dkwX8_regiment_6 ++ dktX8_regiment_7
def dkwX8_regiment_5 : List UInt8 := [79, 42, 180, 0, 30, 27, 42, 180, 0, 24, 27, 46, 79, 132, 1, 1, 167, 255, 221, 3, 60, 27, 42]
abbrev dktX8_regiment_5 : List UInt8 := dkwX8_regiment_5 ++ dktX8_regiment_6
def dkwX8_regiment_4 : List UInt8 := [181, 1, 67, 3, 60, 27, 42, 180, 1, 67, 162, 0, 33, 42, 180, 0, 27, 27, 42, 180, 0, 21, 27, 46]
abbrev dktX8_regiment_4 : List UInt8 := dkwX8_regiment_4 ++ dktX8_regiment_5
def dkwX8_regiment_3 : List UInt8 := [180, 1, 35, 181, 1, 61, 42, 42, 180, 1, 35, 153, 0, 10, 42, 180, 0, 253, 167, 0, 4, 3]
abbrev dktX8_regiment_3 : List UInt8 := dkwX8_regiment_3 ++ dktX8_regiment_4
def dkwX8_regiment_2 : List UInt8 := [180, 1, 110, 181, 0, 90, 42, 42, 180, 1, 116, 181, 1, 137, 42, 42, 180, 1, 13, 181, 1, 140, 42, 42]
abbrev dktX8_regiment_2 : List UInt8 := dkwX8_regiment_2 ++ dktX8_regiment_3
def dkwX8_regiment_1 : List UInt8 := [180, 1, 83, 181, 1, 134, 42, 42, 180, 1, 98, 181, 0, 84, 42, 42, 180, 1, 104, 181, 0, 87, 42, 42]
abbrev dktX8_regiment_1 : List UInt8 := dkwX8_regiment_1 ++ dktX8_regiment_2
def dkwX8_regiment_0 : List UInt8 := [42, 182, 1, 128, 42, 180, 0, 179, 158, 0, 5, 2, 172, 42, 42, 180, 1, 74, 181, 1, 131, 42, 42]
abbrev dktX8_regiment_0 : List UInt8 := dkwX8_regiment_0 ++ dktX8_regiment_1
theorem dksX8_regiment_0 : cX8_regiment.data.toList.drop 0 = dktX8_regiment_0 := by decide +kernel
theorem dksX8_regiment_1 : cX8_regiment.data.toList.drop 23 = dktX8_regiment_1 := dk_seg dksX8_regiment_0 23 rfl rfl
theorem dksX8_regiment_2 : cX8_regiment.data.toList.drop 47 = dktX8_regiment_2 := dk_seg dksX8_regiment_1 24 rfl rfl
theorem dksX8_regiment_3 : cX8_regiment.data.toList.drop 71 = dktX8_regiment_3 := dk_seg dksX8_regiment_2 24 rfl rfl
theorem dksX8_regiment_4 : cX8_regiment.data.toList.drop 93 = dktX8_regiment_4 := dk_seg dksX8_regiment_3 22 rfl rfl
theorem dksX8_regiment_5 : cX8_regiment.data.toList.drop 117 = dktX8_regiment_5 := dk_seg dksX8_regiment_4 24 rfl rfl
theorem dksX8_regiment_6 : cX8_regiment.data.toList.drop 140 = dktX8_regiment_6 := dk_seg dksX8_regiment_5 23 rfl rfl
theorem dksX8_regiment_7 : cX8_regiment.data.toList.drop 164 = dktX8_regiment_7 := dk_seg dksX8_regiment_6 24 rfl rfl
theorem dksX8_regiment_8 : cX8_regiment.data.toList.drop 188 = dktX8_regiment_8 := dk_seg dksX8_regiment_7 24 rfl rfl
theorem dksX8_regiment_9 : cX8_regiment.data.toList.drop 211 = dktX8_regiment_9 := dk_seg dksX8_regiment_8 23 rfl rfl
theorem dksX8_regiment_10 : cX8_regiment.data.toList.drop 235 = dktX8_regiment_10 := dk_seg dksX8_regiment_9 24 rfl rfl
theorem dksX8_regiment_11 : cX8_regiment.data.toList.drop 257 = dktX8_regiment_11 := dk_seg dksX8_regiment_10 22 rfl rfl
theorem dksX8_regiment_12 : cX8_regiment.data.toList.drop 281 = dktX8_regiment_12 := dk_seg dksX8_regiment_11 24 rfl rfl
theorem dksX8_regiment_13 : cX8_regiment.data.toList.drop 305 = dktX8_regiment_13 := dk_seg dksX8_regiment_12 24 rfl rfl
theorem dX8_regiment_0 : decode cX8_regiment 0 = .ok (.aload_n 0, 1) := dk_42 (dk_at dksX8_regiment_0 0 rfl rfl)
theorem dX8_regiment_1 : decode cX8_regiment 1 = .ok (.invokevirtual 384, 3) := dk_182 1 128 (dk_at dksX8_regiment_0 1 rfl rfl)
theorem dX8_regiment_4 : decode cX8_regiment 4 = .ok (.aload_n 0, 1) := dk_42 (dk_at dksX8_regiment_0 4 rfl rfl)
theorem dX8_regiment_5 : decode cX8_regiment 5 = .ok (.getfield 179, 3) := dk_180 0 179 (dk_at dksX8_regiment_0 5 rfl rfl)
theorem dX8_regiment_8 : decode cX8_regiment 8 = .ok (.ifCond .le 5, 3) := dk_158 0 5 (dk_at dksX8_regiment_0 8 rfl rfl)
theorem dX8_regiment_11 : decode cX8_regiment 11 = .ok (.iconst (-1), 1) := dk_2 (dk_at dksX8_regiment_0 11 rfl rfl)
theorem dX8_regiment_12 : decode cX8_regiment 12 = .ok (.ireturn, 1) := dk_172 (dk_at dksX8_regiment_0 12 rfl rfl)
theorem dX8_regiment_13 : decode cX8_regiment 13 = .ok (.aload_n 0, 1) := dk_42 (dk_at dksX8_regiment_0 13 rfl rfl)
theorem dX8_regiment_14 : decode cX8_regiment 14 = .ok (.aload_n 0, 1) := dk_42 (dk_at dksX8_regiment_0 14 rfl rfl)
theorem dX8_regiment_15 : decode cX8_regiment 15 = .ok (.getfield 330, 3) := dk_180 1 74 (dk_at dksX8_regiment_0 15 rfl rfl)
theorem dX8_regiment_18 : decode cX8_regiment 18 = .ok (.putfield 387, 3) := dk_181 1 131 (dk_at dksX8_regiment_0 18 rfl rfl)
theorem dX8_regiment_21 : decode cX8_regiment 21 = .ok (.aload_n 0, 1) := dk_42 (dk_at dksX8_regiment_0 21 rfl rfl)
theorem dX8_regiment_22 : decode cX8_regiment 22 = .ok (.aload_n 0, 1) := dk_42 (dk_at dksX8_regiment_0 22 rfl rfl)
theorem dX8_regiment_23 : decode cX8_regiment 23 = .ok (.getfield 339, 3) := dk_180 1 83 (dk_at dksX8_regiment_1 0 rfl rfl)
theorem dX8_regiment_26 : decode cX8_regiment 26 = .ok (.putfield 390, 3) := dk_181 1 134 (dk_at dksX8_regiment_1 3 rfl rfl)
theorem dX8_regiment_29 : decode cX8_regiment 29 = .ok (.aload_n 0, 1) := dk_42 (dk_at dksX8_regiment_1 6 rfl rfl)
theorem dX8_regiment_30 : decode cX8_regiment 30 = .ok (.aload_n 0, 1) := dk_42 (dk_at dksX8_regiment_1 7 rfl rfl)
theorem dX8_regiment_31 : decode cX8_regiment 31 = .ok (.getfield 354, 3) := dk_180 1 98 (dk_at dksX8_regiment_1 8 rfl rfl)
theorem dX8_regiment_34 : decode cX8_regiment 34 = .ok (.putfield 84, 3) := dk_181 0 84 (dk_at dksX8_regiment_1 11 rfl rfl)
theorem dX8_regiment_37 : decode cX8_regiment 37 = .ok (.aload_n 0, 1) := dk_42 (dk_at dksX8_regiment_1 14 rfl rfl)
theorem dX8_regiment_38 : decode cX8_regiment 38 = .ok (.aload_n 0, 1) := dk_42 (dk_at dksX8_regiment_1 15 rfl rfl)
theorem dX8_regiment_39 : decode cX8_regiment 39 = .ok (.getfield 360, 3) := dk_180 1 104 (dk_at dksX8_regiment_1 16 rfl rfl)
theorem dX8_regiment_42 : decode cX8_regiment 42 = .ok (.putfield 87, 3) := dk_181 0 87 (dk_at dksX8_regiment_1 19 rfl rfl)
theorem dX8_regiment_45 : decode cX8_regiment 45 = .ok (.aload_n 0, 1) := dk_42 (dk_at dksX8_regiment_1 22 rfl rfl)
theorem dX8_regiment_46 : decode cX8_regiment 46 = .ok (.aload_n 0, 1) := dk_42 (dk_at dksX8_regiment_1 23 rfl rfl)
theorem dX8_regiment_47 : decode cX8_regiment 47 = .ok (.getfield 366, 3) := dk_180 1 110 (dk_at dksX8_regiment_2 0 rfl rfl)
theorem dX8_regiment_50 : decode cX8_regiment 50 = .ok (.putfield 90, 3) := dk_181 0 90 (dk_at dksX8_regiment_2 3 rfl rfl)
theorem dX8_regiment_53 : decode cX8_regiment 53 = .ok (.aload_n 0, 1) := dk_42 (dk_at dksX8_regiment_2 6 rfl rfl)
theorem dX8_regiment_54 : decode cX8_regiment 54 = .ok (.aload_n 0, 1) := dk_42 (dk_at dksX8_regiment_2 7 rfl rfl)
theorem dX8_regiment_55 : decode cX8_regiment 55 = .ok (.getfield 372, 3) := dk_180 1 116 (dk_at dksX8_regiment_2 8 rfl rfl)
theorem dX8_regiment_58 : decode cX8_regiment 58 = .ok (.putfield 393, 3) := dk_181 1 137 (dk_at dksX8_regiment_2 11 rfl rfl)
theorem dX8_regiment_61 : decode cX8_regiment 61 = .ok (.aload_n 0, 1) := dk_42 (dk_at dksX8_regiment_2 14 rfl rfl)
theorem dX8_regiment_62 : decode cX8_regiment 62 = .ok (.aload_n 0, 1) := dk_42 (dk_at dksX8_regiment_2 15 rfl rfl)
theorem dX8_regiment_63 : decode cX8_regiment 63 = .ok (.getfield 269, 3) := dk_180 1 13 (dk_at dksX8_regiment_2 16 rfl rfl)
theorem dX8_regiment_66 : decode cX8_regiment 66 = .ok (.putfield 396, 3) := dk_181 1 140 (dk_at dksX8_regiment_2 19 rfl rfl)
theorem dX8_regiment_69 : decode cX8_regiment 69 = .ok (.aload_n 0, 1) := dk_42 (dk_at dksX8_regiment_2 22 rfl rfl)
theorem dX8_regiment_70 : decode cX8_regiment 70 = .ok (.aload_n 0, 1) := dk_42 (dk_at dksX8_regiment_2 23 rfl rfl)
theorem dX8_regiment_71 : decode cX8_regiment 71 = .ok (.getfield 291, 3) := dk_180 1 35 (dk_at dksX8_regiment_3 0 rfl rfl)
theorem dX8_regiment_74 : decode cX8_regiment 74 = .ok (.putfield 317, 3) := dk_181 1 61 (dk_at dksX8_regiment_3 3 rfl rfl)
theorem dX8_regiment_77 : decode cX8_regiment 77 = .ok (.aload_n 0, 1) := dk_42 (dk_at dksX8_regiment_3 6 rfl rfl)
theorem dX8_regiment_78 : decode cX8_regiment 78 = .ok (.aload_n 0, 1) := dk_42 (dk_at dksX8_regiment_3 7 rfl rfl)
theorem dX8_regiment_79 : decode cX8_regiment 79 = .ok (.getfield 291, 3) := dk_180 1 35 (dk_at dksX8_regiment_3 8 rfl rfl)
theorem dX8_regiment_82 : decode cX8_regiment 82 = .ok (.ifCond .eq 10, 3) := dk_153 0 10 (dk_at dksX8_regiment_3 11 rfl rfl)
theorem dX8_regiment_85 : decode cX8_regiment 85 = .ok (.aload_n 0, 1) := dk_42 (dk_at dksX8_regiment_3 14 rfl rfl)
theorem dX8_regiment_86 : decode cX8_regiment 86 = .ok (.getfield 253, 3) := dk_180 0 253 (dk_at dksX8_regiment_3 15 rfl rfl)
theorem dX8_regiment_89 : decode cX8_regiment 89 = .ok (.goto 4, 3) := dk_167 0 4 (dk_at dksX8_regiment_3 18 rfl rfl)
theorem dX8_regiment_92 : decode cX8_regiment 92 = .ok (.iconst 0, 1) := dk_3 (dk_at dksX8_regiment_3 21 rfl rfl)
theorem dX8_regiment_93 : decode cX8_regiment 93 = .ok (.putfield 323, 3) := dk_181 1 67 (dk_at dksX8_regiment_4 0 rfl rfl)
theorem dX8_regiment_96 : decode cX8_regiment 96 = .ok (.iconst 0, 1) := dk_3 (dk_at dksX8_regiment_4 3 rfl rfl)
theorem dX8_regiment_97 : decode cX8_regiment 97 = .ok (.istore_n 1, 1) := dk_60 (dk_at dksX8_regiment_4 4 rfl rfl)
theorem dX8_regiment_98 : decode cX8_regiment 98 = .ok (.iload_n 1, 1) := dk_27 (dk_at dksX8_regiment_4 5 rfl rfl)
theorem dX8_regiment_99 : decode cX8_regiment 99 = .ok (.aload_n 0, 1) := dk_42 (dk_at dksX8_regiment_4 6 rfl rfl)
theorem dX8_regiment_100 : decode cX8_regiment 100 = .ok (.getfield 323, 3) := dk_180 1 67 (dk_at dksX8_regiment_4 7 rfl rfl)
theorem dX8_regiment_103 : decode cX8_regiment 103 = .ok (.if_icmp .ge 33, 3) := dk_162 0 33 (dk_at dksX8_regiment_4 10 rfl rfl)
theorem dX8_regiment_106 : decode cX8_regiment 106 = .ok (.aload_n 0, 1) := dk_42 (dk_at dksX8_regiment_4 13 rfl rfl)
theorem dX8_regiment_107 : decode cX8_regiment 107 = .ok (.getfield 27, 3) := dk_180 0 27 (dk_at dksX8_regiment_4 14 rfl rfl)
theorem dX8_regiment_110 : decode cX8_regiment 110 = .ok (.iload_n 1, 1) := dk_27 (dk_at dksX8_regiment_4 17 rfl rfl)
theorem dX8_regiment_111 : decode cX8_regiment 111 = .ok (.aload_n 0, 1) := dk_42 (dk_at dksX8_regiment_4 18 rfl rfl)
theorem dX8_regiment_112 : decode cX8_regiment 112 = .ok (.getfield 21, 3) := dk_180 0 21 (dk_at dksX8_regiment_4 19 rfl rfl)
theorem dX8_regiment_115 : decode cX8_regiment 115 = .ok (.iload_n 1, 1) := dk_27 (dk_at dksX8_regiment_4 22 rfl rfl)
theorem dX8_regiment_116 : decode cX8_regiment 116 = .ok (.iaload, 1) := dk_46 (dk_at dksX8_regiment_4 23 rfl rfl)
theorem dX8_regiment_117 : decode cX8_regiment 117 = .ok (.iastore, 1) := dk_79 (dk_at dksX8_regiment_5 0 rfl rfl)
theorem dX8_regiment_118 : decode cX8_regiment 118 = .ok (.aload_n 0, 1) := dk_42 (dk_at dksX8_regiment_5 1 rfl rfl)
theorem dX8_regiment_119 : decode cX8_regiment 119 = .ok (.getfield 30, 3) := dk_180 0 30 (dk_at dksX8_regiment_5 2 rfl rfl)
theorem dX8_regiment_122 : decode cX8_regiment 122 = .ok (.iload_n 1, 1) := dk_27 (dk_at dksX8_regiment_5 5 rfl rfl)
theorem dX8_regiment_123 : decode cX8_regiment 123 = .ok (.aload_n 0, 1) := dk_42 (dk_at dksX8_regiment_5 6 rfl rfl)
theorem dX8_regiment_124 : decode cX8_regiment 124 = .ok (.getfield 24, 3) := dk_180 0 24 (dk_at dksX8_regiment_5 7 rfl rfl)
theorem dX8_regiment_127 : decode cX8_regiment 127 = .ok (.iload_n 1, 1) := dk_27 (dk_at dksX8_regiment_5 10 rfl rfl)
theorem dX8_regiment_128 : decode cX8_regiment 128 = .ok (.iaload, 1) := dk_46 (dk_at dksX8_regiment_5 11 rfl rfl)
theorem dX8_regiment_129 : decode cX8_regiment 129 = .ok (.iastore, 1) := dk_79 (dk_at dksX8_regiment_5 12 rfl rfl)
theorem dX8_regiment_130 : decode cX8_regiment 130 = .ok (.iinc 1 1, 3) := dk_132 1 1 (dk_at dksX8_regiment_5 13 rfl rfl)
theorem dX8_regiment_133 : decode cX8_regiment 133 = .ok (.goto (-35), 3) := dk_167 255 221 (dk_at dksX8_regiment_5 16 rfl rfl)
theorem dX8_regiment_136 : decode cX8_regiment 136 = .ok (.iconst 0, 1) := dk_3 (dk_at dksX8_regiment_5 19 rfl rfl)
theorem dX8_regiment_137 : decode cX8_regiment 137 = .ok (.istore_n 1, 1) := dk_60 (dk_at dksX8_regiment_5 20 rfl rfl)
theorem dX8_regiment_138 : decode cX8_regiment 138 = .ok (.iload_n 1, 1) := dk_27 (dk_at dksX8_regiment_5 21 rfl rfl)
theorem dX8_regiment_139 : decode cX8_regiment 139 = .ok (.aload_n 0, 1) := dk_42 (dk_at dksX8_regiment_5 22 rfl rfl)
theorem dX8_regiment_140 : decode cX8_regiment 140 = .ok (.getfield 387, 3) := dk_180 1 131 (dk_at dksX8_regiment_6 0 rfl rfl)
theorem dX8_regiment_143 : decode cX8_regiment 143 = .ok (.if_icmp .ge 45, 3) := dk_162 0 45 (dk_at dksX8_regiment_6 3 rfl rfl)
theorem dX8_regiment_146 : decode cX8_regiment 146 = .ok (.aload_n 0, 1) := dk_42 (dk_at dksX8_regiment_6 6 rfl rfl)
theorem dX8_regiment_147 : decode cX8_regiment 147 = .ok (.getfield 63, 3) := dk_180 0 63 (dk_at dksX8_regiment_6 7 rfl rfl)
theorem dX8_regiment_150 : decode cX8_regiment 150 = .ok (.iload_n 1, 1) := dk_27 (dk_at dksX8_regiment_6 10 rfl rfl)
theorem dX8_regiment_151 : decode cX8_regiment 151 = .ok (.aload_n 0, 1) := dk_42 (dk_at dksX8_regiment_6 11 rfl rfl)
theorem dX8_regiment_152 : decode cX8_regiment 152 = .ok (.getfield 42, 3) := dk_180 0 42 (dk_at dksX8_regiment_6 12 rfl rfl)
theorem dX8_regiment_155 : decode cX8_regiment 155 = .ok (.iload_n 1, 1) := dk_27 (dk_at dksX8_regiment_6 15 rfl rfl)
theorem dX8_regiment_156 : decode cX8_regiment 156 = .ok (.iaload, 1) := dk_46 (dk_at dksX8_regiment_6 16 rfl rfl)
theorem dX8_regiment_157 : decode cX8_regiment 157 = .ok (.iastore, 1) := dk_79 (dk_at dksX8_regiment_6 17 rfl rfl)
theorem dX8_regiment_158 : decode cX8_regiment 158 = .ok (.aload_n 0, 1) := dk_42 (dk_at dksX8_regiment_6 18 rfl rfl)
theorem dX8_regiment_159 : decode cX8_regiment 159 = .ok (.getfield 66, 3) := dk_180 0 66 (dk_at dksX8_regiment_6 19 rfl rfl)
theorem dX8_regiment_162 : decode cX8_regiment 162 = .ok (.iload_n 1, 1) := dk_27 (dk_at dksX8_regiment_6 22 rfl rfl)
theorem dX8_regiment_163 : decode cX8_regiment 163 = .ok (.aload_n 0, 1) := dk_42 (dk_at dksX8_regiment_6 23 rfl rfl)
theorem dX8_regiment_164 : decode cX8_regiment 164 = .ok (.getfield 45, 3) := dk_180 0 45 (dk_at dksX8_regiment_7 0 rfl rfl)
theorem dX8_regiment_167 : decode cX8_regiment 167 = .ok (.iload_n 1, 1) := dk_27 (dk_at dksX8_regiment_7 3 rfl rfl)
theorem dX8_regiment_168 : decode cX8_regiment 168 = .ok (.iaload, 1) := dk_46 (dk_at dksX8_regiment_7 4 rfl rfl)
theorem dX8_regiment_169 : decode cX8_regiment 169 = .ok (.iastore, 1) := dk_79 (dk_at dksX8_regiment_7 5 rfl rfl)
theorem dX8_regiment_170 : decode cX8_regiment 170 = .ok (.aload_n 0, 1) := dk_42 (dk_at dksX8_regiment_7 6 rfl rfl)
theorem dX8_regiment_171 : decode cX8_regiment 171 = .ok (.getfield 69, 3) := dk_180 0 69 (dk_at dksX8_regiment_7 7 rfl rfl)
theorem dX8_regiment_174 : decode cX8_regiment 174 = .ok (.iload_n 1, 1) := dk_27 (dk_at dksX8_regiment_7 10 rfl rfl)
theorem dX8_regiment_175 : decode cX8_regiment 175 = .ok (.aload_n 0, 1) := dk_42 (dk_at dksX8_regiment_7 11 rfl rfl)
theorem dX8_regiment_176 : decode cX8_regiment 176 = .ok (.getfield 48, 3) := dk_180 0 48 (dk_at dksX8_regiment_7 12 rfl rfl)
theorem dX8_regiment_179 : decode cX8_regiment 179 = .ok (.iload_n 1, 1) := dk_27 (dk_at dksX8_regiment_7 15 rfl rfl)
theorem dX8_regiment_180 : decode cX8_regiment 180 = .ok (.iaload, 1) := dk_46 (dk_at dksX8_regiment_7 16 rfl rfl)
theorem dX8_regiment_181 : decode cX8_regiment 181 = .ok (.iastore, 1) := dk_79 (dk_at dksX8_regiment_7 17 rfl rfl)
theorem dX8_regiment_182 : decode cX8_regiment 182 = .ok (.iinc 1 1, 3) := dk_132 1 1 (dk_at dksX8_regiment_7 18 rfl rfl)
theorem dX8_regiment_185 : decode cX8_regiment 185 = .ok (.goto (-47), 3) := dk_167 255 209 (dk_at dksX8_regiment_7 21 rfl rfl)
theorem dX8_regiment_188 : decode cX8_regiment 188 = .ok (.iconst 0, 1) := dk_3 (dk_at dksX8_regiment_8 0 rfl rfl)
theorem dX8_regiment_189 : decode cX8_regiment 189 = .ok (.istore_n 1, 1) := dk_60 (dk_at dksX8_regiment_8 1 rfl rfl)
theorem dX8_regiment_190 : decode cX8_regiment 190 = .ok (.iload_n 1, 1) := dk_27 (dk_at dksX8_regiment_8 2 rfl rfl)
theorem dX8_regiment_191 : decode cX8_regiment 191 = .ok (.aload_n 0, 1) := dk_42 (dk_at dksX8_regiment_8 3 rfl rfl)
theorem dX8_regiment_192 : decode cX8_regiment 192 = .ok (.getfield 390, 3) := dk_180 1 134 (dk_at dksX8_regiment_8 4 rfl rfl)
theorem dX8_regiment_195 : decode cX8_regiment 195 = .ok (.if_icmp .ge 57, 3) := dk_162 0 57 (dk_at dksX8_regiment_8 7 rfl rfl)
theorem dX8_regiment_198 : decode cX8_regiment 198 = .ok (.aload_n 0, 1) := dk_42 (dk_at dksX8_regiment_8 10 rfl rfl)
theorem dX8_regiment_199 : decode cX8_regiment 199 = .ok (.getfield 72, 3) := dk_180 0 72 (dk_at dksX8_regiment_8 11 rfl rfl)
theorem dX8_regiment_202 : decode cX8_regiment 202 = .ok (.iload_n 1, 1) := dk_27 (dk_at dksX8_regiment_8 14 rfl rfl)
theorem dX8_regiment_203 : decode cX8_regiment 203 = .ok (.aload_n 0, 1) := dk_42 (dk_at dksX8_regiment_8 15 rfl rfl)
theorem dX8_regiment_204 : decode cX8_regiment 204 = .ok (.getfield 51, 3) := dk_180 0 51 (dk_at dksX8_regiment_8 16 rfl rfl)
theorem dX8_regiment_207 : decode cX8_regiment 207 = .ok (.iload_n 1, 1) := dk_27 (dk_at dksX8_regiment_8 19 rfl rfl)
theorem dX8_regiment_208 : decode cX8_regiment 208 = .ok (.iaload, 1) := dk_46 (dk_at dksX8_regiment_8 20 rfl rfl)
theorem dX8_regiment_209 : decode cX8_regiment 209 = .ok (.iastore, 1) := dk_79 (dk_at dksX8_regiment_8 21 rfl rfl)
theorem dX8_regiment_210 : decode cX8_regiment 210 = .ok (.aload_n 0, 1) := dk_42 (dk_at dksX8_regiment_8 22 rfl rfl)
theorem dX8_regiment_211 : decode cX8_regiment 211 = .ok (.getfield 75, 3) := dk_180 0 75 (dk_at dksX8_regiment_9 0 rfl rfl)
theorem dX8_regiment_214 : decode cX8_regiment 214 = .ok (.iload_n 1, 1) := dk_27 (dk_at dksX8_regiment_9 3 rfl rfl)
theorem dX8_regiment_215 : decode cX8_regiment 215 = .ok (.aload_n 0, 1) := dk_42 (dk_at dksX8_regiment_9 4 rfl rfl)
theorem dX8_regiment_216 : decode cX8_regiment 216 = .ok (.getfield 54, 3) := dk_180 0 54 (dk_at dksX8_regiment_9 5 rfl rfl)
theorem dX8_regiment_219 : decode cX8_regiment 219 = .ok (.iload_n 1, 1) := dk_27 (dk_at dksX8_regiment_9 8 rfl rfl)
theorem dX8_regiment_220 : decode cX8_regiment 220 = .ok (.iaload, 1) := dk_46 (dk_at dksX8_regiment_9 9 rfl rfl)
theorem dX8_regiment_221 : decode cX8_regiment 221 = .ok (.iastore, 1) := dk_79 (dk_at dksX8_regiment_9 10 rfl rfl)
theorem dX8_regiment_222 : decode cX8_regiment 222 = .ok (.aload_n 0, 1) := dk_42 (dk_at dksX8_regiment_9 11 rfl rfl)
theorem dX8_regiment_223 : decode cX8_regiment 223 = .ok (.getfield 78, 3) := dk_180 0 78 (dk_at dksX8_regiment_9 12 rfl rfl)
theorem dX8_regiment_226 : decode cX8_regiment 226 = .ok (.iload_n 1, 1) := dk_27 (dk_at dksX8_regiment_9 15 rfl rfl)
theorem dX8_regiment_227 : decode cX8_regiment 227 = .ok (.aload_n 0, 1) := dk_42 (dk_at dksX8_regiment_9 16 rfl rfl)
theorem dX8_regiment_228 : decode cX8_regiment 228 = .ok (.getfield 57, 3) := dk_180 0 57 (dk_at dksX8_regiment_9 17 rfl rfl)
theorem dX8_regiment_231 : decode cX8_regiment 231 = .ok (.iload_n 1, 1) := dk_27 (dk_at dksX8_regiment_9 20 rfl rfl)
theorem dX8_regiment_232 : decode cX8_regiment 232 = .ok (.iaload, 1) := dk_46 (dk_at dksX8_regiment_9 21 rfl rfl)
theorem dX8_regiment_233 : decode cX8_regiment 233 = .ok (.iastore, 1) := dk_79 (dk_at dksX8_regiment_9 22 rfl rfl)
theorem dX8_regiment_234 : decode cX8_regiment 234 = .ok (.aload_n 0, 1) := dk_42 (dk_at dksX8_regiment_9 23 rfl rfl)
theorem dX8_regiment_235 : decode cX8_regiment 235 = .ok (.getfield 81, 3) := dk_180 0 81 (dk_at dksX8_regiment_10 0 rfl rfl)
theorem dX8_regiment_238 : decode cX8_regiment 238 = .ok (.iload_n 1, 1) := dk_27 (dk_at dksX8_regiment_10 3 rfl rfl)
theorem dX8_regiment_239 : decode cX8_regiment 239 = .ok (.aload_n 0, 1) := dk_42 (dk_at dksX8_regiment_10 4 rfl rfl)
theorem dX8_regiment_240 : decode cX8_regiment 240 = .ok (.getfield 60, 3) := dk_180 0 60 (dk_at dksX8_regiment_10 5 rfl rfl)
theorem dX8_regiment_243 : decode cX8_regiment 243 = .ok (.iload_n 1, 1) := dk_27 (dk_at dksX8_regiment_10 8 rfl rfl)
theorem dX8_regiment_244 : decode cX8_regiment 244 = .ok (.iaload, 1) := dk_46 (dk_at dksX8_regiment_10 9 rfl rfl)
theorem dX8_regiment_245 : decode cX8_regiment 245 = .ok (.iastore, 1) := dk_79 (dk_at dksX8_regiment_10 10 rfl rfl)
theorem dX8_regiment_246 : decode cX8_regiment 246 = .ok (.iinc 1 1, 3) := dk_132 1 1 (dk_at dksX8_regiment_10 11 rfl rfl)
theorem dX8_regiment_249 : decode cX8_regiment 249 = .ok (.goto (-59), 3) := dk_167 255 197 (dk_at dksX8_regiment_10 14 rfl rfl)
theorem dX8_regiment_252 : decode cX8_regiment 252 = .ok (.aload_n 0, 1) := dk_42 (dk_at dksX8_regiment_10 17 rfl rfl)
theorem dX8_regiment_253 : decode cX8_regiment 253 = .ok (.invokevirtual 399, 3) := dk_182 1 143 (dk_at dksX8_regiment_10 18 rfl rfl)
theorem dX8_regiment_256 : decode cX8_regiment 256 = .ok (.aload_n 0, 1) := dk_42 (dk_at dksX8_regiment_10 21 rfl rfl)
theorem dX8_regiment_257 : decode cX8_regiment 257 = .ok (.getfield 96, 3) := dk_180 0 96 (dk_at dksX8_regiment_11 0 rfl rfl)
theorem dX8_regiment_260 : decode cX8_regiment 260 = .ok (.bipush 38, 2) := dk_16 38 (dk_at dksX8_regiment_11 3 rfl rfl)
theorem dX8_regiment_262 : decode cX8_regiment 262 = .ok (.aload_n 0, 1) := dk_42 (dk_at dksX8_regiment_11 5 rfl rfl)
theorem dX8_regiment_263 : decode cX8_regiment 263 = .ok (.getfield 378, 3) := dk_180 1 122 (dk_at dksX8_regiment_11 6 rfl rfl)
theorem dX8_regiment_266 : decode cX8_regiment 266 = .ok (.iastore, 1) := dk_79 (dk_at dksX8_regiment_11 9 rfl rfl)
theorem dX8_regiment_267 : decode cX8_regiment 267 = .ok (.aload_n 0, 1) := dk_42 (dk_at dksX8_regiment_11 10 rfl rfl)
theorem dX8_regiment_268 : decode cX8_regiment 268 = .ok (.invokevirtual 402, 3) := dk_182 1 146 (dk_at dksX8_regiment_11 11 rfl rfl)
theorem dX8_regiment_271 : decode cX8_regiment 271 = .ok (.aload_n 0, 1) := dk_42 (dk_at dksX8_regiment_11 14 rfl rfl)
theorem dX8_regiment_272 : decode cX8_regiment 272 = .ok (.iconst 0, 1) := dk_3 (dk_at dksX8_regiment_11 15 rfl rfl)
theorem dX8_regiment_273 : decode cX8_regiment 273 = .ok (.putfield 405, 3) := dk_181 1 149 (dk_at dksX8_regiment_11 16 rfl rfl)
theorem dX8_regiment_276 : decode cX8_regiment 276 = .ok (.aload_n 0, 1) := dk_42 (dk_at dksX8_regiment_11 19 rfl rfl)
theorem dX8_regiment_277 : decode cX8_regiment 277 = .ok (.iconst 0, 1) := dk_3 (dk_at dksX8_regiment_11 20 rfl rfl)
theorem dX8_regiment_278 : decode cX8_regiment 278 = .ok (.putfield 408, 3) := dk_181 1 152 (dk_at dksX8_regiment_11 21 rfl rfl)
theorem dX8_regiment_281 : decode cX8_regiment 281 = .ok (.aload_n 0, 1) := dk_42 (dk_at dksX8_regiment_12 0 rfl rfl)
theorem dX8_regiment_282 : decode cX8_regiment 282 = .ok (.iconst 0, 1) := dk_3 (dk_at dksX8_regiment_12 1 rfl rfl)
theorem dX8_regiment_283 : decode cX8_regiment 283 = .ok (.putfield 411, 3) := dk_181 1 155 (dk_at dksX8_regiment_12 2 rfl rfl)
theorem dX8_regiment_286 : decode cX8_regiment 286 = .ok (.aload_n 0, 1) := dk_42 (dk_at dksX8_regiment_12 5 rfl rfl)
theorem dX8_regiment_287 : decode cX8_regiment 287 = .ok (.iconst 0, 1) := dk_3 (dk_at dksX8_regiment_12 6 rfl rfl)
theorem dX8_regiment_288 : decode cX8_regiment 288 = .ok (.putfield 414, 3) := dk_181 1 158 (dk_at dksX8_regiment_12 7 rfl rfl)
theorem dX8_regiment_291 : decode cX8_regiment 291 = .ok (.iconst 0, 1) := dk_3 (dk_at dksX8_regiment_12 10 rfl rfl)
theorem dX8_regiment_292 : decode cX8_regiment 292 = .ok (.istore_n 1, 1) := dk_60 (dk_at dksX8_regiment_12 11 rfl rfl)
theorem dX8_regiment_293 : decode cX8_regiment 293 = .ok (.iload_n 1, 1) := dk_27 (dk_at dksX8_regiment_12 12 rfl rfl)
theorem dX8_regiment_294 : decode cX8_regiment 294 = .ok (.iconst 3, 1) := dk_6 (dk_at dksX8_regiment_12 13 rfl rfl)
theorem dX8_regiment_295 : decode cX8_regiment 295 = .ok (.if_icmp .ge 16, 3) := dk_162 0 16 (dk_at dksX8_regiment_12 14 rfl rfl)
theorem dX8_regiment_298 : decode cX8_regiment 298 = .ok (.aload_n 0, 1) := dk_42 (dk_at dksX8_regiment_12 17 rfl rfl)
theorem dX8_regiment_299 : decode cX8_regiment 299 = .ok (.getfield 133, 3) := dk_180 0 133 (dk_at dksX8_regiment_12 18 rfl rfl)
theorem dX8_regiment_302 : decode cX8_regiment 302 = .ok (.iload_n 1, 1) := dk_27 (dk_at dksX8_regiment_12 21 rfl rfl)
theorem dX8_regiment_303 : decode cX8_regiment 303 = .ok (.iconst 0, 1) := dk_3 (dk_at dksX8_regiment_12 22 rfl rfl)
theorem dX8_regiment_304 : decode cX8_regiment 304 = .ok (.bastore, 1) := dk_84 (dk_at dksX8_regiment_12 23 rfl rfl)
theorem dX8_regiment_305 : decode cX8_regiment 305 = .ok (.iinc 1 1, 3) := dk_132 1 1 (dk_at dksX8_regiment_13 0 rfl rfl)
theorem dX8_regiment_308 : decode cX8_regiment 308 = .ok (.goto (-15), 3) := dk_167 255 241 (dk_at dksX8_regiment_13 3 rfl rfl)
theorem dX8_regiment_311 : decode cX8_regiment 311 = .ok (.aload_n 0, 1) := dk_42 (dk_at dksX8_regiment_13 6 rfl rfl)
theorem dX8_regiment_312 : decode cX8_regiment 312 = .ok (.getfield 387, 3) := dk_180 1 131 (dk_at dksX8_regiment_13 7 rfl rfl)
theorem dX8_regiment_315 : decode cX8_regiment 315 = .ok (.ireturn, 1) := dk_172 (dk_at dksX8_regiment_13 10 rfl rfl)
abbrev cX8_readAll : ByteArray := prog_20_method_43_code
def yX8_readAll : MethodName := ⟨RX8, "readAll", "()V"⟩
def dkwX8_readAll_5 : List UInt8 := [182, 1, 125, 167, 255, 238, 177]
abbrev dktX8_readAll_5 : List UInt8 := dkwX8_readAll_5 ++ []
def dkwX8_readAll_4 : List UInt8 := [42, 3, 181, 1, 13, 42, 182, 0, 235, 42, 180, 0, 179, 154, 0, 17, 42, 180, 0, 166, 153, 0, 10, 42]
abbrev dktX8_readAll_4 : List UInt8 := dkwX8_readAll_4 ++ dktX8_readAll_5
def dkwX8_readAll_3 : List UInt8 := [3, 181, 1, 101, 42, 3, 181, 1, 107, 42, 3, 181, 1, 113, 42, 3, 181, 1, 119, 42, 3, 181, 1, 35]
abbrev dktX8_readAll_3 : List UInt8 := dkwX8_readAll_3 ++ dktX8_readAll_4
def dkwX8_readAll_2 : List UInt8 := [181, 1, 104, 42, 5, 181, 1, 110, 42, 3, 181, 1, 116, 42, 3, 181, 1, 122, 42, 3, 181, 1, 95, 42]
abbrev dktX8_readAll_2 : List UInt8 := dkwX8_readAll_2 ++ dktX8_readAll_3
def dkwX8_readAll_1 : List UInt8 := [2, 181, 0, 13, 42, 3, 181, 1, 74, 42, 3, 181, 1, 83, 42, 16, 10, 181, 1, 98, 42, 17, 0, 150]
abbrev dktX8_readAll_1 : List UInt8 := dkwX8_readAll_1 ++ dktX8_readAll_2
def dkwX8_readAll_0 : List UInt8 := [42, 42, 180, 0, 139, 181, 0, 149, 42, 3, 181, 0, 139, 42, 3, 181, 0, 146, 42, 3, 181, 0, 179, 42]
abbrev dktX8_readAll_0 : List UInt8 := dkwX8_readAll_0 ++ dktX8_readAll_1
theorem dksX8_readAll_0 : cX8_readAll.data.toList.drop 0 = dktX8_readAll_0 := by decide +kernel
theorem dksX8_readAll_1 : cX8_readAll.data.toList.drop 24 = dktX8_readAll_1 := dk_seg dksX8_readAll_0 24 rfl rfl
theorem dksX8_readAll_2 : cX8_readAll.data.toList.drop 48 = dktX8_readAll_2 := dk_seg dksX8_readAll_1 24 rfl rfl
theorem dksX8_readAll_3 : cX8_readAll.data.toList.drop 72 = dktX8_readAll_3 := dk_seg dksX8_readAll_2 24 rfl rfl
theorem dksX8_readAll_4 : cX8_readAll.data.toList.drop 96 = dktX8_readAll_4 := dk_seg dksX8_readAll_3 24 rfl rfl
theorem dksX8_readAll_5 : cX8_readAll.data.toList.drop 120 = dktX8_readAll_5 := dk_seg dksX8_readAll_4 24 rfl rfl
theorem dX8_readAll_0 : decode cX8_readAll 0 = .ok (.aload_n 0, 1) := dk_42 (dk_at dksX8_readAll_0 0 rfl rfl)
theorem dX8_readAll_1 : decode cX8_readAll 1 = .ok (.aload_n 0, 1) := dk_42 (dk_at dksX8_readAll_0 1 rfl rfl)
theorem dX8_readAll_2 : decode cX8_readAll 2 = .ok (.getfield 139, 3) := dk_180 0 139 (dk_at dksX8_readAll_0 2 rfl rfl)
theorem dX8_readAll_5 : decode cX8_readAll 5 = .ok (.putfield 149, 3) := dk_181 0 149 (dk_at dksX8_readAll_0 5 rfl rfl)
theorem dX8_readAll_8 : decode cX8_readAll 8 = .ok (.aload_n 0, 1) := dk_42 (dk_at dksX8_readAll_0 8 rfl rfl)
theorem dX8_readAll_9 : decode cX8_readAll 9 = .ok (.iconst 0, 1) := dk_3 (dk_at dksX8_readAll_0 9 rfl rfl)
theorem dX8_readAll_10 : decode cX8_readAll 10 = .ok (.putfield 139, 3) := dk_181 0 139 (dk_at dksX8_readAll_0 10 rfl rfl)
theorem dX8_readAll_13 : decode cX8_readAll 13 = .ok (.aload_n 0, 1) := dk_42 (dk_at dksX8_readAll_0 13 rfl rfl)
theorem dX8_readAll_14 : decode cX8_readAll 14 = .ok (.iconst 0, 1) := dk_3 (dk_at dksX8_readAll_0 14 rfl rfl)
theorem dX8_readAll_15 : decode cX8_readAll 15 = .ok (.putfield 146, 3) := dk_181 0 146 (dk_at dksX8_readAll_0 15 rfl rfl)
theorem dX8_readAll_18 : decode cX8_readAll 18 = .ok (.aload_n 0, 1) := dk_42 (dk_at dksX8_readAll_0 18 rfl rfl)
theorem dX8_readAll_19 : decode cX8_readAll 19 = .ok (.iconst 0, 1) := dk_3 (dk_at dksX8_readAll_0 19 rfl rfl)
theorem dX8_readAll_20 : decode cX8_readAll 20 = .ok (.putfield 179, 3) := dk_181 0 179 (dk_at dksX8_readAll_0 20 rfl rfl)
theorem dX8_readAll_23 : decode cX8_readAll 23 = .ok (.aload_n 0, 1) := dk_42 (dk_at dksX8_readAll_0 23 rfl rfl)
theorem dX8_readAll_24 : decode cX8_readAll 24 = .ok (.iconst (-1), 1) := dk_2 (dk_at dksX8_readAll_1 0 rfl rfl)
theorem dX8_readAll_25 : decode cX8_readAll 25 = .ok (.putfield 13, 3) := dk_181 0 13 (dk_at dksX8_readAll_1 1 rfl rfl)
theorem dX8_readAll_28 : decode cX8_readAll 28 = .ok (.aload_n 0, 1) := dk_42 (dk_at dksX8_readAll_1 4 rfl rfl)
theorem dX8_readAll_29 : decode cX8_readAll 29 = .ok (.iconst 0, 1) := dk_3 (dk_at dksX8_readAll_1 5 rfl rfl)
theorem dX8_readAll_30 : decode cX8_readAll 30 = .ok (.putfield 330, 3) := dk_181 1 74 (dk_at dksX8_readAll_1 6 rfl rfl)
theorem dX8_readAll_33 : decode cX8_readAll 33 = .ok (.aload_n 0, 1) := dk_42 (dk_at dksX8_readAll_1 9 rfl rfl)
theorem dX8_readAll_34 : decode cX8_readAll 34 = .ok (.iconst 0, 1) := dk_3 (dk_at dksX8_readAll_1 10 rfl rfl)
theorem dX8_readAll_35 : decode cX8_readAll 35 = .ok (.putfield 339, 3) := dk_181 1 83 (dk_at dksX8_readAll_1 11 rfl rfl)
theorem dX8_readAll_38 : decode cX8_readAll 38 = .ok (.aload_n 0, 1) := dk_42 (dk_at dksX8_readAll_1 14 rfl rfl)
theorem dX8_readAll_39 : decode cX8_readAll 39 = .ok (.bipush 10, 2) := dk_16 10 (dk_at dksX8_readAll_1 15 rfl rfl)
theorem dX8_readAll_41 : decode cX8_readAll 41 = .ok (.putfield 354, 3) := dk_181 1 98 (dk_at dksX8_readAll_1 17 rfl rfl)
theorem dX8_readAll_44 : decode cX8_readAll 44 = .ok (.aload_n 0, 1) := dk_42 (dk_at dksX8_readAll_1 20 rfl rfl)
theorem dX8_readAll_45 : decode cX8_readAll 45 = .ok (.sipush 150, 3) := dk_17 0 150 (dk_at dksX8_readAll_1 21 rfl rfl)
theorem dX8_readAll_48 : decode cX8_readAll 48 = .ok (.putfield 360, 3) := dk_181 1 104 (dk_at dksX8_readAll_2 0 rfl rfl)
theorem dX8_readAll_51 : decode cX8_readAll 51 = .ok (.aload_n 0, 1) := dk_42 (dk_at dksX8_readAll_2 3 rfl rfl)
theorem dX8_readAll_52 : decode cX8_readAll 52 = .ok (.iconst 2, 1) := dk_5 (dk_at dksX8_readAll_2 4 rfl rfl)
theorem dX8_readAll_53 : decode cX8_readAll 53 = .ok (.putfield 366, 3) := dk_181 1 110 (dk_at dksX8_readAll_2 5 rfl rfl)
theorem dX8_readAll_56 : decode cX8_readAll 56 = .ok (.aload_n 0, 1) := dk_42 (dk_at dksX8_readAll_2 8 rfl rfl)
theorem dX8_readAll_57 : decode cX8_readAll 57 = .ok (.iconst 0, 1) := dk_3 (dk_at dksX8_readAll_2 9 rfl rfl)
theorem dX8_readAll_58 : decode cX8_readAll 58 = .ok (.putfield 372, 3) := dk_181 1 116 (dk_at dksX8_readAll_2 10 rfl rfl)
theorem dX8_readAll_61 : decode cX8_readAll 61 = .ok (.aload_n 0, 1) := dk_42 (dk_at dksX8_readAll_2 13 rfl rfl)
theorem dX8_readAll_62 : decode cX8_readAll 62 = .ok (.iconst 0, 1) := dk_3 (dk_at dksX8_readAll_2 14 rfl rfl)
theorem dX8_readAll_63 : decode cX8_readAll 63 = .ok (.putfield 378, 3) := dk_181 1 122 (dk_at dksX8_readAll_2 15 rfl rfl)
theorem dX8_readAll_66 : decode cX8_readAll 66 = .ok (.aload_n 0, 1) := dk_42 (dk_at dksX8_readAll_2 18 rfl rfl)
theorem dX8_readAll_67 : decode cX8_readAll 67 = .ok (.iconst 0, 1) := dk_3 (dk_at dksX8_readAll_2 19 rfl rfl)
theorem dX8_readAll_68 : decode cX8_readAll 68 = .ok (.putfield 351, 3) := dk_181 1 95 (dk_at dksX8_readAll_2 20 rfl rfl)
theorem dX8_readAll_71 : decode cX8_readAll 71 = .ok (.aload_n 0, 1) := dk_42 (dk_at dksX8_readAll_2 23 rfl rfl)
theorem dX8_readAll_72 : decode cX8_readAll 72 = .ok (.iconst 0, 1) := dk_3 (dk_at dksX8_readAll_3 0 rfl rfl)
theorem dX8_readAll_73 : decode cX8_readAll 73 = .ok (.putfield 357, 3) := dk_181 1 101 (dk_at dksX8_readAll_3 1 rfl rfl)
theorem dX8_readAll_76 : decode cX8_readAll 76 = .ok (.aload_n 0, 1) := dk_42 (dk_at dksX8_readAll_3 4 rfl rfl)
theorem dX8_readAll_77 : decode cX8_readAll 77 = .ok (.iconst 0, 1) := dk_3 (dk_at dksX8_readAll_3 5 rfl rfl)
theorem dX8_readAll_78 : decode cX8_readAll 78 = .ok (.putfield 363, 3) := dk_181 1 107 (dk_at dksX8_readAll_3 6 rfl rfl)
theorem dX8_readAll_81 : decode cX8_readAll 81 = .ok (.aload_n 0, 1) := dk_42 (dk_at dksX8_readAll_3 9 rfl rfl)
theorem dX8_readAll_82 : decode cX8_readAll 82 = .ok (.iconst 0, 1) := dk_3 (dk_at dksX8_readAll_3 10 rfl rfl)
theorem dX8_readAll_83 : decode cX8_readAll 83 = .ok (.putfield 369, 3) := dk_181 1 113 (dk_at dksX8_readAll_3 11 rfl rfl)
theorem dX8_readAll_86 : decode cX8_readAll 86 = .ok (.aload_n 0, 1) := dk_42 (dk_at dksX8_readAll_3 14 rfl rfl)
theorem dX8_readAll_87 : decode cX8_readAll 87 = .ok (.iconst 0, 1) := dk_3 (dk_at dksX8_readAll_3 15 rfl rfl)
theorem dX8_readAll_88 : decode cX8_readAll 88 = .ok (.putfield 375, 3) := dk_181 1 119 (dk_at dksX8_readAll_3 16 rfl rfl)
theorem dX8_readAll_91 : decode cX8_readAll 91 = .ok (.aload_n 0, 1) := dk_42 (dk_at dksX8_readAll_3 19 rfl rfl)
theorem dX8_readAll_92 : decode cX8_readAll 92 = .ok (.iconst 0, 1) := dk_3 (dk_at dksX8_readAll_3 20 rfl rfl)
theorem dX8_readAll_93 : decode cX8_readAll 93 = .ok (.putfield 291, 3) := dk_181 1 35 (dk_at dksX8_readAll_3 21 rfl rfl)
theorem dX8_readAll_96 : decode cX8_readAll 96 = .ok (.aload_n 0, 1) := dk_42 (dk_at dksX8_readAll_4 0 rfl rfl)
theorem dX8_readAll_97 : decode cX8_readAll 97 = .ok (.iconst 0, 1) := dk_3 (dk_at dksX8_readAll_4 1 rfl rfl)
theorem dX8_readAll_98 : decode cX8_readAll 98 = .ok (.putfield 269, 3) := dk_181 1 13 (dk_at dksX8_readAll_4 2 rfl rfl)
theorem dX8_readAll_101 : decode cX8_readAll 101 = .ok (.aload_n 0, 1) := dk_42 (dk_at dksX8_readAll_4 5 rfl rfl)
theorem dX8_readAll_102 : decode cX8_readAll 102 = .ok (.invokevirtual 235, 3) := dk_182 0 235 (dk_at dksX8_readAll_4 6 rfl rfl)
theorem dX8_readAll_105 : decode cX8_readAll 105 = .ok (.aload_n 0, 1) := dk_42 (dk_at dksX8_readAll_4 9 rfl rfl)
theorem dX8_readAll_106 : decode cX8_readAll 106 = .ok (.getfield 179, 3) := dk_180 0 179 (dk_at dksX8_readAll_4 10 rfl rfl)
theorem dX8_readAll_109 : decode cX8_readAll 109 = .ok (.ifCond .ne 17, 3) := dk_154 0 17 (dk_at dksX8_readAll_4 13 rfl rfl)
theorem dX8_readAll_112 : decode cX8_readAll 112 = .ok (.aload_n 0, 1) := dk_42 (dk_at dksX8_readAll_4 16 rfl rfl)
theorem dX8_readAll_113 : decode cX8_readAll 113 = .ok (.getfield 166, 3) := dk_180 0 166 (dk_at dksX8_readAll_4 17 rfl rfl)
theorem dX8_readAll_116 : decode cX8_readAll 116 = .ok (.ifCond .eq 10, 3) := dk_153 0 10 (dk_at dksX8_readAll_4 20 rfl rfl)
theorem dX8_readAll_119 : decode cX8_readAll 119 = .ok (.aload_n 0, 1) := dk_42 (dk_at dksX8_readAll_4 23 rfl rfl)
theorem dX8_readAll_120 : decode cX8_readAll 120 = .ok (.invokevirtual 381, 3) := dk_182 1 125 (dk_at dksX8_readAll_5 0 rfl rfl)
theorem dX8_readAll_123 : decode cX8_readAll 123 = .ok (.goto (-18), 3) := dk_167 255 238 (dk_at dksX8_readAll_5 3 rfl rfl)
theorem dX8_readAll_126 : decode cX8_readAll 126 = .ok (.return_, 1) := dk_177 (dk_at dksX8_readAll_5 6 rfl rfl)
abbrev cX8_token : ByteArray := prog_20_method_9_code
def yX8_token : MethodName := ⟨RX8, "token", "()V"⟩
def dkwX8_token_10 : List UInt8 := [181, 0, 166, 42, 180, 0, 166, 6, 159, 0, 13, 42, 89, 180, 0, 146, 28, 96, 181, 0, 146, 177]
abbrev dktX8_token_10 : List UInt8 := dkwX8_token_10 ++ []
def dkwX8_token_9 : List UInt8 := [5, 181, 0, 166, 167, 0, 21, 4, 61, 42, 27, 184, 0, 176, 153, 0, 7, 27, 167, 0, 4, 6]
abbrev dktX8_token_9 : List UInt8 := dkwX8_token_9 ++ dktX8_token_10
def dkwX8_token_8 : List UInt8 := [167, 255, 217, 42, 28, 7, 163, 0, 14, 42, 28, 182, 0, 152, 184, 0, 169, 153, 0, 7, 6, 167, 0, 4]
abbrev dktX8_token_8 : List UInt8 := dkwX8_token_8 ++ dktX8_token_9
def dkwX8_token_7 : List UInt8 := [16, 10, 42, 180, 0, 163, 104, 42, 28, 182, 0, 152, 96, 16, 48, 100, 181, 0, 163, 132, 2, 1]
abbrev dktX8_token_7 : List UInt8 := dkwX8_token_7 ++ dktX8_token_8
def dkwX8_token_6 : List UInt8 := [184, 0, 173, 153, 0, 73, 42, 28, 182, 0, 152, 184, 0, 173, 153, 0, 34, 28, 7, 162, 0, 23, 42]
abbrev dktX8_token_6 : List UInt8 := dkwX8_token_6 ++ dktX8_token_7
def dkwX8_token_5 : List UInt8 := [167, 255, 218, 42, 28, 16, 8, 164, 0, 7, 6, 167, 0, 4, 4, 181, 0, 166, 167, 0, 98, 27]
abbrev dktX8_token_5 : List UInt8 := dkwX8_token_5 ++ dktX8_token_6
def dkwX8_token_4 : List UInt8 := [162, 0, 21, 42, 42, 180, 0, 159, 16, 8, 121, 42, 28, 182, 0, 152, 133, 129, 181, 0, 159, 132, 2, 1]
abbrev dktX8_token_4 : List UInt8 := dkwX8_token_4 ++ dktX8_token_5
def dkwX8_token_3 : List UInt8 := [167, 0, 164, 27, 184, 0, 169, 153, 0, 62, 42, 28, 182, 0, 152, 184, 0, 169, 153, 0, 33, 28, 16, 8]
abbrev dktX8_token_3 : List UInt8 := dkwX8_token_3 ++ dktX8_token_4
def dkwX8_token_2 : List UInt8 := [60, 3, 61, 42, 9, 181, 0, 159, 42, 3, 181, 0, 163, 27, 156, 0, 11, 42, 3, 181, 0, 166]
abbrev dktX8_token_2 : List UInt8 := dkwX8_token_2 ++ dktX8_token_3
def dkwX8_token_1 : List UInt8 := [180, 0, 146, 4, 96, 181, 0, 146, 167, 255, 226, 42, 42, 180, 0, 146, 181, 0, 156, 42, 3, 182, 0, 152]
abbrev dktX8_token_1 : List UInt8 := dkwX8_token_1 ++ dktX8_token_2
def dkwX8_token_0 : List UInt8 := [42, 3, 182, 0, 152, 16, 32, 159, 0, 13, 42, 3, 182, 0, 152, 16, 10, 160, 0, 16, 42, 89]
abbrev dktX8_token_0 : List UInt8 := dkwX8_token_0 ++ dktX8_token_1
theorem dksX8_token_0 : cX8_token.data.toList.drop 0 = dktX8_token_0 := by decide +kernel
theorem dksX8_token_1 : cX8_token.data.toList.drop 22 = dktX8_token_1 := dk_seg dksX8_token_0 22 rfl rfl
theorem dksX8_token_2 : cX8_token.data.toList.drop 46 = dktX8_token_2 := dk_seg dksX8_token_1 24 rfl rfl
theorem dksX8_token_3 : cX8_token.data.toList.drop 68 = dktX8_token_3 := dk_seg dksX8_token_2 22 rfl rfl
theorem dksX8_token_4 : cX8_token.data.toList.drop 92 = dktX8_token_4 := dk_seg dksX8_token_3 24 rfl rfl
theorem dksX8_token_5 : cX8_token.data.toList.drop 116 = dktX8_token_5 := dk_seg dksX8_token_4 24 rfl rfl
theorem dksX8_token_6 : cX8_token.data.toList.drop 138 = dktX8_token_6 := dk_seg dksX8_token_5 22 rfl rfl
theorem dksX8_token_7 : cX8_token.data.toList.drop 161 = dktX8_token_7 := dk_seg dksX8_token_6 23 rfl rfl
theorem dksX8_token_8 : cX8_token.data.toList.drop 183 = dktX8_token_8 := dk_seg dksX8_token_7 22 rfl rfl
theorem dksX8_token_9 : cX8_token.data.toList.drop 207 = dktX8_token_9 := dk_seg dksX8_token_8 24 rfl rfl
theorem dksX8_token_10 : cX8_token.data.toList.drop 229 = dktX8_token_10 := dk_seg dksX8_token_9 22 rfl rfl
theorem dX8_token_0 : decode cX8_token 0 = .ok (.aload_n 0, 1) := dk_42 (dk_at dksX8_token_0 0 rfl rfl)
theorem dX8_token_1 : decode cX8_token 1 = .ok (.iconst 0, 1) := dk_3 (dk_at dksX8_token_0 1 rfl rfl)
theorem dX8_token_2 : decode cX8_token 2 = .ok (.invokevirtual 152, 3) := dk_182 0 152 (dk_at dksX8_token_0 2 rfl rfl)
theorem dX8_token_5 : decode cX8_token 5 = .ok (.bipush 32, 2) := dk_16 32 (dk_at dksX8_token_0 5 rfl rfl)
theorem dX8_token_7 : decode cX8_token 7 = .ok (.if_icmp .eq 13, 3) := dk_159 0 13 (dk_at dksX8_token_0 7 rfl rfl)
theorem dX8_token_10 : decode cX8_token 10 = .ok (.aload_n 0, 1) := dk_42 (dk_at dksX8_token_0 10 rfl rfl)
theorem dX8_token_11 : decode cX8_token 11 = .ok (.iconst 0, 1) := dk_3 (dk_at dksX8_token_0 11 rfl rfl)
theorem dX8_token_12 : decode cX8_token 12 = .ok (.invokevirtual 152, 3) := dk_182 0 152 (dk_at dksX8_token_0 12 rfl rfl)
theorem dX8_token_15 : decode cX8_token 15 = .ok (.bipush 10, 2) := dk_16 10 (dk_at dksX8_token_0 15 rfl rfl)
theorem dX8_token_17 : decode cX8_token 17 = .ok (.if_icmp .ne 16, 3) := dk_160 0 16 (dk_at dksX8_token_0 17 rfl rfl)
theorem dX8_token_20 : decode cX8_token 20 = .ok (.aload_n 0, 1) := dk_42 (dk_at dksX8_token_0 20 rfl rfl)
theorem dX8_token_21 : decode cX8_token 21 = .ok (.dup, 1) := dk_89 (dk_at dksX8_token_0 21 rfl rfl)
theorem dX8_token_22 : decode cX8_token 22 = .ok (.getfield 146, 3) := dk_180 0 146 (dk_at dksX8_token_1 0 rfl rfl)
theorem dX8_token_25 : decode cX8_token 25 = .ok (.iconst 1, 1) := dk_4 (dk_at dksX8_token_1 3 rfl rfl)
theorem dX8_token_26 : decode cX8_token 26 = .ok (.iadd, 1) := dk_96 (dk_at dksX8_token_1 4 rfl rfl)
theorem dX8_token_27 : decode cX8_token 27 = .ok (.putfield 146, 3) := dk_181 0 146 (dk_at dksX8_token_1 5 rfl rfl)
theorem dX8_token_30 : decode cX8_token 30 = .ok (.goto (-30), 3) := dk_167 255 226 (dk_at dksX8_token_1 8 rfl rfl)
theorem dX8_token_33 : decode cX8_token 33 = .ok (.aload_n 0, 1) := dk_42 (dk_at dksX8_token_1 11 rfl rfl)
theorem dX8_token_34 : decode cX8_token 34 = .ok (.aload_n 0, 1) := dk_42 (dk_at dksX8_token_1 12 rfl rfl)
theorem dX8_token_35 : decode cX8_token 35 = .ok (.getfield 146, 3) := dk_180 0 146 (dk_at dksX8_token_1 13 rfl rfl)
theorem dX8_token_38 : decode cX8_token 38 = .ok (.putfield 156, 3) := dk_181 0 156 (dk_at dksX8_token_1 16 rfl rfl)
theorem dX8_token_41 : decode cX8_token 41 = .ok (.aload_n 0, 1) := dk_42 (dk_at dksX8_token_1 19 rfl rfl)
theorem dX8_token_42 : decode cX8_token 42 = .ok (.iconst 0, 1) := dk_3 (dk_at dksX8_token_1 20 rfl rfl)
theorem dX8_token_43 : decode cX8_token 43 = .ok (.invokevirtual 152, 3) := dk_182 0 152 (dk_at dksX8_token_1 21 rfl rfl)
theorem dX8_token_46 : decode cX8_token 46 = .ok (.istore_n 1, 1) := dk_60 (dk_at dksX8_token_2 0 rfl rfl)
theorem dX8_token_47 : decode cX8_token 47 = .ok (.iconst 0, 1) := dk_3 (dk_at dksX8_token_2 1 rfl rfl)
theorem dX8_token_48 : decode cX8_token 48 = .ok (.istore_n 2, 1) := dk_61 (dk_at dksX8_token_2 2 rfl rfl)
theorem dX8_token_49 : decode cX8_token 49 = .ok (.aload_n 0, 1) := dk_42 (dk_at dksX8_token_2 3 rfl rfl)
theorem dX8_token_50 : decode cX8_token 50 = .ok (.lconst 0, 1) := dk_9 (dk_at dksX8_token_2 4 rfl rfl)
theorem dX8_token_51 : decode cX8_token 51 = .ok (.putfield 159, 3) := dk_181 0 159 (dk_at dksX8_token_2 5 rfl rfl)
theorem dX8_token_54 : decode cX8_token 54 = .ok (.aload_n 0, 1) := dk_42 (dk_at dksX8_token_2 8 rfl rfl)
theorem dX8_token_55 : decode cX8_token 55 = .ok (.iconst 0, 1) := dk_3 (dk_at dksX8_token_2 9 rfl rfl)
theorem dX8_token_56 : decode cX8_token 56 = .ok (.putfield 163, 3) := dk_181 0 163 (dk_at dksX8_token_2 10 rfl rfl)
theorem dX8_token_59 : decode cX8_token 59 = .ok (.iload_n 1, 1) := dk_27 (dk_at dksX8_token_2 13 rfl rfl)
theorem dX8_token_60 : decode cX8_token 60 = .ok (.ifCond .ge 11, 3) := dk_156 0 11 (dk_at dksX8_token_2 14 rfl rfl)
theorem dX8_token_63 : decode cX8_token 63 = .ok (.aload_n 0, 1) := dk_42 (dk_at dksX8_token_2 17 rfl rfl)
theorem dX8_token_64 : decode cX8_token 64 = .ok (.iconst 0, 1) := dk_3 (dk_at dksX8_token_2 18 rfl rfl)
theorem dX8_token_65 : decode cX8_token 65 = .ok (.putfield 166, 3) := dk_181 0 166 (dk_at dksX8_token_2 19 rfl rfl)
theorem dX8_token_68 : decode cX8_token 68 = .ok (.goto 164, 3) := dk_167 0 164 (dk_at dksX8_token_3 0 rfl rfl)
theorem dX8_token_71 : decode cX8_token 71 = .ok (.iload_n 1, 1) := dk_27 (dk_at dksX8_token_3 3 rfl rfl)
theorem dX8_token_72 : decode cX8_token 72 = .ok (.invokestatic 169, 3) := dk_184 0 169 (dk_at dksX8_token_3 4 rfl rfl)
theorem dX8_token_75 : decode cX8_token 75 = .ok (.ifCond .eq 62, 3) := dk_153 0 62 (dk_at dksX8_token_3 7 rfl rfl)
theorem dX8_token_78 : decode cX8_token 78 = .ok (.aload_n 0, 1) := dk_42 (dk_at dksX8_token_3 10 rfl rfl)
theorem dX8_token_79 : decode cX8_token 79 = .ok (.iload_n 2, 1) := dk_28 (dk_at dksX8_token_3 11 rfl rfl)
theorem dX8_token_80 : decode cX8_token 80 = .ok (.invokevirtual 152, 3) := dk_182 0 152 (dk_at dksX8_token_3 12 rfl rfl)
theorem dX8_token_83 : decode cX8_token 83 = .ok (.invokestatic 169, 3) := dk_184 0 169 (dk_at dksX8_token_3 15 rfl rfl)
theorem dX8_token_86 : decode cX8_token 86 = .ok (.ifCond .eq 33, 3) := dk_153 0 33 (dk_at dksX8_token_3 18 rfl rfl)
theorem dX8_token_89 : decode cX8_token 89 = .ok (.iload_n 2, 1) := dk_28 (dk_at dksX8_token_3 21 rfl rfl)
theorem dX8_token_90 : decode cX8_token 90 = .ok (.bipush 8, 2) := dk_16 8 (dk_at dksX8_token_3 22 rfl rfl)
theorem dX8_token_92 : decode cX8_token 92 = .ok (.if_icmp .ge 21, 3) := dk_162 0 21 (dk_at dksX8_token_4 0 rfl rfl)
theorem dX8_token_95 : decode cX8_token 95 = .ok (.aload_n 0, 1) := dk_42 (dk_at dksX8_token_4 3 rfl rfl)
theorem dX8_token_96 : decode cX8_token 96 = .ok (.aload_n 0, 1) := dk_42 (dk_at dksX8_token_4 4 rfl rfl)
theorem dX8_token_97 : decode cX8_token 97 = .ok (.getfield 159, 3) := dk_180 0 159 (dk_at dksX8_token_4 5 rfl rfl)
theorem dX8_token_100 : decode cX8_token 100 = .ok (.bipush 8, 2) := dk_16 8 (dk_at dksX8_token_4 8 rfl rfl)
theorem dX8_token_102 : decode cX8_token 102 = .ok (.lshl, 1) := dk_121 (dk_at dksX8_token_4 10 rfl rfl)
theorem dX8_token_103 : decode cX8_token 103 = .ok (.aload_n 0, 1) := dk_42 (dk_at dksX8_token_4 11 rfl rfl)
theorem dX8_token_104 : decode cX8_token 104 = .ok (.iload_n 2, 1) := dk_28 (dk_at dksX8_token_4 12 rfl rfl)
theorem dX8_token_105 : decode cX8_token 105 = .ok (.invokevirtual 152, 3) := dk_182 0 152 (dk_at dksX8_token_4 13 rfl rfl)
theorem dX8_token_108 : decode cX8_token 108 = .ok (.i2l, 1) := dk_133 (dk_at dksX8_token_4 16 rfl rfl)
theorem dX8_token_109 : decode cX8_token 109 = .ok (.lor, 1) := dk_129 (dk_at dksX8_token_4 17 rfl rfl)
theorem dX8_token_110 : decode cX8_token 110 = .ok (.putfield 159, 3) := dk_181 0 159 (dk_at dksX8_token_4 18 rfl rfl)
theorem dX8_token_113 : decode cX8_token 113 = .ok (.iinc 2 1, 3) := dk_132 2 1 (dk_at dksX8_token_4 21 rfl rfl)
theorem dX8_token_116 : decode cX8_token 116 = .ok (.goto (-38), 3) := dk_167 255 218 (dk_at dksX8_token_5 0 rfl rfl)
theorem dX8_token_119 : decode cX8_token 119 = .ok (.aload_n 0, 1) := dk_42 (dk_at dksX8_token_5 3 rfl rfl)
theorem dX8_token_120 : decode cX8_token 120 = .ok (.iload_n 2, 1) := dk_28 (dk_at dksX8_token_5 4 rfl rfl)
theorem dX8_token_121 : decode cX8_token 121 = .ok (.bipush 8, 2) := dk_16 8 (dk_at dksX8_token_5 5 rfl rfl)
theorem dX8_token_123 : decode cX8_token 123 = .ok (.if_icmp .le 7, 3) := dk_164 0 7 (dk_at dksX8_token_5 7 rfl rfl)
theorem dX8_token_126 : decode cX8_token 126 = .ok (.iconst 3, 1) := dk_6 (dk_at dksX8_token_5 10 rfl rfl)
theorem dX8_token_127 : decode cX8_token 127 = .ok (.goto 4, 3) := dk_167 0 4 (dk_at dksX8_token_5 11 rfl rfl)
theorem dX8_token_130 : decode cX8_token 130 = .ok (.iconst 1, 1) := dk_4 (dk_at dksX8_token_5 14 rfl rfl)
theorem dX8_token_131 : decode cX8_token 131 = .ok (.putfield 166, 3) := dk_181 0 166 (dk_at dksX8_token_5 15 rfl rfl)
theorem dX8_token_134 : decode cX8_token 134 = .ok (.goto 98, 3) := dk_167 0 98 (dk_at dksX8_token_5 18 rfl rfl)
theorem dX8_token_137 : decode cX8_token 137 = .ok (.iload_n 1, 1) := dk_27 (dk_at dksX8_token_5 21 rfl rfl)
theorem dX8_token_138 : decode cX8_token 138 = .ok (.invokestatic 173, 3) := dk_184 0 173 (dk_at dksX8_token_6 0 rfl rfl)
theorem dX8_token_141 : decode cX8_token 141 = .ok (.ifCond .eq 73, 3) := dk_153 0 73 (dk_at dksX8_token_6 3 rfl rfl)
theorem dX8_token_144 : decode cX8_token 144 = .ok (.aload_n 0, 1) := dk_42 (dk_at dksX8_token_6 6 rfl rfl)
theorem dX8_token_145 : decode cX8_token 145 = .ok (.iload_n 2, 1) := dk_28 (dk_at dksX8_token_6 7 rfl rfl)
theorem dX8_token_146 : decode cX8_token 146 = .ok (.invokevirtual 152, 3) := dk_182 0 152 (dk_at dksX8_token_6 8 rfl rfl)
theorem dX8_token_149 : decode cX8_token 149 = .ok (.invokestatic 173, 3) := dk_184 0 173 (dk_at dksX8_token_6 11 rfl rfl)
theorem dX8_token_152 : decode cX8_token 152 = .ok (.ifCond .eq 34, 3) := dk_153 0 34 (dk_at dksX8_token_6 14 rfl rfl)
theorem dX8_token_155 : decode cX8_token 155 = .ok (.iload_n 2, 1) := dk_28 (dk_at dksX8_token_6 17 rfl rfl)
theorem dX8_token_156 : decode cX8_token 156 = .ok (.iconst 4, 1) := dk_7 (dk_at dksX8_token_6 18 rfl rfl)
theorem dX8_token_157 : decode cX8_token 157 = .ok (.if_icmp .ge 23, 3) := dk_162 0 23 (dk_at dksX8_token_6 19 rfl rfl)
theorem dX8_token_160 : decode cX8_token 160 = .ok (.aload_n 0, 1) := dk_42 (dk_at dksX8_token_6 22 rfl rfl)
theorem dX8_token_161 : decode cX8_token 161 = .ok (.bipush 10, 2) := dk_16 10 (dk_at dksX8_token_7 0 rfl rfl)
theorem dX8_token_163 : decode cX8_token 163 = .ok (.aload_n 0, 1) := dk_42 (dk_at dksX8_token_7 2 rfl rfl)
theorem dX8_token_164 : decode cX8_token 164 = .ok (.getfield 163, 3) := dk_180 0 163 (dk_at dksX8_token_7 3 rfl rfl)
theorem dX8_token_167 : decode cX8_token 167 = .ok (.imul, 1) := dk_104 (dk_at dksX8_token_7 6 rfl rfl)
theorem dX8_token_168 : decode cX8_token 168 = .ok (.aload_n 0, 1) := dk_42 (dk_at dksX8_token_7 7 rfl rfl)
theorem dX8_token_169 : decode cX8_token 169 = .ok (.iload_n 2, 1) := dk_28 (dk_at dksX8_token_7 8 rfl rfl)
theorem dX8_token_170 : decode cX8_token 170 = .ok (.invokevirtual 152, 3) := dk_182 0 152 (dk_at dksX8_token_7 9 rfl rfl)
theorem dX8_token_173 : decode cX8_token 173 = .ok (.iadd, 1) := dk_96 (dk_at dksX8_token_7 12 rfl rfl)
theorem dX8_token_174 : decode cX8_token 174 = .ok (.bipush 48, 2) := dk_16 48 (dk_at dksX8_token_7 13 rfl rfl)
theorem dX8_token_176 : decode cX8_token 176 = .ok (.isub, 1) := dk_100 (dk_at dksX8_token_7 15 rfl rfl)
theorem dX8_token_177 : decode cX8_token 177 = .ok (.putfield 163, 3) := dk_181 0 163 (dk_at dksX8_token_7 16 rfl rfl)
theorem dX8_token_180 : decode cX8_token 180 = .ok (.iinc 2 1, 3) := dk_132 2 1 (dk_at dksX8_token_7 19 rfl rfl)
theorem dX8_token_183 : decode cX8_token 183 = .ok (.goto (-39), 3) := dk_167 255 217 (dk_at dksX8_token_8 0 rfl rfl)
theorem dX8_token_186 : decode cX8_token 186 = .ok (.aload_n 0, 1) := dk_42 (dk_at dksX8_token_8 3 rfl rfl)
theorem dX8_token_187 : decode cX8_token 187 = .ok (.iload_n 2, 1) := dk_28 (dk_at dksX8_token_8 4 rfl rfl)
theorem dX8_token_188 : decode cX8_token 188 = .ok (.iconst 4, 1) := dk_7 (dk_at dksX8_token_8 5 rfl rfl)
theorem dX8_token_189 : decode cX8_token 189 = .ok (.if_icmp .gt 14, 3) := dk_163 0 14 (dk_at dksX8_token_8 6 rfl rfl)
theorem dX8_token_192 : decode cX8_token 192 = .ok (.aload_n 0, 1) := dk_42 (dk_at dksX8_token_8 9 rfl rfl)
theorem dX8_token_193 : decode cX8_token 193 = .ok (.iload_n 2, 1) := dk_28 (dk_at dksX8_token_8 10 rfl rfl)
theorem dX8_token_194 : decode cX8_token 194 = .ok (.invokevirtual 152, 3) := dk_182 0 152 (dk_at dksX8_token_8 11 rfl rfl)
theorem dX8_token_197 : decode cX8_token 197 = .ok (.invokestatic 169, 3) := dk_184 0 169 (dk_at dksX8_token_8 14 rfl rfl)
theorem dX8_token_200 : decode cX8_token 200 = .ok (.ifCond .eq 7, 3) := dk_153 0 7 (dk_at dksX8_token_8 17 rfl rfl)
theorem dX8_token_203 : decode cX8_token 203 = .ok (.iconst 3, 1) := dk_6 (dk_at dksX8_token_8 20 rfl rfl)
theorem dX8_token_204 : decode cX8_token 204 = .ok (.goto 4, 3) := dk_167 0 4 (dk_at dksX8_token_8 21 rfl rfl)
theorem dX8_token_207 : decode cX8_token 207 = .ok (.iconst 2, 1) := dk_5 (dk_at dksX8_token_9 0 rfl rfl)
theorem dX8_token_208 : decode cX8_token 208 = .ok (.putfield 166, 3) := dk_181 0 166 (dk_at dksX8_token_9 1 rfl rfl)
theorem dX8_token_211 : decode cX8_token 211 = .ok (.goto 21, 3) := dk_167 0 21 (dk_at dksX8_token_9 4 rfl rfl)
theorem dX8_token_214 : decode cX8_token 214 = .ok (.iconst 1, 1) := dk_4 (dk_at dksX8_token_9 7 rfl rfl)
theorem dX8_token_215 : decode cX8_token 215 = .ok (.istore_n 2, 1) := dk_61 (dk_at dksX8_token_9 8 rfl rfl)
theorem dX8_token_216 : decode cX8_token 216 = .ok (.aload_n 0, 1) := dk_42 (dk_at dksX8_token_9 9 rfl rfl)
theorem dX8_token_217 : decode cX8_token 217 = .ok (.iload_n 1, 1) := dk_27 (dk_at dksX8_token_9 10 rfl rfl)
theorem dX8_token_218 : decode cX8_token 218 = .ok (.invokestatic 176, 3) := dk_184 0 176 (dk_at dksX8_token_9 11 rfl rfl)
theorem dX8_token_221 : decode cX8_token 221 = .ok (.ifCond .eq 7, 3) := dk_153 0 7 (dk_at dksX8_token_9 14 rfl rfl)
theorem dX8_token_224 : decode cX8_token 224 = .ok (.iload_n 1, 1) := dk_27 (dk_at dksX8_token_9 17 rfl rfl)
theorem dX8_token_225 : decode cX8_token 225 = .ok (.goto 4, 3) := dk_167 0 4 (dk_at dksX8_token_9 18 rfl rfl)
theorem dX8_token_228 : decode cX8_token 228 = .ok (.iconst 3, 1) := dk_6 (dk_at dksX8_token_9 21 rfl rfl)
theorem dX8_token_229 : decode cX8_token 229 = .ok (.putfield 166, 3) := dk_181 0 166 (dk_at dksX8_token_10 0 rfl rfl)
theorem dX8_token_232 : decode cX8_token 232 = .ok (.aload_n 0, 1) := dk_42 (dk_at dksX8_token_10 3 rfl rfl)
theorem dX8_token_233 : decode cX8_token 233 = .ok (.getfield 166, 3) := dk_180 0 166 (dk_at dksX8_token_10 4 rfl rfl)
theorem dX8_token_236 : decode cX8_token 236 = .ok (.iconst 3, 1) := dk_6 (dk_at dksX8_token_10 7 rfl rfl)
theorem dX8_token_237 : decode cX8_token 237 = .ok (.if_icmp .eq 13, 3) := dk_159 0 13 (dk_at dksX8_token_10 8 rfl rfl)
theorem dX8_token_240 : decode cX8_token 240 = .ok (.aload_n 0, 1) := dk_42 (dk_at dksX8_token_10 11 rfl rfl)
theorem dX8_token_241 : decode cX8_token 241 = .ok (.dup, 1) := dk_89 (dk_at dksX8_token_10 12 rfl rfl)
theorem dX8_token_242 : decode cX8_token 242 = .ok (.getfield 146, 3) := dk_180 0 146 (dk_at dksX8_token_10 13 rfl rfl)
theorem dX8_token_245 : decode cX8_token 245 = .ok (.iload_n 2, 1) := dk_28 (dk_at dksX8_token_10 16 rfl rfl)
theorem dX8_token_246 : decode cX8_token 246 = .ok (.iadd, 1) := dk_96 (dk_at dksX8_token_10 17 rfl rfl)
theorem dX8_token_247 : decode cX8_token 247 = .ok (.putfield 146, 3) := dk_181 0 146 (dk_at dksX8_token_10 18 rfl rfl)
theorem dX8_token_250 : decode cX8_token 250 = .ok (.return_, 1) := dk_177 (dk_at dksX8_token_10 21 rfl rfl)
abbrev cX8_here : ByteArray := prog_20_method_5_code
def yX8_here : MethodName := ⟨RX8, "here", "(I)I"⟩
def dkwX8_here_1 : List UInt8 := [167, 0, 4, 2, 172]
abbrev dktX8_here_1 : List UInt8 := dkwX8_here_1 ++ []
def dkwX8_here_0 : List UInt8 := [42, 180, 0, 146, 27, 96, 42, 180, 0, 149, 162, 0, 17, 42, 180, 0, 7, 42, 180, 0, 146, 27, 96, 46]
abbrev dktX8_here_0 : List UInt8 := dkwX8_here_0 ++ dktX8_here_1
theorem dksX8_here_0 : cX8_here.data.toList.drop 0 = dktX8_here_0 := by decide +kernel
theorem dksX8_here_1 : cX8_here.data.toList.drop 24 = dktX8_here_1 := dk_seg dksX8_here_0 24 rfl rfl
theorem dX8_here_0 : decode cX8_here 0 = .ok (.aload_n 0, 1) := dk_42 (dk_at dksX8_here_0 0 rfl rfl)
theorem dX8_here_1 : decode cX8_here 1 = .ok (.getfield 146, 3) := dk_180 0 146 (dk_at dksX8_here_0 1 rfl rfl)
theorem dX8_here_4 : decode cX8_here 4 = .ok (.iload_n 1, 1) := dk_27 (dk_at dksX8_here_0 4 rfl rfl)
theorem dX8_here_5 : decode cX8_here 5 = .ok (.iadd, 1) := dk_96 (dk_at dksX8_here_0 5 rfl rfl)
theorem dX8_here_6 : decode cX8_here 6 = .ok (.aload_n 0, 1) := dk_42 (dk_at dksX8_here_0 6 rfl rfl)
theorem dX8_here_7 : decode cX8_here 7 = .ok (.getfield 149, 3) := dk_180 0 149 (dk_at dksX8_here_0 7 rfl rfl)
theorem dX8_here_10 : decode cX8_here 10 = .ok (.if_icmp .ge 17, 3) := dk_162 0 17 (dk_at dksX8_here_0 10 rfl rfl)
theorem dX8_here_13 : decode cX8_here 13 = .ok (.aload_n 0, 1) := dk_42 (dk_at dksX8_here_0 13 rfl rfl)
theorem dX8_here_14 : decode cX8_here 14 = .ok (.getfield 7, 3) := dk_180 0 7 (dk_at dksX8_here_0 14 rfl rfl)
theorem dX8_here_17 : decode cX8_here 17 = .ok (.aload_n 0, 1) := dk_42 (dk_at dksX8_here_0 17 rfl rfl)
theorem dX8_here_18 : decode cX8_here 18 = .ok (.getfield 146, 3) := dk_180 0 146 (dk_at dksX8_here_0 18 rfl rfl)
theorem dX8_here_21 : decode cX8_here 21 = .ok (.iload_n 1, 1) := dk_27 (dk_at dksX8_here_0 21 rfl rfl)
theorem dX8_here_22 : decode cX8_here 22 = .ok (.iadd, 1) := dk_96 (dk_at dksX8_here_0 22 rfl rfl)
theorem dX8_here_23 : decode cX8_here 23 = .ok (.iaload, 1) := dk_46 (dk_at dksX8_here_0 23 rfl rfl)
theorem dX8_here_24 : decode cX8_here 24 = .ok (.goto 4, 3) := dk_167 0 4 (dk_at dksX8_here_1 0 rfl rfl)
theorem dX8_here_27 : decode cX8_here 27 = .ok (.iconst (-1), 1) := dk_2 (dk_at dksX8_here_1 3 rfl rfl)
theorem dX8_here_28 : decode cX8_here 28 = .ok (.ireturn, 1) := dk_172 (dk_at dksX8_here_1 4 rfl rfl)
abbrev cX8_isLetter : ByteArray := prog_20_method_6_code
def yX8_isLetter : MethodName := ⟨RX8, "isLetter", "(I)Z"⟩
def dkwX8_isLetter_0 : List UInt8 := [26, 16, 97, 161, 0, 13, 26, 16, 122, 163, 0, 7, 4, 167, 0, 4, 3, 172]
abbrev dktX8_isLetter_0 : List UInt8 := dkwX8_isLetter_0 ++ []
theorem dksX8_isLetter_0 : cX8_isLetter.data.toList.drop 0 = dktX8_isLetter_0 := by decide +kernel
theorem dX8_isLetter_0 : decode cX8_isLetter 0 = .ok (.iload_n 0, 1) := dk_26 (dk_at dksX8_isLetter_0 0 rfl rfl)
theorem dX8_isLetter_1 : decode cX8_isLetter 1 = .ok (.bipush 97, 2) := dk_16 97 (dk_at dksX8_isLetter_0 1 rfl rfl)
theorem dX8_isLetter_3 : decode cX8_isLetter 3 = .ok (.if_icmp .lt 13, 3) := dk_161 0 13 (dk_at dksX8_isLetter_0 3 rfl rfl)
theorem dX8_isLetter_6 : decode cX8_isLetter 6 = .ok (.iload_n 0, 1) := dk_26 (dk_at dksX8_isLetter_0 6 rfl rfl)
theorem dX8_isLetter_7 : decode cX8_isLetter 7 = .ok (.bipush 122, 2) := dk_16 122 (dk_at dksX8_isLetter_0 7 rfl rfl)
theorem dX8_isLetter_9 : decode cX8_isLetter 9 = .ok (.if_icmp .gt 7, 3) := dk_163 0 7 (dk_at dksX8_isLetter_0 9 rfl rfl)
theorem dX8_isLetter_12 : decode cX8_isLetter 12 = .ok (.iconst 1, 1) := dk_4 (dk_at dksX8_isLetter_0 12 rfl rfl)
theorem dX8_isLetter_13 : decode cX8_isLetter 13 = .ok (.goto 4, 3) := dk_167 0 4 (dk_at dksX8_isLetter_0 13 rfl rfl)
theorem dX8_isLetter_16 : decode cX8_isLetter 16 = .ok (.iconst 0, 1) := dk_3 (dk_at dksX8_isLetter_0 16 rfl rfl)
theorem dX8_isLetter_17 : decode cX8_isLetter 17 = .ok (.ireturn, 1) := dk_172 (dk_at dksX8_isLetter_0 17 rfl rfl)
abbrev cX8_isDigit : ByteArray := prog_20_method_7_code
def yX8_isDigit : MethodName := ⟨RX8, "isDigit", "(I)Z"⟩
def dkwX8_isDigit_0 : List UInt8 := [26, 16, 48, 161, 0, 13, 26, 16, 57, 163, 0, 7, 4, 167, 0, 4, 3, 172]
abbrev dktX8_isDigit_0 : List UInt8 := dkwX8_isDigit_0 ++ []
theorem dksX8_isDigit_0 : cX8_isDigit.data.toList.drop 0 = dktX8_isDigit_0 := by decide +kernel
theorem dX8_isDigit_0 : decode cX8_isDigit 0 = .ok (.iload_n 0, 1) := dk_26 (dk_at dksX8_isDigit_0 0 rfl rfl)
theorem dX8_isDigit_1 : decode cX8_isDigit 1 = .ok (.bipush 48, 2) := dk_16 48 (dk_at dksX8_isDigit_0 1 rfl rfl)
theorem dX8_isDigit_3 : decode cX8_isDigit 3 = .ok (.if_icmp .lt 13, 3) := dk_161 0 13 (dk_at dksX8_isDigit_0 3 rfl rfl)
theorem dX8_isDigit_6 : decode cX8_isDigit 6 = .ok (.iload_n 0, 1) := dk_26 (dk_at dksX8_isDigit_0 6 rfl rfl)
theorem dX8_isDigit_7 : decode cX8_isDigit 7 = .ok (.bipush 57, 2) := dk_16 57 (dk_at dksX8_isDigit_0 7 rfl rfl)
theorem dX8_isDigit_9 : decode cX8_isDigit 9 = .ok (.if_icmp .gt 7, 3) := dk_163 0 7 (dk_at dksX8_isDigit_0 9 rfl rfl)
theorem dX8_isDigit_12 : decode cX8_isDigit 12 = .ok (.iconst 1, 1) := dk_4 (dk_at dksX8_isDigit_0 12 rfl rfl)
theorem dX8_isDigit_13 : decode cX8_isDigit 13 = .ok (.goto 4, 3) := dk_167 0 4 (dk_at dksX8_isDigit_0 13 rfl rfl)
theorem dX8_isDigit_16 : decode cX8_isDigit 16 = .ok (.iconst 0, 1) := dk_3 (dk_at dksX8_isDigit_0 16 rfl rfl)
theorem dX8_isDigit_17 : decode cX8_isDigit 17 = .ok (.ireturn, 1) := dk_172 (dk_at dksX8_isDigit_0 17 rfl rfl)
abbrev cX8_isSign : ByteArray := prog_20_method_8_code
def yX8_isSign : MethodName := ⟨RX8, "isSign", "(I)Z"⟩
def dkwX8_isSign_2 : List UInt8 := [26, 16, 42, 159, 0, 15, 26, 16, 47, 159, 0, 9, 26, 16, 37, 160, 0, 7, 4, 167, 0, 4, 3, 172]
abbrev dktX8_isSign_2 : List UInt8 := dkwX8_isSign_2 ++ []
def dkwX8_isSign_1 : List UInt8 := [26, 16, 62, 159, 0, 39, 26, 16, 61, 159, 0, 33, 26, 16, 43, 159, 0, 27, 26, 16, 45, 159, 0, 21]
abbrev dktX8_isSign_1 : List UInt8 := dkwX8_isSign_1 ++ dktX8_isSign_2
def dkwX8_isSign_0 : List UInt8 := [26, 16, 59, 159, 0, 63, 26, 16, 40, 159, 0, 57, 26, 16, 41, 159, 0, 51, 26, 16, 60, 159, 0, 45]
abbrev dktX8_isSign_0 : List UInt8 := dkwX8_isSign_0 ++ dktX8_isSign_1
theorem dksX8_isSign_0 : cX8_isSign.data.toList.drop 0 = dktX8_isSign_0 := by decide +kernel
theorem dksX8_isSign_1 : cX8_isSign.data.toList.drop 24 = dktX8_isSign_1 := dk_seg dksX8_isSign_0 24 rfl rfl
theorem dksX8_isSign_2 : cX8_isSign.data.toList.drop 48 = dktX8_isSign_2 := dk_seg dksX8_isSign_1 24 rfl rfl
theorem dX8_isSign_0 : decode cX8_isSign 0 = .ok (.iload_n 0, 1) := dk_26 (dk_at dksX8_isSign_0 0 rfl rfl)
theorem dX8_isSign_1 : decode cX8_isSign 1 = .ok (.bipush 59, 2) := dk_16 59 (dk_at dksX8_isSign_0 1 rfl rfl)
theorem dX8_isSign_3 : decode cX8_isSign 3 = .ok (.if_icmp .eq 63, 3) := dk_159 0 63 (dk_at dksX8_isSign_0 3 rfl rfl)
theorem dX8_isSign_6 : decode cX8_isSign 6 = .ok (.iload_n 0, 1) := dk_26 (dk_at dksX8_isSign_0 6 rfl rfl)
theorem dX8_isSign_7 : decode cX8_isSign 7 = .ok (.bipush 40, 2) := dk_16 40 (dk_at dksX8_isSign_0 7 rfl rfl)
theorem dX8_isSign_9 : decode cX8_isSign 9 = .ok (.if_icmp .eq 57, 3) := dk_159 0 57 (dk_at dksX8_isSign_0 9 rfl rfl)
theorem dX8_isSign_12 : decode cX8_isSign 12 = .ok (.iload_n 0, 1) := dk_26 (dk_at dksX8_isSign_0 12 rfl rfl)
theorem dX8_isSign_13 : decode cX8_isSign 13 = .ok (.bipush 41, 2) := dk_16 41 (dk_at dksX8_isSign_0 13 rfl rfl)
theorem dX8_isSign_15 : decode cX8_isSign 15 = .ok (.if_icmp .eq 51, 3) := dk_159 0 51 (dk_at dksX8_isSign_0 15 rfl rfl)
theorem dX8_isSign_18 : decode cX8_isSign 18 = .ok (.iload_n 0, 1) := dk_26 (dk_at dksX8_isSign_0 18 rfl rfl)
theorem dX8_isSign_19 : decode cX8_isSign 19 = .ok (.bipush 60, 2) := dk_16 60 (dk_at dksX8_isSign_0 19 rfl rfl)
theorem dX8_isSign_21 : decode cX8_isSign 21 = .ok (.if_icmp .eq 45, 3) := dk_159 0 45 (dk_at dksX8_isSign_0 21 rfl rfl)
theorem dX8_isSign_24 : decode cX8_isSign 24 = .ok (.iload_n 0, 1) := dk_26 (dk_at dksX8_isSign_1 0 rfl rfl)
theorem dX8_isSign_25 : decode cX8_isSign 25 = .ok (.bipush 62, 2) := dk_16 62 (dk_at dksX8_isSign_1 1 rfl rfl)
theorem dX8_isSign_27 : decode cX8_isSign 27 = .ok (.if_icmp .eq 39, 3) := dk_159 0 39 (dk_at dksX8_isSign_1 3 rfl rfl)
theorem dX8_isSign_30 : decode cX8_isSign 30 = .ok (.iload_n 0, 1) := dk_26 (dk_at dksX8_isSign_1 6 rfl rfl)
theorem dX8_isSign_31 : decode cX8_isSign 31 = .ok (.bipush 61, 2) := dk_16 61 (dk_at dksX8_isSign_1 7 rfl rfl)
theorem dX8_isSign_33 : decode cX8_isSign 33 = .ok (.if_icmp .eq 33, 3) := dk_159 0 33 (dk_at dksX8_isSign_1 9 rfl rfl)
theorem dX8_isSign_36 : decode cX8_isSign 36 = .ok (.iload_n 0, 1) := dk_26 (dk_at dksX8_isSign_1 12 rfl rfl)
theorem dX8_isSign_37 : decode cX8_isSign 37 = .ok (.bipush 43, 2) := dk_16 43 (dk_at dksX8_isSign_1 13 rfl rfl)
theorem dX8_isSign_39 : decode cX8_isSign 39 = .ok (.if_icmp .eq 27, 3) := dk_159 0 27 (dk_at dksX8_isSign_1 15 rfl rfl)
theorem dX8_isSign_42 : decode cX8_isSign 42 = .ok (.iload_n 0, 1) := dk_26 (dk_at dksX8_isSign_1 18 rfl rfl)
theorem dX8_isSign_43 : decode cX8_isSign 43 = .ok (.bipush 45, 2) := dk_16 45 (dk_at dksX8_isSign_1 19 rfl rfl)
theorem dX8_isSign_45 : decode cX8_isSign 45 = .ok (.if_icmp .eq 21, 3) := dk_159 0 21 (dk_at dksX8_isSign_1 21 rfl rfl)
theorem dX8_isSign_48 : decode cX8_isSign 48 = .ok (.iload_n 0, 1) := dk_26 (dk_at dksX8_isSign_2 0 rfl rfl)
theorem dX8_isSign_49 : decode cX8_isSign 49 = .ok (.bipush 42, 2) := dk_16 42 (dk_at dksX8_isSign_2 1 rfl rfl)
theorem dX8_isSign_51 : decode cX8_isSign 51 = .ok (.if_icmp .eq 15, 3) := dk_159 0 15 (dk_at dksX8_isSign_2 3 rfl rfl)
theorem dX8_isSign_54 : decode cX8_isSign 54 = .ok (.iload_n 0, 1) := dk_26 (dk_at dksX8_isSign_2 6 rfl rfl)
theorem dX8_isSign_55 : decode cX8_isSign 55 = .ok (.bipush 47, 2) := dk_16 47 (dk_at dksX8_isSign_2 7 rfl rfl)
theorem dX8_isSign_57 : decode cX8_isSign 57 = .ok (.if_icmp .eq 9, 3) := dk_159 0 9 (dk_at dksX8_isSign_2 9 rfl rfl)
theorem dX8_isSign_60 : decode cX8_isSign 60 = .ok (.iload_n 0, 1) := dk_26 (dk_at dksX8_isSign_2 12 rfl rfl)
theorem dX8_isSign_61 : decode cX8_isSign 61 = .ok (.bipush 37, 2) := dk_16 37 (dk_at dksX8_isSign_2 13 rfl rfl)
theorem dX8_isSign_63 : decode cX8_isSign 63 = .ok (.if_icmp .ne 7, 3) := dk_160 0 7 (dk_at dksX8_isSign_2 15 rfl rfl)
theorem dX8_isSign_66 : decode cX8_isSign 66 = .ok (.iconst 1, 1) := dk_4 (dk_at dksX8_isSign_2 18 rfl rfl)
theorem dX8_isSign_67 : decode cX8_isSign 67 = .ok (.goto 4, 3) := dk_167 0 4 (dk_at dksX8_isSign_2 19 rfl rfl)
theorem dX8_isSign_70 : decode cX8_isSign 70 = .ok (.iconst 0, 1) := dk_3 (dk_at dksX8_isSign_2 22 rfl rfl)
theorem dX8_isSign_71 : decode cX8_isSign 71 = .ok (.ireturn, 1) := dk_172 (dk_at dksX8_isSign_2 23 rfl rfl)
abbrev cX8_readLine : ByteArray := prog_20_method_42_code
def yX8_readLine : MethodName := ⟨RX8, "readLine", "()V"⟩
def dkwX8_readLine_13 : List UInt8 := [42, 182, 0, 235, 177]
abbrev dktX8_readLine_13 : List UInt8 := dkwX8_readLine_13 ++ []
def dkwX8_readLine_12 : List UInt8 := [154, 0, 17, 42, 180, 0, 166, 16, 59, 159, 0, 8, 42, 5, 182, 0, 232, 42, 180, 0, 179, 154, 0, 7]
abbrev dktX8_readLine_12 : List UInt8 := dkwX8_readLine_12 ++ dktX8_readLine_13
def dkwX8_readLine_11 : List UInt8 := [20, 0, 206, 17, 3, 231, 182, 0, 246, 181, 1, 122, 167, 0, 8, 42, 5, 182, 0, 232, 42, 180, 0, 179]
abbrev dktX8_readLine_11 : List UInt8 := dkwX8_readLine_11 ++ dktX8_readLine_12
def dkwX8_readLine_10 : List UInt8 := [42, 20, 0, 206, 182, 0, 228, 153, 0, 32, 42, 180, 1, 119, 154, 0, 25, 42, 4, 181, 1, 119, 42, 42]
abbrev dktX8_readLine_10 : List UInt8 := dkwX8_readLine_10 ++ dktX8_readLine_11
def dkwX8_readLine_9 : List UInt8 := [154, 0, 24, 42, 4, 181, 1, 113, 42, 42, 20, 0, 204, 16, 100, 182, 0, 246, 181, 1, 116, 167, 0, 47]
abbrev dktX8_readLine_9 : List UInt8 := dkwX8_readLine_9 ++ dktX8_readLine_10
def dkwX8_readLine_8 : List UInt8 := [182, 0, 246, 181, 1, 110, 167, 0, 85, 42, 20, 0, 204, 182, 0, 228, 153, 0, 31, 42, 180, 1, 113]
abbrev dktX8_readLine_8 : List UInt8 := dkwX8_readLine_8 ++ dktX8_readLine_9
def dkwX8_readLine_7 : List UInt8 := [153, 0, 31, 42, 180, 1, 107, 154, 0, 24, 42, 4, 181, 1, 107, 42, 42, 20, 0, 202, 16, 99]
abbrev dktX8_readLine_7 : List UInt8 := dkwX8_readLine_7 ++ dktX8_readLine_8
def dkwX8_readLine_6 : List UInt8 := [20, 0, 200, 17, 3, 231, 182, 0, 246, 181, 1, 104, 167, 0, 123, 42, 20, 0, 202, 182, 0, 228]
abbrev dktX8_readLine_6 : List UInt8 := dkwX8_readLine_6 ++ dktX8_readLine_7
def dkwX8_readLine_5 : List UInt8 := [20, 0, 200, 182, 0, 228, 153, 0, 32, 42, 180, 1, 101, 154, 0, 25, 42, 4, 181, 1, 101, 42, 42]
abbrev dktX8_readLine_5 : List UInt8 := dkwX8_readLine_5 ++ dktX8_readLine_6
def dkwX8_readLine_4 : List UInt8 := [4, 181, 1, 95, 42, 42, 20, 0, 198, 17, 3, 231, 182, 0, 246, 181, 1, 98, 167, 0, 162, 42]
abbrev dktX8_readLine_4 : List UInt8 := dkwX8_readLine_4 ++ dktX8_readLine_5
def dkwX8_readLine_3 : List UInt8 := [182, 1, 92, 167, 0, 201, 42, 20, 0, 198, 182, 0, 228, 153, 0, 32, 42, 180, 1, 95, 154, 0, 25, 42]
abbrev dktX8_readLine_3 : List UInt8 := dkwX8_readLine_3 ++ dktX8_readLine_4
def dkwX8_readLine_2 : List UInt8 := [182, 1, 89, 167, 0, 225, 42, 20, 0, 196, 182, 0, 228, 153, 0, 17, 42, 180, 1, 35, 154, 0, 10, 42]
abbrev dktX8_readLine_2 : List UInt8 := dkwX8_readLine_2 ++ dktX8_readLine_3
def dkwX8_readLine_1 : List UInt8 := [167, 0, 251, 42, 20, 0, 190, 182, 0, 228, 153, 0, 19, 42, 180, 1, 83, 16, 6, 162, 0, 10, 42]
abbrev dktX8_readLine_1 : List UInt8 := dkwX8_readLine_1 ++ dktX8_readLine_2
def dkwX8_readLine_0 : List UInt8 := [42, 20, 0, 182, 182, 0, 228, 153, 0, 19, 42, 180, 1, 74, 16, 6, 162, 0, 10, 42, 182, 1, 86]
abbrev dktX8_readLine_0 : List UInt8 := dkwX8_readLine_0 ++ dktX8_readLine_1
theorem dksX8_readLine_0 : cX8_readLine.data.toList.drop 0 = dktX8_readLine_0 := by decide +kernel
theorem dksX8_readLine_1 : cX8_readLine.data.toList.drop 23 = dktX8_readLine_1 := dk_seg dksX8_readLine_0 23 rfl rfl
theorem dksX8_readLine_2 : cX8_readLine.data.toList.drop 46 = dktX8_readLine_2 := dk_seg dksX8_readLine_1 23 rfl rfl
theorem dksX8_readLine_3 : cX8_readLine.data.toList.drop 70 = dktX8_readLine_3 := dk_seg dksX8_readLine_2 24 rfl rfl
theorem dksX8_readLine_4 : cX8_readLine.data.toList.drop 94 = dktX8_readLine_4 := dk_seg dksX8_readLine_3 24 rfl rfl
theorem dksX8_readLine_5 : cX8_readLine.data.toList.drop 116 = dktX8_readLine_5 := dk_seg dksX8_readLine_4 22 rfl rfl
theorem dksX8_readLine_6 : cX8_readLine.data.toList.drop 139 = dktX8_readLine_6 := dk_seg dksX8_readLine_5 23 rfl rfl
theorem dksX8_readLine_7 : cX8_readLine.data.toList.drop 161 = dktX8_readLine_7 := dk_seg dksX8_readLine_6 22 rfl rfl
theorem dksX8_readLine_8 : cX8_readLine.data.toList.drop 183 = dktX8_readLine_8 := dk_seg dksX8_readLine_7 22 rfl rfl
theorem dksX8_readLine_9 : cX8_readLine.data.toList.drop 206 = dktX8_readLine_9 := dk_seg dksX8_readLine_8 23 rfl rfl
theorem dksX8_readLine_10 : cX8_readLine.data.toList.drop 230 = dktX8_readLine_10 := dk_seg dksX8_readLine_9 24 rfl rfl
theorem dksX8_readLine_11 : cX8_readLine.data.toList.drop 254 = dktX8_readLine_11 := dk_seg dksX8_readLine_10 24 rfl rfl
theorem dksX8_readLine_12 : cX8_readLine.data.toList.drop 278 = dktX8_readLine_12 := dk_seg dksX8_readLine_11 24 rfl rfl
theorem dksX8_readLine_13 : cX8_readLine.data.toList.drop 302 = dktX8_readLine_13 := dk_seg dksX8_readLine_12 24 rfl rfl
theorem dX8_readLine_0 : decode cX8_readLine 0 = .ok (.aload_n 0, 1) := dk_42 (dk_at dksX8_readLine_0 0 rfl rfl)
theorem dX8_readLine_1 : decode cX8_readLine 1 = .ok (.ldc2_w 182, 3) := dk_20 0 182 (dk_at dksX8_readLine_0 1 rfl rfl)
theorem dX8_readLine_4 : decode cX8_readLine 4 = .ok (.invokevirtual 228, 3) := dk_182 0 228 (dk_at dksX8_readLine_0 4 rfl rfl)
theorem dX8_readLine_7 : decode cX8_readLine 7 = .ok (.ifCond .eq 19, 3) := dk_153 0 19 (dk_at dksX8_readLine_0 7 rfl rfl)
theorem dX8_readLine_10 : decode cX8_readLine 10 = .ok (.aload_n 0, 1) := dk_42 (dk_at dksX8_readLine_0 10 rfl rfl)
theorem dX8_readLine_11 : decode cX8_readLine 11 = .ok (.getfield 330, 3) := dk_180 1 74 (dk_at dksX8_readLine_0 11 rfl rfl)
theorem dX8_readLine_14 : decode cX8_readLine 14 = .ok (.bipush 6, 2) := dk_16 6 (dk_at dksX8_readLine_0 14 rfl rfl)
theorem dX8_readLine_16 : decode cX8_readLine 16 = .ok (.if_icmp .ge 10, 3) := dk_162 0 10 (dk_at dksX8_readLine_0 16 rfl rfl)
theorem dX8_readLine_19 : decode cX8_readLine 19 = .ok (.aload_n 0, 1) := dk_42 (dk_at dksX8_readLine_0 19 rfl rfl)
theorem dX8_readLine_20 : decode cX8_readLine 20 = .ok (.invokevirtual 342, 3) := dk_182 1 86 (dk_at dksX8_readLine_0 20 rfl rfl)
theorem dX8_readLine_23 : decode cX8_readLine 23 = .ok (.goto 251, 3) := dk_167 0 251 (dk_at dksX8_readLine_1 0 rfl rfl)
theorem dX8_readLine_26 : decode cX8_readLine 26 = .ok (.aload_n 0, 1) := dk_42 (dk_at dksX8_readLine_1 3 rfl rfl)
theorem dX8_readLine_27 : decode cX8_readLine 27 = .ok (.ldc2_w 190, 3) := dk_20 0 190 (dk_at dksX8_readLine_1 4 rfl rfl)
theorem dX8_readLine_30 : decode cX8_readLine 30 = .ok (.invokevirtual 228, 3) := dk_182 0 228 (dk_at dksX8_readLine_1 7 rfl rfl)
theorem dX8_readLine_33 : decode cX8_readLine 33 = .ok (.ifCond .eq 19, 3) := dk_153 0 19 (dk_at dksX8_readLine_1 10 rfl rfl)
theorem dX8_readLine_36 : decode cX8_readLine 36 = .ok (.aload_n 0, 1) := dk_42 (dk_at dksX8_readLine_1 13 rfl rfl)
theorem dX8_readLine_37 : decode cX8_readLine 37 = .ok (.getfield 339, 3) := dk_180 1 83 (dk_at dksX8_readLine_1 14 rfl rfl)
theorem dX8_readLine_40 : decode cX8_readLine 40 = .ok (.bipush 6, 2) := dk_16 6 (dk_at dksX8_readLine_1 17 rfl rfl)
theorem dX8_readLine_42 : decode cX8_readLine 42 = .ok (.if_icmp .ge 10, 3) := dk_162 0 10 (dk_at dksX8_readLine_1 19 rfl rfl)
theorem dX8_readLine_45 : decode cX8_readLine 45 = .ok (.aload_n 0, 1) := dk_42 (dk_at dksX8_readLine_1 22 rfl rfl)
theorem dX8_readLine_46 : decode cX8_readLine 46 = .ok (.invokevirtual 345, 3) := dk_182 1 89 (dk_at dksX8_readLine_2 0 rfl rfl)
theorem dX8_readLine_49 : decode cX8_readLine 49 = .ok (.goto 225, 3) := dk_167 0 225 (dk_at dksX8_readLine_2 3 rfl rfl)
theorem dX8_readLine_52 : decode cX8_readLine 52 = .ok (.aload_n 0, 1) := dk_42 (dk_at dksX8_readLine_2 6 rfl rfl)
theorem dX8_readLine_53 : decode cX8_readLine 53 = .ok (.ldc2_w 196, 3) := dk_20 0 196 (dk_at dksX8_readLine_2 7 rfl rfl)
theorem dX8_readLine_56 : decode cX8_readLine 56 = .ok (.invokevirtual 228, 3) := dk_182 0 228 (dk_at dksX8_readLine_2 10 rfl rfl)
theorem dX8_readLine_59 : decode cX8_readLine 59 = .ok (.ifCond .eq 17, 3) := dk_153 0 17 (dk_at dksX8_readLine_2 13 rfl rfl)
theorem dX8_readLine_62 : decode cX8_readLine 62 = .ok (.aload_n 0, 1) := dk_42 (dk_at dksX8_readLine_2 16 rfl rfl)
theorem dX8_readLine_63 : decode cX8_readLine 63 = .ok (.getfield 291, 3) := dk_180 1 35 (dk_at dksX8_readLine_2 17 rfl rfl)
theorem dX8_readLine_66 : decode cX8_readLine 66 = .ok (.ifCond .ne 10, 3) := dk_154 0 10 (dk_at dksX8_readLine_2 20 rfl rfl)
theorem dX8_readLine_69 : decode cX8_readLine 69 = .ok (.aload_n 0, 1) := dk_42 (dk_at dksX8_readLine_2 23 rfl rfl)
theorem dX8_readLine_70 : decode cX8_readLine 70 = .ok (.invokevirtual 348, 3) := dk_182 1 92 (dk_at dksX8_readLine_3 0 rfl rfl)
theorem dX8_readLine_73 : decode cX8_readLine 73 = .ok (.goto 201, 3) := dk_167 0 201 (dk_at dksX8_readLine_3 3 rfl rfl)
theorem dX8_readLine_76 : decode cX8_readLine 76 = .ok (.aload_n 0, 1) := dk_42 (dk_at dksX8_readLine_3 6 rfl rfl)
theorem dX8_readLine_77 : decode cX8_readLine 77 = .ok (.ldc2_w 198, 3) := dk_20 0 198 (dk_at dksX8_readLine_3 7 rfl rfl)
theorem dX8_readLine_80 : decode cX8_readLine 80 = .ok (.invokevirtual 228, 3) := dk_182 0 228 (dk_at dksX8_readLine_3 10 rfl rfl)
theorem dX8_readLine_83 : decode cX8_readLine 83 = .ok (.ifCond .eq 32, 3) := dk_153 0 32 (dk_at dksX8_readLine_3 13 rfl rfl)
theorem dX8_readLine_86 : decode cX8_readLine 86 = .ok (.aload_n 0, 1) := dk_42 (dk_at dksX8_readLine_3 16 rfl rfl)
theorem dX8_readLine_87 : decode cX8_readLine 87 = .ok (.getfield 351, 3) := dk_180 1 95 (dk_at dksX8_readLine_3 17 rfl rfl)
theorem dX8_readLine_90 : decode cX8_readLine 90 = .ok (.ifCond .ne 25, 3) := dk_154 0 25 (dk_at dksX8_readLine_3 20 rfl rfl)
theorem dX8_readLine_93 : decode cX8_readLine 93 = .ok (.aload_n 0, 1) := dk_42 (dk_at dksX8_readLine_3 23 rfl rfl)
theorem dX8_readLine_94 : decode cX8_readLine 94 = .ok (.iconst 1, 1) := dk_4 (dk_at dksX8_readLine_4 0 rfl rfl)
theorem dX8_readLine_95 : decode cX8_readLine 95 = .ok (.putfield 351, 3) := dk_181 1 95 (dk_at dksX8_readLine_4 1 rfl rfl)
theorem dX8_readLine_98 : decode cX8_readLine 98 = .ok (.aload_n 0, 1) := dk_42 (dk_at dksX8_readLine_4 4 rfl rfl)
theorem dX8_readLine_99 : decode cX8_readLine 99 = .ok (.aload_n 0, 1) := dk_42 (dk_at dksX8_readLine_4 5 rfl rfl)
theorem dX8_readLine_100 : decode cX8_readLine 100 = .ok (.ldc2_w 198, 3) := dk_20 0 198 (dk_at dksX8_readLine_4 6 rfl rfl)
theorem dX8_readLine_103 : decode cX8_readLine 103 = .ok (.sipush 999, 3) := dk_17 3 231 (dk_at dksX8_readLine_4 9 rfl rfl)
theorem dX8_readLine_106 : decode cX8_readLine 106 = .ok (.invokevirtual 246, 3) := dk_182 0 246 (dk_at dksX8_readLine_4 12 rfl rfl)
theorem dX8_readLine_109 : decode cX8_readLine 109 = .ok (.putfield 354, 3) := dk_181 1 98 (dk_at dksX8_readLine_4 15 rfl rfl)
theorem dX8_readLine_112 : decode cX8_readLine 112 = .ok (.goto 162, 3) := dk_167 0 162 (dk_at dksX8_readLine_4 18 rfl rfl)
theorem dX8_readLine_115 : decode cX8_readLine 115 = .ok (.aload_n 0, 1) := dk_42 (dk_at dksX8_readLine_4 21 rfl rfl)
theorem dX8_readLine_116 : decode cX8_readLine 116 = .ok (.ldc2_w 200, 3) := dk_20 0 200 (dk_at dksX8_readLine_5 0 rfl rfl)
theorem dX8_readLine_119 : decode cX8_readLine 119 = .ok (.invokevirtual 228, 3) := dk_182 0 228 (dk_at dksX8_readLine_5 3 rfl rfl)
theorem dX8_readLine_122 : decode cX8_readLine 122 = .ok (.ifCond .eq 32, 3) := dk_153 0 32 (dk_at dksX8_readLine_5 6 rfl rfl)
theorem dX8_readLine_125 : decode cX8_readLine 125 = .ok (.aload_n 0, 1) := dk_42 (dk_at dksX8_readLine_5 9 rfl rfl)
theorem dX8_readLine_126 : decode cX8_readLine 126 = .ok (.getfield 357, 3) := dk_180 1 101 (dk_at dksX8_readLine_5 10 rfl rfl)
theorem dX8_readLine_129 : decode cX8_readLine 129 = .ok (.ifCond .ne 25, 3) := dk_154 0 25 (dk_at dksX8_readLine_5 13 rfl rfl)
theorem dX8_readLine_132 : decode cX8_readLine 132 = .ok (.aload_n 0, 1) := dk_42 (dk_at dksX8_readLine_5 16 rfl rfl)
theorem dX8_readLine_133 : decode cX8_readLine 133 = .ok (.iconst 1, 1) := dk_4 (dk_at dksX8_readLine_5 17 rfl rfl)
theorem dX8_readLine_134 : decode cX8_readLine 134 = .ok (.putfield 357, 3) := dk_181 1 101 (dk_at dksX8_readLine_5 18 rfl rfl)
theorem dX8_readLine_137 : decode cX8_readLine 137 = .ok (.aload_n 0, 1) := dk_42 (dk_at dksX8_readLine_5 21 rfl rfl)
theorem dX8_readLine_138 : decode cX8_readLine 138 = .ok (.aload_n 0, 1) := dk_42 (dk_at dksX8_readLine_5 22 rfl rfl)
theorem dX8_readLine_139 : decode cX8_readLine 139 = .ok (.ldc2_w 200, 3) := dk_20 0 200 (dk_at dksX8_readLine_6 0 rfl rfl)
theorem dX8_readLine_142 : decode cX8_readLine 142 = .ok (.sipush 999, 3) := dk_17 3 231 (dk_at dksX8_readLine_6 3 rfl rfl)
theorem dX8_readLine_145 : decode cX8_readLine 145 = .ok (.invokevirtual 246, 3) := dk_182 0 246 (dk_at dksX8_readLine_6 6 rfl rfl)
theorem dX8_readLine_148 : decode cX8_readLine 148 = .ok (.putfield 360, 3) := dk_181 1 104 (dk_at dksX8_readLine_6 9 rfl rfl)
theorem dX8_readLine_151 : decode cX8_readLine 151 = .ok (.goto 123, 3) := dk_167 0 123 (dk_at dksX8_readLine_6 12 rfl rfl)
theorem dX8_readLine_154 : decode cX8_readLine 154 = .ok (.aload_n 0, 1) := dk_42 (dk_at dksX8_readLine_6 15 rfl rfl)
theorem dX8_readLine_155 : decode cX8_readLine 155 = .ok (.ldc2_w 202, 3) := dk_20 0 202 (dk_at dksX8_readLine_6 16 rfl rfl)
theorem dX8_readLine_158 : decode cX8_readLine 158 = .ok (.invokevirtual 228, 3) := dk_182 0 228 (dk_at dksX8_readLine_6 19 rfl rfl)
theorem dX8_readLine_161 : decode cX8_readLine 161 = .ok (.ifCond .eq 31, 3) := dk_153 0 31 (dk_at dksX8_readLine_7 0 rfl rfl)
theorem dX8_readLine_164 : decode cX8_readLine 164 = .ok (.aload_n 0, 1) := dk_42 (dk_at dksX8_readLine_7 3 rfl rfl)
theorem dX8_readLine_165 : decode cX8_readLine 165 = .ok (.getfield 363, 3) := dk_180 1 107 (dk_at dksX8_readLine_7 4 rfl rfl)
theorem dX8_readLine_168 : decode cX8_readLine 168 = .ok (.ifCond .ne 24, 3) := dk_154 0 24 (dk_at dksX8_readLine_7 7 rfl rfl)
theorem dX8_readLine_171 : decode cX8_readLine 171 = .ok (.aload_n 0, 1) := dk_42 (dk_at dksX8_readLine_7 10 rfl rfl)
theorem dX8_readLine_172 : decode cX8_readLine 172 = .ok (.iconst 1, 1) := dk_4 (dk_at dksX8_readLine_7 11 rfl rfl)
theorem dX8_readLine_173 : decode cX8_readLine 173 = .ok (.putfield 363, 3) := dk_181 1 107 (dk_at dksX8_readLine_7 12 rfl rfl)
theorem dX8_readLine_176 : decode cX8_readLine 176 = .ok (.aload_n 0, 1) := dk_42 (dk_at dksX8_readLine_7 15 rfl rfl)
theorem dX8_readLine_177 : decode cX8_readLine 177 = .ok (.aload_n 0, 1) := dk_42 (dk_at dksX8_readLine_7 16 rfl rfl)
theorem dX8_readLine_178 : decode cX8_readLine 178 = .ok (.ldc2_w 202, 3) := dk_20 0 202 (dk_at dksX8_readLine_7 17 rfl rfl)
theorem dX8_readLine_181 : decode cX8_readLine 181 = .ok (.bipush 99, 2) := dk_16 99 (dk_at dksX8_readLine_7 20 rfl rfl)
theorem dX8_readLine_183 : decode cX8_readLine 183 = .ok (.invokevirtual 246, 3) := dk_182 0 246 (dk_at dksX8_readLine_8 0 rfl rfl)
theorem dX8_readLine_186 : decode cX8_readLine 186 = .ok (.putfield 366, 3) := dk_181 1 110 (dk_at dksX8_readLine_8 3 rfl rfl)
theorem dX8_readLine_189 : decode cX8_readLine 189 = .ok (.goto 85, 3) := dk_167 0 85 (dk_at dksX8_readLine_8 6 rfl rfl)
theorem dX8_readLine_192 : decode cX8_readLine 192 = .ok (.aload_n 0, 1) := dk_42 (dk_at dksX8_readLine_8 9 rfl rfl)
theorem dX8_readLine_193 : decode cX8_readLine 193 = .ok (.ldc2_w 204, 3) := dk_20 0 204 (dk_at dksX8_readLine_8 10 rfl rfl)
theorem dX8_readLine_196 : decode cX8_readLine 196 = .ok (.invokevirtual 228, 3) := dk_182 0 228 (dk_at dksX8_readLine_8 13 rfl rfl)
theorem dX8_readLine_199 : decode cX8_readLine 199 = .ok (.ifCond .eq 31, 3) := dk_153 0 31 (dk_at dksX8_readLine_8 16 rfl rfl)
theorem dX8_readLine_202 : decode cX8_readLine 202 = .ok (.aload_n 0, 1) := dk_42 (dk_at dksX8_readLine_8 19 rfl rfl)
theorem dX8_readLine_203 : decode cX8_readLine 203 = .ok (.getfield 369, 3) := dk_180 1 113 (dk_at dksX8_readLine_8 20 rfl rfl)
theorem dX8_readLine_206 : decode cX8_readLine 206 = .ok (.ifCond .ne 24, 3) := dk_154 0 24 (dk_at dksX8_readLine_9 0 rfl rfl)
theorem dX8_readLine_209 : decode cX8_readLine 209 = .ok (.aload_n 0, 1) := dk_42 (dk_at dksX8_readLine_9 3 rfl rfl)
theorem dX8_readLine_210 : decode cX8_readLine 210 = .ok (.iconst 1, 1) := dk_4 (dk_at dksX8_readLine_9 4 rfl rfl)
theorem dX8_readLine_211 : decode cX8_readLine 211 = .ok (.putfield 369, 3) := dk_181 1 113 (dk_at dksX8_readLine_9 5 rfl rfl)
theorem dX8_readLine_214 : decode cX8_readLine 214 = .ok (.aload_n 0, 1) := dk_42 (dk_at dksX8_readLine_9 8 rfl rfl)
theorem dX8_readLine_215 : decode cX8_readLine 215 = .ok (.aload_n 0, 1) := dk_42 (dk_at dksX8_readLine_9 9 rfl rfl)
theorem dX8_readLine_216 : decode cX8_readLine 216 = .ok (.ldc2_w 204, 3) := dk_20 0 204 (dk_at dksX8_readLine_9 10 rfl rfl)
theorem dX8_readLine_219 : decode cX8_readLine 219 = .ok (.bipush 100, 2) := dk_16 100 (dk_at dksX8_readLine_9 13 rfl rfl)
theorem dX8_readLine_221 : decode cX8_readLine 221 = .ok (.invokevirtual 246, 3) := dk_182 0 246 (dk_at dksX8_readLine_9 15 rfl rfl)
theorem dX8_readLine_224 : decode cX8_readLine 224 = .ok (.putfield 372, 3) := dk_181 1 116 (dk_at dksX8_readLine_9 18 rfl rfl)
theorem dX8_readLine_227 : decode cX8_readLine 227 = .ok (.goto 47, 3) := dk_167 0 47 (dk_at dksX8_readLine_9 21 rfl rfl)
theorem dX8_readLine_230 : decode cX8_readLine 230 = .ok (.aload_n 0, 1) := dk_42 (dk_at dksX8_readLine_10 0 rfl rfl)
theorem dX8_readLine_231 : decode cX8_readLine 231 = .ok (.ldc2_w 206, 3) := dk_20 0 206 (dk_at dksX8_readLine_10 1 rfl rfl)
theorem dX8_readLine_234 : decode cX8_readLine 234 = .ok (.invokevirtual 228, 3) := dk_182 0 228 (dk_at dksX8_readLine_10 4 rfl rfl)
theorem dX8_readLine_237 : decode cX8_readLine 237 = .ok (.ifCond .eq 32, 3) := dk_153 0 32 (dk_at dksX8_readLine_10 7 rfl rfl)
theorem dX8_readLine_240 : decode cX8_readLine 240 = .ok (.aload_n 0, 1) := dk_42 (dk_at dksX8_readLine_10 10 rfl rfl)
theorem dX8_readLine_241 : decode cX8_readLine 241 = .ok (.getfield 375, 3) := dk_180 1 119 (dk_at dksX8_readLine_10 11 rfl rfl)
theorem dX8_readLine_244 : decode cX8_readLine 244 = .ok (.ifCond .ne 25, 3) := dk_154 0 25 (dk_at dksX8_readLine_10 14 rfl rfl)
theorem dX8_readLine_247 : decode cX8_readLine 247 = .ok (.aload_n 0, 1) := dk_42 (dk_at dksX8_readLine_10 17 rfl rfl)
theorem dX8_readLine_248 : decode cX8_readLine 248 = .ok (.iconst 1, 1) := dk_4 (dk_at dksX8_readLine_10 18 rfl rfl)
theorem dX8_readLine_249 : decode cX8_readLine 249 = .ok (.putfield 375, 3) := dk_181 1 119 (dk_at dksX8_readLine_10 19 rfl rfl)
theorem dX8_readLine_252 : decode cX8_readLine 252 = .ok (.aload_n 0, 1) := dk_42 (dk_at dksX8_readLine_10 22 rfl rfl)
theorem dX8_readLine_253 : decode cX8_readLine 253 = .ok (.aload_n 0, 1) := dk_42 (dk_at dksX8_readLine_10 23 rfl rfl)
theorem dX8_readLine_254 : decode cX8_readLine 254 = .ok (.ldc2_w 206, 3) := dk_20 0 206 (dk_at dksX8_readLine_11 0 rfl rfl)
theorem dX8_readLine_257 : decode cX8_readLine 257 = .ok (.sipush 999, 3) := dk_17 3 231 (dk_at dksX8_readLine_11 3 rfl rfl)
theorem dX8_readLine_260 : decode cX8_readLine 260 = .ok (.invokevirtual 246, 3) := dk_182 0 246 (dk_at dksX8_readLine_11 6 rfl rfl)
theorem dX8_readLine_263 : decode cX8_readLine 263 = .ok (.putfield 378, 3) := dk_181 1 122 (dk_at dksX8_readLine_11 9 rfl rfl)
theorem dX8_readLine_266 : decode cX8_readLine 266 = .ok (.goto 8, 3) := dk_167 0 8 (dk_at dksX8_readLine_11 12 rfl rfl)
theorem dX8_readLine_269 : decode cX8_readLine 269 = .ok (.aload_n 0, 1) := dk_42 (dk_at dksX8_readLine_11 15 rfl rfl)
theorem dX8_readLine_270 : decode cX8_readLine 270 = .ok (.iconst 2, 1) := dk_5 (dk_at dksX8_readLine_11 16 rfl rfl)
theorem dX8_readLine_271 : decode cX8_readLine 271 = .ok (.invokevirtual 232, 3) := dk_182 0 232 (dk_at dksX8_readLine_11 17 rfl rfl)
theorem dX8_readLine_274 : decode cX8_readLine 274 = .ok (.aload_n 0, 1) := dk_42 (dk_at dksX8_readLine_11 20 rfl rfl)
theorem dX8_readLine_275 : decode cX8_readLine 275 = .ok (.getfield 179, 3) := dk_180 0 179 (dk_at dksX8_readLine_11 21 rfl rfl)
theorem dX8_readLine_278 : decode cX8_readLine 278 = .ok (.ifCond .ne 17, 3) := dk_154 0 17 (dk_at dksX8_readLine_12 0 rfl rfl)
theorem dX8_readLine_281 : decode cX8_readLine 281 = .ok (.aload_n 0, 1) := dk_42 (dk_at dksX8_readLine_12 3 rfl rfl)
theorem dX8_readLine_282 : decode cX8_readLine 282 = .ok (.getfield 166, 3) := dk_180 0 166 (dk_at dksX8_readLine_12 4 rfl rfl)
theorem dX8_readLine_285 : decode cX8_readLine 285 = .ok (.bipush 59, 2) := dk_16 59 (dk_at dksX8_readLine_12 7 rfl rfl)
theorem dX8_readLine_287 : decode cX8_readLine 287 = .ok (.if_icmp .eq 8, 3) := dk_159 0 8 (dk_at dksX8_readLine_12 9 rfl rfl)
theorem dX8_readLine_290 : decode cX8_readLine 290 = .ok (.aload_n 0, 1) := dk_42 (dk_at dksX8_readLine_12 12 rfl rfl)
theorem dX8_readLine_291 : decode cX8_readLine 291 = .ok (.iconst 2, 1) := dk_5 (dk_at dksX8_readLine_12 13 rfl rfl)
theorem dX8_readLine_292 : decode cX8_readLine 292 = .ok (.invokevirtual 232, 3) := dk_182 0 232 (dk_at dksX8_readLine_12 14 rfl rfl)
theorem dX8_readLine_295 : decode cX8_readLine 295 = .ok (.aload_n 0, 1) := dk_42 (dk_at dksX8_readLine_12 17 rfl rfl)
theorem dX8_readLine_296 : decode cX8_readLine 296 = .ok (.getfield 179, 3) := dk_180 0 179 (dk_at dksX8_readLine_12 18 rfl rfl)
theorem dX8_readLine_299 : decode cX8_readLine 299 = .ok (.ifCond .ne 7, 3) := dk_154 0 7 (dk_at dksX8_readLine_12 21 rfl rfl)
theorem dX8_readLine_302 : decode cX8_readLine 302 = .ok (.aload_n 0, 1) := dk_42 (dk_at dksX8_readLine_13 0 rfl rfl)
theorem dX8_readLine_303 : decode cX8_readLine 303 = .ok (.invokevirtual 235, 3) := dk_182 0 235 (dk_at dksX8_readLine_13 1 rfl rfl)
theorem dX8_readLine_306 : decode cX8_readLine 306 = .ok (.return_, 1) := dk_177 (dk_at dksX8_readLine_13 4 rfl rfl)
abbrev cX8_isWord : ByteArray := prog_20_method_11_code
def yX8_isWord : MethodName := ⟨RX8, "isWord", "(J)Z"⟩
def dkwX8_isWord_0 : List UInt8 := [42, 180, 0, 166, 4, 160, 0, 16, 42, 180, 0, 159, 31, 148, 154, 0, 7, 4, 167, 0, 4, 3, 172]
abbrev dktX8_isWord_0 : List UInt8 := dkwX8_isWord_0 ++ []
theorem dksX8_isWord_0 : cX8_isWord.data.toList.drop 0 = dktX8_isWord_0 := by decide +kernel
theorem dX8_isWord_0 : decode cX8_isWord 0 = .ok (.aload_n 0, 1) := dk_42 (dk_at dksX8_isWord_0 0 rfl rfl)
theorem dX8_isWord_1 : decode cX8_isWord 1 = .ok (.getfield 166, 3) := dk_180 0 166 (dk_at dksX8_isWord_0 1 rfl rfl)
theorem dX8_isWord_4 : decode cX8_isWord 4 = .ok (.iconst 1, 1) := dk_4 (dk_at dksX8_isWord_0 4 rfl rfl)
theorem dX8_isWord_5 : decode cX8_isWord 5 = .ok (.if_icmp .ne 16, 3) := dk_160 0 16 (dk_at dksX8_isWord_0 5 rfl rfl)
theorem dX8_isWord_8 : decode cX8_isWord 8 = .ok (.aload_n 0, 1) := dk_42 (dk_at dksX8_isWord_0 8 rfl rfl)
theorem dX8_isWord_9 : decode cX8_isWord 9 = .ok (.getfield 159, 3) := dk_180 0 159 (dk_at dksX8_isWord_0 9 rfl rfl)
theorem dX8_isWord_12 : decode cX8_isWord 12 = .ok (.lload_n 1, 1) := dk_31 (dk_at dksX8_isWord_0 12 rfl rfl)
theorem dX8_isWord_13 : decode cX8_isWord 13 = .ok (.lcmp, 1) := dk_148 (dk_at dksX8_isWord_0 13 rfl rfl)
theorem dX8_isWord_14 : decode cX8_isWord 14 = .ok (.ifCond .ne 7, 3) := dk_154 0 7 (dk_at dksX8_isWord_0 14 rfl rfl)
theorem dX8_isWord_17 : decode cX8_isWord 17 = .ok (.iconst 1, 1) := dk_4 (dk_at dksX8_isWord_0 17 rfl rfl)
theorem dX8_isWord_18 : decode cX8_isWord 18 = .ok (.goto 4, 3) := dk_167 0 4 (dk_at dksX8_isWord_0 18 rfl rfl)
theorem dX8_isWord_21 : decode cX8_isWord 21 = .ok (.iconst 0, 1) := dk_3 (dk_at dksX8_isWord_0 21 rfl rfl)
theorem dX8_isWord_22 : decode cX8_isWord 22 = .ok (.ireturn, 1) := dk_172 (dk_at dksX8_isWord_0 22 rfl rfl)
abbrev cX8_readMan : ByteArray := prog_20_method_40_code
def yX8_readMan : MethodName := ⟨RX8, "readMan", "()V"⟩
def dkwX8_readMan_3 : List UInt8 := [42, 89, 180, 1, 74, 4, 96, 181, 1, 74, 177]
abbrev dktX8_readMan_3 : List UInt8 := dkwX8_readMan_3 ++ []
def dkwX8_readMan_2 : List UInt8 := [180, 0, 48, 42, 180, 1, 74, 42, 20, 0, 188, 16, 9, 182, 1, 80, 79, 42, 180, 0, 179, 154, 0, 13]
abbrev dktX8_readMan_2 : List UInt8 := dkwX8_readMan_2 ++ dktX8_readMan_3
def dkwX8_readMan_1 : List UInt8 := [182, 0, 246, 79, 42, 180, 0, 45, 42, 180, 1, 74, 42, 20, 0, 186, 16, 99, 182, 0, 246, 79, 42]
abbrev dktX8_readMan_1 : List UInt8 := dkwX8_readMan_1 ++ dktX8_readMan_2
def dkwX8_readMan_0 : List UInt8 := [42, 3, 42, 180, 1, 74, 182, 1, 77, 42, 180, 0, 42, 42, 180, 1, 74, 42, 20, 0, 184, 16, 99]
abbrev dktX8_readMan_0 : List UInt8 := dkwX8_readMan_0 ++ dktX8_readMan_1
theorem dksX8_readMan_0 : cX8_readMan.data.toList.drop 0 = dktX8_readMan_0 := by decide +kernel
theorem dksX8_readMan_1 : cX8_readMan.data.toList.drop 23 = dktX8_readMan_1 := dk_seg dksX8_readMan_0 23 rfl rfl
theorem dksX8_readMan_2 : cX8_readMan.data.toList.drop 46 = dktX8_readMan_2 := dk_seg dksX8_readMan_1 23 rfl rfl
theorem dksX8_readMan_3 : cX8_readMan.data.toList.drop 70 = dktX8_readMan_3 := dk_seg dksX8_readMan_2 24 rfl rfl
theorem dX8_readMan_0 : decode cX8_readMan 0 = .ok (.aload_n 0, 1) := dk_42 (dk_at dksX8_readMan_0 0 rfl rfl)
theorem dX8_readMan_1 : decode cX8_readMan 1 = .ok (.iconst 0, 1) := dk_3 (dk_at dksX8_readMan_0 1 rfl rfl)
theorem dX8_readMan_2 : decode cX8_readMan 2 = .ok (.aload_n 0, 1) := dk_42 (dk_at dksX8_readMan_0 2 rfl rfl)
theorem dX8_readMan_3 : decode cX8_readMan 3 = .ok (.getfield 330, 3) := dk_180 1 74 (dk_at dksX8_readMan_0 3 rfl rfl)
theorem dX8_readMan_6 : decode cX8_readMan 6 = .ok (.invokevirtual 333, 3) := dk_182 1 77 (dk_at dksX8_readMan_0 6 rfl rfl)
theorem dX8_readMan_9 : decode cX8_readMan 9 = .ok (.aload_n 0, 1) := dk_42 (dk_at dksX8_readMan_0 9 rfl rfl)
theorem dX8_readMan_10 : decode cX8_readMan 10 = .ok (.getfield 42, 3) := dk_180 0 42 (dk_at dksX8_readMan_0 10 rfl rfl)
theorem dX8_readMan_13 : decode cX8_readMan 13 = .ok (.aload_n 0, 1) := dk_42 (dk_at dksX8_readMan_0 13 rfl rfl)
theorem dX8_readMan_14 : decode cX8_readMan 14 = .ok (.getfield 330, 3) := dk_180 1 74 (dk_at dksX8_readMan_0 14 rfl rfl)
theorem dX8_readMan_17 : decode cX8_readMan 17 = .ok (.aload_n 0, 1) := dk_42 (dk_at dksX8_readMan_0 17 rfl rfl)
theorem dX8_readMan_18 : decode cX8_readMan 18 = .ok (.ldc2_w 184, 3) := dk_20 0 184 (dk_at dksX8_readMan_0 18 rfl rfl)
theorem dX8_readMan_21 : decode cX8_readMan 21 = .ok (.bipush 99, 2) := dk_16 99 (dk_at dksX8_readMan_0 21 rfl rfl)
theorem dX8_readMan_23 : decode cX8_readMan 23 = .ok (.invokevirtual 246, 3) := dk_182 0 246 (dk_at dksX8_readMan_1 0 rfl rfl)
theorem dX8_readMan_26 : decode cX8_readMan 26 = .ok (.iastore, 1) := dk_79 (dk_at dksX8_readMan_1 3 rfl rfl)
theorem dX8_readMan_27 : decode cX8_readMan 27 = .ok (.aload_n 0, 1) := dk_42 (dk_at dksX8_readMan_1 4 rfl rfl)
theorem dX8_readMan_28 : decode cX8_readMan 28 = .ok (.getfield 45, 3) := dk_180 0 45 (dk_at dksX8_readMan_1 5 rfl rfl)
theorem dX8_readMan_31 : decode cX8_readMan 31 = .ok (.aload_n 0, 1) := dk_42 (dk_at dksX8_readMan_1 8 rfl rfl)
theorem dX8_readMan_32 : decode cX8_readMan 32 = .ok (.getfield 330, 3) := dk_180 1 74 (dk_at dksX8_readMan_1 9 rfl rfl)
theorem dX8_readMan_35 : decode cX8_readMan 35 = .ok (.aload_n 0, 1) := dk_42 (dk_at dksX8_readMan_1 12 rfl rfl)
theorem dX8_readMan_36 : decode cX8_readMan 36 = .ok (.ldc2_w 186, 3) := dk_20 0 186 (dk_at dksX8_readMan_1 13 rfl rfl)
theorem dX8_readMan_39 : decode cX8_readMan 39 = .ok (.bipush 99, 2) := dk_16 99 (dk_at dksX8_readMan_1 16 rfl rfl)
theorem dX8_readMan_41 : decode cX8_readMan 41 = .ok (.invokevirtual 246, 3) := dk_182 0 246 (dk_at dksX8_readMan_1 18 rfl rfl)
theorem dX8_readMan_44 : decode cX8_readMan 44 = .ok (.iastore, 1) := dk_79 (dk_at dksX8_readMan_1 21 rfl rfl)
theorem dX8_readMan_45 : decode cX8_readMan 45 = .ok (.aload_n 0, 1) := dk_42 (dk_at dksX8_readMan_1 22 rfl rfl)
theorem dX8_readMan_46 : decode cX8_readMan 46 = .ok (.getfield 48, 3) := dk_180 0 48 (dk_at dksX8_readMan_2 0 rfl rfl)
theorem dX8_readMan_49 : decode cX8_readMan 49 = .ok (.aload_n 0, 1) := dk_42 (dk_at dksX8_readMan_2 3 rfl rfl)
theorem dX8_readMan_50 : decode cX8_readMan 50 = .ok (.getfield 330, 3) := dk_180 1 74 (dk_at dksX8_readMan_2 4 rfl rfl)
theorem dX8_readMan_53 : decode cX8_readMan 53 = .ok (.aload_n 0, 1) := dk_42 (dk_at dksX8_readMan_2 7 rfl rfl)
theorem dX8_readMan_54 : decode cX8_readMan 54 = .ok (.ldc2_w 188, 3) := dk_20 0 188 (dk_at dksX8_readMan_2 8 rfl rfl)
theorem dX8_readMan_57 : decode cX8_readMan 57 = .ok (.bipush 9, 2) := dk_16 9 (dk_at dksX8_readMan_2 11 rfl rfl)
theorem dX8_readMan_59 : decode cX8_readMan 59 = .ok (.invokevirtual 336, 3) := dk_182 1 80 (dk_at dksX8_readMan_2 13 rfl rfl)
theorem dX8_readMan_62 : decode cX8_readMan 62 = .ok (.iastore, 1) := dk_79 (dk_at dksX8_readMan_2 16 rfl rfl)
theorem dX8_readMan_63 : decode cX8_readMan 63 = .ok (.aload_n 0, 1) := dk_42 (dk_at dksX8_readMan_2 17 rfl rfl)
theorem dX8_readMan_64 : decode cX8_readMan 64 = .ok (.getfield 179, 3) := dk_180 0 179 (dk_at dksX8_readMan_2 18 rfl rfl)
theorem dX8_readMan_67 : decode cX8_readMan 67 = .ok (.ifCond .ne 13, 3) := dk_154 0 13 (dk_at dksX8_readMan_2 21 rfl rfl)
theorem dX8_readMan_70 : decode cX8_readMan 70 = .ok (.aload_n 0, 1) := dk_42 (dk_at dksX8_readMan_3 0 rfl rfl)
theorem dX8_readMan_71 : decode cX8_readMan 71 = .ok (.dup, 1) := dk_89 (dk_at dksX8_readMan_3 1 rfl rfl)
theorem dX8_readMan_72 : decode cX8_readMan 72 = .ok (.getfield 330, 3) := dk_180 1 74 (dk_at dksX8_readMan_3 2 rfl rfl)
theorem dX8_readMan_75 : decode cX8_readMan 75 = .ok (.iconst 1, 1) := dk_4 (dk_at dksX8_readMan_3 5 rfl rfl)
theorem dX8_readMan_76 : decode cX8_readMan 76 = .ok (.iadd, 1) := dk_96 (dk_at dksX8_readMan_3 6 rfl rfl)
theorem dX8_readMan_77 : decode cX8_readMan 77 = .ok (.putfield 330, 3) := dk_181 1 74 (dk_at dksX8_readMan_3 7 rfl rfl)
theorem dX8_readMan_80 : decode cX8_readMan 80 = .ok (.return_, 1) := dk_177 (dk_at dksX8_readMan_3 10 rfl rfl)
abbrev cX8_newName : ByteArray := prog_20_method_18_code
def yX8_newName : MethodName := ⟨RX8, "newName", "(II)V"⟩
def dkwX8_newName_3 : List UInt8 := [42, 180, 0, 159, 80, 42, 182, 0, 235, 177]
abbrev dktX8_newName_3 : List UInt8 := dkwX8_newName_3 ++ []
def dkwX8_newName_2 : List UInt8 := [182, 0, 232, 132, 3, 1, 167, 255, 220, 42, 180, 0, 179, 158, 0, 4, 177, 42, 180, 0, 17, 27, 28, 96]
abbrev dktX8_newName_2 : List UInt8 := dkwX8_newName_2 ++ dktX8_newName_3
def dkwX8_newName_1 : List UInt8 := [180, 0, 179, 154, 0, 30, 42, 180, 0, 17, 27, 29, 96, 47, 42, 180, 0, 159, 148, 154, 0, 8, 42, 6]
abbrev dktX8_newName_1 : List UInt8 := dkwX8_newName_1 ++ dktX8_newName_2
def dkwX8_newName_0 : List UInt8 := [42, 182, 0, 235, 42, 182, 0, 250, 154, 0, 8, 42, 5, 182, 0, 232, 3, 62, 29, 28, 162, 0, 37, 42]
abbrev dktX8_newName_0 : List UInt8 := dkwX8_newName_0 ++ dktX8_newName_1
theorem dksX8_newName_0 : cX8_newName.data.toList.drop 0 = dktX8_newName_0 := by decide +kernel
theorem dksX8_newName_1 : cX8_newName.data.toList.drop 24 = dktX8_newName_1 := dk_seg dksX8_newName_0 24 rfl rfl
theorem dksX8_newName_2 : cX8_newName.data.toList.drop 48 = dktX8_newName_2 := dk_seg dksX8_newName_1 24 rfl rfl
theorem dksX8_newName_3 : cX8_newName.data.toList.drop 72 = dktX8_newName_3 := dk_seg dksX8_newName_2 24 rfl rfl
theorem dX8_newName_0 : decode cX8_newName 0 = .ok (.aload_n 0, 1) := dk_42 (dk_at dksX8_newName_0 0 rfl rfl)
theorem dX8_newName_1 : decode cX8_newName 1 = .ok (.invokevirtual 235, 3) := dk_182 0 235 (dk_at dksX8_newName_0 1 rfl rfl)
theorem dX8_newName_4 : decode cX8_newName 4 = .ok (.aload_n 0, 1) := dk_42 (dk_at dksX8_newName_0 4 rfl rfl)
theorem dX8_newName_5 : decode cX8_newName 5 = .ok (.invokevirtual 250, 3) := dk_182 0 250 (dk_at dksX8_newName_0 5 rfl rfl)
theorem dX8_newName_8 : decode cX8_newName 8 = .ok (.ifCond .ne 8, 3) := dk_154 0 8 (dk_at dksX8_newName_0 8 rfl rfl)
theorem dX8_newName_11 : decode cX8_newName 11 = .ok (.aload_n 0, 1) := dk_42 (dk_at dksX8_newName_0 11 rfl rfl)
theorem dX8_newName_12 : decode cX8_newName 12 = .ok (.iconst 2, 1) := dk_5 (dk_at dksX8_newName_0 12 rfl rfl)
theorem dX8_newName_13 : decode cX8_newName 13 = .ok (.invokevirtual 232, 3) := dk_182 0 232 (dk_at dksX8_newName_0 13 rfl rfl)
theorem dX8_newName_16 : decode cX8_newName 16 = .ok (.iconst 0, 1) := dk_3 (dk_at dksX8_newName_0 16 rfl rfl)
theorem dX8_newName_17 : decode cX8_newName 17 = .ok (.istore_n 3, 1) := dk_62 (dk_at dksX8_newName_0 17 rfl rfl)
theorem dX8_newName_18 : decode cX8_newName 18 = .ok (.iload_n 3, 1) := dk_29 (dk_at dksX8_newName_0 18 rfl rfl)
theorem dX8_newName_19 : decode cX8_newName 19 = .ok (.iload_n 2, 1) := dk_28 (dk_at dksX8_newName_0 19 rfl rfl)
theorem dX8_newName_20 : decode cX8_newName 20 = .ok (.if_icmp .ge 37, 3) := dk_162 0 37 (dk_at dksX8_newName_0 20 rfl rfl)
theorem dX8_newName_23 : decode cX8_newName 23 = .ok (.aload_n 0, 1) := dk_42 (dk_at dksX8_newName_0 23 rfl rfl)
theorem dX8_newName_24 : decode cX8_newName 24 = .ok (.getfield 179, 3) := dk_180 0 179 (dk_at dksX8_newName_1 0 rfl rfl)
theorem dX8_newName_27 : decode cX8_newName 27 = .ok (.ifCond .ne 30, 3) := dk_154 0 30 (dk_at dksX8_newName_1 3 rfl rfl)
theorem dX8_newName_30 : decode cX8_newName 30 = .ok (.aload_n 0, 1) := dk_42 (dk_at dksX8_newName_1 6 rfl rfl)
theorem dX8_newName_31 : decode cX8_newName 31 = .ok (.getfield 17, 3) := dk_180 0 17 (dk_at dksX8_newName_1 7 rfl rfl)
theorem dX8_newName_34 : decode cX8_newName 34 = .ok (.iload_n 1, 1) := dk_27 (dk_at dksX8_newName_1 10 rfl rfl)
theorem dX8_newName_35 : decode cX8_newName 35 = .ok (.iload_n 3, 1) := dk_29 (dk_at dksX8_newName_1 11 rfl rfl)
theorem dX8_newName_36 : decode cX8_newName 36 = .ok (.iadd, 1) := dk_96 (dk_at dksX8_newName_1 12 rfl rfl)
theorem dX8_newName_37 : decode cX8_newName 37 = .ok (.laload, 1) := dk_47 (dk_at dksX8_newName_1 13 rfl rfl)
theorem dX8_newName_38 : decode cX8_newName 38 = .ok (.aload_n 0, 1) := dk_42 (dk_at dksX8_newName_1 14 rfl rfl)
theorem dX8_newName_39 : decode cX8_newName 39 = .ok (.getfield 159, 3) := dk_180 0 159 (dk_at dksX8_newName_1 15 rfl rfl)
theorem dX8_newName_42 : decode cX8_newName 42 = .ok (.lcmp, 1) := dk_148 (dk_at dksX8_newName_1 18 rfl rfl)
theorem dX8_newName_43 : decode cX8_newName 43 = .ok (.ifCond .ne 8, 3) := dk_154 0 8 (dk_at dksX8_newName_1 19 rfl rfl)
theorem dX8_newName_46 : decode cX8_newName 46 = .ok (.aload_n 0, 1) := dk_42 (dk_at dksX8_newName_1 22 rfl rfl)
theorem dX8_newName_47 : decode cX8_newName 47 = .ok (.iconst 3, 1) := dk_6 (dk_at dksX8_newName_1 23 rfl rfl)
theorem dX8_newName_48 : decode cX8_newName 48 = .ok (.invokevirtual 232, 3) := dk_182 0 232 (dk_at dksX8_newName_2 0 rfl rfl)
theorem dX8_newName_51 : decode cX8_newName 51 = .ok (.iinc 3 1, 3) := dk_132 3 1 (dk_at dksX8_newName_2 3 rfl rfl)
theorem dX8_newName_54 : decode cX8_newName 54 = .ok (.goto (-36), 3) := dk_167 255 220 (dk_at dksX8_newName_2 6 rfl rfl)
theorem dX8_newName_57 : decode cX8_newName 57 = .ok (.aload_n 0, 1) := dk_42 (dk_at dksX8_newName_2 9 rfl rfl)
theorem dX8_newName_58 : decode cX8_newName 58 = .ok (.getfield 179, 3) := dk_180 0 179 (dk_at dksX8_newName_2 10 rfl rfl)
theorem dX8_newName_61 : decode cX8_newName 61 = .ok (.ifCond .le 4, 3) := dk_158 0 4 (dk_at dksX8_newName_2 13 rfl rfl)
theorem dX8_newName_64 : decode cX8_newName 64 = .ok (.return_, 1) := dk_177 (dk_at dksX8_newName_2 16 rfl rfl)
theorem dX8_newName_65 : decode cX8_newName 65 = .ok (.aload_n 0, 1) := dk_42 (dk_at dksX8_newName_2 17 rfl rfl)
theorem dX8_newName_66 : decode cX8_newName 66 = .ok (.getfield 17, 3) := dk_180 0 17 (dk_at dksX8_newName_2 18 rfl rfl)
theorem dX8_newName_69 : decode cX8_newName 69 = .ok (.iload_n 1, 1) := dk_27 (dk_at dksX8_newName_2 21 rfl rfl)
theorem dX8_newName_70 : decode cX8_newName 70 = .ok (.iload_n 2, 1) := dk_28 (dk_at dksX8_newName_2 22 rfl rfl)
theorem dX8_newName_71 : decode cX8_newName 71 = .ok (.iadd, 1) := dk_96 (dk_at dksX8_newName_2 23 rfl rfl)
theorem dX8_newName_72 : decode cX8_newName 72 = .ok (.aload_n 0, 1) := dk_42 (dk_at dksX8_newName_3 0 rfl rfl)
theorem dX8_newName_73 : decode cX8_newName 73 = .ok (.getfield 159, 3) := dk_180 0 159 (dk_at dksX8_newName_3 1 rfl rfl)
theorem dX8_newName_76 : decode cX8_newName 76 = .ok (.lastore, 1) := dk_80 (dk_at dksX8_newName_3 4 rfl rfl)
theorem dX8_newName_77 : decode cX8_newName 77 = .ok (.aload_n 0, 1) := dk_42 (dk_at dksX8_newName_3 5 rfl rfl)
theorem dX8_newName_78 : decode cX8_newName 78 = .ok (.invokevirtual 235, 3) := dk_182 0 235 (dk_at dksX8_newName_3 6 rfl rfl)
theorem dX8_newName_81 : decode cX8_newName 81 = .ok (.return_, 1) := dk_177 (dk_at dksX8_newName_3 9 rfl rfl)
abbrev cX8_isName : ByteArray := prog_20_method_13_code
def yX8_isName : MethodName := ⟨RX8, "isName", "()Z"⟩
def dkwX8_isName_0 : List UInt8 := [42, 180, 0, 166, 4, 160, 0, 14, 42, 182, 0, 224, 154, 0, 7, 4, 167, 0, 4, 3, 172]
abbrev dktX8_isName_0 : List UInt8 := dkwX8_isName_0 ++ []
theorem dksX8_isName_0 : cX8_isName.data.toList.drop 0 = dktX8_isName_0 := by decide +kernel
theorem dX8_isName_0 : decode cX8_isName 0 = .ok (.aload_n 0, 1) := dk_42 (dk_at dksX8_isName_0 0 rfl rfl)
theorem dX8_isName_1 : decode cX8_isName 1 = .ok (.getfield 166, 3) := dk_180 0 166 (dk_at dksX8_isName_0 1 rfl rfl)
theorem dX8_isName_4 : decode cX8_isName 4 = .ok (.iconst 1, 1) := dk_4 (dk_at dksX8_isName_0 4 rfl rfl)
theorem dX8_isName_5 : decode cX8_isName 5 = .ok (.if_icmp .ne 14, 3) := dk_160 0 14 (dk_at dksX8_isName_0 5 rfl rfl)
theorem dX8_isName_8 : decode cX8_isName 8 = .ok (.aload_n 0, 1) := dk_42 (dk_at dksX8_isName_0 8 rfl rfl)
theorem dX8_isName_9 : decode cX8_isName 9 = .ok (.invokevirtual 224, 3) := dk_182 0 224 (dk_at dksX8_isName_0 9 rfl rfl)
theorem dX8_isName_12 : decode cX8_isName 12 = .ok (.ifCond .ne 7, 3) := dk_154 0 7 (dk_at dksX8_isName_0 12 rfl rfl)
theorem dX8_isName_15 : decode cX8_isName 15 = .ok (.iconst 1, 1) := dk_4 (dk_at dksX8_isName_0 15 rfl rfl)
theorem dX8_isName_16 : decode cX8_isName 16 = .ok (.goto 4, 3) := dk_167 0 4 (dk_at dksX8_isName_0 16 rfl rfl)
theorem dX8_isName_19 : decode cX8_isName 19 = .ok (.iconst 0, 1) := dk_3 (dk_at dksX8_isName_0 19 rfl rfl)
theorem dX8_isName_20 : decode cX8_isName 20 = .ok (.ireturn, 1) := dk_172 (dk_at dksX8_isName_0 20 rfl rfl)
abbrev cX8_isOwn : ByteArray := prog_20_method_12_code
def yX8_isOwn : MethodName := ⟨RX8, "isOwn", "()Z"⟩
def dkwX8_isOwn_10 : List UInt8 := [180, 0, 159, 20, 0, 222, 148, 154, 0, 7, 4, 167, 0, 4, 3, 172]
abbrev dktX8_isOwn_10 : List UInt8 := dkwX8_isOwn_10 ++ []
def dkwX8_isOwn_9 : List UInt8 := [180, 0, 159, 20, 0, 218, 148, 153, 0, 25, 42, 180, 0, 159, 20, 0, 220, 148, 153, 0, 14, 42]
abbrev dktX8_isOwn_9 : List UInt8 := dkwX8_isOwn_9 ++ dktX8_isOwn_10
def dkwX8_isOwn_8 : List UInt8 := [180, 0, 159, 20, 0, 214, 148, 153, 0, 47, 42, 180, 0, 159, 20, 0, 216, 148, 153, 0, 36, 42]
abbrev dktX8_isOwn_8 : List UInt8 := dkwX8_isOwn_8 ++ dktX8_isOwn_9
def dkwX8_isOwn_7 : List UInt8 := [180, 0, 159, 20, 0, 210, 148, 153, 0, 69, 42, 180, 0, 159, 20, 0, 212, 148, 153, 0, 58, 42]
abbrev dktX8_isOwn_7 : List UInt8 := dkwX8_isOwn_7 ++ dktX8_isOwn_8
def dkwX8_isOwn_6 : List UInt8 := [180, 0, 159, 20, 0, 206, 148, 153, 0, 91, 42, 180, 0, 159, 20, 0, 208, 148, 153, 0, 80, 42]
abbrev dktX8_isOwn_6 : List UInt8 := dkwX8_isOwn_6 ++ dktX8_isOwn_7
def dkwX8_isOwn_5 : List UInt8 := [180, 0, 159, 20, 0, 202, 148, 153, 0, 113, 42, 180, 0, 159, 20, 0, 204, 148, 153, 0, 102, 42]
abbrev dktX8_isOwn_5 : List UInt8 := dkwX8_isOwn_5 ++ dktX8_isOwn_6
def dkwX8_isOwn_4 : List UInt8 := [180, 0, 159, 20, 0, 198, 148, 153, 0, 135, 42, 180, 0, 159, 20, 0, 200, 148, 153, 0, 124, 42]
abbrev dktX8_isOwn_4 : List UInt8 := dkwX8_isOwn_4 ++ dktX8_isOwn_5
def dkwX8_isOwn_3 : List UInt8 := [180, 0, 159, 20, 0, 194, 148, 153, 0, 157, 42, 180, 0, 159, 20, 0, 196, 148, 153, 0, 146, 42]
abbrev dktX8_isOwn_3 : List UInt8 := dkwX8_isOwn_3 ++ dktX8_isOwn_4
def dkwX8_isOwn_2 : List UInt8 := [180, 0, 159, 20, 0, 190, 148, 153, 0, 179, 42, 180, 0, 159, 20, 0, 192, 148, 153, 0, 168, 42]
abbrev dktX8_isOwn_2 : List UInt8 := dkwX8_isOwn_2 ++ dktX8_isOwn_3
def dkwX8_isOwn_1 : List UInt8 := [180, 0, 159, 20, 0, 186, 148, 153, 0, 201, 42, 180, 0, 159, 20, 0, 188, 148, 153, 0, 190, 42]
abbrev dktX8_isOwn_1 : List UInt8 := dkwX8_isOwn_1 ++ dktX8_isOwn_2
def dkwX8_isOwn_0 : List UInt8 := [42, 180, 0, 159, 20, 0, 182, 148, 153, 0, 223, 42, 180, 0, 159, 20, 0, 184, 148, 153, 0, 212, 42]
abbrev dktX8_isOwn_0 : List UInt8 := dkwX8_isOwn_0 ++ dktX8_isOwn_1
theorem dksX8_isOwn_0 : cX8_isOwn.data.toList.drop 0 = dktX8_isOwn_0 := by decide +kernel
theorem dksX8_isOwn_1 : cX8_isOwn.data.toList.drop 23 = dktX8_isOwn_1 := dk_seg dksX8_isOwn_0 23 rfl rfl
theorem dksX8_isOwn_2 : cX8_isOwn.data.toList.drop 45 = dktX8_isOwn_2 := dk_seg dksX8_isOwn_1 22 rfl rfl
theorem dksX8_isOwn_3 : cX8_isOwn.data.toList.drop 67 = dktX8_isOwn_3 := dk_seg dksX8_isOwn_2 22 rfl rfl
theorem dksX8_isOwn_4 : cX8_isOwn.data.toList.drop 89 = dktX8_isOwn_4 := dk_seg dksX8_isOwn_3 22 rfl rfl
theorem dksX8_isOwn_5 : cX8_isOwn.data.toList.drop 111 = dktX8_isOwn_5 := dk_seg dksX8_isOwn_4 22 rfl rfl
theorem dksX8_isOwn_6 : cX8_isOwn.data.toList.drop 133 = dktX8_isOwn_6 := dk_seg dksX8_isOwn_5 22 rfl rfl
theorem dksX8_isOwn_7 : cX8_isOwn.data.toList.drop 155 = dktX8_isOwn_7 := dk_seg dksX8_isOwn_6 22 rfl rfl
theorem dksX8_isOwn_8 : cX8_isOwn.data.toList.drop 177 = dktX8_isOwn_8 := dk_seg dksX8_isOwn_7 22 rfl rfl
theorem dksX8_isOwn_9 : cX8_isOwn.data.toList.drop 199 = dktX8_isOwn_9 := dk_seg dksX8_isOwn_8 22 rfl rfl
theorem dksX8_isOwn_10 : cX8_isOwn.data.toList.drop 221 = dktX8_isOwn_10 := dk_seg dksX8_isOwn_9 22 rfl rfl
theorem dX8_isOwn_0 : decode cX8_isOwn 0 = .ok (.aload_n 0, 1) := dk_42 (dk_at dksX8_isOwn_0 0 rfl rfl)
theorem dX8_isOwn_1 : decode cX8_isOwn 1 = .ok (.getfield 159, 3) := dk_180 0 159 (dk_at dksX8_isOwn_0 1 rfl rfl)
theorem dX8_isOwn_4 : decode cX8_isOwn 4 = .ok (.ldc2_w 182, 3) := dk_20 0 182 (dk_at dksX8_isOwn_0 4 rfl rfl)
theorem dX8_isOwn_7 : decode cX8_isOwn 7 = .ok (.lcmp, 1) := dk_148 (dk_at dksX8_isOwn_0 7 rfl rfl)
theorem dX8_isOwn_8 : decode cX8_isOwn 8 = .ok (.ifCond .eq 223, 3) := dk_153 0 223 (dk_at dksX8_isOwn_0 8 rfl rfl)
theorem dX8_isOwn_11 : decode cX8_isOwn 11 = .ok (.aload_n 0, 1) := dk_42 (dk_at dksX8_isOwn_0 11 rfl rfl)
theorem dX8_isOwn_12 : decode cX8_isOwn 12 = .ok (.getfield 159, 3) := dk_180 0 159 (dk_at dksX8_isOwn_0 12 rfl rfl)
theorem dX8_isOwn_15 : decode cX8_isOwn 15 = .ok (.ldc2_w 184, 3) := dk_20 0 184 (dk_at dksX8_isOwn_0 15 rfl rfl)
theorem dX8_isOwn_18 : decode cX8_isOwn 18 = .ok (.lcmp, 1) := dk_148 (dk_at dksX8_isOwn_0 18 rfl rfl)
theorem dX8_isOwn_19 : decode cX8_isOwn 19 = .ok (.ifCond .eq 212, 3) := dk_153 0 212 (dk_at dksX8_isOwn_0 19 rfl rfl)
theorem dX8_isOwn_22 : decode cX8_isOwn 22 = .ok (.aload_n 0, 1) := dk_42 (dk_at dksX8_isOwn_0 22 rfl rfl)
theorem dX8_isOwn_23 : decode cX8_isOwn 23 = .ok (.getfield 159, 3) := dk_180 0 159 (dk_at dksX8_isOwn_1 0 rfl rfl)
theorem dX8_isOwn_26 : decode cX8_isOwn 26 = .ok (.ldc2_w 186, 3) := dk_20 0 186 (dk_at dksX8_isOwn_1 3 rfl rfl)
theorem dX8_isOwn_29 : decode cX8_isOwn 29 = .ok (.lcmp, 1) := dk_148 (dk_at dksX8_isOwn_1 6 rfl rfl)
theorem dX8_isOwn_30 : decode cX8_isOwn 30 = .ok (.ifCond .eq 201, 3) := dk_153 0 201 (dk_at dksX8_isOwn_1 7 rfl rfl)
theorem dX8_isOwn_33 : decode cX8_isOwn 33 = .ok (.aload_n 0, 1) := dk_42 (dk_at dksX8_isOwn_1 10 rfl rfl)
theorem dX8_isOwn_34 : decode cX8_isOwn 34 = .ok (.getfield 159, 3) := dk_180 0 159 (dk_at dksX8_isOwn_1 11 rfl rfl)
theorem dX8_isOwn_37 : decode cX8_isOwn 37 = .ok (.ldc2_w 188, 3) := dk_20 0 188 (dk_at dksX8_isOwn_1 14 rfl rfl)
theorem dX8_isOwn_40 : decode cX8_isOwn 40 = .ok (.lcmp, 1) := dk_148 (dk_at dksX8_isOwn_1 17 rfl rfl)
theorem dX8_isOwn_41 : decode cX8_isOwn 41 = .ok (.ifCond .eq 190, 3) := dk_153 0 190 (dk_at dksX8_isOwn_1 18 rfl rfl)
theorem dX8_isOwn_44 : decode cX8_isOwn 44 = .ok (.aload_n 0, 1) := dk_42 (dk_at dksX8_isOwn_1 21 rfl rfl)
theorem dX8_isOwn_45 : decode cX8_isOwn 45 = .ok (.getfield 159, 3) := dk_180 0 159 (dk_at dksX8_isOwn_2 0 rfl rfl)
theorem dX8_isOwn_48 : decode cX8_isOwn 48 = .ok (.ldc2_w 190, 3) := dk_20 0 190 (dk_at dksX8_isOwn_2 3 rfl rfl)
theorem dX8_isOwn_51 : decode cX8_isOwn 51 = .ok (.lcmp, 1) := dk_148 (dk_at dksX8_isOwn_2 6 rfl rfl)
theorem dX8_isOwn_52 : decode cX8_isOwn 52 = .ok (.ifCond .eq 179, 3) := dk_153 0 179 (dk_at dksX8_isOwn_2 7 rfl rfl)
theorem dX8_isOwn_55 : decode cX8_isOwn 55 = .ok (.aload_n 0, 1) := dk_42 (dk_at dksX8_isOwn_2 10 rfl rfl)
theorem dX8_isOwn_56 : decode cX8_isOwn 56 = .ok (.getfield 159, 3) := dk_180 0 159 (dk_at dksX8_isOwn_2 11 rfl rfl)
theorem dX8_isOwn_59 : decode cX8_isOwn 59 = .ok (.ldc2_w 192, 3) := dk_20 0 192 (dk_at dksX8_isOwn_2 14 rfl rfl)
theorem dX8_isOwn_62 : decode cX8_isOwn 62 = .ok (.lcmp, 1) := dk_148 (dk_at dksX8_isOwn_2 17 rfl rfl)
theorem dX8_isOwn_63 : decode cX8_isOwn 63 = .ok (.ifCond .eq 168, 3) := dk_153 0 168 (dk_at dksX8_isOwn_2 18 rfl rfl)
theorem dX8_isOwn_66 : decode cX8_isOwn 66 = .ok (.aload_n 0, 1) := dk_42 (dk_at dksX8_isOwn_2 21 rfl rfl)
theorem dX8_isOwn_67 : decode cX8_isOwn 67 = .ok (.getfield 159, 3) := dk_180 0 159 (dk_at dksX8_isOwn_3 0 rfl rfl)
theorem dX8_isOwn_70 : decode cX8_isOwn 70 = .ok (.ldc2_w 194, 3) := dk_20 0 194 (dk_at dksX8_isOwn_3 3 rfl rfl)
theorem dX8_isOwn_73 : decode cX8_isOwn 73 = .ok (.lcmp, 1) := dk_148 (dk_at dksX8_isOwn_3 6 rfl rfl)
theorem dX8_isOwn_74 : decode cX8_isOwn 74 = .ok (.ifCond .eq 157, 3) := dk_153 0 157 (dk_at dksX8_isOwn_3 7 rfl rfl)
theorem dX8_isOwn_77 : decode cX8_isOwn 77 = .ok (.aload_n 0, 1) := dk_42 (dk_at dksX8_isOwn_3 10 rfl rfl)
theorem dX8_isOwn_78 : decode cX8_isOwn 78 = .ok (.getfield 159, 3) := dk_180 0 159 (dk_at dksX8_isOwn_3 11 rfl rfl)
theorem dX8_isOwn_81 : decode cX8_isOwn 81 = .ok (.ldc2_w 196, 3) := dk_20 0 196 (dk_at dksX8_isOwn_3 14 rfl rfl)
theorem dX8_isOwn_84 : decode cX8_isOwn 84 = .ok (.lcmp, 1) := dk_148 (dk_at dksX8_isOwn_3 17 rfl rfl)
theorem dX8_isOwn_85 : decode cX8_isOwn 85 = .ok (.ifCond .eq 146, 3) := dk_153 0 146 (dk_at dksX8_isOwn_3 18 rfl rfl)
theorem dX8_isOwn_88 : decode cX8_isOwn 88 = .ok (.aload_n 0, 1) := dk_42 (dk_at dksX8_isOwn_3 21 rfl rfl)
theorem dX8_isOwn_89 : decode cX8_isOwn 89 = .ok (.getfield 159, 3) := dk_180 0 159 (dk_at dksX8_isOwn_4 0 rfl rfl)
theorem dX8_isOwn_92 : decode cX8_isOwn 92 = .ok (.ldc2_w 198, 3) := dk_20 0 198 (dk_at dksX8_isOwn_4 3 rfl rfl)
theorem dX8_isOwn_95 : decode cX8_isOwn 95 = .ok (.lcmp, 1) := dk_148 (dk_at dksX8_isOwn_4 6 rfl rfl)
theorem dX8_isOwn_96 : decode cX8_isOwn 96 = .ok (.ifCond .eq 135, 3) := dk_153 0 135 (dk_at dksX8_isOwn_4 7 rfl rfl)
theorem dX8_isOwn_99 : decode cX8_isOwn 99 = .ok (.aload_n 0, 1) := dk_42 (dk_at dksX8_isOwn_4 10 rfl rfl)
theorem dX8_isOwn_100 : decode cX8_isOwn 100 = .ok (.getfield 159, 3) := dk_180 0 159 (dk_at dksX8_isOwn_4 11 rfl rfl)
theorem dX8_isOwn_103 : decode cX8_isOwn 103 = .ok (.ldc2_w 200, 3) := dk_20 0 200 (dk_at dksX8_isOwn_4 14 rfl rfl)
theorem dX8_isOwn_106 : decode cX8_isOwn 106 = .ok (.lcmp, 1) := dk_148 (dk_at dksX8_isOwn_4 17 rfl rfl)
theorem dX8_isOwn_107 : decode cX8_isOwn 107 = .ok (.ifCond .eq 124, 3) := dk_153 0 124 (dk_at dksX8_isOwn_4 18 rfl rfl)
theorem dX8_isOwn_110 : decode cX8_isOwn 110 = .ok (.aload_n 0, 1) := dk_42 (dk_at dksX8_isOwn_4 21 rfl rfl)
theorem dX8_isOwn_111 : decode cX8_isOwn 111 = .ok (.getfield 159, 3) := dk_180 0 159 (dk_at dksX8_isOwn_5 0 rfl rfl)
theorem dX8_isOwn_114 : decode cX8_isOwn 114 = .ok (.ldc2_w 202, 3) := dk_20 0 202 (dk_at dksX8_isOwn_5 3 rfl rfl)
theorem dX8_isOwn_117 : decode cX8_isOwn 117 = .ok (.lcmp, 1) := dk_148 (dk_at dksX8_isOwn_5 6 rfl rfl)
theorem dX8_isOwn_118 : decode cX8_isOwn 118 = .ok (.ifCond .eq 113, 3) := dk_153 0 113 (dk_at dksX8_isOwn_5 7 rfl rfl)
theorem dX8_isOwn_121 : decode cX8_isOwn 121 = .ok (.aload_n 0, 1) := dk_42 (dk_at dksX8_isOwn_5 10 rfl rfl)
theorem dX8_isOwn_122 : decode cX8_isOwn 122 = .ok (.getfield 159, 3) := dk_180 0 159 (dk_at dksX8_isOwn_5 11 rfl rfl)
theorem dX8_isOwn_125 : decode cX8_isOwn 125 = .ok (.ldc2_w 204, 3) := dk_20 0 204 (dk_at dksX8_isOwn_5 14 rfl rfl)
theorem dX8_isOwn_128 : decode cX8_isOwn 128 = .ok (.lcmp, 1) := dk_148 (dk_at dksX8_isOwn_5 17 rfl rfl)
theorem dX8_isOwn_129 : decode cX8_isOwn 129 = .ok (.ifCond .eq 102, 3) := dk_153 0 102 (dk_at dksX8_isOwn_5 18 rfl rfl)
theorem dX8_isOwn_132 : decode cX8_isOwn 132 = .ok (.aload_n 0, 1) := dk_42 (dk_at dksX8_isOwn_5 21 rfl rfl)
theorem dX8_isOwn_133 : decode cX8_isOwn 133 = .ok (.getfield 159, 3) := dk_180 0 159 (dk_at dksX8_isOwn_6 0 rfl rfl)
theorem dX8_isOwn_136 : decode cX8_isOwn 136 = .ok (.ldc2_w 206, 3) := dk_20 0 206 (dk_at dksX8_isOwn_6 3 rfl rfl)
theorem dX8_isOwn_139 : decode cX8_isOwn 139 = .ok (.lcmp, 1) := dk_148 (dk_at dksX8_isOwn_6 6 rfl rfl)
theorem dX8_isOwn_140 : decode cX8_isOwn 140 = .ok (.ifCond .eq 91, 3) := dk_153 0 91 (dk_at dksX8_isOwn_6 7 rfl rfl)
theorem dX8_isOwn_143 : decode cX8_isOwn 143 = .ok (.aload_n 0, 1) := dk_42 (dk_at dksX8_isOwn_6 10 rfl rfl)
theorem dX8_isOwn_144 : decode cX8_isOwn 144 = .ok (.getfield 159, 3) := dk_180 0 159 (dk_at dksX8_isOwn_6 11 rfl rfl)
theorem dX8_isOwn_147 : decode cX8_isOwn 147 = .ok (.ldc2_w 208, 3) := dk_20 0 208 (dk_at dksX8_isOwn_6 14 rfl rfl)
theorem dX8_isOwn_150 : decode cX8_isOwn 150 = .ok (.lcmp, 1) := dk_148 (dk_at dksX8_isOwn_6 17 rfl rfl)
theorem dX8_isOwn_151 : decode cX8_isOwn 151 = .ok (.ifCond .eq 80, 3) := dk_153 0 80 (dk_at dksX8_isOwn_6 18 rfl rfl)
theorem dX8_isOwn_154 : decode cX8_isOwn 154 = .ok (.aload_n 0, 1) := dk_42 (dk_at dksX8_isOwn_6 21 rfl rfl)
theorem dX8_isOwn_155 : decode cX8_isOwn 155 = .ok (.getfield 159, 3) := dk_180 0 159 (dk_at dksX8_isOwn_7 0 rfl rfl)
theorem dX8_isOwn_158 : decode cX8_isOwn 158 = .ok (.ldc2_w 210, 3) := dk_20 0 210 (dk_at dksX8_isOwn_7 3 rfl rfl)
theorem dX8_isOwn_161 : decode cX8_isOwn 161 = .ok (.lcmp, 1) := dk_148 (dk_at dksX8_isOwn_7 6 rfl rfl)
theorem dX8_isOwn_162 : decode cX8_isOwn 162 = .ok (.ifCond .eq 69, 3) := dk_153 0 69 (dk_at dksX8_isOwn_7 7 rfl rfl)
theorem dX8_isOwn_165 : decode cX8_isOwn 165 = .ok (.aload_n 0, 1) := dk_42 (dk_at dksX8_isOwn_7 10 rfl rfl)
theorem dX8_isOwn_166 : decode cX8_isOwn 166 = .ok (.getfield 159, 3) := dk_180 0 159 (dk_at dksX8_isOwn_7 11 rfl rfl)
theorem dX8_isOwn_169 : decode cX8_isOwn 169 = .ok (.ldc2_w 212, 3) := dk_20 0 212 (dk_at dksX8_isOwn_7 14 rfl rfl)
theorem dX8_isOwn_172 : decode cX8_isOwn 172 = .ok (.lcmp, 1) := dk_148 (dk_at dksX8_isOwn_7 17 rfl rfl)
theorem dX8_isOwn_173 : decode cX8_isOwn 173 = .ok (.ifCond .eq 58, 3) := dk_153 0 58 (dk_at dksX8_isOwn_7 18 rfl rfl)
theorem dX8_isOwn_176 : decode cX8_isOwn 176 = .ok (.aload_n 0, 1) := dk_42 (dk_at dksX8_isOwn_7 21 rfl rfl)
theorem dX8_isOwn_177 : decode cX8_isOwn 177 = .ok (.getfield 159, 3) := dk_180 0 159 (dk_at dksX8_isOwn_8 0 rfl rfl)
theorem dX8_isOwn_180 : decode cX8_isOwn 180 = .ok (.ldc2_w 214, 3) := dk_20 0 214 (dk_at dksX8_isOwn_8 3 rfl rfl)
theorem dX8_isOwn_183 : decode cX8_isOwn 183 = .ok (.lcmp, 1) := dk_148 (dk_at dksX8_isOwn_8 6 rfl rfl)
theorem dX8_isOwn_184 : decode cX8_isOwn 184 = .ok (.ifCond .eq 47, 3) := dk_153 0 47 (dk_at dksX8_isOwn_8 7 rfl rfl)
theorem dX8_isOwn_187 : decode cX8_isOwn 187 = .ok (.aload_n 0, 1) := dk_42 (dk_at dksX8_isOwn_8 10 rfl rfl)
theorem dX8_isOwn_188 : decode cX8_isOwn 188 = .ok (.getfield 159, 3) := dk_180 0 159 (dk_at dksX8_isOwn_8 11 rfl rfl)
theorem dX8_isOwn_191 : decode cX8_isOwn 191 = .ok (.ldc2_w 216, 3) := dk_20 0 216 (dk_at dksX8_isOwn_8 14 rfl rfl)
theorem dX8_isOwn_194 : decode cX8_isOwn 194 = .ok (.lcmp, 1) := dk_148 (dk_at dksX8_isOwn_8 17 rfl rfl)
theorem dX8_isOwn_195 : decode cX8_isOwn 195 = .ok (.ifCond .eq 36, 3) := dk_153 0 36 (dk_at dksX8_isOwn_8 18 rfl rfl)
theorem dX8_isOwn_198 : decode cX8_isOwn 198 = .ok (.aload_n 0, 1) := dk_42 (dk_at dksX8_isOwn_8 21 rfl rfl)
theorem dX8_isOwn_199 : decode cX8_isOwn 199 = .ok (.getfield 159, 3) := dk_180 0 159 (dk_at dksX8_isOwn_9 0 rfl rfl)
theorem dX8_isOwn_202 : decode cX8_isOwn 202 = .ok (.ldc2_w 218, 3) := dk_20 0 218 (dk_at dksX8_isOwn_9 3 rfl rfl)
theorem dX8_isOwn_205 : decode cX8_isOwn 205 = .ok (.lcmp, 1) := dk_148 (dk_at dksX8_isOwn_9 6 rfl rfl)
theorem dX8_isOwn_206 : decode cX8_isOwn 206 = .ok (.ifCond .eq 25, 3) := dk_153 0 25 (dk_at dksX8_isOwn_9 7 rfl rfl)
theorem dX8_isOwn_209 : decode cX8_isOwn 209 = .ok (.aload_n 0, 1) := dk_42 (dk_at dksX8_isOwn_9 10 rfl rfl)
theorem dX8_isOwn_210 : decode cX8_isOwn 210 = .ok (.getfield 159, 3) := dk_180 0 159 (dk_at dksX8_isOwn_9 11 rfl rfl)
theorem dX8_isOwn_213 : decode cX8_isOwn 213 = .ok (.ldc2_w 220, 3) := dk_20 0 220 (dk_at dksX8_isOwn_9 14 rfl rfl)
theorem dX8_isOwn_216 : decode cX8_isOwn 216 = .ok (.lcmp, 1) := dk_148 (dk_at dksX8_isOwn_9 17 rfl rfl)
theorem dX8_isOwn_217 : decode cX8_isOwn 217 = .ok (.ifCond .eq 14, 3) := dk_153 0 14 (dk_at dksX8_isOwn_9 18 rfl rfl)
theorem dX8_isOwn_220 : decode cX8_isOwn 220 = .ok (.aload_n 0, 1) := dk_42 (dk_at dksX8_isOwn_9 21 rfl rfl)
theorem dX8_isOwn_221 : decode cX8_isOwn 221 = .ok (.getfield 159, 3) := dk_180 0 159 (dk_at dksX8_isOwn_10 0 rfl rfl)
theorem dX8_isOwn_224 : decode cX8_isOwn 224 = .ok (.ldc2_w 222, 3) := dk_20 0 222 (dk_at dksX8_isOwn_10 3 rfl rfl)
theorem dX8_isOwn_227 : decode cX8_isOwn 227 = .ok (.lcmp, 1) := dk_148 (dk_at dksX8_isOwn_10 6 rfl rfl)
theorem dX8_isOwn_228 : decode cX8_isOwn 228 = .ok (.ifCond .ne 7, 3) := dk_154 0 7 (dk_at dksX8_isOwn_10 7 rfl rfl)
theorem dX8_isOwn_231 : decode cX8_isOwn 231 = .ok (.iconst 1, 1) := dk_4 (dk_at dksX8_isOwn_10 10 rfl rfl)
theorem dX8_isOwn_232 : decode cX8_isOwn 232 = .ok (.goto 4, 3) := dk_167 0 4 (dk_at dksX8_isOwn_10 11 rfl rfl)
theorem dX8_isOwn_235 : decode cX8_isOwn 235 = .ok (.iconst 0, 1) := dk_3 (dk_at dksX8_isOwn_10 14 rfl rfl)
theorem dX8_isOwn_236 : decode cX8_isOwn 236 = .ok (.ireturn, 1) := dk_172 (dk_at dksX8_isOwn_10 15 rfl rfl)
abbrev cX8_wrong : ByteArray := prog_20_method_10_code
def yX8_wrong : MethodName := ⟨RX8, "wrong", "(I)V"⟩
def dkwX8_wrong_1 : List UInt8 := [181, 0, 179, 42, 42, 180, 0, 156, 181, 0, 13, 177]
abbrev dktX8_wrong_1 : List UInt8 := dkwX8_wrong_1 ++ []
def dkwX8_wrong_0 : List UInt8 := [42, 180, 0, 179, 158, 0, 4, 177, 42, 42, 180, 0, 166, 6, 160, 0, 7, 4, 167, 0, 4, 27]
abbrev dktX8_wrong_0 : List UInt8 := dkwX8_wrong_0 ++ dktX8_wrong_1
theorem dksX8_wrong_0 : cX8_wrong.data.toList.drop 0 = dktX8_wrong_0 := by decide +kernel
theorem dksX8_wrong_1 : cX8_wrong.data.toList.drop 22 = dktX8_wrong_1 := dk_seg dksX8_wrong_0 22 rfl rfl
theorem dX8_wrong_0 : decode cX8_wrong 0 = .ok (.aload_n 0, 1) := dk_42 (dk_at dksX8_wrong_0 0 rfl rfl)
theorem dX8_wrong_1 : decode cX8_wrong 1 = .ok (.getfield 179, 3) := dk_180 0 179 (dk_at dksX8_wrong_0 1 rfl rfl)
theorem dX8_wrong_4 : decode cX8_wrong 4 = .ok (.ifCond .le 4, 3) := dk_158 0 4 (dk_at dksX8_wrong_0 4 rfl rfl)
theorem dX8_wrong_7 : decode cX8_wrong 7 = .ok (.return_, 1) := dk_177 (dk_at dksX8_wrong_0 7 rfl rfl)
theorem dX8_wrong_8 : decode cX8_wrong 8 = .ok (.aload_n 0, 1) := dk_42 (dk_at dksX8_wrong_0 8 rfl rfl)
theorem dX8_wrong_9 : decode cX8_wrong 9 = .ok (.aload_n 0, 1) := dk_42 (dk_at dksX8_wrong_0 9 rfl rfl)
theorem dX8_wrong_10 : decode cX8_wrong 10 = .ok (.getfield 166, 3) := dk_180 0 166 (dk_at dksX8_wrong_0 10 rfl rfl)
theorem dX8_wrong_13 : decode cX8_wrong 13 = .ok (.iconst 3, 1) := dk_6 (dk_at dksX8_wrong_0 13 rfl rfl)
theorem dX8_wrong_14 : decode cX8_wrong 14 = .ok (.if_icmp .ne 7, 3) := dk_160 0 7 (dk_at dksX8_wrong_0 14 rfl rfl)
theorem dX8_wrong_17 : decode cX8_wrong 17 = .ok (.iconst 1, 1) := dk_4 (dk_at dksX8_wrong_0 17 rfl rfl)
theorem dX8_wrong_18 : decode cX8_wrong 18 = .ok (.goto 4, 3) := dk_167 0 4 (dk_at dksX8_wrong_0 18 rfl rfl)
theorem dX8_wrong_21 : decode cX8_wrong 21 = .ok (.iload_n 1, 1) := dk_27 (dk_at dksX8_wrong_0 21 rfl rfl)
theorem dX8_wrong_22 : decode cX8_wrong 22 = .ok (.putfield 179, 3) := dk_181 0 179 (dk_at dksX8_wrong_1 0 rfl rfl)
theorem dX8_wrong_25 : decode cX8_wrong 25 = .ok (.aload_n 0, 1) := dk_42 (dk_at dksX8_wrong_1 3 rfl rfl)
theorem dX8_wrong_26 : decode cX8_wrong 26 = .ok (.aload_n 0, 1) := dk_42 (dk_at dksX8_wrong_1 4 rfl rfl)
theorem dX8_wrong_27 : decode cX8_wrong 27 = .ok (.getfield 156, 3) := dk_180 0 156 (dk_at dksX8_wrong_1 5 rfl rfl)
theorem dX8_wrong_30 : decode cX8_wrong 30 = .ok (.putfield 13, 3) := dk_181 0 13 (dk_at dksX8_wrong_1 8 rfl rfl)
theorem dX8_wrong_33 : decode cX8_wrong 33 = .ok (.return_, 1) := dk_177 (dk_at dksX8_wrong_1 11 rfl rfl)
abbrev cX8_told : ByteArray := prog_20_method_16_code
def yX8_told : MethodName := ⟨RX8, "told", "(JI)I"⟩
def dkwX8_told_0 : List UInt8 := [42, 31, 182, 0, 238, 42, 3, 29, 182, 0, 242, 172]
abbrev dktX8_told_0 : List UInt8 := dkwX8_told_0 ++ []
theorem dksX8_told_0 : cX8_told.data.toList.drop 0 = dktX8_told_0 := by decide +kernel
theorem dX8_told_0 : decode cX8_told 0 = .ok (.aload_n 0, 1) := dk_42 (dk_at dksX8_told_0 0 rfl rfl)
theorem dX8_told_1 : decode cX8_told 1 = .ok (.lload_n 1, 1) := dk_31 (dk_at dksX8_told_0 1 rfl rfl)
theorem dX8_told_2 : decode cX8_told 2 = .ok (.invokevirtual 238, 3) := dk_182 0 238 (dk_at dksX8_told_0 2 rfl rfl)
theorem dX8_told_5 : decode cX8_told 5 = .ok (.aload_n 0, 1) := dk_42 (dk_at dksX8_told_0 5 rfl rfl)
theorem dX8_told_6 : decode cX8_told 6 = .ok (.iconst 0, 1) := dk_3 (dk_at dksX8_told_0 6 rfl rfl)
theorem dX8_told_7 : decode cX8_told 7 = .ok (.iload_n 3, 1) := dk_29 (dk_at dksX8_told_0 7 rfl rfl)
theorem dX8_told_8 : decode cX8_told 8 = .ok (.invokevirtual 242, 3) := dk_182 0 242 (dk_at dksX8_told_0 8 rfl rfl)
theorem dX8_told_11 : decode cX8_told 11 = .ok (.ireturn, 1) := dk_172 (dk_at dksX8_told_0 11 rfl rfl)
abbrev cX8_want : ByteArray := prog_20_method_14_code
def yX8_want : MethodName := ⟨RX8, "want", "(J)V"⟩
def dkwX8_want_1 : List UInt8 := [42, 182, 0, 235, 177]
abbrev dktX8_want_1 : List UInt8 := dkwX8_want_1 ++ []
def dkwX8_want_0 : List UInt8 := [42, 180, 0, 179, 158, 0, 4, 177, 42, 31, 182, 0, 228, 154, 0, 11, 42, 5, 182, 0, 232, 167, 0, 7]
abbrev dktX8_want_0 : List UInt8 := dkwX8_want_0 ++ dktX8_want_1
theorem dksX8_want_0 : cX8_want.data.toList.drop 0 = dktX8_want_0 := by decide +kernel
theorem dksX8_want_1 : cX8_want.data.toList.drop 24 = dktX8_want_1 := dk_seg dksX8_want_0 24 rfl rfl
theorem dX8_want_0 : decode cX8_want 0 = .ok (.aload_n 0, 1) := dk_42 (dk_at dksX8_want_0 0 rfl rfl)
theorem dX8_want_1 : decode cX8_want 1 = .ok (.getfield 179, 3) := dk_180 0 179 (dk_at dksX8_want_0 1 rfl rfl)
theorem dX8_want_4 : decode cX8_want 4 = .ok (.ifCond .le 4, 3) := dk_158 0 4 (dk_at dksX8_want_0 4 rfl rfl)
theorem dX8_want_7 : decode cX8_want 7 = .ok (.return_, 1) := dk_177 (dk_at dksX8_want_0 7 rfl rfl)
theorem dX8_want_8 : decode cX8_want 8 = .ok (.aload_n 0, 1) := dk_42 (dk_at dksX8_want_0 8 rfl rfl)
theorem dX8_want_9 : decode cX8_want 9 = .ok (.lload_n 1, 1) := dk_31 (dk_at dksX8_want_0 9 rfl rfl)
theorem dX8_want_10 : decode cX8_want 10 = .ok (.invokevirtual 228, 3) := dk_182 0 228 (dk_at dksX8_want_0 10 rfl rfl)
theorem dX8_want_13 : decode cX8_want 13 = .ok (.ifCond .ne 11, 3) := dk_154 0 11 (dk_at dksX8_want_0 13 rfl rfl)
theorem dX8_want_16 : decode cX8_want 16 = .ok (.aload_n 0, 1) := dk_42 (dk_at dksX8_want_0 16 rfl rfl)
theorem dX8_want_17 : decode cX8_want 17 = .ok (.iconst 2, 1) := dk_5 (dk_at dksX8_want_0 17 rfl rfl)
theorem dX8_want_18 : decode cX8_want 18 = .ok (.invokevirtual 232, 3) := dk_182 0 232 (dk_at dksX8_want_0 18 rfl rfl)
theorem dX8_want_21 : decode cX8_want 21 = .ok (.goto 7, 3) := dk_167 0 7 (dk_at dksX8_want_0 21 rfl rfl)
theorem dX8_want_24 : decode cX8_want 24 = .ok (.aload_n 0, 1) := dk_42 (dk_at dksX8_want_1 0 rfl rfl)
theorem dX8_want_25 : decode cX8_want 25 = .ok (.invokevirtual 235, 3) := dk_182 0 235 (dk_at dksX8_want_1 1 rfl rfl)
theorem dX8_want_28 : decode cX8_want 28 = .ok (.return_, 1) := dk_177 (dk_at dksX8_want_1 4 rfl rfl)
abbrev cX8_toldNumber : ByteArray := prog_20_method_15_code
def yX8_toldNumber : MethodName := ⟨RX8, "toldNumber", "(II)I"⟩
def dkwX8_toldNumber_2 : List UInt8 := [42, 180, 0, 163, 62, 42, 180, 0, 179, 154, 0, 7, 42, 182, 0, 235, 29, 172]
abbrev dktX8_toldNumber_2 : List UInt8 := dkwX8_toldNumber_2 ++ []
def dkwX8_toldNumber_1 : List UInt8 := [167, 0, 24, 42, 180, 0, 163, 27, 161, 0, 11, 42, 180, 0, 163, 28, 164, 0, 8, 42, 7, 182, 0, 232]
abbrev dktX8_toldNumber_1 : List UInt8 := dkwX8_toldNumber_1 ++ dktX8_toldNumber_2
def dkwX8_toldNumber_0 : List UInt8 := [42, 180, 0, 179, 158, 0, 5, 3, 172, 42, 180, 0, 166, 5, 159, 0, 11, 42, 5, 182, 0, 232]
abbrev dktX8_toldNumber_0 : List UInt8 := dkwX8_toldNumber_0 ++ dktX8_toldNumber_1
theorem dksX8_toldNumber_0 : cX8_toldNumber.data.toList.drop 0 = dktX8_toldNumber_0 := by decide +kernel
theorem dksX8_toldNumber_1 : cX8_toldNumber.data.toList.drop 22 = dktX8_toldNumber_1 := dk_seg dksX8_toldNumber_0 22 rfl rfl
theorem dksX8_toldNumber_2 : cX8_toldNumber.data.toList.drop 46 = dktX8_toldNumber_2 := dk_seg dksX8_toldNumber_1 24 rfl rfl
theorem dX8_toldNumber_0 : decode cX8_toldNumber 0 = .ok (.aload_n 0, 1) := dk_42 (dk_at dksX8_toldNumber_0 0 rfl rfl)
theorem dX8_toldNumber_1 : decode cX8_toldNumber 1 = .ok (.getfield 179, 3) := dk_180 0 179 (dk_at dksX8_toldNumber_0 1 rfl rfl)
theorem dX8_toldNumber_4 : decode cX8_toldNumber 4 = .ok (.ifCond .le 5, 3) := dk_158 0 5 (dk_at dksX8_toldNumber_0 4 rfl rfl)
theorem dX8_toldNumber_7 : decode cX8_toldNumber 7 = .ok (.iconst 0, 1) := dk_3 (dk_at dksX8_toldNumber_0 7 rfl rfl)
theorem dX8_toldNumber_8 : decode cX8_toldNumber 8 = .ok (.ireturn, 1) := dk_172 (dk_at dksX8_toldNumber_0 8 rfl rfl)
theorem dX8_toldNumber_9 : decode cX8_toldNumber 9 = .ok (.aload_n 0, 1) := dk_42 (dk_at dksX8_toldNumber_0 9 rfl rfl)
theorem dX8_toldNumber_10 : decode cX8_toldNumber 10 = .ok (.getfield 166, 3) := dk_180 0 166 (dk_at dksX8_toldNumber_0 10 rfl rfl)
theorem dX8_toldNumber_13 : decode cX8_toldNumber 13 = .ok (.iconst 2, 1) := dk_5 (dk_at dksX8_toldNumber_0 13 rfl rfl)
theorem dX8_toldNumber_14 : decode cX8_toldNumber 14 = .ok (.if_icmp .eq 11, 3) := dk_159 0 11 (dk_at dksX8_toldNumber_0 14 rfl rfl)
theorem dX8_toldNumber_17 : decode cX8_toldNumber 17 = .ok (.aload_n 0, 1) := dk_42 (dk_at dksX8_toldNumber_0 17 rfl rfl)
theorem dX8_toldNumber_18 : decode cX8_toldNumber 18 = .ok (.iconst 2, 1) := dk_5 (dk_at dksX8_toldNumber_0 18 rfl rfl)
theorem dX8_toldNumber_19 : decode cX8_toldNumber 19 = .ok (.invokevirtual 232, 3) := dk_182 0 232 (dk_at dksX8_toldNumber_0 19 rfl rfl)
theorem dX8_toldNumber_22 : decode cX8_toldNumber 22 = .ok (.goto 24, 3) := dk_167 0 24 (dk_at dksX8_toldNumber_1 0 rfl rfl)
theorem dX8_toldNumber_25 : decode cX8_toldNumber 25 = .ok (.aload_n 0, 1) := dk_42 (dk_at dksX8_toldNumber_1 3 rfl rfl)
theorem dX8_toldNumber_26 : decode cX8_toldNumber 26 = .ok (.getfield 163, 3) := dk_180 0 163 (dk_at dksX8_toldNumber_1 4 rfl rfl)
theorem dX8_toldNumber_29 : decode cX8_toldNumber 29 = .ok (.iload_n 1, 1) := dk_27 (dk_at dksX8_toldNumber_1 7 rfl rfl)
theorem dX8_toldNumber_30 : decode cX8_toldNumber 30 = .ok (.if_icmp .lt 11, 3) := dk_161 0 11 (dk_at dksX8_toldNumber_1 8 rfl rfl)
theorem dX8_toldNumber_33 : decode cX8_toldNumber 33 = .ok (.aload_n 0, 1) := dk_42 (dk_at dksX8_toldNumber_1 11 rfl rfl)
theorem dX8_toldNumber_34 : decode cX8_toldNumber 34 = .ok (.getfield 163, 3) := dk_180 0 163 (dk_at dksX8_toldNumber_1 12 rfl rfl)
theorem dX8_toldNumber_37 : decode cX8_toldNumber 37 = .ok (.iload_n 2, 1) := dk_28 (dk_at dksX8_toldNumber_1 15 rfl rfl)
theorem dX8_toldNumber_38 : decode cX8_toldNumber 38 = .ok (.if_icmp .le 8, 3) := dk_164 0 8 (dk_at dksX8_toldNumber_1 16 rfl rfl)
theorem dX8_toldNumber_41 : decode cX8_toldNumber 41 = .ok (.aload_n 0, 1) := dk_42 (dk_at dksX8_toldNumber_1 19 rfl rfl)
theorem dX8_toldNumber_42 : decode cX8_toldNumber 42 = .ok (.iconst 4, 1) := dk_7 (dk_at dksX8_toldNumber_1 20 rfl rfl)
theorem dX8_toldNumber_43 : decode cX8_toldNumber 43 = .ok (.invokevirtual 232, 3) := dk_182 0 232 (dk_at dksX8_toldNumber_1 21 rfl rfl)
theorem dX8_toldNumber_46 : decode cX8_toldNumber 46 = .ok (.aload_n 0, 1) := dk_42 (dk_at dksX8_toldNumber_2 0 rfl rfl)
theorem dX8_toldNumber_47 : decode cX8_toldNumber 47 = .ok (.getfield 163, 3) := dk_180 0 163 (dk_at dksX8_toldNumber_2 1 rfl rfl)
theorem dX8_toldNumber_50 : decode cX8_toldNumber 50 = .ok (.istore_n 3, 1) := dk_62 (dk_at dksX8_toldNumber_2 4 rfl rfl)
theorem dX8_toldNumber_51 : decode cX8_toldNumber 51 = .ok (.aload_n 0, 1) := dk_42 (dk_at dksX8_toldNumber_2 5 rfl rfl)
theorem dX8_toldNumber_52 : decode cX8_toldNumber 52 = .ok (.getfield 179, 3) := dk_180 0 179 (dk_at dksX8_toldNumber_2 6 rfl rfl)
theorem dX8_toldNumber_55 : decode cX8_toldNumber 55 = .ok (.ifCond .ne 7, 3) := dk_154 0 7 (dk_at dksX8_toldNumber_2 9 rfl rfl)
theorem dX8_toldNumber_58 : decode cX8_toldNumber 58 = .ok (.aload_n 0, 1) := dk_42 (dk_at dksX8_toldNumber_2 12 rfl rfl)
theorem dX8_toldNumber_59 : decode cX8_toldNumber 59 = .ok (.invokevirtual 235, 3) := dk_182 0 235 (dk_at dksX8_toldNumber_2 13 rfl rfl)
theorem dX8_toldNumber_62 : decode cX8_toldNumber 62 = .ok (.iload_n 3, 1) := dk_29 (dk_at dksX8_toldNumber_2 16 rfl rfl)
theorem dX8_toldNumber_63 : decode cX8_toldNumber 63 = .ok (.ireturn, 1) := dk_172 (dk_at dksX8_toldNumber_2 17 rfl rfl)
abbrev cX8_option : ByteArray := prog_20_method_17_code
def yX8_option : MethodName := ⟨RX8, "option", "(JI)I"⟩
def dkwX8_option_1 : List UInt8 := [3, 172]
abbrev dktX8_option_1 : List UInt8 := dkwX8_option_1 ++ []
def dkwX8_option_0 : List UInt8 := [42, 180, 0, 179, 154, 0, 20, 42, 31, 182, 0, 228, 153, 0, 12, 42, 31, 29, 182, 0, 246, 167, 0, 4]
abbrev dktX8_option_0 : List UInt8 := dkwX8_option_0 ++ dktX8_option_1
theorem dksX8_option_0 : cX8_option.data.toList.drop 0 = dktX8_option_0 := by decide +kernel
theorem dksX8_option_1 : cX8_option.data.toList.drop 24 = dktX8_option_1 := dk_seg dksX8_option_0 24 rfl rfl
theorem dX8_option_0 : decode cX8_option 0 = .ok (.aload_n 0, 1) := dk_42 (dk_at dksX8_option_0 0 rfl rfl)
theorem dX8_option_1 : decode cX8_option 1 = .ok (.getfield 179, 3) := dk_180 0 179 (dk_at dksX8_option_0 1 rfl rfl)
theorem dX8_option_4 : decode cX8_option 4 = .ok (.ifCond .ne 20, 3) := dk_154 0 20 (dk_at dksX8_option_0 4 rfl rfl)
theorem dX8_option_7 : decode cX8_option 7 = .ok (.aload_n 0, 1) := dk_42 (dk_at dksX8_option_0 7 rfl rfl)
theorem dX8_option_8 : decode cX8_option 8 = .ok (.lload_n 1, 1) := dk_31 (dk_at dksX8_option_0 8 rfl rfl)
theorem dX8_option_9 : decode cX8_option 9 = .ok (.invokevirtual 228, 3) := dk_182 0 228 (dk_at dksX8_option_0 9 rfl rfl)
theorem dX8_option_12 : decode cX8_option 12 = .ok (.ifCond .eq 12, 3) := dk_153 0 12 (dk_at dksX8_option_0 12 rfl rfl)
theorem dX8_option_15 : decode cX8_option 15 = .ok (.aload_n 0, 1) := dk_42 (dk_at dksX8_option_0 15 rfl rfl)
theorem dX8_option_16 : decode cX8_option 16 = .ok (.lload_n 1, 1) := dk_31 (dk_at dksX8_option_0 16 rfl rfl)
theorem dX8_option_17 : decode cX8_option 17 = .ok (.iload_n 3, 1) := dk_29 (dk_at dksX8_option_0 17 rfl rfl)
theorem dX8_option_18 : decode cX8_option 18 = .ok (.invokevirtual 246, 3) := dk_182 0 246 (dk_at dksX8_option_0 18 rfl rfl)
theorem dX8_option_21 : decode cX8_option 21 = .ok (.goto 4, 3) := dk_167 0 4 (dk_at dksX8_option_0 21 rfl rfl)
theorem dX8_option_24 : decode cX8_option 24 = .ok (.iconst 0, 1) := dk_3 (dk_at dksX8_option_1 0 rfl rfl)
theorem dX8_option_25 : decode cX8_option 25 = .ok (.ireturn, 1) := dk_172 (dk_at dksX8_option_1 1 rfl rfl)
abbrev cX8_readCoat : ByteArray := prog_20_method_41_code
def yX8_readCoat : MethodName := ⟨RX8, "readCoat", "()V"⟩
def dkwX8_readCoat_4 : List UInt8 := [180, 1, 83, 4, 96, 181, 1, 83, 177]
abbrev dktX8_readCoat_4 : List UInt8 := dkwX8_readCoat_4 ++ []
def dkwX8_readCoat_3 : List UInt8 := [180, 1, 83, 42, 20, 0, 194, 16, 99, 182, 1, 80, 79, 42, 180, 0, 179, 154, 0, 13, 42, 89]
abbrev dktX8_readCoat_3 : List UInt8 := dkwX8_readCoat_3 ++ dktX8_readCoat_4
def dkwX8_readCoat_2 : List UInt8 := [180, 0, 57, 42, 180, 1, 83, 42, 20, 0, 192, 16, 20, 182, 1, 80, 79, 42, 180, 0, 60, 42]
abbrev dktX8_readCoat_2 : List UInt8 := dkwX8_readCoat_2 ++ dktX8_readCoat_3
def dkwX8_readCoat_1 : List UInt8 := [182, 0, 246, 79, 42, 180, 0, 54, 42, 180, 1, 83, 42, 20, 0, 186, 16, 99, 182, 0, 246, 79, 42]
abbrev dktX8_readCoat_1 : List UInt8 := dkwX8_readCoat_1 ++ dktX8_readCoat_2
def dkwX8_readCoat_0 : List UInt8 := [42, 16, 6, 42, 180, 1, 83, 182, 1, 77, 42, 180, 0, 51, 42, 180, 1, 83, 42, 20, 0, 184, 16, 99]
abbrev dktX8_readCoat_0 : List UInt8 := dkwX8_readCoat_0 ++ dktX8_readCoat_1
theorem dksX8_readCoat_0 : cX8_readCoat.data.toList.drop 0 = dktX8_readCoat_0 := by decide +kernel
theorem dksX8_readCoat_1 : cX8_readCoat.data.toList.drop 24 = dktX8_readCoat_1 := dk_seg dksX8_readCoat_0 24 rfl rfl
theorem dksX8_readCoat_2 : cX8_readCoat.data.toList.drop 47 = dktX8_readCoat_2 := dk_seg dksX8_readCoat_1 23 rfl rfl
theorem dksX8_readCoat_3 : cX8_readCoat.data.toList.drop 69 = dktX8_readCoat_3 := dk_seg dksX8_readCoat_2 22 rfl rfl
theorem dksX8_readCoat_4 : cX8_readCoat.data.toList.drop 91 = dktX8_readCoat_4 := dk_seg dksX8_readCoat_3 22 rfl rfl
theorem dX8_readCoat_0 : decode cX8_readCoat 0 = .ok (.aload_n 0, 1) := dk_42 (dk_at dksX8_readCoat_0 0 rfl rfl)
theorem dX8_readCoat_1 : decode cX8_readCoat 1 = .ok (.bipush 6, 2) := dk_16 6 (dk_at dksX8_readCoat_0 1 rfl rfl)
theorem dX8_readCoat_3 : decode cX8_readCoat 3 = .ok (.aload_n 0, 1) := dk_42 (dk_at dksX8_readCoat_0 3 rfl rfl)
theorem dX8_readCoat_4 : decode cX8_readCoat 4 = .ok (.getfield 339, 3) := dk_180 1 83 (dk_at dksX8_readCoat_0 4 rfl rfl)
theorem dX8_readCoat_7 : decode cX8_readCoat 7 = .ok (.invokevirtual 333, 3) := dk_182 1 77 (dk_at dksX8_readCoat_0 7 rfl rfl)
theorem dX8_readCoat_10 : decode cX8_readCoat 10 = .ok (.aload_n 0, 1) := dk_42 (dk_at dksX8_readCoat_0 10 rfl rfl)
theorem dX8_readCoat_11 : decode cX8_readCoat 11 = .ok (.getfield 51, 3) := dk_180 0 51 (dk_at dksX8_readCoat_0 11 rfl rfl)
theorem dX8_readCoat_14 : decode cX8_readCoat 14 = .ok (.aload_n 0, 1) := dk_42 (dk_at dksX8_readCoat_0 14 rfl rfl)
theorem dX8_readCoat_15 : decode cX8_readCoat 15 = .ok (.getfield 339, 3) := dk_180 1 83 (dk_at dksX8_readCoat_0 15 rfl rfl)
theorem dX8_readCoat_18 : decode cX8_readCoat 18 = .ok (.aload_n 0, 1) := dk_42 (dk_at dksX8_readCoat_0 18 rfl rfl)
theorem dX8_readCoat_19 : decode cX8_readCoat 19 = .ok (.ldc2_w 184, 3) := dk_20 0 184 (dk_at dksX8_readCoat_0 19 rfl rfl)
theorem dX8_readCoat_22 : decode cX8_readCoat 22 = .ok (.bipush 99, 2) := dk_16 99 (dk_at dksX8_readCoat_0 22 rfl rfl)
theorem dX8_readCoat_24 : decode cX8_readCoat 24 = .ok (.invokevirtual 246, 3) := dk_182 0 246 (dk_at dksX8_readCoat_1 0 rfl rfl)
theorem dX8_readCoat_27 : decode cX8_readCoat 27 = .ok (.iastore, 1) := dk_79 (dk_at dksX8_readCoat_1 3 rfl rfl)
theorem dX8_readCoat_28 : decode cX8_readCoat 28 = .ok (.aload_n 0, 1) := dk_42 (dk_at dksX8_readCoat_1 4 rfl rfl)
theorem dX8_readCoat_29 : decode cX8_readCoat 29 = .ok (.getfield 54, 3) := dk_180 0 54 (dk_at dksX8_readCoat_1 5 rfl rfl)
theorem dX8_readCoat_32 : decode cX8_readCoat 32 = .ok (.aload_n 0, 1) := dk_42 (dk_at dksX8_readCoat_1 8 rfl rfl)
theorem dX8_readCoat_33 : decode cX8_readCoat 33 = .ok (.getfield 339, 3) := dk_180 1 83 (dk_at dksX8_readCoat_1 9 rfl rfl)
theorem dX8_readCoat_36 : decode cX8_readCoat 36 = .ok (.aload_n 0, 1) := dk_42 (dk_at dksX8_readCoat_1 12 rfl rfl)
theorem dX8_readCoat_37 : decode cX8_readCoat 37 = .ok (.ldc2_w 186, 3) := dk_20 0 186 (dk_at dksX8_readCoat_1 13 rfl rfl)
theorem dX8_readCoat_40 : decode cX8_readCoat 40 = .ok (.bipush 99, 2) := dk_16 99 (dk_at dksX8_readCoat_1 16 rfl rfl)
theorem dX8_readCoat_42 : decode cX8_readCoat 42 = .ok (.invokevirtual 246, 3) := dk_182 0 246 (dk_at dksX8_readCoat_1 18 rfl rfl)
theorem dX8_readCoat_45 : decode cX8_readCoat 45 = .ok (.iastore, 1) := dk_79 (dk_at dksX8_readCoat_1 21 rfl rfl)
theorem dX8_readCoat_46 : decode cX8_readCoat 46 = .ok (.aload_n 0, 1) := dk_42 (dk_at dksX8_readCoat_1 22 rfl rfl)
theorem dX8_readCoat_47 : decode cX8_readCoat 47 = .ok (.getfield 57, 3) := dk_180 0 57 (dk_at dksX8_readCoat_2 0 rfl rfl)
theorem dX8_readCoat_50 : decode cX8_readCoat 50 = .ok (.aload_n 0, 1) := dk_42 (dk_at dksX8_readCoat_2 3 rfl rfl)
theorem dX8_readCoat_51 : decode cX8_readCoat 51 = .ok (.getfield 339, 3) := dk_180 1 83 (dk_at dksX8_readCoat_2 4 rfl rfl)
theorem dX8_readCoat_54 : decode cX8_readCoat 54 = .ok (.aload_n 0, 1) := dk_42 (dk_at dksX8_readCoat_2 7 rfl rfl)
theorem dX8_readCoat_55 : decode cX8_readCoat 55 = .ok (.ldc2_w 192, 3) := dk_20 0 192 (dk_at dksX8_readCoat_2 8 rfl rfl)
theorem dX8_readCoat_58 : decode cX8_readCoat 58 = .ok (.bipush 20, 2) := dk_16 20 (dk_at dksX8_readCoat_2 11 rfl rfl)
theorem dX8_readCoat_60 : decode cX8_readCoat 60 = .ok (.invokevirtual 336, 3) := dk_182 1 80 (dk_at dksX8_readCoat_2 13 rfl rfl)
theorem dX8_readCoat_63 : decode cX8_readCoat 63 = .ok (.iastore, 1) := dk_79 (dk_at dksX8_readCoat_2 16 rfl rfl)
theorem dX8_readCoat_64 : decode cX8_readCoat 64 = .ok (.aload_n 0, 1) := dk_42 (dk_at dksX8_readCoat_2 17 rfl rfl)
theorem dX8_readCoat_65 : decode cX8_readCoat 65 = .ok (.getfield 60, 3) := dk_180 0 60 (dk_at dksX8_readCoat_2 18 rfl rfl)
theorem dX8_readCoat_68 : decode cX8_readCoat 68 = .ok (.aload_n 0, 1) := dk_42 (dk_at dksX8_readCoat_2 21 rfl rfl)
theorem dX8_readCoat_69 : decode cX8_readCoat 69 = .ok (.getfield 339, 3) := dk_180 1 83 (dk_at dksX8_readCoat_3 0 rfl rfl)
theorem dX8_readCoat_72 : decode cX8_readCoat 72 = .ok (.aload_n 0, 1) := dk_42 (dk_at dksX8_readCoat_3 3 rfl rfl)
theorem dX8_readCoat_73 : decode cX8_readCoat 73 = .ok (.ldc2_w 194, 3) := dk_20 0 194 (dk_at dksX8_readCoat_3 4 rfl rfl)
theorem dX8_readCoat_76 : decode cX8_readCoat 76 = .ok (.bipush 99, 2) := dk_16 99 (dk_at dksX8_readCoat_3 7 rfl rfl)
theorem dX8_readCoat_78 : decode cX8_readCoat 78 = .ok (.invokevirtual 336, 3) := dk_182 1 80 (dk_at dksX8_readCoat_3 9 rfl rfl)
theorem dX8_readCoat_81 : decode cX8_readCoat 81 = .ok (.iastore, 1) := dk_79 (dk_at dksX8_readCoat_3 12 rfl rfl)
theorem dX8_readCoat_82 : decode cX8_readCoat 82 = .ok (.aload_n 0, 1) := dk_42 (dk_at dksX8_readCoat_3 13 rfl rfl)
theorem dX8_readCoat_83 : decode cX8_readCoat 83 = .ok (.getfield 179, 3) := dk_180 0 179 (dk_at dksX8_readCoat_3 14 rfl rfl)
theorem dX8_readCoat_86 : decode cX8_readCoat 86 = .ok (.ifCond .ne 13, 3) := dk_154 0 13 (dk_at dksX8_readCoat_3 17 rfl rfl)
theorem dX8_readCoat_89 : decode cX8_readCoat 89 = .ok (.aload_n 0, 1) := dk_42 (dk_at dksX8_readCoat_3 20 rfl rfl)
theorem dX8_readCoat_90 : decode cX8_readCoat 90 = .ok (.dup, 1) := dk_89 (dk_at dksX8_readCoat_3 21 rfl rfl)
theorem dX8_readCoat_91 : decode cX8_readCoat 91 = .ok (.getfield 339, 3) := dk_180 1 83 (dk_at dksX8_readCoat_4 0 rfl rfl)
theorem dX8_readCoat_94 : decode cX8_readCoat 94 = .ok (.iconst 1, 1) := dk_4 (dk_at dksX8_readCoat_4 3 rfl rfl)
theorem dX8_readCoat_95 : decode cX8_readCoat 95 = .ok (.iadd, 1) := dk_96 (dk_at dksX8_readCoat_4 4 rfl rfl)
theorem dX8_readCoat_96 : decode cX8_readCoat 96 = .ok (.putfield 339, 3) := dk_181 1 83 (dk_at dksX8_readCoat_4 5 rfl rfl)
theorem dX8_readCoat_99 : decode cX8_readCoat 99 = .ok (.return_, 1) := dk_177 (dk_at dksX8_readCoat_4 8 rfl rfl)
abbrev cX8_formula : ByteArray := prog_20_method_31_code
def yX8_formula : MethodName := ⟨RX8, "formula", "()V"⟩
def dkwX8_formula_8 : List UInt8 := [154, 0, 8, 42, 3, 182, 1, 48, 177]
abbrev dktX8_formula_8 : List UInt8 := dkwX8_formula_8 ++ []
def dkwX8_formula_7 : List UInt8 := [42, 180, 0, 179, 154, 0, 15, 42, 182, 1, 45, 153, 0, 8, 42, 5, 182, 0, 232, 42, 180, 0, 179]
abbrev dktX8_formula_7 : List UInt8 := dkwX8_formula_7 ++ dktX8_formula_8
def dkwX8_formula_6 : List UInt8 := [180, 1, 0, 4, 96, 181, 1, 0, 42, 182, 0, 235, 42, 182, 1, 39, 167, 0, 5, 3, 60, 167, 255, 132]
abbrev dktX8_formula_6 : List UInt8 := dkwX8_formula_6 ++ dktX8_formula_7
def dkwX8_formula_5 : List UInt8 := [154, 0, 42, 42, 28, 184, 1, 3, 182, 1, 48, 42, 180, 0, 33, 42, 180, 1, 0, 28, 79, 42, 89]
abbrev dktX8_formula_5 : List UInt8 := dkwX8_formula_5 ++ dktX8_formula_6
def dkwX8_formula_4 : List UInt8 := [182, 0, 235, 167, 0, 63, 28, 153, 0, 57, 28, 184, 1, 3, 7, 160, 0, 10, 42, 182, 1, 51]
abbrev dktX8_formula_4 : List UInt8 := dkwX8_formula_4 ++ dktX8_formula_5
def dkwX8_formula_3 : List UInt8 := [182, 1, 48, 42, 89, 180, 1, 0, 4, 100, 181, 1, 0, 42, 89, 180, 1, 10, 4, 100, 181, 1, 10, 42]
abbrev dktX8_formula_3 : List UInt8 := dkwX8_formula_3 ++ dktX8_formula_4
def dkwX8_formula_2 : List UInt8 := [182, 1, 42, 61, 42, 180, 0, 166, 16, 41, 160, 0, 42, 42, 182, 1, 45, 153, 0, 35, 42, 3]
abbrev dktX8_formula_2 : List UInt8 := dkwX8_formula_2 ++ dktX8_formula_3
def dkwX8_formula_1 : List UInt8 := [42, 3, 181, 1, 16, 42, 182, 1, 39, 4, 60, 27, 153, 0, 126, 42, 180, 0, 179, 154, 0, 119, 42]
abbrev dktX8_formula_1 : List UInt8 := dkwX8_formula_1 ++ dktX8_formula_2
def dkwX8_formula_0 : List UInt8 := [42, 182, 0, 235, 42, 4, 181, 1, 35, 42, 3, 181, 0, 253, 42, 3, 181, 1, 0, 42, 3, 181, 1, 10]
abbrev dktX8_formula_0 : List UInt8 := dkwX8_formula_0 ++ dktX8_formula_1
theorem dksX8_formula_0 : cX8_formula.data.toList.drop 0 = dktX8_formula_0 := by decide +kernel
theorem dksX8_formula_1 : cX8_formula.data.toList.drop 24 = dktX8_formula_1 := dk_seg dksX8_formula_0 24 rfl rfl
theorem dksX8_formula_2 : cX8_formula.data.toList.drop 47 = dktX8_formula_2 := dk_seg dksX8_formula_1 23 rfl rfl
theorem dksX8_formula_3 : cX8_formula.data.toList.drop 69 = dktX8_formula_3 := dk_seg dksX8_formula_2 22 rfl rfl
theorem dksX8_formula_4 : cX8_formula.data.toList.drop 93 = dktX8_formula_4 := dk_seg dksX8_formula_3 24 rfl rfl
theorem dksX8_formula_5 : cX8_formula.data.toList.drop 115 = dktX8_formula_5 := dk_seg dksX8_formula_4 22 rfl rfl
theorem dksX8_formula_6 : cX8_formula.data.toList.drop 138 = dktX8_formula_6 := dk_seg dksX8_formula_5 23 rfl rfl
theorem dksX8_formula_7 : cX8_formula.data.toList.drop 162 = dktX8_formula_7 := dk_seg dksX8_formula_6 24 rfl rfl
theorem dksX8_formula_8 : cX8_formula.data.toList.drop 185 = dktX8_formula_8 := dk_seg dksX8_formula_7 23 rfl rfl
theorem dX8_formula_0 : decode cX8_formula 0 = .ok (.aload_n 0, 1) := dk_42 (dk_at dksX8_formula_0 0 rfl rfl)
theorem dX8_formula_1 : decode cX8_formula 1 = .ok (.invokevirtual 235, 3) := dk_182 0 235 (dk_at dksX8_formula_0 1 rfl rfl)
theorem dX8_formula_4 : decode cX8_formula 4 = .ok (.aload_n 0, 1) := dk_42 (dk_at dksX8_formula_0 4 rfl rfl)
theorem dX8_formula_5 : decode cX8_formula 5 = .ok (.iconst 1, 1) := dk_4 (dk_at dksX8_formula_0 5 rfl rfl)
theorem dX8_formula_6 : decode cX8_formula 6 = .ok (.putfield 291, 3) := dk_181 1 35 (dk_at dksX8_formula_0 6 rfl rfl)
theorem dX8_formula_9 : decode cX8_formula 9 = .ok (.aload_n 0, 1) := dk_42 (dk_at dksX8_formula_0 9 rfl rfl)
theorem dX8_formula_10 : decode cX8_formula 10 = .ok (.iconst 0, 1) := dk_3 (dk_at dksX8_formula_0 10 rfl rfl)
theorem dX8_formula_11 : decode cX8_formula 11 = .ok (.putfield 253, 3) := dk_181 0 253 (dk_at dksX8_formula_0 11 rfl rfl)
theorem dX8_formula_14 : decode cX8_formula 14 = .ok (.aload_n 0, 1) := dk_42 (dk_at dksX8_formula_0 14 rfl rfl)
theorem dX8_formula_15 : decode cX8_formula 15 = .ok (.iconst 0, 1) := dk_3 (dk_at dksX8_formula_0 15 rfl rfl)
theorem dX8_formula_16 : decode cX8_formula 16 = .ok (.putfield 256, 3) := dk_181 1 0 (dk_at dksX8_formula_0 16 rfl rfl)
theorem dX8_formula_19 : decode cX8_formula 19 = .ok (.aload_n 0, 1) := dk_42 (dk_at dksX8_formula_0 19 rfl rfl)
theorem dX8_formula_20 : decode cX8_formula 20 = .ok (.iconst 0, 1) := dk_3 (dk_at dksX8_formula_0 20 rfl rfl)
theorem dX8_formula_21 : decode cX8_formula 21 = .ok (.putfield 266, 3) := dk_181 1 10 (dk_at dksX8_formula_0 21 rfl rfl)
theorem dX8_formula_24 : decode cX8_formula 24 = .ok (.aload_n 0, 1) := dk_42 (dk_at dksX8_formula_1 0 rfl rfl)
theorem dX8_formula_25 : decode cX8_formula 25 = .ok (.iconst 0, 1) := dk_3 (dk_at dksX8_formula_1 1 rfl rfl)
theorem dX8_formula_26 : decode cX8_formula 26 = .ok (.putfield 272, 3) := dk_181 1 16 (dk_at dksX8_formula_1 2 rfl rfl)
theorem dX8_formula_29 : decode cX8_formula 29 = .ok (.aload_n 0, 1) := dk_42 (dk_at dksX8_formula_1 5 rfl rfl)
theorem dX8_formula_30 : decode cX8_formula 30 = .ok (.invokevirtual 295, 3) := dk_182 1 39 (dk_at dksX8_formula_1 6 rfl rfl)
theorem dX8_formula_33 : decode cX8_formula 33 = .ok (.iconst 1, 1) := dk_4 (dk_at dksX8_formula_1 9 rfl rfl)
theorem dX8_formula_34 : decode cX8_formula 34 = .ok (.istore_n 1, 1) := dk_60 (dk_at dksX8_formula_1 10 rfl rfl)
theorem dX8_formula_35 : decode cX8_formula 35 = .ok (.iload_n 1, 1) := dk_27 (dk_at dksX8_formula_1 11 rfl rfl)
theorem dX8_formula_36 : decode cX8_formula 36 = .ok (.ifCond .eq 126, 3) := dk_153 0 126 (dk_at dksX8_formula_1 12 rfl rfl)
theorem dX8_formula_39 : decode cX8_formula 39 = .ok (.aload_n 0, 1) := dk_42 (dk_at dksX8_formula_1 15 rfl rfl)
theorem dX8_formula_40 : decode cX8_formula 40 = .ok (.getfield 179, 3) := dk_180 0 179 (dk_at dksX8_formula_1 16 rfl rfl)
theorem dX8_formula_43 : decode cX8_formula 43 = .ok (.ifCond .ne 119, 3) := dk_154 0 119 (dk_at dksX8_formula_1 19 rfl rfl)
theorem dX8_formula_46 : decode cX8_formula 46 = .ok (.aload_n 0, 1) := dk_42 (dk_at dksX8_formula_1 22 rfl rfl)
theorem dX8_formula_47 : decode cX8_formula 47 = .ok (.invokevirtual 298, 3) := dk_182 1 42 (dk_at dksX8_formula_2 0 rfl rfl)
theorem dX8_formula_50 : decode cX8_formula 50 = .ok (.istore_n 2, 1) := dk_61 (dk_at dksX8_formula_2 3 rfl rfl)
theorem dX8_formula_51 : decode cX8_formula 51 = .ok (.aload_n 0, 1) := dk_42 (dk_at dksX8_formula_2 4 rfl rfl)
theorem dX8_formula_52 : decode cX8_formula 52 = .ok (.getfield 166, 3) := dk_180 0 166 (dk_at dksX8_formula_2 5 rfl rfl)
theorem dX8_formula_55 : decode cX8_formula 55 = .ok (.bipush 41, 2) := dk_16 41 (dk_at dksX8_formula_2 8 rfl rfl)
theorem dX8_formula_57 : decode cX8_formula 57 = .ok (.if_icmp .ne 42, 3) := dk_160 0 42 (dk_at dksX8_formula_2 10 rfl rfl)
theorem dX8_formula_60 : decode cX8_formula 60 = .ok (.aload_n 0, 1) := dk_42 (dk_at dksX8_formula_2 13 rfl rfl)
theorem dX8_formula_61 : decode cX8_formula 61 = .ok (.invokevirtual 301, 3) := dk_182 1 45 (dk_at dksX8_formula_2 14 rfl rfl)
theorem dX8_formula_64 : decode cX8_formula 64 = .ok (.ifCond .eq 35, 3) := dk_153 0 35 (dk_at dksX8_formula_2 17 rfl rfl)
theorem dX8_formula_67 : decode cX8_formula 67 = .ok (.aload_n 0, 1) := dk_42 (dk_at dksX8_formula_2 20 rfl rfl)
theorem dX8_formula_68 : decode cX8_formula 68 = .ok (.iconst 0, 1) := dk_3 (dk_at dksX8_formula_2 21 rfl rfl)
theorem dX8_formula_69 : decode cX8_formula 69 = .ok (.invokevirtual 304, 3) := dk_182 1 48 (dk_at dksX8_formula_3 0 rfl rfl)
theorem dX8_formula_72 : decode cX8_formula 72 = .ok (.aload_n 0, 1) := dk_42 (dk_at dksX8_formula_3 3 rfl rfl)
theorem dX8_formula_73 : decode cX8_formula 73 = .ok (.dup, 1) := dk_89 (dk_at dksX8_formula_3 4 rfl rfl)
theorem dX8_formula_74 : decode cX8_formula 74 = .ok (.getfield 256, 3) := dk_180 1 0 (dk_at dksX8_formula_3 5 rfl rfl)
theorem dX8_formula_77 : decode cX8_formula 77 = .ok (.iconst 1, 1) := dk_4 (dk_at dksX8_formula_3 8 rfl rfl)
theorem dX8_formula_78 : decode cX8_formula 78 = .ok (.isub, 1) := dk_100 (dk_at dksX8_formula_3 9 rfl rfl)
theorem dX8_formula_79 : decode cX8_formula 79 = .ok (.putfield 256, 3) := dk_181 1 0 (dk_at dksX8_formula_3 10 rfl rfl)
theorem dX8_formula_82 : decode cX8_formula 82 = .ok (.aload_n 0, 1) := dk_42 (dk_at dksX8_formula_3 13 rfl rfl)
theorem dX8_formula_83 : decode cX8_formula 83 = .ok (.dup, 1) := dk_89 (dk_at dksX8_formula_3 14 rfl rfl)
theorem dX8_formula_84 : decode cX8_formula 84 = .ok (.getfield 266, 3) := dk_180 1 10 (dk_at dksX8_formula_3 15 rfl rfl)
theorem dX8_formula_87 : decode cX8_formula 87 = .ok (.iconst 1, 1) := dk_4 (dk_at dksX8_formula_3 18 rfl rfl)
theorem dX8_formula_88 : decode cX8_formula 88 = .ok (.isub, 1) := dk_100 (dk_at dksX8_formula_3 19 rfl rfl)
theorem dX8_formula_89 : decode cX8_formula 89 = .ok (.putfield 266, 3) := dk_181 1 10 (dk_at dksX8_formula_3 20 rfl rfl)
theorem dX8_formula_92 : decode cX8_formula 92 = .ok (.aload_n 0, 1) := dk_42 (dk_at dksX8_formula_3 23 rfl rfl)
theorem dX8_formula_93 : decode cX8_formula 93 = .ok (.invokevirtual 235, 3) := dk_182 0 235 (dk_at dksX8_formula_4 0 rfl rfl)
theorem dX8_formula_96 : decode cX8_formula 96 = .ok (.goto 63, 3) := dk_167 0 63 (dk_at dksX8_formula_4 3 rfl rfl)
theorem dX8_formula_99 : decode cX8_formula 99 = .ok (.iload_n 2, 1) := dk_28 (dk_at dksX8_formula_4 6 rfl rfl)
theorem dX8_formula_100 : decode cX8_formula 100 = .ok (.ifCond .eq 57, 3) := dk_153 0 57 (dk_at dksX8_formula_4 7 rfl rfl)
theorem dX8_formula_103 : decode cX8_formula 103 = .ok (.iload_n 2, 1) := dk_28 (dk_at dksX8_formula_4 10 rfl rfl)
theorem dX8_formula_104 : decode cX8_formula 104 = .ok (.invokestatic 259, 3) := dk_184 1 3 (dk_at dksX8_formula_4 11 rfl rfl)
theorem dX8_formula_107 : decode cX8_formula 107 = .ok (.iconst 4, 1) := dk_7 (dk_at dksX8_formula_4 14 rfl rfl)
theorem dX8_formula_108 : decode cX8_formula 108 = .ok (.if_icmp .ne 10, 3) := dk_160 0 10 (dk_at dksX8_formula_4 15 rfl rfl)
theorem dX8_formula_111 : decode cX8_formula 111 = .ok (.aload_n 0, 1) := dk_42 (dk_at dksX8_formula_4 18 rfl rfl)
theorem dX8_formula_112 : decode cX8_formula 112 = .ok (.invokevirtual 307, 3) := dk_182 1 51 (dk_at dksX8_formula_4 19 rfl rfl)
theorem dX8_formula_115 : decode cX8_formula 115 = .ok (.ifCond .ne 42, 3) := dk_154 0 42 (dk_at dksX8_formula_5 0 rfl rfl)
theorem dX8_formula_118 : decode cX8_formula 118 = .ok (.aload_n 0, 1) := dk_42 (dk_at dksX8_formula_5 3 rfl rfl)
theorem dX8_formula_119 : decode cX8_formula 119 = .ok (.iload_n 2, 1) := dk_28 (dk_at dksX8_formula_5 4 rfl rfl)
theorem dX8_formula_120 : decode cX8_formula 120 = .ok (.invokestatic 259, 3) := dk_184 1 3 (dk_at dksX8_formula_5 5 rfl rfl)
theorem dX8_formula_123 : decode cX8_formula 123 = .ok (.invokevirtual 304, 3) := dk_182 1 48 (dk_at dksX8_formula_5 8 rfl rfl)
theorem dX8_formula_126 : decode cX8_formula 126 = .ok (.aload_n 0, 1) := dk_42 (dk_at dksX8_formula_5 11 rfl rfl)
theorem dX8_formula_127 : decode cX8_formula 127 = .ok (.getfield 33, 3) := dk_180 0 33 (dk_at dksX8_formula_5 12 rfl rfl)
theorem dX8_formula_130 : decode cX8_formula 130 = .ok (.aload_n 0, 1) := dk_42 (dk_at dksX8_formula_5 15 rfl rfl)
theorem dX8_formula_131 : decode cX8_formula 131 = .ok (.getfield 256, 3) := dk_180 1 0 (dk_at dksX8_formula_5 16 rfl rfl)
theorem dX8_formula_134 : decode cX8_formula 134 = .ok (.iload_n 2, 1) := dk_28 (dk_at dksX8_formula_5 19 rfl rfl)
theorem dX8_formula_135 : decode cX8_formula 135 = .ok (.iastore, 1) := dk_79 (dk_at dksX8_formula_5 20 rfl rfl)
theorem dX8_formula_136 : decode cX8_formula 136 = .ok (.aload_n 0, 1) := dk_42 (dk_at dksX8_formula_5 21 rfl rfl)
theorem dX8_formula_137 : decode cX8_formula 137 = .ok (.dup, 1) := dk_89 (dk_at dksX8_formula_5 22 rfl rfl)
theorem dX8_formula_138 : decode cX8_formula 138 = .ok (.getfield 256, 3) := dk_180 1 0 (dk_at dksX8_formula_6 0 rfl rfl)
theorem dX8_formula_141 : decode cX8_formula 141 = .ok (.iconst 1, 1) := dk_4 (dk_at dksX8_formula_6 3 rfl rfl)
theorem dX8_formula_142 : decode cX8_formula 142 = .ok (.iadd, 1) := dk_96 (dk_at dksX8_formula_6 4 rfl rfl)
theorem dX8_formula_143 : decode cX8_formula 143 = .ok (.putfield 256, 3) := dk_181 1 0 (dk_at dksX8_formula_6 5 rfl rfl)
theorem dX8_formula_146 : decode cX8_formula 146 = .ok (.aload_n 0, 1) := dk_42 (dk_at dksX8_formula_6 8 rfl rfl)
theorem dX8_formula_147 : decode cX8_formula 147 = .ok (.invokevirtual 235, 3) := dk_182 0 235 (dk_at dksX8_formula_6 9 rfl rfl)
theorem dX8_formula_150 : decode cX8_formula 150 = .ok (.aload_n 0, 1) := dk_42 (dk_at dksX8_formula_6 12 rfl rfl)
theorem dX8_formula_151 : decode cX8_formula 151 = .ok (.invokevirtual 295, 3) := dk_182 1 39 (dk_at dksX8_formula_6 13 rfl rfl)
theorem dX8_formula_154 : decode cX8_formula 154 = .ok (.goto 5, 3) := dk_167 0 5 (dk_at dksX8_formula_6 16 rfl rfl)
theorem dX8_formula_157 : decode cX8_formula 157 = .ok (.iconst 0, 1) := dk_3 (dk_at dksX8_formula_6 19 rfl rfl)
theorem dX8_formula_158 : decode cX8_formula 158 = .ok (.istore_n 1, 1) := dk_60 (dk_at dksX8_formula_6 20 rfl rfl)
theorem dX8_formula_159 : decode cX8_formula 159 = .ok (.goto (-124), 3) := dk_167 255 132 (dk_at dksX8_formula_6 21 rfl rfl)
theorem dX8_formula_162 : decode cX8_formula 162 = .ok (.aload_n 0, 1) := dk_42 (dk_at dksX8_formula_7 0 rfl rfl)
theorem dX8_formula_163 : decode cX8_formula 163 = .ok (.getfield 179, 3) := dk_180 0 179 (dk_at dksX8_formula_7 1 rfl rfl)
theorem dX8_formula_166 : decode cX8_formula 166 = .ok (.ifCond .ne 15, 3) := dk_154 0 15 (dk_at dksX8_formula_7 4 rfl rfl)
theorem dX8_formula_169 : decode cX8_formula 169 = .ok (.aload_n 0, 1) := dk_42 (dk_at dksX8_formula_7 7 rfl rfl)
theorem dX8_formula_170 : decode cX8_formula 170 = .ok (.invokevirtual 301, 3) := dk_182 1 45 (dk_at dksX8_formula_7 8 rfl rfl)
theorem dX8_formula_173 : decode cX8_formula 173 = .ok (.ifCond .eq 8, 3) := dk_153 0 8 (dk_at dksX8_formula_7 11 rfl rfl)
theorem dX8_formula_176 : decode cX8_formula 176 = .ok (.aload_n 0, 1) := dk_42 (dk_at dksX8_formula_7 14 rfl rfl)
theorem dX8_formula_177 : decode cX8_formula 177 = .ok (.iconst 2, 1) := dk_5 (dk_at dksX8_formula_7 15 rfl rfl)
theorem dX8_formula_178 : decode cX8_formula 178 = .ok (.invokevirtual 232, 3) := dk_182 0 232 (dk_at dksX8_formula_7 16 rfl rfl)
theorem dX8_formula_181 : decode cX8_formula 181 = .ok (.aload_n 0, 1) := dk_42 (dk_at dksX8_formula_7 19 rfl rfl)
theorem dX8_formula_182 : decode cX8_formula 182 = .ok (.getfield 179, 3) := dk_180 0 179 (dk_at dksX8_formula_7 20 rfl rfl)
theorem dX8_formula_185 : decode cX8_formula 185 = .ok (.ifCond .ne 8, 3) := dk_154 0 8 (dk_at dksX8_formula_8 0 rfl rfl)
theorem dX8_formula_188 : decode cX8_formula 188 = .ok (.aload_n 0, 1) := dk_42 (dk_at dksX8_formula_8 3 rfl rfl)
theorem dX8_formula_189 : decode cX8_formula 189 = .ok (.iconst 0, 1) := dk_3 (dk_at dksX8_formula_8 4 rfl rfl)
theorem dX8_formula_190 : decode cX8_formula 190 = .ok (.invokevirtual 304, 3) := dk_182 1 48 (dk_at dksX8_formula_8 5 rfl rfl)
theorem dX8_formula_193 : decode cX8_formula 193 = .ok (.return_, 1) := dk_177 (dk_at dksX8_formula_8 8 rfl rfl)
abbrev cX8_unit : ByteArray := prog_20_method_28_code
def yX8_unit : MethodName := ⟨RX8, "unit", "()V"⟩
def dkwX8_unit_7 : List UInt8 := [156, 0, 10, 42, 180, 0, 163, 167, 0, 4, 28, 182, 1, 6, 42, 182, 0, 235, 177]
abbrev dktX8_unit_7 : List UInt8 := dkwX8_unit_7 ++ []
def dkwX8_unit_6 : List UInt8 := [180, 0, 179, 158, 0, 4, 177, 42, 182, 1, 28, 42, 28, 156, 0, 7, 3, 167, 0, 4, 4, 28]
abbrev dktX8_unit_6 : List UInt8 := dkwX8_unit_6 ++ dktX8_unit_7
def dkwX8_unit_5 : List UInt8 := [180, 0, 166, 5, 159, 0, 7, 28, 155, 0, 10, 42, 182, 1, 25, 153, 0, 8, 42, 5, 182, 0, 232, 42]
abbrev dktX8_unit_5 : List UInt8 := dkwX8_unit_5 ++ dktX8_unit_6
def dkwX8_unit_4 : List UInt8 := [167, 255, 165, 3, 60, 167, 255, 160, 42, 180, 0, 179, 158, 0, 4, 177, 42, 182, 1, 31, 61, 42]
abbrev dktX8_unit_4 : List UInt8 := dkwX8_unit_4 ++ dktX8_unit_5
def dkwX8_unit_3 : List UInt8 := [180, 1, 10, 16, 6, 164, 0, 8, 42, 5, 182, 0, 232, 42, 182, 1, 28, 42, 16, 20, 182, 1, 22]
abbrev dktX8_unit_3 : List UInt8 := dkwX8_unit_3 ++ dktX8_unit_4
def dkwX8_unit_2 : List UInt8 := [182, 1, 22, 167, 255, 208, 42, 180, 0, 166, 16, 40, 160, 0, 37, 42, 182, 1, 25, 154, 0, 12, 42]
abbrev dktX8_unit_2 : List UInt8 := dkwX8_unit_2 ++ dktX8_unit_3
def dkwX8_unit_1 : List UInt8 := [182, 1, 19, 153, 0, 26, 42, 180, 1, 10, 16, 6, 164, 0, 8, 42, 5, 182, 0, 232, 42, 16, 21]
abbrev dktX8_unit_1 : List UInt8 := dkwX8_unit_1 ++ dktX8_unit_2
def dkwX8_unit_0 : List UInt8 := [4, 60, 27, 153, 0, 98, 42, 180, 0, 179, 154, 0, 91, 42, 20, 0, 222, 182, 0, 228, 153, 0, 33, 42]
abbrev dktX8_unit_0 : List UInt8 := dkwX8_unit_0 ++ dktX8_unit_1
theorem dksX8_unit_0 : cX8_unit.data.toList.drop 0 = dktX8_unit_0 := by decide +kernel
theorem dksX8_unit_1 : cX8_unit.data.toList.drop 24 = dktX8_unit_1 := dk_seg dksX8_unit_0 24 rfl rfl
theorem dksX8_unit_2 : cX8_unit.data.toList.drop 47 = dktX8_unit_2 := dk_seg dksX8_unit_1 23 rfl rfl
theorem dksX8_unit_3 : cX8_unit.data.toList.drop 70 = dktX8_unit_3 := dk_seg dksX8_unit_2 23 rfl rfl
theorem dksX8_unit_4 : cX8_unit.data.toList.drop 93 = dktX8_unit_4 := dk_seg dksX8_unit_3 23 rfl rfl
theorem dksX8_unit_5 : cX8_unit.data.toList.drop 115 = dktX8_unit_5 := dk_seg dksX8_unit_4 22 rfl rfl
theorem dksX8_unit_6 : cX8_unit.data.toList.drop 139 = dktX8_unit_6 := dk_seg dksX8_unit_5 24 rfl rfl
theorem dksX8_unit_7 : cX8_unit.data.toList.drop 161 = dktX8_unit_7 := dk_seg dksX8_unit_6 22 rfl rfl
theorem dX8_unit_0 : decode cX8_unit 0 = .ok (.iconst 1, 1) := dk_4 (dk_at dksX8_unit_0 0 rfl rfl)
theorem dX8_unit_1 : decode cX8_unit 1 = .ok (.istore_n 1, 1) := dk_60 (dk_at dksX8_unit_0 1 rfl rfl)
theorem dX8_unit_2 : decode cX8_unit 2 = .ok (.iload_n 1, 1) := dk_27 (dk_at dksX8_unit_0 2 rfl rfl)
theorem dX8_unit_3 : decode cX8_unit 3 = .ok (.ifCond .eq 98, 3) := dk_153 0 98 (dk_at dksX8_unit_0 3 rfl rfl)
theorem dX8_unit_6 : decode cX8_unit 6 = .ok (.aload_n 0, 1) := dk_42 (dk_at dksX8_unit_0 6 rfl rfl)
theorem dX8_unit_7 : decode cX8_unit 7 = .ok (.getfield 179, 3) := dk_180 0 179 (dk_at dksX8_unit_0 7 rfl rfl)
theorem dX8_unit_10 : decode cX8_unit 10 = .ok (.ifCond .ne 91, 3) := dk_154 0 91 (dk_at dksX8_unit_0 10 rfl rfl)
theorem dX8_unit_13 : decode cX8_unit 13 = .ok (.aload_n 0, 1) := dk_42 (dk_at dksX8_unit_0 13 rfl rfl)
theorem dX8_unit_14 : decode cX8_unit 14 = .ok (.ldc2_w 222, 3) := dk_20 0 222 (dk_at dksX8_unit_0 14 rfl rfl)
theorem dX8_unit_17 : decode cX8_unit 17 = .ok (.invokevirtual 228, 3) := dk_182 0 228 (dk_at dksX8_unit_0 17 rfl rfl)
theorem dX8_unit_20 : decode cX8_unit 20 = .ok (.ifCond .eq 33, 3) := dk_153 0 33 (dk_at dksX8_unit_0 20 rfl rfl)
theorem dX8_unit_23 : decode cX8_unit 23 = .ok (.aload_n 0, 1) := dk_42 (dk_at dksX8_unit_0 23 rfl rfl)
theorem dX8_unit_24 : decode cX8_unit 24 = .ok (.invokevirtual 275, 3) := dk_182 1 19 (dk_at dksX8_unit_1 0 rfl rfl)
theorem dX8_unit_27 : decode cX8_unit 27 = .ok (.ifCond .eq 26, 3) := dk_153 0 26 (dk_at dksX8_unit_1 3 rfl rfl)
theorem dX8_unit_30 : decode cX8_unit 30 = .ok (.aload_n 0, 1) := dk_42 (dk_at dksX8_unit_1 6 rfl rfl)
theorem dX8_unit_31 : decode cX8_unit 31 = .ok (.getfield 266, 3) := dk_180 1 10 (dk_at dksX8_unit_1 7 rfl rfl)
theorem dX8_unit_34 : decode cX8_unit 34 = .ok (.bipush 6, 2) := dk_16 6 (dk_at dksX8_unit_1 10 rfl rfl)
theorem dX8_unit_36 : decode cX8_unit 36 = .ok (.if_icmp .le 8, 3) := dk_164 0 8 (dk_at dksX8_unit_1 12 rfl rfl)
theorem dX8_unit_39 : decode cX8_unit 39 = .ok (.aload_n 0, 1) := dk_42 (dk_at dksX8_unit_1 15 rfl rfl)
theorem dX8_unit_40 : decode cX8_unit 40 = .ok (.iconst 2, 1) := dk_5 (dk_at dksX8_unit_1 16 rfl rfl)
theorem dX8_unit_41 : decode cX8_unit 41 = .ok (.invokevirtual 232, 3) := dk_182 0 232 (dk_at dksX8_unit_1 17 rfl rfl)
theorem dX8_unit_44 : decode cX8_unit 44 = .ok (.aload_n 0, 1) := dk_42 (dk_at dksX8_unit_1 20 rfl rfl)
theorem dX8_unit_45 : decode cX8_unit 45 = .ok (.bipush 21, 2) := dk_16 21 (dk_at dksX8_unit_1 21 rfl rfl)
theorem dX8_unit_47 : decode cX8_unit 47 = .ok (.invokevirtual 278, 3) := dk_182 1 22 (dk_at dksX8_unit_2 0 rfl rfl)
theorem dX8_unit_50 : decode cX8_unit 50 = .ok (.goto (-48), 3) := dk_167 255 208 (dk_at dksX8_unit_2 3 rfl rfl)
theorem dX8_unit_53 : decode cX8_unit 53 = .ok (.aload_n 0, 1) := dk_42 (dk_at dksX8_unit_2 6 rfl rfl)
theorem dX8_unit_54 : decode cX8_unit 54 = .ok (.getfield 166, 3) := dk_180 0 166 (dk_at dksX8_unit_2 7 rfl rfl)
theorem dX8_unit_57 : decode cX8_unit 57 = .ok (.bipush 40, 2) := dk_16 40 (dk_at dksX8_unit_2 10 rfl rfl)
theorem dX8_unit_59 : decode cX8_unit 59 = .ok (.if_icmp .ne 37, 3) := dk_160 0 37 (dk_at dksX8_unit_2 12 rfl rfl)
theorem dX8_unit_62 : decode cX8_unit 62 = .ok (.aload_n 0, 1) := dk_42 (dk_at dksX8_unit_2 15 rfl rfl)
theorem dX8_unit_63 : decode cX8_unit 63 = .ok (.invokevirtual 281, 3) := dk_182 1 25 (dk_at dksX8_unit_2 16 rfl rfl)
theorem dX8_unit_66 : decode cX8_unit 66 = .ok (.ifCond .ne 12, 3) := dk_154 0 12 (dk_at dksX8_unit_2 19 rfl rfl)
theorem dX8_unit_69 : decode cX8_unit 69 = .ok (.aload_n 0, 1) := dk_42 (dk_at dksX8_unit_2 22 rfl rfl)
theorem dX8_unit_70 : decode cX8_unit 70 = .ok (.getfield 266, 3) := dk_180 1 10 (dk_at dksX8_unit_3 0 rfl rfl)
theorem dX8_unit_73 : decode cX8_unit 73 = .ok (.bipush 6, 2) := dk_16 6 (dk_at dksX8_unit_3 3 rfl rfl)
theorem dX8_unit_75 : decode cX8_unit 75 = .ok (.if_icmp .le 8, 3) := dk_164 0 8 (dk_at dksX8_unit_3 5 rfl rfl)
theorem dX8_unit_78 : decode cX8_unit 78 = .ok (.aload_n 0, 1) := dk_42 (dk_at dksX8_unit_3 8 rfl rfl)
theorem dX8_unit_79 : decode cX8_unit 79 = .ok (.iconst 2, 1) := dk_5 (dk_at dksX8_unit_3 9 rfl rfl)
theorem dX8_unit_80 : decode cX8_unit 80 = .ok (.invokevirtual 232, 3) := dk_182 0 232 (dk_at dksX8_unit_3 10 rfl rfl)
theorem dX8_unit_83 : decode cX8_unit 83 = .ok (.aload_n 0, 1) := dk_42 (dk_at dksX8_unit_3 13 rfl rfl)
theorem dX8_unit_84 : decode cX8_unit 84 = .ok (.invokevirtual 284, 3) := dk_182 1 28 (dk_at dksX8_unit_3 14 rfl rfl)
theorem dX8_unit_87 : decode cX8_unit 87 = .ok (.aload_n 0, 1) := dk_42 (dk_at dksX8_unit_3 17 rfl rfl)
theorem dX8_unit_88 : decode cX8_unit 88 = .ok (.bipush 20, 2) := dk_16 20 (dk_at dksX8_unit_3 18 rfl rfl)
theorem dX8_unit_90 : decode cX8_unit 90 = .ok (.invokevirtual 278, 3) := dk_182 1 22 (dk_at dksX8_unit_3 20 rfl rfl)
theorem dX8_unit_93 : decode cX8_unit 93 = .ok (.goto (-91), 3) := dk_167 255 165 (dk_at dksX8_unit_4 0 rfl rfl)
theorem dX8_unit_96 : decode cX8_unit 96 = .ok (.iconst 0, 1) := dk_3 (dk_at dksX8_unit_4 3 rfl rfl)
theorem dX8_unit_97 : decode cX8_unit 97 = .ok (.istore_n 1, 1) := dk_60 (dk_at dksX8_unit_4 4 rfl rfl)
theorem dX8_unit_98 : decode cX8_unit 98 = .ok (.goto (-96), 3) := dk_167 255 160 (dk_at dksX8_unit_4 5 rfl rfl)
theorem dX8_unit_101 : decode cX8_unit 101 = .ok (.aload_n 0, 1) := dk_42 (dk_at dksX8_unit_4 8 rfl rfl)
theorem dX8_unit_102 : decode cX8_unit 102 = .ok (.getfield 179, 3) := dk_180 0 179 (dk_at dksX8_unit_4 9 rfl rfl)
theorem dX8_unit_105 : decode cX8_unit 105 = .ok (.ifCond .le 4, 3) := dk_158 0 4 (dk_at dksX8_unit_4 12 rfl rfl)
theorem dX8_unit_108 : decode cX8_unit 108 = .ok (.return_, 1) := dk_177 (dk_at dksX8_unit_4 15 rfl rfl)
theorem dX8_unit_109 : decode cX8_unit 109 = .ok (.aload_n 0, 1) := dk_42 (dk_at dksX8_unit_4 16 rfl rfl)
theorem dX8_unit_110 : decode cX8_unit 110 = .ok (.invokevirtual 287, 3) := dk_182 1 31 (dk_at dksX8_unit_4 17 rfl rfl)
theorem dX8_unit_113 : decode cX8_unit 113 = .ok (.istore_n 2, 1) := dk_61 (dk_at dksX8_unit_4 20 rfl rfl)
theorem dX8_unit_114 : decode cX8_unit 114 = .ok (.aload_n 0, 1) := dk_42 (dk_at dksX8_unit_4 21 rfl rfl)
theorem dX8_unit_115 : decode cX8_unit 115 = .ok (.getfield 166, 3) := dk_180 0 166 (dk_at dksX8_unit_5 0 rfl rfl)
theorem dX8_unit_118 : decode cX8_unit 118 = .ok (.iconst 2, 1) := dk_5 (dk_at dksX8_unit_5 3 rfl rfl)
theorem dX8_unit_119 : decode cX8_unit 119 = .ok (.if_icmp .eq 7, 3) := dk_159 0 7 (dk_at dksX8_unit_5 4 rfl rfl)
theorem dX8_unit_122 : decode cX8_unit 122 = .ok (.iload_n 2, 1) := dk_28 (dk_at dksX8_unit_5 7 rfl rfl)
theorem dX8_unit_123 : decode cX8_unit 123 = .ok (.ifCond .lt 10, 3) := dk_155 0 10 (dk_at dksX8_unit_5 8 rfl rfl)
theorem dX8_unit_126 : decode cX8_unit 126 = .ok (.aload_n 0, 1) := dk_42 (dk_at dksX8_unit_5 11 rfl rfl)
theorem dX8_unit_127 : decode cX8_unit 127 = .ok (.invokevirtual 281, 3) := dk_182 1 25 (dk_at dksX8_unit_5 12 rfl rfl)
theorem dX8_unit_130 : decode cX8_unit 130 = .ok (.ifCond .eq 8, 3) := dk_153 0 8 (dk_at dksX8_unit_5 15 rfl rfl)
theorem dX8_unit_133 : decode cX8_unit 133 = .ok (.aload_n 0, 1) := dk_42 (dk_at dksX8_unit_5 18 rfl rfl)
theorem dX8_unit_134 : decode cX8_unit 134 = .ok (.iconst 2, 1) := dk_5 (dk_at dksX8_unit_5 19 rfl rfl)
theorem dX8_unit_135 : decode cX8_unit 135 = .ok (.invokevirtual 232, 3) := dk_182 0 232 (dk_at dksX8_unit_5 20 rfl rfl)
theorem dX8_unit_138 : decode cX8_unit 138 = .ok (.aload_n 0, 1) := dk_42 (dk_at dksX8_unit_5 23 rfl rfl)
theorem dX8_unit_139 : decode cX8_unit 139 = .ok (.getfield 179, 3) := dk_180 0 179 (dk_at dksX8_unit_6 0 rfl rfl)
theorem dX8_unit_142 : decode cX8_unit 142 = .ok (.ifCond .le 4, 3) := dk_158 0 4 (dk_at dksX8_unit_6 3 rfl rfl)
theorem dX8_unit_145 : decode cX8_unit 145 = .ok (.return_, 1) := dk_177 (dk_at dksX8_unit_6 6 rfl rfl)
theorem dX8_unit_146 : decode cX8_unit 146 = .ok (.aload_n 0, 1) := dk_42 (dk_at dksX8_unit_6 7 rfl rfl)
theorem dX8_unit_147 : decode cX8_unit 147 = .ok (.invokevirtual 284, 3) := dk_182 1 28 (dk_at dksX8_unit_6 8 rfl rfl)
theorem dX8_unit_150 : decode cX8_unit 150 = .ok (.aload_n 0, 1) := dk_42 (dk_at dksX8_unit_6 11 rfl rfl)
theorem dX8_unit_151 : decode cX8_unit 151 = .ok (.iload_n 2, 1) := dk_28 (dk_at dksX8_unit_6 12 rfl rfl)
theorem dX8_unit_152 : decode cX8_unit 152 = .ok (.ifCond .ge 7, 3) := dk_156 0 7 (dk_at dksX8_unit_6 13 rfl rfl)
theorem dX8_unit_155 : decode cX8_unit 155 = .ok (.iconst 0, 1) := dk_3 (dk_at dksX8_unit_6 16 rfl rfl)
theorem dX8_unit_156 : decode cX8_unit 156 = .ok (.goto 4, 3) := dk_167 0 4 (dk_at dksX8_unit_6 17 rfl rfl)
theorem dX8_unit_159 : decode cX8_unit 159 = .ok (.iconst 1, 1) := dk_4 (dk_at dksX8_unit_6 20 rfl rfl)
theorem dX8_unit_160 : decode cX8_unit 160 = .ok (.iload_n 2, 1) := dk_28 (dk_at dksX8_unit_6 21 rfl rfl)
theorem dX8_unit_161 : decode cX8_unit 161 = .ok (.ifCond .ge 10, 3) := dk_156 0 10 (dk_at dksX8_unit_7 0 rfl rfl)
theorem dX8_unit_164 : decode cX8_unit 164 = .ok (.aload_n 0, 1) := dk_42 (dk_at dksX8_unit_7 3 rfl rfl)
theorem dX8_unit_165 : decode cX8_unit 165 = .ok (.getfield 163, 3) := dk_180 0 163 (dk_at dksX8_unit_7 4 rfl rfl)
theorem dX8_unit_168 : decode cX8_unit 168 = .ok (.goto 4, 3) := dk_167 0 4 (dk_at dksX8_unit_7 7 rfl rfl)
theorem dX8_unit_171 : decode cX8_unit 171 = .ok (.iload_n 2, 1) := dk_28 (dk_at dksX8_unit_7 10 rfl rfl)
theorem dX8_unit_172 : decode cX8_unit 172 = .ok (.invokevirtual 262, 3) := dk_182 1 6 (dk_at dksX8_unit_7 11 rfl rfl)
theorem dX8_unit_175 : decode cX8_unit 175 = .ok (.aload_n 0, 1) := dk_42 (dk_at dksX8_unit_7 14 rfl rfl)
theorem dX8_unit_176 : decode cX8_unit 176 = .ok (.invokevirtual 235, 3) := dk_182 0 235 (dk_at dksX8_unit_7 15 rfl rfl)
theorem dX8_unit_179 : decode cX8_unit 179 = .ok (.return_, 1) := dk_177 (dk_at dksX8_unit_7 18 rfl rfl)
abbrev cX8_mayNot : ByteArray := prog_20_method_23_code
def yX8_mayNot : MethodName := ⟨RX8, "mayNot", "()Z"⟩
def dkwX8_mayNot_1 : List UInt8 := [180, 0, 33, 42, 180, 1, 0, 4, 100, 46, 184, 1, 3, 7, 162, 0, 7, 4, 167, 0, 4, 3, 172]
abbrev dktX8_mayNot_1 : List UInt8 := dkwX8_mayNot_1 ++ []
def dkwX8_mayNot_0 : List UInt8 := [42, 180, 1, 0, 153, 0, 37, 42, 180, 0, 33, 42, 180, 1, 0, 4, 100, 46, 16, 20, 159, 0, 21, 42]
abbrev dktX8_mayNot_0 : List UInt8 := dkwX8_mayNot_0 ++ dktX8_mayNot_1
theorem dksX8_mayNot_0 : cX8_mayNot.data.toList.drop 0 = dktX8_mayNot_0 := by decide +kernel
theorem dksX8_mayNot_1 : cX8_mayNot.data.toList.drop 24 = dktX8_mayNot_1 := dk_seg dksX8_mayNot_0 24 rfl rfl
theorem dX8_mayNot_0 : decode cX8_mayNot 0 = .ok (.aload_n 0, 1) := dk_42 (dk_at dksX8_mayNot_0 0 rfl rfl)
theorem dX8_mayNot_1 : decode cX8_mayNot 1 = .ok (.getfield 256, 3) := dk_180 1 0 (dk_at dksX8_mayNot_0 1 rfl rfl)
theorem dX8_mayNot_4 : decode cX8_mayNot 4 = .ok (.ifCond .eq 37, 3) := dk_153 0 37 (dk_at dksX8_mayNot_0 4 rfl rfl)
theorem dX8_mayNot_7 : decode cX8_mayNot 7 = .ok (.aload_n 0, 1) := dk_42 (dk_at dksX8_mayNot_0 7 rfl rfl)
theorem dX8_mayNot_8 : decode cX8_mayNot 8 = .ok (.getfield 33, 3) := dk_180 0 33 (dk_at dksX8_mayNot_0 8 rfl rfl)
theorem dX8_mayNot_11 : decode cX8_mayNot 11 = .ok (.aload_n 0, 1) := dk_42 (dk_at dksX8_mayNot_0 11 rfl rfl)
theorem dX8_mayNot_12 : decode cX8_mayNot 12 = .ok (.getfield 256, 3) := dk_180 1 0 (dk_at dksX8_mayNot_0 12 rfl rfl)
theorem dX8_mayNot_15 : decode cX8_mayNot 15 = .ok (.iconst 1, 1) := dk_4 (dk_at dksX8_mayNot_0 15 rfl rfl)
theorem dX8_mayNot_16 : decode cX8_mayNot 16 = .ok (.isub, 1) := dk_100 (dk_at dksX8_mayNot_0 16 rfl rfl)
theorem dX8_mayNot_17 : decode cX8_mayNot 17 = .ok (.iaload, 1) := dk_46 (dk_at dksX8_mayNot_0 17 rfl rfl)
theorem dX8_mayNot_18 : decode cX8_mayNot 18 = .ok (.bipush 20, 2) := dk_16 20 (dk_at dksX8_mayNot_0 18 rfl rfl)
theorem dX8_mayNot_20 : decode cX8_mayNot 20 = .ok (.if_icmp .eq 21, 3) := dk_159 0 21 (dk_at dksX8_mayNot_0 20 rfl rfl)
theorem dX8_mayNot_23 : decode cX8_mayNot 23 = .ok (.aload_n 0, 1) := dk_42 (dk_at dksX8_mayNot_0 23 rfl rfl)
theorem dX8_mayNot_24 : decode cX8_mayNot 24 = .ok (.getfield 33, 3) := dk_180 0 33 (dk_at dksX8_mayNot_1 0 rfl rfl)
theorem dX8_mayNot_27 : decode cX8_mayNot 27 = .ok (.aload_n 0, 1) := dk_42 (dk_at dksX8_mayNot_1 3 rfl rfl)
theorem dX8_mayNot_28 : decode cX8_mayNot 28 = .ok (.getfield 256, 3) := dk_180 1 0 (dk_at dksX8_mayNot_1 4 rfl rfl)
theorem dX8_mayNot_31 : decode cX8_mayNot 31 = .ok (.iconst 1, 1) := dk_4 (dk_at dksX8_mayNot_1 7 rfl rfl)
theorem dX8_mayNot_32 : decode cX8_mayNot 32 = .ok (.isub, 1) := dk_100 (dk_at dksX8_mayNot_1 8 rfl rfl)
theorem dX8_mayNot_33 : decode cX8_mayNot 33 = .ok (.iaload, 1) := dk_46 (dk_at dksX8_mayNot_1 9 rfl rfl)
theorem dX8_mayNot_34 : decode cX8_mayNot 34 = .ok (.invokestatic 259, 3) := dk_184 1 3 (dk_at dksX8_mayNot_1 10 rfl rfl)
theorem dX8_mayNot_37 : decode cX8_mayNot 37 = .ok (.iconst 4, 1) := dk_7 (dk_at dksX8_mayNot_1 13 rfl rfl)
theorem dX8_mayNot_38 : decode cX8_mayNot 38 = .ok (.if_icmp .ge 7, 3) := dk_162 0 7 (dk_at dksX8_mayNot_1 14 rfl rfl)
theorem dX8_mayNot_41 : decode cX8_mayNot 41 = .ok (.iconst 1, 1) := dk_4 (dk_at dksX8_mayNot_1 17 rfl rfl)
theorem dX8_mayNot_42 : decode cX8_mayNot 42 = .ok (.goto 4, 3) := dk_167 0 4 (dk_at dksX8_mayNot_1 18 rfl rfl)
theorem dX8_mayNot_45 : decode cX8_mayNot 45 = .ok (.iconst 0, 1) := dk_3 (dk_at dksX8_mayNot_1 21 rfl rfl)
theorem dX8_mayNot_46 : decode cX8_mayNot 46 = .ok (.ireturn, 1) := dk_172 (dk_at dksX8_mayNot_1 22 rfl rfl)
abbrev cX8_tight : ByteArray := prog_20_method_20_code
def yX8_tight : MethodName := ⟨RX8, "tight", "(I)I"⟩
def dkwX8_tight_2 : List UInt8 := [4, 172, 5, 172, 6, 172, 7, 172, 8, 172, 16, 6, 172]
abbrev dktX8_tight_2 : List UInt8 := dkwX8_tight_2 ++ []
def dkwX8_tight_1 : List UInt8 := [171, 0, 0, 0, 0, 0, 85, 0, 0, 0, 8, 0, 0, 0, 21, 0, 0, 0, 79, 0, 0, 0, 38, 0, 0, 0, 77, 0, 0, 0, 43, 0, 0, 0, 83, 0, 0, 0, 45, 0, 0, 0, 83, 0, 0, 0, 60, 0, 0, 0, 81, 0, 0, 0, 61, 0, 0, 0, 81, 0, 0, 0, 62, 0, 0, 0, 81, 0, 0, 0, 124, 0, 0, 0, 75]
abbrev dktX8_tight_1 : List UInt8 := dkwX8_tight_1 ++ dktX8_tight_2
def dkwX8_tight_0 : List UInt8 := [26]
abbrev dktX8_tight_0 : List UInt8 := dkwX8_tight_0 ++ dktX8_tight_1
theorem dksX8_tight_0 : cX8_tight.data.toList.drop 0 = dktX8_tight_0 := by decide +kernel
theorem dksX8_tight_1 : cX8_tight.data.toList.drop 1 = dktX8_tight_1 := dk_seg dksX8_tight_0 1 rfl rfl
theorem dksX8_tight_2 : cX8_tight.data.toList.drop 76 = dktX8_tight_2 := dk_seg dksX8_tight_1 75 rfl rfl
theorem dX8_tight_0 : decode cX8_tight 0 = .ok (.iload_n 0, 1) := dk_26 (dk_at dksX8_tight_0 0 rfl rfl)
theorem dX8_tight_1 : decode cX8_tight 1 = .ok (.lookupswitch 85 #[(21, 79), (38, 77), (43, 83), (45, 83), (60, 81), (61, 81), (62, 81), (124, 75)], 75) := by decide +kernel
theorem dX8_tight_76 : decode cX8_tight 76 = .ok (.iconst 1, 1) := dk_4 (dk_at dksX8_tight_2 0 rfl rfl)
theorem dX8_tight_77 : decode cX8_tight 77 = .ok (.ireturn, 1) := dk_172 (dk_at dksX8_tight_2 1 rfl rfl)
theorem dX8_tight_78 : decode cX8_tight 78 = .ok (.iconst 2, 1) := dk_5 (dk_at dksX8_tight_2 2 rfl rfl)
theorem dX8_tight_79 : decode cX8_tight 79 = .ok (.ireturn, 1) := dk_172 (dk_at dksX8_tight_2 3 rfl rfl)
theorem dX8_tight_80 : decode cX8_tight 80 = .ok (.iconst 3, 1) := dk_6 (dk_at dksX8_tight_2 4 rfl rfl)
theorem dX8_tight_81 : decode cX8_tight 81 = .ok (.ireturn, 1) := dk_172 (dk_at dksX8_tight_2 5 rfl rfl)
theorem dX8_tight_82 : decode cX8_tight 82 = .ok (.iconst 4, 1) := dk_7 (dk_at dksX8_tight_2 6 rfl rfl)
theorem dX8_tight_83 : decode cX8_tight 83 = .ok (.ireturn, 1) := dk_172 (dk_at dksX8_tight_2 7 rfl rfl)
theorem dX8_tight_84 : decode cX8_tight 84 = .ok (.iconst 5, 1) := dk_8 (dk_at dksX8_tight_2 8 rfl rfl)
theorem dX8_tight_85 : decode cX8_tight 85 = .ok (.ireturn, 1) := dk_172 (dk_at dksX8_tight_2 9 rfl rfl)
theorem dX8_tight_86 : decode cX8_tight 86 = .ok (.bipush 6, 2) := dk_16 6 (dk_at dksX8_tight_2 10 rfl rfl)
theorem dX8_tight_88 : decode cX8_tight 88 = .ok (.ireturn, 1) := dk_172 (dk_at dksX8_tight_2 12 rfl rfl)
abbrev cX8_openUp : ByteArray := prog_20_method_27_code
def yX8_openUp : MethodName := ⟨RX8, "openUp", "(I)V"⟩
def dkwX8_openUp_1 : List UInt8 := [180, 1, 10, 4, 96, 181, 1, 10, 42, 180, 0, 179, 154, 0, 7, 42, 182, 0, 235, 177]
abbrev dktX8_openUp_1 : List UInt8 := dkwX8_openUp_1 ++ []
def dkwX8_openUp_0 : List UInt8 := [42, 180, 0, 33, 42, 180, 1, 0, 27, 79, 42, 89, 180, 1, 0, 4, 96, 181, 1, 0, 42, 89]
abbrev dktX8_openUp_0 : List UInt8 := dkwX8_openUp_0 ++ dktX8_openUp_1
theorem dksX8_openUp_0 : cX8_openUp.data.toList.drop 0 = dktX8_openUp_0 := by decide +kernel
theorem dksX8_openUp_1 : cX8_openUp.data.toList.drop 22 = dktX8_openUp_1 := dk_seg dksX8_openUp_0 22 rfl rfl
theorem dX8_openUp_0 : decode cX8_openUp 0 = .ok (.aload_n 0, 1) := dk_42 (dk_at dksX8_openUp_0 0 rfl rfl)
theorem dX8_openUp_1 : decode cX8_openUp 1 = .ok (.getfield 33, 3) := dk_180 0 33 (dk_at dksX8_openUp_0 1 rfl rfl)
theorem dX8_openUp_4 : decode cX8_openUp 4 = .ok (.aload_n 0, 1) := dk_42 (dk_at dksX8_openUp_0 4 rfl rfl)
theorem dX8_openUp_5 : decode cX8_openUp 5 = .ok (.getfield 256, 3) := dk_180 1 0 (dk_at dksX8_openUp_0 5 rfl rfl)
theorem dX8_openUp_8 : decode cX8_openUp 8 = .ok (.iload_n 1, 1) := dk_27 (dk_at dksX8_openUp_0 8 rfl rfl)
theorem dX8_openUp_9 : decode cX8_openUp 9 = .ok (.iastore, 1) := dk_79 (dk_at dksX8_openUp_0 9 rfl rfl)
theorem dX8_openUp_10 : decode cX8_openUp 10 = .ok (.aload_n 0, 1) := dk_42 (dk_at dksX8_openUp_0 10 rfl rfl)
theorem dX8_openUp_11 : decode cX8_openUp 11 = .ok (.dup, 1) := dk_89 (dk_at dksX8_openUp_0 11 rfl rfl)
theorem dX8_openUp_12 : decode cX8_openUp 12 = .ok (.getfield 256, 3) := dk_180 1 0 (dk_at dksX8_openUp_0 12 rfl rfl)
theorem dX8_openUp_15 : decode cX8_openUp 15 = .ok (.iconst 1, 1) := dk_4 (dk_at dksX8_openUp_0 15 rfl rfl)
theorem dX8_openUp_16 : decode cX8_openUp 16 = .ok (.iadd, 1) := dk_96 (dk_at dksX8_openUp_0 16 rfl rfl)
theorem dX8_openUp_17 : decode cX8_openUp 17 = .ok (.putfield 256, 3) := dk_181 1 0 (dk_at dksX8_openUp_0 17 rfl rfl)
theorem dX8_openUp_20 : decode cX8_openUp 20 = .ok (.aload_n 0, 1) := dk_42 (dk_at dksX8_openUp_0 20 rfl rfl)
theorem dX8_openUp_21 : decode cX8_openUp 21 = .ok (.dup, 1) := dk_89 (dk_at dksX8_openUp_0 21 rfl rfl)
theorem dX8_openUp_22 : decode cX8_openUp 22 = .ok (.getfield 266, 3) := dk_180 1 10 (dk_at dksX8_openUp_1 0 rfl rfl)
theorem dX8_openUp_25 : decode cX8_openUp 25 = .ok (.iconst 1, 1) := dk_4 (dk_at dksX8_openUp_1 3 rfl rfl)
theorem dX8_openUp_26 : decode cX8_openUp 26 = .ok (.iadd, 1) := dk_96 (dk_at dksX8_openUp_1 4 rfl rfl)
theorem dX8_openUp_27 : decode cX8_openUp 27 = .ok (.putfield 266, 3) := dk_181 1 10 (dk_at dksX8_openUp_1 5 rfl rfl)
theorem dX8_openUp_30 : decode cX8_openUp 30 = .ok (.aload_n 0, 1) := dk_42 (dk_at dksX8_openUp_1 8 rfl rfl)
theorem dX8_openUp_31 : decode cX8_openUp 31 = .ok (.getfield 179, 3) := dk_180 0 179 (dk_at dksX8_openUp_1 9 rfl rfl)
theorem dX8_openUp_34 : decode cX8_openUp 34 = .ok (.ifCond .ne 7, 3) := dk_154 0 7 (dk_at dksX8_openUp_1 12 rfl rfl)
theorem dX8_openUp_37 : decode cX8_openUp 37 = .ok (.aload_n 0, 1) := dk_42 (dk_at dksX8_openUp_1 15 rfl rfl)
theorem dX8_openUp_38 : decode cX8_openUp 38 = .ok (.invokevirtual 235, 3) := dk_182 0 235 (dk_at dksX8_openUp_1 16 rfl rfl)
theorem dX8_openUp_41 : decode cX8_openUp 41 = .ok (.return_, 1) := dk_177 (dk_at dksX8_openUp_1 19 rfl rfl)
abbrev cX8_isFull : ByteArray := prog_20_method_25_code
def yX8_isFull : MethodName := ⟨RX8, "isFull", "()Z"⟩
def dkwX8_isFull_0 : List UInt8 := [42, 180, 1, 13, 16, 60, 159, 0, 12, 42, 180, 1, 16, 16, 30, 160, 0, 7, 4, 167, 0, 4, 3, 172]
abbrev dktX8_isFull_0 : List UInt8 := dkwX8_isFull_0 ++ []
theorem dksX8_isFull_0 : cX8_isFull.data.toList.drop 0 = dktX8_isFull_0 := by decide +kernel
theorem dX8_isFull_0 : decode cX8_isFull 0 = .ok (.aload_n 0, 1) := dk_42 (dk_at dksX8_isFull_0 0 rfl rfl)
theorem dX8_isFull_1 : decode cX8_isFull 1 = .ok (.getfield 269, 3) := dk_180 1 13 (dk_at dksX8_isFull_0 1 rfl rfl)
theorem dX8_isFull_4 : decode cX8_isFull 4 = .ok (.bipush 60, 2) := dk_16 60 (dk_at dksX8_isFull_0 4 rfl rfl)
theorem dX8_isFull_6 : decode cX8_isFull 6 = .ok (.if_icmp .eq 12, 3) := dk_159 0 12 (dk_at dksX8_isFull_0 6 rfl rfl)
theorem dX8_isFull_9 : decode cX8_isFull 9 = .ok (.aload_n 0, 1) := dk_42 (dk_at dksX8_isFull_0 9 rfl rfl)
theorem dX8_isFull_10 : decode cX8_isFull 10 = .ok (.getfield 272, 3) := dk_180 1 16 (dk_at dksX8_isFull_0 10 rfl rfl)
theorem dX8_isFull_13 : decode cX8_isFull 13 = .ok (.bipush 30, 2) := dk_16 30 (dk_at dksX8_isFull_0 13 rfl rfl)
theorem dX8_isFull_15 : decode cX8_isFull 15 = .ok (.if_icmp .ne 7, 3) := dk_160 0 7 (dk_at dksX8_isFull_0 15 rfl rfl)
theorem dX8_isFull_18 : decode cX8_isFull 18 = .ok (.iconst 1, 1) := dk_4 (dk_at dksX8_isFull_0 18 rfl rfl)
theorem dX8_isFull_19 : decode cX8_isFull 19 = .ok (.goto 4, 3) := dk_167 0 4 (dk_at dksX8_isFull_0 19 rfl rfl)
theorem dX8_isFull_22 : decode cX8_isFull 22 = .ok (.iconst 0, 1) := dk_3 (dk_at dksX8_isFull_0 22 rfl rfl)
theorem dX8_isFull_23 : decode cX8_isFull 23 = .ok (.ireturn, 1) := dk_172 (dk_at dksX8_isFull_0 23 rfl rfl)
abbrev cX8_countUnit : ByteArray := prog_20_method_26_code
def yX8_countUnit : MethodName := ⟨RX8, "countUnit", "()V"⟩
def dkwX8_countUnit_0 : List UInt8 := [42, 89, 180, 1, 13, 4, 96, 181, 1, 13, 42, 89, 180, 1, 16, 4, 96, 181, 1, 16, 177]
abbrev dktX8_countUnit_0 : List UInt8 := dkwX8_countUnit_0 ++ []
theorem dksX8_countUnit_0 : cX8_countUnit.data.toList.drop 0 = dktX8_countUnit_0 := by decide +kernel
theorem dX8_countUnit_0 : decode cX8_countUnit 0 = .ok (.aload_n 0, 1) := dk_42 (dk_at dksX8_countUnit_0 0 rfl rfl)
theorem dX8_countUnit_1 : decode cX8_countUnit 1 = .ok (.dup, 1) := dk_89 (dk_at dksX8_countUnit_0 1 rfl rfl)
theorem dX8_countUnit_2 : decode cX8_countUnit 2 = .ok (.getfield 269, 3) := dk_180 1 13 (dk_at dksX8_countUnit_0 2 rfl rfl)
theorem dX8_countUnit_5 : decode cX8_countUnit 5 = .ok (.iconst 1, 1) := dk_4 (dk_at dksX8_countUnit_0 5 rfl rfl)
theorem dX8_countUnit_6 : decode cX8_countUnit 6 = .ok (.iadd, 1) := dk_96 (dk_at dksX8_countUnit_0 6 rfl rfl)
theorem dX8_countUnit_7 : decode cX8_countUnit 7 = .ok (.putfield 269, 3) := dk_181 1 13 (dk_at dksX8_countUnit_0 7 rfl rfl)
theorem dX8_countUnit_10 : decode cX8_countUnit 10 = .ok (.aload_n 0, 1) := dk_42 (dk_at dksX8_countUnit_0 10 rfl rfl)
theorem dX8_countUnit_11 : decode cX8_countUnit 11 = .ok (.dup, 1) := dk_89 (dk_at dksX8_countUnit_0 11 rfl rfl)
theorem dX8_countUnit_12 : decode cX8_countUnit 12 = .ok (.getfield 272, 3) := dk_180 1 16 (dk_at dksX8_countUnit_0 12 rfl rfl)
theorem dX8_countUnit_15 : decode cX8_countUnit 15 = .ok (.iconst 1, 1) := dk_4 (dk_at dksX8_countUnit_0 15 rfl rfl)
theorem dX8_countUnit_16 : decode cX8_countUnit 16 = .ok (.iadd, 1) := dk_96 (dk_at dksX8_countUnit_0 16 rfl rfl)
theorem dX8_countUnit_17 : decode cX8_countUnit 17 = .ok (.putfield 272, 3) := dk_181 1 16 (dk_at dksX8_countUnit_0 17 rfl rfl)
theorem dX8_countUnit_20 : decode cX8_countUnit 20 = .ok (.return_, 1) := dk_177 (dk_at dksX8_countUnit_0 20 rfl rfl)
abbrev cX8_asked : ByteArray := prog_20_method_24_code
def yX8_asked : MethodName := ⟨RX8, "asked", "()I"⟩
def dkwX8_asked_3 : List UInt8 := [154, 0, 5, 7, 172, 42, 180, 0, 159, 20, 0, 216, 148, 154, 0, 7, 8, 167, 0, 4, 2, 172]
abbrev dktX8_asked_3 : List UInt8 := dkwX8_asked_3 ++ []
def dkwX8_asked_2 : List UInt8 := [172, 42, 180, 0, 159, 20, 0, 214, 148, 154, 0, 5, 6, 172, 42, 180, 0, 159, 20, 0, 194, 148]
abbrev dktX8_asked_2 : List UInt8 := dkwX8_asked_2 ++ dktX8_asked_3
def dkwX8_asked_1 : List UInt8 := [180, 0, 159, 20, 0, 210, 148, 154, 0, 5, 4, 172, 42, 180, 0, 159, 20, 0, 212, 148, 154, 0, 5, 5]
abbrev dktX8_asked_1 : List UInt8 := dkwX8_asked_1 ++ dktX8_asked_2
def dkwX8_asked_0 : List UInt8 := [42, 180, 0, 166, 4, 159, 0, 5, 2, 172, 42, 180, 0, 159, 20, 0, 208, 148, 154, 0, 5, 3, 172, 42]
abbrev dktX8_asked_0 : List UInt8 := dkwX8_asked_0 ++ dktX8_asked_1
theorem dksX8_asked_0 : cX8_asked.data.toList.drop 0 = dktX8_asked_0 := by decide +kernel
theorem dksX8_asked_1 : cX8_asked.data.toList.drop 24 = dktX8_asked_1 := dk_seg dksX8_asked_0 24 rfl rfl
theorem dksX8_asked_2 : cX8_asked.data.toList.drop 48 = dktX8_asked_2 := dk_seg dksX8_asked_1 24 rfl rfl
theorem dksX8_asked_3 : cX8_asked.data.toList.drop 70 = dktX8_asked_3 := dk_seg dksX8_asked_2 22 rfl rfl
theorem dX8_asked_0 : decode cX8_asked 0 = .ok (.aload_n 0, 1) := dk_42 (dk_at dksX8_asked_0 0 rfl rfl)
theorem dX8_asked_1 : decode cX8_asked 1 = .ok (.getfield 166, 3) := dk_180 0 166 (dk_at dksX8_asked_0 1 rfl rfl)
theorem dX8_asked_4 : decode cX8_asked 4 = .ok (.iconst 1, 1) := dk_4 (dk_at dksX8_asked_0 4 rfl rfl)
theorem dX8_asked_5 : decode cX8_asked 5 = .ok (.if_icmp .eq 5, 3) := dk_159 0 5 (dk_at dksX8_asked_0 5 rfl rfl)
theorem dX8_asked_8 : decode cX8_asked 8 = .ok (.iconst (-1), 1) := dk_2 (dk_at dksX8_asked_0 8 rfl rfl)
theorem dX8_asked_9 : decode cX8_asked 9 = .ok (.ireturn, 1) := dk_172 (dk_at dksX8_asked_0 9 rfl rfl)
theorem dX8_asked_10 : decode cX8_asked 10 = .ok (.aload_n 0, 1) := dk_42 (dk_at dksX8_asked_0 10 rfl rfl)
theorem dX8_asked_11 : decode cX8_asked 11 = .ok (.getfield 159, 3) := dk_180 0 159 (dk_at dksX8_asked_0 11 rfl rfl)
theorem dX8_asked_14 : decode cX8_asked 14 = .ok (.ldc2_w 208, 3) := dk_20 0 208 (dk_at dksX8_asked_0 14 rfl rfl)
theorem dX8_asked_17 : decode cX8_asked 17 = .ok (.lcmp, 1) := dk_148 (dk_at dksX8_asked_0 17 rfl rfl)
theorem dX8_asked_18 : decode cX8_asked 18 = .ok (.ifCond .ne 5, 3) := dk_154 0 5 (dk_at dksX8_asked_0 18 rfl rfl)
theorem dX8_asked_21 : decode cX8_asked 21 = .ok (.iconst 0, 1) := dk_3 (dk_at dksX8_asked_0 21 rfl rfl)
theorem dX8_asked_22 : decode cX8_asked 22 = .ok (.ireturn, 1) := dk_172 (dk_at dksX8_asked_0 22 rfl rfl)
theorem dX8_asked_23 : decode cX8_asked 23 = .ok (.aload_n 0, 1) := dk_42 (dk_at dksX8_asked_0 23 rfl rfl)
theorem dX8_asked_24 : decode cX8_asked 24 = .ok (.getfield 159, 3) := dk_180 0 159 (dk_at dksX8_asked_1 0 rfl rfl)
theorem dX8_asked_27 : decode cX8_asked 27 = .ok (.ldc2_w 210, 3) := dk_20 0 210 (dk_at dksX8_asked_1 3 rfl rfl)
theorem dX8_asked_30 : decode cX8_asked 30 = .ok (.lcmp, 1) := dk_148 (dk_at dksX8_asked_1 6 rfl rfl)
theorem dX8_asked_31 : decode cX8_asked 31 = .ok (.ifCond .ne 5, 3) := dk_154 0 5 (dk_at dksX8_asked_1 7 rfl rfl)
theorem dX8_asked_34 : decode cX8_asked 34 = .ok (.iconst 1, 1) := dk_4 (dk_at dksX8_asked_1 10 rfl rfl)
theorem dX8_asked_35 : decode cX8_asked 35 = .ok (.ireturn, 1) := dk_172 (dk_at dksX8_asked_1 11 rfl rfl)
theorem dX8_asked_36 : decode cX8_asked 36 = .ok (.aload_n 0, 1) := dk_42 (dk_at dksX8_asked_1 12 rfl rfl)
theorem dX8_asked_37 : decode cX8_asked 37 = .ok (.getfield 159, 3) := dk_180 0 159 (dk_at dksX8_asked_1 13 rfl rfl)
theorem dX8_asked_40 : decode cX8_asked 40 = .ok (.ldc2_w 212, 3) := dk_20 0 212 (dk_at dksX8_asked_1 16 rfl rfl)
theorem dX8_asked_43 : decode cX8_asked 43 = .ok (.lcmp, 1) := dk_148 (dk_at dksX8_asked_1 19 rfl rfl)
theorem dX8_asked_44 : decode cX8_asked 44 = .ok (.ifCond .ne 5, 3) := dk_154 0 5 (dk_at dksX8_asked_1 20 rfl rfl)
theorem dX8_asked_47 : decode cX8_asked 47 = .ok (.iconst 2, 1) := dk_5 (dk_at dksX8_asked_1 23 rfl rfl)
theorem dX8_asked_48 : decode cX8_asked 48 = .ok (.ireturn, 1) := dk_172 (dk_at dksX8_asked_2 0 rfl rfl)
theorem dX8_asked_49 : decode cX8_asked 49 = .ok (.aload_n 0, 1) := dk_42 (dk_at dksX8_asked_2 1 rfl rfl)
theorem dX8_asked_50 : decode cX8_asked 50 = .ok (.getfield 159, 3) := dk_180 0 159 (dk_at dksX8_asked_2 2 rfl rfl)
theorem dX8_asked_53 : decode cX8_asked 53 = .ok (.ldc2_w 214, 3) := dk_20 0 214 (dk_at dksX8_asked_2 5 rfl rfl)
theorem dX8_asked_56 : decode cX8_asked 56 = .ok (.lcmp, 1) := dk_148 (dk_at dksX8_asked_2 8 rfl rfl)
theorem dX8_asked_57 : decode cX8_asked 57 = .ok (.ifCond .ne 5, 3) := dk_154 0 5 (dk_at dksX8_asked_2 9 rfl rfl)
theorem dX8_asked_60 : decode cX8_asked 60 = .ok (.iconst 3, 1) := dk_6 (dk_at dksX8_asked_2 12 rfl rfl)
theorem dX8_asked_61 : decode cX8_asked 61 = .ok (.ireturn, 1) := dk_172 (dk_at dksX8_asked_2 13 rfl rfl)
theorem dX8_asked_62 : decode cX8_asked 62 = .ok (.aload_n 0, 1) := dk_42 (dk_at dksX8_asked_2 14 rfl rfl)
theorem dX8_asked_63 : decode cX8_asked 63 = .ok (.getfield 159, 3) := dk_180 0 159 (dk_at dksX8_asked_2 15 rfl rfl)
theorem dX8_asked_66 : decode cX8_asked 66 = .ok (.ldc2_w 194, 3) := dk_20 0 194 (dk_at dksX8_asked_2 18 rfl rfl)
theorem dX8_asked_69 : decode cX8_asked 69 = .ok (.lcmp, 1) := dk_148 (dk_at dksX8_asked_2 21 rfl rfl)
theorem dX8_asked_70 : decode cX8_asked 70 = .ok (.ifCond .ne 5, 3) := dk_154 0 5 (dk_at dksX8_asked_3 0 rfl rfl)
theorem dX8_asked_73 : decode cX8_asked 73 = .ok (.iconst 4, 1) := dk_7 (dk_at dksX8_asked_3 3 rfl rfl)
theorem dX8_asked_74 : decode cX8_asked 74 = .ok (.ireturn, 1) := dk_172 (dk_at dksX8_asked_3 4 rfl rfl)
theorem dX8_asked_75 : decode cX8_asked 75 = .ok (.aload_n 0, 1) := dk_42 (dk_at dksX8_asked_3 5 rfl rfl)
theorem dX8_asked_76 : decode cX8_asked 76 = .ok (.getfield 159, 3) := dk_180 0 159 (dk_at dksX8_asked_3 6 rfl rfl)
theorem dX8_asked_79 : decode cX8_asked 79 = .ok (.ldc2_w 216, 3) := dk_20 0 216 (dk_at dksX8_asked_3 9 rfl rfl)
theorem dX8_asked_82 : decode cX8_asked 82 = .ok (.lcmp, 1) := dk_148 (dk_at dksX8_asked_3 12 rfl rfl)
theorem dX8_asked_83 : decode cX8_asked 83 = .ok (.ifCond .ne 7, 3) := dk_154 0 7 (dk_at dksX8_asked_3 13 rfl rfl)
theorem dX8_asked_86 : decode cX8_asked 86 = .ok (.iconst 5, 1) := dk_8 (dk_at dksX8_asked_3 16 rfl rfl)
theorem dX8_asked_87 : decode cX8_asked 87 = .ok (.goto 4, 3) := dk_167 0 4 (dk_at dksX8_asked_3 17 rfl rfl)
theorem dX8_asked_90 : decode cX8_asked 90 = .ok (.iconst (-1), 1) := dk_2 (dk_at dksX8_asked_3 20 rfl rfl)
theorem dX8_asked_91 : decode cX8_asked 91 = .ok (.ireturn, 1) := dk_172 (dk_at dksX8_asked_3 21 rfl rfl)
abbrev cX8_add : ByteArray := prog_20_method_19_code
def yX8_add : MethodName := ⟨RX8, "add", "(II)V"⟩
def dkwX8_add_1 : List UInt8 := [180, 0, 253, 4, 96, 181, 0, 253, 177]
abbrev dktX8_add_1 : List UInt8 := dkwX8_add_1 ++ []
def dkwX8_add_0 : List UInt8 := [42, 180, 0, 21, 42, 180, 0, 253, 27, 79, 42, 180, 0, 24, 42, 180, 0, 253, 28, 79, 42, 89]
abbrev dktX8_add_0 : List UInt8 := dkwX8_add_0 ++ dktX8_add_1
theorem dksX8_add_0 : cX8_add.data.toList.drop 0 = dktX8_add_0 := by decide +kernel
theorem dksX8_add_1 : cX8_add.data.toList.drop 22 = dktX8_add_1 := dk_seg dksX8_add_0 22 rfl rfl
theorem dX8_add_0 : decode cX8_add 0 = .ok (.aload_n 0, 1) := dk_42 (dk_at dksX8_add_0 0 rfl rfl)
theorem dX8_add_1 : decode cX8_add 1 = .ok (.getfield 21, 3) := dk_180 0 21 (dk_at dksX8_add_0 1 rfl rfl)
theorem dX8_add_4 : decode cX8_add 4 = .ok (.aload_n 0, 1) := dk_42 (dk_at dksX8_add_0 4 rfl rfl)
theorem dX8_add_5 : decode cX8_add 5 = .ok (.getfield 253, 3) := dk_180 0 253 (dk_at dksX8_add_0 5 rfl rfl)
theorem dX8_add_8 : decode cX8_add 8 = .ok (.iload_n 1, 1) := dk_27 (dk_at dksX8_add_0 8 rfl rfl)
theorem dX8_add_9 : decode cX8_add 9 = .ok (.iastore, 1) := dk_79 (dk_at dksX8_add_0 9 rfl rfl)
theorem dX8_add_10 : decode cX8_add 10 = .ok (.aload_n 0, 1) := dk_42 (dk_at dksX8_add_0 10 rfl rfl)
theorem dX8_add_11 : decode cX8_add 11 = .ok (.getfield 24, 3) := dk_180 0 24 (dk_at dksX8_add_0 11 rfl rfl)
theorem dX8_add_14 : decode cX8_add 14 = .ok (.aload_n 0, 1) := dk_42 (dk_at dksX8_add_0 14 rfl rfl)
theorem dX8_add_15 : decode cX8_add 15 = .ok (.getfield 253, 3) := dk_180 0 253 (dk_at dksX8_add_0 15 rfl rfl)
theorem dX8_add_18 : decode cX8_add 18 = .ok (.iload_n 2, 1) := dk_28 (dk_at dksX8_add_0 18 rfl rfl)
theorem dX8_add_19 : decode cX8_add 19 = .ok (.iastore, 1) := dk_79 (dk_at dksX8_add_0 19 rfl rfl)
theorem dX8_add_20 : decode cX8_add 20 = .ok (.aload_n 0, 1) := dk_42 (dk_at dksX8_add_0 20 rfl rfl)
theorem dX8_add_21 : decode cX8_add 21 = .ok (.dup, 1) := dk_89 (dk_at dksX8_add_0 21 rfl rfl)
theorem dX8_add_22 : decode cX8_add 22 = .ok (.getfield 253, 3) := dk_180 0 253 (dk_at dksX8_add_1 0 rfl rfl)
theorem dX8_add_25 : decode cX8_add 25 = .ok (.iconst 1, 1) := dk_4 (dk_at dksX8_add_1 3 rfl rfl)
theorem dX8_add_26 : decode cX8_add 26 = .ok (.iadd, 1) := dk_96 (dk_at dksX8_add_1 4 rfl rfl)
theorem dX8_add_27 : decode cX8_add 27 = .ok (.putfield 253, 3) := dk_181 0 253 (dk_at dksX8_add_1 5 rfl rfl)
theorem dX8_add_30 : decode cX8_add 30 = .ok (.return_, 1) := dk_177 (dk_at dksX8_add_1 8 rfl rfl)
abbrev cX8_sign : ByteArray := prog_20_method_29_code
def yX8_sign : MethodName := ⟨RX8, "sign", "()I"⟩
def dkwX8_sign_4 : List UInt8 := [180, 0, 166, 16, 37, 160, 0, 10, 42, 180, 0, 166, 167, 0, 4, 3, 172]
abbrev dktX8_sign_4 : List UInt8 := dkwX8_sign_4 ++ []
def dkwX8_sign_3 : List UInt8 := [159, 0, 30, 42, 180, 0, 166, 16, 42, 159, 0, 21, 42, 180, 0, 166, 16, 47, 159, 0, 12, 42]
abbrev dktX8_sign_3 : List UInt8 := dkwX8_sign_3 ++ dktX8_sign_4
def dkwX8_sign_2 : List UInt8 := [180, 0, 166, 16, 61, 159, 0, 48, 42, 180, 0, 166, 16, 43, 159, 0, 39, 42, 180, 0, 166, 16, 45]
abbrev dktX8_sign_2 : List UInt8 := dkwX8_sign_2 ++ dktX8_sign_3
def dkwX8_sign_1 : List UInt8 := [16, 124, 172, 42, 180, 0, 166, 16, 60, 159, 0, 66, 42, 180, 0, 166, 16, 62, 159, 0, 57, 42]
abbrev dktX8_sign_1 : List UInt8 := dkwX8_sign_1 ++ dktX8_sign_2
def dkwX8_sign_0 : List UInt8 := [42, 20, 0, 218, 182, 0, 228, 153, 0, 6, 16, 38, 172, 42, 20, 0, 220, 182, 0, 228, 153, 0, 6]
abbrev dktX8_sign_0 : List UInt8 := dkwX8_sign_0 ++ dktX8_sign_1
theorem dksX8_sign_0 : cX8_sign.data.toList.drop 0 = dktX8_sign_0 := by decide +kernel
theorem dksX8_sign_1 : cX8_sign.data.toList.drop 23 = dktX8_sign_1 := dk_seg dksX8_sign_0 23 rfl rfl
theorem dksX8_sign_2 : cX8_sign.data.toList.drop 45 = dktX8_sign_2 := dk_seg dksX8_sign_1 22 rfl rfl
theorem dksX8_sign_3 : cX8_sign.data.toList.drop 68 = dktX8_sign_3 := dk_seg dksX8_sign_2 23 rfl rfl
theorem dksX8_sign_4 : cX8_sign.data.toList.drop 90 = dktX8_sign_4 := dk_seg dksX8_sign_3 22 rfl rfl
theorem dX8_sign_0 : decode cX8_sign 0 = .ok (.aload_n 0, 1) := dk_42 (dk_at dksX8_sign_0 0 rfl rfl)
theorem dX8_sign_1 : decode cX8_sign 1 = .ok (.ldc2_w 218, 3) := dk_20 0 218 (dk_at dksX8_sign_0 1 rfl rfl)
theorem dX8_sign_4 : decode cX8_sign 4 = .ok (.invokevirtual 228, 3) := dk_182 0 228 (dk_at dksX8_sign_0 4 rfl rfl)
theorem dX8_sign_7 : decode cX8_sign 7 = .ok (.ifCond .eq 6, 3) := dk_153 0 6 (dk_at dksX8_sign_0 7 rfl rfl)
theorem dX8_sign_10 : decode cX8_sign 10 = .ok (.bipush 38, 2) := dk_16 38 (dk_at dksX8_sign_0 10 rfl rfl)
theorem dX8_sign_12 : decode cX8_sign 12 = .ok (.ireturn, 1) := dk_172 (dk_at dksX8_sign_0 12 rfl rfl)
theorem dX8_sign_13 : decode cX8_sign 13 = .ok (.aload_n 0, 1) := dk_42 (dk_at dksX8_sign_0 13 rfl rfl)
theorem dX8_sign_14 : decode cX8_sign 14 = .ok (.ldc2_w 220, 3) := dk_20 0 220 (dk_at dksX8_sign_0 14 rfl rfl)
theorem dX8_sign_17 : decode cX8_sign 17 = .ok (.invokevirtual 228, 3) := dk_182 0 228 (dk_at dksX8_sign_0 17 rfl rfl)
theorem dX8_sign_20 : decode cX8_sign 20 = .ok (.ifCond .eq 6, 3) := dk_153 0 6 (dk_at dksX8_sign_0 20 rfl rfl)
theorem dX8_sign_23 : decode cX8_sign 23 = .ok (.bipush 124, 2) := dk_16 124 (dk_at dksX8_sign_1 0 rfl rfl)
theorem dX8_sign_25 : decode cX8_sign 25 = .ok (.ireturn, 1) := dk_172 (dk_at dksX8_sign_1 2 rfl rfl)
theorem dX8_sign_26 : decode cX8_sign 26 = .ok (.aload_n 0, 1) := dk_42 (dk_at dksX8_sign_1 3 rfl rfl)
theorem dX8_sign_27 : decode cX8_sign 27 = .ok (.getfield 166, 3) := dk_180 0 166 (dk_at dksX8_sign_1 4 rfl rfl)
theorem dX8_sign_30 : decode cX8_sign 30 = .ok (.bipush 60, 2) := dk_16 60 (dk_at dksX8_sign_1 7 rfl rfl)
theorem dX8_sign_32 : decode cX8_sign 32 = .ok (.if_icmp .eq 66, 3) := dk_159 0 66 (dk_at dksX8_sign_1 9 rfl rfl)
theorem dX8_sign_35 : decode cX8_sign 35 = .ok (.aload_n 0, 1) := dk_42 (dk_at dksX8_sign_1 12 rfl rfl)
theorem dX8_sign_36 : decode cX8_sign 36 = .ok (.getfield 166, 3) := dk_180 0 166 (dk_at dksX8_sign_1 13 rfl rfl)
theorem dX8_sign_39 : decode cX8_sign 39 = .ok (.bipush 62, 2) := dk_16 62 (dk_at dksX8_sign_1 16 rfl rfl)
theorem dX8_sign_41 : decode cX8_sign 41 = .ok (.if_icmp .eq 57, 3) := dk_159 0 57 (dk_at dksX8_sign_1 18 rfl rfl)
theorem dX8_sign_44 : decode cX8_sign 44 = .ok (.aload_n 0, 1) := dk_42 (dk_at dksX8_sign_1 21 rfl rfl)
theorem dX8_sign_45 : decode cX8_sign 45 = .ok (.getfield 166, 3) := dk_180 0 166 (dk_at dksX8_sign_2 0 rfl rfl)
theorem dX8_sign_48 : decode cX8_sign 48 = .ok (.bipush 61, 2) := dk_16 61 (dk_at dksX8_sign_2 3 rfl rfl)
theorem dX8_sign_50 : decode cX8_sign 50 = .ok (.if_icmp .eq 48, 3) := dk_159 0 48 (dk_at dksX8_sign_2 5 rfl rfl)
theorem dX8_sign_53 : decode cX8_sign 53 = .ok (.aload_n 0, 1) := dk_42 (dk_at dksX8_sign_2 8 rfl rfl)
theorem dX8_sign_54 : decode cX8_sign 54 = .ok (.getfield 166, 3) := dk_180 0 166 (dk_at dksX8_sign_2 9 rfl rfl)
theorem dX8_sign_57 : decode cX8_sign 57 = .ok (.bipush 43, 2) := dk_16 43 (dk_at dksX8_sign_2 12 rfl rfl)
theorem dX8_sign_59 : decode cX8_sign 59 = .ok (.if_icmp .eq 39, 3) := dk_159 0 39 (dk_at dksX8_sign_2 14 rfl rfl)
theorem dX8_sign_62 : decode cX8_sign 62 = .ok (.aload_n 0, 1) := dk_42 (dk_at dksX8_sign_2 17 rfl rfl)
theorem dX8_sign_63 : decode cX8_sign 63 = .ok (.getfield 166, 3) := dk_180 0 166 (dk_at dksX8_sign_2 18 rfl rfl)
theorem dX8_sign_66 : decode cX8_sign 66 = .ok (.bipush 45, 2) := dk_16 45 (dk_at dksX8_sign_2 21 rfl rfl)
theorem dX8_sign_68 : decode cX8_sign 68 = .ok (.if_icmp .eq 30, 3) := dk_159 0 30 (dk_at dksX8_sign_3 0 rfl rfl)
theorem dX8_sign_71 : decode cX8_sign 71 = .ok (.aload_n 0, 1) := dk_42 (dk_at dksX8_sign_3 3 rfl rfl)
theorem dX8_sign_72 : decode cX8_sign 72 = .ok (.getfield 166, 3) := dk_180 0 166 (dk_at dksX8_sign_3 4 rfl rfl)
theorem dX8_sign_75 : decode cX8_sign 75 = .ok (.bipush 42, 2) := dk_16 42 (dk_at dksX8_sign_3 7 rfl rfl)
theorem dX8_sign_77 : decode cX8_sign 77 = .ok (.if_icmp .eq 21, 3) := dk_159 0 21 (dk_at dksX8_sign_3 9 rfl rfl)
theorem dX8_sign_80 : decode cX8_sign 80 = .ok (.aload_n 0, 1) := dk_42 (dk_at dksX8_sign_3 12 rfl rfl)
theorem dX8_sign_81 : decode cX8_sign 81 = .ok (.getfield 166, 3) := dk_180 0 166 (dk_at dksX8_sign_3 13 rfl rfl)
theorem dX8_sign_84 : decode cX8_sign 84 = .ok (.bipush 47, 2) := dk_16 47 (dk_at dksX8_sign_3 16 rfl rfl)
theorem dX8_sign_86 : decode cX8_sign 86 = .ok (.if_icmp .eq 12, 3) := dk_159 0 12 (dk_at dksX8_sign_3 18 rfl rfl)
theorem dX8_sign_89 : decode cX8_sign 89 = .ok (.aload_n 0, 1) := dk_42 (dk_at dksX8_sign_3 21 rfl rfl)
theorem dX8_sign_90 : decode cX8_sign 90 = .ok (.getfield 166, 3) := dk_180 0 166 (dk_at dksX8_sign_4 0 rfl rfl)
theorem dX8_sign_93 : decode cX8_sign 93 = .ok (.bipush 37, 2) := dk_16 37 (dk_at dksX8_sign_4 3 rfl rfl)
theorem dX8_sign_95 : decode cX8_sign 95 = .ok (.if_icmp .ne 10, 3) := dk_160 0 10 (dk_at dksX8_sign_4 5 rfl rfl)
theorem dX8_sign_98 : decode cX8_sign 98 = .ok (.aload_n 0, 1) := dk_42 (dk_at dksX8_sign_4 8 rfl rfl)
theorem dX8_sign_99 : decode cX8_sign 99 = .ok (.getfield 166, 3) := dk_180 0 166 (dk_at dksX8_sign_4 9 rfl rfl)
theorem dX8_sign_102 : decode cX8_sign 102 = .ok (.goto 4, 3) := dk_167 0 4 (dk_at dksX8_sign_4 12 rfl rfl)
theorem dX8_sign_105 : decode cX8_sign 105 = .ok (.iconst 0, 1) := dk_3 (dk_at dksX8_sign_4 15 rfl rfl)
theorem dX8_sign_106 : decode cX8_sign 106 = .ok (.ireturn, 1) := dk_172 (dk_at dksX8_sign_4 16 rfl rfl)
abbrev cX8_hasBracket : ByteArray := prog_20_method_30_code
def yX8_hasBracket : MethodName := ⟨RX8, "hasBracket", "()Z"⟩
def dkwX8_hasBracket_1 : List UInt8 := [160, 0, 7, 4, 167, 0, 4, 3, 60, 132, 2, 1, 167, 255, 224, 27, 172]
abbrev dktX8_hasBracket_1 : List UInt8 := dkwX8_hasBracket_1 ++ []
def dkwX8_hasBracket_0 : List UInt8 := [3, 60, 3, 61, 28, 42, 180, 1, 0, 162, 0, 30, 27, 154, 0, 14, 42, 180, 0, 33, 28, 46, 16, 20]
abbrev dktX8_hasBracket_0 : List UInt8 := dkwX8_hasBracket_0 ++ dktX8_hasBracket_1
theorem dksX8_hasBracket_0 : cX8_hasBracket.data.toList.drop 0 = dktX8_hasBracket_0 := by decide +kernel
theorem dksX8_hasBracket_1 : cX8_hasBracket.data.toList.drop 24 = dktX8_hasBracket_1 := dk_seg dksX8_hasBracket_0 24 rfl rfl
theorem dX8_hasBracket_0 : decode cX8_hasBracket 0 = .ok (.iconst 0, 1) := dk_3 (dk_at dksX8_hasBracket_0 0 rfl rfl)
theorem dX8_hasBracket_1 : decode cX8_hasBracket 1 = .ok (.istore_n 1, 1) := dk_60 (dk_at dksX8_hasBracket_0 1 rfl rfl)
theorem dX8_hasBracket_2 : decode cX8_hasBracket 2 = .ok (.iconst 0, 1) := dk_3 (dk_at dksX8_hasBracket_0 2 rfl rfl)
theorem dX8_hasBracket_3 : decode cX8_hasBracket 3 = .ok (.istore_n 2, 1) := dk_61 (dk_at dksX8_hasBracket_0 3 rfl rfl)
theorem dX8_hasBracket_4 : decode cX8_hasBracket 4 = .ok (.iload_n 2, 1) := dk_28 (dk_at dksX8_hasBracket_0 4 rfl rfl)
theorem dX8_hasBracket_5 : decode cX8_hasBracket 5 = .ok (.aload_n 0, 1) := dk_42 (dk_at dksX8_hasBracket_0 5 rfl rfl)
theorem dX8_hasBracket_6 : decode cX8_hasBracket 6 = .ok (.getfield 256, 3) := dk_180 1 0 (dk_at dksX8_hasBracket_0 6 rfl rfl)
theorem dX8_hasBracket_9 : decode cX8_hasBracket 9 = .ok (.if_icmp .ge 30, 3) := dk_162 0 30 (dk_at dksX8_hasBracket_0 9 rfl rfl)
theorem dX8_hasBracket_12 : decode cX8_hasBracket 12 = .ok (.iload_n 1, 1) := dk_27 (dk_at dksX8_hasBracket_0 12 rfl rfl)
theorem dX8_hasBracket_13 : decode cX8_hasBracket 13 = .ok (.ifCond .ne 14, 3) := dk_154 0 14 (dk_at dksX8_hasBracket_0 13 rfl rfl)
theorem dX8_hasBracket_16 : decode cX8_hasBracket 16 = .ok (.aload_n 0, 1) := dk_42 (dk_at dksX8_hasBracket_0 16 rfl rfl)
theorem dX8_hasBracket_17 : decode cX8_hasBracket 17 = .ok (.getfield 33, 3) := dk_180 0 33 (dk_at dksX8_hasBracket_0 17 rfl rfl)
theorem dX8_hasBracket_20 : decode cX8_hasBracket 20 = .ok (.iload_n 2, 1) := dk_28 (dk_at dksX8_hasBracket_0 20 rfl rfl)
theorem dX8_hasBracket_21 : decode cX8_hasBracket 21 = .ok (.iaload, 1) := dk_46 (dk_at dksX8_hasBracket_0 21 rfl rfl)
theorem dX8_hasBracket_22 : decode cX8_hasBracket 22 = .ok (.bipush 20, 2) := dk_16 20 (dk_at dksX8_hasBracket_0 22 rfl rfl)
theorem dX8_hasBracket_24 : decode cX8_hasBracket 24 = .ok (.if_icmp .ne 7, 3) := dk_160 0 7 (dk_at dksX8_hasBracket_1 0 rfl rfl)
theorem dX8_hasBracket_27 : decode cX8_hasBracket 27 = .ok (.iconst 1, 1) := dk_4 (dk_at dksX8_hasBracket_1 3 rfl rfl)
theorem dX8_hasBracket_28 : decode cX8_hasBracket 28 = .ok (.goto 4, 3) := dk_167 0 4 (dk_at dksX8_hasBracket_1 4 rfl rfl)
theorem dX8_hasBracket_31 : decode cX8_hasBracket 31 = .ok (.iconst 0, 1) := dk_3 (dk_at dksX8_hasBracket_1 7 rfl rfl)
theorem dX8_hasBracket_32 : decode cX8_hasBracket 32 = .ok (.istore_n 1, 1) := dk_60 (dk_at dksX8_hasBracket_1 8 rfl rfl)
theorem dX8_hasBracket_33 : decode cX8_hasBracket 33 = .ok (.iinc 2 1, 3) := dk_132 2 1 (dk_at dksX8_hasBracket_1 9 rfl rfl)
theorem dX8_hasBracket_36 : decode cX8_hasBracket 36 = .ok (.goto (-32), 3) := dk_167 255 224 (dk_at dksX8_hasBracket_1 12 rfl rfl)
theorem dX8_hasBracket_39 : decode cX8_hasBracket 39 = .ok (.iload_n 1, 1) := dk_27 (dk_at dksX8_hasBracket_1 15 rfl rfl)
theorem dX8_hasBracket_40 : decode cX8_hasBracket 40 = .ok (.ireturn, 1) := dk_172 (dk_at dksX8_hasBracket_1 16 rfl rfl)
abbrev cX8_close : ByteArray := prog_20_method_21_code
def yX8_close : MethodName := ⟨RX8, "close", "(I)V"⟩
def dkwX8_close_4 : List UInt8 := [182, 1, 6, 167, 255, 158, 177]
abbrev dktX8_close_4 : List UInt8 := dkwX8_close_4 ++ []
def dkwX8_close_3 : List UInt8 := [89, 180, 1, 10, 4, 100, 181, 1, 10, 167, 255, 175, 42, 6, 42, 180, 0, 33, 42, 180, 1, 0, 46]
abbrev dktX8_close_3 : List UInt8 := dkwX8_close_3 ++ dktX8_close_4
def dkwX8_close_2 : List UInt8 := [181, 1, 0, 42, 180, 0, 33, 42, 180, 1, 0, 46, 16, 21, 160, 0, 22, 42, 5, 3, 182, 1, 6, 42]
abbrev dktX8_close_2 : List UInt8 := dkwX8_close_2 ++ dktX8_close_3
def dkwX8_close_1 : List UInt8 := [180, 0, 33, 42, 180, 1, 0, 4, 100, 46, 184, 1, 3, 27, 161, 0, 63, 42, 89, 180, 1, 0, 4, 100]
abbrev dktX8_close_1 : List UInt8 := dkwX8_close_1 ++ dktX8_close_2
def dkwX8_close_0 : List UInt8 := [42, 180, 1, 0, 158, 0, 97, 42, 180, 0, 33, 42, 180, 1, 0, 4, 100, 46, 16, 20, 159, 0, 81, 42]
abbrev dktX8_close_0 : List UInt8 := dkwX8_close_0 ++ dktX8_close_1
theorem dksX8_close_0 : cX8_close.data.toList.drop 0 = dktX8_close_0 := by decide +kernel
theorem dksX8_close_1 : cX8_close.data.toList.drop 24 = dktX8_close_1 := dk_seg dksX8_close_0 24 rfl rfl
theorem dksX8_close_2 : cX8_close.data.toList.drop 48 = dktX8_close_2 := dk_seg dksX8_close_1 24 rfl rfl
theorem dksX8_close_3 : cX8_close.data.toList.drop 72 = dktX8_close_3 := dk_seg dksX8_close_2 24 rfl rfl
theorem dksX8_close_4 : cX8_close.data.toList.drop 95 = dktX8_close_4 := dk_seg dksX8_close_3 23 rfl rfl
theorem dX8_close_0 : decode cX8_close 0 = .ok (.aload_n 0, 1) := dk_42 (dk_at dksX8_close_0 0 rfl rfl)
theorem dX8_close_1 : decode cX8_close 1 = .ok (.getfield 256, 3) := dk_180 1 0 (dk_at dksX8_close_0 1 rfl rfl)
theorem dX8_close_4 : decode cX8_close 4 = .ok (.ifCond .le 97, 3) := dk_158 0 97 (dk_at dksX8_close_0 4 rfl rfl)
theorem dX8_close_7 : decode cX8_close 7 = .ok (.aload_n 0, 1) := dk_42 (dk_at dksX8_close_0 7 rfl rfl)
theorem dX8_close_8 : decode cX8_close 8 = .ok (.getfield 33, 3) := dk_180 0 33 (dk_at dksX8_close_0 8 rfl rfl)
theorem dX8_close_11 : decode cX8_close 11 = .ok (.aload_n 0, 1) := dk_42 (dk_at dksX8_close_0 11 rfl rfl)
theorem dX8_close_12 : decode cX8_close 12 = .ok (.getfield 256, 3) := dk_180 1 0 (dk_at dksX8_close_0 12 rfl rfl)
theorem dX8_close_15 : decode cX8_close 15 = .ok (.iconst 1, 1) := dk_4 (dk_at dksX8_close_0 15 rfl rfl)
theorem dX8_close_16 : decode cX8_close 16 = .ok (.isub, 1) := dk_100 (dk_at dksX8_close_0 16 rfl rfl)
theorem dX8_close_17 : decode cX8_close 17 = .ok (.iaload, 1) := dk_46 (dk_at dksX8_close_0 17 rfl rfl)
theorem dX8_close_18 : decode cX8_close 18 = .ok (.bipush 20, 2) := dk_16 20 (dk_at dksX8_close_0 18 rfl rfl)
theorem dX8_close_20 : decode cX8_close 20 = .ok (.if_icmp .eq 81, 3) := dk_159 0 81 (dk_at dksX8_close_0 20 rfl rfl)
theorem dX8_close_23 : decode cX8_close 23 = .ok (.aload_n 0, 1) := dk_42 (dk_at dksX8_close_0 23 rfl rfl)
theorem dX8_close_24 : decode cX8_close 24 = .ok (.getfield 33, 3) := dk_180 0 33 (dk_at dksX8_close_1 0 rfl rfl)
theorem dX8_close_27 : decode cX8_close 27 = .ok (.aload_n 0, 1) := dk_42 (dk_at dksX8_close_1 3 rfl rfl)
theorem dX8_close_28 : decode cX8_close 28 = .ok (.getfield 256, 3) := dk_180 1 0 (dk_at dksX8_close_1 4 rfl rfl)
theorem dX8_close_31 : decode cX8_close 31 = .ok (.iconst 1, 1) := dk_4 (dk_at dksX8_close_1 7 rfl rfl)
theorem dX8_close_32 : decode cX8_close 32 = .ok (.isub, 1) := dk_100 (dk_at dksX8_close_1 8 rfl rfl)
theorem dX8_close_33 : decode cX8_close 33 = .ok (.iaload, 1) := dk_46 (dk_at dksX8_close_1 9 rfl rfl)
theorem dX8_close_34 : decode cX8_close 34 = .ok (.invokestatic 259, 3) := dk_184 1 3 (dk_at dksX8_close_1 10 rfl rfl)
theorem dX8_close_37 : decode cX8_close 37 = .ok (.iload_n 1, 1) := dk_27 (dk_at dksX8_close_1 13 rfl rfl)
theorem dX8_close_38 : decode cX8_close 38 = .ok (.if_icmp .lt 63, 3) := dk_161 0 63 (dk_at dksX8_close_1 14 rfl rfl)
theorem dX8_close_41 : decode cX8_close 41 = .ok (.aload_n 0, 1) := dk_42 (dk_at dksX8_close_1 17 rfl rfl)
theorem dX8_close_42 : decode cX8_close 42 = .ok (.dup, 1) := dk_89 (dk_at dksX8_close_1 18 rfl rfl)
theorem dX8_close_43 : decode cX8_close 43 = .ok (.getfield 256, 3) := dk_180 1 0 (dk_at dksX8_close_1 19 rfl rfl)
theorem dX8_close_46 : decode cX8_close 46 = .ok (.iconst 1, 1) := dk_4 (dk_at dksX8_close_1 22 rfl rfl)
theorem dX8_close_47 : decode cX8_close 47 = .ok (.isub, 1) := dk_100 (dk_at dksX8_close_1 23 rfl rfl)
theorem dX8_close_48 : decode cX8_close 48 = .ok (.putfield 256, 3) := dk_181 1 0 (dk_at dksX8_close_2 0 rfl rfl)
theorem dX8_close_51 : decode cX8_close 51 = .ok (.aload_n 0, 1) := dk_42 (dk_at dksX8_close_2 3 rfl rfl)
theorem dX8_close_52 : decode cX8_close 52 = .ok (.getfield 33, 3) := dk_180 0 33 (dk_at dksX8_close_2 4 rfl rfl)
theorem dX8_close_55 : decode cX8_close 55 = .ok (.aload_n 0, 1) := dk_42 (dk_at dksX8_close_2 7 rfl rfl)
theorem dX8_close_56 : decode cX8_close 56 = .ok (.getfield 256, 3) := dk_180 1 0 (dk_at dksX8_close_2 8 rfl rfl)
theorem dX8_close_59 : decode cX8_close 59 = .ok (.iaload, 1) := dk_46 (dk_at dksX8_close_2 11 rfl rfl)
theorem dX8_close_60 : decode cX8_close 60 = .ok (.bipush 21, 2) := dk_16 21 (dk_at dksX8_close_2 12 rfl rfl)
theorem dX8_close_62 : decode cX8_close 62 = .ok (.if_icmp .ne 22, 3) := dk_160 0 22 (dk_at dksX8_close_2 14 rfl rfl)
theorem dX8_close_65 : decode cX8_close 65 = .ok (.aload_n 0, 1) := dk_42 (dk_at dksX8_close_2 17 rfl rfl)
theorem dX8_close_66 : decode cX8_close 66 = .ok (.iconst 2, 1) := dk_5 (dk_at dksX8_close_2 18 rfl rfl)
theorem dX8_close_67 : decode cX8_close 67 = .ok (.iconst 0, 1) := dk_3 (dk_at dksX8_close_2 19 rfl rfl)
theorem dX8_close_68 : decode cX8_close 68 = .ok (.invokevirtual 262, 3) := dk_182 1 6 (dk_at dksX8_close_2 20 rfl rfl)
theorem dX8_close_71 : decode cX8_close 71 = .ok (.aload_n 0, 1) := dk_42 (dk_at dksX8_close_2 23 rfl rfl)
theorem dX8_close_72 : decode cX8_close 72 = .ok (.dup, 1) := dk_89 (dk_at dksX8_close_3 0 rfl rfl)
theorem dX8_close_73 : decode cX8_close 73 = .ok (.getfield 266, 3) := dk_180 1 10 (dk_at dksX8_close_3 1 rfl rfl)
theorem dX8_close_76 : decode cX8_close 76 = .ok (.iconst 1, 1) := dk_4 (dk_at dksX8_close_3 4 rfl rfl)
theorem dX8_close_77 : decode cX8_close 77 = .ok (.isub, 1) := dk_100 (dk_at dksX8_close_3 5 rfl rfl)
theorem dX8_close_78 : decode cX8_close 78 = .ok (.putfield 266, 3) := dk_181 1 10 (dk_at dksX8_close_3 6 rfl rfl)
theorem dX8_close_81 : decode cX8_close 81 = .ok (.goto (-81), 3) := dk_167 255 175 (dk_at dksX8_close_3 9 rfl rfl)
theorem dX8_close_84 : decode cX8_close 84 = .ok (.aload_n 0, 1) := dk_42 (dk_at dksX8_close_3 12 rfl rfl)
theorem dX8_close_85 : decode cX8_close 85 = .ok (.iconst 3, 1) := dk_6 (dk_at dksX8_close_3 13 rfl rfl)
theorem dX8_close_86 : decode cX8_close 86 = .ok (.aload_n 0, 1) := dk_42 (dk_at dksX8_close_3 14 rfl rfl)
theorem dX8_close_87 : decode cX8_close 87 = .ok (.getfield 33, 3) := dk_180 0 33 (dk_at dksX8_close_3 15 rfl rfl)
theorem dX8_close_90 : decode cX8_close 90 = .ok (.aload_n 0, 1) := dk_42 (dk_at dksX8_close_3 18 rfl rfl)
theorem dX8_close_91 : decode cX8_close 91 = .ok (.getfield 256, 3) := dk_180 1 0 (dk_at dksX8_close_3 19 rfl rfl)
theorem dX8_close_94 : decode cX8_close 94 = .ok (.iaload, 1) := dk_46 (dk_at dksX8_close_3 22 rfl rfl)
theorem dX8_close_95 : decode cX8_close 95 = .ok (.invokevirtual 262, 3) := dk_182 1 6 (dk_at dksX8_close_4 0 rfl rfl)
theorem dX8_close_98 : decode cX8_close 98 = .ok (.goto (-98), 3) := dk_167 255 158 (dk_at dksX8_close_4 3 rfl rfl)
theorem dX8_close_101 : decode cX8_close 101 = .ok (.return_, 1) := dk_177 (dk_at dksX8_close_4 6 rfl rfl)
abbrev cX8_hasRelation : ByteArray := prog_20_method_22_code
def yX8_hasRelation : MethodName := ⟨RX8, "hasRelation", "()Z"⟩
def dkwX8_hasRelation_3 : List UInt8 := [167, 0, 4, 3, 172]
abbrev dktX8_hasRelation_3 : List UInt8 := dkwX8_hasRelation_3 ++ []
def dkwX8_hasRelation_2 : List UInt8 := [180, 0, 33, 27, 46, 16, 20, 159, 0, 20, 42, 180, 0, 33, 27, 46, 184, 1, 3, 7, 160, 0, 7, 4]
abbrev dktX8_hasRelation_2 : List UInt8 := dkwX8_hasRelation_2 ++ dktX8_hasRelation_3
def dkwX8_hasRelation_1 : List UInt8 := [180, 0, 33, 27, 46, 184, 1, 3, 7, 164, 0, 9, 132, 1, 255, 167, 255, 225, 27, 155, 0, 31, 42]
abbrev dktX8_hasRelation_1 : List UInt8 := dkwX8_hasRelation_1 ++ dktX8_hasRelation_2
def dkwX8_hasRelation_0 : List UInt8 := [42, 180, 1, 0, 4, 100, 60, 27, 155, 0, 33, 42, 180, 0, 33, 27, 46, 16, 20, 159, 0, 22, 42]
abbrev dktX8_hasRelation_0 : List UInt8 := dkwX8_hasRelation_0 ++ dktX8_hasRelation_1
theorem dksX8_hasRelation_0 : cX8_hasRelation.data.toList.drop 0 = dktX8_hasRelation_0 := by decide +kernel
theorem dksX8_hasRelation_1 : cX8_hasRelation.data.toList.drop 23 = dktX8_hasRelation_1 := dk_seg dksX8_hasRelation_0 23 rfl rfl
theorem dksX8_hasRelation_2 : cX8_hasRelation.data.toList.drop 46 = dktX8_hasRelation_2 := dk_seg dksX8_hasRelation_1 23 rfl rfl
theorem dksX8_hasRelation_3 : cX8_hasRelation.data.toList.drop 70 = dktX8_hasRelation_3 := dk_seg dksX8_hasRelation_2 24 rfl rfl
theorem dX8_hasRelation_0 : decode cX8_hasRelation 0 = .ok (.aload_n 0, 1) := dk_42 (dk_at dksX8_hasRelation_0 0 rfl rfl)
theorem dX8_hasRelation_1 : decode cX8_hasRelation 1 = .ok (.getfield 256, 3) := dk_180 1 0 (dk_at dksX8_hasRelation_0 1 rfl rfl)
theorem dX8_hasRelation_4 : decode cX8_hasRelation 4 = .ok (.iconst 1, 1) := dk_4 (dk_at dksX8_hasRelation_0 4 rfl rfl)
theorem dX8_hasRelation_5 : decode cX8_hasRelation 5 = .ok (.isub, 1) := dk_100 (dk_at dksX8_hasRelation_0 5 rfl rfl)
theorem dX8_hasRelation_6 : decode cX8_hasRelation 6 = .ok (.istore_n 1, 1) := dk_60 (dk_at dksX8_hasRelation_0 6 rfl rfl)
theorem dX8_hasRelation_7 : decode cX8_hasRelation 7 = .ok (.iload_n 1, 1) := dk_27 (dk_at dksX8_hasRelation_0 7 rfl rfl)
theorem dX8_hasRelation_8 : decode cX8_hasRelation 8 = .ok (.ifCond .lt 33, 3) := dk_155 0 33 (dk_at dksX8_hasRelation_0 8 rfl rfl)
theorem dX8_hasRelation_11 : decode cX8_hasRelation 11 = .ok (.aload_n 0, 1) := dk_42 (dk_at dksX8_hasRelation_0 11 rfl rfl)
theorem dX8_hasRelation_12 : decode cX8_hasRelation 12 = .ok (.getfield 33, 3) := dk_180 0 33 (dk_at dksX8_hasRelation_0 12 rfl rfl)
theorem dX8_hasRelation_15 : decode cX8_hasRelation 15 = .ok (.iload_n 1, 1) := dk_27 (dk_at dksX8_hasRelation_0 15 rfl rfl)
theorem dX8_hasRelation_16 : decode cX8_hasRelation 16 = .ok (.iaload, 1) := dk_46 (dk_at dksX8_hasRelation_0 16 rfl rfl)
theorem dX8_hasRelation_17 : decode cX8_hasRelation 17 = .ok (.bipush 20, 2) := dk_16 20 (dk_at dksX8_hasRelation_0 17 rfl rfl)
theorem dX8_hasRelation_19 : decode cX8_hasRelation 19 = .ok (.if_icmp .eq 22, 3) := dk_159 0 22 (dk_at dksX8_hasRelation_0 19 rfl rfl)
theorem dX8_hasRelation_22 : decode cX8_hasRelation 22 = .ok (.aload_n 0, 1) := dk_42 (dk_at dksX8_hasRelation_0 22 rfl rfl)
theorem dX8_hasRelation_23 : decode cX8_hasRelation 23 = .ok (.getfield 33, 3) := dk_180 0 33 (dk_at dksX8_hasRelation_1 0 rfl rfl)
theorem dX8_hasRelation_26 : decode cX8_hasRelation 26 = .ok (.iload_n 1, 1) := dk_27 (dk_at dksX8_hasRelation_1 3 rfl rfl)
theorem dX8_hasRelation_27 : decode cX8_hasRelation 27 = .ok (.iaload, 1) := dk_46 (dk_at dksX8_hasRelation_1 4 rfl rfl)
theorem dX8_hasRelation_28 : decode cX8_hasRelation 28 = .ok (.invokestatic 259, 3) := dk_184 1 3 (dk_at dksX8_hasRelation_1 5 rfl rfl)
theorem dX8_hasRelation_31 : decode cX8_hasRelation 31 = .ok (.iconst 4, 1) := dk_7 (dk_at dksX8_hasRelation_1 8 rfl rfl)
theorem dX8_hasRelation_32 : decode cX8_hasRelation 32 = .ok (.if_icmp .le 9, 3) := dk_164 0 9 (dk_at dksX8_hasRelation_1 9 rfl rfl)
theorem dX8_hasRelation_35 : decode cX8_hasRelation 35 = .ok (.iinc 1 (-1), 3) := dk_132 1 255 (dk_at dksX8_hasRelation_1 12 rfl rfl)
theorem dX8_hasRelation_38 : decode cX8_hasRelation 38 = .ok (.goto (-31), 3) := dk_167 255 225 (dk_at dksX8_hasRelation_1 15 rfl rfl)
theorem dX8_hasRelation_41 : decode cX8_hasRelation 41 = .ok (.iload_n 1, 1) := dk_27 (dk_at dksX8_hasRelation_1 18 rfl rfl)
theorem dX8_hasRelation_42 : decode cX8_hasRelation 42 = .ok (.ifCond .lt 31, 3) := dk_155 0 31 (dk_at dksX8_hasRelation_1 19 rfl rfl)
theorem dX8_hasRelation_45 : decode cX8_hasRelation 45 = .ok (.aload_n 0, 1) := dk_42 (dk_at dksX8_hasRelation_1 22 rfl rfl)
theorem dX8_hasRelation_46 : decode cX8_hasRelation 46 = .ok (.getfield 33, 3) := dk_180 0 33 (dk_at dksX8_hasRelation_2 0 rfl rfl)
theorem dX8_hasRelation_49 : decode cX8_hasRelation 49 = .ok (.iload_n 1, 1) := dk_27 (dk_at dksX8_hasRelation_2 3 rfl rfl)
theorem dX8_hasRelation_50 : decode cX8_hasRelation 50 = .ok (.iaload, 1) := dk_46 (dk_at dksX8_hasRelation_2 4 rfl rfl)
theorem dX8_hasRelation_51 : decode cX8_hasRelation 51 = .ok (.bipush 20, 2) := dk_16 20 (dk_at dksX8_hasRelation_2 5 rfl rfl)
theorem dX8_hasRelation_53 : decode cX8_hasRelation 53 = .ok (.if_icmp .eq 20, 3) := dk_159 0 20 (dk_at dksX8_hasRelation_2 7 rfl rfl)
theorem dX8_hasRelation_56 : decode cX8_hasRelation 56 = .ok (.aload_n 0, 1) := dk_42 (dk_at dksX8_hasRelation_2 10 rfl rfl)
theorem dX8_hasRelation_57 : decode cX8_hasRelation 57 = .ok (.getfield 33, 3) := dk_180 0 33 (dk_at dksX8_hasRelation_2 11 rfl rfl)
theorem dX8_hasRelation_60 : decode cX8_hasRelation 60 = .ok (.iload_n 1, 1) := dk_27 (dk_at dksX8_hasRelation_2 14 rfl rfl)
theorem dX8_hasRelation_61 : decode cX8_hasRelation 61 = .ok (.iaload, 1) := dk_46 (dk_at dksX8_hasRelation_2 15 rfl rfl)
theorem dX8_hasRelation_62 : decode cX8_hasRelation 62 = .ok (.invokestatic 259, 3) := dk_184 1 3 (dk_at dksX8_hasRelation_2 16 rfl rfl)
theorem dX8_hasRelation_65 : decode cX8_hasRelation 65 = .ok (.iconst 4, 1) := dk_7 (dk_at dksX8_hasRelation_2 19 rfl rfl)
theorem dX8_hasRelation_66 : decode cX8_hasRelation 66 = .ok (.if_icmp .ne 7, 3) := dk_160 0 7 (dk_at dksX8_hasRelation_2 20 rfl rfl)
theorem dX8_hasRelation_69 : decode cX8_hasRelation 69 = .ok (.iconst 1, 1) := dk_4 (dk_at dksX8_hasRelation_2 23 rfl rfl)
theorem dX8_hasRelation_70 : decode cX8_hasRelation 70 = .ok (.goto 4, 3) := dk_167 0 4 (dk_at dksX8_hasRelation_3 0 rfl rfl)
theorem dX8_hasRelation_73 : decode cX8_hasRelation 73 = .ok (.iconst 0, 1) := dk_3 (dk_at dksX8_hasRelation_3 3 rfl rfl)
theorem dX8_hasRelation_74 : decode cX8_hasRelation 74 = .ok (.ireturn, 1) := dk_172 (dk_at dksX8_hasRelation_3 4 rfl rfl)
abbrev cX8_begin : ByteArray := prog_20_method_52_code
def yX8_begin : MethodName := ⟨RX8, "begin", "()V"⟩
def dkwX8_begin_5 : List UInt8 := [180, 0, 96, 16, 30, 27, 96, 42, 180, 0, 81, 27, 46, 79, 132, 1, 1, 167, 255, 185, 177]
abbrev dktX8_begin_5 : List UInt8 := dkwX8_begin_5 ++ []
def dkwX8_begin_4 : List UInt8 := [180, 0, 75, 27, 46, 79, 42, 180, 0, 96, 16, 24, 27, 96, 42, 180, 0, 78, 27, 46, 79, 42]
abbrev dktX8_begin_4 : List UInt8 := dkwX8_begin_4 ++ dktX8_begin_5
def dkwX8_begin_3 : List UInt8 := [180, 0, 96, 16, 12, 27, 96, 42, 180, 0, 72, 27, 46, 79, 42, 180, 0, 96, 16, 18, 27, 96, 42]
abbrev dktX8_begin_3 : List UInt8 := dkwX8_begin_3 ++ dktX8_begin_4
def dkwX8_begin_2 : List UInt8 := [16, 6, 27, 96, 2, 79, 132, 1, 1, 167, 255, 223, 3, 60, 27, 42, 180, 1, 134, 162, 0, 69, 42]
abbrev dktX8_begin_2 : List UInt8 := dkwX8_begin_2 ++ dktX8_begin_3
def dkwX8_begin_1 : List UInt8 := [42, 180, 1, 131, 162, 0, 31, 42, 180, 0, 96, 27, 42, 180, 0, 66, 27, 46, 79, 42, 180, 0, 96]
abbrev dktX8_begin_1 : List UInt8 := dkwX8_begin_1 ++ dktX8_begin_2
def dkwX8_begin_0 : List UInt8 := [3, 60, 27, 16, 39, 162, 0, 16, 42, 180, 0, 96, 27, 3, 79, 132, 1, 1, 167, 255, 240, 3, 60, 27]
abbrev dktX8_begin_0 : List UInt8 := dkwX8_begin_0 ++ dktX8_begin_1
theorem dksX8_begin_0 : cX8_begin.data.toList.drop 0 = dktX8_begin_0 := by decide +kernel
theorem dksX8_begin_1 : cX8_begin.data.toList.drop 24 = dktX8_begin_1 := dk_seg dksX8_begin_0 24 rfl rfl
theorem dksX8_begin_2 : cX8_begin.data.toList.drop 47 = dktX8_begin_2 := dk_seg dksX8_begin_1 23 rfl rfl
theorem dksX8_begin_3 : cX8_begin.data.toList.drop 70 = dktX8_begin_3 := dk_seg dksX8_begin_2 23 rfl rfl
theorem dksX8_begin_4 : cX8_begin.data.toList.drop 93 = dktX8_begin_4 := dk_seg dksX8_begin_3 23 rfl rfl
theorem dksX8_begin_5 : cX8_begin.data.toList.drop 115 = dktX8_begin_5 := dk_seg dksX8_begin_4 22 rfl rfl
theorem dX8_begin_0 : decode cX8_begin 0 = .ok (.iconst 0, 1) := dk_3 (dk_at dksX8_begin_0 0 rfl rfl)
theorem dX8_begin_1 : decode cX8_begin 1 = .ok (.istore_n 1, 1) := dk_60 (dk_at dksX8_begin_0 1 rfl rfl)
theorem dX8_begin_2 : decode cX8_begin 2 = .ok (.iload_n 1, 1) := dk_27 (dk_at dksX8_begin_0 2 rfl rfl)
theorem dX8_begin_3 : decode cX8_begin 3 = .ok (.bipush 39, 2) := dk_16 39 (dk_at dksX8_begin_0 3 rfl rfl)
theorem dX8_begin_5 : decode cX8_begin 5 = .ok (.if_icmp .ge 16, 3) := dk_162 0 16 (dk_at dksX8_begin_0 5 rfl rfl)
theorem dX8_begin_8 : decode cX8_begin 8 = .ok (.aload_n 0, 1) := dk_42 (dk_at dksX8_begin_0 8 rfl rfl)
theorem dX8_begin_9 : decode cX8_begin 9 = .ok (.getfield 96, 3) := dk_180 0 96 (dk_at dksX8_begin_0 9 rfl rfl)
theorem dX8_begin_12 : decode cX8_begin 12 = .ok (.iload_n 1, 1) := dk_27 (dk_at dksX8_begin_0 12 rfl rfl)
theorem dX8_begin_13 : decode cX8_begin 13 = .ok (.iconst 0, 1) := dk_3 (dk_at dksX8_begin_0 13 rfl rfl)
theorem dX8_begin_14 : decode cX8_begin 14 = .ok (.iastore, 1) := dk_79 (dk_at dksX8_begin_0 14 rfl rfl)
theorem dX8_begin_15 : decode cX8_begin 15 = .ok (.iinc 1 1, 3) := dk_132 1 1 (dk_at dksX8_begin_0 15 rfl rfl)
theorem dX8_begin_18 : decode cX8_begin 18 = .ok (.goto (-16), 3) := dk_167 255 240 (dk_at dksX8_begin_0 18 rfl rfl)
theorem dX8_begin_21 : decode cX8_begin 21 = .ok (.iconst 0, 1) := dk_3 (dk_at dksX8_begin_0 21 rfl rfl)
theorem dX8_begin_22 : decode cX8_begin 22 = .ok (.istore_n 1, 1) := dk_60 (dk_at dksX8_begin_0 22 rfl rfl)
theorem dX8_begin_23 : decode cX8_begin 23 = .ok (.iload_n 1, 1) := dk_27 (dk_at dksX8_begin_0 23 rfl rfl)
theorem dX8_begin_24 : decode cX8_begin 24 = .ok (.aload_n 0, 1) := dk_42 (dk_at dksX8_begin_1 0 rfl rfl)
theorem dX8_begin_25 : decode cX8_begin 25 = .ok (.getfield 387, 3) := dk_180 1 131 (dk_at dksX8_begin_1 1 rfl rfl)
theorem dX8_begin_28 : decode cX8_begin 28 = .ok (.if_icmp .ge 31, 3) := dk_162 0 31 (dk_at dksX8_begin_1 4 rfl rfl)
theorem dX8_begin_31 : decode cX8_begin 31 = .ok (.aload_n 0, 1) := dk_42 (dk_at dksX8_begin_1 7 rfl rfl)
theorem dX8_begin_32 : decode cX8_begin 32 = .ok (.getfield 96, 3) := dk_180 0 96 (dk_at dksX8_begin_1 8 rfl rfl)
theorem dX8_begin_35 : decode cX8_begin 35 = .ok (.iload_n 1, 1) := dk_27 (dk_at dksX8_begin_1 11 rfl rfl)
theorem dX8_begin_36 : decode cX8_begin 36 = .ok (.aload_n 0, 1) := dk_42 (dk_at dksX8_begin_1 12 rfl rfl)
theorem dX8_begin_37 : decode cX8_begin 37 = .ok (.getfield 66, 3) := dk_180 0 66 (dk_at dksX8_begin_1 13 rfl rfl)
theorem dX8_begin_40 : decode cX8_begin 40 = .ok (.iload_n 1, 1) := dk_27 (dk_at dksX8_begin_1 16 rfl rfl)
theorem dX8_begin_41 : decode cX8_begin 41 = .ok (.iaload, 1) := dk_46 (dk_at dksX8_begin_1 17 rfl rfl)
theorem dX8_begin_42 : decode cX8_begin 42 = .ok (.iastore, 1) := dk_79 (dk_at dksX8_begin_1 18 rfl rfl)
theorem dX8_begin_43 : decode cX8_begin 43 = .ok (.aload_n 0, 1) := dk_42 (dk_at dksX8_begin_1 19 rfl rfl)
theorem dX8_begin_44 : decode cX8_begin 44 = .ok (.getfield 96, 3) := dk_180 0 96 (dk_at dksX8_begin_1 20 rfl rfl)
theorem dX8_begin_47 : decode cX8_begin 47 = .ok (.bipush 6, 2) := dk_16 6 (dk_at dksX8_begin_2 0 rfl rfl)
theorem dX8_begin_49 : decode cX8_begin 49 = .ok (.iload_n 1, 1) := dk_27 (dk_at dksX8_begin_2 2 rfl rfl)
theorem dX8_begin_50 : decode cX8_begin 50 = .ok (.iadd, 1) := dk_96 (dk_at dksX8_begin_2 3 rfl rfl)
theorem dX8_begin_51 : decode cX8_begin 51 = .ok (.iconst (-1), 1) := dk_2 (dk_at dksX8_begin_2 4 rfl rfl)
theorem dX8_begin_52 : decode cX8_begin 52 = .ok (.iastore, 1) := dk_79 (dk_at dksX8_begin_2 5 rfl rfl)
theorem dX8_begin_53 : decode cX8_begin 53 = .ok (.iinc 1 1, 3) := dk_132 1 1 (dk_at dksX8_begin_2 6 rfl rfl)
theorem dX8_begin_56 : decode cX8_begin 56 = .ok (.goto (-33), 3) := dk_167 255 223 (dk_at dksX8_begin_2 9 rfl rfl)
theorem dX8_begin_59 : decode cX8_begin 59 = .ok (.iconst 0, 1) := dk_3 (dk_at dksX8_begin_2 12 rfl rfl)
theorem dX8_begin_60 : decode cX8_begin 60 = .ok (.istore_n 1, 1) := dk_60 (dk_at dksX8_begin_2 13 rfl rfl)
theorem dX8_begin_61 : decode cX8_begin 61 = .ok (.iload_n 1, 1) := dk_27 (dk_at dksX8_begin_2 14 rfl rfl)
theorem dX8_begin_62 : decode cX8_begin 62 = .ok (.aload_n 0, 1) := dk_42 (dk_at dksX8_begin_2 15 rfl rfl)
theorem dX8_begin_63 : decode cX8_begin 63 = .ok (.getfield 390, 3) := dk_180 1 134 (dk_at dksX8_begin_2 16 rfl rfl)
theorem dX8_begin_66 : decode cX8_begin 66 = .ok (.if_icmp .ge 69, 3) := dk_162 0 69 (dk_at dksX8_begin_2 19 rfl rfl)
theorem dX8_begin_69 : decode cX8_begin 69 = .ok (.aload_n 0, 1) := dk_42 (dk_at dksX8_begin_2 22 rfl rfl)
theorem dX8_begin_70 : decode cX8_begin 70 = .ok (.getfield 96, 3) := dk_180 0 96 (dk_at dksX8_begin_3 0 rfl rfl)
theorem dX8_begin_73 : decode cX8_begin 73 = .ok (.bipush 12, 2) := dk_16 12 (dk_at dksX8_begin_3 3 rfl rfl)
theorem dX8_begin_75 : decode cX8_begin 75 = .ok (.iload_n 1, 1) := dk_27 (dk_at dksX8_begin_3 5 rfl rfl)
theorem dX8_begin_76 : decode cX8_begin 76 = .ok (.iadd, 1) := dk_96 (dk_at dksX8_begin_3 6 rfl rfl)
theorem dX8_begin_77 : decode cX8_begin 77 = .ok (.aload_n 0, 1) := dk_42 (dk_at dksX8_begin_3 7 rfl rfl)
theorem dX8_begin_78 : decode cX8_begin 78 = .ok (.getfield 72, 3) := dk_180 0 72 (dk_at dksX8_begin_3 8 rfl rfl)
theorem dX8_begin_81 : decode cX8_begin 81 = .ok (.iload_n 1, 1) := dk_27 (dk_at dksX8_begin_3 11 rfl rfl)
theorem dX8_begin_82 : decode cX8_begin 82 = .ok (.iaload, 1) := dk_46 (dk_at dksX8_begin_3 12 rfl rfl)
theorem dX8_begin_83 : decode cX8_begin 83 = .ok (.iastore, 1) := dk_79 (dk_at dksX8_begin_3 13 rfl rfl)
theorem dX8_begin_84 : decode cX8_begin 84 = .ok (.aload_n 0, 1) := dk_42 (dk_at dksX8_begin_3 14 rfl rfl)
theorem dX8_begin_85 : decode cX8_begin 85 = .ok (.getfield 96, 3) := dk_180 0 96 (dk_at dksX8_begin_3 15 rfl rfl)
theorem dX8_begin_88 : decode cX8_begin 88 = .ok (.bipush 18, 2) := dk_16 18 (dk_at dksX8_begin_3 18 rfl rfl)
theorem dX8_begin_90 : decode cX8_begin 90 = .ok (.iload_n 1, 1) := dk_27 (dk_at dksX8_begin_3 20 rfl rfl)
theorem dX8_begin_91 : decode cX8_begin 91 = .ok (.iadd, 1) := dk_96 (dk_at dksX8_begin_3 21 rfl rfl)
theorem dX8_begin_92 : decode cX8_begin 92 = .ok (.aload_n 0, 1) := dk_42 (dk_at dksX8_begin_3 22 rfl rfl)
theorem dX8_begin_93 : decode cX8_begin 93 = .ok (.getfield 75, 3) := dk_180 0 75 (dk_at dksX8_begin_4 0 rfl rfl)
theorem dX8_begin_96 : decode cX8_begin 96 = .ok (.iload_n 1, 1) := dk_27 (dk_at dksX8_begin_4 3 rfl rfl)
theorem dX8_begin_97 : decode cX8_begin 97 = .ok (.iaload, 1) := dk_46 (dk_at dksX8_begin_4 4 rfl rfl)
theorem dX8_begin_98 : decode cX8_begin 98 = .ok (.iastore, 1) := dk_79 (dk_at dksX8_begin_4 5 rfl rfl)
theorem dX8_begin_99 : decode cX8_begin 99 = .ok (.aload_n 0, 1) := dk_42 (dk_at dksX8_begin_4 6 rfl rfl)
theorem dX8_begin_100 : decode cX8_begin 100 = .ok (.getfield 96, 3) := dk_180 0 96 (dk_at dksX8_begin_4 7 rfl rfl)
theorem dX8_begin_103 : decode cX8_begin 103 = .ok (.bipush 24, 2) := dk_16 24 (dk_at dksX8_begin_4 10 rfl rfl)
theorem dX8_begin_105 : decode cX8_begin 105 = .ok (.iload_n 1, 1) := dk_27 (dk_at dksX8_begin_4 12 rfl rfl)
theorem dX8_begin_106 : decode cX8_begin 106 = .ok (.iadd, 1) := dk_96 (dk_at dksX8_begin_4 13 rfl rfl)
theorem dX8_begin_107 : decode cX8_begin 107 = .ok (.aload_n 0, 1) := dk_42 (dk_at dksX8_begin_4 14 rfl rfl)
theorem dX8_begin_108 : decode cX8_begin 108 = .ok (.getfield 78, 3) := dk_180 0 78 (dk_at dksX8_begin_4 15 rfl rfl)
theorem dX8_begin_111 : decode cX8_begin 111 = .ok (.iload_n 1, 1) := dk_27 (dk_at dksX8_begin_4 18 rfl rfl)
theorem dX8_begin_112 : decode cX8_begin 112 = .ok (.iaload, 1) := dk_46 (dk_at dksX8_begin_4 19 rfl rfl)
theorem dX8_begin_113 : decode cX8_begin 113 = .ok (.iastore, 1) := dk_79 (dk_at dksX8_begin_4 20 rfl rfl)
theorem dX8_begin_114 : decode cX8_begin 114 = .ok (.aload_n 0, 1) := dk_42 (dk_at dksX8_begin_4 21 rfl rfl)
theorem dX8_begin_115 : decode cX8_begin 115 = .ok (.getfield 96, 3) := dk_180 0 96 (dk_at dksX8_begin_5 0 rfl rfl)
theorem dX8_begin_118 : decode cX8_begin 118 = .ok (.bipush 30, 2) := dk_16 30 (dk_at dksX8_begin_5 3 rfl rfl)
theorem dX8_begin_120 : decode cX8_begin 120 = .ok (.iload_n 1, 1) := dk_27 (dk_at dksX8_begin_5 5 rfl rfl)
theorem dX8_begin_121 : decode cX8_begin 121 = .ok (.iadd, 1) := dk_96 (dk_at dksX8_begin_5 6 rfl rfl)
theorem dX8_begin_122 : decode cX8_begin 122 = .ok (.aload_n 0, 1) := dk_42 (dk_at dksX8_begin_5 7 rfl rfl)
theorem dX8_begin_123 : decode cX8_begin 123 = .ok (.getfield 81, 3) := dk_180 0 81 (dk_at dksX8_begin_5 8 rfl rfl)
theorem dX8_begin_126 : decode cX8_begin 126 = .ok (.iload_n 1, 1) := dk_27 (dk_at dksX8_begin_5 11 rfl rfl)
theorem dX8_begin_127 : decode cX8_begin 127 = .ok (.iaload, 1) := dk_46 (dk_at dksX8_begin_5 12 rfl rfl)
theorem dX8_begin_128 : decode cX8_begin 128 = .ok (.iastore, 1) := dk_79 (dk_at dksX8_begin_5 13 rfl rfl)
theorem dX8_begin_129 : decode cX8_begin 129 = .ok (.iinc 1 1, 3) := dk_132 1 1 (dk_at dksX8_begin_5 14 rfl rfl)
theorem dX8_begin_132 : decode cX8_begin 132 = .ok (.goto (-71), 3) := dk_167 255 185 (dk_at dksX8_begin_5 17 rfl rfl)
theorem dX8_begin_135 : decode cX8_begin 135 = .ok (.return_, 1) := dk_177 (dk_at dksX8_begin_5 20 rfl rfl)
abbrev cX8_keepAir : ByteArray := prog_20_method_51_code
def yX8_keepAir : MethodName := ⟨RX8, "keepAir", "()V"⟩
def dkwX8_keepAir_1 : List UInt8 := [167, 255, 235, 177]
abbrev dktX8_keepAir_1 : List UInt8 := dkwX8_keepAir_1 ++ []
def dkwX8_keepAir_0 : List UInt8 := [3, 60, 27, 16, 39, 162, 0, 21, 42, 180, 0, 93, 27, 42, 180, 0, 96, 27, 46, 79, 132, 1, 1]
abbrev dktX8_keepAir_0 : List UInt8 := dkwX8_keepAir_0 ++ dktX8_keepAir_1
theorem dksX8_keepAir_0 : cX8_keepAir.data.toList.drop 0 = dktX8_keepAir_0 := by decide +kernel
theorem dksX8_keepAir_1 : cX8_keepAir.data.toList.drop 23 = dktX8_keepAir_1 := dk_seg dksX8_keepAir_0 23 rfl rfl
theorem dX8_keepAir_0 : decode cX8_keepAir 0 = .ok (.iconst 0, 1) := dk_3 (dk_at dksX8_keepAir_0 0 rfl rfl)
theorem dX8_keepAir_1 : decode cX8_keepAir 1 = .ok (.istore_n 1, 1) := dk_60 (dk_at dksX8_keepAir_0 1 rfl rfl)
theorem dX8_keepAir_2 : decode cX8_keepAir 2 = .ok (.iload_n 1, 1) := dk_27 (dk_at dksX8_keepAir_0 2 rfl rfl)
theorem dX8_keepAir_3 : decode cX8_keepAir 3 = .ok (.bipush 39, 2) := dk_16 39 (dk_at dksX8_keepAir_0 3 rfl rfl)
theorem dX8_keepAir_5 : decode cX8_keepAir 5 = .ok (.if_icmp .ge 21, 3) := dk_162 0 21 (dk_at dksX8_keepAir_0 5 rfl rfl)
theorem dX8_keepAir_8 : decode cX8_keepAir 8 = .ok (.aload_n 0, 1) := dk_42 (dk_at dksX8_keepAir_0 8 rfl rfl)
theorem dX8_keepAir_9 : decode cX8_keepAir 9 = .ok (.getfield 93, 3) := dk_180 0 93 (dk_at dksX8_keepAir_0 9 rfl rfl)
theorem dX8_keepAir_12 : decode cX8_keepAir 12 = .ok (.iload_n 1, 1) := dk_27 (dk_at dksX8_keepAir_0 12 rfl rfl)
theorem dX8_keepAir_13 : decode cX8_keepAir 13 = .ok (.aload_n 0, 1) := dk_42 (dk_at dksX8_keepAir_0 13 rfl rfl)
theorem dX8_keepAir_14 : decode cX8_keepAir 14 = .ok (.getfield 96, 3) := dk_180 0 96 (dk_at dksX8_keepAir_0 14 rfl rfl)
theorem dX8_keepAir_17 : decode cX8_keepAir 17 = .ok (.iload_n 1, 1) := dk_27 (dk_at dksX8_keepAir_0 17 rfl rfl)
theorem dX8_keepAir_18 : decode cX8_keepAir 18 = .ok (.iaload, 1) := dk_46 (dk_at dksX8_keepAir_0 18 rfl rfl)
theorem dX8_keepAir_19 : decode cX8_keepAir 19 = .ok (.iastore, 1) := dk_79 (dk_at dksX8_keepAir_0 19 rfl rfl)
theorem dX8_keepAir_20 : decode cX8_keepAir 20 = .ok (.iinc 1 1, 3) := dk_132 1 1 (dk_at dksX8_keepAir_0 20 rfl rfl)
theorem dX8_keepAir_23 : decode cX8_keepAir 23 = .ok (.goto (-21), 3) := dk_167 255 235 (dk_at dksX8_keepAir_1 0 rfl rfl)
theorem dX8_keepAir_26 : decode cX8_keepAir 26 = .ok (.return_, 1) := dk_177 (dk_at dksX8_keepAir_1 3 rfl rfl)
abbrev cX8_fault : ByteArray := prog_20_method_45_code
def yX8_fault : MethodName := ⟨RX8, "fault", "(I)I"⟩
def dkwX8_fault_1 : List UInt8 := [172]
abbrev dktX8_fault_1 : List UInt8 := dkwX8_fault_1 ++ []
def dkwX8_fault_0 : List UInt8 := [27, 154, 0, 10, 42, 180, 0, 179, 167, 0, 16, 27, 4, 160, 0, 10, 42, 180, 0, 13, 167, 0, 4, 2]
abbrev dktX8_fault_0 : List UInt8 := dkwX8_fault_0 ++ dktX8_fault_1
theorem dksX8_fault_0 : cX8_fault.data.toList.drop 0 = dktX8_fault_0 := by decide +kernel
theorem dksX8_fault_1 : cX8_fault.data.toList.drop 24 = dktX8_fault_1 := dk_seg dksX8_fault_0 24 rfl rfl
theorem dX8_fault_0 : decode cX8_fault 0 = .ok (.iload_n 1, 1) := dk_27 (dk_at dksX8_fault_0 0 rfl rfl)
theorem dX8_fault_1 : decode cX8_fault 1 = .ok (.ifCond .ne 10, 3) := dk_154 0 10 (dk_at dksX8_fault_0 1 rfl rfl)
theorem dX8_fault_4 : decode cX8_fault 4 = .ok (.aload_n 0, 1) := dk_42 (dk_at dksX8_fault_0 4 rfl rfl)
theorem dX8_fault_5 : decode cX8_fault 5 = .ok (.getfield 179, 3) := dk_180 0 179 (dk_at dksX8_fault_0 5 rfl rfl)
theorem dX8_fault_8 : decode cX8_fault 8 = .ok (.goto 16, 3) := dk_167 0 16 (dk_at dksX8_fault_0 8 rfl rfl)
theorem dX8_fault_11 : decode cX8_fault 11 = .ok (.iload_n 1, 1) := dk_27 (dk_at dksX8_fault_0 11 rfl rfl)
theorem dX8_fault_12 : decode cX8_fault 12 = .ok (.iconst 1, 1) := dk_4 (dk_at dksX8_fault_0 12 rfl rfl)
theorem dX8_fault_13 : decode cX8_fault 13 = .ok (.if_icmp .ne 10, 3) := dk_160 0 10 (dk_at dksX8_fault_0 13 rfl rfl)
theorem dX8_fault_16 : decode cX8_fault 16 = .ok (.aload_n 0, 1) := dk_42 (dk_at dksX8_fault_0 16 rfl rfl)
theorem dX8_fault_17 : decode cX8_fault 17 = .ok (.getfield 13, 3) := dk_180 0 13 (dk_at dksX8_fault_0 17 rfl rfl)
theorem dX8_fault_20 : decode cX8_fault 20 = .ok (.goto 4, 3) := dk_167 0 4 (dk_at dksX8_fault_0 20 rfl rfl)
theorem dX8_fault_23 : decode cX8_fault 23 = .ok (.iconst (-1), 1) := dk_2 (dk_at dksX8_fault_0 23 rfl rfl)
theorem dX8_fault_24 : decode cX8_fault 24 = .ok (.ireturn, 1) := dk_172 (dk_at dksX8_fault_1 0 rfl rfl)
abbrev cX8_man : ByteArray := prog_20_method_61_code
def yX8_man : MethodName := ⟨RX8, "man", "(II)I"⟩
def dkwX8_man_3 : List UInt8 := [180, 0, 96, 16, 6, 27, 96, 46, 172, 42, 27, 182, 1, 196, 172, 16, 254, 172]
abbrev dktX8_man_3 : List UInt8 := dkwX8_man_3 ++ []
def dkwX8_man_2 : List UInt8 := [42, 180, 0, 63, 27, 46, 172, 42, 180, 0, 96, 27, 46, 172, 42, 180, 0, 69, 27, 46, 172, 42]
abbrev dktX8_man_2 : List UInt8 := dkwX8_man_2 ++ dktX8_man_3
def dkwX8_man_1 : List UInt8 := [170, 0, 0, 0, 0, 0, 0, 73, 0, 0, 0, 0, 0, 0, 0, 4, 0, 0, 0, 36, 0, 0, 0, 43, 0, 0, 0, 50, 0, 0, 0, 57, 0, 0, 0, 67]
abbrev dktX8_man_1 : List UInt8 := dkwX8_man_1 ++ dktX8_man_2
def dkwX8_man_0 : List UInt8 := [42, 27, 182, 1, 190, 154, 0, 6, 16, 254, 172, 42, 182, 1, 193, 28]
abbrev dktX8_man_0 : List UInt8 := dkwX8_man_0 ++ dktX8_man_1
theorem dksX8_man_0 : cX8_man.data.toList.drop 0 = dktX8_man_0 := by decide +kernel
theorem dksX8_man_1 : cX8_man.data.toList.drop 16 = dktX8_man_1 := dk_seg dksX8_man_0 16 rfl rfl
theorem dksX8_man_2 : cX8_man.data.toList.drop 52 = dktX8_man_2 := dk_seg dksX8_man_1 36 rfl rfl
theorem dksX8_man_3 : cX8_man.data.toList.drop 74 = dktX8_man_3 := dk_seg dksX8_man_2 22 rfl rfl
theorem dX8_man_0 : decode cX8_man 0 = .ok (.aload_n 0, 1) := dk_42 (dk_at dksX8_man_0 0 rfl rfl)
theorem dX8_man_1 : decode cX8_man 1 = .ok (.iload_n 1, 1) := dk_27 (dk_at dksX8_man_0 1 rfl rfl)
theorem dX8_man_2 : decode cX8_man 2 = .ok (.invokevirtual 446, 3) := dk_182 1 190 (dk_at dksX8_man_0 2 rfl rfl)
theorem dX8_man_5 : decode cX8_man 5 = .ok (.ifCond .ne 6, 3) := dk_154 0 6 (dk_at dksX8_man_0 5 rfl rfl)
theorem dX8_man_8 : decode cX8_man 8 = .ok (.bipush (-2), 2) := dk_16 254 (dk_at dksX8_man_0 8 rfl rfl)
theorem dX8_man_10 : decode cX8_man 10 = .ok (.ireturn, 1) := dk_172 (dk_at dksX8_man_0 10 rfl rfl)
theorem dX8_man_11 : decode cX8_man 11 = .ok (.aload_n 0, 1) := dk_42 (dk_at dksX8_man_0 11 rfl rfl)
theorem dX8_man_12 : decode cX8_man 12 = .ok (.invokevirtual 449, 3) := dk_182 1 193 (dk_at dksX8_man_0 12 rfl rfl)
theorem dX8_man_15 : decode cX8_man 15 = .ok (.iload_n 2, 1) := dk_28 (dk_at dksX8_man_0 15 rfl rfl)
theorem dX8_man_16 : decode cX8_man 16 = .ok (.tableswitch 73 0 4 #[36, 43, 50, 57, 67], 36) := by decide +kernel
theorem dX8_man_52 : decode cX8_man 52 = .ok (.aload_n 0, 1) := dk_42 (dk_at dksX8_man_2 0 rfl rfl)
theorem dX8_man_53 : decode cX8_man 53 = .ok (.getfield 63, 3) := dk_180 0 63 (dk_at dksX8_man_2 1 rfl rfl)
theorem dX8_man_56 : decode cX8_man 56 = .ok (.iload_n 1, 1) := dk_27 (dk_at dksX8_man_2 4 rfl rfl)
theorem dX8_man_57 : decode cX8_man 57 = .ok (.iaload, 1) := dk_46 (dk_at dksX8_man_2 5 rfl rfl)
theorem dX8_man_58 : decode cX8_man 58 = .ok (.ireturn, 1) := dk_172 (dk_at dksX8_man_2 6 rfl rfl)
theorem dX8_man_59 : decode cX8_man 59 = .ok (.aload_n 0, 1) := dk_42 (dk_at dksX8_man_2 7 rfl rfl)
theorem dX8_man_60 : decode cX8_man 60 = .ok (.getfield 96, 3) := dk_180 0 96 (dk_at dksX8_man_2 8 rfl rfl)
theorem dX8_man_63 : decode cX8_man 63 = .ok (.iload_n 1, 1) := dk_27 (dk_at dksX8_man_2 11 rfl rfl)
theorem dX8_man_64 : decode cX8_man 64 = .ok (.iaload, 1) := dk_46 (dk_at dksX8_man_2 12 rfl rfl)
theorem dX8_man_65 : decode cX8_man 65 = .ok (.ireturn, 1) := dk_172 (dk_at dksX8_man_2 13 rfl rfl)
theorem dX8_man_66 : decode cX8_man 66 = .ok (.aload_n 0, 1) := dk_42 (dk_at dksX8_man_2 14 rfl rfl)
theorem dX8_man_67 : decode cX8_man 67 = .ok (.getfield 69, 3) := dk_180 0 69 (dk_at dksX8_man_2 15 rfl rfl)
theorem dX8_man_70 : decode cX8_man 70 = .ok (.iload_n 1, 1) := dk_27 (dk_at dksX8_man_2 18 rfl rfl)
theorem dX8_man_71 : decode cX8_man 71 = .ok (.iaload, 1) := dk_46 (dk_at dksX8_man_2 19 rfl rfl)
theorem dX8_man_72 : decode cX8_man 72 = .ok (.ireturn, 1) := dk_172 (dk_at dksX8_man_2 20 rfl rfl)
theorem dX8_man_73 : decode cX8_man 73 = .ok (.aload_n 0, 1) := dk_42 (dk_at dksX8_man_2 21 rfl rfl)
theorem dX8_man_74 : decode cX8_man 74 = .ok (.getfield 96, 3) := dk_180 0 96 (dk_at dksX8_man_3 0 rfl rfl)
theorem dX8_man_77 : decode cX8_man 77 = .ok (.bipush 6, 2) := dk_16 6 (dk_at dksX8_man_3 3 rfl rfl)
theorem dX8_man_79 : decode cX8_man 79 = .ok (.iload_n 1, 1) := dk_27 (dk_at dksX8_man_3 5 rfl rfl)
theorem dX8_man_80 : decode cX8_man 80 = .ok (.iadd, 1) := dk_96 (dk_at dksX8_man_3 6 rfl rfl)
theorem dX8_man_81 : decode cX8_man 81 = .ok (.iaload, 1) := dk_46 (dk_at dksX8_man_3 7 rfl rfl)
theorem dX8_man_82 : decode cX8_man 82 = .ok (.ireturn, 1) := dk_172 (dk_at dksX8_man_3 8 rfl rfl)
theorem dX8_man_83 : decode cX8_man 83 = .ok (.aload_n 0, 1) := dk_42 (dk_at dksX8_man_3 9 rfl rfl)
theorem dX8_man_84 : decode cX8_man 84 = .ok (.iload_n 1, 1) := dk_27 (dk_at dksX8_man_3 10 rfl rfl)
theorem dX8_man_85 : decode cX8_man 85 = .ok (.invokevirtual 452, 3) := dk_182 1 196 (dk_at dksX8_man_3 11 rfl rfl)
theorem dX8_man_88 : decode cX8_man 88 = .ok (.ireturn, 1) := dk_172 (dk_at dksX8_man_3 14 rfl rfl)
theorem dX8_man_89 : decode cX8_man 89 = .ok (.bipush (-2), 2) := dk_16 254 (dk_at dksX8_man_3 15 rfl rfl)
theorem dX8_man_91 : decode cX8_man 91 = .ok (.ireturn, 1) := dk_172 (dk_at dksX8_man_3 17 rfl rfl)
abbrev cX8_isMan : ByteArray := prog_20_method_47_code
def yX8_isMan : MethodName := ⟨RX8, "isMan", "(I)Z"⟩
def dkwX8_isMan_0 : List UInt8 := [27, 3, 42, 180, 1, 131, 4, 100, 184, 1, 161, 172]
abbrev dktX8_isMan_0 : List UInt8 := dkwX8_isMan_0 ++ []
theorem dksX8_isMan_0 : cX8_isMan.data.toList.drop 0 = dktX8_isMan_0 := by decide +kernel
theorem dX8_isMan_0 : decode cX8_isMan 0 = .ok (.iload_n 1, 1) := dk_27 (dk_at dksX8_isMan_0 0 rfl rfl)
theorem dX8_isMan_1 : decode cX8_isMan 1 = .ok (.iconst 0, 1) := dk_3 (dk_at dksX8_isMan_0 1 rfl rfl)
theorem dX8_isMan_2 : decode cX8_isMan 2 = .ok (.aload_n 0, 1) := dk_42 (dk_at dksX8_isMan_0 2 rfl rfl)
theorem dX8_isMan_3 : decode cX8_isMan 3 = .ok (.getfield 387, 3) := dk_180 1 131 (dk_at dksX8_isMan_0 3 rfl rfl)
theorem dX8_isMan_6 : decode cX8_isMan 6 = .ok (.iconst 1, 1) := dk_4 (dk_at dksX8_isMan_0 6 rfl rfl)
theorem dX8_isMan_7 : decode cX8_isMan 7 = .ok (.isub, 1) := dk_100 (dk_at dksX8_isMan_0 7 rfl rfl)
theorem dX8_isMan_8 : decode cX8_isMan 8 = .ok (.invokestatic 417, 3) := dk_184 1 161 (dk_at dksX8_isMan_0 8 rfl rfl)
theorem dX8_isMan_11 : decode cX8_isMan 11 = .ok (.ireturn, 1) := dk_172 (dk_at dksX8_isMan_0 11 rfl rfl)
abbrev cX8_isIn : ByteArray := prog_20_method_46_code
def yX8_isIn : MethodName := ⟨RX8, "isIn", "(III)Z"⟩
def dkwX8_isIn_0 : List UInt8 := [26, 27, 161, 0, 12, 26, 28, 163, 0, 7, 4, 167, 0, 4, 3, 172]
abbrev dktX8_isIn_0 : List UInt8 := dkwX8_isIn_0 ++ []
theorem dksX8_isIn_0 : cX8_isIn.data.toList.drop 0 = dktX8_isIn_0 := by decide +kernel
theorem dX8_isIn_0 : decode cX8_isIn 0 = .ok (.iload_n 0, 1) := dk_26 (dk_at dksX8_isIn_0 0 rfl rfl)
theorem dX8_isIn_1 : decode cX8_isIn 1 = .ok (.iload_n 1, 1) := dk_27 (dk_at dksX8_isIn_0 1 rfl rfl)
theorem dX8_isIn_2 : decode cX8_isIn 2 = .ok (.if_icmp .lt 12, 3) := dk_161 0 12 (dk_at dksX8_isIn_0 2 rfl rfl)
theorem dX8_isIn_5 : decode cX8_isIn 5 = .ok (.iload_n 0, 1) := dk_26 (dk_at dksX8_isIn_0 5 rfl rfl)
theorem dX8_isIn_6 : decode cX8_isIn 6 = .ok (.iload_n 2, 1) := dk_28 (dk_at dksX8_isIn_0 6 rfl rfl)
theorem dX8_isIn_7 : decode cX8_isIn 7 = .ok (.if_icmp .gt 7, 3) := dk_163 0 7 (dk_at dksX8_isIn_0 7 rfl rfl)
theorem dX8_isIn_10 : decode cX8_isIn 10 = .ok (.iconst 1, 1) := dk_4 (dk_at dksX8_isIn_0 10 rfl rfl)
theorem dX8_isIn_11 : decode cX8_isIn 11 = .ok (.goto 4, 3) := dk_167 0 4 (dk_at dksX8_isIn_0 11 rfl rfl)
theorem dX8_isIn_14 : decode cX8_isIn 14 = .ok (.iconst 0, 1) := dk_3 (dk_at dksX8_isIn_0 14 rfl rfl)
theorem dX8_isIn_15 : decode cX8_isIn 15 = .ok (.ireturn, 1) := dk_172 (dk_at dksX8_isIn_0 15 rfl rfl)
abbrev cX8_fill : ByteArray := prog_20_method_50_code
def yX8_fill : MethodName := ⟨RX8, "fill", "()V"⟩
def dkwX8_fill_1 : List UInt8 := [167, 255, 235, 177]
abbrev dktX8_fill_1 : List UInt8 := dkwX8_fill_1 ++ []
def dkwX8_fill_0 : List UInt8 := [3, 60, 27, 16, 39, 162, 0, 21, 42, 180, 0, 96, 27, 42, 180, 0, 93, 27, 46, 79, 132, 1, 1]
abbrev dktX8_fill_0 : List UInt8 := dkwX8_fill_0 ++ dktX8_fill_1
theorem dksX8_fill_0 : cX8_fill.data.toList.drop 0 = dktX8_fill_0 := by decide +kernel
theorem dksX8_fill_1 : cX8_fill.data.toList.drop 23 = dktX8_fill_1 := dk_seg dksX8_fill_0 23 rfl rfl
theorem dX8_fill_0 : decode cX8_fill 0 = .ok (.iconst 0, 1) := dk_3 (dk_at dksX8_fill_0 0 rfl rfl)
theorem dX8_fill_1 : decode cX8_fill 1 = .ok (.istore_n 1, 1) := dk_60 (dk_at dksX8_fill_0 1 rfl rfl)
theorem dX8_fill_2 : decode cX8_fill 2 = .ok (.iload_n 1, 1) := dk_27 (dk_at dksX8_fill_0 2 rfl rfl)
theorem dX8_fill_3 : decode cX8_fill 3 = .ok (.bipush 39, 2) := dk_16 39 (dk_at dksX8_fill_0 3 rfl rfl)
theorem dX8_fill_5 : decode cX8_fill 5 = .ok (.if_icmp .ge 21, 3) := dk_162 0 21 (dk_at dksX8_fill_0 5 rfl rfl)
theorem dX8_fill_8 : decode cX8_fill 8 = .ok (.aload_n 0, 1) := dk_42 (dk_at dksX8_fill_0 8 rfl rfl)
theorem dX8_fill_9 : decode cX8_fill 9 = .ok (.getfield 96, 3) := dk_180 0 96 (dk_at dksX8_fill_0 9 rfl rfl)
theorem dX8_fill_12 : decode cX8_fill 12 = .ok (.iload_n 1, 1) := dk_27 (dk_at dksX8_fill_0 12 rfl rfl)
theorem dX8_fill_13 : decode cX8_fill 13 = .ok (.aload_n 0, 1) := dk_42 (dk_at dksX8_fill_0 13 rfl rfl)
theorem dX8_fill_14 : decode cX8_fill 14 = .ok (.getfield 93, 3) := dk_180 0 93 (dk_at dksX8_fill_0 14 rfl rfl)
theorem dX8_fill_17 : decode cX8_fill 17 = .ok (.iload_n 1, 1) := dk_27 (dk_at dksX8_fill_0 17 rfl rfl)
theorem dX8_fill_18 : decode cX8_fill 18 = .ok (.iaload, 1) := dk_46 (dk_at dksX8_fill_0 18 rfl rfl)
theorem dX8_fill_19 : decode cX8_fill 19 = .ok (.iastore, 1) := dk_79 (dk_at dksX8_fill_0 19 rfl rfl)
theorem dX8_fill_20 : decode cX8_fill 20 = .ok (.iinc 1 1, 3) := dk_132 1 1 (dk_at dksX8_fill_0 20 rfl rfl)
theorem dX8_fill_23 : decode cX8_fill 23 = .ok (.goto (-21), 3) := dk_167 255 235 (dk_at dksX8_fill_1 0 rfl rfl)
theorem dX8_fill_26 : decode cX8_fill 26 = .ok (.return_, 1) := dk_177 (dk_at dksX8_fill_1 3 rfl rfl)
abbrev cX8_coatsFor : ByteArray := prog_20_method_60_code
def yX8_coatsFor : MethodName := ⟨RX8, "coatsFor", "(I)I"⟩
def dkwX8_coatsFor_1 : List UInt8 := [128, 61, 132, 3, 1, 167, 255, 231, 28, 172]
abbrev dktX8_coatsFor_1 : List UInt8 := dkwX8_coatsFor_1 ++ []
def dkwX8_coatsFor_0 : List UInt8 := [3, 61, 3, 62, 29, 42, 180, 1, 134, 162, 0, 23, 28, 42, 27, 29, 182, 1, 168, 184, 1, 54, 29, 120]
abbrev dktX8_coatsFor_0 : List UInt8 := dkwX8_coatsFor_0 ++ dktX8_coatsFor_1
theorem dksX8_coatsFor_0 : cX8_coatsFor.data.toList.drop 0 = dktX8_coatsFor_0 := by decide +kernel
theorem dksX8_coatsFor_1 : cX8_coatsFor.data.toList.drop 24 = dktX8_coatsFor_1 := dk_seg dksX8_coatsFor_0 24 rfl rfl
theorem dX8_coatsFor_0 : decode cX8_coatsFor 0 = .ok (.iconst 0, 1) := dk_3 (dk_at dksX8_coatsFor_0 0 rfl rfl)
theorem dX8_coatsFor_1 : decode cX8_coatsFor 1 = .ok (.istore_n 2, 1) := dk_61 (dk_at dksX8_coatsFor_0 1 rfl rfl)
theorem dX8_coatsFor_2 : decode cX8_coatsFor 2 = .ok (.iconst 0, 1) := dk_3 (dk_at dksX8_coatsFor_0 2 rfl rfl)
theorem dX8_coatsFor_3 : decode cX8_coatsFor 3 = .ok (.istore_n 3, 1) := dk_62 (dk_at dksX8_coatsFor_0 3 rfl rfl)
theorem dX8_coatsFor_4 : decode cX8_coatsFor 4 = .ok (.iload_n 3, 1) := dk_29 (dk_at dksX8_coatsFor_0 4 rfl rfl)
theorem dX8_coatsFor_5 : decode cX8_coatsFor 5 = .ok (.aload_n 0, 1) := dk_42 (dk_at dksX8_coatsFor_0 5 rfl rfl)
theorem dX8_coatsFor_6 : decode cX8_coatsFor 6 = .ok (.getfield 390, 3) := dk_180 1 134 (dk_at dksX8_coatsFor_0 6 rfl rfl)
theorem dX8_coatsFor_9 : decode cX8_coatsFor 9 = .ok (.if_icmp .ge 23, 3) := dk_162 0 23 (dk_at dksX8_coatsFor_0 9 rfl rfl)
theorem dX8_coatsFor_12 : decode cX8_coatsFor 12 = .ok (.iload_n 2, 1) := dk_28 (dk_at dksX8_coatsFor_0 12 rfl rfl)
theorem dX8_coatsFor_13 : decode cX8_coatsFor 13 = .ok (.aload_n 0, 1) := dk_42 (dk_at dksX8_coatsFor_0 13 rfl rfl)
theorem dX8_coatsFor_14 : decode cX8_coatsFor 14 = .ok (.iload_n 1, 1) := dk_27 (dk_at dksX8_coatsFor_0 14 rfl rfl)
theorem dX8_coatsFor_15 : decode cX8_coatsFor 15 = .ok (.iload_n 3, 1) := dk_29 (dk_at dksX8_coatsFor_0 15 rfl rfl)
theorem dX8_coatsFor_16 : decode cX8_coatsFor 16 = .ok (.invokevirtual 424, 3) := dk_182 1 168 (dk_at dksX8_coatsFor_0 16 rfl rfl)
theorem dX8_coatsFor_19 : decode cX8_coatsFor 19 = .ok (.invokestatic 310, 3) := dk_184 1 54 (dk_at dksX8_coatsFor_0 19 rfl rfl)
theorem dX8_coatsFor_22 : decode cX8_coatsFor 22 = .ok (.iload_n 3, 1) := dk_29 (dk_at dksX8_coatsFor_0 22 rfl rfl)
theorem dX8_coatsFor_23 : decode cX8_coatsFor 23 = .ok (.ishl, 1) := dk_120 (dk_at dksX8_coatsFor_0 23 rfl rfl)
theorem dX8_coatsFor_24 : decode cX8_coatsFor 24 = .ok (.ior, 1) := dk_128 (dk_at dksX8_coatsFor_1 0 rfl rfl)
theorem dX8_coatsFor_25 : decode cX8_coatsFor 25 = .ok (.istore_n 2, 1) := dk_61 (dk_at dksX8_coatsFor_1 1 rfl rfl)
theorem dX8_coatsFor_26 : decode cX8_coatsFor 26 = .ok (.iinc 3 1, 3) := dk_132 3 1 (dk_at dksX8_coatsFor_1 2 rfl rfl)
theorem dX8_coatsFor_29 : decode cX8_coatsFor 29 = .ok (.goto (-25), 3) := dk_167 255 231 (dk_at dksX8_coatsFor_1 5 rfl rfl)
theorem dX8_coatsFor_32 : decode cX8_coatsFor 32 = .ok (.iload_n 2, 1) := dk_28 (dk_at dksX8_coatsFor_1 8 rfl rfl)
theorem dX8_coatsFor_33 : decode cX8_coatsFor 33 = .ok (.ireturn, 1) := dk_172 (dk_at dksX8_coatsFor_1 9 rfl rfl)
abbrev cX8_fits : ByteArray := prog_20_method_54_code
def yX8_fits : MethodName := ⟨RX8, "fits", "(II)Z"⟩
def dkwX8_fits_0 : List UInt8 := [28, 155, 0, 20, 42, 27, 28, 182, 1, 165, 42, 180, 0, 84, 163, 0, 7, 4, 167, 0, 4, 3, 172]
abbrev dktX8_fits_0 : List UInt8 := dkwX8_fits_0 ++ []
theorem dksX8_fits_0 : cX8_fits.data.toList.drop 0 = dktX8_fits_0 := by decide +kernel
theorem dX8_fits_0 : decode cX8_fits 0 = .ok (.iload_n 2, 1) := dk_28 (dk_at dksX8_fits_0 0 rfl rfl)
theorem dX8_fits_1 : decode cX8_fits 1 = .ok (.ifCond .lt 20, 3) := dk_155 0 20 (dk_at dksX8_fits_0 1 rfl rfl)
theorem dX8_fits_4 : decode cX8_fits 4 = .ok (.aload_n 0, 1) := dk_42 (dk_at dksX8_fits_0 4 rfl rfl)
theorem dX8_fits_5 : decode cX8_fits 5 = .ok (.iload_n 1, 1) := dk_27 (dk_at dksX8_fits_0 5 rfl rfl)
theorem dX8_fits_6 : decode cX8_fits 6 = .ok (.iload_n 2, 1) := dk_28 (dk_at dksX8_fits_0 6 rfl rfl)
theorem dX8_fits_7 : decode cX8_fits 7 = .ok (.invokevirtual 421, 3) := dk_182 1 165 (dk_at dksX8_fits_0 7 rfl rfl)
theorem dX8_fits_10 : decode cX8_fits 10 = .ok (.aload_n 0, 1) := dk_42 (dk_at dksX8_fits_0 10 rfl rfl)
theorem dX8_fits_11 : decode cX8_fits 11 = .ok (.getfield 84, 3) := dk_180 0 84 (dk_at dksX8_fits_0 11 rfl rfl)
theorem dX8_fits_14 : decode cX8_fits 14 = .ok (.if_icmp .gt 7, 3) := dk_163 0 7 (dk_at dksX8_fits_0 14 rfl rfl)
theorem dX8_fits_17 : decode cX8_fits 17 = .ok (.iconst 1, 1) := dk_4 (dk_at dksX8_fits_0 17 rfl rfl)
theorem dX8_fits_18 : decode cX8_fits 18 = .ok (.goto 4, 3) := dk_167 0 4 (dk_at dksX8_fits_0 18 rfl rfl)
theorem dX8_fits_21 : decode cX8_fits 21 = .ok (.iconst 0, 1) := dk_3 (dk_at dksX8_fits_0 21 rfl rfl)
theorem dX8_fits_22 : decode cX8_fits 22 = .ok (.ireturn, 1) := dk_172 (dk_at dksX8_fits_0 22 rfl rfl)
abbrev cX8_misfitOf : ByteArray := prog_20_method_39_code
def yX8_misfitOf : MethodName := ⟨RX8, "misfitOf", "(II)I"⟩
def dkwX8_misfitOf_14 : List UInt8 := [132, 4, 1, 167, 255, 103, 42, 180, 0, 36, 3, 46, 17, 3, 231, 184, 1, 64, 172]
abbrev dktX8_misfitOf_14 : List UInt8 := dkwX8_misfitOf_14 ++ []
def dkwX8_misfitOf_13 : List UInt8 := [180, 0, 30, 21, 4, 46, 42, 180, 0, 36, 29, 4, 100, 46, 42, 180, 0, 36, 29, 46, 184, 1, 70, 79]
abbrev dktX8_misfitOf_13 : List UInt8 := dkwX8_misfitOf_13 ++ dktX8_misfitOf_14
def dkwX8_misfitOf_12 : List UInt8 := [167, 0, 4, 3, 184, 1, 54, 79, 167, 0, 38, 132, 3, 255, 42, 180, 0, 36, 29, 4, 100, 42]
abbrev dktX8_misfitOf_12 : List UInt8 := dkwX8_misfitOf_12 ++ dktX8_misfitOf_13
def dkwX8_misfitOf_11 : List UInt8 := [46, 5, 160, 0, 33, 42, 180, 0, 36, 29, 4, 100, 42, 180, 0, 36, 29, 4, 100, 46, 154, 0, 7, 4]
abbrev dktX8_misfitOf_11 : List UInt8 := dkwX8_misfitOf_11 ++ dktX8_misfitOf_12
def dkwX8_misfitOf_10 : List UInt8 := [180, 0, 39, 42, 180, 0, 30, 21, 4, 46, 46, 79, 132, 3, 1, 167, 0, 79, 42, 180, 0, 27, 21, 4]
abbrev dktX8_misfitOf_10 : List UInt8 := dkwX8_misfitOf_10 ++ dktX8_misfitOf_11
def dkwX8_misfitOf_9 : List UInt8 := [29, 42, 180, 0, 27, 21, 4, 46, 154, 0, 13, 42, 180, 0, 30, 21, 4, 46, 167, 0, 15, 42]
abbrev dktX8_misfitOf_9 : List UInt8 := dkwX8_misfitOf_9 ++ dktX8_misfitOf_10
def dkwX8_misfitOf_8 : List UInt8 := [180, 0, 27, 21, 4, 46, 153, 0, 14, 42, 180, 0, 27, 21, 4, 46, 4, 160, 0, 47, 42, 180, 0, 36]
abbrev dktX8_misfitOf_8 : List UInt8 := dkwX8_misfitOf_8 ++ dktX8_misfitOf_9
def dkwX8_misfitOf_7 : List UInt8 := [96, 17, 3, 231, 184, 1, 64, 172, 3, 62, 3, 54, 4, 21, 4, 42, 180, 1, 67, 162, 0, 150, 42]
abbrev dktX8_misfitOf_7 : List UInt8 := dkwX8_misfitOf_7 ++ dktX8_misfitOf_8
def dkwX8_misfitOf_6 : List UInt8 := [46, 96, 5, 42, 180, 0, 39, 5, 46, 104, 96, 42, 180, 0, 39, 6, 46, 96, 42, 180, 0, 39, 7, 46]
abbrev dktX8_misfitOf_6 : List UInt8 := dkwX8_misfitOf_6 ++ dktX8_misfitOf_7
def dkwX8_misfitOf_5 : List UInt8 := [16, 37, 46, 79, 42, 180, 1, 61, 154, 0, 48, 6, 42, 180, 0, 39, 3, 46, 104, 42, 180, 0, 39, 4]
abbrev dktX8_misfitOf_5 : List UInt8 := dkwX8_misfitOf_5 ++ dktX8_misfitOf_6
def dkwX8_misfitOf_4 : List UInt8 := [42, 180, 0, 39, 7, 42, 180, 0, 96, 16, 30, 28, 96, 46, 79, 42, 180, 0, 39, 8, 42, 180, 0, 96]
abbrev dktX8_misfitOf_4 : List UInt8 := dkwX8_misfitOf_4 ++ dktX8_misfitOf_5
def dkwX8_misfitOf_3 : List UInt8 := [42, 180, 0, 39, 6, 42, 180, 0, 96, 16, 12, 28, 96, 46, 42, 180, 0, 63, 27, 46, 184, 1, 58, 79]
abbrev dktX8_misfitOf_3 : List UInt8 := dkwX8_misfitOf_3 ++ dktX8_misfitOf_4
def dkwX8_misfitOf_2 : List UInt8 := [42, 180, 0, 39, 5, 42, 180, 0, 63, 27, 46, 42, 180, 0, 96, 16, 12, 28, 96, 46, 184, 1, 58, 79]
abbrev dktX8_misfitOf_2 : List UInt8 := dkwX8_misfitOf_2 ++ dktX8_misfitOf_3
def dkwX8_misfitOf_1 : List UInt8 := [42, 180, 0, 39, 4, 42, 180, 0, 96, 16, 18, 28, 96, 46, 42, 180, 0, 96, 27, 46, 184, 1, 58, 79]
abbrev dktX8_misfitOf_1 : List UInt8 := dkwX8_misfitOf_1 ++ dktX8_misfitOf_2
def dkwX8_misfitOf_0 : List UInt8 := [42, 180, 0, 39, 3, 42, 180, 0, 96, 27, 46, 42, 180, 0, 96, 16, 18, 28, 96, 46, 184, 1, 58, 79]
abbrev dktX8_misfitOf_0 : List UInt8 := dkwX8_misfitOf_0 ++ dktX8_misfitOf_1
theorem dksX8_misfitOf_0 : cX8_misfitOf.data.toList.drop 0 = dktX8_misfitOf_0 := by decide +kernel
theorem dksX8_misfitOf_1 : cX8_misfitOf.data.toList.drop 24 = dktX8_misfitOf_1 := dk_seg dksX8_misfitOf_0 24 rfl rfl
theorem dksX8_misfitOf_2 : cX8_misfitOf.data.toList.drop 48 = dktX8_misfitOf_2 := dk_seg dksX8_misfitOf_1 24 rfl rfl
theorem dksX8_misfitOf_3 : cX8_misfitOf.data.toList.drop 72 = dktX8_misfitOf_3 := dk_seg dksX8_misfitOf_2 24 rfl rfl
theorem dksX8_misfitOf_4 : cX8_misfitOf.data.toList.drop 96 = dktX8_misfitOf_4 := dk_seg dksX8_misfitOf_3 24 rfl rfl
theorem dksX8_misfitOf_5 : cX8_misfitOf.data.toList.drop 120 = dktX8_misfitOf_5 := dk_seg dksX8_misfitOf_4 24 rfl rfl
theorem dksX8_misfitOf_6 : cX8_misfitOf.data.toList.drop 144 = dktX8_misfitOf_6 := dk_seg dksX8_misfitOf_5 24 rfl rfl
theorem dksX8_misfitOf_7 : cX8_misfitOf.data.toList.drop 168 = dktX8_misfitOf_7 := dk_seg dksX8_misfitOf_6 24 rfl rfl
theorem dksX8_misfitOf_8 : cX8_misfitOf.data.toList.drop 191 = dktX8_misfitOf_8 := dk_seg dksX8_misfitOf_7 23 rfl rfl
theorem dksX8_misfitOf_9 : cX8_misfitOf.data.toList.drop 215 = dktX8_misfitOf_9 := dk_seg dksX8_misfitOf_8 24 rfl rfl
theorem dksX8_misfitOf_10 : cX8_misfitOf.data.toList.drop 237 = dktX8_misfitOf_10 := dk_seg dksX8_misfitOf_9 22 rfl rfl
theorem dksX8_misfitOf_11 : cX8_misfitOf.data.toList.drop 261 = dktX8_misfitOf_11 := dk_seg dksX8_misfitOf_10 24 rfl rfl
theorem dksX8_misfitOf_12 : cX8_misfitOf.data.toList.drop 285 = dktX8_misfitOf_12 := dk_seg dksX8_misfitOf_11 24 rfl rfl
theorem dksX8_misfitOf_13 : cX8_misfitOf.data.toList.drop 307 = dktX8_misfitOf_13 := dk_seg dksX8_misfitOf_12 22 rfl rfl
theorem dksX8_misfitOf_14 : cX8_misfitOf.data.toList.drop 331 = dktX8_misfitOf_14 := dk_seg dksX8_misfitOf_13 24 rfl rfl
theorem dX8_misfitOf_0 : decode cX8_misfitOf 0 = .ok (.aload_n 0, 1) := dk_42 (dk_at dksX8_misfitOf_0 0 rfl rfl)
theorem dX8_misfitOf_1 : decode cX8_misfitOf 1 = .ok (.getfield 39, 3) := dk_180 0 39 (dk_at dksX8_misfitOf_0 1 rfl rfl)
theorem dX8_misfitOf_4 : decode cX8_misfitOf 4 = .ok (.iconst 0, 1) := dk_3 (dk_at dksX8_misfitOf_0 4 rfl rfl)
theorem dX8_misfitOf_5 : decode cX8_misfitOf 5 = .ok (.aload_n 0, 1) := dk_42 (dk_at dksX8_misfitOf_0 5 rfl rfl)
theorem dX8_misfitOf_6 : decode cX8_misfitOf 6 = .ok (.getfield 96, 3) := dk_180 0 96 (dk_at dksX8_misfitOf_0 6 rfl rfl)
theorem dX8_misfitOf_9 : decode cX8_misfitOf 9 = .ok (.iload_n 1, 1) := dk_27 (dk_at dksX8_misfitOf_0 9 rfl rfl)
theorem dX8_misfitOf_10 : decode cX8_misfitOf 10 = .ok (.iaload, 1) := dk_46 (dk_at dksX8_misfitOf_0 10 rfl rfl)
theorem dX8_misfitOf_11 : decode cX8_misfitOf 11 = .ok (.aload_n 0, 1) := dk_42 (dk_at dksX8_misfitOf_0 11 rfl rfl)
theorem dX8_misfitOf_12 : decode cX8_misfitOf 12 = .ok (.getfield 96, 3) := dk_180 0 96 (dk_at dksX8_misfitOf_0 12 rfl rfl)
theorem dX8_misfitOf_15 : decode cX8_misfitOf 15 = .ok (.bipush 18, 2) := dk_16 18 (dk_at dksX8_misfitOf_0 15 rfl rfl)
theorem dX8_misfitOf_17 : decode cX8_misfitOf 17 = .ok (.iload_n 2, 1) := dk_28 (dk_at dksX8_misfitOf_0 17 rfl rfl)
theorem dX8_misfitOf_18 : decode cX8_misfitOf 18 = .ok (.iadd, 1) := dk_96 (dk_at dksX8_misfitOf_0 18 rfl rfl)
theorem dX8_misfitOf_19 : decode cX8_misfitOf 19 = .ok (.iaload, 1) := dk_46 (dk_at dksX8_misfitOf_0 19 rfl rfl)
theorem dX8_misfitOf_20 : decode cX8_misfitOf 20 = .ok (.invokestatic 314, 3) := dk_184 1 58 (dk_at dksX8_misfitOf_0 20 rfl rfl)
theorem dX8_misfitOf_23 : decode cX8_misfitOf 23 = .ok (.iastore, 1) := dk_79 (dk_at dksX8_misfitOf_0 23 rfl rfl)
theorem dX8_misfitOf_24 : decode cX8_misfitOf 24 = .ok (.aload_n 0, 1) := dk_42 (dk_at dksX8_misfitOf_1 0 rfl rfl)
theorem dX8_misfitOf_25 : decode cX8_misfitOf 25 = .ok (.getfield 39, 3) := dk_180 0 39 (dk_at dksX8_misfitOf_1 1 rfl rfl)
theorem dX8_misfitOf_28 : decode cX8_misfitOf 28 = .ok (.iconst 1, 1) := dk_4 (dk_at dksX8_misfitOf_1 4 rfl rfl)
theorem dX8_misfitOf_29 : decode cX8_misfitOf 29 = .ok (.aload_n 0, 1) := dk_42 (dk_at dksX8_misfitOf_1 5 rfl rfl)
theorem dX8_misfitOf_30 : decode cX8_misfitOf 30 = .ok (.getfield 96, 3) := dk_180 0 96 (dk_at dksX8_misfitOf_1 6 rfl rfl)
theorem dX8_misfitOf_33 : decode cX8_misfitOf 33 = .ok (.bipush 18, 2) := dk_16 18 (dk_at dksX8_misfitOf_1 9 rfl rfl)
theorem dX8_misfitOf_35 : decode cX8_misfitOf 35 = .ok (.iload_n 2, 1) := dk_28 (dk_at dksX8_misfitOf_1 11 rfl rfl)
theorem dX8_misfitOf_36 : decode cX8_misfitOf 36 = .ok (.iadd, 1) := dk_96 (dk_at dksX8_misfitOf_1 12 rfl rfl)
theorem dX8_misfitOf_37 : decode cX8_misfitOf 37 = .ok (.iaload, 1) := dk_46 (dk_at dksX8_misfitOf_1 13 rfl rfl)
theorem dX8_misfitOf_38 : decode cX8_misfitOf 38 = .ok (.aload_n 0, 1) := dk_42 (dk_at dksX8_misfitOf_1 14 rfl rfl)
theorem dX8_misfitOf_39 : decode cX8_misfitOf 39 = .ok (.getfield 96, 3) := dk_180 0 96 (dk_at dksX8_misfitOf_1 15 rfl rfl)
theorem dX8_misfitOf_42 : decode cX8_misfitOf 42 = .ok (.iload_n 1, 1) := dk_27 (dk_at dksX8_misfitOf_1 18 rfl rfl)
theorem dX8_misfitOf_43 : decode cX8_misfitOf 43 = .ok (.iaload, 1) := dk_46 (dk_at dksX8_misfitOf_1 19 rfl rfl)
theorem dX8_misfitOf_44 : decode cX8_misfitOf 44 = .ok (.invokestatic 314, 3) := dk_184 1 58 (dk_at dksX8_misfitOf_1 20 rfl rfl)
theorem dX8_misfitOf_47 : decode cX8_misfitOf 47 = .ok (.iastore, 1) := dk_79 (dk_at dksX8_misfitOf_1 23 rfl rfl)
theorem dX8_misfitOf_48 : decode cX8_misfitOf 48 = .ok (.aload_n 0, 1) := dk_42 (dk_at dksX8_misfitOf_2 0 rfl rfl)
theorem dX8_misfitOf_49 : decode cX8_misfitOf 49 = .ok (.getfield 39, 3) := dk_180 0 39 (dk_at dksX8_misfitOf_2 1 rfl rfl)
theorem dX8_misfitOf_52 : decode cX8_misfitOf 52 = .ok (.iconst 2, 1) := dk_5 (dk_at dksX8_misfitOf_2 4 rfl rfl)
theorem dX8_misfitOf_53 : decode cX8_misfitOf 53 = .ok (.aload_n 0, 1) := dk_42 (dk_at dksX8_misfitOf_2 5 rfl rfl)
theorem dX8_misfitOf_54 : decode cX8_misfitOf 54 = .ok (.getfield 63, 3) := dk_180 0 63 (dk_at dksX8_misfitOf_2 6 rfl rfl)
theorem dX8_misfitOf_57 : decode cX8_misfitOf 57 = .ok (.iload_n 1, 1) := dk_27 (dk_at dksX8_misfitOf_2 9 rfl rfl)
theorem dX8_misfitOf_58 : decode cX8_misfitOf 58 = .ok (.iaload, 1) := dk_46 (dk_at dksX8_misfitOf_2 10 rfl rfl)
theorem dX8_misfitOf_59 : decode cX8_misfitOf 59 = .ok (.aload_n 0, 1) := dk_42 (dk_at dksX8_misfitOf_2 11 rfl rfl)
theorem dX8_misfitOf_60 : decode cX8_misfitOf 60 = .ok (.getfield 96, 3) := dk_180 0 96 (dk_at dksX8_misfitOf_2 12 rfl rfl)
theorem dX8_misfitOf_63 : decode cX8_misfitOf 63 = .ok (.bipush 12, 2) := dk_16 12 (dk_at dksX8_misfitOf_2 15 rfl rfl)
theorem dX8_misfitOf_65 : decode cX8_misfitOf 65 = .ok (.iload_n 2, 1) := dk_28 (dk_at dksX8_misfitOf_2 17 rfl rfl)
theorem dX8_misfitOf_66 : decode cX8_misfitOf 66 = .ok (.iadd, 1) := dk_96 (dk_at dksX8_misfitOf_2 18 rfl rfl)
theorem dX8_misfitOf_67 : decode cX8_misfitOf 67 = .ok (.iaload, 1) := dk_46 (dk_at dksX8_misfitOf_2 19 rfl rfl)
theorem dX8_misfitOf_68 : decode cX8_misfitOf 68 = .ok (.invokestatic 314, 3) := dk_184 1 58 (dk_at dksX8_misfitOf_2 20 rfl rfl)
theorem dX8_misfitOf_71 : decode cX8_misfitOf 71 = .ok (.iastore, 1) := dk_79 (dk_at dksX8_misfitOf_2 23 rfl rfl)
theorem dX8_misfitOf_72 : decode cX8_misfitOf 72 = .ok (.aload_n 0, 1) := dk_42 (dk_at dksX8_misfitOf_3 0 rfl rfl)
theorem dX8_misfitOf_73 : decode cX8_misfitOf 73 = .ok (.getfield 39, 3) := dk_180 0 39 (dk_at dksX8_misfitOf_3 1 rfl rfl)
theorem dX8_misfitOf_76 : decode cX8_misfitOf 76 = .ok (.iconst 3, 1) := dk_6 (dk_at dksX8_misfitOf_3 4 rfl rfl)
theorem dX8_misfitOf_77 : decode cX8_misfitOf 77 = .ok (.aload_n 0, 1) := dk_42 (dk_at dksX8_misfitOf_3 5 rfl rfl)
theorem dX8_misfitOf_78 : decode cX8_misfitOf 78 = .ok (.getfield 96, 3) := dk_180 0 96 (dk_at dksX8_misfitOf_3 6 rfl rfl)
theorem dX8_misfitOf_81 : decode cX8_misfitOf 81 = .ok (.bipush 12, 2) := dk_16 12 (dk_at dksX8_misfitOf_3 9 rfl rfl)
theorem dX8_misfitOf_83 : decode cX8_misfitOf 83 = .ok (.iload_n 2, 1) := dk_28 (dk_at dksX8_misfitOf_3 11 rfl rfl)
theorem dX8_misfitOf_84 : decode cX8_misfitOf 84 = .ok (.iadd, 1) := dk_96 (dk_at dksX8_misfitOf_3 12 rfl rfl)
theorem dX8_misfitOf_85 : decode cX8_misfitOf 85 = .ok (.iaload, 1) := dk_46 (dk_at dksX8_misfitOf_3 13 rfl rfl)
theorem dX8_misfitOf_86 : decode cX8_misfitOf 86 = .ok (.aload_n 0, 1) := dk_42 (dk_at dksX8_misfitOf_3 14 rfl rfl)
theorem dX8_misfitOf_87 : decode cX8_misfitOf 87 = .ok (.getfield 63, 3) := dk_180 0 63 (dk_at dksX8_misfitOf_3 15 rfl rfl)
theorem dX8_misfitOf_90 : decode cX8_misfitOf 90 = .ok (.iload_n 1, 1) := dk_27 (dk_at dksX8_misfitOf_3 18 rfl rfl)
theorem dX8_misfitOf_91 : decode cX8_misfitOf 91 = .ok (.iaload, 1) := dk_46 (dk_at dksX8_misfitOf_3 19 rfl rfl)
theorem dX8_misfitOf_92 : decode cX8_misfitOf 92 = .ok (.invokestatic 314, 3) := dk_184 1 58 (dk_at dksX8_misfitOf_3 20 rfl rfl)
theorem dX8_misfitOf_95 : decode cX8_misfitOf 95 = .ok (.iastore, 1) := dk_79 (dk_at dksX8_misfitOf_3 23 rfl rfl)
theorem dX8_misfitOf_96 : decode cX8_misfitOf 96 = .ok (.aload_n 0, 1) := dk_42 (dk_at dksX8_misfitOf_4 0 rfl rfl)
theorem dX8_misfitOf_97 : decode cX8_misfitOf 97 = .ok (.getfield 39, 3) := dk_180 0 39 (dk_at dksX8_misfitOf_4 1 rfl rfl)
theorem dX8_misfitOf_100 : decode cX8_misfitOf 100 = .ok (.iconst 4, 1) := dk_7 (dk_at dksX8_misfitOf_4 4 rfl rfl)
theorem dX8_misfitOf_101 : decode cX8_misfitOf 101 = .ok (.aload_n 0, 1) := dk_42 (dk_at dksX8_misfitOf_4 5 rfl rfl)
theorem dX8_misfitOf_102 : decode cX8_misfitOf 102 = .ok (.getfield 96, 3) := dk_180 0 96 (dk_at dksX8_misfitOf_4 6 rfl rfl)
theorem dX8_misfitOf_105 : decode cX8_misfitOf 105 = .ok (.bipush 30, 2) := dk_16 30 (dk_at dksX8_misfitOf_4 9 rfl rfl)
theorem dX8_misfitOf_107 : decode cX8_misfitOf 107 = .ok (.iload_n 2, 1) := dk_28 (dk_at dksX8_misfitOf_4 11 rfl rfl)
theorem dX8_misfitOf_108 : decode cX8_misfitOf 108 = .ok (.iadd, 1) := dk_96 (dk_at dksX8_misfitOf_4 12 rfl rfl)
theorem dX8_misfitOf_109 : decode cX8_misfitOf 109 = .ok (.iaload, 1) := dk_46 (dk_at dksX8_misfitOf_4 13 rfl rfl)
theorem dX8_misfitOf_110 : decode cX8_misfitOf 110 = .ok (.iastore, 1) := dk_79 (dk_at dksX8_misfitOf_4 14 rfl rfl)
theorem dX8_misfitOf_111 : decode cX8_misfitOf 111 = .ok (.aload_n 0, 1) := dk_42 (dk_at dksX8_misfitOf_4 15 rfl rfl)
theorem dX8_misfitOf_112 : decode cX8_misfitOf 112 = .ok (.getfield 39, 3) := dk_180 0 39 (dk_at dksX8_misfitOf_4 16 rfl rfl)
theorem dX8_misfitOf_115 : decode cX8_misfitOf 115 = .ok (.iconst 5, 1) := dk_8 (dk_at dksX8_misfitOf_4 19 rfl rfl)
theorem dX8_misfitOf_116 : decode cX8_misfitOf 116 = .ok (.aload_n 0, 1) := dk_42 (dk_at dksX8_misfitOf_4 20 rfl rfl)
theorem dX8_misfitOf_117 : decode cX8_misfitOf 117 = .ok (.getfield 96, 3) := dk_180 0 96 (dk_at dksX8_misfitOf_4 21 rfl rfl)
theorem dX8_misfitOf_120 : decode cX8_misfitOf 120 = .ok (.bipush 37, 2) := dk_16 37 (dk_at dksX8_misfitOf_5 0 rfl rfl)
theorem dX8_misfitOf_122 : decode cX8_misfitOf 122 = .ok (.iaload, 1) := dk_46 (dk_at dksX8_misfitOf_5 2 rfl rfl)
theorem dX8_misfitOf_123 : decode cX8_misfitOf 123 = .ok (.iastore, 1) := dk_79 (dk_at dksX8_misfitOf_5 3 rfl rfl)
theorem dX8_misfitOf_124 : decode cX8_misfitOf 124 = .ok (.aload_n 0, 1) := dk_42 (dk_at dksX8_misfitOf_5 4 rfl rfl)
theorem dX8_misfitOf_125 : decode cX8_misfitOf 125 = .ok (.getfield 317, 3) := dk_180 1 61 (dk_at dksX8_misfitOf_5 5 rfl rfl)
theorem dX8_misfitOf_128 : decode cX8_misfitOf 128 = .ok (.ifCond .ne 48, 3) := dk_154 0 48 (dk_at dksX8_misfitOf_5 8 rfl rfl)
theorem dX8_misfitOf_131 : decode cX8_misfitOf 131 = .ok (.iconst 3, 1) := dk_6 (dk_at dksX8_misfitOf_5 11 rfl rfl)
theorem dX8_misfitOf_132 : decode cX8_misfitOf 132 = .ok (.aload_n 0, 1) := dk_42 (dk_at dksX8_misfitOf_5 12 rfl rfl)
theorem dX8_misfitOf_133 : decode cX8_misfitOf 133 = .ok (.getfield 39, 3) := dk_180 0 39 (dk_at dksX8_misfitOf_5 13 rfl rfl)
theorem dX8_misfitOf_136 : decode cX8_misfitOf 136 = .ok (.iconst 0, 1) := dk_3 (dk_at dksX8_misfitOf_5 16 rfl rfl)
theorem dX8_misfitOf_137 : decode cX8_misfitOf 137 = .ok (.iaload, 1) := dk_46 (dk_at dksX8_misfitOf_5 17 rfl rfl)
theorem dX8_misfitOf_138 : decode cX8_misfitOf 138 = .ok (.imul, 1) := dk_104 (dk_at dksX8_misfitOf_5 18 rfl rfl)
theorem dX8_misfitOf_139 : decode cX8_misfitOf 139 = .ok (.aload_n 0, 1) := dk_42 (dk_at dksX8_misfitOf_5 19 rfl rfl)
theorem dX8_misfitOf_140 : decode cX8_misfitOf 140 = .ok (.getfield 39, 3) := dk_180 0 39 (dk_at dksX8_misfitOf_5 20 rfl rfl)
theorem dX8_misfitOf_143 : decode cX8_misfitOf 143 = .ok (.iconst 1, 1) := dk_4 (dk_at dksX8_misfitOf_5 23 rfl rfl)
theorem dX8_misfitOf_144 : decode cX8_misfitOf 144 = .ok (.iaload, 1) := dk_46 (dk_at dksX8_misfitOf_6 0 rfl rfl)
theorem dX8_misfitOf_145 : decode cX8_misfitOf 145 = .ok (.iadd, 1) := dk_96 (dk_at dksX8_misfitOf_6 1 rfl rfl)
theorem dX8_misfitOf_146 : decode cX8_misfitOf 146 = .ok (.iconst 2, 1) := dk_5 (dk_at dksX8_misfitOf_6 2 rfl rfl)
theorem dX8_misfitOf_147 : decode cX8_misfitOf 147 = .ok (.aload_n 0, 1) := dk_42 (dk_at dksX8_misfitOf_6 3 rfl rfl)
theorem dX8_misfitOf_148 : decode cX8_misfitOf 148 = .ok (.getfield 39, 3) := dk_180 0 39 (dk_at dksX8_misfitOf_6 4 rfl rfl)
theorem dX8_misfitOf_151 : decode cX8_misfitOf 151 = .ok (.iconst 2, 1) := dk_5 (dk_at dksX8_misfitOf_6 7 rfl rfl)
theorem dX8_misfitOf_152 : decode cX8_misfitOf 152 = .ok (.iaload, 1) := dk_46 (dk_at dksX8_misfitOf_6 8 rfl rfl)
theorem dX8_misfitOf_153 : decode cX8_misfitOf 153 = .ok (.imul, 1) := dk_104 (dk_at dksX8_misfitOf_6 9 rfl rfl)
theorem dX8_misfitOf_154 : decode cX8_misfitOf 154 = .ok (.iadd, 1) := dk_96 (dk_at dksX8_misfitOf_6 10 rfl rfl)
theorem dX8_misfitOf_155 : decode cX8_misfitOf 155 = .ok (.aload_n 0, 1) := dk_42 (dk_at dksX8_misfitOf_6 11 rfl rfl)
theorem dX8_misfitOf_156 : decode cX8_misfitOf 156 = .ok (.getfield 39, 3) := dk_180 0 39 (dk_at dksX8_misfitOf_6 12 rfl rfl)
theorem dX8_misfitOf_159 : decode cX8_misfitOf 159 = .ok (.iconst 3, 1) := dk_6 (dk_at dksX8_misfitOf_6 15 rfl rfl)
theorem dX8_misfitOf_160 : decode cX8_misfitOf 160 = .ok (.iaload, 1) := dk_46 (dk_at dksX8_misfitOf_6 16 rfl rfl)
theorem dX8_misfitOf_161 : decode cX8_misfitOf 161 = .ok (.iadd, 1) := dk_96 (dk_at dksX8_misfitOf_6 17 rfl rfl)
theorem dX8_misfitOf_162 : decode cX8_misfitOf 162 = .ok (.aload_n 0, 1) := dk_42 (dk_at dksX8_misfitOf_6 18 rfl rfl)
theorem dX8_misfitOf_163 : decode cX8_misfitOf 163 = .ok (.getfield 39, 3) := dk_180 0 39 (dk_at dksX8_misfitOf_6 19 rfl rfl)
theorem dX8_misfitOf_166 : decode cX8_misfitOf 166 = .ok (.iconst 4, 1) := dk_7 (dk_at dksX8_misfitOf_6 22 rfl rfl)
theorem dX8_misfitOf_167 : decode cX8_misfitOf 167 = .ok (.iaload, 1) := dk_46 (dk_at dksX8_misfitOf_6 23 rfl rfl)
theorem dX8_misfitOf_168 : decode cX8_misfitOf 168 = .ok (.iadd, 1) := dk_96 (dk_at dksX8_misfitOf_7 0 rfl rfl)
theorem dX8_misfitOf_169 : decode cX8_misfitOf 169 = .ok (.sipush 999, 3) := dk_17 3 231 (dk_at dksX8_misfitOf_7 1 rfl rfl)
theorem dX8_misfitOf_172 : decode cX8_misfitOf 172 = .ok (.invokestatic 320, 3) := dk_184 1 64 (dk_at dksX8_misfitOf_7 4 rfl rfl)
theorem dX8_misfitOf_175 : decode cX8_misfitOf 175 = .ok (.ireturn, 1) := dk_172 (dk_at dksX8_misfitOf_7 7 rfl rfl)
theorem dX8_misfitOf_176 : decode cX8_misfitOf 176 = .ok (.iconst 0, 1) := dk_3 (dk_at dksX8_misfitOf_7 8 rfl rfl)
theorem dX8_misfitOf_177 : decode cX8_misfitOf 177 = .ok (.istore_n 3, 1) := dk_62 (dk_at dksX8_misfitOf_7 9 rfl rfl)
theorem dX8_misfitOf_178 : decode cX8_misfitOf 178 = .ok (.iconst 0, 1) := dk_3 (dk_at dksX8_misfitOf_7 10 rfl rfl)
theorem dX8_misfitOf_179 : decode cX8_misfitOf 179 = .ok (.istore 4, 2) := dk_54 4 (dk_at dksX8_misfitOf_7 11 rfl rfl)
theorem dX8_misfitOf_181 : decode cX8_misfitOf 181 = .ok (.iload 4, 2) := dk_21 4 (dk_at dksX8_misfitOf_7 13 rfl rfl)
theorem dX8_misfitOf_183 : decode cX8_misfitOf 183 = .ok (.aload_n 0, 1) := dk_42 (dk_at dksX8_misfitOf_7 15 rfl rfl)
theorem dX8_misfitOf_184 : decode cX8_misfitOf 184 = .ok (.getfield 323, 3) := dk_180 1 67 (dk_at dksX8_misfitOf_7 16 rfl rfl)
theorem dX8_misfitOf_187 : decode cX8_misfitOf 187 = .ok (.if_icmp .ge 150, 3) := dk_162 0 150 (dk_at dksX8_misfitOf_7 19 rfl rfl)
theorem dX8_misfitOf_190 : decode cX8_misfitOf 190 = .ok (.aload_n 0, 1) := dk_42 (dk_at dksX8_misfitOf_7 22 rfl rfl)
theorem dX8_misfitOf_191 : decode cX8_misfitOf 191 = .ok (.getfield 27, 3) := dk_180 0 27 (dk_at dksX8_misfitOf_8 0 rfl rfl)
theorem dX8_misfitOf_194 : decode cX8_misfitOf 194 = .ok (.iload 4, 2) := dk_21 4 (dk_at dksX8_misfitOf_8 3 rfl rfl)
theorem dX8_misfitOf_196 : decode cX8_misfitOf 196 = .ok (.iaload, 1) := dk_46 (dk_at dksX8_misfitOf_8 5 rfl rfl)
theorem dX8_misfitOf_197 : decode cX8_misfitOf 197 = .ok (.ifCond .eq 14, 3) := dk_153 0 14 (dk_at dksX8_misfitOf_8 6 rfl rfl)
theorem dX8_misfitOf_200 : decode cX8_misfitOf 200 = .ok (.aload_n 0, 1) := dk_42 (dk_at dksX8_misfitOf_8 9 rfl rfl)
theorem dX8_misfitOf_201 : decode cX8_misfitOf 201 = .ok (.getfield 27, 3) := dk_180 0 27 (dk_at dksX8_misfitOf_8 10 rfl rfl)
theorem dX8_misfitOf_204 : decode cX8_misfitOf 204 = .ok (.iload 4, 2) := dk_21 4 (dk_at dksX8_misfitOf_8 13 rfl rfl)
theorem dX8_misfitOf_206 : decode cX8_misfitOf 206 = .ok (.iaload, 1) := dk_46 (dk_at dksX8_misfitOf_8 15 rfl rfl)
theorem dX8_misfitOf_207 : decode cX8_misfitOf 207 = .ok (.iconst 1, 1) := dk_4 (dk_at dksX8_misfitOf_8 16 rfl rfl)
theorem dX8_misfitOf_208 : decode cX8_misfitOf 208 = .ok (.if_icmp .ne 47, 3) := dk_160 0 47 (dk_at dksX8_misfitOf_8 17 rfl rfl)
theorem dX8_misfitOf_211 : decode cX8_misfitOf 211 = .ok (.aload_n 0, 1) := dk_42 (dk_at dksX8_misfitOf_8 20 rfl rfl)
theorem dX8_misfitOf_212 : decode cX8_misfitOf 212 = .ok (.getfield 36, 3) := dk_180 0 36 (dk_at dksX8_misfitOf_8 21 rfl rfl)
theorem dX8_misfitOf_215 : decode cX8_misfitOf 215 = .ok (.iload_n 3, 1) := dk_29 (dk_at dksX8_misfitOf_9 0 rfl rfl)
theorem dX8_misfitOf_216 : decode cX8_misfitOf 216 = .ok (.aload_n 0, 1) := dk_42 (dk_at dksX8_misfitOf_9 1 rfl rfl)
theorem dX8_misfitOf_217 : decode cX8_misfitOf 217 = .ok (.getfield 27, 3) := dk_180 0 27 (dk_at dksX8_misfitOf_9 2 rfl rfl)
theorem dX8_misfitOf_220 : decode cX8_misfitOf 220 = .ok (.iload 4, 2) := dk_21 4 (dk_at dksX8_misfitOf_9 5 rfl rfl)
theorem dX8_misfitOf_222 : decode cX8_misfitOf 222 = .ok (.iaload, 1) := dk_46 (dk_at dksX8_misfitOf_9 7 rfl rfl)
theorem dX8_misfitOf_223 : decode cX8_misfitOf 223 = .ok (.ifCond .ne 13, 3) := dk_154 0 13 (dk_at dksX8_misfitOf_9 8 rfl rfl)
theorem dX8_misfitOf_226 : decode cX8_misfitOf 226 = .ok (.aload_n 0, 1) := dk_42 (dk_at dksX8_misfitOf_9 11 rfl rfl)
theorem dX8_misfitOf_227 : decode cX8_misfitOf 227 = .ok (.getfield 30, 3) := dk_180 0 30 (dk_at dksX8_misfitOf_9 12 rfl rfl)
theorem dX8_misfitOf_230 : decode cX8_misfitOf 230 = .ok (.iload 4, 2) := dk_21 4 (dk_at dksX8_misfitOf_9 15 rfl rfl)
theorem dX8_misfitOf_232 : decode cX8_misfitOf 232 = .ok (.iaload, 1) := dk_46 (dk_at dksX8_misfitOf_9 17 rfl rfl)
theorem dX8_misfitOf_233 : decode cX8_misfitOf 233 = .ok (.goto 15, 3) := dk_167 0 15 (dk_at dksX8_misfitOf_9 18 rfl rfl)
theorem dX8_misfitOf_236 : decode cX8_misfitOf 236 = .ok (.aload_n 0, 1) := dk_42 (dk_at dksX8_misfitOf_9 21 rfl rfl)
theorem dX8_misfitOf_237 : decode cX8_misfitOf 237 = .ok (.getfield 39, 3) := dk_180 0 39 (dk_at dksX8_misfitOf_10 0 rfl rfl)
theorem dX8_misfitOf_240 : decode cX8_misfitOf 240 = .ok (.aload_n 0, 1) := dk_42 (dk_at dksX8_misfitOf_10 3 rfl rfl)
theorem dX8_misfitOf_241 : decode cX8_misfitOf 241 = .ok (.getfield 30, 3) := dk_180 0 30 (dk_at dksX8_misfitOf_10 4 rfl rfl)
theorem dX8_misfitOf_244 : decode cX8_misfitOf 244 = .ok (.iload 4, 2) := dk_21 4 (dk_at dksX8_misfitOf_10 7 rfl rfl)
theorem dX8_misfitOf_246 : decode cX8_misfitOf 246 = .ok (.iaload, 1) := dk_46 (dk_at dksX8_misfitOf_10 9 rfl rfl)
theorem dX8_misfitOf_247 : decode cX8_misfitOf 247 = .ok (.iaload, 1) := dk_46 (dk_at dksX8_misfitOf_10 10 rfl rfl)
theorem dX8_misfitOf_248 : decode cX8_misfitOf 248 = .ok (.iastore, 1) := dk_79 (dk_at dksX8_misfitOf_10 11 rfl rfl)
theorem dX8_misfitOf_249 : decode cX8_misfitOf 249 = .ok (.iinc 3 1, 3) := dk_132 3 1 (dk_at dksX8_misfitOf_10 12 rfl rfl)
theorem dX8_misfitOf_252 : decode cX8_misfitOf 252 = .ok (.goto 79, 3) := dk_167 0 79 (dk_at dksX8_misfitOf_10 15 rfl rfl)
theorem dX8_misfitOf_255 : decode cX8_misfitOf 255 = .ok (.aload_n 0, 1) := dk_42 (dk_at dksX8_misfitOf_10 18 rfl rfl)
theorem dX8_misfitOf_256 : decode cX8_misfitOf 256 = .ok (.getfield 27, 3) := dk_180 0 27 (dk_at dksX8_misfitOf_10 19 rfl rfl)
theorem dX8_misfitOf_259 : decode cX8_misfitOf 259 = .ok (.iload 4, 2) := dk_21 4 (dk_at dksX8_misfitOf_10 22 rfl rfl)
theorem dX8_misfitOf_261 : decode cX8_misfitOf 261 = .ok (.iaload, 1) := dk_46 (dk_at dksX8_misfitOf_11 0 rfl rfl)
theorem dX8_misfitOf_262 : decode cX8_misfitOf 262 = .ok (.iconst 2, 1) := dk_5 (dk_at dksX8_misfitOf_11 1 rfl rfl)
theorem dX8_misfitOf_263 : decode cX8_misfitOf 263 = .ok (.if_icmp .ne 33, 3) := dk_160 0 33 (dk_at dksX8_misfitOf_11 2 rfl rfl)
theorem dX8_misfitOf_266 : decode cX8_misfitOf 266 = .ok (.aload_n 0, 1) := dk_42 (dk_at dksX8_misfitOf_11 5 rfl rfl)
theorem dX8_misfitOf_267 : decode cX8_misfitOf 267 = .ok (.getfield 36, 3) := dk_180 0 36 (dk_at dksX8_misfitOf_11 6 rfl rfl)
theorem dX8_misfitOf_270 : decode cX8_misfitOf 270 = .ok (.iload_n 3, 1) := dk_29 (dk_at dksX8_misfitOf_11 9 rfl rfl)
theorem dX8_misfitOf_271 : decode cX8_misfitOf 271 = .ok (.iconst 1, 1) := dk_4 (dk_at dksX8_misfitOf_11 10 rfl rfl)
theorem dX8_misfitOf_272 : decode cX8_misfitOf 272 = .ok (.isub, 1) := dk_100 (dk_at dksX8_misfitOf_11 11 rfl rfl)
theorem dX8_misfitOf_273 : decode cX8_misfitOf 273 = .ok (.aload_n 0, 1) := dk_42 (dk_at dksX8_misfitOf_11 12 rfl rfl)
theorem dX8_misfitOf_274 : decode cX8_misfitOf 274 = .ok (.getfield 36, 3) := dk_180 0 36 (dk_at dksX8_misfitOf_11 13 rfl rfl)
theorem dX8_misfitOf_277 : decode cX8_misfitOf 277 = .ok (.iload_n 3, 1) := dk_29 (dk_at dksX8_misfitOf_11 16 rfl rfl)
theorem dX8_misfitOf_278 : decode cX8_misfitOf 278 = .ok (.iconst 1, 1) := dk_4 (dk_at dksX8_misfitOf_11 17 rfl rfl)
theorem dX8_misfitOf_279 : decode cX8_misfitOf 279 = .ok (.isub, 1) := dk_100 (dk_at dksX8_misfitOf_11 18 rfl rfl)
theorem dX8_misfitOf_280 : decode cX8_misfitOf 280 = .ok (.iaload, 1) := dk_46 (dk_at dksX8_misfitOf_11 19 rfl rfl)
theorem dX8_misfitOf_281 : decode cX8_misfitOf 281 = .ok (.ifCond .ne 7, 3) := dk_154 0 7 (dk_at dksX8_misfitOf_11 20 rfl rfl)
theorem dX8_misfitOf_284 : decode cX8_misfitOf 284 = .ok (.iconst 1, 1) := dk_4 (dk_at dksX8_misfitOf_11 23 rfl rfl)
theorem dX8_misfitOf_285 : decode cX8_misfitOf 285 = .ok (.goto 4, 3) := dk_167 0 4 (dk_at dksX8_misfitOf_12 0 rfl rfl)
theorem dX8_misfitOf_288 : decode cX8_misfitOf 288 = .ok (.iconst 0, 1) := dk_3 (dk_at dksX8_misfitOf_12 3 rfl rfl)
theorem dX8_misfitOf_289 : decode cX8_misfitOf 289 = .ok (.invokestatic 310, 3) := dk_184 1 54 (dk_at dksX8_misfitOf_12 4 rfl rfl)
theorem dX8_misfitOf_292 : decode cX8_misfitOf 292 = .ok (.iastore, 1) := dk_79 (dk_at dksX8_misfitOf_12 7 rfl rfl)
theorem dX8_misfitOf_293 : decode cX8_misfitOf 293 = .ok (.goto 38, 3) := dk_167 0 38 (dk_at dksX8_misfitOf_12 8 rfl rfl)
theorem dX8_misfitOf_296 : decode cX8_misfitOf 296 = .ok (.iinc 3 (-1), 3) := dk_132 3 255 (dk_at dksX8_misfitOf_12 11 rfl rfl)
theorem dX8_misfitOf_299 : decode cX8_misfitOf 299 = .ok (.aload_n 0, 1) := dk_42 (dk_at dksX8_misfitOf_12 14 rfl rfl)
theorem dX8_misfitOf_300 : decode cX8_misfitOf 300 = .ok (.getfield 36, 3) := dk_180 0 36 (dk_at dksX8_misfitOf_12 15 rfl rfl)
theorem dX8_misfitOf_303 : decode cX8_misfitOf 303 = .ok (.iload_n 3, 1) := dk_29 (dk_at dksX8_misfitOf_12 18 rfl rfl)
theorem dX8_misfitOf_304 : decode cX8_misfitOf 304 = .ok (.iconst 1, 1) := dk_4 (dk_at dksX8_misfitOf_12 19 rfl rfl)
theorem dX8_misfitOf_305 : decode cX8_misfitOf 305 = .ok (.isub, 1) := dk_100 (dk_at dksX8_misfitOf_12 20 rfl rfl)
theorem dX8_misfitOf_306 : decode cX8_misfitOf 306 = .ok (.aload_n 0, 1) := dk_42 (dk_at dksX8_misfitOf_12 21 rfl rfl)
theorem dX8_misfitOf_307 : decode cX8_misfitOf 307 = .ok (.getfield 30, 3) := dk_180 0 30 (dk_at dksX8_misfitOf_13 0 rfl rfl)
theorem dX8_misfitOf_310 : decode cX8_misfitOf 310 = .ok (.iload 4, 2) := dk_21 4 (dk_at dksX8_misfitOf_13 3 rfl rfl)
theorem dX8_misfitOf_312 : decode cX8_misfitOf 312 = .ok (.iaload, 1) := dk_46 (dk_at dksX8_misfitOf_13 5 rfl rfl)
theorem dX8_misfitOf_313 : decode cX8_misfitOf 313 = .ok (.aload_n 0, 1) := dk_42 (dk_at dksX8_misfitOf_13 6 rfl rfl)
theorem dX8_misfitOf_314 : decode cX8_misfitOf 314 = .ok (.getfield 36, 3) := dk_180 0 36 (dk_at dksX8_misfitOf_13 7 rfl rfl)
theorem dX8_misfitOf_317 : decode cX8_misfitOf 317 = .ok (.iload_n 3, 1) := dk_29 (dk_at dksX8_misfitOf_13 10 rfl rfl)
theorem dX8_misfitOf_318 : decode cX8_misfitOf 318 = .ok (.iconst 1, 1) := dk_4 (dk_at dksX8_misfitOf_13 11 rfl rfl)
theorem dX8_misfitOf_319 : decode cX8_misfitOf 319 = .ok (.isub, 1) := dk_100 (dk_at dksX8_misfitOf_13 12 rfl rfl)
theorem dX8_misfitOf_320 : decode cX8_misfitOf 320 = .ok (.iaload, 1) := dk_46 (dk_at dksX8_misfitOf_13 13 rfl rfl)
theorem dX8_misfitOf_321 : decode cX8_misfitOf 321 = .ok (.aload_n 0, 1) := dk_42 (dk_at dksX8_misfitOf_13 14 rfl rfl)
theorem dX8_misfitOf_322 : decode cX8_misfitOf 322 = .ok (.getfield 36, 3) := dk_180 0 36 (dk_at dksX8_misfitOf_13 15 rfl rfl)
theorem dX8_misfitOf_325 : decode cX8_misfitOf 325 = .ok (.iload_n 3, 1) := dk_29 (dk_at dksX8_misfitOf_13 18 rfl rfl)
theorem dX8_misfitOf_326 : decode cX8_misfitOf 326 = .ok (.iaload, 1) := dk_46 (dk_at dksX8_misfitOf_13 19 rfl rfl)
theorem dX8_misfitOf_327 : decode cX8_misfitOf 327 = .ok (.invokestatic 326, 3) := dk_184 1 70 (dk_at dksX8_misfitOf_13 20 rfl rfl)
theorem dX8_misfitOf_330 : decode cX8_misfitOf 330 = .ok (.iastore, 1) := dk_79 (dk_at dksX8_misfitOf_13 23 rfl rfl)
theorem dX8_misfitOf_331 : decode cX8_misfitOf 331 = .ok (.iinc 4 1, 3) := dk_132 4 1 (dk_at dksX8_misfitOf_14 0 rfl rfl)
theorem dX8_misfitOf_334 : decode cX8_misfitOf 334 = .ok (.goto (-153), 3) := dk_167 255 103 (dk_at dksX8_misfitOf_14 3 rfl rfl)
theorem dX8_misfitOf_337 : decode cX8_misfitOf 337 = .ok (.aload_n 0, 1) := dk_42 (dk_at dksX8_misfitOf_14 6 rfl rfl)
theorem dX8_misfitOf_338 : decode cX8_misfitOf 338 = .ok (.getfield 36, 3) := dk_180 0 36 (dk_at dksX8_misfitOf_14 7 rfl rfl)
theorem dX8_misfitOf_341 : decode cX8_misfitOf 341 = .ok (.iconst 0, 1) := dk_3 (dk_at dksX8_misfitOf_14 10 rfl rfl)
theorem dX8_misfitOf_342 : decode cX8_misfitOf 342 = .ok (.iaload, 1) := dk_46 (dk_at dksX8_misfitOf_14 11 rfl rfl)
theorem dX8_misfitOf_343 : decode cX8_misfitOf 343 = .ok (.sipush 999, 3) := dk_17 3 231 (dk_at dksX8_misfitOf_14 12 rfl rfl)
theorem dX8_misfitOf_346 : decode cX8_misfitOf 346 = .ok (.invokestatic 320, 3) := dk_184 1 64 (dk_at dksX8_misfitOf_14 15 rfl rfl)
theorem dX8_misfitOf_349 : decode cX8_misfitOf 349 = .ok (.ireturn, 1) := dk_172 (dk_at dksX8_misfitOf_14 18 rfl rfl)
abbrev cX8_over : ByteArray := prog_20_method_38_code
def yX8_over : MethodName := ⟨RX8, "over", "(II)I"⟩
def dkwX8_over_0 : List UInt8 := [26, 27, 164, 0, 9, 26, 27, 100, 167, 0, 4, 3, 172]
abbrev dktX8_over_0 : List UInt8 := dkwX8_over_0 ++ []
theorem dksX8_over_0 : cX8_over.data.toList.drop 0 = dktX8_over_0 := by decide +kernel
theorem dX8_over_0 : decode cX8_over 0 = .ok (.iload_n 0, 1) := dk_26 (dk_at dksX8_over_0 0 rfl rfl)
theorem dX8_over_1 : decode cX8_over 1 = .ok (.iload_n 1, 1) := dk_27 (dk_at dksX8_over_0 1 rfl rfl)
theorem dX8_over_2 : decode cX8_over 2 = .ok (.if_icmp .le 9, 3) := dk_164 0 9 (dk_at dksX8_over_0 2 rfl rfl)
theorem dX8_over_5 : decode cX8_over 5 = .ok (.iload_n 0, 1) := dk_26 (dk_at dksX8_over_0 5 rfl rfl)
theorem dX8_over_6 : decode cX8_over 6 = .ok (.iload_n 1, 1) := dk_27 (dk_at dksX8_over_0 6 rfl rfl)
theorem dX8_over_7 : decode cX8_over 7 = .ok (.isub, 1) := dk_100 (dk_at dksX8_over_0 7 rfl rfl)
theorem dX8_over_8 : decode cX8_over 8 = .ok (.goto 4, 3) := dk_167 0 4 (dk_at dksX8_over_0 8 rfl rfl)
theorem dX8_over_11 : decode cX8_over 11 = .ok (.iconst 0, 1) := dk_3 (dk_at dksX8_over_0 11 rfl rfl)
theorem dX8_over_12 : decode cX8_over 12 = .ok (.ireturn, 1) := dk_172 (dk_at dksX8_over_0 12 rfl rfl)
abbrev cX8_within : ByteArray := prog_20_method_34_code
def yX8_within : MethodName := ⟨RX8, "within", "(II)I"⟩
def dkwX8_within_0 : List UInt8 := [26, 156, 0, 7, 3, 167, 0, 13, 26, 27, 164, 0, 7, 27, 167, 0, 4, 26, 172]
abbrev dktX8_within_0 : List UInt8 := dkwX8_within_0 ++ []
theorem dksX8_within_0 : cX8_within.data.toList.drop 0 = dktX8_within_0 := by decide +kernel
theorem dX8_within_0 : decode cX8_within 0 = .ok (.iload_n 0, 1) := dk_26 (dk_at dksX8_within_0 0 rfl rfl)
theorem dX8_within_1 : decode cX8_within 1 = .ok (.ifCond .ge 7, 3) := dk_156 0 7 (dk_at dksX8_within_0 1 rfl rfl)
theorem dX8_within_4 : decode cX8_within 4 = .ok (.iconst 0, 1) := dk_3 (dk_at dksX8_within_0 4 rfl rfl)
theorem dX8_within_5 : decode cX8_within 5 = .ok (.goto 13, 3) := dk_167 0 13 (dk_at dksX8_within_0 5 rfl rfl)
theorem dX8_within_8 : decode cX8_within 8 = .ok (.iload_n 0, 1) := dk_26 (dk_at dksX8_within_0 8 rfl rfl)
theorem dX8_within_9 : decode cX8_within 9 = .ok (.iload_n 1, 1) := dk_27 (dk_at dksX8_within_0 9 rfl rfl)
theorem dX8_within_10 : decode cX8_within 10 = .ok (.if_icmp .le 7, 3) := dk_164 0 7 (dk_at dksX8_within_0 10 rfl rfl)
theorem dX8_within_13 : decode cX8_within 13 = .ok (.iload_n 1, 1) := dk_27 (dk_at dksX8_within_0 13 rfl rfl)
theorem dX8_within_14 : decode cX8_within 14 = .ok (.goto 4, 3) := dk_167 0 4 (dk_at dksX8_within_0 14 rfl rfl)
theorem dX8_within_17 : decode cX8_within 17 = .ok (.iload_n 0, 1) := dk_26 (dk_at dksX8_within_0 17 rfl rfl)
theorem dX8_within_18 : decode cX8_within 18 = .ok (.ireturn, 1) := dk_172 (dk_at dksX8_within_0 18 rfl rfl)
abbrev cX8_truth : ByteArray := prog_20_method_32_code
def yX8_truth : MethodName := ⟨RX8, "truth", "(Z)I"⟩
def dkwX8_truth_0 : List UInt8 := [26, 153, 0, 7, 4, 167, 0, 4, 3, 172]
abbrev dktX8_truth_0 : List UInt8 := dkwX8_truth_0 ++ []
theorem dksX8_truth_0 : cX8_truth.data.toList.drop 0 = dktX8_truth_0 := by decide +kernel
theorem dX8_truth_0 : decode cX8_truth 0 = .ok (.iload_n 0, 1) := dk_26 (dk_at dksX8_truth_0 0 rfl rfl)
theorem dX8_truth_1 : decode cX8_truth 1 = .ok (.ifCond .eq 7, 3) := dk_153 0 7 (dk_at dksX8_truth_0 1 rfl rfl)
theorem dX8_truth_4 : decode cX8_truth 4 = .ok (.iconst 1, 1) := dk_4 (dk_at dksX8_truth_0 4 rfl rfl)
theorem dX8_truth_5 : decode cX8_truth 5 = .ok (.goto 4, 3) := dk_167 0 4 (dk_at dksX8_truth_0 5 rfl rfl)
theorem dX8_truth_8 : decode cX8_truth 8 = .ok (.iconst 0, 1) := dk_3 (dk_at dksX8_truth_0 8 rfl rfl)
theorem dX8_truth_9 : decode cX8_truth 9 = .ok (.ireturn, 1) := dk_172 (dk_at dksX8_truth_0 9 rfl rfl)
abbrev cX8_done : ByteArray := prog_20_method_33_code
def yX8_done : MethodName := ⟨RX8, "done", "(III)I"⟩
def dkwX8_done_6 : List UInt8 := [172, 27, 154, 0, 7, 28, 153, 0, 7, 4, 167, 0, 4, 3, 184, 1, 54, 172]
abbrev dktX8_done_6 : List UInt8 := dkwX8_done_6 ++ []
def dkwX8_done_5 : List UInt8 := [167, 0, 4, 3, 184, 1, 54, 172, 27, 153, 0, 11, 28, 153, 0, 7, 4, 167, 0, 4, 3, 184, 1, 54]
abbrev dktX8_done_5 : List UInt8 := dkwX8_done_5 ++ dktX8_done_6
def dkwX8_done_4 : List UInt8 := [184, 1, 54, 172, 27, 28, 164, 0, 7, 4, 167, 0, 4, 3, 184, 1, 54, 172, 27, 28, 160, 0, 7, 4]
abbrev dktX8_done_4 : List UInt8 := dkwX8_done_4 ++ dktX8_done_5
def dkwX8_done_3 : List UInt8 := [28, 154, 0, 7, 3, 167, 0, 6, 27, 28, 112, 172, 27, 28, 162, 0, 7, 4, 167, 0, 4, 3]
abbrev dktX8_done_3 : List UInt8 := dkwX8_done_3 ++ dktX8_done_4
def dkwX8_done_2 : List UInt8 := [27, 28, 96, 172, 27, 28, 100, 172, 27, 28, 104, 172, 28, 154, 0, 7, 3, 167, 0, 6, 27, 28, 108, 172]
abbrev dktX8_done_2 : List UInt8 := dkwX8_done_2 ++ dktX8_done_3
def dkwX8_done_1 : List UInt8 := [170, 0, 0, 0, 0, 0, 214, 0, 0, 0, 37, 0, 0, 0, 62, 0, 0, 0, 143, 0, 0, 0, 197, 0, 0, 0, 214, 0, 0, 0, 214, 0, 0, 0, 214, 0, 0, 0, 127, 0, 0, 0, 119, 0, 0, 0, 214, 0, 0, 0, 123, 0, 0, 0, 214, 0, 0, 0, 131, 0, 0, 0, 214, 0, 0, 0, 214, 0, 0, 0, 214, 0, 0, 0, 214, 0, 0, 0, 214, 0, 0, 0, 214, 0, 0, 0, 214, 0, 0, 0, 214, 0, 0, 0, 214, 0, 0, 0, 214, 0, 0, 0, 214, 0, 0, 0, 214, 0, 0, 0, 155, 0, 0, 0, 183, 0, 0, 0, 169]
abbrev dktX8_done_1 : List UInt8 := dkwX8_done_1 ++ dktX8_done_2
def dkwX8_done_0 : List UInt8 := [26]
abbrev dktX8_done_0 : List UInt8 := dkwX8_done_0 ++ dktX8_done_1
theorem dksX8_done_0 : cX8_done.data.toList.drop 0 = dktX8_done_0 := by decide +kernel
theorem dksX8_done_1 : cX8_done.data.toList.drop 1 = dktX8_done_1 := dk_seg dksX8_done_0 1 rfl rfl
theorem dksX8_done_2 : cX8_done.data.toList.drop 120 = dktX8_done_2 := dk_seg dksX8_done_1 119 rfl rfl
theorem dksX8_done_3 : cX8_done.data.toList.drop 144 = dktX8_done_3 := dk_seg dksX8_done_2 24 rfl rfl
theorem dksX8_done_4 : cX8_done.data.toList.drop 166 = dktX8_done_4 := dk_seg dksX8_done_3 22 rfl rfl
theorem dksX8_done_5 : cX8_done.data.toList.drop 190 = dktX8_done_5 := dk_seg dksX8_done_4 24 rfl rfl
theorem dksX8_done_6 : cX8_done.data.toList.drop 214 = dktX8_done_6 := dk_seg dksX8_done_5 24 rfl rfl
theorem dX8_done_0 : decode cX8_done 0 = .ok (.iload_n 0, 1) := dk_26 (dk_at dksX8_done_0 0 rfl rfl)
theorem dX8_done_1 : decode cX8_done 1 = .ok (.tableswitch 214 37 62 #[143, 197, 214, 214, 214, 127, 119, 214, 123, 214, 131, 214, 214, 214, 214, 214, 214, 214, 214, 214, 214, 214, 214, 155, 183, 169], 119) := by decide +kernel
theorem dX8_done_120 : decode cX8_done 120 = .ok (.iload_n 1, 1) := dk_27 (dk_at dksX8_done_2 0 rfl rfl)
theorem dX8_done_121 : decode cX8_done 121 = .ok (.iload_n 2, 1) := dk_28 (dk_at dksX8_done_2 1 rfl rfl)
theorem dX8_done_122 : decode cX8_done 122 = .ok (.iadd, 1) := dk_96 (dk_at dksX8_done_2 2 rfl rfl)
theorem dX8_done_123 : decode cX8_done 123 = .ok (.ireturn, 1) := dk_172 (dk_at dksX8_done_2 3 rfl rfl)
theorem dX8_done_124 : decode cX8_done 124 = .ok (.iload_n 1, 1) := dk_27 (dk_at dksX8_done_2 4 rfl rfl)
theorem dX8_done_125 : decode cX8_done 125 = .ok (.iload_n 2, 1) := dk_28 (dk_at dksX8_done_2 5 rfl rfl)
theorem dX8_done_126 : decode cX8_done 126 = .ok (.isub, 1) := dk_100 (dk_at dksX8_done_2 6 rfl rfl)
theorem dX8_done_127 : decode cX8_done 127 = .ok (.ireturn, 1) := dk_172 (dk_at dksX8_done_2 7 rfl rfl)
theorem dX8_done_128 : decode cX8_done 128 = .ok (.iload_n 1, 1) := dk_27 (dk_at dksX8_done_2 8 rfl rfl)
theorem dX8_done_129 : decode cX8_done 129 = .ok (.iload_n 2, 1) := dk_28 (dk_at dksX8_done_2 9 rfl rfl)
theorem dX8_done_130 : decode cX8_done 130 = .ok (.imul, 1) := dk_104 (dk_at dksX8_done_2 10 rfl rfl)
theorem dX8_done_131 : decode cX8_done 131 = .ok (.ireturn, 1) := dk_172 (dk_at dksX8_done_2 11 rfl rfl)
theorem dX8_done_132 : decode cX8_done 132 = .ok (.iload_n 2, 1) := dk_28 (dk_at dksX8_done_2 12 rfl rfl)
theorem dX8_done_133 : decode cX8_done 133 = .ok (.ifCond .ne 7, 3) := dk_154 0 7 (dk_at dksX8_done_2 13 rfl rfl)
theorem dX8_done_136 : decode cX8_done 136 = .ok (.iconst 0, 1) := dk_3 (dk_at dksX8_done_2 16 rfl rfl)
theorem dX8_done_137 : decode cX8_done 137 = .ok (.goto 6, 3) := dk_167 0 6 (dk_at dksX8_done_2 17 rfl rfl)
theorem dX8_done_140 : decode cX8_done 140 = .ok (.iload_n 1, 1) := dk_27 (dk_at dksX8_done_2 20 rfl rfl)
theorem dX8_done_141 : decode cX8_done 141 = .ok (.iload_n 2, 1) := dk_28 (dk_at dksX8_done_2 21 rfl rfl)
theorem dX8_done_142 : decode cX8_done 142 = .ok (.idiv, 1) := dk_108 (dk_at dksX8_done_2 22 rfl rfl)
theorem dX8_done_143 : decode cX8_done 143 = .ok (.ireturn, 1) := dk_172 (dk_at dksX8_done_2 23 rfl rfl)
theorem dX8_done_144 : decode cX8_done 144 = .ok (.iload_n 2, 1) := dk_28 (dk_at dksX8_done_3 0 rfl rfl)
theorem dX8_done_145 : decode cX8_done 145 = .ok (.ifCond .ne 7, 3) := dk_154 0 7 (dk_at dksX8_done_3 1 rfl rfl)
theorem dX8_done_148 : decode cX8_done 148 = .ok (.iconst 0, 1) := dk_3 (dk_at dksX8_done_3 4 rfl rfl)
theorem dX8_done_149 : decode cX8_done 149 = .ok (.goto 6, 3) := dk_167 0 6 (dk_at dksX8_done_3 5 rfl rfl)
theorem dX8_done_152 : decode cX8_done 152 = .ok (.iload_n 1, 1) := dk_27 (dk_at dksX8_done_3 8 rfl rfl)
theorem dX8_done_153 : decode cX8_done 153 = .ok (.iload_n 2, 1) := dk_28 (dk_at dksX8_done_3 9 rfl rfl)
theorem dX8_done_154 : decode cX8_done 154 = .ok (.irem, 1) := dk_112 (dk_at dksX8_done_3 10 rfl rfl)
theorem dX8_done_155 : decode cX8_done 155 = .ok (.ireturn, 1) := dk_172 (dk_at dksX8_done_3 11 rfl rfl)
theorem dX8_done_156 : decode cX8_done 156 = .ok (.iload_n 1, 1) := dk_27 (dk_at dksX8_done_3 12 rfl rfl)
theorem dX8_done_157 : decode cX8_done 157 = .ok (.iload_n 2, 1) := dk_28 (dk_at dksX8_done_3 13 rfl rfl)
theorem dX8_done_158 : decode cX8_done 158 = .ok (.if_icmp .ge 7, 3) := dk_162 0 7 (dk_at dksX8_done_3 14 rfl rfl)
theorem dX8_done_161 : decode cX8_done 161 = .ok (.iconst 1, 1) := dk_4 (dk_at dksX8_done_3 17 rfl rfl)
theorem dX8_done_162 : decode cX8_done 162 = .ok (.goto 4, 3) := dk_167 0 4 (dk_at dksX8_done_3 18 rfl rfl)
theorem dX8_done_165 : decode cX8_done 165 = .ok (.iconst 0, 1) := dk_3 (dk_at dksX8_done_3 21 rfl rfl)
theorem dX8_done_166 : decode cX8_done 166 = .ok (.invokestatic 310, 3) := dk_184 1 54 (dk_at dksX8_done_4 0 rfl rfl)
theorem dX8_done_169 : decode cX8_done 169 = .ok (.ireturn, 1) := dk_172 (dk_at dksX8_done_4 3 rfl rfl)
theorem dX8_done_170 : decode cX8_done 170 = .ok (.iload_n 1, 1) := dk_27 (dk_at dksX8_done_4 4 rfl rfl)
theorem dX8_done_171 : decode cX8_done 171 = .ok (.iload_n 2, 1) := dk_28 (dk_at dksX8_done_4 5 rfl rfl)
theorem dX8_done_172 : decode cX8_done 172 = .ok (.if_icmp .le 7, 3) := dk_164 0 7 (dk_at dksX8_done_4 6 rfl rfl)
theorem dX8_done_175 : decode cX8_done 175 = .ok (.iconst 1, 1) := dk_4 (dk_at dksX8_done_4 9 rfl rfl)
theorem dX8_done_176 : decode cX8_done 176 = .ok (.goto 4, 3) := dk_167 0 4 (dk_at dksX8_done_4 10 rfl rfl)
theorem dX8_done_179 : decode cX8_done 179 = .ok (.iconst 0, 1) := dk_3 (dk_at dksX8_done_4 13 rfl rfl)
theorem dX8_done_180 : decode cX8_done 180 = .ok (.invokestatic 310, 3) := dk_184 1 54 (dk_at dksX8_done_4 14 rfl rfl)
theorem dX8_done_183 : decode cX8_done 183 = .ok (.ireturn, 1) := dk_172 (dk_at dksX8_done_4 17 rfl rfl)
theorem dX8_done_184 : decode cX8_done 184 = .ok (.iload_n 1, 1) := dk_27 (dk_at dksX8_done_4 18 rfl rfl)
theorem dX8_done_185 : decode cX8_done 185 = .ok (.iload_n 2, 1) := dk_28 (dk_at dksX8_done_4 19 rfl rfl)
theorem dX8_done_186 : decode cX8_done 186 = .ok (.if_icmp .ne 7, 3) := dk_160 0 7 (dk_at dksX8_done_4 20 rfl rfl)
theorem dX8_done_189 : decode cX8_done 189 = .ok (.iconst 1, 1) := dk_4 (dk_at dksX8_done_4 23 rfl rfl)
theorem dX8_done_190 : decode cX8_done 190 = .ok (.goto 4, 3) := dk_167 0 4 (dk_at dksX8_done_5 0 rfl rfl)
theorem dX8_done_193 : decode cX8_done 193 = .ok (.iconst 0, 1) := dk_3 (dk_at dksX8_done_5 3 rfl rfl)
theorem dX8_done_194 : decode cX8_done 194 = .ok (.invokestatic 310, 3) := dk_184 1 54 (dk_at dksX8_done_5 4 rfl rfl)
theorem dX8_done_197 : decode cX8_done 197 = .ok (.ireturn, 1) := dk_172 (dk_at dksX8_done_5 7 rfl rfl)
theorem dX8_done_198 : decode cX8_done 198 = .ok (.iload_n 1, 1) := dk_27 (dk_at dksX8_done_5 8 rfl rfl)
theorem dX8_done_199 : decode cX8_done 199 = .ok (.ifCond .eq 11, 3) := dk_153 0 11 (dk_at dksX8_done_5 9 rfl rfl)
theorem dX8_done_202 : decode cX8_done 202 = .ok (.iload_n 2, 1) := dk_28 (dk_at dksX8_done_5 12 rfl rfl)
theorem dX8_done_203 : decode cX8_done 203 = .ok (.ifCond .eq 7, 3) := dk_153 0 7 (dk_at dksX8_done_5 13 rfl rfl)
theorem dX8_done_206 : decode cX8_done 206 = .ok (.iconst 1, 1) := dk_4 (dk_at dksX8_done_5 16 rfl rfl)
theorem dX8_done_207 : decode cX8_done 207 = .ok (.goto 4, 3) := dk_167 0 4 (dk_at dksX8_done_5 17 rfl rfl)
theorem dX8_done_210 : decode cX8_done 210 = .ok (.iconst 0, 1) := dk_3 (dk_at dksX8_done_5 20 rfl rfl)
theorem dX8_done_211 : decode cX8_done 211 = .ok (.invokestatic 310, 3) := dk_184 1 54 (dk_at dksX8_done_5 21 rfl rfl)
theorem dX8_done_214 : decode cX8_done 214 = .ok (.ireturn, 1) := dk_172 (dk_at dksX8_done_6 0 rfl rfl)
theorem dX8_done_215 : decode cX8_done 215 = .ok (.iload_n 1, 1) := dk_27 (dk_at dksX8_done_6 1 rfl rfl)
theorem dX8_done_216 : decode cX8_done 216 = .ok (.ifCond .ne 7, 3) := dk_154 0 7 (dk_at dksX8_done_6 2 rfl rfl)
theorem dX8_done_219 : decode cX8_done 219 = .ok (.iload_n 2, 1) := dk_28 (dk_at dksX8_done_6 5 rfl rfl)
theorem dX8_done_220 : decode cX8_done 220 = .ok (.ifCond .eq 7, 3) := dk_153 0 7 (dk_at dksX8_done_6 6 rfl rfl)
theorem dX8_done_223 : decode cX8_done 223 = .ok (.iconst 1, 1) := dk_4 (dk_at dksX8_done_6 9 rfl rfl)
theorem dX8_done_224 : decode cX8_done 224 = .ok (.goto 4, 3) := dk_167 0 4 (dk_at dksX8_done_6 10 rfl rfl)
theorem dX8_done_227 : decode cX8_done 227 = .ok (.iconst 0, 1) := dk_3 (dk_at dksX8_done_6 13 rfl rfl)
theorem dX8_done_228 : decode cX8_done 228 = .ok (.invokestatic 310, 3) := dk_184 1 54 (dk_at dksX8_done_6 14 rfl rfl)
theorem dX8_done_231 : decode cX8_done 231 = .ok (.ireturn, 1) := dk_172 (dk_at dksX8_done_6 17 rfl rfl)
abbrev cX8_coat : ByteArray := prog_20_method_62_code
def yX8_coat : MethodName := ⟨RX8, "coat", "(II)I"⟩
def dkwX8_coat_4 : List UInt8 := [122, 4, 126, 172, 42, 27, 182, 1, 178, 172, 16, 254, 172]
abbrev dktX8_coat_4 : List UInt8 := dkwX8_coat_4 ++ []
def dkwX8_coat_3 : List UInt8 := [16, 24, 27, 96, 46, 172, 42, 180, 0, 96, 16, 30, 27, 96, 46, 172, 42, 180, 0, 96, 16, 36, 46, 27]
abbrev dktX8_coat_3 : List UInt8 := dkwX8_coat_3 ++ dktX8_coat_4
def dkwX8_coat_2 : List UInt8 := [42, 180, 0, 96, 16, 12, 27, 96, 46, 172, 42, 180, 0, 96, 16, 18, 27, 96, 46, 172, 42, 180, 0, 96]
abbrev dktX8_coat_2 : List UInt8 := dkwX8_coat_2 ++ dktX8_coat_3
def dkwX8_coat_1 : List UInt8 := [170, 0, 0, 0, 0, 0, 0, 98, 0, 0, 0, 0, 0, 0, 0, 5, 0, 0, 0, 40, 0, 0, 0, 50, 0, 0, 0, 60, 0, 0, 0, 70, 0, 0, 0, 80, 0, 0, 0, 92]
abbrev dktX8_coat_1 : List UInt8 := dkwX8_coat_1 ++ dktX8_coat_2
def dkwX8_coat_0 : List UInt8 := [42, 27, 182, 1, 199, 154, 0, 6, 16, 254, 172, 42, 182, 1, 193, 28]
abbrev dktX8_coat_0 : List UInt8 := dkwX8_coat_0 ++ dktX8_coat_1
theorem dksX8_coat_0 : cX8_coat.data.toList.drop 0 = dktX8_coat_0 := by decide +kernel
theorem dksX8_coat_1 : cX8_coat.data.toList.drop 16 = dktX8_coat_1 := dk_seg dksX8_coat_0 16 rfl rfl
theorem dksX8_coat_2 : cX8_coat.data.toList.drop 56 = dktX8_coat_2 := dk_seg dksX8_coat_1 40 rfl rfl
theorem dksX8_coat_3 : cX8_coat.data.toList.drop 80 = dktX8_coat_3 := dk_seg dksX8_coat_2 24 rfl rfl
theorem dksX8_coat_4 : cX8_coat.data.toList.drop 104 = dktX8_coat_4 := dk_seg dksX8_coat_3 24 rfl rfl
theorem dX8_coat_0 : decode cX8_coat 0 = .ok (.aload_n 0, 1) := dk_42 (dk_at dksX8_coat_0 0 rfl rfl)
theorem dX8_coat_1 : decode cX8_coat 1 = .ok (.iload_n 1, 1) := dk_27 (dk_at dksX8_coat_0 1 rfl rfl)
theorem dX8_coat_2 : decode cX8_coat 2 = .ok (.invokevirtual 455, 3) := dk_182 1 199 (dk_at dksX8_coat_0 2 rfl rfl)
theorem dX8_coat_5 : decode cX8_coat 5 = .ok (.ifCond .ne 6, 3) := dk_154 0 6 (dk_at dksX8_coat_0 5 rfl rfl)
theorem dX8_coat_8 : decode cX8_coat 8 = .ok (.bipush (-2), 2) := dk_16 254 (dk_at dksX8_coat_0 8 rfl rfl)
theorem dX8_coat_10 : decode cX8_coat 10 = .ok (.ireturn, 1) := dk_172 (dk_at dksX8_coat_0 10 rfl rfl)
theorem dX8_coat_11 : decode cX8_coat 11 = .ok (.aload_n 0, 1) := dk_42 (dk_at dksX8_coat_0 11 rfl rfl)
theorem dX8_coat_12 : decode cX8_coat 12 = .ok (.invokevirtual 449, 3) := dk_182 1 193 (dk_at dksX8_coat_0 12 rfl rfl)
theorem dX8_coat_15 : decode cX8_coat 15 = .ok (.iload_n 2, 1) := dk_28 (dk_at dksX8_coat_0 15 rfl rfl)
theorem dX8_coat_16 : decode cX8_coat 16 = .ok (.tableswitch 98 0 5 #[40, 50, 60, 70, 80, 92], 40) := by decide +kernel
theorem dX8_coat_56 : decode cX8_coat 56 = .ok (.aload_n 0, 1) := dk_42 (dk_at dksX8_coat_2 0 rfl rfl)
theorem dX8_coat_57 : decode cX8_coat 57 = .ok (.getfield 96, 3) := dk_180 0 96 (dk_at dksX8_coat_2 1 rfl rfl)
theorem dX8_coat_60 : decode cX8_coat 60 = .ok (.bipush 12, 2) := dk_16 12 (dk_at dksX8_coat_2 4 rfl rfl)
theorem dX8_coat_62 : decode cX8_coat 62 = .ok (.iload_n 1, 1) := dk_27 (dk_at dksX8_coat_2 6 rfl rfl)
theorem dX8_coat_63 : decode cX8_coat 63 = .ok (.iadd, 1) := dk_96 (dk_at dksX8_coat_2 7 rfl rfl)
theorem dX8_coat_64 : decode cX8_coat 64 = .ok (.iaload, 1) := dk_46 (dk_at dksX8_coat_2 8 rfl rfl)
theorem dX8_coat_65 : decode cX8_coat 65 = .ok (.ireturn, 1) := dk_172 (dk_at dksX8_coat_2 9 rfl rfl)
theorem dX8_coat_66 : decode cX8_coat 66 = .ok (.aload_n 0, 1) := dk_42 (dk_at dksX8_coat_2 10 rfl rfl)
theorem dX8_coat_67 : decode cX8_coat 67 = .ok (.getfield 96, 3) := dk_180 0 96 (dk_at dksX8_coat_2 11 rfl rfl)
theorem dX8_coat_70 : decode cX8_coat 70 = .ok (.bipush 18, 2) := dk_16 18 (dk_at dksX8_coat_2 14 rfl rfl)
theorem dX8_coat_72 : decode cX8_coat 72 = .ok (.iload_n 1, 1) := dk_27 (dk_at dksX8_coat_2 16 rfl rfl)
theorem dX8_coat_73 : decode cX8_coat 73 = .ok (.iadd, 1) := dk_96 (dk_at dksX8_coat_2 17 rfl rfl)
theorem dX8_coat_74 : decode cX8_coat 74 = .ok (.iaload, 1) := dk_46 (dk_at dksX8_coat_2 18 rfl rfl)
theorem dX8_coat_75 : decode cX8_coat 75 = .ok (.ireturn, 1) := dk_172 (dk_at dksX8_coat_2 19 rfl rfl)
theorem dX8_coat_76 : decode cX8_coat 76 = .ok (.aload_n 0, 1) := dk_42 (dk_at dksX8_coat_2 20 rfl rfl)
theorem dX8_coat_77 : decode cX8_coat 77 = .ok (.getfield 96, 3) := dk_180 0 96 (dk_at dksX8_coat_2 21 rfl rfl)
theorem dX8_coat_80 : decode cX8_coat 80 = .ok (.bipush 24, 2) := dk_16 24 (dk_at dksX8_coat_3 0 rfl rfl)
theorem dX8_coat_82 : decode cX8_coat 82 = .ok (.iload_n 1, 1) := dk_27 (dk_at dksX8_coat_3 2 rfl rfl)
theorem dX8_coat_83 : decode cX8_coat 83 = .ok (.iadd, 1) := dk_96 (dk_at dksX8_coat_3 3 rfl rfl)
theorem dX8_coat_84 : decode cX8_coat 84 = .ok (.iaload, 1) := dk_46 (dk_at dksX8_coat_3 4 rfl rfl)
theorem dX8_coat_85 : decode cX8_coat 85 = .ok (.ireturn, 1) := dk_172 (dk_at dksX8_coat_3 5 rfl rfl)
theorem dX8_coat_86 : decode cX8_coat 86 = .ok (.aload_n 0, 1) := dk_42 (dk_at dksX8_coat_3 6 rfl rfl)
theorem dX8_coat_87 : decode cX8_coat 87 = .ok (.getfield 96, 3) := dk_180 0 96 (dk_at dksX8_coat_3 7 rfl rfl)
theorem dX8_coat_90 : decode cX8_coat 90 = .ok (.bipush 30, 2) := dk_16 30 (dk_at dksX8_coat_3 10 rfl rfl)
theorem dX8_coat_92 : decode cX8_coat 92 = .ok (.iload_n 1, 1) := dk_27 (dk_at dksX8_coat_3 12 rfl rfl)
theorem dX8_coat_93 : decode cX8_coat 93 = .ok (.iadd, 1) := dk_96 (dk_at dksX8_coat_3 13 rfl rfl)
theorem dX8_coat_94 : decode cX8_coat 94 = .ok (.iaload, 1) := dk_46 (dk_at dksX8_coat_3 14 rfl rfl)
theorem dX8_coat_95 : decode cX8_coat 95 = .ok (.ireturn, 1) := dk_172 (dk_at dksX8_coat_3 15 rfl rfl)
theorem dX8_coat_96 : decode cX8_coat 96 = .ok (.aload_n 0, 1) := dk_42 (dk_at dksX8_coat_3 16 rfl rfl)
theorem dX8_coat_97 : decode cX8_coat 97 = .ok (.getfield 96, 3) := dk_180 0 96 (dk_at dksX8_coat_3 17 rfl rfl)
theorem dX8_coat_100 : decode cX8_coat 100 = .ok (.bipush 36, 2) := dk_16 36 (dk_at dksX8_coat_3 20 rfl rfl)
theorem dX8_coat_102 : decode cX8_coat 102 = .ok (.iaload, 1) := dk_46 (dk_at dksX8_coat_3 22 rfl rfl)
theorem dX8_coat_103 : decode cX8_coat 103 = .ok (.iload_n 1, 1) := dk_27 (dk_at dksX8_coat_3 23 rfl rfl)
theorem dX8_coat_104 : decode cX8_coat 104 = .ok (.ishr, 1) := dk_122 (dk_at dksX8_coat_4 0 rfl rfl)
theorem dX8_coat_105 : decode cX8_coat 105 = .ok (.iconst 1, 1) := dk_4 (dk_at dksX8_coat_4 1 rfl rfl)
theorem dX8_coat_106 : decode cX8_coat 106 = .ok (.iand, 1) := dk_126 (dk_at dksX8_coat_4 2 rfl rfl)
theorem dX8_coat_107 : decode cX8_coat 107 = .ok (.ireturn, 1) := dk_172 (dk_at dksX8_coat_4 3 rfl rfl)
theorem dX8_coat_108 : decode cX8_coat 108 = .ok (.aload_n 0, 1) := dk_42 (dk_at dksX8_coat_4 4 rfl rfl)
theorem dX8_coat_109 : decode cX8_coat 109 = .ok (.iload_n 1, 1) := dk_27 (dk_at dksX8_coat_4 5 rfl rfl)
theorem dX8_coat_110 : decode cX8_coat 110 = .ok (.invokevirtual 434, 3) := dk_182 1 178 (dk_at dksX8_coat_4 6 rfl rfl)
theorem dX8_coat_113 : decode cX8_coat 113 = .ok (.ireturn, 1) := dk_172 (dk_at dksX8_coat_4 9 rfl rfl)
theorem dX8_coat_114 : decode cX8_coat 114 = .ok (.bipush (-2), 2) := dk_16 254 (dk_at dksX8_coat_4 10 rfl rfl)
theorem dX8_coat_116 : decode cX8_coat 116 = .ok (.ireturn, 1) := dk_172 (dk_at dksX8_coat_4 12 rfl rfl)
abbrev cX8_isCoat : ByteArray := prog_20_method_48_code
def yX8_isCoat : MethodName := ⟨RX8, "isCoat", "(I)Z"⟩
def dkwX8_isCoat_0 : List UInt8 := [27, 3, 42, 180, 1, 134, 4, 100, 184, 1, 161, 172]
abbrev dktX8_isCoat_0 : List UInt8 := dkwX8_isCoat_0 ++ []
theorem dksX8_isCoat_0 : cX8_isCoat.data.toList.drop 0 = dktX8_isCoat_0 := by decide +kernel
theorem dX8_isCoat_0 : decode cX8_isCoat 0 = .ok (.iload_n 1, 1) := dk_27 (dk_at dksX8_isCoat_0 0 rfl rfl)
theorem dX8_isCoat_1 : decode cX8_isCoat 1 = .ok (.iconst 0, 1) := dk_3 (dk_at dksX8_isCoat_0 1 rfl rfl)
theorem dX8_isCoat_2 : decode cX8_isCoat 2 = .ok (.aload_n 0, 1) := dk_42 (dk_at dksX8_isCoat_0 2 rfl rfl)
theorem dX8_isCoat_3 : decode cX8_isCoat 3 = .ok (.getfield 390, 3) := dk_180 1 134 (dk_at dksX8_isCoat_0 3 rfl rfl)
theorem dX8_isCoat_6 : decode cX8_isCoat 6 = .ok (.iconst 1, 1) := dk_4 (dk_at dksX8_isCoat_0 6 rfl rfl)
theorem dX8_isCoat_7 : decode cX8_isCoat 7 = .ok (.isub, 1) := dk_100 (dk_at dksX8_isCoat_0 7 rfl rfl)
theorem dX8_isCoat_8 : decode cX8_isCoat 8 = .ok (.invokestatic 417, 3) := dk_184 1 161 (dk_at dksX8_isCoat_0 8 rfl rfl)
theorem dX8_isCoat_11 : decode cX8_isCoat 11 = .ok (.ireturn, 1) := dk_172 (dk_at dksX8_isCoat_0 11 rfl rfl)
abbrev cX8_wearer : ByteArray := prog_20_method_53_code
def yX8_wearer : MethodName := ⟨RX8, "wearer", "(I)I"⟩
def dkwX8_wearer_1 : List UInt8 := [160, 0, 7, 29, 167, 0, 4, 28, 61, 132, 3, 1, 167, 255, 226, 28, 172]
abbrev dktX8_wearer_1 : List UInt8 := dkwX8_wearer_1 ++ []
def dkwX8_wearer_0 : List UInt8 := [2, 61, 3, 62, 29, 42, 180, 1, 131, 162, 0, 28, 42, 180, 0, 96, 16, 6, 29, 96, 46, 27]
abbrev dktX8_wearer_0 : List UInt8 := dkwX8_wearer_0 ++ dktX8_wearer_1
theorem dksX8_wearer_0 : cX8_wearer.data.toList.drop 0 = dktX8_wearer_0 := by decide +kernel
theorem dksX8_wearer_1 : cX8_wearer.data.toList.drop 22 = dktX8_wearer_1 := dk_seg dksX8_wearer_0 22 rfl rfl
theorem dX8_wearer_0 : decode cX8_wearer 0 = .ok (.iconst (-1), 1) := dk_2 (dk_at dksX8_wearer_0 0 rfl rfl)
theorem dX8_wearer_1 : decode cX8_wearer 1 = .ok (.istore_n 2, 1) := dk_61 (dk_at dksX8_wearer_0 1 rfl rfl)
theorem dX8_wearer_2 : decode cX8_wearer 2 = .ok (.iconst 0, 1) := dk_3 (dk_at dksX8_wearer_0 2 rfl rfl)
theorem dX8_wearer_3 : decode cX8_wearer 3 = .ok (.istore_n 3, 1) := dk_62 (dk_at dksX8_wearer_0 3 rfl rfl)
theorem dX8_wearer_4 : decode cX8_wearer 4 = .ok (.iload_n 3, 1) := dk_29 (dk_at dksX8_wearer_0 4 rfl rfl)
theorem dX8_wearer_5 : decode cX8_wearer 5 = .ok (.aload_n 0, 1) := dk_42 (dk_at dksX8_wearer_0 5 rfl rfl)
theorem dX8_wearer_6 : decode cX8_wearer 6 = .ok (.getfield 387, 3) := dk_180 1 131 (dk_at dksX8_wearer_0 6 rfl rfl)
theorem dX8_wearer_9 : decode cX8_wearer 9 = .ok (.if_icmp .ge 28, 3) := dk_162 0 28 (dk_at dksX8_wearer_0 9 rfl rfl)
theorem dX8_wearer_12 : decode cX8_wearer 12 = .ok (.aload_n 0, 1) := dk_42 (dk_at dksX8_wearer_0 12 rfl rfl)
theorem dX8_wearer_13 : decode cX8_wearer 13 = .ok (.getfield 96, 3) := dk_180 0 96 (dk_at dksX8_wearer_0 13 rfl rfl)
theorem dX8_wearer_16 : decode cX8_wearer 16 = .ok (.bipush 6, 2) := dk_16 6 (dk_at dksX8_wearer_0 16 rfl rfl)
theorem dX8_wearer_18 : decode cX8_wearer 18 = .ok (.iload_n 3, 1) := dk_29 (dk_at dksX8_wearer_0 18 rfl rfl)
theorem dX8_wearer_19 : decode cX8_wearer 19 = .ok (.iadd, 1) := dk_96 (dk_at dksX8_wearer_0 19 rfl rfl)
theorem dX8_wearer_20 : decode cX8_wearer 20 = .ok (.iaload, 1) := dk_46 (dk_at dksX8_wearer_0 20 rfl rfl)
theorem dX8_wearer_21 : decode cX8_wearer 21 = .ok (.iload_n 1, 1) := dk_27 (dk_at dksX8_wearer_0 21 rfl rfl)
theorem dX8_wearer_22 : decode cX8_wearer 22 = .ok (.if_icmp .ne 7, 3) := dk_160 0 7 (dk_at dksX8_wearer_1 0 rfl rfl)
theorem dX8_wearer_25 : decode cX8_wearer 25 = .ok (.iload_n 3, 1) := dk_29 (dk_at dksX8_wearer_1 3 rfl rfl)
theorem dX8_wearer_26 : decode cX8_wearer 26 = .ok (.goto 4, 3) := dk_167 0 4 (dk_at dksX8_wearer_1 4 rfl rfl)
theorem dX8_wearer_29 : decode cX8_wearer 29 = .ok (.iload_n 2, 1) := dk_28 (dk_at dksX8_wearer_1 7 rfl rfl)
theorem dX8_wearer_30 : decode cX8_wearer 30 = .ok (.istore_n 2, 1) := dk_61 (dk_at dksX8_wearer_1 8 rfl rfl)
theorem dX8_wearer_31 : decode cX8_wearer 31 = .ok (.iinc 3 1, 3) := dk_132 3 1 (dk_at dksX8_wearer_1 9 rfl rfl)
theorem dX8_wearer_34 : decode cX8_wearer 34 = .ok (.goto (-30), 3) := dk_167 255 226 (dk_at dksX8_wearer_1 12 rfl rfl)
theorem dX8_wearer_37 : decode cX8_wearer 37 = .ok (.iload_n 2, 1) := dk_28 (dk_at dksX8_wearer_1 15 rfl rfl)
theorem dX8_wearer_38 : decode cX8_wearer 38 = .ok (.ireturn, 1) := dk_172 (dk_at dksX8_wearer_1 16 rfl rfl)
abbrev cX8_misfit : ByteArray := prog_20_method_63_code
def yX8_misfit : MethodName := ⟨RX8, "misfit", "(II)I"⟩
def dkwX8_misfit_1 : List UInt8 := [182, 1, 165, 167, 0, 4, 2, 172]
abbrev dktX8_misfit_1 : List UInt8 := dkwX8_misfit_1 ++ []
def dkwX8_misfit_0 : List UInt8 := [42, 182, 1, 193, 42, 27, 182, 1, 190, 153, 0, 20, 42, 28, 182, 1, 199, 153, 0, 12, 42, 27, 28]
abbrev dktX8_misfit_0 : List UInt8 := dkwX8_misfit_0 ++ dktX8_misfit_1
theorem dksX8_misfit_0 : cX8_misfit.data.toList.drop 0 = dktX8_misfit_0 := by decide +kernel
theorem dksX8_misfit_1 : cX8_misfit.data.toList.drop 23 = dktX8_misfit_1 := dk_seg dksX8_misfit_0 23 rfl rfl
theorem dX8_misfit_0 : decode cX8_misfit 0 = .ok (.aload_n 0, 1) := dk_42 (dk_at dksX8_misfit_0 0 rfl rfl)
theorem dX8_misfit_1 : decode cX8_misfit 1 = .ok (.invokevirtual 449, 3) := dk_182 1 193 (dk_at dksX8_misfit_0 1 rfl rfl)
theorem dX8_misfit_4 : decode cX8_misfit 4 = .ok (.aload_n 0, 1) := dk_42 (dk_at dksX8_misfit_0 4 rfl rfl)
theorem dX8_misfit_5 : decode cX8_misfit 5 = .ok (.iload_n 1, 1) := dk_27 (dk_at dksX8_misfit_0 5 rfl rfl)
theorem dX8_misfit_6 : decode cX8_misfit 6 = .ok (.invokevirtual 446, 3) := dk_182 1 190 (dk_at dksX8_misfit_0 6 rfl rfl)
theorem dX8_misfit_9 : decode cX8_misfit 9 = .ok (.ifCond .eq 20, 3) := dk_153 0 20 (dk_at dksX8_misfit_0 9 rfl rfl)
theorem dX8_misfit_12 : decode cX8_misfit 12 = .ok (.aload_n 0, 1) := dk_42 (dk_at dksX8_misfit_0 12 rfl rfl)
theorem dX8_misfit_13 : decode cX8_misfit 13 = .ok (.iload_n 2, 1) := dk_28 (dk_at dksX8_misfit_0 13 rfl rfl)
theorem dX8_misfit_14 : decode cX8_misfit 14 = .ok (.invokevirtual 455, 3) := dk_182 1 199 (dk_at dksX8_misfit_0 14 rfl rfl)
theorem dX8_misfit_17 : decode cX8_misfit 17 = .ok (.ifCond .eq 12, 3) := dk_153 0 12 (dk_at dksX8_misfit_0 17 rfl rfl)
theorem dX8_misfit_20 : decode cX8_misfit 20 = .ok (.aload_n 0, 1) := dk_42 (dk_at dksX8_misfit_0 20 rfl rfl)
theorem dX8_misfit_21 : decode cX8_misfit 21 = .ok (.iload_n 1, 1) := dk_27 (dk_at dksX8_misfit_0 21 rfl rfl)
theorem dX8_misfit_22 : decode cX8_misfit 22 = .ok (.iload_n 2, 1) := dk_28 (dk_at dksX8_misfit_0 22 rfl rfl)
theorem dX8_misfit_23 : decode cX8_misfit 23 = .ok (.invokevirtual 421, 3) := dk_182 1 165 (dk_at dksX8_misfit_1 0 rfl rfl)
theorem dX8_misfit_26 : decode cX8_misfit 26 = .ok (.goto 4, 3) := dk_167 0 4 (dk_at dksX8_misfit_1 3 rfl rfl)
theorem dX8_misfit_29 : decode cX8_misfit 29 = .ok (.iconst (-1), 1) := dk_2 (dk_at dksX8_misfit_1 6 rfl rfl)
theorem dX8_misfit_30 : decode cX8_misfit 30 = .ok (.ireturn, 1) := dk_172 (dk_at dksX8_misfit_1 7 rfl rfl)
abbrev cX8_day : ByteArray := prog_20_method_66_code
def yX8_day : MethodName := ⟨RX8, "day", "()I"⟩
def dkwX8_day_1 : List UInt8 := [42, 27, 182, 1, 208, 61, 42, 182, 1, 146, 28, 172]
abbrev dktX8_day_1 : List UInt8 := dkwX8_day_1 ++ []
def dkwX8_day_0 : List UInt8 := [42, 180, 0, 93, 16, 37, 46, 17, 3, 231, 160, 0, 5, 2, 172, 42, 182, 1, 202, 42, 182, 1, 205, 60]
abbrev dktX8_day_0 : List UInt8 := dkwX8_day_0 ++ dktX8_day_1
theorem dksX8_day_0 : cX8_day.data.toList.drop 0 = dktX8_day_0 := by decide +kernel
theorem dksX8_day_1 : cX8_day.data.toList.drop 24 = dktX8_day_1 := dk_seg dksX8_day_0 24 rfl rfl
theorem dX8_day_0 : decode cX8_day 0 = .ok (.aload_n 0, 1) := dk_42 (dk_at dksX8_day_0 0 rfl rfl)
theorem dX8_day_1 : decode cX8_day 1 = .ok (.getfield 93, 3) := dk_180 0 93 (dk_at dksX8_day_0 1 rfl rfl)
theorem dX8_day_4 : decode cX8_day 4 = .ok (.bipush 37, 2) := dk_16 37 (dk_at dksX8_day_0 4 rfl rfl)
theorem dX8_day_6 : decode cX8_day 6 = .ok (.iaload, 1) := dk_46 (dk_at dksX8_day_0 6 rfl rfl)
theorem dX8_day_7 : decode cX8_day 7 = .ok (.sipush 999, 3) := dk_17 3 231 (dk_at dksX8_day_0 7 rfl rfl)
theorem dX8_day_10 : decode cX8_day 10 = .ok (.if_icmp .ne 5, 3) := dk_160 0 5 (dk_at dksX8_day_0 10 rfl rfl)
theorem dX8_day_13 : decode cX8_day 13 = .ok (.iconst (-1), 1) := dk_2 (dk_at dksX8_day_0 13 rfl rfl)
theorem dX8_day_14 : decode cX8_day 14 = .ok (.ireturn, 1) := dk_172 (dk_at dksX8_day_0 14 rfl rfl)
theorem dX8_day_15 : decode cX8_day 15 = .ok (.aload_n 0, 1) := dk_42 (dk_at dksX8_day_0 15 rfl rfl)
theorem dX8_day_16 : decode cX8_day 16 = .ok (.invokevirtual 458, 3) := dk_182 1 202 (dk_at dksX8_day_0 16 rfl rfl)
theorem dX8_day_19 : decode cX8_day 19 = .ok (.aload_n 0, 1) := dk_42 (dk_at dksX8_day_0 19 rfl rfl)
theorem dX8_day_20 : decode cX8_day 20 = .ok (.invokevirtual 461, 3) := dk_182 1 205 (dk_at dksX8_day_0 20 rfl rfl)
theorem dX8_day_23 : decode cX8_day 23 = .ok (.istore_n 1, 1) := dk_60 (dk_at dksX8_day_0 23 rfl rfl)
theorem dX8_day_24 : decode cX8_day 24 = .ok (.aload_n 0, 1) := dk_42 (dk_at dksX8_day_1 0 rfl rfl)
theorem dX8_day_25 : decode cX8_day 25 = .ok (.iload_n 1, 1) := dk_27 (dk_at dksX8_day_1 1 rfl rfl)
theorem dX8_day_26 : decode cX8_day 26 = .ok (.invokevirtual 464, 3) := dk_182 1 208 (dk_at dksX8_day_1 2 rfl rfl)
theorem dX8_day_29 : decode cX8_day 29 = .ok (.istore_n 2, 1) := dk_61 (dk_at dksX8_day_1 5 rfl rfl)
theorem dX8_day_30 : decode cX8_day 30 = .ok (.aload_n 0, 1) := dk_42 (dk_at dksX8_day_1 6 rfl rfl)
theorem dX8_day_31 : decode cX8_day 31 = .ok (.invokevirtual 402, 3) := dk_182 1 146 (dk_at dksX8_day_1 7 rfl rfl)
theorem dX8_day_34 : decode cX8_day 34 = .ok (.iload_n 2, 1) := dk_28 (dk_at dksX8_day_1 10 rfl rfl)
theorem dX8_day_35 : decode cX8_day 35 = .ok (.ireturn, 1) := dk_172 (dk_at dksX8_day_1 11 rfl rfl)
abbrev cX8_act : ByteArray := prog_20_method_64_code
def yX8_act : MethodName := ⟨RX8, "act", "()V"⟩
def dkwX8_act_4 : List UInt8 := [3, 181, 1, 152, 42, 182, 1, 193, 177]
abbrev dktX8_act_4 : List UInt8 := dkwX8_act_4 ++ []
def dkwX8_act_3 : List UInt8 := [42, 180, 0, 93, 27, 46, 79, 132, 1, 1, 167, 255, 227, 42, 89, 180, 1, 149, 4, 96, 181, 1, 149, 42]
abbrev dktX8_act_3 : List UInt8 := dkwX8_act_3 ++ dktX8_act_4
def dkwX8_act_2 : List UInt8 := [181, 1, 149, 3, 60, 27, 16, 39, 162, 0, 29, 42, 180, 0, 99, 16, 39, 42, 180, 1, 149, 104, 27, 96]
abbrev dktX8_act_2 : List UInt8 := dkwX8_act_2 ++ dktX8_act_3
def dkwX8_act_1 : List UInt8 := [180, 0, 99, 16, 39, 27, 96, 46, 79, 132, 1, 1, 167, 255, 231, 42, 89, 180, 1, 149, 4, 100]
abbrev dktX8_act_1 : List UInt8 := dkwX8_act_1 ++ dktX8_act_2
def dkwX8_act_0 : List UInt8 := [42, 180, 1, 149, 16, 40, 160, 0, 43, 3, 60, 27, 17, 5, 241, 162, 0, 24, 42, 180, 0, 99, 27, 42]
abbrev dktX8_act_0 : List UInt8 := dkwX8_act_0 ++ dktX8_act_1
theorem dksX8_act_0 : cX8_act.data.toList.drop 0 = dktX8_act_0 := by decide +kernel
theorem dksX8_act_1 : cX8_act.data.toList.drop 24 = dktX8_act_1 := dk_seg dksX8_act_0 24 rfl rfl
theorem dksX8_act_2 : cX8_act.data.toList.drop 46 = dktX8_act_2 := dk_seg dksX8_act_1 22 rfl rfl
theorem dksX8_act_3 : cX8_act.data.toList.drop 70 = dktX8_act_3 := dk_seg dksX8_act_2 24 rfl rfl
theorem dksX8_act_4 : cX8_act.data.toList.drop 94 = dktX8_act_4 := dk_seg dksX8_act_3 24 rfl rfl
theorem dX8_act_0 : decode cX8_act 0 = .ok (.aload_n 0, 1) := dk_42 (dk_at dksX8_act_0 0 rfl rfl)
theorem dX8_act_1 : decode cX8_act 1 = .ok (.getfield 405, 3) := dk_180 1 149 (dk_at dksX8_act_0 1 rfl rfl)
theorem dX8_act_4 : decode cX8_act 4 = .ok (.bipush 40, 2) := dk_16 40 (dk_at dksX8_act_0 4 rfl rfl)
theorem dX8_act_6 : decode cX8_act 6 = .ok (.if_icmp .ne 43, 3) := dk_160 0 43 (dk_at dksX8_act_0 6 rfl rfl)
theorem dX8_act_9 : decode cX8_act 9 = .ok (.iconst 0, 1) := dk_3 (dk_at dksX8_act_0 9 rfl rfl)
theorem dX8_act_10 : decode cX8_act 10 = .ok (.istore_n 1, 1) := dk_60 (dk_at dksX8_act_0 10 rfl rfl)
theorem dX8_act_11 : decode cX8_act 11 = .ok (.iload_n 1, 1) := dk_27 (dk_at dksX8_act_0 11 rfl rfl)
theorem dX8_act_12 : decode cX8_act 12 = .ok (.sipush 1521, 3) := dk_17 5 241 (dk_at dksX8_act_0 12 rfl rfl)
theorem dX8_act_15 : decode cX8_act 15 = .ok (.if_icmp .ge 24, 3) := dk_162 0 24 (dk_at dksX8_act_0 15 rfl rfl)
theorem dX8_act_18 : decode cX8_act 18 = .ok (.aload_n 0, 1) := dk_42 (dk_at dksX8_act_0 18 rfl rfl)
theorem dX8_act_19 : decode cX8_act 19 = .ok (.getfield 99, 3) := dk_180 0 99 (dk_at dksX8_act_0 19 rfl rfl)
theorem dX8_act_22 : decode cX8_act 22 = .ok (.iload_n 1, 1) := dk_27 (dk_at dksX8_act_0 22 rfl rfl)
theorem dX8_act_23 : decode cX8_act 23 = .ok (.aload_n 0, 1) := dk_42 (dk_at dksX8_act_0 23 rfl rfl)
theorem dX8_act_24 : decode cX8_act 24 = .ok (.getfield 99, 3) := dk_180 0 99 (dk_at dksX8_act_1 0 rfl rfl)
theorem dX8_act_27 : decode cX8_act 27 = .ok (.bipush 39, 2) := dk_16 39 (dk_at dksX8_act_1 3 rfl rfl)
theorem dX8_act_29 : decode cX8_act 29 = .ok (.iload_n 1, 1) := dk_27 (dk_at dksX8_act_1 5 rfl rfl)
theorem dX8_act_30 : decode cX8_act 30 = .ok (.iadd, 1) := dk_96 (dk_at dksX8_act_1 6 rfl rfl)
theorem dX8_act_31 : decode cX8_act 31 = .ok (.iaload, 1) := dk_46 (dk_at dksX8_act_1 7 rfl rfl)
theorem dX8_act_32 : decode cX8_act 32 = .ok (.iastore, 1) := dk_79 (dk_at dksX8_act_1 8 rfl rfl)
theorem dX8_act_33 : decode cX8_act 33 = .ok (.iinc 1 1, 3) := dk_132 1 1 (dk_at dksX8_act_1 9 rfl rfl)
theorem dX8_act_36 : decode cX8_act 36 = .ok (.goto (-25), 3) := dk_167 255 231 (dk_at dksX8_act_1 12 rfl rfl)
theorem dX8_act_39 : decode cX8_act 39 = .ok (.aload_n 0, 1) := dk_42 (dk_at dksX8_act_1 15 rfl rfl)
theorem dX8_act_40 : decode cX8_act 40 = .ok (.dup, 1) := dk_89 (dk_at dksX8_act_1 16 rfl rfl)
theorem dX8_act_41 : decode cX8_act 41 = .ok (.getfield 405, 3) := dk_180 1 149 (dk_at dksX8_act_1 17 rfl rfl)
theorem dX8_act_44 : decode cX8_act 44 = .ok (.iconst 1, 1) := dk_4 (dk_at dksX8_act_1 20 rfl rfl)
theorem dX8_act_45 : decode cX8_act 45 = .ok (.isub, 1) := dk_100 (dk_at dksX8_act_1 21 rfl rfl)
theorem dX8_act_46 : decode cX8_act 46 = .ok (.putfield 405, 3) := dk_181 1 149 (dk_at dksX8_act_2 0 rfl rfl)
theorem dX8_act_49 : decode cX8_act 49 = .ok (.iconst 0, 1) := dk_3 (dk_at dksX8_act_2 3 rfl rfl)
theorem dX8_act_50 : decode cX8_act 50 = .ok (.istore_n 1, 1) := dk_60 (dk_at dksX8_act_2 4 rfl rfl)
theorem dX8_act_51 : decode cX8_act 51 = .ok (.iload_n 1, 1) := dk_27 (dk_at dksX8_act_2 5 rfl rfl)
theorem dX8_act_52 : decode cX8_act 52 = .ok (.bipush 39, 2) := dk_16 39 (dk_at dksX8_act_2 6 rfl rfl)
theorem dX8_act_54 : decode cX8_act 54 = .ok (.if_icmp .ge 29, 3) := dk_162 0 29 (dk_at dksX8_act_2 8 rfl rfl)
theorem dX8_act_57 : decode cX8_act 57 = .ok (.aload_n 0, 1) := dk_42 (dk_at dksX8_act_2 11 rfl rfl)
theorem dX8_act_58 : decode cX8_act 58 = .ok (.getfield 99, 3) := dk_180 0 99 (dk_at dksX8_act_2 12 rfl rfl)
theorem dX8_act_61 : decode cX8_act 61 = .ok (.bipush 39, 2) := dk_16 39 (dk_at dksX8_act_2 15 rfl rfl)
theorem dX8_act_63 : decode cX8_act 63 = .ok (.aload_n 0, 1) := dk_42 (dk_at dksX8_act_2 17 rfl rfl)
theorem dX8_act_64 : decode cX8_act 64 = .ok (.getfield 405, 3) := dk_180 1 149 (dk_at dksX8_act_2 18 rfl rfl)
theorem dX8_act_67 : decode cX8_act 67 = .ok (.imul, 1) := dk_104 (dk_at dksX8_act_2 21 rfl rfl)
theorem dX8_act_68 : decode cX8_act 68 = .ok (.iload_n 1, 1) := dk_27 (dk_at dksX8_act_2 22 rfl rfl)
theorem dX8_act_69 : decode cX8_act 69 = .ok (.iadd, 1) := dk_96 (dk_at dksX8_act_2 23 rfl rfl)
theorem dX8_act_70 : decode cX8_act 70 = .ok (.aload_n 0, 1) := dk_42 (dk_at dksX8_act_3 0 rfl rfl)
theorem dX8_act_71 : decode cX8_act 71 = .ok (.getfield 93, 3) := dk_180 0 93 (dk_at dksX8_act_3 1 rfl rfl)
theorem dX8_act_74 : decode cX8_act 74 = .ok (.iload_n 1, 1) := dk_27 (dk_at dksX8_act_3 4 rfl rfl)
theorem dX8_act_75 : decode cX8_act 75 = .ok (.iaload, 1) := dk_46 (dk_at dksX8_act_3 5 rfl rfl)
theorem dX8_act_76 : decode cX8_act 76 = .ok (.iastore, 1) := dk_79 (dk_at dksX8_act_3 6 rfl rfl)
theorem dX8_act_77 : decode cX8_act 77 = .ok (.iinc 1 1, 3) := dk_132 1 1 (dk_at dksX8_act_3 7 rfl rfl)
theorem dX8_act_80 : decode cX8_act 80 = .ok (.goto (-29), 3) := dk_167 255 227 (dk_at dksX8_act_3 10 rfl rfl)
theorem dX8_act_83 : decode cX8_act 83 = .ok (.aload_n 0, 1) := dk_42 (dk_at dksX8_act_3 13 rfl rfl)
theorem dX8_act_84 : decode cX8_act 84 = .ok (.dup, 1) := dk_89 (dk_at dksX8_act_3 14 rfl rfl)
theorem dX8_act_85 : decode cX8_act 85 = .ok (.getfield 405, 3) := dk_180 1 149 (dk_at dksX8_act_3 15 rfl rfl)
theorem dX8_act_88 : decode cX8_act 88 = .ok (.iconst 1, 1) := dk_4 (dk_at dksX8_act_3 18 rfl rfl)
theorem dX8_act_89 : decode cX8_act 89 = .ok (.iadd, 1) := dk_96 (dk_at dksX8_act_3 19 rfl rfl)
theorem dX8_act_90 : decode cX8_act 90 = .ok (.putfield 405, 3) := dk_181 1 149 (dk_at dksX8_act_3 20 rfl rfl)
theorem dX8_act_93 : decode cX8_act 93 = .ok (.aload_n 0, 1) := dk_42 (dk_at dksX8_act_3 23 rfl rfl)
theorem dX8_act_94 : decode cX8_act 94 = .ok (.iconst 0, 1) := dk_3 (dk_at dksX8_act_4 0 rfl rfl)
theorem dX8_act_95 : decode cX8_act 95 = .ok (.putfield 408, 3) := dk_181 1 152 (dk_at dksX8_act_4 1 rfl rfl)
theorem dX8_act_98 : decode cX8_act 98 = .ok (.aload_n 0, 1) := dk_42 (dk_at dksX8_act_4 4 rfl rfl)
theorem dX8_act_99 : decode cX8_act 99 = .ok (.invokevirtual 449, 3) := dk_182 1 193 (dk_at dksX8_act_4 5 rfl rfl)
theorem dX8_act_102 : decode cX8_act 102 = .ok (.return_, 1) := dk_177 (dk_at dksX8_act_4 8 rfl rfl)
abbrev cX8_drawRain : ByteArray := prog_20_method_59_code
def yX8_drawRain : MethodName := ⟨RX8, "drawRain", "()Z"⟩
def dkwX8_drawRain_1 : List UInt8 := [79, 42, 180, 0, 96, 16, 38, 46, 16, 100, 112, 42, 180, 1, 137, 162, 0, 7, 4, 167, 0, 4, 3, 172]
abbrev dktX8_drawRain_1 : List UInt8 := dkwX8_drawRain_1 ++ []
def dkwX8_drawRain_0 : List UInt8 := [42, 180, 0, 96, 16, 38, 42, 180, 0, 96, 16, 38, 46, 17, 0, 137, 104, 16, 71, 96, 17, 3, 232, 112]
abbrev dktX8_drawRain_0 : List UInt8 := dkwX8_drawRain_0 ++ dktX8_drawRain_1
theorem dksX8_drawRain_0 : cX8_drawRain.data.toList.drop 0 = dktX8_drawRain_0 := by decide +kernel
theorem dksX8_drawRain_1 : cX8_drawRain.data.toList.drop 24 = dktX8_drawRain_1 := dk_seg dksX8_drawRain_0 24 rfl rfl
theorem dX8_drawRain_0 : decode cX8_drawRain 0 = .ok (.aload_n 0, 1) := dk_42 (dk_at dksX8_drawRain_0 0 rfl rfl)
theorem dX8_drawRain_1 : decode cX8_drawRain 1 = .ok (.getfield 96, 3) := dk_180 0 96 (dk_at dksX8_drawRain_0 1 rfl rfl)
theorem dX8_drawRain_4 : decode cX8_drawRain 4 = .ok (.bipush 38, 2) := dk_16 38 (dk_at dksX8_drawRain_0 4 rfl rfl)
theorem dX8_drawRain_6 : decode cX8_drawRain 6 = .ok (.aload_n 0, 1) := dk_42 (dk_at dksX8_drawRain_0 6 rfl rfl)
theorem dX8_drawRain_7 : decode cX8_drawRain 7 = .ok (.getfield 96, 3) := dk_180 0 96 (dk_at dksX8_drawRain_0 7 rfl rfl)
theorem dX8_drawRain_10 : decode cX8_drawRain 10 = .ok (.bipush 38, 2) := dk_16 38 (dk_at dksX8_drawRain_0 10 rfl rfl)
theorem dX8_drawRain_12 : decode cX8_drawRain 12 = .ok (.iaload, 1) := dk_46 (dk_at dksX8_drawRain_0 12 rfl rfl)
theorem dX8_drawRain_13 : decode cX8_drawRain 13 = .ok (.sipush 137, 3) := dk_17 0 137 (dk_at dksX8_drawRain_0 13 rfl rfl)
theorem dX8_drawRain_16 : decode cX8_drawRain 16 = .ok (.imul, 1) := dk_104 (dk_at dksX8_drawRain_0 16 rfl rfl)
theorem dX8_drawRain_17 : decode cX8_drawRain 17 = .ok (.bipush 71, 2) := dk_16 71 (dk_at dksX8_drawRain_0 17 rfl rfl)
theorem dX8_drawRain_19 : decode cX8_drawRain 19 = .ok (.iadd, 1) := dk_96 (dk_at dksX8_drawRain_0 19 rfl rfl)
theorem dX8_drawRain_20 : decode cX8_drawRain 20 = .ok (.sipush 1000, 3) := dk_17 3 232 (dk_at dksX8_drawRain_0 20 rfl rfl)
theorem dX8_drawRain_23 : decode cX8_drawRain 23 = .ok (.irem, 1) := dk_112 (dk_at dksX8_drawRain_0 23 rfl rfl)
theorem dX8_drawRain_24 : decode cX8_drawRain 24 = .ok (.iastore, 1) := dk_79 (dk_at dksX8_drawRain_1 0 rfl rfl)
theorem dX8_drawRain_25 : decode cX8_drawRain 25 = .ok (.aload_n 0, 1) := dk_42 (dk_at dksX8_drawRain_1 1 rfl rfl)
theorem dX8_drawRain_26 : decode cX8_drawRain 26 = .ok (.getfield 96, 3) := dk_180 0 96 (dk_at dksX8_drawRain_1 2 rfl rfl)
theorem dX8_drawRain_29 : decode cX8_drawRain 29 = .ok (.bipush 38, 2) := dk_16 38 (dk_at dksX8_drawRain_1 5 rfl rfl)
theorem dX8_drawRain_31 : decode cX8_drawRain 31 = .ok (.iaload, 1) := dk_46 (dk_at dksX8_drawRain_1 7 rfl rfl)
theorem dX8_drawRain_32 : decode cX8_drawRain 32 = .ok (.bipush 100, 2) := dk_16 100 (dk_at dksX8_drawRain_1 8 rfl rfl)
theorem dX8_drawRain_34 : decode cX8_drawRain 34 = .ok (.irem, 1) := dk_112 (dk_at dksX8_drawRain_1 10 rfl rfl)
theorem dX8_drawRain_35 : decode cX8_drawRain 35 = .ok (.aload_n 0, 1) := dk_42 (dk_at dksX8_drawRain_1 11 rfl rfl)
theorem dX8_drawRain_36 : decode cX8_drawRain 36 = .ok (.getfield 393, 3) := dk_180 1 137 (dk_at dksX8_drawRain_1 12 rfl rfl)
theorem dX8_drawRain_39 : decode cX8_drawRain 39 = .ok (.if_icmp .ge 7, 3) := dk_162 0 7 (dk_at dksX8_drawRain_1 15 rfl rfl)
theorem dX8_drawRain_42 : decode cX8_drawRain 42 = .ok (.iconst 1, 1) := dk_4 (dk_at dksX8_drawRain_1 18 rfl rfl)
theorem dX8_drawRain_43 : decode cX8_drawRain 43 = .ok (.goto 4, 3) := dk_167 0 4 (dk_at dksX8_drawRain_1 19 rfl rfl)
theorem dX8_drawRain_46 : decode cX8_drawRain 46 = .ok (.iconst 0, 1) := dk_3 (dk_at dksX8_drawRain_1 22 rfl rfl)
theorem dX8_drawRain_47 : decode cX8_drawRain 47 = .ok (.ireturn, 1) := dk_172 (dk_at dksX8_drawRain_1 23 rfl rfl)
abbrev cX8_goDay : ByteArray := prog_20_method_58_code
def yX8_goDay : MethodName := ⟨RX8, "goDay", "(Z)I"⟩
def dkwX8_goDay_8 : List UInt8 := [180, 0, 96, 16, 6, 29, 96, 2, 79, 132, 3, 1, 167, 255, 226, 28, 172]
abbrev dktX8_goDay_8 : List UInt8 := dkwX8_goDay_8 ++ []
def dkwX8_goDay_7 : List UInt8 := [126, 61, 3, 62, 29, 42, 180, 1, 131, 162, 0, 28, 28, 29, 122, 4, 126, 4, 160, 0, 13, 42]
abbrev dktX8_goDay_7 : List UInt8 := dkwX8_goDay_7 ++ dktX8_goDay_8
def dkwX8_goDay_6 : List UInt8 := [167, 255, 155, 42, 180, 0, 96, 16, 37, 92, 46, 4, 96, 79, 42, 182, 1, 184, 42, 182, 1, 187, 2, 130]
abbrev dktX8_goDay_6 : List UInt8 := dkwX8_goDay_6 ++ dktX8_goDay_7
def dkwX8_goDay_5 : List UInt8 := [28, 96, 3, 42, 180, 0, 96, 16, 18, 28, 96, 46, 27, 184, 1, 54, 100, 184, 1, 181, 79, 132, 2, 1]
abbrev dktX8_goDay_5 : List UInt8 := dkwX8_goDay_5 ++ dktX8_goDay_6
def dkwX8_goDay_4 : List UInt8 := [42, 180, 0, 96, 16, 12, 28, 96, 46, 27, 184, 1, 54, 100, 184, 1, 181, 79, 42, 180, 0, 96, 16, 18]
abbrev dktX8_goDay_4 : List UInt8 := dkwX8_goDay_4 ++ dktX8_goDay_5
def dkwX8_goDay_3 : List UInt8 := [42, 180, 0, 96, 16, 30, 28, 96, 46, 4, 96, 184, 1, 175, 79, 42, 180, 0, 96, 16, 12, 28, 96, 3]
abbrev dktX8_goDay_3 : List UInt8 := dkwX8_goDay_3 ++ dktX8_goDay_4
def dkwX8_goDay_2 : List UInt8 := [162, 0, 99, 42, 28, 182, 1, 178, 156, 0, 6, 167, 0, 82, 42, 180, 0, 96, 16, 30, 28, 96, 16, 99]
abbrev dktX8_goDay_2 : List UInt8 := dkwX8_goDay_2 ++ dktX8_goDay_3
def dkwX8_goDay_1 : List UInt8 := [180, 0, 69, 28, 46, 96, 184, 1, 175, 79, 132, 2, 1, 167, 255, 221, 3, 61, 28, 42, 180, 1, 134]
abbrev dktX8_goDay_1 : List UInt8 := dkwX8_goDay_1 ++ dktX8_goDay_2
def dkwX8_goDay_0 : List UInt8 := [3, 61, 28, 42, 180, 1, 131, 162, 0, 33, 42, 180, 0, 96, 28, 16, 99, 42, 180, 0, 96, 28, 46, 42]
abbrev dktX8_goDay_0 : List UInt8 := dkwX8_goDay_0 ++ dktX8_goDay_1
theorem dksX8_goDay_0 : cX8_goDay.data.toList.drop 0 = dktX8_goDay_0 := by decide +kernel
theorem dksX8_goDay_1 : cX8_goDay.data.toList.drop 24 = dktX8_goDay_1 := dk_seg dksX8_goDay_0 24 rfl rfl
theorem dksX8_goDay_2 : cX8_goDay.data.toList.drop 47 = dktX8_goDay_2 := dk_seg dksX8_goDay_1 23 rfl rfl
theorem dksX8_goDay_3 : cX8_goDay.data.toList.drop 71 = dktX8_goDay_3 := dk_seg dksX8_goDay_2 24 rfl rfl
theorem dksX8_goDay_4 : cX8_goDay.data.toList.drop 95 = dktX8_goDay_4 := dk_seg dksX8_goDay_3 24 rfl rfl
theorem dksX8_goDay_5 : cX8_goDay.data.toList.drop 119 = dktX8_goDay_5 := dk_seg dksX8_goDay_4 24 rfl rfl
theorem dksX8_goDay_6 : cX8_goDay.data.toList.drop 143 = dktX8_goDay_6 := dk_seg dksX8_goDay_5 24 rfl rfl
theorem dksX8_goDay_7 : cX8_goDay.data.toList.drop 167 = dktX8_goDay_7 := dk_seg dksX8_goDay_6 24 rfl rfl
theorem dksX8_goDay_8 : cX8_goDay.data.toList.drop 189 = dktX8_goDay_8 := dk_seg dksX8_goDay_7 22 rfl rfl
theorem dX8_goDay_0 : decode cX8_goDay 0 = .ok (.iconst 0, 1) := dk_3 (dk_at dksX8_goDay_0 0 rfl rfl)
theorem dX8_goDay_1 : decode cX8_goDay 1 = .ok (.istore_n 2, 1) := dk_61 (dk_at dksX8_goDay_0 1 rfl rfl)
theorem dX8_goDay_2 : decode cX8_goDay 2 = .ok (.iload_n 2, 1) := dk_28 (dk_at dksX8_goDay_0 2 rfl rfl)
theorem dX8_goDay_3 : decode cX8_goDay 3 = .ok (.aload_n 0, 1) := dk_42 (dk_at dksX8_goDay_0 3 rfl rfl)
theorem dX8_goDay_4 : decode cX8_goDay 4 = .ok (.getfield 387, 3) := dk_180 1 131 (dk_at dksX8_goDay_0 4 rfl rfl)
theorem dX8_goDay_7 : decode cX8_goDay 7 = .ok (.if_icmp .ge 33, 3) := dk_162 0 33 (dk_at dksX8_goDay_0 7 rfl rfl)
theorem dX8_goDay_10 : decode cX8_goDay 10 = .ok (.aload_n 0, 1) := dk_42 (dk_at dksX8_goDay_0 10 rfl rfl)
theorem dX8_goDay_11 : decode cX8_goDay 11 = .ok (.getfield 96, 3) := dk_180 0 96 (dk_at dksX8_goDay_0 11 rfl rfl)
theorem dX8_goDay_14 : decode cX8_goDay 14 = .ok (.iload_n 2, 1) := dk_28 (dk_at dksX8_goDay_0 14 rfl rfl)
theorem dX8_goDay_15 : decode cX8_goDay 15 = .ok (.bipush 99, 2) := dk_16 99 (dk_at dksX8_goDay_0 15 rfl rfl)
theorem dX8_goDay_17 : decode cX8_goDay 17 = .ok (.aload_n 0, 1) := dk_42 (dk_at dksX8_goDay_0 17 rfl rfl)
theorem dX8_goDay_18 : decode cX8_goDay 18 = .ok (.getfield 96, 3) := dk_180 0 96 (dk_at dksX8_goDay_0 18 rfl rfl)
theorem dX8_goDay_21 : decode cX8_goDay 21 = .ok (.iload_n 2, 1) := dk_28 (dk_at dksX8_goDay_0 21 rfl rfl)
theorem dX8_goDay_22 : decode cX8_goDay 22 = .ok (.iaload, 1) := dk_46 (dk_at dksX8_goDay_0 22 rfl rfl)
theorem dX8_goDay_23 : decode cX8_goDay 23 = .ok (.aload_n 0, 1) := dk_42 (dk_at dksX8_goDay_0 23 rfl rfl)
theorem dX8_goDay_24 : decode cX8_goDay 24 = .ok (.getfield 69, 3) := dk_180 0 69 (dk_at dksX8_goDay_1 0 rfl rfl)
theorem dX8_goDay_27 : decode cX8_goDay 27 = .ok (.iload_n 2, 1) := dk_28 (dk_at dksX8_goDay_1 3 rfl rfl)
theorem dX8_goDay_28 : decode cX8_goDay 28 = .ok (.iaload, 1) := dk_46 (dk_at dksX8_goDay_1 4 rfl rfl)
theorem dX8_goDay_29 : decode cX8_goDay 29 = .ok (.iadd, 1) := dk_96 (dk_at dksX8_goDay_1 5 rfl rfl)
theorem dX8_goDay_30 : decode cX8_goDay 30 = .ok (.invokestatic 431, 3) := dk_184 1 175 (dk_at dksX8_goDay_1 6 rfl rfl)
theorem dX8_goDay_33 : decode cX8_goDay 33 = .ok (.iastore, 1) := dk_79 (dk_at dksX8_goDay_1 9 rfl rfl)
theorem dX8_goDay_34 : decode cX8_goDay 34 = .ok (.iinc 2 1, 3) := dk_132 2 1 (dk_at dksX8_goDay_1 10 rfl rfl)
theorem dX8_goDay_37 : decode cX8_goDay 37 = .ok (.goto (-35), 3) := dk_167 255 221 (dk_at dksX8_goDay_1 13 rfl rfl)
theorem dX8_goDay_40 : decode cX8_goDay 40 = .ok (.iconst 0, 1) := dk_3 (dk_at dksX8_goDay_1 16 rfl rfl)
theorem dX8_goDay_41 : decode cX8_goDay 41 = .ok (.istore_n 2, 1) := dk_61 (dk_at dksX8_goDay_1 17 rfl rfl)
theorem dX8_goDay_42 : decode cX8_goDay 42 = .ok (.iload_n 2, 1) := dk_28 (dk_at dksX8_goDay_1 18 rfl rfl)
theorem dX8_goDay_43 : decode cX8_goDay 43 = .ok (.aload_n 0, 1) := dk_42 (dk_at dksX8_goDay_1 19 rfl rfl)
theorem dX8_goDay_44 : decode cX8_goDay 44 = .ok (.getfield 390, 3) := dk_180 1 134 (dk_at dksX8_goDay_1 20 rfl rfl)
theorem dX8_goDay_47 : decode cX8_goDay 47 = .ok (.if_icmp .ge 99, 3) := dk_162 0 99 (dk_at dksX8_goDay_2 0 rfl rfl)
theorem dX8_goDay_50 : decode cX8_goDay 50 = .ok (.aload_n 0, 1) := dk_42 (dk_at dksX8_goDay_2 3 rfl rfl)
theorem dX8_goDay_51 : decode cX8_goDay 51 = .ok (.iload_n 2, 1) := dk_28 (dk_at dksX8_goDay_2 4 rfl rfl)
theorem dX8_goDay_52 : decode cX8_goDay 52 = .ok (.invokevirtual 434, 3) := dk_182 1 178 (dk_at dksX8_goDay_2 5 rfl rfl)
theorem dX8_goDay_55 : decode cX8_goDay 55 = .ok (.ifCond .ge 6, 3) := dk_156 0 6 (dk_at dksX8_goDay_2 8 rfl rfl)
theorem dX8_goDay_58 : decode cX8_goDay 58 = .ok (.goto 82, 3) := dk_167 0 82 (dk_at dksX8_goDay_2 11 rfl rfl)
theorem dX8_goDay_61 : decode cX8_goDay 61 = .ok (.aload_n 0, 1) := dk_42 (dk_at dksX8_goDay_2 14 rfl rfl)
theorem dX8_goDay_62 : decode cX8_goDay 62 = .ok (.getfield 96, 3) := dk_180 0 96 (dk_at dksX8_goDay_2 15 rfl rfl)
theorem dX8_goDay_65 : decode cX8_goDay 65 = .ok (.bipush 30, 2) := dk_16 30 (dk_at dksX8_goDay_2 18 rfl rfl)
theorem dX8_goDay_67 : decode cX8_goDay 67 = .ok (.iload_n 2, 1) := dk_28 (dk_at dksX8_goDay_2 20 rfl rfl)
theorem dX8_goDay_68 : decode cX8_goDay 68 = .ok (.iadd, 1) := dk_96 (dk_at dksX8_goDay_2 21 rfl rfl)
theorem dX8_goDay_69 : decode cX8_goDay 69 = .ok (.bipush 99, 2) := dk_16 99 (dk_at dksX8_goDay_2 22 rfl rfl)
theorem dX8_goDay_71 : decode cX8_goDay 71 = .ok (.aload_n 0, 1) := dk_42 (dk_at dksX8_goDay_3 0 rfl rfl)
theorem dX8_goDay_72 : decode cX8_goDay 72 = .ok (.getfield 96, 3) := dk_180 0 96 (dk_at dksX8_goDay_3 1 rfl rfl)
theorem dX8_goDay_75 : decode cX8_goDay 75 = .ok (.bipush 30, 2) := dk_16 30 (dk_at dksX8_goDay_3 4 rfl rfl)
theorem dX8_goDay_77 : decode cX8_goDay 77 = .ok (.iload_n 2, 1) := dk_28 (dk_at dksX8_goDay_3 6 rfl rfl)
theorem dX8_goDay_78 : decode cX8_goDay 78 = .ok (.iadd, 1) := dk_96 (dk_at dksX8_goDay_3 7 rfl rfl)
theorem dX8_goDay_79 : decode cX8_goDay 79 = .ok (.iaload, 1) := dk_46 (dk_at dksX8_goDay_3 8 rfl rfl)
theorem dX8_goDay_80 : decode cX8_goDay 80 = .ok (.iconst 1, 1) := dk_4 (dk_at dksX8_goDay_3 9 rfl rfl)
theorem dX8_goDay_81 : decode cX8_goDay 81 = .ok (.iadd, 1) := dk_96 (dk_at dksX8_goDay_3 10 rfl rfl)
theorem dX8_goDay_82 : decode cX8_goDay 82 = .ok (.invokestatic 431, 3) := dk_184 1 175 (dk_at dksX8_goDay_3 11 rfl rfl)
theorem dX8_goDay_85 : decode cX8_goDay 85 = .ok (.iastore, 1) := dk_79 (dk_at dksX8_goDay_3 14 rfl rfl)
theorem dX8_goDay_86 : decode cX8_goDay 86 = .ok (.aload_n 0, 1) := dk_42 (dk_at dksX8_goDay_3 15 rfl rfl)
theorem dX8_goDay_87 : decode cX8_goDay 87 = .ok (.getfield 96, 3) := dk_180 0 96 (dk_at dksX8_goDay_3 16 rfl rfl)
theorem dX8_goDay_90 : decode cX8_goDay 90 = .ok (.bipush 12, 2) := dk_16 12 (dk_at dksX8_goDay_3 19 rfl rfl)
theorem dX8_goDay_92 : decode cX8_goDay 92 = .ok (.iload_n 2, 1) := dk_28 (dk_at dksX8_goDay_3 21 rfl rfl)
theorem dX8_goDay_93 : decode cX8_goDay 93 = .ok (.iadd, 1) := dk_96 (dk_at dksX8_goDay_3 22 rfl rfl)
theorem dX8_goDay_94 : decode cX8_goDay 94 = .ok (.iconst 0, 1) := dk_3 (dk_at dksX8_goDay_3 23 rfl rfl)
theorem dX8_goDay_95 : decode cX8_goDay 95 = .ok (.aload_n 0, 1) := dk_42 (dk_at dksX8_goDay_4 0 rfl rfl)
theorem dX8_goDay_96 : decode cX8_goDay 96 = .ok (.getfield 96, 3) := dk_180 0 96 (dk_at dksX8_goDay_4 1 rfl rfl)
theorem dX8_goDay_99 : decode cX8_goDay 99 = .ok (.bipush 12, 2) := dk_16 12 (dk_at dksX8_goDay_4 4 rfl rfl)
theorem dX8_goDay_101 : decode cX8_goDay 101 = .ok (.iload_n 2, 1) := dk_28 (dk_at dksX8_goDay_4 6 rfl rfl)
theorem dX8_goDay_102 : decode cX8_goDay 102 = .ok (.iadd, 1) := dk_96 (dk_at dksX8_goDay_4 7 rfl rfl)
theorem dX8_goDay_103 : decode cX8_goDay 103 = .ok (.iaload, 1) := dk_46 (dk_at dksX8_goDay_4 8 rfl rfl)
theorem dX8_goDay_104 : decode cX8_goDay 104 = .ok (.iload_n 1, 1) := dk_27 (dk_at dksX8_goDay_4 9 rfl rfl)
theorem dX8_goDay_105 : decode cX8_goDay 105 = .ok (.invokestatic 310, 3) := dk_184 1 54 (dk_at dksX8_goDay_4 10 rfl rfl)
theorem dX8_goDay_108 : decode cX8_goDay 108 = .ok (.isub, 1) := dk_100 (dk_at dksX8_goDay_4 13 rfl rfl)
theorem dX8_goDay_109 : decode cX8_goDay 109 = .ok (.invokestatic 437, 3) := dk_184 1 181 (dk_at dksX8_goDay_4 14 rfl rfl)
theorem dX8_goDay_112 : decode cX8_goDay 112 = .ok (.iastore, 1) := dk_79 (dk_at dksX8_goDay_4 17 rfl rfl)
theorem dX8_goDay_113 : decode cX8_goDay 113 = .ok (.aload_n 0, 1) := dk_42 (dk_at dksX8_goDay_4 18 rfl rfl)
theorem dX8_goDay_114 : decode cX8_goDay 114 = .ok (.getfield 96, 3) := dk_180 0 96 (dk_at dksX8_goDay_4 19 rfl rfl)
theorem dX8_goDay_117 : decode cX8_goDay 117 = .ok (.bipush 18, 2) := dk_16 18 (dk_at dksX8_goDay_4 22 rfl rfl)
theorem dX8_goDay_119 : decode cX8_goDay 119 = .ok (.iload_n 2, 1) := dk_28 (dk_at dksX8_goDay_5 0 rfl rfl)
theorem dX8_goDay_120 : decode cX8_goDay 120 = .ok (.iadd, 1) := dk_96 (dk_at dksX8_goDay_5 1 rfl rfl)
theorem dX8_goDay_121 : decode cX8_goDay 121 = .ok (.iconst 0, 1) := dk_3 (dk_at dksX8_goDay_5 2 rfl rfl)
theorem dX8_goDay_122 : decode cX8_goDay 122 = .ok (.aload_n 0, 1) := dk_42 (dk_at dksX8_goDay_5 3 rfl rfl)
theorem dX8_goDay_123 : decode cX8_goDay 123 = .ok (.getfield 96, 3) := dk_180 0 96 (dk_at dksX8_goDay_5 4 rfl rfl)
theorem dX8_goDay_126 : decode cX8_goDay 126 = .ok (.bipush 18, 2) := dk_16 18 (dk_at dksX8_goDay_5 7 rfl rfl)
theorem dX8_goDay_128 : decode cX8_goDay 128 = .ok (.iload_n 2, 1) := dk_28 (dk_at dksX8_goDay_5 9 rfl rfl)
theorem dX8_goDay_129 : decode cX8_goDay 129 = .ok (.iadd, 1) := dk_96 (dk_at dksX8_goDay_5 10 rfl rfl)
theorem dX8_goDay_130 : decode cX8_goDay 130 = .ok (.iaload, 1) := dk_46 (dk_at dksX8_goDay_5 11 rfl rfl)
theorem dX8_goDay_131 : decode cX8_goDay 131 = .ok (.iload_n 1, 1) := dk_27 (dk_at dksX8_goDay_5 12 rfl rfl)
theorem dX8_goDay_132 : decode cX8_goDay 132 = .ok (.invokestatic 310, 3) := dk_184 1 54 (dk_at dksX8_goDay_5 13 rfl rfl)
theorem dX8_goDay_135 : decode cX8_goDay 135 = .ok (.isub, 1) := dk_100 (dk_at dksX8_goDay_5 16 rfl rfl)
theorem dX8_goDay_136 : decode cX8_goDay 136 = .ok (.invokestatic 437, 3) := dk_184 1 181 (dk_at dksX8_goDay_5 17 rfl rfl)
theorem dX8_goDay_139 : decode cX8_goDay 139 = .ok (.iastore, 1) := dk_79 (dk_at dksX8_goDay_5 20 rfl rfl)
theorem dX8_goDay_140 : decode cX8_goDay 140 = .ok (.iinc 2 1, 3) := dk_132 2 1 (dk_at dksX8_goDay_5 21 rfl rfl)
theorem dX8_goDay_143 : decode cX8_goDay 143 = .ok (.goto (-101), 3) := dk_167 255 155 (dk_at dksX8_goDay_6 0 rfl rfl)
theorem dX8_goDay_146 : decode cX8_goDay 146 = .ok (.aload_n 0, 1) := dk_42 (dk_at dksX8_goDay_6 3 rfl rfl)
theorem dX8_goDay_147 : decode cX8_goDay 147 = .ok (.getfield 96, 3) := dk_180 0 96 (dk_at dksX8_goDay_6 4 rfl rfl)
theorem dX8_goDay_150 : decode cX8_goDay 150 = .ok (.bipush 37, 2) := dk_16 37 (dk_at dksX8_goDay_6 7 rfl rfl)
theorem dX8_goDay_152 : decode cX8_goDay 152 = .ok (.dup2, 1) := dk_92 (dk_at dksX8_goDay_6 9 rfl rfl)
theorem dX8_goDay_153 : decode cX8_goDay 153 = .ok (.iaload, 1) := dk_46 (dk_at dksX8_goDay_6 10 rfl rfl)
theorem dX8_goDay_154 : decode cX8_goDay 154 = .ok (.iconst 1, 1) := dk_4 (dk_at dksX8_goDay_6 11 rfl rfl)
theorem dX8_goDay_155 : decode cX8_goDay 155 = .ok (.iadd, 1) := dk_96 (dk_at dksX8_goDay_6 12 rfl rfl)
theorem dX8_goDay_156 : decode cX8_goDay 156 = .ok (.iastore, 1) := dk_79 (dk_at dksX8_goDay_6 13 rfl rfl)
theorem dX8_goDay_157 : decode cX8_goDay 157 = .ok (.aload_n 0, 1) := dk_42 (dk_at dksX8_goDay_6 14 rfl rfl)
theorem dX8_goDay_158 : decode cX8_goDay 158 = .ok (.invokevirtual 440, 3) := dk_182 1 184 (dk_at dksX8_goDay_6 15 rfl rfl)
theorem dX8_goDay_161 : decode cX8_goDay 161 = .ok (.aload_n 0, 1) := dk_42 (dk_at dksX8_goDay_6 18 rfl rfl)
theorem dX8_goDay_162 : decode cX8_goDay 162 = .ok (.invokevirtual 443, 3) := dk_182 1 187 (dk_at dksX8_goDay_6 19 rfl rfl)
theorem dX8_goDay_165 : decode cX8_goDay 165 = .ok (.iconst (-1), 1) := dk_2 (dk_at dksX8_goDay_6 22 rfl rfl)
theorem dX8_goDay_166 : decode cX8_goDay 166 = .ok (.ixor, 1) := dk_130 (dk_at dksX8_goDay_6 23 rfl rfl)
theorem dX8_goDay_167 : decode cX8_goDay 167 = .ok (.iand, 1) := dk_126 (dk_at dksX8_goDay_7 0 rfl rfl)
theorem dX8_goDay_168 : decode cX8_goDay 168 = .ok (.istore_n 2, 1) := dk_61 (dk_at dksX8_goDay_7 1 rfl rfl)
theorem dX8_goDay_169 : decode cX8_goDay 169 = .ok (.iconst 0, 1) := dk_3 (dk_at dksX8_goDay_7 2 rfl rfl)
theorem dX8_goDay_170 : decode cX8_goDay 170 = .ok (.istore_n 3, 1) := dk_62 (dk_at dksX8_goDay_7 3 rfl rfl)
theorem dX8_goDay_171 : decode cX8_goDay 171 = .ok (.iload_n 3, 1) := dk_29 (dk_at dksX8_goDay_7 4 rfl rfl)
theorem dX8_goDay_172 : decode cX8_goDay 172 = .ok (.aload_n 0, 1) := dk_42 (dk_at dksX8_goDay_7 5 rfl rfl)
theorem dX8_goDay_173 : decode cX8_goDay 173 = .ok (.getfield 387, 3) := dk_180 1 131 (dk_at dksX8_goDay_7 6 rfl rfl)
theorem dX8_goDay_176 : decode cX8_goDay 176 = .ok (.if_icmp .ge 28, 3) := dk_162 0 28 (dk_at dksX8_goDay_7 9 rfl rfl)
theorem dX8_goDay_179 : decode cX8_goDay 179 = .ok (.iload_n 2, 1) := dk_28 (dk_at dksX8_goDay_7 12 rfl rfl)
theorem dX8_goDay_180 : decode cX8_goDay 180 = .ok (.iload_n 3, 1) := dk_29 (dk_at dksX8_goDay_7 13 rfl rfl)
theorem dX8_goDay_181 : decode cX8_goDay 181 = .ok (.ishr, 1) := dk_122 (dk_at dksX8_goDay_7 14 rfl rfl)
theorem dX8_goDay_182 : decode cX8_goDay 182 = .ok (.iconst 1, 1) := dk_4 (dk_at dksX8_goDay_7 15 rfl rfl)
theorem dX8_goDay_183 : decode cX8_goDay 183 = .ok (.iand, 1) := dk_126 (dk_at dksX8_goDay_7 16 rfl rfl)
theorem dX8_goDay_184 : decode cX8_goDay 184 = .ok (.iconst 1, 1) := dk_4 (dk_at dksX8_goDay_7 17 rfl rfl)
theorem dX8_goDay_185 : decode cX8_goDay 185 = .ok (.if_icmp .ne 13, 3) := dk_160 0 13 (dk_at dksX8_goDay_7 18 rfl rfl)
theorem dX8_goDay_188 : decode cX8_goDay 188 = .ok (.aload_n 0, 1) := dk_42 (dk_at dksX8_goDay_7 21 rfl rfl)
theorem dX8_goDay_189 : decode cX8_goDay 189 = .ok (.getfield 96, 3) := dk_180 0 96 (dk_at dksX8_goDay_8 0 rfl rfl)
theorem dX8_goDay_192 : decode cX8_goDay 192 = .ok (.bipush 6, 2) := dk_16 6 (dk_at dksX8_goDay_8 3 rfl rfl)
theorem dX8_goDay_194 : decode cX8_goDay 194 = .ok (.iload_n 3, 1) := dk_29 (dk_at dksX8_goDay_8 5 rfl rfl)
theorem dX8_goDay_195 : decode cX8_goDay 195 = .ok (.iadd, 1) := dk_96 (dk_at dksX8_goDay_8 6 rfl rfl)
theorem dX8_goDay_196 : decode cX8_goDay 196 = .ok (.iconst (-1), 1) := dk_2 (dk_at dksX8_goDay_8 7 rfl rfl)
theorem dX8_goDay_197 : decode cX8_goDay 197 = .ok (.iastore, 1) := dk_79 (dk_at dksX8_goDay_8 8 rfl rfl)
theorem dX8_goDay_198 : decode cX8_goDay 198 = .ok (.iinc 3 1, 3) := dk_132 3 1 (dk_at dksX8_goDay_8 9 rfl rfl)
theorem dX8_goDay_201 : decode cX8_goDay 201 = .ok (.goto (-30), 3) := dk_167 255 226 (dk_at dksX8_goDay_8 12 rfl rfl)
theorem dX8_goDay_204 : decode cX8_goDay 204 = .ok (.iload_n 2, 1) := dk_28 (dk_at dksX8_goDay_8 15 rfl rfl)
theorem dX8_goDay_205 : decode cX8_goDay 205 = .ok (.ireturn, 1) := dk_172 (dk_at dksX8_goDay_8 16 rfl rfl)
abbrev cX8_lesser : ByteArray := prog_20_method_35_code
def yX8_lesser : MethodName := ⟨RX8, "lesser", "(II)I"⟩
def dkwX8_lesser_0 : List UInt8 := [26, 27, 162, 0, 7, 26, 167, 0, 4, 27, 172]
abbrev dktX8_lesser_0 : List UInt8 := dkwX8_lesser_0 ++ []
theorem dksX8_lesser_0 : cX8_lesser.data.toList.drop 0 = dktX8_lesser_0 := by decide +kernel
theorem dX8_lesser_0 : decode cX8_lesser 0 = .ok (.iload_n 0, 1) := dk_26 (dk_at dksX8_lesser_0 0 rfl rfl)
theorem dX8_lesser_1 : decode cX8_lesser 1 = .ok (.iload_n 1, 1) := dk_27 (dk_at dksX8_lesser_0 1 rfl rfl)
theorem dX8_lesser_2 : decode cX8_lesser 2 = .ok (.if_icmp .ge 7, 3) := dk_162 0 7 (dk_at dksX8_lesser_0 2 rfl rfl)
theorem dX8_lesser_5 : decode cX8_lesser 5 = .ok (.iload_n 0, 1) := dk_26 (dk_at dksX8_lesser_0 5 rfl rfl)
theorem dX8_lesser_6 : decode cX8_lesser 6 = .ok (.goto 4, 3) := dk_167 0 4 (dk_at dksX8_lesser_0 6 rfl rfl)
theorem dX8_lesser_9 : decode cX8_lesser 9 = .ok (.iload_n 1, 1) := dk_27 (dk_at dksX8_lesser_0 9 rfl rfl)
theorem dX8_lesser_10 : decode cX8_lesser 10 = .ok (.ireturn, 1) := dk_172 (dk_at dksX8_lesser_0 10 rfl rfl)
abbrev cX8_greater : ByteArray := prog_20_method_36_code
def yX8_greater : MethodName := ⟨RX8, "greater", "(II)I"⟩
def dkwX8_greater_0 : List UInt8 := [26, 27, 164, 0, 7, 26, 167, 0, 4, 27, 172]
abbrev dktX8_greater_0 : List UInt8 := dkwX8_greater_0 ++ []
theorem dksX8_greater_0 : cX8_greater.data.toList.drop 0 = dktX8_greater_0 := by decide +kernel
theorem dX8_greater_0 : decode cX8_greater 0 = .ok (.iload_n 0, 1) := dk_26 (dk_at dksX8_greater_0 0 rfl rfl)
theorem dX8_greater_1 : decode cX8_greater 1 = .ok (.iload_n 1, 1) := dk_27 (dk_at dksX8_greater_0 1 rfl rfl)
theorem dX8_greater_2 : decode cX8_greater 2 = .ok (.if_icmp .le 7, 3) := dk_164 0 7 (dk_at dksX8_greater_0 2 rfl rfl)
theorem dX8_greater_5 : decode cX8_greater 5 = .ok (.iload_n 0, 1) := dk_26 (dk_at dksX8_greater_0 5 rfl rfl)
theorem dX8_greater_6 : decode cX8_greater 6 = .ok (.goto 4, 3) := dk_167 0 4 (dk_at dksX8_greater_0 6 rfl rfl)
theorem dX8_greater_9 : decode cX8_greater 9 = .ok (.iload_n 1, 1) := dk_27 (dk_at dksX8_greater_0 9 rfl rfl)
theorem dX8_greater_10 : decode cX8_greater 10 = .ok (.ireturn, 1) := dk_172 (dk_at dksX8_greater_0 10 rfl rfl)
abbrev cX8_wearers : ByteArray := prog_20_method_57_code
def yX8_wearers : MethodName := ⟨RX8, "wearers", "()I"⟩
def dkwX8_wearers_1 : List UInt8 := [155, 0, 7, 4, 167, 0, 4, 3, 184, 1, 54, 28, 120, 128, 60, 132, 2, 1, 167, 255, 220, 27, 172]
abbrev dktX8_wearers_1 : List UInt8 := dkwX8_wearers_1 ++ []
def dkwX8_wearers_0 : List UInt8 := [3, 60, 3, 61, 28, 42, 180, 1, 131, 162, 0, 34, 27, 42, 180, 0, 96, 16, 6, 28, 96, 46]
abbrev dktX8_wearers_0 : List UInt8 := dkwX8_wearers_0 ++ dktX8_wearers_1
theorem dksX8_wearers_0 : cX8_wearers.data.toList.drop 0 = dktX8_wearers_0 := by decide +kernel
theorem dksX8_wearers_1 : cX8_wearers.data.toList.drop 22 = dktX8_wearers_1 := dk_seg dksX8_wearers_0 22 rfl rfl
theorem dX8_wearers_0 : decode cX8_wearers 0 = .ok (.iconst 0, 1) := dk_3 (dk_at dksX8_wearers_0 0 rfl rfl)
theorem dX8_wearers_1 : decode cX8_wearers 1 = .ok (.istore_n 1, 1) := dk_60 (dk_at dksX8_wearers_0 1 rfl rfl)
theorem dX8_wearers_2 : decode cX8_wearers 2 = .ok (.iconst 0, 1) := dk_3 (dk_at dksX8_wearers_0 2 rfl rfl)
theorem dX8_wearers_3 : decode cX8_wearers 3 = .ok (.istore_n 2, 1) := dk_61 (dk_at dksX8_wearers_0 3 rfl rfl)
theorem dX8_wearers_4 : decode cX8_wearers 4 = .ok (.iload_n 2, 1) := dk_28 (dk_at dksX8_wearers_0 4 rfl rfl)
theorem dX8_wearers_5 : decode cX8_wearers 5 = .ok (.aload_n 0, 1) := dk_42 (dk_at dksX8_wearers_0 5 rfl rfl)
theorem dX8_wearers_6 : decode cX8_wearers 6 = .ok (.getfield 387, 3) := dk_180 1 131 (dk_at dksX8_wearers_0 6 rfl rfl)
theorem dX8_wearers_9 : decode cX8_wearers 9 = .ok (.if_icmp .ge 34, 3) := dk_162 0 34 (dk_at dksX8_wearers_0 9 rfl rfl)
theorem dX8_wearers_12 : decode cX8_wearers 12 = .ok (.iload_n 1, 1) := dk_27 (dk_at dksX8_wearers_0 12 rfl rfl)
theorem dX8_wearers_13 : decode cX8_wearers 13 = .ok (.aload_n 0, 1) := dk_42 (dk_at dksX8_wearers_0 13 rfl rfl)
theorem dX8_wearers_14 : decode cX8_wearers 14 = .ok (.getfield 96, 3) := dk_180 0 96 (dk_at dksX8_wearers_0 14 rfl rfl)
theorem dX8_wearers_17 : decode cX8_wearers 17 = .ok (.bipush 6, 2) := dk_16 6 (dk_at dksX8_wearers_0 17 rfl rfl)
theorem dX8_wearers_19 : decode cX8_wearers 19 = .ok (.iload_n 2, 1) := dk_28 (dk_at dksX8_wearers_0 19 rfl rfl)
theorem dX8_wearers_20 : decode cX8_wearers 20 = .ok (.iadd, 1) := dk_96 (dk_at dksX8_wearers_0 20 rfl rfl)
theorem dX8_wearers_21 : decode cX8_wearers 21 = .ok (.iaload, 1) := dk_46 (dk_at dksX8_wearers_0 21 rfl rfl)
theorem dX8_wearers_22 : decode cX8_wearers 22 = .ok (.ifCond .lt 7, 3) := dk_155 0 7 (dk_at dksX8_wearers_1 0 rfl rfl)
theorem dX8_wearers_25 : decode cX8_wearers 25 = .ok (.iconst 1, 1) := dk_4 (dk_at dksX8_wearers_1 3 rfl rfl)
theorem dX8_wearers_26 : decode cX8_wearers 26 = .ok (.goto 4, 3) := dk_167 0 4 (dk_at dksX8_wearers_1 4 rfl rfl)
theorem dX8_wearers_29 : decode cX8_wearers 29 = .ok (.iconst 0, 1) := dk_3 (dk_at dksX8_wearers_1 7 rfl rfl)
theorem dX8_wearers_30 : decode cX8_wearers 30 = .ok (.invokestatic 310, 3) := dk_184 1 54 (dk_at dksX8_wearers_1 8 rfl rfl)
theorem dX8_wearers_33 : decode cX8_wearers 33 = .ok (.iload_n 2, 1) := dk_28 (dk_at dksX8_wearers_1 11 rfl rfl)
theorem dX8_wearers_34 : decode cX8_wearers 34 = .ok (.ishl, 1) := dk_120 (dk_at dksX8_wearers_1 12 rfl rfl)
theorem dX8_wearers_35 : decode cX8_wearers 35 = .ok (.ior, 1) := dk_128 (dk_at dksX8_wearers_1 13 rfl rfl)
theorem dX8_wearers_36 : decode cX8_wearers 36 = .ok (.istore_n 1, 1) := dk_60 (dk_at dksX8_wearers_1 14 rfl rfl)
theorem dX8_wearers_37 : decode cX8_wearers 37 = .ok (.iinc 2 1, 3) := dk_132 2 1 (dk_at dksX8_wearers_1 15 rfl rfl)
theorem dX8_wearers_40 : decode cX8_wearers 40 = .ok (.goto (-36), 3) := dk_167 255 220 (dk_at dksX8_wearers_1 18 rfl rfl)
theorem dX8_wearers_43 : decode cX8_wearers 43 = .ok (.iload_n 1, 1) := dk_27 (dk_at dksX8_wearers_1 21 rfl rfl)
theorem dX8_wearers_44 : decode cX8_wearers 44 = .ok (.ireturn, 1) := dk_172 (dk_at dksX8_wearers_1 22 rfl rfl)
abbrev cX8_fittedOnes : ByteArray := prog_20_method_56_code
def yX8_fittedOnes : MethodName := ⟨RX8, "fittedOnes", "()I"⟩
def dkwX8_fittedOnes_1 : List UInt8 := [60, 132, 2, 1, 167, 255, 232, 27, 172]
abbrev dktX8_fittedOnes_1 : List UInt8 := dkwX8_fittedOnes_1 ++ []
def dkwX8_fittedOnes_0 : List UInt8 := [3, 60, 3, 61, 28, 42, 180, 1, 131, 162, 0, 22, 27, 42, 28, 182, 1, 172, 184, 1, 54, 28, 120, 128]
abbrev dktX8_fittedOnes_0 : List UInt8 := dkwX8_fittedOnes_0 ++ dktX8_fittedOnes_1
theorem dksX8_fittedOnes_0 : cX8_fittedOnes.data.toList.drop 0 = dktX8_fittedOnes_0 := by decide +kernel
theorem dksX8_fittedOnes_1 : cX8_fittedOnes.data.toList.drop 24 = dktX8_fittedOnes_1 := dk_seg dksX8_fittedOnes_0 24 rfl rfl
theorem dX8_fittedOnes_0 : decode cX8_fittedOnes 0 = .ok (.iconst 0, 1) := dk_3 (dk_at dksX8_fittedOnes_0 0 rfl rfl)
theorem dX8_fittedOnes_1 : decode cX8_fittedOnes 1 = .ok (.istore_n 1, 1) := dk_60 (dk_at dksX8_fittedOnes_0 1 rfl rfl)
theorem dX8_fittedOnes_2 : decode cX8_fittedOnes 2 = .ok (.iconst 0, 1) := dk_3 (dk_at dksX8_fittedOnes_0 2 rfl rfl)
theorem dX8_fittedOnes_3 : decode cX8_fittedOnes 3 = .ok (.istore_n 2, 1) := dk_61 (dk_at dksX8_fittedOnes_0 3 rfl rfl)
theorem dX8_fittedOnes_4 : decode cX8_fittedOnes 4 = .ok (.iload_n 2, 1) := dk_28 (dk_at dksX8_fittedOnes_0 4 rfl rfl)
theorem dX8_fittedOnes_5 : decode cX8_fittedOnes 5 = .ok (.aload_n 0, 1) := dk_42 (dk_at dksX8_fittedOnes_0 5 rfl rfl)
theorem dX8_fittedOnes_6 : decode cX8_fittedOnes 6 = .ok (.getfield 387, 3) := dk_180 1 131 (dk_at dksX8_fittedOnes_0 6 rfl rfl)
theorem dX8_fittedOnes_9 : decode cX8_fittedOnes 9 = .ok (.if_icmp .ge 22, 3) := dk_162 0 22 (dk_at dksX8_fittedOnes_0 9 rfl rfl)
theorem dX8_fittedOnes_12 : decode cX8_fittedOnes 12 = .ok (.iload_n 1, 1) := dk_27 (dk_at dksX8_fittedOnes_0 12 rfl rfl)
theorem dX8_fittedOnes_13 : decode cX8_fittedOnes 13 = .ok (.aload_n 0, 1) := dk_42 (dk_at dksX8_fittedOnes_0 13 rfl rfl)
theorem dX8_fittedOnes_14 : decode cX8_fittedOnes 14 = .ok (.iload_n 2, 1) := dk_28 (dk_at dksX8_fittedOnes_0 14 rfl rfl)
theorem dX8_fittedOnes_15 : decode cX8_fittedOnes 15 = .ok (.invokevirtual 428, 3) := dk_182 1 172 (dk_at dksX8_fittedOnes_0 15 rfl rfl)
theorem dX8_fittedOnes_18 : decode cX8_fittedOnes 18 = .ok (.invokestatic 310, 3) := dk_184 1 54 (dk_at dksX8_fittedOnes_0 18 rfl rfl)
theorem dX8_fittedOnes_21 : decode cX8_fittedOnes 21 = .ok (.iload_n 2, 1) := dk_28 (dk_at dksX8_fittedOnes_0 21 rfl rfl)
theorem dX8_fittedOnes_22 : decode cX8_fittedOnes 22 = .ok (.ishl, 1) := dk_120 (dk_at dksX8_fittedOnes_0 22 rfl rfl)
theorem dX8_fittedOnes_23 : decode cX8_fittedOnes 23 = .ok (.ior, 1) := dk_128 (dk_at dksX8_fittedOnes_0 23 rfl rfl)
theorem dX8_fittedOnes_24 : decode cX8_fittedOnes 24 = .ok (.istore_n 1, 1) := dk_60 (dk_at dksX8_fittedOnes_1 0 rfl rfl)
theorem dX8_fittedOnes_25 : decode cX8_fittedOnes 25 = .ok (.iinc 2 1, 3) := dk_132 2 1 (dk_at dksX8_fittedOnes_1 1 rfl rfl)
theorem dX8_fittedOnes_28 : decode cX8_fittedOnes 28 = .ok (.goto (-24), 3) := dk_167 255 232 (dk_at dksX8_fittedOnes_1 4 rfl rfl)
theorem dX8_fittedOnes_31 : decode cX8_fittedOnes 31 = .ok (.iload_n 1, 1) := dk_27 (dk_at dksX8_fittedOnes_1 7 rfl rfl)
theorem dX8_fittedOnes_32 : decode cX8_fittedOnes 32 = .ok (.ireturn, 1) := dk_172 (dk_at dksX8_fittedOnes_1 8 rfl rfl)
abbrev cX8_fitsOwn : ByteArray := prog_20_method_55_code
def yX8_fitsOwn : MethodName := ⟨RX8, "fitsOwn", "(I)Z"⟩
def dkwX8_fitsOwn_0 : List UInt8 := [42, 27, 42, 180, 0, 96, 16, 6, 27, 96, 46, 182, 1, 168, 172]
abbrev dktX8_fitsOwn_0 : List UInt8 := dkwX8_fitsOwn_0 ++ []
theorem dksX8_fitsOwn_0 : cX8_fitsOwn.data.toList.drop 0 = dktX8_fitsOwn_0 := by decide +kernel
theorem dX8_fitsOwn_0 : decode cX8_fitsOwn 0 = .ok (.aload_n 0, 1) := dk_42 (dk_at dksX8_fitsOwn_0 0 rfl rfl)
theorem dX8_fitsOwn_1 : decode cX8_fitsOwn 1 = .ok (.iload_n 1, 1) := dk_27 (dk_at dksX8_fitsOwn_0 1 rfl rfl)
theorem dX8_fitsOwn_2 : decode cX8_fitsOwn 2 = .ok (.aload_n 0, 1) := dk_42 (dk_at dksX8_fitsOwn_0 2 rfl rfl)
theorem dX8_fitsOwn_3 : decode cX8_fitsOwn 3 = .ok (.getfield 96, 3) := dk_180 0 96 (dk_at dksX8_fitsOwn_0 3 rfl rfl)
theorem dX8_fitsOwn_6 : decode cX8_fitsOwn 6 = .ok (.bipush 6, 2) := dk_16 6 (dk_at dksX8_fitsOwn_0 6 rfl rfl)
theorem dX8_fitsOwn_8 : decode cX8_fitsOwn 8 = .ok (.iload_n 1, 1) := dk_27 (dk_at dksX8_fitsOwn_0 8 rfl rfl)
theorem dX8_fitsOwn_9 : decode cX8_fitsOwn 9 = .ok (.iadd, 1) := dk_96 (dk_at dksX8_fitsOwn_0 9 rfl rfl)
theorem dX8_fitsOwn_10 : decode cX8_fitsOwn 10 = .ok (.iaload, 1) := dk_46 (dk_at dksX8_fitsOwn_0 10 rfl rfl)
theorem dX8_fitsOwn_11 : decode cX8_fitsOwn 11 = .ok (.invokevirtual 424, 3) := dk_182 1 168 (dk_at dksX8_fitsOwn_0 11 rfl rfl)
theorem dX8_fitsOwn_14 : decode cX8_fitsOwn 14 = .ok (.ireturn, 1) := dk_172 (dk_at dksX8_fitsOwn_0 14 rfl rfl)
abbrev cX8_don : ByteArray := prog_20_method_67_code
def yX8_don : MethodName := ⟨RX8, "don", "(II)I"⟩
def dkwX8_don_2 : List UInt8 := [180, 0, 93, 16, 6, 27, 96, 28, 79, 29, 172]
abbrev dktX8_don_2 : List UInt8 := dkwX8_don_2 ++ []
def dkwX8_don_1 : List UInt8 := [182, 1, 178, 155, 0, 6, 16, 254, 172, 42, 182, 1, 202, 42, 180, 0, 93, 16, 6, 27, 96, 46, 62, 42]
abbrev dktX8_don_1 : List UInt8 := dkwX8_don_1 ++ dktX8_don_2
def dkwX8_don_0 : List UInt8 := [42, 182, 1, 193, 42, 27, 182, 1, 190, 153, 0, 19, 42, 28, 182, 1, 199, 153, 0, 11, 42, 28]
abbrev dktX8_don_0 : List UInt8 := dkwX8_don_0 ++ dktX8_don_1
theorem dksX8_don_0 : cX8_don.data.toList.drop 0 = dktX8_don_0 := by decide +kernel
theorem dksX8_don_1 : cX8_don.data.toList.drop 22 = dktX8_don_1 := dk_seg dksX8_don_0 22 rfl rfl
theorem dksX8_don_2 : cX8_don.data.toList.drop 46 = dktX8_don_2 := dk_seg dksX8_don_1 24 rfl rfl
theorem dX8_don_0 : decode cX8_don 0 = .ok (.aload_n 0, 1) := dk_42 (dk_at dksX8_don_0 0 rfl rfl)
theorem dX8_don_1 : decode cX8_don 1 = .ok (.invokevirtual 449, 3) := dk_182 1 193 (dk_at dksX8_don_0 1 rfl rfl)
theorem dX8_don_4 : decode cX8_don 4 = .ok (.aload_n 0, 1) := dk_42 (dk_at dksX8_don_0 4 rfl rfl)
theorem dX8_don_5 : decode cX8_don 5 = .ok (.iload_n 1, 1) := dk_27 (dk_at dksX8_don_0 5 rfl rfl)
theorem dX8_don_6 : decode cX8_don 6 = .ok (.invokevirtual 446, 3) := dk_182 1 190 (dk_at dksX8_don_0 6 rfl rfl)
theorem dX8_don_9 : decode cX8_don 9 = .ok (.ifCond .eq 19, 3) := dk_153 0 19 (dk_at dksX8_don_0 9 rfl rfl)
theorem dX8_don_12 : decode cX8_don 12 = .ok (.aload_n 0, 1) := dk_42 (dk_at dksX8_don_0 12 rfl rfl)
theorem dX8_don_13 : decode cX8_don 13 = .ok (.iload_n 2, 1) := dk_28 (dk_at dksX8_don_0 13 rfl rfl)
theorem dX8_don_14 : decode cX8_don 14 = .ok (.invokevirtual 455, 3) := dk_182 1 199 (dk_at dksX8_don_0 14 rfl rfl)
theorem dX8_don_17 : decode cX8_don 17 = .ok (.ifCond .eq 11, 3) := dk_153 0 11 (dk_at dksX8_don_0 17 rfl rfl)
theorem dX8_don_20 : decode cX8_don 20 = .ok (.aload_n 0, 1) := dk_42 (dk_at dksX8_don_0 20 rfl rfl)
theorem dX8_don_21 : decode cX8_don 21 = .ok (.iload_n 2, 1) := dk_28 (dk_at dksX8_don_0 21 rfl rfl)
theorem dX8_don_22 : decode cX8_don 22 = .ok (.invokevirtual 434, 3) := dk_182 1 178 (dk_at dksX8_don_1 0 rfl rfl)
theorem dX8_don_25 : decode cX8_don 25 = .ok (.ifCond .lt 6, 3) := dk_155 0 6 (dk_at dksX8_don_1 3 rfl rfl)
theorem dX8_don_28 : decode cX8_don 28 = .ok (.bipush (-2), 2) := dk_16 254 (dk_at dksX8_don_1 6 rfl rfl)
theorem dX8_don_30 : decode cX8_don 30 = .ok (.ireturn, 1) := dk_172 (dk_at dksX8_don_1 8 rfl rfl)
theorem dX8_don_31 : decode cX8_don 31 = .ok (.aload_n 0, 1) := dk_42 (dk_at dksX8_don_1 9 rfl rfl)
theorem dX8_don_32 : decode cX8_don 32 = .ok (.invokevirtual 458, 3) := dk_182 1 202 (dk_at dksX8_don_1 10 rfl rfl)
theorem dX8_don_35 : decode cX8_don 35 = .ok (.aload_n 0, 1) := dk_42 (dk_at dksX8_don_1 13 rfl rfl)
theorem dX8_don_36 : decode cX8_don 36 = .ok (.getfield 93, 3) := dk_180 0 93 (dk_at dksX8_don_1 14 rfl rfl)
theorem dX8_don_39 : decode cX8_don 39 = .ok (.bipush 6, 2) := dk_16 6 (dk_at dksX8_don_1 17 rfl rfl)
theorem dX8_don_41 : decode cX8_don 41 = .ok (.iload_n 1, 1) := dk_27 (dk_at dksX8_don_1 19 rfl rfl)
theorem dX8_don_42 : decode cX8_don 42 = .ok (.iadd, 1) := dk_96 (dk_at dksX8_don_1 20 rfl rfl)
theorem dX8_don_43 : decode cX8_don 43 = .ok (.iaload, 1) := dk_46 (dk_at dksX8_don_1 21 rfl rfl)
theorem dX8_don_44 : decode cX8_don 44 = .ok (.istore_n 3, 1) := dk_62 (dk_at dksX8_don_1 22 rfl rfl)
theorem dX8_don_45 : decode cX8_don 45 = .ok (.aload_n 0, 1) := dk_42 (dk_at dksX8_don_1 23 rfl rfl)
theorem dX8_don_46 : decode cX8_don 46 = .ok (.getfield 93, 3) := dk_180 0 93 (dk_at dksX8_don_2 0 rfl rfl)
theorem dX8_don_49 : decode cX8_don 49 = .ok (.bipush 6, 2) := dk_16 6 (dk_at dksX8_don_2 3 rfl rfl)
theorem dX8_don_51 : decode cX8_don 51 = .ok (.iload_n 1, 1) := dk_27 (dk_at dksX8_don_2 5 rfl rfl)
theorem dX8_don_52 : decode cX8_don 52 = .ok (.iadd, 1) := dk_96 (dk_at dksX8_don_2 6 rfl rfl)
theorem dX8_don_53 : decode cX8_don 53 = .ok (.iload_n 2, 1) := dk_28 (dk_at dksX8_don_2 7 rfl rfl)
theorem dX8_don_54 : decode cX8_don 54 = .ok (.iastore, 1) := dk_79 (dk_at dksX8_don_2 8 rfl rfl)
theorem dX8_don_55 : decode cX8_don 55 = .ok (.iload_n 3, 1) := dk_29 (dk_at dksX8_don_2 9 rfl rfl)
theorem dX8_don_56 : decode cX8_don 56 = .ok (.ireturn, 1) := dk_172 (dk_at dksX8_don_2 10 rfl rfl)
abbrev cX8_doff : ByteArray := prog_20_method_68_code
def yX8_doff : MethodName := ⟨RX8, "doff", "(I)I"⟩
def dkwX8_doff_2 : List UInt8 := [172]
abbrev dktX8_doff_2 : List UInt8 := dkwX8_doff_2 ++ []
def dkwX8_doff_1 : List UInt8 := [182, 1, 202, 42, 180, 0, 93, 16, 6, 27, 96, 46, 61, 42, 180, 0, 93, 16, 6, 27, 96, 2, 79, 28]
abbrev dktX8_doff_1 : List UInt8 := dkwX8_doff_1 ++ dktX8_doff_2
def dkwX8_doff_0 : List UInt8 := [42, 27, 182, 1, 190, 153, 0, 15, 42, 180, 0, 93, 16, 6, 27, 96, 46, 156, 0, 5, 2, 172, 42]
abbrev dktX8_doff_0 : List UInt8 := dkwX8_doff_0 ++ dktX8_doff_1
theorem dksX8_doff_0 : cX8_doff.data.toList.drop 0 = dktX8_doff_0 := by decide +kernel
theorem dksX8_doff_1 : cX8_doff.data.toList.drop 23 = dktX8_doff_1 := dk_seg dksX8_doff_0 23 rfl rfl
theorem dksX8_doff_2 : cX8_doff.data.toList.drop 47 = dktX8_doff_2 := dk_seg dksX8_doff_1 24 rfl rfl
theorem dX8_doff_0 : decode cX8_doff 0 = .ok (.aload_n 0, 1) := dk_42 (dk_at dksX8_doff_0 0 rfl rfl)
theorem dX8_doff_1 : decode cX8_doff 1 = .ok (.iload_n 1, 1) := dk_27 (dk_at dksX8_doff_0 1 rfl rfl)
theorem dX8_doff_2 : decode cX8_doff 2 = .ok (.invokevirtual 446, 3) := dk_182 1 190 (dk_at dksX8_doff_0 2 rfl rfl)
theorem dX8_doff_5 : decode cX8_doff 5 = .ok (.ifCond .eq 15, 3) := dk_153 0 15 (dk_at dksX8_doff_0 5 rfl rfl)
theorem dX8_doff_8 : decode cX8_doff 8 = .ok (.aload_n 0, 1) := dk_42 (dk_at dksX8_doff_0 8 rfl rfl)
theorem dX8_doff_9 : decode cX8_doff 9 = .ok (.getfield 93, 3) := dk_180 0 93 (dk_at dksX8_doff_0 9 rfl rfl)
theorem dX8_doff_12 : decode cX8_doff 12 = .ok (.bipush 6, 2) := dk_16 6 (dk_at dksX8_doff_0 12 rfl rfl)
theorem dX8_doff_14 : decode cX8_doff 14 = .ok (.iload_n 1, 1) := dk_27 (dk_at dksX8_doff_0 14 rfl rfl)
theorem dX8_doff_15 : decode cX8_doff 15 = .ok (.iadd, 1) := dk_96 (dk_at dksX8_doff_0 15 rfl rfl)
theorem dX8_doff_16 : decode cX8_doff 16 = .ok (.iaload, 1) := dk_46 (dk_at dksX8_doff_0 16 rfl rfl)
theorem dX8_doff_17 : decode cX8_doff 17 = .ok (.ifCond .ge 5, 3) := dk_156 0 5 (dk_at dksX8_doff_0 17 rfl rfl)
theorem dX8_doff_20 : decode cX8_doff 20 = .ok (.iconst (-1), 1) := dk_2 (dk_at dksX8_doff_0 20 rfl rfl)
theorem dX8_doff_21 : decode cX8_doff 21 = .ok (.ireturn, 1) := dk_172 (dk_at dksX8_doff_0 21 rfl rfl)
theorem dX8_doff_22 : decode cX8_doff 22 = .ok (.aload_n 0, 1) := dk_42 (dk_at dksX8_doff_0 22 rfl rfl)
theorem dX8_doff_23 : decode cX8_doff 23 = .ok (.invokevirtual 458, 3) := dk_182 1 202 (dk_at dksX8_doff_1 0 rfl rfl)
theorem dX8_doff_26 : decode cX8_doff 26 = .ok (.aload_n 0, 1) := dk_42 (dk_at dksX8_doff_1 3 rfl rfl)
theorem dX8_doff_27 : decode cX8_doff 27 = .ok (.getfield 93, 3) := dk_180 0 93 (dk_at dksX8_doff_1 4 rfl rfl)
theorem dX8_doff_30 : decode cX8_doff 30 = .ok (.bipush 6, 2) := dk_16 6 (dk_at dksX8_doff_1 7 rfl rfl)
theorem dX8_doff_32 : decode cX8_doff 32 = .ok (.iload_n 1, 1) := dk_27 (dk_at dksX8_doff_1 9 rfl rfl)
theorem dX8_doff_33 : decode cX8_doff 33 = .ok (.iadd, 1) := dk_96 (dk_at dksX8_doff_1 10 rfl rfl)
theorem dX8_doff_34 : decode cX8_doff 34 = .ok (.iaload, 1) := dk_46 (dk_at dksX8_doff_1 11 rfl rfl)
theorem dX8_doff_35 : decode cX8_doff 35 = .ok (.istore_n 2, 1) := dk_61 (dk_at dksX8_doff_1 12 rfl rfl)
theorem dX8_doff_36 : decode cX8_doff 36 = .ok (.aload_n 0, 1) := dk_42 (dk_at dksX8_doff_1 13 rfl rfl)
theorem dX8_doff_37 : decode cX8_doff 37 = .ok (.getfield 93, 3) := dk_180 0 93 (dk_at dksX8_doff_1 14 rfl rfl)
theorem dX8_doff_40 : decode cX8_doff 40 = .ok (.bipush 6, 2) := dk_16 6 (dk_at dksX8_doff_1 17 rfl rfl)
theorem dX8_doff_42 : decode cX8_doff 42 = .ok (.iload_n 1, 1) := dk_27 (dk_at dksX8_doff_1 19 rfl rfl)
theorem dX8_doff_43 : decode cX8_doff 43 = .ok (.iadd, 1) := dk_96 (dk_at dksX8_doff_1 20 rfl rfl)
theorem dX8_doff_44 : decode cX8_doff 44 = .ok (.iconst (-1), 1) := dk_2 (dk_at dksX8_doff_1 21 rfl rfl)
theorem dX8_doff_45 : decode cX8_doff 45 = .ok (.iastore, 1) := dk_79 (dk_at dksX8_doff_1 22 rfl rfl)
theorem dX8_doff_46 : decode cX8_doff 46 = .ok (.iload_n 2, 1) := dk_28 (dk_at dksX8_doff_1 23 rfl rfl)
theorem dX8_doff_47 : decode cX8_doff 47 = .ok (.ireturn, 1) := dk_172 (dk_at dksX8_doff_2 0 rfl rfl)
abbrev cX8_letout : ByteArray := prog_20_method_69_code
def yX8_letout : MethodName := ⟨RX8, "letout", "(II)I"⟩
def dkwX8_letout_3 : List UInt8 := [92, 46, 28, 96, 79, 42, 180, 0, 93, 16, 18, 27, 96, 46, 172]
abbrev dktX8_letout_3 : List UInt8 := dkwX8_letout_3 ++ []
def dkwX8_letout_2 : List UInt8 := [182, 1, 202, 42, 180, 0, 93, 16, 24, 27, 96, 92, 46, 28, 100, 79, 42, 180, 0, 93, 16, 18, 27, 96]
abbrev dktX8_letout_2 : List UInt8 := dkwX8_letout_2 ++ dktX8_letout_3
def dkwX8_letout_1 : List UInt8 := [153, 0, 19, 42, 180, 0, 93, 16, 18, 27, 96, 46, 28, 96, 16, 99, 164, 0, 5, 2, 172, 42]
abbrev dktX8_letout_1 : List UInt8 := dkwX8_letout_1 ++ dktX8_letout_2
def dkwX8_letout_0 : List UInt8 := [42, 27, 182, 1, 199, 153, 0, 36, 28, 4, 42, 180, 0, 93, 16, 24, 27, 96, 46, 184, 1, 161]
abbrev dktX8_letout_0 : List UInt8 := dkwX8_letout_0 ++ dktX8_letout_1
theorem dksX8_letout_0 : cX8_letout.data.toList.drop 0 = dktX8_letout_0 := by decide +kernel
theorem dksX8_letout_1 : cX8_letout.data.toList.drop 22 = dktX8_letout_1 := dk_seg dksX8_letout_0 22 rfl rfl
theorem dksX8_letout_2 : cX8_letout.data.toList.drop 44 = dktX8_letout_2 := dk_seg dksX8_letout_1 22 rfl rfl
theorem dksX8_letout_3 : cX8_letout.data.toList.drop 68 = dktX8_letout_3 := dk_seg dksX8_letout_2 24 rfl rfl
theorem dX8_letout_0 : decode cX8_letout 0 = .ok (.aload_n 0, 1) := dk_42 (dk_at dksX8_letout_0 0 rfl rfl)
theorem dX8_letout_1 : decode cX8_letout 1 = .ok (.iload_n 1, 1) := dk_27 (dk_at dksX8_letout_0 1 rfl rfl)
theorem dX8_letout_2 : decode cX8_letout 2 = .ok (.invokevirtual 455, 3) := dk_182 1 199 (dk_at dksX8_letout_0 2 rfl rfl)
theorem dX8_letout_5 : decode cX8_letout 5 = .ok (.ifCond .eq 36, 3) := dk_153 0 36 (dk_at dksX8_letout_0 5 rfl rfl)
theorem dX8_letout_8 : decode cX8_letout 8 = .ok (.iload_n 2, 1) := dk_28 (dk_at dksX8_letout_0 8 rfl rfl)
theorem dX8_letout_9 : decode cX8_letout 9 = .ok (.iconst 1, 1) := dk_4 (dk_at dksX8_letout_0 9 rfl rfl)
theorem dX8_letout_10 : decode cX8_letout 10 = .ok (.aload_n 0, 1) := dk_42 (dk_at dksX8_letout_0 10 rfl rfl)
theorem dX8_letout_11 : decode cX8_letout 11 = .ok (.getfield 93, 3) := dk_180 0 93 (dk_at dksX8_letout_0 11 rfl rfl)
theorem dX8_letout_14 : decode cX8_letout 14 = .ok (.bipush 24, 2) := dk_16 24 (dk_at dksX8_letout_0 14 rfl rfl)
theorem dX8_letout_16 : decode cX8_letout 16 = .ok (.iload_n 1, 1) := dk_27 (dk_at dksX8_letout_0 16 rfl rfl)
theorem dX8_letout_17 : decode cX8_letout 17 = .ok (.iadd, 1) := dk_96 (dk_at dksX8_letout_0 17 rfl rfl)
theorem dX8_letout_18 : decode cX8_letout 18 = .ok (.iaload, 1) := dk_46 (dk_at dksX8_letout_0 18 rfl rfl)
theorem dX8_letout_19 : decode cX8_letout 19 = .ok (.invokestatic 417, 3) := dk_184 1 161 (dk_at dksX8_letout_0 19 rfl rfl)
theorem dX8_letout_22 : decode cX8_letout 22 = .ok (.ifCond .eq 19, 3) := dk_153 0 19 (dk_at dksX8_letout_1 0 rfl rfl)
theorem dX8_letout_25 : decode cX8_letout 25 = .ok (.aload_n 0, 1) := dk_42 (dk_at dksX8_letout_1 3 rfl rfl)
theorem dX8_letout_26 : decode cX8_letout 26 = .ok (.getfield 93, 3) := dk_180 0 93 (dk_at dksX8_letout_1 4 rfl rfl)
theorem dX8_letout_29 : decode cX8_letout 29 = .ok (.bipush 18, 2) := dk_16 18 (dk_at dksX8_letout_1 7 rfl rfl)
theorem dX8_letout_31 : decode cX8_letout 31 = .ok (.iload_n 1, 1) := dk_27 (dk_at dksX8_letout_1 9 rfl rfl)
theorem dX8_letout_32 : decode cX8_letout 32 = .ok (.iadd, 1) := dk_96 (dk_at dksX8_letout_1 10 rfl rfl)
theorem dX8_letout_33 : decode cX8_letout 33 = .ok (.iaload, 1) := dk_46 (dk_at dksX8_letout_1 11 rfl rfl)
theorem dX8_letout_34 : decode cX8_letout 34 = .ok (.iload_n 2, 1) := dk_28 (dk_at dksX8_letout_1 12 rfl rfl)
theorem dX8_letout_35 : decode cX8_letout 35 = .ok (.iadd, 1) := dk_96 (dk_at dksX8_letout_1 13 rfl rfl)
theorem dX8_letout_36 : decode cX8_letout 36 = .ok (.bipush 99, 2) := dk_16 99 (dk_at dksX8_letout_1 14 rfl rfl)
theorem dX8_letout_38 : decode cX8_letout 38 = .ok (.if_icmp .le 5, 3) := dk_164 0 5 (dk_at dksX8_letout_1 16 rfl rfl)
theorem dX8_letout_41 : decode cX8_letout 41 = .ok (.iconst (-1), 1) := dk_2 (dk_at dksX8_letout_1 19 rfl rfl)
theorem dX8_letout_42 : decode cX8_letout 42 = .ok (.ireturn, 1) := dk_172 (dk_at dksX8_letout_1 20 rfl rfl)
theorem dX8_letout_43 : decode cX8_letout 43 = .ok (.aload_n 0, 1) := dk_42 (dk_at dksX8_letout_1 21 rfl rfl)
theorem dX8_letout_44 : decode cX8_letout 44 = .ok (.invokevirtual 458, 3) := dk_182 1 202 (dk_at dksX8_letout_2 0 rfl rfl)
theorem dX8_letout_47 : decode cX8_letout 47 = .ok (.aload_n 0, 1) := dk_42 (dk_at dksX8_letout_2 3 rfl rfl)
theorem dX8_letout_48 : decode cX8_letout 48 = .ok (.getfield 93, 3) := dk_180 0 93 (dk_at dksX8_letout_2 4 rfl rfl)
theorem dX8_letout_51 : decode cX8_letout 51 = .ok (.bipush 24, 2) := dk_16 24 (dk_at dksX8_letout_2 7 rfl rfl)
theorem dX8_letout_53 : decode cX8_letout 53 = .ok (.iload_n 1, 1) := dk_27 (dk_at dksX8_letout_2 9 rfl rfl)
theorem dX8_letout_54 : decode cX8_letout 54 = .ok (.iadd, 1) := dk_96 (dk_at dksX8_letout_2 10 rfl rfl)
theorem dX8_letout_55 : decode cX8_letout 55 = .ok (.dup2, 1) := dk_92 (dk_at dksX8_letout_2 11 rfl rfl)
theorem dX8_letout_56 : decode cX8_letout 56 = .ok (.iaload, 1) := dk_46 (dk_at dksX8_letout_2 12 rfl rfl)
theorem dX8_letout_57 : decode cX8_letout 57 = .ok (.iload_n 2, 1) := dk_28 (dk_at dksX8_letout_2 13 rfl rfl)
theorem dX8_letout_58 : decode cX8_letout 58 = .ok (.isub, 1) := dk_100 (dk_at dksX8_letout_2 14 rfl rfl)
theorem dX8_letout_59 : decode cX8_letout 59 = .ok (.iastore, 1) := dk_79 (dk_at dksX8_letout_2 15 rfl rfl)
theorem dX8_letout_60 : decode cX8_letout 60 = .ok (.aload_n 0, 1) := dk_42 (dk_at dksX8_letout_2 16 rfl rfl)
theorem dX8_letout_61 : decode cX8_letout 61 = .ok (.getfield 93, 3) := dk_180 0 93 (dk_at dksX8_letout_2 17 rfl rfl)
theorem dX8_letout_64 : decode cX8_letout 64 = .ok (.bipush 18, 2) := dk_16 18 (dk_at dksX8_letout_2 20 rfl rfl)
theorem dX8_letout_66 : decode cX8_letout 66 = .ok (.iload_n 1, 1) := dk_27 (dk_at dksX8_letout_2 22 rfl rfl)
theorem dX8_letout_67 : decode cX8_letout 67 = .ok (.iadd, 1) := dk_96 (dk_at dksX8_letout_2 23 rfl rfl)
theorem dX8_letout_68 : decode cX8_letout 68 = .ok (.dup2, 1) := dk_92 (dk_at dksX8_letout_3 0 rfl rfl)
theorem dX8_letout_69 : decode cX8_letout 69 = .ok (.iaload, 1) := dk_46 (dk_at dksX8_letout_3 1 rfl rfl)
theorem dX8_letout_70 : decode cX8_letout 70 = .ok (.iload_n 2, 1) := dk_28 (dk_at dksX8_letout_3 2 rfl rfl)
theorem dX8_letout_71 : decode cX8_letout 71 = .ok (.iadd, 1) := dk_96 (dk_at dksX8_letout_3 3 rfl rfl)
theorem dX8_letout_72 : decode cX8_letout 72 = .ok (.iastore, 1) := dk_79 (dk_at dksX8_letout_3 4 rfl rfl)
theorem dX8_letout_73 : decode cX8_letout 73 = .ok (.aload_n 0, 1) := dk_42 (dk_at dksX8_letout_3 5 rfl rfl)
theorem dX8_letout_74 : decode cX8_letout 74 = .ok (.getfield 93, 3) := dk_180 0 93 (dk_at dksX8_letout_3 6 rfl rfl)
theorem dX8_letout_77 : decode cX8_letout 77 = .ok (.bipush 18, 2) := dk_16 18 (dk_at dksX8_letout_3 9 rfl rfl)
theorem dX8_letout_79 : decode cX8_letout 79 = .ok (.iload_n 1, 1) := dk_27 (dk_at dksX8_letout_3 11 rfl rfl)
theorem dX8_letout_80 : decode cX8_letout 80 = .ok (.iadd, 1) := dk_96 (dk_at dksX8_letout_3 12 rfl rfl)
theorem dX8_letout_81 : decode cX8_letout 81 = .ok (.iaload, 1) := dk_46 (dk_at dksX8_letout_3 13 rfl rfl)
theorem dX8_letout_82 : decode cX8_letout 82 = .ok (.ireturn, 1) := dk_172 (dk_at dksX8_letout_3 14 rfl rfl)
abbrev cX8_takein : ByteArray := prog_20_method_70_code
def yX8_takein : MethodName := ⟨RX8, "takein", "(II)I"⟩
def dkwX8_takein_3 : List UInt8 := [92, 46, 28, 100, 79, 42, 180, 0, 93, 16, 18, 27, 96, 46, 172]
abbrev dktX8_takein_3 : List UInt8 := dkwX8_takein_3 ++ []
def dkwX8_takein_2 : List UInt8 := [182, 1, 202, 42, 180, 0, 93, 16, 24, 27, 96, 92, 46, 28, 96, 79, 42, 180, 0, 93, 16, 18, 27, 96]
abbrev dktX8_takein_2 : List UInt8 := dkwX8_takein_2 ++ dktX8_takein_3
def dkwX8_takein_1 : List UInt8 := [153, 0, 19, 42, 180, 0, 93, 16, 24, 27, 96, 46, 28, 96, 16, 99, 164, 0, 5, 2, 172, 42]
abbrev dktX8_takein_1 : List UInt8 := dkwX8_takein_1 ++ dktX8_takein_2
def dkwX8_takein_0 : List UInt8 := [42, 27, 182, 1, 199, 153, 0, 36, 28, 4, 42, 180, 0, 93, 16, 18, 27, 96, 46, 184, 1, 161]
abbrev dktX8_takein_0 : List UInt8 := dkwX8_takein_0 ++ dktX8_takein_1
theorem dksX8_takein_0 : cX8_takein.data.toList.drop 0 = dktX8_takein_0 := by decide +kernel
theorem dksX8_takein_1 : cX8_takein.data.toList.drop 22 = dktX8_takein_1 := dk_seg dksX8_takein_0 22 rfl rfl
theorem dksX8_takein_2 : cX8_takein.data.toList.drop 44 = dktX8_takein_2 := dk_seg dksX8_takein_1 22 rfl rfl
theorem dksX8_takein_3 : cX8_takein.data.toList.drop 68 = dktX8_takein_3 := dk_seg dksX8_takein_2 24 rfl rfl
theorem dX8_takein_0 : decode cX8_takein 0 = .ok (.aload_n 0, 1) := dk_42 (dk_at dksX8_takein_0 0 rfl rfl)
theorem dX8_takein_1 : decode cX8_takein 1 = .ok (.iload_n 1, 1) := dk_27 (dk_at dksX8_takein_0 1 rfl rfl)
theorem dX8_takein_2 : decode cX8_takein 2 = .ok (.invokevirtual 455, 3) := dk_182 1 199 (dk_at dksX8_takein_0 2 rfl rfl)
theorem dX8_takein_5 : decode cX8_takein 5 = .ok (.ifCond .eq 36, 3) := dk_153 0 36 (dk_at dksX8_takein_0 5 rfl rfl)
theorem dX8_takein_8 : decode cX8_takein 8 = .ok (.iload_n 2, 1) := dk_28 (dk_at dksX8_takein_0 8 rfl rfl)
theorem dX8_takein_9 : decode cX8_takein 9 = .ok (.iconst 1, 1) := dk_4 (dk_at dksX8_takein_0 9 rfl rfl)
theorem dX8_takein_10 : decode cX8_takein 10 = .ok (.aload_n 0, 1) := dk_42 (dk_at dksX8_takein_0 10 rfl rfl)
theorem dX8_takein_11 : decode cX8_takein 11 = .ok (.getfield 93, 3) := dk_180 0 93 (dk_at dksX8_takein_0 11 rfl rfl)
theorem dX8_takein_14 : decode cX8_takein 14 = .ok (.bipush 18, 2) := dk_16 18 (dk_at dksX8_takein_0 14 rfl rfl)
theorem dX8_takein_16 : decode cX8_takein 16 = .ok (.iload_n 1, 1) := dk_27 (dk_at dksX8_takein_0 16 rfl rfl)
theorem dX8_takein_17 : decode cX8_takein 17 = .ok (.iadd, 1) := dk_96 (dk_at dksX8_takein_0 17 rfl rfl)
theorem dX8_takein_18 : decode cX8_takein 18 = .ok (.iaload, 1) := dk_46 (dk_at dksX8_takein_0 18 rfl rfl)
theorem dX8_takein_19 : decode cX8_takein 19 = .ok (.invokestatic 417, 3) := dk_184 1 161 (dk_at dksX8_takein_0 19 rfl rfl)
theorem dX8_takein_22 : decode cX8_takein 22 = .ok (.ifCond .eq 19, 3) := dk_153 0 19 (dk_at dksX8_takein_1 0 rfl rfl)
theorem dX8_takein_25 : decode cX8_takein 25 = .ok (.aload_n 0, 1) := dk_42 (dk_at dksX8_takein_1 3 rfl rfl)
theorem dX8_takein_26 : decode cX8_takein 26 = .ok (.getfield 93, 3) := dk_180 0 93 (dk_at dksX8_takein_1 4 rfl rfl)
theorem dX8_takein_29 : decode cX8_takein 29 = .ok (.bipush 24, 2) := dk_16 24 (dk_at dksX8_takein_1 7 rfl rfl)
theorem dX8_takein_31 : decode cX8_takein 31 = .ok (.iload_n 1, 1) := dk_27 (dk_at dksX8_takein_1 9 rfl rfl)
theorem dX8_takein_32 : decode cX8_takein 32 = .ok (.iadd, 1) := dk_96 (dk_at dksX8_takein_1 10 rfl rfl)
theorem dX8_takein_33 : decode cX8_takein 33 = .ok (.iaload, 1) := dk_46 (dk_at dksX8_takein_1 11 rfl rfl)
theorem dX8_takein_34 : decode cX8_takein 34 = .ok (.iload_n 2, 1) := dk_28 (dk_at dksX8_takein_1 12 rfl rfl)
theorem dX8_takein_35 : decode cX8_takein 35 = .ok (.iadd, 1) := dk_96 (dk_at dksX8_takein_1 13 rfl rfl)
theorem dX8_takein_36 : decode cX8_takein 36 = .ok (.bipush 99, 2) := dk_16 99 (dk_at dksX8_takein_1 14 rfl rfl)
theorem dX8_takein_38 : decode cX8_takein 38 = .ok (.if_icmp .le 5, 3) := dk_164 0 5 (dk_at dksX8_takein_1 16 rfl rfl)
theorem dX8_takein_41 : decode cX8_takein 41 = .ok (.iconst (-1), 1) := dk_2 (dk_at dksX8_takein_1 19 rfl rfl)
theorem dX8_takein_42 : decode cX8_takein 42 = .ok (.ireturn, 1) := dk_172 (dk_at dksX8_takein_1 20 rfl rfl)
theorem dX8_takein_43 : decode cX8_takein 43 = .ok (.aload_n 0, 1) := dk_42 (dk_at dksX8_takein_1 21 rfl rfl)
theorem dX8_takein_44 : decode cX8_takein 44 = .ok (.invokevirtual 458, 3) := dk_182 1 202 (dk_at dksX8_takein_2 0 rfl rfl)
theorem dX8_takein_47 : decode cX8_takein 47 = .ok (.aload_n 0, 1) := dk_42 (dk_at dksX8_takein_2 3 rfl rfl)
theorem dX8_takein_48 : decode cX8_takein 48 = .ok (.getfield 93, 3) := dk_180 0 93 (dk_at dksX8_takein_2 4 rfl rfl)
theorem dX8_takein_51 : decode cX8_takein 51 = .ok (.bipush 24, 2) := dk_16 24 (dk_at dksX8_takein_2 7 rfl rfl)
theorem dX8_takein_53 : decode cX8_takein 53 = .ok (.iload_n 1, 1) := dk_27 (dk_at dksX8_takein_2 9 rfl rfl)
theorem dX8_takein_54 : decode cX8_takein 54 = .ok (.iadd, 1) := dk_96 (dk_at dksX8_takein_2 10 rfl rfl)
theorem dX8_takein_55 : decode cX8_takein 55 = .ok (.dup2, 1) := dk_92 (dk_at dksX8_takein_2 11 rfl rfl)
theorem dX8_takein_56 : decode cX8_takein 56 = .ok (.iaload, 1) := dk_46 (dk_at dksX8_takein_2 12 rfl rfl)
theorem dX8_takein_57 : decode cX8_takein 57 = .ok (.iload_n 2, 1) := dk_28 (dk_at dksX8_takein_2 13 rfl rfl)
theorem dX8_takein_58 : decode cX8_takein 58 = .ok (.iadd, 1) := dk_96 (dk_at dksX8_takein_2 14 rfl rfl)
theorem dX8_takein_59 : decode cX8_takein 59 = .ok (.iastore, 1) := dk_79 (dk_at dksX8_takein_2 15 rfl rfl)
theorem dX8_takein_60 : decode cX8_takein 60 = .ok (.aload_n 0, 1) := dk_42 (dk_at dksX8_takein_2 16 rfl rfl)
theorem dX8_takein_61 : decode cX8_takein 61 = .ok (.getfield 93, 3) := dk_180 0 93 (dk_at dksX8_takein_2 17 rfl rfl)
theorem dX8_takein_64 : decode cX8_takein 64 = .ok (.bipush 18, 2) := dk_16 18 (dk_at dksX8_takein_2 20 rfl rfl)
theorem dX8_takein_66 : decode cX8_takein 66 = .ok (.iload_n 1, 1) := dk_27 (dk_at dksX8_takein_2 22 rfl rfl)
theorem dX8_takein_67 : decode cX8_takein 67 = .ok (.iadd, 1) := dk_96 (dk_at dksX8_takein_2 23 rfl rfl)
theorem dX8_takein_68 : decode cX8_takein 68 = .ok (.dup2, 1) := dk_92 (dk_at dksX8_takein_3 0 rfl rfl)
theorem dX8_takein_69 : decode cX8_takein 69 = .ok (.iaload, 1) := dk_46 (dk_at dksX8_takein_3 1 rfl rfl)
theorem dX8_takein_70 : decode cX8_takein 70 = .ok (.iload_n 2, 1) := dk_28 (dk_at dksX8_takein_3 2 rfl rfl)
theorem dX8_takein_71 : decode cX8_takein 71 = .ok (.isub, 1) := dk_100 (dk_at dksX8_takein_3 3 rfl rfl)
theorem dX8_takein_72 : decode cX8_takein 72 = .ok (.iastore, 1) := dk_79 (dk_at dksX8_takein_3 4 rfl rfl)
theorem dX8_takein_73 : decode cX8_takein 73 = .ok (.aload_n 0, 1) := dk_42 (dk_at dksX8_takein_3 5 rfl rfl)
theorem dX8_takein_74 : decode cX8_takein 74 = .ok (.getfield 93, 3) := dk_180 0 93 (dk_at dksX8_takein_3 6 rfl rfl)
theorem dX8_takein_77 : decode cX8_takein 77 = .ok (.bipush 18, 2) := dk_16 18 (dk_at dksX8_takein_3 9 rfl rfl)
theorem dX8_takein_79 : decode cX8_takein 79 = .ok (.iload_n 1, 1) := dk_27 (dk_at dksX8_takein_3 11 rfl rfl)
theorem dX8_takein_80 : decode cX8_takein 80 = .ok (.iadd, 1) := dk_96 (dk_at dksX8_takein_3 12 rfl rfl)
theorem dX8_takein_81 : decode cX8_takein 81 = .ok (.iaload, 1) := dk_46 (dk_at dksX8_takein_3 13 rfl rfl)
theorem dX8_takein_82 : decode cX8_takein 82 = .ok (.ireturn, 1) := dk_172 (dk_at dksX8_takein_3 14 rfl rfl)
abbrev cX8_hem : ByteArray := prog_20_method_71_code
def yX8_hem : MethodName := ⟨RX8, "hem", "(II)I"⟩
def dkwX8_hem_2 : List UInt8 := [180, 0, 93, 16, 12, 27, 96, 46, 172]
abbrev dktX8_hem_2 : List UInt8 := dkwX8_hem_2 ++ []
def dkwX8_hem_1 : List UInt8 := [154, 0, 5, 2, 172, 42, 182, 1, 202, 42, 180, 0, 93, 16, 12, 27, 96, 92, 46, 28, 100, 79, 42]
abbrev dktX8_hem_1 : List UInt8 := dkwX8_hem_1 ++ dktX8_hem_2
def dkwX8_hem_0 : List UInt8 := [42, 27, 182, 1, 199, 153, 0, 20, 28, 4, 42, 180, 0, 93, 16, 12, 27, 96, 46, 184, 1, 161]
abbrev dktX8_hem_0 : List UInt8 := dkwX8_hem_0 ++ dktX8_hem_1
theorem dksX8_hem_0 : cX8_hem.data.toList.drop 0 = dktX8_hem_0 := by decide +kernel
theorem dksX8_hem_1 : cX8_hem.data.toList.drop 22 = dktX8_hem_1 := dk_seg dksX8_hem_0 22 rfl rfl
theorem dksX8_hem_2 : cX8_hem.data.toList.drop 45 = dktX8_hem_2 := dk_seg dksX8_hem_1 23 rfl rfl
theorem dX8_hem_0 : decode cX8_hem 0 = .ok (.aload_n 0, 1) := dk_42 (dk_at dksX8_hem_0 0 rfl rfl)
theorem dX8_hem_1 : decode cX8_hem 1 = .ok (.iload_n 1, 1) := dk_27 (dk_at dksX8_hem_0 1 rfl rfl)
theorem dX8_hem_2 : decode cX8_hem 2 = .ok (.invokevirtual 455, 3) := dk_182 1 199 (dk_at dksX8_hem_0 2 rfl rfl)
theorem dX8_hem_5 : decode cX8_hem 5 = .ok (.ifCond .eq 20, 3) := dk_153 0 20 (dk_at dksX8_hem_0 5 rfl rfl)
theorem dX8_hem_8 : decode cX8_hem 8 = .ok (.iload_n 2, 1) := dk_28 (dk_at dksX8_hem_0 8 rfl rfl)
theorem dX8_hem_9 : decode cX8_hem 9 = .ok (.iconst 1, 1) := dk_4 (dk_at dksX8_hem_0 9 rfl rfl)
theorem dX8_hem_10 : decode cX8_hem 10 = .ok (.aload_n 0, 1) := dk_42 (dk_at dksX8_hem_0 10 rfl rfl)
theorem dX8_hem_11 : decode cX8_hem 11 = .ok (.getfield 93, 3) := dk_180 0 93 (dk_at dksX8_hem_0 11 rfl rfl)
theorem dX8_hem_14 : decode cX8_hem 14 = .ok (.bipush 12, 2) := dk_16 12 (dk_at dksX8_hem_0 14 rfl rfl)
theorem dX8_hem_16 : decode cX8_hem 16 = .ok (.iload_n 1, 1) := dk_27 (dk_at dksX8_hem_0 16 rfl rfl)
theorem dX8_hem_17 : decode cX8_hem 17 = .ok (.iadd, 1) := dk_96 (dk_at dksX8_hem_0 17 rfl rfl)
theorem dX8_hem_18 : decode cX8_hem 18 = .ok (.iaload, 1) := dk_46 (dk_at dksX8_hem_0 18 rfl rfl)
theorem dX8_hem_19 : decode cX8_hem 19 = .ok (.invokestatic 417, 3) := dk_184 1 161 (dk_at dksX8_hem_0 19 rfl rfl)
theorem dX8_hem_22 : decode cX8_hem 22 = .ok (.ifCond .ne 5, 3) := dk_154 0 5 (dk_at dksX8_hem_1 0 rfl rfl)
theorem dX8_hem_25 : decode cX8_hem 25 = .ok (.iconst (-1), 1) := dk_2 (dk_at dksX8_hem_1 3 rfl rfl)
theorem dX8_hem_26 : decode cX8_hem 26 = .ok (.ireturn, 1) := dk_172 (dk_at dksX8_hem_1 4 rfl rfl)
theorem dX8_hem_27 : decode cX8_hem 27 = .ok (.aload_n 0, 1) := dk_42 (dk_at dksX8_hem_1 5 rfl rfl)
theorem dX8_hem_28 : decode cX8_hem 28 = .ok (.invokevirtual 458, 3) := dk_182 1 202 (dk_at dksX8_hem_1 6 rfl rfl)
theorem dX8_hem_31 : decode cX8_hem 31 = .ok (.aload_n 0, 1) := dk_42 (dk_at dksX8_hem_1 9 rfl rfl)
theorem dX8_hem_32 : decode cX8_hem 32 = .ok (.getfield 93, 3) := dk_180 0 93 (dk_at dksX8_hem_1 10 rfl rfl)
theorem dX8_hem_35 : decode cX8_hem 35 = .ok (.bipush 12, 2) := dk_16 12 (dk_at dksX8_hem_1 13 rfl rfl)
theorem dX8_hem_37 : decode cX8_hem 37 = .ok (.iload_n 1, 1) := dk_27 (dk_at dksX8_hem_1 15 rfl rfl)
theorem dX8_hem_38 : decode cX8_hem 38 = .ok (.iadd, 1) := dk_96 (dk_at dksX8_hem_1 16 rfl rfl)
theorem dX8_hem_39 : decode cX8_hem 39 = .ok (.dup2, 1) := dk_92 (dk_at dksX8_hem_1 17 rfl rfl)
theorem dX8_hem_40 : decode cX8_hem 40 = .ok (.iaload, 1) := dk_46 (dk_at dksX8_hem_1 18 rfl rfl)
theorem dX8_hem_41 : decode cX8_hem 41 = .ok (.iload_n 2, 1) := dk_28 (dk_at dksX8_hem_1 19 rfl rfl)
theorem dX8_hem_42 : decode cX8_hem 42 = .ok (.isub, 1) := dk_100 (dk_at dksX8_hem_1 20 rfl rfl)
theorem dX8_hem_43 : decode cX8_hem 43 = .ok (.iastore, 1) := dk_79 (dk_at dksX8_hem_1 21 rfl rfl)
theorem dX8_hem_44 : decode cX8_hem 44 = .ok (.aload_n 0, 1) := dk_42 (dk_at dksX8_hem_1 22 rfl rfl)
theorem dX8_hem_45 : decode cX8_hem 45 = .ok (.getfield 93, 3) := dk_180 0 93 (dk_at dksX8_hem_2 0 rfl rfl)
theorem dX8_hem_48 : decode cX8_hem 48 = .ok (.bipush 12, 2) := dk_16 12 (dk_at dksX8_hem_2 3 rfl rfl)
theorem dX8_hem_50 : decode cX8_hem 50 = .ok (.iload_n 1, 1) := dk_27 (dk_at dksX8_hem_2 5 rfl rfl)
theorem dX8_hem_51 : decode cX8_hem 51 = .ok (.iadd, 1) := dk_96 (dk_at dksX8_hem_2 6 rfl rfl)
theorem dX8_hem_52 : decode cX8_hem 52 = .ok (.iaload, 1) := dk_46 (dk_at dksX8_hem_2 7 rfl rfl)
theorem dX8_hem_53 : decode cX8_hem 53 = .ok (.ireturn, 1) := dk_172 (dk_at dksX8_hem_2 8 rfl rfl)
abbrev cX8_turn : ByteArray := prog_20_method_72_code
def yX8_turn : MethodName := ⟨RX8, "turn", "(I)I"⟩
def dkwX8_turn_2 : List UInt8 := [79, 42, 180, 0, 93, 16, 36, 92, 46, 4, 27, 120, 128, 79, 28, 172]
abbrev dktX8_turn_2 : List UInt8 := dkwX8_turn_2 ++ []
def dkwX8_turn_1 : List UInt8 := [172, 42, 182, 1, 202, 42, 180, 0, 93, 16, 30, 27, 96, 46, 61, 42, 180, 0, 93, 16, 30, 27, 96, 3]
abbrev dktX8_turn_1 : List UInt8 := dkwX8_turn_1 ++ dktX8_turn_2
def dkwX8_turn_0 : List UInt8 := [42, 27, 182, 1, 199, 153, 0, 18, 42, 180, 0, 93, 16, 36, 46, 27, 122, 4, 126, 4, 160, 0, 5, 2]
abbrev dktX8_turn_0 : List UInt8 := dkwX8_turn_0 ++ dktX8_turn_1
theorem dksX8_turn_0 : cX8_turn.data.toList.drop 0 = dktX8_turn_0 := by decide +kernel
theorem dksX8_turn_1 : cX8_turn.data.toList.drop 24 = dktX8_turn_1 := dk_seg dksX8_turn_0 24 rfl rfl
theorem dksX8_turn_2 : cX8_turn.data.toList.drop 48 = dktX8_turn_2 := dk_seg dksX8_turn_1 24 rfl rfl
theorem dX8_turn_0 : decode cX8_turn 0 = .ok (.aload_n 0, 1) := dk_42 (dk_at dksX8_turn_0 0 rfl rfl)
theorem dX8_turn_1 : decode cX8_turn 1 = .ok (.iload_n 1, 1) := dk_27 (dk_at dksX8_turn_0 1 rfl rfl)
theorem dX8_turn_2 : decode cX8_turn 2 = .ok (.invokevirtual 455, 3) := dk_182 1 199 (dk_at dksX8_turn_0 2 rfl rfl)
theorem dX8_turn_5 : decode cX8_turn 5 = .ok (.ifCond .eq 18, 3) := dk_153 0 18 (dk_at dksX8_turn_0 5 rfl rfl)
theorem dX8_turn_8 : decode cX8_turn 8 = .ok (.aload_n 0, 1) := dk_42 (dk_at dksX8_turn_0 8 rfl rfl)
theorem dX8_turn_9 : decode cX8_turn 9 = .ok (.getfield 93, 3) := dk_180 0 93 (dk_at dksX8_turn_0 9 rfl rfl)
theorem dX8_turn_12 : decode cX8_turn 12 = .ok (.bipush 36, 2) := dk_16 36 (dk_at dksX8_turn_0 12 rfl rfl)
theorem dX8_turn_14 : decode cX8_turn 14 = .ok (.iaload, 1) := dk_46 (dk_at dksX8_turn_0 14 rfl rfl)
theorem dX8_turn_15 : decode cX8_turn 15 = .ok (.iload_n 1, 1) := dk_27 (dk_at dksX8_turn_0 15 rfl rfl)
theorem dX8_turn_16 : decode cX8_turn 16 = .ok (.ishr, 1) := dk_122 (dk_at dksX8_turn_0 16 rfl rfl)
theorem dX8_turn_17 : decode cX8_turn 17 = .ok (.iconst 1, 1) := dk_4 (dk_at dksX8_turn_0 17 rfl rfl)
theorem dX8_turn_18 : decode cX8_turn 18 = .ok (.iand, 1) := dk_126 (dk_at dksX8_turn_0 18 rfl rfl)
theorem dX8_turn_19 : decode cX8_turn 19 = .ok (.iconst 1, 1) := dk_4 (dk_at dksX8_turn_0 19 rfl rfl)
theorem dX8_turn_20 : decode cX8_turn 20 = .ok (.if_icmp .ne 5, 3) := dk_160 0 5 (dk_at dksX8_turn_0 20 rfl rfl)
theorem dX8_turn_23 : decode cX8_turn 23 = .ok (.iconst (-1), 1) := dk_2 (dk_at dksX8_turn_0 23 rfl rfl)
theorem dX8_turn_24 : decode cX8_turn 24 = .ok (.ireturn, 1) := dk_172 (dk_at dksX8_turn_1 0 rfl rfl)
theorem dX8_turn_25 : decode cX8_turn 25 = .ok (.aload_n 0, 1) := dk_42 (dk_at dksX8_turn_1 1 rfl rfl)
theorem dX8_turn_26 : decode cX8_turn 26 = .ok (.invokevirtual 458, 3) := dk_182 1 202 (dk_at dksX8_turn_1 2 rfl rfl)
theorem dX8_turn_29 : decode cX8_turn 29 = .ok (.aload_n 0, 1) := dk_42 (dk_at dksX8_turn_1 5 rfl rfl)
theorem dX8_turn_30 : decode cX8_turn 30 = .ok (.getfield 93, 3) := dk_180 0 93 (dk_at dksX8_turn_1 6 rfl rfl)
theorem dX8_turn_33 : decode cX8_turn 33 = .ok (.bipush 30, 2) := dk_16 30 (dk_at dksX8_turn_1 9 rfl rfl)
theorem dX8_turn_35 : decode cX8_turn 35 = .ok (.iload_n 1, 1) := dk_27 (dk_at dksX8_turn_1 11 rfl rfl)
theorem dX8_turn_36 : decode cX8_turn 36 = .ok (.iadd, 1) := dk_96 (dk_at dksX8_turn_1 12 rfl rfl)
theorem dX8_turn_37 : decode cX8_turn 37 = .ok (.iaload, 1) := dk_46 (dk_at dksX8_turn_1 13 rfl rfl)
theorem dX8_turn_38 : decode cX8_turn 38 = .ok (.istore_n 2, 1) := dk_61 (dk_at dksX8_turn_1 14 rfl rfl)
theorem dX8_turn_39 : decode cX8_turn 39 = .ok (.aload_n 0, 1) := dk_42 (dk_at dksX8_turn_1 15 rfl rfl)
theorem dX8_turn_40 : decode cX8_turn 40 = .ok (.getfield 93, 3) := dk_180 0 93 (dk_at dksX8_turn_1 16 rfl rfl)
theorem dX8_turn_43 : decode cX8_turn 43 = .ok (.bipush 30, 2) := dk_16 30 (dk_at dksX8_turn_1 19 rfl rfl)
theorem dX8_turn_45 : decode cX8_turn 45 = .ok (.iload_n 1, 1) := dk_27 (dk_at dksX8_turn_1 21 rfl rfl)
theorem dX8_turn_46 : decode cX8_turn 46 = .ok (.iadd, 1) := dk_96 (dk_at dksX8_turn_1 22 rfl rfl)
theorem dX8_turn_47 : decode cX8_turn 47 = .ok (.iconst 0, 1) := dk_3 (dk_at dksX8_turn_1 23 rfl rfl)
theorem dX8_turn_48 : decode cX8_turn 48 = .ok (.iastore, 1) := dk_79 (dk_at dksX8_turn_2 0 rfl rfl)
theorem dX8_turn_49 : decode cX8_turn 49 = .ok (.aload_n 0, 1) := dk_42 (dk_at dksX8_turn_2 1 rfl rfl)
theorem dX8_turn_50 : decode cX8_turn 50 = .ok (.getfield 93, 3) := dk_180 0 93 (dk_at dksX8_turn_2 2 rfl rfl)
theorem dX8_turn_53 : decode cX8_turn 53 = .ok (.bipush 36, 2) := dk_16 36 (dk_at dksX8_turn_2 5 rfl rfl)
theorem dX8_turn_55 : decode cX8_turn 55 = .ok (.dup2, 1) := dk_92 (dk_at dksX8_turn_2 7 rfl rfl)
theorem dX8_turn_56 : decode cX8_turn 56 = .ok (.iaload, 1) := dk_46 (dk_at dksX8_turn_2 8 rfl rfl)
theorem dX8_turn_57 : decode cX8_turn 57 = .ok (.iconst 1, 1) := dk_4 (dk_at dksX8_turn_2 9 rfl rfl)
theorem dX8_turn_58 : decode cX8_turn 58 = .ok (.iload_n 1, 1) := dk_27 (dk_at dksX8_turn_2 10 rfl rfl)
theorem dX8_turn_59 : decode cX8_turn 59 = .ok (.ishl, 1) := dk_120 (dk_at dksX8_turn_2 11 rfl rfl)
theorem dX8_turn_60 : decode cX8_turn 60 = .ok (.ior, 1) := dk_128 (dk_at dksX8_turn_2 12 rfl rfl)
theorem dX8_turn_61 : decode cX8_turn 61 = .ok (.iastore, 1) := dk_79 (dk_at dksX8_turn_2 13 rfl rfl)
theorem dX8_turn_62 : decode cX8_turn 62 = .ok (.iload_n 2, 1) := dk_28 (dk_at dksX8_turn_2 14 rfl rfl)
theorem dX8_turn_63 : decode cX8_turn 63 = .ok (.ireturn, 1) := dk_172 (dk_at dksX8_turn_2 15 rfl rfl)
abbrev cX8_undo : ByteArray := prog_20_method_73_code
def yX8_undo : MethodName := ⟨RX8, "undo", "()Z"⟩
def dkwX8_undo_1 : List UInt8 := [4, 96, 181, 1, 152, 42, 16, 39, 42, 180, 1, 149, 104, 182, 1, 211, 4, 172]
abbrev dktX8_undo_1 : List UInt8 := dkwX8_undo_1 ++ []
def dkwX8_undo_0 : List UInt8 := [42, 180, 1, 149, 154, 0, 5, 3, 172, 42, 89, 180, 1, 149, 4, 100, 181, 1, 149, 42, 89, 180, 1, 152]
abbrev dktX8_undo_0 : List UInt8 := dkwX8_undo_0 ++ dktX8_undo_1
theorem dksX8_undo_0 : cX8_undo.data.toList.drop 0 = dktX8_undo_0 := by decide +kernel
theorem dksX8_undo_1 : cX8_undo.data.toList.drop 24 = dktX8_undo_1 := dk_seg dksX8_undo_0 24 rfl rfl
theorem dX8_undo_0 : decode cX8_undo 0 = .ok (.aload_n 0, 1) := dk_42 (dk_at dksX8_undo_0 0 rfl rfl)
theorem dX8_undo_1 : decode cX8_undo 1 = .ok (.getfield 405, 3) := dk_180 1 149 (dk_at dksX8_undo_0 1 rfl rfl)
theorem dX8_undo_4 : decode cX8_undo 4 = .ok (.ifCond .ne 5, 3) := dk_154 0 5 (dk_at dksX8_undo_0 4 rfl rfl)
theorem dX8_undo_7 : decode cX8_undo 7 = .ok (.iconst 0, 1) := dk_3 (dk_at dksX8_undo_0 7 rfl rfl)
theorem dX8_undo_8 : decode cX8_undo 8 = .ok (.ireturn, 1) := dk_172 (dk_at dksX8_undo_0 8 rfl rfl)
theorem dX8_undo_9 : decode cX8_undo 9 = .ok (.aload_n 0, 1) := dk_42 (dk_at dksX8_undo_0 9 rfl rfl)
theorem dX8_undo_10 : decode cX8_undo 10 = .ok (.dup, 1) := dk_89 (dk_at dksX8_undo_0 10 rfl rfl)
theorem dX8_undo_11 : decode cX8_undo 11 = .ok (.getfield 405, 3) := dk_180 1 149 (dk_at dksX8_undo_0 11 rfl rfl)
theorem dX8_undo_14 : decode cX8_undo 14 = .ok (.iconst 1, 1) := dk_4 (dk_at dksX8_undo_0 14 rfl rfl)
theorem dX8_undo_15 : decode cX8_undo 15 = .ok (.isub, 1) := dk_100 (dk_at dksX8_undo_0 15 rfl rfl)
theorem dX8_undo_16 : decode cX8_undo 16 = .ok (.putfield 405, 3) := dk_181 1 149 (dk_at dksX8_undo_0 16 rfl rfl)
theorem dX8_undo_19 : decode cX8_undo 19 = .ok (.aload_n 0, 1) := dk_42 (dk_at dksX8_undo_0 19 rfl rfl)
theorem dX8_undo_20 : decode cX8_undo 20 = .ok (.dup, 1) := dk_89 (dk_at dksX8_undo_0 20 rfl rfl)
theorem dX8_undo_21 : decode cX8_undo 21 = .ok (.getfield 408, 3) := dk_180 1 152 (dk_at dksX8_undo_0 21 rfl rfl)
theorem dX8_undo_24 : decode cX8_undo 24 = .ok (.iconst 1, 1) := dk_4 (dk_at dksX8_undo_1 0 rfl rfl)
theorem dX8_undo_25 : decode cX8_undo 25 = .ok (.iadd, 1) := dk_96 (dk_at dksX8_undo_1 1 rfl rfl)
theorem dX8_undo_26 : decode cX8_undo 26 = .ok (.putfield 408, 3) := dk_181 1 152 (dk_at dksX8_undo_1 2 rfl rfl)
theorem dX8_undo_29 : decode cX8_undo 29 = .ok (.aload_n 0, 1) := dk_42 (dk_at dksX8_undo_1 5 rfl rfl)
theorem dX8_undo_30 : decode cX8_undo 30 = .ok (.bipush 39, 2) := dk_16 39 (dk_at dksX8_undo_1 6 rfl rfl)
theorem dX8_undo_32 : decode cX8_undo 32 = .ok (.aload_n 0, 1) := dk_42 (dk_at dksX8_undo_1 8 rfl rfl)
theorem dX8_undo_33 : decode cX8_undo 33 = .ok (.getfield 405, 3) := dk_180 1 149 (dk_at dksX8_undo_1 9 rfl rfl)
theorem dX8_undo_36 : decode cX8_undo 36 = .ok (.imul, 1) := dk_104 (dk_at dksX8_undo_1 12 rfl rfl)
theorem dX8_undo_37 : decode cX8_undo 37 = .ok (.invokevirtual 467, 3) := dk_182 1 211 (dk_at dksX8_undo_1 13 rfl rfl)
theorem dX8_undo_40 : decode cX8_undo 40 = .ok (.iconst 1, 1) := dk_4 (dk_at dksX8_undo_1 16 rfl rfl)
theorem dX8_undo_41 : decode cX8_undo 41 = .ok (.ireturn, 1) := dk_172 (dk_at dksX8_undo_1 17 rfl rfl)
abbrev cX8_exchange : ByteArray := prog_20_method_65_code
def yX8_exchange : MethodName := ⟨RX8, "exchange", "(I)V"⟩
def dkwX8_exchange_1 : List UInt8 := [42, 180, 0, 93, 28, 46, 79, 42, 180, 0, 93, 28, 29, 79, 132, 2, 1, 167, 255, 217, 177]
abbrev dktX8_exchange_1 : List UInt8 := dkwX8_exchange_1 ++ []
def dkwX8_exchange_0 : List UInt8 := [3, 61, 28, 16, 39, 162, 0, 39, 42, 180, 0, 99, 27, 28, 96, 46, 62, 42, 180, 0, 99, 27, 28, 96]
abbrev dktX8_exchange_0 : List UInt8 := dkwX8_exchange_0 ++ dktX8_exchange_1
theorem dksX8_exchange_0 : cX8_exchange.data.toList.drop 0 = dktX8_exchange_0 := by decide +kernel
theorem dksX8_exchange_1 : cX8_exchange.data.toList.drop 24 = dktX8_exchange_1 := dk_seg dksX8_exchange_0 24 rfl rfl
theorem dX8_exchange_0 : decode cX8_exchange 0 = .ok (.iconst 0, 1) := dk_3 (dk_at dksX8_exchange_0 0 rfl rfl)
theorem dX8_exchange_1 : decode cX8_exchange 1 = .ok (.istore_n 2, 1) := dk_61 (dk_at dksX8_exchange_0 1 rfl rfl)
theorem dX8_exchange_2 : decode cX8_exchange 2 = .ok (.iload_n 2, 1) := dk_28 (dk_at dksX8_exchange_0 2 rfl rfl)
theorem dX8_exchange_3 : decode cX8_exchange 3 = .ok (.bipush 39, 2) := dk_16 39 (dk_at dksX8_exchange_0 3 rfl rfl)
theorem dX8_exchange_5 : decode cX8_exchange 5 = .ok (.if_icmp .ge 39, 3) := dk_162 0 39 (dk_at dksX8_exchange_0 5 rfl rfl)
theorem dX8_exchange_8 : decode cX8_exchange 8 = .ok (.aload_n 0, 1) := dk_42 (dk_at dksX8_exchange_0 8 rfl rfl)
theorem dX8_exchange_9 : decode cX8_exchange 9 = .ok (.getfield 99, 3) := dk_180 0 99 (dk_at dksX8_exchange_0 9 rfl rfl)
theorem dX8_exchange_12 : decode cX8_exchange 12 = .ok (.iload_n 1, 1) := dk_27 (dk_at dksX8_exchange_0 12 rfl rfl)
theorem dX8_exchange_13 : decode cX8_exchange 13 = .ok (.iload_n 2, 1) := dk_28 (dk_at dksX8_exchange_0 13 rfl rfl)
theorem dX8_exchange_14 : decode cX8_exchange 14 = .ok (.iadd, 1) := dk_96 (dk_at dksX8_exchange_0 14 rfl rfl)
theorem dX8_exchange_15 : decode cX8_exchange 15 = .ok (.iaload, 1) := dk_46 (dk_at dksX8_exchange_0 15 rfl rfl)
theorem dX8_exchange_16 : decode cX8_exchange 16 = .ok (.istore_n 3, 1) := dk_62 (dk_at dksX8_exchange_0 16 rfl rfl)
theorem dX8_exchange_17 : decode cX8_exchange 17 = .ok (.aload_n 0, 1) := dk_42 (dk_at dksX8_exchange_0 17 rfl rfl)
theorem dX8_exchange_18 : decode cX8_exchange 18 = .ok (.getfield 99, 3) := dk_180 0 99 (dk_at dksX8_exchange_0 18 rfl rfl)
theorem dX8_exchange_21 : decode cX8_exchange 21 = .ok (.iload_n 1, 1) := dk_27 (dk_at dksX8_exchange_0 21 rfl rfl)
theorem dX8_exchange_22 : decode cX8_exchange 22 = .ok (.iload_n 2, 1) := dk_28 (dk_at dksX8_exchange_0 22 rfl rfl)
theorem dX8_exchange_23 : decode cX8_exchange 23 = .ok (.iadd, 1) := dk_96 (dk_at dksX8_exchange_0 23 rfl rfl)
theorem dX8_exchange_24 : decode cX8_exchange 24 = .ok (.aload_n 0, 1) := dk_42 (dk_at dksX8_exchange_1 0 rfl rfl)
theorem dX8_exchange_25 : decode cX8_exchange 25 = .ok (.getfield 93, 3) := dk_180 0 93 (dk_at dksX8_exchange_1 1 rfl rfl)
theorem dX8_exchange_28 : decode cX8_exchange 28 = .ok (.iload_n 2, 1) := dk_28 (dk_at dksX8_exchange_1 4 rfl rfl)
theorem dX8_exchange_29 : decode cX8_exchange 29 = .ok (.iaload, 1) := dk_46 (dk_at dksX8_exchange_1 5 rfl rfl)
theorem dX8_exchange_30 : decode cX8_exchange 30 = .ok (.iastore, 1) := dk_79 (dk_at dksX8_exchange_1 6 rfl rfl)
theorem dX8_exchange_31 : decode cX8_exchange 31 = .ok (.aload_n 0, 1) := dk_42 (dk_at dksX8_exchange_1 7 rfl rfl)
theorem dX8_exchange_32 : decode cX8_exchange 32 = .ok (.getfield 93, 3) := dk_180 0 93 (dk_at dksX8_exchange_1 8 rfl rfl)
theorem dX8_exchange_35 : decode cX8_exchange 35 = .ok (.iload_n 2, 1) := dk_28 (dk_at dksX8_exchange_1 11 rfl rfl)
theorem dX8_exchange_36 : decode cX8_exchange 36 = .ok (.iload_n 3, 1) := dk_29 (dk_at dksX8_exchange_1 12 rfl rfl)
theorem dX8_exchange_37 : decode cX8_exchange 37 = .ok (.iastore, 1) := dk_79 (dk_at dksX8_exchange_1 13 rfl rfl)
theorem dX8_exchange_38 : decode cX8_exchange 38 = .ok (.iinc 2 1, 3) := dk_132 2 1 (dk_at dksX8_exchange_1 14 rfl rfl)
theorem dX8_exchange_41 : decode cX8_exchange 41 = .ok (.goto (-39), 3) := dk_167 255 217 (dk_at dksX8_exchange_1 17 rfl rfl)
theorem dX8_exchange_44 : decode cX8_exchange 44 = .ok (.return_, 1) := dk_177 (dk_at dksX8_exchange_1 20 rfl rfl)
abbrev cX8_redo : ByteArray := prog_20_method_74_code
def yX8_redo : MethodName := ⟨RX8, "redo", "()Z"⟩
def dkwX8_redo_1 : List UInt8 := [180, 1, 149, 4, 96, 181, 1, 149, 42, 89, 180, 1, 152, 4, 100, 181, 1, 152, 4, 172]
abbrev dktX8_redo_1 : List UInt8 := dkwX8_redo_1 ++ []
def dkwX8_redo_0 : List UInt8 := [42, 180, 1, 152, 154, 0, 5, 3, 172, 42, 16, 39, 42, 180, 1, 149, 104, 182, 1, 211, 42, 89]
abbrev dktX8_redo_0 : List UInt8 := dkwX8_redo_0 ++ dktX8_redo_1
theorem dksX8_redo_0 : cX8_redo.data.toList.drop 0 = dktX8_redo_0 := by decide +kernel
theorem dksX8_redo_1 : cX8_redo.data.toList.drop 22 = dktX8_redo_1 := dk_seg dksX8_redo_0 22 rfl rfl
theorem dX8_redo_0 : decode cX8_redo 0 = .ok (.aload_n 0, 1) := dk_42 (dk_at dksX8_redo_0 0 rfl rfl)
theorem dX8_redo_1 : decode cX8_redo 1 = .ok (.getfield 408, 3) := dk_180 1 152 (dk_at dksX8_redo_0 1 rfl rfl)
theorem dX8_redo_4 : decode cX8_redo 4 = .ok (.ifCond .ne 5, 3) := dk_154 0 5 (dk_at dksX8_redo_0 4 rfl rfl)
theorem dX8_redo_7 : decode cX8_redo 7 = .ok (.iconst 0, 1) := dk_3 (dk_at dksX8_redo_0 7 rfl rfl)
theorem dX8_redo_8 : decode cX8_redo 8 = .ok (.ireturn, 1) := dk_172 (dk_at dksX8_redo_0 8 rfl rfl)
theorem dX8_redo_9 : decode cX8_redo 9 = .ok (.aload_n 0, 1) := dk_42 (dk_at dksX8_redo_0 9 rfl rfl)
theorem dX8_redo_10 : decode cX8_redo 10 = .ok (.bipush 39, 2) := dk_16 39 (dk_at dksX8_redo_0 10 rfl rfl)
theorem dX8_redo_12 : decode cX8_redo 12 = .ok (.aload_n 0, 1) := dk_42 (dk_at dksX8_redo_0 12 rfl rfl)
theorem dX8_redo_13 : decode cX8_redo 13 = .ok (.getfield 405, 3) := dk_180 1 149 (dk_at dksX8_redo_0 13 rfl rfl)
theorem dX8_redo_16 : decode cX8_redo 16 = .ok (.imul, 1) := dk_104 (dk_at dksX8_redo_0 16 rfl rfl)
theorem dX8_redo_17 : decode cX8_redo 17 = .ok (.invokevirtual 467, 3) := dk_182 1 211 (dk_at dksX8_redo_0 17 rfl rfl)
theorem dX8_redo_20 : decode cX8_redo 20 = .ok (.aload_n 0, 1) := dk_42 (dk_at dksX8_redo_0 20 rfl rfl)
theorem dX8_redo_21 : decode cX8_redo 21 = .ok (.dup, 1) := dk_89 (dk_at dksX8_redo_0 21 rfl rfl)
theorem dX8_redo_22 : decode cX8_redo 22 = .ok (.getfield 405, 3) := dk_180 1 149 (dk_at dksX8_redo_1 0 rfl rfl)
theorem dX8_redo_25 : decode cX8_redo 25 = .ok (.iconst 1, 1) := dk_4 (dk_at dksX8_redo_1 3 rfl rfl)
theorem dX8_redo_26 : decode cX8_redo 26 = .ok (.iadd, 1) := dk_96 (dk_at dksX8_redo_1 4 rfl rfl)
theorem dX8_redo_27 : decode cX8_redo 27 = .ok (.putfield 405, 3) := dk_181 1 149 (dk_at dksX8_redo_1 5 rfl rfl)
theorem dX8_redo_30 : decode cX8_redo 30 = .ok (.aload_n 0, 1) := dk_42 (dk_at dksX8_redo_1 8 rfl rfl)
theorem dX8_redo_31 : decode cX8_redo 31 = .ok (.dup, 1) := dk_89 (dk_at dksX8_redo_1 9 rfl rfl)
theorem dX8_redo_32 : decode cX8_redo 32 = .ok (.getfield 408, 3) := dk_180 1 152 (dk_at dksX8_redo_1 10 rfl rfl)
theorem dX8_redo_35 : decode cX8_redo 35 = .ok (.iconst 1, 1) := dk_4 (dk_at dksX8_redo_1 13 rfl rfl)
theorem dX8_redo_36 : decode cX8_redo 36 = .ok (.isub, 1) := dk_100 (dk_at dksX8_redo_1 14 rfl rfl)
theorem dX8_redo_37 : decode cX8_redo 37 = .ok (.putfield 408, 3) := dk_181 1 152 (dk_at dksX8_redo_1 15 rfl rfl)
theorem dX8_redo_40 : decode cX8_redo 40 = .ok (.iconst 1, 1) := dk_4 (dk_at dksX8_redo_1 18 rfl rfl)
theorem dX8_redo_41 : decode cX8_redo 41 = .ok (.ireturn, 1) := dk_172 (dk_at dksX8_redo_1 19 rfl rfl)
abbrev cX8_will : ByteArray := prog_20_method_75_code
def yX8_will : MethodName := ⟨RX8, "will", "(III)I"⟩
def dkwX8_will_3 : List UInt8 := [167, 255, 225, 42, 180, 0, 96, 16, 6, 27, 96, 46, 172]
abbrev dktX8_will_3 : List UInt8 := dkwX8_will_3 ++ []
def dkwX8_will_2 : List UInt8 := [160, 0, 14, 42, 182, 1, 205, 153, 0, 7, 4, 167, 0, 4, 3, 182, 1, 208, 87, 132, 4, 1]
abbrev dktX8_will_2 : List UInt8 := dkwX8_will_2 ++ dktX8_will_3
def dkwX8_will_1 : List UInt8 := [154, 0, 6, 16, 254, 172, 42, 182, 1, 193, 3, 54, 4, 21, 4, 28, 162, 0, 31, 42, 29, 4]
abbrev dktX8_will_1 : List UInt8 := dkwX8_will_1 ++ dktX8_will_2
def dkwX8_will_0 : List UInt8 := [42, 27, 182, 1, 190, 153, 0, 22, 28, 3, 16, 60, 184, 1, 161, 153, 0, 12, 29, 3, 4, 184, 1, 161]
abbrev dktX8_will_0 : List UInt8 := dkwX8_will_0 ++ dktX8_will_1
theorem dksX8_will_0 : cX8_will.data.toList.drop 0 = dktX8_will_0 := by decide +kernel
theorem dksX8_will_1 : cX8_will.data.toList.drop 24 = dktX8_will_1 := dk_seg dksX8_will_0 24 rfl rfl
theorem dksX8_will_2 : cX8_will.data.toList.drop 46 = dktX8_will_2 := dk_seg dksX8_will_1 22 rfl rfl
theorem dksX8_will_3 : cX8_will.data.toList.drop 68 = dktX8_will_3 := dk_seg dksX8_will_2 22 rfl rfl
theorem dX8_will_0 : decode cX8_will 0 = .ok (.aload_n 0, 1) := dk_42 (dk_at dksX8_will_0 0 rfl rfl)
theorem dX8_will_1 : decode cX8_will 1 = .ok (.iload_n 1, 1) := dk_27 (dk_at dksX8_will_0 1 rfl rfl)
theorem dX8_will_2 : decode cX8_will 2 = .ok (.invokevirtual 446, 3) := dk_182 1 190 (dk_at dksX8_will_0 2 rfl rfl)
theorem dX8_will_5 : decode cX8_will 5 = .ok (.ifCond .eq 22, 3) := dk_153 0 22 (dk_at dksX8_will_0 5 rfl rfl)
theorem dX8_will_8 : decode cX8_will 8 = .ok (.iload_n 2, 1) := dk_28 (dk_at dksX8_will_0 8 rfl rfl)
theorem dX8_will_9 : decode cX8_will 9 = .ok (.iconst 0, 1) := dk_3 (dk_at dksX8_will_0 9 rfl rfl)
theorem dX8_will_10 : decode cX8_will 10 = .ok (.bipush 60, 2) := dk_16 60 (dk_at dksX8_will_0 10 rfl rfl)
theorem dX8_will_12 : decode cX8_will 12 = .ok (.invokestatic 417, 3) := dk_184 1 161 (dk_at dksX8_will_0 12 rfl rfl)
theorem dX8_will_15 : decode cX8_will 15 = .ok (.ifCond .eq 12, 3) := dk_153 0 12 (dk_at dksX8_will_0 15 rfl rfl)
theorem dX8_will_18 : decode cX8_will 18 = .ok (.iload_n 3, 1) := dk_29 (dk_at dksX8_will_0 18 rfl rfl)
theorem dX8_will_19 : decode cX8_will 19 = .ok (.iconst 0, 1) := dk_3 (dk_at dksX8_will_0 19 rfl rfl)
theorem dX8_will_20 : decode cX8_will 20 = .ok (.iconst 1, 1) := dk_4 (dk_at dksX8_will_0 20 rfl rfl)
theorem dX8_will_21 : decode cX8_will 21 = .ok (.invokestatic 417, 3) := dk_184 1 161 (dk_at dksX8_will_0 21 rfl rfl)
theorem dX8_will_24 : decode cX8_will 24 = .ok (.ifCond .ne 6, 3) := dk_154 0 6 (dk_at dksX8_will_1 0 rfl rfl)
theorem dX8_will_27 : decode cX8_will 27 = .ok (.bipush (-2), 2) := dk_16 254 (dk_at dksX8_will_1 3 rfl rfl)
theorem dX8_will_29 : decode cX8_will 29 = .ok (.ireturn, 1) := dk_172 (dk_at dksX8_will_1 5 rfl rfl)
theorem dX8_will_30 : decode cX8_will 30 = .ok (.aload_n 0, 1) := dk_42 (dk_at dksX8_will_1 6 rfl rfl)
theorem dX8_will_31 : decode cX8_will 31 = .ok (.invokevirtual 449, 3) := dk_182 1 193 (dk_at dksX8_will_1 7 rfl rfl)
theorem dX8_will_34 : decode cX8_will 34 = .ok (.iconst 0, 1) := dk_3 (dk_at dksX8_will_1 10 rfl rfl)
theorem dX8_will_35 : decode cX8_will 35 = .ok (.istore 4, 2) := dk_54 4 (dk_at dksX8_will_1 11 rfl rfl)
theorem dX8_will_37 : decode cX8_will 37 = .ok (.iload 4, 2) := dk_21 4 (dk_at dksX8_will_1 13 rfl rfl)
theorem dX8_will_39 : decode cX8_will 39 = .ok (.iload_n 2, 1) := dk_28 (dk_at dksX8_will_1 15 rfl rfl)
theorem dX8_will_40 : decode cX8_will 40 = .ok (.if_icmp .ge 31, 3) := dk_162 0 31 (dk_at dksX8_will_1 16 rfl rfl)
theorem dX8_will_43 : decode cX8_will 43 = .ok (.aload_n 0, 1) := dk_42 (dk_at dksX8_will_1 19 rfl rfl)
theorem dX8_will_44 : decode cX8_will 44 = .ok (.iload_n 3, 1) := dk_29 (dk_at dksX8_will_1 20 rfl rfl)
theorem dX8_will_45 : decode cX8_will 45 = .ok (.iconst 1, 1) := dk_4 (dk_at dksX8_will_1 21 rfl rfl)
theorem dX8_will_46 : decode cX8_will 46 = .ok (.if_icmp .ne 14, 3) := dk_160 0 14 (dk_at dksX8_will_2 0 rfl rfl)
theorem dX8_will_49 : decode cX8_will 49 = .ok (.aload_n 0, 1) := dk_42 (dk_at dksX8_will_2 3 rfl rfl)
theorem dX8_will_50 : decode cX8_will 50 = .ok (.invokevirtual 461, 3) := dk_182 1 205 (dk_at dksX8_will_2 4 rfl rfl)
theorem dX8_will_53 : decode cX8_will 53 = .ok (.ifCond .eq 7, 3) := dk_153 0 7 (dk_at dksX8_will_2 7 rfl rfl)
theorem dX8_will_56 : decode cX8_will 56 = .ok (.iconst 1, 1) := dk_4 (dk_at dksX8_will_2 10 rfl rfl)
theorem dX8_will_57 : decode cX8_will 57 = .ok (.goto 4, 3) := dk_167 0 4 (dk_at dksX8_will_2 11 rfl rfl)
theorem dX8_will_60 : decode cX8_will 60 = .ok (.iconst 0, 1) := dk_3 (dk_at dksX8_will_2 14 rfl rfl)
theorem dX8_will_61 : decode cX8_will 61 = .ok (.invokevirtual 464, 3) := dk_182 1 208 (dk_at dksX8_will_2 15 rfl rfl)
theorem dX8_will_64 : decode cX8_will 64 = .ok (.pop, 1) := dk_87 (dk_at dksX8_will_2 18 rfl rfl)
theorem dX8_will_65 : decode cX8_will 65 = .ok (.iinc 4 1, 3) := dk_132 4 1 (dk_at dksX8_will_2 19 rfl rfl)
theorem dX8_will_68 : decode cX8_will 68 = .ok (.goto (-31), 3) := dk_167 255 225 (dk_at dksX8_will_3 0 rfl rfl)
theorem dX8_will_71 : decode cX8_will 71 = .ok (.aload_n 0, 1) := dk_42 (dk_at dksX8_will_3 3 rfl rfl)
theorem dX8_will_72 : decode cX8_will 72 = .ok (.getfield 96, 3) := dk_180 0 96 (dk_at dksX8_will_3 4 rfl rfl)
theorem dX8_will_75 : decode cX8_will 75 = .ok (.bipush 6, 2) := dk_16 6 (dk_at dksX8_will_3 7 rfl rfl)
theorem dX8_will_77 : decode cX8_will 77 = .ok (.iload_n 1, 1) := dk_27 (dk_at dksX8_will_3 9 rfl rfl)
theorem dX8_will_78 : decode cX8_will 78 = .ok (.iadd, 1) := dk_96 (dk_at dksX8_will_3 10 rfl rfl)
theorem dX8_will_79 : decode cX8_will 79 = .ok (.iaload, 1) := dk_46 (dk_at dksX8_will_3 11 rfl rfl)
theorem dX8_will_80 : decode cX8_will 80 = .ok (.ireturn, 1) := dk_172 (dk_at dksX8_will_3 12 rfl rfl)
abbrev cX8_out : ByteArray := prog_20_method_76_code
def yX8_out : MethodName := ⟨RX8, "out", "(I)I"⟩
def dkwX8_out_2 : List UInt8 := [167, 255, 227, 2, 172]
abbrev dktX8_out_2 : List UInt8 := dkwX8_out_2 ++ []
def dkwX8_out_1 : List UInt8 := [180, 0, 96, 16, 6, 27, 96, 46, 156, 0, 5, 28, 172, 42, 3, 182, 1, 208, 87, 132, 2, 1]
abbrev dktX8_out_1 : List UInt8 := dkwX8_out_1 ++ dktX8_out_2
def dkwX8_out_0 : List UInt8 := [42, 27, 182, 1, 190, 154, 0, 5, 2, 172, 42, 182, 1, 193, 3, 61, 28, 16, 60, 163, 0, 29, 42]
abbrev dktX8_out_0 : List UInt8 := dkwX8_out_0 ++ dktX8_out_1
theorem dksX8_out_0 : cX8_out.data.toList.drop 0 = dktX8_out_0 := by decide +kernel
theorem dksX8_out_1 : cX8_out.data.toList.drop 23 = dktX8_out_1 := dk_seg dksX8_out_0 23 rfl rfl
theorem dksX8_out_2 : cX8_out.data.toList.drop 45 = dktX8_out_2 := dk_seg dksX8_out_1 22 rfl rfl
theorem dX8_out_0 : decode cX8_out 0 = .ok (.aload_n 0, 1) := dk_42 (dk_at dksX8_out_0 0 rfl rfl)
theorem dX8_out_1 : decode cX8_out 1 = .ok (.iload_n 1, 1) := dk_27 (dk_at dksX8_out_0 1 rfl rfl)
theorem dX8_out_2 : decode cX8_out 2 = .ok (.invokevirtual 446, 3) := dk_182 1 190 (dk_at dksX8_out_0 2 rfl rfl)
theorem dX8_out_5 : decode cX8_out 5 = .ok (.ifCond .ne 5, 3) := dk_154 0 5 (dk_at dksX8_out_0 5 rfl rfl)
theorem dX8_out_8 : decode cX8_out 8 = .ok (.iconst (-1), 1) := dk_2 (dk_at dksX8_out_0 8 rfl rfl)
theorem dX8_out_9 : decode cX8_out 9 = .ok (.ireturn, 1) := dk_172 (dk_at dksX8_out_0 9 rfl rfl)
theorem dX8_out_10 : decode cX8_out 10 = .ok (.aload_n 0, 1) := dk_42 (dk_at dksX8_out_0 10 rfl rfl)
theorem dX8_out_11 : decode cX8_out 11 = .ok (.invokevirtual 449, 3) := dk_182 1 193 (dk_at dksX8_out_0 11 rfl rfl)
theorem dX8_out_14 : decode cX8_out 14 = .ok (.iconst 0, 1) := dk_3 (dk_at dksX8_out_0 14 rfl rfl)
theorem dX8_out_15 : decode cX8_out 15 = .ok (.istore_n 2, 1) := dk_61 (dk_at dksX8_out_0 15 rfl rfl)
theorem dX8_out_16 : decode cX8_out 16 = .ok (.iload_n 2, 1) := dk_28 (dk_at dksX8_out_0 16 rfl rfl)
theorem dX8_out_17 : decode cX8_out 17 = .ok (.bipush 60, 2) := dk_16 60 (dk_at dksX8_out_0 17 rfl rfl)
theorem dX8_out_19 : decode cX8_out 19 = .ok (.if_icmp .gt 29, 3) := dk_163 0 29 (dk_at dksX8_out_0 19 rfl rfl)
theorem dX8_out_22 : decode cX8_out 22 = .ok (.aload_n 0, 1) := dk_42 (dk_at dksX8_out_0 22 rfl rfl)
theorem dX8_out_23 : decode cX8_out 23 = .ok (.getfield 96, 3) := dk_180 0 96 (dk_at dksX8_out_1 0 rfl rfl)
theorem dX8_out_26 : decode cX8_out 26 = .ok (.bipush 6, 2) := dk_16 6 (dk_at dksX8_out_1 3 rfl rfl)
theorem dX8_out_28 : decode cX8_out 28 = .ok (.iload_n 1, 1) := dk_27 (dk_at dksX8_out_1 5 rfl rfl)
theorem dX8_out_29 : decode cX8_out 29 = .ok (.iadd, 1) := dk_96 (dk_at dksX8_out_1 6 rfl rfl)
theorem dX8_out_30 : decode cX8_out 30 = .ok (.iaload, 1) := dk_46 (dk_at dksX8_out_1 7 rfl rfl)
theorem dX8_out_31 : decode cX8_out 31 = .ok (.ifCond .ge 5, 3) := dk_156 0 5 (dk_at dksX8_out_1 8 rfl rfl)
theorem dX8_out_34 : decode cX8_out 34 = .ok (.iload_n 2, 1) := dk_28 (dk_at dksX8_out_1 11 rfl rfl)
theorem dX8_out_35 : decode cX8_out 35 = .ok (.ireturn, 1) := dk_172 (dk_at dksX8_out_1 12 rfl rfl)
theorem dX8_out_36 : decode cX8_out 36 = .ok (.aload_n 0, 1) := dk_42 (dk_at dksX8_out_1 13 rfl rfl)
theorem dX8_out_37 : decode cX8_out 37 = .ok (.iconst 0, 1) := dk_3 (dk_at dksX8_out_1 14 rfl rfl)
theorem dX8_out_38 : decode cX8_out 38 = .ok (.invokevirtual 464, 3) := dk_182 1 208 (dk_at dksX8_out_1 15 rfl rfl)
theorem dX8_out_41 : decode cX8_out 41 = .ok (.pop, 1) := dk_87 (dk_at dksX8_out_1 18 rfl rfl)
theorem dX8_out_42 : decode cX8_out 42 = .ok (.iinc 2 1, 3) := dk_132 2 1 (dk_at dksX8_out_1 19 rfl rfl)
theorem dX8_out_45 : decode cX8_out 45 = .ok (.goto (-29), 3) := dk_167 255 227 (dk_at dksX8_out_2 0 rfl rfl)
theorem dX8_out_48 : decode cX8_out 48 = .ok (.iconst (-1), 1) := dk_2 (dk_at dksX8_out_2 3 rfl rfl)
theorem dX8_out_49 : decode cX8_out 49 = .ok (.ireturn, 1) := dk_172 (dk_at dksX8_out_2 4 rfl rfl)
abbrev cX8_rout : ByteArray := prog_20_method_77_code
def yX8_rout : MethodName := ⟨RX8, "rout", "()I"⟩
def dkwX8_rout_1 : List UInt8 := [182, 1, 208, 87, 132, 1, 1, 167, 255, 232, 2, 172]
abbrev dktX8_rout_1 : List UInt8 := dkwX8_rout_1 ++ []
def dkwX8_rout_0 : List UInt8 := [42, 182, 1, 193, 3, 60, 27, 16, 60, 163, 0, 24, 42, 182, 1, 184, 154, 0, 5, 27, 172, 42, 3]
abbrev dktX8_rout_0 : List UInt8 := dkwX8_rout_0 ++ dktX8_rout_1
theorem dksX8_rout_0 : cX8_rout.data.toList.drop 0 = dktX8_rout_0 := by decide +kernel
theorem dksX8_rout_1 : cX8_rout.data.toList.drop 23 = dktX8_rout_1 := dk_seg dksX8_rout_0 23 rfl rfl
theorem dX8_rout_0 : decode cX8_rout 0 = .ok (.aload_n 0, 1) := dk_42 (dk_at dksX8_rout_0 0 rfl rfl)
theorem dX8_rout_1 : decode cX8_rout 1 = .ok (.invokevirtual 449, 3) := dk_182 1 193 (dk_at dksX8_rout_0 1 rfl rfl)
theorem dX8_rout_4 : decode cX8_rout 4 = .ok (.iconst 0, 1) := dk_3 (dk_at dksX8_rout_0 4 rfl rfl)
theorem dX8_rout_5 : decode cX8_rout 5 = .ok (.istore_n 1, 1) := dk_60 (dk_at dksX8_rout_0 5 rfl rfl)
theorem dX8_rout_6 : decode cX8_rout 6 = .ok (.iload_n 1, 1) := dk_27 (dk_at dksX8_rout_0 6 rfl rfl)
theorem dX8_rout_7 : decode cX8_rout 7 = .ok (.bipush 60, 2) := dk_16 60 (dk_at dksX8_rout_0 7 rfl rfl)
theorem dX8_rout_9 : decode cX8_rout 9 = .ok (.if_icmp .gt 24, 3) := dk_163 0 24 (dk_at dksX8_rout_0 9 rfl rfl)
theorem dX8_rout_12 : decode cX8_rout 12 = .ok (.aload_n 0, 1) := dk_42 (dk_at dksX8_rout_0 12 rfl rfl)
theorem dX8_rout_13 : decode cX8_rout 13 = .ok (.invokevirtual 440, 3) := dk_182 1 184 (dk_at dksX8_rout_0 13 rfl rfl)
theorem dX8_rout_16 : decode cX8_rout 16 = .ok (.ifCond .ne 5, 3) := dk_154 0 5 (dk_at dksX8_rout_0 16 rfl rfl)
theorem dX8_rout_19 : decode cX8_rout 19 = .ok (.iload_n 1, 1) := dk_27 (dk_at dksX8_rout_0 19 rfl rfl)
theorem dX8_rout_20 : decode cX8_rout 20 = .ok (.ireturn, 1) := dk_172 (dk_at dksX8_rout_0 20 rfl rfl)
theorem dX8_rout_21 : decode cX8_rout 21 = .ok (.aload_n 0, 1) := dk_42 (dk_at dksX8_rout_0 21 rfl rfl)
theorem dX8_rout_22 : decode cX8_rout 22 = .ok (.iconst 0, 1) := dk_3 (dk_at dksX8_rout_0 22 rfl rfl)
theorem dX8_rout_23 : decode cX8_rout 23 = .ok (.invokevirtual 464, 3) := dk_182 1 208 (dk_at dksX8_rout_1 0 rfl rfl)
theorem dX8_rout_26 : decode cX8_rout 26 = .ok (.pop, 1) := dk_87 (dk_at dksX8_rout_1 3 rfl rfl)
theorem dX8_rout_27 : decode cX8_rout 27 = .ok (.iinc 1 1, 3) := dk_132 1 1 (dk_at dksX8_rout_1 4 rfl rfl)
theorem dX8_rout_30 : decode cX8_rout 30 = .ok (.goto (-24), 3) := dk_167 255 232 (dk_at dksX8_rout_1 7 rfl rfl)
theorem dX8_rout_33 : decode cX8_rout 33 = .ok (.iconst (-1), 1) := dk_2 (dk_at dksX8_rout_1 10 rfl rfl)
theorem dX8_rout_34 : decode cX8_rout 34 = .ok (.ireturn, 1) := dk_172 (dk_at dksX8_rout_1 11 rfl rfl)
abbrev cX8_fitted : ByteArray := prog_20_method_78_code
def yX8_fitted : MethodName := ⟨RX8, "fitted", "()I"⟩
def dkwX8_fitted_0 : List UInt8 := [42, 182, 1, 193, 42, 182, 1, 187, 172]
abbrev dktX8_fitted_0 : List UInt8 := dkwX8_fitted_0 ++ []
theorem dksX8_fitted_0 : cX8_fitted.data.toList.drop 0 = dktX8_fitted_0 := by decide +kernel
theorem dX8_fitted_0 : decode cX8_fitted 0 = .ok (.aload_n 0, 1) := dk_42 (dk_at dksX8_fitted_0 0 rfl rfl)
theorem dX8_fitted_1 : decode cX8_fitted 1 = .ok (.invokevirtual 449, 3) := dk_182 1 193 (dk_at dksX8_fitted_0 1 rfl rfl)
theorem dX8_fitted_4 : decode cX8_fitted 4 = .ok (.aload_n 0, 1) := dk_42 (dk_at dksX8_fitted_0 4 rfl rfl)
theorem dX8_fitted_5 : decode cX8_fitted 5 = .ok (.invokevirtual 443, 3) := dk_182 1 187 (dk_at dksX8_fitted_0 5 rfl rfl)
theorem dX8_fitted_8 : decode cX8_fitted 8 = .ok (.ireturn, 1) := dk_172 (dk_at dksX8_fitted_0 8 rfl rfl)
abbrev cX8_dress : ByteArray := prog_20_method_83_code
def yX8_dress : MethodName := ⟨RX8, "dress", "(I)I"⟩
def dkwX8_dress_5 : List UInt8 := [132, 4, 1, 167, 255, 159, 42, 42, 180, 1, 131, 181, 1, 158, 27, 154, 0, 7, 28, 167, 0, 4, 29, 172]
abbrev dktX8_dress_5 : List UInt8 := dkwX8_dress_5 ++ []
def dkwX8_dress_4 : List UInt8 := [162, 0, 23, 42, 180, 0, 102, 21, 6, 42, 180, 0, 105, 21, 6, 46, 79, 132, 6, 1, 167, 255, 230]
abbrev dktX8_dress_4 : List UInt8 := dkwX8_dress_4 ++ dktX8_dress_5
def dkwX8_dress_3 : List UInt8 := [161, 0, 6, 167, 0, 43, 21, 5, 61, 42, 182, 1, 223, 62, 3, 54, 6, 21, 6, 42, 180, 1, 131]
abbrev dktX8_dress_3 : List UInt8 := dkwX8_dress_3 ++ dktX8_dress_4
def dkwX8_dress_2 : List UInt8 := [21, 5, 155, 0, 66, 21, 5, 28, 161, 0, 60, 21, 5, 28, 160, 0, 14, 42, 182, 1, 223, 29]
abbrev dktX8_dress_2 : List UInt8 := dkwX8_dress_2 ++ dktX8_dress_3
def dkwX8_dress_1 : List UInt8 := [42, 180, 1, 134, 4, 96, 42, 180, 1, 131, 184, 1, 217, 162, 0, 85, 42, 21, 4, 182, 1, 220, 54, 5]
abbrev dktX8_dress_1 : List UInt8 := dkwX8_dress_1 ++ dktX8_dress_2
def dkwX8_dress_0 : List UInt8 := [27, 3, 4, 184, 1, 161, 154, 0, 5, 2, 172, 42, 182, 1, 214, 2, 61, 3, 62, 3, 54, 4, 21, 4]
abbrev dktX8_dress_0 : List UInt8 := dkwX8_dress_0 ++ dktX8_dress_1
theorem dksX8_dress_0 : cX8_dress.data.toList.drop 0 = dktX8_dress_0 := by decide +kernel
theorem dksX8_dress_1 : cX8_dress.data.toList.drop 24 = dktX8_dress_1 := dk_seg dksX8_dress_0 24 rfl rfl
theorem dksX8_dress_2 : cX8_dress.data.toList.drop 48 = dktX8_dress_2 := dk_seg dksX8_dress_1 24 rfl rfl
theorem dksX8_dress_3 : cX8_dress.data.toList.drop 70 = dktX8_dress_3 := dk_seg dksX8_dress_2 22 rfl rfl
theorem dksX8_dress_4 : cX8_dress.data.toList.drop 93 = dktX8_dress_4 := dk_seg dksX8_dress_3 23 rfl rfl
theorem dksX8_dress_5 : cX8_dress.data.toList.drop 116 = dktX8_dress_5 := dk_seg dksX8_dress_4 23 rfl rfl
theorem dX8_dress_0 : decode cX8_dress 0 = .ok (.iload_n 1, 1) := dk_27 (dk_at dksX8_dress_0 0 rfl rfl)
theorem dX8_dress_1 : decode cX8_dress 1 = .ok (.iconst 0, 1) := dk_3 (dk_at dksX8_dress_0 1 rfl rfl)
theorem dX8_dress_2 : decode cX8_dress 2 = .ok (.iconst 1, 1) := dk_4 (dk_at dksX8_dress_0 2 rfl rfl)
theorem dX8_dress_3 : decode cX8_dress 3 = .ok (.invokestatic 417, 3) := dk_184 1 161 (dk_at dksX8_dress_0 3 rfl rfl)
theorem dX8_dress_6 : decode cX8_dress 6 = .ok (.ifCond .ne 5, 3) := dk_154 0 5 (dk_at dksX8_dress_0 6 rfl rfl)
theorem dX8_dress_9 : decode cX8_dress 9 = .ok (.iconst (-1), 1) := dk_2 (dk_at dksX8_dress_0 9 rfl rfl)
theorem dX8_dress_10 : decode cX8_dress 10 = .ok (.ireturn, 1) := dk_172 (dk_at dksX8_dress_0 10 rfl rfl)
theorem dX8_dress_11 : decode cX8_dress 11 = .ok (.aload_n 0, 1) := dk_42 (dk_at dksX8_dress_0 11 rfl rfl)
theorem dX8_dress_12 : decode cX8_dress 12 = .ok (.invokevirtual 470, 3) := dk_182 1 214 (dk_at dksX8_dress_0 12 rfl rfl)
theorem dX8_dress_15 : decode cX8_dress 15 = .ok (.iconst (-1), 1) := dk_2 (dk_at dksX8_dress_0 15 rfl rfl)
theorem dX8_dress_16 : decode cX8_dress 16 = .ok (.istore_n 2, 1) := dk_61 (dk_at dksX8_dress_0 16 rfl rfl)
theorem dX8_dress_17 : decode cX8_dress 17 = .ok (.iconst 0, 1) := dk_3 (dk_at dksX8_dress_0 17 rfl rfl)
theorem dX8_dress_18 : decode cX8_dress 18 = .ok (.istore_n 3, 1) := dk_62 (dk_at dksX8_dress_0 18 rfl rfl)
theorem dX8_dress_19 : decode cX8_dress 19 = .ok (.iconst 0, 1) := dk_3 (dk_at dksX8_dress_0 19 rfl rfl)
theorem dX8_dress_20 : decode cX8_dress 20 = .ok (.istore 4, 2) := dk_54 4 (dk_at dksX8_dress_0 20 rfl rfl)
theorem dX8_dress_22 : decode cX8_dress 22 = .ok (.iload 4, 2) := dk_21 4 (dk_at dksX8_dress_0 22 rfl rfl)
theorem dX8_dress_24 : decode cX8_dress 24 = .ok (.aload_n 0, 1) := dk_42 (dk_at dksX8_dress_1 0 rfl rfl)
theorem dX8_dress_25 : decode cX8_dress 25 = .ok (.getfield 390, 3) := dk_180 1 134 (dk_at dksX8_dress_1 1 rfl rfl)
theorem dX8_dress_28 : decode cX8_dress 28 = .ok (.iconst 1, 1) := dk_4 (dk_at dksX8_dress_1 4 rfl rfl)
theorem dX8_dress_29 : decode cX8_dress 29 = .ok (.iadd, 1) := dk_96 (dk_at dksX8_dress_1 5 rfl rfl)
theorem dX8_dress_30 : decode cX8_dress 30 = .ok (.aload_n 0, 1) := dk_42 (dk_at dksX8_dress_1 6 rfl rfl)
theorem dX8_dress_31 : decode cX8_dress 31 = .ok (.getfield 387, 3) := dk_180 1 131 (dk_at dksX8_dress_1 7 rfl rfl)
theorem dX8_dress_34 : decode cX8_dress 34 = .ok (.invokestatic 473, 3) := dk_184 1 217 (dk_at dksX8_dress_1 10 rfl rfl)
theorem dX8_dress_37 : decode cX8_dress 37 = .ok (.if_icmp .ge 85, 3) := dk_162 0 85 (dk_at dksX8_dress_1 13 rfl rfl)
theorem dX8_dress_40 : decode cX8_dress 40 = .ok (.aload_n 0, 1) := dk_42 (dk_at dksX8_dress_1 16 rfl rfl)
theorem dX8_dress_41 : decode cX8_dress 41 = .ok (.iload 4, 2) := dk_21 4 (dk_at dksX8_dress_1 17 rfl rfl)
theorem dX8_dress_43 : decode cX8_dress 43 = .ok (.invokevirtual 476, 3) := dk_182 1 220 (dk_at dksX8_dress_1 19 rfl rfl)
theorem dX8_dress_46 : decode cX8_dress 46 = .ok (.istore 5, 2) := dk_54 5 (dk_at dksX8_dress_1 22 rfl rfl)
theorem dX8_dress_48 : decode cX8_dress 48 = .ok (.iload 5, 2) := dk_21 5 (dk_at dksX8_dress_2 0 rfl rfl)
theorem dX8_dress_50 : decode cX8_dress 50 = .ok (.ifCond .lt 66, 3) := dk_155 0 66 (dk_at dksX8_dress_2 2 rfl rfl)
theorem dX8_dress_53 : decode cX8_dress 53 = .ok (.iload 5, 2) := dk_21 5 (dk_at dksX8_dress_2 5 rfl rfl)
theorem dX8_dress_55 : decode cX8_dress 55 = .ok (.iload_n 2, 1) := dk_28 (dk_at dksX8_dress_2 7 rfl rfl)
theorem dX8_dress_56 : decode cX8_dress 56 = .ok (.if_icmp .lt 60, 3) := dk_161 0 60 (dk_at dksX8_dress_2 8 rfl rfl)
theorem dX8_dress_59 : decode cX8_dress 59 = .ok (.iload 5, 2) := dk_21 5 (dk_at dksX8_dress_2 11 rfl rfl)
theorem dX8_dress_61 : decode cX8_dress 61 = .ok (.iload_n 2, 1) := dk_28 (dk_at dksX8_dress_2 13 rfl rfl)
theorem dX8_dress_62 : decode cX8_dress 62 = .ok (.if_icmp .ne 14, 3) := dk_160 0 14 (dk_at dksX8_dress_2 14 rfl rfl)
theorem dX8_dress_65 : decode cX8_dress 65 = .ok (.aload_n 0, 1) := dk_42 (dk_at dksX8_dress_2 17 rfl rfl)
theorem dX8_dress_66 : decode cX8_dress 66 = .ok (.invokevirtual 479, 3) := dk_182 1 223 (dk_at dksX8_dress_2 18 rfl rfl)
theorem dX8_dress_69 : decode cX8_dress 69 = .ok (.iload_n 3, 1) := dk_29 (dk_at dksX8_dress_2 21 rfl rfl)
theorem dX8_dress_70 : decode cX8_dress 70 = .ok (.if_icmp .lt 6, 3) := dk_161 0 6 (dk_at dksX8_dress_3 0 rfl rfl)
theorem dX8_dress_73 : decode cX8_dress 73 = .ok (.goto 43, 3) := dk_167 0 43 (dk_at dksX8_dress_3 3 rfl rfl)
theorem dX8_dress_76 : decode cX8_dress 76 = .ok (.iload 5, 2) := dk_21 5 (dk_at dksX8_dress_3 6 rfl rfl)
theorem dX8_dress_78 : decode cX8_dress 78 = .ok (.istore_n 2, 1) := dk_61 (dk_at dksX8_dress_3 8 rfl rfl)
theorem dX8_dress_79 : decode cX8_dress 79 = .ok (.aload_n 0, 1) := dk_42 (dk_at dksX8_dress_3 9 rfl rfl)
theorem dX8_dress_80 : decode cX8_dress 80 = .ok (.invokevirtual 479, 3) := dk_182 1 223 (dk_at dksX8_dress_3 10 rfl rfl)
theorem dX8_dress_83 : decode cX8_dress 83 = .ok (.istore_n 3, 1) := dk_62 (dk_at dksX8_dress_3 13 rfl rfl)
theorem dX8_dress_84 : decode cX8_dress 84 = .ok (.iconst 0, 1) := dk_3 (dk_at dksX8_dress_3 14 rfl rfl)
theorem dX8_dress_85 : decode cX8_dress 85 = .ok (.istore 6, 2) := dk_54 6 (dk_at dksX8_dress_3 15 rfl rfl)
theorem dX8_dress_87 : decode cX8_dress 87 = .ok (.iload 6, 2) := dk_21 6 (dk_at dksX8_dress_3 17 rfl rfl)
theorem dX8_dress_89 : decode cX8_dress 89 = .ok (.aload_n 0, 1) := dk_42 (dk_at dksX8_dress_3 19 rfl rfl)
theorem dX8_dress_90 : decode cX8_dress 90 = .ok (.getfield 387, 3) := dk_180 1 131 (dk_at dksX8_dress_3 20 rfl rfl)
theorem dX8_dress_93 : decode cX8_dress 93 = .ok (.if_icmp .ge 23, 3) := dk_162 0 23 (dk_at dksX8_dress_4 0 rfl rfl)
theorem dX8_dress_96 : decode cX8_dress 96 = .ok (.aload_n 0, 1) := dk_42 (dk_at dksX8_dress_4 3 rfl rfl)
theorem dX8_dress_97 : decode cX8_dress 97 = .ok (.getfield 102, 3) := dk_180 0 102 (dk_at dksX8_dress_4 4 rfl rfl)
theorem dX8_dress_100 : decode cX8_dress 100 = .ok (.iload 6, 2) := dk_21 6 (dk_at dksX8_dress_4 7 rfl rfl)
theorem dX8_dress_102 : decode cX8_dress 102 = .ok (.aload_n 0, 1) := dk_42 (dk_at dksX8_dress_4 9 rfl rfl)
theorem dX8_dress_103 : decode cX8_dress 103 = .ok (.getfield 105, 3) := dk_180 0 105 (dk_at dksX8_dress_4 10 rfl rfl)
theorem dX8_dress_106 : decode cX8_dress 106 = .ok (.iload 6, 2) := dk_21 6 (dk_at dksX8_dress_4 13 rfl rfl)
theorem dX8_dress_108 : decode cX8_dress 108 = .ok (.iaload, 1) := dk_46 (dk_at dksX8_dress_4 15 rfl rfl)
theorem dX8_dress_109 : decode cX8_dress 109 = .ok (.iastore, 1) := dk_79 (dk_at dksX8_dress_4 16 rfl rfl)
theorem dX8_dress_110 : decode cX8_dress 110 = .ok (.iinc 6 1, 3) := dk_132 6 1 (dk_at dksX8_dress_4 17 rfl rfl)
theorem dX8_dress_113 : decode cX8_dress 113 = .ok (.goto (-26), 3) := dk_167 255 230 (dk_at dksX8_dress_4 20 rfl rfl)
theorem dX8_dress_116 : decode cX8_dress 116 = .ok (.iinc 4 1, 3) := dk_132 4 1 (dk_at dksX8_dress_5 0 rfl rfl)
theorem dX8_dress_119 : decode cX8_dress 119 = .ok (.goto (-97), 3) := dk_167 255 159 (dk_at dksX8_dress_5 3 rfl rfl)
theorem dX8_dress_122 : decode cX8_dress 122 = .ok (.aload_n 0, 1) := dk_42 (dk_at dksX8_dress_5 6 rfl rfl)
theorem dX8_dress_123 : decode cX8_dress 123 = .ok (.aload_n 0, 1) := dk_42 (dk_at dksX8_dress_5 7 rfl rfl)
theorem dX8_dress_124 : decode cX8_dress 124 = .ok (.getfield 387, 3) := dk_180 1 131 (dk_at dksX8_dress_5 8 rfl rfl)
theorem dX8_dress_127 : decode cX8_dress 127 = .ok (.putfield 414, 3) := dk_181 1 158 (dk_at dksX8_dress_5 11 rfl rfl)
theorem dX8_dress_130 : decode cX8_dress 130 = .ok (.iload_n 1, 1) := dk_27 (dk_at dksX8_dress_5 14 rfl rfl)
theorem dX8_dress_131 : decode cX8_dress 131 = .ok (.ifCond .ne 7, 3) := dk_154 0 7 (dk_at dksX8_dress_5 15 rfl rfl)
theorem dX8_dress_134 : decode cX8_dress 134 = .ok (.iload_n 2, 1) := dk_28 (dk_at dksX8_dress_5 18 rfl rfl)
theorem dX8_dress_135 : decode cX8_dress 135 = .ok (.goto 4, 3) := dk_167 0 4 (dk_at dksX8_dress_5 19 rfl rfl)
theorem dX8_dress_138 : decode cX8_dress 138 = .ok (.iload_n 3, 1) := dk_29 (dk_at dksX8_dress_5 22 rfl rfl)
theorem dX8_dress_139 : decode cX8_dress 139 = .ok (.ireturn, 1) := dk_172 (dk_at dksX8_dress_5 23 rfl rfl)
abbrev cX8_layIlls : ByteArray := prog_20_method_79_code
def yX8_layIlls : MethodName := ⟨RX8, "layIlls", "()V"⟩
def dkwX8_layIlls_2 : List UInt8 := [132, 1, 1, 167, 255, 212, 177]
abbrev dktX8_layIlls_2 : List UInt8 := dkwX8_layIlls_2 ++ []
def dkwX8_layIlls_1 : List UInt8 := [42, 180, 0, 108, 16, 6, 27, 104, 28, 96, 42, 27, 28, 182, 1, 165, 79, 132, 2, 1, 167, 255, 228]
abbrev dktX8_layIlls_1 : List UInt8 := dkwX8_layIlls_1 ++ dktX8_layIlls_2
def dkwX8_layIlls_0 : List UInt8 := [42, 182, 1, 193, 3, 60, 27, 42, 180, 1, 131, 162, 0, 42, 3, 61, 28, 42, 180, 1, 134, 162, 0, 26]
abbrev dktX8_layIlls_0 : List UInt8 := dkwX8_layIlls_0 ++ dktX8_layIlls_1
theorem dksX8_layIlls_0 : cX8_layIlls.data.toList.drop 0 = dktX8_layIlls_0 := by decide +kernel
theorem dksX8_layIlls_1 : cX8_layIlls.data.toList.drop 24 = dktX8_layIlls_1 := dk_seg dksX8_layIlls_0 24 rfl rfl
theorem dksX8_layIlls_2 : cX8_layIlls.data.toList.drop 47 = dktX8_layIlls_2 := dk_seg dksX8_layIlls_1 23 rfl rfl
theorem dX8_layIlls_0 : decode cX8_layIlls 0 = .ok (.aload_n 0, 1) := dk_42 (dk_at dksX8_layIlls_0 0 rfl rfl)
theorem dX8_layIlls_1 : decode cX8_layIlls 1 = .ok (.invokevirtual 449, 3) := dk_182 1 193 (dk_at dksX8_layIlls_0 1 rfl rfl)
theorem dX8_layIlls_4 : decode cX8_layIlls 4 = .ok (.iconst 0, 1) := dk_3 (dk_at dksX8_layIlls_0 4 rfl rfl)
theorem dX8_layIlls_5 : decode cX8_layIlls 5 = .ok (.istore_n 1, 1) := dk_60 (dk_at dksX8_layIlls_0 5 rfl rfl)
theorem dX8_layIlls_6 : decode cX8_layIlls 6 = .ok (.iload_n 1, 1) := dk_27 (dk_at dksX8_layIlls_0 6 rfl rfl)
theorem dX8_layIlls_7 : decode cX8_layIlls 7 = .ok (.aload_n 0, 1) := dk_42 (dk_at dksX8_layIlls_0 7 rfl rfl)
theorem dX8_layIlls_8 : decode cX8_layIlls 8 = .ok (.getfield 387, 3) := dk_180 1 131 (dk_at dksX8_layIlls_0 8 rfl rfl)
theorem dX8_layIlls_11 : decode cX8_layIlls 11 = .ok (.if_icmp .ge 42, 3) := dk_162 0 42 (dk_at dksX8_layIlls_0 11 rfl rfl)
theorem dX8_layIlls_14 : decode cX8_layIlls 14 = .ok (.iconst 0, 1) := dk_3 (dk_at dksX8_layIlls_0 14 rfl rfl)
theorem dX8_layIlls_15 : decode cX8_layIlls 15 = .ok (.istore_n 2, 1) := dk_61 (dk_at dksX8_layIlls_0 15 rfl rfl)
theorem dX8_layIlls_16 : decode cX8_layIlls 16 = .ok (.iload_n 2, 1) := dk_28 (dk_at dksX8_layIlls_0 16 rfl rfl)
theorem dX8_layIlls_17 : decode cX8_layIlls 17 = .ok (.aload_n 0, 1) := dk_42 (dk_at dksX8_layIlls_0 17 rfl rfl)
theorem dX8_layIlls_18 : decode cX8_layIlls 18 = .ok (.getfield 390, 3) := dk_180 1 134 (dk_at dksX8_layIlls_0 18 rfl rfl)
theorem dX8_layIlls_21 : decode cX8_layIlls 21 = .ok (.if_icmp .ge 26, 3) := dk_162 0 26 (dk_at dksX8_layIlls_0 21 rfl rfl)
theorem dX8_layIlls_24 : decode cX8_layIlls 24 = .ok (.aload_n 0, 1) := dk_42 (dk_at dksX8_layIlls_1 0 rfl rfl)
theorem dX8_layIlls_25 : decode cX8_layIlls 25 = .ok (.getfield 108, 3) := dk_180 0 108 (dk_at dksX8_layIlls_1 1 rfl rfl)
theorem dX8_layIlls_28 : decode cX8_layIlls 28 = .ok (.bipush 6, 2) := dk_16 6 (dk_at dksX8_layIlls_1 4 rfl rfl)
theorem dX8_layIlls_30 : decode cX8_layIlls 30 = .ok (.iload_n 1, 1) := dk_27 (dk_at dksX8_layIlls_1 6 rfl rfl)
theorem dX8_layIlls_31 : decode cX8_layIlls 31 = .ok (.imul, 1) := dk_104 (dk_at dksX8_layIlls_1 7 rfl rfl)
theorem dX8_layIlls_32 : decode cX8_layIlls 32 = .ok (.iload_n 2, 1) := dk_28 (dk_at dksX8_layIlls_1 8 rfl rfl)
theorem dX8_layIlls_33 : decode cX8_layIlls 33 = .ok (.iadd, 1) := dk_96 (dk_at dksX8_layIlls_1 9 rfl rfl)
theorem dX8_layIlls_34 : decode cX8_layIlls 34 = .ok (.aload_n 0, 1) := dk_42 (dk_at dksX8_layIlls_1 10 rfl rfl)
theorem dX8_layIlls_35 : decode cX8_layIlls 35 = .ok (.iload_n 1, 1) := dk_27 (dk_at dksX8_layIlls_1 11 rfl rfl)
theorem dX8_layIlls_36 : decode cX8_layIlls 36 = .ok (.iload_n 2, 1) := dk_28 (dk_at dksX8_layIlls_1 12 rfl rfl)
theorem dX8_layIlls_37 : decode cX8_layIlls 37 = .ok (.invokevirtual 421, 3) := dk_182 1 165 (dk_at dksX8_layIlls_1 13 rfl rfl)
theorem dX8_layIlls_40 : decode cX8_layIlls 40 = .ok (.iastore, 1) := dk_79 (dk_at dksX8_layIlls_1 16 rfl rfl)
theorem dX8_layIlls_41 : decode cX8_layIlls 41 = .ok (.iinc 2 1, 3) := dk_132 2 1 (dk_at dksX8_layIlls_1 17 rfl rfl)
theorem dX8_layIlls_44 : decode cX8_layIlls 44 = .ok (.goto (-28), 3) := dk_167 255 228 (dk_at dksX8_layIlls_1 20 rfl rfl)
theorem dX8_layIlls_47 : decode cX8_layIlls 47 = .ok (.iinc 1 1, 3) := dk_132 1 1 (dk_at dksX8_layIlls_2 0 rfl rfl)
theorem dX8_layIlls_50 : decode cX8_layIlls 50 = .ok (.goto (-44), 3) := dk_167 255 212 (dk_at dksX8_layIlls_2 3 rfl rfl)
theorem dX8_layIlls_53 : decode cX8_layIlls 53 = .ok (.return_, 1) := dk_177 (dk_at dksX8_layIlls_2 6 rfl rfl)
abbrev cX8_power : ByteArray := prog_20_method_80_code
def yX8_power : MethodName := ⟨RX8, "power", "(II)I"⟩
def dkwX8_power_0 : List UInt8 := [4, 61, 3, 62, 29, 27, 162, 0, 13, 28, 26, 104, 61, 132, 3, 1, 167, 255, 244, 28, 172]
abbrev dktX8_power_0 : List UInt8 := dkwX8_power_0 ++ []
theorem dksX8_power_0 : cX8_power.data.toList.drop 0 = dktX8_power_0 := by decide +kernel
theorem dX8_power_0 : decode cX8_power 0 = .ok (.iconst 1, 1) := dk_4 (dk_at dksX8_power_0 0 rfl rfl)
theorem dX8_power_1 : decode cX8_power 1 = .ok (.istore_n 2, 1) := dk_61 (dk_at dksX8_power_0 1 rfl rfl)
theorem dX8_power_2 : decode cX8_power 2 = .ok (.iconst 0, 1) := dk_3 (dk_at dksX8_power_0 2 rfl rfl)
theorem dX8_power_3 : decode cX8_power 3 = .ok (.istore_n 3, 1) := dk_62 (dk_at dksX8_power_0 3 rfl rfl)
theorem dX8_power_4 : decode cX8_power 4 = .ok (.iload_n 3, 1) := dk_29 (dk_at dksX8_power_0 4 rfl rfl)
theorem dX8_power_5 : decode cX8_power 5 = .ok (.iload_n 1, 1) := dk_27 (dk_at dksX8_power_0 5 rfl rfl)
theorem dX8_power_6 : decode cX8_power 6 = .ok (.if_icmp .ge 13, 3) := dk_162 0 13 (dk_at dksX8_power_0 6 rfl rfl)
theorem dX8_power_9 : decode cX8_power 9 = .ok (.iload_n 2, 1) := dk_28 (dk_at dksX8_power_0 9 rfl rfl)
theorem dX8_power_10 : decode cX8_power 10 = .ok (.iload_n 0, 1) := dk_26 (dk_at dksX8_power_0 10 rfl rfl)
theorem dX8_power_11 : decode cX8_power 11 = .ok (.imul, 1) := dk_104 (dk_at dksX8_power_0 11 rfl rfl)
theorem dX8_power_12 : decode cX8_power 12 = .ok (.istore_n 2, 1) := dk_61 (dk_at dksX8_power_0 12 rfl rfl)
theorem dX8_power_13 : decode cX8_power 13 = .ok (.iinc 3 1, 3) := dk_132 3 1 (dk_at dksX8_power_0 13 rfl rfl)
theorem dX8_power_16 : decode cX8_power 16 = .ok (.goto (-12), 3) := dk_167 255 244 (dk_at dksX8_power_0 16 rfl rfl)
theorem dX8_power_19 : decode cX8_power 19 = .ok (.iload_n 2, 1) := dk_28 (dk_at dksX8_power_0 19 rfl rfl)
theorem dX8_power_20 : decode cX8_power 20 = .ok (.ireturn, 1) := dk_172 (dk_at dksX8_power_0 20 rfl rfl)
abbrev cX8_layDress : ByteArray := prog_20_method_81_code
def yX8_layDress : MethodName := ⟨RX8, "layDress", "(I)I"⟩
def dkwX8_layDress_5 : List UInt8 := [132, 5, 255, 167, 255, 153, 21, 4, 172]
abbrev dktX8_layDress_5 : List UInt8 := dkwX8_layDress_5 ++ []
def dkwX8_layDress_4 : List UInt8 := [104, 21, 6, 96, 46, 42, 180, 0, 84, 164, 0, 5, 2, 172, 29, 4, 21, 6, 120, 128, 62, 132, 4, 1]
abbrev dktX8_layDress_4 : List UInt8 := dkwX8_layDress_4 ++ dktX8_layDress_5
def dkwX8_layDress_3 : List UInt8 := [160, 0, 6, 167, 0, 45, 29, 21, 6, 122, 4, 126, 4, 159, 0, 23, 42, 180, 0, 108, 16, 6, 21, 5]
abbrev dktX8_layDress_3 : List UInt8 := dkwX8_layDress_3 ++ dktX8_layDress_4
def dkwX8_layDress_2 : List UInt8 := [21, 6, 42, 180, 1, 134, 160, 0, 7, 2, 167, 0, 5, 21, 6, 79, 21, 6, 42, 180, 1, 134]
abbrev dktX8_layDress_2 : List UInt8 := dkwX8_layDress_2 ++ dktX8_layDress_3
def dkwX8_layDress_1 : List UInt8 := [180, 1, 134, 4, 96, 112, 54, 6, 28, 42, 180, 1, 134, 4, 96, 108, 61, 42, 180, 0, 105, 21, 5]
abbrev dktX8_layDress_1 : List UInt8 := dkwX8_layDress_1 ++ dktX8_layDress_2
def dkwX8_layDress_0 : List UInt8 := [27, 61, 3, 62, 3, 54, 4, 42, 180, 1, 131, 4, 100, 54, 5, 21, 5, 155, 0, 104, 28, 42]
abbrev dktX8_layDress_0 : List UInt8 := dkwX8_layDress_0 ++ dktX8_layDress_1
theorem dksX8_layDress_0 : cX8_layDress.data.toList.drop 0 = dktX8_layDress_0 := by decide +kernel
theorem dksX8_layDress_1 : cX8_layDress.data.toList.drop 22 = dktX8_layDress_1 := dk_seg dksX8_layDress_0 22 rfl rfl
theorem dksX8_layDress_2 : cX8_layDress.data.toList.drop 45 = dktX8_layDress_2 := dk_seg dksX8_layDress_1 23 rfl rfl
theorem dksX8_layDress_3 : cX8_layDress.data.toList.drop 67 = dktX8_layDress_3 := dk_seg dksX8_layDress_2 22 rfl rfl
theorem dksX8_layDress_4 : cX8_layDress.data.toList.drop 91 = dktX8_layDress_4 := dk_seg dksX8_layDress_3 24 rfl rfl
theorem dksX8_layDress_5 : cX8_layDress.data.toList.drop 115 = dktX8_layDress_5 := dk_seg dksX8_layDress_4 24 rfl rfl
theorem dX8_layDress_0 : decode cX8_layDress 0 = .ok (.iload_n 1, 1) := dk_27 (dk_at dksX8_layDress_0 0 rfl rfl)
theorem dX8_layDress_1 : decode cX8_layDress 1 = .ok (.istore_n 2, 1) := dk_61 (dk_at dksX8_layDress_0 1 rfl rfl)
theorem dX8_layDress_2 : decode cX8_layDress 2 = .ok (.iconst 0, 1) := dk_3 (dk_at dksX8_layDress_0 2 rfl rfl)
theorem dX8_layDress_3 : decode cX8_layDress 3 = .ok (.istore_n 3, 1) := dk_62 (dk_at dksX8_layDress_0 3 rfl rfl)
theorem dX8_layDress_4 : decode cX8_layDress 4 = .ok (.iconst 0, 1) := dk_3 (dk_at dksX8_layDress_0 4 rfl rfl)
theorem dX8_layDress_5 : decode cX8_layDress 5 = .ok (.istore 4, 2) := dk_54 4 (dk_at dksX8_layDress_0 5 rfl rfl)
theorem dX8_layDress_7 : decode cX8_layDress 7 = .ok (.aload_n 0, 1) := dk_42 (dk_at dksX8_layDress_0 7 rfl rfl)
theorem dX8_layDress_8 : decode cX8_layDress 8 = .ok (.getfield 387, 3) := dk_180 1 131 (dk_at dksX8_layDress_0 8 rfl rfl)
theorem dX8_layDress_11 : decode cX8_layDress 11 = .ok (.iconst 1, 1) := dk_4 (dk_at dksX8_layDress_0 11 rfl rfl)
theorem dX8_layDress_12 : decode cX8_layDress 12 = .ok (.isub, 1) := dk_100 (dk_at dksX8_layDress_0 12 rfl rfl)
theorem dX8_layDress_13 : decode cX8_layDress 13 = .ok (.istore 5, 2) := dk_54 5 (dk_at dksX8_layDress_0 13 rfl rfl)
theorem dX8_layDress_15 : decode cX8_layDress 15 = .ok (.iload 5, 2) := dk_21 5 (dk_at dksX8_layDress_0 15 rfl rfl)
theorem dX8_layDress_17 : decode cX8_layDress 17 = .ok (.ifCond .lt 104, 3) := dk_155 0 104 (dk_at dksX8_layDress_0 17 rfl rfl)
theorem dX8_layDress_20 : decode cX8_layDress 20 = .ok (.iload_n 2, 1) := dk_28 (dk_at dksX8_layDress_0 20 rfl rfl)
theorem dX8_layDress_21 : decode cX8_layDress 21 = .ok (.aload_n 0, 1) := dk_42 (dk_at dksX8_layDress_0 21 rfl rfl)
theorem dX8_layDress_22 : decode cX8_layDress 22 = .ok (.getfield 390, 3) := dk_180 1 134 (dk_at dksX8_layDress_1 0 rfl rfl)
theorem dX8_layDress_25 : decode cX8_layDress 25 = .ok (.iconst 1, 1) := dk_4 (dk_at dksX8_layDress_1 3 rfl rfl)
theorem dX8_layDress_26 : decode cX8_layDress 26 = .ok (.iadd, 1) := dk_96 (dk_at dksX8_layDress_1 4 rfl rfl)
theorem dX8_layDress_27 : decode cX8_layDress 27 = .ok (.irem, 1) := dk_112 (dk_at dksX8_layDress_1 5 rfl rfl)
theorem dX8_layDress_28 : decode cX8_layDress 28 = .ok (.istore 6, 2) := dk_54 6 (dk_at dksX8_layDress_1 6 rfl rfl)
theorem dX8_layDress_30 : decode cX8_layDress 30 = .ok (.iload_n 2, 1) := dk_28 (dk_at dksX8_layDress_1 8 rfl rfl)
theorem dX8_layDress_31 : decode cX8_layDress 31 = .ok (.aload_n 0, 1) := dk_42 (dk_at dksX8_layDress_1 9 rfl rfl)
theorem dX8_layDress_32 : decode cX8_layDress 32 = .ok (.getfield 390, 3) := dk_180 1 134 (dk_at dksX8_layDress_1 10 rfl rfl)
theorem dX8_layDress_35 : decode cX8_layDress 35 = .ok (.iconst 1, 1) := dk_4 (dk_at dksX8_layDress_1 13 rfl rfl)
theorem dX8_layDress_36 : decode cX8_layDress 36 = .ok (.iadd, 1) := dk_96 (dk_at dksX8_layDress_1 14 rfl rfl)
theorem dX8_layDress_37 : decode cX8_layDress 37 = .ok (.idiv, 1) := dk_108 (dk_at dksX8_layDress_1 15 rfl rfl)
theorem dX8_layDress_38 : decode cX8_layDress 38 = .ok (.istore_n 2, 1) := dk_61 (dk_at dksX8_layDress_1 16 rfl rfl)
theorem dX8_layDress_39 : decode cX8_layDress 39 = .ok (.aload_n 0, 1) := dk_42 (dk_at dksX8_layDress_1 17 rfl rfl)
theorem dX8_layDress_40 : decode cX8_layDress 40 = .ok (.getfield 105, 3) := dk_180 0 105 (dk_at dksX8_layDress_1 18 rfl rfl)
theorem dX8_layDress_43 : decode cX8_layDress 43 = .ok (.iload 5, 2) := dk_21 5 (dk_at dksX8_layDress_1 21 rfl rfl)
theorem dX8_layDress_45 : decode cX8_layDress 45 = .ok (.iload 6, 2) := dk_21 6 (dk_at dksX8_layDress_2 0 rfl rfl)
theorem dX8_layDress_47 : decode cX8_layDress 47 = .ok (.aload_n 0, 1) := dk_42 (dk_at dksX8_layDress_2 2 rfl rfl)
theorem dX8_layDress_48 : decode cX8_layDress 48 = .ok (.getfield 390, 3) := dk_180 1 134 (dk_at dksX8_layDress_2 3 rfl rfl)
theorem dX8_layDress_51 : decode cX8_layDress 51 = .ok (.if_icmp .ne 7, 3) := dk_160 0 7 (dk_at dksX8_layDress_2 6 rfl rfl)
theorem dX8_layDress_54 : decode cX8_layDress 54 = .ok (.iconst (-1), 1) := dk_2 (dk_at dksX8_layDress_2 9 rfl rfl)
theorem dX8_layDress_55 : decode cX8_layDress 55 = .ok (.goto 5, 3) := dk_167 0 5 (dk_at dksX8_layDress_2 10 rfl rfl)
theorem dX8_layDress_58 : decode cX8_layDress 58 = .ok (.iload 6, 2) := dk_21 6 (dk_at dksX8_layDress_2 13 rfl rfl)
theorem dX8_layDress_60 : decode cX8_layDress 60 = .ok (.iastore, 1) := dk_79 (dk_at dksX8_layDress_2 15 rfl rfl)
theorem dX8_layDress_61 : decode cX8_layDress 61 = .ok (.iload 6, 2) := dk_21 6 (dk_at dksX8_layDress_2 16 rfl rfl)
theorem dX8_layDress_63 : decode cX8_layDress 63 = .ok (.aload_n 0, 1) := dk_42 (dk_at dksX8_layDress_2 18 rfl rfl)
theorem dX8_layDress_64 : decode cX8_layDress 64 = .ok (.getfield 390, 3) := dk_180 1 134 (dk_at dksX8_layDress_2 19 rfl rfl)
theorem dX8_layDress_67 : decode cX8_layDress 67 = .ok (.if_icmp .ne 6, 3) := dk_160 0 6 (dk_at dksX8_layDress_3 0 rfl rfl)
theorem dX8_layDress_70 : decode cX8_layDress 70 = .ok (.goto 45, 3) := dk_167 0 45 (dk_at dksX8_layDress_3 3 rfl rfl)
theorem dX8_layDress_73 : decode cX8_layDress 73 = .ok (.iload_n 3, 1) := dk_29 (dk_at dksX8_layDress_3 6 rfl rfl)
theorem dX8_layDress_74 : decode cX8_layDress 74 = .ok (.iload 6, 2) := dk_21 6 (dk_at dksX8_layDress_3 7 rfl rfl)
theorem dX8_layDress_76 : decode cX8_layDress 76 = .ok (.ishr, 1) := dk_122 (dk_at dksX8_layDress_3 9 rfl rfl)
theorem dX8_layDress_77 : decode cX8_layDress 77 = .ok (.iconst 1, 1) := dk_4 (dk_at dksX8_layDress_3 10 rfl rfl)
theorem dX8_layDress_78 : decode cX8_layDress 78 = .ok (.iand, 1) := dk_126 (dk_at dksX8_layDress_3 11 rfl rfl)
theorem dX8_layDress_79 : decode cX8_layDress 79 = .ok (.iconst 1, 1) := dk_4 (dk_at dksX8_layDress_3 12 rfl rfl)
theorem dX8_layDress_80 : decode cX8_layDress 80 = .ok (.if_icmp .eq 23, 3) := dk_159 0 23 (dk_at dksX8_layDress_3 13 rfl rfl)
theorem dX8_layDress_83 : decode cX8_layDress 83 = .ok (.aload_n 0, 1) := dk_42 (dk_at dksX8_layDress_3 16 rfl rfl)
theorem dX8_layDress_84 : decode cX8_layDress 84 = .ok (.getfield 108, 3) := dk_180 0 108 (dk_at dksX8_layDress_3 17 rfl rfl)
theorem dX8_layDress_87 : decode cX8_layDress 87 = .ok (.bipush 6, 2) := dk_16 6 (dk_at dksX8_layDress_3 20 rfl rfl)
theorem dX8_layDress_89 : decode cX8_layDress 89 = .ok (.iload 5, 2) := dk_21 5 (dk_at dksX8_layDress_3 22 rfl rfl)
theorem dX8_layDress_91 : decode cX8_layDress 91 = .ok (.imul, 1) := dk_104 (dk_at dksX8_layDress_4 0 rfl rfl)
theorem dX8_layDress_92 : decode cX8_layDress 92 = .ok (.iload 6, 2) := dk_21 6 (dk_at dksX8_layDress_4 1 rfl rfl)
theorem dX8_layDress_94 : decode cX8_layDress 94 = .ok (.iadd, 1) := dk_96 (dk_at dksX8_layDress_4 3 rfl rfl)
theorem dX8_layDress_95 : decode cX8_layDress 95 = .ok (.iaload, 1) := dk_46 (dk_at dksX8_layDress_4 4 rfl rfl)
theorem dX8_layDress_96 : decode cX8_layDress 96 = .ok (.aload_n 0, 1) := dk_42 (dk_at dksX8_layDress_4 5 rfl rfl)
theorem dX8_layDress_97 : decode cX8_layDress 97 = .ok (.getfield 84, 3) := dk_180 0 84 (dk_at dksX8_layDress_4 6 rfl rfl)
theorem dX8_layDress_100 : decode cX8_layDress 100 = .ok (.if_icmp .le 5, 3) := dk_164 0 5 (dk_at dksX8_layDress_4 9 rfl rfl)
theorem dX8_layDress_103 : decode cX8_layDress 103 = .ok (.iconst (-1), 1) := dk_2 (dk_at dksX8_layDress_4 12 rfl rfl)
theorem dX8_layDress_104 : decode cX8_layDress 104 = .ok (.ireturn, 1) := dk_172 (dk_at dksX8_layDress_4 13 rfl rfl)
theorem dX8_layDress_105 : decode cX8_layDress 105 = .ok (.iload_n 3, 1) := dk_29 (dk_at dksX8_layDress_4 14 rfl rfl)
theorem dX8_layDress_106 : decode cX8_layDress 106 = .ok (.iconst 1, 1) := dk_4 (dk_at dksX8_layDress_4 15 rfl rfl)
theorem dX8_layDress_107 : decode cX8_layDress 107 = .ok (.iload 6, 2) := dk_21 6 (dk_at dksX8_layDress_4 16 rfl rfl)
theorem dX8_layDress_109 : decode cX8_layDress 109 = .ok (.ishl, 1) := dk_120 (dk_at dksX8_layDress_4 18 rfl rfl)
theorem dX8_layDress_110 : decode cX8_layDress 110 = .ok (.ior, 1) := dk_128 (dk_at dksX8_layDress_4 19 rfl rfl)
theorem dX8_layDress_111 : decode cX8_layDress 111 = .ok (.istore_n 3, 1) := dk_62 (dk_at dksX8_layDress_4 20 rfl rfl)
theorem dX8_layDress_112 : decode cX8_layDress 112 = .ok (.iinc 4 1, 3) := dk_132 4 1 (dk_at dksX8_layDress_4 21 rfl rfl)
theorem dX8_layDress_115 : decode cX8_layDress 115 = .ok (.iinc 5 (-1), 3) := dk_132 5 255 (dk_at dksX8_layDress_5 0 rfl rfl)
theorem dX8_layDress_118 : decode cX8_layDress 118 = .ok (.goto (-103), 3) := dk_167 255 153 (dk_at dksX8_layDress_5 3 rfl rfl)
theorem dX8_layDress_121 : decode cX8_layDress 121 = .ok (.iload 4, 2) := dk_21 4 (dk_at dksX8_layDress_5 6 rfl rfl)
theorem dX8_layDress_123 : decode cX8_layDress 123 = .ok (.ireturn, 1) := dk_172 (dk_at dksX8_layDress_5 8 rfl rfl)
abbrev cX8_illOfRow : ByteArray := prog_20_method_82_code
def yX8_illOfRow : MethodName := ⟨RX8, "illOfRow", "()I"⟩
def dkwX8_illOfRow_2 : List UInt8 := [167, 255, 213, 27, 172]
abbrev dktX8_illOfRow_2 : List UInt8 := dkwX8_illOfRow_2 ++ []
def dkwX8_illOfRow_1 : List UInt8 := [167, 0, 19, 42, 180, 0, 108, 16, 6, 28, 104, 42, 180, 0, 105, 28, 46, 96, 46, 96, 60, 132, 2, 1]
abbrev dktX8_illOfRow_1 : List UInt8 := dkwX8_illOfRow_1 ++ dktX8_illOfRow_2
def dkwX8_illOfRow_0 : List UInt8 := [3, 60, 3, 61, 28, 42, 180, 1, 131, 162, 0, 41, 27, 42, 180, 0, 105, 28, 46, 156, 0, 7, 3]
abbrev dktX8_illOfRow_0 : List UInt8 := dkwX8_illOfRow_0 ++ dktX8_illOfRow_1
theorem dksX8_illOfRow_0 : cX8_illOfRow.data.toList.drop 0 = dktX8_illOfRow_0 := by decide +kernel
theorem dksX8_illOfRow_1 : cX8_illOfRow.data.toList.drop 23 = dktX8_illOfRow_1 := dk_seg dksX8_illOfRow_0 23 rfl rfl
theorem dksX8_illOfRow_2 : cX8_illOfRow.data.toList.drop 47 = dktX8_illOfRow_2 := dk_seg dksX8_illOfRow_1 24 rfl rfl
theorem dX8_illOfRow_0 : decode cX8_illOfRow 0 = .ok (.iconst 0, 1) := dk_3 (dk_at dksX8_illOfRow_0 0 rfl rfl)
theorem dX8_illOfRow_1 : decode cX8_illOfRow 1 = .ok (.istore_n 1, 1) := dk_60 (dk_at dksX8_illOfRow_0 1 rfl rfl)
theorem dX8_illOfRow_2 : decode cX8_illOfRow 2 = .ok (.iconst 0, 1) := dk_3 (dk_at dksX8_illOfRow_0 2 rfl rfl)
theorem dX8_illOfRow_3 : decode cX8_illOfRow 3 = .ok (.istore_n 2, 1) := dk_61 (dk_at dksX8_illOfRow_0 3 rfl rfl)
theorem dX8_illOfRow_4 : decode cX8_illOfRow 4 = .ok (.iload_n 2, 1) := dk_28 (dk_at dksX8_illOfRow_0 4 rfl rfl)
theorem dX8_illOfRow_5 : decode cX8_illOfRow 5 = .ok (.aload_n 0, 1) := dk_42 (dk_at dksX8_illOfRow_0 5 rfl rfl)
theorem dX8_illOfRow_6 : decode cX8_illOfRow 6 = .ok (.getfield 387, 3) := dk_180 1 131 (dk_at dksX8_illOfRow_0 6 rfl rfl)
theorem dX8_illOfRow_9 : decode cX8_illOfRow 9 = .ok (.if_icmp .ge 41, 3) := dk_162 0 41 (dk_at dksX8_illOfRow_0 9 rfl rfl)
theorem dX8_illOfRow_12 : decode cX8_illOfRow 12 = .ok (.iload_n 1, 1) := dk_27 (dk_at dksX8_illOfRow_0 12 rfl rfl)
theorem dX8_illOfRow_13 : decode cX8_illOfRow 13 = .ok (.aload_n 0, 1) := dk_42 (dk_at dksX8_illOfRow_0 13 rfl rfl)
theorem dX8_illOfRow_14 : decode cX8_illOfRow 14 = .ok (.getfield 105, 3) := dk_180 0 105 (dk_at dksX8_illOfRow_0 14 rfl rfl)
theorem dX8_illOfRow_17 : decode cX8_illOfRow 17 = .ok (.iload_n 2, 1) := dk_28 (dk_at dksX8_illOfRow_0 17 rfl rfl)
theorem dX8_illOfRow_18 : decode cX8_illOfRow 18 = .ok (.iaload, 1) := dk_46 (dk_at dksX8_illOfRow_0 18 rfl rfl)
theorem dX8_illOfRow_19 : decode cX8_illOfRow 19 = .ok (.ifCond .ge 7, 3) := dk_156 0 7 (dk_at dksX8_illOfRow_0 19 rfl rfl)
theorem dX8_illOfRow_22 : decode cX8_illOfRow 22 = .ok (.iconst 0, 1) := dk_3 (dk_at dksX8_illOfRow_0 22 rfl rfl)
theorem dX8_illOfRow_23 : decode cX8_illOfRow 23 = .ok (.goto 19, 3) := dk_167 0 19 (dk_at dksX8_illOfRow_1 0 rfl rfl)
theorem dX8_illOfRow_26 : decode cX8_illOfRow 26 = .ok (.aload_n 0, 1) := dk_42 (dk_at dksX8_illOfRow_1 3 rfl rfl)
theorem dX8_illOfRow_27 : decode cX8_illOfRow 27 = .ok (.getfield 108, 3) := dk_180 0 108 (dk_at dksX8_illOfRow_1 4 rfl rfl)
theorem dX8_illOfRow_30 : decode cX8_illOfRow 30 = .ok (.bipush 6, 2) := dk_16 6 (dk_at dksX8_illOfRow_1 7 rfl rfl)
theorem dX8_illOfRow_32 : decode cX8_illOfRow 32 = .ok (.iload_n 2, 1) := dk_28 (dk_at dksX8_illOfRow_1 9 rfl rfl)
theorem dX8_illOfRow_33 : decode cX8_illOfRow 33 = .ok (.imul, 1) := dk_104 (dk_at dksX8_illOfRow_1 10 rfl rfl)
theorem dX8_illOfRow_34 : decode cX8_illOfRow 34 = .ok (.aload_n 0, 1) := dk_42 (dk_at dksX8_illOfRow_1 11 rfl rfl)
theorem dX8_illOfRow_35 : decode cX8_illOfRow 35 = .ok (.getfield 105, 3) := dk_180 0 105 (dk_at dksX8_illOfRow_1 12 rfl rfl)
theorem dX8_illOfRow_38 : decode cX8_illOfRow 38 = .ok (.iload_n 2, 1) := dk_28 (dk_at dksX8_illOfRow_1 15 rfl rfl)
theorem dX8_illOfRow_39 : decode cX8_illOfRow 39 = .ok (.iaload, 1) := dk_46 (dk_at dksX8_illOfRow_1 16 rfl rfl)
theorem dX8_illOfRow_40 : decode cX8_illOfRow 40 = .ok (.iadd, 1) := dk_96 (dk_at dksX8_illOfRow_1 17 rfl rfl)
theorem dX8_illOfRow_41 : decode cX8_illOfRow 41 = .ok (.iaload, 1) := dk_46 (dk_at dksX8_illOfRow_1 18 rfl rfl)
theorem dX8_illOfRow_42 : decode cX8_illOfRow 42 = .ok (.iadd, 1) := dk_96 (dk_at dksX8_illOfRow_1 19 rfl rfl)
theorem dX8_illOfRow_43 : decode cX8_illOfRow 43 = .ok (.istore_n 1, 1) := dk_60 (dk_at dksX8_illOfRow_1 20 rfl rfl)
theorem dX8_illOfRow_44 : decode cX8_illOfRow 44 = .ok (.iinc 2 1, 3) := dk_132 2 1 (dk_at dksX8_illOfRow_1 21 rfl rfl)
theorem dX8_illOfRow_47 : decode cX8_illOfRow 47 = .ok (.goto (-43), 3) := dk_167 255 213 (dk_at dksX8_illOfRow_2 0 rfl rfl)
theorem dX8_illOfRow_50 : decode cX8_illOfRow 50 = .ok (.iload_n 1, 1) := dk_27 (dk_at dksX8_illOfRow_2 3 rfl rfl)
theorem dX8_illOfRow_51 : decode cX8_illOfRow 51 = .ok (.ireturn, 1) := dk_172 (dk_at dksX8_illOfRow_2 4 rfl rfl)
abbrev cX8_sewing : ByteArray := prog_20_method_85_code
def yX8_sewing : MethodName := ⟨RX8, "sewing", "(III)I"⟩
def dkwX8_sewing_9 : List UInt8 := [116, 172, 132, 8, 1, 167, 255, 143, 132, 7, 1, 167, 255, 127, 16, 156, 172]
abbrev dktX8_sewing_9 : List UInt8 := dkwX8_sewing_9 ++ []
def dkwX8_sewing_8 : List UInt8 := [153, 0, 26, 29, 154, 0, 8, 21, 7, 167, 0, 16, 29, 4, 160, 0, 8, 21, 8, 167, 0, 6, 21, 9]
abbrev dktX8_sewing_8 : List UInt8 := dkwX8_sewing_8 ++ dktX8_sewing_9
def dkwX8_sewing_7 : List UInt8 := [172, 21, 9, 158, 0, 47, 21, 9, 21, 6, 163, 0, 40, 42, 27, 28, 21, 8, 21, 9, 116, 182, 1, 226]
abbrev dktX8_sewing_7 : List UInt8 := dkwX8_sewing_7 ++ dktX8_sewing_8
def dkwX8_sewing_6 : List UInt8 := [153, 0, 25, 29, 154, 0, 8, 21, 7, 167, 0, 15, 29, 4, 160, 0, 8, 21, 8, 167, 0, 5, 21, 9]
abbrev dktX8_sewing_6 : List UInt8 := dkwX8_sewing_6 ++ dktX8_sewing_7
def dkwX8_sewing_5 : List UInt8 := [21, 8, 100, 54, 9, 21, 9, 21, 5, 163, 0, 38, 42, 27, 28, 21, 8, 21, 9, 182, 1, 226]
abbrev dktX8_sewing_5 : List UInt8 := dkwX8_sewing_5 ++ dktX8_sewing_6
def dkwX8_sewing_4 : List UInt8 := [21, 7, 16, 40, 163, 0, 128, 3, 54, 8, 21, 8, 21, 7, 21, 4, 184, 1, 175, 163, 0, 107, 21, 7]
abbrev dktX8_sewing_4 : List UInt8 := dkwX8_sewing_4 ++ dktX8_sewing_5
def dkwX8_sewing_3 : List UInt8 := [46, 184, 1, 175, 16, 99, 42, 180, 0, 93, 16, 18, 27, 96, 46, 100, 184, 1, 175, 54, 6, 3, 54, 7]
abbrev dktX8_sewing_3 : List UInt8 := dkwX8_sewing_3 ++ dktX8_sewing_4
def dkwX8_sewing_2 : List UInt8 := [42, 180, 0, 93, 16, 18, 27, 96, 46, 184, 1, 175, 54, 5, 16, 20, 42, 180, 0, 93, 16, 24, 27, 96]
abbrev dktX8_sewing_2 : List UInt8 := dkwX8_sewing_2 ++ dktX8_sewing_3
def dkwX8_sewing_1 : List UInt8 := [154, 0, 6, 16, 156, 172, 16, 20, 42, 180, 0, 93, 16, 12, 27, 96, 46, 184, 1, 175, 54, 4, 16, 20]
abbrev dktX8_sewing_1 : List UInt8 := dkwX8_sewing_1 ++ dktX8_sewing_2
def dkwX8_sewing_0 : List UInt8 := [42, 27, 182, 1, 199, 153, 0, 20, 42, 28, 182, 1, 190, 153, 0, 12, 29, 3, 5, 184, 1, 161]
abbrev dktX8_sewing_0 : List UInt8 := dkwX8_sewing_0 ++ dktX8_sewing_1
theorem dksX8_sewing_0 : cX8_sewing.data.toList.drop 0 = dktX8_sewing_0 := by decide +kernel
theorem dksX8_sewing_1 : cX8_sewing.data.toList.drop 22 = dktX8_sewing_1 := dk_seg dksX8_sewing_0 22 rfl rfl
theorem dksX8_sewing_2 : cX8_sewing.data.toList.drop 46 = dktX8_sewing_2 := dk_seg dksX8_sewing_1 24 rfl rfl
theorem dksX8_sewing_3 : cX8_sewing.data.toList.drop 70 = dktX8_sewing_3 := dk_seg dksX8_sewing_2 24 rfl rfl
theorem dksX8_sewing_4 : cX8_sewing.data.toList.drop 94 = dktX8_sewing_4 := dk_seg dksX8_sewing_3 24 rfl rfl
theorem dksX8_sewing_5 : cX8_sewing.data.toList.drop 118 = dktX8_sewing_5 := dk_seg dksX8_sewing_4 24 rfl rfl
theorem dksX8_sewing_6 : cX8_sewing.data.toList.drop 140 = dktX8_sewing_6 := dk_seg dksX8_sewing_5 22 rfl rfl
theorem dksX8_sewing_7 : cX8_sewing.data.toList.drop 164 = dktX8_sewing_7 := dk_seg dksX8_sewing_6 24 rfl rfl
theorem dksX8_sewing_8 : cX8_sewing.data.toList.drop 188 = dktX8_sewing_8 := dk_seg dksX8_sewing_7 24 rfl rfl
theorem dksX8_sewing_9 : cX8_sewing.data.toList.drop 212 = dktX8_sewing_9 := dk_seg dksX8_sewing_8 24 rfl rfl
theorem dX8_sewing_0 : decode cX8_sewing 0 = .ok (.aload_n 0, 1) := dk_42 (dk_at dksX8_sewing_0 0 rfl rfl)
theorem dX8_sewing_1 : decode cX8_sewing 1 = .ok (.iload_n 1, 1) := dk_27 (dk_at dksX8_sewing_0 1 rfl rfl)
theorem dX8_sewing_2 : decode cX8_sewing 2 = .ok (.invokevirtual 455, 3) := dk_182 1 199 (dk_at dksX8_sewing_0 2 rfl rfl)
theorem dX8_sewing_5 : decode cX8_sewing 5 = .ok (.ifCond .eq 20, 3) := dk_153 0 20 (dk_at dksX8_sewing_0 5 rfl rfl)
theorem dX8_sewing_8 : decode cX8_sewing 8 = .ok (.aload_n 0, 1) := dk_42 (dk_at dksX8_sewing_0 8 rfl rfl)
theorem dX8_sewing_9 : decode cX8_sewing 9 = .ok (.iload_n 2, 1) := dk_28 (dk_at dksX8_sewing_0 9 rfl rfl)
theorem dX8_sewing_10 : decode cX8_sewing 10 = .ok (.invokevirtual 446, 3) := dk_182 1 190 (dk_at dksX8_sewing_0 10 rfl rfl)
theorem dX8_sewing_13 : decode cX8_sewing 13 = .ok (.ifCond .eq 12, 3) := dk_153 0 12 (dk_at dksX8_sewing_0 13 rfl rfl)
theorem dX8_sewing_16 : decode cX8_sewing 16 = .ok (.iload_n 3, 1) := dk_29 (dk_at dksX8_sewing_0 16 rfl rfl)
theorem dX8_sewing_17 : decode cX8_sewing 17 = .ok (.iconst 0, 1) := dk_3 (dk_at dksX8_sewing_0 17 rfl rfl)
theorem dX8_sewing_18 : decode cX8_sewing 18 = .ok (.iconst 2, 1) := dk_5 (dk_at dksX8_sewing_0 18 rfl rfl)
theorem dX8_sewing_19 : decode cX8_sewing 19 = .ok (.invokestatic 417, 3) := dk_184 1 161 (dk_at dksX8_sewing_0 19 rfl rfl)
theorem dX8_sewing_22 : decode cX8_sewing 22 = .ok (.ifCond .ne 6, 3) := dk_154 0 6 (dk_at dksX8_sewing_1 0 rfl rfl)
theorem dX8_sewing_25 : decode cX8_sewing 25 = .ok (.bipush (-100), 2) := dk_16 156 (dk_at dksX8_sewing_1 3 rfl rfl)
theorem dX8_sewing_27 : decode cX8_sewing 27 = .ok (.ireturn, 1) := dk_172 (dk_at dksX8_sewing_1 5 rfl rfl)
theorem dX8_sewing_28 : decode cX8_sewing 28 = .ok (.bipush 20, 2) := dk_16 20 (dk_at dksX8_sewing_1 6 rfl rfl)
theorem dX8_sewing_30 : decode cX8_sewing 30 = .ok (.aload_n 0, 1) := dk_42 (dk_at dksX8_sewing_1 8 rfl rfl)
theorem dX8_sewing_31 : decode cX8_sewing 31 = .ok (.getfield 93, 3) := dk_180 0 93 (dk_at dksX8_sewing_1 9 rfl rfl)
theorem dX8_sewing_34 : decode cX8_sewing 34 = .ok (.bipush 12, 2) := dk_16 12 (dk_at dksX8_sewing_1 12 rfl rfl)
theorem dX8_sewing_36 : decode cX8_sewing 36 = .ok (.iload_n 1, 1) := dk_27 (dk_at dksX8_sewing_1 14 rfl rfl)
theorem dX8_sewing_37 : decode cX8_sewing 37 = .ok (.iadd, 1) := dk_96 (dk_at dksX8_sewing_1 15 rfl rfl)
theorem dX8_sewing_38 : decode cX8_sewing 38 = .ok (.iaload, 1) := dk_46 (dk_at dksX8_sewing_1 16 rfl rfl)
theorem dX8_sewing_39 : decode cX8_sewing 39 = .ok (.invokestatic 431, 3) := dk_184 1 175 (dk_at dksX8_sewing_1 17 rfl rfl)
theorem dX8_sewing_42 : decode cX8_sewing 42 = .ok (.istore 4, 2) := dk_54 4 (dk_at dksX8_sewing_1 20 rfl rfl)
theorem dX8_sewing_44 : decode cX8_sewing 44 = .ok (.bipush 20, 2) := dk_16 20 (dk_at dksX8_sewing_1 22 rfl rfl)
theorem dX8_sewing_46 : decode cX8_sewing 46 = .ok (.aload_n 0, 1) := dk_42 (dk_at dksX8_sewing_2 0 rfl rfl)
theorem dX8_sewing_47 : decode cX8_sewing 47 = .ok (.getfield 93, 3) := dk_180 0 93 (dk_at dksX8_sewing_2 1 rfl rfl)
theorem dX8_sewing_50 : decode cX8_sewing 50 = .ok (.bipush 18, 2) := dk_16 18 (dk_at dksX8_sewing_2 4 rfl rfl)
theorem dX8_sewing_52 : decode cX8_sewing 52 = .ok (.iload_n 1, 1) := dk_27 (dk_at dksX8_sewing_2 6 rfl rfl)
theorem dX8_sewing_53 : decode cX8_sewing 53 = .ok (.iadd, 1) := dk_96 (dk_at dksX8_sewing_2 7 rfl rfl)
theorem dX8_sewing_54 : decode cX8_sewing 54 = .ok (.iaload, 1) := dk_46 (dk_at dksX8_sewing_2 8 rfl rfl)
theorem dX8_sewing_55 : decode cX8_sewing 55 = .ok (.invokestatic 431, 3) := dk_184 1 175 (dk_at dksX8_sewing_2 9 rfl rfl)
theorem dX8_sewing_58 : decode cX8_sewing 58 = .ok (.istore 5, 2) := dk_54 5 (dk_at dksX8_sewing_2 12 rfl rfl)
theorem dX8_sewing_60 : decode cX8_sewing 60 = .ok (.bipush 20, 2) := dk_16 20 (dk_at dksX8_sewing_2 14 rfl rfl)
theorem dX8_sewing_62 : decode cX8_sewing 62 = .ok (.aload_n 0, 1) := dk_42 (dk_at dksX8_sewing_2 16 rfl rfl)
theorem dX8_sewing_63 : decode cX8_sewing 63 = .ok (.getfield 93, 3) := dk_180 0 93 (dk_at dksX8_sewing_2 17 rfl rfl)
theorem dX8_sewing_66 : decode cX8_sewing 66 = .ok (.bipush 24, 2) := dk_16 24 (dk_at dksX8_sewing_2 20 rfl rfl)
theorem dX8_sewing_68 : decode cX8_sewing 68 = .ok (.iload_n 1, 1) := dk_27 (dk_at dksX8_sewing_2 22 rfl rfl)
theorem dX8_sewing_69 : decode cX8_sewing 69 = .ok (.iadd, 1) := dk_96 (dk_at dksX8_sewing_2 23 rfl rfl)
theorem dX8_sewing_70 : decode cX8_sewing 70 = .ok (.iaload, 1) := dk_46 (dk_at dksX8_sewing_3 0 rfl rfl)
theorem dX8_sewing_71 : decode cX8_sewing 71 = .ok (.invokestatic 431, 3) := dk_184 1 175 (dk_at dksX8_sewing_3 1 rfl rfl)
theorem dX8_sewing_74 : decode cX8_sewing 74 = .ok (.bipush 99, 2) := dk_16 99 (dk_at dksX8_sewing_3 4 rfl rfl)
theorem dX8_sewing_76 : decode cX8_sewing 76 = .ok (.aload_n 0, 1) := dk_42 (dk_at dksX8_sewing_3 6 rfl rfl)
theorem dX8_sewing_77 : decode cX8_sewing 77 = .ok (.getfield 93, 3) := dk_180 0 93 (dk_at dksX8_sewing_3 7 rfl rfl)
theorem dX8_sewing_80 : decode cX8_sewing 80 = .ok (.bipush 18, 2) := dk_16 18 (dk_at dksX8_sewing_3 10 rfl rfl)
theorem dX8_sewing_82 : decode cX8_sewing 82 = .ok (.iload_n 1, 1) := dk_27 (dk_at dksX8_sewing_3 12 rfl rfl)
theorem dX8_sewing_83 : decode cX8_sewing 83 = .ok (.iadd, 1) := dk_96 (dk_at dksX8_sewing_3 13 rfl rfl)
theorem dX8_sewing_84 : decode cX8_sewing 84 = .ok (.iaload, 1) := dk_46 (dk_at dksX8_sewing_3 14 rfl rfl)
theorem dX8_sewing_85 : decode cX8_sewing 85 = .ok (.isub, 1) := dk_100 (dk_at dksX8_sewing_3 15 rfl rfl)
theorem dX8_sewing_86 : decode cX8_sewing 86 = .ok (.invokestatic 431, 3) := dk_184 1 175 (dk_at dksX8_sewing_3 16 rfl rfl)
theorem dX8_sewing_89 : decode cX8_sewing 89 = .ok (.istore 6, 2) := dk_54 6 (dk_at dksX8_sewing_3 19 rfl rfl)
theorem dX8_sewing_91 : decode cX8_sewing 91 = .ok (.iconst 0, 1) := dk_3 (dk_at dksX8_sewing_3 21 rfl rfl)
theorem dX8_sewing_92 : decode cX8_sewing 92 = .ok (.istore 7, 2) := dk_54 7 (dk_at dksX8_sewing_3 22 rfl rfl)
theorem dX8_sewing_94 : decode cX8_sewing 94 = .ok (.iload 7, 2) := dk_21 7 (dk_at dksX8_sewing_4 0 rfl rfl)
theorem dX8_sewing_96 : decode cX8_sewing 96 = .ok (.bipush 40, 2) := dk_16 40 (dk_at dksX8_sewing_4 2 rfl rfl)
theorem dX8_sewing_98 : decode cX8_sewing 98 = .ok (.if_icmp .gt 128, 3) := dk_163 0 128 (dk_at dksX8_sewing_4 4 rfl rfl)
theorem dX8_sewing_101 : decode cX8_sewing 101 = .ok (.iconst 0, 1) := dk_3 (dk_at dksX8_sewing_4 7 rfl rfl)
theorem dX8_sewing_102 : decode cX8_sewing 102 = .ok (.istore 8, 2) := dk_54 8 (dk_at dksX8_sewing_4 8 rfl rfl)
theorem dX8_sewing_104 : decode cX8_sewing 104 = .ok (.iload 8, 2) := dk_21 8 (dk_at dksX8_sewing_4 10 rfl rfl)
theorem dX8_sewing_106 : decode cX8_sewing 106 = .ok (.iload 7, 2) := dk_21 7 (dk_at dksX8_sewing_4 12 rfl rfl)
theorem dX8_sewing_108 : decode cX8_sewing 108 = .ok (.iload 4, 2) := dk_21 4 (dk_at dksX8_sewing_4 14 rfl rfl)
theorem dX8_sewing_110 : decode cX8_sewing 110 = .ok (.invokestatic 431, 3) := dk_184 1 175 (dk_at dksX8_sewing_4 16 rfl rfl)
theorem dX8_sewing_113 : decode cX8_sewing 113 = .ok (.if_icmp .gt 107, 3) := dk_163 0 107 (dk_at dksX8_sewing_4 19 rfl rfl)
theorem dX8_sewing_116 : decode cX8_sewing 116 = .ok (.iload 7, 2) := dk_21 7 (dk_at dksX8_sewing_4 22 rfl rfl)
theorem dX8_sewing_118 : decode cX8_sewing 118 = .ok (.iload 8, 2) := dk_21 8 (dk_at dksX8_sewing_5 0 rfl rfl)
theorem dX8_sewing_120 : decode cX8_sewing 120 = .ok (.isub, 1) := dk_100 (dk_at dksX8_sewing_5 2 rfl rfl)
theorem dX8_sewing_121 : decode cX8_sewing 121 = .ok (.istore 9, 2) := dk_54 9 (dk_at dksX8_sewing_5 3 rfl rfl)
theorem dX8_sewing_123 : decode cX8_sewing 123 = .ok (.iload 9, 2) := dk_21 9 (dk_at dksX8_sewing_5 5 rfl rfl)
theorem dX8_sewing_125 : decode cX8_sewing 125 = .ok (.iload 5, 2) := dk_21 5 (dk_at dksX8_sewing_5 7 rfl rfl)
theorem dX8_sewing_127 : decode cX8_sewing 127 = .ok (.if_icmp .gt 38, 3) := dk_163 0 38 (dk_at dksX8_sewing_5 9 rfl rfl)
theorem dX8_sewing_130 : decode cX8_sewing 130 = .ok (.aload_n 0, 1) := dk_42 (dk_at dksX8_sewing_5 12 rfl rfl)
theorem dX8_sewing_131 : decode cX8_sewing 131 = .ok (.iload_n 1, 1) := dk_27 (dk_at dksX8_sewing_5 13 rfl rfl)
theorem dX8_sewing_132 : decode cX8_sewing 132 = .ok (.iload_n 2, 1) := dk_28 (dk_at dksX8_sewing_5 14 rfl rfl)
theorem dX8_sewing_133 : decode cX8_sewing 133 = .ok (.iload 8, 2) := dk_21 8 (dk_at dksX8_sewing_5 15 rfl rfl)
theorem dX8_sewing_135 : decode cX8_sewing 135 = .ok (.iload 9, 2) := dk_21 9 (dk_at dksX8_sewing_5 17 rfl rfl)
theorem dX8_sewing_137 : decode cX8_sewing 137 = .ok (.invokevirtual 482, 3) := dk_182 1 226 (dk_at dksX8_sewing_5 19 rfl rfl)
theorem dX8_sewing_140 : decode cX8_sewing 140 = .ok (.ifCond .eq 25, 3) := dk_153 0 25 (dk_at dksX8_sewing_6 0 rfl rfl)
theorem dX8_sewing_143 : decode cX8_sewing 143 = .ok (.iload_n 3, 1) := dk_29 (dk_at dksX8_sewing_6 3 rfl rfl)
theorem dX8_sewing_144 : decode cX8_sewing 144 = .ok (.ifCond .ne 8, 3) := dk_154 0 8 (dk_at dksX8_sewing_6 4 rfl rfl)
theorem dX8_sewing_147 : decode cX8_sewing 147 = .ok (.iload 7, 2) := dk_21 7 (dk_at dksX8_sewing_6 7 rfl rfl)
theorem dX8_sewing_149 : decode cX8_sewing 149 = .ok (.goto 15, 3) := dk_167 0 15 (dk_at dksX8_sewing_6 9 rfl rfl)
theorem dX8_sewing_152 : decode cX8_sewing 152 = .ok (.iload_n 3, 1) := dk_29 (dk_at dksX8_sewing_6 12 rfl rfl)
theorem dX8_sewing_153 : decode cX8_sewing 153 = .ok (.iconst 1, 1) := dk_4 (dk_at dksX8_sewing_6 13 rfl rfl)
theorem dX8_sewing_154 : decode cX8_sewing 154 = .ok (.if_icmp .ne 8, 3) := dk_160 0 8 (dk_at dksX8_sewing_6 14 rfl rfl)
theorem dX8_sewing_157 : decode cX8_sewing 157 = .ok (.iload 8, 2) := dk_21 8 (dk_at dksX8_sewing_6 17 rfl rfl)
theorem dX8_sewing_159 : decode cX8_sewing 159 = .ok (.goto 5, 3) := dk_167 0 5 (dk_at dksX8_sewing_6 19 rfl rfl)
theorem dX8_sewing_162 : decode cX8_sewing 162 = .ok (.iload 9, 2) := dk_21 9 (dk_at dksX8_sewing_6 22 rfl rfl)
theorem dX8_sewing_164 : decode cX8_sewing 164 = .ok (.ireturn, 1) := dk_172 (dk_at dksX8_sewing_7 0 rfl rfl)
theorem dX8_sewing_165 : decode cX8_sewing 165 = .ok (.iload 9, 2) := dk_21 9 (dk_at dksX8_sewing_7 1 rfl rfl)
theorem dX8_sewing_167 : decode cX8_sewing 167 = .ok (.ifCond .le 47, 3) := dk_158 0 47 (dk_at dksX8_sewing_7 3 rfl rfl)
theorem dX8_sewing_170 : decode cX8_sewing 170 = .ok (.iload 9, 2) := dk_21 9 (dk_at dksX8_sewing_7 6 rfl rfl)
theorem dX8_sewing_172 : decode cX8_sewing 172 = .ok (.iload 6, 2) := dk_21 6 (dk_at dksX8_sewing_7 8 rfl rfl)
theorem dX8_sewing_174 : decode cX8_sewing 174 = .ok (.if_icmp .gt 40, 3) := dk_163 0 40 (dk_at dksX8_sewing_7 10 rfl rfl)
theorem dX8_sewing_177 : decode cX8_sewing 177 = .ok (.aload_n 0, 1) := dk_42 (dk_at dksX8_sewing_7 13 rfl rfl)
theorem dX8_sewing_178 : decode cX8_sewing 178 = .ok (.iload_n 1, 1) := dk_27 (dk_at dksX8_sewing_7 14 rfl rfl)
theorem dX8_sewing_179 : decode cX8_sewing 179 = .ok (.iload_n 2, 1) := dk_28 (dk_at dksX8_sewing_7 15 rfl rfl)
theorem dX8_sewing_180 : decode cX8_sewing 180 = .ok (.iload 8, 2) := dk_21 8 (dk_at dksX8_sewing_7 16 rfl rfl)
theorem dX8_sewing_182 : decode cX8_sewing 182 = .ok (.iload 9, 2) := dk_21 9 (dk_at dksX8_sewing_7 18 rfl rfl)
theorem dX8_sewing_184 : decode cX8_sewing 184 = .ok (.ineg, 1) := dk_116 (dk_at dksX8_sewing_7 20 rfl rfl)
theorem dX8_sewing_185 : decode cX8_sewing 185 = .ok (.invokevirtual 482, 3) := dk_182 1 226 (dk_at dksX8_sewing_7 21 rfl rfl)
theorem dX8_sewing_188 : decode cX8_sewing 188 = .ok (.ifCond .eq 26, 3) := dk_153 0 26 (dk_at dksX8_sewing_8 0 rfl rfl)
theorem dX8_sewing_191 : decode cX8_sewing 191 = .ok (.iload_n 3, 1) := dk_29 (dk_at dksX8_sewing_8 3 rfl rfl)
theorem dX8_sewing_192 : decode cX8_sewing 192 = .ok (.ifCond .ne 8, 3) := dk_154 0 8 (dk_at dksX8_sewing_8 4 rfl rfl)
theorem dX8_sewing_195 : decode cX8_sewing 195 = .ok (.iload 7, 2) := dk_21 7 (dk_at dksX8_sewing_8 7 rfl rfl)
theorem dX8_sewing_197 : decode cX8_sewing 197 = .ok (.goto 16, 3) := dk_167 0 16 (dk_at dksX8_sewing_8 9 rfl rfl)
theorem dX8_sewing_200 : decode cX8_sewing 200 = .ok (.iload_n 3, 1) := dk_29 (dk_at dksX8_sewing_8 12 rfl rfl)
theorem dX8_sewing_201 : decode cX8_sewing 201 = .ok (.iconst 1, 1) := dk_4 (dk_at dksX8_sewing_8 13 rfl rfl)
theorem dX8_sewing_202 : decode cX8_sewing 202 = .ok (.if_icmp .ne 8, 3) := dk_160 0 8 (dk_at dksX8_sewing_8 14 rfl rfl)
theorem dX8_sewing_205 : decode cX8_sewing 205 = .ok (.iload 8, 2) := dk_21 8 (dk_at dksX8_sewing_8 17 rfl rfl)
theorem dX8_sewing_207 : decode cX8_sewing 207 = .ok (.goto 6, 3) := dk_167 0 6 (dk_at dksX8_sewing_8 19 rfl rfl)
theorem dX8_sewing_210 : decode cX8_sewing 210 = .ok (.iload 9, 2) := dk_21 9 (dk_at dksX8_sewing_8 22 rfl rfl)
theorem dX8_sewing_212 : decode cX8_sewing 212 = .ok (.ineg, 1) := dk_116 (dk_at dksX8_sewing_9 0 rfl rfl)
theorem dX8_sewing_213 : decode cX8_sewing 213 = .ok (.ireturn, 1) := dk_172 (dk_at dksX8_sewing_9 1 rfl rfl)
theorem dX8_sewing_214 : decode cX8_sewing 214 = .ok (.iinc 8 1, 3) := dk_132 8 1 (dk_at dksX8_sewing_9 2 rfl rfl)
theorem dX8_sewing_217 : decode cX8_sewing 217 = .ok (.goto (-113), 3) := dk_167 255 143 (dk_at dksX8_sewing_9 5 rfl rfl)
theorem dX8_sewing_220 : decode cX8_sewing 220 = .ok (.iinc 7 1, 3) := dk_132 7 1 (dk_at dksX8_sewing_9 8 rfl rfl)
theorem dX8_sewing_223 : decode cX8_sewing 223 = .ok (.goto (-129), 3) := dk_167 255 127 (dk_at dksX8_sewing_9 11 rfl rfl)
theorem dX8_sewing_226 : decode cX8_sewing 226 = .ok (.bipush (-100), 2) := dk_16 156 (dk_at dksX8_sewing_9 14 rfl rfl)
theorem dX8_sewing_228 : decode cX8_sewing 228 = .ok (.ireturn, 1) := dk_172 (dk_at dksX8_sewing_9 16 rfl rfl)
abbrev cX8_isSewn : ByteArray := prog_20_method_84_code
def yX8_isSewn : MethodName := ⟨RX8, "isSewn", "(IIII)Z"⟩
def dkwX8_isSewn_2 : List UInt8 := [3, 172]
abbrev dktX8_isSewn_2 : List UInt8 := dkwX8_isSewn_2 ++ []
def dkwX8_isSewn_1 : List UInt8 := [96, 92, 46, 21, 4, 100, 79, 42, 28, 27, 182, 1, 165, 42, 180, 0, 84, 163, 0, 7, 4, 167, 0, 4]
abbrev dktX8_isSewn_1 : List UInt8 := dkwX8_isSewn_1 ++ dktX8_isSewn_2
def dkwX8_isSewn_0 : List UInt8 := [42, 182, 1, 193, 42, 180, 0, 96, 16, 12, 27, 96, 92, 46, 29, 100, 79, 42, 180, 0, 96, 16, 18, 27]
abbrev dktX8_isSewn_0 : List UInt8 := dkwX8_isSewn_0 ++ dktX8_isSewn_1
theorem dksX8_isSewn_0 : cX8_isSewn.data.toList.drop 0 = dktX8_isSewn_0 := by decide +kernel
theorem dksX8_isSewn_1 : cX8_isSewn.data.toList.drop 24 = dktX8_isSewn_1 := dk_seg dksX8_isSewn_0 24 rfl rfl
theorem dksX8_isSewn_2 : cX8_isSewn.data.toList.drop 48 = dktX8_isSewn_2 := dk_seg dksX8_isSewn_1 24 rfl rfl
theorem dX8_isSewn_0 : decode cX8_isSewn 0 = .ok (.aload_n 0, 1) := dk_42 (dk_at dksX8_isSewn_0 0 rfl rfl)
theorem dX8_isSewn_1 : decode cX8_isSewn 1 = .ok (.invokevirtual 449, 3) := dk_182 1 193 (dk_at dksX8_isSewn_0 1 rfl rfl)
theorem dX8_isSewn_4 : decode cX8_isSewn 4 = .ok (.aload_n 0, 1) := dk_42 (dk_at dksX8_isSewn_0 4 rfl rfl)
theorem dX8_isSewn_5 : decode cX8_isSewn 5 = .ok (.getfield 96, 3) := dk_180 0 96 (dk_at dksX8_isSewn_0 5 rfl rfl)
theorem dX8_isSewn_8 : decode cX8_isSewn 8 = .ok (.bipush 12, 2) := dk_16 12 (dk_at dksX8_isSewn_0 8 rfl rfl)
theorem dX8_isSewn_10 : decode cX8_isSewn 10 = .ok (.iload_n 1, 1) := dk_27 (dk_at dksX8_isSewn_0 10 rfl rfl)
theorem dX8_isSewn_11 : decode cX8_isSewn 11 = .ok (.iadd, 1) := dk_96 (dk_at dksX8_isSewn_0 11 rfl rfl)
theorem dX8_isSewn_12 : decode cX8_isSewn 12 = .ok (.dup2, 1) := dk_92 (dk_at dksX8_isSewn_0 12 rfl rfl)
theorem dX8_isSewn_13 : decode cX8_isSewn 13 = .ok (.iaload, 1) := dk_46 (dk_at dksX8_isSewn_0 13 rfl rfl)
theorem dX8_isSewn_14 : decode cX8_isSewn 14 = .ok (.iload_n 3, 1) := dk_29 (dk_at dksX8_isSewn_0 14 rfl rfl)
theorem dX8_isSewn_15 : decode cX8_isSewn 15 = .ok (.isub, 1) := dk_100 (dk_at dksX8_isSewn_0 15 rfl rfl)
theorem dX8_isSewn_16 : decode cX8_isSewn 16 = .ok (.iastore, 1) := dk_79 (dk_at dksX8_isSewn_0 16 rfl rfl)
theorem dX8_isSewn_17 : decode cX8_isSewn 17 = .ok (.aload_n 0, 1) := dk_42 (dk_at dksX8_isSewn_0 17 rfl rfl)
theorem dX8_isSewn_18 : decode cX8_isSewn 18 = .ok (.getfield 96, 3) := dk_180 0 96 (dk_at dksX8_isSewn_0 18 rfl rfl)
theorem dX8_isSewn_21 : decode cX8_isSewn 21 = .ok (.bipush 18, 2) := dk_16 18 (dk_at dksX8_isSewn_0 21 rfl rfl)
theorem dX8_isSewn_23 : decode cX8_isSewn 23 = .ok (.iload_n 1, 1) := dk_27 (dk_at dksX8_isSewn_0 23 rfl rfl)
theorem dX8_isSewn_24 : decode cX8_isSewn 24 = .ok (.iadd, 1) := dk_96 (dk_at dksX8_isSewn_1 0 rfl rfl)
theorem dX8_isSewn_25 : decode cX8_isSewn 25 = .ok (.dup2, 1) := dk_92 (dk_at dksX8_isSewn_1 1 rfl rfl)
theorem dX8_isSewn_26 : decode cX8_isSewn 26 = .ok (.iaload, 1) := dk_46 (dk_at dksX8_isSewn_1 2 rfl rfl)
theorem dX8_isSewn_27 : decode cX8_isSewn 27 = .ok (.iload 4, 2) := dk_21 4 (dk_at dksX8_isSewn_1 3 rfl rfl)
theorem dX8_isSewn_29 : decode cX8_isSewn 29 = .ok (.isub, 1) := dk_100 (dk_at dksX8_isSewn_1 5 rfl rfl)
theorem dX8_isSewn_30 : decode cX8_isSewn 30 = .ok (.iastore, 1) := dk_79 (dk_at dksX8_isSewn_1 6 rfl rfl)
theorem dX8_isSewn_31 : decode cX8_isSewn 31 = .ok (.aload_n 0, 1) := dk_42 (dk_at dksX8_isSewn_1 7 rfl rfl)
theorem dX8_isSewn_32 : decode cX8_isSewn 32 = .ok (.iload_n 2, 1) := dk_28 (dk_at dksX8_isSewn_1 8 rfl rfl)
theorem dX8_isSewn_33 : decode cX8_isSewn 33 = .ok (.iload_n 1, 1) := dk_27 (dk_at dksX8_isSewn_1 9 rfl rfl)
theorem dX8_isSewn_34 : decode cX8_isSewn 34 = .ok (.invokevirtual 421, 3) := dk_182 1 165 (dk_at dksX8_isSewn_1 10 rfl rfl)
theorem dX8_isSewn_37 : decode cX8_isSewn 37 = .ok (.aload_n 0, 1) := dk_42 (dk_at dksX8_isSewn_1 13 rfl rfl)
theorem dX8_isSewn_38 : decode cX8_isSewn 38 = .ok (.getfield 84, 3) := dk_180 0 84 (dk_at dksX8_isSewn_1 14 rfl rfl)
theorem dX8_isSewn_41 : decode cX8_isSewn 41 = .ok (.if_icmp .gt 7, 3) := dk_163 0 7 (dk_at dksX8_isSewn_1 17 rfl rfl)
theorem dX8_isSewn_44 : decode cX8_isSewn 44 = .ok (.iconst 1, 1) := dk_4 (dk_at dksX8_isSewn_1 20 rfl rfl)
theorem dX8_isSewn_45 : decode cX8_isSewn 45 = .ok (.goto 4, 3) := dk_167 0 4 (dk_at dksX8_isSewn_1 21 rfl rfl)
theorem dX8_isSewn_48 : decode cX8_isSewn 48 = .ok (.iconst 0, 1) := dk_3 (dk_at dksX8_isSewn_2 0 rfl rfl)
theorem dX8_isSewn_49 : decode cX8_isSewn 49 = .ok (.ireturn, 1) := dk_172 (dk_at dksX8_isSewn_2 1 rfl rfl)
abbrev cX8_rota : ByteArray := prog_20_method_86_code
def yX8_rota : MethodName := ⟨RX8, "rota", "(I)I"⟩
def dkwX8_rota_5 : List UInt8 := [167, 0, 4, 29, 172]
abbrev dktX8_rota_5 : List UInt8 := dkwX8_rota_5 ++ []
def dkwX8_rota_4 : List UInt8 := [29, 163, 0, 6, 167, 0, 9, 21, 4, 61, 21, 5, 62, 132, 4, 1, 167, 255, 170, 27, 154, 0, 7, 28]
abbrev dktX8_rota_4 : List UInt8 := dkwX8_rota_4 ++ dktX8_rota_5
def dkwX8_rota_3 : List UInt8 := [180, 1, 131, 112, 96, 46, 79, 132, 5, 1, 167, 255, 216, 42, 182, 1, 187, 184, 1, 230, 54, 5, 21, 5]
abbrev dktX8_rota_3 : List UInt8 := dkwX8_rota_3 ++ dktX8_rota_4
def dkwX8_rota_2 : List UInt8 := [162, 0, 37, 42, 180, 0, 96, 16, 6, 21, 5, 96, 42, 180, 0, 93, 16, 6, 21, 5, 21, 4, 96, 42]
abbrev dktX8_rota_2 : List UInt8 := dkwX8_rota_2 ++ dktX8_rota_3
def dkwX8_rota_1 : List UInt8 := [54, 4, 21, 4, 42, 180, 1, 131, 162, 0, 83, 42, 182, 1, 193, 3, 54, 5, 21, 5, 42, 180, 1, 131]
abbrev dktX8_rota_1 : List UInt8 := dkwX8_rota_1 ++ dktX8_rota_2
def dkwX8_rota_0 : List UInt8 := [27, 3, 4, 184, 1, 161, 153, 0, 10, 42, 180, 1, 131, 154, 0, 5, 2, 172, 3, 61, 2, 62, 3]
abbrev dktX8_rota_0 : List UInt8 := dkwX8_rota_0 ++ dktX8_rota_1
theorem dksX8_rota_0 : cX8_rota.data.toList.drop 0 = dktX8_rota_0 := by decide +kernel
theorem dksX8_rota_1 : cX8_rota.data.toList.drop 23 = dktX8_rota_1 := dk_seg dksX8_rota_0 23 rfl rfl
theorem dksX8_rota_2 : cX8_rota.data.toList.drop 47 = dktX8_rota_2 := dk_seg dksX8_rota_1 24 rfl rfl
theorem dksX8_rota_3 : cX8_rota.data.toList.drop 71 = dktX8_rota_3 := dk_seg dksX8_rota_2 24 rfl rfl
theorem dksX8_rota_4 : cX8_rota.data.toList.drop 95 = dktX8_rota_4 := dk_seg dksX8_rota_3 24 rfl rfl
theorem dksX8_rota_5 : cX8_rota.data.toList.drop 119 = dktX8_rota_5 := dk_seg dksX8_rota_4 24 rfl rfl
theorem dX8_rota_0 : decode cX8_rota 0 = .ok (.iload_n 1, 1) := dk_27 (dk_at dksX8_rota_0 0 rfl rfl)
theorem dX8_rota_1 : decode cX8_rota 1 = .ok (.iconst 0, 1) := dk_3 (dk_at dksX8_rota_0 1 rfl rfl)
theorem dX8_rota_2 : decode cX8_rota 2 = .ok (.iconst 1, 1) := dk_4 (dk_at dksX8_rota_0 2 rfl rfl)
theorem dX8_rota_3 : decode cX8_rota 3 = .ok (.invokestatic 417, 3) := dk_184 1 161 (dk_at dksX8_rota_0 3 rfl rfl)
theorem dX8_rota_6 : decode cX8_rota 6 = .ok (.ifCond .eq 10, 3) := dk_153 0 10 (dk_at dksX8_rota_0 6 rfl rfl)
theorem dX8_rota_9 : decode cX8_rota 9 = .ok (.aload_n 0, 1) := dk_42 (dk_at dksX8_rota_0 9 rfl rfl)
theorem dX8_rota_10 : decode cX8_rota 10 = .ok (.getfield 387, 3) := dk_180 1 131 (dk_at dksX8_rota_0 10 rfl rfl)
theorem dX8_rota_13 : decode cX8_rota 13 = .ok (.ifCond .ne 5, 3) := dk_154 0 5 (dk_at dksX8_rota_0 13 rfl rfl)
theorem dX8_rota_16 : decode cX8_rota 16 = .ok (.iconst (-1), 1) := dk_2 (dk_at dksX8_rota_0 16 rfl rfl)
theorem dX8_rota_17 : decode cX8_rota 17 = .ok (.ireturn, 1) := dk_172 (dk_at dksX8_rota_0 17 rfl rfl)
theorem dX8_rota_18 : decode cX8_rota 18 = .ok (.iconst 0, 1) := dk_3 (dk_at dksX8_rota_0 18 rfl rfl)
theorem dX8_rota_19 : decode cX8_rota 19 = .ok (.istore_n 2, 1) := dk_61 (dk_at dksX8_rota_0 19 rfl rfl)
theorem dX8_rota_20 : decode cX8_rota 20 = .ok (.iconst (-1), 1) := dk_2 (dk_at dksX8_rota_0 20 rfl rfl)
theorem dX8_rota_21 : decode cX8_rota 21 = .ok (.istore_n 3, 1) := dk_62 (dk_at dksX8_rota_0 21 rfl rfl)
theorem dX8_rota_22 : decode cX8_rota 22 = .ok (.iconst 0, 1) := dk_3 (dk_at dksX8_rota_0 22 rfl rfl)
theorem dX8_rota_23 : decode cX8_rota 23 = .ok (.istore 4, 2) := dk_54 4 (dk_at dksX8_rota_1 0 rfl rfl)
theorem dX8_rota_25 : decode cX8_rota 25 = .ok (.iload 4, 2) := dk_21 4 (dk_at dksX8_rota_1 2 rfl rfl)
theorem dX8_rota_27 : decode cX8_rota 27 = .ok (.aload_n 0, 1) := dk_42 (dk_at dksX8_rota_1 4 rfl rfl)
theorem dX8_rota_28 : decode cX8_rota 28 = .ok (.getfield 387, 3) := dk_180 1 131 (dk_at dksX8_rota_1 5 rfl rfl)
theorem dX8_rota_31 : decode cX8_rota 31 = .ok (.if_icmp .ge 83, 3) := dk_162 0 83 (dk_at dksX8_rota_1 8 rfl rfl)
theorem dX8_rota_34 : decode cX8_rota 34 = .ok (.aload_n 0, 1) := dk_42 (dk_at dksX8_rota_1 11 rfl rfl)
theorem dX8_rota_35 : decode cX8_rota 35 = .ok (.invokevirtual 449, 3) := dk_182 1 193 (dk_at dksX8_rota_1 12 rfl rfl)
theorem dX8_rota_38 : decode cX8_rota 38 = .ok (.iconst 0, 1) := dk_3 (dk_at dksX8_rota_1 15 rfl rfl)
theorem dX8_rota_39 : decode cX8_rota 39 = .ok (.istore 5, 2) := dk_54 5 (dk_at dksX8_rota_1 16 rfl rfl)
theorem dX8_rota_41 : decode cX8_rota 41 = .ok (.iload 5, 2) := dk_21 5 (dk_at dksX8_rota_1 18 rfl rfl)
theorem dX8_rota_43 : decode cX8_rota 43 = .ok (.aload_n 0, 1) := dk_42 (dk_at dksX8_rota_1 20 rfl rfl)
theorem dX8_rota_44 : decode cX8_rota 44 = .ok (.getfield 387, 3) := dk_180 1 131 (dk_at dksX8_rota_1 21 rfl rfl)
theorem dX8_rota_47 : decode cX8_rota 47 = .ok (.if_icmp .ge 37, 3) := dk_162 0 37 (dk_at dksX8_rota_2 0 rfl rfl)
theorem dX8_rota_50 : decode cX8_rota 50 = .ok (.aload_n 0, 1) := dk_42 (dk_at dksX8_rota_2 3 rfl rfl)
theorem dX8_rota_51 : decode cX8_rota 51 = .ok (.getfield 96, 3) := dk_180 0 96 (dk_at dksX8_rota_2 4 rfl rfl)
theorem dX8_rota_54 : decode cX8_rota 54 = .ok (.bipush 6, 2) := dk_16 6 (dk_at dksX8_rota_2 7 rfl rfl)
theorem dX8_rota_56 : decode cX8_rota 56 = .ok (.iload 5, 2) := dk_21 5 (dk_at dksX8_rota_2 9 rfl rfl)
theorem dX8_rota_58 : decode cX8_rota 58 = .ok (.iadd, 1) := dk_96 (dk_at dksX8_rota_2 11 rfl rfl)
theorem dX8_rota_59 : decode cX8_rota 59 = .ok (.aload_n 0, 1) := dk_42 (dk_at dksX8_rota_2 12 rfl rfl)
theorem dX8_rota_60 : decode cX8_rota 60 = .ok (.getfield 93, 3) := dk_180 0 93 (dk_at dksX8_rota_2 13 rfl rfl)
theorem dX8_rota_63 : decode cX8_rota 63 = .ok (.bipush 6, 2) := dk_16 6 (dk_at dksX8_rota_2 16 rfl rfl)
theorem dX8_rota_65 : decode cX8_rota 65 = .ok (.iload 5, 2) := dk_21 5 (dk_at dksX8_rota_2 18 rfl rfl)
theorem dX8_rota_67 : decode cX8_rota 67 = .ok (.iload 4, 2) := dk_21 4 (dk_at dksX8_rota_2 20 rfl rfl)
theorem dX8_rota_69 : decode cX8_rota 69 = .ok (.iadd, 1) := dk_96 (dk_at dksX8_rota_2 22 rfl rfl)
theorem dX8_rota_70 : decode cX8_rota 70 = .ok (.aload_n 0, 1) := dk_42 (dk_at dksX8_rota_2 23 rfl rfl)
theorem dX8_rota_71 : decode cX8_rota 71 = .ok (.getfield 387, 3) := dk_180 1 131 (dk_at dksX8_rota_3 0 rfl rfl)
theorem dX8_rota_74 : decode cX8_rota 74 = .ok (.irem, 1) := dk_112 (dk_at dksX8_rota_3 3 rfl rfl)
theorem dX8_rota_75 : decode cX8_rota 75 = .ok (.iadd, 1) := dk_96 (dk_at dksX8_rota_3 4 rfl rfl)
theorem dX8_rota_76 : decode cX8_rota 76 = .ok (.iaload, 1) := dk_46 (dk_at dksX8_rota_3 5 rfl rfl)
theorem dX8_rota_77 : decode cX8_rota 77 = .ok (.iastore, 1) := dk_79 (dk_at dksX8_rota_3 6 rfl rfl)
theorem dX8_rota_78 : decode cX8_rota 78 = .ok (.iinc 5 1, 3) := dk_132 5 1 (dk_at dksX8_rota_3 7 rfl rfl)
theorem dX8_rota_81 : decode cX8_rota 81 = .ok (.goto (-40), 3) := dk_167 255 216 (dk_at dksX8_rota_3 10 rfl rfl)
theorem dX8_rota_84 : decode cX8_rota 84 = .ok (.aload_n 0, 1) := dk_42 (dk_at dksX8_rota_3 13 rfl rfl)
theorem dX8_rota_85 : decode cX8_rota 85 = .ok (.invokevirtual 443, 3) := dk_182 1 187 (dk_at dksX8_rota_3 14 rfl rfl)
theorem dX8_rota_88 : decode cX8_rota 88 = .ok (.invokestatic 486, 3) := dk_184 1 230 (dk_at dksX8_rota_3 17 rfl rfl)
theorem dX8_rota_91 : decode cX8_rota 91 = .ok (.istore 5, 2) := dk_54 5 (dk_at dksX8_rota_3 20 rfl rfl)
theorem dX8_rota_93 : decode cX8_rota 93 = .ok (.iload 5, 2) := dk_21 5 (dk_at dksX8_rota_3 22 rfl rfl)
theorem dX8_rota_95 : decode cX8_rota 95 = .ok (.iload_n 3, 1) := dk_29 (dk_at dksX8_rota_4 0 rfl rfl)
theorem dX8_rota_96 : decode cX8_rota 96 = .ok (.if_icmp .gt 6, 3) := dk_163 0 6 (dk_at dksX8_rota_4 1 rfl rfl)
theorem dX8_rota_99 : decode cX8_rota 99 = .ok (.goto 9, 3) := dk_167 0 9 (dk_at dksX8_rota_4 4 rfl rfl)
theorem dX8_rota_102 : decode cX8_rota 102 = .ok (.iload 4, 2) := dk_21 4 (dk_at dksX8_rota_4 7 rfl rfl)
theorem dX8_rota_104 : decode cX8_rota 104 = .ok (.istore_n 2, 1) := dk_61 (dk_at dksX8_rota_4 9 rfl rfl)
theorem dX8_rota_105 : decode cX8_rota 105 = .ok (.iload 5, 2) := dk_21 5 (dk_at dksX8_rota_4 10 rfl rfl)
theorem dX8_rota_107 : decode cX8_rota 107 = .ok (.istore_n 3, 1) := dk_62 (dk_at dksX8_rota_4 12 rfl rfl)
theorem dX8_rota_108 : decode cX8_rota 108 = .ok (.iinc 4 1, 3) := dk_132 4 1 (dk_at dksX8_rota_4 13 rfl rfl)
theorem dX8_rota_111 : decode cX8_rota 111 = .ok (.goto (-86), 3) := dk_167 255 170 (dk_at dksX8_rota_4 16 rfl rfl)
theorem dX8_rota_114 : decode cX8_rota 114 = .ok (.iload_n 1, 1) := dk_27 (dk_at dksX8_rota_4 19 rfl rfl)
theorem dX8_rota_115 : decode cX8_rota 115 = .ok (.ifCond .ne 7, 3) := dk_154 0 7 (dk_at dksX8_rota_4 20 rfl rfl)
theorem dX8_rota_118 : decode cX8_rota 118 = .ok (.iload_n 2, 1) := dk_28 (dk_at dksX8_rota_4 23 rfl rfl)
theorem dX8_rota_119 : decode cX8_rota 119 = .ok (.goto 4, 3) := dk_167 0 4 (dk_at dksX8_rota_5 0 rfl rfl)
theorem dX8_rota_122 : decode cX8_rota 122 = .ok (.iload_n 3, 1) := dk_29 (dk_at dksX8_rota_5 3 rfl rfl)
theorem dX8_rota_123 : decode cX8_rota 123 = .ok (.ireturn, 1) := dk_172 (dk_at dksX8_rota_5 4 rfl rfl)
abbrev cX8_members : ByteArray := prog_20_method_49_code
def yX8_members : MethodName := ⟨RX8, "members", "(I)I"⟩
def dkwX8_members_1 : List UInt8 := [27, 172]
abbrev dktX8_members_1 : List UInt8 := dkwX8_members_1 ++ []
def dkwX8_members_0 : List UInt8 := [3, 60, 3, 61, 28, 16, 6, 162, 0, 17, 27, 26, 28, 122, 4, 126, 96, 60, 132, 2, 1, 167, 255, 239]
abbrev dktX8_members_0 : List UInt8 := dkwX8_members_0 ++ dktX8_members_1
theorem dksX8_members_0 : cX8_members.data.toList.drop 0 = dktX8_members_0 := by decide +kernel
theorem dksX8_members_1 : cX8_members.data.toList.drop 24 = dktX8_members_1 := dk_seg dksX8_members_0 24 rfl rfl
theorem dX8_members_0 : decode cX8_members 0 = .ok (.iconst 0, 1) := dk_3 (dk_at dksX8_members_0 0 rfl rfl)
theorem dX8_members_1 : decode cX8_members 1 = .ok (.istore_n 1, 1) := dk_60 (dk_at dksX8_members_0 1 rfl rfl)
theorem dX8_members_2 : decode cX8_members 2 = .ok (.iconst 0, 1) := dk_3 (dk_at dksX8_members_0 2 rfl rfl)
theorem dX8_members_3 : decode cX8_members 3 = .ok (.istore_n 2, 1) := dk_61 (dk_at dksX8_members_0 3 rfl rfl)
theorem dX8_members_4 : decode cX8_members 4 = .ok (.iload_n 2, 1) := dk_28 (dk_at dksX8_members_0 4 rfl rfl)
theorem dX8_members_5 : decode cX8_members 5 = .ok (.bipush 6, 2) := dk_16 6 (dk_at dksX8_members_0 5 rfl rfl)
theorem dX8_members_7 : decode cX8_members 7 = .ok (.if_icmp .ge 17, 3) := dk_162 0 17 (dk_at dksX8_members_0 7 rfl rfl)
theorem dX8_members_10 : decode cX8_members 10 = .ok (.iload_n 1, 1) := dk_27 (dk_at dksX8_members_0 10 rfl rfl)
theorem dX8_members_11 : decode cX8_members 11 = .ok (.iload_n 0, 1) := dk_26 (dk_at dksX8_members_0 11 rfl rfl)
theorem dX8_members_12 : decode cX8_members 12 = .ok (.iload_n 2, 1) := dk_28 (dk_at dksX8_members_0 12 rfl rfl)
theorem dX8_members_13 : decode cX8_members 13 = .ok (.ishr, 1) := dk_122 (dk_at dksX8_members_0 13 rfl rfl)
theorem dX8_members_14 : decode cX8_members 14 = .ok (.iconst 1, 1) := dk_4 (dk_at dksX8_members_0 14 rfl rfl)
theorem dX8_members_15 : decode cX8_members 15 = .ok (.iand, 1) := dk_126 (dk_at dksX8_members_0 15 rfl rfl)
theorem dX8_members_16 : decode cX8_members 16 = .ok (.iadd, 1) := dk_96 (dk_at dksX8_members_0 16 rfl rfl)
theorem dX8_members_17 : decode cX8_members 17 = .ok (.istore_n 1, 1) := dk_60 (dk_at dksX8_members_0 17 rfl rfl)
theorem dX8_members_18 : decode cX8_members 18 = .ok (.iinc 2 1, 3) := dk_132 2 1 (dk_at dksX8_members_0 18 rfl rfl)
theorem dX8_members_21 : decode cX8_members 21 = .ok (.goto (-17), 3) := dk_167 255 239 (dk_at dksX8_members_0 21 rfl rfl)
theorem dX8_members_24 : decode cX8_members 24 = .ok (.iload_n 1, 1) := dk_27 (dk_at dksX8_members_1 0 rfl rfl)
theorem dX8_members_25 : decode cX8_members 25 = .ok (.ireturn, 1) := dk_172 (dk_at dksX8_members_1 1 rfl rfl)
abbrev cX8_change : ByteArray := prog_20_method_87_code
def yX8_change : MethodName := ⟨RX8, "change", "(I)I"⟩
def dkwX8_change_6 : List UInt8 := [154, 0, 10, 29, 16, 6, 108, 167, 0, 16, 27, 4, 160, 0, 10, 29, 16, 6, 112, 167, 0, 4, 28, 172]
abbrev dktX8_change_6 : List UInt8 := dkwX8_change_6 ++ []
def dkwX8_change_5 : List UInt8 := [96, 62, 132, 5, 1, 167, 255, 170, 132, 4, 1, 167, 255, 149, 29, 156, 0, 7, 2, 167, 0, 27, 27]
abbrev dktX8_change_5 : List UInt8 := dkwX8_change_5 ++ dktX8_change_6
def dkwX8_change_4 : List UInt8 := [184, 1, 230, 54, 6, 21, 6, 28, 163, 0, 6, 167, 0, 15, 21, 6, 61, 16, 6, 21, 4, 104, 21, 5]
abbrev dktX8_change_4 : List UInt8 := dkwX8_change_4 ++ dktX8_change_5
def dkwX8_change_3 : List UInt8 := [42, 180, 0, 96, 16, 6, 21, 5, 96, 42, 180, 0, 93, 16, 6, 21, 4, 96, 46, 79, 42, 182, 1, 187]
abbrev dktX8_change_3 : List UInt8 := dkwX8_change_3 ++ dktX8_change_4
def dkwX8_change_2 : List UInt8 := [42, 182, 1, 193, 42, 180, 0, 96, 16, 6, 21, 4, 96, 42, 180, 0, 93, 16, 6, 21, 5, 96, 46, 79]
abbrev dktX8_change_2 : List UInt8 := dkwX8_change_2 ++ dktX8_change_3
def dkwX8_change_1 : List UInt8 := [21, 4, 42, 180, 1, 131, 162, 0, 104, 21, 4, 4, 96, 54, 5, 21, 5, 42, 180, 1, 131, 162, 0, 83]
abbrev dktX8_change_1 : List UInt8 := dkwX8_change_1 ++ dktX8_change_2
def dkwX8_change_0 : List UInt8 := [27, 3, 5, 184, 1, 161, 154, 0, 5, 2, 172, 42, 182, 1, 233, 184, 1, 230, 61, 2, 62, 3, 54, 4]
abbrev dktX8_change_0 : List UInt8 := dkwX8_change_0 ++ dktX8_change_1
theorem dksX8_change_0 : cX8_change.data.toList.drop 0 = dktX8_change_0 := by decide +kernel
theorem dksX8_change_1 : cX8_change.data.toList.drop 24 = dktX8_change_1 := dk_seg dksX8_change_0 24 rfl rfl
theorem dksX8_change_2 : cX8_change.data.toList.drop 48 = dktX8_change_2 := dk_seg dksX8_change_1 24 rfl rfl
theorem dksX8_change_3 : cX8_change.data.toList.drop 72 = dktX8_change_3 := dk_seg dksX8_change_2 24 rfl rfl
theorem dksX8_change_4 : cX8_change.data.toList.drop 96 = dktX8_change_4 := dk_seg dksX8_change_3 24 rfl rfl
theorem dksX8_change_5 : cX8_change.data.toList.drop 120 = dktX8_change_5 := dk_seg dksX8_change_4 24 rfl rfl
theorem dksX8_change_6 : cX8_change.data.toList.drop 143 = dktX8_change_6 := dk_seg dksX8_change_5 23 rfl rfl
theorem dX8_change_0 : decode cX8_change 0 = .ok (.iload_n 1, 1) := dk_27 (dk_at dksX8_change_0 0 rfl rfl)
theorem dX8_change_1 : decode cX8_change 1 = .ok (.iconst 0, 1) := dk_3 (dk_at dksX8_change_0 1 rfl rfl)
theorem dX8_change_2 : decode cX8_change 2 = .ok (.iconst 2, 1) := dk_5 (dk_at dksX8_change_0 2 rfl rfl)
theorem dX8_change_3 : decode cX8_change 3 = .ok (.invokestatic 417, 3) := dk_184 1 161 (dk_at dksX8_change_0 3 rfl rfl)
theorem dX8_change_6 : decode cX8_change 6 = .ok (.ifCond .ne 5, 3) := dk_154 0 5 (dk_at dksX8_change_0 6 rfl rfl)
theorem dX8_change_9 : decode cX8_change 9 = .ok (.iconst (-1), 1) := dk_2 (dk_at dksX8_change_0 9 rfl rfl)
theorem dX8_change_10 : decode cX8_change 10 = .ok (.ireturn, 1) := dk_172 (dk_at dksX8_change_0 10 rfl rfl)
theorem dX8_change_11 : decode cX8_change 11 = .ok (.aload_n 0, 1) := dk_42 (dk_at dksX8_change_0 11 rfl rfl)
theorem dX8_change_12 : decode cX8_change 12 = .ok (.invokevirtual 489, 3) := dk_182 1 233 (dk_at dksX8_change_0 12 rfl rfl)
theorem dX8_change_15 : decode cX8_change 15 = .ok (.invokestatic 486, 3) := dk_184 1 230 (dk_at dksX8_change_0 15 rfl rfl)
theorem dX8_change_18 : decode cX8_change 18 = .ok (.istore_n 2, 1) := dk_61 (dk_at dksX8_change_0 18 rfl rfl)
theorem dX8_change_19 : decode cX8_change 19 = .ok (.iconst (-1), 1) := dk_2 (dk_at dksX8_change_0 19 rfl rfl)
theorem dX8_change_20 : decode cX8_change 20 = .ok (.istore_n 3, 1) := dk_62 (dk_at dksX8_change_0 20 rfl rfl)
theorem dX8_change_21 : decode cX8_change 21 = .ok (.iconst 0, 1) := dk_3 (dk_at dksX8_change_0 21 rfl rfl)
theorem dX8_change_22 : decode cX8_change 22 = .ok (.istore 4, 2) := dk_54 4 (dk_at dksX8_change_0 22 rfl rfl)
theorem dX8_change_24 : decode cX8_change 24 = .ok (.iload 4, 2) := dk_21 4 (dk_at dksX8_change_1 0 rfl rfl)
theorem dX8_change_26 : decode cX8_change 26 = .ok (.aload_n 0, 1) := dk_42 (dk_at dksX8_change_1 2 rfl rfl)
theorem dX8_change_27 : decode cX8_change 27 = .ok (.getfield 387, 3) := dk_180 1 131 (dk_at dksX8_change_1 3 rfl rfl)
theorem dX8_change_30 : decode cX8_change 30 = .ok (.if_icmp .ge 104, 3) := dk_162 0 104 (dk_at dksX8_change_1 6 rfl rfl)
theorem dX8_change_33 : decode cX8_change 33 = .ok (.iload 4, 2) := dk_21 4 (dk_at dksX8_change_1 9 rfl rfl)
theorem dX8_change_35 : decode cX8_change 35 = .ok (.iconst 1, 1) := dk_4 (dk_at dksX8_change_1 11 rfl rfl)
theorem dX8_change_36 : decode cX8_change 36 = .ok (.iadd, 1) := dk_96 (dk_at dksX8_change_1 12 rfl rfl)
theorem dX8_change_37 : decode cX8_change 37 = .ok (.istore 5, 2) := dk_54 5 (dk_at dksX8_change_1 13 rfl rfl)
theorem dX8_change_39 : decode cX8_change 39 = .ok (.iload 5, 2) := dk_21 5 (dk_at dksX8_change_1 15 rfl rfl)
theorem dX8_change_41 : decode cX8_change 41 = .ok (.aload_n 0, 1) := dk_42 (dk_at dksX8_change_1 17 rfl rfl)
theorem dX8_change_42 : decode cX8_change 42 = .ok (.getfield 387, 3) := dk_180 1 131 (dk_at dksX8_change_1 18 rfl rfl)
theorem dX8_change_45 : decode cX8_change 45 = .ok (.if_icmp .ge 83, 3) := dk_162 0 83 (dk_at dksX8_change_1 21 rfl rfl)
theorem dX8_change_48 : decode cX8_change 48 = .ok (.aload_n 0, 1) := dk_42 (dk_at dksX8_change_2 0 rfl rfl)
theorem dX8_change_49 : decode cX8_change 49 = .ok (.invokevirtual 449, 3) := dk_182 1 193 (dk_at dksX8_change_2 1 rfl rfl)
theorem dX8_change_52 : decode cX8_change 52 = .ok (.aload_n 0, 1) := dk_42 (dk_at dksX8_change_2 4 rfl rfl)
theorem dX8_change_53 : decode cX8_change 53 = .ok (.getfield 96, 3) := dk_180 0 96 (dk_at dksX8_change_2 5 rfl rfl)
theorem dX8_change_56 : decode cX8_change 56 = .ok (.bipush 6, 2) := dk_16 6 (dk_at dksX8_change_2 8 rfl rfl)
theorem dX8_change_58 : decode cX8_change 58 = .ok (.iload 4, 2) := dk_21 4 (dk_at dksX8_change_2 10 rfl rfl)
theorem dX8_change_60 : decode cX8_change 60 = .ok (.iadd, 1) := dk_96 (dk_at dksX8_change_2 12 rfl rfl)
theorem dX8_change_61 : decode cX8_change 61 = .ok (.aload_n 0, 1) := dk_42 (dk_at dksX8_change_2 13 rfl rfl)
theorem dX8_change_62 : decode cX8_change 62 = .ok (.getfield 93, 3) := dk_180 0 93 (dk_at dksX8_change_2 14 rfl rfl)
theorem dX8_change_65 : decode cX8_change 65 = .ok (.bipush 6, 2) := dk_16 6 (dk_at dksX8_change_2 17 rfl rfl)
theorem dX8_change_67 : decode cX8_change 67 = .ok (.iload 5, 2) := dk_21 5 (dk_at dksX8_change_2 19 rfl rfl)
theorem dX8_change_69 : decode cX8_change 69 = .ok (.iadd, 1) := dk_96 (dk_at dksX8_change_2 21 rfl rfl)
theorem dX8_change_70 : decode cX8_change 70 = .ok (.iaload, 1) := dk_46 (dk_at dksX8_change_2 22 rfl rfl)
theorem dX8_change_71 : decode cX8_change 71 = .ok (.iastore, 1) := dk_79 (dk_at dksX8_change_2 23 rfl rfl)
theorem dX8_change_72 : decode cX8_change 72 = .ok (.aload_n 0, 1) := dk_42 (dk_at dksX8_change_3 0 rfl rfl)
theorem dX8_change_73 : decode cX8_change 73 = .ok (.getfield 96, 3) := dk_180 0 96 (dk_at dksX8_change_3 1 rfl rfl)
theorem dX8_change_76 : decode cX8_change 76 = .ok (.bipush 6, 2) := dk_16 6 (dk_at dksX8_change_3 4 rfl rfl)
theorem dX8_change_78 : decode cX8_change 78 = .ok (.iload 5, 2) := dk_21 5 (dk_at dksX8_change_3 6 rfl rfl)
theorem dX8_change_80 : decode cX8_change 80 = .ok (.iadd, 1) := dk_96 (dk_at dksX8_change_3 8 rfl rfl)
theorem dX8_change_81 : decode cX8_change 81 = .ok (.aload_n 0, 1) := dk_42 (dk_at dksX8_change_3 9 rfl rfl)
theorem dX8_change_82 : decode cX8_change 82 = .ok (.getfield 93, 3) := dk_180 0 93 (dk_at dksX8_change_3 10 rfl rfl)
theorem dX8_change_85 : decode cX8_change 85 = .ok (.bipush 6, 2) := dk_16 6 (dk_at dksX8_change_3 13 rfl rfl)
theorem dX8_change_87 : decode cX8_change 87 = .ok (.iload 4, 2) := dk_21 4 (dk_at dksX8_change_3 15 rfl rfl)
theorem dX8_change_89 : decode cX8_change 89 = .ok (.iadd, 1) := dk_96 (dk_at dksX8_change_3 17 rfl rfl)
theorem dX8_change_90 : decode cX8_change 90 = .ok (.iaload, 1) := dk_46 (dk_at dksX8_change_3 18 rfl rfl)
theorem dX8_change_91 : decode cX8_change 91 = .ok (.iastore, 1) := dk_79 (dk_at dksX8_change_3 19 rfl rfl)
theorem dX8_change_92 : decode cX8_change 92 = .ok (.aload_n 0, 1) := dk_42 (dk_at dksX8_change_3 20 rfl rfl)
theorem dX8_change_93 : decode cX8_change 93 = .ok (.invokevirtual 443, 3) := dk_182 1 187 (dk_at dksX8_change_3 21 rfl rfl)
theorem dX8_change_96 : decode cX8_change 96 = .ok (.invokestatic 486, 3) := dk_184 1 230 (dk_at dksX8_change_4 0 rfl rfl)
theorem dX8_change_99 : decode cX8_change 99 = .ok (.istore 6, 2) := dk_54 6 (dk_at dksX8_change_4 3 rfl rfl)
theorem dX8_change_101 : decode cX8_change 101 = .ok (.iload 6, 2) := dk_21 6 (dk_at dksX8_change_4 5 rfl rfl)
theorem dX8_change_103 : decode cX8_change 103 = .ok (.iload_n 2, 1) := dk_28 (dk_at dksX8_change_4 7 rfl rfl)
theorem dX8_change_104 : decode cX8_change 104 = .ok (.if_icmp .gt 6, 3) := dk_163 0 6 (dk_at dksX8_change_4 8 rfl rfl)
theorem dX8_change_107 : decode cX8_change 107 = .ok (.goto 15, 3) := dk_167 0 15 (dk_at dksX8_change_4 11 rfl rfl)
theorem dX8_change_110 : decode cX8_change 110 = .ok (.iload 6, 2) := dk_21 6 (dk_at dksX8_change_4 14 rfl rfl)
theorem dX8_change_112 : decode cX8_change 112 = .ok (.istore_n 2, 1) := dk_61 (dk_at dksX8_change_4 16 rfl rfl)
theorem dX8_change_113 : decode cX8_change 113 = .ok (.bipush 6, 2) := dk_16 6 (dk_at dksX8_change_4 17 rfl rfl)
theorem dX8_change_115 : decode cX8_change 115 = .ok (.iload 4, 2) := dk_21 4 (dk_at dksX8_change_4 19 rfl rfl)
theorem dX8_change_117 : decode cX8_change 117 = .ok (.imul, 1) := dk_104 (dk_at dksX8_change_4 21 rfl rfl)
theorem dX8_change_118 : decode cX8_change 118 = .ok (.iload 5, 2) := dk_21 5 (dk_at dksX8_change_4 22 rfl rfl)
theorem dX8_change_120 : decode cX8_change 120 = .ok (.iadd, 1) := dk_96 (dk_at dksX8_change_5 0 rfl rfl)
theorem dX8_change_121 : decode cX8_change 121 = .ok (.istore_n 3, 1) := dk_62 (dk_at dksX8_change_5 1 rfl rfl)
theorem dX8_change_122 : decode cX8_change 122 = .ok (.iinc 5 1, 3) := dk_132 5 1 (dk_at dksX8_change_5 2 rfl rfl)
theorem dX8_change_125 : decode cX8_change 125 = .ok (.goto (-86), 3) := dk_167 255 170 (dk_at dksX8_change_5 5 rfl rfl)
theorem dX8_change_128 : decode cX8_change 128 = .ok (.iinc 4 1, 3) := dk_132 4 1 (dk_at dksX8_change_5 8 rfl rfl)
theorem dX8_change_131 : decode cX8_change 131 = .ok (.goto (-107), 3) := dk_167 255 149 (dk_at dksX8_change_5 11 rfl rfl)
theorem dX8_change_134 : decode cX8_change 134 = .ok (.iload_n 3, 1) := dk_29 (dk_at dksX8_change_5 14 rfl rfl)
theorem dX8_change_135 : decode cX8_change 135 = .ok (.ifCond .ge 7, 3) := dk_156 0 7 (dk_at dksX8_change_5 15 rfl rfl)
theorem dX8_change_138 : decode cX8_change 138 = .ok (.iconst (-1), 1) := dk_2 (dk_at dksX8_change_5 18 rfl rfl)
theorem dX8_change_139 : decode cX8_change 139 = .ok (.goto 27, 3) := dk_167 0 27 (dk_at dksX8_change_5 19 rfl rfl)
theorem dX8_change_142 : decode cX8_change 142 = .ok (.iload_n 1, 1) := dk_27 (dk_at dksX8_change_5 22 rfl rfl)
theorem dX8_change_143 : decode cX8_change 143 = .ok (.ifCond .ne 10, 3) := dk_154 0 10 (dk_at dksX8_change_6 0 rfl rfl)
theorem dX8_change_146 : decode cX8_change 146 = .ok (.iload_n 3, 1) := dk_29 (dk_at dksX8_change_6 3 rfl rfl)
theorem dX8_change_147 : decode cX8_change 147 = .ok (.bipush 6, 2) := dk_16 6 (dk_at dksX8_change_6 4 rfl rfl)
theorem dX8_change_149 : decode cX8_change 149 = .ok (.idiv, 1) := dk_108 (dk_at dksX8_change_6 6 rfl rfl)
theorem dX8_change_150 : decode cX8_change 150 = .ok (.goto 16, 3) := dk_167 0 16 (dk_at dksX8_change_6 7 rfl rfl)
theorem dX8_change_153 : decode cX8_change 153 = .ok (.iload_n 1, 1) := dk_27 (dk_at dksX8_change_6 10 rfl rfl)
theorem dX8_change_154 : decode cX8_change 154 = .ok (.iconst 1, 1) := dk_4 (dk_at dksX8_change_6 11 rfl rfl)
theorem dX8_change_155 : decode cX8_change 155 = .ok (.if_icmp .ne 10, 3) := dk_160 0 10 (dk_at dksX8_change_6 12 rfl rfl)
theorem dX8_change_158 : decode cX8_change 158 = .ok (.iload_n 3, 1) := dk_29 (dk_at dksX8_change_6 15 rfl rfl)
theorem dX8_change_159 : decode cX8_change 159 = .ok (.bipush 6, 2) := dk_16 6 (dk_at dksX8_change_6 16 rfl rfl)
theorem dX8_change_161 : decode cX8_change 161 = .ok (.irem, 1) := dk_112 (dk_at dksX8_change_6 18 rfl rfl)
theorem dX8_change_162 : decode cX8_change 162 = .ok (.goto 4, 3) := dk_167 0 4 (dk_at dksX8_change_6 19 rfl rfl)
theorem dX8_change_165 : decode cX8_change 165 = .ok (.iload_n 2, 1) := dk_28 (dk_at dksX8_change_6 22 rfl rfl)
theorem dX8_change_166 : decode cX8_change 166 = .ok (.ireturn, 1) := dk_172 (dk_at dksX8_change_6 23 rfl rfl)
abbrev cX8_front : ByteArray := prog_20_method_89_code
def yX8_front : MethodName := ⟨RX8, "front", "(II)I"⟩
def dkwX8_front_4 : List UInt8 := [156, 0, 7, 2, 167, 0, 17, 28, 154, 0, 11, 21, 4, 184, 1, 230, 167, 0, 5, 21, 4, 172]
abbrev dktX8_front_4 : List UInt8 := dkwX8_front_4 ++ []
def dkwX8_front_3 : List UInt8 := [184, 1, 230, 21, 4, 184, 1, 230, 162, 0, 7, 21, 5, 54, 4, 132, 5, 1, 167, 255, 206, 21, 4]
abbrev dktX8_front_3 : List UInt8 := dkwX8_front_3 ++ dktX8_front_4
def dkwX8_front_2 : List UInt8 := [130, 126, 154, 0, 35, 42, 21, 5, 182, 1, 236, 27, 161, 0, 25, 21, 4, 155, 0, 16, 21, 5]
abbrev dktX8_front_2 : List UInt8 := dkwX8_front_2 ++ dktX8_front_3
def dkwX8_front_1 : List UInt8 := [182, 1, 193, 42, 182, 1, 184, 62, 2, 54, 4, 3, 54, 5, 21, 5, 29, 163, 0, 50, 21, 5, 29, 2]
abbrev dktX8_front_1 : List UInt8 := dkwX8_front_1 ++ dktX8_front_2
def dkwX8_front_0 : List UInt8 := [27, 3, 17, 3, 231, 184, 1, 161, 153, 0, 12, 28, 3, 4, 184, 1, 161, 154, 0, 5, 2, 172, 42]
abbrev dktX8_front_0 : List UInt8 := dkwX8_front_0 ++ dktX8_front_1
theorem dksX8_front_0 : cX8_front.data.toList.drop 0 = dktX8_front_0 := by decide +kernel
theorem dksX8_front_1 : cX8_front.data.toList.drop 23 = dktX8_front_1 := dk_seg dksX8_front_0 23 rfl rfl
theorem dksX8_front_2 : cX8_front.data.toList.drop 47 = dktX8_front_2 := dk_seg dksX8_front_1 24 rfl rfl
theorem dksX8_front_3 : cX8_front.data.toList.drop 69 = dktX8_front_3 := dk_seg dksX8_front_2 22 rfl rfl
theorem dksX8_front_4 : cX8_front.data.toList.drop 92 = dktX8_front_4 := dk_seg dksX8_front_3 23 rfl rfl
theorem dX8_front_0 : decode cX8_front 0 = .ok (.iload_n 1, 1) := dk_27 (dk_at dksX8_front_0 0 rfl rfl)
theorem dX8_front_1 : decode cX8_front 1 = .ok (.iconst 0, 1) := dk_3 (dk_at dksX8_front_0 1 rfl rfl)
theorem dX8_front_2 : decode cX8_front 2 = .ok (.sipush 999, 3) := dk_17 3 231 (dk_at dksX8_front_0 2 rfl rfl)
theorem dX8_front_5 : decode cX8_front 5 = .ok (.invokestatic 417, 3) := dk_184 1 161 (dk_at dksX8_front_0 5 rfl rfl)
theorem dX8_front_8 : decode cX8_front 8 = .ok (.ifCond .eq 12, 3) := dk_153 0 12 (dk_at dksX8_front_0 8 rfl rfl)
theorem dX8_front_11 : decode cX8_front 11 = .ok (.iload_n 2, 1) := dk_28 (dk_at dksX8_front_0 11 rfl rfl)
theorem dX8_front_12 : decode cX8_front 12 = .ok (.iconst 0, 1) := dk_3 (dk_at dksX8_front_0 12 rfl rfl)
theorem dX8_front_13 : decode cX8_front 13 = .ok (.iconst 1, 1) := dk_4 (dk_at dksX8_front_0 13 rfl rfl)
theorem dX8_front_14 : decode cX8_front 14 = .ok (.invokestatic 417, 3) := dk_184 1 161 (dk_at dksX8_front_0 14 rfl rfl)
theorem dX8_front_17 : decode cX8_front 17 = .ok (.ifCond .ne 5, 3) := dk_154 0 5 (dk_at dksX8_front_0 17 rfl rfl)
theorem dX8_front_20 : decode cX8_front 20 = .ok (.iconst (-1), 1) := dk_2 (dk_at dksX8_front_0 20 rfl rfl)
theorem dX8_front_21 : decode cX8_front 21 = .ok (.ireturn, 1) := dk_172 (dk_at dksX8_front_0 21 rfl rfl)
theorem dX8_front_22 : decode cX8_front 22 = .ok (.aload_n 0, 1) := dk_42 (dk_at dksX8_front_0 22 rfl rfl)
theorem dX8_front_23 : decode cX8_front 23 = .ok (.invokevirtual 449, 3) := dk_182 1 193 (dk_at dksX8_front_1 0 rfl rfl)
theorem dX8_front_26 : decode cX8_front 26 = .ok (.aload_n 0, 1) := dk_42 (dk_at dksX8_front_1 3 rfl rfl)
theorem dX8_front_27 : decode cX8_front 27 = .ok (.invokevirtual 440, 3) := dk_182 1 184 (dk_at dksX8_front_1 4 rfl rfl)
theorem dX8_front_30 : decode cX8_front 30 = .ok (.istore_n 3, 1) := dk_62 (dk_at dksX8_front_1 7 rfl rfl)
theorem dX8_front_31 : decode cX8_front 31 = .ok (.iconst (-1), 1) := dk_2 (dk_at dksX8_front_1 8 rfl rfl)
theorem dX8_front_32 : decode cX8_front 32 = .ok (.istore 4, 2) := dk_54 4 (dk_at dksX8_front_1 9 rfl rfl)
theorem dX8_front_34 : decode cX8_front 34 = .ok (.iconst 0, 1) := dk_3 (dk_at dksX8_front_1 11 rfl rfl)
theorem dX8_front_35 : decode cX8_front 35 = .ok (.istore 5, 2) := dk_54 5 (dk_at dksX8_front_1 12 rfl rfl)
theorem dX8_front_37 : decode cX8_front 37 = .ok (.iload 5, 2) := dk_21 5 (dk_at dksX8_front_1 14 rfl rfl)
theorem dX8_front_39 : decode cX8_front 39 = .ok (.iload_n 3, 1) := dk_29 (dk_at dksX8_front_1 16 rfl rfl)
theorem dX8_front_40 : decode cX8_front 40 = .ok (.if_icmp .gt 50, 3) := dk_163 0 50 (dk_at dksX8_front_1 17 rfl rfl)
theorem dX8_front_43 : decode cX8_front 43 = .ok (.iload 5, 2) := dk_21 5 (dk_at dksX8_front_1 20 rfl rfl)
theorem dX8_front_45 : decode cX8_front 45 = .ok (.iload_n 3, 1) := dk_29 (dk_at dksX8_front_1 22 rfl rfl)
theorem dX8_front_46 : decode cX8_front 46 = .ok (.iconst (-1), 1) := dk_2 (dk_at dksX8_front_1 23 rfl rfl)
theorem dX8_front_47 : decode cX8_front 47 = .ok (.ixor, 1) := dk_130 (dk_at dksX8_front_2 0 rfl rfl)
theorem dX8_front_48 : decode cX8_front 48 = .ok (.iand, 1) := dk_126 (dk_at dksX8_front_2 1 rfl rfl)
theorem dX8_front_49 : decode cX8_front 49 = .ok (.ifCond .ne 35, 3) := dk_154 0 35 (dk_at dksX8_front_2 2 rfl rfl)
theorem dX8_front_52 : decode cX8_front 52 = .ok (.aload_n 0, 1) := dk_42 (dk_at dksX8_front_2 5 rfl rfl)
theorem dX8_front_53 : decode cX8_front 53 = .ok (.iload 5, 2) := dk_21 5 (dk_at dksX8_front_2 6 rfl rfl)
theorem dX8_front_55 : decode cX8_front 55 = .ok (.invokevirtual 492, 3) := dk_182 1 236 (dk_at dksX8_front_2 8 rfl rfl)
theorem dX8_front_58 : decode cX8_front 58 = .ok (.iload_n 1, 1) := dk_27 (dk_at dksX8_front_2 11 rfl rfl)
theorem dX8_front_59 : decode cX8_front 59 = .ok (.if_icmp .lt 25, 3) := dk_161 0 25 (dk_at dksX8_front_2 12 rfl rfl)
theorem dX8_front_62 : decode cX8_front 62 = .ok (.iload 4, 2) := dk_21 4 (dk_at dksX8_front_2 15 rfl rfl)
theorem dX8_front_64 : decode cX8_front 64 = .ok (.ifCond .lt 16, 3) := dk_155 0 16 (dk_at dksX8_front_2 17 rfl rfl)
theorem dX8_front_67 : decode cX8_front 67 = .ok (.iload 5, 2) := dk_21 5 (dk_at dksX8_front_2 20 rfl rfl)
theorem dX8_front_69 : decode cX8_front 69 = .ok (.invokestatic 486, 3) := dk_184 1 230 (dk_at dksX8_front_3 0 rfl rfl)
theorem dX8_front_72 : decode cX8_front 72 = .ok (.iload 4, 2) := dk_21 4 (dk_at dksX8_front_3 3 rfl rfl)
theorem dX8_front_74 : decode cX8_front 74 = .ok (.invokestatic 486, 3) := dk_184 1 230 (dk_at dksX8_front_3 5 rfl rfl)
theorem dX8_front_77 : decode cX8_front 77 = .ok (.if_icmp .ge 7, 3) := dk_162 0 7 (dk_at dksX8_front_3 8 rfl rfl)
theorem dX8_front_80 : decode cX8_front 80 = .ok (.iload 5, 2) := dk_21 5 (dk_at dksX8_front_3 11 rfl rfl)
theorem dX8_front_82 : decode cX8_front 82 = .ok (.istore 4, 2) := dk_54 4 (dk_at dksX8_front_3 13 rfl rfl)
theorem dX8_front_84 : decode cX8_front 84 = .ok (.iinc 5 1, 3) := dk_132 5 1 (dk_at dksX8_front_3 15 rfl rfl)
theorem dX8_front_87 : decode cX8_front 87 = .ok (.goto (-50), 3) := dk_167 255 206 (dk_at dksX8_front_3 18 rfl rfl)
theorem dX8_front_90 : decode cX8_front 90 = .ok (.iload 4, 2) := dk_21 4 (dk_at dksX8_front_3 21 rfl rfl)
theorem dX8_front_92 : decode cX8_front 92 = .ok (.ifCond .ge 7, 3) := dk_156 0 7 (dk_at dksX8_front_4 0 rfl rfl)
theorem dX8_front_95 : decode cX8_front 95 = .ok (.iconst (-1), 1) := dk_2 (dk_at dksX8_front_4 3 rfl rfl)
theorem dX8_front_96 : decode cX8_front 96 = .ok (.goto 17, 3) := dk_167 0 17 (dk_at dksX8_front_4 4 rfl rfl)
theorem dX8_front_99 : decode cX8_front 99 = .ok (.iload_n 2, 1) := dk_28 (dk_at dksX8_front_4 7 rfl rfl)
theorem dX8_front_100 : decode cX8_front 100 = .ok (.ifCond .ne 11, 3) := dk_154 0 11 (dk_at dksX8_front_4 8 rfl rfl)
theorem dX8_front_103 : decode cX8_front 103 = .ok (.iload 4, 2) := dk_21 4 (dk_at dksX8_front_4 11 rfl rfl)
theorem dX8_front_105 : decode cX8_front 105 = .ok (.invokestatic 486, 3) := dk_184 1 230 (dk_at dksX8_front_4 13 rfl rfl)
theorem dX8_front_108 : decode cX8_front 108 = .ok (.goto 5, 3) := dk_167 0 5 (dk_at dksX8_front_4 16 rfl rfl)
theorem dX8_front_111 : decode cX8_front 111 = .ok (.iload 4, 2) := dk_21 4 (dk_at dksX8_front_4 19 rfl rfl)
theorem dX8_front_113 : decode cX8_front 113 = .ok (.ireturn, 1) := dk_172 (dk_at dksX8_front_4 21 rfl rfl)
abbrev cX8_wideOf : ByteArray := prog_20_method_88_code
def yX8_wideOf : MethodName := ⟨RX8, "wideOf", "(I)I"⟩
def dkwX8_wideOf_2 : List UInt8 := [132, 3, 1, 167, 255, 212, 28, 172]
abbrev dktX8_wideOf_2 : List UInt8 := dkwX8_wideOf_2 ++ []
def dkwX8_wideOf_1 : List UInt8 := [180, 0, 96, 16, 18, 42, 180, 0, 96, 16, 6, 29, 96, 46, 96, 46, 167, 0, 4, 3, 96, 61]
abbrev dktX8_wideOf_1 : List UInt8 := dkwX8_wideOf_1 ++ dktX8_wideOf_2
def dkwX8_wideOf_0 : List UInt8 := [3, 61, 3, 62, 29, 42, 180, 1, 131, 162, 0, 42, 28, 27, 29, 122, 4, 126, 4, 160, 0, 23, 42]
abbrev dktX8_wideOf_0 : List UInt8 := dkwX8_wideOf_0 ++ dktX8_wideOf_1
theorem dksX8_wideOf_0 : cX8_wideOf.data.toList.drop 0 = dktX8_wideOf_0 := by decide +kernel
theorem dksX8_wideOf_1 : cX8_wideOf.data.toList.drop 23 = dktX8_wideOf_1 := dk_seg dksX8_wideOf_0 23 rfl rfl
theorem dksX8_wideOf_2 : cX8_wideOf.data.toList.drop 45 = dktX8_wideOf_2 := dk_seg dksX8_wideOf_1 22 rfl rfl
theorem dX8_wideOf_0 : decode cX8_wideOf 0 = .ok (.iconst 0, 1) := dk_3 (dk_at dksX8_wideOf_0 0 rfl rfl)
theorem dX8_wideOf_1 : decode cX8_wideOf 1 = .ok (.istore_n 2, 1) := dk_61 (dk_at dksX8_wideOf_0 1 rfl rfl)
theorem dX8_wideOf_2 : decode cX8_wideOf 2 = .ok (.iconst 0, 1) := dk_3 (dk_at dksX8_wideOf_0 2 rfl rfl)
theorem dX8_wideOf_3 : decode cX8_wideOf 3 = .ok (.istore_n 3, 1) := dk_62 (dk_at dksX8_wideOf_0 3 rfl rfl)
theorem dX8_wideOf_4 : decode cX8_wideOf 4 = .ok (.iload_n 3, 1) := dk_29 (dk_at dksX8_wideOf_0 4 rfl rfl)
theorem dX8_wideOf_5 : decode cX8_wideOf 5 = .ok (.aload_n 0, 1) := dk_42 (dk_at dksX8_wideOf_0 5 rfl rfl)
theorem dX8_wideOf_6 : decode cX8_wideOf 6 = .ok (.getfield 387, 3) := dk_180 1 131 (dk_at dksX8_wideOf_0 6 rfl rfl)
theorem dX8_wideOf_9 : decode cX8_wideOf 9 = .ok (.if_icmp .ge 42, 3) := dk_162 0 42 (dk_at dksX8_wideOf_0 9 rfl rfl)
theorem dX8_wideOf_12 : decode cX8_wideOf 12 = .ok (.iload_n 2, 1) := dk_28 (dk_at dksX8_wideOf_0 12 rfl rfl)
theorem dX8_wideOf_13 : decode cX8_wideOf 13 = .ok (.iload_n 1, 1) := dk_27 (dk_at dksX8_wideOf_0 13 rfl rfl)
theorem dX8_wideOf_14 : decode cX8_wideOf 14 = .ok (.iload_n 3, 1) := dk_29 (dk_at dksX8_wideOf_0 14 rfl rfl)
theorem dX8_wideOf_15 : decode cX8_wideOf 15 = .ok (.ishr, 1) := dk_122 (dk_at dksX8_wideOf_0 15 rfl rfl)
theorem dX8_wideOf_16 : decode cX8_wideOf 16 = .ok (.iconst 1, 1) := dk_4 (dk_at dksX8_wideOf_0 16 rfl rfl)
theorem dX8_wideOf_17 : decode cX8_wideOf 17 = .ok (.iand, 1) := dk_126 (dk_at dksX8_wideOf_0 17 rfl rfl)
theorem dX8_wideOf_18 : decode cX8_wideOf 18 = .ok (.iconst 1, 1) := dk_4 (dk_at dksX8_wideOf_0 18 rfl rfl)
theorem dX8_wideOf_19 : decode cX8_wideOf 19 = .ok (.if_icmp .ne 23, 3) := dk_160 0 23 (dk_at dksX8_wideOf_0 19 rfl rfl)
theorem dX8_wideOf_22 : decode cX8_wideOf 22 = .ok (.aload_n 0, 1) := dk_42 (dk_at dksX8_wideOf_0 22 rfl rfl)
theorem dX8_wideOf_23 : decode cX8_wideOf 23 = .ok (.getfield 96, 3) := dk_180 0 96 (dk_at dksX8_wideOf_1 0 rfl rfl)
theorem dX8_wideOf_26 : decode cX8_wideOf 26 = .ok (.bipush 18, 2) := dk_16 18 (dk_at dksX8_wideOf_1 3 rfl rfl)
theorem dX8_wideOf_28 : decode cX8_wideOf 28 = .ok (.aload_n 0, 1) := dk_42 (dk_at dksX8_wideOf_1 5 rfl rfl)
theorem dX8_wideOf_29 : decode cX8_wideOf 29 = .ok (.getfield 96, 3) := dk_180 0 96 (dk_at dksX8_wideOf_1 6 rfl rfl)
theorem dX8_wideOf_32 : decode cX8_wideOf 32 = .ok (.bipush 6, 2) := dk_16 6 (dk_at dksX8_wideOf_1 9 rfl rfl)
theorem dX8_wideOf_34 : decode cX8_wideOf 34 = .ok (.iload_n 3, 1) := dk_29 (dk_at dksX8_wideOf_1 11 rfl rfl)
theorem dX8_wideOf_35 : decode cX8_wideOf 35 = .ok (.iadd, 1) := dk_96 (dk_at dksX8_wideOf_1 12 rfl rfl)
theorem dX8_wideOf_36 : decode cX8_wideOf 36 = .ok (.iaload, 1) := dk_46 (dk_at dksX8_wideOf_1 13 rfl rfl)
theorem dX8_wideOf_37 : decode cX8_wideOf 37 = .ok (.iadd, 1) := dk_96 (dk_at dksX8_wideOf_1 14 rfl rfl)
theorem dX8_wideOf_38 : decode cX8_wideOf 38 = .ok (.iaload, 1) := dk_46 (dk_at dksX8_wideOf_1 15 rfl rfl)
theorem dX8_wideOf_39 : decode cX8_wideOf 39 = .ok (.goto 4, 3) := dk_167 0 4 (dk_at dksX8_wideOf_1 16 rfl rfl)
theorem dX8_wideOf_42 : decode cX8_wideOf 42 = .ok (.iconst 0, 1) := dk_3 (dk_at dksX8_wideOf_1 19 rfl rfl)
theorem dX8_wideOf_43 : decode cX8_wideOf 43 = .ok (.iadd, 1) := dk_96 (dk_at dksX8_wideOf_1 20 rfl rfl)
theorem dX8_wideOf_44 : decode cX8_wideOf 44 = .ok (.istore_n 2, 1) := dk_61 (dk_at dksX8_wideOf_1 21 rfl rfl)
theorem dX8_wideOf_45 : decode cX8_wideOf 45 = .ok (.iinc 3 1, 3) := dk_132 3 1 (dk_at dksX8_wideOf_2 0 rfl rfl)
theorem dX8_wideOf_48 : decode cX8_wideOf 48 = .ok (.goto (-44), 3) := dk_167 255 212 (dk_at dksX8_wideOf_2 3 rfl rfl)
theorem dX8_wideOf_51 : decode cX8_wideOf 51 = .ok (.iload_n 2, 1) := dk_28 (dk_at dksX8_wideOf_2 6 rfl rfl)
theorem dX8_wideOf_52 : decode cX8_wideOf 52 = .ok (.ireturn, 1) := dk_172 (dk_at dksX8_wideOf_2 7 rfl rfl)
abbrev cX8_wings : ByteArray := prog_20_method_90_code
def yX8_wings : MethodName := ⟨RX8, "wings", "(I)I"⟩
def dkwX8_wings_6 : List UInt8 := [54, 5, 21, 6, 54, 4, 132, 6, 1, 167, 255, 173, 27, 154, 0, 8, 21, 5, 167, 0, 5, 21, 4, 172]
abbrev dktX8_wings_6 : List UInt8 := dkwX8_wings_6 ++ []
def dkwX8_wings_5 : List UInt8 := [21, 5, 163, 0, 28, 21, 7, 21, 5, 160, 0, 13, 21, 6, 21, 4, 161, 0, 6, 167, 0, 11, 21, 7]
abbrev dktX8_wings_5 : List UInt8 := dkwX8_wings_5 ++ dktX8_wings_6
def dkwX8_wings_4 : List UInt8 := [21, 6, 182, 1, 236, 42, 28, 21, 6, 2, 130, 126, 182, 1, 236, 100, 184, 1, 239, 54, 7, 21, 7]
abbrev dktX8_wings_4 : List UInt8 := dkwX8_wings_4 ++ dktX8_wings_5
def dkwX8_wings_3 : List UInt8 := [163, 0, 83, 21, 6, 28, 2, 130, 126, 154, 0, 68, 21, 6, 29, 126, 29, 159, 0, 6, 167, 0, 57, 42]
abbrev dktX8_wings_3 : List UInt8 := dkwX8_wings_3 ++ dktX8_wings_4
def dkwX8_wings_2 : List UInt8 := [29, 62, 132, 4, 255, 167, 255, 229, 28, 54, 4, 42, 28, 182, 1, 236, 54, 5, 3, 54, 6, 21, 6, 28]
abbrev dktX8_wings_2 : List UInt8 := dkwX8_wings_2 ++ dktX8_wings_3
def dkwX8_wings_1 : List UInt8 := [54, 4, 21, 4, 155, 0, 28, 28, 21, 4, 122, 4, 126, 4, 160, 0, 10, 4, 21, 4, 120, 167, 0, 4]
abbrev dktX8_wings_1 : List UInt8 := dkwX8_wings_1 ++ dktX8_wings_2
def dkwX8_wings_0 : List UInt8 := [27, 3, 4, 184, 1, 161, 154, 0, 5, 2, 172, 42, 182, 1, 193, 42, 182, 1, 184, 61, 3, 62, 8]
abbrev dktX8_wings_0 : List UInt8 := dkwX8_wings_0 ++ dktX8_wings_1
theorem dksX8_wings_0 : cX8_wings.data.toList.drop 0 = dktX8_wings_0 := by decide +kernel
theorem dksX8_wings_1 : cX8_wings.data.toList.drop 23 = dktX8_wings_1 := dk_seg dksX8_wings_0 23 rfl rfl
theorem dksX8_wings_2 : cX8_wings.data.toList.drop 47 = dktX8_wings_2 := dk_seg dksX8_wings_1 24 rfl rfl
theorem dksX8_wings_3 : cX8_wings.data.toList.drop 71 = dktX8_wings_3 := dk_seg dksX8_wings_2 24 rfl rfl
theorem dksX8_wings_4 : cX8_wings.data.toList.drop 95 = dktX8_wings_4 := dk_seg dksX8_wings_3 24 rfl rfl
theorem dksX8_wings_5 : cX8_wings.data.toList.drop 118 = dktX8_wings_5 := dk_seg dksX8_wings_4 23 rfl rfl
theorem dksX8_wings_6 : cX8_wings.data.toList.drop 142 = dktX8_wings_6 := dk_seg dksX8_wings_5 24 rfl rfl
theorem dX8_wings_0 : decode cX8_wings 0 = .ok (.iload_n 1, 1) := dk_27 (dk_at dksX8_wings_0 0 rfl rfl)
theorem dX8_wings_1 : decode cX8_wings 1 = .ok (.iconst 0, 1) := dk_3 (dk_at dksX8_wings_0 1 rfl rfl)
theorem dX8_wings_2 : decode cX8_wings 2 = .ok (.iconst 1, 1) := dk_4 (dk_at dksX8_wings_0 2 rfl rfl)
theorem dX8_wings_3 : decode cX8_wings 3 = .ok (.invokestatic 417, 3) := dk_184 1 161 (dk_at dksX8_wings_0 3 rfl rfl)
theorem dX8_wings_6 : decode cX8_wings 6 = .ok (.ifCond .ne 5, 3) := dk_154 0 5 (dk_at dksX8_wings_0 6 rfl rfl)
theorem dX8_wings_9 : decode cX8_wings 9 = .ok (.iconst (-1), 1) := dk_2 (dk_at dksX8_wings_0 9 rfl rfl)
theorem dX8_wings_10 : decode cX8_wings 10 = .ok (.ireturn, 1) := dk_172 (dk_at dksX8_wings_0 10 rfl rfl)
theorem dX8_wings_11 : decode cX8_wings 11 = .ok (.aload_n 0, 1) := dk_42 (dk_at dksX8_wings_0 11 rfl rfl)
theorem dX8_wings_12 : decode cX8_wings 12 = .ok (.invokevirtual 449, 3) := dk_182 1 193 (dk_at dksX8_wings_0 12 rfl rfl)
theorem dX8_wings_15 : decode cX8_wings 15 = .ok (.aload_n 0, 1) := dk_42 (dk_at dksX8_wings_0 15 rfl rfl)
theorem dX8_wings_16 : decode cX8_wings 16 = .ok (.invokevirtual 440, 3) := dk_182 1 184 (dk_at dksX8_wings_0 16 rfl rfl)
theorem dX8_wings_19 : decode cX8_wings 19 = .ok (.istore_n 2, 1) := dk_61 (dk_at dksX8_wings_0 19 rfl rfl)
theorem dX8_wings_20 : decode cX8_wings 20 = .ok (.iconst 0, 1) := dk_3 (dk_at dksX8_wings_0 20 rfl rfl)
theorem dX8_wings_21 : decode cX8_wings 21 = .ok (.istore_n 3, 1) := dk_62 (dk_at dksX8_wings_0 21 rfl rfl)
theorem dX8_wings_22 : decode cX8_wings 22 = .ok (.iconst 5, 1) := dk_8 (dk_at dksX8_wings_0 22 rfl rfl)
theorem dX8_wings_23 : decode cX8_wings 23 = .ok (.istore 4, 2) := dk_54 4 (dk_at dksX8_wings_1 0 rfl rfl)
theorem dX8_wings_25 : decode cX8_wings 25 = .ok (.iload 4, 2) := dk_21 4 (dk_at dksX8_wings_1 2 rfl rfl)
theorem dX8_wings_27 : decode cX8_wings 27 = .ok (.ifCond .lt 28, 3) := dk_155 0 28 (dk_at dksX8_wings_1 4 rfl rfl)
theorem dX8_wings_30 : decode cX8_wings 30 = .ok (.iload_n 2, 1) := dk_28 (dk_at dksX8_wings_1 7 rfl rfl)
theorem dX8_wings_31 : decode cX8_wings 31 = .ok (.iload 4, 2) := dk_21 4 (dk_at dksX8_wings_1 8 rfl rfl)
theorem dX8_wings_33 : decode cX8_wings 33 = .ok (.ishr, 1) := dk_122 (dk_at dksX8_wings_1 10 rfl rfl)
theorem dX8_wings_34 : decode cX8_wings 34 = .ok (.iconst 1, 1) := dk_4 (dk_at dksX8_wings_1 11 rfl rfl)
theorem dX8_wings_35 : decode cX8_wings 35 = .ok (.iand, 1) := dk_126 (dk_at dksX8_wings_1 12 rfl rfl)
theorem dX8_wings_36 : decode cX8_wings 36 = .ok (.iconst 1, 1) := dk_4 (dk_at dksX8_wings_1 13 rfl rfl)
theorem dX8_wings_37 : decode cX8_wings 37 = .ok (.if_icmp .ne 10, 3) := dk_160 0 10 (dk_at dksX8_wings_1 14 rfl rfl)
theorem dX8_wings_40 : decode cX8_wings 40 = .ok (.iconst 1, 1) := dk_4 (dk_at dksX8_wings_1 17 rfl rfl)
theorem dX8_wings_41 : decode cX8_wings 41 = .ok (.iload 4, 2) := dk_21 4 (dk_at dksX8_wings_1 18 rfl rfl)
theorem dX8_wings_43 : decode cX8_wings 43 = .ok (.ishl, 1) := dk_120 (dk_at dksX8_wings_1 20 rfl rfl)
theorem dX8_wings_44 : decode cX8_wings 44 = .ok (.goto 4, 3) := dk_167 0 4 (dk_at dksX8_wings_1 21 rfl rfl)
theorem dX8_wings_47 : decode cX8_wings 47 = .ok (.iload_n 3, 1) := dk_29 (dk_at dksX8_wings_2 0 rfl rfl)
theorem dX8_wings_48 : decode cX8_wings 48 = .ok (.istore_n 3, 1) := dk_62 (dk_at dksX8_wings_2 1 rfl rfl)
theorem dX8_wings_49 : decode cX8_wings 49 = .ok (.iinc 4 (-1), 3) := dk_132 4 255 (dk_at dksX8_wings_2 2 rfl rfl)
theorem dX8_wings_52 : decode cX8_wings 52 = .ok (.goto (-27), 3) := dk_167 255 229 (dk_at dksX8_wings_2 5 rfl rfl)
theorem dX8_wings_55 : decode cX8_wings 55 = .ok (.iload_n 2, 1) := dk_28 (dk_at dksX8_wings_2 8 rfl rfl)
theorem dX8_wings_56 : decode cX8_wings 56 = .ok (.istore 4, 2) := dk_54 4 (dk_at dksX8_wings_2 9 rfl rfl)
theorem dX8_wings_58 : decode cX8_wings 58 = .ok (.aload_n 0, 1) := dk_42 (dk_at dksX8_wings_2 11 rfl rfl)
theorem dX8_wings_59 : decode cX8_wings 59 = .ok (.iload_n 2, 1) := dk_28 (dk_at dksX8_wings_2 12 rfl rfl)
theorem dX8_wings_60 : decode cX8_wings 60 = .ok (.invokevirtual 492, 3) := dk_182 1 236 (dk_at dksX8_wings_2 13 rfl rfl)
theorem dX8_wings_63 : decode cX8_wings 63 = .ok (.istore 5, 2) := dk_54 5 (dk_at dksX8_wings_2 16 rfl rfl)
theorem dX8_wings_65 : decode cX8_wings 65 = .ok (.iconst 0, 1) := dk_3 (dk_at dksX8_wings_2 18 rfl rfl)
theorem dX8_wings_66 : decode cX8_wings 66 = .ok (.istore 6, 2) := dk_54 6 (dk_at dksX8_wings_2 19 rfl rfl)
theorem dX8_wings_68 : decode cX8_wings 68 = .ok (.iload 6, 2) := dk_21 6 (dk_at dksX8_wings_2 21 rfl rfl)
theorem dX8_wings_70 : decode cX8_wings 70 = .ok (.iload_n 2, 1) := dk_28 (dk_at dksX8_wings_2 23 rfl rfl)
theorem dX8_wings_71 : decode cX8_wings 71 = .ok (.if_icmp .gt 83, 3) := dk_163 0 83 (dk_at dksX8_wings_3 0 rfl rfl)
theorem dX8_wings_74 : decode cX8_wings 74 = .ok (.iload 6, 2) := dk_21 6 (dk_at dksX8_wings_3 3 rfl rfl)
theorem dX8_wings_76 : decode cX8_wings 76 = .ok (.iload_n 2, 1) := dk_28 (dk_at dksX8_wings_3 5 rfl rfl)
theorem dX8_wings_77 : decode cX8_wings 77 = .ok (.iconst (-1), 1) := dk_2 (dk_at dksX8_wings_3 6 rfl rfl)
theorem dX8_wings_78 : decode cX8_wings 78 = .ok (.ixor, 1) := dk_130 (dk_at dksX8_wings_3 7 rfl rfl)
theorem dX8_wings_79 : decode cX8_wings 79 = .ok (.iand, 1) := dk_126 (dk_at dksX8_wings_3 8 rfl rfl)
theorem dX8_wings_80 : decode cX8_wings 80 = .ok (.ifCond .ne 68, 3) := dk_154 0 68 (dk_at dksX8_wings_3 9 rfl rfl)
theorem dX8_wings_83 : decode cX8_wings 83 = .ok (.iload 6, 2) := dk_21 6 (dk_at dksX8_wings_3 12 rfl rfl)
theorem dX8_wings_85 : decode cX8_wings 85 = .ok (.iload_n 3, 1) := dk_29 (dk_at dksX8_wings_3 14 rfl rfl)
theorem dX8_wings_86 : decode cX8_wings 86 = .ok (.iand, 1) := dk_126 (dk_at dksX8_wings_3 15 rfl rfl)
theorem dX8_wings_87 : decode cX8_wings 87 = .ok (.iload_n 3, 1) := dk_29 (dk_at dksX8_wings_3 16 rfl rfl)
theorem dX8_wings_88 : decode cX8_wings 88 = .ok (.if_icmp .eq 6, 3) := dk_159 0 6 (dk_at dksX8_wings_3 17 rfl rfl)
theorem dX8_wings_91 : decode cX8_wings 91 = .ok (.goto 57, 3) := dk_167 0 57 (dk_at dksX8_wings_3 20 rfl rfl)
theorem dX8_wings_94 : decode cX8_wings 94 = .ok (.aload_n 0, 1) := dk_42 (dk_at dksX8_wings_3 23 rfl rfl)
theorem dX8_wings_95 : decode cX8_wings 95 = .ok (.iload 6, 2) := dk_21 6 (dk_at dksX8_wings_4 0 rfl rfl)
theorem dX8_wings_97 : decode cX8_wings 97 = .ok (.invokevirtual 492, 3) := dk_182 1 236 (dk_at dksX8_wings_4 2 rfl rfl)
theorem dX8_wings_100 : decode cX8_wings 100 = .ok (.aload_n 0, 1) := dk_42 (dk_at dksX8_wings_4 5 rfl rfl)
theorem dX8_wings_101 : decode cX8_wings 101 = .ok (.iload_n 2, 1) := dk_28 (dk_at dksX8_wings_4 6 rfl rfl)
theorem dX8_wings_102 : decode cX8_wings 102 = .ok (.iload 6, 2) := dk_21 6 (dk_at dksX8_wings_4 7 rfl rfl)
theorem dX8_wings_104 : decode cX8_wings 104 = .ok (.iconst (-1), 1) := dk_2 (dk_at dksX8_wings_4 9 rfl rfl)
theorem dX8_wings_105 : decode cX8_wings 105 = .ok (.ixor, 1) := dk_130 (dk_at dksX8_wings_4 10 rfl rfl)
theorem dX8_wings_106 : decode cX8_wings 106 = .ok (.iand, 1) := dk_126 (dk_at dksX8_wings_4 11 rfl rfl)
theorem dX8_wings_107 : decode cX8_wings 107 = .ok (.invokevirtual 492, 3) := dk_182 1 236 (dk_at dksX8_wings_4 12 rfl rfl)
theorem dX8_wings_110 : decode cX8_wings 110 = .ok (.isub, 1) := dk_100 (dk_at dksX8_wings_4 15 rfl rfl)
theorem dX8_wings_111 : decode cX8_wings 111 = .ok (.invokestatic 495, 3) := dk_184 1 239 (dk_at dksX8_wings_4 16 rfl rfl)
theorem dX8_wings_114 : decode cX8_wings 114 = .ok (.istore 7, 2) := dk_54 7 (dk_at dksX8_wings_4 19 rfl rfl)
theorem dX8_wings_116 : decode cX8_wings 116 = .ok (.iload 7, 2) := dk_21 7 (dk_at dksX8_wings_4 21 rfl rfl)
theorem dX8_wings_118 : decode cX8_wings 118 = .ok (.iload 5, 2) := dk_21 5 (dk_at dksX8_wings_5 0 rfl rfl)
theorem dX8_wings_120 : decode cX8_wings 120 = .ok (.if_icmp .gt 28, 3) := dk_163 0 28 (dk_at dksX8_wings_5 2 rfl rfl)
theorem dX8_wings_123 : decode cX8_wings 123 = .ok (.iload 7, 2) := dk_21 7 (dk_at dksX8_wings_5 5 rfl rfl)
theorem dX8_wings_125 : decode cX8_wings 125 = .ok (.iload 5, 2) := dk_21 5 (dk_at dksX8_wings_5 7 rfl rfl)
theorem dX8_wings_127 : decode cX8_wings 127 = .ok (.if_icmp .ne 13, 3) := dk_160 0 13 (dk_at dksX8_wings_5 9 rfl rfl)
theorem dX8_wings_130 : decode cX8_wings 130 = .ok (.iload 6, 2) := dk_21 6 (dk_at dksX8_wings_5 12 rfl rfl)
theorem dX8_wings_132 : decode cX8_wings 132 = .ok (.iload 4, 2) := dk_21 4 (dk_at dksX8_wings_5 14 rfl rfl)
theorem dX8_wings_134 : decode cX8_wings 134 = .ok (.if_icmp .lt 6, 3) := dk_161 0 6 (dk_at dksX8_wings_5 16 rfl rfl)
theorem dX8_wings_137 : decode cX8_wings 137 = .ok (.goto 11, 3) := dk_167 0 11 (dk_at dksX8_wings_5 19 rfl rfl)
theorem dX8_wings_140 : decode cX8_wings 140 = .ok (.iload 7, 2) := dk_21 7 (dk_at dksX8_wings_5 22 rfl rfl)
theorem dX8_wings_142 : decode cX8_wings 142 = .ok (.istore 5, 2) := dk_54 5 (dk_at dksX8_wings_6 0 rfl rfl)
theorem dX8_wings_144 : decode cX8_wings 144 = .ok (.iload 6, 2) := dk_21 6 (dk_at dksX8_wings_6 2 rfl rfl)
theorem dX8_wings_146 : decode cX8_wings 146 = .ok (.istore 4, 2) := dk_54 4 (dk_at dksX8_wings_6 4 rfl rfl)
theorem dX8_wings_148 : decode cX8_wings 148 = .ok (.iinc 6 1, 3) := dk_132 6 1 (dk_at dksX8_wings_6 6 rfl rfl)
theorem dX8_wings_151 : decode cX8_wings 151 = .ok (.goto (-83), 3) := dk_167 255 173 (dk_at dksX8_wings_6 9 rfl rfl)
theorem dX8_wings_154 : decode cX8_wings 154 = .ok (.iload_n 1, 1) := dk_27 (dk_at dksX8_wings_6 12 rfl rfl)
theorem dX8_wings_155 : decode cX8_wings 155 = .ok (.ifCond .ne 8, 3) := dk_154 0 8 (dk_at dksX8_wings_6 13 rfl rfl)
theorem dX8_wings_158 : decode cX8_wings 158 = .ok (.iload 5, 2) := dk_21 5 (dk_at dksX8_wings_6 16 rfl rfl)
theorem dX8_wings_160 : decode cX8_wings 160 = .ok (.goto 5, 3) := dk_167 0 5 (dk_at dksX8_wings_6 18 rfl rfl)
theorem dX8_wings_163 : decode cX8_wings 163 = .ok (.iload 4, 2) := dk_21 4 (dk_at dksX8_wings_6 21 rfl rfl)
theorem dX8_wings_165 : decode cX8_wings 165 = .ok (.ireturn, 1) := dk_172 (dk_at dksX8_wings_6 23 rfl rfl)
abbrev cX8_plain : ByteArray := prog_20_method_37_code
def yX8_plain : MethodName := ⟨RX8, "plain", "(I)I"⟩
def dkwX8_plain_0 : List UInt8 := [26, 156, 0, 8, 26, 116, 167, 0, 4, 26, 172]
abbrev dktX8_plain_0 : List UInt8 := dkwX8_plain_0 ++ []
theorem dksX8_plain_0 : cX8_plain.data.toList.drop 0 = dktX8_plain_0 := by decide +kernel
theorem dX8_plain_0 : decode cX8_plain 0 = .ok (.iload_n 0, 1) := dk_26 (dk_at dksX8_plain_0 0 rfl rfl)
theorem dX8_plain_1 : decode cX8_plain 1 = .ok (.ifCond .ge 8, 3) := dk_156 0 8 (dk_at dksX8_plain_0 1 rfl rfl)
theorem dX8_plain_4 : decode cX8_plain 4 = .ok (.iload_n 0, 1) := dk_26 (dk_at dksX8_plain_0 4 rfl rfl)
theorem dX8_plain_5 : decode cX8_plain 5 = .ok (.ineg, 1) := dk_116 (dk_at dksX8_plain_0 5 rfl rfl)
theorem dX8_plain_6 : decode cX8_plain 6 = .ok (.goto 4, 3) := dk_167 0 4 (dk_at dksX8_plain_0 6 rfl rfl)
theorem dX8_plain_9 : decode cX8_plain 9 = .ok (.iload_n 0, 1) := dk_26 (dk_at dksX8_plain_0 9 rfl rfl)
theorem dX8_plain_10 : decode cX8_plain 10 = .ok (.ireturn, 1) := dk_172 (dk_at dksX8_plain_0 10 rfl rfl)
abbrev cX8_cloth : ByteArray := prog_20_method_92_code
def yX8_cloth : MethodName := ⟨RX8, "cloth", "()I"⟩
def dkwX8_cloth_4 : List UInt8 := [180, 1, 134, 120, 4, 100, 46, 60, 27, 19, 1, 242, 161, 0, 7, 2, 167, 0, 4, 27, 172]
abbrev dktX8_cloth_4 : List UInt8 := dkwX8_cloth_4 ++ []
def dkwX8_cloth_3 : List UInt8 := [184, 1, 175, 79, 132, 2, 1, 167, 255, 209, 132, 1, 1, 167, 255, 182, 42, 180, 0, 111, 4, 42]
abbrev dktX8_cloth_3 : List UInt8 := dkwX8_cloth_3 ++ dktX8_cloth_4
def dkwX8_cloth_2 : List UInt8 := [42, 180, 0, 111, 27, 46, 42, 28, 182, 1, 243, 42, 180, 0, 111, 27, 28, 2, 130, 126, 46, 96]
abbrev dktX8_cloth_2 : List UInt8 := dkwX8_cloth_2 ++ dktX8_cloth_3
def dkwX8_cloth_1 : List UInt8 := [19, 1, 242, 79, 4, 61, 28, 27, 163, 0, 48, 28, 27, 2, 130, 126, 154, 0, 34, 42, 180, 0, 111, 27]
abbrev dktX8_cloth_1 : List UInt8 := dkwX8_cloth_1 ++ dktX8_cloth_2
def dkwX8_cloth_0 : List UInt8 := [42, 180, 0, 111, 3, 3, 79, 4, 60, 27, 4, 42, 180, 1, 134, 120, 162, 0, 70, 42, 180, 0, 111, 27]
abbrev dktX8_cloth_0 : List UInt8 := dkwX8_cloth_0 ++ dktX8_cloth_1
theorem dksX8_cloth_0 : cX8_cloth.data.toList.drop 0 = dktX8_cloth_0 := by decide +kernel
theorem dksX8_cloth_1 : cX8_cloth.data.toList.drop 24 = dktX8_cloth_1 := dk_seg dksX8_cloth_0 24 rfl rfl
theorem dksX8_cloth_2 : cX8_cloth.data.toList.drop 48 = dktX8_cloth_2 := dk_seg dksX8_cloth_1 24 rfl rfl
theorem dksX8_cloth_3 : cX8_cloth.data.toList.drop 70 = dktX8_cloth_3 := dk_seg dksX8_cloth_2 22 rfl rfl
theorem dksX8_cloth_4 : cX8_cloth.data.toList.drop 92 = dktX8_cloth_4 := dk_seg dksX8_cloth_3 22 rfl rfl
theorem dX8_cloth_0 : decode cX8_cloth 0 = .ok (.aload_n 0, 1) := dk_42 (dk_at dksX8_cloth_0 0 rfl rfl)
theorem dX8_cloth_1 : decode cX8_cloth 1 = .ok (.getfield 111, 3) := dk_180 0 111 (dk_at dksX8_cloth_0 1 rfl rfl)
theorem dX8_cloth_4 : decode cX8_cloth 4 = .ok (.iconst 0, 1) := dk_3 (dk_at dksX8_cloth_0 4 rfl rfl)
theorem dX8_cloth_5 : decode cX8_cloth 5 = .ok (.iconst 0, 1) := dk_3 (dk_at dksX8_cloth_0 5 rfl rfl)
theorem dX8_cloth_6 : decode cX8_cloth 6 = .ok (.iastore, 1) := dk_79 (dk_at dksX8_cloth_0 6 rfl rfl)
theorem dX8_cloth_7 : decode cX8_cloth 7 = .ok (.iconst 1, 1) := dk_4 (dk_at dksX8_cloth_0 7 rfl rfl)
theorem dX8_cloth_8 : decode cX8_cloth 8 = .ok (.istore_n 1, 1) := dk_60 (dk_at dksX8_cloth_0 8 rfl rfl)
theorem dX8_cloth_9 : decode cX8_cloth 9 = .ok (.iload_n 1, 1) := dk_27 (dk_at dksX8_cloth_0 9 rfl rfl)
theorem dX8_cloth_10 : decode cX8_cloth 10 = .ok (.iconst 1, 1) := dk_4 (dk_at dksX8_cloth_0 10 rfl rfl)
theorem dX8_cloth_11 : decode cX8_cloth 11 = .ok (.aload_n 0, 1) := dk_42 (dk_at dksX8_cloth_0 11 rfl rfl)
theorem dX8_cloth_12 : decode cX8_cloth 12 = .ok (.getfield 390, 3) := dk_180 1 134 (dk_at dksX8_cloth_0 12 rfl rfl)
theorem dX8_cloth_15 : decode cX8_cloth 15 = .ok (.ishl, 1) := dk_120 (dk_at dksX8_cloth_0 15 rfl rfl)
theorem dX8_cloth_16 : decode cX8_cloth 16 = .ok (.if_icmp .ge 70, 3) := dk_162 0 70 (dk_at dksX8_cloth_0 16 rfl rfl)
theorem dX8_cloth_19 : decode cX8_cloth 19 = .ok (.aload_n 0, 1) := dk_42 (dk_at dksX8_cloth_0 19 rfl rfl)
theorem dX8_cloth_20 : decode cX8_cloth 20 = .ok (.getfield 111, 3) := dk_180 0 111 (dk_at dksX8_cloth_0 20 rfl rfl)
theorem dX8_cloth_23 : decode cX8_cloth 23 = .ok (.iload_n 1, 1) := dk_27 (dk_at dksX8_cloth_0 23 rfl rfl)
theorem dX8_cloth_24 : decode cX8_cloth 24 = .ok (.ldc_w 498, 3) := dk_19 1 242 (dk_at dksX8_cloth_1 0 rfl rfl)
theorem dX8_cloth_27 : decode cX8_cloth 27 = .ok (.iastore, 1) := dk_79 (dk_at dksX8_cloth_1 3 rfl rfl)
theorem dX8_cloth_28 : decode cX8_cloth 28 = .ok (.iconst 1, 1) := dk_4 (dk_at dksX8_cloth_1 4 rfl rfl)
theorem dX8_cloth_29 : decode cX8_cloth 29 = .ok (.istore_n 2, 1) := dk_61 (dk_at dksX8_cloth_1 5 rfl rfl)
theorem dX8_cloth_30 : decode cX8_cloth 30 = .ok (.iload_n 2, 1) := dk_28 (dk_at dksX8_cloth_1 6 rfl rfl)
theorem dX8_cloth_31 : decode cX8_cloth 31 = .ok (.iload_n 1, 1) := dk_27 (dk_at dksX8_cloth_1 7 rfl rfl)
theorem dX8_cloth_32 : decode cX8_cloth 32 = .ok (.if_icmp .gt 48, 3) := dk_163 0 48 (dk_at dksX8_cloth_1 8 rfl rfl)
theorem dX8_cloth_35 : decode cX8_cloth 35 = .ok (.iload_n 2, 1) := dk_28 (dk_at dksX8_cloth_1 11 rfl rfl)
theorem dX8_cloth_36 : decode cX8_cloth 36 = .ok (.iload_n 1, 1) := dk_27 (dk_at dksX8_cloth_1 12 rfl rfl)
theorem dX8_cloth_37 : decode cX8_cloth 37 = .ok (.iconst (-1), 1) := dk_2 (dk_at dksX8_cloth_1 13 rfl rfl)
theorem dX8_cloth_38 : decode cX8_cloth 38 = .ok (.ixor, 1) := dk_130 (dk_at dksX8_cloth_1 14 rfl rfl)
theorem dX8_cloth_39 : decode cX8_cloth 39 = .ok (.iand, 1) := dk_126 (dk_at dksX8_cloth_1 15 rfl rfl)
theorem dX8_cloth_40 : decode cX8_cloth 40 = .ok (.ifCond .ne 34, 3) := dk_154 0 34 (dk_at dksX8_cloth_1 16 rfl rfl)
theorem dX8_cloth_43 : decode cX8_cloth 43 = .ok (.aload_n 0, 1) := dk_42 (dk_at dksX8_cloth_1 19 rfl rfl)
theorem dX8_cloth_44 : decode cX8_cloth 44 = .ok (.getfield 111, 3) := dk_180 0 111 (dk_at dksX8_cloth_1 20 rfl rfl)
theorem dX8_cloth_47 : decode cX8_cloth 47 = .ok (.iload_n 1, 1) := dk_27 (dk_at dksX8_cloth_1 23 rfl rfl)
theorem dX8_cloth_48 : decode cX8_cloth 48 = .ok (.aload_n 0, 1) := dk_42 (dk_at dksX8_cloth_2 0 rfl rfl)
theorem dX8_cloth_49 : decode cX8_cloth 49 = .ok (.getfield 111, 3) := dk_180 0 111 (dk_at dksX8_cloth_2 1 rfl rfl)
theorem dX8_cloth_52 : decode cX8_cloth 52 = .ok (.iload_n 1, 1) := dk_27 (dk_at dksX8_cloth_2 4 rfl rfl)
theorem dX8_cloth_53 : decode cX8_cloth 53 = .ok (.iaload, 1) := dk_46 (dk_at dksX8_cloth_2 5 rfl rfl)
theorem dX8_cloth_54 : decode cX8_cloth 54 = .ok (.aload_n 0, 1) := dk_42 (dk_at dksX8_cloth_2 6 rfl rfl)
theorem dX8_cloth_55 : decode cX8_cloth 55 = .ok (.iload_n 2, 1) := dk_28 (dk_at dksX8_cloth_2 7 rfl rfl)
theorem dX8_cloth_56 : decode cX8_cloth 56 = .ok (.invokevirtual 499, 3) := dk_182 1 243 (dk_at dksX8_cloth_2 8 rfl rfl)
theorem dX8_cloth_59 : decode cX8_cloth 59 = .ok (.aload_n 0, 1) := dk_42 (dk_at dksX8_cloth_2 11 rfl rfl)
theorem dX8_cloth_60 : decode cX8_cloth 60 = .ok (.getfield 111, 3) := dk_180 0 111 (dk_at dksX8_cloth_2 12 rfl rfl)
theorem dX8_cloth_63 : decode cX8_cloth 63 = .ok (.iload_n 1, 1) := dk_27 (dk_at dksX8_cloth_2 15 rfl rfl)
theorem dX8_cloth_64 : decode cX8_cloth 64 = .ok (.iload_n 2, 1) := dk_28 (dk_at dksX8_cloth_2 16 rfl rfl)
theorem dX8_cloth_65 : decode cX8_cloth 65 = .ok (.iconst (-1), 1) := dk_2 (dk_at dksX8_cloth_2 17 rfl rfl)
theorem dX8_cloth_66 : decode cX8_cloth 66 = .ok (.ixor, 1) := dk_130 (dk_at dksX8_cloth_2 18 rfl rfl)
theorem dX8_cloth_67 : decode cX8_cloth 67 = .ok (.iand, 1) := dk_126 (dk_at dksX8_cloth_2 19 rfl rfl)
theorem dX8_cloth_68 : decode cX8_cloth 68 = .ok (.iaload, 1) := dk_46 (dk_at dksX8_cloth_2 20 rfl rfl)
theorem dX8_cloth_69 : decode cX8_cloth 69 = .ok (.iadd, 1) := dk_96 (dk_at dksX8_cloth_2 21 rfl rfl)
theorem dX8_cloth_70 : decode cX8_cloth 70 = .ok (.invokestatic 431, 3) := dk_184 1 175 (dk_at dksX8_cloth_3 0 rfl rfl)
theorem dX8_cloth_73 : decode cX8_cloth 73 = .ok (.iastore, 1) := dk_79 (dk_at dksX8_cloth_3 3 rfl rfl)
theorem dX8_cloth_74 : decode cX8_cloth 74 = .ok (.iinc 2 1, 3) := dk_132 2 1 (dk_at dksX8_cloth_3 4 rfl rfl)
theorem dX8_cloth_77 : decode cX8_cloth 77 = .ok (.goto (-47), 3) := dk_167 255 209 (dk_at dksX8_cloth_3 7 rfl rfl)
theorem dX8_cloth_80 : decode cX8_cloth 80 = .ok (.iinc 1 1, 3) := dk_132 1 1 (dk_at dksX8_cloth_3 10 rfl rfl)
theorem dX8_cloth_83 : decode cX8_cloth 83 = .ok (.goto (-74), 3) := dk_167 255 182 (dk_at dksX8_cloth_3 13 rfl rfl)
theorem dX8_cloth_86 : decode cX8_cloth 86 = .ok (.aload_n 0, 1) := dk_42 (dk_at dksX8_cloth_3 16 rfl rfl)
theorem dX8_cloth_87 : decode cX8_cloth 87 = .ok (.getfield 111, 3) := dk_180 0 111 (dk_at dksX8_cloth_3 17 rfl rfl)
theorem dX8_cloth_90 : decode cX8_cloth 90 = .ok (.iconst 1, 1) := dk_4 (dk_at dksX8_cloth_3 20 rfl rfl)
theorem dX8_cloth_91 : decode cX8_cloth 91 = .ok (.aload_n 0, 1) := dk_42 (dk_at dksX8_cloth_3 21 rfl rfl)
theorem dX8_cloth_92 : decode cX8_cloth 92 = .ok (.getfield 390, 3) := dk_180 1 134 (dk_at dksX8_cloth_4 0 rfl rfl)
theorem dX8_cloth_95 : decode cX8_cloth 95 = .ok (.ishl, 1) := dk_120 (dk_at dksX8_cloth_4 3 rfl rfl)
theorem dX8_cloth_96 : decode cX8_cloth 96 = .ok (.iconst 1, 1) := dk_4 (dk_at dksX8_cloth_4 4 rfl rfl)
theorem dX8_cloth_97 : decode cX8_cloth 97 = .ok (.isub, 1) := dk_100 (dk_at dksX8_cloth_4 5 rfl rfl)
theorem dX8_cloth_98 : decode cX8_cloth 98 = .ok (.iaload, 1) := dk_46 (dk_at dksX8_cloth_4 6 rfl rfl)
theorem dX8_cloth_99 : decode cX8_cloth 99 = .ok (.istore_n 1, 1) := dk_60 (dk_at dksX8_cloth_4 7 rfl rfl)
theorem dX8_cloth_100 : decode cX8_cloth 100 = .ok (.iload_n 1, 1) := dk_27 (dk_at dksX8_cloth_4 8 rfl rfl)
theorem dX8_cloth_101 : decode cX8_cloth 101 = .ok (.ldc_w 498, 3) := dk_19 1 242 (dk_at dksX8_cloth_4 9 rfl rfl)
theorem dX8_cloth_104 : decode cX8_cloth 104 = .ok (.if_icmp .lt 7, 3) := dk_161 0 7 (dk_at dksX8_cloth_4 12 rfl rfl)
theorem dX8_cloth_107 : decode cX8_cloth 107 = .ok (.iconst (-1), 1) := dk_2 (dk_at dksX8_cloth_4 15 rfl rfl)
theorem dX8_cloth_108 : decode cX8_cloth 108 = .ok (.goto 4, 3) := dk_167 0 4 (dk_at dksX8_cloth_4 16 rfl rfl)
theorem dX8_cloth_111 : decode cX8_cloth 111 = .ok (.iload_n 1, 1) := dk_27 (dk_at dksX8_cloth_4 19 rfl rfl)
theorem dX8_cloth_112 : decode cX8_cloth 112 = .ok (.ireturn, 1) := dk_172 (dk_at dksX8_cloth_4 20 rfl rfl)
abbrev cX8_rowOf : ByteArray := prog_20_method_91_code
def yX8_rowOf : MethodName := ⟨RX8, "rowOf", "(I)I"⟩
def dkwX8_rowOf_3 : List UInt8 := [19, 1, 242, 167, 0, 4, 29, 172]
abbrev dktX8_rowOf_3 : List UInt8 := dkwX8_rowOf_3 ++ []
def dkwX8_rowOf_2 : List UInt8 := [16, 12, 21, 4, 96, 46, 184, 1, 181, 62, 132, 4, 1, 167, 255, 204, 28, 42, 180, 0, 87, 164, 0, 9]
abbrev dktX8_rowOf_2 : List UInt8 := dkwX8_rowOf_2 ++ dktX8_rowOf_3
def dkwX8_rowOf_1 : List UInt8 := [154, 0, 6, 167, 0, 31, 28, 42, 180, 0, 93, 16, 18, 21, 4, 96, 46, 96, 61, 29, 42, 180, 0, 93]
abbrev dktX8_rowOf_1 : List UInt8 := dkwX8_rowOf_1 ++ dktX8_rowOf_2
def dkwX8_rowOf_0 : List UInt8 := [3, 61, 3, 62, 3, 54, 4, 21, 4, 42, 180, 1, 134, 162, 0, 49, 27, 21, 4, 122, 4, 126]
abbrev dktX8_rowOf_0 : List UInt8 := dkwX8_rowOf_0 ++ dktX8_rowOf_1
theorem dksX8_rowOf_0 : cX8_rowOf.data.toList.drop 0 = dktX8_rowOf_0 := by decide +kernel
theorem dksX8_rowOf_1 : cX8_rowOf.data.toList.drop 22 = dktX8_rowOf_1 := dk_seg dksX8_rowOf_0 22 rfl rfl
theorem dksX8_rowOf_2 : cX8_rowOf.data.toList.drop 46 = dktX8_rowOf_2 := dk_seg dksX8_rowOf_1 24 rfl rfl
theorem dksX8_rowOf_3 : cX8_rowOf.data.toList.drop 70 = dktX8_rowOf_3 := dk_seg dksX8_rowOf_2 24 rfl rfl
theorem dX8_rowOf_0 : decode cX8_rowOf 0 = .ok (.iconst 0, 1) := dk_3 (dk_at dksX8_rowOf_0 0 rfl rfl)
theorem dX8_rowOf_1 : decode cX8_rowOf 1 = .ok (.istore_n 2, 1) := dk_61 (dk_at dksX8_rowOf_0 1 rfl rfl)
theorem dX8_rowOf_2 : decode cX8_rowOf 2 = .ok (.iconst 0, 1) := dk_3 (dk_at dksX8_rowOf_0 2 rfl rfl)
theorem dX8_rowOf_3 : decode cX8_rowOf 3 = .ok (.istore_n 3, 1) := dk_62 (dk_at dksX8_rowOf_0 3 rfl rfl)
theorem dX8_rowOf_4 : decode cX8_rowOf 4 = .ok (.iconst 0, 1) := dk_3 (dk_at dksX8_rowOf_0 4 rfl rfl)
theorem dX8_rowOf_5 : decode cX8_rowOf 5 = .ok (.istore 4, 2) := dk_54 4 (dk_at dksX8_rowOf_0 5 rfl rfl)
theorem dX8_rowOf_7 : decode cX8_rowOf 7 = .ok (.iload 4, 2) := dk_21 4 (dk_at dksX8_rowOf_0 7 rfl rfl)
theorem dX8_rowOf_9 : decode cX8_rowOf 9 = .ok (.aload_n 0, 1) := dk_42 (dk_at dksX8_rowOf_0 9 rfl rfl)
theorem dX8_rowOf_10 : decode cX8_rowOf 10 = .ok (.getfield 390, 3) := dk_180 1 134 (dk_at dksX8_rowOf_0 10 rfl rfl)
theorem dX8_rowOf_13 : decode cX8_rowOf 13 = .ok (.if_icmp .ge 49, 3) := dk_162 0 49 (dk_at dksX8_rowOf_0 13 rfl rfl)
theorem dX8_rowOf_16 : decode cX8_rowOf 16 = .ok (.iload_n 1, 1) := dk_27 (dk_at dksX8_rowOf_0 16 rfl rfl)
theorem dX8_rowOf_17 : decode cX8_rowOf 17 = .ok (.iload 4, 2) := dk_21 4 (dk_at dksX8_rowOf_0 17 rfl rfl)
theorem dX8_rowOf_19 : decode cX8_rowOf 19 = .ok (.ishr, 1) := dk_122 (dk_at dksX8_rowOf_0 19 rfl rfl)
theorem dX8_rowOf_20 : decode cX8_rowOf 20 = .ok (.iconst 1, 1) := dk_4 (dk_at dksX8_rowOf_0 20 rfl rfl)
theorem dX8_rowOf_21 : decode cX8_rowOf 21 = .ok (.iand, 1) := dk_126 (dk_at dksX8_rowOf_0 21 rfl rfl)
theorem dX8_rowOf_22 : decode cX8_rowOf 22 = .ok (.ifCond .ne 6, 3) := dk_154 0 6 (dk_at dksX8_rowOf_1 0 rfl rfl)
theorem dX8_rowOf_25 : decode cX8_rowOf 25 = .ok (.goto 31, 3) := dk_167 0 31 (dk_at dksX8_rowOf_1 3 rfl rfl)
theorem dX8_rowOf_28 : decode cX8_rowOf 28 = .ok (.iload_n 2, 1) := dk_28 (dk_at dksX8_rowOf_1 6 rfl rfl)
theorem dX8_rowOf_29 : decode cX8_rowOf 29 = .ok (.aload_n 0, 1) := dk_42 (dk_at dksX8_rowOf_1 7 rfl rfl)
theorem dX8_rowOf_30 : decode cX8_rowOf 30 = .ok (.getfield 93, 3) := dk_180 0 93 (dk_at dksX8_rowOf_1 8 rfl rfl)
theorem dX8_rowOf_33 : decode cX8_rowOf 33 = .ok (.bipush 18, 2) := dk_16 18 (dk_at dksX8_rowOf_1 11 rfl rfl)
theorem dX8_rowOf_35 : decode cX8_rowOf 35 = .ok (.iload 4, 2) := dk_21 4 (dk_at dksX8_rowOf_1 13 rfl rfl)
theorem dX8_rowOf_37 : decode cX8_rowOf 37 = .ok (.iadd, 1) := dk_96 (dk_at dksX8_rowOf_1 15 rfl rfl)
theorem dX8_rowOf_38 : decode cX8_rowOf 38 = .ok (.iaload, 1) := dk_46 (dk_at dksX8_rowOf_1 16 rfl rfl)
theorem dX8_rowOf_39 : decode cX8_rowOf 39 = .ok (.iadd, 1) := dk_96 (dk_at dksX8_rowOf_1 17 rfl rfl)
theorem dX8_rowOf_40 : decode cX8_rowOf 40 = .ok (.istore_n 2, 1) := dk_61 (dk_at dksX8_rowOf_1 18 rfl rfl)
theorem dX8_rowOf_41 : decode cX8_rowOf 41 = .ok (.iload_n 3, 1) := dk_29 (dk_at dksX8_rowOf_1 19 rfl rfl)
theorem dX8_rowOf_42 : decode cX8_rowOf 42 = .ok (.aload_n 0, 1) := dk_42 (dk_at dksX8_rowOf_1 20 rfl rfl)
theorem dX8_rowOf_43 : decode cX8_rowOf 43 = .ok (.getfield 93, 3) := dk_180 0 93 (dk_at dksX8_rowOf_1 21 rfl rfl)
theorem dX8_rowOf_46 : decode cX8_rowOf 46 = .ok (.bipush 12, 2) := dk_16 12 (dk_at dksX8_rowOf_2 0 rfl rfl)
theorem dX8_rowOf_48 : decode cX8_rowOf 48 = .ok (.iload 4, 2) := dk_21 4 (dk_at dksX8_rowOf_2 2 rfl rfl)
theorem dX8_rowOf_50 : decode cX8_rowOf 50 = .ok (.iadd, 1) := dk_96 (dk_at dksX8_rowOf_2 4 rfl rfl)
theorem dX8_rowOf_51 : decode cX8_rowOf 51 = .ok (.iaload, 1) := dk_46 (dk_at dksX8_rowOf_2 5 rfl rfl)
theorem dX8_rowOf_52 : decode cX8_rowOf 52 = .ok (.invokestatic 437, 3) := dk_184 1 181 (dk_at dksX8_rowOf_2 6 rfl rfl)
theorem dX8_rowOf_55 : decode cX8_rowOf 55 = .ok (.istore_n 3, 1) := dk_62 (dk_at dksX8_rowOf_2 9 rfl rfl)
theorem dX8_rowOf_56 : decode cX8_rowOf 56 = .ok (.iinc 4 1, 3) := dk_132 4 1 (dk_at dksX8_rowOf_2 10 rfl rfl)
theorem dX8_rowOf_59 : decode cX8_rowOf 59 = .ok (.goto (-52), 3) := dk_167 255 204 (dk_at dksX8_rowOf_2 13 rfl rfl)
theorem dX8_rowOf_62 : decode cX8_rowOf 62 = .ok (.iload_n 2, 1) := dk_28 (dk_at dksX8_rowOf_2 16 rfl rfl)
theorem dX8_rowOf_63 : decode cX8_rowOf 63 = .ok (.aload_n 0, 1) := dk_42 (dk_at dksX8_rowOf_2 17 rfl rfl)
theorem dX8_rowOf_64 : decode cX8_rowOf 64 = .ok (.getfield 87, 3) := dk_180 0 87 (dk_at dksX8_rowOf_2 18 rfl rfl)
theorem dX8_rowOf_67 : decode cX8_rowOf 67 = .ok (.if_icmp .le 9, 3) := dk_164 0 9 (dk_at dksX8_rowOf_2 21 rfl rfl)
theorem dX8_rowOf_70 : decode cX8_rowOf 70 = .ok (.ldc_w 498, 3) := dk_19 1 242 (dk_at dksX8_rowOf_3 0 rfl rfl)
theorem dX8_rowOf_73 : decode cX8_rowOf 73 = .ok (.goto 4, 3) := dk_167 0 4 (dk_at dksX8_rowOf_3 3 rfl rfl)
theorem dX8_rowOf_76 : decode cX8_rowOf 76 = .ok (.iload_n 3, 1) := dk_29 (dk_at dksX8_rowOf_3 6 rfl rfl)
theorem dX8_rowOf_77 : decode cX8_rowOf 77 = .ok (.ireturn, 1) := dk_172 (dk_at dksX8_rowOf_3 7 rfl rfl)
abbrev cX8_buttons : ByteArray := prog_20_method_95_code
def yX8_buttons : MethodName := ⟨RX8, "buttons", "()I"⟩
def dkwX8_buttons_3 : List UInt8 := [167, 255, 233, 27, 172, 132, 2, 1, 167, 255, 199, 132, 1, 1, 167, 255, 183, 3, 172]
abbrev dktX8_buttons_3 : List UInt8 := dkwX8_buttons_3 ++ []
def dkwX8_buttons_2 : List UInt8 := [42, 180, 1, 131, 162, 0, 21, 42, 180, 0, 102, 29, 42, 180, 0, 105, 29, 46, 79, 132, 3, 1]
abbrev dktX8_buttons_2 : List UInt8 := dkwX8_buttons_2 ++ dktX8_buttons_3
def dkwX8_buttons_1 : List UInt8 := [180, 1, 131, 184, 1, 217, 162, 0, 51, 42, 27, 28, 182, 1, 249, 154, 0, 6, 167, 0, 33, 3, 62, 29]
abbrev dktX8_buttons_1 : List UInt8 := dkwX8_buttons_1 ++ dktX8_buttons_2
def dkwX8_buttons_0 : List UInt8 := [42, 42, 180, 1, 131, 181, 1, 158, 4, 60, 27, 42, 180, 1, 131, 163, 0, 71, 3, 61, 28, 27, 42]
abbrev dktX8_buttons_0 : List UInt8 := dkwX8_buttons_0 ++ dktX8_buttons_1
theorem dksX8_buttons_0 : cX8_buttons.data.toList.drop 0 = dktX8_buttons_0 := by decide +kernel
theorem dksX8_buttons_1 : cX8_buttons.data.toList.drop 23 = dktX8_buttons_1 := dk_seg dksX8_buttons_0 23 rfl rfl
theorem dksX8_buttons_2 : cX8_buttons.data.toList.drop 47 = dktX8_buttons_2 := dk_seg dksX8_buttons_1 24 rfl rfl
theorem dksX8_buttons_3 : cX8_buttons.data.toList.drop 69 = dktX8_buttons_3 := dk_seg dksX8_buttons_2 22 rfl rfl
theorem dX8_buttons_0 : decode cX8_buttons 0 = .ok (.aload_n 0, 1) := dk_42 (dk_at dksX8_buttons_0 0 rfl rfl)
theorem dX8_buttons_1 : decode cX8_buttons 1 = .ok (.aload_n 0, 1) := dk_42 (dk_at dksX8_buttons_0 1 rfl rfl)
theorem dX8_buttons_2 : decode cX8_buttons 2 = .ok (.getfield 387, 3) := dk_180 1 131 (dk_at dksX8_buttons_0 2 rfl rfl)
theorem dX8_buttons_5 : decode cX8_buttons 5 = .ok (.putfield 414, 3) := dk_181 1 158 (dk_at dksX8_buttons_0 5 rfl rfl)
theorem dX8_buttons_8 : decode cX8_buttons 8 = .ok (.iconst 1, 1) := dk_4 (dk_at dksX8_buttons_0 8 rfl rfl)
theorem dX8_buttons_9 : decode cX8_buttons 9 = .ok (.istore_n 1, 1) := dk_60 (dk_at dksX8_buttons_0 9 rfl rfl)
theorem dX8_buttons_10 : decode cX8_buttons 10 = .ok (.iload_n 1, 1) := dk_27 (dk_at dksX8_buttons_0 10 rfl rfl)
theorem dX8_buttons_11 : decode cX8_buttons 11 = .ok (.aload_n 0, 1) := dk_42 (dk_at dksX8_buttons_0 11 rfl rfl)
theorem dX8_buttons_12 : decode cX8_buttons 12 = .ok (.getfield 387, 3) := dk_180 1 131 (dk_at dksX8_buttons_0 12 rfl rfl)
theorem dX8_buttons_15 : decode cX8_buttons 15 = .ok (.if_icmp .gt 71, 3) := dk_163 0 71 (dk_at dksX8_buttons_0 15 rfl rfl)
theorem dX8_buttons_18 : decode cX8_buttons 18 = .ok (.iconst 0, 1) := dk_3 (dk_at dksX8_buttons_0 18 rfl rfl)
theorem dX8_buttons_19 : decode cX8_buttons 19 = .ok (.istore_n 2, 1) := dk_61 (dk_at dksX8_buttons_0 19 rfl rfl)
theorem dX8_buttons_20 : decode cX8_buttons 20 = .ok (.iload_n 2, 1) := dk_28 (dk_at dksX8_buttons_0 20 rfl rfl)
theorem dX8_buttons_21 : decode cX8_buttons 21 = .ok (.iload_n 1, 1) := dk_27 (dk_at dksX8_buttons_0 21 rfl rfl)
theorem dX8_buttons_22 : decode cX8_buttons 22 = .ok (.aload_n 0, 1) := dk_42 (dk_at dksX8_buttons_0 22 rfl rfl)
theorem dX8_buttons_23 : decode cX8_buttons 23 = .ok (.getfield 387, 3) := dk_180 1 131 (dk_at dksX8_buttons_1 0 rfl rfl)
theorem dX8_buttons_26 : decode cX8_buttons 26 = .ok (.invokestatic 473, 3) := dk_184 1 217 (dk_at dksX8_buttons_1 3 rfl rfl)
theorem dX8_buttons_29 : decode cX8_buttons 29 = .ok (.if_icmp .ge 51, 3) := dk_162 0 51 (dk_at dksX8_buttons_1 6 rfl rfl)
theorem dX8_buttons_32 : decode cX8_buttons 32 = .ok (.aload_n 0, 1) := dk_42 (dk_at dksX8_buttons_1 9 rfl rfl)
theorem dX8_buttons_33 : decode cX8_buttons 33 = .ok (.iload_n 1, 1) := dk_27 (dk_at dksX8_buttons_1 10 rfl rfl)
theorem dX8_buttons_34 : decode cX8_buttons 34 = .ok (.iload_n 2, 1) := dk_28 (dk_at dksX8_buttons_1 11 rfl rfl)
theorem dX8_buttons_35 : decode cX8_buttons 35 = .ok (.invokevirtual 505, 3) := dk_182 1 249 (dk_at dksX8_buttons_1 12 rfl rfl)
theorem dX8_buttons_38 : decode cX8_buttons 38 = .ok (.ifCond .ne 6, 3) := dk_154 0 6 (dk_at dksX8_buttons_1 15 rfl rfl)
theorem dX8_buttons_41 : decode cX8_buttons 41 = .ok (.goto 33, 3) := dk_167 0 33 (dk_at dksX8_buttons_1 18 rfl rfl)
theorem dX8_buttons_44 : decode cX8_buttons 44 = .ok (.iconst 0, 1) := dk_3 (dk_at dksX8_buttons_1 21 rfl rfl)
theorem dX8_buttons_45 : decode cX8_buttons 45 = .ok (.istore_n 3, 1) := dk_62 (dk_at dksX8_buttons_1 22 rfl rfl)
theorem dX8_buttons_46 : decode cX8_buttons 46 = .ok (.iload_n 3, 1) := dk_29 (dk_at dksX8_buttons_1 23 rfl rfl)
theorem dX8_buttons_47 : decode cX8_buttons 47 = .ok (.aload_n 0, 1) := dk_42 (dk_at dksX8_buttons_2 0 rfl rfl)
theorem dX8_buttons_48 : decode cX8_buttons 48 = .ok (.getfield 387, 3) := dk_180 1 131 (dk_at dksX8_buttons_2 1 rfl rfl)
theorem dX8_buttons_51 : decode cX8_buttons 51 = .ok (.if_icmp .ge 21, 3) := dk_162 0 21 (dk_at dksX8_buttons_2 4 rfl rfl)
theorem dX8_buttons_54 : decode cX8_buttons 54 = .ok (.aload_n 0, 1) := dk_42 (dk_at dksX8_buttons_2 7 rfl rfl)
theorem dX8_buttons_55 : decode cX8_buttons 55 = .ok (.getfield 102, 3) := dk_180 0 102 (dk_at dksX8_buttons_2 8 rfl rfl)
theorem dX8_buttons_58 : decode cX8_buttons 58 = .ok (.iload_n 3, 1) := dk_29 (dk_at dksX8_buttons_2 11 rfl rfl)
theorem dX8_buttons_59 : decode cX8_buttons 59 = .ok (.aload_n 0, 1) := dk_42 (dk_at dksX8_buttons_2 12 rfl rfl)
theorem dX8_buttons_60 : decode cX8_buttons 60 = .ok (.getfield 105, 3) := dk_180 0 105 (dk_at dksX8_buttons_2 13 rfl rfl)
theorem dX8_buttons_63 : decode cX8_buttons 63 = .ok (.iload_n 3, 1) := dk_29 (dk_at dksX8_buttons_2 16 rfl rfl)
theorem dX8_buttons_64 : decode cX8_buttons 64 = .ok (.iaload, 1) := dk_46 (dk_at dksX8_buttons_2 17 rfl rfl)
theorem dX8_buttons_65 : decode cX8_buttons 65 = .ok (.iastore, 1) := dk_79 (dk_at dksX8_buttons_2 18 rfl rfl)
theorem dX8_buttons_66 : decode cX8_buttons 66 = .ok (.iinc 3 1, 3) := dk_132 3 1 (dk_at dksX8_buttons_2 19 rfl rfl)
theorem dX8_buttons_69 : decode cX8_buttons 69 = .ok (.goto (-23), 3) := dk_167 255 233 (dk_at dksX8_buttons_3 0 rfl rfl)
theorem dX8_buttons_72 : decode cX8_buttons 72 = .ok (.iload_n 1, 1) := dk_27 (dk_at dksX8_buttons_3 3 rfl rfl)
theorem dX8_buttons_73 : decode cX8_buttons 73 = .ok (.ireturn, 1) := dk_172 (dk_at dksX8_buttons_3 4 rfl rfl)
theorem dX8_buttons_74 : decode cX8_buttons 74 = .ok (.iinc 2 1, 3) := dk_132 2 1 (dk_at dksX8_buttons_3 5 rfl rfl)
theorem dX8_buttons_77 : decode cX8_buttons 77 = .ok (.goto (-57), 3) := dk_167 255 199 (dk_at dksX8_buttons_3 8 rfl rfl)
theorem dX8_buttons_80 : decode cX8_buttons 80 = .ok (.iinc 1 1, 3) := dk_132 1 1 (dk_at dksX8_buttons_3 11 rfl rfl)
theorem dX8_buttons_83 : decode cX8_buttons 83 = .ok (.goto (-73), 3) := dk_167 255 183 (dk_at dksX8_buttons_3 14 rfl rfl)
theorem dX8_buttons_86 : decode cX8_buttons 86 = .ok (.iconst 0, 1) := dk_3 (dk_at dksX8_buttons_3 17 rfl rfl)
theorem dX8_buttons_87 : decode cX8_buttons 87 = .ok (.ireturn, 1) := dk_172 (dk_at dksX8_buttons_3 18 rfl rfl)
abbrev cX8_layColours : ByteArray := prog_20_method_94_code
def yX8_layColours : MethodName := ⟨RX8, "layColours", "(II)Z"⟩
def dkwX8_layColours_4 : List UInt8 := [167, 0, 4, 3, 54, 4, 132, 6, 1, 167, 255, 206, 132, 5, 1, 167, 255, 188, 21, 4, 172]
abbrev dktX8_layColours_4 : List UInt8 := dkwX8_layColours_4 ++ []
def dkwX8_layColours_3 : List UInt8 := [46, 42, 180, 0, 105, 21, 6, 46, 160, 0, 14, 42, 21, 5, 21, 6, 182, 1, 246, 154, 0, 7, 4]
abbrev dktX8_layColours_3 : List UInt8 := dkwX8_layColours_3 ++ dktX8_layColours_4
def dkwX8_layColours_2 : List UInt8 := [162, 0, 65, 3, 54, 6, 21, 6, 21, 5, 162, 0, 49, 21, 4, 153, 0, 35, 42, 180, 0, 105, 21, 5]
abbrev dktX8_layColours_2 : List UInt8 := dkwX8_layColours_2 ++ dktX8_layColours_3
def dkwX8_layColours_1 : List UInt8 := [79, 29, 27, 108, 62, 132, 4, 255, 167, 255, 234, 4, 54, 4, 3, 54, 5, 21, 5, 42, 180, 1, 131]
abbrev dktX8_layColours_1 : List UInt8 := dkwX8_layColours_1 ++ dktX8_layColours_2
def dkwX8_layColours_0 : List UInt8 := [28, 62, 42, 180, 1, 131, 4, 100, 54, 4, 21, 4, 155, 0, 23, 42, 180, 0, 105, 21, 4, 29, 27, 112]
abbrev dktX8_layColours_0 : List UInt8 := dkwX8_layColours_0 ++ dktX8_layColours_1
theorem dksX8_layColours_0 : cX8_layColours.data.toList.drop 0 = dktX8_layColours_0 := by decide +kernel
theorem dksX8_layColours_1 : cX8_layColours.data.toList.drop 24 = dktX8_layColours_1 := dk_seg dksX8_layColours_0 24 rfl rfl
theorem dksX8_layColours_2 : cX8_layColours.data.toList.drop 47 = dktX8_layColours_2 := dk_seg dksX8_layColours_1 23 rfl rfl
theorem dksX8_layColours_3 : cX8_layColours.data.toList.drop 71 = dktX8_layColours_3 := dk_seg dksX8_layColours_2 24 rfl rfl
theorem dksX8_layColours_4 : cX8_layColours.data.toList.drop 94 = dktX8_layColours_4 := dk_seg dksX8_layColours_3 23 rfl rfl
theorem dX8_layColours_0 : decode cX8_layColours 0 = .ok (.iload_n 2, 1) := dk_28 (dk_at dksX8_layColours_0 0 rfl rfl)
theorem dX8_layColours_1 : decode cX8_layColours 1 = .ok (.istore_n 3, 1) := dk_62 (dk_at dksX8_layColours_0 1 rfl rfl)
theorem dX8_layColours_2 : decode cX8_layColours 2 = .ok (.aload_n 0, 1) := dk_42 (dk_at dksX8_layColours_0 2 rfl rfl)
theorem dX8_layColours_3 : decode cX8_layColours 3 = .ok (.getfield 387, 3) := dk_180 1 131 (dk_at dksX8_layColours_0 3 rfl rfl)
theorem dX8_layColours_6 : decode cX8_layColours 6 = .ok (.iconst 1, 1) := dk_4 (dk_at dksX8_layColours_0 6 rfl rfl)
theorem dX8_layColours_7 : decode cX8_layColours 7 = .ok (.isub, 1) := dk_100 (dk_at dksX8_layColours_0 7 rfl rfl)
theorem dX8_layColours_8 : decode cX8_layColours 8 = .ok (.istore 4, 2) := dk_54 4 (dk_at dksX8_layColours_0 8 rfl rfl)
theorem dX8_layColours_10 : decode cX8_layColours 10 = .ok (.iload 4, 2) := dk_21 4 (dk_at dksX8_layColours_0 10 rfl rfl)
theorem dX8_layColours_12 : decode cX8_layColours 12 = .ok (.ifCond .lt 23, 3) := dk_155 0 23 (dk_at dksX8_layColours_0 12 rfl rfl)
theorem dX8_layColours_15 : decode cX8_layColours 15 = .ok (.aload_n 0, 1) := dk_42 (dk_at dksX8_layColours_0 15 rfl rfl)
theorem dX8_layColours_16 : decode cX8_layColours 16 = .ok (.getfield 105, 3) := dk_180 0 105 (dk_at dksX8_layColours_0 16 rfl rfl)
theorem dX8_layColours_19 : decode cX8_layColours 19 = .ok (.iload 4, 2) := dk_21 4 (dk_at dksX8_layColours_0 19 rfl rfl)
theorem dX8_layColours_21 : decode cX8_layColours 21 = .ok (.iload_n 3, 1) := dk_29 (dk_at dksX8_layColours_0 21 rfl rfl)
theorem dX8_layColours_22 : decode cX8_layColours 22 = .ok (.iload_n 1, 1) := dk_27 (dk_at dksX8_layColours_0 22 rfl rfl)
theorem dX8_layColours_23 : decode cX8_layColours 23 = .ok (.irem, 1) := dk_112 (dk_at dksX8_layColours_0 23 rfl rfl)
theorem dX8_layColours_24 : decode cX8_layColours 24 = .ok (.iastore, 1) := dk_79 (dk_at dksX8_layColours_1 0 rfl rfl)
theorem dX8_layColours_25 : decode cX8_layColours 25 = .ok (.iload_n 3, 1) := dk_29 (dk_at dksX8_layColours_1 1 rfl rfl)
theorem dX8_layColours_26 : decode cX8_layColours 26 = .ok (.iload_n 1, 1) := dk_27 (dk_at dksX8_layColours_1 2 rfl rfl)
theorem dX8_layColours_27 : decode cX8_layColours 27 = .ok (.idiv, 1) := dk_108 (dk_at dksX8_layColours_1 3 rfl rfl)
theorem dX8_layColours_28 : decode cX8_layColours 28 = .ok (.istore_n 3, 1) := dk_62 (dk_at dksX8_layColours_1 4 rfl rfl)
theorem dX8_layColours_29 : decode cX8_layColours 29 = .ok (.iinc 4 (-1), 3) := dk_132 4 255 (dk_at dksX8_layColours_1 5 rfl rfl)
theorem dX8_layColours_32 : decode cX8_layColours 32 = .ok (.goto (-22), 3) := dk_167 255 234 (dk_at dksX8_layColours_1 8 rfl rfl)
theorem dX8_layColours_35 : decode cX8_layColours 35 = .ok (.iconst 1, 1) := dk_4 (dk_at dksX8_layColours_1 11 rfl rfl)
theorem dX8_layColours_36 : decode cX8_layColours 36 = .ok (.istore 4, 2) := dk_54 4 (dk_at dksX8_layColours_1 12 rfl rfl)
theorem dX8_layColours_38 : decode cX8_layColours 38 = .ok (.iconst 0, 1) := dk_3 (dk_at dksX8_layColours_1 14 rfl rfl)
theorem dX8_layColours_39 : decode cX8_layColours 39 = .ok (.istore 5, 2) := dk_54 5 (dk_at dksX8_layColours_1 15 rfl rfl)
theorem dX8_layColours_41 : decode cX8_layColours 41 = .ok (.iload 5, 2) := dk_21 5 (dk_at dksX8_layColours_1 17 rfl rfl)
theorem dX8_layColours_43 : decode cX8_layColours 43 = .ok (.aload_n 0, 1) := dk_42 (dk_at dksX8_layColours_1 19 rfl rfl)
theorem dX8_layColours_44 : decode cX8_layColours 44 = .ok (.getfield 387, 3) := dk_180 1 131 (dk_at dksX8_layColours_1 20 rfl rfl)
theorem dX8_layColours_47 : decode cX8_layColours 47 = .ok (.if_icmp .ge 65, 3) := dk_162 0 65 (dk_at dksX8_layColours_2 0 rfl rfl)
theorem dX8_layColours_50 : decode cX8_layColours 50 = .ok (.iconst 0, 1) := dk_3 (dk_at dksX8_layColours_2 3 rfl rfl)
theorem dX8_layColours_51 : decode cX8_layColours 51 = .ok (.istore 6, 2) := dk_54 6 (dk_at dksX8_layColours_2 4 rfl rfl)
theorem dX8_layColours_53 : decode cX8_layColours 53 = .ok (.iload 6, 2) := dk_21 6 (dk_at dksX8_layColours_2 6 rfl rfl)
theorem dX8_layColours_55 : decode cX8_layColours 55 = .ok (.iload 5, 2) := dk_21 5 (dk_at dksX8_layColours_2 8 rfl rfl)
theorem dX8_layColours_57 : decode cX8_layColours 57 = .ok (.if_icmp .ge 49, 3) := dk_162 0 49 (dk_at dksX8_layColours_2 10 rfl rfl)
theorem dX8_layColours_60 : decode cX8_layColours 60 = .ok (.iload 4, 2) := dk_21 4 (dk_at dksX8_layColours_2 13 rfl rfl)
theorem dX8_layColours_62 : decode cX8_layColours 62 = .ok (.ifCond .eq 35, 3) := dk_153 0 35 (dk_at dksX8_layColours_2 15 rfl rfl)
theorem dX8_layColours_65 : decode cX8_layColours 65 = .ok (.aload_n 0, 1) := dk_42 (dk_at dksX8_layColours_2 18 rfl rfl)
theorem dX8_layColours_66 : decode cX8_layColours 66 = .ok (.getfield 105, 3) := dk_180 0 105 (dk_at dksX8_layColours_2 19 rfl rfl)
theorem dX8_layColours_69 : decode cX8_layColours 69 = .ok (.iload 5, 2) := dk_21 5 (dk_at dksX8_layColours_2 22 rfl rfl)
theorem dX8_layColours_71 : decode cX8_layColours 71 = .ok (.iaload, 1) := dk_46 (dk_at dksX8_layColours_3 0 rfl rfl)
theorem dX8_layColours_72 : decode cX8_layColours 72 = .ok (.aload_n 0, 1) := dk_42 (dk_at dksX8_layColours_3 1 rfl rfl)
theorem dX8_layColours_73 : decode cX8_layColours 73 = .ok (.getfield 105, 3) := dk_180 0 105 (dk_at dksX8_layColours_3 2 rfl rfl)
theorem dX8_layColours_76 : decode cX8_layColours 76 = .ok (.iload 6, 2) := dk_21 6 (dk_at dksX8_layColours_3 5 rfl rfl)
theorem dX8_layColours_78 : decode cX8_layColours 78 = .ok (.iaload, 1) := dk_46 (dk_at dksX8_layColours_3 7 rfl rfl)
theorem dX8_layColours_79 : decode cX8_layColours 79 = .ok (.if_icmp .ne 14, 3) := dk_160 0 14 (dk_at dksX8_layColours_3 8 rfl rfl)
theorem dX8_layColours_82 : decode cX8_layColours 82 = .ok (.aload_n 0, 1) := dk_42 (dk_at dksX8_layColours_3 11 rfl rfl)
theorem dX8_layColours_83 : decode cX8_layColours 83 = .ok (.iload 5, 2) := dk_21 5 (dk_at dksX8_layColours_3 12 rfl rfl)
theorem dX8_layColours_85 : decode cX8_layColours 85 = .ok (.iload 6, 2) := dk_21 6 (dk_at dksX8_layColours_3 14 rfl rfl)
theorem dX8_layColours_87 : decode cX8_layColours 87 = .ok (.invokevirtual 502, 3) := dk_182 1 246 (dk_at dksX8_layColours_3 16 rfl rfl)
theorem dX8_layColours_90 : decode cX8_layColours 90 = .ok (.ifCond .ne 7, 3) := dk_154 0 7 (dk_at dksX8_layColours_3 19 rfl rfl)
theorem dX8_layColours_93 : decode cX8_layColours 93 = .ok (.iconst 1, 1) := dk_4 (dk_at dksX8_layColours_3 22 rfl rfl)
theorem dX8_layColours_94 : decode cX8_layColours 94 = .ok (.goto 4, 3) := dk_167 0 4 (dk_at dksX8_layColours_4 0 rfl rfl)
theorem dX8_layColours_97 : decode cX8_layColours 97 = .ok (.iconst 0, 1) := dk_3 (dk_at dksX8_layColours_4 3 rfl rfl)
theorem dX8_layColours_98 : decode cX8_layColours 98 = .ok (.istore 4, 2) := dk_54 4 (dk_at dksX8_layColours_4 4 rfl rfl)
theorem dX8_layColours_100 : decode cX8_layColours 100 = .ok (.iinc 6 1, 3) := dk_132 6 1 (dk_at dksX8_layColours_4 6 rfl rfl)
theorem dX8_layColours_103 : decode cX8_layColours 103 = .ok (.goto (-50), 3) := dk_167 255 206 (dk_at dksX8_layColours_4 9 rfl rfl)
theorem dX8_layColours_106 : decode cX8_layColours 106 = .ok (.iinc 5 1, 3) := dk_132 5 1 (dk_at dksX8_layColours_4 12 rfl rfl)
theorem dX8_layColours_109 : decode cX8_layColours 109 = .ok (.goto (-68), 3) := dk_167 255 188 (dk_at dksX8_layColours_4 15 rfl rfl)
theorem dX8_layColours_112 : decode cX8_layColours 112 = .ok (.iload 4, 2) := dk_21 4 (dk_at dksX8_layColours_4 18 rfl rfl)
theorem dX8_layColours_114 : decode cX8_layColours 114 = .ok (.ireturn, 1) := dk_172 (dk_at dksX8_layColours_4 20 rfl rfl)
abbrev cX8_areTaken : ByteArray := prog_20_method_93_code
def yX8_areTaken : MethodName := ⟨RX8, "areTaken", "(II)Z"⟩
def dkwX8_areTaken_1 : List UInt8 := [167, 0, 4, 3, 172]
abbrev dktX8_areTaken_1 : List UInt8 := dkwX8_areTaken_1 ++ []
def dkwX8_areTaken_0 : List UInt8 := [42, 180, 0, 63, 27, 46, 42, 180, 0, 63, 28, 46, 100, 184, 1, 239, 42, 180, 0, 90, 163, 0, 7, 4]
abbrev dktX8_areTaken_0 : List UInt8 := dkwX8_areTaken_0 ++ dktX8_areTaken_1
theorem dksX8_areTaken_0 : cX8_areTaken.data.toList.drop 0 = dktX8_areTaken_0 := by decide +kernel
theorem dksX8_areTaken_1 : cX8_areTaken.data.toList.drop 24 = dktX8_areTaken_1 := dk_seg dksX8_areTaken_0 24 rfl rfl
theorem dX8_areTaken_0 : decode cX8_areTaken 0 = .ok (.aload_n 0, 1) := dk_42 (dk_at dksX8_areTaken_0 0 rfl rfl)
theorem dX8_areTaken_1 : decode cX8_areTaken 1 = .ok (.getfield 63, 3) := dk_180 0 63 (dk_at dksX8_areTaken_0 1 rfl rfl)
theorem dX8_areTaken_4 : decode cX8_areTaken 4 = .ok (.iload_n 1, 1) := dk_27 (dk_at dksX8_areTaken_0 4 rfl rfl)
theorem dX8_areTaken_5 : decode cX8_areTaken 5 = .ok (.iaload, 1) := dk_46 (dk_at dksX8_areTaken_0 5 rfl rfl)
theorem dX8_areTaken_6 : decode cX8_areTaken 6 = .ok (.aload_n 0, 1) := dk_42 (dk_at dksX8_areTaken_0 6 rfl rfl)
theorem dX8_areTaken_7 : decode cX8_areTaken 7 = .ok (.getfield 63, 3) := dk_180 0 63 (dk_at dksX8_areTaken_0 7 rfl rfl)
theorem dX8_areTaken_10 : decode cX8_areTaken 10 = .ok (.iload_n 2, 1) := dk_28 (dk_at dksX8_areTaken_0 10 rfl rfl)
theorem dX8_areTaken_11 : decode cX8_areTaken 11 = .ok (.iaload, 1) := dk_46 (dk_at dksX8_areTaken_0 11 rfl rfl)
theorem dX8_areTaken_12 : decode cX8_areTaken 12 = .ok (.isub, 1) := dk_100 (dk_at dksX8_areTaken_0 12 rfl rfl)
theorem dX8_areTaken_13 : decode cX8_areTaken 13 = .ok (.invokestatic 495, 3) := dk_184 1 239 (dk_at dksX8_areTaken_0 13 rfl rfl)
theorem dX8_areTaken_16 : decode cX8_areTaken 16 = .ok (.aload_n 0, 1) := dk_42 (dk_at dksX8_areTaken_0 16 rfl rfl)
theorem dX8_areTaken_17 : decode cX8_areTaken 17 = .ok (.getfield 90, 3) := dk_180 0 90 (dk_at dksX8_areTaken_0 17 rfl rfl)
theorem dX8_areTaken_20 : decode cX8_areTaken 20 = .ok (.if_icmp .gt 7, 3) := dk_163 0 7 (dk_at dksX8_areTaken_0 20 rfl rfl)
theorem dX8_areTaken_23 : decode cX8_areTaken 23 = .ok (.iconst 1, 1) := dk_4 (dk_at dksX8_areTaken_0 23 rfl rfl)
theorem dX8_areTaken_24 : decode cX8_areTaken 24 = .ok (.goto 4, 3) := dk_167 0 4 (dk_at dksX8_areTaken_1 0 rfl rfl)
theorem dX8_areTaken_27 : decode cX8_areTaken 27 = .ok (.iconst 0, 1) := dk_3 (dk_at dksX8_areTaken_1 3 rfl rfl)
theorem dX8_areTaken_28 : decode cX8_areTaken 28 = .ok (.ireturn, 1) := dk_172 (dk_at dksX8_areTaken_1 4 rfl rfl)
abbrev cX8_reach : ByteArray := prog_20_method_99_code
def yX8_reach : MethodName := ⟨RX8, "reach", "(II)I"⟩
def dkwX8_reach_6 : List UInt8 := [167, 255, 162, 21, 4, 172]
abbrev dktX8_reach_6 : List UInt8 := dkwX8_reach_6 ++ []
def dkwX8_reach_5 : List UInt8 := [180, 0, 102, 4, 21, 6, 79, 42, 5, 181, 1, 158, 132, 4, 1, 132, 6, 1, 167, 255, 180, 132, 5, 1]
abbrev dktX8_reach_5 : List UInt8 := dkwX8_reach_5 ++ dktX8_reach_6
def dkwX8_reach_4 : List UInt8 := [182, 2, 2, 154, 0, 6, 167, 0, 32, 21, 4, 154, 0, 24, 42, 180, 0, 102, 3, 21, 5, 79, 42]
abbrev dktX8_reach_4 : List UInt8 := dkwX8_reach_4 ++ dktX8_reach_5
def dkwX8_reach_3 : List UInt8 := [122, 4, 126, 153, 0, 58, 29, 21, 6, 122, 4, 126, 153, 0, 49, 42, 27, 28, 21, 5, 21, 6, 29]
abbrev dktX8_reach_3 : List UInt8 := dkwX8_reach_3 ++ dktX8_reach_4
def dkwX8_reach_2 : List UInt8 := [21, 5, 42, 180, 1, 134, 162, 0, 91, 3, 54, 6, 21, 6, 42, 180, 1, 134, 162, 0, 73, 29, 21, 5]
abbrev dktX8_reach_2 : List UInt8 := dkwX8_reach_2 ++ dktX8_reach_3
def dkwX8_reach_1 : List UInt8 := [182, 1, 190, 153, 0, 12, 27, 28, 159, 0, 7, 29, 154, 0, 5, 2, 172, 3, 54, 4, 3, 54, 5]
abbrev dktX8_reach_1 : List UInt8 := dkwX8_reach_1 ++ dktX8_reach_2
def dkwX8_reach_0 : List UInt8 := [42, 3, 181, 1, 158, 42, 182, 1, 214, 42, 182, 1, 255, 62, 42, 27, 182, 1, 190, 153, 0, 20, 42, 28]
abbrev dktX8_reach_0 : List UInt8 := dkwX8_reach_0 ++ dktX8_reach_1
theorem dksX8_reach_0 : cX8_reach.data.toList.drop 0 = dktX8_reach_0 := by decide +kernel
theorem dksX8_reach_1 : cX8_reach.data.toList.drop 24 = dktX8_reach_1 := dk_seg dksX8_reach_0 24 rfl rfl
theorem dksX8_reach_2 : cX8_reach.data.toList.drop 47 = dktX8_reach_2 := dk_seg dksX8_reach_1 23 rfl rfl
theorem dksX8_reach_3 : cX8_reach.data.toList.drop 71 = dktX8_reach_3 := dk_seg dksX8_reach_2 24 rfl rfl
theorem dksX8_reach_4 : cX8_reach.data.toList.drop 94 = dktX8_reach_4 := dk_seg dksX8_reach_3 23 rfl rfl
theorem dksX8_reach_5 : cX8_reach.data.toList.drop 117 = dktX8_reach_5 := dk_seg dksX8_reach_4 23 rfl rfl
theorem dksX8_reach_6 : cX8_reach.data.toList.drop 141 = dktX8_reach_6 := dk_seg dksX8_reach_5 24 rfl rfl
theorem dX8_reach_0 : decode cX8_reach 0 = .ok (.aload_n 0, 1) := dk_42 (dk_at dksX8_reach_0 0 rfl rfl)
theorem dX8_reach_1 : decode cX8_reach 1 = .ok (.iconst 0, 1) := dk_3 (dk_at dksX8_reach_0 1 rfl rfl)
theorem dX8_reach_2 : decode cX8_reach 2 = .ok (.putfield 414, 3) := dk_181 1 158 (dk_at dksX8_reach_0 2 rfl rfl)
theorem dX8_reach_5 : decode cX8_reach 5 = .ok (.aload_n 0, 1) := dk_42 (dk_at dksX8_reach_0 5 rfl rfl)
theorem dX8_reach_6 : decode cX8_reach 6 = .ok (.invokevirtual 470, 3) := dk_182 1 214 (dk_at dksX8_reach_0 6 rfl rfl)
theorem dX8_reach_9 : decode cX8_reach 9 = .ok (.aload_n 0, 1) := dk_42 (dk_at dksX8_reach_0 9 rfl rfl)
theorem dX8_reach_10 : decode cX8_reach 10 = .ok (.invokevirtual 511, 3) := dk_182 1 255 (dk_at dksX8_reach_0 10 rfl rfl)
theorem dX8_reach_13 : decode cX8_reach 13 = .ok (.istore_n 3, 1) := dk_62 (dk_at dksX8_reach_0 13 rfl rfl)
theorem dX8_reach_14 : decode cX8_reach 14 = .ok (.aload_n 0, 1) := dk_42 (dk_at dksX8_reach_0 14 rfl rfl)
theorem dX8_reach_15 : decode cX8_reach 15 = .ok (.iload_n 1, 1) := dk_27 (dk_at dksX8_reach_0 15 rfl rfl)
theorem dX8_reach_16 : decode cX8_reach 16 = .ok (.invokevirtual 446, 3) := dk_182 1 190 (dk_at dksX8_reach_0 16 rfl rfl)
theorem dX8_reach_19 : decode cX8_reach 19 = .ok (.ifCond .eq 20, 3) := dk_153 0 20 (dk_at dksX8_reach_0 19 rfl rfl)
theorem dX8_reach_22 : decode cX8_reach 22 = .ok (.aload_n 0, 1) := dk_42 (dk_at dksX8_reach_0 22 rfl rfl)
theorem dX8_reach_23 : decode cX8_reach 23 = .ok (.iload_n 2, 1) := dk_28 (dk_at dksX8_reach_0 23 rfl rfl)
theorem dX8_reach_24 : decode cX8_reach 24 = .ok (.invokevirtual 446, 3) := dk_182 1 190 (dk_at dksX8_reach_1 0 rfl rfl)
theorem dX8_reach_27 : decode cX8_reach 27 = .ok (.ifCond .eq 12, 3) := dk_153 0 12 (dk_at dksX8_reach_1 3 rfl rfl)
theorem dX8_reach_30 : decode cX8_reach 30 = .ok (.iload_n 1, 1) := dk_27 (dk_at dksX8_reach_1 6 rfl rfl)
theorem dX8_reach_31 : decode cX8_reach 31 = .ok (.iload_n 2, 1) := dk_28 (dk_at dksX8_reach_1 7 rfl rfl)
theorem dX8_reach_32 : decode cX8_reach 32 = .ok (.if_icmp .eq 7, 3) := dk_159 0 7 (dk_at dksX8_reach_1 8 rfl rfl)
theorem dX8_reach_35 : decode cX8_reach 35 = .ok (.iload_n 3, 1) := dk_29 (dk_at dksX8_reach_1 11 rfl rfl)
theorem dX8_reach_36 : decode cX8_reach 36 = .ok (.ifCond .ne 5, 3) := dk_154 0 5 (dk_at dksX8_reach_1 12 rfl rfl)
theorem dX8_reach_39 : decode cX8_reach 39 = .ok (.iconst (-1), 1) := dk_2 (dk_at dksX8_reach_1 15 rfl rfl)
theorem dX8_reach_40 : decode cX8_reach 40 = .ok (.ireturn, 1) := dk_172 (dk_at dksX8_reach_1 16 rfl rfl)
theorem dX8_reach_41 : decode cX8_reach 41 = .ok (.iconst 0, 1) := dk_3 (dk_at dksX8_reach_1 17 rfl rfl)
theorem dX8_reach_42 : decode cX8_reach 42 = .ok (.istore 4, 2) := dk_54 4 (dk_at dksX8_reach_1 18 rfl rfl)
theorem dX8_reach_44 : decode cX8_reach 44 = .ok (.iconst 0, 1) := dk_3 (dk_at dksX8_reach_1 20 rfl rfl)
theorem dX8_reach_45 : decode cX8_reach 45 = .ok (.istore 5, 2) := dk_54 5 (dk_at dksX8_reach_1 21 rfl rfl)
theorem dX8_reach_47 : decode cX8_reach 47 = .ok (.iload 5, 2) := dk_21 5 (dk_at dksX8_reach_2 0 rfl rfl)
theorem dX8_reach_49 : decode cX8_reach 49 = .ok (.aload_n 0, 1) := dk_42 (dk_at dksX8_reach_2 2 rfl rfl)
theorem dX8_reach_50 : decode cX8_reach 50 = .ok (.getfield 390, 3) := dk_180 1 134 (dk_at dksX8_reach_2 3 rfl rfl)
theorem dX8_reach_53 : decode cX8_reach 53 = .ok (.if_icmp .ge 91, 3) := dk_162 0 91 (dk_at dksX8_reach_2 6 rfl rfl)
theorem dX8_reach_56 : decode cX8_reach 56 = .ok (.iconst 0, 1) := dk_3 (dk_at dksX8_reach_2 9 rfl rfl)
theorem dX8_reach_57 : decode cX8_reach 57 = .ok (.istore 6, 2) := dk_54 6 (dk_at dksX8_reach_2 10 rfl rfl)
theorem dX8_reach_59 : decode cX8_reach 59 = .ok (.iload 6, 2) := dk_21 6 (dk_at dksX8_reach_2 12 rfl rfl)
theorem dX8_reach_61 : decode cX8_reach 61 = .ok (.aload_n 0, 1) := dk_42 (dk_at dksX8_reach_2 14 rfl rfl)
theorem dX8_reach_62 : decode cX8_reach 62 = .ok (.getfield 390, 3) := dk_180 1 134 (dk_at dksX8_reach_2 15 rfl rfl)
theorem dX8_reach_65 : decode cX8_reach 65 = .ok (.if_icmp .ge 73, 3) := dk_162 0 73 (dk_at dksX8_reach_2 18 rfl rfl)
theorem dX8_reach_68 : decode cX8_reach 68 = .ok (.iload_n 3, 1) := dk_29 (dk_at dksX8_reach_2 21 rfl rfl)
theorem dX8_reach_69 : decode cX8_reach 69 = .ok (.iload 5, 2) := dk_21 5 (dk_at dksX8_reach_2 22 rfl rfl)
theorem dX8_reach_71 : decode cX8_reach 71 = .ok (.ishr, 1) := dk_122 (dk_at dksX8_reach_3 0 rfl rfl)
theorem dX8_reach_72 : decode cX8_reach 72 = .ok (.iconst 1, 1) := dk_4 (dk_at dksX8_reach_3 1 rfl rfl)
theorem dX8_reach_73 : decode cX8_reach 73 = .ok (.iand, 1) := dk_126 (dk_at dksX8_reach_3 2 rfl rfl)
theorem dX8_reach_74 : decode cX8_reach 74 = .ok (.ifCond .eq 58, 3) := dk_153 0 58 (dk_at dksX8_reach_3 3 rfl rfl)
theorem dX8_reach_77 : decode cX8_reach 77 = .ok (.iload_n 3, 1) := dk_29 (dk_at dksX8_reach_3 6 rfl rfl)
theorem dX8_reach_78 : decode cX8_reach 78 = .ok (.iload 6, 2) := dk_21 6 (dk_at dksX8_reach_3 7 rfl rfl)
theorem dX8_reach_80 : decode cX8_reach 80 = .ok (.ishr, 1) := dk_122 (dk_at dksX8_reach_3 9 rfl rfl)
theorem dX8_reach_81 : decode cX8_reach 81 = .ok (.iconst 1, 1) := dk_4 (dk_at dksX8_reach_3 10 rfl rfl)
theorem dX8_reach_82 : decode cX8_reach 82 = .ok (.iand, 1) := dk_126 (dk_at dksX8_reach_3 11 rfl rfl)
theorem dX8_reach_83 : decode cX8_reach 83 = .ok (.ifCond .eq 49, 3) := dk_153 0 49 (dk_at dksX8_reach_3 12 rfl rfl)
theorem dX8_reach_86 : decode cX8_reach 86 = .ok (.aload_n 0, 1) := dk_42 (dk_at dksX8_reach_3 15 rfl rfl)
theorem dX8_reach_87 : decode cX8_reach 87 = .ok (.iload_n 1, 1) := dk_27 (dk_at dksX8_reach_3 16 rfl rfl)
theorem dX8_reach_88 : decode cX8_reach 88 = .ok (.iload_n 2, 1) := dk_28 (dk_at dksX8_reach_3 17 rfl rfl)
theorem dX8_reach_89 : decode cX8_reach 89 = .ok (.iload 5, 2) := dk_21 5 (dk_at dksX8_reach_3 18 rfl rfl)
theorem dX8_reach_91 : decode cX8_reach 91 = .ok (.iload 6, 2) := dk_21 6 (dk_at dksX8_reach_3 20 rfl rfl)
theorem dX8_reach_93 : decode cX8_reach 93 = .ok (.iload_n 3, 1) := dk_29 (dk_at dksX8_reach_3 22 rfl rfl)
theorem dX8_reach_94 : decode cX8_reach 94 = .ok (.invokevirtual 514, 3) := dk_182 2 2 (dk_at dksX8_reach_4 0 rfl rfl)
theorem dX8_reach_97 : decode cX8_reach 97 = .ok (.ifCond .ne 6, 3) := dk_154 0 6 (dk_at dksX8_reach_4 3 rfl rfl)
theorem dX8_reach_100 : decode cX8_reach 100 = .ok (.goto 32, 3) := dk_167 0 32 (dk_at dksX8_reach_4 6 rfl rfl)
theorem dX8_reach_103 : decode cX8_reach 103 = .ok (.iload 4, 2) := dk_21 4 (dk_at dksX8_reach_4 9 rfl rfl)
theorem dX8_reach_105 : decode cX8_reach 105 = .ok (.ifCond .ne 24, 3) := dk_154 0 24 (dk_at dksX8_reach_4 11 rfl rfl)
theorem dX8_reach_108 : decode cX8_reach 108 = .ok (.aload_n 0, 1) := dk_42 (dk_at dksX8_reach_4 14 rfl rfl)
theorem dX8_reach_109 : decode cX8_reach 109 = .ok (.getfield 102, 3) := dk_180 0 102 (dk_at dksX8_reach_4 15 rfl rfl)
theorem dX8_reach_112 : decode cX8_reach 112 = .ok (.iconst 0, 1) := dk_3 (dk_at dksX8_reach_4 18 rfl rfl)
theorem dX8_reach_113 : decode cX8_reach 113 = .ok (.iload 5, 2) := dk_21 5 (dk_at dksX8_reach_4 19 rfl rfl)
theorem dX8_reach_115 : decode cX8_reach 115 = .ok (.iastore, 1) := dk_79 (dk_at dksX8_reach_4 21 rfl rfl)
theorem dX8_reach_116 : decode cX8_reach 116 = .ok (.aload_n 0, 1) := dk_42 (dk_at dksX8_reach_4 22 rfl rfl)
theorem dX8_reach_117 : decode cX8_reach 117 = .ok (.getfield 102, 3) := dk_180 0 102 (dk_at dksX8_reach_5 0 rfl rfl)
theorem dX8_reach_120 : decode cX8_reach 120 = .ok (.iconst 1, 1) := dk_4 (dk_at dksX8_reach_5 3 rfl rfl)
theorem dX8_reach_121 : decode cX8_reach 121 = .ok (.iload 6, 2) := dk_21 6 (dk_at dksX8_reach_5 4 rfl rfl)
theorem dX8_reach_123 : decode cX8_reach 123 = .ok (.iastore, 1) := dk_79 (dk_at dksX8_reach_5 6 rfl rfl)
theorem dX8_reach_124 : decode cX8_reach 124 = .ok (.aload_n 0, 1) := dk_42 (dk_at dksX8_reach_5 7 rfl rfl)
theorem dX8_reach_125 : decode cX8_reach 125 = .ok (.iconst 2, 1) := dk_5 (dk_at dksX8_reach_5 8 rfl rfl)
theorem dX8_reach_126 : decode cX8_reach 126 = .ok (.putfield 414, 3) := dk_181 1 158 (dk_at dksX8_reach_5 9 rfl rfl)
theorem dX8_reach_129 : decode cX8_reach 129 = .ok (.iinc 4 1, 3) := dk_132 4 1 (dk_at dksX8_reach_5 12 rfl rfl)
theorem dX8_reach_132 : decode cX8_reach 132 = .ok (.iinc 6 1, 3) := dk_132 6 1 (dk_at dksX8_reach_5 15 rfl rfl)
theorem dX8_reach_135 : decode cX8_reach 135 = .ok (.goto (-76), 3) := dk_167 255 180 (dk_at dksX8_reach_5 18 rfl rfl)
theorem dX8_reach_138 : decode cX8_reach 138 = .ok (.iinc 5 1, 3) := dk_132 5 1 (dk_at dksX8_reach_5 21 rfl rfl)
theorem dX8_reach_141 : decode cX8_reach 141 = .ok (.goto (-94), 3) := dk_167 255 162 (dk_at dksX8_reach_6 0 rfl rfl)
theorem dX8_reach_144 : decode cX8_reach 144 = .ok (.iload 4, 2) := dk_21 4 (dk_at dksX8_reach_6 3 rfl rfl)
theorem dX8_reach_146 : decode cX8_reach 146 = .ok (.ireturn, 1) := dk_172 (dk_at dksX8_reach_6 5 rfl rfl)
abbrev cX8_freeCoats : ByteArray := prog_20_method_98_code
def yX8_freeCoats : MethodName := ⟨RX8, "freeCoats", "()I"⟩
def dkwX8_freeCoats_1 : List UInt8 := [167, 0, 4, 3, 184, 1, 54, 28, 120, 128, 60, 132, 2, 1, 167, 255, 224, 27, 172]
abbrev dktX8_freeCoats_1 : List UInt8 := dkwX8_freeCoats_1 ++ []
def dkwX8_freeCoats_0 : List UInt8 := [3, 60, 3, 61, 28, 42, 180, 1, 134, 162, 0, 30, 27, 42, 28, 182, 1, 178, 156, 0, 7, 4]
abbrev dktX8_freeCoats_0 : List UInt8 := dkwX8_freeCoats_0 ++ dktX8_freeCoats_1
theorem dksX8_freeCoats_0 : cX8_freeCoats.data.toList.drop 0 = dktX8_freeCoats_0 := by decide +kernel
theorem dksX8_freeCoats_1 : cX8_freeCoats.data.toList.drop 22 = dktX8_freeCoats_1 := dk_seg dksX8_freeCoats_0 22 rfl rfl
theorem dX8_freeCoats_0 : decode cX8_freeCoats 0 = .ok (.iconst 0, 1) := dk_3 (dk_at dksX8_freeCoats_0 0 rfl rfl)
theorem dX8_freeCoats_1 : decode cX8_freeCoats 1 = .ok (.istore_n 1, 1) := dk_60 (dk_at dksX8_freeCoats_0 1 rfl rfl)
theorem dX8_freeCoats_2 : decode cX8_freeCoats 2 = .ok (.iconst 0, 1) := dk_3 (dk_at dksX8_freeCoats_0 2 rfl rfl)
theorem dX8_freeCoats_3 : decode cX8_freeCoats 3 = .ok (.istore_n 2, 1) := dk_61 (dk_at dksX8_freeCoats_0 3 rfl rfl)
theorem dX8_freeCoats_4 : decode cX8_freeCoats 4 = .ok (.iload_n 2, 1) := dk_28 (dk_at dksX8_freeCoats_0 4 rfl rfl)
theorem dX8_freeCoats_5 : decode cX8_freeCoats 5 = .ok (.aload_n 0, 1) := dk_42 (dk_at dksX8_freeCoats_0 5 rfl rfl)
theorem dX8_freeCoats_6 : decode cX8_freeCoats 6 = .ok (.getfield 390, 3) := dk_180 1 134 (dk_at dksX8_freeCoats_0 6 rfl rfl)
theorem dX8_freeCoats_9 : decode cX8_freeCoats 9 = .ok (.if_icmp .ge 30, 3) := dk_162 0 30 (dk_at dksX8_freeCoats_0 9 rfl rfl)
theorem dX8_freeCoats_12 : decode cX8_freeCoats 12 = .ok (.iload_n 1, 1) := dk_27 (dk_at dksX8_freeCoats_0 12 rfl rfl)
theorem dX8_freeCoats_13 : decode cX8_freeCoats 13 = .ok (.aload_n 0, 1) := dk_42 (dk_at dksX8_freeCoats_0 13 rfl rfl)
theorem dX8_freeCoats_14 : decode cX8_freeCoats 14 = .ok (.iload_n 2, 1) := dk_28 (dk_at dksX8_freeCoats_0 14 rfl rfl)
theorem dX8_freeCoats_15 : decode cX8_freeCoats 15 = .ok (.invokevirtual 434, 3) := dk_182 1 178 (dk_at dksX8_freeCoats_0 15 rfl rfl)
theorem dX8_freeCoats_18 : decode cX8_freeCoats 18 = .ok (.ifCond .ge 7, 3) := dk_156 0 7 (dk_at dksX8_freeCoats_0 18 rfl rfl)
theorem dX8_freeCoats_21 : decode cX8_freeCoats 21 = .ok (.iconst 1, 1) := dk_4 (dk_at dksX8_freeCoats_0 21 rfl rfl)
theorem dX8_freeCoats_22 : decode cX8_freeCoats 22 = .ok (.goto 4, 3) := dk_167 0 4 (dk_at dksX8_freeCoats_1 0 rfl rfl)
theorem dX8_freeCoats_25 : decode cX8_freeCoats 25 = .ok (.iconst 0, 1) := dk_3 (dk_at dksX8_freeCoats_1 3 rfl rfl)
theorem dX8_freeCoats_26 : decode cX8_freeCoats 26 = .ok (.invokestatic 310, 3) := dk_184 1 54 (dk_at dksX8_freeCoats_1 4 rfl rfl)
theorem dX8_freeCoats_29 : decode cX8_freeCoats 29 = .ok (.iload_n 2, 1) := dk_28 (dk_at dksX8_freeCoats_1 7 rfl rfl)
theorem dX8_freeCoats_30 : decode cX8_freeCoats 30 = .ok (.ishl, 1) := dk_120 (dk_at dksX8_freeCoats_1 8 rfl rfl)
theorem dX8_freeCoats_31 : decode cX8_freeCoats 31 = .ok (.ior, 1) := dk_128 (dk_at dksX8_freeCoats_1 9 rfl rfl)
theorem dX8_freeCoats_32 : decode cX8_freeCoats 32 = .ok (.istore_n 1, 1) := dk_60 (dk_at dksX8_freeCoats_1 10 rfl rfl)
theorem dX8_freeCoats_33 : decode cX8_freeCoats 33 = .ok (.iinc 2 1, 3) := dk_132 2 1 (dk_at dksX8_freeCoats_1 11 rfl rfl)
theorem dX8_freeCoats_36 : decode cX8_freeCoats 36 = .ok (.goto (-32), 3) := dk_167 255 224 (dk_at dksX8_freeCoats_1 14 rfl rfl)
theorem dX8_freeCoats_39 : decode cX8_freeCoats 39 = .ok (.iload_n 1, 1) := dk_27 (dk_at dksX8_freeCoats_1 17 rfl rfl)
theorem dX8_freeCoats_40 : decode cX8_freeCoats 40 = .ok (.ireturn, 1) := dk_172 (dk_at dksX8_freeCoats_1 18 rfl rfl)
abbrev cX8_isRest : ByteArray := prog_20_method_97_code
def yX8_isRest : MethodName := ⟨RX8, "isRest", "(IIIII)Z"⟩
def dkwX8_isRest_3 : List UInt8 := [161, 0, 7, 4, 167, 0, 4, 3, 54, 6, 132, 7, 1, 167, 255, 180, 21, 6, 172]
abbrev dktX8_isRest_3 : List UInt8 := dkwX8_isRest_3 ++ []
def dkwX8_isRest_2 : List UInt8 := [21, 4, 182, 1, 252, 161, 0, 26, 42, 28, 21, 7, 29, 182, 1, 252, 42, 28, 21, 4, 29, 182, 1, 252]
abbrev dktX8_isRest_2 : List UInt8 := dkwX8_isRest_2 ++ dktX8_isRest_3
def dkwX8_isRest_1 : List UInt8 := [154, 0, 6, 167, 0, 54, 21, 6, 153, 0, 46, 42, 27, 21, 7, 21, 4, 182, 1, 252, 42, 27, 29]
abbrev dktX8_isRest_1 : List UInt8 := dkwX8_isRest_1 ++ dktX8_isRest_2
def dkwX8_isRest_0 : List UInt8 := [4, 54, 6, 3, 54, 7, 21, 7, 42, 180, 1, 134, 162, 0, 73, 21, 5, 21, 7, 122, 4, 126]
abbrev dktX8_isRest_0 : List UInt8 := dkwX8_isRest_0 ++ dktX8_isRest_1
theorem dksX8_isRest_0 : cX8_isRest.data.toList.drop 0 = dktX8_isRest_0 := by decide +kernel
theorem dksX8_isRest_1 : cX8_isRest.data.toList.drop 22 = dktX8_isRest_1 := dk_seg dksX8_isRest_0 22 rfl rfl
theorem dksX8_isRest_2 : cX8_isRest.data.toList.drop 45 = dktX8_isRest_2 := dk_seg dksX8_isRest_1 23 rfl rfl
theorem dksX8_isRest_3 : cX8_isRest.data.toList.drop 69 = dktX8_isRest_3 := dk_seg dksX8_isRest_2 24 rfl rfl
theorem dX8_isRest_0 : decode cX8_isRest 0 = .ok (.iconst 1, 1) := dk_4 (dk_at dksX8_isRest_0 0 rfl rfl)
theorem dX8_isRest_1 : decode cX8_isRest 1 = .ok (.istore 6, 2) := dk_54 6 (dk_at dksX8_isRest_0 1 rfl rfl)
theorem dX8_isRest_3 : decode cX8_isRest 3 = .ok (.iconst 0, 1) := dk_3 (dk_at dksX8_isRest_0 3 rfl rfl)
theorem dX8_isRest_4 : decode cX8_isRest 4 = .ok (.istore 7, 2) := dk_54 7 (dk_at dksX8_isRest_0 4 rfl rfl)
theorem dX8_isRest_6 : decode cX8_isRest 6 = .ok (.iload 7, 2) := dk_21 7 (dk_at dksX8_isRest_0 6 rfl rfl)
theorem dX8_isRest_8 : decode cX8_isRest 8 = .ok (.aload_n 0, 1) := dk_42 (dk_at dksX8_isRest_0 8 rfl rfl)
theorem dX8_isRest_9 : decode cX8_isRest 9 = .ok (.getfield 390, 3) := dk_180 1 134 (dk_at dksX8_isRest_0 9 rfl rfl)
theorem dX8_isRest_12 : decode cX8_isRest 12 = .ok (.if_icmp .ge 73, 3) := dk_162 0 73 (dk_at dksX8_isRest_0 12 rfl rfl)
theorem dX8_isRest_15 : decode cX8_isRest 15 = .ok (.iload 5, 2) := dk_21 5 (dk_at dksX8_isRest_0 15 rfl rfl)
theorem dX8_isRest_17 : decode cX8_isRest 17 = .ok (.iload 7, 2) := dk_21 7 (dk_at dksX8_isRest_0 17 rfl rfl)
theorem dX8_isRest_19 : decode cX8_isRest 19 = .ok (.ishr, 1) := dk_122 (dk_at dksX8_isRest_0 19 rfl rfl)
theorem dX8_isRest_20 : decode cX8_isRest 20 = .ok (.iconst 1, 1) := dk_4 (dk_at dksX8_isRest_0 20 rfl rfl)
theorem dX8_isRest_21 : decode cX8_isRest 21 = .ok (.iand, 1) := dk_126 (dk_at dksX8_isRest_0 21 rfl rfl)
theorem dX8_isRest_22 : decode cX8_isRest 22 = .ok (.ifCond .ne 6, 3) := dk_154 0 6 (dk_at dksX8_isRest_1 0 rfl rfl)
theorem dX8_isRest_25 : decode cX8_isRest 25 = .ok (.goto 54, 3) := dk_167 0 54 (dk_at dksX8_isRest_1 3 rfl rfl)
theorem dX8_isRest_28 : decode cX8_isRest 28 = .ok (.iload 6, 2) := dk_21 6 (dk_at dksX8_isRest_1 6 rfl rfl)
theorem dX8_isRest_30 : decode cX8_isRest 30 = .ok (.ifCond .eq 46, 3) := dk_153 0 46 (dk_at dksX8_isRest_1 8 rfl rfl)
theorem dX8_isRest_33 : decode cX8_isRest 33 = .ok (.aload_n 0, 1) := dk_42 (dk_at dksX8_isRest_1 11 rfl rfl)
theorem dX8_isRest_34 : decode cX8_isRest 34 = .ok (.iload_n 1, 1) := dk_27 (dk_at dksX8_isRest_1 12 rfl rfl)
theorem dX8_isRest_35 : decode cX8_isRest 35 = .ok (.iload 7, 2) := dk_21 7 (dk_at dksX8_isRest_1 13 rfl rfl)
theorem dX8_isRest_37 : decode cX8_isRest 37 = .ok (.iload 4, 2) := dk_21 4 (dk_at dksX8_isRest_1 15 rfl rfl)
theorem dX8_isRest_39 : decode cX8_isRest 39 = .ok (.invokevirtual 508, 3) := dk_182 1 252 (dk_at dksX8_isRest_1 17 rfl rfl)
theorem dX8_isRest_42 : decode cX8_isRest 42 = .ok (.aload_n 0, 1) := dk_42 (dk_at dksX8_isRest_1 20 rfl rfl)
theorem dX8_isRest_43 : decode cX8_isRest 43 = .ok (.iload_n 1, 1) := dk_27 (dk_at dksX8_isRest_1 21 rfl rfl)
theorem dX8_isRest_44 : decode cX8_isRest 44 = .ok (.iload_n 3, 1) := dk_29 (dk_at dksX8_isRest_1 22 rfl rfl)
theorem dX8_isRest_45 : decode cX8_isRest 45 = .ok (.iload 4, 2) := dk_21 4 (dk_at dksX8_isRest_2 0 rfl rfl)
theorem dX8_isRest_47 : decode cX8_isRest 47 = .ok (.invokevirtual 508, 3) := dk_182 1 252 (dk_at dksX8_isRest_2 2 rfl rfl)
theorem dX8_isRest_50 : decode cX8_isRest 50 = .ok (.if_icmp .lt 26, 3) := dk_161 0 26 (dk_at dksX8_isRest_2 5 rfl rfl)
theorem dX8_isRest_53 : decode cX8_isRest 53 = .ok (.aload_n 0, 1) := dk_42 (dk_at dksX8_isRest_2 8 rfl rfl)
theorem dX8_isRest_54 : decode cX8_isRest 54 = .ok (.iload_n 2, 1) := dk_28 (dk_at dksX8_isRest_2 9 rfl rfl)
theorem dX8_isRest_55 : decode cX8_isRest 55 = .ok (.iload 7, 2) := dk_21 7 (dk_at dksX8_isRest_2 10 rfl rfl)
theorem dX8_isRest_57 : decode cX8_isRest 57 = .ok (.iload_n 3, 1) := dk_29 (dk_at dksX8_isRest_2 12 rfl rfl)
theorem dX8_isRest_58 : decode cX8_isRest 58 = .ok (.invokevirtual 508, 3) := dk_182 1 252 (dk_at dksX8_isRest_2 13 rfl rfl)
theorem dX8_isRest_61 : decode cX8_isRest 61 = .ok (.aload_n 0, 1) := dk_42 (dk_at dksX8_isRest_2 16 rfl rfl)
theorem dX8_isRest_62 : decode cX8_isRest 62 = .ok (.iload_n 2, 1) := dk_28 (dk_at dksX8_isRest_2 17 rfl rfl)
theorem dX8_isRest_63 : decode cX8_isRest 63 = .ok (.iload 4, 2) := dk_21 4 (dk_at dksX8_isRest_2 18 rfl rfl)
theorem dX8_isRest_65 : decode cX8_isRest 65 = .ok (.iload_n 3, 1) := dk_29 (dk_at dksX8_isRest_2 20 rfl rfl)
theorem dX8_isRest_66 : decode cX8_isRest 66 = .ok (.invokevirtual 508, 3) := dk_182 1 252 (dk_at dksX8_isRest_2 21 rfl rfl)
theorem dX8_isRest_69 : decode cX8_isRest 69 = .ok (.if_icmp .lt 7, 3) := dk_161 0 7 (dk_at dksX8_isRest_3 0 rfl rfl)
theorem dX8_isRest_72 : decode cX8_isRest 72 = .ok (.iconst 1, 1) := dk_4 (dk_at dksX8_isRest_3 3 rfl rfl)
theorem dX8_isRest_73 : decode cX8_isRest 73 = .ok (.goto 4, 3) := dk_167 0 4 (dk_at dksX8_isRest_3 4 rfl rfl)
theorem dX8_isRest_76 : decode cX8_isRest 76 = .ok (.iconst 0, 1) := dk_3 (dk_at dksX8_isRest_3 7 rfl rfl)
theorem dX8_isRest_77 : decode cX8_isRest 77 = .ok (.istore 6, 2) := dk_54 6 (dk_at dksX8_isRest_3 8 rfl rfl)
theorem dX8_isRest_79 : decode cX8_isRest 79 = .ok (.iinc 7 1, 3) := dk_132 7 1 (dk_at dksX8_isRest_3 10 rfl rfl)
theorem dX8_isRest_82 : decode cX8_isRest 82 = .ok (.goto (-76), 3) := dk_167 255 180 (dk_at dksX8_isRest_3 13 rfl rfl)
theorem dX8_isRest_85 : decode cX8_isRest 85 = .ok (.iload 6, 2) := dk_21 6 (dk_at dksX8_isRest_3 16 rfl rfl)
theorem dX8_isRest_87 : decode cX8_isRest 87 = .ok (.ireturn, 1) := dk_172 (dk_at dksX8_isRest_3 18 rfl rfl)
abbrev cX8_reached : ByteArray := prog_20_method_96_code
def yX8_reached : MethodName := ⟨RX8, "reached", "(III)I"⟩
def dkwX8_reached_0 : List UInt8 := [28, 29, 160, 0, 9, 17, 3, 232, 167, 0, 14, 42, 180, 0, 108, 16, 6, 27, 104, 28, 96, 46, 172]
abbrev dktX8_reached_0 : List UInt8 := dkwX8_reached_0 ++ []
theorem dksX8_reached_0 : cX8_reached.data.toList.drop 0 = dktX8_reached_0 := by decide +kernel
theorem dX8_reached_0 : decode cX8_reached 0 = .ok (.iload_n 2, 1) := dk_28 (dk_at dksX8_reached_0 0 rfl rfl)
theorem dX8_reached_1 : decode cX8_reached 1 = .ok (.iload_n 3, 1) := dk_29 (dk_at dksX8_reached_0 1 rfl rfl)
theorem dX8_reached_2 : decode cX8_reached 2 = .ok (.if_icmp .ne 9, 3) := dk_160 0 9 (dk_at dksX8_reached_0 2 rfl rfl)
theorem dX8_reached_5 : decode cX8_reached 5 = .ok (.sipush 1000, 3) := dk_17 3 232 (dk_at dksX8_reached_0 5 rfl rfl)
theorem dX8_reached_8 : decode cX8_reached 8 = .ok (.goto 14, 3) := dk_167 0 14 (dk_at dksX8_reached_0 8 rfl rfl)
theorem dX8_reached_11 : decode cX8_reached 11 = .ok (.aload_n 0, 1) := dk_42 (dk_at dksX8_reached_0 11 rfl rfl)
theorem dX8_reached_12 : decode cX8_reached 12 = .ok (.getfield 108, 3) := dk_180 0 108 (dk_at dksX8_reached_0 12 rfl rfl)
theorem dX8_reached_15 : decode cX8_reached 15 = .ok (.bipush 6, 2) := dk_16 6 (dk_at dksX8_reached_0 15 rfl rfl)
theorem dX8_reached_17 : decode cX8_reached 17 = .ok (.iload_n 1, 1) := dk_27 (dk_at dksX8_reached_0 17 rfl rfl)
theorem dX8_reached_18 : decode cX8_reached 18 = .ok (.imul, 1) := dk_104 (dk_at dksX8_reached_0 18 rfl rfl)
theorem dX8_reached_19 : decode cX8_reached 19 = .ok (.iload_n 2, 1) := dk_28 (dk_at dksX8_reached_0 19 rfl rfl)
theorem dX8_reached_20 : decode cX8_reached 20 = .ok (.iadd, 1) := dk_96 (dk_at dksX8_reached_0 20 rfl rfl)
theorem dX8_reached_21 : decode cX8_reached 21 = .ok (.iaload, 1) := dk_46 (dk_at dksX8_reached_0 21 rfl rfl)
theorem dX8_reached_22 : decode cX8_reached 22 = .ok (.ireturn, 1) := dk_172 (dk_at dksX8_reached_0 22 rfl rfl)
abbrev cX8_turning : ByteArray := prog_20_method_100_code
def yX8_turning : MethodName := ⟨RX8, "turning", "()I"⟩
def dkwX8_turning_3 : List UInt8 := [132, 3, 1, 167, 255, 190, 27, 172]
abbrev dktX8_turning_3 : List UInt8 := dkwX8_turning_3 ++ []
def dkwX8_turning_2 : List UInt8 := [182, 1, 187, 184, 1, 230, 54, 4, 21, 4, 28, 163, 0, 6, 167, 0, 8, 29, 60, 21, 4, 61]
abbrev dktX8_turning_2 : List UInt8 := dkwX8_turning_2 ++ dktX8_turning_3
def dkwX8_turning_1 : List UInt8 := [46, 29, 122, 4, 126, 4, 160, 0, 6, 167, 0, 36, 42, 180, 0, 96, 16, 30, 29, 96, 3, 79, 42]
abbrev dktX8_turning_1 : List UInt8 := dkwX8_turning_1 ++ dktX8_turning_2
def dkwX8_turning_0 : List UInt8 := [2, 60, 2, 61, 3, 62, 29, 42, 180, 1, 134, 162, 0, 64, 42, 182, 1, 193, 42, 180, 0, 96, 16, 36]
abbrev dktX8_turning_0 : List UInt8 := dkwX8_turning_0 ++ dktX8_turning_1
theorem dksX8_turning_0 : cX8_turning.data.toList.drop 0 = dktX8_turning_0 := by decide +kernel
theorem dksX8_turning_1 : cX8_turning.data.toList.drop 24 = dktX8_turning_1 := dk_seg dksX8_turning_0 24 rfl rfl
theorem dksX8_turning_2 : cX8_turning.data.toList.drop 47 = dktX8_turning_2 := dk_seg dksX8_turning_1 23 rfl rfl
theorem dksX8_turning_3 : cX8_turning.data.toList.drop 69 = dktX8_turning_3 := dk_seg dksX8_turning_2 22 rfl rfl
theorem dX8_turning_0 : decode cX8_turning 0 = .ok (.iconst (-1), 1) := dk_2 (dk_at dksX8_turning_0 0 rfl rfl)
theorem dX8_turning_1 : decode cX8_turning 1 = .ok (.istore_n 1, 1) := dk_60 (dk_at dksX8_turning_0 1 rfl rfl)
theorem dX8_turning_2 : decode cX8_turning 2 = .ok (.iconst (-1), 1) := dk_2 (dk_at dksX8_turning_0 2 rfl rfl)
theorem dX8_turning_3 : decode cX8_turning 3 = .ok (.istore_n 2, 1) := dk_61 (dk_at dksX8_turning_0 3 rfl rfl)
theorem dX8_turning_4 : decode cX8_turning 4 = .ok (.iconst 0, 1) := dk_3 (dk_at dksX8_turning_0 4 rfl rfl)
theorem dX8_turning_5 : decode cX8_turning 5 = .ok (.istore_n 3, 1) := dk_62 (dk_at dksX8_turning_0 5 rfl rfl)
theorem dX8_turning_6 : decode cX8_turning 6 = .ok (.iload_n 3, 1) := dk_29 (dk_at dksX8_turning_0 6 rfl rfl)
theorem dX8_turning_7 : decode cX8_turning 7 = .ok (.aload_n 0, 1) := dk_42 (dk_at dksX8_turning_0 7 rfl rfl)
theorem dX8_turning_8 : decode cX8_turning 8 = .ok (.getfield 390, 3) := dk_180 1 134 (dk_at dksX8_turning_0 8 rfl rfl)
theorem dX8_turning_11 : decode cX8_turning 11 = .ok (.if_icmp .ge 64, 3) := dk_162 0 64 (dk_at dksX8_turning_0 11 rfl rfl)
theorem dX8_turning_14 : decode cX8_turning 14 = .ok (.aload_n 0, 1) := dk_42 (dk_at dksX8_turning_0 14 rfl rfl)
theorem dX8_turning_15 : decode cX8_turning 15 = .ok (.invokevirtual 449, 3) := dk_182 1 193 (dk_at dksX8_turning_0 15 rfl rfl)
theorem dX8_turning_18 : decode cX8_turning 18 = .ok (.aload_n 0, 1) := dk_42 (dk_at dksX8_turning_0 18 rfl rfl)
theorem dX8_turning_19 : decode cX8_turning 19 = .ok (.getfield 96, 3) := dk_180 0 96 (dk_at dksX8_turning_0 19 rfl rfl)
theorem dX8_turning_22 : decode cX8_turning 22 = .ok (.bipush 36, 2) := dk_16 36 (dk_at dksX8_turning_0 22 rfl rfl)
theorem dX8_turning_24 : decode cX8_turning 24 = .ok (.iaload, 1) := dk_46 (dk_at dksX8_turning_1 0 rfl rfl)
theorem dX8_turning_25 : decode cX8_turning 25 = .ok (.iload_n 3, 1) := dk_29 (dk_at dksX8_turning_1 1 rfl rfl)
theorem dX8_turning_26 : decode cX8_turning 26 = .ok (.ishr, 1) := dk_122 (dk_at dksX8_turning_1 2 rfl rfl)
theorem dX8_turning_27 : decode cX8_turning 27 = .ok (.iconst 1, 1) := dk_4 (dk_at dksX8_turning_1 3 rfl rfl)
theorem dX8_turning_28 : decode cX8_turning 28 = .ok (.iand, 1) := dk_126 (dk_at dksX8_turning_1 4 rfl rfl)
theorem dX8_turning_29 : decode cX8_turning 29 = .ok (.iconst 1, 1) := dk_4 (dk_at dksX8_turning_1 5 rfl rfl)
theorem dX8_turning_30 : decode cX8_turning 30 = .ok (.if_icmp .ne 6, 3) := dk_160 0 6 (dk_at dksX8_turning_1 6 rfl rfl)
theorem dX8_turning_33 : decode cX8_turning 33 = .ok (.goto 36, 3) := dk_167 0 36 (dk_at dksX8_turning_1 9 rfl rfl)
theorem dX8_turning_36 : decode cX8_turning 36 = .ok (.aload_n 0, 1) := dk_42 (dk_at dksX8_turning_1 12 rfl rfl)
theorem dX8_turning_37 : decode cX8_turning 37 = .ok (.getfield 96, 3) := dk_180 0 96 (dk_at dksX8_turning_1 13 rfl rfl)
theorem dX8_turning_40 : decode cX8_turning 40 = .ok (.bipush 30, 2) := dk_16 30 (dk_at dksX8_turning_1 16 rfl rfl)
theorem dX8_turning_42 : decode cX8_turning 42 = .ok (.iload_n 3, 1) := dk_29 (dk_at dksX8_turning_1 18 rfl rfl)
theorem dX8_turning_43 : decode cX8_turning 43 = .ok (.iadd, 1) := dk_96 (dk_at dksX8_turning_1 19 rfl rfl)
theorem dX8_turning_44 : decode cX8_turning 44 = .ok (.iconst 0, 1) := dk_3 (dk_at dksX8_turning_1 20 rfl rfl)
theorem dX8_turning_45 : decode cX8_turning 45 = .ok (.iastore, 1) := dk_79 (dk_at dksX8_turning_1 21 rfl rfl)
theorem dX8_turning_46 : decode cX8_turning 46 = .ok (.aload_n 0, 1) := dk_42 (dk_at dksX8_turning_1 22 rfl rfl)
theorem dX8_turning_47 : decode cX8_turning 47 = .ok (.invokevirtual 443, 3) := dk_182 1 187 (dk_at dksX8_turning_2 0 rfl rfl)
theorem dX8_turning_50 : decode cX8_turning 50 = .ok (.invokestatic 486, 3) := dk_184 1 230 (dk_at dksX8_turning_2 3 rfl rfl)
theorem dX8_turning_53 : decode cX8_turning 53 = .ok (.istore 4, 2) := dk_54 4 (dk_at dksX8_turning_2 6 rfl rfl)
theorem dX8_turning_55 : decode cX8_turning 55 = .ok (.iload 4, 2) := dk_21 4 (dk_at dksX8_turning_2 8 rfl rfl)
theorem dX8_turning_57 : decode cX8_turning 57 = .ok (.iload_n 2, 1) := dk_28 (dk_at dksX8_turning_2 10 rfl rfl)
theorem dX8_turning_58 : decode cX8_turning 58 = .ok (.if_icmp .gt 6, 3) := dk_163 0 6 (dk_at dksX8_turning_2 11 rfl rfl)
theorem dX8_turning_61 : decode cX8_turning 61 = .ok (.goto 8, 3) := dk_167 0 8 (dk_at dksX8_turning_2 14 rfl rfl)
theorem dX8_turning_64 : decode cX8_turning 64 = .ok (.iload_n 3, 1) := dk_29 (dk_at dksX8_turning_2 17 rfl rfl)
theorem dX8_turning_65 : decode cX8_turning 65 = .ok (.istore_n 1, 1) := dk_60 (dk_at dksX8_turning_2 18 rfl rfl)
theorem dX8_turning_66 : decode cX8_turning 66 = .ok (.iload 4, 2) := dk_21 4 (dk_at dksX8_turning_2 19 rfl rfl)
theorem dX8_turning_68 : decode cX8_turning 68 = .ok (.istore_n 2, 1) := dk_61 (dk_at dksX8_turning_2 21 rfl rfl)
theorem dX8_turning_69 : decode cX8_turning 69 = .ok (.iinc 3 1, 3) := dk_132 3 1 (dk_at dksX8_turning_3 0 rfl rfl)
theorem dX8_turning_72 : decode cX8_turning 72 = .ok (.goto (-66), 3) := dk_167 255 190 (dk_at dksX8_turning_3 3 rfl rfl)
theorem dX8_turning_75 : decode cX8_turning 75 = .ok (.iload_n 1, 1) := dk_27 (dk_at dksX8_turning_3 6 rfl rfl)
theorem dX8_turning_76 : decode cX8_turning 76 = .ok (.ireturn, 1) := dk_172 (dk_at dksX8_turning_3 7 rfl rfl)
abbrev cX8_rags : ByteArray := prog_20_method_102_code
def yX8_rags : MethodName := ⟨RX8, "rags", "()I"⟩
def dkwX8_rags_1 : List UInt8 := [154, 0, 7, 4, 167, 0, 4, 3, 184, 1, 54, 28, 120, 128, 60, 132, 2, 1, 167, 255, 224, 27, 172]
abbrev dktX8_rags_1 : List UInt8 := dkwX8_rags_1 ++ []
def dkwX8_rags_0 : List UInt8 := [42, 182, 1, 193, 3, 60, 3, 61, 28, 42, 180, 1, 134, 162, 0, 30, 27, 42, 28, 182, 2, 6]
abbrev dktX8_rags_0 : List UInt8 := dkwX8_rags_0 ++ dktX8_rags_1
theorem dksX8_rags_0 : cX8_rags.data.toList.drop 0 = dktX8_rags_0 := by decide +kernel
theorem dksX8_rags_1 : cX8_rags.data.toList.drop 22 = dktX8_rags_1 := dk_seg dksX8_rags_0 22 rfl rfl
theorem dX8_rags_0 : decode cX8_rags 0 = .ok (.aload_n 0, 1) := dk_42 (dk_at dksX8_rags_0 0 rfl rfl)
theorem dX8_rags_1 : decode cX8_rags 1 = .ok (.invokevirtual 449, 3) := dk_182 1 193 (dk_at dksX8_rags_0 1 rfl rfl)
theorem dX8_rags_4 : decode cX8_rags 4 = .ok (.iconst 0, 1) := dk_3 (dk_at dksX8_rags_0 4 rfl rfl)
theorem dX8_rags_5 : decode cX8_rags 5 = .ok (.istore_n 1, 1) := dk_60 (dk_at dksX8_rags_0 5 rfl rfl)
theorem dX8_rags_6 : decode cX8_rags 6 = .ok (.iconst 0, 1) := dk_3 (dk_at dksX8_rags_0 6 rfl rfl)
theorem dX8_rags_7 : decode cX8_rags 7 = .ok (.istore_n 2, 1) := dk_61 (dk_at dksX8_rags_0 7 rfl rfl)
theorem dX8_rags_8 : decode cX8_rags 8 = .ok (.iload_n 2, 1) := dk_28 (dk_at dksX8_rags_0 8 rfl rfl)
theorem dX8_rags_9 : decode cX8_rags 9 = .ok (.aload_n 0, 1) := dk_42 (dk_at dksX8_rags_0 9 rfl rfl)
theorem dX8_rags_10 : decode cX8_rags 10 = .ok (.getfield 390, 3) := dk_180 1 134 (dk_at dksX8_rags_0 10 rfl rfl)
theorem dX8_rags_13 : decode cX8_rags 13 = .ok (.if_icmp .ge 30, 3) := dk_162 0 30 (dk_at dksX8_rags_0 13 rfl rfl)
theorem dX8_rags_16 : decode cX8_rags 16 = .ok (.iload_n 1, 1) := dk_27 (dk_at dksX8_rags_0 16 rfl rfl)
theorem dX8_rags_17 : decode cX8_rags 17 = .ok (.aload_n 0, 1) := dk_42 (dk_at dksX8_rags_0 17 rfl rfl)
theorem dX8_rags_18 : decode cX8_rags 18 = .ok (.iload_n 2, 1) := dk_28 (dk_at dksX8_rags_0 18 rfl rfl)
theorem dX8_rags_19 : decode cX8_rags 19 = .ok (.invokevirtual 518, 3) := dk_182 2 6 (dk_at dksX8_rags_0 19 rfl rfl)
theorem dX8_rags_22 : decode cX8_rags 22 = .ok (.ifCond .ne 7, 3) := dk_154 0 7 (dk_at dksX8_rags_1 0 rfl rfl)
theorem dX8_rags_25 : decode cX8_rags 25 = .ok (.iconst 1, 1) := dk_4 (dk_at dksX8_rags_1 3 rfl rfl)
theorem dX8_rags_26 : decode cX8_rags 26 = .ok (.goto 4, 3) := dk_167 0 4 (dk_at dksX8_rags_1 4 rfl rfl)
theorem dX8_rags_29 : decode cX8_rags 29 = .ok (.iconst 0, 1) := dk_3 (dk_at dksX8_rags_1 7 rfl rfl)
theorem dX8_rags_30 : decode cX8_rags 30 = .ok (.invokestatic 310, 3) := dk_184 1 54 (dk_at dksX8_rags_1 8 rfl rfl)
theorem dX8_rags_33 : decode cX8_rags 33 = .ok (.iload_n 2, 1) := dk_28 (dk_at dksX8_rags_1 11 rfl rfl)
theorem dX8_rags_34 : decode cX8_rags 34 = .ok (.ishl, 1) := dk_120 (dk_at dksX8_rags_1 12 rfl rfl)
theorem dX8_rags_35 : decode cX8_rags 35 = .ok (.ior, 1) := dk_128 (dk_at dksX8_rags_1 13 rfl rfl)
theorem dX8_rags_36 : decode cX8_rags 36 = .ok (.istore_n 1, 1) := dk_60 (dk_at dksX8_rags_1 14 rfl rfl)
theorem dX8_rags_37 : decode cX8_rags 37 = .ok (.iinc 2 1, 3) := dk_132 2 1 (dk_at dksX8_rags_1 15 rfl rfl)
theorem dX8_rags_40 : decode cX8_rags 40 = .ok (.goto (-32), 3) := dk_167 255 224 (dk_at dksX8_rags_1 18 rfl rfl)
theorem dX8_rags_43 : decode cX8_rags 43 = .ok (.iload_n 1, 1) := dk_27 (dk_at dksX8_rags_1 21 rfl rfl)
theorem dX8_rags_44 : decode cX8_rags 44 = .ok (.ireturn, 1) := dk_172 (dk_at dksX8_rags_1 22 rfl rfl)
abbrev cX8_menFor : ByteArray := prog_20_method_101_code
def yX8_menFor : MethodName := ⟨RX8, "menFor", "(I)I"⟩
def dkwX8_menFor_1 : List UInt8 := [132, 3, 1, 167, 255, 233, 28, 172]
abbrev dktX8_menFor_1 : List UInt8 := dkwX8_menFor_1 ++ []
def dkwX8_menFor_0 : List UInt8 := [3, 61, 3, 62, 29, 42, 180, 1, 131, 162, 0, 21, 28, 42, 29, 27, 182, 1, 168, 184, 1, 54, 96, 61]
abbrev dktX8_menFor_0 : List UInt8 := dkwX8_menFor_0 ++ dktX8_menFor_1
theorem dksX8_menFor_0 : cX8_menFor.data.toList.drop 0 = dktX8_menFor_0 := by decide +kernel
theorem dksX8_menFor_1 : cX8_menFor.data.toList.drop 24 = dktX8_menFor_1 := dk_seg dksX8_menFor_0 24 rfl rfl
theorem dX8_menFor_0 : decode cX8_menFor 0 = .ok (.iconst 0, 1) := dk_3 (dk_at dksX8_menFor_0 0 rfl rfl)
theorem dX8_menFor_1 : decode cX8_menFor 1 = .ok (.istore_n 2, 1) := dk_61 (dk_at dksX8_menFor_0 1 rfl rfl)
theorem dX8_menFor_2 : decode cX8_menFor 2 = .ok (.iconst 0, 1) := dk_3 (dk_at dksX8_menFor_0 2 rfl rfl)
theorem dX8_menFor_3 : decode cX8_menFor 3 = .ok (.istore_n 3, 1) := dk_62 (dk_at dksX8_menFor_0 3 rfl rfl)
theorem dX8_menFor_4 : decode cX8_menFor 4 = .ok (.iload_n 3, 1) := dk_29 (dk_at dksX8_menFor_0 4 rfl rfl)
theorem dX8_menFor_5 : decode cX8_menFor 5 = .ok (.aload_n 0, 1) := dk_42 (dk_at dksX8_menFor_0 5 rfl rfl)
theorem dX8_menFor_6 : decode cX8_menFor 6 = .ok (.getfield 387, 3) := dk_180 1 131 (dk_at dksX8_menFor_0 6 rfl rfl)
theorem dX8_menFor_9 : decode cX8_menFor 9 = .ok (.if_icmp .ge 21, 3) := dk_162 0 21 (dk_at dksX8_menFor_0 9 rfl rfl)
theorem dX8_menFor_12 : decode cX8_menFor 12 = .ok (.iload_n 2, 1) := dk_28 (dk_at dksX8_menFor_0 12 rfl rfl)
theorem dX8_menFor_13 : decode cX8_menFor 13 = .ok (.aload_n 0, 1) := dk_42 (dk_at dksX8_menFor_0 13 rfl rfl)
theorem dX8_menFor_14 : decode cX8_menFor 14 = .ok (.iload_n 3, 1) := dk_29 (dk_at dksX8_menFor_0 14 rfl rfl)
theorem dX8_menFor_15 : decode cX8_menFor 15 = .ok (.iload_n 1, 1) := dk_27 (dk_at dksX8_menFor_0 15 rfl rfl)
theorem dX8_menFor_16 : decode cX8_menFor 16 = .ok (.invokevirtual 424, 3) := dk_182 1 168 (dk_at dksX8_menFor_0 16 rfl rfl)
theorem dX8_menFor_19 : decode cX8_menFor 19 = .ok (.invokestatic 310, 3) := dk_184 1 54 (dk_at dksX8_menFor_0 19 rfl rfl)
theorem dX8_menFor_22 : decode cX8_menFor 22 = .ok (.iadd, 1) := dk_96 (dk_at dksX8_menFor_0 22 rfl rfl)
theorem dX8_menFor_23 : decode cX8_menFor 23 = .ok (.istore_n 2, 1) := dk_61 (dk_at dksX8_menFor_0 23 rfl rfl)
theorem dX8_menFor_24 : decode cX8_menFor 24 = .ok (.iinc 3 1, 3) := dk_132 3 1 (dk_at dksX8_menFor_1 0 rfl rfl)
theorem dX8_menFor_27 : decode cX8_menFor 27 = .ok (.goto (-23), 3) := dk_167 255 233 (dk_at dksX8_menFor_1 3 rfl rfl)
theorem dX8_menFor_30 : decode cX8_menFor 30 = .ok (.iload_n 2, 1) := dk_28 (dk_at dksX8_menFor_1 6 rfl rfl)
theorem dX8_menFor_31 : decode cX8_menFor 31 = .ok (.ireturn, 1) := dk_172 (dk_at dksX8_menFor_1 7 rfl rfl)
abbrev cX8_naked : ByteArray := prog_20_method_103_code
def yX8_naked : MethodName := ⟨RX8, "naked", "()I"⟩
def dkwX8_naked_1 : List UInt8 := [154, 0, 7, 4, 167, 0, 4, 3, 184, 1, 54, 28, 120, 128, 60, 132, 2, 1, 167, 255, 224, 27, 172]
abbrev dktX8_naked_1 : List UInt8 := dkwX8_naked_1 ++ []
def dkwX8_naked_0 : List UInt8 := [42, 182, 1, 193, 3, 60, 3, 61, 28, 42, 180, 1, 131, 162, 0, 30, 27, 42, 28, 182, 1, 196]
abbrev dktX8_naked_0 : List UInt8 := dkwX8_naked_0 ++ dktX8_naked_1
theorem dksX8_naked_0 : cX8_naked.data.toList.drop 0 = dktX8_naked_0 := by decide +kernel
theorem dksX8_naked_1 : cX8_naked.data.toList.drop 22 = dktX8_naked_1 := dk_seg dksX8_naked_0 22 rfl rfl
theorem dX8_naked_0 : decode cX8_naked 0 = .ok (.aload_n 0, 1) := dk_42 (dk_at dksX8_naked_0 0 rfl rfl)
theorem dX8_naked_1 : decode cX8_naked 1 = .ok (.invokevirtual 449, 3) := dk_182 1 193 (dk_at dksX8_naked_0 1 rfl rfl)
theorem dX8_naked_4 : decode cX8_naked 4 = .ok (.iconst 0, 1) := dk_3 (dk_at dksX8_naked_0 4 rfl rfl)
theorem dX8_naked_5 : decode cX8_naked 5 = .ok (.istore_n 1, 1) := dk_60 (dk_at dksX8_naked_0 5 rfl rfl)
theorem dX8_naked_6 : decode cX8_naked 6 = .ok (.iconst 0, 1) := dk_3 (dk_at dksX8_naked_0 6 rfl rfl)
theorem dX8_naked_7 : decode cX8_naked 7 = .ok (.istore_n 2, 1) := dk_61 (dk_at dksX8_naked_0 7 rfl rfl)
theorem dX8_naked_8 : decode cX8_naked 8 = .ok (.iload_n 2, 1) := dk_28 (dk_at dksX8_naked_0 8 rfl rfl)
theorem dX8_naked_9 : decode cX8_naked 9 = .ok (.aload_n 0, 1) := dk_42 (dk_at dksX8_naked_0 9 rfl rfl)
theorem dX8_naked_10 : decode cX8_naked 10 = .ok (.getfield 387, 3) := dk_180 1 131 (dk_at dksX8_naked_0 10 rfl rfl)
theorem dX8_naked_13 : decode cX8_naked 13 = .ok (.if_icmp .ge 30, 3) := dk_162 0 30 (dk_at dksX8_naked_0 13 rfl rfl)
theorem dX8_naked_16 : decode cX8_naked 16 = .ok (.iload_n 1, 1) := dk_27 (dk_at dksX8_naked_0 16 rfl rfl)
theorem dX8_naked_17 : decode cX8_naked 17 = .ok (.aload_n 0, 1) := dk_42 (dk_at dksX8_naked_0 17 rfl rfl)
theorem dX8_naked_18 : decode cX8_naked 18 = .ok (.iload_n 2, 1) := dk_28 (dk_at dksX8_naked_0 18 rfl rfl)
theorem dX8_naked_19 : decode cX8_naked 19 = .ok (.invokevirtual 452, 3) := dk_182 1 196 (dk_at dksX8_naked_0 19 rfl rfl)
theorem dX8_naked_22 : decode cX8_naked 22 = .ok (.ifCond .ne 7, 3) := dk_154 0 7 (dk_at dksX8_naked_1 0 rfl rfl)
theorem dX8_naked_25 : decode cX8_naked 25 = .ok (.iconst 1, 1) := dk_4 (dk_at dksX8_naked_1 3 rfl rfl)
theorem dX8_naked_26 : decode cX8_naked 26 = .ok (.goto 4, 3) := dk_167 0 4 (dk_at dksX8_naked_1 4 rfl rfl)
theorem dX8_naked_29 : decode cX8_naked 29 = .ok (.iconst 0, 1) := dk_3 (dk_at dksX8_naked_1 7 rfl rfl)
theorem dX8_naked_30 : decode cX8_naked 30 = .ok (.invokestatic 310, 3) := dk_184 1 54 (dk_at dksX8_naked_1 8 rfl rfl)
theorem dX8_naked_33 : decode cX8_naked 33 = .ok (.iload_n 2, 1) := dk_28 (dk_at dksX8_naked_1 11 rfl rfl)
theorem dX8_naked_34 : decode cX8_naked 34 = .ok (.ishl, 1) := dk_120 (dk_at dksX8_naked_1 12 rfl rfl)
theorem dX8_naked_35 : decode cX8_naked 35 = .ok (.ior, 1) := dk_128 (dk_at dksX8_naked_1 13 rfl rfl)
theorem dX8_naked_36 : decode cX8_naked 36 = .ok (.istore_n 1, 1) := dk_60 (dk_at dksX8_naked_1 14 rfl rfl)
theorem dX8_naked_37 : decode cX8_naked 37 = .ok (.iinc 2 1, 3) := dk_132 2 1 (dk_at dksX8_naked_1 15 rfl rfl)
theorem dX8_naked_40 : decode cX8_naked 40 = .ok (.goto (-32), 3) := dk_167 255 224 (dk_at dksX8_naked_1 18 rfl rfl)
theorem dX8_naked_43 : decode cX8_naked 43 = .ok (.iload_n 1, 1) := dk_27 (dk_at dksX8_naked_1 21 rfl rfl)
theorem dX8_naked_44 : decode cX8_naked 44 = .ok (.ireturn, 1) := dk_172 (dk_at dksX8_naked_1 22 rfl rfl)
abbrev cX8_popular : ByteArray := prog_20_method_104_code
def yX8_popular : MethodName := ⟨RX8, "popular", "(I)I"⟩
def dkwX8_popular_0 : List UInt8 := [42, 182, 1, 193, 42, 27, 182, 1, 199, 153, 0, 11, 42, 27, 182, 2, 6, 167, 0, 4, 2, 172]
abbrev dktX8_popular_0 : List UInt8 := dkwX8_popular_0 ++ []
theorem dksX8_popular_0 : cX8_popular.data.toList.drop 0 = dktX8_popular_0 := by decide +kernel
theorem dX8_popular_0 : decode cX8_popular 0 = .ok (.aload_n 0, 1) := dk_42 (dk_at dksX8_popular_0 0 rfl rfl)
theorem dX8_popular_1 : decode cX8_popular 1 = .ok (.invokevirtual 449, 3) := dk_182 1 193 (dk_at dksX8_popular_0 1 rfl rfl)
theorem dX8_popular_4 : decode cX8_popular 4 = .ok (.aload_n 0, 1) := dk_42 (dk_at dksX8_popular_0 4 rfl rfl)
theorem dX8_popular_5 : decode cX8_popular 5 = .ok (.iload_n 1, 1) := dk_27 (dk_at dksX8_popular_0 5 rfl rfl)
theorem dX8_popular_6 : decode cX8_popular 6 = .ok (.invokevirtual 455, 3) := dk_182 1 199 (dk_at dksX8_popular_0 6 rfl rfl)
theorem dX8_popular_9 : decode cX8_popular 9 = .ok (.ifCond .eq 11, 3) := dk_153 0 11 (dk_at dksX8_popular_0 9 rfl rfl)
theorem dX8_popular_12 : decode cX8_popular 12 = .ok (.aload_n 0, 1) := dk_42 (dk_at dksX8_popular_0 12 rfl rfl)
theorem dX8_popular_13 : decode cX8_popular 13 = .ok (.iload_n 1, 1) := dk_27 (dk_at dksX8_popular_0 13 rfl rfl)
theorem dX8_popular_14 : decode cX8_popular 14 = .ok (.invokevirtual 518, 3) := dk_182 2 6 (dk_at dksX8_popular_0 14 rfl rfl)
theorem dX8_popular_17 : decode cX8_popular 17 = .ok (.goto 4, 3) := dk_167 0 4 (dk_at dksX8_popular_0 17 rfl rfl)
theorem dX8_popular_20 : decode cX8_popular 20 = .ok (.iconst (-1), 1) := dk_2 (dk_at dksX8_popular_0 20 rfl rfl)
theorem dX8_popular_21 : decode cX8_popular 21 = .ok (.ireturn, 1) := dk_172 (dk_at dksX8_popular_0 21 rfl rfl)
abbrev cX8_law : ByteArray := prog_20_method_106_code
def yX8_law : MethodName := ⟨RX8, "law", "(I)I"⟩
def dkwX8_law_2 : List UInt8 := [4, 167, 0, 4, 3, 184, 1, 54, 96, 61, 132, 3, 1, 167, 255, 217, 28, 172]
abbrev dktX8_law_2 : List UInt8 := dkwX8_law_2 ++ []
def dkwX8_law_1 : List UInt8 := [180, 1, 131, 162, 0, 37, 28, 42, 29, 182, 2, 9, 155, 0, 16, 42, 29, 182, 2, 9, 27, 163, 0, 7]
abbrev dktX8_law_1 : List UInt8 := dkwX8_law_1 ++ dktX8_law_2
def dkwX8_law_0 : List UInt8 := [27, 3, 17, 3, 231, 184, 1, 161, 154, 0, 5, 2, 172, 42, 182, 1, 193, 3, 61, 3, 62, 29, 42]
abbrev dktX8_law_0 : List UInt8 := dkwX8_law_0 ++ dktX8_law_1
theorem dksX8_law_0 : cX8_law.data.toList.drop 0 = dktX8_law_0 := by decide +kernel
theorem dksX8_law_1 : cX8_law.data.toList.drop 23 = dktX8_law_1 := dk_seg dksX8_law_0 23 rfl rfl
theorem dksX8_law_2 : cX8_law.data.toList.drop 47 = dktX8_law_2 := dk_seg dksX8_law_1 24 rfl rfl
theorem dX8_law_0 : decode cX8_law 0 = .ok (.iload_n 1, 1) := dk_27 (dk_at dksX8_law_0 0 rfl rfl)
theorem dX8_law_1 : decode cX8_law 1 = .ok (.iconst 0, 1) := dk_3 (dk_at dksX8_law_0 1 rfl rfl)
theorem dX8_law_2 : decode cX8_law 2 = .ok (.sipush 999, 3) := dk_17 3 231 (dk_at dksX8_law_0 2 rfl rfl)
theorem dX8_law_5 : decode cX8_law 5 = .ok (.invokestatic 417, 3) := dk_184 1 161 (dk_at dksX8_law_0 5 rfl rfl)
theorem dX8_law_8 : decode cX8_law 8 = .ok (.ifCond .ne 5, 3) := dk_154 0 5 (dk_at dksX8_law_0 8 rfl rfl)
theorem dX8_law_11 : decode cX8_law 11 = .ok (.iconst (-1), 1) := dk_2 (dk_at dksX8_law_0 11 rfl rfl)
theorem dX8_law_12 : decode cX8_law 12 = .ok (.ireturn, 1) := dk_172 (dk_at dksX8_law_0 12 rfl rfl)
theorem dX8_law_13 : decode cX8_law 13 = .ok (.aload_n 0, 1) := dk_42 (dk_at dksX8_law_0 13 rfl rfl)
theorem dX8_law_14 : decode cX8_law 14 = .ok (.invokevirtual 449, 3) := dk_182 1 193 (dk_at dksX8_law_0 14 rfl rfl)
theorem dX8_law_17 : decode cX8_law 17 = .ok (.iconst 0, 1) := dk_3 (dk_at dksX8_law_0 17 rfl rfl)
theorem dX8_law_18 : decode cX8_law 18 = .ok (.istore_n 2, 1) := dk_61 (dk_at dksX8_law_0 18 rfl rfl)
theorem dX8_law_19 : decode cX8_law 19 = .ok (.iconst 0, 1) := dk_3 (dk_at dksX8_law_0 19 rfl rfl)
theorem dX8_law_20 : decode cX8_law 20 = .ok (.istore_n 3, 1) := dk_62 (dk_at dksX8_law_0 20 rfl rfl)
theorem dX8_law_21 : decode cX8_law 21 = .ok (.iload_n 3, 1) := dk_29 (dk_at dksX8_law_0 21 rfl rfl)
theorem dX8_law_22 : decode cX8_law 22 = .ok (.aload_n 0, 1) := dk_42 (dk_at dksX8_law_0 22 rfl rfl)
theorem dX8_law_23 : decode cX8_law 23 = .ok (.getfield 387, 3) := dk_180 1 131 (dk_at dksX8_law_1 0 rfl rfl)
theorem dX8_law_26 : decode cX8_law 26 = .ok (.if_icmp .ge 37, 3) := dk_162 0 37 (dk_at dksX8_law_1 3 rfl rfl)
theorem dX8_law_29 : decode cX8_law 29 = .ok (.iload_n 2, 1) := dk_28 (dk_at dksX8_law_1 6 rfl rfl)
theorem dX8_law_30 : decode cX8_law 30 = .ok (.aload_n 0, 1) := dk_42 (dk_at dksX8_law_1 7 rfl rfl)
theorem dX8_law_31 : decode cX8_law 31 = .ok (.iload_n 3, 1) := dk_29 (dk_at dksX8_law_1 8 rfl rfl)
theorem dX8_law_32 : decode cX8_law 32 = .ok (.invokevirtual 521, 3) := dk_182 2 9 (dk_at dksX8_law_1 9 rfl rfl)
theorem dX8_law_35 : decode cX8_law 35 = .ok (.ifCond .lt 16, 3) := dk_155 0 16 (dk_at dksX8_law_1 12 rfl rfl)
theorem dX8_law_38 : decode cX8_law 38 = .ok (.aload_n 0, 1) := dk_42 (dk_at dksX8_law_1 15 rfl rfl)
theorem dX8_law_39 : decode cX8_law 39 = .ok (.iload_n 3, 1) := dk_29 (dk_at dksX8_law_1 16 rfl rfl)
theorem dX8_law_40 : decode cX8_law 40 = .ok (.invokevirtual 521, 3) := dk_182 2 9 (dk_at dksX8_law_1 17 rfl rfl)
theorem dX8_law_43 : decode cX8_law 43 = .ok (.iload_n 1, 1) := dk_27 (dk_at dksX8_law_1 20 rfl rfl)
theorem dX8_law_44 : decode cX8_law 44 = .ok (.if_icmp .gt 7, 3) := dk_163 0 7 (dk_at dksX8_law_1 21 rfl rfl)
theorem dX8_law_47 : decode cX8_law 47 = .ok (.iconst 1, 1) := dk_4 (dk_at dksX8_law_2 0 rfl rfl)
theorem dX8_law_48 : decode cX8_law 48 = .ok (.goto 4, 3) := dk_167 0 4 (dk_at dksX8_law_2 1 rfl rfl)
theorem dX8_law_51 : decode cX8_law 51 = .ok (.iconst 0, 1) := dk_3 (dk_at dksX8_law_2 4 rfl rfl)
theorem dX8_law_52 : decode cX8_law 52 = .ok (.invokestatic 310, 3) := dk_184 1 54 (dk_at dksX8_law_2 5 rfl rfl)
theorem dX8_law_55 : decode cX8_law 55 = .ok (.iadd, 1) := dk_96 (dk_at dksX8_law_2 8 rfl rfl)
theorem dX8_law_56 : decode cX8_law 56 = .ok (.istore_n 2, 1) := dk_61 (dk_at dksX8_law_2 9 rfl rfl)
theorem dX8_law_57 : decode cX8_law 57 = .ok (.iinc 3 1, 3) := dk_132 3 1 (dk_at dksX8_law_2 10 rfl rfl)
theorem dX8_law_60 : decode cX8_law 60 = .ok (.goto (-39), 3) := dk_167 255 217 (dk_at dksX8_law_2 13 rfl rfl)
theorem dX8_law_63 : decode cX8_law 63 = .ok (.iload_n 2, 1) := dk_28 (dk_at dksX8_law_2 16 rfl rfl)
theorem dX8_law_64 : decode cX8_law 64 = .ok (.ireturn, 1) := dk_172 (dk_at dksX8_law_2 17 rfl rfl)
abbrev cX8_ownIll : ByteArray := prog_20_method_105_code
def yX8_ownIll : MethodName := ⟨RX8, "ownIll", "(I)I"⟩
def dkwX8_ownIll_1 : List UInt8 := [27, 96, 46, 182, 1, 165, 172]
abbrev dktX8_ownIll_1 : List UInt8 := dkwX8_ownIll_1 ++ []
def dkwX8_ownIll_0 : List UInt8 := [42, 180, 0, 96, 16, 6, 27, 96, 46, 156, 0, 7, 2, 167, 0, 17, 42, 27, 42, 180, 0, 96, 16, 6]
abbrev dktX8_ownIll_0 : List UInt8 := dkwX8_ownIll_0 ++ dktX8_ownIll_1
theorem dksX8_ownIll_0 : cX8_ownIll.data.toList.drop 0 = dktX8_ownIll_0 := by decide +kernel
theorem dksX8_ownIll_1 : cX8_ownIll.data.toList.drop 24 = dktX8_ownIll_1 := dk_seg dksX8_ownIll_0 24 rfl rfl
theorem dX8_ownIll_0 : decode cX8_ownIll 0 = .ok (.aload_n 0, 1) := dk_42 (dk_at dksX8_ownIll_0 0 rfl rfl)
theorem dX8_ownIll_1 : decode cX8_ownIll 1 = .ok (.getfield 96, 3) := dk_180 0 96 (dk_at dksX8_ownIll_0 1 rfl rfl)
theorem dX8_ownIll_4 : decode cX8_ownIll 4 = .ok (.bipush 6, 2) := dk_16 6 (dk_at dksX8_ownIll_0 4 rfl rfl)
theorem dX8_ownIll_6 : decode cX8_ownIll 6 = .ok (.iload_n 1, 1) := dk_27 (dk_at dksX8_ownIll_0 6 rfl rfl)
theorem dX8_ownIll_7 : decode cX8_ownIll 7 = .ok (.iadd, 1) := dk_96 (dk_at dksX8_ownIll_0 7 rfl rfl)
theorem dX8_ownIll_8 : decode cX8_ownIll 8 = .ok (.iaload, 1) := dk_46 (dk_at dksX8_ownIll_0 8 rfl rfl)
theorem dX8_ownIll_9 : decode cX8_ownIll 9 = .ok (.ifCond .ge 7, 3) := dk_156 0 7 (dk_at dksX8_ownIll_0 9 rfl rfl)
theorem dX8_ownIll_12 : decode cX8_ownIll 12 = .ok (.iconst (-1), 1) := dk_2 (dk_at dksX8_ownIll_0 12 rfl rfl)
theorem dX8_ownIll_13 : decode cX8_ownIll 13 = .ok (.goto 17, 3) := dk_167 0 17 (dk_at dksX8_ownIll_0 13 rfl rfl)
theorem dX8_ownIll_16 : decode cX8_ownIll 16 = .ok (.aload_n 0, 1) := dk_42 (dk_at dksX8_ownIll_0 16 rfl rfl)
theorem dX8_ownIll_17 : decode cX8_ownIll 17 = .ok (.iload_n 1, 1) := dk_27 (dk_at dksX8_ownIll_0 17 rfl rfl)
theorem dX8_ownIll_18 : decode cX8_ownIll 18 = .ok (.aload_n 0, 1) := dk_42 (dk_at dksX8_ownIll_0 18 rfl rfl)
theorem dX8_ownIll_19 : decode cX8_ownIll 19 = .ok (.getfield 96, 3) := dk_180 0 96 (dk_at dksX8_ownIll_0 19 rfl rfl)
theorem dX8_ownIll_22 : decode cX8_ownIll 22 = .ok (.bipush 6, 2) := dk_16 6 (dk_at dksX8_ownIll_0 22 rfl rfl)
theorem dX8_ownIll_24 : decode cX8_ownIll 24 = .ok (.iload_n 1, 1) := dk_27 (dk_at dksX8_ownIll_1 0 rfl rfl)
theorem dX8_ownIll_25 : decode cX8_ownIll 25 = .ok (.iadd, 1) := dk_96 (dk_at dksX8_ownIll_1 1 rfl rfl)
theorem dX8_ownIll_26 : decode cX8_ownIll 26 = .ok (.iaload, 1) := dk_46 (dk_at dksX8_ownIll_1 2 rfl rfl)
theorem dX8_ownIll_27 : decode cX8_ownIll 27 = .ok (.invokevirtual 421, 3) := dk_182 1 165 (dk_at dksX8_ownIll_1 3 rfl rfl)
theorem dX8_ownIll_30 : decode cX8_ownIll 30 = .ok (.ireturn, 1) := dk_172 (dk_at dksX8_ownIll_1 6 rfl rfl)
abbrev cX8_ease : ByteArray := prog_20_method_107_code
def yX8_ease : MethodName := ⟨RX8, "ease", "()I"⟩
def dkwX8_ease_1 : List UInt8 := [184, 1, 181, 60, 132, 2, 1, 167, 255, 235, 27, 172]
abbrev dktX8_ease_1 : List UInt8 := dkwX8_ease_1 ++ []
def dkwX8_ease_0 : List UInt8 := [42, 182, 1, 193, 3, 60, 3, 61, 28, 42, 180, 1, 131, 162, 0, 19, 27, 42, 28, 182, 2, 9]
abbrev dktX8_ease_0 : List UInt8 := dkwX8_ease_0 ++ dktX8_ease_1
theorem dksX8_ease_0 : cX8_ease.data.toList.drop 0 = dktX8_ease_0 := by decide +kernel
theorem dksX8_ease_1 : cX8_ease.data.toList.drop 22 = dktX8_ease_1 := dk_seg dksX8_ease_0 22 rfl rfl
theorem dX8_ease_0 : decode cX8_ease 0 = .ok (.aload_n 0, 1) := dk_42 (dk_at dksX8_ease_0 0 rfl rfl)
theorem dX8_ease_1 : decode cX8_ease 1 = .ok (.invokevirtual 449, 3) := dk_182 1 193 (dk_at dksX8_ease_0 1 rfl rfl)
theorem dX8_ease_4 : decode cX8_ease 4 = .ok (.iconst 0, 1) := dk_3 (dk_at dksX8_ease_0 4 rfl rfl)
theorem dX8_ease_5 : decode cX8_ease 5 = .ok (.istore_n 1, 1) := dk_60 (dk_at dksX8_ease_0 5 rfl rfl)
theorem dX8_ease_6 : decode cX8_ease 6 = .ok (.iconst 0, 1) := dk_3 (dk_at dksX8_ease_0 6 rfl rfl)
theorem dX8_ease_7 : decode cX8_ease 7 = .ok (.istore_n 2, 1) := dk_61 (dk_at dksX8_ease_0 7 rfl rfl)
theorem dX8_ease_8 : decode cX8_ease 8 = .ok (.iload_n 2, 1) := dk_28 (dk_at dksX8_ease_0 8 rfl rfl)
theorem dX8_ease_9 : decode cX8_ease 9 = .ok (.aload_n 0, 1) := dk_42 (dk_at dksX8_ease_0 9 rfl rfl)
theorem dX8_ease_10 : decode cX8_ease 10 = .ok (.getfield 387, 3) := dk_180 1 131 (dk_at dksX8_ease_0 10 rfl rfl)
theorem dX8_ease_13 : decode cX8_ease 13 = .ok (.if_icmp .ge 19, 3) := dk_162 0 19 (dk_at dksX8_ease_0 13 rfl rfl)
theorem dX8_ease_16 : decode cX8_ease 16 = .ok (.iload_n 1, 1) := dk_27 (dk_at dksX8_ease_0 16 rfl rfl)
theorem dX8_ease_17 : decode cX8_ease 17 = .ok (.aload_n 0, 1) := dk_42 (dk_at dksX8_ease_0 17 rfl rfl)
theorem dX8_ease_18 : decode cX8_ease 18 = .ok (.iload_n 2, 1) := dk_28 (dk_at dksX8_ease_0 18 rfl rfl)
theorem dX8_ease_19 : decode cX8_ease 19 = .ok (.invokevirtual 521, 3) := dk_182 2 9 (dk_at dksX8_ease_0 19 rfl rfl)
theorem dX8_ease_22 : decode cX8_ease 22 = .ok (.invokestatic 437, 3) := dk_184 1 181 (dk_at dksX8_ease_1 0 rfl rfl)
theorem dX8_ease_25 : decode cX8_ease 25 = .ok (.istore_n 1, 1) := dk_60 (dk_at dksX8_ease_1 3 rfl rfl)
theorem dX8_ease_26 : decode cX8_ease 26 = .ok (.iinc 2 1, 3) := dk_132 2 1 (dk_at dksX8_ease_1 4 rfl rfl)
theorem dX8_ease_29 : decode cX8_ease 29 = .ok (.goto (-21), 3) := dk_167 255 235 (dk_at dksX8_ease_1 7 rfl rfl)
theorem dX8_ease_32 : decode cX8_ease 32 = .ok (.iload_n 1, 1) := dk_27 (dk_at dksX8_ease_1 10 rfl rfl)
theorem dX8_ease_33 : decode cX8_ease 33 = .ok (.ireturn, 1) := dk_172 (dk_at dksX8_ease_1 11 rfl rfl)
abbrev cX8_breadth : ByteArray := prog_20_method_108_code
def yX8_breadth : MethodName := ⟨RX8, "breadth", "()I"⟩
def dkwX8_breadth_0 : List UInt8 := [42, 182, 1, 193, 42, 42, 182, 1, 184, 182, 1, 236, 172]
abbrev dktX8_breadth_0 : List UInt8 := dkwX8_breadth_0 ++ []
theorem dksX8_breadth_0 : cX8_breadth.data.toList.drop 0 = dktX8_breadth_0 := by decide +kernel
theorem dX8_breadth_0 : decode cX8_breadth 0 = .ok (.aload_n 0, 1) := dk_42 (dk_at dksX8_breadth_0 0 rfl rfl)
theorem dX8_breadth_1 : decode cX8_breadth 1 = .ok (.invokevirtual 449, 3) := dk_182 1 193 (dk_at dksX8_breadth_0 1 rfl rfl)
theorem dX8_breadth_4 : decode cX8_breadth 4 = .ok (.aload_n 0, 1) := dk_42 (dk_at dksX8_breadth_0 4 rfl rfl)
theorem dX8_breadth_5 : decode cX8_breadth 5 = .ok (.aload_n 0, 1) := dk_42 (dk_at dksX8_breadth_0 5 rfl rfl)
theorem dX8_breadth_6 : decode cX8_breadth 6 = .ok (.invokevirtual 440, 3) := dk_182 1 184 (dk_at dksX8_breadth_0 6 rfl rfl)
theorem dX8_breadth_9 : decode cX8_breadth 9 = .ok (.invokevirtual 492, 3) := dk_182 1 236 (dk_at dksX8_breadth_0 9 rfl rfl)
theorem dX8_breadth_12 : decode cX8_breadth 12 = .ok (.ireturn, 1) := dk_172 (dk_at dksX8_breadth_0 12 rfl rfl)
abbrev cX8_odds : ByteArray := prog_20_method_110_code
def yX8_odds : MethodName := ⟨RX8, "odds", "(II)I"⟩
def dkwX8_odds_2 : List UInt8 := [54, 5, 28, 154, 0, 10, 29, 21, 5, 108, 167, 0, 8, 21, 4, 21, 5, 108, 172]
abbrev dktX8_odds_2 : List UInt8 := dkwX8_odds_2 ++ []
def dkwX8_odds_1 : List UInt8 := [180, 1, 137, 100, 27, 184, 1, 217, 62, 16, 100, 27, 184, 1, 217, 54, 4, 21, 4, 29, 184, 2, 12]
abbrev dktX8_odds_1 : List UInt8 := dkwX8_odds_1 ++ dktX8_odds_2
def dkwX8_odds_0 : List UInt8 := [27, 3, 7, 184, 1, 161, 153, 0, 12, 28, 3, 4, 184, 1, 161, 154, 0, 5, 2, 172, 16, 100, 42]
abbrev dktX8_odds_0 : List UInt8 := dkwX8_odds_0 ++ dktX8_odds_1
theorem dksX8_odds_0 : cX8_odds.data.toList.drop 0 = dktX8_odds_0 := by decide +kernel
theorem dksX8_odds_1 : cX8_odds.data.toList.drop 23 = dktX8_odds_1 := dk_seg dksX8_odds_0 23 rfl rfl
theorem dksX8_odds_2 : cX8_odds.data.toList.drop 46 = dktX8_odds_2 := dk_seg dksX8_odds_1 23 rfl rfl
theorem dX8_odds_0 : decode cX8_odds 0 = .ok (.iload_n 1, 1) := dk_27 (dk_at dksX8_odds_0 0 rfl rfl)
theorem dX8_odds_1 : decode cX8_odds 1 = .ok (.iconst 0, 1) := dk_3 (dk_at dksX8_odds_0 1 rfl rfl)
theorem dX8_odds_2 : decode cX8_odds 2 = .ok (.iconst 4, 1) := dk_7 (dk_at dksX8_odds_0 2 rfl rfl)
theorem dX8_odds_3 : decode cX8_odds 3 = .ok (.invokestatic 417, 3) := dk_184 1 161 (dk_at dksX8_odds_0 3 rfl rfl)
theorem dX8_odds_6 : decode cX8_odds 6 = .ok (.ifCond .eq 12, 3) := dk_153 0 12 (dk_at dksX8_odds_0 6 rfl rfl)
theorem dX8_odds_9 : decode cX8_odds 9 = .ok (.iload_n 2, 1) := dk_28 (dk_at dksX8_odds_0 9 rfl rfl)
theorem dX8_odds_10 : decode cX8_odds 10 = .ok (.iconst 0, 1) := dk_3 (dk_at dksX8_odds_0 10 rfl rfl)
theorem dX8_odds_11 : decode cX8_odds 11 = .ok (.iconst 1, 1) := dk_4 (dk_at dksX8_odds_0 11 rfl rfl)
theorem dX8_odds_12 : decode cX8_odds 12 = .ok (.invokestatic 417, 3) := dk_184 1 161 (dk_at dksX8_odds_0 12 rfl rfl)
theorem dX8_odds_15 : decode cX8_odds 15 = .ok (.ifCond .ne 5, 3) := dk_154 0 5 (dk_at dksX8_odds_0 15 rfl rfl)
theorem dX8_odds_18 : decode cX8_odds 18 = .ok (.iconst (-1), 1) := dk_2 (dk_at dksX8_odds_0 18 rfl rfl)
theorem dX8_odds_19 : decode cX8_odds 19 = .ok (.ireturn, 1) := dk_172 (dk_at dksX8_odds_0 19 rfl rfl)
theorem dX8_odds_20 : decode cX8_odds 20 = .ok (.bipush 100, 2) := dk_16 100 (dk_at dksX8_odds_0 20 rfl rfl)
theorem dX8_odds_22 : decode cX8_odds 22 = .ok (.aload_n 0, 1) := dk_42 (dk_at dksX8_odds_0 22 rfl rfl)
theorem dX8_odds_23 : decode cX8_odds 23 = .ok (.getfield 393, 3) := dk_180 1 137 (dk_at dksX8_odds_1 0 rfl rfl)
theorem dX8_odds_26 : decode cX8_odds 26 = .ok (.isub, 1) := dk_100 (dk_at dksX8_odds_1 3 rfl rfl)
theorem dX8_odds_27 : decode cX8_odds 27 = .ok (.iload_n 1, 1) := dk_27 (dk_at dksX8_odds_1 4 rfl rfl)
theorem dX8_odds_28 : decode cX8_odds 28 = .ok (.invokestatic 473, 3) := dk_184 1 217 (dk_at dksX8_odds_1 5 rfl rfl)
theorem dX8_odds_31 : decode cX8_odds 31 = .ok (.istore_n 3, 1) := dk_62 (dk_at dksX8_odds_1 8 rfl rfl)
theorem dX8_odds_32 : decode cX8_odds 32 = .ok (.bipush 100, 2) := dk_16 100 (dk_at dksX8_odds_1 9 rfl rfl)
theorem dX8_odds_34 : decode cX8_odds 34 = .ok (.iload_n 1, 1) := dk_27 (dk_at dksX8_odds_1 11 rfl rfl)
theorem dX8_odds_35 : decode cX8_odds 35 = .ok (.invokestatic 473, 3) := dk_184 1 217 (dk_at dksX8_odds_1 12 rfl rfl)
theorem dX8_odds_38 : decode cX8_odds 38 = .ok (.istore 4, 2) := dk_54 4 (dk_at dksX8_odds_1 15 rfl rfl)
theorem dX8_odds_40 : decode cX8_odds 40 = .ok (.iload 4, 2) := dk_21 4 (dk_at dksX8_odds_1 17 rfl rfl)
theorem dX8_odds_42 : decode cX8_odds 42 = .ok (.iload_n 3, 1) := dk_29 (dk_at dksX8_odds_1 19 rfl rfl)
theorem dX8_odds_43 : decode cX8_odds 43 = .ok (.invokestatic 524, 3) := dk_184 2 12 (dk_at dksX8_odds_1 20 rfl rfl)
theorem dX8_odds_46 : decode cX8_odds 46 = .ok (.istore 5, 2) := dk_54 5 (dk_at dksX8_odds_2 0 rfl rfl)
theorem dX8_odds_48 : decode cX8_odds 48 = .ok (.iload_n 2, 1) := dk_28 (dk_at dksX8_odds_2 2 rfl rfl)
theorem dX8_odds_49 : decode cX8_odds 49 = .ok (.ifCond .ne 10, 3) := dk_154 0 10 (dk_at dksX8_odds_2 3 rfl rfl)
theorem dX8_odds_52 : decode cX8_odds 52 = .ok (.iload_n 3, 1) := dk_29 (dk_at dksX8_odds_2 6 rfl rfl)
theorem dX8_odds_53 : decode cX8_odds 53 = .ok (.iload 5, 2) := dk_21 5 (dk_at dksX8_odds_2 7 rfl rfl)
theorem dX8_odds_55 : decode cX8_odds 55 = .ok (.idiv, 1) := dk_108 (dk_at dksX8_odds_2 9 rfl rfl)
theorem dX8_odds_56 : decode cX8_odds 56 = .ok (.goto 8, 3) := dk_167 0 8 (dk_at dksX8_odds_2 10 rfl rfl)
theorem dX8_odds_59 : decode cX8_odds 59 = .ok (.iload 4, 2) := dk_21 4 (dk_at dksX8_odds_2 13 rfl rfl)
theorem dX8_odds_61 : decode cX8_odds 61 = .ok (.iload 5, 2) := dk_21 5 (dk_at dksX8_odds_2 15 rfl rfl)
theorem dX8_odds_63 : decode cX8_odds 63 = .ok (.idiv, 1) := dk_108 (dk_at dksX8_odds_2 17 rfl rfl)
theorem dX8_odds_64 : decode cX8_odds 64 = .ok (.ireturn, 1) := dk_172 (dk_at dksX8_odds_2 18 rfl rfl)
abbrev cX8_divisor : ByteArray := prog_20_method_109_code
def yX8_divisor : MethodName := ⟨RX8, "divisor", "(II)I"⟩
def dkwX8_divisor_0 : List UInt8 := [26, 61, 27, 62, 29, 158, 0, 16, 28, 29, 112, 54, 4, 29, 61, 21, 4, 62, 167, 255, 242, 28, 172]
abbrev dktX8_divisor_0 : List UInt8 := dkwX8_divisor_0 ++ []
theorem dksX8_divisor_0 : cX8_divisor.data.toList.drop 0 = dktX8_divisor_0 := by decide +kernel
theorem dX8_divisor_0 : decode cX8_divisor 0 = .ok (.iload_n 0, 1) := dk_26 (dk_at dksX8_divisor_0 0 rfl rfl)
theorem dX8_divisor_1 : decode cX8_divisor 1 = .ok (.istore_n 2, 1) := dk_61 (dk_at dksX8_divisor_0 1 rfl rfl)
theorem dX8_divisor_2 : decode cX8_divisor 2 = .ok (.iload_n 1, 1) := dk_27 (dk_at dksX8_divisor_0 2 rfl rfl)
theorem dX8_divisor_3 : decode cX8_divisor 3 = .ok (.istore_n 3, 1) := dk_62 (dk_at dksX8_divisor_0 3 rfl rfl)
theorem dX8_divisor_4 : decode cX8_divisor 4 = .ok (.iload_n 3, 1) := dk_29 (dk_at dksX8_divisor_0 4 rfl rfl)
theorem dX8_divisor_5 : decode cX8_divisor 5 = .ok (.ifCond .le 16, 3) := dk_158 0 16 (dk_at dksX8_divisor_0 5 rfl rfl)
theorem dX8_divisor_8 : decode cX8_divisor 8 = .ok (.iload_n 2, 1) := dk_28 (dk_at dksX8_divisor_0 8 rfl rfl)
theorem dX8_divisor_9 : decode cX8_divisor 9 = .ok (.iload_n 3, 1) := dk_29 (dk_at dksX8_divisor_0 9 rfl rfl)
theorem dX8_divisor_10 : decode cX8_divisor 10 = .ok (.irem, 1) := dk_112 (dk_at dksX8_divisor_0 10 rfl rfl)
theorem dX8_divisor_11 : decode cX8_divisor 11 = .ok (.istore 4, 2) := dk_54 4 (dk_at dksX8_divisor_0 11 rfl rfl)
theorem dX8_divisor_13 : decode cX8_divisor 13 = .ok (.iload_n 3, 1) := dk_29 (dk_at dksX8_divisor_0 13 rfl rfl)
theorem dX8_divisor_14 : decode cX8_divisor 14 = .ok (.istore_n 2, 1) := dk_61 (dk_at dksX8_divisor_0 14 rfl rfl)
theorem dX8_divisor_15 : decode cX8_divisor 15 = .ok (.iload 4, 2) := dk_21 4 (dk_at dksX8_divisor_0 15 rfl rfl)
theorem dX8_divisor_17 : decode cX8_divisor 17 = .ok (.istore_n 3, 1) := dk_62 (dk_at dksX8_divisor_0 17 rfl rfl)
theorem dX8_divisor_18 : decode cX8_divisor 18 = .ok (.goto (-14), 3) := dk_167 255 242 (dk_at dksX8_divisor_0 18 rfl rfl)
theorem dX8_divisor_21 : decode cX8_divisor 21 = .ok (.iload_n 2, 1) := dk_28 (dk_at dksX8_divisor_0 21 rfl rfl)
theorem dX8_divisor_22 : decode cX8_divisor 22 = .ok (.ireturn, 1) := dk_172 (dk_at dksX8_divisor_0 22 rfl rfl)
abbrev cX8_lies : ByteArray := prog_20_method_111_code
def yX8_lies : MethodName := ⟨RX8, "lies", "(I)I"⟩
def dkwX8_lies_1 : List UInt8 := [16, 254, 172]
abbrev dktX8_lies_1 : List UInt8 := dkwX8_lies_1 ++ []
def dkwX8_lies_0 : List UInt8 := [27, 3, 42, 180, 1, 158, 4, 100, 184, 1, 161, 153, 0, 12, 42, 180, 0, 102, 27, 46, 167, 0, 5]
abbrev dktX8_lies_0 : List UInt8 := dkwX8_lies_0 ++ dktX8_lies_1
theorem dksX8_lies_0 : cX8_lies.data.toList.drop 0 = dktX8_lies_0 := by decide +kernel
theorem dksX8_lies_1 : cX8_lies.data.toList.drop 23 = dktX8_lies_1 := dk_seg dksX8_lies_0 23 rfl rfl
theorem dX8_lies_0 : decode cX8_lies 0 = .ok (.iload_n 1, 1) := dk_27 (dk_at dksX8_lies_0 0 rfl rfl)
theorem dX8_lies_1 : decode cX8_lies 1 = .ok (.iconst 0, 1) := dk_3 (dk_at dksX8_lies_0 1 rfl rfl)
theorem dX8_lies_2 : decode cX8_lies 2 = .ok (.aload_n 0, 1) := dk_42 (dk_at dksX8_lies_0 2 rfl rfl)
theorem dX8_lies_3 : decode cX8_lies 3 = .ok (.getfield 414, 3) := dk_180 1 158 (dk_at dksX8_lies_0 3 rfl rfl)
theorem dX8_lies_6 : decode cX8_lies 6 = .ok (.iconst 1, 1) := dk_4 (dk_at dksX8_lies_0 6 rfl rfl)
theorem dX8_lies_7 : decode cX8_lies 7 = .ok (.isub, 1) := dk_100 (dk_at dksX8_lies_0 7 rfl rfl)
theorem dX8_lies_8 : decode cX8_lies 8 = .ok (.invokestatic 417, 3) := dk_184 1 161 (dk_at dksX8_lies_0 8 rfl rfl)
theorem dX8_lies_11 : decode cX8_lies 11 = .ok (.ifCond .eq 12, 3) := dk_153 0 12 (dk_at dksX8_lies_0 11 rfl rfl)
theorem dX8_lies_14 : decode cX8_lies 14 = .ok (.aload_n 0, 1) := dk_42 (dk_at dksX8_lies_0 14 rfl rfl)
theorem dX8_lies_15 : decode cX8_lies 15 = .ok (.getfield 102, 3) := dk_180 0 102 (dk_at dksX8_lies_0 15 rfl rfl)
theorem dX8_lies_18 : decode cX8_lies 18 = .ok (.iload_n 1, 1) := dk_27 (dk_at dksX8_lies_0 18 rfl rfl)
theorem dX8_lies_19 : decode cX8_lies 19 = .ok (.iaload, 1) := dk_46 (dk_at dksX8_lies_0 19 rfl rfl)
theorem dX8_lies_20 : decode cX8_lies 20 = .ok (.goto 5, 3) := dk_167 0 5 (dk_at dksX8_lies_0 20 rfl rfl)
theorem dX8_lies_23 : decode cX8_lies 23 = .ok (.bipush (-2), 2) := dk_16 254 (dk_at dksX8_lies_1 0 rfl rfl)
theorem dX8_lies_25 : decode cX8_lies 25 = .ok (.ireturn, 1) := dk_172 (dk_at dksX8_lies_1 2 rfl rfl)
abbrev cX8_seen : ByteArray := prog_20_method_112_code
def yX8_seen : MethodName := ⟨RX8, "seen", "(IZ)I"⟩
def dkwX8_seen_4 : List UInt8 := [100, 172]
abbrev dktX8_seen_4 : List UInt8 := dkwX8_seen_4 ++ []
def dkwX8_seen_3 : List UInt8 := [180, 0, 120, 42, 180, 1, 155, 2, 79, 42, 89, 180, 1, 155, 4, 96, 181, 1, 155, 42, 180, 1, 155, 4]
abbrev dktX8_seen_3 : List UInt8 := dkwX8_seen_3 ++ dktX8_seen_4
def dkwX8_seen_2 : List UInt8 := [180, 0, 123, 42, 180, 1, 155, 28, 84, 42, 180, 0, 117, 42, 180, 1, 155, 42, 180, 2, 15, 79, 42]
abbrev dktX8_seen_2 : List UInt8 := dkwX8_seen_2 ++ dktX8_seen_3
def dkwX8_seen_1 : List UInt8 := [42, 180, 1, 155, 16, 30, 160, 0, 5, 2, 172, 42, 180, 0, 114, 42, 180, 1, 155, 27, 79, 42]
abbrev dktX8_seen_1 : List UInt8 := dkwX8_seen_1 ++ dktX8_seen_2
def dkwX8_seen_0 : List UInt8 := [27, 3, 16, 20, 184, 1, 161, 153, 0, 26, 42, 180, 1, 131, 153, 0, 19, 42, 180, 1, 134, 153, 0, 12]
abbrev dktX8_seen_0 : List UInt8 := dkwX8_seen_0 ++ dktX8_seen_1
theorem dksX8_seen_0 : cX8_seen.data.toList.drop 0 = dktX8_seen_0 := by decide +kernel
theorem dksX8_seen_1 : cX8_seen.data.toList.drop 24 = dktX8_seen_1 := dk_seg dksX8_seen_0 24 rfl rfl
theorem dksX8_seen_2 : cX8_seen.data.toList.drop 46 = dktX8_seen_2 := dk_seg dksX8_seen_1 22 rfl rfl
theorem dksX8_seen_3 : cX8_seen.data.toList.drop 69 = dktX8_seen_3 := dk_seg dksX8_seen_2 23 rfl rfl
theorem dksX8_seen_4 : cX8_seen.data.toList.drop 93 = dktX8_seen_4 := dk_seg dksX8_seen_3 24 rfl rfl
theorem dX8_seen_0 : decode cX8_seen 0 = .ok (.iload_n 1, 1) := dk_27 (dk_at dksX8_seen_0 0 rfl rfl)
theorem dX8_seen_1 : decode cX8_seen 1 = .ok (.iconst 0, 1) := dk_3 (dk_at dksX8_seen_0 1 rfl rfl)
theorem dX8_seen_2 : decode cX8_seen 2 = .ok (.bipush 20, 2) := dk_16 20 (dk_at dksX8_seen_0 2 rfl rfl)
theorem dX8_seen_4 : decode cX8_seen 4 = .ok (.invokestatic 417, 3) := dk_184 1 161 (dk_at dksX8_seen_0 4 rfl rfl)
theorem dX8_seen_7 : decode cX8_seen 7 = .ok (.ifCond .eq 26, 3) := dk_153 0 26 (dk_at dksX8_seen_0 7 rfl rfl)
theorem dX8_seen_10 : decode cX8_seen 10 = .ok (.aload_n 0, 1) := dk_42 (dk_at dksX8_seen_0 10 rfl rfl)
theorem dX8_seen_11 : decode cX8_seen 11 = .ok (.getfield 387, 3) := dk_180 1 131 (dk_at dksX8_seen_0 11 rfl rfl)
theorem dX8_seen_14 : decode cX8_seen 14 = .ok (.ifCond .eq 19, 3) := dk_153 0 19 (dk_at dksX8_seen_0 14 rfl rfl)
theorem dX8_seen_17 : decode cX8_seen 17 = .ok (.aload_n 0, 1) := dk_42 (dk_at dksX8_seen_0 17 rfl rfl)
theorem dX8_seen_18 : decode cX8_seen 18 = .ok (.getfield 390, 3) := dk_180 1 134 (dk_at dksX8_seen_0 18 rfl rfl)
theorem dX8_seen_21 : decode cX8_seen 21 = .ok (.ifCond .eq 12, 3) := dk_153 0 12 (dk_at dksX8_seen_0 21 rfl rfl)
theorem dX8_seen_24 : decode cX8_seen 24 = .ok (.aload_n 0, 1) := dk_42 (dk_at dksX8_seen_1 0 rfl rfl)
theorem dX8_seen_25 : decode cX8_seen 25 = .ok (.getfield 411, 3) := dk_180 1 155 (dk_at dksX8_seen_1 1 rfl rfl)
theorem dX8_seen_28 : decode cX8_seen 28 = .ok (.bipush 30, 2) := dk_16 30 (dk_at dksX8_seen_1 4 rfl rfl)
theorem dX8_seen_30 : decode cX8_seen 30 = .ok (.if_icmp .ne 5, 3) := dk_160 0 5 (dk_at dksX8_seen_1 6 rfl rfl)
theorem dX8_seen_33 : decode cX8_seen 33 = .ok (.iconst (-1), 1) := dk_2 (dk_at dksX8_seen_1 9 rfl rfl)
theorem dX8_seen_34 : decode cX8_seen 34 = .ok (.ireturn, 1) := dk_172 (dk_at dksX8_seen_1 10 rfl rfl)
theorem dX8_seen_35 : decode cX8_seen 35 = .ok (.aload_n 0, 1) := dk_42 (dk_at dksX8_seen_1 11 rfl rfl)
theorem dX8_seen_36 : decode cX8_seen 36 = .ok (.getfield 114, 3) := dk_180 0 114 (dk_at dksX8_seen_1 12 rfl rfl)
theorem dX8_seen_39 : decode cX8_seen 39 = .ok (.aload_n 0, 1) := dk_42 (dk_at dksX8_seen_1 15 rfl rfl)
theorem dX8_seen_40 : decode cX8_seen 40 = .ok (.getfield 411, 3) := dk_180 1 155 (dk_at dksX8_seen_1 16 rfl rfl)
theorem dX8_seen_43 : decode cX8_seen 43 = .ok (.iload_n 1, 1) := dk_27 (dk_at dksX8_seen_1 19 rfl rfl)
theorem dX8_seen_44 : decode cX8_seen 44 = .ok (.iastore, 1) := dk_79 (dk_at dksX8_seen_1 20 rfl rfl)
theorem dX8_seen_45 : decode cX8_seen 45 = .ok (.aload_n 0, 1) := dk_42 (dk_at dksX8_seen_1 21 rfl rfl)
theorem dX8_seen_46 : decode cX8_seen 46 = .ok (.getfield 123, 3) := dk_180 0 123 (dk_at dksX8_seen_2 0 rfl rfl)
theorem dX8_seen_49 : decode cX8_seen 49 = .ok (.aload_n 0, 1) := dk_42 (dk_at dksX8_seen_2 3 rfl rfl)
theorem dX8_seen_50 : decode cX8_seen 50 = .ok (.getfield 411, 3) := dk_180 1 155 (dk_at dksX8_seen_2 4 rfl rfl)
theorem dX8_seen_53 : decode cX8_seen 53 = .ok (.iload_n 2, 1) := dk_28 (dk_at dksX8_seen_2 7 rfl rfl)
theorem dX8_seen_54 : decode cX8_seen 54 = .ok (.bastore, 1) := dk_84 (dk_at dksX8_seen_2 8 rfl rfl)
theorem dX8_seen_55 : decode cX8_seen 55 = .ok (.aload_n 0, 1) := dk_42 (dk_at dksX8_seen_2 9 rfl rfl)
theorem dX8_seen_56 : decode cX8_seen 56 = .ok (.getfield 117, 3) := dk_180 0 117 (dk_at dksX8_seen_2 10 rfl rfl)
theorem dX8_seen_59 : decode cX8_seen 59 = .ok (.aload_n 0, 1) := dk_42 (dk_at dksX8_seen_2 13 rfl rfl)
theorem dX8_seen_60 : decode cX8_seen 60 = .ok (.getfield 411, 3) := dk_180 1 155 (dk_at dksX8_seen_2 14 rfl rfl)
theorem dX8_seen_63 : decode cX8_seen 63 = .ok (.aload_n 0, 1) := dk_42 (dk_at dksX8_seen_2 17 rfl rfl)
theorem dX8_seen_64 : decode cX8_seen 64 = .ok (.getfield 527, 3) := dk_180 2 15 (dk_at dksX8_seen_2 18 rfl rfl)
theorem dX8_seen_67 : decode cX8_seen 67 = .ok (.iastore, 1) := dk_79 (dk_at dksX8_seen_2 21 rfl rfl)
theorem dX8_seen_68 : decode cX8_seen 68 = .ok (.aload_n 0, 1) := dk_42 (dk_at dksX8_seen_2 22 rfl rfl)
theorem dX8_seen_69 : decode cX8_seen 69 = .ok (.getfield 120, 3) := dk_180 0 120 (dk_at dksX8_seen_3 0 rfl rfl)
theorem dX8_seen_72 : decode cX8_seen 72 = .ok (.aload_n 0, 1) := dk_42 (dk_at dksX8_seen_3 3 rfl rfl)
theorem dX8_seen_73 : decode cX8_seen 73 = .ok (.getfield 411, 3) := dk_180 1 155 (dk_at dksX8_seen_3 4 rfl rfl)
theorem dX8_seen_76 : decode cX8_seen 76 = .ok (.iconst (-1), 1) := dk_2 (dk_at dksX8_seen_3 7 rfl rfl)
theorem dX8_seen_77 : decode cX8_seen 77 = .ok (.iastore, 1) := dk_79 (dk_at dksX8_seen_3 8 rfl rfl)
theorem dX8_seen_78 : decode cX8_seen 78 = .ok (.aload_n 0, 1) := dk_42 (dk_at dksX8_seen_3 9 rfl rfl)
theorem dX8_seen_79 : decode cX8_seen 79 = .ok (.dup, 1) := dk_89 (dk_at dksX8_seen_3 10 rfl rfl)
theorem dX8_seen_80 : decode cX8_seen 80 = .ok (.getfield 411, 3) := dk_180 1 155 (dk_at dksX8_seen_3 11 rfl rfl)
theorem dX8_seen_83 : decode cX8_seen 83 = .ok (.iconst 1, 1) := dk_4 (dk_at dksX8_seen_3 14 rfl rfl)
theorem dX8_seen_84 : decode cX8_seen 84 = .ok (.iadd, 1) := dk_96 (dk_at dksX8_seen_3 15 rfl rfl)
theorem dX8_seen_85 : decode cX8_seen 85 = .ok (.putfield 411, 3) := dk_181 1 155 (dk_at dksX8_seen_3 16 rfl rfl)
theorem dX8_seen_88 : decode cX8_seen 88 = .ok (.aload_n 0, 1) := dk_42 (dk_at dksX8_seen_3 19 rfl rfl)
theorem dX8_seen_89 : decode cX8_seen 89 = .ok (.getfield 411, 3) := dk_180 1 155 (dk_at dksX8_seen_3 20 rfl rfl)
theorem dX8_seen_92 : decode cX8_seen 92 = .ok (.iconst 1, 1) := dk_4 (dk_at dksX8_seen_3 23 rfl rfl)
theorem dX8_seen_93 : decode cX8_seen 93 = .ok (.isub, 1) := dk_100 (dk_at dksX8_seen_4 0 rfl rfl)
theorem dX8_seen_94 : decode cX8_seen 94 = .ok (.ireturn, 1) := dk_172 (dk_at dksX8_seen_4 1 rfl rfl)
abbrev cX8_untell : ByteArray := prog_20_method_113_code
def yX8_untell : MethodName := ⟨RX8, "untell", "(I)Z"⟩
def dkwX8_untell_1 : List UInt8 := [172, 42, 180, 0, 120, 27, 42, 180, 2, 15, 79, 4, 172]
abbrev dktX8_untell_1 : List UInt8 := dkwX8_untell_1 ++ []
def dkwX8_untell_0 : List UInt8 := [27, 3, 42, 180, 1, 155, 4, 100, 184, 1, 161, 153, 0, 12, 42, 180, 0, 120, 27, 46, 155, 0, 5, 3]
abbrev dktX8_untell_0 : List UInt8 := dkwX8_untell_0 ++ dktX8_untell_1
theorem dksX8_untell_0 : cX8_untell.data.toList.drop 0 = dktX8_untell_0 := by decide +kernel
theorem dksX8_untell_1 : cX8_untell.data.toList.drop 24 = dktX8_untell_1 := dk_seg dksX8_untell_0 24 rfl rfl
theorem dX8_untell_0 : decode cX8_untell 0 = .ok (.iload_n 1, 1) := dk_27 (dk_at dksX8_untell_0 0 rfl rfl)
theorem dX8_untell_1 : decode cX8_untell 1 = .ok (.iconst 0, 1) := dk_3 (dk_at dksX8_untell_0 1 rfl rfl)
theorem dX8_untell_2 : decode cX8_untell 2 = .ok (.aload_n 0, 1) := dk_42 (dk_at dksX8_untell_0 2 rfl rfl)
theorem dX8_untell_3 : decode cX8_untell 3 = .ok (.getfield 411, 3) := dk_180 1 155 (dk_at dksX8_untell_0 3 rfl rfl)
theorem dX8_untell_6 : decode cX8_untell 6 = .ok (.iconst 1, 1) := dk_4 (dk_at dksX8_untell_0 6 rfl rfl)
theorem dX8_untell_7 : decode cX8_untell 7 = .ok (.isub, 1) := dk_100 (dk_at dksX8_untell_0 7 rfl rfl)
theorem dX8_untell_8 : decode cX8_untell 8 = .ok (.invokestatic 417, 3) := dk_184 1 161 (dk_at dksX8_untell_0 8 rfl rfl)
theorem dX8_untell_11 : decode cX8_untell 11 = .ok (.ifCond .eq 12, 3) := dk_153 0 12 (dk_at dksX8_untell_0 11 rfl rfl)
theorem dX8_untell_14 : decode cX8_untell 14 = .ok (.aload_n 0, 1) := dk_42 (dk_at dksX8_untell_0 14 rfl rfl)
theorem dX8_untell_15 : decode cX8_untell 15 = .ok (.getfield 120, 3) := dk_180 0 120 (dk_at dksX8_untell_0 15 rfl rfl)
theorem dX8_untell_18 : decode cX8_untell 18 = .ok (.iload_n 1, 1) := dk_27 (dk_at dksX8_untell_0 18 rfl rfl)
theorem dX8_untell_19 : decode cX8_untell 19 = .ok (.iaload, 1) := dk_46 (dk_at dksX8_untell_0 19 rfl rfl)
theorem dX8_untell_20 : decode cX8_untell 20 = .ok (.ifCond .lt 5, 3) := dk_155 0 5 (dk_at dksX8_untell_0 20 rfl rfl)
theorem dX8_untell_23 : decode cX8_untell 23 = .ok (.iconst 0, 1) := dk_3 (dk_at dksX8_untell_0 23 rfl rfl)
theorem dX8_untell_24 : decode cX8_untell 24 = .ok (.ireturn, 1) := dk_172 (dk_at dksX8_untell_1 0 rfl rfl)
theorem dX8_untell_25 : decode cX8_untell 25 = .ok (.aload_n 0, 1) := dk_42 (dk_at dksX8_untell_1 1 rfl rfl)
theorem dX8_untell_26 : decode cX8_untell 26 = .ok (.getfield 120, 3) := dk_180 0 120 (dk_at dksX8_untell_1 2 rfl rfl)
theorem dX8_untell_29 : decode cX8_untell 29 = .ok (.iload_n 1, 1) := dk_27 (dk_at dksX8_untell_1 5 rfl rfl)
theorem dX8_untell_30 : decode cX8_untell 30 = .ok (.aload_n 0, 1) := dk_42 (dk_at dksX8_untell_1 6 rfl rfl)
theorem dX8_untell_31 : decode cX8_untell 31 = .ok (.getfield 527, 3) := dk_180 2 15 (dk_at dksX8_untell_1 7 rfl rfl)
theorem dX8_untell_34 : decode cX8_untell 34 = .ok (.iastore, 1) := dk_79 (dk_at dksX8_untell_1 10 rfl rfl)
theorem dX8_untell_35 : decode cX8_untell 35 = .ok (.iconst 1, 1) := dk_4 (dk_at dksX8_untell_1 11 rfl rfl)
theorem dX8_untell_36 : decode cX8_untell 36 = .ok (.ireturn, 1) := dk_172 (dk_at dksX8_untell_1 12 rfl rfl)
abbrev cX8_later : ByteArray := prog_20_method_114_code
def yX8_later : MethodName := ⟨RX8, "later", "(I)I"⟩
def dkwX8_later_1 : List UInt8 := [172, 42, 89, 180, 2, 15, 27, 96, 181, 2, 15, 42, 180, 2, 15, 172]
abbrev dktX8_later_1 : List UInt8 := dkwX8_later_1 ++ []
def dkwX8_later_0 : List UInt8 := [27, 155, 0, 22, 27, 17, 3, 232, 163, 0, 15, 42, 180, 2, 15, 27, 96, 19, 2, 18, 164, 0, 5, 2]
abbrev dktX8_later_0 : List UInt8 := dkwX8_later_0 ++ dktX8_later_1
theorem dksX8_later_0 : cX8_later.data.toList.drop 0 = dktX8_later_0 := by decide +kernel
theorem dksX8_later_1 : cX8_later.data.toList.drop 24 = dktX8_later_1 := dk_seg dksX8_later_0 24 rfl rfl
theorem dX8_later_0 : decode cX8_later 0 = .ok (.iload_n 1, 1) := dk_27 (dk_at dksX8_later_0 0 rfl rfl)
theorem dX8_later_1 : decode cX8_later 1 = .ok (.ifCond .lt 22, 3) := dk_155 0 22 (dk_at dksX8_later_0 1 rfl rfl)
theorem dX8_later_4 : decode cX8_later 4 = .ok (.iload_n 1, 1) := dk_27 (dk_at dksX8_later_0 4 rfl rfl)
theorem dX8_later_5 : decode cX8_later 5 = .ok (.sipush 1000, 3) := dk_17 3 232 (dk_at dksX8_later_0 5 rfl rfl)
theorem dX8_later_8 : decode cX8_later 8 = .ok (.if_icmp .gt 15, 3) := dk_163 0 15 (dk_at dksX8_later_0 8 rfl rfl)
theorem dX8_later_11 : decode cX8_later 11 = .ok (.aload_n 0, 1) := dk_42 (dk_at dksX8_later_0 11 rfl rfl)
theorem dX8_later_12 : decode cX8_later 12 = .ok (.getfield 527, 3) := dk_180 2 15 (dk_at dksX8_later_0 12 rfl rfl)
theorem dX8_later_15 : decode cX8_later 15 = .ok (.iload_n 1, 1) := dk_27 (dk_at dksX8_later_0 15 rfl rfl)
theorem dX8_later_16 : decode cX8_later 16 = .ok (.iadd, 1) := dk_96 (dk_at dksX8_later_0 16 rfl rfl)
theorem dX8_later_17 : decode cX8_later 17 = .ok (.ldc_w 530, 3) := dk_19 2 18 (dk_at dksX8_later_0 17 rfl rfl)
theorem dX8_later_20 : decode cX8_later 20 = .ok (.if_icmp .le 5, 3) := dk_164 0 5 (dk_at dksX8_later_0 20 rfl rfl)
theorem dX8_later_23 : decode cX8_later 23 = .ok (.iconst (-1), 1) := dk_2 (dk_at dksX8_later_0 23 rfl rfl)
theorem dX8_later_24 : decode cX8_later 24 = .ok (.ireturn, 1) := dk_172 (dk_at dksX8_later_1 0 rfl rfl)
theorem dX8_later_25 : decode cX8_later 25 = .ok (.aload_n 0, 1) := dk_42 (dk_at dksX8_later_1 1 rfl rfl)
theorem dX8_later_26 : decode cX8_later 26 = .ok (.dup, 1) := dk_89 (dk_at dksX8_later_1 2 rfl rfl)
theorem dX8_later_27 : decode cX8_later 27 = .ok (.getfield 527, 3) := dk_180 2 15 (dk_at dksX8_later_1 3 rfl rfl)
theorem dX8_later_30 : decode cX8_later 30 = .ok (.iload_n 1, 1) := dk_27 (dk_at dksX8_later_1 6 rfl rfl)
theorem dX8_later_31 : decode cX8_later 31 = .ok (.iadd, 1) := dk_96 (dk_at dksX8_later_1 7 rfl rfl)
theorem dX8_later_32 : decode cX8_later 32 = .ok (.putfield 527, 3) := dk_181 2 15 (dk_at dksX8_later_1 8 rfl rfl)
theorem dX8_later_35 : decode cX8_later 35 = .ok (.aload_n 0, 1) := dk_42 (dk_at dksX8_later_1 11 rfl rfl)
theorem dX8_later_36 : decode cX8_later 36 = .ok (.getfield 527, 3) := dk_180 2 15 (dk_at dksX8_later_1 12 rfl rfl)
theorem dX8_later_39 : decode cX8_later 39 = .ok (.ireturn, 1) := dk_172 (dk_at dksX8_later_1 15 rfl rfl)
abbrev cX8_growths : ByteArray := prog_20_method_117_code
def yX8_growths : MethodName := ⟨RX8, "growths", "(I)I"⟩
def dkwX8_growths_0 : List UInt8 := [42, 27, 182, 2, 22, 172]
abbrev dktX8_growths_0 : List UInt8 := dkwX8_growths_0 ++ []
theorem dksX8_growths_0 : cX8_growths.data.toList.drop 0 = dktX8_growths_0 := by decide +kernel
theorem dX8_growths_0 : decode cX8_growths 0 = .ok (.aload_n 0, 1) := dk_42 (dk_at dksX8_growths_0 0 rfl rfl)
theorem dX8_growths_1 : decode cX8_growths 1 = .ok (.iload_n 1, 1) := dk_27 (dk_at dksX8_growths_0 1 rfl rfl)
theorem dX8_growths_2 : decode cX8_growths 2 = .ok (.invokevirtual 534, 3) := dk_182 2 22 (dk_at dksX8_growths_0 2 rfl rfl)
theorem dX8_growths_5 : decode cX8_growths 5 = .ok (.ireturn, 1) := dk_172 (dk_at dksX8_growths_0 5 rfl rfl)
abbrev cX8_layGrowths : ByteArray := prog_20_method_116_code
def yX8_layGrowths : MethodName := ⟨RX8, "layGrowths", "(I)I"⟩
def dkwX8_layGrowths_6 : List UInt8 := [28, 172]
abbrev dktX8_layGrowths_6 : List UInt8 := dkwX8_layGrowths_6 ++ []
def dkwX8_layGrowths_5 : List UInt8 := [29, 27, 182, 2, 19, 84, 28, 42, 180, 0, 130, 29, 51, 184, 1, 54, 96, 61, 132, 3, 1, 167, 255, 120]
abbrev dktX8_layGrowths_5 : List UInt8 := dkwX8_layGrowths_5 ++ dktX8_layGrowths_6
def dkwX8_layGrowths_4 : List UInt8 := [79, 42, 180, 0, 96, 16, 37, 92, 46, 4, 96, 79, 132, 4, 1, 167, 255, 177, 42, 180, 0, 130, 29, 42]
abbrev dktX8_layGrowths_4 : List UInt8 := dkwX8_layGrowths_4 ++ dktX8_layGrowths_5
def dkwX8_layGrowths_3 : List UInt8 := [184, 1, 175, 79, 42, 180, 0, 96, 16, 30, 16, 99, 42, 180, 0, 96, 16, 30, 46, 4, 96, 184, 1, 175]
abbrev dktX8_layGrowths_3 : List UInt8 := dkwX8_layGrowths_3 ++ dktX8_layGrowths_4
def dkwX8_layGrowths_2 : List UInt8 := [96, 42, 3, 3, 182, 1, 168, 84, 42, 180, 0, 96, 3, 16, 99, 42, 180, 0, 96, 3, 46, 29, 96]
abbrev dktX8_layGrowths_2 : List UInt8 := dkwX8_layGrowths_2 ++ dktX8_layGrowths_3
def dkwX8_layGrowths_1 : List UInt8 := [42, 182, 1, 143, 3, 54, 4, 21, 4, 16, 20, 163, 0, 78, 42, 180, 0, 127, 16, 21, 29, 104, 21, 4]
abbrev dktX8_layGrowths_1 : List UInt8 := dkwX8_layGrowths_1 ++ dktX8_layGrowths_2
def dkwX8_layGrowths_0 : List UInt8 := [3, 61, 3, 62, 29, 16, 30, 163, 0, 136, 42, 180, 1, 131, 158, 0, 129, 42, 180, 1, 134, 158, 0, 122]
abbrev dktX8_layGrowths_0 : List UInt8 := dkwX8_layGrowths_0 ++ dktX8_layGrowths_1
theorem dksX8_layGrowths_0 : cX8_layGrowths.data.toList.drop 0 = dktX8_layGrowths_0 := by decide +kernel
theorem dksX8_layGrowths_1 : cX8_layGrowths.data.toList.drop 24 = dktX8_layGrowths_1 := dk_seg dksX8_layGrowths_0 24 rfl rfl
theorem dksX8_layGrowths_2 : cX8_layGrowths.data.toList.drop 48 = dktX8_layGrowths_2 := dk_seg dksX8_layGrowths_1 24 rfl rfl
theorem dksX8_layGrowths_3 : cX8_layGrowths.data.toList.drop 71 = dktX8_layGrowths_3 := dk_seg dksX8_layGrowths_2 23 rfl rfl
theorem dksX8_layGrowths_4 : cX8_layGrowths.data.toList.drop 95 = dktX8_layGrowths_4 := dk_seg dksX8_layGrowths_3 24 rfl rfl
theorem dksX8_layGrowths_5 : cX8_layGrowths.data.toList.drop 119 = dktX8_layGrowths_5 := dk_seg dksX8_layGrowths_4 24 rfl rfl
theorem dksX8_layGrowths_6 : cX8_layGrowths.data.toList.drop 143 = dktX8_layGrowths_6 := dk_seg dksX8_layGrowths_5 24 rfl rfl
theorem dX8_layGrowths_0 : decode cX8_layGrowths 0 = .ok (.iconst 0, 1) := dk_3 (dk_at dksX8_layGrowths_0 0 rfl rfl)
theorem dX8_layGrowths_1 : decode cX8_layGrowths 1 = .ok (.istore_n 2, 1) := dk_61 (dk_at dksX8_layGrowths_0 1 rfl rfl)
theorem dX8_layGrowths_2 : decode cX8_layGrowths 2 = .ok (.iconst 0, 1) := dk_3 (dk_at dksX8_layGrowths_0 2 rfl rfl)
theorem dX8_layGrowths_3 : decode cX8_layGrowths 3 = .ok (.istore_n 3, 1) := dk_62 (dk_at dksX8_layGrowths_0 3 rfl rfl)
theorem dX8_layGrowths_4 : decode cX8_layGrowths 4 = .ok (.iload_n 3, 1) := dk_29 (dk_at dksX8_layGrowths_0 4 rfl rfl)
theorem dX8_layGrowths_5 : decode cX8_layGrowths 5 = .ok (.bipush 30, 2) := dk_16 30 (dk_at dksX8_layGrowths_0 5 rfl rfl)
theorem dX8_layGrowths_7 : decode cX8_layGrowths 7 = .ok (.if_icmp .gt 136, 3) := dk_163 0 136 (dk_at dksX8_layGrowths_0 7 rfl rfl)
theorem dX8_layGrowths_10 : decode cX8_layGrowths 10 = .ok (.aload_n 0, 1) := dk_42 (dk_at dksX8_layGrowths_0 10 rfl rfl)
theorem dX8_layGrowths_11 : decode cX8_layGrowths 11 = .ok (.getfield 387, 3) := dk_180 1 131 (dk_at dksX8_layGrowths_0 11 rfl rfl)
theorem dX8_layGrowths_14 : decode cX8_layGrowths 14 = .ok (.ifCond .le 129, 3) := dk_158 0 129 (dk_at dksX8_layGrowths_0 14 rfl rfl)
theorem dX8_layGrowths_17 : decode cX8_layGrowths 17 = .ok (.aload_n 0, 1) := dk_42 (dk_at dksX8_layGrowths_0 17 rfl rfl)
theorem dX8_layGrowths_18 : decode cX8_layGrowths 18 = .ok (.getfield 390, 3) := dk_180 1 134 (dk_at dksX8_layGrowths_0 18 rfl rfl)
theorem dX8_layGrowths_21 : decode cX8_layGrowths 21 = .ok (.ifCond .le 122, 3) := dk_158 0 122 (dk_at dksX8_layGrowths_0 21 rfl rfl)
theorem dX8_layGrowths_24 : decode cX8_layGrowths 24 = .ok (.aload_n 0, 1) := dk_42 (dk_at dksX8_layGrowths_1 0 rfl rfl)
theorem dX8_layGrowths_25 : decode cX8_layGrowths 25 = .ok (.invokevirtual 399, 3) := dk_182 1 143 (dk_at dksX8_layGrowths_1 1 rfl rfl)
theorem dX8_layGrowths_28 : decode cX8_layGrowths 28 = .ok (.iconst 0, 1) := dk_3 (dk_at dksX8_layGrowths_1 4 rfl rfl)
theorem dX8_layGrowths_29 : decode cX8_layGrowths 29 = .ok (.istore 4, 2) := dk_54 4 (dk_at dksX8_layGrowths_1 5 rfl rfl)
theorem dX8_layGrowths_31 : decode cX8_layGrowths 31 = .ok (.iload 4, 2) := dk_21 4 (dk_at dksX8_layGrowths_1 7 rfl rfl)
theorem dX8_layGrowths_33 : decode cX8_layGrowths 33 = .ok (.bipush 20, 2) := dk_16 20 (dk_at dksX8_layGrowths_1 9 rfl rfl)
theorem dX8_layGrowths_35 : decode cX8_layGrowths 35 = .ok (.if_icmp .gt 78, 3) := dk_163 0 78 (dk_at dksX8_layGrowths_1 11 rfl rfl)
theorem dX8_layGrowths_38 : decode cX8_layGrowths 38 = .ok (.aload_n 0, 1) := dk_42 (dk_at dksX8_layGrowths_1 14 rfl rfl)
theorem dX8_layGrowths_39 : decode cX8_layGrowths 39 = .ok (.getfield 127, 3) := dk_180 0 127 (dk_at dksX8_layGrowths_1 15 rfl rfl)
theorem dX8_layGrowths_42 : decode cX8_layGrowths 42 = .ok (.bipush 21, 2) := dk_16 21 (dk_at dksX8_layGrowths_1 18 rfl rfl)
theorem dX8_layGrowths_44 : decode cX8_layGrowths 44 = .ok (.iload_n 3, 1) := dk_29 (dk_at dksX8_layGrowths_1 20 rfl rfl)
theorem dX8_layGrowths_45 : decode cX8_layGrowths 45 = .ok (.imul, 1) := dk_104 (dk_at dksX8_layGrowths_1 21 rfl rfl)
theorem dX8_layGrowths_46 : decode cX8_layGrowths 46 = .ok (.iload 4, 2) := dk_21 4 (dk_at dksX8_layGrowths_1 22 rfl rfl)
theorem dX8_layGrowths_48 : decode cX8_layGrowths 48 = .ok (.iadd, 1) := dk_96 (dk_at dksX8_layGrowths_2 0 rfl rfl)
theorem dX8_layGrowths_49 : decode cX8_layGrowths 49 = .ok (.aload_n 0, 1) := dk_42 (dk_at dksX8_layGrowths_2 1 rfl rfl)
theorem dX8_layGrowths_50 : decode cX8_layGrowths 50 = .ok (.iconst 0, 1) := dk_3 (dk_at dksX8_layGrowths_2 2 rfl rfl)
theorem dX8_layGrowths_51 : decode cX8_layGrowths 51 = .ok (.iconst 0, 1) := dk_3 (dk_at dksX8_layGrowths_2 3 rfl rfl)
theorem dX8_layGrowths_52 : decode cX8_layGrowths 52 = .ok (.invokevirtual 424, 3) := dk_182 1 168 (dk_at dksX8_layGrowths_2 4 rfl rfl)
theorem dX8_layGrowths_55 : decode cX8_layGrowths 55 = .ok (.bastore, 1) := dk_84 (dk_at dksX8_layGrowths_2 7 rfl rfl)
theorem dX8_layGrowths_56 : decode cX8_layGrowths 56 = .ok (.aload_n 0, 1) := dk_42 (dk_at dksX8_layGrowths_2 8 rfl rfl)
theorem dX8_layGrowths_57 : decode cX8_layGrowths 57 = .ok (.getfield 96, 3) := dk_180 0 96 (dk_at dksX8_layGrowths_2 9 rfl rfl)
theorem dX8_layGrowths_60 : decode cX8_layGrowths 60 = .ok (.iconst 0, 1) := dk_3 (dk_at dksX8_layGrowths_2 12 rfl rfl)
theorem dX8_layGrowths_61 : decode cX8_layGrowths 61 = .ok (.bipush 99, 2) := dk_16 99 (dk_at dksX8_layGrowths_2 13 rfl rfl)
theorem dX8_layGrowths_63 : decode cX8_layGrowths 63 = .ok (.aload_n 0, 1) := dk_42 (dk_at dksX8_layGrowths_2 15 rfl rfl)
theorem dX8_layGrowths_64 : decode cX8_layGrowths 64 = .ok (.getfield 96, 3) := dk_180 0 96 (dk_at dksX8_layGrowths_2 16 rfl rfl)
theorem dX8_layGrowths_67 : decode cX8_layGrowths 67 = .ok (.iconst 0, 1) := dk_3 (dk_at dksX8_layGrowths_2 19 rfl rfl)
theorem dX8_layGrowths_68 : decode cX8_layGrowths 68 = .ok (.iaload, 1) := dk_46 (dk_at dksX8_layGrowths_2 20 rfl rfl)
theorem dX8_layGrowths_69 : decode cX8_layGrowths 69 = .ok (.iload_n 3, 1) := dk_29 (dk_at dksX8_layGrowths_2 21 rfl rfl)
theorem dX8_layGrowths_70 : decode cX8_layGrowths 70 = .ok (.iadd, 1) := dk_96 (dk_at dksX8_layGrowths_2 22 rfl rfl)
theorem dX8_layGrowths_71 : decode cX8_layGrowths 71 = .ok (.invokestatic 431, 3) := dk_184 1 175 (dk_at dksX8_layGrowths_3 0 rfl rfl)
theorem dX8_layGrowths_74 : decode cX8_layGrowths 74 = .ok (.iastore, 1) := dk_79 (dk_at dksX8_layGrowths_3 3 rfl rfl)
theorem dX8_layGrowths_75 : decode cX8_layGrowths 75 = .ok (.aload_n 0, 1) := dk_42 (dk_at dksX8_layGrowths_3 4 rfl rfl)
theorem dX8_layGrowths_76 : decode cX8_layGrowths 76 = .ok (.getfield 96, 3) := dk_180 0 96 (dk_at dksX8_layGrowths_3 5 rfl rfl)
theorem dX8_layGrowths_79 : decode cX8_layGrowths 79 = .ok (.bipush 30, 2) := dk_16 30 (dk_at dksX8_layGrowths_3 8 rfl rfl)
theorem dX8_layGrowths_81 : decode cX8_layGrowths 81 = .ok (.bipush 99, 2) := dk_16 99 (dk_at dksX8_layGrowths_3 10 rfl rfl)
theorem dX8_layGrowths_83 : decode cX8_layGrowths 83 = .ok (.aload_n 0, 1) := dk_42 (dk_at dksX8_layGrowths_3 12 rfl rfl)
theorem dX8_layGrowths_84 : decode cX8_layGrowths 84 = .ok (.getfield 96, 3) := dk_180 0 96 (dk_at dksX8_layGrowths_3 13 rfl rfl)
theorem dX8_layGrowths_87 : decode cX8_layGrowths 87 = .ok (.bipush 30, 2) := dk_16 30 (dk_at dksX8_layGrowths_3 16 rfl rfl)
theorem dX8_layGrowths_89 : decode cX8_layGrowths 89 = .ok (.iaload, 1) := dk_46 (dk_at dksX8_layGrowths_3 18 rfl rfl)
theorem dX8_layGrowths_90 : decode cX8_layGrowths 90 = .ok (.iconst 1, 1) := dk_4 (dk_at dksX8_layGrowths_3 19 rfl rfl)
theorem dX8_layGrowths_91 : decode cX8_layGrowths 91 = .ok (.iadd, 1) := dk_96 (dk_at dksX8_layGrowths_3 20 rfl rfl)
theorem dX8_layGrowths_92 : decode cX8_layGrowths 92 = .ok (.invokestatic 431, 3) := dk_184 1 175 (dk_at dksX8_layGrowths_3 21 rfl rfl)
theorem dX8_layGrowths_95 : decode cX8_layGrowths 95 = .ok (.iastore, 1) := dk_79 (dk_at dksX8_layGrowths_4 0 rfl rfl)
theorem dX8_layGrowths_96 : decode cX8_layGrowths 96 = .ok (.aload_n 0, 1) := dk_42 (dk_at dksX8_layGrowths_4 1 rfl rfl)
theorem dX8_layGrowths_97 : decode cX8_layGrowths 97 = .ok (.getfield 96, 3) := dk_180 0 96 (dk_at dksX8_layGrowths_4 2 rfl rfl)
theorem dX8_layGrowths_100 : decode cX8_layGrowths 100 = .ok (.bipush 37, 2) := dk_16 37 (dk_at dksX8_layGrowths_4 5 rfl rfl)
theorem dX8_layGrowths_102 : decode cX8_layGrowths 102 = .ok (.dup2, 1) := dk_92 (dk_at dksX8_layGrowths_4 7 rfl rfl)
theorem dX8_layGrowths_103 : decode cX8_layGrowths 103 = .ok (.iaload, 1) := dk_46 (dk_at dksX8_layGrowths_4 8 rfl rfl)
theorem dX8_layGrowths_104 : decode cX8_layGrowths 104 = .ok (.iconst 1, 1) := dk_4 (dk_at dksX8_layGrowths_4 9 rfl rfl)
theorem dX8_layGrowths_105 : decode cX8_layGrowths 105 = .ok (.iadd, 1) := dk_96 (dk_at dksX8_layGrowths_4 10 rfl rfl)
theorem dX8_layGrowths_106 : decode cX8_layGrowths 106 = .ok (.iastore, 1) := dk_79 (dk_at dksX8_layGrowths_4 11 rfl rfl)
theorem dX8_layGrowths_107 : decode cX8_layGrowths 107 = .ok (.iinc 4 1, 3) := dk_132 4 1 (dk_at dksX8_layGrowths_4 12 rfl rfl)
theorem dX8_layGrowths_110 : decode cX8_layGrowths 110 = .ok (.goto (-79), 3) := dk_167 255 177 (dk_at dksX8_layGrowths_4 15 rfl rfl)
theorem dX8_layGrowths_113 : decode cX8_layGrowths 113 = .ok (.aload_n 0, 1) := dk_42 (dk_at dksX8_layGrowths_4 18 rfl rfl)
theorem dX8_layGrowths_114 : decode cX8_layGrowths 114 = .ok (.getfield 130, 3) := dk_180 0 130 (dk_at dksX8_layGrowths_4 19 rfl rfl)
theorem dX8_layGrowths_117 : decode cX8_layGrowths 117 = .ok (.iload_n 3, 1) := dk_29 (dk_at dksX8_layGrowths_4 22 rfl rfl)
theorem dX8_layGrowths_118 : decode cX8_layGrowths 118 = .ok (.aload_n 0, 1) := dk_42 (dk_at dksX8_layGrowths_4 23 rfl rfl)
theorem dX8_layGrowths_119 : decode cX8_layGrowths 119 = .ok (.iload_n 3, 1) := dk_29 (dk_at dksX8_layGrowths_5 0 rfl rfl)
theorem dX8_layGrowths_120 : decode cX8_layGrowths 120 = .ok (.iload_n 1, 1) := dk_27 (dk_at dksX8_layGrowths_5 1 rfl rfl)
theorem dX8_layGrowths_121 : decode cX8_layGrowths 121 = .ok (.invokevirtual 531, 3) := dk_182 2 19 (dk_at dksX8_layGrowths_5 2 rfl rfl)
theorem dX8_layGrowths_124 : decode cX8_layGrowths 124 = .ok (.bastore, 1) := dk_84 (dk_at dksX8_layGrowths_5 5 rfl rfl)
theorem dX8_layGrowths_125 : decode cX8_layGrowths 125 = .ok (.iload_n 2, 1) := dk_28 (dk_at dksX8_layGrowths_5 6 rfl rfl)
theorem dX8_layGrowths_126 : decode cX8_layGrowths 126 = .ok (.aload_n 0, 1) := dk_42 (dk_at dksX8_layGrowths_5 7 rfl rfl)
theorem dX8_layGrowths_127 : decode cX8_layGrowths 127 = .ok (.getfield 130, 3) := dk_180 0 130 (dk_at dksX8_layGrowths_5 8 rfl rfl)
theorem dX8_layGrowths_130 : decode cX8_layGrowths 130 = .ok (.iload_n 3, 1) := dk_29 (dk_at dksX8_layGrowths_5 11 rfl rfl)
theorem dX8_layGrowths_131 : decode cX8_layGrowths 131 = .ok (.baload, 1) := dk_51 (dk_at dksX8_layGrowths_5 12 rfl rfl)
theorem dX8_layGrowths_132 : decode cX8_layGrowths 132 = .ok (.invokestatic 310, 3) := dk_184 1 54 (dk_at dksX8_layGrowths_5 13 rfl rfl)
theorem dX8_layGrowths_135 : decode cX8_layGrowths 135 = .ok (.iadd, 1) := dk_96 (dk_at dksX8_layGrowths_5 16 rfl rfl)
theorem dX8_layGrowths_136 : decode cX8_layGrowths 136 = .ok (.istore_n 2, 1) := dk_61 (dk_at dksX8_layGrowths_5 17 rfl rfl)
theorem dX8_layGrowths_137 : decode cX8_layGrowths 137 = .ok (.iinc 3 1, 3) := dk_132 3 1 (dk_at dksX8_layGrowths_5 18 rfl rfl)
theorem dX8_layGrowths_140 : decode cX8_layGrowths 140 = .ok (.goto (-136), 3) := dk_167 255 120 (dk_at dksX8_layGrowths_5 21 rfl rfl)
theorem dX8_layGrowths_143 : decode cX8_layGrowths 143 = .ok (.iload_n 2, 1) := dk_28 (dk_at dksX8_layGrowths_6 0 rfl rfl)
theorem dX8_layGrowths_144 : decode cX8_layGrowths 144 = .ok (.ireturn, 1) := dk_172 (dk_at dksX8_layGrowths_6 1 rfl rfl)
abbrev cX8_fitsGrowth : ByteArray := prog_20_method_115_code
def yX8_fitsGrowth : MethodName := ⟨RX8, "fitsGrowth", "(II)Z"⟩
def dkwX8_fitsGrowth_3 : List UInt8 := [180, 0, 123, 21, 4, 51, 160, 0, 7, 4, 167, 0, 4, 3, 62, 132, 4, 1, 167, 255, 172, 29, 172]
abbrev dktX8_fitsGrowth_3 : List UInt8 := dkwX8_fitsGrowth_3 ++ []
def dkwX8_fitsGrowth_2 : List UInt8 := [163, 0, 6, 167, 0, 36, 42, 180, 0, 127, 16, 21, 27, 104, 42, 180, 0, 114, 21, 4, 46, 96, 51, 42]
abbrev dktX8_fitsGrowth_2 : List UInt8 := dkwX8_fitsGrowth_2 ++ dktX8_fitsGrowth_3
def dkwX8_fitsGrowth_1 : List UInt8 := [46, 28, 163, 0, 60, 42, 180, 0, 120, 21, 4, 46, 155, 0, 17, 42, 180, 0, 120, 21, 4, 46, 28]
abbrev dktX8_fitsGrowth_1 : List UInt8 := dkwX8_fitsGrowth_1 ++ dktX8_fitsGrowth_2
def dkwX8_fitsGrowth_0 : List UInt8 := [4, 62, 3, 54, 4, 21, 4, 42, 180, 1, 155, 162, 0, 81, 29, 153, 0, 77, 42, 180, 0, 117, 21, 4]
abbrev dktX8_fitsGrowth_0 : List UInt8 := dkwX8_fitsGrowth_0 ++ dktX8_fitsGrowth_1
theorem dksX8_fitsGrowth_0 : cX8_fitsGrowth.data.toList.drop 0 = dktX8_fitsGrowth_0 := by decide +kernel
theorem dksX8_fitsGrowth_1 : cX8_fitsGrowth.data.toList.drop 24 = dktX8_fitsGrowth_1 := dk_seg dksX8_fitsGrowth_0 24 rfl rfl
theorem dksX8_fitsGrowth_2 : cX8_fitsGrowth.data.toList.drop 47 = dktX8_fitsGrowth_2 := dk_seg dksX8_fitsGrowth_1 23 rfl rfl
theorem dksX8_fitsGrowth_3 : cX8_fitsGrowth.data.toList.drop 71 = dktX8_fitsGrowth_3 := dk_seg dksX8_fitsGrowth_2 24 rfl rfl
theorem dX8_fitsGrowth_0 : decode cX8_fitsGrowth 0 = .ok (.iconst 1, 1) := dk_4 (dk_at dksX8_fitsGrowth_0 0 rfl rfl)
theorem dX8_fitsGrowth_1 : decode cX8_fitsGrowth 1 = .ok (.istore_n 3, 1) := dk_62 (dk_at dksX8_fitsGrowth_0 1 rfl rfl)
theorem dX8_fitsGrowth_2 : decode cX8_fitsGrowth 2 = .ok (.iconst 0, 1) := dk_3 (dk_at dksX8_fitsGrowth_0 2 rfl rfl)
theorem dX8_fitsGrowth_3 : decode cX8_fitsGrowth 3 = .ok (.istore 4, 2) := dk_54 4 (dk_at dksX8_fitsGrowth_0 3 rfl rfl)
theorem dX8_fitsGrowth_5 : decode cX8_fitsGrowth 5 = .ok (.iload 4, 2) := dk_21 4 (dk_at dksX8_fitsGrowth_0 5 rfl rfl)
theorem dX8_fitsGrowth_7 : decode cX8_fitsGrowth 7 = .ok (.aload_n 0, 1) := dk_42 (dk_at dksX8_fitsGrowth_0 7 rfl rfl)
theorem dX8_fitsGrowth_8 : decode cX8_fitsGrowth 8 = .ok (.getfield 411, 3) := dk_180 1 155 (dk_at dksX8_fitsGrowth_0 8 rfl rfl)
theorem dX8_fitsGrowth_11 : decode cX8_fitsGrowth 11 = .ok (.if_icmp .ge 81, 3) := dk_162 0 81 (dk_at dksX8_fitsGrowth_0 11 rfl rfl)
theorem dX8_fitsGrowth_14 : decode cX8_fitsGrowth 14 = .ok (.iload_n 3, 1) := dk_29 (dk_at dksX8_fitsGrowth_0 14 rfl rfl)
theorem dX8_fitsGrowth_15 : decode cX8_fitsGrowth 15 = .ok (.ifCond .eq 77, 3) := dk_153 0 77 (dk_at dksX8_fitsGrowth_0 15 rfl rfl)
theorem dX8_fitsGrowth_18 : decode cX8_fitsGrowth 18 = .ok (.aload_n 0, 1) := dk_42 (dk_at dksX8_fitsGrowth_0 18 rfl rfl)
theorem dX8_fitsGrowth_19 : decode cX8_fitsGrowth 19 = .ok (.getfield 117, 3) := dk_180 0 117 (dk_at dksX8_fitsGrowth_0 19 rfl rfl)
theorem dX8_fitsGrowth_22 : decode cX8_fitsGrowth 22 = .ok (.iload 4, 2) := dk_21 4 (dk_at dksX8_fitsGrowth_0 22 rfl rfl)
theorem dX8_fitsGrowth_24 : decode cX8_fitsGrowth 24 = .ok (.iaload, 1) := dk_46 (dk_at dksX8_fitsGrowth_1 0 rfl rfl)
theorem dX8_fitsGrowth_25 : decode cX8_fitsGrowth 25 = .ok (.iload_n 2, 1) := dk_28 (dk_at dksX8_fitsGrowth_1 1 rfl rfl)
theorem dX8_fitsGrowth_26 : decode cX8_fitsGrowth 26 = .ok (.if_icmp .gt 60, 3) := dk_163 0 60 (dk_at dksX8_fitsGrowth_1 2 rfl rfl)
theorem dX8_fitsGrowth_29 : decode cX8_fitsGrowth 29 = .ok (.aload_n 0, 1) := dk_42 (dk_at dksX8_fitsGrowth_1 5 rfl rfl)
theorem dX8_fitsGrowth_30 : decode cX8_fitsGrowth 30 = .ok (.getfield 120, 3) := dk_180 0 120 (dk_at dksX8_fitsGrowth_1 6 rfl rfl)
theorem dX8_fitsGrowth_33 : decode cX8_fitsGrowth 33 = .ok (.iload 4, 2) := dk_21 4 (dk_at dksX8_fitsGrowth_1 9 rfl rfl)
theorem dX8_fitsGrowth_35 : decode cX8_fitsGrowth 35 = .ok (.iaload, 1) := dk_46 (dk_at dksX8_fitsGrowth_1 11 rfl rfl)
theorem dX8_fitsGrowth_36 : decode cX8_fitsGrowth 36 = .ok (.ifCond .lt 17, 3) := dk_155 0 17 (dk_at dksX8_fitsGrowth_1 12 rfl rfl)
theorem dX8_fitsGrowth_39 : decode cX8_fitsGrowth 39 = .ok (.aload_n 0, 1) := dk_42 (dk_at dksX8_fitsGrowth_1 15 rfl rfl)
theorem dX8_fitsGrowth_40 : decode cX8_fitsGrowth 40 = .ok (.getfield 120, 3) := dk_180 0 120 (dk_at dksX8_fitsGrowth_1 16 rfl rfl)
theorem dX8_fitsGrowth_43 : decode cX8_fitsGrowth 43 = .ok (.iload 4, 2) := dk_21 4 (dk_at dksX8_fitsGrowth_1 19 rfl rfl)
theorem dX8_fitsGrowth_45 : decode cX8_fitsGrowth 45 = .ok (.iaload, 1) := dk_46 (dk_at dksX8_fitsGrowth_1 21 rfl rfl)
theorem dX8_fitsGrowth_46 : decode cX8_fitsGrowth 46 = .ok (.iload_n 2, 1) := dk_28 (dk_at dksX8_fitsGrowth_1 22 rfl rfl)
theorem dX8_fitsGrowth_47 : decode cX8_fitsGrowth 47 = .ok (.if_icmp .gt 6, 3) := dk_163 0 6 (dk_at dksX8_fitsGrowth_2 0 rfl rfl)
theorem dX8_fitsGrowth_50 : decode cX8_fitsGrowth 50 = .ok (.goto 36, 3) := dk_167 0 36 (dk_at dksX8_fitsGrowth_2 3 rfl rfl)
theorem dX8_fitsGrowth_53 : decode cX8_fitsGrowth 53 = .ok (.aload_n 0, 1) := dk_42 (dk_at dksX8_fitsGrowth_2 6 rfl rfl)
theorem dX8_fitsGrowth_54 : decode cX8_fitsGrowth 54 = .ok (.getfield 127, 3) := dk_180 0 127 (dk_at dksX8_fitsGrowth_2 7 rfl rfl)
theorem dX8_fitsGrowth_57 : decode cX8_fitsGrowth 57 = .ok (.bipush 21, 2) := dk_16 21 (dk_at dksX8_fitsGrowth_2 10 rfl rfl)
theorem dX8_fitsGrowth_59 : decode cX8_fitsGrowth 59 = .ok (.iload_n 1, 1) := dk_27 (dk_at dksX8_fitsGrowth_2 12 rfl rfl)
theorem dX8_fitsGrowth_60 : decode cX8_fitsGrowth 60 = .ok (.imul, 1) := dk_104 (dk_at dksX8_fitsGrowth_2 13 rfl rfl)
theorem dX8_fitsGrowth_61 : decode cX8_fitsGrowth 61 = .ok (.aload_n 0, 1) := dk_42 (dk_at dksX8_fitsGrowth_2 14 rfl rfl)
theorem dX8_fitsGrowth_62 : decode cX8_fitsGrowth 62 = .ok (.getfield 114, 3) := dk_180 0 114 (dk_at dksX8_fitsGrowth_2 15 rfl rfl)
theorem dX8_fitsGrowth_65 : decode cX8_fitsGrowth 65 = .ok (.iload 4, 2) := dk_21 4 (dk_at dksX8_fitsGrowth_2 18 rfl rfl)
theorem dX8_fitsGrowth_67 : decode cX8_fitsGrowth 67 = .ok (.iaload, 1) := dk_46 (dk_at dksX8_fitsGrowth_2 20 rfl rfl)
theorem dX8_fitsGrowth_68 : decode cX8_fitsGrowth 68 = .ok (.iadd, 1) := dk_96 (dk_at dksX8_fitsGrowth_2 21 rfl rfl)
theorem dX8_fitsGrowth_69 : decode cX8_fitsGrowth 69 = .ok (.baload, 1) := dk_51 (dk_at dksX8_fitsGrowth_2 22 rfl rfl)
theorem dX8_fitsGrowth_70 : decode cX8_fitsGrowth 70 = .ok (.aload_n 0, 1) := dk_42 (dk_at dksX8_fitsGrowth_2 23 rfl rfl)
theorem dX8_fitsGrowth_71 : decode cX8_fitsGrowth 71 = .ok (.getfield 123, 3) := dk_180 0 123 (dk_at dksX8_fitsGrowth_3 0 rfl rfl)
theorem dX8_fitsGrowth_74 : decode cX8_fitsGrowth 74 = .ok (.iload 4, 2) := dk_21 4 (dk_at dksX8_fitsGrowth_3 3 rfl rfl)
theorem dX8_fitsGrowth_76 : decode cX8_fitsGrowth 76 = .ok (.baload, 1) := dk_51 (dk_at dksX8_fitsGrowth_3 5 rfl rfl)
theorem dX8_fitsGrowth_77 : decode cX8_fitsGrowth 77 = .ok (.if_icmp .ne 7, 3) := dk_160 0 7 (dk_at dksX8_fitsGrowth_3 6 rfl rfl)
theorem dX8_fitsGrowth_80 : decode cX8_fitsGrowth 80 = .ok (.iconst 1, 1) := dk_4 (dk_at dksX8_fitsGrowth_3 9 rfl rfl)
theorem dX8_fitsGrowth_81 : decode cX8_fitsGrowth 81 = .ok (.goto 4, 3) := dk_167 0 4 (dk_at dksX8_fitsGrowth_3 10 rfl rfl)
theorem dX8_fitsGrowth_84 : decode cX8_fitsGrowth 84 = .ok (.iconst 0, 1) := dk_3 (dk_at dksX8_fitsGrowth_3 13 rfl rfl)
theorem dX8_fitsGrowth_85 : decode cX8_fitsGrowth 85 = .ok (.istore_n 3, 1) := dk_62 (dk_at dksX8_fitsGrowth_3 14 rfl rfl)
theorem dX8_fitsGrowth_86 : decode cX8_fitsGrowth 86 = .ok (.iinc 4 1, 3) := dk_132 4 1 (dk_at dksX8_fitsGrowth_3 15 rfl rfl)
theorem dX8_fitsGrowth_89 : decode cX8_fitsGrowth 89 = .ok (.goto (-84), 3) := dk_167 255 172 (dk_at dksX8_fitsGrowth_3 18 rfl rfl)
theorem dX8_fitsGrowth_92 : decode cX8_fitsGrowth 92 = .ok (.iload_n 3, 1) := dk_29 (dk_at dksX8_fitsGrowth_3 21 rfl rfl)
theorem dX8_fitsGrowth_93 : decode cX8_fitsGrowth 93 = .ok (.ireturn, 1) := dk_172 (dk_at dksX8_fitsGrowth_3 22 rfl rfl)
abbrev cX8_sure : ByteArray := prog_20_method_118_code
def yX8_sure : MethodName := ⟨RX8, "sure", "(II)I"⟩
def dkwX8_sure_2 : List UInt8 := [160, 0, 6, 21, 4, 62, 132, 4, 1, 167, 255, 224, 29, 172]
abbrev dktX8_sure_2 : List UInt8 := dkwX8_sure_2 ++ []
def dkwX8_sure_1 : List UInt8 := [21, 4, 16, 30, 163, 0, 31, 42, 180, 0, 130, 21, 4, 51, 153, 0, 15, 29, 155, 0, 8, 27, 4]
abbrev dktX8_sure_1 : List UInt8 := dkwX8_sure_1 ++ dktX8_sure_2
def dkwX8_sure_0 : List UInt8 := [27, 3, 4, 184, 1, 161, 153, 0, 11, 42, 28, 182, 2, 22, 154, 0, 5, 2, 172, 2, 62, 3, 54, 4]
abbrev dktX8_sure_0 : List UInt8 := dkwX8_sure_0 ++ dktX8_sure_1
theorem dksX8_sure_0 : cX8_sure.data.toList.drop 0 = dktX8_sure_0 := by decide +kernel
theorem dksX8_sure_1 : cX8_sure.data.toList.drop 24 = dktX8_sure_1 := dk_seg dksX8_sure_0 24 rfl rfl
theorem dksX8_sure_2 : cX8_sure.data.toList.drop 47 = dktX8_sure_2 := dk_seg dksX8_sure_1 23 rfl rfl
theorem dX8_sure_0 : decode cX8_sure 0 = .ok (.iload_n 1, 1) := dk_27 (dk_at dksX8_sure_0 0 rfl rfl)
theorem dX8_sure_1 : decode cX8_sure 1 = .ok (.iconst 0, 1) := dk_3 (dk_at dksX8_sure_0 1 rfl rfl)
theorem dX8_sure_2 : decode cX8_sure 2 = .ok (.iconst 1, 1) := dk_4 (dk_at dksX8_sure_0 2 rfl rfl)
theorem dX8_sure_3 : decode cX8_sure 3 = .ok (.invokestatic 417, 3) := dk_184 1 161 (dk_at dksX8_sure_0 3 rfl rfl)
theorem dX8_sure_6 : decode cX8_sure 6 = .ok (.ifCond .eq 11, 3) := dk_153 0 11 (dk_at dksX8_sure_0 6 rfl rfl)
theorem dX8_sure_9 : decode cX8_sure 9 = .ok (.aload_n 0, 1) := dk_42 (dk_at dksX8_sure_0 9 rfl rfl)
theorem dX8_sure_10 : decode cX8_sure 10 = .ok (.iload_n 2, 1) := dk_28 (dk_at dksX8_sure_0 10 rfl rfl)
theorem dX8_sure_11 : decode cX8_sure 11 = .ok (.invokevirtual 534, 3) := dk_182 2 22 (dk_at dksX8_sure_0 11 rfl rfl)
theorem dX8_sure_14 : decode cX8_sure 14 = .ok (.ifCond .ne 5, 3) := dk_154 0 5 (dk_at dksX8_sure_0 14 rfl rfl)
theorem dX8_sure_17 : decode cX8_sure 17 = .ok (.iconst (-1), 1) := dk_2 (dk_at dksX8_sure_0 17 rfl rfl)
theorem dX8_sure_18 : decode cX8_sure 18 = .ok (.ireturn, 1) := dk_172 (dk_at dksX8_sure_0 18 rfl rfl)
theorem dX8_sure_19 : decode cX8_sure 19 = .ok (.iconst (-1), 1) := dk_2 (dk_at dksX8_sure_0 19 rfl rfl)
theorem dX8_sure_20 : decode cX8_sure 20 = .ok (.istore_n 3, 1) := dk_62 (dk_at dksX8_sure_0 20 rfl rfl)
theorem dX8_sure_21 : decode cX8_sure 21 = .ok (.iconst 0, 1) := dk_3 (dk_at dksX8_sure_0 21 rfl rfl)
theorem dX8_sure_22 : decode cX8_sure 22 = .ok (.istore 4, 2) := dk_54 4 (dk_at dksX8_sure_0 22 rfl rfl)
theorem dX8_sure_24 : decode cX8_sure 24 = .ok (.iload 4, 2) := dk_21 4 (dk_at dksX8_sure_1 0 rfl rfl)
theorem dX8_sure_26 : decode cX8_sure 26 = .ok (.bipush 30, 2) := dk_16 30 (dk_at dksX8_sure_1 2 rfl rfl)
theorem dX8_sure_28 : decode cX8_sure 28 = .ok (.if_icmp .gt 31, 3) := dk_163 0 31 (dk_at dksX8_sure_1 4 rfl rfl)
theorem dX8_sure_31 : decode cX8_sure 31 = .ok (.aload_n 0, 1) := dk_42 (dk_at dksX8_sure_1 7 rfl rfl)
theorem dX8_sure_32 : decode cX8_sure 32 = .ok (.getfield 130, 3) := dk_180 0 130 (dk_at dksX8_sure_1 8 rfl rfl)
theorem dX8_sure_35 : decode cX8_sure 35 = .ok (.iload 4, 2) := dk_21 4 (dk_at dksX8_sure_1 11 rfl rfl)
theorem dX8_sure_37 : decode cX8_sure 37 = .ok (.baload, 1) := dk_51 (dk_at dksX8_sure_1 13 rfl rfl)
theorem dX8_sure_38 : decode cX8_sure 38 = .ok (.ifCond .eq 15, 3) := dk_153 0 15 (dk_at dksX8_sure_1 14 rfl rfl)
theorem dX8_sure_41 : decode cX8_sure 41 = .ok (.iload_n 3, 1) := dk_29 (dk_at dksX8_sure_1 17 rfl rfl)
theorem dX8_sure_42 : decode cX8_sure 42 = .ok (.ifCond .lt 8, 3) := dk_155 0 8 (dk_at dksX8_sure_1 18 rfl rfl)
theorem dX8_sure_45 : decode cX8_sure 45 = .ok (.iload_n 1, 1) := dk_27 (dk_at dksX8_sure_1 21 rfl rfl)
theorem dX8_sure_46 : decode cX8_sure 46 = .ok (.iconst 1, 1) := dk_4 (dk_at dksX8_sure_1 22 rfl rfl)
theorem dX8_sure_47 : decode cX8_sure 47 = .ok (.if_icmp .ne 6, 3) := dk_160 0 6 (dk_at dksX8_sure_2 0 rfl rfl)
theorem dX8_sure_50 : decode cX8_sure 50 = .ok (.iload 4, 2) := dk_21 4 (dk_at dksX8_sure_2 3 rfl rfl)
theorem dX8_sure_52 : decode cX8_sure 52 = .ok (.istore_n 3, 1) := dk_62 (dk_at dksX8_sure_2 5 rfl rfl)
theorem dX8_sure_53 : decode cX8_sure 53 = .ok (.iinc 4 1, 3) := dk_132 4 1 (dk_at dksX8_sure_2 6 rfl rfl)
theorem dX8_sure_56 : decode cX8_sure 56 = .ok (.goto (-32), 3) := dk_167 255 224 (dk_at dksX8_sure_2 9 rfl rfl)
theorem dX8_sure_59 : decode cX8_sure 59 = .ok (.iload_n 3, 1) := dk_29 (dk_at dksX8_sure_2 12 rfl rfl)
theorem dX8_sure_60 : decode cX8_sure 60 = .ok (.ireturn, 1) := dk_172 (dk_at dksX8_sure_2 13 rfl rfl)
abbrev cX8_ask : ByteArray := prog_20_method_120_code
def yX8_ask : MethodName := ⟨RX8, "ask", "(II)I"⟩
def dkwX8_ask_3 : List UInt8 := [154, 0, 8, 21, 4, 167, 0, 10, 42, 21, 4, 29, 182, 2, 25, 172]
abbrev dktX8_ask_3 : List UInt8 := dkwX8_ask_3 ++ []
def dkwX8_ask_2 : List UInt8 := [182, 2, 25, 162, 0, 8, 21, 5, 167, 0, 5, 21, 4, 54, 4, 132, 5, 1, 167, 255, 220, 27]
abbrev dktX8_ask_2 : List UInt8 := dkwX8_ask_2 ++ dktX8_ask_3
def dkwX8_ask_1 : List UInt8 := [54, 4, 4, 54, 5, 21, 5, 16, 20, 163, 0, 35, 42, 21, 5, 29, 182, 2, 25, 42, 21, 4, 29]
abbrev dktX8_ask_1 : List UInt8 := dkwX8_ask_1 ++ dktX8_ask_2
def dkwX8_ask_0 : List UInt8 := [27, 3, 4, 184, 1, 161, 154, 0, 5, 2, 172, 42, 28, 182, 2, 22, 62, 29, 154, 0, 5, 2, 172, 3]
abbrev dktX8_ask_0 : List UInt8 := dkwX8_ask_0 ++ dktX8_ask_1
theorem dksX8_ask_0 : cX8_ask.data.toList.drop 0 = dktX8_ask_0 := by decide +kernel
theorem dksX8_ask_1 : cX8_ask.data.toList.drop 24 = dktX8_ask_1 := dk_seg dksX8_ask_0 24 rfl rfl
theorem dksX8_ask_2 : cX8_ask.data.toList.drop 47 = dktX8_ask_2 := dk_seg dksX8_ask_1 23 rfl rfl
theorem dksX8_ask_3 : cX8_ask.data.toList.drop 69 = dktX8_ask_3 := dk_seg dksX8_ask_2 22 rfl rfl
theorem dX8_ask_0 : decode cX8_ask 0 = .ok (.iload_n 1, 1) := dk_27 (dk_at dksX8_ask_0 0 rfl rfl)
theorem dX8_ask_1 : decode cX8_ask 1 = .ok (.iconst 0, 1) := dk_3 (dk_at dksX8_ask_0 1 rfl rfl)
theorem dX8_ask_2 : decode cX8_ask 2 = .ok (.iconst 1, 1) := dk_4 (dk_at dksX8_ask_0 2 rfl rfl)
theorem dX8_ask_3 : decode cX8_ask 3 = .ok (.invokestatic 417, 3) := dk_184 1 161 (dk_at dksX8_ask_0 3 rfl rfl)
theorem dX8_ask_6 : decode cX8_ask 6 = .ok (.ifCond .ne 5, 3) := dk_154 0 5 (dk_at dksX8_ask_0 6 rfl rfl)
theorem dX8_ask_9 : decode cX8_ask 9 = .ok (.iconst (-1), 1) := dk_2 (dk_at dksX8_ask_0 9 rfl rfl)
theorem dX8_ask_10 : decode cX8_ask 10 = .ok (.ireturn, 1) := dk_172 (dk_at dksX8_ask_0 10 rfl rfl)
theorem dX8_ask_11 : decode cX8_ask 11 = .ok (.aload_n 0, 1) := dk_42 (dk_at dksX8_ask_0 11 rfl rfl)
theorem dX8_ask_12 : decode cX8_ask 12 = .ok (.iload_n 2, 1) := dk_28 (dk_at dksX8_ask_0 12 rfl rfl)
theorem dX8_ask_13 : decode cX8_ask 13 = .ok (.invokevirtual 534, 3) := dk_182 2 22 (dk_at dksX8_ask_0 13 rfl rfl)
theorem dX8_ask_16 : decode cX8_ask 16 = .ok (.istore_n 3, 1) := dk_62 (dk_at dksX8_ask_0 16 rfl rfl)
theorem dX8_ask_17 : decode cX8_ask 17 = .ok (.iload_n 3, 1) := dk_29 (dk_at dksX8_ask_0 17 rfl rfl)
theorem dX8_ask_18 : decode cX8_ask 18 = .ok (.ifCond .ne 5, 3) := dk_154 0 5 (dk_at dksX8_ask_0 18 rfl rfl)
theorem dX8_ask_21 : decode cX8_ask 21 = .ok (.iconst (-1), 1) := dk_2 (dk_at dksX8_ask_0 21 rfl rfl)
theorem dX8_ask_22 : decode cX8_ask 22 = .ok (.ireturn, 1) := dk_172 (dk_at dksX8_ask_0 22 rfl rfl)
theorem dX8_ask_23 : decode cX8_ask 23 = .ok (.iconst 0, 1) := dk_3 (dk_at dksX8_ask_0 23 rfl rfl)
theorem dX8_ask_24 : decode cX8_ask 24 = .ok (.istore 4, 2) := dk_54 4 (dk_at dksX8_ask_1 0 rfl rfl)
theorem dX8_ask_26 : decode cX8_ask 26 = .ok (.iconst 1, 1) := dk_4 (dk_at dksX8_ask_1 2 rfl rfl)
theorem dX8_ask_27 : decode cX8_ask 27 = .ok (.istore 5, 2) := dk_54 5 (dk_at dksX8_ask_1 3 rfl rfl)
theorem dX8_ask_29 : decode cX8_ask 29 = .ok (.iload 5, 2) := dk_21 5 (dk_at dksX8_ask_1 5 rfl rfl)
theorem dX8_ask_31 : decode cX8_ask 31 = .ok (.bipush 20, 2) := dk_16 20 (dk_at dksX8_ask_1 7 rfl rfl)
theorem dX8_ask_33 : decode cX8_ask 33 = .ok (.if_icmp .gt 35, 3) := dk_163 0 35 (dk_at dksX8_ask_1 9 rfl rfl)
theorem dX8_ask_36 : decode cX8_ask 36 = .ok (.aload_n 0, 1) := dk_42 (dk_at dksX8_ask_1 12 rfl rfl)
theorem dX8_ask_37 : decode cX8_ask 37 = .ok (.iload 5, 2) := dk_21 5 (dk_at dksX8_ask_1 13 rfl rfl)
theorem dX8_ask_39 : decode cX8_ask 39 = .ok (.iload_n 3, 1) := dk_29 (dk_at dksX8_ask_1 15 rfl rfl)
theorem dX8_ask_40 : decode cX8_ask 40 = .ok (.invokevirtual 537, 3) := dk_182 2 25 (dk_at dksX8_ask_1 16 rfl rfl)
theorem dX8_ask_43 : decode cX8_ask 43 = .ok (.aload_n 0, 1) := dk_42 (dk_at dksX8_ask_1 19 rfl rfl)
theorem dX8_ask_44 : decode cX8_ask 44 = .ok (.iload 4, 2) := dk_21 4 (dk_at dksX8_ask_1 20 rfl rfl)
theorem dX8_ask_46 : decode cX8_ask 46 = .ok (.iload_n 3, 1) := dk_29 (dk_at dksX8_ask_1 22 rfl rfl)
theorem dX8_ask_47 : decode cX8_ask 47 = .ok (.invokevirtual 537, 3) := dk_182 2 25 (dk_at dksX8_ask_2 0 rfl rfl)
theorem dX8_ask_50 : decode cX8_ask 50 = .ok (.if_icmp .ge 8, 3) := dk_162 0 8 (dk_at dksX8_ask_2 3 rfl rfl)
theorem dX8_ask_53 : decode cX8_ask 53 = .ok (.iload 5, 2) := dk_21 5 (dk_at dksX8_ask_2 6 rfl rfl)
theorem dX8_ask_55 : decode cX8_ask 55 = .ok (.goto 5, 3) := dk_167 0 5 (dk_at dksX8_ask_2 8 rfl rfl)
theorem dX8_ask_58 : decode cX8_ask 58 = .ok (.iload 4, 2) := dk_21 4 (dk_at dksX8_ask_2 11 rfl rfl)
theorem dX8_ask_60 : decode cX8_ask 60 = .ok (.istore 4, 2) := dk_54 4 (dk_at dksX8_ask_2 13 rfl rfl)
theorem dX8_ask_62 : decode cX8_ask 62 = .ok (.iinc 5 1, 3) := dk_132 5 1 (dk_at dksX8_ask_2 15 rfl rfl)
theorem dX8_ask_65 : decode cX8_ask 65 = .ok (.goto (-36), 3) := dk_167 255 220 (dk_at dksX8_ask_2 18 rfl rfl)
theorem dX8_ask_68 : decode cX8_ask 68 = .ok (.iload_n 1, 1) := dk_27 (dk_at dksX8_ask_2 21 rfl rfl)
theorem dX8_ask_69 : decode cX8_ask 69 = .ok (.ifCond .ne 8, 3) := dk_154 0 8 (dk_at dksX8_ask_3 0 rfl rfl)
theorem dX8_ask_72 : decode cX8_ask 72 = .ok (.iload 4, 2) := dk_21 4 (dk_at dksX8_ask_3 3 rfl rfl)
theorem dX8_ask_74 : decode cX8_ask 74 = .ok (.goto 10, 3) := dk_167 0 10 (dk_at dksX8_ask_3 5 rfl rfl)
theorem dX8_ask_77 : decode cX8_ask 77 = .ok (.aload_n 0, 1) := dk_42 (dk_at dksX8_ask_3 8 rfl rfl)
theorem dX8_ask_78 : decode cX8_ask 78 = .ok (.iload 4, 2) := dk_21 4 (dk_at dksX8_ask_3 9 rfl rfl)
theorem dX8_ask_80 : decode cX8_ask 80 = .ok (.iload_n 3, 1) := dk_29 (dk_at dksX8_ask_3 11 rfl rfl)
theorem dX8_ask_81 : decode cX8_ask 81 = .ok (.invokevirtual 537, 3) := dk_182 2 25 (dk_at dksX8_ask_3 12 rfl rfl)
theorem dX8_ask_84 : decode cX8_ask 84 = .ok (.ireturn, 1) := dk_172 (dk_at dksX8_ask_3 15 rfl rfl)
abbrev cX8_leftBy : ByteArray := prog_20_method_119_code
def yX8_leftBy : MethodName := ⟨RX8, "leftBy", "(II)I"⟩
def dkwX8_leftBy_2 : List UInt8 := [132, 4, 1, 167, 255, 210, 29, 28, 29, 100, 184, 1, 181, 172]
abbrev dktX8_leftBy_2 : List UInt8 := dkwX8_leftBy_2 ++ []
def dkwX8_leftBy_1 : List UInt8 := [180, 0, 127, 16, 21, 21, 4, 104, 27, 96, 51, 153, 0, 7, 4, 167, 0, 4, 3, 184, 1, 54, 96, 62]
abbrev dktX8_leftBy_1 : List UInt8 := dkwX8_leftBy_1 ++ dktX8_leftBy_2
def dkwX8_leftBy_0 : List UInt8 := [3, 62, 3, 54, 4, 21, 4, 16, 30, 163, 0, 45, 29, 42, 180, 0, 130, 21, 4, 51, 153, 0, 22, 42]
abbrev dktX8_leftBy_0 : List UInt8 := dkwX8_leftBy_0 ++ dktX8_leftBy_1
theorem dksX8_leftBy_0 : cX8_leftBy.data.toList.drop 0 = dktX8_leftBy_0 := by decide +kernel
theorem dksX8_leftBy_1 : cX8_leftBy.data.toList.drop 24 = dktX8_leftBy_1 := dk_seg dksX8_leftBy_0 24 rfl rfl
theorem dksX8_leftBy_2 : cX8_leftBy.data.toList.drop 48 = dktX8_leftBy_2 := dk_seg dksX8_leftBy_1 24 rfl rfl
theorem dX8_leftBy_0 : decode cX8_leftBy 0 = .ok (.iconst 0, 1) := dk_3 (dk_at dksX8_leftBy_0 0 rfl rfl)
theorem dX8_leftBy_1 : decode cX8_leftBy 1 = .ok (.istore_n 3, 1) := dk_62 (dk_at dksX8_leftBy_0 1 rfl rfl)
theorem dX8_leftBy_2 : decode cX8_leftBy 2 = .ok (.iconst 0, 1) := dk_3 (dk_at dksX8_leftBy_0 2 rfl rfl)
theorem dX8_leftBy_3 : decode cX8_leftBy 3 = .ok (.istore 4, 2) := dk_54 4 (dk_at dksX8_leftBy_0 3 rfl rfl)
theorem dX8_leftBy_5 : decode cX8_leftBy 5 = .ok (.iload 4, 2) := dk_21 4 (dk_at dksX8_leftBy_0 5 rfl rfl)
theorem dX8_leftBy_7 : decode cX8_leftBy 7 = .ok (.bipush 30, 2) := dk_16 30 (dk_at dksX8_leftBy_0 7 rfl rfl)
theorem dX8_leftBy_9 : decode cX8_leftBy 9 = .ok (.if_icmp .gt 45, 3) := dk_163 0 45 (dk_at dksX8_leftBy_0 9 rfl rfl)
theorem dX8_leftBy_12 : decode cX8_leftBy 12 = .ok (.iload_n 3, 1) := dk_29 (dk_at dksX8_leftBy_0 12 rfl rfl)
theorem dX8_leftBy_13 : decode cX8_leftBy 13 = .ok (.aload_n 0, 1) := dk_42 (dk_at dksX8_leftBy_0 13 rfl rfl)
theorem dX8_leftBy_14 : decode cX8_leftBy 14 = .ok (.getfield 130, 3) := dk_180 0 130 (dk_at dksX8_leftBy_0 14 rfl rfl)
theorem dX8_leftBy_17 : decode cX8_leftBy 17 = .ok (.iload 4, 2) := dk_21 4 (dk_at dksX8_leftBy_0 17 rfl rfl)
theorem dX8_leftBy_19 : decode cX8_leftBy 19 = .ok (.baload, 1) := dk_51 (dk_at dksX8_leftBy_0 19 rfl rfl)
theorem dX8_leftBy_20 : decode cX8_leftBy 20 = .ok (.ifCond .eq 22, 3) := dk_153 0 22 (dk_at dksX8_leftBy_0 20 rfl rfl)
theorem dX8_leftBy_23 : decode cX8_leftBy 23 = .ok (.aload_n 0, 1) := dk_42 (dk_at dksX8_leftBy_0 23 rfl rfl)
theorem dX8_leftBy_24 : decode cX8_leftBy 24 = .ok (.getfield 127, 3) := dk_180 0 127 (dk_at dksX8_leftBy_1 0 rfl rfl)
theorem dX8_leftBy_27 : decode cX8_leftBy 27 = .ok (.bipush 21, 2) := dk_16 21 (dk_at dksX8_leftBy_1 3 rfl rfl)
theorem dX8_leftBy_29 : decode cX8_leftBy 29 = .ok (.iload 4, 2) := dk_21 4 (dk_at dksX8_leftBy_1 5 rfl rfl)
theorem dX8_leftBy_31 : decode cX8_leftBy 31 = .ok (.imul, 1) := dk_104 (dk_at dksX8_leftBy_1 7 rfl rfl)
theorem dX8_leftBy_32 : decode cX8_leftBy 32 = .ok (.iload_n 1, 1) := dk_27 (dk_at dksX8_leftBy_1 8 rfl rfl)
theorem dX8_leftBy_33 : decode cX8_leftBy 33 = .ok (.iadd, 1) := dk_96 (dk_at dksX8_leftBy_1 9 rfl rfl)
theorem dX8_leftBy_34 : decode cX8_leftBy 34 = .ok (.baload, 1) := dk_51 (dk_at dksX8_leftBy_1 10 rfl rfl)
theorem dX8_leftBy_35 : decode cX8_leftBy 35 = .ok (.ifCond .eq 7, 3) := dk_153 0 7 (dk_at dksX8_leftBy_1 11 rfl rfl)
theorem dX8_leftBy_38 : decode cX8_leftBy 38 = .ok (.iconst 1, 1) := dk_4 (dk_at dksX8_leftBy_1 14 rfl rfl)
theorem dX8_leftBy_39 : decode cX8_leftBy 39 = .ok (.goto 4, 3) := dk_167 0 4 (dk_at dksX8_leftBy_1 15 rfl rfl)
theorem dX8_leftBy_42 : decode cX8_leftBy 42 = .ok (.iconst 0, 1) := dk_3 (dk_at dksX8_leftBy_1 18 rfl rfl)
theorem dX8_leftBy_43 : decode cX8_leftBy 43 = .ok (.invokestatic 310, 3) := dk_184 1 54 (dk_at dksX8_leftBy_1 19 rfl rfl)
theorem dX8_leftBy_46 : decode cX8_leftBy 46 = .ok (.iadd, 1) := dk_96 (dk_at dksX8_leftBy_1 22 rfl rfl)
theorem dX8_leftBy_47 : decode cX8_leftBy 47 = .ok (.istore_n 3, 1) := dk_62 (dk_at dksX8_leftBy_1 23 rfl rfl)
theorem dX8_leftBy_48 : decode cX8_leftBy 48 = .ok (.iinc 4 1, 3) := dk_132 4 1 (dk_at dksX8_leftBy_2 0 rfl rfl)
theorem dX8_leftBy_51 : decode cX8_leftBy 51 = .ok (.goto (-46), 3) := dk_167 255 210 (dk_at dksX8_leftBy_2 3 rfl rfl)
theorem dX8_leftBy_54 : decode cX8_leftBy 54 = .ok (.iload_n 3, 1) := dk_29 (dk_at dksX8_leftBy_2 6 rfl rfl)
theorem dX8_leftBy_55 : decode cX8_leftBy 55 = .ok (.iload_n 2, 1) := dk_28 (dk_at dksX8_leftBy_2 7 rfl rfl)
theorem dX8_leftBy_56 : decode cX8_leftBy 56 = .ok (.iload_n 3, 1) := dk_29 (dk_at dksX8_leftBy_2 8 rfl rfl)
theorem dX8_leftBy_57 : decode cX8_leftBy 57 = .ok (.isub, 1) := dk_100 (dk_at dksX8_leftBy_2 9 rfl rfl)
theorem dX8_leftBy_58 : decode cX8_leftBy 58 = .ok (.invokestatic 437, 3) := dk_184 1 181 (dk_at dksX8_leftBy_2 10 rfl rfl)
theorem dX8_leftBy_61 : decode cX8_leftBy 61 = .ok (.ireturn, 1) := dk_172 (dk_at dksX8_leftBy_2 13 rfl rfl)
abbrev cX8_image : ByteArray := prog_20_method_122_code
def yX8_image : MethodName := ⟨RX8, "image", "(I)I"⟩
def dkwX8_image_2 : List UInt8 := [180, 0, 93, 16, 37, 46, 172]
abbrev dktX8_image_2 : List UInt8 := dkwX8_image_2 ++ []
def dkwX8_image_1 : List UInt8 := [42, 180, 0, 136, 16, 39, 27, 104, 28, 96, 42, 180, 0, 93, 28, 46, 79, 132, 2, 1, 167, 255, 230, 42]
abbrev dktX8_image_1 : List UInt8 := dkwX8_image_1 ++ dktX8_image_2
def dkwX8_image_0 : List UInt8 := [27, 184, 2, 28, 154, 0, 5, 2, 172, 42, 180, 0, 133, 27, 4, 84, 3, 61, 28, 16, 39, 162, 0, 26]
abbrev dktX8_image_0 : List UInt8 := dkwX8_image_0 ++ dktX8_image_1
theorem dksX8_image_0 : cX8_image.data.toList.drop 0 = dktX8_image_0 := by decide +kernel
theorem dksX8_image_1 : cX8_image.data.toList.drop 24 = dktX8_image_1 := dk_seg dksX8_image_0 24 rfl rfl
theorem dksX8_image_2 : cX8_image.data.toList.drop 48 = dktX8_image_2 := dk_seg dksX8_image_1 24 rfl rfl
theorem dX8_image_0 : decode cX8_image 0 = .ok (.iload_n 1, 1) := dk_27 (dk_at dksX8_image_0 0 rfl rfl)
theorem dX8_image_1 : decode cX8_image 1 = .ok (.invokestatic 540, 3) := dk_184 2 28 (dk_at dksX8_image_0 1 rfl rfl)
theorem dX8_image_4 : decode cX8_image 4 = .ok (.ifCond .ne 5, 3) := dk_154 0 5 (dk_at dksX8_image_0 4 rfl rfl)
theorem dX8_image_7 : decode cX8_image 7 = .ok (.iconst (-1), 1) := dk_2 (dk_at dksX8_image_0 7 rfl rfl)
theorem dX8_image_8 : decode cX8_image 8 = .ok (.ireturn, 1) := dk_172 (dk_at dksX8_image_0 8 rfl rfl)
theorem dX8_image_9 : decode cX8_image 9 = .ok (.aload_n 0, 1) := dk_42 (dk_at dksX8_image_0 9 rfl rfl)
theorem dX8_image_10 : decode cX8_image 10 = .ok (.getfield 133, 3) := dk_180 0 133 (dk_at dksX8_image_0 10 rfl rfl)
theorem dX8_image_13 : decode cX8_image 13 = .ok (.iload_n 1, 1) := dk_27 (dk_at dksX8_image_0 13 rfl rfl)
theorem dX8_image_14 : decode cX8_image 14 = .ok (.iconst 1, 1) := dk_4 (dk_at dksX8_image_0 14 rfl rfl)
theorem dX8_image_15 : decode cX8_image 15 = .ok (.bastore, 1) := dk_84 (dk_at dksX8_image_0 15 rfl rfl)
theorem dX8_image_16 : decode cX8_image 16 = .ok (.iconst 0, 1) := dk_3 (dk_at dksX8_image_0 16 rfl rfl)
theorem dX8_image_17 : decode cX8_image 17 = .ok (.istore_n 2, 1) := dk_61 (dk_at dksX8_image_0 17 rfl rfl)
theorem dX8_image_18 : decode cX8_image 18 = .ok (.iload_n 2, 1) := dk_28 (dk_at dksX8_image_0 18 rfl rfl)
theorem dX8_image_19 : decode cX8_image 19 = .ok (.bipush 39, 2) := dk_16 39 (dk_at dksX8_image_0 19 rfl rfl)
theorem dX8_image_21 : decode cX8_image 21 = .ok (.if_icmp .ge 26, 3) := dk_162 0 26 (dk_at dksX8_image_0 21 rfl rfl)
theorem dX8_image_24 : decode cX8_image 24 = .ok (.aload_n 0, 1) := dk_42 (dk_at dksX8_image_1 0 rfl rfl)
theorem dX8_image_25 : decode cX8_image 25 = .ok (.getfield 136, 3) := dk_180 0 136 (dk_at dksX8_image_1 1 rfl rfl)
theorem dX8_image_28 : decode cX8_image 28 = .ok (.bipush 39, 2) := dk_16 39 (dk_at dksX8_image_1 4 rfl rfl)
theorem dX8_image_30 : decode cX8_image 30 = .ok (.iload_n 1, 1) := dk_27 (dk_at dksX8_image_1 6 rfl rfl)
theorem dX8_image_31 : decode cX8_image 31 = .ok (.imul, 1) := dk_104 (dk_at dksX8_image_1 7 rfl rfl)
theorem dX8_image_32 : decode cX8_image 32 = .ok (.iload_n 2, 1) := dk_28 (dk_at dksX8_image_1 8 rfl rfl)
theorem dX8_image_33 : decode cX8_image 33 = .ok (.iadd, 1) := dk_96 (dk_at dksX8_image_1 9 rfl rfl)
theorem dX8_image_34 : decode cX8_image 34 = .ok (.aload_n 0, 1) := dk_42 (dk_at dksX8_image_1 10 rfl rfl)
theorem dX8_image_35 : decode cX8_image 35 = .ok (.getfield 93, 3) := dk_180 0 93 (dk_at dksX8_image_1 11 rfl rfl)
theorem dX8_image_38 : decode cX8_image 38 = .ok (.iload_n 2, 1) := dk_28 (dk_at dksX8_image_1 14 rfl rfl)
theorem dX8_image_39 : decode cX8_image 39 = .ok (.iaload, 1) := dk_46 (dk_at dksX8_image_1 15 rfl rfl)
theorem dX8_image_40 : decode cX8_image 40 = .ok (.iastore, 1) := dk_79 (dk_at dksX8_image_1 16 rfl rfl)
theorem dX8_image_41 : decode cX8_image 41 = .ok (.iinc 2 1, 3) := dk_132 2 1 (dk_at dksX8_image_1 17 rfl rfl)
theorem dX8_image_44 : decode cX8_image 44 = .ok (.goto (-26), 3) := dk_167 255 230 (dk_at dksX8_image_1 20 rfl rfl)
theorem dX8_image_47 : decode cX8_image 47 = .ok (.aload_n 0, 1) := dk_42 (dk_at dksX8_image_1 23 rfl rfl)
theorem dX8_image_48 : decode cX8_image 48 = .ok (.getfield 93, 3) := dk_180 0 93 (dk_at dksX8_image_2 0 rfl rfl)
theorem dX8_image_51 : decode cX8_image 51 = .ok (.bipush 37, 2) := dk_16 37 (dk_at dksX8_image_2 3 rfl rfl)
theorem dX8_image_53 : decode cX8_image 53 = .ok (.iaload, 1) := dk_46 (dk_at dksX8_image_2 5 rfl rfl)
theorem dX8_image_54 : decode cX8_image 54 = .ok (.ireturn, 1) := dk_172 (dk_at dksX8_image_2 6 rfl rfl)
abbrev cX8_isBox : ByteArray := prog_20_method_121_code
def yX8_isBox : MethodName := ⟨RX8, "isBox", "(I)Z"⟩
def dkwX8_isBox_0 : List UInt8 := [26, 155, 0, 12, 26, 6, 162, 0, 7, 4, 167, 0, 4, 3, 172]
abbrev dktX8_isBox_0 : List UInt8 := dkwX8_isBox_0 ++ []
theorem dksX8_isBox_0 : cX8_isBox.data.toList.drop 0 = dktX8_isBox_0 := by decide +kernel
theorem dX8_isBox_0 : decode cX8_isBox 0 = .ok (.iload_n 0, 1) := dk_26 (dk_at dksX8_isBox_0 0 rfl rfl)
theorem dX8_isBox_1 : decode cX8_isBox 1 = .ok (.ifCond .lt 12, 3) := dk_155 0 12 (dk_at dksX8_isBox_0 1 rfl rfl)
theorem dX8_isBox_4 : decode cX8_isBox 4 = .ok (.iload_n 0, 1) := dk_26 (dk_at dksX8_isBox_0 4 rfl rfl)
theorem dX8_isBox_5 : decode cX8_isBox 5 = .ok (.iconst 3, 1) := dk_6 (dk_at dksX8_isBox_0 5 rfl rfl)
theorem dX8_isBox_6 : decode cX8_isBox 6 = .ok (.if_icmp .ge 7, 3) := dk_162 0 7 (dk_at dksX8_isBox_0 6 rfl rfl)
theorem dX8_isBox_9 : decode cX8_isBox 9 = .ok (.iconst 1, 1) := dk_4 (dk_at dksX8_isBox_0 9 rfl rfl)
theorem dX8_isBox_10 : decode cX8_isBox 10 = .ok (.goto 4, 3) := dk_167 0 4 (dk_at dksX8_isBox_0 10 rfl rfl)
theorem dX8_isBox_13 : decode cX8_isBox 13 = .ok (.iconst 0, 1) := dk_3 (dk_at dksX8_isBox_0 13 rfl rfl)
theorem dX8_isBox_14 : decode cX8_isBox 14 = .ok (.ireturn, 1) := dk_172 (dk_at dksX8_isBox_0 14 rfl rfl)
abbrev cX8_back : ByteArray := prog_20_method_123_code
def yX8_back : MethodName := ⟨RX8, "back", "(I)I"⟩
def dkwX8_back_2 : List UInt8 := [167, 255, 230, 42, 3, 181, 1, 149, 42, 3, 181, 1, 152, 42, 180, 0, 93, 16, 37, 46, 172]
abbrev dktX8_back_2 : List UInt8 := dkwX8_back_2 ++ []
def dkwX8_back_1 : List UInt8 := [162, 0, 26, 42, 180, 0, 93, 28, 42, 180, 0, 136, 16, 39, 27, 104, 28, 96, 46, 79, 132, 2, 1]
abbrev dktX8_back_1 : List UInt8 := dkwX8_back_1 ++ dktX8_back_2
def dkwX8_back_0 : List UInt8 := [27, 184, 2, 28, 153, 0, 12, 42, 180, 0, 133, 27, 51, 154, 0, 5, 2, 172, 3, 61, 28, 16, 39]
abbrev dktX8_back_0 : List UInt8 := dkwX8_back_0 ++ dktX8_back_1
theorem dksX8_back_0 : cX8_back.data.toList.drop 0 = dktX8_back_0 := by decide +kernel
theorem dksX8_back_1 : cX8_back.data.toList.drop 23 = dktX8_back_1 := dk_seg dksX8_back_0 23 rfl rfl
theorem dksX8_back_2 : cX8_back.data.toList.drop 46 = dktX8_back_2 := dk_seg dksX8_back_1 23 rfl rfl
theorem dX8_back_0 : decode cX8_back 0 = .ok (.iload_n 1, 1) := dk_27 (dk_at dksX8_back_0 0 rfl rfl)
theorem dX8_back_1 : decode cX8_back 1 = .ok (.invokestatic 540, 3) := dk_184 2 28 (dk_at dksX8_back_0 1 rfl rfl)
theorem dX8_back_4 : decode cX8_back 4 = .ok (.ifCond .eq 12, 3) := dk_153 0 12 (dk_at dksX8_back_0 4 rfl rfl)
theorem dX8_back_7 : decode cX8_back 7 = .ok (.aload_n 0, 1) := dk_42 (dk_at dksX8_back_0 7 rfl rfl)
theorem dX8_back_8 : decode cX8_back 8 = .ok (.getfield 133, 3) := dk_180 0 133 (dk_at dksX8_back_0 8 rfl rfl)
theorem dX8_back_11 : decode cX8_back 11 = .ok (.iload_n 1, 1) := dk_27 (dk_at dksX8_back_0 11 rfl rfl)
theorem dX8_back_12 : decode cX8_back 12 = .ok (.baload, 1) := dk_51 (dk_at dksX8_back_0 12 rfl rfl)
theorem dX8_back_13 : decode cX8_back 13 = .ok (.ifCond .ne 5, 3) := dk_154 0 5 (dk_at dksX8_back_0 13 rfl rfl)
theorem dX8_back_16 : decode cX8_back 16 = .ok (.iconst (-1), 1) := dk_2 (dk_at dksX8_back_0 16 rfl rfl)
theorem dX8_back_17 : decode cX8_back 17 = .ok (.ireturn, 1) := dk_172 (dk_at dksX8_back_0 17 rfl rfl)
theorem dX8_back_18 : decode cX8_back 18 = .ok (.iconst 0, 1) := dk_3 (dk_at dksX8_back_0 18 rfl rfl)
theorem dX8_back_19 : decode cX8_back 19 = .ok (.istore_n 2, 1) := dk_61 (dk_at dksX8_back_0 19 rfl rfl)
theorem dX8_back_20 : decode cX8_back 20 = .ok (.iload_n 2, 1) := dk_28 (dk_at dksX8_back_0 20 rfl rfl)
theorem dX8_back_21 : decode cX8_back 21 = .ok (.bipush 39, 2) := dk_16 39 (dk_at dksX8_back_0 21 rfl rfl)
theorem dX8_back_23 : decode cX8_back 23 = .ok (.if_icmp .ge 26, 3) := dk_162 0 26 (dk_at dksX8_back_1 0 rfl rfl)
theorem dX8_back_26 : decode cX8_back 26 = .ok (.aload_n 0, 1) := dk_42 (dk_at dksX8_back_1 3 rfl rfl)
theorem dX8_back_27 : decode cX8_back 27 = .ok (.getfield 93, 3) := dk_180 0 93 (dk_at dksX8_back_1 4 rfl rfl)
theorem dX8_back_30 : decode cX8_back 30 = .ok (.iload_n 2, 1) := dk_28 (dk_at dksX8_back_1 7 rfl rfl)
theorem dX8_back_31 : decode cX8_back 31 = .ok (.aload_n 0, 1) := dk_42 (dk_at dksX8_back_1 8 rfl rfl)
theorem dX8_back_32 : decode cX8_back 32 = .ok (.getfield 136, 3) := dk_180 0 136 (dk_at dksX8_back_1 9 rfl rfl)
theorem dX8_back_35 : decode cX8_back 35 = .ok (.bipush 39, 2) := dk_16 39 (dk_at dksX8_back_1 12 rfl rfl)
theorem dX8_back_37 : decode cX8_back 37 = .ok (.iload_n 1, 1) := dk_27 (dk_at dksX8_back_1 14 rfl rfl)
theorem dX8_back_38 : decode cX8_back 38 = .ok (.imul, 1) := dk_104 (dk_at dksX8_back_1 15 rfl rfl)
theorem dX8_back_39 : decode cX8_back 39 = .ok (.iload_n 2, 1) := dk_28 (dk_at dksX8_back_1 16 rfl rfl)
theorem dX8_back_40 : decode cX8_back 40 = .ok (.iadd, 1) := dk_96 (dk_at dksX8_back_1 17 rfl rfl)
theorem dX8_back_41 : decode cX8_back 41 = .ok (.iaload, 1) := dk_46 (dk_at dksX8_back_1 18 rfl rfl)
theorem dX8_back_42 : decode cX8_back 42 = .ok (.iastore, 1) := dk_79 (dk_at dksX8_back_1 19 rfl rfl)
theorem dX8_back_43 : decode cX8_back 43 = .ok (.iinc 2 1, 3) := dk_132 2 1 (dk_at dksX8_back_1 20 rfl rfl)
theorem dX8_back_46 : decode cX8_back 46 = .ok (.goto (-26), 3) := dk_167 255 230 (dk_at dksX8_back_2 0 rfl rfl)
theorem dX8_back_49 : decode cX8_back 49 = .ok (.aload_n 0, 1) := dk_42 (dk_at dksX8_back_2 3 rfl rfl)
theorem dX8_back_50 : decode cX8_back 50 = .ok (.iconst 0, 1) := dk_3 (dk_at dksX8_back_2 4 rfl rfl)
theorem dX8_back_51 : decode cX8_back 51 = .ok (.putfield 405, 3) := dk_181 1 149 (dk_at dksX8_back_2 5 rfl rfl)
theorem dX8_back_54 : decode cX8_back 54 = .ok (.aload_n 0, 1) := dk_42 (dk_at dksX8_back_2 8 rfl rfl)
theorem dX8_back_55 : decode cX8_back 55 = .ok (.iconst 0, 1) := dk_3 (dk_at dksX8_back_2 9 rfl rfl)
theorem dX8_back_56 : decode cX8_back 56 = .ok (.putfield 408, 3) := dk_181 1 152 (dk_at dksX8_back_2 10 rfl rfl)
theorem dX8_back_59 : decode cX8_back 59 = .ok (.aload_n 0, 1) := dk_42 (dk_at dksX8_back_2 13 rfl rfl)
theorem dX8_back_60 : decode cX8_back 60 = .ok (.getfield 93, 3) := dk_180 0 93 (dk_at dksX8_back_2 14 rfl rfl)
theorem dX8_back_63 : decode cX8_back 63 = .ok (.bipush 37, 2) := dk_16 37 (dk_at dksX8_back_2 17 rfl rfl)
theorem dX8_back_65 : decode cX8_back 65 = .ok (.iaload, 1) := dk_46 (dk_at dksX8_back_2 19 rfl rfl)
theorem dX8_back_66 : decode cX8_back 66 = .ok (.ireturn, 1) := dk_172 (dk_at dksX8_back_2 20 rfl rfl)
abbrev cX8_about : ByteArray := prog_20_method_124_code
def yX8_about : MethodName := ⟨RX8, "about", "(I)I"⟩
def dkwX8_about_5 : List UInt8 := [42, 180, 1, 158, 172, 2, 172]
abbrev dktX8_about_5 : List UInt8 := dkwX8_about_5 ++ []
def dkwX8_about_4 : List UInt8 := [180, 1, 152, 172, 42, 180, 1, 155, 172, 42, 180, 2, 15, 172, 42, 180, 0, 139, 172, 42, 180, 1, 140, 172]
abbrev dktX8_about_4 : List UInt8 := dkwX8_about_4 ++ dktX8_about_5
def dkwX8_about_3 : List UInt8 := [172, 42, 180, 0, 93, 16, 37, 46, 172, 42, 180, 0, 93, 16, 38, 46, 172, 42, 180, 1, 149, 172, 42]
abbrev dktX8_about_3 : List UInt8 := dkwX8_about_3 ++ dktX8_about_4
def dkwX8_about_2 : List UInt8 := [42, 180, 1, 131, 172, 42, 180, 1, 134, 172, 42, 180, 0, 84, 172, 42, 180, 0, 87, 172, 42, 180, 0, 90]
abbrev dktX8_about_2 : List UInt8 := dkwX8_about_2 ++ dktX8_about_3
def dkwX8_about_1 : List UInt8 := [170, 0, 0, 0, 0, 0, 147, 0, 0, 0, 0, 0, 0, 0, 13, 0, 0, 0, 71, 0, 0, 0, 76, 0, 0, 0, 81, 0, 0, 0, 86, 0, 0, 0, 91, 0, 0, 0, 96, 0, 0, 0, 104, 0, 0, 0, 112, 0, 0, 0, 117, 0, 0, 0, 122, 0, 0, 0, 127, 0, 0, 0, 132, 0, 0, 0, 137, 0, 0, 0, 142]
abbrev dktX8_about_1 : List UInt8 := dkwX8_about_1 ++ dktX8_about_2
def dkwX8_about_0 : List UInt8 := [27]
abbrev dktX8_about_0 : List UInt8 := dkwX8_about_0 ++ dktX8_about_1
theorem dksX8_about_0 : cX8_about.data.toList.drop 0 = dktX8_about_0 := by decide +kernel
theorem dksX8_about_1 : cX8_about.data.toList.drop 1 = dktX8_about_1 := dk_seg dksX8_about_0 1 rfl rfl
theorem dksX8_about_2 : cX8_about.data.toList.drop 72 = dktX8_about_2 := dk_seg dksX8_about_1 71 rfl rfl
theorem dksX8_about_3 : cX8_about.data.toList.drop 96 = dktX8_about_3 := dk_seg dksX8_about_2 24 rfl rfl
theorem dksX8_about_4 : cX8_about.data.toList.drop 119 = dktX8_about_4 := dk_seg dksX8_about_3 23 rfl rfl
theorem dksX8_about_5 : cX8_about.data.toList.drop 143 = dktX8_about_5 := dk_seg dksX8_about_4 24 rfl rfl
theorem dX8_about_0 : decode cX8_about 0 = .ok (.iload_n 1, 1) := dk_27 (dk_at dksX8_about_0 0 rfl rfl)
theorem dX8_about_1 : decode cX8_about 1 = .ok (.tableswitch 147 0 13 #[71, 76, 81, 86, 91, 96, 104, 112, 117, 122, 127, 132, 137, 142], 71) := by decide +kernel
theorem dX8_about_72 : decode cX8_about 72 = .ok (.aload_n 0, 1) := dk_42 (dk_at dksX8_about_2 0 rfl rfl)
theorem dX8_about_73 : decode cX8_about 73 = .ok (.getfield 387, 3) := dk_180 1 131 (dk_at dksX8_about_2 1 rfl rfl)
theorem dX8_about_76 : decode cX8_about 76 = .ok (.ireturn, 1) := dk_172 (dk_at dksX8_about_2 4 rfl rfl)
theorem dX8_about_77 : decode cX8_about 77 = .ok (.aload_n 0, 1) := dk_42 (dk_at dksX8_about_2 5 rfl rfl)
theorem dX8_about_78 : decode cX8_about 78 = .ok (.getfield 390, 3) := dk_180 1 134 (dk_at dksX8_about_2 6 rfl rfl)
theorem dX8_about_81 : decode cX8_about 81 = .ok (.ireturn, 1) := dk_172 (dk_at dksX8_about_2 9 rfl rfl)
theorem dX8_about_82 : decode cX8_about 82 = .ok (.aload_n 0, 1) := dk_42 (dk_at dksX8_about_2 10 rfl rfl)
theorem dX8_about_83 : decode cX8_about 83 = .ok (.getfield 84, 3) := dk_180 0 84 (dk_at dksX8_about_2 11 rfl rfl)
theorem dX8_about_86 : decode cX8_about 86 = .ok (.ireturn, 1) := dk_172 (dk_at dksX8_about_2 14 rfl rfl)
theorem dX8_about_87 : decode cX8_about 87 = .ok (.aload_n 0, 1) := dk_42 (dk_at dksX8_about_2 15 rfl rfl)
theorem dX8_about_88 : decode cX8_about 88 = .ok (.getfield 87, 3) := dk_180 0 87 (dk_at dksX8_about_2 16 rfl rfl)
theorem dX8_about_91 : decode cX8_about 91 = .ok (.ireturn, 1) := dk_172 (dk_at dksX8_about_2 19 rfl rfl)
theorem dX8_about_92 : decode cX8_about 92 = .ok (.aload_n 0, 1) := dk_42 (dk_at dksX8_about_2 20 rfl rfl)
theorem dX8_about_93 : decode cX8_about 93 = .ok (.getfield 90, 3) := dk_180 0 90 (dk_at dksX8_about_2 21 rfl rfl)
theorem dX8_about_96 : decode cX8_about 96 = .ok (.ireturn, 1) := dk_172 (dk_at dksX8_about_3 0 rfl rfl)
theorem dX8_about_97 : decode cX8_about 97 = .ok (.aload_n 0, 1) := dk_42 (dk_at dksX8_about_3 1 rfl rfl)
theorem dX8_about_98 : decode cX8_about 98 = .ok (.getfield 93, 3) := dk_180 0 93 (dk_at dksX8_about_3 2 rfl rfl)
theorem dX8_about_101 : decode cX8_about 101 = .ok (.bipush 37, 2) := dk_16 37 (dk_at dksX8_about_3 5 rfl rfl)
theorem dX8_about_103 : decode cX8_about 103 = .ok (.iaload, 1) := dk_46 (dk_at dksX8_about_3 7 rfl rfl)
theorem dX8_about_104 : decode cX8_about 104 = .ok (.ireturn, 1) := dk_172 (dk_at dksX8_about_3 8 rfl rfl)
theorem dX8_about_105 : decode cX8_about 105 = .ok (.aload_n 0, 1) := dk_42 (dk_at dksX8_about_3 9 rfl rfl)
theorem dX8_about_106 : decode cX8_about 106 = .ok (.getfield 93, 3) := dk_180 0 93 (dk_at dksX8_about_3 10 rfl rfl)
theorem dX8_about_109 : decode cX8_about 109 = .ok (.bipush 38, 2) := dk_16 38 (dk_at dksX8_about_3 13 rfl rfl)
theorem dX8_about_111 : decode cX8_about 111 = .ok (.iaload, 1) := dk_46 (dk_at dksX8_about_3 15 rfl rfl)
theorem dX8_about_112 : decode cX8_about 112 = .ok (.ireturn, 1) := dk_172 (dk_at dksX8_about_3 16 rfl rfl)
theorem dX8_about_113 : decode cX8_about 113 = .ok (.aload_n 0, 1) := dk_42 (dk_at dksX8_about_3 17 rfl rfl)
theorem dX8_about_114 : decode cX8_about 114 = .ok (.getfield 405, 3) := dk_180 1 149 (dk_at dksX8_about_3 18 rfl rfl)
theorem dX8_about_117 : decode cX8_about 117 = .ok (.ireturn, 1) := dk_172 (dk_at dksX8_about_3 21 rfl rfl)
theorem dX8_about_118 : decode cX8_about 118 = .ok (.aload_n 0, 1) := dk_42 (dk_at dksX8_about_3 22 rfl rfl)
theorem dX8_about_119 : decode cX8_about 119 = .ok (.getfield 408, 3) := dk_180 1 152 (dk_at dksX8_about_4 0 rfl rfl)
theorem dX8_about_122 : decode cX8_about 122 = .ok (.ireturn, 1) := dk_172 (dk_at dksX8_about_4 3 rfl rfl)
theorem dX8_about_123 : decode cX8_about 123 = .ok (.aload_n 0, 1) := dk_42 (dk_at dksX8_about_4 4 rfl rfl)
theorem dX8_about_124 : decode cX8_about 124 = .ok (.getfield 411, 3) := dk_180 1 155 (dk_at dksX8_about_4 5 rfl rfl)
theorem dX8_about_127 : decode cX8_about 127 = .ok (.ireturn, 1) := dk_172 (dk_at dksX8_about_4 8 rfl rfl)
theorem dX8_about_128 : decode cX8_about 128 = .ok (.aload_n 0, 1) := dk_42 (dk_at dksX8_about_4 9 rfl rfl)
theorem dX8_about_129 : decode cX8_about 129 = .ok (.getfield 527, 3) := dk_180 2 15 (dk_at dksX8_about_4 10 rfl rfl)
theorem dX8_about_132 : decode cX8_about 132 = .ok (.ireturn, 1) := dk_172 (dk_at dksX8_about_4 13 rfl rfl)
theorem dX8_about_133 : decode cX8_about 133 = .ok (.aload_n 0, 1) := dk_42 (dk_at dksX8_about_4 14 rfl rfl)
theorem dX8_about_134 : decode cX8_about 134 = .ok (.getfield 139, 3) := dk_180 0 139 (dk_at dksX8_about_4 15 rfl rfl)
theorem dX8_about_137 : decode cX8_about 137 = .ok (.ireturn, 1) := dk_172 (dk_at dksX8_about_4 18 rfl rfl)
theorem dX8_about_138 : decode cX8_about 138 = .ok (.aload_n 0, 1) := dk_42 (dk_at dksX8_about_4 19 rfl rfl)
theorem dX8_about_139 : decode cX8_about 139 = .ok (.getfield 396, 3) := dk_180 1 140 (dk_at dksX8_about_4 20 rfl rfl)
theorem dX8_about_142 : decode cX8_about 142 = .ok (.ireturn, 1) := dk_172 (dk_at dksX8_about_4 23 rfl rfl)
theorem dX8_about_143 : decode cX8_about 143 = .ok (.aload_n 0, 1) := dk_42 (dk_at dksX8_about_5 0 rfl rfl)
theorem dX8_about_144 : decode cX8_about 144 = .ok (.getfield 414, 3) := dk_180 1 158 (dk_at dksX8_about_5 1 rfl rfl)
theorem dX8_about_147 : decode cX8_about 147 = .ok (.ireturn, 1) := dk_172 (dk_at dksX8_about_5 4 rfl rfl)
theorem dX8_about_148 : decode cX8_about 148 = .ok (.iconst (-1), 1) := dk_2 (dk_at dksX8_about_5 5 rfl rfl)
theorem dX8_about_149 : decode cX8_about 149 = .ok (.ireturn, 1) := dk_172 (dk_at dksX8_about_5 6 rfl rfl)
