set_option maxRecDepth 100000
abbrev cX1_init : ByteArray := prog_13_method_1_code
def yX1_init : MethodName := ⟨RX1, "<init>", "()V"⟩
def dkwX1_init_2 : List UInt8 := [188, 10, 181, 0, 31, 177]
abbrev dktX1_init_2 : List UInt8 := dkwX1_init_2 ++ []
def dkwX1_init_1 : List UInt8 := [181, 0, 18, 42, 16, 10, 181, 0, 21, 42, 17, 0, 150, 181, 0, 25, 42, 5, 181, 0, 28, 42, 16, 6]
abbrev dktX1_init_1 : List UInt8 := dkwX1_init_1 ++ dktX1_init_2
def dkwX1_init_0 : List UInt8 := [42, 183, 0, 3, 42, 187, 0, 9, 89, 183, 0, 11, 181, 0, 12, 42, 187, 0, 9, 89, 183, 0, 11]
abbrev dktX1_init_0 : List UInt8 := dkwX1_init_0 ++ dktX1_init_1
theorem dksX1_init_0 : cX1_init.data.toList.drop 0 = dktX1_init_0 := by decide +kernel
theorem dksX1_init_1 : cX1_init.data.toList.drop 23 = dktX1_init_1 := dk_seg dksX1_init_0 23 rfl rfl
theorem dksX1_init_2 : cX1_init.data.toList.drop 47 = dktX1_init_2 := dk_seg dksX1_init_1 24 rfl rfl
theorem dX1_init_0 : decode cX1_init 0 = .ok (.aload_n 0, 1) := dk_42 (dk_at dksX1_init_0 0 rfl rfl)
theorem dX1_init_1 : decode cX1_init 1 = .ok (.invokespecial 3, 3) := dk_183 0 3 (dk_at dksX1_init_0 1 rfl rfl)
theorem dX1_init_4 : decode cX1_init 4 = .ok (.aload_n 0, 1) := dk_42 (dk_at dksX1_init_0 4 rfl rfl)
theorem dX1_init_5 : decode cX1_init 5 = .ok (.new 9, 3) := dk_187 0 9 (dk_at dksX1_init_0 5 rfl rfl)
theorem dX1_init_8 : decode cX1_init 8 = .ok (.dup, 1) := dk_89 (dk_at dksX1_init_0 8 rfl rfl)
theorem dX1_init_9 : decode cX1_init 9 = .ok (.invokespecial 11, 3) := dk_183 0 11 (dk_at dksX1_init_0 9 rfl rfl)
theorem dX1_init_12 : decode cX1_init 12 = .ok (.putfield 12, 3) := dk_181 0 12 (dk_at dksX1_init_0 12 rfl rfl)
theorem dX1_init_15 : decode cX1_init 15 = .ok (.aload_n 0, 1) := dk_42 (dk_at dksX1_init_0 15 rfl rfl)
theorem dX1_init_16 : decode cX1_init 16 = .ok (.new 9, 3) := dk_187 0 9 (dk_at dksX1_init_0 16 rfl rfl)
theorem dX1_init_19 : decode cX1_init 19 = .ok (.dup, 1) := dk_89 (dk_at dksX1_init_0 19 rfl rfl)
theorem dX1_init_20 : decode cX1_init 20 = .ok (.invokespecial 11, 3) := dk_183 0 11 (dk_at dksX1_init_0 20 rfl rfl)
theorem dX1_init_23 : decode cX1_init 23 = .ok (.putfield 18, 3) := dk_181 0 18 (dk_at dksX1_init_1 0 rfl rfl)
theorem dX1_init_26 : decode cX1_init 26 = .ok (.aload_n 0, 1) := dk_42 (dk_at dksX1_init_1 3 rfl rfl)
theorem dX1_init_27 : decode cX1_init 27 = .ok (.bipush 10, 2) := dk_16 10 (dk_at dksX1_init_1 4 rfl rfl)
theorem dX1_init_29 : decode cX1_init 29 = .ok (.putfield 21, 3) := dk_181 0 21 (dk_at dksX1_init_1 6 rfl rfl)
theorem dX1_init_32 : decode cX1_init 32 = .ok (.aload_n 0, 1) := dk_42 (dk_at dksX1_init_1 9 rfl rfl)
theorem dX1_init_33 : decode cX1_init 33 = .ok (.sipush 150, 3) := dk_17 0 150 (dk_at dksX1_init_1 10 rfl rfl)
theorem dX1_init_36 : decode cX1_init 36 = .ok (.putfield 25, 3) := dk_181 0 25 (dk_at dksX1_init_1 13 rfl rfl)
theorem dX1_init_39 : decode cX1_init 39 = .ok (.aload_n 0, 1) := dk_42 (dk_at dksX1_init_1 16 rfl rfl)
theorem dX1_init_40 : decode cX1_init 40 = .ok (.iconst 2, 1) := dk_5 (dk_at dksX1_init_1 17 rfl rfl)
theorem dX1_init_41 : decode cX1_init 41 = .ok (.putfield 28, 3) := dk_181 0 28 (dk_at dksX1_init_1 18 rfl rfl)
theorem dX1_init_44 : decode cX1_init 44 = .ok (.aload_n 0, 1) := dk_42 (dk_at dksX1_init_1 21 rfl rfl)
theorem dX1_init_45 : decode cX1_init 45 = .ok (.bipush 6, 2) := dk_16 6 (dk_at dksX1_init_1 22 rfl rfl)
theorem dX1_init_47 : decode cX1_init 47 = .ok (.newarray .int, 2) := dk_188_10 (dk_at dksX1_init_2 0 rfl rfl)
theorem dX1_init_49 : decode cX1_init 49 = .ok (.putfield 31, 3) := dk_181 0 31 (dk_at dksX1_init_2 2 rfl rfl)
theorem dX1_init_52 : decode cX1_init 52 = .ok (.return_, 1) := dk_177 (dk_at dksX1_init_2 5 rfl rfl)
abbrev cX1_fits : ByteArray := prog_13_method_3_code
def yX1_fits : MethodName := ⟨RX1, "fits", "(LTailorRegiment$State;II)Z"⟩
def dkwX1_fits_0 : List UInt8 := [29, 155, 0, 21, 42, 43, 28, 29, 182, 0, 82, 42, 180, 0, 21, 163, 0, 7, 4, 167, 0, 4, 3, 172]
abbrev dktX1_fits_0 : List UInt8 := dkwX1_fits_0 ++ []
theorem dksX1_fits_0 : cX1_fits.data.toList.drop 0 = dktX1_fits_0 := by decide +kernel
theorem dX1_fits_0 : decode cX1_fits 0 = .ok (.iload_n 3, 1) := dk_29 (dk_at dksX1_fits_0 0 rfl rfl)
theorem dX1_fits_1 : decode cX1_fits 1 = .ok (.ifCond .lt 21, 3) := dk_155 0 21 (dk_at dksX1_fits_0 1 rfl rfl)
theorem dX1_fits_4 : decode cX1_fits 4 = .ok (.aload_n 0, 1) := dk_42 (dk_at dksX1_fits_0 4 rfl rfl)
theorem dX1_fits_5 : decode cX1_fits 5 = .ok (.aload_n 1, 1) := dk_43 (dk_at dksX1_fits_0 5 rfl rfl)
theorem dX1_fits_6 : decode cX1_fits 6 = .ok (.iload_n 2, 1) := dk_28 (dk_at dksX1_fits_0 6 rfl rfl)
theorem dX1_fits_7 : decode cX1_fits 7 = .ok (.iload_n 3, 1) := dk_29 (dk_at dksX1_fits_0 7 rfl rfl)
theorem dX1_fits_8 : decode cX1_fits 8 = .ok (.invokevirtual 82, 3) := dk_182 0 82 (dk_at dksX1_fits_0 8 rfl rfl)
theorem dX1_fits_11 : decode cX1_fits 11 = .ok (.aload_n 0, 1) := dk_42 (dk_at dksX1_fits_0 11 rfl rfl)
theorem dX1_fits_12 : decode cX1_fits 12 = .ok (.getfield 21, 3) := dk_180 0 21 (dk_at dksX1_fits_0 12 rfl rfl)
theorem dX1_fits_15 : decode cX1_fits 15 = .ok (.if_icmp .gt 7, 3) := dk_163 0 7 (dk_at dksX1_fits_0 15 rfl rfl)
theorem dX1_fits_18 : decode cX1_fits 18 = .ok (.iconst 1, 1) := dk_4 (dk_at dksX1_fits_0 18 rfl rfl)
theorem dX1_fits_19 : decode cX1_fits 19 = .ok (.goto 4, 3) := dk_167 0 4 (dk_at dksX1_fits_0 19 rfl rfl)
theorem dX1_fits_22 : decode cX1_fits 22 = .ok (.iconst 0, 1) := dk_3 (dk_at dksX1_fits_0 22 rfl rfl)
theorem dX1_fits_23 : decode cX1_fits 23 = .ok (.ireturn, 1) := dk_172 (dk_at dksX1_fits_0 23 rfl rfl)
abbrev cX1_misfit : ByteArray := prog_13_method_2_code
def yX1_misfit : MethodName := ⟨RX1, "misfit", "(LTailorRegiment$State;II)I"⟩
def dkwX1_misfit_8 : List UInt8 := [180, 0, 31, 182, 0, 73, 17, 3, 231, 184, 0, 79, 172]
abbrev dktX1_misfit_8 : List UInt8 := dkwX1_misfit_8 ++ []
def dkwX1_misfit_7 : List UInt8 := [43, 180, 0, 64, 29, 46, 79, 42, 180, 0, 31, 8, 43, 180, 0, 70, 79, 42, 180, 0, 60, 42]
abbrev dktX1_misfit_7 : List UInt8 := dkwX1_misfit_7 ++ dktX1_misfit_8
def dkwX1_misfit_6 : List UInt8 := [21, 5, 79, 42, 180, 0, 31, 5, 21, 6, 79, 42, 180, 0, 31, 6, 21, 7, 79, 42, 180, 0, 31, 7]
abbrev dktX1_misfit_6 : List UInt8 := dkwX1_misfit_6 ++ dktX1_misfit_7
def dkwX1_misfit_5 : List UInt8 := [43, 180, 0, 64, 29, 46, 96, 184, 0, 67, 172, 42, 180, 0, 31, 3, 21, 4, 79, 42, 180, 0, 31, 4]
abbrev dktX1_misfit_5 : List UInt8 := dkwX1_misfit_5 ++ dktX1_misfit_6
def dkwX1_misfit_4 : List UInt8 := [180, 0, 60, 199, 0, 32, 17, 3, 231, 21, 4, 6, 104, 21, 5, 96, 21, 6, 5, 104, 96, 21, 7, 96]
abbrev dktX1_misfit_4 : List UInt8 := dkwX1_misfit_4 ++ dktX1_misfit_5
def dkwX1_misfit_3 : List UInt8 := [46, 42, 180, 0, 12, 28, 182, 0, 49, 192, 0, 53, 180, 0, 55, 100, 184, 0, 43, 54, 7, 42]
abbrev dktX1_misfit_3 : List UInt8 := dkwX1_misfit_3 ++ dktX1_misfit_4
def dkwX1_misfit_2 : List UInt8 := [192, 0, 53, 180, 0, 55, 43, 180, 0, 58, 29, 46, 100, 184, 0, 43, 54, 6, 3, 43, 180, 0, 58, 29]
abbrev dktX1_misfit_2 : List UInt8 := dkwX1_misfit_2 ++ dktX1_misfit_3
def dkwX1_misfit_1 : List UInt8 := [29, 46, 43, 180, 0, 35, 28, 46, 100, 184, 0, 43, 54, 5, 3, 42, 180, 0, 12, 28, 182, 0, 49]
abbrev dktX1_misfit_1 : List UInt8 := dkwX1_misfit_1 ++ dktX1_misfit_2
def dkwX1_misfit_0 : List UInt8 := [3, 43, 180, 0, 35, 28, 46, 43, 180, 0, 40, 29, 46, 100, 184, 0, 43, 54, 4, 3, 43, 180, 0, 40]
abbrev dktX1_misfit_0 : List UInt8 := dkwX1_misfit_0 ++ dktX1_misfit_1
theorem dksX1_misfit_0 : cX1_misfit.data.toList.drop 0 = dktX1_misfit_0 := by decide +kernel
theorem dksX1_misfit_1 : cX1_misfit.data.toList.drop 24 = dktX1_misfit_1 := dk_seg dksX1_misfit_0 24 rfl rfl
theorem dksX1_misfit_2 : cX1_misfit.data.toList.drop 47 = dktX1_misfit_2 := dk_seg dksX1_misfit_1 23 rfl rfl
theorem dksX1_misfit_3 : cX1_misfit.data.toList.drop 71 = dktX1_misfit_3 := dk_seg dksX1_misfit_2 24 rfl rfl
theorem dksX1_misfit_4 : cX1_misfit.data.toList.drop 93 = dktX1_misfit_4 := dk_seg dksX1_misfit_3 22 rfl rfl
theorem dksX1_misfit_5 : cX1_misfit.data.toList.drop 117 = dktX1_misfit_5 := dk_seg dksX1_misfit_4 24 rfl rfl
theorem dksX1_misfit_6 : cX1_misfit.data.toList.drop 141 = dktX1_misfit_6 := dk_seg dksX1_misfit_5 24 rfl rfl
theorem dksX1_misfit_7 : cX1_misfit.data.toList.drop 165 = dktX1_misfit_7 := dk_seg dksX1_misfit_6 24 rfl rfl
theorem dksX1_misfit_8 : cX1_misfit.data.toList.drop 187 = dktX1_misfit_8 := dk_seg dksX1_misfit_7 22 rfl rfl
theorem dX1_misfit_0 : decode cX1_misfit 0 = .ok (.iconst 0, 1) := dk_3 (dk_at dksX1_misfit_0 0 rfl rfl)
theorem dX1_misfit_1 : decode cX1_misfit 1 = .ok (.aload_n 1, 1) := dk_43 (dk_at dksX1_misfit_0 1 rfl rfl)
theorem dX1_misfit_2 : decode cX1_misfit 2 = .ok (.getfield 35, 3) := dk_180 0 35 (dk_at dksX1_misfit_0 2 rfl rfl)
theorem dX1_misfit_5 : decode cX1_misfit 5 = .ok (.iload_n 2, 1) := dk_28 (dk_at dksX1_misfit_0 5 rfl rfl)
theorem dX1_misfit_6 : decode cX1_misfit 6 = .ok (.iaload, 1) := dk_46 (dk_at dksX1_misfit_0 6 rfl rfl)
theorem dX1_misfit_7 : decode cX1_misfit 7 = .ok (.aload_n 1, 1) := dk_43 (dk_at dksX1_misfit_0 7 rfl rfl)
theorem dX1_misfit_8 : decode cX1_misfit 8 = .ok (.getfield 40, 3) := dk_180 0 40 (dk_at dksX1_misfit_0 8 rfl rfl)
theorem dX1_misfit_11 : decode cX1_misfit 11 = .ok (.iload_n 3, 1) := dk_29 (dk_at dksX1_misfit_0 11 rfl rfl)
theorem dX1_misfit_12 : decode cX1_misfit 12 = .ok (.iaload, 1) := dk_46 (dk_at dksX1_misfit_0 12 rfl rfl)
theorem dX1_misfit_13 : decode cX1_misfit 13 = .ok (.isub, 1) := dk_100 (dk_at dksX1_misfit_0 13 rfl rfl)
theorem dX1_misfit_14 : decode cX1_misfit 14 = .ok (.invokestatic 43, 3) := dk_184 0 43 (dk_at dksX1_misfit_0 14 rfl rfl)
theorem dX1_misfit_17 : decode cX1_misfit 17 = .ok (.istore 4, 2) := dk_54 4 (dk_at dksX1_misfit_0 17 rfl rfl)
theorem dX1_misfit_19 : decode cX1_misfit 19 = .ok (.iconst 0, 1) := dk_3 (dk_at dksX1_misfit_0 19 rfl rfl)
theorem dX1_misfit_20 : decode cX1_misfit 20 = .ok (.aload_n 1, 1) := dk_43 (dk_at dksX1_misfit_0 20 rfl rfl)
theorem dX1_misfit_21 : decode cX1_misfit 21 = .ok (.getfield 40, 3) := dk_180 0 40 (dk_at dksX1_misfit_0 21 rfl rfl)
theorem dX1_misfit_24 : decode cX1_misfit 24 = .ok (.iload_n 3, 1) := dk_29 (dk_at dksX1_misfit_1 0 rfl rfl)
theorem dX1_misfit_25 : decode cX1_misfit 25 = .ok (.iaload, 1) := dk_46 (dk_at dksX1_misfit_1 1 rfl rfl)
theorem dX1_misfit_26 : decode cX1_misfit 26 = .ok (.aload_n 1, 1) := dk_43 (dk_at dksX1_misfit_1 2 rfl rfl)
theorem dX1_misfit_27 : decode cX1_misfit 27 = .ok (.getfield 35, 3) := dk_180 0 35 (dk_at dksX1_misfit_1 3 rfl rfl)
theorem dX1_misfit_30 : decode cX1_misfit 30 = .ok (.iload_n 2, 1) := dk_28 (dk_at dksX1_misfit_1 6 rfl rfl)
theorem dX1_misfit_31 : decode cX1_misfit 31 = .ok (.iaload, 1) := dk_46 (dk_at dksX1_misfit_1 7 rfl rfl)
theorem dX1_misfit_32 : decode cX1_misfit 32 = .ok (.isub, 1) := dk_100 (dk_at dksX1_misfit_1 8 rfl rfl)
theorem dX1_misfit_33 : decode cX1_misfit 33 = .ok (.invokestatic 43, 3) := dk_184 0 43 (dk_at dksX1_misfit_1 9 rfl rfl)
theorem dX1_misfit_36 : decode cX1_misfit 36 = .ok (.istore 5, 2) := dk_54 5 (dk_at dksX1_misfit_1 12 rfl rfl)
theorem dX1_misfit_38 : decode cX1_misfit 38 = .ok (.iconst 0, 1) := dk_3 (dk_at dksX1_misfit_1 14 rfl rfl)
theorem dX1_misfit_39 : decode cX1_misfit 39 = .ok (.aload_n 0, 1) := dk_42 (dk_at dksX1_misfit_1 15 rfl rfl)
theorem dX1_misfit_40 : decode cX1_misfit 40 = .ok (.getfield 12, 3) := dk_180 0 12 (dk_at dksX1_misfit_1 16 rfl rfl)
theorem dX1_misfit_43 : decode cX1_misfit 43 = .ok (.iload_n 2, 1) := dk_28 (dk_at dksX1_misfit_1 19 rfl rfl)
theorem dX1_misfit_44 : decode cX1_misfit 44 = .ok (.invokevirtual 49, 3) := dk_182 0 49 (dk_at dksX1_misfit_1 20 rfl rfl)
theorem dX1_misfit_47 : decode cX1_misfit 47 = .ok (.checkcast 53, 3) := dk_192 0 53 (dk_at dksX1_misfit_2 0 rfl rfl)
theorem dX1_misfit_50 : decode cX1_misfit 50 = .ok (.getfield 55, 3) := dk_180 0 55 (dk_at dksX1_misfit_2 3 rfl rfl)
theorem dX1_misfit_53 : decode cX1_misfit 53 = .ok (.aload_n 1, 1) := dk_43 (dk_at dksX1_misfit_2 6 rfl rfl)
theorem dX1_misfit_54 : decode cX1_misfit 54 = .ok (.getfield 58, 3) := dk_180 0 58 (dk_at dksX1_misfit_2 7 rfl rfl)
theorem dX1_misfit_57 : decode cX1_misfit 57 = .ok (.iload_n 3, 1) := dk_29 (dk_at dksX1_misfit_2 10 rfl rfl)
theorem dX1_misfit_58 : decode cX1_misfit 58 = .ok (.iaload, 1) := dk_46 (dk_at dksX1_misfit_2 11 rfl rfl)
theorem dX1_misfit_59 : decode cX1_misfit 59 = .ok (.isub, 1) := dk_100 (dk_at dksX1_misfit_2 12 rfl rfl)
theorem dX1_misfit_60 : decode cX1_misfit 60 = .ok (.invokestatic 43, 3) := dk_184 0 43 (dk_at dksX1_misfit_2 13 rfl rfl)
theorem dX1_misfit_63 : decode cX1_misfit 63 = .ok (.istore 6, 2) := dk_54 6 (dk_at dksX1_misfit_2 16 rfl rfl)
theorem dX1_misfit_65 : decode cX1_misfit 65 = .ok (.iconst 0, 1) := dk_3 (dk_at dksX1_misfit_2 18 rfl rfl)
theorem dX1_misfit_66 : decode cX1_misfit 66 = .ok (.aload_n 1, 1) := dk_43 (dk_at dksX1_misfit_2 19 rfl rfl)
theorem dX1_misfit_67 : decode cX1_misfit 67 = .ok (.getfield 58, 3) := dk_180 0 58 (dk_at dksX1_misfit_2 20 rfl rfl)
theorem dX1_misfit_70 : decode cX1_misfit 70 = .ok (.iload_n 3, 1) := dk_29 (dk_at dksX1_misfit_2 23 rfl rfl)
theorem dX1_misfit_71 : decode cX1_misfit 71 = .ok (.iaload, 1) := dk_46 (dk_at dksX1_misfit_3 0 rfl rfl)
theorem dX1_misfit_72 : decode cX1_misfit 72 = .ok (.aload_n 0, 1) := dk_42 (dk_at dksX1_misfit_3 1 rfl rfl)
theorem dX1_misfit_73 : decode cX1_misfit 73 = .ok (.getfield 12, 3) := dk_180 0 12 (dk_at dksX1_misfit_3 2 rfl rfl)
theorem dX1_misfit_76 : decode cX1_misfit 76 = .ok (.iload_n 2, 1) := dk_28 (dk_at dksX1_misfit_3 5 rfl rfl)
theorem dX1_misfit_77 : decode cX1_misfit 77 = .ok (.invokevirtual 49, 3) := dk_182 0 49 (dk_at dksX1_misfit_3 6 rfl rfl)
theorem dX1_misfit_80 : decode cX1_misfit 80 = .ok (.checkcast 53, 3) := dk_192 0 53 (dk_at dksX1_misfit_3 9 rfl rfl)
theorem dX1_misfit_83 : decode cX1_misfit 83 = .ok (.getfield 55, 3) := dk_180 0 55 (dk_at dksX1_misfit_3 12 rfl rfl)
theorem dX1_misfit_86 : decode cX1_misfit 86 = .ok (.isub, 1) := dk_100 (dk_at dksX1_misfit_3 15 rfl rfl)
theorem dX1_misfit_87 : decode cX1_misfit 87 = .ok (.invokestatic 43, 3) := dk_184 0 43 (dk_at dksX1_misfit_3 16 rfl rfl)
theorem dX1_misfit_90 : decode cX1_misfit 90 = .ok (.istore 7, 2) := dk_54 7 (dk_at dksX1_misfit_3 19 rfl rfl)
theorem dX1_misfit_92 : decode cX1_misfit 92 = .ok (.aload_n 0, 1) := dk_42 (dk_at dksX1_misfit_3 21 rfl rfl)
theorem dX1_misfit_93 : decode cX1_misfit 93 = .ok (.getfield 60, 3) := dk_180 0 60 (dk_at dksX1_misfit_4 0 rfl rfl)
theorem dX1_misfit_96 : decode cX1_misfit 96 = .ok (.ifnonnull 32, 3) := dk_199 0 32 (dk_at dksX1_misfit_4 3 rfl rfl)
theorem dX1_misfit_99 : decode cX1_misfit 99 = .ok (.sipush 999, 3) := dk_17 3 231 (dk_at dksX1_misfit_4 6 rfl rfl)
theorem dX1_misfit_102 : decode cX1_misfit 102 = .ok (.iload 4, 2) := dk_21 4 (dk_at dksX1_misfit_4 9 rfl rfl)
theorem dX1_misfit_104 : decode cX1_misfit 104 = .ok (.iconst 3, 1) := dk_6 (dk_at dksX1_misfit_4 11 rfl rfl)
theorem dX1_misfit_105 : decode cX1_misfit 105 = .ok (.imul, 1) := dk_104 (dk_at dksX1_misfit_4 12 rfl rfl)
theorem dX1_misfit_106 : decode cX1_misfit 106 = .ok (.iload 5, 2) := dk_21 5 (dk_at dksX1_misfit_4 13 rfl rfl)
theorem dX1_misfit_108 : decode cX1_misfit 108 = .ok (.iadd, 1) := dk_96 (dk_at dksX1_misfit_4 15 rfl rfl)
theorem dX1_misfit_109 : decode cX1_misfit 109 = .ok (.iload 6, 2) := dk_21 6 (dk_at dksX1_misfit_4 16 rfl rfl)
theorem dX1_misfit_111 : decode cX1_misfit 111 = .ok (.iconst 2, 1) := dk_5 (dk_at dksX1_misfit_4 18 rfl rfl)
theorem dX1_misfit_112 : decode cX1_misfit 112 = .ok (.imul, 1) := dk_104 (dk_at dksX1_misfit_4 19 rfl rfl)
theorem dX1_misfit_113 : decode cX1_misfit 113 = .ok (.iadd, 1) := dk_96 (dk_at dksX1_misfit_4 20 rfl rfl)
theorem dX1_misfit_114 : decode cX1_misfit 114 = .ok (.iload 7, 2) := dk_21 7 (dk_at dksX1_misfit_4 21 rfl rfl)
theorem dX1_misfit_116 : decode cX1_misfit 116 = .ok (.iadd, 1) := dk_96 (dk_at dksX1_misfit_4 23 rfl rfl)
theorem dX1_misfit_117 : decode cX1_misfit 117 = .ok (.aload_n 1, 1) := dk_43 (dk_at dksX1_misfit_5 0 rfl rfl)
theorem dX1_misfit_118 : decode cX1_misfit 118 = .ok (.getfield 64, 3) := dk_180 0 64 (dk_at dksX1_misfit_5 1 rfl rfl)
theorem dX1_misfit_121 : decode cX1_misfit 121 = .ok (.iload_n 3, 1) := dk_29 (dk_at dksX1_misfit_5 4 rfl rfl)
theorem dX1_misfit_122 : decode cX1_misfit 122 = .ok (.iaload, 1) := dk_46 (dk_at dksX1_misfit_5 5 rfl rfl)
theorem dX1_misfit_123 : decode cX1_misfit 123 = .ok (.iadd, 1) := dk_96 (dk_at dksX1_misfit_5 6 rfl rfl)
theorem dX1_misfit_124 : decode cX1_misfit 124 = .ok (.invokestatic 67, 3) := dk_184 0 67 (dk_at dksX1_misfit_5 7 rfl rfl)
theorem dX1_misfit_127 : decode cX1_misfit 127 = .ok (.ireturn, 1) := dk_172 (dk_at dksX1_misfit_5 10 rfl rfl)
theorem dX1_misfit_128 : decode cX1_misfit 128 = .ok (.aload_n 0, 1) := dk_42 (dk_at dksX1_misfit_5 11 rfl rfl)
theorem dX1_misfit_129 : decode cX1_misfit 129 = .ok (.getfield 31, 3) := dk_180 0 31 (dk_at dksX1_misfit_5 12 rfl rfl)
theorem dX1_misfit_132 : decode cX1_misfit 132 = .ok (.iconst 0, 1) := dk_3 (dk_at dksX1_misfit_5 15 rfl rfl)
theorem dX1_misfit_133 : decode cX1_misfit 133 = .ok (.iload 4, 2) := dk_21 4 (dk_at dksX1_misfit_5 16 rfl rfl)
theorem dX1_misfit_135 : decode cX1_misfit 135 = .ok (.iastore, 1) := dk_79 (dk_at dksX1_misfit_5 18 rfl rfl)
theorem dX1_misfit_136 : decode cX1_misfit 136 = .ok (.aload_n 0, 1) := dk_42 (dk_at dksX1_misfit_5 19 rfl rfl)
theorem dX1_misfit_137 : decode cX1_misfit 137 = .ok (.getfield 31, 3) := dk_180 0 31 (dk_at dksX1_misfit_5 20 rfl rfl)
theorem dX1_misfit_140 : decode cX1_misfit 140 = .ok (.iconst 1, 1) := dk_4 (dk_at dksX1_misfit_5 23 rfl rfl)
theorem dX1_misfit_141 : decode cX1_misfit 141 = .ok (.iload 5, 2) := dk_21 5 (dk_at dksX1_misfit_6 0 rfl rfl)
theorem dX1_misfit_143 : decode cX1_misfit 143 = .ok (.iastore, 1) := dk_79 (dk_at dksX1_misfit_6 2 rfl rfl)
theorem dX1_misfit_144 : decode cX1_misfit 144 = .ok (.aload_n 0, 1) := dk_42 (dk_at dksX1_misfit_6 3 rfl rfl)
theorem dX1_misfit_145 : decode cX1_misfit 145 = .ok (.getfield 31, 3) := dk_180 0 31 (dk_at dksX1_misfit_6 4 rfl rfl)
theorem dX1_misfit_148 : decode cX1_misfit 148 = .ok (.iconst 2, 1) := dk_5 (dk_at dksX1_misfit_6 7 rfl rfl)
theorem dX1_misfit_149 : decode cX1_misfit 149 = .ok (.iload 6, 2) := dk_21 6 (dk_at dksX1_misfit_6 8 rfl rfl)
theorem dX1_misfit_151 : decode cX1_misfit 151 = .ok (.iastore, 1) := dk_79 (dk_at dksX1_misfit_6 10 rfl rfl)
theorem dX1_misfit_152 : decode cX1_misfit 152 = .ok (.aload_n 0, 1) := dk_42 (dk_at dksX1_misfit_6 11 rfl rfl)
theorem dX1_misfit_153 : decode cX1_misfit 153 = .ok (.getfield 31, 3) := dk_180 0 31 (dk_at dksX1_misfit_6 12 rfl rfl)
theorem dX1_misfit_156 : decode cX1_misfit 156 = .ok (.iconst 3, 1) := dk_6 (dk_at dksX1_misfit_6 15 rfl rfl)
theorem dX1_misfit_157 : decode cX1_misfit 157 = .ok (.iload 7, 2) := dk_21 7 (dk_at dksX1_misfit_6 16 rfl rfl)
theorem dX1_misfit_159 : decode cX1_misfit 159 = .ok (.iastore, 1) := dk_79 (dk_at dksX1_misfit_6 18 rfl rfl)
theorem dX1_misfit_160 : decode cX1_misfit 160 = .ok (.aload_n 0, 1) := dk_42 (dk_at dksX1_misfit_6 19 rfl rfl)
theorem dX1_misfit_161 : decode cX1_misfit 161 = .ok (.getfield 31, 3) := dk_180 0 31 (dk_at dksX1_misfit_6 20 rfl rfl)
theorem dX1_misfit_164 : decode cX1_misfit 164 = .ok (.iconst 4, 1) := dk_7 (dk_at dksX1_misfit_6 23 rfl rfl)
theorem dX1_misfit_165 : decode cX1_misfit 165 = .ok (.aload_n 1, 1) := dk_43 (dk_at dksX1_misfit_7 0 rfl rfl)
theorem dX1_misfit_166 : decode cX1_misfit 166 = .ok (.getfield 64, 3) := dk_180 0 64 (dk_at dksX1_misfit_7 1 rfl rfl)
theorem dX1_misfit_169 : decode cX1_misfit 169 = .ok (.iload_n 3, 1) := dk_29 (dk_at dksX1_misfit_7 4 rfl rfl)
theorem dX1_misfit_170 : decode cX1_misfit 170 = .ok (.iaload, 1) := dk_46 (dk_at dksX1_misfit_7 5 rfl rfl)
theorem dX1_misfit_171 : decode cX1_misfit 171 = .ok (.iastore, 1) := dk_79 (dk_at dksX1_misfit_7 6 rfl rfl)
theorem dX1_misfit_172 : decode cX1_misfit 172 = .ok (.aload_n 0, 1) := dk_42 (dk_at dksX1_misfit_7 7 rfl rfl)
theorem dX1_misfit_173 : decode cX1_misfit 173 = .ok (.getfield 31, 3) := dk_180 0 31 (dk_at dksX1_misfit_7 8 rfl rfl)
theorem dX1_misfit_176 : decode cX1_misfit 176 = .ok (.iconst 5, 1) := dk_8 (dk_at dksX1_misfit_7 11 rfl rfl)
theorem dX1_misfit_177 : decode cX1_misfit 177 = .ok (.aload_n 1, 1) := dk_43 (dk_at dksX1_misfit_7 12 rfl rfl)
theorem dX1_misfit_178 : decode cX1_misfit 178 = .ok (.getfield 70, 3) := dk_180 0 70 (dk_at dksX1_misfit_7 13 rfl rfl)
theorem dX1_misfit_181 : decode cX1_misfit 181 = .ok (.iastore, 1) := dk_79 (dk_at dksX1_misfit_7 16 rfl rfl)
theorem dX1_misfit_182 : decode cX1_misfit 182 = .ok (.aload_n 0, 1) := dk_42 (dk_at dksX1_misfit_7 17 rfl rfl)
theorem dX1_misfit_183 : decode cX1_misfit 183 = .ok (.getfield 60, 3) := dk_180 0 60 (dk_at dksX1_misfit_7 18 rfl rfl)
theorem dX1_misfit_186 : decode cX1_misfit 186 = .ok (.aload_n 0, 1) := dk_42 (dk_at dksX1_misfit_7 21 rfl rfl)
theorem dX1_misfit_187 : decode cX1_misfit 187 = .ok (.getfield 31, 3) := dk_180 0 31 (dk_at dksX1_misfit_8 0 rfl rfl)
theorem dX1_misfit_190 : decode cX1_misfit 190 = .ok (.invokevirtual 73, 3) := dk_182 0 73 (dk_at dksX1_misfit_8 3 rfl rfl)
theorem dX1_misfit_193 : decode cX1_misfit 193 = .ok (.sipush 999, 3) := dk_17 3 231 (dk_at dksX1_misfit_8 6 rfl rfl)
theorem dX1_misfit_196 : decode cX1_misfit 196 = .ok (.invokestatic 79, 3) := dk_184 0 79 (dk_at dksX1_misfit_8 9 rfl rfl)
theorem dX1_misfit_199 : decode cX1_misfit 199 = .ok (.ireturn, 1) := dk_172 (dk_at dksX1_misfit_8 12 rfl rfl)
set_option maxRecDepth 100000
abbrev cX2_init : ByteArray := prog_15_method_1_code
def yX2_init : MethodName := ⟨RX2, "<init>", "()V"⟩
def dkwX2_init_2 : List UInt8 := [188, 10, 181, 0, 27, 177]
abbrev dktX2_init_2 : List UInt8 := dkwX2_init_2 ++ []
def dkwX2_init_1 : List UInt8 := [188, 10, 181, 0, 18, 42, 16, 6, 188, 10, 181, 0, 21, 42, 16, 6, 188, 10, 181, 0, 24, 42, 16, 6]
abbrev dktX2_init_1 : List UInt8 := dkwX2_init_1 ++ dktX2_init_2
def dkwX2_init_0 : List UInt8 := [42, 183, 0, 3, 42, 16, 6, 188, 10, 181, 0, 9, 42, 16, 6, 188, 10, 181, 0, 15, 42, 16, 6]
abbrev dktX2_init_0 : List UInt8 := dkwX2_init_0 ++ dktX2_init_1
theorem dksX2_init_0 : cX2_init.data.toList.drop 0 = dktX2_init_0 := by decide +kernel
theorem dksX2_init_1 : cX2_init.data.toList.drop 23 = dktX2_init_1 := dk_seg dksX2_init_0 23 rfl rfl
theorem dksX2_init_2 : cX2_init.data.toList.drop 47 = dktX2_init_2 := dk_seg dksX2_init_1 24 rfl rfl
theorem dX2_init_0 : decode cX2_init 0 = .ok (.aload_n 0, 1) := dk_42 (dk_at dksX2_init_0 0 rfl rfl)
theorem dX2_init_1 : decode cX2_init 1 = .ok (.invokespecial 3, 3) := dk_183 0 3 (dk_at dksX2_init_0 1 rfl rfl)
theorem dX2_init_4 : decode cX2_init 4 = .ok (.aload_n 0, 1) := dk_42 (dk_at dksX2_init_0 4 rfl rfl)
theorem dX2_init_5 : decode cX2_init 5 = .ok (.bipush 6, 2) := dk_16 6 (dk_at dksX2_init_0 5 rfl rfl)
theorem dX2_init_7 : decode cX2_init 7 = .ok (.newarray .int, 2) := dk_188_10 (dk_at dksX2_init_0 7 rfl rfl)
theorem dX2_init_9 : decode cX2_init 9 = .ok (.putfield 9, 3) := dk_181 0 9 (dk_at dksX2_init_0 9 rfl rfl)
theorem dX2_init_12 : decode cX2_init 12 = .ok (.aload_n 0, 1) := dk_42 (dk_at dksX2_init_0 12 rfl rfl)
theorem dX2_init_13 : decode cX2_init 13 = .ok (.bipush 6, 2) := dk_16 6 (dk_at dksX2_init_0 13 rfl rfl)
theorem dX2_init_15 : decode cX2_init 15 = .ok (.newarray .int, 2) := dk_188_10 (dk_at dksX2_init_0 15 rfl rfl)
theorem dX2_init_17 : decode cX2_init 17 = .ok (.putfield 15, 3) := dk_181 0 15 (dk_at dksX2_init_0 17 rfl rfl)
theorem dX2_init_20 : decode cX2_init 20 = .ok (.aload_n 0, 1) := dk_42 (dk_at dksX2_init_0 20 rfl rfl)
theorem dX2_init_21 : decode cX2_init 21 = .ok (.bipush 6, 2) := dk_16 6 (dk_at dksX2_init_0 21 rfl rfl)
theorem dX2_init_23 : decode cX2_init 23 = .ok (.newarray .int, 2) := dk_188_10 (dk_at dksX2_init_1 0 rfl rfl)
theorem dX2_init_25 : decode cX2_init 25 = .ok (.putfield 18, 3) := dk_181 0 18 (dk_at dksX2_init_1 2 rfl rfl)
theorem dX2_init_28 : decode cX2_init 28 = .ok (.aload_n 0, 1) := dk_42 (dk_at dksX2_init_1 5 rfl rfl)
theorem dX2_init_29 : decode cX2_init 29 = .ok (.bipush 6, 2) := dk_16 6 (dk_at dksX2_init_1 6 rfl rfl)
theorem dX2_init_31 : decode cX2_init 31 = .ok (.newarray .int, 2) := dk_188_10 (dk_at dksX2_init_1 8 rfl rfl)
theorem dX2_init_33 : decode cX2_init 33 = .ok (.putfield 21, 3) := dk_181 0 21 (dk_at dksX2_init_1 10 rfl rfl)
theorem dX2_init_36 : decode cX2_init 36 = .ok (.aload_n 0, 1) := dk_42 (dk_at dksX2_init_1 13 rfl rfl)
theorem dX2_init_37 : decode cX2_init 37 = .ok (.bipush 6, 2) := dk_16 6 (dk_at dksX2_init_1 14 rfl rfl)
theorem dX2_init_39 : decode cX2_init 39 = .ok (.newarray .int, 2) := dk_188_10 (dk_at dksX2_init_1 16 rfl rfl)
theorem dX2_init_41 : decode cX2_init 41 = .ok (.putfield 24, 3) := dk_181 0 24 (dk_at dksX2_init_1 18 rfl rfl)
theorem dX2_init_44 : decode cX2_init 44 = .ok (.aload_n 0, 1) := dk_42 (dk_at dksX2_init_1 21 rfl rfl)
theorem dX2_init_45 : decode cX2_init 45 = .ok (.bipush 6, 2) := dk_16 6 (dk_at dksX2_init_1 22 rfl rfl)
theorem dX2_init_47 : decode cX2_init 47 = .ok (.newarray .int, 2) := dk_188_10 (dk_at dksX2_init_2 0 rfl rfl)
theorem dX2_init_49 : decode cX2_init 49 = .ok (.putfield 27, 3) := dk_181 0 27 (dk_at dksX2_init_2 2 rfl rfl)
theorem dX2_init_52 : decode cX2_init 52 = .ok (.return_, 1) := dk_177 (dk_at dksX2_init_2 5 rfl rfl)
abbrev cX2_begin : ByteArray := prog_15_method_3_code
def yX2_begin : MethodName := ⟨RX2, "begin", "(LTailorRegiment$Regiment;)V"⟩
def dkwX2_begin_9 : List UInt8 := [180, 0, 78, 181, 0, 43, 177]
abbrev dktX2_begin_9 : List UInt8 := dkwX2_begin_9 ++ []
def dkwX2_begin_8 : List UInt8 := [167, 0, 4, 3, 79, 132, 2, 1, 167, 255, 118, 42, 3, 181, 0, 36, 42, 3, 181, 0, 40, 42, 43]
abbrev dktX2_begin_8 : List UInt8 := dkwX2_begin_8 ++ dktX2_begin_9
def dkwX2_begin_7 : List UInt8 := [180, 0, 27, 28, 29, 153, 0, 20, 43, 180, 0, 66, 28, 182, 0, 58, 192, 0, 69, 180, 0, 76]
abbrev dktX2_begin_7 : List UInt8 := dkwX2_begin_7 ++ dktX2_begin_8
def dkwX2_begin_6 : List UInt8 := [153, 0, 20, 43, 180, 0, 66, 28, 182, 0, 58, 192, 0, 69, 180, 0, 74, 167, 0, 4, 3, 79, 42]
abbrev dktX2_begin_6 : List UInt8 := dkwX2_begin_6 ++ dktX2_begin_7
def dkwX2_begin_5 : List UInt8 := [180, 0, 66, 28, 182, 0, 58, 192, 0, 69, 180, 0, 73, 167, 0, 4, 3, 79, 42, 180, 0, 24, 28, 29]
abbrev dktX2_begin_5 : List UInt8 := dkwX2_begin_5 ++ dktX2_begin_6
def dkwX2_begin_4 : List UInt8 := [182, 0, 58, 192, 0, 69, 180, 0, 71, 167, 0, 4, 3, 79, 42, 180, 0, 21, 28, 29, 153, 0, 20, 43]
abbrev dktX2_begin_4 : List UInt8 := dkwX2_begin_4 ++ dktX2_begin_5
def dkwX2_begin_3 : List UInt8 := [162, 0, 7, 4, 167, 0, 4, 3, 62, 42, 180, 0, 18, 28, 29, 153, 0, 20, 43, 180, 0, 66, 28]
abbrev dktX2_begin_3 : List UInt8 := dkwX2_begin_3 ++ dktX2_begin_4
def dkwX2_begin_2 : List UInt8 := [2, 79, 132, 2, 1, 167, 255, 205, 3, 61, 28, 16, 6, 162, 0, 138, 28, 43, 180, 0, 66, 182, 0, 52]
abbrev dktX2_begin_2 : List UInt8 := dkwX2_begin_2 ++ dktX2_begin_3
def dkwX2_begin_1 : List UInt8 := [43, 180, 0, 46, 28, 182, 0, 58, 192, 0, 62, 180, 0, 64, 167, 0, 4, 3, 79, 42, 180, 0, 15, 28]
abbrev dktX2_begin_1 : List UInt8 := dkwX2_begin_1 ++ dktX2_begin_2
def dkwX2_begin_0 : List UInt8 := [3, 61, 28, 16, 6, 162, 0, 51, 42, 180, 0, 9, 28, 28, 43, 180, 0, 46, 182, 0, 52, 162, 0, 20]
abbrev dktX2_begin_0 : List UInt8 := dkwX2_begin_0 ++ dktX2_begin_1
theorem dksX2_begin_0 : cX2_begin.data.toList.drop 0 = dktX2_begin_0 := by decide +kernel
theorem dksX2_begin_1 : cX2_begin.data.toList.drop 24 = dktX2_begin_1 := dk_seg dksX2_begin_0 24 rfl rfl
theorem dksX2_begin_2 : cX2_begin.data.toList.drop 48 = dktX2_begin_2 := dk_seg dksX2_begin_1 24 rfl rfl
theorem dksX2_begin_3 : cX2_begin.data.toList.drop 72 = dktX2_begin_3 := dk_seg dksX2_begin_2 24 rfl rfl
theorem dksX2_begin_4 : cX2_begin.data.toList.drop 95 = dktX2_begin_4 := dk_seg dksX2_begin_3 23 rfl rfl
theorem dksX2_begin_5 : cX2_begin.data.toList.drop 119 = dktX2_begin_5 := dk_seg dksX2_begin_4 24 rfl rfl
theorem dksX2_begin_6 : cX2_begin.data.toList.drop 143 = dktX2_begin_6 := dk_seg dksX2_begin_5 24 rfl rfl
theorem dksX2_begin_7 : cX2_begin.data.toList.drop 166 = dktX2_begin_7 := dk_seg dksX2_begin_6 23 rfl rfl
theorem dksX2_begin_8 : cX2_begin.data.toList.drop 188 = dktX2_begin_8 := dk_seg dksX2_begin_7 22 rfl rfl
theorem dksX2_begin_9 : cX2_begin.data.toList.drop 211 = dktX2_begin_9 := dk_seg dksX2_begin_8 23 rfl rfl
theorem dX2_begin_0 : decode cX2_begin 0 = .ok (.iconst 0, 1) := dk_3 (dk_at dksX2_begin_0 0 rfl rfl)
theorem dX2_begin_1 : decode cX2_begin 1 = .ok (.istore_n 2, 1) := dk_61 (dk_at dksX2_begin_0 1 rfl rfl)
theorem dX2_begin_2 : decode cX2_begin 2 = .ok (.iload_n 2, 1) := dk_28 (dk_at dksX2_begin_0 2 rfl rfl)
theorem dX2_begin_3 : decode cX2_begin 3 = .ok (.bipush 6, 2) := dk_16 6 (dk_at dksX2_begin_0 3 rfl rfl)
theorem dX2_begin_5 : decode cX2_begin 5 = .ok (.if_icmp .ge 51, 3) := dk_162 0 51 (dk_at dksX2_begin_0 5 rfl rfl)
theorem dX2_begin_8 : decode cX2_begin 8 = .ok (.aload_n 0, 1) := dk_42 (dk_at dksX2_begin_0 8 rfl rfl)
theorem dX2_begin_9 : decode cX2_begin 9 = .ok (.getfield 9, 3) := dk_180 0 9 (dk_at dksX2_begin_0 9 rfl rfl)
theorem dX2_begin_12 : decode cX2_begin 12 = .ok (.iload_n 2, 1) := dk_28 (dk_at dksX2_begin_0 12 rfl rfl)
theorem dX2_begin_13 : decode cX2_begin 13 = .ok (.iload_n 2, 1) := dk_28 (dk_at dksX2_begin_0 13 rfl rfl)
theorem dX2_begin_14 : decode cX2_begin 14 = .ok (.aload_n 1, 1) := dk_43 (dk_at dksX2_begin_0 14 rfl rfl)
theorem dX2_begin_15 : decode cX2_begin 15 = .ok (.getfield 46, 3) := dk_180 0 46 (dk_at dksX2_begin_0 15 rfl rfl)
theorem dX2_begin_18 : decode cX2_begin 18 = .ok (.invokevirtual 52, 3) := dk_182 0 52 (dk_at dksX2_begin_0 18 rfl rfl)
theorem dX2_begin_21 : decode cX2_begin 21 = .ok (.if_icmp .ge 20, 3) := dk_162 0 20 (dk_at dksX2_begin_0 21 rfl rfl)
theorem dX2_begin_24 : decode cX2_begin 24 = .ok (.aload_n 1, 1) := dk_43 (dk_at dksX2_begin_1 0 rfl rfl)
theorem dX2_begin_25 : decode cX2_begin 25 = .ok (.getfield 46, 3) := dk_180 0 46 (dk_at dksX2_begin_1 1 rfl rfl)
theorem dX2_begin_28 : decode cX2_begin 28 = .ok (.iload_n 2, 1) := dk_28 (dk_at dksX2_begin_1 4 rfl rfl)
theorem dX2_begin_29 : decode cX2_begin 29 = .ok (.invokevirtual 58, 3) := dk_182 0 58 (dk_at dksX2_begin_1 5 rfl rfl)
theorem dX2_begin_32 : decode cX2_begin 32 = .ok (.checkcast 62, 3) := dk_192 0 62 (dk_at dksX2_begin_1 8 rfl rfl)
theorem dX2_begin_35 : decode cX2_begin 35 = .ok (.getfield 64, 3) := dk_180 0 64 (dk_at dksX2_begin_1 11 rfl rfl)
theorem dX2_begin_38 : decode cX2_begin 38 = .ok (.goto 4, 3) := dk_167 0 4 (dk_at dksX2_begin_1 14 rfl rfl)
theorem dX2_begin_41 : decode cX2_begin 41 = .ok (.iconst 0, 1) := dk_3 (dk_at dksX2_begin_1 17 rfl rfl)
theorem dX2_begin_42 : decode cX2_begin 42 = .ok (.iastore, 1) := dk_79 (dk_at dksX2_begin_1 18 rfl rfl)
theorem dX2_begin_43 : decode cX2_begin 43 = .ok (.aload_n 0, 1) := dk_42 (dk_at dksX2_begin_1 19 rfl rfl)
theorem dX2_begin_44 : decode cX2_begin 44 = .ok (.getfield 15, 3) := dk_180 0 15 (dk_at dksX2_begin_1 20 rfl rfl)
theorem dX2_begin_47 : decode cX2_begin 47 = .ok (.iload_n 2, 1) := dk_28 (dk_at dksX2_begin_1 23 rfl rfl)
theorem dX2_begin_48 : decode cX2_begin 48 = .ok (.iconst (-1), 1) := dk_2 (dk_at dksX2_begin_2 0 rfl rfl)
theorem dX2_begin_49 : decode cX2_begin 49 = .ok (.iastore, 1) := dk_79 (dk_at dksX2_begin_2 1 rfl rfl)
theorem dX2_begin_50 : decode cX2_begin 50 = .ok (.iinc 2 1, 3) := dk_132 2 1 (dk_at dksX2_begin_2 2 rfl rfl)
theorem dX2_begin_53 : decode cX2_begin 53 = .ok (.goto (-51), 3) := dk_167 255 205 (dk_at dksX2_begin_2 5 rfl rfl)
theorem dX2_begin_56 : decode cX2_begin 56 = .ok (.iconst 0, 1) := dk_3 (dk_at dksX2_begin_2 8 rfl rfl)
theorem dX2_begin_57 : decode cX2_begin 57 = .ok (.istore_n 2, 1) := dk_61 (dk_at dksX2_begin_2 9 rfl rfl)
theorem dX2_begin_58 : decode cX2_begin 58 = .ok (.iload_n 2, 1) := dk_28 (dk_at dksX2_begin_2 10 rfl rfl)
theorem dX2_begin_59 : decode cX2_begin 59 = .ok (.bipush 6, 2) := dk_16 6 (dk_at dksX2_begin_2 11 rfl rfl)
theorem dX2_begin_61 : decode cX2_begin 61 = .ok (.if_icmp .ge 138, 3) := dk_162 0 138 (dk_at dksX2_begin_2 13 rfl rfl)
theorem dX2_begin_64 : decode cX2_begin 64 = .ok (.iload_n 2, 1) := dk_28 (dk_at dksX2_begin_2 16 rfl rfl)
theorem dX2_begin_65 : decode cX2_begin 65 = .ok (.aload_n 1, 1) := dk_43 (dk_at dksX2_begin_2 17 rfl rfl)
theorem dX2_begin_66 : decode cX2_begin 66 = .ok (.getfield 66, 3) := dk_180 0 66 (dk_at dksX2_begin_2 18 rfl rfl)
theorem dX2_begin_69 : decode cX2_begin 69 = .ok (.invokevirtual 52, 3) := dk_182 0 52 (dk_at dksX2_begin_2 21 rfl rfl)
theorem dX2_begin_72 : decode cX2_begin 72 = .ok (.if_icmp .ge 7, 3) := dk_162 0 7 (dk_at dksX2_begin_3 0 rfl rfl)
theorem dX2_begin_75 : decode cX2_begin 75 = .ok (.iconst 1, 1) := dk_4 (dk_at dksX2_begin_3 3 rfl rfl)
theorem dX2_begin_76 : decode cX2_begin 76 = .ok (.goto 4, 3) := dk_167 0 4 (dk_at dksX2_begin_3 4 rfl rfl)
theorem dX2_begin_79 : decode cX2_begin 79 = .ok (.iconst 0, 1) := dk_3 (dk_at dksX2_begin_3 7 rfl rfl)
theorem dX2_begin_80 : decode cX2_begin 80 = .ok (.istore_n 3, 1) := dk_62 (dk_at dksX2_begin_3 8 rfl rfl)
theorem dX2_begin_81 : decode cX2_begin 81 = .ok (.aload_n 0, 1) := dk_42 (dk_at dksX2_begin_3 9 rfl rfl)
theorem dX2_begin_82 : decode cX2_begin 82 = .ok (.getfield 18, 3) := dk_180 0 18 (dk_at dksX2_begin_3 10 rfl rfl)
theorem dX2_begin_85 : decode cX2_begin 85 = .ok (.iload_n 2, 1) := dk_28 (dk_at dksX2_begin_3 13 rfl rfl)
theorem dX2_begin_86 : decode cX2_begin 86 = .ok (.iload_n 3, 1) := dk_29 (dk_at dksX2_begin_3 14 rfl rfl)
theorem dX2_begin_87 : decode cX2_begin 87 = .ok (.ifCond .eq 20, 3) := dk_153 0 20 (dk_at dksX2_begin_3 15 rfl rfl)
theorem dX2_begin_90 : decode cX2_begin 90 = .ok (.aload_n 1, 1) := dk_43 (dk_at dksX2_begin_3 18 rfl rfl)
theorem dX2_begin_91 : decode cX2_begin 91 = .ok (.getfield 66, 3) := dk_180 0 66 (dk_at dksX2_begin_3 19 rfl rfl)
theorem dX2_begin_94 : decode cX2_begin 94 = .ok (.iload_n 2, 1) := dk_28 (dk_at dksX2_begin_3 22 rfl rfl)
theorem dX2_begin_95 : decode cX2_begin 95 = .ok (.invokevirtual 58, 3) := dk_182 0 58 (dk_at dksX2_begin_4 0 rfl rfl)
theorem dX2_begin_98 : decode cX2_begin 98 = .ok (.checkcast 69, 3) := dk_192 0 69 (dk_at dksX2_begin_4 3 rfl rfl)
theorem dX2_begin_101 : decode cX2_begin 101 = .ok (.getfield 71, 3) := dk_180 0 71 (dk_at dksX2_begin_4 6 rfl rfl)
theorem dX2_begin_104 : decode cX2_begin 104 = .ok (.goto 4, 3) := dk_167 0 4 (dk_at dksX2_begin_4 9 rfl rfl)
theorem dX2_begin_107 : decode cX2_begin 107 = .ok (.iconst 0, 1) := dk_3 (dk_at dksX2_begin_4 12 rfl rfl)
theorem dX2_begin_108 : decode cX2_begin 108 = .ok (.iastore, 1) := dk_79 (dk_at dksX2_begin_4 13 rfl rfl)
theorem dX2_begin_109 : decode cX2_begin 109 = .ok (.aload_n 0, 1) := dk_42 (dk_at dksX2_begin_4 14 rfl rfl)
theorem dX2_begin_110 : decode cX2_begin 110 = .ok (.getfield 21, 3) := dk_180 0 21 (dk_at dksX2_begin_4 15 rfl rfl)
theorem dX2_begin_113 : decode cX2_begin 113 = .ok (.iload_n 2, 1) := dk_28 (dk_at dksX2_begin_4 18 rfl rfl)
theorem dX2_begin_114 : decode cX2_begin 114 = .ok (.iload_n 3, 1) := dk_29 (dk_at dksX2_begin_4 19 rfl rfl)
theorem dX2_begin_115 : decode cX2_begin 115 = .ok (.ifCond .eq 20, 3) := dk_153 0 20 (dk_at dksX2_begin_4 20 rfl rfl)
theorem dX2_begin_118 : decode cX2_begin 118 = .ok (.aload_n 1, 1) := dk_43 (dk_at dksX2_begin_4 23 rfl rfl)
theorem dX2_begin_119 : decode cX2_begin 119 = .ok (.getfield 66, 3) := dk_180 0 66 (dk_at dksX2_begin_5 0 rfl rfl)
theorem dX2_begin_122 : decode cX2_begin 122 = .ok (.iload_n 2, 1) := dk_28 (dk_at dksX2_begin_5 3 rfl rfl)
theorem dX2_begin_123 : decode cX2_begin 123 = .ok (.invokevirtual 58, 3) := dk_182 0 58 (dk_at dksX2_begin_5 4 rfl rfl)
theorem dX2_begin_126 : decode cX2_begin 126 = .ok (.checkcast 69, 3) := dk_192 0 69 (dk_at dksX2_begin_5 7 rfl rfl)
theorem dX2_begin_129 : decode cX2_begin 129 = .ok (.getfield 73, 3) := dk_180 0 73 (dk_at dksX2_begin_5 10 rfl rfl)
theorem dX2_begin_132 : decode cX2_begin 132 = .ok (.goto 4, 3) := dk_167 0 4 (dk_at dksX2_begin_5 13 rfl rfl)
theorem dX2_begin_135 : decode cX2_begin 135 = .ok (.iconst 0, 1) := dk_3 (dk_at dksX2_begin_5 16 rfl rfl)
theorem dX2_begin_136 : decode cX2_begin 136 = .ok (.iastore, 1) := dk_79 (dk_at dksX2_begin_5 17 rfl rfl)
theorem dX2_begin_137 : decode cX2_begin 137 = .ok (.aload_n 0, 1) := dk_42 (dk_at dksX2_begin_5 18 rfl rfl)
theorem dX2_begin_138 : decode cX2_begin 138 = .ok (.getfield 24, 3) := dk_180 0 24 (dk_at dksX2_begin_5 19 rfl rfl)
theorem dX2_begin_141 : decode cX2_begin 141 = .ok (.iload_n 2, 1) := dk_28 (dk_at dksX2_begin_5 22 rfl rfl)
theorem dX2_begin_142 : decode cX2_begin 142 = .ok (.iload_n 3, 1) := dk_29 (dk_at dksX2_begin_5 23 rfl rfl)
theorem dX2_begin_143 : decode cX2_begin 143 = .ok (.ifCond .eq 20, 3) := dk_153 0 20 (dk_at dksX2_begin_6 0 rfl rfl)
theorem dX2_begin_146 : decode cX2_begin 146 = .ok (.aload_n 1, 1) := dk_43 (dk_at dksX2_begin_6 3 rfl rfl)
theorem dX2_begin_147 : decode cX2_begin 147 = .ok (.getfield 66, 3) := dk_180 0 66 (dk_at dksX2_begin_6 4 rfl rfl)
theorem dX2_begin_150 : decode cX2_begin 150 = .ok (.iload_n 2, 1) := dk_28 (dk_at dksX2_begin_6 7 rfl rfl)
theorem dX2_begin_151 : decode cX2_begin 151 = .ok (.invokevirtual 58, 3) := dk_182 0 58 (dk_at dksX2_begin_6 8 rfl rfl)
theorem dX2_begin_154 : decode cX2_begin 154 = .ok (.checkcast 69, 3) := dk_192 0 69 (dk_at dksX2_begin_6 11 rfl rfl)
theorem dX2_begin_157 : decode cX2_begin 157 = .ok (.getfield 74, 3) := dk_180 0 74 (dk_at dksX2_begin_6 14 rfl rfl)
theorem dX2_begin_160 : decode cX2_begin 160 = .ok (.goto 4, 3) := dk_167 0 4 (dk_at dksX2_begin_6 17 rfl rfl)
theorem dX2_begin_163 : decode cX2_begin 163 = .ok (.iconst 0, 1) := dk_3 (dk_at dksX2_begin_6 20 rfl rfl)
theorem dX2_begin_164 : decode cX2_begin 164 = .ok (.iastore, 1) := dk_79 (dk_at dksX2_begin_6 21 rfl rfl)
theorem dX2_begin_165 : decode cX2_begin 165 = .ok (.aload_n 0, 1) := dk_42 (dk_at dksX2_begin_6 22 rfl rfl)
theorem dX2_begin_166 : decode cX2_begin 166 = .ok (.getfield 27, 3) := dk_180 0 27 (dk_at dksX2_begin_7 0 rfl rfl)
theorem dX2_begin_169 : decode cX2_begin 169 = .ok (.iload_n 2, 1) := dk_28 (dk_at dksX2_begin_7 3 rfl rfl)
theorem dX2_begin_170 : decode cX2_begin 170 = .ok (.iload_n 3, 1) := dk_29 (dk_at dksX2_begin_7 4 rfl rfl)
theorem dX2_begin_171 : decode cX2_begin 171 = .ok (.ifCond .eq 20, 3) := dk_153 0 20 (dk_at dksX2_begin_7 5 rfl rfl)
theorem dX2_begin_174 : decode cX2_begin 174 = .ok (.aload_n 1, 1) := dk_43 (dk_at dksX2_begin_7 8 rfl rfl)
theorem dX2_begin_175 : decode cX2_begin 175 = .ok (.getfield 66, 3) := dk_180 0 66 (dk_at dksX2_begin_7 9 rfl rfl)
theorem dX2_begin_178 : decode cX2_begin 178 = .ok (.iload_n 2, 1) := dk_28 (dk_at dksX2_begin_7 12 rfl rfl)
theorem dX2_begin_179 : decode cX2_begin 179 = .ok (.invokevirtual 58, 3) := dk_182 0 58 (dk_at dksX2_begin_7 13 rfl rfl)
theorem dX2_begin_182 : decode cX2_begin 182 = .ok (.checkcast 69, 3) := dk_192 0 69 (dk_at dksX2_begin_7 16 rfl rfl)
theorem dX2_begin_185 : decode cX2_begin 185 = .ok (.getfield 76, 3) := dk_180 0 76 (dk_at dksX2_begin_7 19 rfl rfl)
theorem dX2_begin_188 : decode cX2_begin 188 = .ok (.goto 4, 3) := dk_167 0 4 (dk_at dksX2_begin_8 0 rfl rfl)
theorem dX2_begin_191 : decode cX2_begin 191 = .ok (.iconst 0, 1) := dk_3 (dk_at dksX2_begin_8 3 rfl rfl)
theorem dX2_begin_192 : decode cX2_begin 192 = .ok (.iastore, 1) := dk_79 (dk_at dksX2_begin_8 4 rfl rfl)
theorem dX2_begin_193 : decode cX2_begin 193 = .ok (.iinc 2 1, 3) := dk_132 2 1 (dk_at dksX2_begin_8 5 rfl rfl)
theorem dX2_begin_196 : decode cX2_begin 196 = .ok (.goto (-138), 3) := dk_167 255 118 (dk_at dksX2_begin_8 8 rfl rfl)
theorem dX2_begin_199 : decode cX2_begin 199 = .ok (.aload_n 0, 1) := dk_42 (dk_at dksX2_begin_8 11 rfl rfl)
theorem dX2_begin_200 : decode cX2_begin 200 = .ok (.iconst 0, 1) := dk_3 (dk_at dksX2_begin_8 12 rfl rfl)
theorem dX2_begin_201 : decode cX2_begin 201 = .ok (.putfield 36, 3) := dk_181 0 36 (dk_at dksX2_begin_8 13 rfl rfl)
theorem dX2_begin_204 : decode cX2_begin 204 = .ok (.aload_n 0, 1) := dk_42 (dk_at dksX2_begin_8 16 rfl rfl)
theorem dX2_begin_205 : decode cX2_begin 205 = .ok (.iconst 0, 1) := dk_3 (dk_at dksX2_begin_8 17 rfl rfl)
theorem dX2_begin_206 : decode cX2_begin 206 = .ok (.putfield 40, 3) := dk_181 0 40 (dk_at dksX2_begin_8 18 rfl rfl)
theorem dX2_begin_209 : decode cX2_begin 209 = .ok (.aload_n 0, 1) := dk_42 (dk_at dksX2_begin_8 21 rfl rfl)
theorem dX2_begin_210 : decode cX2_begin 210 = .ok (.aload_n 1, 1) := dk_43 (dk_at dksX2_begin_8 22 rfl rfl)
theorem dX2_begin_211 : decode cX2_begin 211 = .ok (.getfield 78, 3) := dk_180 0 78 (dk_at dksX2_begin_9 0 rfl rfl)
theorem dX2_begin_214 : decode cX2_begin 214 = .ok (.putfield 43, 3) := dk_181 0 43 (dk_at dksX2_begin_9 3 rfl rfl)
theorem dX2_begin_217 : decode cX2_begin 217 = .ok (.return_, 1) := dk_177 (dk_at dksX2_begin_9 6 rfl rfl)
abbrev cX2_wearer : ByteArray := prog_15_method_4_code
def yX2_wearer : MethodName := ⟨RX2, "wearer", "(I)I"⟩
def dkwX2_wearer_1 : List UInt8 := [167, 255, 235, 2, 172]
abbrev dktX2_wearer_1 : List UInt8 := dkwX2_wearer_1 ++ []
def dkwX2_wearer_0 : List UInt8 := [3, 61, 28, 16, 6, 162, 0, 21, 42, 180, 0, 15, 28, 46, 27, 160, 0, 5, 28, 172, 132, 2, 1]
abbrev dktX2_wearer_0 : List UInt8 := dkwX2_wearer_0 ++ dktX2_wearer_1
theorem dksX2_wearer_0 : cX2_wearer.data.toList.drop 0 = dktX2_wearer_0 := by decide +kernel
theorem dksX2_wearer_1 : cX2_wearer.data.toList.drop 23 = dktX2_wearer_1 := dk_seg dksX2_wearer_0 23 rfl rfl
theorem dX2_wearer_0 : decode cX2_wearer 0 = .ok (.iconst 0, 1) := dk_3 (dk_at dksX2_wearer_0 0 rfl rfl)
theorem dX2_wearer_1 : decode cX2_wearer 1 = .ok (.istore_n 2, 1) := dk_61 (dk_at dksX2_wearer_0 1 rfl rfl)
theorem dX2_wearer_2 : decode cX2_wearer 2 = .ok (.iload_n 2, 1) := dk_28 (dk_at dksX2_wearer_0 2 rfl rfl)
theorem dX2_wearer_3 : decode cX2_wearer 3 = .ok (.bipush 6, 2) := dk_16 6 (dk_at dksX2_wearer_0 3 rfl rfl)
theorem dX2_wearer_5 : decode cX2_wearer 5 = .ok (.if_icmp .ge 21, 3) := dk_162 0 21 (dk_at dksX2_wearer_0 5 rfl rfl)
theorem dX2_wearer_8 : decode cX2_wearer 8 = .ok (.aload_n 0, 1) := dk_42 (dk_at dksX2_wearer_0 8 rfl rfl)
theorem dX2_wearer_9 : decode cX2_wearer 9 = .ok (.getfield 15, 3) := dk_180 0 15 (dk_at dksX2_wearer_0 9 rfl rfl)
theorem dX2_wearer_12 : decode cX2_wearer 12 = .ok (.iload_n 2, 1) := dk_28 (dk_at dksX2_wearer_0 12 rfl rfl)
theorem dX2_wearer_13 : decode cX2_wearer 13 = .ok (.iaload, 1) := dk_46 (dk_at dksX2_wearer_0 13 rfl rfl)
theorem dX2_wearer_14 : decode cX2_wearer 14 = .ok (.iload_n 1, 1) := dk_27 (dk_at dksX2_wearer_0 14 rfl rfl)
theorem dX2_wearer_15 : decode cX2_wearer 15 = .ok (.if_icmp .ne 5, 3) := dk_160 0 5 (dk_at dksX2_wearer_0 15 rfl rfl)
theorem dX2_wearer_18 : decode cX2_wearer 18 = .ok (.iload_n 2, 1) := dk_28 (dk_at dksX2_wearer_0 18 rfl rfl)
theorem dX2_wearer_19 : decode cX2_wearer 19 = .ok (.ireturn, 1) := dk_172 (dk_at dksX2_wearer_0 19 rfl rfl)
theorem dX2_wearer_20 : decode cX2_wearer 20 = .ok (.iinc 2 1, 3) := dk_132 2 1 (dk_at dksX2_wearer_0 20 rfl rfl)
theorem dX2_wearer_23 : decode cX2_wearer 23 = .ok (.goto (-21), 3) := dk_167 255 235 (dk_at dksX2_wearer_1 0 rfl rfl)
theorem dX2_wearer_26 : decode cX2_wearer 26 = .ok (.iconst (-1), 1) := dk_2 (dk_at dksX2_wearer_1 3 rfl rfl)
theorem dX2_wearer_27 : decode cX2_wearer 27 = .ok (.ireturn, 1) := dk_172 (dk_at dksX2_wearer_1 4 rfl rfl)
abbrev cX2_of : ByteArray := prog_15_method_2_code
def yX2_of : MethodName := ⟨RX2, "of", "(LTailorRegiment$State;)V"⟩
def dkwX2_of_4 : List UInt8 := [180, 0, 36, 181, 0, 36, 42, 43, 180, 0, 40, 181, 0, 40, 42, 43, 180, 0, 43, 181, 0, 43, 177]
abbrev dktX2_of_4 : List UInt8 := dkwX2_of_4 ++ []
def dkwX2_of_3 : List UInt8 := [16, 6, 184, 0, 30, 43, 180, 0, 27, 3, 42, 180, 0, 27, 3, 16, 6, 184, 0, 30, 42, 43]
abbrev dktX2_of_3 : List UInt8 := dkwX2_of_3 ++ dktX2_of_4
def dkwX2_of_2 : List UInt8 := [180, 0, 21, 3, 42, 180, 0, 21, 3, 16, 6, 184, 0, 30, 43, 180, 0, 24, 3, 42, 180, 0, 24, 3]
abbrev dktX2_of_2 : List UInt8 := dkwX2_of_2 ++ dktX2_of_3
def dkwX2_of_1 : List UInt8 := [3, 16, 6, 184, 0, 30, 43, 180, 0, 18, 3, 42, 180, 0, 18, 3, 16, 6, 184, 0, 30, 43]
abbrev dktX2_of_1 : List UInt8 := dkwX2_of_1 ++ dktX2_of_2
def dkwX2_of_0 : List UInt8 := [43, 180, 0, 9, 3, 42, 180, 0, 9, 3, 16, 6, 184, 0, 30, 43, 180, 0, 15, 3, 42, 180, 0, 15]
abbrev dktX2_of_0 : List UInt8 := dkwX2_of_0 ++ dktX2_of_1
theorem dksX2_of_0 : cX2_of.data.toList.drop 0 = dktX2_of_0 := by decide +kernel
theorem dksX2_of_1 : cX2_of.data.toList.drop 24 = dktX2_of_1 := dk_seg dksX2_of_0 24 rfl rfl
theorem dksX2_of_2 : cX2_of.data.toList.drop 46 = dktX2_of_2 := dk_seg dksX2_of_1 22 rfl rfl
theorem dksX2_of_3 : cX2_of.data.toList.drop 70 = dktX2_of_3 := dk_seg dksX2_of_2 24 rfl rfl
theorem dksX2_of_4 : cX2_of.data.toList.drop 92 = dktX2_of_4 := dk_seg dksX2_of_3 22 rfl rfl
theorem dX2_of_0 : decode cX2_of 0 = .ok (.aload_n 1, 1) := dk_43 (dk_at dksX2_of_0 0 rfl rfl)
theorem dX2_of_1 : decode cX2_of 1 = .ok (.getfield 9, 3) := dk_180 0 9 (dk_at dksX2_of_0 1 rfl rfl)
theorem dX2_of_4 : decode cX2_of 4 = .ok (.iconst 0, 1) := dk_3 (dk_at dksX2_of_0 4 rfl rfl)
theorem dX2_of_5 : decode cX2_of 5 = .ok (.aload_n 0, 1) := dk_42 (dk_at dksX2_of_0 5 rfl rfl)
theorem dX2_of_6 : decode cX2_of 6 = .ok (.getfield 9, 3) := dk_180 0 9 (dk_at dksX2_of_0 6 rfl rfl)
theorem dX2_of_9 : decode cX2_of 9 = .ok (.iconst 0, 1) := dk_3 (dk_at dksX2_of_0 9 rfl rfl)
theorem dX2_of_10 : decode cX2_of 10 = .ok (.bipush 6, 2) := dk_16 6 (dk_at dksX2_of_0 10 rfl rfl)
theorem dX2_of_12 : decode cX2_of 12 = .ok (.invokestatic 30, 3) := dk_184 0 30 (dk_at dksX2_of_0 12 rfl rfl)
theorem dX2_of_15 : decode cX2_of 15 = .ok (.aload_n 1, 1) := dk_43 (dk_at dksX2_of_0 15 rfl rfl)
theorem dX2_of_16 : decode cX2_of 16 = .ok (.getfield 15, 3) := dk_180 0 15 (dk_at dksX2_of_0 16 rfl rfl)
theorem dX2_of_19 : decode cX2_of 19 = .ok (.iconst 0, 1) := dk_3 (dk_at dksX2_of_0 19 rfl rfl)
theorem dX2_of_20 : decode cX2_of 20 = .ok (.aload_n 0, 1) := dk_42 (dk_at dksX2_of_0 20 rfl rfl)
theorem dX2_of_21 : decode cX2_of 21 = .ok (.getfield 15, 3) := dk_180 0 15 (dk_at dksX2_of_0 21 rfl rfl)
theorem dX2_of_24 : decode cX2_of 24 = .ok (.iconst 0, 1) := dk_3 (dk_at dksX2_of_1 0 rfl rfl)
theorem dX2_of_25 : decode cX2_of 25 = .ok (.bipush 6, 2) := dk_16 6 (dk_at dksX2_of_1 1 rfl rfl)
theorem dX2_of_27 : decode cX2_of 27 = .ok (.invokestatic 30, 3) := dk_184 0 30 (dk_at dksX2_of_1 3 rfl rfl)
theorem dX2_of_30 : decode cX2_of 30 = .ok (.aload_n 1, 1) := dk_43 (dk_at dksX2_of_1 6 rfl rfl)
theorem dX2_of_31 : decode cX2_of 31 = .ok (.getfield 18, 3) := dk_180 0 18 (dk_at dksX2_of_1 7 rfl rfl)
theorem dX2_of_34 : decode cX2_of 34 = .ok (.iconst 0, 1) := dk_3 (dk_at dksX2_of_1 10 rfl rfl)
theorem dX2_of_35 : decode cX2_of 35 = .ok (.aload_n 0, 1) := dk_42 (dk_at dksX2_of_1 11 rfl rfl)
theorem dX2_of_36 : decode cX2_of 36 = .ok (.getfield 18, 3) := dk_180 0 18 (dk_at dksX2_of_1 12 rfl rfl)
theorem dX2_of_39 : decode cX2_of 39 = .ok (.iconst 0, 1) := dk_3 (dk_at dksX2_of_1 15 rfl rfl)
theorem dX2_of_40 : decode cX2_of 40 = .ok (.bipush 6, 2) := dk_16 6 (dk_at dksX2_of_1 16 rfl rfl)
theorem dX2_of_42 : decode cX2_of 42 = .ok (.invokestatic 30, 3) := dk_184 0 30 (dk_at dksX2_of_1 18 rfl rfl)
theorem dX2_of_45 : decode cX2_of 45 = .ok (.aload_n 1, 1) := dk_43 (dk_at dksX2_of_1 21 rfl rfl)
theorem dX2_of_46 : decode cX2_of 46 = .ok (.getfield 21, 3) := dk_180 0 21 (dk_at dksX2_of_2 0 rfl rfl)
theorem dX2_of_49 : decode cX2_of 49 = .ok (.iconst 0, 1) := dk_3 (dk_at dksX2_of_2 3 rfl rfl)
theorem dX2_of_50 : decode cX2_of 50 = .ok (.aload_n 0, 1) := dk_42 (dk_at dksX2_of_2 4 rfl rfl)
theorem dX2_of_51 : decode cX2_of 51 = .ok (.getfield 21, 3) := dk_180 0 21 (dk_at dksX2_of_2 5 rfl rfl)
theorem dX2_of_54 : decode cX2_of 54 = .ok (.iconst 0, 1) := dk_3 (dk_at dksX2_of_2 8 rfl rfl)
theorem dX2_of_55 : decode cX2_of 55 = .ok (.bipush 6, 2) := dk_16 6 (dk_at dksX2_of_2 9 rfl rfl)
theorem dX2_of_57 : decode cX2_of 57 = .ok (.invokestatic 30, 3) := dk_184 0 30 (dk_at dksX2_of_2 11 rfl rfl)
theorem dX2_of_60 : decode cX2_of 60 = .ok (.aload_n 1, 1) := dk_43 (dk_at dksX2_of_2 14 rfl rfl)
theorem dX2_of_61 : decode cX2_of 61 = .ok (.getfield 24, 3) := dk_180 0 24 (dk_at dksX2_of_2 15 rfl rfl)
theorem dX2_of_64 : decode cX2_of 64 = .ok (.iconst 0, 1) := dk_3 (dk_at dksX2_of_2 18 rfl rfl)
theorem dX2_of_65 : decode cX2_of 65 = .ok (.aload_n 0, 1) := dk_42 (dk_at dksX2_of_2 19 rfl rfl)
theorem dX2_of_66 : decode cX2_of 66 = .ok (.getfield 24, 3) := dk_180 0 24 (dk_at dksX2_of_2 20 rfl rfl)
theorem dX2_of_69 : decode cX2_of 69 = .ok (.iconst 0, 1) := dk_3 (dk_at dksX2_of_2 23 rfl rfl)
theorem dX2_of_70 : decode cX2_of 70 = .ok (.bipush 6, 2) := dk_16 6 (dk_at dksX2_of_3 0 rfl rfl)
theorem dX2_of_72 : decode cX2_of 72 = .ok (.invokestatic 30, 3) := dk_184 0 30 (dk_at dksX2_of_3 2 rfl rfl)
theorem dX2_of_75 : decode cX2_of 75 = .ok (.aload_n 1, 1) := dk_43 (dk_at dksX2_of_3 5 rfl rfl)
theorem dX2_of_76 : decode cX2_of 76 = .ok (.getfield 27, 3) := dk_180 0 27 (dk_at dksX2_of_3 6 rfl rfl)
theorem dX2_of_79 : decode cX2_of 79 = .ok (.iconst 0, 1) := dk_3 (dk_at dksX2_of_3 9 rfl rfl)
theorem dX2_of_80 : decode cX2_of 80 = .ok (.aload_n 0, 1) := dk_42 (dk_at dksX2_of_3 10 rfl rfl)
theorem dX2_of_81 : decode cX2_of 81 = .ok (.getfield 27, 3) := dk_180 0 27 (dk_at dksX2_of_3 11 rfl rfl)
theorem dX2_of_84 : decode cX2_of 84 = .ok (.iconst 0, 1) := dk_3 (dk_at dksX2_of_3 14 rfl rfl)
theorem dX2_of_85 : decode cX2_of 85 = .ok (.bipush 6, 2) := dk_16 6 (dk_at dksX2_of_3 15 rfl rfl)
theorem dX2_of_87 : decode cX2_of 87 = .ok (.invokestatic 30, 3) := dk_184 0 30 (dk_at dksX2_of_3 17 rfl rfl)
theorem dX2_of_90 : decode cX2_of 90 = .ok (.aload_n 0, 1) := dk_42 (dk_at dksX2_of_3 20 rfl rfl)
theorem dX2_of_91 : decode cX2_of 91 = .ok (.aload_n 1, 1) := dk_43 (dk_at dksX2_of_3 21 rfl rfl)
theorem dX2_of_92 : decode cX2_of 92 = .ok (.getfield 36, 3) := dk_180 0 36 (dk_at dksX2_of_4 0 rfl rfl)
theorem dX2_of_95 : decode cX2_of 95 = .ok (.putfield 36, 3) := dk_181 0 36 (dk_at dksX2_of_4 3 rfl rfl)
theorem dX2_of_98 : decode cX2_of 98 = .ok (.aload_n 0, 1) := dk_42 (dk_at dksX2_of_4 6 rfl rfl)
theorem dX2_of_99 : decode cX2_of 99 = .ok (.aload_n 1, 1) := dk_43 (dk_at dksX2_of_4 7 rfl rfl)
theorem dX2_of_100 : decode cX2_of 100 = .ok (.getfield 40, 3) := dk_180 0 40 (dk_at dksX2_of_4 8 rfl rfl)
theorem dX2_of_103 : decode cX2_of 103 = .ok (.putfield 40, 3) := dk_181 0 40 (dk_at dksX2_of_4 11 rfl rfl)
theorem dX2_of_106 : decode cX2_of 106 = .ok (.aload_n 0, 1) := dk_42 (dk_at dksX2_of_4 14 rfl rfl)
theorem dX2_of_107 : decode cX2_of 107 = .ok (.aload_n 1, 1) := dk_43 (dk_at dksX2_of_4 15 rfl rfl)
theorem dX2_of_108 : decode cX2_of 108 = .ok (.getfield 43, 3) := dk_180 0 43 (dk_at dksX2_of_4 16 rfl rfl)
theorem dX2_of_111 : decode cX2_of 111 = .ok (.putfield 43, 3) := dk_181 0 43 (dk_at dksX2_of_4 19 rfl rfl)
theorem dX2_of_114 : decode cX2_of 114 = .ok (.return_, 1) := dk_177 (dk_at dksX2_of_4 22 rfl rfl)
abbrev cX2_earnest : ByteArray := prog_15_method_8_code
def yX2_earnest : MethodName := ⟨RX2, "earnest", "(LTailorRegiment$Regiment;)I"⟩
def dkwX2_earnest_1 : List UInt8 := [180, 0, 43, 16, 100, 112, 43, 180, 0, 104, 162, 0, 7, 4, 167, 0, 4, 3, 182, 0, 107, 172]
abbrev dktX2_earnest_1 : List UInt8 := dkwX2_earnest_1 ++ []
def dkwX2_earnest_0 : List UInt8 := [42, 17, 0, 137, 42, 180, 0, 43, 104, 16, 71, 96, 17, 3, 232, 112, 181, 0, 43, 42, 43, 42]
abbrev dktX2_earnest_0 : List UInt8 := dkwX2_earnest_0 ++ dktX2_earnest_1
theorem dksX2_earnest_0 : cX2_earnest.data.toList.drop 0 = dktX2_earnest_0 := by decide +kernel
theorem dksX2_earnest_1 : cX2_earnest.data.toList.drop 22 = dktX2_earnest_1 := dk_seg dksX2_earnest_0 22 rfl rfl
theorem dX2_earnest_0 : decode cX2_earnest 0 = .ok (.aload_n 0, 1) := dk_42 (dk_at dksX2_earnest_0 0 rfl rfl)
theorem dX2_earnest_1 : decode cX2_earnest 1 = .ok (.sipush 137, 3) := dk_17 0 137 (dk_at dksX2_earnest_0 1 rfl rfl)
theorem dX2_earnest_4 : decode cX2_earnest 4 = .ok (.aload_n 0, 1) := dk_42 (dk_at dksX2_earnest_0 4 rfl rfl)
theorem dX2_earnest_5 : decode cX2_earnest 5 = .ok (.getfield 43, 3) := dk_180 0 43 (dk_at dksX2_earnest_0 5 rfl rfl)
theorem dX2_earnest_8 : decode cX2_earnest 8 = .ok (.imul, 1) := dk_104 (dk_at dksX2_earnest_0 8 rfl rfl)
theorem dX2_earnest_9 : decode cX2_earnest 9 = .ok (.bipush 71, 2) := dk_16 71 (dk_at dksX2_earnest_0 9 rfl rfl)
theorem dX2_earnest_11 : decode cX2_earnest 11 = .ok (.iadd, 1) := dk_96 (dk_at dksX2_earnest_0 11 rfl rfl)
theorem dX2_earnest_12 : decode cX2_earnest 12 = .ok (.sipush 1000, 3) := dk_17 3 232 (dk_at dksX2_earnest_0 12 rfl rfl)
theorem dX2_earnest_15 : decode cX2_earnest 15 = .ok (.irem, 1) := dk_112 (dk_at dksX2_earnest_0 15 rfl rfl)
theorem dX2_earnest_16 : decode cX2_earnest 16 = .ok (.putfield 43, 3) := dk_181 0 43 (dk_at dksX2_earnest_0 16 rfl rfl)
theorem dX2_earnest_19 : decode cX2_earnest 19 = .ok (.aload_n 0, 1) := dk_42 (dk_at dksX2_earnest_0 19 rfl rfl)
theorem dX2_earnest_20 : decode cX2_earnest 20 = .ok (.aload_n 1, 1) := dk_43 (dk_at dksX2_earnest_0 20 rfl rfl)
theorem dX2_earnest_21 : decode cX2_earnest 21 = .ok (.aload_n 0, 1) := dk_42 (dk_at dksX2_earnest_0 21 rfl rfl)
theorem dX2_earnest_22 : decode cX2_earnest 22 = .ok (.getfield 43, 3) := dk_180 0 43 (dk_at dksX2_earnest_1 0 rfl rfl)
theorem dX2_earnest_25 : decode cX2_earnest 25 = .ok (.bipush 100, 2) := dk_16 100 (dk_at dksX2_earnest_1 3 rfl rfl)
theorem dX2_earnest_27 : decode cX2_earnest 27 = .ok (.irem, 1) := dk_112 (dk_at dksX2_earnest_1 5 rfl rfl)
theorem dX2_earnest_28 : decode cX2_earnest 28 = .ok (.aload_n 1, 1) := dk_43 (dk_at dksX2_earnest_1 6 rfl rfl)
theorem dX2_earnest_29 : decode cX2_earnest 29 = .ok (.getfield 104, 3) := dk_180 0 104 (dk_at dksX2_earnest_1 7 rfl rfl)
theorem dX2_earnest_32 : decode cX2_earnest 32 = .ok (.if_icmp .ge 7, 3) := dk_162 0 7 (dk_at dksX2_earnest_1 10 rfl rfl)
theorem dX2_earnest_35 : decode cX2_earnest 35 = .ok (.iconst 1, 1) := dk_4 (dk_at dksX2_earnest_1 13 rfl rfl)
theorem dX2_earnest_36 : decode cX2_earnest 36 = .ok (.goto 4, 3) := dk_167 0 4 (dk_at dksX2_earnest_1 14 rfl rfl)
theorem dX2_earnest_39 : decode cX2_earnest 39 = .ok (.iconst 0, 1) := dk_3 (dk_at dksX2_earnest_1 17 rfl rfl)
theorem dX2_earnest_40 : decode cX2_earnest 40 = .ok (.invokevirtual 107, 3) := dk_182 0 107 (dk_at dksX2_earnest_1 18 rfl rfl)
theorem dX2_earnest_43 : decode cX2_earnest 43 = .ok (.ireturn, 1) := dk_172 (dk_at dksX2_earnest_1 21 rfl rfl)
abbrev cX2_goOn : ByteArray := prog_15_method_7_code
def yX2_goOn : MethodName := ⟨RX2, "goOn", "(LTailorRegiment$Regiment;Z)I"⟩
def dkwX2_goOn_8 : List UInt8 := [160, 0, 11, 42, 180, 0, 15, 21, 4, 2, 79, 132, 4, 1, 167, 255, 223, 29, 172]
abbrev dktX2_goOn_8 : List UInt8 := dkwX2_goOn_8 ++ []
def dkwX2_goOn_7 : List UInt8 := [126, 62, 3, 54, 4, 21, 4, 43, 180, 0, 46, 182, 0, 52, 162, 0, 27, 29, 21, 4, 122, 4, 126, 4]
abbrev dktX2_goOn_7 : List UInt8 := dkwX2_goOn_7 ++ dktX2_goOn_8
def dkwX2_goOn_6 : List UInt8 := [167, 255, 117, 42, 89, 180, 0, 40, 4, 96, 181, 0, 40, 42, 182, 0, 97, 42, 43, 182, 0, 100, 2, 130]
abbrev dktX2_goOn_6 : List UInt8 := dkwX2_goOn_6 ++ dktX2_goOn_7
def dkwX2_goOn_5 : List UInt8 := [42, 180, 0, 18, 21, 4, 46, 28, 153, 0, 7, 4, 167, 0, 4, 3, 100, 184, 0, 94, 79, 132, 3, 1]
abbrev dktX2_goOn_5 : List UInt8 := dkwX2_goOn_5 ++ dktX2_goOn_6
def dkwX2_goOn_4 : List UInt8 := [21, 4, 46, 28, 153, 0, 7, 4, 167, 0, 4, 3, 100, 184, 0, 94, 79, 42, 180, 0, 18, 21, 4, 3]
abbrev dktX2_goOn_4 : List UInt8 := dkwX2_goOn_4 ++ dktX2_goOn_5
def dkwX2_goOn_3 : List UInt8 := [180, 0, 27, 21, 4, 46, 4, 96, 184, 0, 88, 79, 42, 180, 0, 21, 21, 4, 3, 42, 180, 0, 21]
abbrev dktX2_goOn_3 : List UInt8 := dkwX2_goOn_3 ++ dktX2_goOn_4
def dkwX2_goOn_2 : List UInt8 := [180, 0, 15, 29, 46, 54, 4, 21, 4, 156, 0, 6, 167, 0, 80, 42, 180, 0, 27, 21, 4, 16, 99, 42]
abbrev dktX2_goOn_2 : List UInt8 := dkwX2_goOn_2 ++ dktX2_goOn_3
def dkwX2_goOn_1 : List UInt8 := [29, 46, 43, 180, 0, 46, 29, 182, 0, 58, 192, 0, 62, 180, 0, 85, 96, 184, 0, 88, 79, 42]
abbrev dktX2_goOn_1 : List UInt8 := dkwX2_goOn_1 ++ dktX2_goOn_2
def dkwX2_goOn_0 : List UInt8 := [3, 62, 29, 43, 180, 0, 46, 182, 0, 52, 162, 0, 134, 42, 180, 0, 9, 29, 16, 99, 42, 180, 0, 9]
abbrev dktX2_goOn_0 : List UInt8 := dkwX2_goOn_0 ++ dktX2_goOn_1
theorem dksX2_goOn_0 : cX2_goOn.data.toList.drop 0 = dktX2_goOn_0 := by decide +kernel
theorem dksX2_goOn_1 : cX2_goOn.data.toList.drop 24 = dktX2_goOn_1 := dk_seg dksX2_goOn_0 24 rfl rfl
theorem dksX2_goOn_2 : cX2_goOn.data.toList.drop 46 = dktX2_goOn_2 := dk_seg dksX2_goOn_1 22 rfl rfl
theorem dksX2_goOn_3 : cX2_goOn.data.toList.drop 70 = dktX2_goOn_3 := dk_seg dksX2_goOn_2 24 rfl rfl
theorem dksX2_goOn_4 : cX2_goOn.data.toList.drop 93 = dktX2_goOn_4 := dk_seg dksX2_goOn_3 23 rfl rfl
theorem dksX2_goOn_5 : cX2_goOn.data.toList.drop 117 = dktX2_goOn_5 := dk_seg dksX2_goOn_4 24 rfl rfl
theorem dksX2_goOn_6 : cX2_goOn.data.toList.drop 141 = dktX2_goOn_6 := dk_seg dksX2_goOn_5 24 rfl rfl
theorem dksX2_goOn_7 : cX2_goOn.data.toList.drop 165 = dktX2_goOn_7 := dk_seg dksX2_goOn_6 24 rfl rfl
theorem dksX2_goOn_8 : cX2_goOn.data.toList.drop 189 = dktX2_goOn_8 := dk_seg dksX2_goOn_7 24 rfl rfl
theorem dX2_goOn_0 : decode cX2_goOn 0 = .ok (.iconst 0, 1) := dk_3 (dk_at dksX2_goOn_0 0 rfl rfl)
theorem dX2_goOn_1 : decode cX2_goOn 1 = .ok (.istore_n 3, 1) := dk_62 (dk_at dksX2_goOn_0 1 rfl rfl)
theorem dX2_goOn_2 : decode cX2_goOn 2 = .ok (.iload_n 3, 1) := dk_29 (dk_at dksX2_goOn_0 2 rfl rfl)
theorem dX2_goOn_3 : decode cX2_goOn 3 = .ok (.aload_n 1, 1) := dk_43 (dk_at dksX2_goOn_0 3 rfl rfl)
theorem dX2_goOn_4 : decode cX2_goOn 4 = .ok (.getfield 46, 3) := dk_180 0 46 (dk_at dksX2_goOn_0 4 rfl rfl)
theorem dX2_goOn_7 : decode cX2_goOn 7 = .ok (.invokevirtual 52, 3) := dk_182 0 52 (dk_at dksX2_goOn_0 7 rfl rfl)
theorem dX2_goOn_10 : decode cX2_goOn 10 = .ok (.if_icmp .ge 134, 3) := dk_162 0 134 (dk_at dksX2_goOn_0 10 rfl rfl)
theorem dX2_goOn_13 : decode cX2_goOn 13 = .ok (.aload_n 0, 1) := dk_42 (dk_at dksX2_goOn_0 13 rfl rfl)
theorem dX2_goOn_14 : decode cX2_goOn 14 = .ok (.getfield 9, 3) := dk_180 0 9 (dk_at dksX2_goOn_0 14 rfl rfl)
theorem dX2_goOn_17 : decode cX2_goOn 17 = .ok (.iload_n 3, 1) := dk_29 (dk_at dksX2_goOn_0 17 rfl rfl)
theorem dX2_goOn_18 : decode cX2_goOn 18 = .ok (.bipush 99, 2) := dk_16 99 (dk_at dksX2_goOn_0 18 rfl rfl)
theorem dX2_goOn_20 : decode cX2_goOn 20 = .ok (.aload_n 0, 1) := dk_42 (dk_at dksX2_goOn_0 20 rfl rfl)
theorem dX2_goOn_21 : decode cX2_goOn 21 = .ok (.getfield 9, 3) := dk_180 0 9 (dk_at dksX2_goOn_0 21 rfl rfl)
theorem dX2_goOn_24 : decode cX2_goOn 24 = .ok (.iload_n 3, 1) := dk_29 (dk_at dksX2_goOn_1 0 rfl rfl)
theorem dX2_goOn_25 : decode cX2_goOn 25 = .ok (.iaload, 1) := dk_46 (dk_at dksX2_goOn_1 1 rfl rfl)
theorem dX2_goOn_26 : decode cX2_goOn 26 = .ok (.aload_n 1, 1) := dk_43 (dk_at dksX2_goOn_1 2 rfl rfl)
theorem dX2_goOn_27 : decode cX2_goOn 27 = .ok (.getfield 46, 3) := dk_180 0 46 (dk_at dksX2_goOn_1 3 rfl rfl)
theorem dX2_goOn_30 : decode cX2_goOn 30 = .ok (.iload_n 3, 1) := dk_29 (dk_at dksX2_goOn_1 6 rfl rfl)
theorem dX2_goOn_31 : decode cX2_goOn 31 = .ok (.invokevirtual 58, 3) := dk_182 0 58 (dk_at dksX2_goOn_1 7 rfl rfl)
theorem dX2_goOn_34 : decode cX2_goOn 34 = .ok (.checkcast 62, 3) := dk_192 0 62 (dk_at dksX2_goOn_1 10 rfl rfl)
theorem dX2_goOn_37 : decode cX2_goOn 37 = .ok (.getfield 85, 3) := dk_180 0 85 (dk_at dksX2_goOn_1 13 rfl rfl)
theorem dX2_goOn_40 : decode cX2_goOn 40 = .ok (.iadd, 1) := dk_96 (dk_at dksX2_goOn_1 16 rfl rfl)
theorem dX2_goOn_41 : decode cX2_goOn 41 = .ok (.invokestatic 88, 3) := dk_184 0 88 (dk_at dksX2_goOn_1 17 rfl rfl)
theorem dX2_goOn_44 : decode cX2_goOn 44 = .ok (.iastore, 1) := dk_79 (dk_at dksX2_goOn_1 20 rfl rfl)
theorem dX2_goOn_45 : decode cX2_goOn 45 = .ok (.aload_n 0, 1) := dk_42 (dk_at dksX2_goOn_1 21 rfl rfl)
theorem dX2_goOn_46 : decode cX2_goOn 46 = .ok (.getfield 15, 3) := dk_180 0 15 (dk_at dksX2_goOn_2 0 rfl rfl)
theorem dX2_goOn_49 : decode cX2_goOn 49 = .ok (.iload_n 3, 1) := dk_29 (dk_at dksX2_goOn_2 3 rfl rfl)
theorem dX2_goOn_50 : decode cX2_goOn 50 = .ok (.iaload, 1) := dk_46 (dk_at dksX2_goOn_2 4 rfl rfl)
theorem dX2_goOn_51 : decode cX2_goOn 51 = .ok (.istore 4, 2) := dk_54 4 (dk_at dksX2_goOn_2 5 rfl rfl)
theorem dX2_goOn_53 : decode cX2_goOn 53 = .ok (.iload 4, 2) := dk_21 4 (dk_at dksX2_goOn_2 7 rfl rfl)
theorem dX2_goOn_55 : decode cX2_goOn 55 = .ok (.ifCond .ge 6, 3) := dk_156 0 6 (dk_at dksX2_goOn_2 9 rfl rfl)
theorem dX2_goOn_58 : decode cX2_goOn 58 = .ok (.goto 80, 3) := dk_167 0 80 (dk_at dksX2_goOn_2 12 rfl rfl)
theorem dX2_goOn_61 : decode cX2_goOn 61 = .ok (.aload_n 0, 1) := dk_42 (dk_at dksX2_goOn_2 15 rfl rfl)
theorem dX2_goOn_62 : decode cX2_goOn 62 = .ok (.getfield 27, 3) := dk_180 0 27 (dk_at dksX2_goOn_2 16 rfl rfl)
theorem dX2_goOn_65 : decode cX2_goOn 65 = .ok (.iload 4, 2) := dk_21 4 (dk_at dksX2_goOn_2 19 rfl rfl)
theorem dX2_goOn_67 : decode cX2_goOn 67 = .ok (.bipush 99, 2) := dk_16 99 (dk_at dksX2_goOn_2 21 rfl rfl)
theorem dX2_goOn_69 : decode cX2_goOn 69 = .ok (.aload_n 0, 1) := dk_42 (dk_at dksX2_goOn_2 23 rfl rfl)
theorem dX2_goOn_70 : decode cX2_goOn 70 = .ok (.getfield 27, 3) := dk_180 0 27 (dk_at dksX2_goOn_3 0 rfl rfl)
theorem dX2_goOn_73 : decode cX2_goOn 73 = .ok (.iload 4, 2) := dk_21 4 (dk_at dksX2_goOn_3 3 rfl rfl)
theorem dX2_goOn_75 : decode cX2_goOn 75 = .ok (.iaload, 1) := dk_46 (dk_at dksX2_goOn_3 5 rfl rfl)
theorem dX2_goOn_76 : decode cX2_goOn 76 = .ok (.iconst 1, 1) := dk_4 (dk_at dksX2_goOn_3 6 rfl rfl)
theorem dX2_goOn_77 : decode cX2_goOn 77 = .ok (.iadd, 1) := dk_96 (dk_at dksX2_goOn_3 7 rfl rfl)
theorem dX2_goOn_78 : decode cX2_goOn 78 = .ok (.invokestatic 88, 3) := dk_184 0 88 (dk_at dksX2_goOn_3 8 rfl rfl)
theorem dX2_goOn_81 : decode cX2_goOn 81 = .ok (.iastore, 1) := dk_79 (dk_at dksX2_goOn_3 11 rfl rfl)
theorem dX2_goOn_82 : decode cX2_goOn 82 = .ok (.aload_n 0, 1) := dk_42 (dk_at dksX2_goOn_3 12 rfl rfl)
theorem dX2_goOn_83 : decode cX2_goOn 83 = .ok (.getfield 21, 3) := dk_180 0 21 (dk_at dksX2_goOn_3 13 rfl rfl)
theorem dX2_goOn_86 : decode cX2_goOn 86 = .ok (.iload 4, 2) := dk_21 4 (dk_at dksX2_goOn_3 16 rfl rfl)
theorem dX2_goOn_88 : decode cX2_goOn 88 = .ok (.iconst 0, 1) := dk_3 (dk_at dksX2_goOn_3 18 rfl rfl)
theorem dX2_goOn_89 : decode cX2_goOn 89 = .ok (.aload_n 0, 1) := dk_42 (dk_at dksX2_goOn_3 19 rfl rfl)
theorem dX2_goOn_90 : decode cX2_goOn 90 = .ok (.getfield 21, 3) := dk_180 0 21 (dk_at dksX2_goOn_3 20 rfl rfl)
theorem dX2_goOn_93 : decode cX2_goOn 93 = .ok (.iload 4, 2) := dk_21 4 (dk_at dksX2_goOn_4 0 rfl rfl)
theorem dX2_goOn_95 : decode cX2_goOn 95 = .ok (.iaload, 1) := dk_46 (dk_at dksX2_goOn_4 2 rfl rfl)
theorem dX2_goOn_96 : decode cX2_goOn 96 = .ok (.iload_n 2, 1) := dk_28 (dk_at dksX2_goOn_4 3 rfl rfl)
theorem dX2_goOn_97 : decode cX2_goOn 97 = .ok (.ifCond .eq 7, 3) := dk_153 0 7 (dk_at dksX2_goOn_4 4 rfl rfl)
theorem dX2_goOn_100 : decode cX2_goOn 100 = .ok (.iconst 1, 1) := dk_4 (dk_at dksX2_goOn_4 7 rfl rfl)
theorem dX2_goOn_101 : decode cX2_goOn 101 = .ok (.goto 4, 3) := dk_167 0 4 (dk_at dksX2_goOn_4 8 rfl rfl)
theorem dX2_goOn_104 : decode cX2_goOn 104 = .ok (.iconst 0, 1) := dk_3 (dk_at dksX2_goOn_4 11 rfl rfl)
theorem dX2_goOn_105 : decode cX2_goOn 105 = .ok (.isub, 1) := dk_100 (dk_at dksX2_goOn_4 12 rfl rfl)
theorem dX2_goOn_106 : decode cX2_goOn 106 = .ok (.invokestatic 94, 3) := dk_184 0 94 (dk_at dksX2_goOn_4 13 rfl rfl)
theorem dX2_goOn_109 : decode cX2_goOn 109 = .ok (.iastore, 1) := dk_79 (dk_at dksX2_goOn_4 16 rfl rfl)
theorem dX2_goOn_110 : decode cX2_goOn 110 = .ok (.aload_n 0, 1) := dk_42 (dk_at dksX2_goOn_4 17 rfl rfl)
theorem dX2_goOn_111 : decode cX2_goOn 111 = .ok (.getfield 18, 3) := dk_180 0 18 (dk_at dksX2_goOn_4 18 rfl rfl)
theorem dX2_goOn_114 : decode cX2_goOn 114 = .ok (.iload 4, 2) := dk_21 4 (dk_at dksX2_goOn_4 21 rfl rfl)
theorem dX2_goOn_116 : decode cX2_goOn 116 = .ok (.iconst 0, 1) := dk_3 (dk_at dksX2_goOn_4 23 rfl rfl)
theorem dX2_goOn_117 : decode cX2_goOn 117 = .ok (.aload_n 0, 1) := dk_42 (dk_at dksX2_goOn_5 0 rfl rfl)
theorem dX2_goOn_118 : decode cX2_goOn 118 = .ok (.getfield 18, 3) := dk_180 0 18 (dk_at dksX2_goOn_5 1 rfl rfl)
theorem dX2_goOn_121 : decode cX2_goOn 121 = .ok (.iload 4, 2) := dk_21 4 (dk_at dksX2_goOn_5 4 rfl rfl)
theorem dX2_goOn_123 : decode cX2_goOn 123 = .ok (.iaload, 1) := dk_46 (dk_at dksX2_goOn_5 6 rfl rfl)
theorem dX2_goOn_124 : decode cX2_goOn 124 = .ok (.iload_n 2, 1) := dk_28 (dk_at dksX2_goOn_5 7 rfl rfl)
theorem dX2_goOn_125 : decode cX2_goOn 125 = .ok (.ifCond .eq 7, 3) := dk_153 0 7 (dk_at dksX2_goOn_5 8 rfl rfl)
theorem dX2_goOn_128 : decode cX2_goOn 128 = .ok (.iconst 1, 1) := dk_4 (dk_at dksX2_goOn_5 11 rfl rfl)
theorem dX2_goOn_129 : decode cX2_goOn 129 = .ok (.goto 4, 3) := dk_167 0 4 (dk_at dksX2_goOn_5 12 rfl rfl)
theorem dX2_goOn_132 : decode cX2_goOn 132 = .ok (.iconst 0, 1) := dk_3 (dk_at dksX2_goOn_5 15 rfl rfl)
theorem dX2_goOn_133 : decode cX2_goOn 133 = .ok (.isub, 1) := dk_100 (dk_at dksX2_goOn_5 16 rfl rfl)
theorem dX2_goOn_134 : decode cX2_goOn 134 = .ok (.invokestatic 94, 3) := dk_184 0 94 (dk_at dksX2_goOn_5 17 rfl rfl)
theorem dX2_goOn_137 : decode cX2_goOn 137 = .ok (.iastore, 1) := dk_79 (dk_at dksX2_goOn_5 20 rfl rfl)
theorem dX2_goOn_138 : decode cX2_goOn 138 = .ok (.iinc 3 1, 3) := dk_132 3 1 (dk_at dksX2_goOn_5 21 rfl rfl)
theorem dX2_goOn_141 : decode cX2_goOn 141 = .ok (.goto (-139), 3) := dk_167 255 117 (dk_at dksX2_goOn_6 0 rfl rfl)
theorem dX2_goOn_144 : decode cX2_goOn 144 = .ok (.aload_n 0, 1) := dk_42 (dk_at dksX2_goOn_6 3 rfl rfl)
theorem dX2_goOn_145 : decode cX2_goOn 145 = .ok (.dup, 1) := dk_89 (dk_at dksX2_goOn_6 4 rfl rfl)
theorem dX2_goOn_146 : decode cX2_goOn 146 = .ok (.getfield 40, 3) := dk_180 0 40 (dk_at dksX2_goOn_6 5 rfl rfl)
theorem dX2_goOn_149 : decode cX2_goOn 149 = .ok (.iconst 1, 1) := dk_4 (dk_at dksX2_goOn_6 8 rfl rfl)
theorem dX2_goOn_150 : decode cX2_goOn 150 = .ok (.iadd, 1) := dk_96 (dk_at dksX2_goOn_6 9 rfl rfl)
theorem dX2_goOn_151 : decode cX2_goOn 151 = .ok (.putfield 40, 3) := dk_181 0 40 (dk_at dksX2_goOn_6 10 rfl rfl)
theorem dX2_goOn_154 : decode cX2_goOn 154 = .ok (.aload_n 0, 1) := dk_42 (dk_at dksX2_goOn_6 13 rfl rfl)
theorem dX2_goOn_155 : decode cX2_goOn 155 = .ok (.invokevirtual 97, 3) := dk_182 0 97 (dk_at dksX2_goOn_6 14 rfl rfl)
theorem dX2_goOn_158 : decode cX2_goOn 158 = .ok (.aload_n 0, 1) := dk_42 (dk_at dksX2_goOn_6 17 rfl rfl)
theorem dX2_goOn_159 : decode cX2_goOn 159 = .ok (.aload_n 1, 1) := dk_43 (dk_at dksX2_goOn_6 18 rfl rfl)
theorem dX2_goOn_160 : decode cX2_goOn 160 = .ok (.invokevirtual 100, 3) := dk_182 0 100 (dk_at dksX2_goOn_6 19 rfl rfl)
theorem dX2_goOn_163 : decode cX2_goOn 163 = .ok (.iconst (-1), 1) := dk_2 (dk_at dksX2_goOn_6 22 rfl rfl)
theorem dX2_goOn_164 : decode cX2_goOn 164 = .ok (.ixor, 1) := dk_130 (dk_at dksX2_goOn_6 23 rfl rfl)
theorem dX2_goOn_165 : decode cX2_goOn 165 = .ok (.iand, 1) := dk_126 (dk_at dksX2_goOn_7 0 rfl rfl)
theorem dX2_goOn_166 : decode cX2_goOn 166 = .ok (.istore_n 3, 1) := dk_62 (dk_at dksX2_goOn_7 1 rfl rfl)
theorem dX2_goOn_167 : decode cX2_goOn 167 = .ok (.iconst 0, 1) := dk_3 (dk_at dksX2_goOn_7 2 rfl rfl)
theorem dX2_goOn_168 : decode cX2_goOn 168 = .ok (.istore 4, 2) := dk_54 4 (dk_at dksX2_goOn_7 3 rfl rfl)
theorem dX2_goOn_170 : decode cX2_goOn 170 = .ok (.iload 4, 2) := dk_21 4 (dk_at dksX2_goOn_7 5 rfl rfl)
theorem dX2_goOn_172 : decode cX2_goOn 172 = .ok (.aload_n 1, 1) := dk_43 (dk_at dksX2_goOn_7 7 rfl rfl)
theorem dX2_goOn_173 : decode cX2_goOn 173 = .ok (.getfield 46, 3) := dk_180 0 46 (dk_at dksX2_goOn_7 8 rfl rfl)
theorem dX2_goOn_176 : decode cX2_goOn 176 = .ok (.invokevirtual 52, 3) := dk_182 0 52 (dk_at dksX2_goOn_7 11 rfl rfl)
theorem dX2_goOn_179 : decode cX2_goOn 179 = .ok (.if_icmp .ge 27, 3) := dk_162 0 27 (dk_at dksX2_goOn_7 14 rfl rfl)
theorem dX2_goOn_182 : decode cX2_goOn 182 = .ok (.iload_n 3, 1) := dk_29 (dk_at dksX2_goOn_7 17 rfl rfl)
theorem dX2_goOn_183 : decode cX2_goOn 183 = .ok (.iload 4, 2) := dk_21 4 (dk_at dksX2_goOn_7 18 rfl rfl)
theorem dX2_goOn_185 : decode cX2_goOn 185 = .ok (.ishr, 1) := dk_122 (dk_at dksX2_goOn_7 20 rfl rfl)
theorem dX2_goOn_186 : decode cX2_goOn 186 = .ok (.iconst 1, 1) := dk_4 (dk_at dksX2_goOn_7 21 rfl rfl)
theorem dX2_goOn_187 : decode cX2_goOn 187 = .ok (.iand, 1) := dk_126 (dk_at dksX2_goOn_7 22 rfl rfl)
theorem dX2_goOn_188 : decode cX2_goOn 188 = .ok (.iconst 1, 1) := dk_4 (dk_at dksX2_goOn_7 23 rfl rfl)
theorem dX2_goOn_189 : decode cX2_goOn 189 = .ok (.if_icmp .ne 11, 3) := dk_160 0 11 (dk_at dksX2_goOn_8 0 rfl rfl)
theorem dX2_goOn_192 : decode cX2_goOn 192 = .ok (.aload_n 0, 1) := dk_42 (dk_at dksX2_goOn_8 3 rfl rfl)
theorem dX2_goOn_193 : decode cX2_goOn 193 = .ok (.getfield 15, 3) := dk_180 0 15 (dk_at dksX2_goOn_8 4 rfl rfl)
theorem dX2_goOn_196 : decode cX2_goOn 196 = .ok (.iload 4, 2) := dk_21 4 (dk_at dksX2_goOn_8 7 rfl rfl)
theorem dX2_goOn_198 : decode cX2_goOn 198 = .ok (.iconst (-1), 1) := dk_2 (dk_at dksX2_goOn_8 9 rfl rfl)
theorem dX2_goOn_199 : decode cX2_goOn 199 = .ok (.iastore, 1) := dk_79 (dk_at dksX2_goOn_8 10 rfl rfl)
theorem dX2_goOn_200 : decode cX2_goOn 200 = .ok (.iinc 4 1, 3) := dk_132 4 1 (dk_at dksX2_goOn_8 11 rfl rfl)
theorem dX2_goOn_203 : decode cX2_goOn 203 = .ok (.goto (-33), 3) := dk_167 255 223 (dk_at dksX2_goOn_8 14 rfl rfl)
theorem dX2_goOn_206 : decode cX2_goOn 206 = .ok (.iload_n 3, 1) := dk_29 (dk_at dksX2_goOn_8 17 rfl rfl)
theorem dX2_goOn_207 : decode cX2_goOn 207 = .ok (.ireturn, 1) := dk_172 (dk_at dksX2_goOn_8 18 rfl rfl)
abbrev cX2_dressed : ByteArray := prog_15_method_6_code
def yX2_dressed : MethodName := ⟨RX2, "dressed", "()I"⟩
def dkwX2_dressed_1 : List UInt8 := [60, 132, 2, 1, 167, 255, 232, 27, 172]
abbrev dktX2_dressed_1 : List UInt8 := dkwX2_dressed_1 ++ []
def dkwX2_dressed_0 : List UInt8 := [3, 60, 3, 61, 28, 16, 6, 162, 0, 24, 42, 180, 0, 15, 28, 46, 155, 0, 9, 27, 4, 28, 120, 128]
abbrev dktX2_dressed_0 : List UInt8 := dkwX2_dressed_0 ++ dktX2_dressed_1
theorem dksX2_dressed_0 : cX2_dressed.data.toList.drop 0 = dktX2_dressed_0 := by decide +kernel
theorem dksX2_dressed_1 : cX2_dressed.data.toList.drop 24 = dktX2_dressed_1 := dk_seg dksX2_dressed_0 24 rfl rfl
theorem dX2_dressed_0 : decode cX2_dressed 0 = .ok (.iconst 0, 1) := dk_3 (dk_at dksX2_dressed_0 0 rfl rfl)
theorem dX2_dressed_1 : decode cX2_dressed 1 = .ok (.istore_n 1, 1) := dk_60 (dk_at dksX2_dressed_0 1 rfl rfl)
theorem dX2_dressed_2 : decode cX2_dressed 2 = .ok (.iconst 0, 1) := dk_3 (dk_at dksX2_dressed_0 2 rfl rfl)
theorem dX2_dressed_3 : decode cX2_dressed 3 = .ok (.istore_n 2, 1) := dk_61 (dk_at dksX2_dressed_0 3 rfl rfl)
theorem dX2_dressed_4 : decode cX2_dressed 4 = .ok (.iload_n 2, 1) := dk_28 (dk_at dksX2_dressed_0 4 rfl rfl)
theorem dX2_dressed_5 : decode cX2_dressed 5 = .ok (.bipush 6, 2) := dk_16 6 (dk_at dksX2_dressed_0 5 rfl rfl)
theorem dX2_dressed_7 : decode cX2_dressed 7 = .ok (.if_icmp .ge 24, 3) := dk_162 0 24 (dk_at dksX2_dressed_0 7 rfl rfl)
theorem dX2_dressed_10 : decode cX2_dressed 10 = .ok (.aload_n 0, 1) := dk_42 (dk_at dksX2_dressed_0 10 rfl rfl)
theorem dX2_dressed_11 : decode cX2_dressed 11 = .ok (.getfield 15, 3) := dk_180 0 15 (dk_at dksX2_dressed_0 11 rfl rfl)
theorem dX2_dressed_14 : decode cX2_dressed 14 = .ok (.iload_n 2, 1) := dk_28 (dk_at dksX2_dressed_0 14 rfl rfl)
theorem dX2_dressed_15 : decode cX2_dressed 15 = .ok (.iaload, 1) := dk_46 (dk_at dksX2_dressed_0 15 rfl rfl)
theorem dX2_dressed_16 : decode cX2_dressed 16 = .ok (.ifCond .lt 9, 3) := dk_155 0 9 (dk_at dksX2_dressed_0 16 rfl rfl)
theorem dX2_dressed_19 : decode cX2_dressed 19 = .ok (.iload_n 1, 1) := dk_27 (dk_at dksX2_dressed_0 19 rfl rfl)
theorem dX2_dressed_20 : decode cX2_dressed 20 = .ok (.iconst 1, 1) := dk_4 (dk_at dksX2_dressed_0 20 rfl rfl)
theorem dX2_dressed_21 : decode cX2_dressed 21 = .ok (.iload_n 2, 1) := dk_28 (dk_at dksX2_dressed_0 21 rfl rfl)
theorem dX2_dressed_22 : decode cX2_dressed 22 = .ok (.ishl, 1) := dk_120 (dk_at dksX2_dressed_0 22 rfl rfl)
theorem dX2_dressed_23 : decode cX2_dressed 23 = .ok (.ior, 1) := dk_128 (dk_at dksX2_dressed_0 23 rfl rfl)
theorem dX2_dressed_24 : decode cX2_dressed 24 = .ok (.istore_n 1, 1) := dk_60 (dk_at dksX2_dressed_1 0 rfl rfl)
theorem dX2_dressed_25 : decode cX2_dressed 25 = .ok (.iinc 2 1, 3) := dk_132 2 1 (dk_at dksX2_dressed_1 1 rfl rfl)
theorem dX2_dressed_28 : decode cX2_dressed 28 = .ok (.goto (-24), 3) := dk_167 255 232 (dk_at dksX2_dressed_1 4 rfl rfl)
theorem dX2_dressed_31 : decode cX2_dressed 31 = .ok (.iload_n 1, 1) := dk_27 (dk_at dksX2_dressed_1 7 rfl rfl)
theorem dX2_dressed_32 : decode cX2_dressed 32 = .ok (.ireturn, 1) := dk_172 (dk_at dksX2_dressed_1 8 rfl rfl)
abbrev cX2_fitted : ByteArray := prog_15_method_5_code
def yX2_fitted : MethodName := ⟨RX2, "fitted", "(LTailorRegiment$Regiment;)I"⟩
def dkwX2_fitted_1 : List UInt8 := [182, 0, 81, 153, 0, 9, 28, 4, 29, 120, 128, 61, 132, 3, 1, 167, 255, 221, 28, 172]
abbrev dktX2_fitted_1 : List UInt8 := dkwX2_fitted_1 ++ []
def dkwX2_fitted_0 : List UInt8 := [3, 61, 3, 62, 29, 43, 180, 0, 46, 182, 0, 52, 162, 0, 30, 43, 42, 29, 42, 180, 0, 15, 29, 46]
abbrev dktX2_fitted_0 : List UInt8 := dkwX2_fitted_0 ++ dktX2_fitted_1
theorem dksX2_fitted_0 : cX2_fitted.data.toList.drop 0 = dktX2_fitted_0 := by decide +kernel
theorem dksX2_fitted_1 : cX2_fitted.data.toList.drop 24 = dktX2_fitted_1 := dk_seg dksX2_fitted_0 24 rfl rfl
theorem dX2_fitted_0 : decode cX2_fitted 0 = .ok (.iconst 0, 1) := dk_3 (dk_at dksX2_fitted_0 0 rfl rfl)
theorem dX2_fitted_1 : decode cX2_fitted 1 = .ok (.istore_n 2, 1) := dk_61 (dk_at dksX2_fitted_0 1 rfl rfl)
theorem dX2_fitted_2 : decode cX2_fitted 2 = .ok (.iconst 0, 1) := dk_3 (dk_at dksX2_fitted_0 2 rfl rfl)
theorem dX2_fitted_3 : decode cX2_fitted 3 = .ok (.istore_n 3, 1) := dk_62 (dk_at dksX2_fitted_0 3 rfl rfl)
theorem dX2_fitted_4 : decode cX2_fitted 4 = .ok (.iload_n 3, 1) := dk_29 (dk_at dksX2_fitted_0 4 rfl rfl)
theorem dX2_fitted_5 : decode cX2_fitted 5 = .ok (.aload_n 1, 1) := dk_43 (dk_at dksX2_fitted_0 5 rfl rfl)
theorem dX2_fitted_6 : decode cX2_fitted 6 = .ok (.getfield 46, 3) := dk_180 0 46 (dk_at dksX2_fitted_0 6 rfl rfl)
theorem dX2_fitted_9 : decode cX2_fitted 9 = .ok (.invokevirtual 52, 3) := dk_182 0 52 (dk_at dksX2_fitted_0 9 rfl rfl)
theorem dX2_fitted_12 : decode cX2_fitted 12 = .ok (.if_icmp .ge 30, 3) := dk_162 0 30 (dk_at dksX2_fitted_0 12 rfl rfl)
theorem dX2_fitted_15 : decode cX2_fitted 15 = .ok (.aload_n 1, 1) := dk_43 (dk_at dksX2_fitted_0 15 rfl rfl)
theorem dX2_fitted_16 : decode cX2_fitted 16 = .ok (.aload_n 0, 1) := dk_42 (dk_at dksX2_fitted_0 16 rfl rfl)
theorem dX2_fitted_17 : decode cX2_fitted 17 = .ok (.iload_n 3, 1) := dk_29 (dk_at dksX2_fitted_0 17 rfl rfl)
theorem dX2_fitted_18 : decode cX2_fitted 18 = .ok (.aload_n 0, 1) := dk_42 (dk_at dksX2_fitted_0 18 rfl rfl)
theorem dX2_fitted_19 : decode cX2_fitted 19 = .ok (.getfield 15, 3) := dk_180 0 15 (dk_at dksX2_fitted_0 19 rfl rfl)
theorem dX2_fitted_22 : decode cX2_fitted 22 = .ok (.iload_n 3, 1) := dk_29 (dk_at dksX2_fitted_0 22 rfl rfl)
theorem dX2_fitted_23 : decode cX2_fitted 23 = .ok (.iaload, 1) := dk_46 (dk_at dksX2_fitted_0 23 rfl rfl)
theorem dX2_fitted_24 : decode cX2_fitted 24 = .ok (.invokevirtual 81, 3) := dk_182 0 81 (dk_at dksX2_fitted_1 0 rfl rfl)
theorem dX2_fitted_27 : decode cX2_fitted 27 = .ok (.ifCond .eq 9, 3) := dk_153 0 9 (dk_at dksX2_fitted_1 3 rfl rfl)
theorem dX2_fitted_30 : decode cX2_fitted 30 = .ok (.iload_n 2, 1) := dk_28 (dk_at dksX2_fitted_1 6 rfl rfl)
theorem dX2_fitted_31 : decode cX2_fitted 31 = .ok (.iconst 1, 1) := dk_4 (dk_at dksX2_fitted_1 7 rfl rfl)
theorem dX2_fitted_32 : decode cX2_fitted 32 = .ok (.iload_n 3, 1) := dk_29 (dk_at dksX2_fitted_1 8 rfl rfl)
theorem dX2_fitted_33 : decode cX2_fitted 33 = .ok (.ishl, 1) := dk_120 (dk_at dksX2_fitted_1 9 rfl rfl)
theorem dX2_fitted_34 : decode cX2_fitted 34 = .ok (.ior, 1) := dk_128 (dk_at dksX2_fitted_1 10 rfl rfl)
theorem dX2_fitted_35 : decode cX2_fitted 35 = .ok (.istore_n 2, 1) := dk_61 (dk_at dksX2_fitted_1 11 rfl rfl)
theorem dX2_fitted_36 : decode cX2_fitted 36 = .ok (.iinc 3 1, 3) := dk_132 3 1 (dk_at dksX2_fitted_1 12 rfl rfl)
theorem dX2_fitted_39 : decode cX2_fitted 39 = .ok (.goto (-35), 3) := dk_167 255 221 (dk_at dksX2_fitted_1 15 rfl rfl)
theorem dX2_fitted_42 : decode cX2_fitted 42 = .ok (.iload_n 2, 1) := dk_28 (dk_at dksX2_fitted_1 18 rfl rfl)
theorem dX2_fitted_43 : decode cX2_fitted 43 = .ok (.ireturn, 1) := dk_172 (dk_at dksX2_fitted_1 19 rfl rfl)
abbrev cX2_exchange : ByteArray := prog_15_method_9_code
def yX2_exchange : MethodName := ⟨RX2, "exchange", "(II)V"⟩
def dkwX2_exchange_1 : List UInt8 := [29, 79, 177]
abbrev dktX2_exchange_1 : List UInt8 := dkwX2_exchange_1 ++ []
def dkwX2_exchange_0 : List UInt8 := [42, 180, 0, 15, 27, 46, 62, 42, 180, 0, 15, 27, 42, 180, 0, 15, 28, 46, 79, 42, 180, 0, 15, 28]
abbrev dktX2_exchange_0 : List UInt8 := dkwX2_exchange_0 ++ dktX2_exchange_1
theorem dksX2_exchange_0 : cX2_exchange.data.toList.drop 0 = dktX2_exchange_0 := by decide +kernel
theorem dksX2_exchange_1 : cX2_exchange.data.toList.drop 24 = dktX2_exchange_1 := dk_seg dksX2_exchange_0 24 rfl rfl
theorem dX2_exchange_0 : decode cX2_exchange 0 = .ok (.aload_n 0, 1) := dk_42 (dk_at dksX2_exchange_0 0 rfl rfl)
theorem dX2_exchange_1 : decode cX2_exchange 1 = .ok (.getfield 15, 3) := dk_180 0 15 (dk_at dksX2_exchange_0 1 rfl rfl)
theorem dX2_exchange_4 : decode cX2_exchange 4 = .ok (.iload_n 1, 1) := dk_27 (dk_at dksX2_exchange_0 4 rfl rfl)
theorem dX2_exchange_5 : decode cX2_exchange 5 = .ok (.iaload, 1) := dk_46 (dk_at dksX2_exchange_0 5 rfl rfl)
theorem dX2_exchange_6 : decode cX2_exchange 6 = .ok (.istore_n 3, 1) := dk_62 (dk_at dksX2_exchange_0 6 rfl rfl)
theorem dX2_exchange_7 : decode cX2_exchange 7 = .ok (.aload_n 0, 1) := dk_42 (dk_at dksX2_exchange_0 7 rfl rfl)
theorem dX2_exchange_8 : decode cX2_exchange 8 = .ok (.getfield 15, 3) := dk_180 0 15 (dk_at dksX2_exchange_0 8 rfl rfl)
theorem dX2_exchange_11 : decode cX2_exchange 11 = .ok (.iload_n 1, 1) := dk_27 (dk_at dksX2_exchange_0 11 rfl rfl)
theorem dX2_exchange_12 : decode cX2_exchange 12 = .ok (.aload_n 0, 1) := dk_42 (dk_at dksX2_exchange_0 12 rfl rfl)
theorem dX2_exchange_13 : decode cX2_exchange 13 = .ok (.getfield 15, 3) := dk_180 0 15 (dk_at dksX2_exchange_0 13 rfl rfl)
theorem dX2_exchange_16 : decode cX2_exchange 16 = .ok (.iload_n 2, 1) := dk_28 (dk_at dksX2_exchange_0 16 rfl rfl)
theorem dX2_exchange_17 : decode cX2_exchange 17 = .ok (.iaload, 1) := dk_46 (dk_at dksX2_exchange_0 17 rfl rfl)
theorem dX2_exchange_18 : decode cX2_exchange 18 = .ok (.iastore, 1) := dk_79 (dk_at dksX2_exchange_0 18 rfl rfl)
theorem dX2_exchange_19 : decode cX2_exchange 19 = .ok (.aload_n 0, 1) := dk_42 (dk_at dksX2_exchange_0 19 rfl rfl)
theorem dX2_exchange_20 : decode cX2_exchange 20 = .ok (.getfield 15, 3) := dk_180 0 15 (dk_at dksX2_exchange_0 20 rfl rfl)
theorem dX2_exchange_23 : decode cX2_exchange 23 = .ok (.iload_n 2, 1) := dk_28 (dk_at dksX2_exchange_0 23 rfl rfl)
theorem dX2_exchange_24 : decode cX2_exchange 24 = .ok (.iload_n 3, 1) := dk_29 (dk_at dksX2_exchange_1 0 rfl rfl)
theorem dX2_exchange_25 : decode cX2_exchange 25 = .ok (.iastore, 1) := dk_79 (dk_at dksX2_exchange_1 1 rfl rfl)
theorem dX2_exchange_26 : decode cX2_exchange 26 = .ok (.return_, 1) := dk_177 (dk_at dksX2_exchange_1 2 rfl rfl)
set_option maxRecDepth 100000
abbrev cX3_init : ByteArray := prog_18_method_1_code
def yX3_init : MethodName := ⟨RX3, "<init>", "()V"⟩
theorem dX3_init_0 : decode cX3_init 0 = .ok (.aload_n 0, 1) := by decide +kernel
theorem dX3_init_1 : decode cX3_init 1 = .ok (.invokespecial 1, 3) := by decide +kernel
theorem dX3_init_4 : decode cX3_init 4 = .ok (.return_, 1) := by decide +kernel
abbrev cX3_by : ByteArray := prog_18_method_2_code
def yX3_by : MethodName := ⟨RX3, "by", "(II)LTailorRegiment$Wrong;"⟩
def dkwX3_by_0 : List UInt8 := [42, 27, 181, 0, 7, 42, 28, 181, 0, 13, 42, 176]
abbrev dktX3_by_0 : List UInt8 := dkwX3_by_0 ++ []
theorem dksX3_by_0 : cX3_by.data.toList.drop 0 = dktX3_by_0 := by decide +kernel
theorem dX3_by_0 : decode cX3_by 0 = .ok (.aload_n 0, 1) := dk_42 (dk_at dksX3_by_0 0 rfl rfl)
theorem dX3_by_1 : decode cX3_by 1 = .ok (.iload_n 1, 1) := dk_27 (dk_at dksX3_by_0 1 rfl rfl)
theorem dX3_by_2 : decode cX3_by 2 = .ok (.putfield 7, 3) := dk_181 0 7 (dk_at dksX3_by_0 2 rfl rfl)
theorem dX3_by_5 : decode cX3_by 5 = .ok (.aload_n 0, 1) := dk_42 (dk_at dksX3_by_0 5 rfl rfl)
theorem dX3_by_6 : decode cX3_by 6 = .ok (.iload_n 2, 1) := dk_28 (dk_at dksX3_by_0 6 rfl rfl)
theorem dX3_by_7 : decode cX3_by 7 = .ok (.putfield 13, 3) := dk_181 0 13 (dk_at dksX3_by_0 7 rfl rfl)
theorem dX3_by_10 : decode cX3_by 10 = .ok (.aload_n 0, 1) := dk_42 (dk_at dksX3_by_0 10 rfl rfl)
theorem dX3_by_11 : decode cX3_by 11 = .ok (.areturn, 1) := dk_176 (dk_at dksX3_by_0 11 rfl rfl)
set_option maxRecDepth 100000
abbrev cX4_init : ByteArray := prog_3_method_1_code
def yX4_init : MethodName := ⟨RX4, "<init>", "(LTailorRegiment;)V"⟩
def dkwX4_init_0 : List UInt8 := [42, 43, 181, 0, 3, 42, 183, 0, 9, 177]
abbrev dktX4_init_0 : List UInt8 := dkwX4_init_0 ++ []
theorem dksX4_init_0 : cX4_init.data.toList.drop 0 = dktX4_init_0 := by decide +kernel
theorem dX4_init_0 : decode cX4_init 0 = .ok (.aload_n 0, 1) := dk_42 (dk_at dksX4_init_0 0 rfl rfl)
theorem dX4_init_1 : decode cX4_init 1 = .ok (.aload_n 1, 1) := dk_43 (dk_at dksX4_init_0 1 rfl rfl)
theorem dX4_init_2 : decode cX4_init 2 = .ok (.putfield 3, 3) := dk_181 0 3 (dk_at dksX4_init_0 2 rfl rfl)
theorem dX4_init_5 : decode cX4_init 5 = .ok (.aload_n 0, 1) := dk_42 (dk_at dksX4_init_0 5 rfl rfl)
theorem dX4_init_6 : decode cX4_init 6 = .ok (.invokespecial 9, 3) := dk_183 0 9 (dk_at dksX4_init_0 6 rfl rfl)
theorem dX4_init_9 : decode cX4_init 9 = .ok (.return_, 1) := dk_177 (dk_at dksX4_init_0 9 rfl rfl)
abbrev cX4_seek : ByteArray := prog_3_method_4_code
def yX4_seek : MethodName := ⟨RX4, "seek", "(I)I"⟩
def dkwX4_seek_3 : List UInt8 := [172]
abbrev dktX4_seek_3 : List UInt8 := dkwX4_seek_3 ++ []
def dkwX4_seek_2 : List UInt8 := [182, 0, 23, 161, 0, 6, 167, 0, 8, 42, 28, 181, 0, 15, 132, 2, 1, 167, 255, 201, 42, 180, 0, 15]
abbrev dktX4_seek_2 : List UInt8 := dkwX4_seek_2 ++ dktX4_seek_3
def dkwX4_seek_1 : List UInt8 := [182, 0, 19, 153, 0, 34, 42, 180, 0, 15, 155, 0, 22, 42, 28, 182, 0, 23, 42, 42, 180, 0, 15]
abbrev dktX4_seek_1 : List UInt8 := dkwX4_seek_1 ++ dktX4_seek_2
def dkwX4_seek_0 : List UInt8 := [42, 2, 181, 0, 15, 3, 61, 28, 27, 163, 0, 56, 28, 27, 2, 130, 126, 154, 0, 42, 42, 28]
abbrev dktX4_seek_0 : List UInt8 := dkwX4_seek_0 ++ dktX4_seek_1
theorem dksX4_seek_0 : cX4_seek.data.toList.drop 0 = dktX4_seek_0 := by decide +kernel
theorem dksX4_seek_1 : cX4_seek.data.toList.drop 22 = dktX4_seek_1 := dk_seg dksX4_seek_0 22 rfl rfl
theorem dksX4_seek_2 : cX4_seek.data.toList.drop 45 = dktX4_seek_2 := dk_seg dksX4_seek_1 23 rfl rfl
theorem dksX4_seek_3 : cX4_seek.data.toList.drop 69 = dktX4_seek_3 := dk_seg dksX4_seek_2 24 rfl rfl
theorem dX4_seek_0 : decode cX4_seek 0 = .ok (.aload_n 0, 1) := dk_42 (dk_at dksX4_seek_0 0 rfl rfl)
theorem dX4_seek_1 : decode cX4_seek 1 = .ok (.iconst (-1), 1) := dk_2 (dk_at dksX4_seek_0 1 rfl rfl)
theorem dX4_seek_2 : decode cX4_seek 2 = .ok (.putfield 15, 3) := dk_181 0 15 (dk_at dksX4_seek_0 2 rfl rfl)
theorem dX4_seek_5 : decode cX4_seek 5 = .ok (.iconst 0, 1) := dk_3 (dk_at dksX4_seek_0 5 rfl rfl)
theorem dX4_seek_6 : decode cX4_seek 6 = .ok (.istore_n 2, 1) := dk_61 (dk_at dksX4_seek_0 6 rfl rfl)
theorem dX4_seek_7 : decode cX4_seek 7 = .ok (.iload_n 2, 1) := dk_28 (dk_at dksX4_seek_0 7 rfl rfl)
theorem dX4_seek_8 : decode cX4_seek 8 = .ok (.iload_n 1, 1) := dk_27 (dk_at dksX4_seek_0 8 rfl rfl)
theorem dX4_seek_9 : decode cX4_seek 9 = .ok (.if_icmp .gt 56, 3) := dk_163 0 56 (dk_at dksX4_seek_0 9 rfl rfl)
theorem dX4_seek_12 : decode cX4_seek 12 = .ok (.iload_n 2, 1) := dk_28 (dk_at dksX4_seek_0 12 rfl rfl)
theorem dX4_seek_13 : decode cX4_seek 13 = .ok (.iload_n 1, 1) := dk_27 (dk_at dksX4_seek_0 13 rfl rfl)
theorem dX4_seek_14 : decode cX4_seek 14 = .ok (.iconst (-1), 1) := dk_2 (dk_at dksX4_seek_0 14 rfl rfl)
theorem dX4_seek_15 : decode cX4_seek 15 = .ok (.ixor, 1) := dk_130 (dk_at dksX4_seek_0 15 rfl rfl)
theorem dX4_seek_16 : decode cX4_seek 16 = .ok (.iand, 1) := dk_126 (dk_at dksX4_seek_0 16 rfl rfl)
theorem dX4_seek_17 : decode cX4_seek 17 = .ok (.ifCond .ne 42, 3) := dk_154 0 42 (dk_at dksX4_seek_0 17 rfl rfl)
theorem dX4_seek_20 : decode cX4_seek 20 = .ok (.aload_n 0, 1) := dk_42 (dk_at dksX4_seek_0 20 rfl rfl)
theorem dX4_seek_21 : decode cX4_seek 21 = .ok (.iload_n 2, 1) := dk_28 (dk_at dksX4_seek_0 21 rfl rfl)
theorem dX4_seek_22 : decode cX4_seek 22 = .ok (.invokevirtual 19, 3) := dk_182 0 19 (dk_at dksX4_seek_1 0 rfl rfl)
theorem dX4_seek_25 : decode cX4_seek 25 = .ok (.ifCond .eq 34, 3) := dk_153 0 34 (dk_at dksX4_seek_1 3 rfl rfl)
theorem dX4_seek_28 : decode cX4_seek 28 = .ok (.aload_n 0, 1) := dk_42 (dk_at dksX4_seek_1 6 rfl rfl)
theorem dX4_seek_29 : decode cX4_seek 29 = .ok (.getfield 15, 3) := dk_180 0 15 (dk_at dksX4_seek_1 7 rfl rfl)
theorem dX4_seek_32 : decode cX4_seek 32 = .ok (.ifCond .lt 22, 3) := dk_155 0 22 (dk_at dksX4_seek_1 10 rfl rfl)
theorem dX4_seek_35 : decode cX4_seek 35 = .ok (.aload_n 0, 1) := dk_42 (dk_at dksX4_seek_1 13 rfl rfl)
theorem dX4_seek_36 : decode cX4_seek 36 = .ok (.iload_n 2, 1) := dk_28 (dk_at dksX4_seek_1 14 rfl rfl)
theorem dX4_seek_37 : decode cX4_seek 37 = .ok (.invokevirtual 23, 3) := dk_182 0 23 (dk_at dksX4_seek_1 15 rfl rfl)
theorem dX4_seek_40 : decode cX4_seek 40 = .ok (.aload_n 0, 1) := dk_42 (dk_at dksX4_seek_1 18 rfl rfl)
theorem dX4_seek_41 : decode cX4_seek 41 = .ok (.aload_n 0, 1) := dk_42 (dk_at dksX4_seek_1 19 rfl rfl)
theorem dX4_seek_42 : decode cX4_seek 42 = .ok (.getfield 15, 3) := dk_180 0 15 (dk_at dksX4_seek_1 20 rfl rfl)
theorem dX4_seek_45 : decode cX4_seek 45 = .ok (.invokevirtual 23, 3) := dk_182 0 23 (dk_at dksX4_seek_2 0 rfl rfl)
theorem dX4_seek_48 : decode cX4_seek 48 = .ok (.if_icmp .lt 6, 3) := dk_161 0 6 (dk_at dksX4_seek_2 3 rfl rfl)
theorem dX4_seek_51 : decode cX4_seek 51 = .ok (.goto 8, 3) := dk_167 0 8 (dk_at dksX4_seek_2 6 rfl rfl)
theorem dX4_seek_54 : decode cX4_seek 54 = .ok (.aload_n 0, 1) := dk_42 (dk_at dksX4_seek_2 9 rfl rfl)
theorem dX4_seek_55 : decode cX4_seek 55 = .ok (.iload_n 2, 1) := dk_28 (dk_at dksX4_seek_2 10 rfl rfl)
theorem dX4_seek_56 : decode cX4_seek 56 = .ok (.putfield 15, 3) := dk_181 0 15 (dk_at dksX4_seek_2 11 rfl rfl)
theorem dX4_seek_59 : decode cX4_seek 59 = .ok (.iinc 2 1, 3) := dk_132 2 1 (dk_at dksX4_seek_2 14 rfl rfl)
theorem dX4_seek_62 : decode cX4_seek 62 = .ok (.goto (-55), 3) := dk_167 255 201 (dk_at dksX4_seek_2 17 rfl rfl)
theorem dX4_seek_65 : decode cX4_seek 65 = .ok (.aload_n 0, 1) := dk_42 (dk_at dksX4_seek_2 20 rfl rfl)
theorem dX4_seek_66 : decode cX4_seek 66 = .ok (.getfield 15, 3) := dk_180 0 15 (dk_at dksX4_seek_2 21 rfl rfl)
theorem dX4_seek_69 : decode cX4_seek 69 = .ok (.ireturn, 1) := dk_172 (dk_at dksX4_seek_3 0 rfl rfl)
set_option maxRecDepth 100000
abbrev cX5_init : ByteArray := prog_5_method_1_code
def yX5_init : MethodName := ⟨RX5, "<init>", "(LTailorRegiment;)V"⟩
def dkwX5_init_0 : List UInt8 := [42, 43, 181, 0, 1, 42, 43, 183, 0, 7, 177]
abbrev dktX5_init_0 : List UInt8 := dkwX5_init_0 ++ []
theorem dksX5_init_0 : cX5_init.data.toList.drop 0 = dktX5_init_0 := by decide +kernel
theorem dX5_init_0 : decode cX5_init 0 = .ok (.aload_n 0, 1) := dk_42 (dk_at dksX5_init_0 0 rfl rfl)
theorem dX5_init_1 : decode cX5_init 1 = .ok (.aload_n 1, 1) := dk_43 (dk_at dksX5_init_0 1 rfl rfl)
theorem dX5_init_2 : decode cX5_init 2 = .ok (.putfield 1, 3) := dk_181 0 1 (dk_at dksX5_init_0 2 rfl rfl)
theorem dX5_init_5 : decode cX5_init 5 = .ok (.aload_n 0, 1) := dk_42 (dk_at dksX5_init_0 5 rfl rfl)
theorem dX5_init_6 : decode cX5_init 6 = .ok (.aload_n 1, 1) := dk_43 (dk_at dksX5_init_0 6 rfl rfl)
theorem dX5_init_7 : decode cX5_init 7 = .ok (.invokespecial 7, 3) := dk_183 0 7 (dk_at dksX5_init_0 7 rfl rfl)
theorem dX5_init_10 : decode cX5_init 10 = .ok (.return_, 1) := dk_177 (dk_at dksX5_init_0 10 rfl rfl)
abbrev cX5_does : ByteArray := prog_5_method_2_code
def yX5_does : MethodName := ⟨RX5, "does", "(I)Z"⟩
def dkwX5_does_0 : List UInt8 := [42, 180, 0, 1, 27, 182, 0, 13, 42, 180, 0, 19, 161, 0, 7, 4, 167, 0, 4, 3, 172]
abbrev dktX5_does_0 : List UInt8 := dkwX5_does_0 ++ []
theorem dksX5_does_0 : cX5_does.data.toList.drop 0 = dktX5_does_0 := by decide +kernel
theorem dX5_does_0 : decode cX5_does 0 = .ok (.aload_n 0, 1) := dk_42 (dk_at dksX5_does_0 0 rfl rfl)
theorem dX5_does_1 : decode cX5_does 1 = .ok (.getfield 1, 3) := dk_180 0 1 (dk_at dksX5_does_0 1 rfl rfl)
theorem dX5_does_4 : decode cX5_does 4 = .ok (.iload_n 1, 1) := dk_27 (dk_at dksX5_does_0 4 rfl rfl)
theorem dX5_does_5 : decode cX5_does 5 = .ok (.invokevirtual 13, 3) := dk_182 0 13 (dk_at dksX5_does_0 5 rfl rfl)
theorem dX5_does_8 : decode cX5_does 8 = .ok (.aload_n 0, 1) := dk_42 (dk_at dksX5_does_0 8 rfl rfl)
theorem dX5_does_9 : decode cX5_does 9 = .ok (.getfield 19, 3) := dk_180 0 19 (dk_at dksX5_does_0 9 rfl rfl)
theorem dX5_does_12 : decode cX5_does 12 = .ok (.if_icmp .lt 7, 3) := dk_161 0 7 (dk_at dksX5_does_0 12 rfl rfl)
theorem dX5_does_15 : decode cX5_does 15 = .ok (.iconst 1, 1) := dk_4 (dk_at dksX5_does_0 15 rfl rfl)
theorem dX5_does_16 : decode cX5_does 16 = .ok (.goto 4, 3) := dk_167 0 4 (dk_at dksX5_does_0 16 rfl rfl)
theorem dX5_does_19 : decode cX5_does 19 = .ok (.iconst 0, 1) := dk_3 (dk_at dksX5_does_0 19 rfl rfl)
theorem dX5_does_20 : decode cX5_does 20 = .ok (.ireturn, 1) := dk_172 (dk_at dksX5_does_0 20 rfl rfl)
abbrev cX5_cost : ByteArray := prog_5_method_3_code
def yX5_cost : MethodName := ⟨RX5, "cost", "(I)I"⟩
theorem dX5_cost_0 : decode cX5_cost 0 = .ok (.iload_n 1, 1) := by decide +kernel
theorem dX5_cost_1 : decode cX5_cost 1 = .ok (.invokestatic 23, 3) := by decide +kernel
theorem dX5_cost_4 : decode cX5_cost 4 = .ok (.ireturn, 1) := by decide +kernel
set_option maxRecDepth 100000
abbrev cX6_init : ByteArray := prog_17_method_1_code
def yX6_init : MethodName := ⟨RX6, "<init>", "(LTailorRegiment;)V"⟩
def dkwX6_init_0 : List UInt8 := [42, 43, 181, 0, 1, 42, 43, 183, 0, 7, 177]
abbrev dktX6_init_0 : List UInt8 := dkwX6_init_0 ++ []
theorem dksX6_init_0 : cX6_init.data.toList.drop 0 = dktX6_init_0 := by decide +kernel
theorem dX6_init_0 : decode cX6_init 0 = .ok (.aload_n 0, 1) := dk_42 (dk_at dksX6_init_0 0 rfl rfl)
theorem dX6_init_1 : decode cX6_init 1 = .ok (.aload_n 1, 1) := dk_43 (dk_at dksX6_init_0 1 rfl rfl)
theorem dX6_init_2 : decode cX6_init 2 = .ok (.putfield 1, 3) := dk_181 0 1 (dk_at dksX6_init_0 2 rfl rfl)
theorem dX6_init_5 : decode cX6_init 5 = .ok (.aload_n 0, 1) := dk_42 (dk_at dksX6_init_0 5 rfl rfl)
theorem dX6_init_6 : decode cX6_init 6 = .ok (.aload_n 1, 1) := dk_43 (dk_at dksX6_init_0 6 rfl rfl)
theorem dX6_init_7 : decode cX6_init 7 = .ok (.invokespecial 7, 3) := dk_183 0 7 (dk_at dksX6_init_0 7 rfl rfl)
theorem dX6_init_10 : decode cX6_init 10 = .ok (.return_, 1) := dk_177 (dk_at dksX6_init_0 10 rfl rfl)
abbrev cX6_does : ByteArray := prog_17_method_2_code
def yX6_does : MethodName := ⟨RX6, "does", "(I)Z"⟩
def dkwX6_does_1 : List UInt8 := [184, 0, 25, 126, 153, 0, 7, 4, 167, 0, 4, 3, 172]
abbrev dktX6_does_1 : List UInt8 := dkwX6_does_1 ++ []
def dkwX6_does_0 : List UInt8 := [42, 180, 0, 1, 180, 0, 13, 182, 0, 19, 153, 0, 21, 27, 42, 180, 0, 1, 180, 0, 13, 182, 0, 19]
abbrev dktX6_does_0 : List UInt8 := dkwX6_does_0 ++ dktX6_does_1
theorem dksX6_does_0 : cX6_does.data.toList.drop 0 = dktX6_does_0 := by decide +kernel
theorem dksX6_does_1 : cX6_does.data.toList.drop 24 = dktX6_does_1 := dk_seg dksX6_does_0 24 rfl rfl
theorem dX6_does_0 : decode cX6_does 0 = .ok (.aload_n 0, 1) := dk_42 (dk_at dksX6_does_0 0 rfl rfl)
theorem dX6_does_1 : decode cX6_does 1 = .ok (.getfield 1, 3) := dk_180 0 1 (dk_at dksX6_does_0 1 rfl rfl)
theorem dX6_does_4 : decode cX6_does 4 = .ok (.getfield 13, 3) := dk_180 0 13 (dk_at dksX6_does_0 4 rfl rfl)
theorem dX6_does_7 : decode cX6_does 7 = .ok (.invokevirtual 19, 3) := dk_182 0 19 (dk_at dksX6_does_0 7 rfl rfl)
theorem dX6_does_10 : decode cX6_does 10 = .ok (.ifCond .eq 21, 3) := dk_153 0 21 (dk_at dksX6_does_0 10 rfl rfl)
theorem dX6_does_13 : decode cX6_does 13 = .ok (.iload_n 1, 1) := dk_27 (dk_at dksX6_does_0 13 rfl rfl)
theorem dX6_does_14 : decode cX6_does 14 = .ok (.aload_n 0, 1) := dk_42 (dk_at dksX6_does_0 14 rfl rfl)
theorem dX6_does_15 : decode cX6_does 15 = .ok (.getfield 1, 3) := dk_180 0 1 (dk_at dksX6_does_0 15 rfl rfl)
theorem dX6_does_18 : decode cX6_does 18 = .ok (.getfield 13, 3) := dk_180 0 13 (dk_at dksX6_does_0 18 rfl rfl)
theorem dX6_does_21 : decode cX6_does 21 = .ok (.invokevirtual 19, 3) := dk_182 0 19 (dk_at dksX6_does_0 21 rfl rfl)
theorem dX6_does_24 : decode cX6_does 24 = .ok (.invokestatic 25, 3) := dk_184 0 25 (dk_at dksX6_does_1 0 rfl rfl)
theorem dX6_does_27 : decode cX6_does 27 = .ok (.iand, 1) := dk_126 (dk_at dksX6_does_1 3 rfl rfl)
theorem dX6_does_28 : decode cX6_does 28 = .ok (.ifCond .eq 7, 3) := dk_153 0 7 (dk_at dksX6_does_1 4 rfl rfl)
theorem dX6_does_31 : decode cX6_does 31 = .ok (.iconst 1, 1) := dk_4 (dk_at dksX6_does_1 7 rfl rfl)
theorem dX6_does_32 : decode cX6_does 32 = .ok (.goto 4, 3) := dk_167 0 4 (dk_at dksX6_does_1 8 rfl rfl)
theorem dX6_does_35 : decode cX6_does 35 = .ok (.iconst 0, 1) := dk_3 (dk_at dksX6_does_1 11 rfl rfl)
theorem dX6_does_36 : decode cX6_does 36 = .ok (.ireturn, 1) := dk_172 (dk_at dksX6_does_1 12 rfl rfl)
abbrev cX6_cost : ByteArray := prog_17_method_3_code
def yX6_cost : MethodName := ⟨RX6, "cost", "(I)I"⟩
def dkwX6_cost_1 : List UInt8 := [182, 0, 31, 104, 100, 184, 0, 34, 172]
abbrev dktX6_cost_1 : List UInt8 := dkwX6_cost_1 ++ []
def dkwX6_cost_0 : List UInt8 := [42, 180, 0, 1, 42, 180, 0, 1, 180, 0, 13, 182, 0, 19, 182, 0, 31, 5, 42, 180, 0, 1, 27]
abbrev dktX6_cost_0 : List UInt8 := dkwX6_cost_0 ++ dktX6_cost_1
theorem dksX6_cost_0 : cX6_cost.data.toList.drop 0 = dktX6_cost_0 := by decide +kernel
theorem dksX6_cost_1 : cX6_cost.data.toList.drop 23 = dktX6_cost_1 := dk_seg dksX6_cost_0 23 rfl rfl
theorem dX6_cost_0 : decode cX6_cost 0 = .ok (.aload_n 0, 1) := dk_42 (dk_at dksX6_cost_0 0 rfl rfl)
theorem dX6_cost_1 : decode cX6_cost 1 = .ok (.getfield 1, 3) := dk_180 0 1 (dk_at dksX6_cost_0 1 rfl rfl)
theorem dX6_cost_4 : decode cX6_cost 4 = .ok (.aload_n 0, 1) := dk_42 (dk_at dksX6_cost_0 4 rfl rfl)
theorem dX6_cost_5 : decode cX6_cost 5 = .ok (.getfield 1, 3) := dk_180 0 1 (dk_at dksX6_cost_0 5 rfl rfl)
theorem dX6_cost_8 : decode cX6_cost 8 = .ok (.getfield 13, 3) := dk_180 0 13 (dk_at dksX6_cost_0 8 rfl rfl)
theorem dX6_cost_11 : decode cX6_cost 11 = .ok (.invokevirtual 19, 3) := dk_182 0 19 (dk_at dksX6_cost_0 11 rfl rfl)
theorem dX6_cost_14 : decode cX6_cost 14 = .ok (.invokevirtual 31, 3) := dk_182 0 31 (dk_at dksX6_cost_0 14 rfl rfl)
theorem dX6_cost_17 : decode cX6_cost 17 = .ok (.iconst 2, 1) := dk_5 (dk_at dksX6_cost_0 17 rfl rfl)
theorem dX6_cost_18 : decode cX6_cost 18 = .ok (.aload_n 0, 1) := dk_42 (dk_at dksX6_cost_0 18 rfl rfl)
theorem dX6_cost_19 : decode cX6_cost 19 = .ok (.getfield 1, 3) := dk_180 0 1 (dk_at dksX6_cost_0 19 rfl rfl)
theorem dX6_cost_22 : decode cX6_cost 22 = .ok (.iload_n 1, 1) := dk_27 (dk_at dksX6_cost_0 22 rfl rfl)
theorem dX6_cost_23 : decode cX6_cost 23 = .ok (.invokevirtual 31, 3) := dk_182 0 31 (dk_at dksX6_cost_1 0 rfl rfl)
theorem dX6_cost_26 : decode cX6_cost 26 = .ok (.imul, 1) := dk_104 (dk_at dksX6_cost_1 3 rfl rfl)
theorem dX6_cost_27 : decode cX6_cost 27 = .ok (.isub, 1) := dk_100 (dk_at dksX6_cost_1 4 rfl rfl)
theorem dX6_cost_28 : decode cX6_cost 28 = .ok (.invokestatic 34, 3) := dk_184 0 34 (dk_at dksX6_cost_1 5 rfl rfl)
theorem dX6_cost_31 : decode cX6_cost 31 = .ok (.ireturn, 1) := dk_172 (dk_at dksX6_cost_1 8 rfl rfl)
set_option maxRecDepth 100000
abbrev cX7_init : ByteArray := prog_6_method_1_code
def yX7_init : MethodName := ⟨RX7, "<init>", "(LTailorRegiment$State;)V"⟩
def dkwX7_init_0 : List UInt8 := [42, 183, 0, 1, 42, 43, 181, 0, 7, 177]
abbrev dktX7_init_0 : List UInt8 := dkwX7_init_0 ++ []
theorem dksX7_init_0 : cX7_init.data.toList.drop 0 = dktX7_init_0 := by decide +kernel
theorem dX7_init_0 : decode cX7_init 0 = .ok (.aload_n 0, 1) := dk_42 (dk_at dksX7_init_0 0 rfl rfl)
theorem dX7_init_1 : decode cX7_init 1 = .ok (.invokespecial 1, 3) := dk_183 0 1 (dk_at dksX7_init_0 1 rfl rfl)
theorem dX7_init_4 : decode cX7_init 4 = .ok (.aload_n 0, 1) := dk_42 (dk_at dksX7_init_0 4 rfl rfl)
theorem dX7_init_5 : decode cX7_init 5 = .ok (.aload_n 1, 1) := dk_43 (dk_at dksX7_init_0 5 rfl rfl)
theorem dX7_init_6 : decode cX7_init 6 = .ok (.putfield 7, 3) := dk_181 0 7 (dk_at dksX7_init_0 6 rfl rfl)
theorem dX7_init_9 : decode cX7_init 9 = .ok (.return_, 1) := dk_177 (dk_at dksX7_init_0 9 rfl rfl)
set_option maxRecDepth 100000
abbrev cX9_init : ByteArray := prog_12_method_1_code
def yX9_init : MethodName := ⟨RX9, "<init>", "([BILTailorRegiment$Wrong;)V"⟩
def dkwX9_init_1 : List UInt8 := [181, 0, 22, 42, 45, 181, 0, 26, 177]
abbrev dktX9_init_1 : List UInt8 := dkwX9_init_1 ++ []
def dkwX9_init_0 : List UInt8 := [42, 183, 0, 3, 42, 187, 0, 9, 89, 183, 0, 11, 181, 0, 12, 42, 43, 181, 0, 18, 42, 28]
abbrev dktX9_init_0 : List UInt8 := dkwX9_init_0 ++ dktX9_init_1
theorem dksX9_init_0 : cX9_init.data.toList.drop 0 = dktX9_init_0 := by decide +kernel
theorem dksX9_init_1 : cX9_init.data.toList.drop 22 = dktX9_init_1 := dk_seg dksX9_init_0 22 rfl rfl
theorem dX9_init_0 : decode cX9_init 0 = .ok (.aload_n 0, 1) := dk_42 (dk_at dksX9_init_0 0 rfl rfl)
theorem dX9_init_1 : decode cX9_init 1 = .ok (.invokespecial 3, 3) := dk_183 0 3 (dk_at dksX9_init_0 1 rfl rfl)
theorem dX9_init_4 : decode cX9_init 4 = .ok (.aload_n 0, 1) := dk_42 (dk_at dksX9_init_0 4 rfl rfl)
theorem dX9_init_5 : decode cX9_init 5 = .ok (.new 9, 3) := dk_187 0 9 (dk_at dksX9_init_0 5 rfl rfl)
theorem dX9_init_8 : decode cX9_init 8 = .ok (.dup, 1) := dk_89 (dk_at dksX9_init_0 8 rfl rfl)
theorem dX9_init_9 : decode cX9_init 9 = .ok (.invokespecial 11, 3) := dk_183 0 11 (dk_at dksX9_init_0 9 rfl rfl)
theorem dX9_init_12 : decode cX9_init 12 = .ok (.putfield 12, 3) := dk_181 0 12 (dk_at dksX9_init_0 12 rfl rfl)
theorem dX9_init_15 : decode cX9_init 15 = .ok (.aload_n 0, 1) := dk_42 (dk_at dksX9_init_0 15 rfl rfl)
theorem dX9_init_16 : decode cX9_init 16 = .ok (.aload_n 1, 1) := dk_43 (dk_at dksX9_init_0 16 rfl rfl)
theorem dX9_init_17 : decode cX9_init 17 = .ok (.putfield 18, 3) := dk_181 0 18 (dk_at dksX9_init_0 17 rfl rfl)
theorem dX9_init_20 : decode cX9_init 20 = .ok (.aload_n 0, 1) := dk_42 (dk_at dksX9_init_0 20 rfl rfl)
theorem dX9_init_21 : decode cX9_init 21 = .ok (.iload_n 2, 1) := dk_28 (dk_at dksX9_init_0 21 rfl rfl)
theorem dX9_init_22 : decode cX9_init 22 = .ok (.putfield 22, 3) := dk_181 0 22 (dk_at dksX9_init_1 0 rfl rfl)
theorem dX9_init_25 : decode cX9_init 25 = .ok (.aload_n 0, 1) := dk_42 (dk_at dksX9_init_1 3 rfl rfl)
theorem dX9_init_26 : decode cX9_init 26 = .ok (.aload_n 3, 1) := dk_45 (dk_at dksX9_init_1 4 rfl rfl)
theorem dX9_init_27 : decode cX9_init 27 = .ok (.putfield 26, 3) := dk_181 0 26 (dk_at dksX9_init_1 5 rfl rfl)
theorem dX9_init_30 : decode cX9_init 30 = .ok (.return_, 1) := dk_177 (dk_at dksX9_init_1 8 rfl rfl)
abbrev cX9_read : ByteArray := prog_12_method_32_code
def yX9_read : MethodName := ⟨RX9, "read", "()LTailorRegiment$Regiment;"⟩
def dkwX9_read_1 : List UInt8 := [182, 0, 93, 167, 255, 235, 42, 180, 0, 12, 176]
abbrev dktX9_read_1 : List UInt8 := dkwX9_read_1 ++ []
def dkwX9_read_0 : List UInt8 := [42, 182, 0, 90, 42, 180, 0, 40, 153, 0, 20, 42, 182, 1, 45, 42, 42, 16, 59, 182, 0, 221]
abbrev dktX9_read_0 : List UInt8 := dkwX9_read_0 ++ dktX9_read_1
theorem dksX9_read_0 : cX9_read.data.toList.drop 0 = dktX9_read_0 := by decide +kernel
theorem dksX9_read_1 : cX9_read.data.toList.drop 22 = dktX9_read_1 := dk_seg dksX9_read_0 22 rfl rfl
theorem dX9_read_0 : decode cX9_read 0 = .ok (.aload_n 0, 1) := dk_42 (dk_at dksX9_read_0 0 rfl rfl)
theorem dX9_read_1 : decode cX9_read 1 = .ok (.invokevirtual 90, 3) := dk_182 0 90 (dk_at dksX9_read_0 1 rfl rfl)
theorem dX9_read_4 : decode cX9_read 4 = .ok (.aload_n 0, 1) := dk_42 (dk_at dksX9_read_0 4 rfl rfl)
theorem dX9_read_5 : decode cX9_read 5 = .ok (.getfield 40, 3) := dk_180 0 40 (dk_at dksX9_read_0 5 rfl rfl)
theorem dX9_read_8 : decode cX9_read 8 = .ok (.ifCond .eq 20, 3) := dk_153 0 20 (dk_at dksX9_read_0 8 rfl rfl)
theorem dX9_read_11 : decode cX9_read 11 = .ok (.aload_n 0, 1) := dk_42 (dk_at dksX9_read_0 11 rfl rfl)
theorem dX9_read_12 : decode cX9_read 12 = .ok (.invokevirtual 301, 3) := dk_182 1 45 (dk_at dksX9_read_0 12 rfl rfl)
theorem dX9_read_15 : decode cX9_read 15 = .ok (.aload_n 0, 1) := dk_42 (dk_at dksX9_read_0 15 rfl rfl)
theorem dX9_read_16 : decode cX9_read 16 = .ok (.aload_n 0, 1) := dk_42 (dk_at dksX9_read_0 16 rfl rfl)
theorem dX9_read_17 : decode cX9_read 17 = .ok (.bipush 59, 2) := dk_16 59 (dk_at dksX9_read_0 17 rfl rfl)
theorem dX9_read_19 : decode cX9_read 19 = .ok (.invokevirtual 221, 3) := dk_182 0 221 (dk_at dksX9_read_0 19 rfl rfl)
theorem dX9_read_22 : decode cX9_read 22 = .ok (.invokevirtual 93, 3) := dk_182 0 93 (dk_at dksX9_read_1 0 rfl rfl)
theorem dX9_read_25 : decode cX9_read 25 = .ok (.goto (-21), 3) := dk_167 255 235 (dk_at dksX9_read_1 3 rfl rfl)
theorem dX9_read_28 : decode cX9_read 28 = .ok (.aload_n 0, 1) := dk_42 (dk_at dksX9_read_1 6 rfl rfl)
theorem dX9_read_29 : decode cX9_read 29 = .ok (.getfield 12, 3) := dk_180 0 12 (dk_at dksX9_read_1 7 rfl rfl)
theorem dX9_read_32 : decode cX9_read 32 = .ok (.areturn, 1) := dk_176 (dk_at dksX9_read_1 10 rfl rfl)
abbrev cX9_next : ByteArray := prog_12_method_6_code
def yX9_next : MethodName := ⟨RX9, "next", "()V"⟩
def dkwX9_next_6 : List UInt8 := [167, 0, 19, 42, 27, 184, 0, 56, 153, 0, 7, 6, 167, 0, 4, 7, 181, 0, 40, 177]
abbrev dktX9_next_6 : List UInt8 := dkwX9_next_6 ++ []
def dkwX9_next_5 : List UInt8 := [184, 0, 43, 153, 0, 10, 42, 182, 0, 47, 167, 0, 33, 27, 184, 0, 50, 153, 0, 10, 42, 182, 0, 53]
abbrev dktX9_next_5 : List UInt8 := dkwX9_next_5 ++ dktX9_next_6
def dkwX9_next_4 : List UInt8 := [181, 0, 30, 42, 180, 0, 33, 42, 180, 0, 22, 161, 0, 11, 42, 3, 181, 0, 40, 167, 0, 47, 27]
abbrev dktX9_next_4 : List UInt8 := dkwX9_next_4 ++ dktX9_next_5
def dkwX9_next_3 : List UInt8 := [180, 0, 33, 42, 180, 0, 22, 162, 0, 12, 42, 180, 0, 33, 4, 96, 167, 0, 7, 42, 180, 0, 33]
abbrev dktX9_next_3 : List UInt8 := dkwX9_next_3 ++ dktX9_next_4
def dkwX9_next_2 : List UInt8 := [180, 0, 33, 4, 96, 181, 0, 33, 167, 255, 209, 42, 42, 180, 0, 33, 182, 0, 36, 60, 42, 42]
abbrev dktX9_next_2 : List UInt8 := dkwX9_next_2 ++ dktX9_next_3
def dkwX9_next_1 : List UInt8 := [182, 0, 36, 16, 32, 159, 0, 16, 42, 42, 180, 0, 33, 182, 0, 36, 16, 10, 160, 0, 16, 42, 89]
abbrev dktX9_next_1 : List UInt8 := dkwX9_next_1 ++ dktX9_next_2
def dkwX9_next_0 : List UInt8 := [42, 42, 180, 0, 30, 181, 0, 33, 42, 180, 0, 33, 42, 180, 0, 22, 162, 0, 42, 42, 42, 180, 0, 33]
abbrev dktX9_next_0 : List UInt8 := dkwX9_next_0 ++ dktX9_next_1
theorem dksX9_next_0 : cX9_next.data.toList.drop 0 = dktX9_next_0 := by decide +kernel
theorem dksX9_next_1 : cX9_next.data.toList.drop 24 = dktX9_next_1 := dk_seg dksX9_next_0 24 rfl rfl
theorem dksX9_next_2 : cX9_next.data.toList.drop 47 = dktX9_next_2 := dk_seg dksX9_next_1 23 rfl rfl
theorem dksX9_next_3 : cX9_next.data.toList.drop 69 = dktX9_next_3 := dk_seg dksX9_next_2 22 rfl rfl
theorem dksX9_next_4 : cX9_next.data.toList.drop 92 = dktX9_next_4 := dk_seg dksX9_next_3 23 rfl rfl
theorem dksX9_next_5 : cX9_next.data.toList.drop 115 = dktX9_next_5 := dk_seg dksX9_next_4 23 rfl rfl
theorem dksX9_next_6 : cX9_next.data.toList.drop 139 = dktX9_next_6 := dk_seg dksX9_next_5 24 rfl rfl
theorem dX9_next_0 : decode cX9_next 0 = .ok (.aload_n 0, 1) := dk_42 (dk_at dksX9_next_0 0 rfl rfl)
theorem dX9_next_1 : decode cX9_next 1 = .ok (.aload_n 0, 1) := dk_42 (dk_at dksX9_next_0 1 rfl rfl)
theorem dX9_next_2 : decode cX9_next 2 = .ok (.getfield 30, 3) := dk_180 0 30 (dk_at dksX9_next_0 2 rfl rfl)
theorem dX9_next_5 : decode cX9_next 5 = .ok (.putfield 33, 3) := dk_181 0 33 (dk_at dksX9_next_0 5 rfl rfl)
theorem dX9_next_8 : decode cX9_next 8 = .ok (.aload_n 0, 1) := dk_42 (dk_at dksX9_next_0 8 rfl rfl)
theorem dX9_next_9 : decode cX9_next 9 = .ok (.getfield 33, 3) := dk_180 0 33 (dk_at dksX9_next_0 9 rfl rfl)
theorem dX9_next_12 : decode cX9_next 12 = .ok (.aload_n 0, 1) := dk_42 (dk_at dksX9_next_0 12 rfl rfl)
theorem dX9_next_13 : decode cX9_next 13 = .ok (.getfield 22, 3) := dk_180 0 22 (dk_at dksX9_next_0 13 rfl rfl)
theorem dX9_next_16 : decode cX9_next 16 = .ok (.if_icmp .ge 42, 3) := dk_162 0 42 (dk_at dksX9_next_0 16 rfl rfl)
theorem dX9_next_19 : decode cX9_next 19 = .ok (.aload_n 0, 1) := dk_42 (dk_at dksX9_next_0 19 rfl rfl)
theorem dX9_next_20 : decode cX9_next 20 = .ok (.aload_n 0, 1) := dk_42 (dk_at dksX9_next_0 20 rfl rfl)
theorem dX9_next_21 : decode cX9_next 21 = .ok (.getfield 33, 3) := dk_180 0 33 (dk_at dksX9_next_0 21 rfl rfl)
theorem dX9_next_24 : decode cX9_next 24 = .ok (.invokevirtual 36, 3) := dk_182 0 36 (dk_at dksX9_next_1 0 rfl rfl)
theorem dX9_next_27 : decode cX9_next 27 = .ok (.bipush 32, 2) := dk_16 32 (dk_at dksX9_next_1 3 rfl rfl)
theorem dX9_next_29 : decode cX9_next 29 = .ok (.if_icmp .eq 16, 3) := dk_159 0 16 (dk_at dksX9_next_1 5 rfl rfl)
theorem dX9_next_32 : decode cX9_next 32 = .ok (.aload_n 0, 1) := dk_42 (dk_at dksX9_next_1 8 rfl rfl)
theorem dX9_next_33 : decode cX9_next 33 = .ok (.aload_n 0, 1) := dk_42 (dk_at dksX9_next_1 9 rfl rfl)
theorem dX9_next_34 : decode cX9_next 34 = .ok (.getfield 33, 3) := dk_180 0 33 (dk_at dksX9_next_1 10 rfl rfl)
theorem dX9_next_37 : decode cX9_next 37 = .ok (.invokevirtual 36, 3) := dk_182 0 36 (dk_at dksX9_next_1 13 rfl rfl)
theorem dX9_next_40 : decode cX9_next 40 = .ok (.bipush 10, 2) := dk_16 10 (dk_at dksX9_next_1 16 rfl rfl)
theorem dX9_next_42 : decode cX9_next 42 = .ok (.if_icmp .ne 16, 3) := dk_160 0 16 (dk_at dksX9_next_1 18 rfl rfl)
theorem dX9_next_45 : decode cX9_next 45 = .ok (.aload_n 0, 1) := dk_42 (dk_at dksX9_next_1 21 rfl rfl)
theorem dX9_next_46 : decode cX9_next 46 = .ok (.dup, 1) := dk_89 (dk_at dksX9_next_1 22 rfl rfl)
theorem dX9_next_47 : decode cX9_next 47 = .ok (.getfield 33, 3) := dk_180 0 33 (dk_at dksX9_next_2 0 rfl rfl)
theorem dX9_next_50 : decode cX9_next 50 = .ok (.iconst 1, 1) := dk_4 (dk_at dksX9_next_2 3 rfl rfl)
theorem dX9_next_51 : decode cX9_next 51 = .ok (.iadd, 1) := dk_96 (dk_at dksX9_next_2 4 rfl rfl)
theorem dX9_next_52 : decode cX9_next 52 = .ok (.putfield 33, 3) := dk_181 0 33 (dk_at dksX9_next_2 5 rfl rfl)
theorem dX9_next_55 : decode cX9_next 55 = .ok (.goto (-47), 3) := dk_167 255 209 (dk_at dksX9_next_2 8 rfl rfl)
theorem dX9_next_58 : decode cX9_next 58 = .ok (.aload_n 0, 1) := dk_42 (dk_at dksX9_next_2 11 rfl rfl)
theorem dX9_next_59 : decode cX9_next 59 = .ok (.aload_n 0, 1) := dk_42 (dk_at dksX9_next_2 12 rfl rfl)
theorem dX9_next_60 : decode cX9_next 60 = .ok (.getfield 33, 3) := dk_180 0 33 (dk_at dksX9_next_2 13 rfl rfl)
theorem dX9_next_63 : decode cX9_next 63 = .ok (.invokevirtual 36, 3) := dk_182 0 36 (dk_at dksX9_next_2 16 rfl rfl)
theorem dX9_next_66 : decode cX9_next 66 = .ok (.istore_n 1, 1) := dk_60 (dk_at dksX9_next_2 19 rfl rfl)
theorem dX9_next_67 : decode cX9_next 67 = .ok (.aload_n 0, 1) := dk_42 (dk_at dksX9_next_2 20 rfl rfl)
theorem dX9_next_68 : decode cX9_next 68 = .ok (.aload_n 0, 1) := dk_42 (dk_at dksX9_next_2 21 rfl rfl)
theorem dX9_next_69 : decode cX9_next 69 = .ok (.getfield 33, 3) := dk_180 0 33 (dk_at dksX9_next_3 0 rfl rfl)
theorem dX9_next_72 : decode cX9_next 72 = .ok (.aload_n 0, 1) := dk_42 (dk_at dksX9_next_3 3 rfl rfl)
theorem dX9_next_73 : decode cX9_next 73 = .ok (.getfield 22, 3) := dk_180 0 22 (dk_at dksX9_next_3 4 rfl rfl)
theorem dX9_next_76 : decode cX9_next 76 = .ok (.if_icmp .ge 12, 3) := dk_162 0 12 (dk_at dksX9_next_3 7 rfl rfl)
theorem dX9_next_79 : decode cX9_next 79 = .ok (.aload_n 0, 1) := dk_42 (dk_at dksX9_next_3 10 rfl rfl)
theorem dX9_next_80 : decode cX9_next 80 = .ok (.getfield 33, 3) := dk_180 0 33 (dk_at dksX9_next_3 11 rfl rfl)
theorem dX9_next_83 : decode cX9_next 83 = .ok (.iconst 1, 1) := dk_4 (dk_at dksX9_next_3 14 rfl rfl)
theorem dX9_next_84 : decode cX9_next 84 = .ok (.iadd, 1) := dk_96 (dk_at dksX9_next_3 15 rfl rfl)
theorem dX9_next_85 : decode cX9_next 85 = .ok (.goto 7, 3) := dk_167 0 7 (dk_at dksX9_next_3 16 rfl rfl)
theorem dX9_next_88 : decode cX9_next 88 = .ok (.aload_n 0, 1) := dk_42 (dk_at dksX9_next_3 19 rfl rfl)
theorem dX9_next_89 : decode cX9_next 89 = .ok (.getfield 33, 3) := dk_180 0 33 (dk_at dksX9_next_3 20 rfl rfl)
theorem dX9_next_92 : decode cX9_next 92 = .ok (.putfield 30, 3) := dk_181 0 30 (dk_at dksX9_next_4 0 rfl rfl)
theorem dX9_next_95 : decode cX9_next 95 = .ok (.aload_n 0, 1) := dk_42 (dk_at dksX9_next_4 3 rfl rfl)
theorem dX9_next_96 : decode cX9_next 96 = .ok (.getfield 33, 3) := dk_180 0 33 (dk_at dksX9_next_4 4 rfl rfl)
theorem dX9_next_99 : decode cX9_next 99 = .ok (.aload_n 0, 1) := dk_42 (dk_at dksX9_next_4 7 rfl rfl)
theorem dX9_next_100 : decode cX9_next 100 = .ok (.getfield 22, 3) := dk_180 0 22 (dk_at dksX9_next_4 8 rfl rfl)
theorem dX9_next_103 : decode cX9_next 103 = .ok (.if_icmp .lt 11, 3) := dk_161 0 11 (dk_at dksX9_next_4 11 rfl rfl)
theorem dX9_next_106 : decode cX9_next 106 = .ok (.aload_n 0, 1) := dk_42 (dk_at dksX9_next_4 14 rfl rfl)
theorem dX9_next_107 : decode cX9_next 107 = .ok (.iconst 0, 1) := dk_3 (dk_at dksX9_next_4 15 rfl rfl)
theorem dX9_next_108 : decode cX9_next 108 = .ok (.putfield 40, 3) := dk_181 0 40 (dk_at dksX9_next_4 16 rfl rfl)
theorem dX9_next_111 : decode cX9_next 111 = .ok (.goto 47, 3) := dk_167 0 47 (dk_at dksX9_next_4 19 rfl rfl)
theorem dX9_next_114 : decode cX9_next 114 = .ok (.iload_n 1, 1) := dk_27 (dk_at dksX9_next_4 22 rfl rfl)
theorem dX9_next_115 : decode cX9_next 115 = .ok (.invokestatic 43, 3) := dk_184 0 43 (dk_at dksX9_next_5 0 rfl rfl)
theorem dX9_next_118 : decode cX9_next 118 = .ok (.ifCond .eq 10, 3) := dk_153 0 10 (dk_at dksX9_next_5 3 rfl rfl)
theorem dX9_next_121 : decode cX9_next 121 = .ok (.aload_n 0, 1) := dk_42 (dk_at dksX9_next_5 6 rfl rfl)
theorem dX9_next_122 : decode cX9_next 122 = .ok (.invokevirtual 47, 3) := dk_182 0 47 (dk_at dksX9_next_5 7 rfl rfl)
theorem dX9_next_125 : decode cX9_next 125 = .ok (.goto 33, 3) := dk_167 0 33 (dk_at dksX9_next_5 10 rfl rfl)
theorem dX9_next_128 : decode cX9_next 128 = .ok (.iload_n 1, 1) := dk_27 (dk_at dksX9_next_5 13 rfl rfl)
theorem dX9_next_129 : decode cX9_next 129 = .ok (.invokestatic 50, 3) := dk_184 0 50 (dk_at dksX9_next_5 14 rfl rfl)
theorem dX9_next_132 : decode cX9_next 132 = .ok (.ifCond .eq 10, 3) := dk_153 0 10 (dk_at dksX9_next_5 17 rfl rfl)
theorem dX9_next_135 : decode cX9_next 135 = .ok (.aload_n 0, 1) := dk_42 (dk_at dksX9_next_5 20 rfl rfl)
theorem dX9_next_136 : decode cX9_next 136 = .ok (.invokevirtual 53, 3) := dk_182 0 53 (dk_at dksX9_next_5 21 rfl rfl)
theorem dX9_next_139 : decode cX9_next 139 = .ok (.goto 19, 3) := dk_167 0 19 (dk_at dksX9_next_6 0 rfl rfl)
theorem dX9_next_142 : decode cX9_next 142 = .ok (.aload_n 0, 1) := dk_42 (dk_at dksX9_next_6 3 rfl rfl)
theorem dX9_next_143 : decode cX9_next 143 = .ok (.iload_n 1, 1) := dk_27 (dk_at dksX9_next_6 4 rfl rfl)
theorem dX9_next_144 : decode cX9_next 144 = .ok (.invokestatic 56, 3) := dk_184 0 56 (dk_at dksX9_next_6 5 rfl rfl)
theorem dX9_next_147 : decode cX9_next 147 = .ok (.ifCond .eq 7, 3) := dk_153 0 7 (dk_at dksX9_next_6 8 rfl rfl)
theorem dX9_next_150 : decode cX9_next 150 = .ok (.iconst 3, 1) := dk_6 (dk_at dksX9_next_6 11 rfl rfl)
theorem dX9_next_151 : decode cX9_next 151 = .ok (.goto 4, 3) := dk_167 0 4 (dk_at dksX9_next_6 12 rfl rfl)
theorem dX9_next_154 : decode cX9_next 154 = .ok (.iconst 4, 1) := dk_7 (dk_at dksX9_next_6 15 rfl rfl)
theorem dX9_next_155 : decode cX9_next 155 = .ok (.putfield 40, 3) := dk_181 0 40 (dk_at dksX9_next_6 16 rfl rfl)
theorem dX9_next_158 : decode cX9_next 158 = .ok (.return_, 1) := dk_177 (dk_at dksX9_next_6 19 rfl rfl)
abbrev cX9_sign : ByteArray := prog_12_method_2_code
def yX9_sign : MethodName := ⟨RX9, "sign", "(I)I"⟩
def dkwX9_sign_0 : List UInt8 := [27, 42, 180, 0, 22, 162, 0, 16, 42, 180, 0, 18, 27, 51, 17, 0, 255, 126, 167, 0, 4, 3, 172]
abbrev dktX9_sign_0 : List UInt8 := dkwX9_sign_0 ++ []
theorem dksX9_sign_0 : cX9_sign.data.toList.drop 0 = dktX9_sign_0 := by decide +kernel
theorem dX9_sign_0 : decode cX9_sign 0 = .ok (.iload_n 1, 1) := dk_27 (dk_at dksX9_sign_0 0 rfl rfl)
theorem dX9_sign_1 : decode cX9_sign 1 = .ok (.aload_n 0, 1) := dk_42 (dk_at dksX9_sign_0 1 rfl rfl)
theorem dX9_sign_2 : decode cX9_sign 2 = .ok (.getfield 22, 3) := dk_180 0 22 (dk_at dksX9_sign_0 2 rfl rfl)
theorem dX9_sign_5 : decode cX9_sign 5 = .ok (.if_icmp .ge 16, 3) := dk_162 0 16 (dk_at dksX9_sign_0 5 rfl rfl)
theorem dX9_sign_8 : decode cX9_sign 8 = .ok (.aload_n 0, 1) := dk_42 (dk_at dksX9_sign_0 8 rfl rfl)
theorem dX9_sign_9 : decode cX9_sign 9 = .ok (.getfield 18, 3) := dk_180 0 18 (dk_at dksX9_sign_0 9 rfl rfl)
theorem dX9_sign_12 : decode cX9_sign 12 = .ok (.iload_n 1, 1) := dk_27 (dk_at dksX9_sign_0 12 rfl rfl)
theorem dX9_sign_13 : decode cX9_sign 13 = .ok (.baload, 1) := dk_51 (dk_at dksX9_sign_0 13 rfl rfl)
theorem dX9_sign_14 : decode cX9_sign 14 = .ok (.sipush 255, 3) := dk_17 0 255 (dk_at dksX9_sign_0 14 rfl rfl)
theorem dX9_sign_17 : decode cX9_sign 17 = .ok (.iand, 1) := dk_126 (dk_at dksX9_sign_0 17 rfl rfl)
theorem dX9_sign_18 : decode cX9_sign 18 = .ok (.goto 4, 3) := dk_167 0 4 (dk_at dksX9_sign_0 18 rfl rfl)
theorem dX9_sign_21 : decode cX9_sign 21 = .ok (.iconst 0, 1) := dk_3 (dk_at dksX9_sign_0 21 rfl rfl)
theorem dX9_sign_22 : decode cX9_sign 22 = .ok (.ireturn, 1) := dk_172 (dk_at dksX9_sign_0 22 rfl rfl)
abbrev cX9_isLetter : ByteArray := prog_12_method_3_code
def yX9_isLetter : MethodName := ⟨RX9, "isLetter", "(I)Z"⟩
def dkwX9_isLetter_0 : List UInt8 := [26, 16, 97, 161, 0, 13, 26, 16, 122, 163, 0, 7, 4, 167, 0, 4, 3, 172]
abbrev dktX9_isLetter_0 : List UInt8 := dkwX9_isLetter_0 ++ []
theorem dksX9_isLetter_0 : cX9_isLetter.data.toList.drop 0 = dktX9_isLetter_0 := by decide +kernel
theorem dX9_isLetter_0 : decode cX9_isLetter 0 = .ok (.iload_n 0, 1) := dk_26 (dk_at dksX9_isLetter_0 0 rfl rfl)
theorem dX9_isLetter_1 : decode cX9_isLetter 1 = .ok (.bipush 97, 2) := dk_16 97 (dk_at dksX9_isLetter_0 1 rfl rfl)
theorem dX9_isLetter_3 : decode cX9_isLetter 3 = .ok (.if_icmp .lt 13, 3) := dk_161 0 13 (dk_at dksX9_isLetter_0 3 rfl rfl)
theorem dX9_isLetter_6 : decode cX9_isLetter 6 = .ok (.iload_n 0, 1) := dk_26 (dk_at dksX9_isLetter_0 6 rfl rfl)
theorem dX9_isLetter_7 : decode cX9_isLetter 7 = .ok (.bipush 122, 2) := dk_16 122 (dk_at dksX9_isLetter_0 7 rfl rfl)
theorem dX9_isLetter_9 : decode cX9_isLetter 9 = .ok (.if_icmp .gt 7, 3) := dk_163 0 7 (dk_at dksX9_isLetter_0 9 rfl rfl)
theorem dX9_isLetter_12 : decode cX9_isLetter 12 = .ok (.iconst 1, 1) := dk_4 (dk_at dksX9_isLetter_0 12 rfl rfl)
theorem dX9_isLetter_13 : decode cX9_isLetter 13 = .ok (.goto 4, 3) := dk_167 0 4 (dk_at dksX9_isLetter_0 13 rfl rfl)
theorem dX9_isLetter_16 : decode cX9_isLetter 16 = .ok (.iconst 0, 1) := dk_3 (dk_at dksX9_isLetter_0 16 rfl rfl)
theorem dX9_isLetter_17 : decode cX9_isLetter 17 = .ok (.ireturn, 1) := dk_172 (dk_at dksX9_isLetter_0 17 rfl rfl)
abbrev cX9_readWord : ByteArray := prog_12_method_7_code
def yX9_readWord : MethodName := ⟨RX9, "readWord", "()V"⟩
def dkwX9_readWord_4 : List UInt8 := [100, 16, 8, 164, 0, 8, 42, 7, 181, 0, 40, 177]
abbrev dktX9_readWord_4 : List UInt8 := dkwX9_readWord_4 ++ []
def dkwX9_readWord_3 : List UInt8 := [181, 0, 59, 42, 89, 180, 0, 30, 4, 96, 181, 0, 30, 167, 255, 190, 42, 180, 0, 30, 42, 180, 0, 33]
abbrev dktX9_readWord_3 : List UInt8 := dkwX9_readWord_3 ++ dktX9_readWord_4
def dkwX9_readWord_2 : List UInt8 := [42, 180, 0, 59, 16, 8, 121, 42, 42, 180, 0, 30, 182, 0, 36, 133, 129, 167, 0, 7, 42, 180, 0, 59]
abbrev dktX9_readWord_2 : List UInt8 := dkwX9_readWord_2 ++ dktX9_readWord_3
def dkwX9_readWord_1 : List UInt8 := [182, 0, 36, 184, 0, 43, 153, 0, 58, 42, 42, 180, 0, 30, 42, 180, 0, 33, 100, 16, 8, 162, 0, 23]
abbrev dktX9_readWord_1 : List UInt8 := dkwX9_readWord_1 ++ dktX9_readWord_2
def dkwX9_readWord_0 : List UInt8 := [42, 4, 181, 0, 40, 42, 9, 181, 0, 59, 42, 42, 180, 0, 33, 181, 0, 30, 42, 42, 180, 0, 30]
abbrev dktX9_readWord_0 : List UInt8 := dkwX9_readWord_0 ++ dktX9_readWord_1
theorem dksX9_readWord_0 : cX9_readWord.data.toList.drop 0 = dktX9_readWord_0 := by decide +kernel
theorem dksX9_readWord_1 : cX9_readWord.data.toList.drop 23 = dktX9_readWord_1 := dk_seg dksX9_readWord_0 23 rfl rfl
theorem dksX9_readWord_2 : cX9_readWord.data.toList.drop 47 = dktX9_readWord_2 := dk_seg dksX9_readWord_1 24 rfl rfl
theorem dksX9_readWord_3 : cX9_readWord.data.toList.drop 71 = dktX9_readWord_3 := dk_seg dksX9_readWord_2 24 rfl rfl
theorem dksX9_readWord_4 : cX9_readWord.data.toList.drop 95 = dktX9_readWord_4 := dk_seg dksX9_readWord_3 24 rfl rfl
theorem dX9_readWord_0 : decode cX9_readWord 0 = .ok (.aload_n 0, 1) := dk_42 (dk_at dksX9_readWord_0 0 rfl rfl)
theorem dX9_readWord_1 : decode cX9_readWord 1 = .ok (.iconst 1, 1) := dk_4 (dk_at dksX9_readWord_0 1 rfl rfl)
theorem dX9_readWord_2 : decode cX9_readWord 2 = .ok (.putfield 40, 3) := dk_181 0 40 (dk_at dksX9_readWord_0 2 rfl rfl)
theorem dX9_readWord_5 : decode cX9_readWord 5 = .ok (.aload_n 0, 1) := dk_42 (dk_at dksX9_readWord_0 5 rfl rfl)
theorem dX9_readWord_6 : decode cX9_readWord 6 = .ok (.lconst 0, 1) := dk_9 (dk_at dksX9_readWord_0 6 rfl rfl)
theorem dX9_readWord_7 : decode cX9_readWord 7 = .ok (.putfield 59, 3) := dk_181 0 59 (dk_at dksX9_readWord_0 7 rfl rfl)
theorem dX9_readWord_10 : decode cX9_readWord 10 = .ok (.aload_n 0, 1) := dk_42 (dk_at dksX9_readWord_0 10 rfl rfl)
theorem dX9_readWord_11 : decode cX9_readWord 11 = .ok (.aload_n 0, 1) := dk_42 (dk_at dksX9_readWord_0 11 rfl rfl)
theorem dX9_readWord_12 : decode cX9_readWord 12 = .ok (.getfield 33, 3) := dk_180 0 33 (dk_at dksX9_readWord_0 12 rfl rfl)
theorem dX9_readWord_15 : decode cX9_readWord 15 = .ok (.putfield 30, 3) := dk_181 0 30 (dk_at dksX9_readWord_0 15 rfl rfl)
theorem dX9_readWord_18 : decode cX9_readWord 18 = .ok (.aload_n 0, 1) := dk_42 (dk_at dksX9_readWord_0 18 rfl rfl)
theorem dX9_readWord_19 : decode cX9_readWord 19 = .ok (.aload_n 0, 1) := dk_42 (dk_at dksX9_readWord_0 19 rfl rfl)
theorem dX9_readWord_20 : decode cX9_readWord 20 = .ok (.getfield 30, 3) := dk_180 0 30 (dk_at dksX9_readWord_0 20 rfl rfl)
theorem dX9_readWord_23 : decode cX9_readWord 23 = .ok (.invokevirtual 36, 3) := dk_182 0 36 (dk_at dksX9_readWord_1 0 rfl rfl)
theorem dX9_readWord_26 : decode cX9_readWord 26 = .ok (.invokestatic 43, 3) := dk_184 0 43 (dk_at dksX9_readWord_1 3 rfl rfl)
theorem dX9_readWord_29 : decode cX9_readWord 29 = .ok (.ifCond .eq 58, 3) := dk_153 0 58 (dk_at dksX9_readWord_1 6 rfl rfl)
theorem dX9_readWord_32 : decode cX9_readWord 32 = .ok (.aload_n 0, 1) := dk_42 (dk_at dksX9_readWord_1 9 rfl rfl)
theorem dX9_readWord_33 : decode cX9_readWord 33 = .ok (.aload_n 0, 1) := dk_42 (dk_at dksX9_readWord_1 10 rfl rfl)
theorem dX9_readWord_34 : decode cX9_readWord 34 = .ok (.getfield 30, 3) := dk_180 0 30 (dk_at dksX9_readWord_1 11 rfl rfl)
theorem dX9_readWord_37 : decode cX9_readWord 37 = .ok (.aload_n 0, 1) := dk_42 (dk_at dksX9_readWord_1 14 rfl rfl)
theorem dX9_readWord_38 : decode cX9_readWord 38 = .ok (.getfield 33, 3) := dk_180 0 33 (dk_at dksX9_readWord_1 15 rfl rfl)
theorem dX9_readWord_41 : decode cX9_readWord 41 = .ok (.isub, 1) := dk_100 (dk_at dksX9_readWord_1 18 rfl rfl)
theorem dX9_readWord_42 : decode cX9_readWord 42 = .ok (.bipush 8, 2) := dk_16 8 (dk_at dksX9_readWord_1 19 rfl rfl)
theorem dX9_readWord_44 : decode cX9_readWord 44 = .ok (.if_icmp .ge 23, 3) := dk_162 0 23 (dk_at dksX9_readWord_1 21 rfl rfl)
theorem dX9_readWord_47 : decode cX9_readWord 47 = .ok (.aload_n 0, 1) := dk_42 (dk_at dksX9_readWord_2 0 rfl rfl)
theorem dX9_readWord_48 : decode cX9_readWord 48 = .ok (.getfield 59, 3) := dk_180 0 59 (dk_at dksX9_readWord_2 1 rfl rfl)
theorem dX9_readWord_51 : decode cX9_readWord 51 = .ok (.bipush 8, 2) := dk_16 8 (dk_at dksX9_readWord_2 4 rfl rfl)
theorem dX9_readWord_53 : decode cX9_readWord 53 = .ok (.lshl, 1) := dk_121 (dk_at dksX9_readWord_2 6 rfl rfl)
theorem dX9_readWord_54 : decode cX9_readWord 54 = .ok (.aload_n 0, 1) := dk_42 (dk_at dksX9_readWord_2 7 rfl rfl)
theorem dX9_readWord_55 : decode cX9_readWord 55 = .ok (.aload_n 0, 1) := dk_42 (dk_at dksX9_readWord_2 8 rfl rfl)
theorem dX9_readWord_56 : decode cX9_readWord 56 = .ok (.getfield 30, 3) := dk_180 0 30 (dk_at dksX9_readWord_2 9 rfl rfl)
theorem dX9_readWord_59 : decode cX9_readWord 59 = .ok (.invokevirtual 36, 3) := dk_182 0 36 (dk_at dksX9_readWord_2 12 rfl rfl)
theorem dX9_readWord_62 : decode cX9_readWord 62 = .ok (.i2l, 1) := dk_133 (dk_at dksX9_readWord_2 15 rfl rfl)
theorem dX9_readWord_63 : decode cX9_readWord 63 = .ok (.lor, 1) := dk_129 (dk_at dksX9_readWord_2 16 rfl rfl)
theorem dX9_readWord_64 : decode cX9_readWord 64 = .ok (.goto 7, 3) := dk_167 0 7 (dk_at dksX9_readWord_2 17 rfl rfl)
theorem dX9_readWord_67 : decode cX9_readWord 67 = .ok (.aload_n 0, 1) := dk_42 (dk_at dksX9_readWord_2 20 rfl rfl)
theorem dX9_readWord_68 : decode cX9_readWord 68 = .ok (.getfield 59, 3) := dk_180 0 59 (dk_at dksX9_readWord_2 21 rfl rfl)
theorem dX9_readWord_71 : decode cX9_readWord 71 = .ok (.putfield 59, 3) := dk_181 0 59 (dk_at dksX9_readWord_3 0 rfl rfl)
theorem dX9_readWord_74 : decode cX9_readWord 74 = .ok (.aload_n 0, 1) := dk_42 (dk_at dksX9_readWord_3 3 rfl rfl)
theorem dX9_readWord_75 : decode cX9_readWord 75 = .ok (.dup, 1) := dk_89 (dk_at dksX9_readWord_3 4 rfl rfl)
theorem dX9_readWord_76 : decode cX9_readWord 76 = .ok (.getfield 30, 3) := dk_180 0 30 (dk_at dksX9_readWord_3 5 rfl rfl)
theorem dX9_readWord_79 : decode cX9_readWord 79 = .ok (.iconst 1, 1) := dk_4 (dk_at dksX9_readWord_3 8 rfl rfl)
theorem dX9_readWord_80 : decode cX9_readWord 80 = .ok (.iadd, 1) := dk_96 (dk_at dksX9_readWord_3 9 rfl rfl)
theorem dX9_readWord_81 : decode cX9_readWord 81 = .ok (.putfield 30, 3) := dk_181 0 30 (dk_at dksX9_readWord_3 10 rfl rfl)
theorem dX9_readWord_84 : decode cX9_readWord 84 = .ok (.goto (-66), 3) := dk_167 255 190 (dk_at dksX9_readWord_3 13 rfl rfl)
theorem dX9_readWord_87 : decode cX9_readWord 87 = .ok (.aload_n 0, 1) := dk_42 (dk_at dksX9_readWord_3 16 rfl rfl)
theorem dX9_readWord_88 : decode cX9_readWord 88 = .ok (.getfield 30, 3) := dk_180 0 30 (dk_at dksX9_readWord_3 17 rfl rfl)
theorem dX9_readWord_91 : decode cX9_readWord 91 = .ok (.aload_n 0, 1) := dk_42 (dk_at dksX9_readWord_3 20 rfl rfl)
theorem dX9_readWord_92 : decode cX9_readWord 92 = .ok (.getfield 33, 3) := dk_180 0 33 (dk_at dksX9_readWord_3 21 rfl rfl)
theorem dX9_readWord_95 : decode cX9_readWord 95 = .ok (.isub, 1) := dk_100 (dk_at dksX9_readWord_4 0 rfl rfl)
theorem dX9_readWord_96 : decode cX9_readWord 96 = .ok (.bipush 8, 2) := dk_16 8 (dk_at dksX9_readWord_4 1 rfl rfl)
theorem dX9_readWord_98 : decode cX9_readWord 98 = .ok (.if_icmp .le 8, 3) := dk_164 0 8 (dk_at dksX9_readWord_4 3 rfl rfl)
theorem dX9_readWord_101 : decode cX9_readWord 101 = .ok (.aload_n 0, 1) := dk_42 (dk_at dksX9_readWord_4 6 rfl rfl)
theorem dX9_readWord_102 : decode cX9_readWord 102 = .ok (.iconst 4, 1) := dk_7 (dk_at dksX9_readWord_4 7 rfl rfl)
theorem dX9_readWord_103 : decode cX9_readWord 103 = .ok (.putfield 40, 3) := dk_181 0 40 (dk_at dksX9_readWord_4 8 rfl rfl)
theorem dX9_readWord_106 : decode cX9_readWord 106 = .ok (.return_, 1) := dk_177 (dk_at dksX9_readWord_4 11 rfl rfl)
abbrev cX9_isDigit : ByteArray := prog_12_method_4_code
def yX9_isDigit : MethodName := ⟨RX9, "isDigit", "(I)Z"⟩
def dkwX9_isDigit_0 : List UInt8 := [26, 16, 48, 161, 0, 13, 26, 16, 57, 163, 0, 7, 4, 167, 0, 4, 3, 172]
abbrev dktX9_isDigit_0 : List UInt8 := dkwX9_isDigit_0 ++ []
theorem dksX9_isDigit_0 : cX9_isDigit.data.toList.drop 0 = dktX9_isDigit_0 := by decide +kernel
theorem dX9_isDigit_0 : decode cX9_isDigit 0 = .ok (.iload_n 0, 1) := dk_26 (dk_at dksX9_isDigit_0 0 rfl rfl)
theorem dX9_isDigit_1 : decode cX9_isDigit 1 = .ok (.bipush 48, 2) := dk_16 48 (dk_at dksX9_isDigit_0 1 rfl rfl)
theorem dX9_isDigit_3 : decode cX9_isDigit 3 = .ok (.if_icmp .lt 13, 3) := dk_161 0 13 (dk_at dksX9_isDigit_0 3 rfl rfl)
theorem dX9_isDigit_6 : decode cX9_isDigit 6 = .ok (.iload_n 0, 1) := dk_26 (dk_at dksX9_isDigit_0 6 rfl rfl)
theorem dX9_isDigit_7 : decode cX9_isDigit 7 = .ok (.bipush 57, 2) := dk_16 57 (dk_at dksX9_isDigit_0 7 rfl rfl)
theorem dX9_isDigit_9 : decode cX9_isDigit 9 = .ok (.if_icmp .gt 7, 3) := dk_163 0 7 (dk_at dksX9_isDigit_0 9 rfl rfl)
theorem dX9_isDigit_12 : decode cX9_isDigit 12 = .ok (.iconst 1, 1) := dk_4 (dk_at dksX9_isDigit_0 12 rfl rfl)
theorem dX9_isDigit_13 : decode cX9_isDigit 13 = .ok (.goto 4, 3) := dk_167 0 4 (dk_at dksX9_isDigit_0 13 rfl rfl)
theorem dX9_isDigit_16 : decode cX9_isDigit 16 = .ok (.iconst 0, 1) := dk_3 (dk_at dksX9_isDigit_0 16 rfl rfl)
theorem dX9_isDigit_17 : decode cX9_isDigit 17 = .ok (.ireturn, 1) := dk_172 (dk_at dksX9_isDigit_0 17 rfl rfl)
abbrev cX9_readNumber : ByteArray := prog_12_method_8_code
def yX9_readNumber : MethodName := ⟨RX9, "readNumber", "()V"⟩
def dkwX9_readNumber_5 : List UInt8 := [181, 0, 40, 177]
abbrev dktX9_readNumber_5 : List UInt8 := dkwX9_readNumber_5 ++ []
def dkwX9_readNumber_4 : List UInt8 := [180, 0, 33, 100, 7, 163, 0, 17, 42, 42, 180, 0, 30, 182, 0, 36, 184, 0, 43, 153, 0, 8, 42, 7]
abbrev dktX9_readNumber_4 : List UInt8 := dkwX9_readNumber_4 ++ dktX9_readNumber_5
def dkwX9_readNumber_3 : List UInt8 := [180, 0, 63, 181, 0, 63, 42, 89, 180, 0, 30, 4, 96, 181, 0, 30, 167, 255, 189, 42, 180, 0, 30, 42]
abbrev dktX9_readNumber_3 : List UInt8 := dkwX9_readNumber_3 ++ dktX9_readNumber_4
def dkwX9_readNumber_2 : List UInt8 := [16, 10, 42, 180, 0, 63, 104, 42, 42, 180, 0, 30, 182, 0, 36, 96, 16, 48, 100, 167, 0, 7, 42]
abbrev dktX9_readNumber_2 : List UInt8 := dkwX9_readNumber_2 ++ dktX9_readNumber_3
def dkwX9_readNumber_1 : List UInt8 := [182, 0, 36, 184, 0, 50, 153, 0, 59, 42, 42, 180, 0, 30, 42, 180, 0, 33, 100, 7, 162, 0, 25]
abbrev dktX9_readNumber_1 : List UInt8 := dkwX9_readNumber_1 ++ dktX9_readNumber_2
def dkwX9_readNumber_0 : List UInt8 := [42, 5, 181, 0, 40, 42, 3, 181, 0, 63, 42, 42, 180, 0, 33, 181, 0, 30, 42, 42, 180, 0, 30]
abbrev dktX9_readNumber_0 : List UInt8 := dkwX9_readNumber_0 ++ dktX9_readNumber_1
theorem dksX9_readNumber_0 : cX9_readNumber.data.toList.drop 0 = dktX9_readNumber_0 := by decide +kernel
theorem dksX9_readNumber_1 : cX9_readNumber.data.toList.drop 23 = dktX9_readNumber_1 := dk_seg dksX9_readNumber_0 23 rfl rfl
theorem dksX9_readNumber_2 : cX9_readNumber.data.toList.drop 46 = dktX9_readNumber_2 := dk_seg dksX9_readNumber_1 23 rfl rfl
theorem dksX9_readNumber_3 : cX9_readNumber.data.toList.drop 69 = dktX9_readNumber_3 := dk_seg dksX9_readNumber_2 23 rfl rfl
theorem dksX9_readNumber_4 : cX9_readNumber.data.toList.drop 93 = dktX9_readNumber_4 := dk_seg dksX9_readNumber_3 24 rfl rfl
theorem dksX9_readNumber_5 : cX9_readNumber.data.toList.drop 117 = dktX9_readNumber_5 := dk_seg dksX9_readNumber_4 24 rfl rfl
theorem dX9_readNumber_0 : decode cX9_readNumber 0 = .ok (.aload_n 0, 1) := dk_42 (dk_at dksX9_readNumber_0 0 rfl rfl)
theorem dX9_readNumber_1 : decode cX9_readNumber 1 = .ok (.iconst 2, 1) := dk_5 (dk_at dksX9_readNumber_0 1 rfl rfl)
theorem dX9_readNumber_2 : decode cX9_readNumber 2 = .ok (.putfield 40, 3) := dk_181 0 40 (dk_at dksX9_readNumber_0 2 rfl rfl)
theorem dX9_readNumber_5 : decode cX9_readNumber 5 = .ok (.aload_n 0, 1) := dk_42 (dk_at dksX9_readNumber_0 5 rfl rfl)
theorem dX9_readNumber_6 : decode cX9_readNumber 6 = .ok (.iconst 0, 1) := dk_3 (dk_at dksX9_readNumber_0 6 rfl rfl)
theorem dX9_readNumber_7 : decode cX9_readNumber 7 = .ok (.putfield 63, 3) := dk_181 0 63 (dk_at dksX9_readNumber_0 7 rfl rfl)
theorem dX9_readNumber_10 : decode cX9_readNumber 10 = .ok (.aload_n 0, 1) := dk_42 (dk_at dksX9_readNumber_0 10 rfl rfl)
theorem dX9_readNumber_11 : decode cX9_readNumber 11 = .ok (.aload_n 0, 1) := dk_42 (dk_at dksX9_readNumber_0 11 rfl rfl)
theorem dX9_readNumber_12 : decode cX9_readNumber 12 = .ok (.getfield 33, 3) := dk_180 0 33 (dk_at dksX9_readNumber_0 12 rfl rfl)
theorem dX9_readNumber_15 : decode cX9_readNumber 15 = .ok (.putfield 30, 3) := dk_181 0 30 (dk_at dksX9_readNumber_0 15 rfl rfl)
theorem dX9_readNumber_18 : decode cX9_readNumber 18 = .ok (.aload_n 0, 1) := dk_42 (dk_at dksX9_readNumber_0 18 rfl rfl)
theorem dX9_readNumber_19 : decode cX9_readNumber 19 = .ok (.aload_n 0, 1) := dk_42 (dk_at dksX9_readNumber_0 19 rfl rfl)
theorem dX9_readNumber_20 : decode cX9_readNumber 20 = .ok (.getfield 30, 3) := dk_180 0 30 (dk_at dksX9_readNumber_0 20 rfl rfl)
theorem dX9_readNumber_23 : decode cX9_readNumber 23 = .ok (.invokevirtual 36, 3) := dk_182 0 36 (dk_at dksX9_readNumber_1 0 rfl rfl)
theorem dX9_readNumber_26 : decode cX9_readNumber 26 = .ok (.invokestatic 50, 3) := dk_184 0 50 (dk_at dksX9_readNumber_1 3 rfl rfl)
theorem dX9_readNumber_29 : decode cX9_readNumber 29 = .ok (.ifCond .eq 59, 3) := dk_153 0 59 (dk_at dksX9_readNumber_1 6 rfl rfl)
theorem dX9_readNumber_32 : decode cX9_readNumber 32 = .ok (.aload_n 0, 1) := dk_42 (dk_at dksX9_readNumber_1 9 rfl rfl)
theorem dX9_readNumber_33 : decode cX9_readNumber 33 = .ok (.aload_n 0, 1) := dk_42 (dk_at dksX9_readNumber_1 10 rfl rfl)
theorem dX9_readNumber_34 : decode cX9_readNumber 34 = .ok (.getfield 30, 3) := dk_180 0 30 (dk_at dksX9_readNumber_1 11 rfl rfl)
theorem dX9_readNumber_37 : decode cX9_readNumber 37 = .ok (.aload_n 0, 1) := dk_42 (dk_at dksX9_readNumber_1 14 rfl rfl)
theorem dX9_readNumber_38 : decode cX9_readNumber 38 = .ok (.getfield 33, 3) := dk_180 0 33 (dk_at dksX9_readNumber_1 15 rfl rfl)
theorem dX9_readNumber_41 : decode cX9_readNumber 41 = .ok (.isub, 1) := dk_100 (dk_at dksX9_readNumber_1 18 rfl rfl)
theorem dX9_readNumber_42 : decode cX9_readNumber 42 = .ok (.iconst 4, 1) := dk_7 (dk_at dksX9_readNumber_1 19 rfl rfl)
theorem dX9_readNumber_43 : decode cX9_readNumber 43 = .ok (.if_icmp .ge 25, 3) := dk_162 0 25 (dk_at dksX9_readNumber_1 20 rfl rfl)
theorem dX9_readNumber_46 : decode cX9_readNumber 46 = .ok (.bipush 10, 2) := dk_16 10 (dk_at dksX9_readNumber_2 0 rfl rfl)
theorem dX9_readNumber_48 : decode cX9_readNumber 48 = .ok (.aload_n 0, 1) := dk_42 (dk_at dksX9_readNumber_2 2 rfl rfl)
theorem dX9_readNumber_49 : decode cX9_readNumber 49 = .ok (.getfield 63, 3) := dk_180 0 63 (dk_at dksX9_readNumber_2 3 rfl rfl)
theorem dX9_readNumber_52 : decode cX9_readNumber 52 = .ok (.imul, 1) := dk_104 (dk_at dksX9_readNumber_2 6 rfl rfl)
theorem dX9_readNumber_53 : decode cX9_readNumber 53 = .ok (.aload_n 0, 1) := dk_42 (dk_at dksX9_readNumber_2 7 rfl rfl)
theorem dX9_readNumber_54 : decode cX9_readNumber 54 = .ok (.aload_n 0, 1) := dk_42 (dk_at dksX9_readNumber_2 8 rfl rfl)
theorem dX9_readNumber_55 : decode cX9_readNumber 55 = .ok (.getfield 30, 3) := dk_180 0 30 (dk_at dksX9_readNumber_2 9 rfl rfl)
theorem dX9_readNumber_58 : decode cX9_readNumber 58 = .ok (.invokevirtual 36, 3) := dk_182 0 36 (dk_at dksX9_readNumber_2 12 rfl rfl)
theorem dX9_readNumber_61 : decode cX9_readNumber 61 = .ok (.iadd, 1) := dk_96 (dk_at dksX9_readNumber_2 15 rfl rfl)
theorem dX9_readNumber_62 : decode cX9_readNumber 62 = .ok (.bipush 48, 2) := dk_16 48 (dk_at dksX9_readNumber_2 16 rfl rfl)
theorem dX9_readNumber_64 : decode cX9_readNumber 64 = .ok (.isub, 1) := dk_100 (dk_at dksX9_readNumber_2 18 rfl rfl)
theorem dX9_readNumber_65 : decode cX9_readNumber 65 = .ok (.goto 7, 3) := dk_167 0 7 (dk_at dksX9_readNumber_2 19 rfl rfl)
theorem dX9_readNumber_68 : decode cX9_readNumber 68 = .ok (.aload_n 0, 1) := dk_42 (dk_at dksX9_readNumber_2 22 rfl rfl)
theorem dX9_readNumber_69 : decode cX9_readNumber 69 = .ok (.getfield 63, 3) := dk_180 0 63 (dk_at dksX9_readNumber_3 0 rfl rfl)
theorem dX9_readNumber_72 : decode cX9_readNumber 72 = .ok (.putfield 63, 3) := dk_181 0 63 (dk_at dksX9_readNumber_3 3 rfl rfl)
theorem dX9_readNumber_75 : decode cX9_readNumber 75 = .ok (.aload_n 0, 1) := dk_42 (dk_at dksX9_readNumber_3 6 rfl rfl)
theorem dX9_readNumber_76 : decode cX9_readNumber 76 = .ok (.dup, 1) := dk_89 (dk_at dksX9_readNumber_3 7 rfl rfl)
theorem dX9_readNumber_77 : decode cX9_readNumber 77 = .ok (.getfield 30, 3) := dk_180 0 30 (dk_at dksX9_readNumber_3 8 rfl rfl)
theorem dX9_readNumber_80 : decode cX9_readNumber 80 = .ok (.iconst 1, 1) := dk_4 (dk_at dksX9_readNumber_3 11 rfl rfl)
theorem dX9_readNumber_81 : decode cX9_readNumber 81 = .ok (.iadd, 1) := dk_96 (dk_at dksX9_readNumber_3 12 rfl rfl)
theorem dX9_readNumber_82 : decode cX9_readNumber 82 = .ok (.putfield 30, 3) := dk_181 0 30 (dk_at dksX9_readNumber_3 13 rfl rfl)
theorem dX9_readNumber_85 : decode cX9_readNumber 85 = .ok (.goto (-67), 3) := dk_167 255 189 (dk_at dksX9_readNumber_3 16 rfl rfl)
theorem dX9_readNumber_88 : decode cX9_readNumber 88 = .ok (.aload_n 0, 1) := dk_42 (dk_at dksX9_readNumber_3 19 rfl rfl)
theorem dX9_readNumber_89 : decode cX9_readNumber 89 = .ok (.getfield 30, 3) := dk_180 0 30 (dk_at dksX9_readNumber_3 20 rfl rfl)
theorem dX9_readNumber_92 : decode cX9_readNumber 92 = .ok (.aload_n 0, 1) := dk_42 (dk_at dksX9_readNumber_3 23 rfl rfl)
theorem dX9_readNumber_93 : decode cX9_readNumber 93 = .ok (.getfield 33, 3) := dk_180 0 33 (dk_at dksX9_readNumber_4 0 rfl rfl)
theorem dX9_readNumber_96 : decode cX9_readNumber 96 = .ok (.isub, 1) := dk_100 (dk_at dksX9_readNumber_4 3 rfl rfl)
theorem dX9_readNumber_97 : decode cX9_readNumber 97 = .ok (.iconst 4, 1) := dk_7 (dk_at dksX9_readNumber_4 4 rfl rfl)
theorem dX9_readNumber_98 : decode cX9_readNumber 98 = .ok (.if_icmp .gt 17, 3) := dk_163 0 17 (dk_at dksX9_readNumber_4 5 rfl rfl)
theorem dX9_readNumber_101 : decode cX9_readNumber 101 = .ok (.aload_n 0, 1) := dk_42 (dk_at dksX9_readNumber_4 8 rfl rfl)
theorem dX9_readNumber_102 : decode cX9_readNumber 102 = .ok (.aload_n 0, 1) := dk_42 (dk_at dksX9_readNumber_4 9 rfl rfl)
theorem dX9_readNumber_103 : decode cX9_readNumber 103 = .ok (.getfield 30, 3) := dk_180 0 30 (dk_at dksX9_readNumber_4 10 rfl rfl)
theorem dX9_readNumber_106 : decode cX9_readNumber 106 = .ok (.invokevirtual 36, 3) := dk_182 0 36 (dk_at dksX9_readNumber_4 13 rfl rfl)
theorem dX9_readNumber_109 : decode cX9_readNumber 109 = .ok (.invokestatic 43, 3) := dk_184 0 43 (dk_at dksX9_readNumber_4 16 rfl rfl)
theorem dX9_readNumber_112 : decode cX9_readNumber 112 = .ok (.ifCond .eq 8, 3) := dk_153 0 8 (dk_at dksX9_readNumber_4 19 rfl rfl)
theorem dX9_readNumber_115 : decode cX9_readNumber 115 = .ok (.aload_n 0, 1) := dk_42 (dk_at dksX9_readNumber_4 22 rfl rfl)
theorem dX9_readNumber_116 : decode cX9_readNumber 116 = .ok (.iconst 4, 1) := dk_7 (dk_at dksX9_readNumber_4 23 rfl rfl)
theorem dX9_readNumber_117 : decode cX9_readNumber 117 = .ok (.putfield 40, 3) := dk_181 0 40 (dk_at dksX9_readNumber_5 0 rfl rfl)
theorem dX9_readNumber_120 : decode cX9_readNumber 120 = .ok (.return_, 1) := dk_177 (dk_at dksX9_readNumber_5 3 rfl rfl)
abbrev cX9_isSign : ByteArray := prog_12_method_5_code
def yX9_isSign : MethodName := ⟨RX9, "isSign", "(I)Z"⟩
def dkwX9_isSign_2 : List UInt8 := [26, 16, 42, 159, 0, 15, 26, 16, 47, 159, 0, 9, 26, 16, 37, 160, 0, 7, 4, 167, 0, 4, 3, 172]
abbrev dktX9_isSign_2 : List UInt8 := dkwX9_isSign_2 ++ []
def dkwX9_isSign_1 : List UInt8 := [26, 16, 62, 159, 0, 39, 26, 16, 61, 159, 0, 33, 26, 16, 43, 159, 0, 27, 26, 16, 45, 159, 0, 21]
abbrev dktX9_isSign_1 : List UInt8 := dkwX9_isSign_1 ++ dktX9_isSign_2
def dkwX9_isSign_0 : List UInt8 := [26, 16, 59, 159, 0, 63, 26, 16, 40, 159, 0, 57, 26, 16, 41, 159, 0, 51, 26, 16, 60, 159, 0, 45]
abbrev dktX9_isSign_0 : List UInt8 := dkwX9_isSign_0 ++ dktX9_isSign_1
theorem dksX9_isSign_0 : cX9_isSign.data.toList.drop 0 = dktX9_isSign_0 := by decide +kernel
theorem dksX9_isSign_1 : cX9_isSign.data.toList.drop 24 = dktX9_isSign_1 := dk_seg dksX9_isSign_0 24 rfl rfl
theorem dksX9_isSign_2 : cX9_isSign.data.toList.drop 48 = dktX9_isSign_2 := dk_seg dksX9_isSign_1 24 rfl rfl
theorem dX9_isSign_0 : decode cX9_isSign 0 = .ok (.iload_n 0, 1) := dk_26 (dk_at dksX9_isSign_0 0 rfl rfl)
theorem dX9_isSign_1 : decode cX9_isSign 1 = .ok (.bipush 59, 2) := dk_16 59 (dk_at dksX9_isSign_0 1 rfl rfl)
theorem dX9_isSign_3 : decode cX9_isSign 3 = .ok (.if_icmp .eq 63, 3) := dk_159 0 63 (dk_at dksX9_isSign_0 3 rfl rfl)
theorem dX9_isSign_6 : decode cX9_isSign 6 = .ok (.iload_n 0, 1) := dk_26 (dk_at dksX9_isSign_0 6 rfl rfl)
theorem dX9_isSign_7 : decode cX9_isSign 7 = .ok (.bipush 40, 2) := dk_16 40 (dk_at dksX9_isSign_0 7 rfl rfl)
theorem dX9_isSign_9 : decode cX9_isSign 9 = .ok (.if_icmp .eq 57, 3) := dk_159 0 57 (dk_at dksX9_isSign_0 9 rfl rfl)
theorem dX9_isSign_12 : decode cX9_isSign 12 = .ok (.iload_n 0, 1) := dk_26 (dk_at dksX9_isSign_0 12 rfl rfl)
theorem dX9_isSign_13 : decode cX9_isSign 13 = .ok (.bipush 41, 2) := dk_16 41 (dk_at dksX9_isSign_0 13 rfl rfl)
theorem dX9_isSign_15 : decode cX9_isSign 15 = .ok (.if_icmp .eq 51, 3) := dk_159 0 51 (dk_at dksX9_isSign_0 15 rfl rfl)
theorem dX9_isSign_18 : decode cX9_isSign 18 = .ok (.iload_n 0, 1) := dk_26 (dk_at dksX9_isSign_0 18 rfl rfl)
theorem dX9_isSign_19 : decode cX9_isSign 19 = .ok (.bipush 60, 2) := dk_16 60 (dk_at dksX9_isSign_0 19 rfl rfl)
theorem dX9_isSign_21 : decode cX9_isSign 21 = .ok (.if_icmp .eq 45, 3) := dk_159 0 45 (dk_at dksX9_isSign_0 21 rfl rfl)
theorem dX9_isSign_24 : decode cX9_isSign 24 = .ok (.iload_n 0, 1) := dk_26 (dk_at dksX9_isSign_1 0 rfl rfl)
theorem dX9_isSign_25 : decode cX9_isSign 25 = .ok (.bipush 62, 2) := dk_16 62 (dk_at dksX9_isSign_1 1 rfl rfl)
theorem dX9_isSign_27 : decode cX9_isSign 27 = .ok (.if_icmp .eq 39, 3) := dk_159 0 39 (dk_at dksX9_isSign_1 3 rfl rfl)
theorem dX9_isSign_30 : decode cX9_isSign 30 = .ok (.iload_n 0, 1) := dk_26 (dk_at dksX9_isSign_1 6 rfl rfl)
theorem dX9_isSign_31 : decode cX9_isSign 31 = .ok (.bipush 61, 2) := dk_16 61 (dk_at dksX9_isSign_1 7 rfl rfl)
theorem dX9_isSign_33 : decode cX9_isSign 33 = .ok (.if_icmp .eq 33, 3) := dk_159 0 33 (dk_at dksX9_isSign_1 9 rfl rfl)
theorem dX9_isSign_36 : decode cX9_isSign 36 = .ok (.iload_n 0, 1) := dk_26 (dk_at dksX9_isSign_1 12 rfl rfl)
theorem dX9_isSign_37 : decode cX9_isSign 37 = .ok (.bipush 43, 2) := dk_16 43 (dk_at dksX9_isSign_1 13 rfl rfl)
theorem dX9_isSign_39 : decode cX9_isSign 39 = .ok (.if_icmp .eq 27, 3) := dk_159 0 27 (dk_at dksX9_isSign_1 15 rfl rfl)
theorem dX9_isSign_42 : decode cX9_isSign 42 = .ok (.iload_n 0, 1) := dk_26 (dk_at dksX9_isSign_1 18 rfl rfl)
theorem dX9_isSign_43 : decode cX9_isSign 43 = .ok (.bipush 45, 2) := dk_16 45 (dk_at dksX9_isSign_1 19 rfl rfl)
theorem dX9_isSign_45 : decode cX9_isSign 45 = .ok (.if_icmp .eq 21, 3) := dk_159 0 21 (dk_at dksX9_isSign_1 21 rfl rfl)
theorem dX9_isSign_48 : decode cX9_isSign 48 = .ok (.iload_n 0, 1) := dk_26 (dk_at dksX9_isSign_2 0 rfl rfl)
theorem dX9_isSign_49 : decode cX9_isSign 49 = .ok (.bipush 42, 2) := dk_16 42 (dk_at dksX9_isSign_2 1 rfl rfl)
theorem dX9_isSign_51 : decode cX9_isSign 51 = .ok (.if_icmp .eq 15, 3) := dk_159 0 15 (dk_at dksX9_isSign_2 3 rfl rfl)
theorem dX9_isSign_54 : decode cX9_isSign 54 = .ok (.iload_n 0, 1) := dk_26 (dk_at dksX9_isSign_2 6 rfl rfl)
theorem dX9_isSign_55 : decode cX9_isSign 55 = .ok (.bipush 47, 2) := dk_16 47 (dk_at dksX9_isSign_2 7 rfl rfl)
theorem dX9_isSign_57 : decode cX9_isSign 57 = .ok (.if_icmp .eq 9, 3) := dk_159 0 9 (dk_at dksX9_isSign_2 9 rfl rfl)
theorem dX9_isSign_60 : decode cX9_isSign 60 = .ok (.iload_n 0, 1) := dk_26 (dk_at dksX9_isSign_2 12 rfl rfl)
theorem dX9_isSign_61 : decode cX9_isSign 61 = .ok (.bipush 37, 2) := dk_16 37 (dk_at dksX9_isSign_2 13 rfl rfl)
theorem dX9_isSign_63 : decode cX9_isSign 63 = .ok (.if_icmp .ne 7, 3) := dk_160 0 7 (dk_at dksX9_isSign_2 15 rfl rfl)
theorem dX9_isSign_66 : decode cX9_isSign 66 = .ok (.iconst 1, 1) := dk_4 (dk_at dksX9_isSign_2 18 rfl rfl)
theorem dX9_isSign_67 : decode cX9_isSign 67 = .ok (.goto 4, 3) := dk_167 0 4 (dk_at dksX9_isSign_2 19 rfl rfl)
theorem dX9_isSign_70 : decode cX9_isSign 70 = .ok (.iconst 0, 1) := dk_3 (dk_at dksX9_isSign_2 22 rfl rfl)
theorem dX9_isSign_71 : decode cX9_isSign 71 = .ok (.ireturn, 1) := dk_172 (dk_at dksX9_isSign_2 23 rfl rfl)
abbrev cX9_line : ByteArray := prog_12_method_31_code
def yX9_line : MethodName := ⟨RX9, "line", "()V"⟩
def dkwX9_line_10 : List UInt8 := [17, 3, 231, 182, 0, 97, 181, 1, 43, 177]
abbrev dktX9_line_10 : List UInt8 := dkwX9_line_10 ++ []
def dkwX9_line_9 : List UInt8 := [181, 1, 41, 167, 0, 30, 42, 182, 0, 90, 42, 180, 0, 12, 4, 181, 1, 22, 42, 180, 0, 12, 42, 3]
abbrev dktX9_line_9 : List UInt8 := dkwX9_line_9 ++ dktX9_line_10
def dkwX9_line_8 : List UInt8 := [153, 0, 28, 42, 180, 0, 12, 4, 181, 1, 17, 42, 180, 0, 12, 42, 3, 16, 100, 182, 0, 97]
abbrev dktX9_line_8 : List UInt8 := dkwX9_line_8 ++ dktX9_line_9
def dkwX9_line_7 : List UInt8 := [180, 0, 12, 42, 3, 16, 99, 182, 0, 97, 181, 1, 39, 167, 0, 65, 42, 19, 1, 15, 182, 0, 195]
abbrev dktX9_line_7 : List UInt8 := dkwX9_line_7 ++ dktX9_line_8
def dkwX9_line_6 : List UInt8 := [167, 0, 100, 42, 19, 1, 10, 182, 0, 195, 153, 0, 28, 42, 180, 0, 12, 4, 181, 1, 12, 42]
abbrev dktX9_line_6 : List UInt8 := dkwX9_line_6 ++ dktX9_line_7
def dkwX9_line_5 : List UInt8 := [180, 0, 12, 4, 181, 1, 7, 42, 180, 0, 12, 42, 3, 17, 3, 231, 182, 0, 97, 181, 1, 37]
abbrev dktX9_line_5 : List UInt8 := dkwX9_line_5 ++ dktX9_line_6
def dkwX9_line_4 : List UInt8 := [17, 3, 231, 182, 0, 97, 181, 1, 35, 167, 0, 136, 42, 19, 1, 5, 182, 0, 195, 153, 0, 29, 42]
abbrev dktX9_line_4 : List UInt8 := dkwX9_line_4 ++ dktX9_line_5
def dkwX9_line_3 : List UInt8 := [18, 255, 182, 0, 195, 153, 0, 29, 42, 180, 0, 12, 4, 181, 1, 1, 42, 180, 0, 12, 42, 3]
abbrev dktX9_line_3 : List UInt8 := dkwX9_line_3 ++ dktX9_line_4
def dkwX9_line_2 : List UInt8 := [18, 250, 182, 0, 195, 153, 0, 17, 42, 180, 0, 12, 42, 182, 1, 32, 181, 0, 252, 167, 0, 171, 42]
abbrev dktX9_line_2 : List UInt8 := dkwX9_line_2 ++ dktX9_line_3
def dkwX9_line_1 : List UInt8 := [182, 1, 28, 167, 0, 210, 42, 18, 248, 182, 0, 195, 153, 0, 10, 42, 182, 1, 30, 167, 0, 194, 42]
abbrev dktX9_line_1 : List UInt8 := dkwX9_line_1 ++ dktX9_line_2
def dkwX9_line_0 : List UInt8 := [42, 182, 1, 25, 154, 0, 8, 42, 182, 0, 86, 191, 42, 18, 244, 182, 0, 195, 153, 0, 10, 42]
abbrev dktX9_line_0 : List UInt8 := dkwX9_line_0 ++ dktX9_line_1
theorem dksX9_line_0 : cX9_line.data.toList.drop 0 = dktX9_line_0 := by decide +kernel
theorem dksX9_line_1 : cX9_line.data.toList.drop 22 = dktX9_line_1 := dk_seg dksX9_line_0 22 rfl rfl
theorem dksX9_line_2 : cX9_line.data.toList.drop 45 = dktX9_line_2 := dk_seg dksX9_line_1 23 rfl rfl
theorem dksX9_line_3 : cX9_line.data.toList.drop 68 = dktX9_line_3 := dk_seg dksX9_line_2 23 rfl rfl
theorem dksX9_line_4 : cX9_line.data.toList.drop 90 = dktX9_line_4 := dk_seg dksX9_line_3 22 rfl rfl
theorem dksX9_line_5 : cX9_line.data.toList.drop 113 = dktX9_line_5 := dk_seg dksX9_line_4 23 rfl rfl
theorem dksX9_line_6 : cX9_line.data.toList.drop 135 = dktX9_line_6 := dk_seg dksX9_line_5 22 rfl rfl
theorem dksX9_line_7 : cX9_line.data.toList.drop 157 = dktX9_line_7 := dk_seg dksX9_line_6 22 rfl rfl
theorem dksX9_line_8 : cX9_line.data.toList.drop 180 = dktX9_line_8 := dk_seg dksX9_line_7 23 rfl rfl
theorem dksX9_line_9 : cX9_line.data.toList.drop 202 = dktX9_line_9 := dk_seg dksX9_line_8 22 rfl rfl
theorem dksX9_line_10 : cX9_line.data.toList.drop 226 = dktX9_line_10 := dk_seg dksX9_line_9 24 rfl rfl
theorem dX9_line_0 : decode cX9_line 0 = .ok (.aload_n 0, 1) := dk_42 (dk_at dksX9_line_0 0 rfl rfl)
theorem dX9_line_1 : decode cX9_line 1 = .ok (.invokevirtual 281, 3) := dk_182 1 25 (dk_at dksX9_line_0 1 rfl rfl)
theorem dX9_line_4 : decode cX9_line 4 = .ok (.ifCond .ne 8, 3) := dk_154 0 8 (dk_at dksX9_line_0 4 rfl rfl)
theorem dX9_line_7 : decode cX9_line 7 = .ok (.aload_n 0, 1) := dk_42 (dk_at dksX9_line_0 7 rfl rfl)
theorem dX9_line_8 : decode cX9_line 8 = .ok (.invokevirtual 86, 3) := dk_182 0 86 (dk_at dksX9_line_0 8 rfl rfl)
theorem dX9_line_11 : decode cX9_line 11 = .ok (.athrow, 1) := dk_191 (dk_at dksX9_line_0 11 rfl rfl)
theorem dX9_line_12 : decode cX9_line 12 = .ok (.aload_n 0, 1) := dk_42 (dk_at dksX9_line_0 12 rfl rfl)
theorem dX9_line_13 : decode cX9_line 13 = .ok (.ldc 244, 2) := dk_18 244 (dk_at dksX9_line_0 13 rfl rfl)
theorem dX9_line_15 : decode cX9_line 15 = .ok (.invokevirtual 195, 3) := dk_182 0 195 (dk_at dksX9_line_0 15 rfl rfl)
theorem dX9_line_18 : decode cX9_line 18 = .ok (.ifCond .eq 10, 3) := dk_153 0 10 (dk_at dksX9_line_0 18 rfl rfl)
theorem dX9_line_21 : decode cX9_line 21 = .ok (.aload_n 0, 1) := dk_42 (dk_at dksX9_line_0 21 rfl rfl)
theorem dX9_line_22 : decode cX9_line 22 = .ok (.invokevirtual 284, 3) := dk_182 1 28 (dk_at dksX9_line_1 0 rfl rfl)
theorem dX9_line_25 : decode cX9_line 25 = .ok (.goto 210, 3) := dk_167 0 210 (dk_at dksX9_line_1 3 rfl rfl)
theorem dX9_line_28 : decode cX9_line 28 = .ok (.aload_n 0, 1) := dk_42 (dk_at dksX9_line_1 6 rfl rfl)
theorem dX9_line_29 : decode cX9_line 29 = .ok (.ldc 248, 2) := dk_18 248 (dk_at dksX9_line_1 7 rfl rfl)
theorem dX9_line_31 : decode cX9_line 31 = .ok (.invokevirtual 195, 3) := dk_182 0 195 (dk_at dksX9_line_1 9 rfl rfl)
theorem dX9_line_34 : decode cX9_line 34 = .ok (.ifCond .eq 10, 3) := dk_153 0 10 (dk_at dksX9_line_1 12 rfl rfl)
theorem dX9_line_37 : decode cX9_line 37 = .ok (.aload_n 0, 1) := dk_42 (dk_at dksX9_line_1 15 rfl rfl)
theorem dX9_line_38 : decode cX9_line 38 = .ok (.invokevirtual 286, 3) := dk_182 1 30 (dk_at dksX9_line_1 16 rfl rfl)
theorem dX9_line_41 : decode cX9_line 41 = .ok (.goto 194, 3) := dk_167 0 194 (dk_at dksX9_line_1 19 rfl rfl)
theorem dX9_line_44 : decode cX9_line 44 = .ok (.aload_n 0, 1) := dk_42 (dk_at dksX9_line_1 22 rfl rfl)
theorem dX9_line_45 : decode cX9_line 45 = .ok (.ldc 250, 2) := dk_18 250 (dk_at dksX9_line_2 0 rfl rfl)
theorem dX9_line_47 : decode cX9_line 47 = .ok (.invokevirtual 195, 3) := dk_182 0 195 (dk_at dksX9_line_2 2 rfl rfl)
theorem dX9_line_50 : decode cX9_line 50 = .ok (.ifCond .eq 17, 3) := dk_153 0 17 (dk_at dksX9_line_2 5 rfl rfl)
theorem dX9_line_53 : decode cX9_line 53 = .ok (.aload_n 0, 1) := dk_42 (dk_at dksX9_line_2 8 rfl rfl)
theorem dX9_line_54 : decode cX9_line 54 = .ok (.getfield 12, 3) := dk_180 0 12 (dk_at dksX9_line_2 9 rfl rfl)
theorem dX9_line_57 : decode cX9_line 57 = .ok (.aload_n 0, 1) := dk_42 (dk_at dksX9_line_2 12 rfl rfl)
theorem dX9_line_58 : decode cX9_line 58 = .ok (.invokevirtual 288, 3) := dk_182 1 32 (dk_at dksX9_line_2 13 rfl rfl)
theorem dX9_line_61 : decode cX9_line 61 = .ok (.putfield 252, 3) := dk_181 0 252 (dk_at dksX9_line_2 16 rfl rfl)
theorem dX9_line_64 : decode cX9_line 64 = .ok (.goto 171, 3) := dk_167 0 171 (dk_at dksX9_line_2 19 rfl rfl)
theorem dX9_line_67 : decode cX9_line 67 = .ok (.aload_n 0, 1) := dk_42 (dk_at dksX9_line_2 22 rfl rfl)
theorem dX9_line_68 : decode cX9_line 68 = .ok (.ldc 255, 2) := dk_18 255 (dk_at dksX9_line_3 0 rfl rfl)
theorem dX9_line_70 : decode cX9_line 70 = .ok (.invokevirtual 195, 3) := dk_182 0 195 (dk_at dksX9_line_3 2 rfl rfl)
theorem dX9_line_73 : decode cX9_line 73 = .ok (.ifCond .eq 29, 3) := dk_153 0 29 (dk_at dksX9_line_3 5 rfl rfl)
theorem dX9_line_76 : decode cX9_line 76 = .ok (.aload_n 0, 1) := dk_42 (dk_at dksX9_line_3 8 rfl rfl)
theorem dX9_line_77 : decode cX9_line 77 = .ok (.getfield 12, 3) := dk_180 0 12 (dk_at dksX9_line_3 9 rfl rfl)
theorem dX9_line_80 : decode cX9_line 80 = .ok (.iconst 1, 1) := dk_4 (dk_at dksX9_line_3 12 rfl rfl)
theorem dX9_line_81 : decode cX9_line 81 = .ok (.putfield 257, 3) := dk_181 1 1 (dk_at dksX9_line_3 13 rfl rfl)
theorem dX9_line_84 : decode cX9_line 84 = .ok (.aload_n 0, 1) := dk_42 (dk_at dksX9_line_3 16 rfl rfl)
theorem dX9_line_85 : decode cX9_line 85 = .ok (.getfield 12, 3) := dk_180 0 12 (dk_at dksX9_line_3 17 rfl rfl)
theorem dX9_line_88 : decode cX9_line 88 = .ok (.aload_n 0, 1) := dk_42 (dk_at dksX9_line_3 20 rfl rfl)
theorem dX9_line_89 : decode cX9_line 89 = .ok (.iconst 0, 1) := dk_3 (dk_at dksX9_line_3 21 rfl rfl)
theorem dX9_line_90 : decode cX9_line 90 = .ok (.sipush 999, 3) := dk_17 3 231 (dk_at dksX9_line_4 0 rfl rfl)
theorem dX9_line_93 : decode cX9_line 93 = .ok (.invokevirtual 97, 3) := dk_182 0 97 (dk_at dksX9_line_4 3 rfl rfl)
theorem dX9_line_96 : decode cX9_line 96 = .ok (.putfield 291, 3) := dk_181 1 35 (dk_at dksX9_line_4 6 rfl rfl)
theorem dX9_line_99 : decode cX9_line 99 = .ok (.goto 136, 3) := dk_167 0 136 (dk_at dksX9_line_4 9 rfl rfl)
theorem dX9_line_102 : decode cX9_line 102 = .ok (.aload_n 0, 1) := dk_42 (dk_at dksX9_line_4 12 rfl rfl)
theorem dX9_line_103 : decode cX9_line 103 = .ok (.ldc_w 261, 3) := dk_19 1 5 (dk_at dksX9_line_4 13 rfl rfl)
theorem dX9_line_106 : decode cX9_line 106 = .ok (.invokevirtual 195, 3) := dk_182 0 195 (dk_at dksX9_line_4 16 rfl rfl)
theorem dX9_line_109 : decode cX9_line 109 = .ok (.ifCond .eq 29, 3) := dk_153 0 29 (dk_at dksX9_line_4 19 rfl rfl)
theorem dX9_line_112 : decode cX9_line 112 = .ok (.aload_n 0, 1) := dk_42 (dk_at dksX9_line_4 22 rfl rfl)
theorem dX9_line_113 : decode cX9_line 113 = .ok (.getfield 12, 3) := dk_180 0 12 (dk_at dksX9_line_5 0 rfl rfl)
theorem dX9_line_116 : decode cX9_line 116 = .ok (.iconst 1, 1) := dk_4 (dk_at dksX9_line_5 3 rfl rfl)
theorem dX9_line_117 : decode cX9_line 117 = .ok (.putfield 263, 3) := dk_181 1 7 (dk_at dksX9_line_5 4 rfl rfl)
theorem dX9_line_120 : decode cX9_line 120 = .ok (.aload_n 0, 1) := dk_42 (dk_at dksX9_line_5 7 rfl rfl)
theorem dX9_line_121 : decode cX9_line 121 = .ok (.getfield 12, 3) := dk_180 0 12 (dk_at dksX9_line_5 8 rfl rfl)
theorem dX9_line_124 : decode cX9_line 124 = .ok (.aload_n 0, 1) := dk_42 (dk_at dksX9_line_5 11 rfl rfl)
theorem dX9_line_125 : decode cX9_line 125 = .ok (.iconst 0, 1) := dk_3 (dk_at dksX9_line_5 12 rfl rfl)
theorem dX9_line_126 : decode cX9_line 126 = .ok (.sipush 999, 3) := dk_17 3 231 (dk_at dksX9_line_5 13 rfl rfl)
theorem dX9_line_129 : decode cX9_line 129 = .ok (.invokevirtual 97, 3) := dk_182 0 97 (dk_at dksX9_line_5 16 rfl rfl)
theorem dX9_line_132 : decode cX9_line 132 = .ok (.putfield 293, 3) := dk_181 1 37 (dk_at dksX9_line_5 19 rfl rfl)
theorem dX9_line_135 : decode cX9_line 135 = .ok (.goto 100, 3) := dk_167 0 100 (dk_at dksX9_line_6 0 rfl rfl)
theorem dX9_line_138 : decode cX9_line 138 = .ok (.aload_n 0, 1) := dk_42 (dk_at dksX9_line_6 3 rfl rfl)
theorem dX9_line_139 : decode cX9_line 139 = .ok (.ldc_w 266, 3) := dk_19 1 10 (dk_at dksX9_line_6 4 rfl rfl)
theorem dX9_line_142 : decode cX9_line 142 = .ok (.invokevirtual 195, 3) := dk_182 0 195 (dk_at dksX9_line_6 7 rfl rfl)
theorem dX9_line_145 : decode cX9_line 145 = .ok (.ifCond .eq 28, 3) := dk_153 0 28 (dk_at dksX9_line_6 10 rfl rfl)
theorem dX9_line_148 : decode cX9_line 148 = .ok (.aload_n 0, 1) := dk_42 (dk_at dksX9_line_6 13 rfl rfl)
theorem dX9_line_149 : decode cX9_line 149 = .ok (.getfield 12, 3) := dk_180 0 12 (dk_at dksX9_line_6 14 rfl rfl)
theorem dX9_line_152 : decode cX9_line 152 = .ok (.iconst 1, 1) := dk_4 (dk_at dksX9_line_6 17 rfl rfl)
theorem dX9_line_153 : decode cX9_line 153 = .ok (.putfield 268, 3) := dk_181 1 12 (dk_at dksX9_line_6 18 rfl rfl)
theorem dX9_line_156 : decode cX9_line 156 = .ok (.aload_n 0, 1) := dk_42 (dk_at dksX9_line_6 21 rfl rfl)
theorem dX9_line_157 : decode cX9_line 157 = .ok (.getfield 12, 3) := dk_180 0 12 (dk_at dksX9_line_7 0 rfl rfl)
theorem dX9_line_160 : decode cX9_line 160 = .ok (.aload_n 0, 1) := dk_42 (dk_at dksX9_line_7 3 rfl rfl)
theorem dX9_line_161 : decode cX9_line 161 = .ok (.iconst 0, 1) := dk_3 (dk_at dksX9_line_7 4 rfl rfl)
theorem dX9_line_162 : decode cX9_line 162 = .ok (.bipush 99, 2) := dk_16 99 (dk_at dksX9_line_7 5 rfl rfl)
theorem dX9_line_164 : decode cX9_line 164 = .ok (.invokevirtual 97, 3) := dk_182 0 97 (dk_at dksX9_line_7 7 rfl rfl)
theorem dX9_line_167 : decode cX9_line 167 = .ok (.putfield 295, 3) := dk_181 1 39 (dk_at dksX9_line_7 10 rfl rfl)
theorem dX9_line_170 : decode cX9_line 170 = .ok (.goto 65, 3) := dk_167 0 65 (dk_at dksX9_line_7 13 rfl rfl)
theorem dX9_line_173 : decode cX9_line 173 = .ok (.aload_n 0, 1) := dk_42 (dk_at dksX9_line_7 16 rfl rfl)
theorem dX9_line_174 : decode cX9_line 174 = .ok (.ldc_w 271, 3) := dk_19 1 15 (dk_at dksX9_line_7 17 rfl rfl)
theorem dX9_line_177 : decode cX9_line 177 = .ok (.invokevirtual 195, 3) := dk_182 0 195 (dk_at dksX9_line_7 20 rfl rfl)
theorem dX9_line_180 : decode cX9_line 180 = .ok (.ifCond .eq 28, 3) := dk_153 0 28 (dk_at dksX9_line_8 0 rfl rfl)
theorem dX9_line_183 : decode cX9_line 183 = .ok (.aload_n 0, 1) := dk_42 (dk_at dksX9_line_8 3 rfl rfl)
theorem dX9_line_184 : decode cX9_line 184 = .ok (.getfield 12, 3) := dk_180 0 12 (dk_at dksX9_line_8 4 rfl rfl)
theorem dX9_line_187 : decode cX9_line 187 = .ok (.iconst 1, 1) := dk_4 (dk_at dksX9_line_8 7 rfl rfl)
theorem dX9_line_188 : decode cX9_line 188 = .ok (.putfield 273, 3) := dk_181 1 17 (dk_at dksX9_line_8 8 rfl rfl)
theorem dX9_line_191 : decode cX9_line 191 = .ok (.aload_n 0, 1) := dk_42 (dk_at dksX9_line_8 11 rfl rfl)
theorem dX9_line_192 : decode cX9_line 192 = .ok (.getfield 12, 3) := dk_180 0 12 (dk_at dksX9_line_8 12 rfl rfl)
theorem dX9_line_195 : decode cX9_line 195 = .ok (.aload_n 0, 1) := dk_42 (dk_at dksX9_line_8 15 rfl rfl)
theorem dX9_line_196 : decode cX9_line 196 = .ok (.iconst 0, 1) := dk_3 (dk_at dksX9_line_8 16 rfl rfl)
theorem dX9_line_197 : decode cX9_line 197 = .ok (.bipush 100, 2) := dk_16 100 (dk_at dksX9_line_8 17 rfl rfl)
theorem dX9_line_199 : decode cX9_line 199 = .ok (.invokevirtual 97, 3) := dk_182 0 97 (dk_at dksX9_line_8 19 rfl rfl)
theorem dX9_line_202 : decode cX9_line 202 = .ok (.putfield 297, 3) := dk_181 1 41 (dk_at dksX9_line_9 0 rfl rfl)
theorem dX9_line_205 : decode cX9_line 205 = .ok (.goto 30, 3) := dk_167 0 30 (dk_at dksX9_line_9 3 rfl rfl)
theorem dX9_line_208 : decode cX9_line 208 = .ok (.aload_n 0, 1) := dk_42 (dk_at dksX9_line_9 6 rfl rfl)
theorem dX9_line_209 : decode cX9_line 209 = .ok (.invokevirtual 90, 3) := dk_182 0 90 (dk_at dksX9_line_9 7 rfl rfl)
theorem dX9_line_212 : decode cX9_line 212 = .ok (.aload_n 0, 1) := dk_42 (dk_at dksX9_line_9 10 rfl rfl)
theorem dX9_line_213 : decode cX9_line 213 = .ok (.getfield 12, 3) := dk_180 0 12 (dk_at dksX9_line_9 11 rfl rfl)
theorem dX9_line_216 : decode cX9_line 216 = .ok (.iconst 1, 1) := dk_4 (dk_at dksX9_line_9 14 rfl rfl)
theorem dX9_line_217 : decode cX9_line 217 = .ok (.putfield 278, 3) := dk_181 1 22 (dk_at dksX9_line_9 15 rfl rfl)
theorem dX9_line_220 : decode cX9_line 220 = .ok (.aload_n 0, 1) := dk_42 (dk_at dksX9_line_9 18 rfl rfl)
theorem dX9_line_221 : decode cX9_line 221 = .ok (.getfield 12, 3) := dk_180 0 12 (dk_at dksX9_line_9 19 rfl rfl)
theorem dX9_line_224 : decode cX9_line 224 = .ok (.aload_n 0, 1) := dk_42 (dk_at dksX9_line_9 22 rfl rfl)
theorem dX9_line_225 : decode cX9_line 225 = .ok (.iconst 0, 1) := dk_3 (dk_at dksX9_line_9 23 rfl rfl)
theorem dX9_line_226 : decode cX9_line 226 = .ok (.sipush 999, 3) := dk_17 3 231 (dk_at dksX9_line_10 0 rfl rfl)
theorem dX9_line_229 : decode cX9_line 229 = .ok (.invokevirtual 97, 3) := dk_182 0 97 (dk_at dksX9_line_10 3 rfl rfl)
theorem dX9_line_232 : decode cX9_line 232 = .ok (.putfield 299, 3) := dk_181 1 43 (dk_at dksX9_line_10 6 rfl rfl)
theorem dX9_line_235 : decode cX9_line 235 = .ok (.return_, 1) := dk_177 (dk_at dksX9_line_10 9 rfl rfl)
abbrev cX9_canLine : ByteArray := prog_12_method_30_code
def yX9_canLine : MethodName := ⟨RX9, "canLine", "()Z"⟩
def dkwX9_canLine_9 : List UInt8 := [167, 0, 4, 3, 172]
abbrev dktX9_canLine_9 : List UInt8 := dkwX9_canLine_9 ++ []
def dkwX9_canLine_8 : List UInt8 := [167, 0, 28, 42, 19, 1, 20, 182, 0, 76, 153, 0, 17, 42, 180, 0, 12, 180, 1, 22, 154, 0, 7, 4]
abbrev dktX9_canLine_8 : List UInt8 := dkwX9_canLine_8 ++ dktX9_canLine_9
def dkwX9_canLine_7 : List UInt8 := [19, 1, 15, 182, 0, 76, 153, 0, 21, 42, 180, 0, 12, 180, 1, 17, 154, 0, 7, 4, 167, 0, 32, 3]
abbrev dktX9_canLine_7 : List UInt8 := dkwX9_canLine_7 ++ dktX9_canLine_8
def dkwX9_canLine_6 : List UInt8 := [182, 0, 76, 153, 0, 19, 42, 180, 0, 12, 180, 1, 12, 154, 0, 7, 4, 167, 0, 4, 3, 172, 42]
abbrev dktX9_canLine_6 : List UInt8 := dkwX9_canLine_6 ++ dktX9_canLine_7
def dkwX9_canLine_5 : List UInt8 := [153, 0, 19, 42, 180, 0, 12, 180, 1, 7, 154, 0, 7, 4, 167, 0, 4, 3, 172, 42, 19, 1, 10]
abbrev dktX9_canLine_5 : List UInt8 := dkwX9_canLine_5 ++ dktX9_canLine_6
def dkwX9_canLine_4 : List UInt8 := [42, 180, 0, 12, 180, 1, 1, 154, 0, 7, 4, 167, 0, 4, 3, 172, 42, 19, 1, 5, 182, 0, 76]
abbrev dktX9_canLine_4 : List UInt8 := dkwX9_canLine_4 ++ dktX9_canLine_5
def dkwX9_canLine_3 : List UInt8 := [180, 0, 12, 180, 0, 252, 199, 0, 7, 4, 167, 0, 4, 3, 172, 42, 18, 255, 182, 0, 76, 153, 0, 19]
abbrev dktX9_canLine_3 : List UInt8 := dkwX9_canLine_3 ++ dktX9_canLine_4
def dkwX9_canLine_2 : List UInt8 := [182, 0, 246, 16, 6, 162, 0, 7, 4, 167, 0, 4, 3, 172, 42, 18, 250, 182, 0, 76, 153, 0, 19, 42]
abbrev dktX9_canLine_2 : List UInt8 := dkwX9_canLine_2 ++ dktX9_canLine_3
def dkwX9_canLine_1 : List UInt8 := [4, 167, 0, 4, 3, 172, 42, 18, 248, 182, 0, 76, 153, 0, 24, 42, 180, 0, 12, 180, 0, 168]
abbrev dktX9_canLine_1 : List UInt8 := dkwX9_canLine_1 ++ dktX9_canLine_2
def dkwX9_canLine_0 : List UInt8 := [42, 18, 244, 182, 0, 76, 153, 0, 24, 42, 180, 0, 12, 180, 0, 140, 182, 0, 246, 16, 6, 162, 0, 7]
abbrev dktX9_canLine_0 : List UInt8 := dkwX9_canLine_0 ++ dktX9_canLine_1
theorem dksX9_canLine_0 : cX9_canLine.data.toList.drop 0 = dktX9_canLine_0 := by decide +kernel
theorem dksX9_canLine_1 : cX9_canLine.data.toList.drop 24 = dktX9_canLine_1 := dk_seg dksX9_canLine_0 24 rfl rfl
theorem dksX9_canLine_2 : cX9_canLine.data.toList.drop 46 = dktX9_canLine_2 := dk_seg dksX9_canLine_1 22 rfl rfl
theorem dksX9_canLine_3 : cX9_canLine.data.toList.drop 70 = dktX9_canLine_3 := dk_seg dksX9_canLine_2 24 rfl rfl
theorem dksX9_canLine_4 : cX9_canLine.data.toList.drop 94 = dktX9_canLine_4 := dk_seg dksX9_canLine_3 24 rfl rfl
theorem dksX9_canLine_5 : cX9_canLine.data.toList.drop 117 = dktX9_canLine_5 := dk_seg dksX9_canLine_4 23 rfl rfl
theorem dksX9_canLine_6 : cX9_canLine.data.toList.drop 140 = dktX9_canLine_6 := dk_seg dksX9_canLine_5 23 rfl rfl
theorem dksX9_canLine_7 : cX9_canLine.data.toList.drop 163 = dktX9_canLine_7 := dk_seg dksX9_canLine_6 23 rfl rfl
theorem dksX9_canLine_8 : cX9_canLine.data.toList.drop 187 = dktX9_canLine_8 := dk_seg dksX9_canLine_7 24 rfl rfl
theorem dksX9_canLine_9 : cX9_canLine.data.toList.drop 211 = dktX9_canLine_9 := dk_seg dksX9_canLine_8 24 rfl rfl
theorem dX9_canLine_0 : decode cX9_canLine 0 = .ok (.aload_n 0, 1) := dk_42 (dk_at dksX9_canLine_0 0 rfl rfl)
theorem dX9_canLine_1 : decode cX9_canLine 1 = .ok (.ldc 244, 2) := dk_18 244 (dk_at dksX9_canLine_0 1 rfl rfl)
theorem dX9_canLine_3 : decode cX9_canLine 3 = .ok (.invokevirtual 76, 3) := dk_182 0 76 (dk_at dksX9_canLine_0 3 rfl rfl)
theorem dX9_canLine_6 : decode cX9_canLine 6 = .ok (.ifCond .eq 24, 3) := dk_153 0 24 (dk_at dksX9_canLine_0 6 rfl rfl)
theorem dX9_canLine_9 : decode cX9_canLine 9 = .ok (.aload_n 0, 1) := dk_42 (dk_at dksX9_canLine_0 9 rfl rfl)
theorem dX9_canLine_10 : decode cX9_canLine 10 = .ok (.getfield 12, 3) := dk_180 0 12 (dk_at dksX9_canLine_0 10 rfl rfl)
theorem dX9_canLine_13 : decode cX9_canLine 13 = .ok (.getfield 140, 3) := dk_180 0 140 (dk_at dksX9_canLine_0 13 rfl rfl)
theorem dX9_canLine_16 : decode cX9_canLine 16 = .ok (.invokevirtual 246, 3) := dk_182 0 246 (dk_at dksX9_canLine_0 16 rfl rfl)
theorem dX9_canLine_19 : decode cX9_canLine 19 = .ok (.bipush 6, 2) := dk_16 6 (dk_at dksX9_canLine_0 19 rfl rfl)
theorem dX9_canLine_21 : decode cX9_canLine 21 = .ok (.if_icmp .ge 7, 3) := dk_162 0 7 (dk_at dksX9_canLine_0 21 rfl rfl)
theorem dX9_canLine_24 : decode cX9_canLine 24 = .ok (.iconst 1, 1) := dk_4 (dk_at dksX9_canLine_1 0 rfl rfl)
theorem dX9_canLine_25 : decode cX9_canLine 25 = .ok (.goto 4, 3) := dk_167 0 4 (dk_at dksX9_canLine_1 1 rfl rfl)
theorem dX9_canLine_28 : decode cX9_canLine 28 = .ok (.iconst 0, 1) := dk_3 (dk_at dksX9_canLine_1 4 rfl rfl)
theorem dX9_canLine_29 : decode cX9_canLine 29 = .ok (.ireturn, 1) := dk_172 (dk_at dksX9_canLine_1 5 rfl rfl)
theorem dX9_canLine_30 : decode cX9_canLine 30 = .ok (.aload_n 0, 1) := dk_42 (dk_at dksX9_canLine_1 6 rfl rfl)
theorem dX9_canLine_31 : decode cX9_canLine 31 = .ok (.ldc 248, 2) := dk_18 248 (dk_at dksX9_canLine_1 7 rfl rfl)
theorem dX9_canLine_33 : decode cX9_canLine 33 = .ok (.invokevirtual 76, 3) := dk_182 0 76 (dk_at dksX9_canLine_1 9 rfl rfl)
theorem dX9_canLine_36 : decode cX9_canLine 36 = .ok (.ifCond .eq 24, 3) := dk_153 0 24 (dk_at dksX9_canLine_1 12 rfl rfl)
theorem dX9_canLine_39 : decode cX9_canLine 39 = .ok (.aload_n 0, 1) := dk_42 (dk_at dksX9_canLine_1 15 rfl rfl)
theorem dX9_canLine_40 : decode cX9_canLine 40 = .ok (.getfield 12, 3) := dk_180 0 12 (dk_at dksX9_canLine_1 16 rfl rfl)
theorem dX9_canLine_43 : decode cX9_canLine 43 = .ok (.getfield 168, 3) := dk_180 0 168 (dk_at dksX9_canLine_1 19 rfl rfl)
theorem dX9_canLine_46 : decode cX9_canLine 46 = .ok (.invokevirtual 246, 3) := dk_182 0 246 (dk_at dksX9_canLine_2 0 rfl rfl)
theorem dX9_canLine_49 : decode cX9_canLine 49 = .ok (.bipush 6, 2) := dk_16 6 (dk_at dksX9_canLine_2 3 rfl rfl)
theorem dX9_canLine_51 : decode cX9_canLine 51 = .ok (.if_icmp .ge 7, 3) := dk_162 0 7 (dk_at dksX9_canLine_2 5 rfl rfl)
theorem dX9_canLine_54 : decode cX9_canLine 54 = .ok (.iconst 1, 1) := dk_4 (dk_at dksX9_canLine_2 8 rfl rfl)
theorem dX9_canLine_55 : decode cX9_canLine 55 = .ok (.goto 4, 3) := dk_167 0 4 (dk_at dksX9_canLine_2 9 rfl rfl)
theorem dX9_canLine_58 : decode cX9_canLine 58 = .ok (.iconst 0, 1) := dk_3 (dk_at dksX9_canLine_2 12 rfl rfl)
theorem dX9_canLine_59 : decode cX9_canLine 59 = .ok (.ireturn, 1) := dk_172 (dk_at dksX9_canLine_2 13 rfl rfl)
theorem dX9_canLine_60 : decode cX9_canLine 60 = .ok (.aload_n 0, 1) := dk_42 (dk_at dksX9_canLine_2 14 rfl rfl)
theorem dX9_canLine_61 : decode cX9_canLine 61 = .ok (.ldc 250, 2) := dk_18 250 (dk_at dksX9_canLine_2 15 rfl rfl)
theorem dX9_canLine_63 : decode cX9_canLine 63 = .ok (.invokevirtual 76, 3) := dk_182 0 76 (dk_at dksX9_canLine_2 17 rfl rfl)
theorem dX9_canLine_66 : decode cX9_canLine 66 = .ok (.ifCond .eq 19, 3) := dk_153 0 19 (dk_at dksX9_canLine_2 20 rfl rfl)
theorem dX9_canLine_69 : decode cX9_canLine 69 = .ok (.aload_n 0, 1) := dk_42 (dk_at dksX9_canLine_2 23 rfl rfl)
theorem dX9_canLine_70 : decode cX9_canLine 70 = .ok (.getfield 12, 3) := dk_180 0 12 (dk_at dksX9_canLine_3 0 rfl rfl)
theorem dX9_canLine_73 : decode cX9_canLine 73 = .ok (.getfield 252, 3) := dk_180 0 252 (dk_at dksX9_canLine_3 3 rfl rfl)
theorem dX9_canLine_76 : decode cX9_canLine 76 = .ok (.ifnonnull 7, 3) := dk_199 0 7 (dk_at dksX9_canLine_3 6 rfl rfl)
theorem dX9_canLine_79 : decode cX9_canLine 79 = .ok (.iconst 1, 1) := dk_4 (dk_at dksX9_canLine_3 9 rfl rfl)
theorem dX9_canLine_80 : decode cX9_canLine 80 = .ok (.goto 4, 3) := dk_167 0 4 (dk_at dksX9_canLine_3 10 rfl rfl)
theorem dX9_canLine_83 : decode cX9_canLine 83 = .ok (.iconst 0, 1) := dk_3 (dk_at dksX9_canLine_3 13 rfl rfl)
theorem dX9_canLine_84 : decode cX9_canLine 84 = .ok (.ireturn, 1) := dk_172 (dk_at dksX9_canLine_3 14 rfl rfl)
theorem dX9_canLine_85 : decode cX9_canLine 85 = .ok (.aload_n 0, 1) := dk_42 (dk_at dksX9_canLine_3 15 rfl rfl)
theorem dX9_canLine_86 : decode cX9_canLine 86 = .ok (.ldc 255, 2) := dk_18 255 (dk_at dksX9_canLine_3 16 rfl rfl)
theorem dX9_canLine_88 : decode cX9_canLine 88 = .ok (.invokevirtual 76, 3) := dk_182 0 76 (dk_at dksX9_canLine_3 18 rfl rfl)
theorem dX9_canLine_91 : decode cX9_canLine 91 = .ok (.ifCond .eq 19, 3) := dk_153 0 19 (dk_at dksX9_canLine_3 21 rfl rfl)
theorem dX9_canLine_94 : decode cX9_canLine 94 = .ok (.aload_n 0, 1) := dk_42 (dk_at dksX9_canLine_4 0 rfl rfl)
theorem dX9_canLine_95 : decode cX9_canLine 95 = .ok (.getfield 12, 3) := dk_180 0 12 (dk_at dksX9_canLine_4 1 rfl rfl)
theorem dX9_canLine_98 : decode cX9_canLine 98 = .ok (.getfield 257, 3) := dk_180 1 1 (dk_at dksX9_canLine_4 4 rfl rfl)
theorem dX9_canLine_101 : decode cX9_canLine 101 = .ok (.ifCond .ne 7, 3) := dk_154 0 7 (dk_at dksX9_canLine_4 7 rfl rfl)
theorem dX9_canLine_104 : decode cX9_canLine 104 = .ok (.iconst 1, 1) := dk_4 (dk_at dksX9_canLine_4 10 rfl rfl)
theorem dX9_canLine_105 : decode cX9_canLine 105 = .ok (.goto 4, 3) := dk_167 0 4 (dk_at dksX9_canLine_4 11 rfl rfl)
theorem dX9_canLine_108 : decode cX9_canLine 108 = .ok (.iconst 0, 1) := dk_3 (dk_at dksX9_canLine_4 14 rfl rfl)
theorem dX9_canLine_109 : decode cX9_canLine 109 = .ok (.ireturn, 1) := dk_172 (dk_at dksX9_canLine_4 15 rfl rfl)
theorem dX9_canLine_110 : decode cX9_canLine 110 = .ok (.aload_n 0, 1) := dk_42 (dk_at dksX9_canLine_4 16 rfl rfl)
theorem dX9_canLine_111 : decode cX9_canLine 111 = .ok (.ldc_w 261, 3) := dk_19 1 5 (dk_at dksX9_canLine_4 17 rfl rfl)
theorem dX9_canLine_114 : decode cX9_canLine 114 = .ok (.invokevirtual 76, 3) := dk_182 0 76 (dk_at dksX9_canLine_4 20 rfl rfl)
theorem dX9_canLine_117 : decode cX9_canLine 117 = .ok (.ifCond .eq 19, 3) := dk_153 0 19 (dk_at dksX9_canLine_5 0 rfl rfl)
theorem dX9_canLine_120 : decode cX9_canLine 120 = .ok (.aload_n 0, 1) := dk_42 (dk_at dksX9_canLine_5 3 rfl rfl)
theorem dX9_canLine_121 : decode cX9_canLine 121 = .ok (.getfield 12, 3) := dk_180 0 12 (dk_at dksX9_canLine_5 4 rfl rfl)
theorem dX9_canLine_124 : decode cX9_canLine 124 = .ok (.getfield 263, 3) := dk_180 1 7 (dk_at dksX9_canLine_5 7 rfl rfl)
theorem dX9_canLine_127 : decode cX9_canLine 127 = .ok (.ifCond .ne 7, 3) := dk_154 0 7 (dk_at dksX9_canLine_5 10 rfl rfl)
theorem dX9_canLine_130 : decode cX9_canLine 130 = .ok (.iconst 1, 1) := dk_4 (dk_at dksX9_canLine_5 13 rfl rfl)
theorem dX9_canLine_131 : decode cX9_canLine 131 = .ok (.goto 4, 3) := dk_167 0 4 (dk_at dksX9_canLine_5 14 rfl rfl)
theorem dX9_canLine_134 : decode cX9_canLine 134 = .ok (.iconst 0, 1) := dk_3 (dk_at dksX9_canLine_5 17 rfl rfl)
theorem dX9_canLine_135 : decode cX9_canLine 135 = .ok (.ireturn, 1) := dk_172 (dk_at dksX9_canLine_5 18 rfl rfl)
theorem dX9_canLine_136 : decode cX9_canLine 136 = .ok (.aload_n 0, 1) := dk_42 (dk_at dksX9_canLine_5 19 rfl rfl)
theorem dX9_canLine_137 : decode cX9_canLine 137 = .ok (.ldc_w 266, 3) := dk_19 1 10 (dk_at dksX9_canLine_5 20 rfl rfl)
theorem dX9_canLine_140 : decode cX9_canLine 140 = .ok (.invokevirtual 76, 3) := dk_182 0 76 (dk_at dksX9_canLine_6 0 rfl rfl)
theorem dX9_canLine_143 : decode cX9_canLine 143 = .ok (.ifCond .eq 19, 3) := dk_153 0 19 (dk_at dksX9_canLine_6 3 rfl rfl)
theorem dX9_canLine_146 : decode cX9_canLine 146 = .ok (.aload_n 0, 1) := dk_42 (dk_at dksX9_canLine_6 6 rfl rfl)
theorem dX9_canLine_147 : decode cX9_canLine 147 = .ok (.getfield 12, 3) := dk_180 0 12 (dk_at dksX9_canLine_6 7 rfl rfl)
theorem dX9_canLine_150 : decode cX9_canLine 150 = .ok (.getfield 268, 3) := dk_180 1 12 (dk_at dksX9_canLine_6 10 rfl rfl)
theorem dX9_canLine_153 : decode cX9_canLine 153 = .ok (.ifCond .ne 7, 3) := dk_154 0 7 (dk_at dksX9_canLine_6 13 rfl rfl)
theorem dX9_canLine_156 : decode cX9_canLine 156 = .ok (.iconst 1, 1) := dk_4 (dk_at dksX9_canLine_6 16 rfl rfl)
theorem dX9_canLine_157 : decode cX9_canLine 157 = .ok (.goto 4, 3) := dk_167 0 4 (dk_at dksX9_canLine_6 17 rfl rfl)
theorem dX9_canLine_160 : decode cX9_canLine 160 = .ok (.iconst 0, 1) := dk_3 (dk_at dksX9_canLine_6 20 rfl rfl)
theorem dX9_canLine_161 : decode cX9_canLine 161 = .ok (.ireturn, 1) := dk_172 (dk_at dksX9_canLine_6 21 rfl rfl)
theorem dX9_canLine_162 : decode cX9_canLine 162 = .ok (.aload_n 0, 1) := dk_42 (dk_at dksX9_canLine_6 22 rfl rfl)
theorem dX9_canLine_163 : decode cX9_canLine 163 = .ok (.ldc_w 271, 3) := dk_19 1 15 (dk_at dksX9_canLine_7 0 rfl rfl)
theorem dX9_canLine_166 : decode cX9_canLine 166 = .ok (.invokevirtual 76, 3) := dk_182 0 76 (dk_at dksX9_canLine_7 3 rfl rfl)
theorem dX9_canLine_169 : decode cX9_canLine 169 = .ok (.ifCond .eq 21, 3) := dk_153 0 21 (dk_at dksX9_canLine_7 6 rfl rfl)
theorem dX9_canLine_172 : decode cX9_canLine 172 = .ok (.aload_n 0, 1) := dk_42 (dk_at dksX9_canLine_7 9 rfl rfl)
theorem dX9_canLine_173 : decode cX9_canLine 173 = .ok (.getfield 12, 3) := dk_180 0 12 (dk_at dksX9_canLine_7 10 rfl rfl)
theorem dX9_canLine_176 : decode cX9_canLine 176 = .ok (.getfield 273, 3) := dk_180 1 17 (dk_at dksX9_canLine_7 13 rfl rfl)
theorem dX9_canLine_179 : decode cX9_canLine 179 = .ok (.ifCond .ne 7, 3) := dk_154 0 7 (dk_at dksX9_canLine_7 16 rfl rfl)
theorem dX9_canLine_182 : decode cX9_canLine 182 = .ok (.iconst 1, 1) := dk_4 (dk_at dksX9_canLine_7 19 rfl rfl)
theorem dX9_canLine_183 : decode cX9_canLine 183 = .ok (.goto 32, 3) := dk_167 0 32 (dk_at dksX9_canLine_7 20 rfl rfl)
theorem dX9_canLine_186 : decode cX9_canLine 186 = .ok (.iconst 0, 1) := dk_3 (dk_at dksX9_canLine_7 23 rfl rfl)
theorem dX9_canLine_187 : decode cX9_canLine 187 = .ok (.goto 28, 3) := dk_167 0 28 (dk_at dksX9_canLine_8 0 rfl rfl)
theorem dX9_canLine_190 : decode cX9_canLine 190 = .ok (.aload_n 0, 1) := dk_42 (dk_at dksX9_canLine_8 3 rfl rfl)
theorem dX9_canLine_191 : decode cX9_canLine 191 = .ok (.ldc_w 276, 3) := dk_19 1 20 (dk_at dksX9_canLine_8 4 rfl rfl)
theorem dX9_canLine_194 : decode cX9_canLine 194 = .ok (.invokevirtual 76, 3) := dk_182 0 76 (dk_at dksX9_canLine_8 7 rfl rfl)
theorem dX9_canLine_197 : decode cX9_canLine 197 = .ok (.ifCond .eq 17, 3) := dk_153 0 17 (dk_at dksX9_canLine_8 10 rfl rfl)
theorem dX9_canLine_200 : decode cX9_canLine 200 = .ok (.aload_n 0, 1) := dk_42 (dk_at dksX9_canLine_8 13 rfl rfl)
theorem dX9_canLine_201 : decode cX9_canLine 201 = .ok (.getfield 12, 3) := dk_180 0 12 (dk_at dksX9_canLine_8 14 rfl rfl)
theorem dX9_canLine_204 : decode cX9_canLine 204 = .ok (.getfield 278, 3) := dk_180 1 22 (dk_at dksX9_canLine_8 17 rfl rfl)
theorem dX9_canLine_207 : decode cX9_canLine 207 = .ok (.ifCond .ne 7, 3) := dk_154 0 7 (dk_at dksX9_canLine_8 20 rfl rfl)
theorem dX9_canLine_210 : decode cX9_canLine 210 = .ok (.iconst 1, 1) := dk_4 (dk_at dksX9_canLine_8 23 rfl rfl)
theorem dX9_canLine_211 : decode cX9_canLine 211 = .ok (.goto 4, 3) := dk_167 0 4 (dk_at dksX9_canLine_9 0 rfl rfl)
theorem dX9_canLine_214 : decode cX9_canLine 214 = .ok (.iconst 0, 1) := dk_3 (dk_at dksX9_canLine_9 3 rfl rfl)
theorem dX9_canLine_215 : decode cX9_canLine 215 = .ok (.ireturn, 1) := dk_172 (dk_at dksX9_canLine_9 4 rfl rfl)
abbrev cX9_isWord : ByteArray := prog_12_method_9_code
def yX9_isWord : MethodName := ⟨RX9, "isWord", "(Ljava/lang/String;)Z"⟩
def dkwX9_isWord_3 : List UInt8 := [3, 172]
abbrev dktX9_isWord_3 : List UInt8 := dkwX9_isWord_3 ++ []
def dkwX9_isWord_2 : List UInt8 := [182, 0, 72, 160, 0, 9, 132, 2, 1, 167, 255, 227, 28, 43, 182, 0, 66, 160, 0, 7, 4, 167, 0, 4]
abbrev dktX9_isWord_2 : List UInt8 := dkwX9_isWord_2 ++ dktX9_isWord_3
def dkwX9_isWord_1 : List UInt8 := [3, 172, 3, 61, 28, 43, 182, 0, 66, 162, 0, 27, 42, 42, 180, 0, 33, 28, 96, 182, 0, 36, 43, 28]
abbrev dktX9_isWord_1 : List UInt8 := dkwX9_isWord_1 ++ dktX9_isWord_2
def dkwX9_isWord_0 : List UInt8 := [42, 180, 0, 40, 4, 160, 0, 19, 42, 180, 0, 30, 42, 180, 0, 33, 100, 43, 182, 0, 66, 159, 0, 5]
abbrev dktX9_isWord_0 : List UInt8 := dkwX9_isWord_0 ++ dktX9_isWord_1
theorem dksX9_isWord_0 : cX9_isWord.data.toList.drop 0 = dktX9_isWord_0 := by decide +kernel
theorem dksX9_isWord_1 : cX9_isWord.data.toList.drop 24 = dktX9_isWord_1 := dk_seg dksX9_isWord_0 24 rfl rfl
theorem dksX9_isWord_2 : cX9_isWord.data.toList.drop 48 = dktX9_isWord_2 := dk_seg dksX9_isWord_1 24 rfl rfl
theorem dksX9_isWord_3 : cX9_isWord.data.toList.drop 72 = dktX9_isWord_3 := dk_seg dksX9_isWord_2 24 rfl rfl
theorem dX9_isWord_0 : decode cX9_isWord 0 = .ok (.aload_n 0, 1) := dk_42 (dk_at dksX9_isWord_0 0 rfl rfl)
theorem dX9_isWord_1 : decode cX9_isWord 1 = .ok (.getfield 40, 3) := dk_180 0 40 (dk_at dksX9_isWord_0 1 rfl rfl)
theorem dX9_isWord_4 : decode cX9_isWord 4 = .ok (.iconst 1, 1) := dk_4 (dk_at dksX9_isWord_0 4 rfl rfl)
theorem dX9_isWord_5 : decode cX9_isWord 5 = .ok (.if_icmp .ne 19, 3) := dk_160 0 19 (dk_at dksX9_isWord_0 5 rfl rfl)
theorem dX9_isWord_8 : decode cX9_isWord 8 = .ok (.aload_n 0, 1) := dk_42 (dk_at dksX9_isWord_0 8 rfl rfl)
theorem dX9_isWord_9 : decode cX9_isWord 9 = .ok (.getfield 30, 3) := dk_180 0 30 (dk_at dksX9_isWord_0 9 rfl rfl)
theorem dX9_isWord_12 : decode cX9_isWord 12 = .ok (.aload_n 0, 1) := dk_42 (dk_at dksX9_isWord_0 12 rfl rfl)
theorem dX9_isWord_13 : decode cX9_isWord 13 = .ok (.getfield 33, 3) := dk_180 0 33 (dk_at dksX9_isWord_0 13 rfl rfl)
theorem dX9_isWord_16 : decode cX9_isWord 16 = .ok (.isub, 1) := dk_100 (dk_at dksX9_isWord_0 16 rfl rfl)
theorem dX9_isWord_17 : decode cX9_isWord 17 = .ok (.aload_n 1, 1) := dk_43 (dk_at dksX9_isWord_0 17 rfl rfl)
theorem dX9_isWord_18 : decode cX9_isWord 18 = .ok (.invokevirtual 66, 3) := dk_182 0 66 (dk_at dksX9_isWord_0 18 rfl rfl)
theorem dX9_isWord_21 : decode cX9_isWord 21 = .ok (.if_icmp .eq 5, 3) := dk_159 0 5 (dk_at dksX9_isWord_0 21 rfl rfl)
theorem dX9_isWord_24 : decode cX9_isWord 24 = .ok (.iconst 0, 1) := dk_3 (dk_at dksX9_isWord_1 0 rfl rfl)
theorem dX9_isWord_25 : decode cX9_isWord 25 = .ok (.ireturn, 1) := dk_172 (dk_at dksX9_isWord_1 1 rfl rfl)
theorem dX9_isWord_26 : decode cX9_isWord 26 = .ok (.iconst 0, 1) := dk_3 (dk_at dksX9_isWord_1 2 rfl rfl)
theorem dX9_isWord_27 : decode cX9_isWord 27 = .ok (.istore_n 2, 1) := dk_61 (dk_at dksX9_isWord_1 3 rfl rfl)
theorem dX9_isWord_28 : decode cX9_isWord 28 = .ok (.iload_n 2, 1) := dk_28 (dk_at dksX9_isWord_1 4 rfl rfl)
theorem dX9_isWord_29 : decode cX9_isWord 29 = .ok (.aload_n 1, 1) := dk_43 (dk_at dksX9_isWord_1 5 rfl rfl)
theorem dX9_isWord_30 : decode cX9_isWord 30 = .ok (.invokevirtual 66, 3) := dk_182 0 66 (dk_at dksX9_isWord_1 6 rfl rfl)
theorem dX9_isWord_33 : decode cX9_isWord 33 = .ok (.if_icmp .ge 27, 3) := dk_162 0 27 (dk_at dksX9_isWord_1 9 rfl rfl)
theorem dX9_isWord_36 : decode cX9_isWord 36 = .ok (.aload_n 0, 1) := dk_42 (dk_at dksX9_isWord_1 12 rfl rfl)
theorem dX9_isWord_37 : decode cX9_isWord 37 = .ok (.aload_n 0, 1) := dk_42 (dk_at dksX9_isWord_1 13 rfl rfl)
theorem dX9_isWord_38 : decode cX9_isWord 38 = .ok (.getfield 33, 3) := dk_180 0 33 (dk_at dksX9_isWord_1 14 rfl rfl)
theorem dX9_isWord_41 : decode cX9_isWord 41 = .ok (.iload_n 2, 1) := dk_28 (dk_at dksX9_isWord_1 17 rfl rfl)
theorem dX9_isWord_42 : decode cX9_isWord 42 = .ok (.iadd, 1) := dk_96 (dk_at dksX9_isWord_1 18 rfl rfl)
theorem dX9_isWord_43 : decode cX9_isWord 43 = .ok (.invokevirtual 36, 3) := dk_182 0 36 (dk_at dksX9_isWord_1 19 rfl rfl)
theorem dX9_isWord_46 : decode cX9_isWord 46 = .ok (.aload_n 1, 1) := dk_43 (dk_at dksX9_isWord_1 22 rfl rfl)
theorem dX9_isWord_47 : decode cX9_isWord 47 = .ok (.iload_n 2, 1) := dk_28 (dk_at dksX9_isWord_1 23 rfl rfl)
theorem dX9_isWord_48 : decode cX9_isWord 48 = .ok (.invokevirtual 72, 3) := dk_182 0 72 (dk_at dksX9_isWord_2 0 rfl rfl)
theorem dX9_isWord_51 : decode cX9_isWord 51 = .ok (.if_icmp .ne 9, 3) := dk_160 0 9 (dk_at dksX9_isWord_2 3 rfl rfl)
theorem dX9_isWord_54 : decode cX9_isWord 54 = .ok (.iinc 2 1, 3) := dk_132 2 1 (dk_at dksX9_isWord_2 6 rfl rfl)
theorem dX9_isWord_57 : decode cX9_isWord 57 = .ok (.goto (-29), 3) := dk_167 255 227 (dk_at dksX9_isWord_2 9 rfl rfl)
theorem dX9_isWord_60 : decode cX9_isWord 60 = .ok (.iload_n 2, 1) := dk_28 (dk_at dksX9_isWord_2 12 rfl rfl)
theorem dX9_isWord_61 : decode cX9_isWord 61 = .ok (.aload_n 1, 1) := dk_43 (dk_at dksX9_isWord_2 13 rfl rfl)
theorem dX9_isWord_62 : decode cX9_isWord 62 = .ok (.invokevirtual 66, 3) := dk_182 0 66 (dk_at dksX9_isWord_2 14 rfl rfl)
theorem dX9_isWord_65 : decode cX9_isWord 65 = .ok (.if_icmp .ne 7, 3) := dk_160 0 7 (dk_at dksX9_isWord_2 17 rfl rfl)
theorem dX9_isWord_68 : decode cX9_isWord 68 = .ok (.iconst 1, 1) := dk_4 (dk_at dksX9_isWord_2 20 rfl rfl)
theorem dX9_isWord_69 : decode cX9_isWord 69 = .ok (.goto 4, 3) := dk_167 0 4 (dk_at dksX9_isWord_2 21 rfl rfl)
theorem dX9_isWord_72 : decode cX9_isWord 72 = .ok (.iconst 0, 1) := dk_3 (dk_at dksX9_isWord_3 0 rfl rfl)
theorem dX9_isWord_73 : decode cX9_isWord 73 = .ok (.ireturn, 1) := dk_172 (dk_at dksX9_isWord_3 1 rfl rfl)
abbrev cX9_wrong : ByteArray := prog_12_method_12_code
def yX9_wrong : MethodName := ⟨RX9, "wrong", "()LTailorRegiment$Wrong;"⟩
def dkwX9_wrong_1 : List UInt8 := [176]
abbrev dktX9_wrong_1 : List UInt8 := dkwX9_wrong_1 ++ []
def dkwX9_wrong_0 : List UInt8 := [42, 180, 0, 26, 42, 180, 0, 40, 7, 160, 0, 7, 4, 167, 0, 4, 5, 42, 180, 0, 33, 182, 0, 80]
abbrev dktX9_wrong_0 : List UInt8 := dkwX9_wrong_0 ++ dktX9_wrong_1
theorem dksX9_wrong_0 : cX9_wrong.data.toList.drop 0 = dktX9_wrong_0 := by decide +kernel
theorem dksX9_wrong_1 : cX9_wrong.data.toList.drop 24 = dktX9_wrong_1 := dk_seg dksX9_wrong_0 24 rfl rfl
theorem dX9_wrong_0 : decode cX9_wrong 0 = .ok (.aload_n 0, 1) := dk_42 (dk_at dksX9_wrong_0 0 rfl rfl)
theorem dX9_wrong_1 : decode cX9_wrong 1 = .ok (.getfield 26, 3) := dk_180 0 26 (dk_at dksX9_wrong_0 1 rfl rfl)
theorem dX9_wrong_4 : decode cX9_wrong 4 = .ok (.aload_n 0, 1) := dk_42 (dk_at dksX9_wrong_0 4 rfl rfl)
theorem dX9_wrong_5 : decode cX9_wrong 5 = .ok (.getfield 40, 3) := dk_180 0 40 (dk_at dksX9_wrong_0 5 rfl rfl)
theorem dX9_wrong_8 : decode cX9_wrong 8 = .ok (.iconst 4, 1) := dk_7 (dk_at dksX9_wrong_0 8 rfl rfl)
theorem dX9_wrong_9 : decode cX9_wrong 9 = .ok (.if_icmp .ne 7, 3) := dk_160 0 7 (dk_at dksX9_wrong_0 9 rfl rfl)
theorem dX9_wrong_12 : decode cX9_wrong 12 = .ok (.iconst 1, 1) := dk_4 (dk_at dksX9_wrong_0 12 rfl rfl)
theorem dX9_wrong_13 : decode cX9_wrong 13 = .ok (.goto 4, 3) := dk_167 0 4 (dk_at dksX9_wrong_0 13 rfl rfl)
theorem dX9_wrong_16 : decode cX9_wrong 16 = .ok (.iconst 2, 1) := dk_5 (dk_at dksX9_wrong_0 16 rfl rfl)
theorem dX9_wrong_17 : decode cX9_wrong 17 = .ok (.aload_n 0, 1) := dk_42 (dk_at dksX9_wrong_0 17 rfl rfl)
theorem dX9_wrong_18 : decode cX9_wrong 18 = .ok (.getfield 33, 3) := dk_180 0 33 (dk_at dksX9_wrong_0 18 rfl rfl)
theorem dX9_wrong_21 : decode cX9_wrong 21 = .ok (.invokevirtual 80, 3) := dk_182 0 80 (dk_at dksX9_wrong_0 21 rfl rfl)
theorem dX9_wrong_24 : decode cX9_wrong 24 = .ok (.areturn, 1) := dk_176 (dk_at dksX9_wrong_1 0 rfl rfl)
abbrev cX9_comes : ByteArray := prog_12_method_17_code
def yX9_comes : MethodName := ⟨RX9, "comes", "(Ljava/lang/String;)Z"⟩
def dkwX9_comes_0 : List UInt8 := [42, 43, 182, 0, 76, 61, 28, 153, 0, 7, 42, 182, 0, 90, 28, 172]
abbrev dktX9_comes_0 : List UInt8 := dkwX9_comes_0 ++ []
theorem dksX9_comes_0 : cX9_comes.data.toList.drop 0 = dktX9_comes_0 := by decide +kernel
theorem dX9_comes_0 : decode cX9_comes 0 = .ok (.aload_n 0, 1) := dk_42 (dk_at dksX9_comes_0 0 rfl rfl)
theorem dX9_comes_1 : decode cX9_comes 1 = .ok (.aload_n 1, 1) := dk_43 (dk_at dksX9_comes_0 1 rfl rfl)
theorem dX9_comes_2 : decode cX9_comes 2 = .ok (.invokevirtual 76, 3) := dk_182 0 76 (dk_at dksX9_comes_0 2 rfl rfl)
theorem dX9_comes_5 : decode cX9_comes 5 = .ok (.istore_n 2, 1) := dk_61 (dk_at dksX9_comes_0 5 rfl rfl)
theorem dX9_comes_6 : decode cX9_comes 6 = .ok (.iload_n 2, 1) := dk_28 (dk_at dksX9_comes_0 6 rfl rfl)
theorem dX9_comes_7 : decode cX9_comes 7 = .ok (.ifCond .eq 7, 3) := dk_153 0 7 (dk_at dksX9_comes_0 7 rfl rfl)
theorem dX9_comes_10 : decode cX9_comes 10 = .ok (.aload_n 0, 1) := dk_42 (dk_at dksX9_comes_0 10 rfl rfl)
theorem dX9_comes_11 : decode cX9_comes 11 = .ok (.invokevirtual 90, 3) := dk_182 0 90 (dk_at dksX9_comes_0 11 rfl rfl)
theorem dX9_comes_14 : decode cX9_comes 14 = .ok (.iload_n 2, 1) := dk_28 (dk_at dksX9_comes_0 14 rfl rfl)
theorem dX9_comes_15 : decode cX9_comes 15 = .ok (.ireturn, 1) := dk_172 (dk_at dksX9_comes_0 15 rfl rfl)
abbrev cX9_man : ByteArray := prog_12_method_20_code
def yX9_man : MethodName := ⟨RX9, "man", "()V"⟩
def dkwX9_man_2 : List UInt8 := [177]
abbrev dktX9_man_2 : List UInt8 := dkwX9_man_2 ++ []
def dkwX9_man_1 : List UInt8 := [43, 42, 18, 155, 16, 9, 182, 0, 157, 181, 0, 160, 42, 180, 0, 12, 180, 0, 140, 43, 182, 0, 162, 87]
abbrev dktX9_man_1 : List UInt8 := dkwX9_man_1 ++ dktX9_man_2
def dkwX9_man_0 : List UInt8 := [187, 0, 138, 89, 42, 42, 180, 0, 12, 180, 0, 140, 182, 0, 144, 183, 0, 148, 76, 42, 43, 182, 0, 151]
abbrev dktX9_man_0 : List UInt8 := dkwX9_man_0 ++ dktX9_man_1
theorem dksX9_man_0 : cX9_man.data.toList.drop 0 = dktX9_man_0 := by decide +kernel
theorem dksX9_man_1 : cX9_man.data.toList.drop 24 = dktX9_man_1 := dk_seg dksX9_man_0 24 rfl rfl
theorem dksX9_man_2 : cX9_man.data.toList.drop 48 = dktX9_man_2 := dk_seg dksX9_man_1 24 rfl rfl
theorem dX9_man_0 : decode cX9_man 0 = .ok (.new 138, 3) := dk_187 0 138 (dk_at dksX9_man_0 0 rfl rfl)
theorem dX9_man_3 : decode cX9_man 3 = .ok (.dup, 1) := dk_89 (dk_at dksX9_man_0 3 rfl rfl)
theorem dX9_man_4 : decode cX9_man 4 = .ok (.aload_n 0, 1) := dk_42 (dk_at dksX9_man_0 4 rfl rfl)
theorem dX9_man_5 : decode cX9_man 5 = .ok (.aload_n 0, 1) := dk_42 (dk_at dksX9_man_0 5 rfl rfl)
theorem dX9_man_6 : decode cX9_man 6 = .ok (.getfield 12, 3) := dk_180 0 12 (dk_at dksX9_man_0 6 rfl rfl)
theorem dX9_man_9 : decode cX9_man 9 = .ok (.getfield 140, 3) := dk_180 0 140 (dk_at dksX9_man_0 9 rfl rfl)
theorem dX9_man_12 : decode cX9_man 12 = .ok (.invokevirtual 144, 3) := dk_182 0 144 (dk_at dksX9_man_0 12 rfl rfl)
theorem dX9_man_15 : decode cX9_man 15 = .ok (.invokespecial 148, 3) := dk_183 0 148 (dk_at dksX9_man_0 15 rfl rfl)
theorem dX9_man_18 : decode cX9_man 18 = .ok (.astore_n 1, 1) := dk_76 (dk_at dksX9_man_0 18 rfl rfl)
theorem dX9_man_19 : decode cX9_man 19 = .ok (.aload_n 0, 1) := dk_42 (dk_at dksX9_man_0 19 rfl rfl)
theorem dX9_man_20 : decode cX9_man 20 = .ok (.aload_n 1, 1) := dk_43 (dk_at dksX9_man_0 20 rfl rfl)
theorem dX9_man_21 : decode cX9_man 21 = .ok (.invokevirtual 151, 3) := dk_182 0 151 (dk_at dksX9_man_0 21 rfl rfl)
theorem dX9_man_24 : decode cX9_man 24 = .ok (.aload_n 1, 1) := dk_43 (dk_at dksX9_man_1 0 rfl rfl)
theorem dX9_man_25 : decode cX9_man 25 = .ok (.aload_n 0, 1) := dk_42 (dk_at dksX9_man_1 1 rfl rfl)
theorem dX9_man_26 : decode cX9_man 26 = .ok (.ldc 155, 2) := dk_18 155 (dk_at dksX9_man_1 2 rfl rfl)
theorem dX9_man_28 : decode cX9_man 28 = .ok (.bipush 9, 2) := dk_16 9 (dk_at dksX9_man_1 4 rfl rfl)
theorem dX9_man_30 : decode cX9_man 30 = .ok (.invokevirtual 157, 3) := dk_182 0 157 (dk_at dksX9_man_1 6 rfl rfl)
theorem dX9_man_33 : decode cX9_man 33 = .ok (.putfield 160, 3) := dk_181 0 160 (dk_at dksX9_man_1 9 rfl rfl)
theorem dX9_man_36 : decode cX9_man 36 = .ok (.aload_n 0, 1) := dk_42 (dk_at dksX9_man_1 12 rfl rfl)
theorem dX9_man_37 : decode cX9_man 37 = .ok (.getfield 12, 3) := dk_180 0 12 (dk_at dksX9_man_1 13 rfl rfl)
theorem dX9_man_40 : decode cX9_man 40 = .ok (.getfield 140, 3) := dk_180 0 140 (dk_at dksX9_man_1 16 rfl rfl)
theorem dX9_man_43 : decode cX9_man 43 = .ok (.aload_n 1, 1) := dk_43 (dk_at dksX9_man_1 19 rfl rfl)
theorem dX9_man_44 : decode cX9_man 44 = .ok (.invokevirtual 162, 3) := dk_182 0 162 (dk_at dksX9_man_1 20 rfl rfl)
theorem dX9_man_47 : decode cX9_man 47 = .ok (.pop, 1) := dk_87 (dk_at dksX9_man_1 23 rfl rfl)
theorem dX9_man_48 : decode cX9_man 48 = .ok (.return_, 1) := dk_177 (dk_at dksX9_man_2 0 rfl rfl)
abbrev cX9_fresh : ByteArray := prog_12_method_18_code
def yX9_fresh : MethodName := ⟨RX9, "fresh", "(Ljava/util/ArrayList;)J"⟩
def dkwX9_fresh_3 : List UInt8 := [167, 255, 212, 42, 180, 0, 59, 65, 42, 182, 0, 90, 32, 173]
abbrev dktX9_fresh_3 : List UInt8 := dkwX9_fresh_3 ++ []
def dkwX9_fresh_2 : List UInt8 := [180, 0, 129, 42, 180, 0, 59, 148, 154, 0, 16, 42, 180, 0, 26, 6, 42, 180, 0, 33, 182, 0, 80, 191]
abbrev dktX9_fresh_2 : List UInt8 := dkwX9_fresh_2 ++ dktX9_fresh_3
def dkwX9_fresh_1 : List UInt8 := [182, 0, 112, 77, 44, 185, 0, 118, 1, 0, 153, 0, 41, 44, 185, 0, 124, 1, 0, 192, 0, 127, 78, 45]
abbrev dktX9_fresh_1 : List UInt8 := dkwX9_fresh_1 ++ dktX9_fresh_2
def dkwX9_fresh_0 : List UInt8 := [42, 180, 0, 40, 4, 160, 0, 13, 42, 178, 0, 104, 182, 0, 108, 155, 0, 8, 42, 182, 0, 86, 191, 43]
abbrev dktX9_fresh_0 : List UInt8 := dkwX9_fresh_0 ++ dktX9_fresh_1
theorem dksX9_fresh_0 : cX9_fresh.data.toList.drop 0 = dktX9_fresh_0 := by decide +kernel
theorem dksX9_fresh_1 : cX9_fresh.data.toList.drop 24 = dktX9_fresh_1 := dk_seg dksX9_fresh_0 24 rfl rfl
theorem dksX9_fresh_2 : cX9_fresh.data.toList.drop 48 = dktX9_fresh_2 := dk_seg dksX9_fresh_1 24 rfl rfl
theorem dksX9_fresh_3 : cX9_fresh.data.toList.drop 72 = dktX9_fresh_3 := dk_seg dksX9_fresh_2 24 rfl rfl
theorem dX9_fresh_0 : decode cX9_fresh 0 = .ok (.aload_n 0, 1) := dk_42 (dk_at dksX9_fresh_0 0 rfl rfl)
theorem dX9_fresh_1 : decode cX9_fresh 1 = .ok (.getfield 40, 3) := dk_180 0 40 (dk_at dksX9_fresh_0 1 rfl rfl)
theorem dX9_fresh_4 : decode cX9_fresh 4 = .ok (.iconst 1, 1) := dk_4 (dk_at dksX9_fresh_0 4 rfl rfl)
theorem dX9_fresh_5 : decode cX9_fresh 5 = .ok (.if_icmp .ne 13, 3) := dk_160 0 13 (dk_at dksX9_fresh_0 5 rfl rfl)
theorem dX9_fresh_8 : decode cX9_fresh 8 = .ok (.aload_n 0, 1) := dk_42 (dk_at dksX9_fresh_0 8 rfl rfl)
theorem dX9_fresh_9 : decode cX9_fresh 9 = .ok (.getstatic 104, 3) := dk_178 0 104 (dk_at dksX9_fresh_0 9 rfl rfl)
theorem dX9_fresh_12 : decode cX9_fresh 12 = .ok (.invokevirtual 108, 3) := dk_182 0 108 (dk_at dksX9_fresh_0 12 rfl rfl)
theorem dX9_fresh_15 : decode cX9_fresh 15 = .ok (.ifCond .lt 8, 3) := dk_155 0 8 (dk_at dksX9_fresh_0 15 rfl rfl)
theorem dX9_fresh_18 : decode cX9_fresh 18 = .ok (.aload_n 0, 1) := dk_42 (dk_at dksX9_fresh_0 18 rfl rfl)
theorem dX9_fresh_19 : decode cX9_fresh 19 = .ok (.invokevirtual 86, 3) := dk_182 0 86 (dk_at dksX9_fresh_0 19 rfl rfl)
theorem dX9_fresh_22 : decode cX9_fresh 22 = .ok (.athrow, 1) := dk_191 (dk_at dksX9_fresh_0 22 rfl rfl)
theorem dX9_fresh_23 : decode cX9_fresh 23 = .ok (.aload_n 1, 1) := dk_43 (dk_at dksX9_fresh_0 23 rfl rfl)
theorem dX9_fresh_24 : decode cX9_fresh 24 = .ok (.invokevirtual 112, 3) := dk_182 0 112 (dk_at dksX9_fresh_1 0 rfl rfl)
theorem dX9_fresh_27 : decode cX9_fresh 27 = .ok (.astore_n 2, 1) := dk_77 (dk_at dksX9_fresh_1 3 rfl rfl)
theorem dX9_fresh_28 : decode cX9_fresh 28 = .ok (.aload_n 2, 1) := dk_44 (dk_at dksX9_fresh_1 4 rfl rfl)
theorem dX9_fresh_29 : decode cX9_fresh 29 = .ok (.invokeinterface 118 1, 5) := by decide +kernel
theorem dX9_fresh_34 : decode cX9_fresh 34 = .ok (.ifCond .eq 41, 3) := dk_153 0 41 (dk_at dksX9_fresh_1 10 rfl rfl)
theorem dX9_fresh_37 : decode cX9_fresh 37 = .ok (.aload_n 2, 1) := dk_44 (dk_at dksX9_fresh_1 13 rfl rfl)
theorem dX9_fresh_38 : decode cX9_fresh 38 = .ok (.invokeinterface 124 1, 5) := by decide +kernel
theorem dX9_fresh_43 : decode cX9_fresh 43 = .ok (.checkcast 127, 3) := dk_192 0 127 (dk_at dksX9_fresh_1 19 rfl rfl)
theorem dX9_fresh_46 : decode cX9_fresh 46 = .ok (.astore_n 3, 1) := dk_78 (dk_at dksX9_fresh_1 22 rfl rfl)
theorem dX9_fresh_47 : decode cX9_fresh 47 = .ok (.aload_n 3, 1) := dk_45 (dk_at dksX9_fresh_1 23 rfl rfl)
theorem dX9_fresh_48 : decode cX9_fresh 48 = .ok (.getfield 129, 3) := dk_180 0 129 (dk_at dksX9_fresh_2 0 rfl rfl)
theorem dX9_fresh_51 : decode cX9_fresh 51 = .ok (.aload_n 0, 1) := dk_42 (dk_at dksX9_fresh_2 3 rfl rfl)
theorem dX9_fresh_52 : decode cX9_fresh 52 = .ok (.getfield 59, 3) := dk_180 0 59 (dk_at dksX9_fresh_2 4 rfl rfl)
theorem dX9_fresh_55 : decode cX9_fresh 55 = .ok (.lcmp, 1) := dk_148 (dk_at dksX9_fresh_2 7 rfl rfl)
theorem dX9_fresh_56 : decode cX9_fresh 56 = .ok (.ifCond .ne 16, 3) := dk_154 0 16 (dk_at dksX9_fresh_2 8 rfl rfl)
theorem dX9_fresh_59 : decode cX9_fresh 59 = .ok (.aload_n 0, 1) := dk_42 (dk_at dksX9_fresh_2 11 rfl rfl)
theorem dX9_fresh_60 : decode cX9_fresh 60 = .ok (.getfield 26, 3) := dk_180 0 26 (dk_at dksX9_fresh_2 12 rfl rfl)
theorem dX9_fresh_63 : decode cX9_fresh 63 = .ok (.iconst 3, 1) := dk_6 (dk_at dksX9_fresh_2 15 rfl rfl)
theorem dX9_fresh_64 : decode cX9_fresh 64 = .ok (.aload_n 0, 1) := dk_42 (dk_at dksX9_fresh_2 16 rfl rfl)
theorem dX9_fresh_65 : decode cX9_fresh 65 = .ok (.getfield 33, 3) := dk_180 0 33 (dk_at dksX9_fresh_2 17 rfl rfl)
theorem dX9_fresh_68 : decode cX9_fresh 68 = .ok (.invokevirtual 80, 3) := dk_182 0 80 (dk_at dksX9_fresh_2 20 rfl rfl)
theorem dX9_fresh_71 : decode cX9_fresh 71 = .ok (.athrow, 1) := dk_191 (dk_at dksX9_fresh_2 23 rfl rfl)
theorem dX9_fresh_72 : decode cX9_fresh 72 = .ok (.goto (-44), 3) := dk_167 255 212 (dk_at dksX9_fresh_3 0 rfl rfl)
theorem dX9_fresh_75 : decode cX9_fresh 75 = .ok (.aload_n 0, 1) := dk_42 (dk_at dksX9_fresh_3 3 rfl rfl)
theorem dX9_fresh_76 : decode cX9_fresh 76 = .ok (.getfield 59, 3) := dk_180 0 59 (dk_at dksX9_fresh_3 4 rfl rfl)
theorem dX9_fresh_79 : decode cX9_fresh 79 = .ok (.lstore_n 2, 1) := dk_65 (dk_at dksX9_fresh_3 7 rfl rfl)
theorem dX9_fresh_80 : decode cX9_fresh 80 = .ok (.aload_n 0, 1) := dk_42 (dk_at dksX9_fresh_3 8 rfl rfl)
theorem dX9_fresh_81 : decode cX9_fresh 81 = .ok (.invokevirtual 90, 3) := dk_182 0 90 (dk_at dksX9_fresh_3 9 rfl rfl)
theorem dX9_fresh_84 : decode cX9_fresh 84 = .ok (.lload_n 2, 1) := dk_32 (dk_at dksX9_fresh_3 12 rfl rfl)
theorem dX9_fresh_85 : decode cX9_fresh 85 = .ok (.lreturn, 1) := dk_173 (dk_at dksX9_fresh_3 13 rfl rfl)
abbrev cX9_which : ByteArray := prog_12_method_10_code
def yX9_which : MethodName := ⟨RX9, "which", "([Ljava/lang/String;)I"⟩
def dkwX9_which_1 : List UInt8 := [167, 255, 235, 2, 172]
abbrev dktX9_which_1 : List UInt8 := dkwX9_which_1 ++ []
def dkwX9_which_0 : List UInt8 := [3, 61, 28, 43, 190, 162, 0, 21, 42, 43, 28, 50, 182, 0, 76, 153, 0, 5, 28, 172, 132, 2, 1]
abbrev dktX9_which_0 : List UInt8 := dkwX9_which_0 ++ dktX9_which_1
theorem dksX9_which_0 : cX9_which.data.toList.drop 0 = dktX9_which_0 := by decide +kernel
theorem dksX9_which_1 : cX9_which.data.toList.drop 23 = dktX9_which_1 := dk_seg dksX9_which_0 23 rfl rfl
theorem dX9_which_0 : decode cX9_which 0 = .ok (.iconst 0, 1) := dk_3 (dk_at dksX9_which_0 0 rfl rfl)
theorem dX9_which_1 : decode cX9_which 1 = .ok (.istore_n 2, 1) := dk_61 (dk_at dksX9_which_0 1 rfl rfl)
theorem dX9_which_2 : decode cX9_which 2 = .ok (.iload_n 2, 1) := dk_28 (dk_at dksX9_which_0 2 rfl rfl)
theorem dX9_which_3 : decode cX9_which 3 = .ok (.aload_n 1, 1) := dk_43 (dk_at dksX9_which_0 3 rfl rfl)
theorem dX9_which_4 : decode cX9_which 4 = .ok (.arraylength, 1) := dk_190 (dk_at dksX9_which_0 4 rfl rfl)
theorem dX9_which_5 : decode cX9_which 5 = .ok (.if_icmp .ge 21, 3) := dk_162 0 21 (dk_at dksX9_which_0 5 rfl rfl)
theorem dX9_which_8 : decode cX9_which 8 = .ok (.aload_n 0, 1) := dk_42 (dk_at dksX9_which_0 8 rfl rfl)
theorem dX9_which_9 : decode cX9_which 9 = .ok (.aload_n 1, 1) := dk_43 (dk_at dksX9_which_0 9 rfl rfl)
theorem dX9_which_10 : decode cX9_which 10 = .ok (.iload_n 2, 1) := dk_28 (dk_at dksX9_which_0 10 rfl rfl)
theorem dX9_which_11 : decode cX9_which 11 = .ok (.aaload, 1) := dk_50 (dk_at dksX9_which_0 11 rfl rfl)
theorem dX9_which_12 : decode cX9_which 12 = .ok (.invokevirtual 76, 3) := dk_182 0 76 (dk_at dksX9_which_0 12 rfl rfl)
theorem dX9_which_15 : decode cX9_which 15 = .ok (.ifCond .eq 5, 3) := dk_153 0 5 (dk_at dksX9_which_0 15 rfl rfl)
theorem dX9_which_18 : decode cX9_which 18 = .ok (.iload_n 2, 1) := dk_28 (dk_at dksX9_which_0 18 rfl rfl)
theorem dX9_which_19 : decode cX9_which 19 = .ok (.ireturn, 1) := dk_172 (dk_at dksX9_which_0 19 rfl rfl)
theorem dX9_which_20 : decode cX9_which 20 = .ok (.iinc 2 1, 3) := dk_132 2 1 (dk_at dksX9_which_0 20 rfl rfl)
theorem dX9_which_23 : decode cX9_which 23 = .ok (.goto (-21), 3) := dk_167 255 235 (dk_at dksX9_which_1 0 rfl rfl)
theorem dX9_which_26 : decode cX9_which 26 = .ok (.iconst (-1), 1) := dk_2 (dk_at dksX9_which_1 3 rfl rfl)
theorem dX9_which_27 : decode cX9_which 27 = .ok (.ireturn, 1) := dk_172 (dk_at dksX9_which_1 4 rfl rfl)
abbrev cX9_measures : ByteArray := prog_12_method_19_code
def yX9_measures : MethodName := ⟨RX9, "measures", "(LTailorRegiment$Called;)V"⟩
def dkwX9_measures_1 : List UInt8 := [177]
abbrev dktX9_measures_1 : List UInt8 := dkwX9_measures_1 ++ []
def dkwX9_measures_0 : List UInt8 := [43, 42, 18, 130, 16, 99, 182, 0, 100, 181, 0, 132, 43, 42, 18, 134, 16, 99, 182, 0, 100, 181, 0, 136]
abbrev dktX9_measures_0 : List UInt8 := dkwX9_measures_0 ++ dktX9_measures_1
theorem dksX9_measures_0 : cX9_measures.data.toList.drop 0 = dktX9_measures_0 := by decide +kernel
theorem dksX9_measures_1 : cX9_measures.data.toList.drop 24 = dktX9_measures_1 := dk_seg dksX9_measures_0 24 rfl rfl
theorem dX9_measures_0 : decode cX9_measures 0 = .ok (.aload_n 1, 1) := dk_43 (dk_at dksX9_measures_0 0 rfl rfl)
theorem dX9_measures_1 : decode cX9_measures 1 = .ok (.aload_n 0, 1) := dk_42 (dk_at dksX9_measures_0 1 rfl rfl)
theorem dX9_measures_2 : decode cX9_measures 2 = .ok (.ldc 130, 2) := dk_18 130 (dk_at dksX9_measures_0 2 rfl rfl)
theorem dX9_measures_4 : decode cX9_measures 4 = .ok (.bipush 99, 2) := dk_16 99 (dk_at dksX9_measures_0 4 rfl rfl)
theorem dX9_measures_6 : decode cX9_measures 6 = .ok (.invokevirtual 100, 3) := dk_182 0 100 (dk_at dksX9_measures_0 6 rfl rfl)
theorem dX9_measures_9 : decode cX9_measures 9 = .ok (.putfield 132, 3) := dk_181 0 132 (dk_at dksX9_measures_0 9 rfl rfl)
theorem dX9_measures_12 : decode cX9_measures 12 = .ok (.aload_n 1, 1) := dk_43 (dk_at dksX9_measures_0 12 rfl rfl)
theorem dX9_measures_13 : decode cX9_measures 13 = .ok (.aload_n 0, 1) := dk_42 (dk_at dksX9_measures_0 13 rfl rfl)
theorem dX9_measures_14 : decode cX9_measures 14 = .ok (.ldc 134, 2) := dk_18 134 (dk_at dksX9_measures_0 14 rfl rfl)
theorem dX9_measures_16 : decode cX9_measures 16 = .ok (.bipush 99, 2) := dk_16 99 (dk_at dksX9_measures_0 16 rfl rfl)
theorem dX9_measures_18 : decode cX9_measures 18 = .ok (.invokevirtual 100, 3) := dk_182 0 100 (dk_at dksX9_measures_0 18 rfl rfl)
theorem dX9_measures_21 : decode cX9_measures 21 = .ok (.putfield 136, 3) := dk_181 0 136 (dk_at dksX9_measures_0 21 rfl rfl)
theorem dX9_measures_24 : decode cX9_measures 24 = .ok (.return_, 1) := dk_177 (dk_at dksX9_measures_1 0 rfl rfl)
abbrev cX9_after : ByteArray := prog_12_method_15_code
def yX9_after : MethodName := ⟨RX9, "after", "(Ljava/lang/String;I)I"⟩
def dkwX9_after_0 : List UInt8 := [42, 42, 43, 182, 0, 76, 182, 0, 93, 42, 3, 28, 182, 0, 97, 172]
abbrev dktX9_after_0 : List UInt8 := dkwX9_after_0 ++ []
theorem dksX9_after_0 : cX9_after.data.toList.drop 0 = dktX9_after_0 := by decide +kernel
theorem dX9_after_0 : decode cX9_after 0 = .ok (.aload_n 0, 1) := dk_42 (dk_at dksX9_after_0 0 rfl rfl)
theorem dX9_after_1 : decode cX9_after 1 = .ok (.aload_n 0, 1) := dk_42 (dk_at dksX9_after_0 1 rfl rfl)
theorem dX9_after_2 : decode cX9_after 2 = .ok (.aload_n 1, 1) := dk_43 (dk_at dksX9_after_0 2 rfl rfl)
theorem dX9_after_3 : decode cX9_after 3 = .ok (.invokevirtual 76, 3) := dk_182 0 76 (dk_at dksX9_after_0 3 rfl rfl)
theorem dX9_after_6 : decode cX9_after 6 = .ok (.invokevirtual 93, 3) := dk_182 0 93 (dk_at dksX9_after_0 6 rfl rfl)
theorem dX9_after_9 : decode cX9_after 9 = .ok (.aload_n 0, 1) := dk_42 (dk_at dksX9_after_0 9 rfl rfl)
theorem dX9_after_10 : decode cX9_after 10 = .ok (.iconst 0, 1) := dk_3 (dk_at dksX9_after_0 10 rfl rfl)
theorem dX9_after_11 : decode cX9_after 11 = .ok (.iload_n 2, 1) := dk_28 (dk_at dksX9_after_0 11 rfl rfl)
theorem dX9_after_12 : decode cX9_after 12 = .ok (.invokevirtual 97, 3) := dk_182 0 97 (dk_at dksX9_after_0 12 rfl rfl)
theorem dX9_after_15 : decode cX9_after 15 = .ok (.ireturn, 1) := dk_172 (dk_at dksX9_after_0 15 rfl rfl)
abbrev cX9_must : ByteArray := prog_12_method_13_code
def yX9_must : MethodName := ⟨RX9, "must", "(Z)V"⟩
def dkwX9_must_0 : List UInt8 := [27, 154, 0, 8, 42, 182, 0, 86, 191, 42, 182, 0, 90, 177]
abbrev dktX9_must_0 : List UInt8 := dkwX9_must_0 ++ []
theorem dksX9_must_0 : cX9_must.data.toList.drop 0 = dktX9_must_0 := by decide +kernel
theorem dX9_must_0 : decode cX9_must 0 = .ok (.iload_n 1, 1) := dk_27 (dk_at dksX9_must_0 0 rfl rfl)
theorem dX9_must_1 : decode cX9_must 1 = .ok (.ifCond .ne 8, 3) := dk_154 0 8 (dk_at dksX9_must_0 1 rfl rfl)
theorem dX9_must_4 : decode cX9_must 4 = .ok (.aload_n 0, 1) := dk_42 (dk_at dksX9_must_0 4 rfl rfl)
theorem dX9_must_5 : decode cX9_must 5 = .ok (.invokevirtual 86, 3) := dk_182 0 86 (dk_at dksX9_must_0 5 rfl rfl)
theorem dX9_must_8 : decode cX9_must 8 = .ok (.athrow, 1) := dk_191 (dk_at dksX9_must_0 8 rfl rfl)
theorem dX9_must_9 : decode cX9_must 9 = .ok (.aload_n 0, 1) := dk_42 (dk_at dksX9_must_0 9 rfl rfl)
theorem dX9_must_10 : decode cX9_must 10 = .ok (.invokevirtual 90, 3) := dk_182 0 90 (dk_at dksX9_must_0 10 rfl rfl)
theorem dX9_must_13 : decode cX9_must 13 = .ok (.return_, 1) := dk_177 (dk_at dksX9_must_0 13 rfl rfl)
abbrev cX9_number : ByteArray := prog_12_method_14_code
def yX9_number : MethodName := ⟨RX9, "number", "(II)I"⟩
def dkwX9_number_2 : List UInt8 := [62, 42, 182, 0, 90, 29, 172]
abbrev dktX9_number_2 : List UInt8 := dkwX9_number_2 ++ []
def dkwX9_number_1 : List UInt8 := [180, 0, 63, 28, 164, 0, 16, 42, 180, 0, 26, 7, 42, 180, 0, 33, 182, 0, 80, 191, 42, 180, 0, 63]
abbrev dktX9_number_1 : List UInt8 := dkwX9_number_1 ++ dktX9_number_2
def dkwX9_number_0 : List UInt8 := [42, 180, 0, 40, 5, 159, 0, 8, 42, 182, 0, 86, 191, 42, 180, 0, 63, 27, 161, 0, 11, 42]
abbrev dktX9_number_0 : List UInt8 := dkwX9_number_0 ++ dktX9_number_1
theorem dksX9_number_0 : cX9_number.data.toList.drop 0 = dktX9_number_0 := by decide +kernel
theorem dksX9_number_1 : cX9_number.data.toList.drop 22 = dktX9_number_1 := dk_seg dksX9_number_0 22 rfl rfl
theorem dksX9_number_2 : cX9_number.data.toList.drop 46 = dktX9_number_2 := dk_seg dksX9_number_1 24 rfl rfl
theorem dX9_number_0 : decode cX9_number 0 = .ok (.aload_n 0, 1) := dk_42 (dk_at dksX9_number_0 0 rfl rfl)
theorem dX9_number_1 : decode cX9_number 1 = .ok (.getfield 40, 3) := dk_180 0 40 (dk_at dksX9_number_0 1 rfl rfl)
theorem dX9_number_4 : decode cX9_number 4 = .ok (.iconst 2, 1) := dk_5 (dk_at dksX9_number_0 4 rfl rfl)
theorem dX9_number_5 : decode cX9_number 5 = .ok (.if_icmp .eq 8, 3) := dk_159 0 8 (dk_at dksX9_number_0 5 rfl rfl)
theorem dX9_number_8 : decode cX9_number 8 = .ok (.aload_n 0, 1) := dk_42 (dk_at dksX9_number_0 8 rfl rfl)
theorem dX9_number_9 : decode cX9_number 9 = .ok (.invokevirtual 86, 3) := dk_182 0 86 (dk_at dksX9_number_0 9 rfl rfl)
theorem dX9_number_12 : decode cX9_number 12 = .ok (.athrow, 1) := dk_191 (dk_at dksX9_number_0 12 rfl rfl)
theorem dX9_number_13 : decode cX9_number 13 = .ok (.aload_n 0, 1) := dk_42 (dk_at dksX9_number_0 13 rfl rfl)
theorem dX9_number_14 : decode cX9_number 14 = .ok (.getfield 63, 3) := dk_180 0 63 (dk_at dksX9_number_0 14 rfl rfl)
theorem dX9_number_17 : decode cX9_number 17 = .ok (.iload_n 1, 1) := dk_27 (dk_at dksX9_number_0 17 rfl rfl)
theorem dX9_number_18 : decode cX9_number 18 = .ok (.if_icmp .lt 11, 3) := dk_161 0 11 (dk_at dksX9_number_0 18 rfl rfl)
theorem dX9_number_21 : decode cX9_number 21 = .ok (.aload_n 0, 1) := dk_42 (dk_at dksX9_number_0 21 rfl rfl)
theorem dX9_number_22 : decode cX9_number 22 = .ok (.getfield 63, 3) := dk_180 0 63 (dk_at dksX9_number_1 0 rfl rfl)
theorem dX9_number_25 : decode cX9_number 25 = .ok (.iload_n 2, 1) := dk_28 (dk_at dksX9_number_1 3 rfl rfl)
theorem dX9_number_26 : decode cX9_number 26 = .ok (.if_icmp .le 16, 3) := dk_164 0 16 (dk_at dksX9_number_1 4 rfl rfl)
theorem dX9_number_29 : decode cX9_number 29 = .ok (.aload_n 0, 1) := dk_42 (dk_at dksX9_number_1 7 rfl rfl)
theorem dX9_number_30 : decode cX9_number 30 = .ok (.getfield 26, 3) := dk_180 0 26 (dk_at dksX9_number_1 8 rfl rfl)
theorem dX9_number_33 : decode cX9_number 33 = .ok (.iconst 4, 1) := dk_7 (dk_at dksX9_number_1 11 rfl rfl)
theorem dX9_number_34 : decode cX9_number 34 = .ok (.aload_n 0, 1) := dk_42 (dk_at dksX9_number_1 12 rfl rfl)
theorem dX9_number_35 : decode cX9_number 35 = .ok (.getfield 33, 3) := dk_180 0 33 (dk_at dksX9_number_1 13 rfl rfl)
theorem dX9_number_38 : decode cX9_number 38 = .ok (.invokevirtual 80, 3) := dk_182 0 80 (dk_at dksX9_number_1 16 rfl rfl)
theorem dX9_number_41 : decode cX9_number 41 = .ok (.athrow, 1) := dk_191 (dk_at dksX9_number_1 19 rfl rfl)
theorem dX9_number_42 : decode cX9_number 42 = .ok (.aload_n 0, 1) := dk_42 (dk_at dksX9_number_1 20 rfl rfl)
theorem dX9_number_43 : decode cX9_number 43 = .ok (.getfield 63, 3) := dk_180 0 63 (dk_at dksX9_number_1 21 rfl rfl)
theorem dX9_number_46 : decode cX9_number 46 = .ok (.istore_n 3, 1) := dk_62 (dk_at dksX9_number_2 0 rfl rfl)
theorem dX9_number_47 : decode cX9_number 47 = .ok (.aload_n 0, 1) := dk_42 (dk_at dksX9_number_2 1 rfl rfl)
theorem dX9_number_48 : decode cX9_number 48 = .ok (.invokevirtual 90, 3) := dk_182 0 90 (dk_at dksX9_number_2 2 rfl rfl)
theorem dX9_number_51 : decode cX9_number 51 = .ok (.iload_n 3, 1) := dk_29 (dk_at dksX9_number_2 5 rfl rfl)
theorem dX9_number_52 : decode cX9_number 52 = .ok (.ireturn, 1) := dk_172 (dk_at dksX9_number_2 6 rfl rfl)
abbrev cX9_perhaps : ByteArray := prog_12_method_16_code
def yX9_perhaps : MethodName := ⟨RX9, "perhaps", "(Ljava/lang/String;I)I"⟩
def dkwX9_perhaps_0 : List UInt8 := [42, 43, 182, 0, 76, 153, 0, 12, 42, 43, 28, 182, 0, 100, 167, 0, 4, 3, 172]
abbrev dktX9_perhaps_0 : List UInt8 := dkwX9_perhaps_0 ++ []
theorem dksX9_perhaps_0 : cX9_perhaps.data.toList.drop 0 = dktX9_perhaps_0 := by decide +kernel
theorem dX9_perhaps_0 : decode cX9_perhaps 0 = .ok (.aload_n 0, 1) := dk_42 (dk_at dksX9_perhaps_0 0 rfl rfl)
theorem dX9_perhaps_1 : decode cX9_perhaps 1 = .ok (.aload_n 1, 1) := dk_43 (dk_at dksX9_perhaps_0 1 rfl rfl)
theorem dX9_perhaps_2 : decode cX9_perhaps 2 = .ok (.invokevirtual 76, 3) := dk_182 0 76 (dk_at dksX9_perhaps_0 2 rfl rfl)
theorem dX9_perhaps_5 : decode cX9_perhaps 5 = .ok (.ifCond .eq 12, 3) := dk_153 0 12 (dk_at dksX9_perhaps_0 5 rfl rfl)
theorem dX9_perhaps_8 : decode cX9_perhaps 8 = .ok (.aload_n 0, 1) := dk_42 (dk_at dksX9_perhaps_0 8 rfl rfl)
theorem dX9_perhaps_9 : decode cX9_perhaps 9 = .ok (.aload_n 1, 1) := dk_43 (dk_at dksX9_perhaps_0 9 rfl rfl)
theorem dX9_perhaps_10 : decode cX9_perhaps 10 = .ok (.iload_n 2, 1) := dk_28 (dk_at dksX9_perhaps_0 10 rfl rfl)
theorem dX9_perhaps_11 : decode cX9_perhaps 11 = .ok (.invokevirtual 100, 3) := dk_182 0 100 (dk_at dksX9_perhaps_0 11 rfl rfl)
theorem dX9_perhaps_14 : decode cX9_perhaps 14 = .ok (.goto 4, 3) := dk_167 0 4 (dk_at dksX9_perhaps_0 14 rfl rfl)
theorem dX9_perhaps_17 : decode cX9_perhaps 17 = .ok (.iconst 0, 1) := dk_3 (dk_at dksX9_perhaps_0 17 rfl rfl)
theorem dX9_perhaps_18 : decode cX9_perhaps 18 = .ok (.ireturn, 1) := dk_172 (dk_at dksX9_perhaps_0 18 rfl rfl)
abbrev cX9_coat : ByteArray := prog_12_method_21_code
def yX9_coat : MethodName := ⟨RX9, "coat", "()V"⟩
def dkwX9_coat_2 : List UInt8 := [42, 180, 0, 12, 180, 0, 168, 43, 182, 0, 162, 87, 177]
abbrev dktX9_coat_2 : List UInt8 := dkwX9_coat_2 ++ []
def dkwX9_coat_1 : List UInt8 := [43, 42, 18, 172, 16, 20, 182, 0, 157, 181, 0, 174, 43, 42, 18, 176, 16, 99, 182, 0, 157, 181, 0, 178]
abbrev dktX9_coat_1 : List UInt8 := dkwX9_coat_1 ++ dktX9_coat_2
def dkwX9_coat_0 : List UInt8 := [187, 0, 166, 89, 42, 42, 180, 0, 12, 180, 0, 168, 182, 0, 144, 183, 0, 171, 76, 42, 43, 182, 0, 151]
abbrev dktX9_coat_0 : List UInt8 := dkwX9_coat_0 ++ dktX9_coat_1
theorem dksX9_coat_0 : cX9_coat.data.toList.drop 0 = dktX9_coat_0 := by decide +kernel
theorem dksX9_coat_1 : cX9_coat.data.toList.drop 24 = dktX9_coat_1 := dk_seg dksX9_coat_0 24 rfl rfl
theorem dksX9_coat_2 : cX9_coat.data.toList.drop 48 = dktX9_coat_2 := dk_seg dksX9_coat_1 24 rfl rfl
theorem dX9_coat_0 : decode cX9_coat 0 = .ok (.new 166, 3) := dk_187 0 166 (dk_at dksX9_coat_0 0 rfl rfl)
theorem dX9_coat_3 : decode cX9_coat 3 = .ok (.dup, 1) := dk_89 (dk_at dksX9_coat_0 3 rfl rfl)
theorem dX9_coat_4 : decode cX9_coat 4 = .ok (.aload_n 0, 1) := dk_42 (dk_at dksX9_coat_0 4 rfl rfl)
theorem dX9_coat_5 : decode cX9_coat 5 = .ok (.aload_n 0, 1) := dk_42 (dk_at dksX9_coat_0 5 rfl rfl)
theorem dX9_coat_6 : decode cX9_coat 6 = .ok (.getfield 12, 3) := dk_180 0 12 (dk_at dksX9_coat_0 6 rfl rfl)
theorem dX9_coat_9 : decode cX9_coat 9 = .ok (.getfield 168, 3) := dk_180 0 168 (dk_at dksX9_coat_0 9 rfl rfl)
theorem dX9_coat_12 : decode cX9_coat 12 = .ok (.invokevirtual 144, 3) := dk_182 0 144 (dk_at dksX9_coat_0 12 rfl rfl)
theorem dX9_coat_15 : decode cX9_coat 15 = .ok (.invokespecial 171, 3) := dk_183 0 171 (dk_at dksX9_coat_0 15 rfl rfl)
theorem dX9_coat_18 : decode cX9_coat 18 = .ok (.astore_n 1, 1) := dk_76 (dk_at dksX9_coat_0 18 rfl rfl)
theorem dX9_coat_19 : decode cX9_coat 19 = .ok (.aload_n 0, 1) := dk_42 (dk_at dksX9_coat_0 19 rfl rfl)
theorem dX9_coat_20 : decode cX9_coat 20 = .ok (.aload_n 1, 1) := dk_43 (dk_at dksX9_coat_0 20 rfl rfl)
theorem dX9_coat_21 : decode cX9_coat 21 = .ok (.invokevirtual 151, 3) := dk_182 0 151 (dk_at dksX9_coat_0 21 rfl rfl)
theorem dX9_coat_24 : decode cX9_coat 24 = .ok (.aload_n 1, 1) := dk_43 (dk_at dksX9_coat_1 0 rfl rfl)
theorem dX9_coat_25 : decode cX9_coat 25 = .ok (.aload_n 0, 1) := dk_42 (dk_at dksX9_coat_1 1 rfl rfl)
theorem dX9_coat_26 : decode cX9_coat 26 = .ok (.ldc 172, 2) := dk_18 172 (dk_at dksX9_coat_1 2 rfl rfl)
theorem dX9_coat_28 : decode cX9_coat 28 = .ok (.bipush 20, 2) := dk_16 20 (dk_at dksX9_coat_1 4 rfl rfl)
theorem dX9_coat_30 : decode cX9_coat 30 = .ok (.invokevirtual 157, 3) := dk_182 0 157 (dk_at dksX9_coat_1 6 rfl rfl)
theorem dX9_coat_33 : decode cX9_coat 33 = .ok (.putfield 174, 3) := dk_181 0 174 (dk_at dksX9_coat_1 9 rfl rfl)
theorem dX9_coat_36 : decode cX9_coat 36 = .ok (.aload_n 1, 1) := dk_43 (dk_at dksX9_coat_1 12 rfl rfl)
theorem dX9_coat_37 : decode cX9_coat 37 = .ok (.aload_n 0, 1) := dk_42 (dk_at dksX9_coat_1 13 rfl rfl)
theorem dX9_coat_38 : decode cX9_coat 38 = .ok (.ldc 176, 2) := dk_18 176 (dk_at dksX9_coat_1 14 rfl rfl)
theorem dX9_coat_40 : decode cX9_coat 40 = .ok (.bipush 99, 2) := dk_16 99 (dk_at dksX9_coat_1 16 rfl rfl)
theorem dX9_coat_42 : decode cX9_coat 42 = .ok (.invokevirtual 157, 3) := dk_182 0 157 (dk_at dksX9_coat_1 18 rfl rfl)
theorem dX9_coat_45 : decode cX9_coat 45 = .ok (.putfield 178, 3) := dk_181 0 178 (dk_at dksX9_coat_1 21 rfl rfl)
theorem dX9_coat_48 : decode cX9_coat 48 = .ok (.aload_n 0, 1) := dk_42 (dk_at dksX9_coat_2 0 rfl rfl)
theorem dX9_coat_49 : decode cX9_coat 49 = .ok (.getfield 12, 3) := dk_180 0 12 (dk_at dksX9_coat_2 1 rfl rfl)
theorem dX9_coat_52 : decode cX9_coat 52 = .ok (.getfield 168, 3) := dk_180 0 168 (dk_at dksX9_coat_2 4 rfl rfl)
theorem dX9_coat_55 : decode cX9_coat 55 = .ok (.aload_n 1, 1) := dk_43 (dk_at dksX9_coat_2 7 rfl rfl)
theorem dX9_coat_56 : decode cX9_coat 56 = .ok (.invokevirtual 162, 3) := dk_182 0 162 (dk_at dksX9_coat_2 8 rfl rfl)
theorem dX9_coat_59 : decode cX9_coat 59 = .ok (.pop, 1) := dk_87 (dk_at dksX9_coat_2 11 rfl rfl)
theorem dX9_coat_60 : decode cX9_coat 60 = .ok (.return_, 1) := dk_177 (dk_at dksX9_coat_2 12 rfl rfl)
abbrev cX9_formula : ByteArray := prog_12_method_22_code
def yX9_formula : MethodName := ⟨RX9, "formula", "()LTailorRegiment$Part;"⟩
def dkwX9_formula_0 : List UInt8 := [42, 3, 181, 0, 180, 42, 3, 181, 0, 183, 42, 182, 0, 186, 176]
abbrev dktX9_formula_0 : List UInt8 := dkwX9_formula_0 ++ []
theorem dksX9_formula_0 : cX9_formula.data.toList.drop 0 = dktX9_formula_0 := by decide +kernel
theorem dX9_formula_0 : decode cX9_formula 0 = .ok (.aload_n 0, 1) := dk_42 (dk_at dksX9_formula_0 0 rfl rfl)
theorem dX9_formula_1 : decode cX9_formula 1 = .ok (.iconst 0, 1) := dk_3 (dk_at dksX9_formula_0 1 rfl rfl)
theorem dX9_formula_2 : decode cX9_formula 2 = .ok (.putfield 180, 3) := dk_181 0 180 (dk_at dksX9_formula_0 2 rfl rfl)
theorem dX9_formula_5 : decode cX9_formula 5 = .ok (.aload_n 0, 1) := dk_42 (dk_at dksX9_formula_0 5 rfl rfl)
theorem dX9_formula_6 : decode cX9_formula 6 = .ok (.iconst 0, 1) := dk_3 (dk_at dksX9_formula_0 6 rfl rfl)
theorem dX9_formula_7 : decode cX9_formula 7 = .ok (.putfield 183, 3) := dk_181 0 183 (dk_at dksX9_formula_0 7 rfl rfl)
theorem dX9_formula_10 : decode cX9_formula 10 = .ok (.aload_n 0, 1) := dk_42 (dk_at dksX9_formula_0 10 rfl rfl)
theorem dX9_formula_11 : decode cX9_formula 11 = .ok (.invokevirtual 186, 3) := dk_182 0 186 (dk_at dksX9_formula_0 11 rfl rfl)
theorem dX9_formula_14 : decode cX9_formula 14 = .ok (.areturn, 1) := dk_176 (dk_at dksX9_formula_0 14 rfl rfl)
abbrev cX9_either : ByteArray := prog_12_method_23_code
def yX9_either : MethodName := ⟨RX9, "either", "()LTailorRegiment$Part;"⟩
def dkwX9_either_1 : List UInt8 := [182, 0, 190, 183, 0, 200, 76, 167, 255, 232, 43, 176]
abbrev dktX9_either_1 : List UInt8 := dkwX9_either_1 ++ []
def dkwX9_either_0 : List UInt8 := [42, 182, 0, 190, 76, 42, 18, 193, 182, 0, 195, 153, 0, 21, 187, 0, 198, 89, 16, 124, 43, 42]
abbrev dktX9_either_0 : List UInt8 := dkwX9_either_0 ++ dktX9_either_1
theorem dksX9_either_0 : cX9_either.data.toList.drop 0 = dktX9_either_0 := by decide +kernel
theorem dksX9_either_1 : cX9_either.data.toList.drop 22 = dktX9_either_1 := dk_seg dksX9_either_0 22 rfl rfl
theorem dX9_either_0 : decode cX9_either 0 = .ok (.aload_n 0, 1) := dk_42 (dk_at dksX9_either_0 0 rfl rfl)
theorem dX9_either_1 : decode cX9_either 1 = .ok (.invokevirtual 190, 3) := dk_182 0 190 (dk_at dksX9_either_0 1 rfl rfl)
theorem dX9_either_4 : decode cX9_either 4 = .ok (.astore_n 1, 1) := dk_76 (dk_at dksX9_either_0 4 rfl rfl)
theorem dX9_either_5 : decode cX9_either 5 = .ok (.aload_n 0, 1) := dk_42 (dk_at dksX9_either_0 5 rfl rfl)
theorem dX9_either_6 : decode cX9_either 6 = .ok (.ldc 193, 2) := dk_18 193 (dk_at dksX9_either_0 6 rfl rfl)
theorem dX9_either_8 : decode cX9_either 8 = .ok (.invokevirtual 195, 3) := dk_182 0 195 (dk_at dksX9_either_0 8 rfl rfl)
theorem dX9_either_11 : decode cX9_either 11 = .ok (.ifCond .eq 21, 3) := dk_153 0 21 (dk_at dksX9_either_0 11 rfl rfl)
theorem dX9_either_14 : decode cX9_either 14 = .ok (.new 198, 3) := dk_187 0 198 (dk_at dksX9_either_0 14 rfl rfl)
theorem dX9_either_17 : decode cX9_either 17 = .ok (.dup, 1) := dk_89 (dk_at dksX9_either_0 17 rfl rfl)
theorem dX9_either_18 : decode cX9_either 18 = .ok (.bipush 124, 2) := dk_16 124 (dk_at dksX9_either_0 18 rfl rfl)
theorem dX9_either_20 : decode cX9_either 20 = .ok (.aload_n 1, 1) := dk_43 (dk_at dksX9_either_0 20 rfl rfl)
theorem dX9_either_21 : decode cX9_either 21 = .ok (.aload_n 0, 1) := dk_42 (dk_at dksX9_either_0 21 rfl rfl)
theorem dX9_either_22 : decode cX9_either 22 = .ok (.invokevirtual 190, 3) := dk_182 0 190 (dk_at dksX9_either_1 0 rfl rfl)
theorem dX9_either_25 : decode cX9_either 25 = .ok (.invokespecial 200, 3) := dk_183 0 200 (dk_at dksX9_either_1 3 rfl rfl)
theorem dX9_either_28 : decode cX9_either 28 = .ok (.astore_n 1, 1) := dk_76 (dk_at dksX9_either_1 6 rfl rfl)
theorem dX9_either_29 : decode cX9_either 29 = .ok (.goto (-24), 3) := dk_167 255 232 (dk_at dksX9_either_1 7 rfl rfl)
theorem dX9_either_32 : decode cX9_either 32 = .ok (.aload_n 1, 1) := dk_43 (dk_at dksX9_either_1 10 rfl rfl)
theorem dX9_either_33 : decode cX9_either 33 = .ok (.areturn, 1) := dk_176 (dk_at dksX9_either_1 11 rfl rfl)
abbrev cX9_both : ByteArray := prog_12_method_24_code
def yX9_both : MethodName := ⟨RX9, "both", "()LTailorRegiment$Part;"⟩
def dkwX9_both_1 : List UInt8 := [182, 0, 203, 183, 0, 200, 76, 167, 255, 232, 43, 176]
abbrev dktX9_both_1 : List UInt8 := dkwX9_both_1 ++ []
def dkwX9_both_0 : List UInt8 := [42, 182, 0, 203, 76, 42, 18, 206, 182, 0, 195, 153, 0, 21, 187, 0, 198, 89, 16, 38, 43, 42]
abbrev dktX9_both_0 : List UInt8 := dkwX9_both_0 ++ dktX9_both_1
theorem dksX9_both_0 : cX9_both.data.toList.drop 0 = dktX9_both_0 := by decide +kernel
theorem dksX9_both_1 : cX9_both.data.toList.drop 22 = dktX9_both_1 := dk_seg dksX9_both_0 22 rfl rfl
theorem dX9_both_0 : decode cX9_both 0 = .ok (.aload_n 0, 1) := dk_42 (dk_at dksX9_both_0 0 rfl rfl)
theorem dX9_both_1 : decode cX9_both 1 = .ok (.invokevirtual 203, 3) := dk_182 0 203 (dk_at dksX9_both_0 1 rfl rfl)
theorem dX9_both_4 : decode cX9_both 4 = .ok (.astore_n 1, 1) := dk_76 (dk_at dksX9_both_0 4 rfl rfl)
theorem dX9_both_5 : decode cX9_both 5 = .ok (.aload_n 0, 1) := dk_42 (dk_at dksX9_both_0 5 rfl rfl)
theorem dX9_both_6 : decode cX9_both 6 = .ok (.ldc 206, 2) := dk_18 206 (dk_at dksX9_both_0 6 rfl rfl)
theorem dX9_both_8 : decode cX9_both 8 = .ok (.invokevirtual 195, 3) := dk_182 0 195 (dk_at dksX9_both_0 8 rfl rfl)
theorem dX9_both_11 : decode cX9_both 11 = .ok (.ifCond .eq 21, 3) := dk_153 0 21 (dk_at dksX9_both_0 11 rfl rfl)
theorem dX9_both_14 : decode cX9_both 14 = .ok (.new 198, 3) := dk_187 0 198 (dk_at dksX9_both_0 14 rfl rfl)
theorem dX9_both_17 : decode cX9_both 17 = .ok (.dup, 1) := dk_89 (dk_at dksX9_both_0 17 rfl rfl)
theorem dX9_both_18 : decode cX9_both 18 = .ok (.bipush 38, 2) := dk_16 38 (dk_at dksX9_both_0 18 rfl rfl)
theorem dX9_both_20 : decode cX9_both 20 = .ok (.aload_n 1, 1) := dk_43 (dk_at dksX9_both_0 20 rfl rfl)
theorem dX9_both_21 : decode cX9_both 21 = .ok (.aload_n 0, 1) := dk_42 (dk_at dksX9_both_0 21 rfl rfl)
theorem dX9_both_22 : decode cX9_both 22 = .ok (.invokevirtual 203, 3) := dk_182 0 203 (dk_at dksX9_both_1 0 rfl rfl)
theorem dX9_both_25 : decode cX9_both 25 = .ok (.invokespecial 200, 3) := dk_183 0 200 (dk_at dksX9_both_1 3 rfl rfl)
theorem dX9_both_28 : decode cX9_both 28 = .ok (.astore_n 1, 1) := dk_76 (dk_at dksX9_both_1 6 rfl rfl)
theorem dX9_both_29 : decode cX9_both 29 = .ok (.goto (-24), 3) := dk_167 255 232 (dk_at dksX9_both_1 7 rfl rfl)
theorem dX9_both_32 : decode cX9_both 32 = .ok (.aload_n 1, 1) := dk_43 (dk_at dksX9_both_1 10 rfl rfl)
theorem dX9_both_33 : decode cX9_both 33 = .ok (.areturn, 1) := dk_176 (dk_at dksX9_both_1 11 rfl rfl)
abbrev cX9_one : ByteArray := prog_12_method_26_code
def yX9_one : MethodName := ⟨RX9, "one", "()LTailorRegiment$Part;"⟩
def dkwX9_one_4 : List UInt8 := [183, 0, 200, 176]
abbrev dktX9_one_4 : List UInt8 := dkwX9_one_4 ++ []
def dkwX9_one_3 : List UInt8 := [42, 180, 0, 33, 182, 0, 36, 61, 42, 182, 0, 90, 187, 0, 198, 89, 28, 43, 42, 182, 0, 218]
abbrev dktX9_one_3 : List UInt8 := dkwX9_one_3 ++ dktX9_one_4
def dkwX9_one_2 : List UInt8 := [154, 0, 23, 42, 16, 62, 182, 0, 221, 154, 0, 14, 42, 16, 61, 182, 0, 221, 154, 0, 5, 43, 176, 42]
abbrev dktX9_one_2 : List UInt8 := dkwX9_one_2 ++ dktX9_one_3
def dkwX9_one_1 : List UInt8 := [76, 42, 89, 180, 0, 183, 4, 100, 181, 0, 183, 43, 176, 42, 182, 0, 218, 76, 42, 16, 60, 182, 0, 221]
abbrev dktX9_one_1 : List UInt8 := dkwX9_one_1 ++ dktX9_one_2
def dkwX9_one_0 : List UInt8 := [42, 18, 208, 182, 0, 76, 153, 0, 31, 42, 182, 0, 210, 187, 0, 213, 89, 42, 182, 0, 203, 183, 0, 215]
abbrev dktX9_one_0 : List UInt8 := dkwX9_one_0 ++ dktX9_one_1
theorem dksX9_one_0 : cX9_one.data.toList.drop 0 = dktX9_one_0 := by decide +kernel
theorem dksX9_one_1 : cX9_one.data.toList.drop 24 = dktX9_one_1 := dk_seg dksX9_one_0 24 rfl rfl
theorem dksX9_one_2 : cX9_one.data.toList.drop 48 = dktX9_one_2 := dk_seg dksX9_one_1 24 rfl rfl
theorem dksX9_one_3 : cX9_one.data.toList.drop 72 = dktX9_one_3 := dk_seg dksX9_one_2 24 rfl rfl
theorem dksX9_one_4 : cX9_one.data.toList.drop 94 = dktX9_one_4 := dk_seg dksX9_one_3 22 rfl rfl
theorem dX9_one_0 : decode cX9_one 0 = .ok (.aload_n 0, 1) := dk_42 (dk_at dksX9_one_0 0 rfl rfl)
theorem dX9_one_1 : decode cX9_one 1 = .ok (.ldc 208, 2) := dk_18 208 (dk_at dksX9_one_0 1 rfl rfl)
theorem dX9_one_3 : decode cX9_one 3 = .ok (.invokevirtual 76, 3) := dk_182 0 76 (dk_at dksX9_one_0 3 rfl rfl)
theorem dX9_one_6 : decode cX9_one 6 = .ok (.ifCond .eq 31, 3) := dk_153 0 31 (dk_at dksX9_one_0 6 rfl rfl)
theorem dX9_one_9 : decode cX9_one 9 = .ok (.aload_n 0, 1) := dk_42 (dk_at dksX9_one_0 9 rfl rfl)
theorem dX9_one_10 : decode cX9_one 10 = .ok (.invokevirtual 210, 3) := dk_182 0 210 (dk_at dksX9_one_0 10 rfl rfl)
theorem dX9_one_13 : decode cX9_one 13 = .ok (.new 213, 3) := dk_187 0 213 (dk_at dksX9_one_0 13 rfl rfl)
theorem dX9_one_16 : decode cX9_one 16 = .ok (.dup, 1) := dk_89 (dk_at dksX9_one_0 16 rfl rfl)
theorem dX9_one_17 : decode cX9_one 17 = .ok (.aload_n 0, 1) := dk_42 (dk_at dksX9_one_0 17 rfl rfl)
theorem dX9_one_18 : decode cX9_one 18 = .ok (.invokevirtual 203, 3) := dk_182 0 203 (dk_at dksX9_one_0 18 rfl rfl)
theorem dX9_one_21 : decode cX9_one 21 = .ok (.invokespecial 215, 3) := dk_183 0 215 (dk_at dksX9_one_0 21 rfl rfl)
theorem dX9_one_24 : decode cX9_one 24 = .ok (.astore_n 1, 1) := dk_76 (dk_at dksX9_one_1 0 rfl rfl)
theorem dX9_one_25 : decode cX9_one 25 = .ok (.aload_n 0, 1) := dk_42 (dk_at dksX9_one_1 1 rfl rfl)
theorem dX9_one_26 : decode cX9_one 26 = .ok (.dup, 1) := dk_89 (dk_at dksX9_one_1 2 rfl rfl)
theorem dX9_one_27 : decode cX9_one 27 = .ok (.getfield 183, 3) := dk_180 0 183 (dk_at dksX9_one_1 3 rfl rfl)
theorem dX9_one_30 : decode cX9_one 30 = .ok (.iconst 1, 1) := dk_4 (dk_at dksX9_one_1 6 rfl rfl)
theorem dX9_one_31 : decode cX9_one 31 = .ok (.isub, 1) := dk_100 (dk_at dksX9_one_1 7 rfl rfl)
theorem dX9_one_32 : decode cX9_one 32 = .ok (.putfield 183, 3) := dk_181 0 183 (dk_at dksX9_one_1 8 rfl rfl)
theorem dX9_one_35 : decode cX9_one 35 = .ok (.aload_n 1, 1) := dk_43 (dk_at dksX9_one_1 11 rfl rfl)
theorem dX9_one_36 : decode cX9_one 36 = .ok (.areturn, 1) := dk_176 (dk_at dksX9_one_1 12 rfl rfl)
theorem dX9_one_37 : decode cX9_one 37 = .ok (.aload_n 0, 1) := dk_42 (dk_at dksX9_one_1 13 rfl rfl)
theorem dX9_one_38 : decode cX9_one 38 = .ok (.invokevirtual 218, 3) := dk_182 0 218 (dk_at dksX9_one_1 14 rfl rfl)
theorem dX9_one_41 : decode cX9_one 41 = .ok (.astore_n 1, 1) := dk_76 (dk_at dksX9_one_1 17 rfl rfl)
theorem dX9_one_42 : decode cX9_one 42 = .ok (.aload_n 0, 1) := dk_42 (dk_at dksX9_one_1 18 rfl rfl)
theorem dX9_one_43 : decode cX9_one 43 = .ok (.bipush 60, 2) := dk_16 60 (dk_at dksX9_one_1 19 rfl rfl)
theorem dX9_one_45 : decode cX9_one 45 = .ok (.invokevirtual 221, 3) := dk_182 0 221 (dk_at dksX9_one_1 21 rfl rfl)
theorem dX9_one_48 : decode cX9_one 48 = .ok (.ifCond .ne 23, 3) := dk_154 0 23 (dk_at dksX9_one_2 0 rfl rfl)
theorem dX9_one_51 : decode cX9_one 51 = .ok (.aload_n 0, 1) := dk_42 (dk_at dksX9_one_2 3 rfl rfl)
theorem dX9_one_52 : decode cX9_one 52 = .ok (.bipush 62, 2) := dk_16 62 (dk_at dksX9_one_2 4 rfl rfl)
theorem dX9_one_54 : decode cX9_one 54 = .ok (.invokevirtual 221, 3) := dk_182 0 221 (dk_at dksX9_one_2 6 rfl rfl)
theorem dX9_one_57 : decode cX9_one 57 = .ok (.ifCond .ne 14, 3) := dk_154 0 14 (dk_at dksX9_one_2 9 rfl rfl)
theorem dX9_one_60 : decode cX9_one 60 = .ok (.aload_n 0, 1) := dk_42 (dk_at dksX9_one_2 12 rfl rfl)
theorem dX9_one_61 : decode cX9_one 61 = .ok (.bipush 61, 2) := dk_16 61 (dk_at dksX9_one_2 13 rfl rfl)
theorem dX9_one_63 : decode cX9_one 63 = .ok (.invokevirtual 221, 3) := dk_182 0 221 (dk_at dksX9_one_2 15 rfl rfl)
theorem dX9_one_66 : decode cX9_one 66 = .ok (.ifCond .ne 5, 3) := dk_154 0 5 (dk_at dksX9_one_2 18 rfl rfl)
theorem dX9_one_69 : decode cX9_one 69 = .ok (.aload_n 1, 1) := dk_43 (dk_at dksX9_one_2 21 rfl rfl)
theorem dX9_one_70 : decode cX9_one 70 = .ok (.areturn, 1) := dk_176 (dk_at dksX9_one_2 22 rfl rfl)
theorem dX9_one_71 : decode cX9_one 71 = .ok (.aload_n 0, 1) := dk_42 (dk_at dksX9_one_2 23 rfl rfl)
theorem dX9_one_72 : decode cX9_one 72 = .ok (.aload_n 0, 1) := dk_42 (dk_at dksX9_one_3 0 rfl rfl)
theorem dX9_one_73 : decode cX9_one 73 = .ok (.getfield 33, 3) := dk_180 0 33 (dk_at dksX9_one_3 1 rfl rfl)
theorem dX9_one_76 : decode cX9_one 76 = .ok (.invokevirtual 36, 3) := dk_182 0 36 (dk_at dksX9_one_3 4 rfl rfl)
theorem dX9_one_79 : decode cX9_one 79 = .ok (.istore_n 2, 1) := dk_61 (dk_at dksX9_one_3 7 rfl rfl)
theorem dX9_one_80 : decode cX9_one 80 = .ok (.aload_n 0, 1) := dk_42 (dk_at dksX9_one_3 8 rfl rfl)
theorem dX9_one_81 : decode cX9_one 81 = .ok (.invokevirtual 90, 3) := dk_182 0 90 (dk_at dksX9_one_3 9 rfl rfl)
theorem dX9_one_84 : decode cX9_one 84 = .ok (.new 198, 3) := dk_187 0 198 (dk_at dksX9_one_3 12 rfl rfl)
theorem dX9_one_87 : decode cX9_one 87 = .ok (.dup, 1) := dk_89 (dk_at dksX9_one_3 15 rfl rfl)
theorem dX9_one_88 : decode cX9_one 88 = .ok (.iload_n 2, 1) := dk_28 (dk_at dksX9_one_3 16 rfl rfl)
theorem dX9_one_89 : decode cX9_one 89 = .ok (.aload_n 1, 1) := dk_43 (dk_at dksX9_one_3 17 rfl rfl)
theorem dX9_one_90 : decode cX9_one 90 = .ok (.aload_n 0, 1) := dk_42 (dk_at dksX9_one_3 18 rfl rfl)
theorem dX9_one_91 : decode cX9_one 91 = .ok (.invokevirtual 218, 3) := dk_182 0 218 (dk_at dksX9_one_3 19 rfl rfl)
theorem dX9_one_94 : decode cX9_one 94 = .ok (.invokespecial 200, 3) := dk_183 0 200 (dk_at dksX9_one_4 0 rfl rfl)
theorem dX9_one_97 : decode cX9_one 97 = .ok (.areturn, 1) := dk_176 (dk_at dksX9_one_4 3 rfl rfl)
abbrev cX9_open : ByteArray := prog_12_method_25_code
def yX9_open : MethodName := ⟨RX9, "open", "()V"⟩
def dkwX9_open_1 : List UInt8 := [42, 182, 0, 90, 177]
abbrev dktX9_open_1 : List UInt8 := dkwX9_open_1 ++ []
def dkwX9_open_0 : List UInt8 := [42, 180, 0, 183, 16, 7, 160, 0, 8, 42, 182, 0, 86, 191, 42, 89, 180, 0, 183, 4, 96, 181, 0, 183]
abbrev dktX9_open_0 : List UInt8 := dkwX9_open_0 ++ dktX9_open_1
theorem dksX9_open_0 : cX9_open.data.toList.drop 0 = dktX9_open_0 := by decide +kernel
theorem dksX9_open_1 : cX9_open.data.toList.drop 24 = dktX9_open_1 := dk_seg dksX9_open_0 24 rfl rfl
theorem dX9_open_0 : decode cX9_open 0 = .ok (.aload_n 0, 1) := dk_42 (dk_at dksX9_open_0 0 rfl rfl)
theorem dX9_open_1 : decode cX9_open 1 = .ok (.getfield 183, 3) := dk_180 0 183 (dk_at dksX9_open_0 1 rfl rfl)
theorem dX9_open_4 : decode cX9_open 4 = .ok (.bipush 7, 2) := dk_16 7 (dk_at dksX9_open_0 4 rfl rfl)
theorem dX9_open_6 : decode cX9_open 6 = .ok (.if_icmp .ne 8, 3) := dk_160 0 8 (dk_at dksX9_open_0 6 rfl rfl)
theorem dX9_open_9 : decode cX9_open 9 = .ok (.aload_n 0, 1) := dk_42 (dk_at dksX9_open_0 9 rfl rfl)
theorem dX9_open_10 : decode cX9_open 10 = .ok (.invokevirtual 86, 3) := dk_182 0 86 (dk_at dksX9_open_0 10 rfl rfl)
theorem dX9_open_13 : decode cX9_open 13 = .ok (.athrow, 1) := dk_191 (dk_at dksX9_open_0 13 rfl rfl)
theorem dX9_open_14 : decode cX9_open 14 = .ok (.aload_n 0, 1) := dk_42 (dk_at dksX9_open_0 14 rfl rfl)
theorem dX9_open_15 : decode cX9_open 15 = .ok (.dup, 1) := dk_89 (dk_at dksX9_open_0 15 rfl rfl)
theorem dX9_open_16 : decode cX9_open 16 = .ok (.getfield 183, 3) := dk_180 0 183 (dk_at dksX9_open_0 16 rfl rfl)
theorem dX9_open_19 : decode cX9_open 19 = .ok (.iconst 1, 1) := dk_4 (dk_at dksX9_open_0 19 rfl rfl)
theorem dX9_open_20 : decode cX9_open 20 = .ok (.iadd, 1) := dk_96 (dk_at dksX9_open_0 20 rfl rfl)
theorem dX9_open_21 : decode cX9_open 21 = .ok (.putfield 183, 3) := dk_181 0 183 (dk_at dksX9_open_0 21 rfl rfl)
theorem dX9_open_24 : decode cX9_open 24 = .ok (.aload_n 0, 1) := dk_42 (dk_at dksX9_open_1 0 rfl rfl)
theorem dX9_open_25 : decode cX9_open 25 = .ok (.invokevirtual 90, 3) := dk_182 0 90 (dk_at dksX9_open_1 1 rfl rfl)
theorem dX9_open_28 : decode cX9_open 28 = .ok (.return_, 1) := dk_177 (dk_at dksX9_open_1 4 rfl rfl)
abbrev cX9_sum : ByteArray := prog_12_method_27_code
def yX9_sum : MethodName := ⟨RX9, "sum", "()LTailorRegiment$Part;"⟩
def dkwX9_sum_2 : List UInt8 := [183, 0, 200, 76, 167, 255, 211, 43, 176]
abbrev dktX9_sum_2 : List UInt8 := dkwX9_sum_2 ++ []
def dkwX9_sum_1 : List UInt8 := [42, 180, 0, 33, 182, 0, 36, 61, 42, 182, 0, 90, 187, 0, 198, 89, 28, 43, 42, 182, 0, 224]
abbrev dktX9_sum_1 : List UInt8 := dkwX9_sum_1 ++ dktX9_sum_2
def dkwX9_sum_0 : List UInt8 := [42, 182, 0, 224, 76, 42, 16, 43, 182, 0, 221, 154, 0, 12, 42, 16, 45, 182, 0, 221, 153, 0, 33, 42]
abbrev dktX9_sum_0 : List UInt8 := dkwX9_sum_0 ++ dktX9_sum_1
theorem dksX9_sum_0 : cX9_sum.data.toList.drop 0 = dktX9_sum_0 := by decide +kernel
theorem dksX9_sum_1 : cX9_sum.data.toList.drop 24 = dktX9_sum_1 := dk_seg dksX9_sum_0 24 rfl rfl
theorem dksX9_sum_2 : cX9_sum.data.toList.drop 46 = dktX9_sum_2 := dk_seg dksX9_sum_1 22 rfl rfl
theorem dX9_sum_0 : decode cX9_sum 0 = .ok (.aload_n 0, 1) := dk_42 (dk_at dksX9_sum_0 0 rfl rfl)
theorem dX9_sum_1 : decode cX9_sum 1 = .ok (.invokevirtual 224, 3) := dk_182 0 224 (dk_at dksX9_sum_0 1 rfl rfl)
theorem dX9_sum_4 : decode cX9_sum 4 = .ok (.astore_n 1, 1) := dk_76 (dk_at dksX9_sum_0 4 rfl rfl)
theorem dX9_sum_5 : decode cX9_sum 5 = .ok (.aload_n 0, 1) := dk_42 (dk_at dksX9_sum_0 5 rfl rfl)
theorem dX9_sum_6 : decode cX9_sum 6 = .ok (.bipush 43, 2) := dk_16 43 (dk_at dksX9_sum_0 6 rfl rfl)
theorem dX9_sum_8 : decode cX9_sum 8 = .ok (.invokevirtual 221, 3) := dk_182 0 221 (dk_at dksX9_sum_0 8 rfl rfl)
theorem dX9_sum_11 : decode cX9_sum 11 = .ok (.ifCond .ne 12, 3) := dk_154 0 12 (dk_at dksX9_sum_0 11 rfl rfl)
theorem dX9_sum_14 : decode cX9_sum 14 = .ok (.aload_n 0, 1) := dk_42 (dk_at dksX9_sum_0 14 rfl rfl)
theorem dX9_sum_15 : decode cX9_sum 15 = .ok (.bipush 45, 2) := dk_16 45 (dk_at dksX9_sum_0 15 rfl rfl)
theorem dX9_sum_17 : decode cX9_sum 17 = .ok (.invokevirtual 221, 3) := dk_182 0 221 (dk_at dksX9_sum_0 17 rfl rfl)
theorem dX9_sum_20 : decode cX9_sum 20 = .ok (.ifCond .eq 33, 3) := dk_153 0 33 (dk_at dksX9_sum_0 20 rfl rfl)
theorem dX9_sum_23 : decode cX9_sum 23 = .ok (.aload_n 0, 1) := dk_42 (dk_at dksX9_sum_0 23 rfl rfl)
theorem dX9_sum_24 : decode cX9_sum 24 = .ok (.aload_n 0, 1) := dk_42 (dk_at dksX9_sum_1 0 rfl rfl)
theorem dX9_sum_25 : decode cX9_sum 25 = .ok (.getfield 33, 3) := dk_180 0 33 (dk_at dksX9_sum_1 1 rfl rfl)
theorem dX9_sum_28 : decode cX9_sum 28 = .ok (.invokevirtual 36, 3) := dk_182 0 36 (dk_at dksX9_sum_1 4 rfl rfl)
theorem dX9_sum_31 : decode cX9_sum 31 = .ok (.istore_n 2, 1) := dk_61 (dk_at dksX9_sum_1 7 rfl rfl)
theorem dX9_sum_32 : decode cX9_sum 32 = .ok (.aload_n 0, 1) := dk_42 (dk_at dksX9_sum_1 8 rfl rfl)
theorem dX9_sum_33 : decode cX9_sum 33 = .ok (.invokevirtual 90, 3) := dk_182 0 90 (dk_at dksX9_sum_1 9 rfl rfl)
theorem dX9_sum_36 : decode cX9_sum 36 = .ok (.new 198, 3) := dk_187 0 198 (dk_at dksX9_sum_1 12 rfl rfl)
theorem dX9_sum_39 : decode cX9_sum 39 = .ok (.dup, 1) := dk_89 (dk_at dksX9_sum_1 15 rfl rfl)
theorem dX9_sum_40 : decode cX9_sum 40 = .ok (.iload_n 2, 1) := dk_28 (dk_at dksX9_sum_1 16 rfl rfl)
theorem dX9_sum_41 : decode cX9_sum 41 = .ok (.aload_n 1, 1) := dk_43 (dk_at dksX9_sum_1 17 rfl rfl)
theorem dX9_sum_42 : decode cX9_sum 42 = .ok (.aload_n 0, 1) := dk_42 (dk_at dksX9_sum_1 18 rfl rfl)
theorem dX9_sum_43 : decode cX9_sum 43 = .ok (.invokevirtual 224, 3) := dk_182 0 224 (dk_at dksX9_sum_1 19 rfl rfl)
theorem dX9_sum_46 : decode cX9_sum 46 = .ok (.invokespecial 200, 3) := dk_183 0 200 (dk_at dksX9_sum_2 0 rfl rfl)
theorem dX9_sum_49 : decode cX9_sum 49 = .ok (.astore_n 1, 1) := dk_76 (dk_at dksX9_sum_2 3 rfl rfl)
theorem dX9_sum_50 : decode cX9_sum 50 = .ok (.goto (-45), 3) := dk_167 255 211 (dk_at dksX9_sum_2 4 rfl rfl)
theorem dX9_sum_53 : decode cX9_sum 53 = .ok (.aload_n 1, 1) := dk_43 (dk_at dksX9_sum_2 7 rfl rfl)
theorem dX9_sum_54 : decode cX9_sum 54 = .ok (.areturn, 1) := dk_176 (dk_at dksX9_sum_2 8 rfl rfl)
abbrev cX9_term : ByteArray := prog_12_method_28_code
def yX9_term : MethodName := ⟨RX9, "term", "()LTailorRegiment$Part;"⟩
def dkwX9_term_2 : List UInt8 := [89, 28, 43, 42, 182, 0, 227, 183, 0, 200, 76, 167, 255, 202, 43, 176]
abbrev dktX9_term_2 : List UInt8 := dkwX9_term_2 ++ []
def dkwX9_term_1 : List UInt8 := [16, 37, 182, 0, 221, 153, 0, 33, 42, 42, 180, 0, 33, 182, 0, 36, 61, 42, 182, 0, 90, 187, 0, 198]
abbrev dktX9_term_1 : List UInt8 := dkwX9_term_1 ++ dktX9_term_2
def dkwX9_term_0 : List UInt8 := [42, 182, 0, 227, 76, 42, 16, 42, 182, 0, 221, 154, 0, 21, 42, 16, 47, 182, 0, 221, 154, 0, 12, 42]
abbrev dktX9_term_0 : List UInt8 := dkwX9_term_0 ++ dktX9_term_1
theorem dksX9_term_0 : cX9_term.data.toList.drop 0 = dktX9_term_0 := by decide +kernel
theorem dksX9_term_1 : cX9_term.data.toList.drop 24 = dktX9_term_1 := dk_seg dksX9_term_0 24 rfl rfl
theorem dksX9_term_2 : cX9_term.data.toList.drop 48 = dktX9_term_2 := dk_seg dksX9_term_1 24 rfl rfl
theorem dX9_term_0 : decode cX9_term 0 = .ok (.aload_n 0, 1) := dk_42 (dk_at dksX9_term_0 0 rfl rfl)
theorem dX9_term_1 : decode cX9_term 1 = .ok (.invokevirtual 227, 3) := dk_182 0 227 (dk_at dksX9_term_0 1 rfl rfl)
theorem dX9_term_4 : decode cX9_term 4 = .ok (.astore_n 1, 1) := dk_76 (dk_at dksX9_term_0 4 rfl rfl)
theorem dX9_term_5 : decode cX9_term 5 = .ok (.aload_n 0, 1) := dk_42 (dk_at dksX9_term_0 5 rfl rfl)
theorem dX9_term_6 : decode cX9_term 6 = .ok (.bipush 42, 2) := dk_16 42 (dk_at dksX9_term_0 6 rfl rfl)
theorem dX9_term_8 : decode cX9_term 8 = .ok (.invokevirtual 221, 3) := dk_182 0 221 (dk_at dksX9_term_0 8 rfl rfl)
theorem dX9_term_11 : decode cX9_term 11 = .ok (.ifCond .ne 21, 3) := dk_154 0 21 (dk_at dksX9_term_0 11 rfl rfl)
theorem dX9_term_14 : decode cX9_term 14 = .ok (.aload_n 0, 1) := dk_42 (dk_at dksX9_term_0 14 rfl rfl)
theorem dX9_term_15 : decode cX9_term 15 = .ok (.bipush 47, 2) := dk_16 47 (dk_at dksX9_term_0 15 rfl rfl)
theorem dX9_term_17 : decode cX9_term 17 = .ok (.invokevirtual 221, 3) := dk_182 0 221 (dk_at dksX9_term_0 17 rfl rfl)
theorem dX9_term_20 : decode cX9_term 20 = .ok (.ifCond .ne 12, 3) := dk_154 0 12 (dk_at dksX9_term_0 20 rfl rfl)
theorem dX9_term_23 : decode cX9_term 23 = .ok (.aload_n 0, 1) := dk_42 (dk_at dksX9_term_0 23 rfl rfl)
theorem dX9_term_24 : decode cX9_term 24 = .ok (.bipush 37, 2) := dk_16 37 (dk_at dksX9_term_1 0 rfl rfl)
theorem dX9_term_26 : decode cX9_term 26 = .ok (.invokevirtual 221, 3) := dk_182 0 221 (dk_at dksX9_term_1 2 rfl rfl)
theorem dX9_term_29 : decode cX9_term 29 = .ok (.ifCond .eq 33, 3) := dk_153 0 33 (dk_at dksX9_term_1 5 rfl rfl)
theorem dX9_term_32 : decode cX9_term 32 = .ok (.aload_n 0, 1) := dk_42 (dk_at dksX9_term_1 8 rfl rfl)
theorem dX9_term_33 : decode cX9_term 33 = .ok (.aload_n 0, 1) := dk_42 (dk_at dksX9_term_1 9 rfl rfl)
theorem dX9_term_34 : decode cX9_term 34 = .ok (.getfield 33, 3) := dk_180 0 33 (dk_at dksX9_term_1 10 rfl rfl)
theorem dX9_term_37 : decode cX9_term 37 = .ok (.invokevirtual 36, 3) := dk_182 0 36 (dk_at dksX9_term_1 13 rfl rfl)
theorem dX9_term_40 : decode cX9_term 40 = .ok (.istore_n 2, 1) := dk_61 (dk_at dksX9_term_1 16 rfl rfl)
theorem dX9_term_41 : decode cX9_term 41 = .ok (.aload_n 0, 1) := dk_42 (dk_at dksX9_term_1 17 rfl rfl)
theorem dX9_term_42 : decode cX9_term 42 = .ok (.invokevirtual 90, 3) := dk_182 0 90 (dk_at dksX9_term_1 18 rfl rfl)
theorem dX9_term_45 : decode cX9_term 45 = .ok (.new 198, 3) := dk_187 0 198 (dk_at dksX9_term_1 21 rfl rfl)
theorem dX9_term_48 : decode cX9_term 48 = .ok (.dup, 1) := dk_89 (dk_at dksX9_term_2 0 rfl rfl)
theorem dX9_term_49 : decode cX9_term 49 = .ok (.iload_n 2, 1) := dk_28 (dk_at dksX9_term_2 1 rfl rfl)
theorem dX9_term_50 : decode cX9_term 50 = .ok (.aload_n 1, 1) := dk_43 (dk_at dksX9_term_2 2 rfl rfl)
theorem dX9_term_51 : decode cX9_term 51 = .ok (.aload_n 0, 1) := dk_42 (dk_at dksX9_term_2 3 rfl rfl)
theorem dX9_term_52 : decode cX9_term 52 = .ok (.invokevirtual 227, 3) := dk_182 0 227 (dk_at dksX9_term_2 4 rfl rfl)
theorem dX9_term_55 : decode cX9_term 55 = .ok (.invokespecial 200, 3) := dk_183 0 200 (dk_at dksX9_term_2 7 rfl rfl)
theorem dX9_term_58 : decode cX9_term 58 = .ok (.astore_n 1, 1) := dk_76 (dk_at dksX9_term_2 10 rfl rfl)
theorem dX9_term_59 : decode cX9_term 59 = .ok (.goto (-54), 3) := dk_167 255 202 (dk_at dksX9_term_2 11 rfl rfl)
theorem dX9_term_62 : decode cX9_term 62 = .ok (.aload_n 1, 1) := dk_43 (dk_at dksX9_term_2 14 rfl rfl)
theorem dX9_term_63 : decode cX9_term 63 = .ok (.areturn, 1) := dk_176 (dk_at dksX9_term_2 15 rfl rfl)
abbrev cX9_unit : ByteArray := prog_12_method_29_code
def yX9_unit : MethodName := ⟨RX9, "unit", "()LTailorRegiment$Part;"⟩
def dkwX9_unit_6 : List UInt8 := [182, 0, 90, 45, 176]
abbrev dktX9_unit_6 : List UInt8 := dkwX9_unit_6 ++ []
def dkwX9_unit_5 : List UInt8 := [187, 0, 236, 89, 42, 180, 0, 63, 183, 0, 238, 167, 0, 11, 187, 0, 241, 89, 28, 183, 0, 243, 78, 42]
abbrev dktX9_unit_5 : List UInt8 := dkwX9_unit_5 ++ dktX9_unit_6
def dkwX9_unit_4 : List UInt8 := [180, 0, 183, 4, 100, 181, 0, 183, 42, 42, 16, 41, 182, 0, 221, 182, 0, 93, 45, 176, 28, 156, 0, 17]
abbrev dktX9_unit_4 : List UInt8 := dkwX9_unit_4 ++ dktX9_unit_5
def dkwX9_unit_3 : List UInt8 := [89, 180, 0, 180, 4, 96, 181, 0, 180, 27, 153, 0, 34, 42, 182, 0, 210, 42, 182, 0, 186, 78, 42, 89]
abbrev dktX9_unit_3 : List UInt8 := dkwX9_unit_3 ++ dktX9_unit_4
def dkwX9_unit_2 : List UInt8 := [16, 30, 160, 0, 8, 42, 182, 0, 86, 191, 42, 180, 0, 12, 89, 180, 0, 233, 4, 96, 181, 0, 233, 42]
abbrev dktX9_unit_2 : List UInt8 := dkwX9_unit_2 ++ dktX9_unit_3
def dkwX9_unit_1 : List UInt8 := [180, 0, 40, 5, 160, 0, 24, 42, 180, 0, 12, 180, 0, 233, 16, 60, 159, 0, 12, 42, 180, 0, 180]
abbrev dktX9_unit_1 : List UInt8 := dkwX9_unit_1 ++ dktX9_unit_2
def dkwX9_unit_0 : List UInt8 := [42, 16, 40, 182, 0, 221, 60, 42, 178, 0, 230, 182, 0, 108, 61, 27, 154, 0, 15, 28, 156, 0, 11, 42]
abbrev dktX9_unit_0 : List UInt8 := dkwX9_unit_0 ++ dktX9_unit_1
theorem dksX9_unit_0 : cX9_unit.data.toList.drop 0 = dktX9_unit_0 := by decide +kernel
theorem dksX9_unit_1 : cX9_unit.data.toList.drop 24 = dktX9_unit_1 := dk_seg dksX9_unit_0 24 rfl rfl
theorem dksX9_unit_2 : cX9_unit.data.toList.drop 47 = dktX9_unit_2 := dk_seg dksX9_unit_1 23 rfl rfl
theorem dksX9_unit_3 : cX9_unit.data.toList.drop 71 = dktX9_unit_3 := dk_seg dksX9_unit_2 24 rfl rfl
theorem dksX9_unit_4 : cX9_unit.data.toList.drop 95 = dktX9_unit_4 := dk_seg dksX9_unit_3 24 rfl rfl
theorem dksX9_unit_5 : cX9_unit.data.toList.drop 119 = dktX9_unit_5 := dk_seg dksX9_unit_4 24 rfl rfl
theorem dksX9_unit_6 : cX9_unit.data.toList.drop 143 = dktX9_unit_6 := dk_seg dksX9_unit_5 24 rfl rfl
theorem dX9_unit_0 : decode cX9_unit 0 = .ok (.aload_n 0, 1) := dk_42 (dk_at dksX9_unit_0 0 rfl rfl)
theorem dX9_unit_1 : decode cX9_unit 1 = .ok (.bipush 40, 2) := dk_16 40 (dk_at dksX9_unit_0 1 rfl rfl)
theorem dX9_unit_3 : decode cX9_unit 3 = .ok (.invokevirtual 221, 3) := dk_182 0 221 (dk_at dksX9_unit_0 3 rfl rfl)
theorem dX9_unit_6 : decode cX9_unit 6 = .ok (.istore_n 1, 1) := dk_60 (dk_at dksX9_unit_0 6 rfl rfl)
theorem dX9_unit_7 : decode cX9_unit 7 = .ok (.aload_n 0, 1) := dk_42 (dk_at dksX9_unit_0 7 rfl rfl)
theorem dX9_unit_8 : decode cX9_unit 8 = .ok (.getstatic 230, 3) := dk_178 0 230 (dk_at dksX9_unit_0 8 rfl rfl)
theorem dX9_unit_11 : decode cX9_unit 11 = .ok (.invokevirtual 108, 3) := dk_182 0 108 (dk_at dksX9_unit_0 11 rfl rfl)
theorem dX9_unit_14 : decode cX9_unit 14 = .ok (.istore_n 2, 1) := dk_61 (dk_at dksX9_unit_0 14 rfl rfl)
theorem dX9_unit_15 : decode cX9_unit 15 = .ok (.iload_n 1, 1) := dk_27 (dk_at dksX9_unit_0 15 rfl rfl)
theorem dX9_unit_16 : decode cX9_unit 16 = .ok (.ifCond .ne 15, 3) := dk_154 0 15 (dk_at dksX9_unit_0 16 rfl rfl)
theorem dX9_unit_19 : decode cX9_unit 19 = .ok (.iload_n 2, 1) := dk_28 (dk_at dksX9_unit_0 19 rfl rfl)
theorem dX9_unit_20 : decode cX9_unit 20 = .ok (.ifCond .ge 11, 3) := dk_156 0 11 (dk_at dksX9_unit_0 20 rfl rfl)
theorem dX9_unit_23 : decode cX9_unit 23 = .ok (.aload_n 0, 1) := dk_42 (dk_at dksX9_unit_0 23 rfl rfl)
theorem dX9_unit_24 : decode cX9_unit 24 = .ok (.getfield 40, 3) := dk_180 0 40 (dk_at dksX9_unit_1 0 rfl rfl)
theorem dX9_unit_27 : decode cX9_unit 27 = .ok (.iconst 2, 1) := dk_5 (dk_at dksX9_unit_1 3 rfl rfl)
theorem dX9_unit_28 : decode cX9_unit 28 = .ok (.if_icmp .ne 24, 3) := dk_160 0 24 (dk_at dksX9_unit_1 4 rfl rfl)
theorem dX9_unit_31 : decode cX9_unit 31 = .ok (.aload_n 0, 1) := dk_42 (dk_at dksX9_unit_1 7 rfl rfl)
theorem dX9_unit_32 : decode cX9_unit 32 = .ok (.getfield 12, 3) := dk_180 0 12 (dk_at dksX9_unit_1 8 rfl rfl)
theorem dX9_unit_35 : decode cX9_unit 35 = .ok (.getfield 233, 3) := dk_180 0 233 (dk_at dksX9_unit_1 11 rfl rfl)
theorem dX9_unit_38 : decode cX9_unit 38 = .ok (.bipush 60, 2) := dk_16 60 (dk_at dksX9_unit_1 14 rfl rfl)
theorem dX9_unit_40 : decode cX9_unit 40 = .ok (.if_icmp .eq 12, 3) := dk_159 0 12 (dk_at dksX9_unit_1 16 rfl rfl)
theorem dX9_unit_43 : decode cX9_unit 43 = .ok (.aload_n 0, 1) := dk_42 (dk_at dksX9_unit_1 19 rfl rfl)
theorem dX9_unit_44 : decode cX9_unit 44 = .ok (.getfield 180, 3) := dk_180 0 180 (dk_at dksX9_unit_1 20 rfl rfl)
theorem dX9_unit_47 : decode cX9_unit 47 = .ok (.bipush 30, 2) := dk_16 30 (dk_at dksX9_unit_2 0 rfl rfl)
theorem dX9_unit_49 : decode cX9_unit 49 = .ok (.if_icmp .ne 8, 3) := dk_160 0 8 (dk_at dksX9_unit_2 2 rfl rfl)
theorem dX9_unit_52 : decode cX9_unit 52 = .ok (.aload_n 0, 1) := dk_42 (dk_at dksX9_unit_2 5 rfl rfl)
theorem dX9_unit_53 : decode cX9_unit 53 = .ok (.invokevirtual 86, 3) := dk_182 0 86 (dk_at dksX9_unit_2 6 rfl rfl)
theorem dX9_unit_56 : decode cX9_unit 56 = .ok (.athrow, 1) := dk_191 (dk_at dksX9_unit_2 9 rfl rfl)
theorem dX9_unit_57 : decode cX9_unit 57 = .ok (.aload_n 0, 1) := dk_42 (dk_at dksX9_unit_2 10 rfl rfl)
theorem dX9_unit_58 : decode cX9_unit 58 = .ok (.getfield 12, 3) := dk_180 0 12 (dk_at dksX9_unit_2 11 rfl rfl)
theorem dX9_unit_61 : decode cX9_unit 61 = .ok (.dup, 1) := dk_89 (dk_at dksX9_unit_2 14 rfl rfl)
theorem dX9_unit_62 : decode cX9_unit 62 = .ok (.getfield 233, 3) := dk_180 0 233 (dk_at dksX9_unit_2 15 rfl rfl)
theorem dX9_unit_65 : decode cX9_unit 65 = .ok (.iconst 1, 1) := dk_4 (dk_at dksX9_unit_2 18 rfl rfl)
theorem dX9_unit_66 : decode cX9_unit 66 = .ok (.iadd, 1) := dk_96 (dk_at dksX9_unit_2 19 rfl rfl)
theorem dX9_unit_67 : decode cX9_unit 67 = .ok (.putfield 233, 3) := dk_181 0 233 (dk_at dksX9_unit_2 20 rfl rfl)
theorem dX9_unit_70 : decode cX9_unit 70 = .ok (.aload_n 0, 1) := dk_42 (dk_at dksX9_unit_2 23 rfl rfl)
theorem dX9_unit_71 : decode cX9_unit 71 = .ok (.dup, 1) := dk_89 (dk_at dksX9_unit_3 0 rfl rfl)
theorem dX9_unit_72 : decode cX9_unit 72 = .ok (.getfield 180, 3) := dk_180 0 180 (dk_at dksX9_unit_3 1 rfl rfl)
theorem dX9_unit_75 : decode cX9_unit 75 = .ok (.iconst 1, 1) := dk_4 (dk_at dksX9_unit_3 4 rfl rfl)
theorem dX9_unit_76 : decode cX9_unit 76 = .ok (.iadd, 1) := dk_96 (dk_at dksX9_unit_3 5 rfl rfl)
theorem dX9_unit_77 : decode cX9_unit 77 = .ok (.putfield 180, 3) := dk_181 0 180 (dk_at dksX9_unit_3 6 rfl rfl)
theorem dX9_unit_80 : decode cX9_unit 80 = .ok (.iload_n 1, 1) := dk_27 (dk_at dksX9_unit_3 9 rfl rfl)
theorem dX9_unit_81 : decode cX9_unit 81 = .ok (.ifCond .eq 34, 3) := dk_153 0 34 (dk_at dksX9_unit_3 10 rfl rfl)
theorem dX9_unit_84 : decode cX9_unit 84 = .ok (.aload_n 0, 1) := dk_42 (dk_at dksX9_unit_3 13 rfl rfl)
theorem dX9_unit_85 : decode cX9_unit 85 = .ok (.invokevirtual 210, 3) := dk_182 0 210 (dk_at dksX9_unit_3 14 rfl rfl)
theorem dX9_unit_88 : decode cX9_unit 88 = .ok (.aload_n 0, 1) := dk_42 (dk_at dksX9_unit_3 17 rfl rfl)
theorem dX9_unit_89 : decode cX9_unit 89 = .ok (.invokevirtual 186, 3) := dk_182 0 186 (dk_at dksX9_unit_3 18 rfl rfl)
theorem dX9_unit_92 : decode cX9_unit 92 = .ok (.astore_n 3, 1) := dk_78 (dk_at dksX9_unit_3 21 rfl rfl)
theorem dX9_unit_93 : decode cX9_unit 93 = .ok (.aload_n 0, 1) := dk_42 (dk_at dksX9_unit_3 22 rfl rfl)
theorem dX9_unit_94 : decode cX9_unit 94 = .ok (.dup, 1) := dk_89 (dk_at dksX9_unit_3 23 rfl rfl)
theorem dX9_unit_95 : decode cX9_unit 95 = .ok (.getfield 183, 3) := dk_180 0 183 (dk_at dksX9_unit_4 0 rfl rfl)
theorem dX9_unit_98 : decode cX9_unit 98 = .ok (.iconst 1, 1) := dk_4 (dk_at dksX9_unit_4 3 rfl rfl)
theorem dX9_unit_99 : decode cX9_unit 99 = .ok (.isub, 1) := dk_100 (dk_at dksX9_unit_4 4 rfl rfl)
theorem dX9_unit_100 : decode cX9_unit 100 = .ok (.putfield 183, 3) := dk_181 0 183 (dk_at dksX9_unit_4 5 rfl rfl)
theorem dX9_unit_103 : decode cX9_unit 103 = .ok (.aload_n 0, 1) := dk_42 (dk_at dksX9_unit_4 8 rfl rfl)
theorem dX9_unit_104 : decode cX9_unit 104 = .ok (.aload_n 0, 1) := dk_42 (dk_at dksX9_unit_4 9 rfl rfl)
theorem dX9_unit_105 : decode cX9_unit 105 = .ok (.bipush 41, 2) := dk_16 41 (dk_at dksX9_unit_4 10 rfl rfl)
theorem dX9_unit_107 : decode cX9_unit 107 = .ok (.invokevirtual 221, 3) := dk_182 0 221 (dk_at dksX9_unit_4 12 rfl rfl)
theorem dX9_unit_110 : decode cX9_unit 110 = .ok (.invokevirtual 93, 3) := dk_182 0 93 (dk_at dksX9_unit_4 15 rfl rfl)
theorem dX9_unit_113 : decode cX9_unit 113 = .ok (.aload_n 3, 1) := dk_45 (dk_at dksX9_unit_4 18 rfl rfl)
theorem dX9_unit_114 : decode cX9_unit 114 = .ok (.areturn, 1) := dk_176 (dk_at dksX9_unit_4 19 rfl rfl)
theorem dX9_unit_115 : decode cX9_unit 115 = .ok (.iload_n 2, 1) := dk_28 (dk_at dksX9_unit_4 20 rfl rfl)
theorem dX9_unit_116 : decode cX9_unit 116 = .ok (.ifCond .ge 17, 3) := dk_156 0 17 (dk_at dksX9_unit_4 21 rfl rfl)
theorem dX9_unit_119 : decode cX9_unit 119 = .ok (.new 236, 3) := dk_187 0 236 (dk_at dksX9_unit_5 0 rfl rfl)
theorem dX9_unit_122 : decode cX9_unit 122 = .ok (.dup, 1) := dk_89 (dk_at dksX9_unit_5 3 rfl rfl)
theorem dX9_unit_123 : decode cX9_unit 123 = .ok (.aload_n 0, 1) := dk_42 (dk_at dksX9_unit_5 4 rfl rfl)
theorem dX9_unit_124 : decode cX9_unit 124 = .ok (.getfield 63, 3) := dk_180 0 63 (dk_at dksX9_unit_5 5 rfl rfl)
theorem dX9_unit_127 : decode cX9_unit 127 = .ok (.invokespecial 238, 3) := dk_183 0 238 (dk_at dksX9_unit_5 8 rfl rfl)
theorem dX9_unit_130 : decode cX9_unit 130 = .ok (.goto 11, 3) := dk_167 0 11 (dk_at dksX9_unit_5 11 rfl rfl)
theorem dX9_unit_133 : decode cX9_unit 133 = .ok (.new 241, 3) := dk_187 0 241 (dk_at dksX9_unit_5 14 rfl rfl)
theorem dX9_unit_136 : decode cX9_unit 136 = .ok (.dup, 1) := dk_89 (dk_at dksX9_unit_5 17 rfl rfl)
theorem dX9_unit_137 : decode cX9_unit 137 = .ok (.iload_n 2, 1) := dk_28 (dk_at dksX9_unit_5 18 rfl rfl)
theorem dX9_unit_138 : decode cX9_unit 138 = .ok (.invokespecial 243, 3) := dk_183 0 243 (dk_at dksX9_unit_5 19 rfl rfl)
theorem dX9_unit_141 : decode cX9_unit 141 = .ok (.astore_n 3, 1) := dk_78 (dk_at dksX9_unit_5 22 rfl rfl)
theorem dX9_unit_142 : decode cX9_unit 142 = .ok (.aload_n 0, 1) := dk_42 (dk_at dksX9_unit_5 23 rfl rfl)
theorem dX9_unit_143 : decode cX9_unit 143 = .ok (.invokevirtual 90, 3) := dk_182 0 90 (dk_at dksX9_unit_6 0 rfl rfl)
theorem dX9_unit_146 : decode cX9_unit 146 = .ok (.aload_n 3, 1) := dk_45 (dk_at dksX9_unit_6 3 rfl rfl)
theorem dX9_unit_147 : decode cX9_unit 147 = .ok (.areturn, 1) := dk_176 (dk_at dksX9_unit_6 4 rfl rfl)
abbrev cX9_isSignHere : ByteArray := prog_12_method_11_code
def yX9_isSignHere : MethodName := ⟨RX9, "isSignHere", "(I)Z"⟩
def dkwX9_isSignHere_1 : List UInt8 := [3, 172]
abbrev dktX9_isSignHere_1 : List UInt8 := dkwX9_isSignHere_1 ++ []
def dkwX9_isSignHere_0 : List UInt8 := [42, 180, 0, 40, 6, 160, 0, 19, 42, 42, 180, 0, 33, 182, 0, 36, 27, 160, 0, 7, 4, 167, 0, 4]
abbrev dktX9_isSignHere_0 : List UInt8 := dkwX9_isSignHere_0 ++ dktX9_isSignHere_1
theorem dksX9_isSignHere_0 : cX9_isSignHere.data.toList.drop 0 = dktX9_isSignHere_0 := by decide +kernel
theorem dksX9_isSignHere_1 : cX9_isSignHere.data.toList.drop 24 = dktX9_isSignHere_1 := dk_seg dksX9_isSignHere_0 24 rfl rfl
theorem dX9_isSignHere_0 : decode cX9_isSignHere 0 = .ok (.aload_n 0, 1) := dk_42 (dk_at dksX9_isSignHere_0 0 rfl rfl)
theorem dX9_isSignHere_1 : decode cX9_isSignHere 1 = .ok (.getfield 40, 3) := dk_180 0 40 (dk_at dksX9_isSignHere_0 1 rfl rfl)
theorem dX9_isSignHere_4 : decode cX9_isSignHere 4 = .ok (.iconst 3, 1) := dk_6 (dk_at dksX9_isSignHere_0 4 rfl rfl)
theorem dX9_isSignHere_5 : decode cX9_isSignHere 5 = .ok (.if_icmp .ne 19, 3) := dk_160 0 19 (dk_at dksX9_isSignHere_0 5 rfl rfl)
theorem dX9_isSignHere_8 : decode cX9_isSignHere 8 = .ok (.aload_n 0, 1) := dk_42 (dk_at dksX9_isSignHere_0 8 rfl rfl)
theorem dX9_isSignHere_9 : decode cX9_isSignHere 9 = .ok (.aload_n 0, 1) := dk_42 (dk_at dksX9_isSignHere_0 9 rfl rfl)
theorem dX9_isSignHere_10 : decode cX9_isSignHere 10 = .ok (.getfield 33, 3) := dk_180 0 33 (dk_at dksX9_isSignHere_0 10 rfl rfl)
theorem dX9_isSignHere_13 : decode cX9_isSignHere 13 = .ok (.invokevirtual 36, 3) := dk_182 0 36 (dk_at dksX9_isSignHere_0 13 rfl rfl)
theorem dX9_isSignHere_16 : decode cX9_isSignHere 16 = .ok (.iload_n 1, 1) := dk_27 (dk_at dksX9_isSignHere_0 16 rfl rfl)
theorem dX9_isSignHere_17 : decode cX9_isSignHere 17 = .ok (.if_icmp .ne 7, 3) := dk_160 0 7 (dk_at dksX9_isSignHere_0 17 rfl rfl)
theorem dX9_isSignHere_20 : decode cX9_isSignHere 20 = .ok (.iconst 1, 1) := dk_4 (dk_at dksX9_isSignHere_0 20 rfl rfl)
theorem dX9_isSignHere_21 : decode cX9_isSignHere 21 = .ok (.goto 4, 3) := dk_167 0 4 (dk_at dksX9_isSignHere_0 21 rfl rfl)
theorem dX9_isSignHere_24 : decode cX9_isSignHere 24 = .ok (.iconst 0, 1) := dk_3 (dk_at dksX9_isSignHere_1 0 rfl rfl)
theorem dX9_isSignHere_25 : decode cX9_isSignHere 25 = .ok (.ireturn, 1) := dk_172 (dk_at dksX9_isSignHere_1 1 rfl rfl)
set_option maxRecDepth 100000
abbrev cX10_init : ByteArray := prog_2_method_1_code
def yX10_init : MethodName := ⟨RX10, "<init>", "(J)V"⟩
def dkwX10_init_0 : List UInt8 := [42, 183, 0, 1, 42, 31, 181, 0, 7, 177]
abbrev dktX10_init_0 : List UInt8 := dkwX10_init_0 ++ []
theorem dksX10_init_0 : cX10_init.data.toList.drop 0 = dktX10_init_0 := by decide +kernel
theorem dX10_init_0 : decode cX10_init 0 = .ok (.aload_n 0, 1) := dk_42 (dk_at dksX10_init_0 0 rfl rfl)
theorem dX10_init_1 : decode cX10_init 1 = .ok (.invokespecial 1, 3) := dk_183 0 1 (dk_at dksX10_init_0 1 rfl rfl)
theorem dX10_init_4 : decode cX10_init 4 = .ok (.aload_n 0, 1) := dk_42 (dk_at dksX10_init_0 4 rfl rfl)
theorem dX10_init_5 : decode cX10_init 5 = .ok (.lload_n 1, 1) := dk_31 (dk_at dksX10_init_0 5 rfl rfl)
theorem dX10_init_6 : decode cX10_init 6 = .ok (.putfield 7, 3) := dk_181 0 7 (dk_at dksX10_init_0 6 rfl rfl)
theorem dX10_init_9 : decode cX10_init 9 = .ok (.return_, 1) := dk_177 (dk_at dksX10_init_0 9 rfl rfl)
set_option maxRecDepth 100000
abbrev cX11_init : ByteArray := prog_7_method_1_code
def yX11_init : MethodName := ⟨RX11, "<init>", "(J)V"⟩
def dkwX11_init_0 : List UInt8 := [42, 31, 183, 0, 1, 177]
abbrev dktX11_init_0 : List UInt8 := dkwX11_init_0 ++ []
theorem dksX11_init_0 : cX11_init.data.toList.drop 0 = dktX11_init_0 := by decide +kernel
theorem dX11_init_0 : decode cX11_init 0 = .ok (.aload_n 0, 1) := dk_42 (dk_at dksX11_init_0 0 rfl rfl)
theorem dX11_init_1 : decode cX11_init 1 = .ok (.lload_n 1, 1) := dk_31 (dk_at dksX11_init_0 1 rfl rfl)
theorem dX11_init_2 : decode cX11_init 2 = .ok (.invokespecial 1, 3) := dk_183 0 1 (dk_at dksX11_init_0 2 rfl rfl)
theorem dX11_init_5 : decode cX11_init 5 = .ok (.return_, 1) := dk_177 (dk_at dksX11_init_0 5 rfl rfl)
set_option maxRecDepth 100000
abbrev cX12_init : ByteArray := prog_4_method_1_code
def yX12_init : MethodName := ⟨RX12, "<init>", "(J)V"⟩
def dkwX12_init_0 : List UInt8 := [42, 31, 183, 0, 1, 177]
abbrev dktX12_init_0 : List UInt8 := dkwX12_init_0 ++ []
theorem dksX12_init_0 : cX12_init.data.toList.drop 0 = dktX12_init_0 := by decide +kernel
theorem dX12_init_0 : decode cX12_init 0 = .ok (.aload_n 0, 1) := dk_42 (dk_at dksX12_init_0 0 rfl rfl)
theorem dX12_init_1 : decode cX12_init 1 = .ok (.lload_n 1, 1) := dk_31 (dk_at dksX12_init_0 1 rfl rfl)
theorem dX12_init_2 : decode cX12_init 2 = .ok (.invokespecial 1, 3) := dk_183 0 1 (dk_at dksX12_init_0 2 rfl rfl)
theorem dX12_init_5 : decode cX12_init 5 = .ok (.return_, 1) := dk_177 (dk_at dksX12_init_0 5 rfl rfl)
set_option maxRecDepth 100000
abbrev cX13_init : ByteArray := prog_11_method_1_code
def yX13_init : MethodName := ⟨RX13, "<init>", "()V"⟩
theorem dX13_init_0 : decode cX13_init 0 = .ok (.aload_n 0, 1) := by decide +kernel
theorem dX13_init_1 : decode cX13_init 1 = .ok (.invokespecial 1, 3) := by decide +kernel
theorem dX13_init_4 : decode cX13_init 4 = .ok (.return_, 1) := by decide +kernel
set_option maxRecDepth 100000
abbrev cX14_init : ByteArray := prog_9_method_1_code
def yX14_init : MethodName := ⟨RX14, "<init>", "(LTailorRegiment$Part;)V"⟩
def dkwX14_init_0 : List UInt8 := [42, 183, 0, 1, 42, 43, 181, 0, 7, 177]
abbrev dktX14_init_0 : List UInt8 := dkwX14_init_0 ++ []
theorem dksX14_init_0 : cX14_init.data.toList.drop 0 = dktX14_init_0 := by decide +kernel
theorem dX14_init_0 : decode cX14_init 0 = .ok (.aload_n 0, 1) := dk_42 (dk_at dksX14_init_0 0 rfl rfl)
theorem dX14_init_1 : decode cX14_init 1 = .ok (.invokespecial 1, 3) := dk_183 0 1 (dk_at dksX14_init_0 1 rfl rfl)
theorem dX14_init_4 : decode cX14_init 4 = .ok (.aload_n 0, 1) := dk_42 (dk_at dksX14_init_0 4 rfl rfl)
theorem dX14_init_5 : decode cX14_init 5 = .ok (.aload_n 1, 1) := dk_43 (dk_at dksX14_init_0 5 rfl rfl)
theorem dX14_init_6 : decode cX14_init 6 = .ok (.putfield 7, 3) := dk_181 0 7 (dk_at dksX14_init_0 6 rfl rfl)
theorem dX14_init_9 : decode cX14_init 9 = .ok (.return_, 1) := dk_177 (dk_at dksX14_init_0 9 rfl rfl)
abbrev cX14_of : ByteArray := prog_9_method_2_code
def yX14_of : MethodName := ⟨RX14, "of", "([I)I"⟩
def dkwX14_of_0 : List UInt8 := [42, 180, 0, 7, 43, 182, 0, 13, 154, 0, 7, 4, 167, 0, 4, 3, 172]
abbrev dktX14_of_0 : List UInt8 := dkwX14_of_0 ++ []
theorem dksX14_of_0 : cX14_of.data.toList.drop 0 = dktX14_of_0 := by decide +kernel
theorem dX14_of_0 : decode cX14_of 0 = .ok (.aload_n 0, 1) := dk_42 (dk_at dksX14_of_0 0 rfl rfl)
theorem dX14_of_1 : decode cX14_of 1 = .ok (.getfield 7, 3) := dk_180 0 7 (dk_at dksX14_of_0 1 rfl rfl)
theorem dX14_of_4 : decode cX14_of 4 = .ok (.aload_n 1, 1) := dk_43 (dk_at dksX14_of_0 4 rfl rfl)
theorem dX14_of_5 : decode cX14_of 5 = .ok (.invokevirtual 13, 3) := dk_182 0 13 (dk_at dksX14_of_0 5 rfl rfl)
theorem dX14_of_8 : decode cX14_of 8 = .ok (.ifCond .ne 7, 3) := dk_154 0 7 (dk_at dksX14_of_0 8 rfl rfl)
theorem dX14_of_11 : decode cX14_of 11 = .ok (.iconst 1, 1) := dk_4 (dk_at dksX14_of_0 11 rfl rfl)
theorem dX14_of_12 : decode cX14_of 12 = .ok (.goto 4, 3) := dk_167 0 4 (dk_at dksX14_of_0 12 rfl rfl)
theorem dX14_of_15 : decode cX14_of 15 = .ok (.iconst 0, 1) := dk_3 (dk_at dksX14_of_0 15 rfl rfl)
theorem dX14_of_16 : decode cX14_of 16 = .ok (.ireturn, 1) := dk_172 (dk_at dksX14_of_0 16 rfl rfl)
set_option maxRecDepth 100000
abbrev cX15_init : ByteArray := prog_10_method_1_code
def yX15_init : MethodName := ⟨RX15, "<init>", "(I)V"⟩
def dkwX15_init_0 : List UInt8 := [42, 183, 0, 1, 42, 27, 181, 0, 7, 177]
abbrev dktX15_init_0 : List UInt8 := dkwX15_init_0 ++ []
theorem dksX15_init_0 : cX15_init.data.toList.drop 0 = dktX15_init_0 := by decide +kernel
theorem dX15_init_0 : decode cX15_init 0 = .ok (.aload_n 0, 1) := dk_42 (dk_at dksX15_init_0 0 rfl rfl)
theorem dX15_init_1 : decode cX15_init 1 = .ok (.invokespecial 1, 3) := dk_183 0 1 (dk_at dksX15_init_0 1 rfl rfl)
theorem dX15_init_4 : decode cX15_init 4 = .ok (.aload_n 0, 1) := dk_42 (dk_at dksX15_init_0 4 rfl rfl)
theorem dX15_init_5 : decode cX15_init 5 = .ok (.iload_n 1, 1) := dk_27 (dk_at dksX15_init_0 5 rfl rfl)
theorem dX15_init_6 : decode cX15_init 6 = .ok (.putfield 7, 3) := dk_181 0 7 (dk_at dksX15_init_0 6 rfl rfl)
theorem dX15_init_9 : decode cX15_init 9 = .ok (.return_, 1) := dk_177 (dk_at dksX15_init_0 9 rfl rfl)
abbrev cX15_of : ByteArray := prog_10_method_2_code
def yX15_of : MethodName := ⟨RX15, "of", "([I)I"⟩
theorem dX15_of_0 : decode cX15_of 0 = .ok (.aload_n 0, 1) := by decide +kernel
theorem dX15_of_1 : decode cX15_of 1 = .ok (.getfield 7, 3) := by decide +kernel
theorem dX15_of_4 : decode cX15_of 4 = .ok (.ireturn, 1) := by decide +kernel
set_option maxRecDepth 100000
abbrev cX16_init : ByteArray := prog_8_method_1_code
def yX16_init : MethodName := ⟨RX16, "<init>", "(I)V"⟩
def dkwX16_init_0 : List UInt8 := [42, 183, 0, 1, 42, 27, 181, 0, 7, 177]
abbrev dktX16_init_0 : List UInt8 := dkwX16_init_0 ++ []
theorem dksX16_init_0 : cX16_init.data.toList.drop 0 = dktX16_init_0 := by decide +kernel
theorem dX16_init_0 : decode cX16_init 0 = .ok (.aload_n 0, 1) := dk_42 (dk_at dksX16_init_0 0 rfl rfl)
theorem dX16_init_1 : decode cX16_init 1 = .ok (.invokespecial 1, 3) := dk_183 0 1 (dk_at dksX16_init_0 1 rfl rfl)
theorem dX16_init_4 : decode cX16_init 4 = .ok (.aload_n 0, 1) := dk_42 (dk_at dksX16_init_0 4 rfl rfl)
theorem dX16_init_5 : decode cX16_init 5 = .ok (.iload_n 1, 1) := dk_27 (dk_at dksX16_init_0 5 rfl rfl)
theorem dX16_init_6 : decode cX16_init 6 = .ok (.putfield 7, 3) := dk_181 0 7 (dk_at dksX16_init_0 6 rfl rfl)
theorem dX16_init_9 : decode cX16_init 9 = .ok (.return_, 1) := dk_177 (dk_at dksX16_init_0 9 rfl rfl)
abbrev cX16_of : ByteArray := prog_8_method_2_code
def yX16_of : MethodName := ⟨RX16, "of", "([I)I"⟩
def dkwX16_of_0 : List UInt8 := [43, 42, 180, 0, 7, 46, 172]
abbrev dktX16_of_0 : List UInt8 := dkwX16_of_0 ++ []
theorem dksX16_of_0 : cX16_of.data.toList.drop 0 = dktX16_of_0 := by decide +kernel
theorem dX16_of_0 : decode cX16_of 0 = .ok (.aload_n 1, 1) := dk_43 (dk_at dksX16_of_0 0 rfl rfl)
theorem dX16_of_1 : decode cX16_of 1 = .ok (.aload_n 0, 1) := dk_42 (dk_at dksX16_of_0 1 rfl rfl)
theorem dX16_of_2 : decode cX16_of 2 = .ok (.getfield 7, 3) := dk_180 0 7 (dk_at dksX16_of_0 2 rfl rfl)
theorem dX16_of_5 : decode cX16_of 5 = .ok (.iaload, 1) := dk_46 (dk_at dksX16_of_0 5 rfl rfl)
theorem dX16_of_6 : decode cX16_of 6 = .ok (.ireturn, 1) := dk_172 (dk_at dksX16_of_0 6 rfl rfl)
set_option maxRecDepth 100000
abbrev cX17_init : ByteArray := prog_16_method_1_code
def yX17_init : MethodName := ⟨RX17, "<init>", "(ILTailorRegiment$Part;LTailorRegiment$Part;)V"⟩
def dkwX17_init_0 : List UInt8 := [42, 183, 0, 1, 42, 27, 181, 0, 7, 42, 44, 181, 0, 13, 42, 45, 181, 0, 17, 177]
abbrev dktX17_init_0 : List UInt8 := dkwX17_init_0 ++ []
theorem dksX17_init_0 : cX17_init.data.toList.drop 0 = dktX17_init_0 := by decide +kernel
theorem dX17_init_0 : decode cX17_init 0 = .ok (.aload_n 0, 1) := dk_42 (dk_at dksX17_init_0 0 rfl rfl)
theorem dX17_init_1 : decode cX17_init 1 = .ok (.invokespecial 1, 3) := dk_183 0 1 (dk_at dksX17_init_0 1 rfl rfl)
theorem dX17_init_4 : decode cX17_init 4 = .ok (.aload_n 0, 1) := dk_42 (dk_at dksX17_init_0 4 rfl rfl)
theorem dX17_init_5 : decode cX17_init 5 = .ok (.iload_n 1, 1) := dk_27 (dk_at dksX17_init_0 5 rfl rfl)
theorem dX17_init_6 : decode cX17_init 6 = .ok (.putfield 7, 3) := dk_181 0 7 (dk_at dksX17_init_0 6 rfl rfl)
theorem dX17_init_9 : decode cX17_init 9 = .ok (.aload_n 0, 1) := dk_42 (dk_at dksX17_init_0 9 rfl rfl)
theorem dX17_init_10 : decode cX17_init 10 = .ok (.aload_n 2, 1) := dk_44 (dk_at dksX17_init_0 10 rfl rfl)
theorem dX17_init_11 : decode cX17_init 11 = .ok (.putfield 13, 3) := dk_181 0 13 (dk_at dksX17_init_0 11 rfl rfl)
theorem dX17_init_14 : decode cX17_init 14 = .ok (.aload_n 0, 1) := dk_42 (dk_at dksX17_init_0 14 rfl rfl)
theorem dX17_init_15 : decode cX17_init 15 = .ok (.aload_n 3, 1) := dk_45 (dk_at dksX17_init_0 15 rfl rfl)
theorem dX17_init_16 : decode cX17_init 16 = .ok (.putfield 17, 3) := dk_181 0 17 (dk_at dksX17_init_0 16 rfl rfl)
theorem dX17_init_19 : decode cX17_init 19 = .ok (.return_, 1) := dk_177 (dk_at dksX17_init_0 19 rfl rfl)
abbrev cX17_of : ByteArray := prog_16_method_3_code
def yX17_of : MethodName := ⟨RX17, "of", "([I)I"⟩
def dkwX17_of_6 : List UInt8 := [172, 28, 154, 0, 7, 29, 153, 0, 7, 4, 167, 0, 4, 3, 184, 0, 24, 172]
abbrev dktX17_of_6 : List UInt8 := dkwX17_of_6 ++ []
def dkwX17_of_5 : List UInt8 := [167, 0, 4, 3, 184, 0, 24, 172, 28, 153, 0, 11, 29, 153, 0, 7, 4, 167, 0, 4, 3, 184, 0, 24]
abbrev dktX17_of_5 : List UInt8 := dkwX17_of_5 ++ dktX17_of_6
def dkwX17_of_4 : List UInt8 := [184, 0, 24, 172, 28, 29, 164, 0, 7, 4, 167, 0, 4, 3, 184, 0, 24, 172, 28, 29, 160, 0, 7, 4]
abbrev dktX17_of_4 : List UInt8 := dkwX17_of_4 ++ dktX17_of_5
def dkwX17_of_3 : List UInt8 := [29, 154, 0, 7, 3, 167, 0, 6, 28, 29, 112, 172, 28, 29, 162, 0, 7, 4, 167, 0, 4, 3]
abbrev dktX17_of_3 : List UInt8 := dkwX17_of_3 ++ dktX17_of_4
def dkwX17_of_2 : List UInt8 := [28, 29, 96, 172, 28, 29, 100, 172, 28, 29, 104, 172, 29, 154, 0, 7, 3, 167, 0, 6, 28, 29, 108, 172]
abbrev dktX17_of_2 : List UInt8 := dkwX17_of_2 ++ dktX17_of_3
def dkwX17_of_1 : List UInt8 := [170, 0, 0, 0, 0, 213, 0, 0, 0, 37, 0, 0, 0, 62, 0, 0, 0, 142, 0, 0, 0, 196, 0, 0, 0, 213, 0, 0, 0, 213, 0, 0, 0, 213, 0, 0, 0, 126, 0, 0, 0, 118, 0, 0, 0, 213, 0, 0, 0, 122, 0, 0, 0, 213, 0, 0, 0, 130, 0, 0, 0, 213, 0, 0, 0, 213, 0, 0, 0, 213, 0, 0, 0, 213, 0, 0, 0, 213, 0, 0, 0, 213, 0, 0, 0, 213, 0, 0, 0, 213, 0, 0, 0, 213, 0, 0, 0, 213, 0, 0, 0, 213, 0, 0, 0, 213, 0, 0, 0, 154, 0, 0, 0, 182, 0, 0, 0, 168]
abbrev dktX17_of_1 : List UInt8 := dkwX17_of_1 ++ dktX17_of_2
def dkwX17_of_0 : List UInt8 := [42, 180, 0, 13, 43, 182, 0, 20, 61, 42, 180, 0, 17, 43, 182, 0, 20, 62, 42, 180, 0, 7]
abbrev dktX17_of_0 : List UInt8 := dkwX17_of_0 ++ dktX17_of_1
theorem dksX17_of_0 : cX17_of.data.toList.drop 0 = dktX17_of_0 := by decide +kernel
theorem dksX17_of_1 : cX17_of.data.toList.drop 22 = dktX17_of_1 := dk_seg dksX17_of_0 22 rfl rfl
theorem dksX17_of_2 : cX17_of.data.toList.drop 140 = dktX17_of_2 := dk_seg dksX17_of_1 118 rfl rfl
theorem dksX17_of_3 : cX17_of.data.toList.drop 164 = dktX17_of_3 := dk_seg dksX17_of_2 24 rfl rfl
theorem dksX17_of_4 : cX17_of.data.toList.drop 186 = dktX17_of_4 := dk_seg dksX17_of_3 22 rfl rfl
theorem dksX17_of_5 : cX17_of.data.toList.drop 210 = dktX17_of_5 := dk_seg dksX17_of_4 24 rfl rfl
theorem dksX17_of_6 : cX17_of.data.toList.drop 234 = dktX17_of_6 := dk_seg dksX17_of_5 24 rfl rfl
theorem dX17_of_0 : decode cX17_of 0 = .ok (.aload_n 0, 1) := dk_42 (dk_at dksX17_of_0 0 rfl rfl)
theorem dX17_of_1 : decode cX17_of 1 = .ok (.getfield 13, 3) := dk_180 0 13 (dk_at dksX17_of_0 1 rfl rfl)
theorem dX17_of_4 : decode cX17_of 4 = .ok (.aload_n 1, 1) := dk_43 (dk_at dksX17_of_0 4 rfl rfl)
theorem dX17_of_5 : decode cX17_of 5 = .ok (.invokevirtual 20, 3) := dk_182 0 20 (dk_at dksX17_of_0 5 rfl rfl)
theorem dX17_of_8 : decode cX17_of 8 = .ok (.istore_n 2, 1) := dk_61 (dk_at dksX17_of_0 8 rfl rfl)
theorem dX17_of_9 : decode cX17_of 9 = .ok (.aload_n 0, 1) := dk_42 (dk_at dksX17_of_0 9 rfl rfl)
theorem dX17_of_10 : decode cX17_of 10 = .ok (.getfield 17, 3) := dk_180 0 17 (dk_at dksX17_of_0 10 rfl rfl)
theorem dX17_of_13 : decode cX17_of 13 = .ok (.aload_n 1, 1) := dk_43 (dk_at dksX17_of_0 13 rfl rfl)
theorem dX17_of_14 : decode cX17_of 14 = .ok (.invokevirtual 20, 3) := dk_182 0 20 (dk_at dksX17_of_0 14 rfl rfl)
theorem dX17_of_17 : decode cX17_of 17 = .ok (.istore_n 3, 1) := dk_62 (dk_at dksX17_of_0 17 rfl rfl)
theorem dX17_of_18 : decode cX17_of 18 = .ok (.aload_n 0, 1) := dk_42 (dk_at dksX17_of_0 18 rfl rfl)
theorem dX17_of_19 : decode cX17_of 19 = .ok (.getfield 7, 3) := dk_180 0 7 (dk_at dksX17_of_0 19 rfl rfl)
theorem dX17_of_22 : decode cX17_of 22 = .ok (.tableswitch 213 37 62 #[142, 196, 213, 213, 213, 126, 118, 213, 122, 213, 130, 213, 213, 213, 213, 213, 213, 213, 213, 213, 213, 213, 213, 154, 182, 168], 118) := by decide +kernel
theorem dX17_of_140 : decode cX17_of 140 = .ok (.iload_n 2, 1) := dk_28 (dk_at dksX17_of_2 0 rfl rfl)
theorem dX17_of_141 : decode cX17_of 141 = .ok (.iload_n 3, 1) := dk_29 (dk_at dksX17_of_2 1 rfl rfl)
theorem dX17_of_142 : decode cX17_of 142 = .ok (.iadd, 1) := dk_96 (dk_at dksX17_of_2 2 rfl rfl)
theorem dX17_of_143 : decode cX17_of 143 = .ok (.ireturn, 1) := dk_172 (dk_at dksX17_of_2 3 rfl rfl)
theorem dX17_of_144 : decode cX17_of 144 = .ok (.iload_n 2, 1) := dk_28 (dk_at dksX17_of_2 4 rfl rfl)
theorem dX17_of_145 : decode cX17_of 145 = .ok (.iload_n 3, 1) := dk_29 (dk_at dksX17_of_2 5 rfl rfl)
theorem dX17_of_146 : decode cX17_of 146 = .ok (.isub, 1) := dk_100 (dk_at dksX17_of_2 6 rfl rfl)
theorem dX17_of_147 : decode cX17_of 147 = .ok (.ireturn, 1) := dk_172 (dk_at dksX17_of_2 7 rfl rfl)
theorem dX17_of_148 : decode cX17_of 148 = .ok (.iload_n 2, 1) := dk_28 (dk_at dksX17_of_2 8 rfl rfl)
theorem dX17_of_149 : decode cX17_of 149 = .ok (.iload_n 3, 1) := dk_29 (dk_at dksX17_of_2 9 rfl rfl)
theorem dX17_of_150 : decode cX17_of 150 = .ok (.imul, 1) := dk_104 (dk_at dksX17_of_2 10 rfl rfl)
theorem dX17_of_151 : decode cX17_of 151 = .ok (.ireturn, 1) := dk_172 (dk_at dksX17_of_2 11 rfl rfl)
theorem dX17_of_152 : decode cX17_of 152 = .ok (.iload_n 3, 1) := dk_29 (dk_at dksX17_of_2 12 rfl rfl)
theorem dX17_of_153 : decode cX17_of 153 = .ok (.ifCond .ne 7, 3) := dk_154 0 7 (dk_at dksX17_of_2 13 rfl rfl)
theorem dX17_of_156 : decode cX17_of 156 = .ok (.iconst 0, 1) := dk_3 (dk_at dksX17_of_2 16 rfl rfl)
theorem dX17_of_157 : decode cX17_of 157 = .ok (.goto 6, 3) := dk_167 0 6 (dk_at dksX17_of_2 17 rfl rfl)
theorem dX17_of_160 : decode cX17_of 160 = .ok (.iload_n 2, 1) := dk_28 (dk_at dksX17_of_2 20 rfl rfl)
theorem dX17_of_161 : decode cX17_of 161 = .ok (.iload_n 3, 1) := dk_29 (dk_at dksX17_of_2 21 rfl rfl)
theorem dX17_of_162 : decode cX17_of 162 = .ok (.idiv, 1) := dk_108 (dk_at dksX17_of_2 22 rfl rfl)
theorem dX17_of_163 : decode cX17_of 163 = .ok (.ireturn, 1) := dk_172 (dk_at dksX17_of_2 23 rfl rfl)
theorem dX17_of_164 : decode cX17_of 164 = .ok (.iload_n 3, 1) := dk_29 (dk_at dksX17_of_3 0 rfl rfl)
theorem dX17_of_165 : decode cX17_of 165 = .ok (.ifCond .ne 7, 3) := dk_154 0 7 (dk_at dksX17_of_3 1 rfl rfl)
theorem dX17_of_168 : decode cX17_of 168 = .ok (.iconst 0, 1) := dk_3 (dk_at dksX17_of_3 4 rfl rfl)
theorem dX17_of_169 : decode cX17_of 169 = .ok (.goto 6, 3) := dk_167 0 6 (dk_at dksX17_of_3 5 rfl rfl)
theorem dX17_of_172 : decode cX17_of 172 = .ok (.iload_n 2, 1) := dk_28 (dk_at dksX17_of_3 8 rfl rfl)
theorem dX17_of_173 : decode cX17_of 173 = .ok (.iload_n 3, 1) := dk_29 (dk_at dksX17_of_3 9 rfl rfl)
theorem dX17_of_174 : decode cX17_of 174 = .ok (.irem, 1) := dk_112 (dk_at dksX17_of_3 10 rfl rfl)
theorem dX17_of_175 : decode cX17_of 175 = .ok (.ireturn, 1) := dk_172 (dk_at dksX17_of_3 11 rfl rfl)
theorem dX17_of_176 : decode cX17_of 176 = .ok (.iload_n 2, 1) := dk_28 (dk_at dksX17_of_3 12 rfl rfl)
theorem dX17_of_177 : decode cX17_of 177 = .ok (.iload_n 3, 1) := dk_29 (dk_at dksX17_of_3 13 rfl rfl)
theorem dX17_of_178 : decode cX17_of 178 = .ok (.if_icmp .ge 7, 3) := dk_162 0 7 (dk_at dksX17_of_3 14 rfl rfl)
theorem dX17_of_181 : decode cX17_of 181 = .ok (.iconst 1, 1) := dk_4 (dk_at dksX17_of_3 17 rfl rfl)
theorem dX17_of_182 : decode cX17_of 182 = .ok (.goto 4, 3) := dk_167 0 4 (dk_at dksX17_of_3 18 rfl rfl)
theorem dX17_of_185 : decode cX17_of 185 = .ok (.iconst 0, 1) := dk_3 (dk_at dksX17_of_3 21 rfl rfl)
theorem dX17_of_186 : decode cX17_of 186 = .ok (.invokestatic 24, 3) := dk_184 0 24 (dk_at dksX17_of_4 0 rfl rfl)
theorem dX17_of_189 : decode cX17_of 189 = .ok (.ireturn, 1) := dk_172 (dk_at dksX17_of_4 3 rfl rfl)
theorem dX17_of_190 : decode cX17_of 190 = .ok (.iload_n 2, 1) := dk_28 (dk_at dksX17_of_4 4 rfl rfl)
theorem dX17_of_191 : decode cX17_of 191 = .ok (.iload_n 3, 1) := dk_29 (dk_at dksX17_of_4 5 rfl rfl)
theorem dX17_of_192 : decode cX17_of 192 = .ok (.if_icmp .le 7, 3) := dk_164 0 7 (dk_at dksX17_of_4 6 rfl rfl)
theorem dX17_of_195 : decode cX17_of 195 = .ok (.iconst 1, 1) := dk_4 (dk_at dksX17_of_4 9 rfl rfl)
theorem dX17_of_196 : decode cX17_of 196 = .ok (.goto 4, 3) := dk_167 0 4 (dk_at dksX17_of_4 10 rfl rfl)
theorem dX17_of_199 : decode cX17_of 199 = .ok (.iconst 0, 1) := dk_3 (dk_at dksX17_of_4 13 rfl rfl)
theorem dX17_of_200 : decode cX17_of 200 = .ok (.invokestatic 24, 3) := dk_184 0 24 (dk_at dksX17_of_4 14 rfl rfl)
theorem dX17_of_203 : decode cX17_of 203 = .ok (.ireturn, 1) := dk_172 (dk_at dksX17_of_4 17 rfl rfl)
theorem dX17_of_204 : decode cX17_of 204 = .ok (.iload_n 2, 1) := dk_28 (dk_at dksX17_of_4 18 rfl rfl)
theorem dX17_of_205 : decode cX17_of 205 = .ok (.iload_n 3, 1) := dk_29 (dk_at dksX17_of_4 19 rfl rfl)
theorem dX17_of_206 : decode cX17_of 206 = .ok (.if_icmp .ne 7, 3) := dk_160 0 7 (dk_at dksX17_of_4 20 rfl rfl)
theorem dX17_of_209 : decode cX17_of 209 = .ok (.iconst 1, 1) := dk_4 (dk_at dksX17_of_4 23 rfl rfl)
theorem dX17_of_210 : decode cX17_of 210 = .ok (.goto 4, 3) := dk_167 0 4 (dk_at dksX17_of_5 0 rfl rfl)
theorem dX17_of_213 : decode cX17_of 213 = .ok (.iconst 0, 1) := dk_3 (dk_at dksX17_of_5 3 rfl rfl)
theorem dX17_of_214 : decode cX17_of 214 = .ok (.invokestatic 24, 3) := dk_184 0 24 (dk_at dksX17_of_5 4 rfl rfl)
theorem dX17_of_217 : decode cX17_of 217 = .ok (.ireturn, 1) := dk_172 (dk_at dksX17_of_5 7 rfl rfl)
theorem dX17_of_218 : decode cX17_of 218 = .ok (.iload_n 2, 1) := dk_28 (dk_at dksX17_of_5 8 rfl rfl)
theorem dX17_of_219 : decode cX17_of 219 = .ok (.ifCond .eq 11, 3) := dk_153 0 11 (dk_at dksX17_of_5 9 rfl rfl)
theorem dX17_of_222 : decode cX17_of 222 = .ok (.iload_n 3, 1) := dk_29 (dk_at dksX17_of_5 12 rfl rfl)
theorem dX17_of_223 : decode cX17_of 223 = .ok (.ifCond .eq 7, 3) := dk_153 0 7 (dk_at dksX17_of_5 13 rfl rfl)
theorem dX17_of_226 : decode cX17_of 226 = .ok (.iconst 1, 1) := dk_4 (dk_at dksX17_of_5 16 rfl rfl)
theorem dX17_of_227 : decode cX17_of 227 = .ok (.goto 4, 3) := dk_167 0 4 (dk_at dksX17_of_5 17 rfl rfl)
theorem dX17_of_230 : decode cX17_of 230 = .ok (.iconst 0, 1) := dk_3 (dk_at dksX17_of_5 20 rfl rfl)
theorem dX17_of_231 : decode cX17_of 231 = .ok (.invokestatic 24, 3) := dk_184 0 24 (dk_at dksX17_of_5 21 rfl rfl)
theorem dX17_of_234 : decode cX17_of 234 = .ok (.ireturn, 1) := dk_172 (dk_at dksX17_of_6 0 rfl rfl)
theorem dX17_of_235 : decode cX17_of 235 = .ok (.iload_n 2, 1) := dk_28 (dk_at dksX17_of_6 1 rfl rfl)
theorem dX17_of_236 : decode cX17_of 236 = .ok (.ifCond .ne 7, 3) := dk_154 0 7 (dk_at dksX17_of_6 2 rfl rfl)
theorem dX17_of_239 : decode cX17_of 239 = .ok (.iload_n 3, 1) := dk_29 (dk_at dksX17_of_6 5 rfl rfl)
theorem dX17_of_240 : decode cX17_of 240 = .ok (.ifCond .eq 7, 3) := dk_153 0 7 (dk_at dksX17_of_6 6 rfl rfl)
theorem dX17_of_243 : decode cX17_of 243 = .ok (.iconst 1, 1) := dk_4 (dk_at dksX17_of_6 9 rfl rfl)
theorem dX17_of_244 : decode cX17_of 244 = .ok (.goto 4, 3) := dk_167 0 4 (dk_at dksX17_of_6 10 rfl rfl)
theorem dX17_of_247 : decode cX17_of 247 = .ok (.iconst 0, 1) := dk_3 (dk_at dksX17_of_6 13 rfl rfl)
theorem dX17_of_248 : decode cX17_of 248 = .ok (.invokestatic 24, 3) := dk_184 0 24 (dk_at dksX17_of_6 14 rfl rfl)
theorem dX17_of_251 : decode cX17_of 251 = .ok (.ireturn, 1) := dk_172 (dk_at dksX17_of_6 17 rfl rfl)
abbrev cX17_is : ByteArray := prog_16_method_2_code
def yX17_is : MethodName := ⟨RX17, "is", "(Z)I"⟩
def dkwX17_is_0 : List UInt8 := [26, 153, 0, 7, 4, 167, 0, 4, 3, 172]
abbrev dktX17_is_0 : List UInt8 := dkwX17_is_0 ++ []
theorem dksX17_is_0 : cX17_is.data.toList.drop 0 = dktX17_is_0 := by decide +kernel
theorem dX17_is_0 : decode cX17_is 0 = .ok (.iload_n 0, 1) := dk_26 (dk_at dksX17_is_0 0 rfl rfl)
theorem dX17_is_1 : decode cX17_is 1 = .ok (.ifCond .eq 7, 3) := dk_153 0 7 (dk_at dksX17_is_0 1 rfl rfl)
theorem dX17_is_4 : decode cX17_is 4 = .ok (.iconst 1, 1) := dk_4 (dk_at dksX17_is_0 4 rfl rfl)
theorem dX17_is_5 : decode cX17_is 5 = .ok (.goto 4, 3) := dk_167 0 4 (dk_at dksX17_is_0 5 rfl rfl)
theorem dX17_is_8 : decode cX17_is 8 = .ok (.iconst 0, 1) := dk_3 (dk_at dksX17_is_0 8 rfl rfl)
theorem dX17_is_9 : decode cX17_is 9 = .ok (.ireturn, 1) := dk_172 (dk_at dksX17_is_0 9 rfl rfl)
set_option maxRecDepth 100000
abbrev cX18_init : ByteArray := prog_14_method_1_code
def yX18_init : MethodName := ⟨RX18, "<init>", "(IZI)V"⟩
def dkwX18_init_1 : List UInt8 := [177]
abbrev dktX18_init_1 : List UInt8 := dkwX18_init_1 ++ []
def dkwX18_init_0 : List UInt8 := [42, 183, 0, 3, 42, 2, 181, 0, 9, 42, 27, 181, 0, 15, 42, 28, 181, 0, 18, 42, 29, 181, 0, 22]
abbrev dktX18_init_0 : List UInt8 := dkwX18_init_0 ++ dktX18_init_1
theorem dksX18_init_0 : cX18_init.data.toList.drop 0 = dktX18_init_0 := by decide +kernel
theorem dksX18_init_1 : cX18_init.data.toList.drop 24 = dktX18_init_1 := dk_seg dksX18_init_0 24 rfl rfl
theorem dX18_init_0 : decode cX18_init 0 = .ok (.aload_n 0, 1) := dk_42 (dk_at dksX18_init_0 0 rfl rfl)
theorem dX18_init_1 : decode cX18_init 1 = .ok (.invokespecial 3, 3) := dk_183 0 3 (dk_at dksX18_init_0 1 rfl rfl)
theorem dX18_init_4 : decode cX18_init 4 = .ok (.aload_n 0, 1) := dk_42 (dk_at dksX18_init_0 4 rfl rfl)
theorem dX18_init_5 : decode cX18_init 5 = .ok (.iconst (-1), 1) := dk_2 (dk_at dksX18_init_0 5 rfl rfl)
theorem dX18_init_6 : decode cX18_init 6 = .ok (.putfield 9, 3) := dk_181 0 9 (dk_at dksX18_init_0 6 rfl rfl)
theorem dX18_init_9 : decode cX18_init 9 = .ok (.aload_n 0, 1) := dk_42 (dk_at dksX18_init_0 9 rfl rfl)
theorem dX18_init_10 : decode cX18_init 10 = .ok (.iload_n 1, 1) := dk_27 (dk_at dksX18_init_0 10 rfl rfl)
theorem dX18_init_11 : decode cX18_init 11 = .ok (.putfield 15, 3) := dk_181 0 15 (dk_at dksX18_init_0 11 rfl rfl)
theorem dX18_init_14 : decode cX18_init 14 = .ok (.aload_n 0, 1) := dk_42 (dk_at dksX18_init_0 14 rfl rfl)
theorem dX18_init_15 : decode cX18_init 15 = .ok (.iload_n 2, 1) := dk_28 (dk_at dksX18_init_0 15 rfl rfl)
theorem dX18_init_16 : decode cX18_init 16 = .ok (.putfield 18, 3) := dk_181 0 18 (dk_at dksX18_init_0 16 rfl rfl)
theorem dX18_init_19 : decode cX18_init 19 = .ok (.aload_n 0, 1) := dk_42 (dk_at dksX18_init_0 19 rfl rfl)
theorem dX18_init_20 : decode cX18_init 20 = .ok (.iload_n 3, 1) := dk_29 (dk_at dksX18_init_0 20 rfl rfl)
theorem dX18_init_21 : decode cX18_init 21 = .ok (.putfield 22, 3) := dk_181 0 22 (dk_at dksX18_init_0 21 rfl rfl)
theorem dX18_init_24 : decode cX18_init 24 = .ok (.return_, 1) := dk_177 (dk_at dksX18_init_1 0 rfl rfl)
abbrev cX18_counts : ByteArray := prog_14_method_2_code
def yX18_counts : MethodName := ⟨RX18, "counts", "(I)Z"⟩
def dkwX18_counts_1 : List UInt8 := [167, 0, 4, 3, 172]
abbrev dktX18_counts_1 : List UInt8 := dkwX18_counts_1 ++ []
def dkwX18_counts_0 : List UInt8 := [42, 180, 0, 22, 27, 163, 0, 22, 42, 180, 0, 9, 155, 0, 11, 42, 180, 0, 9, 27, 164, 0, 7, 4]
abbrev dktX18_counts_0 : List UInt8 := dkwX18_counts_0 ++ dktX18_counts_1
theorem dksX18_counts_0 : cX18_counts.data.toList.drop 0 = dktX18_counts_0 := by decide +kernel
theorem dksX18_counts_1 : cX18_counts.data.toList.drop 24 = dktX18_counts_1 := dk_seg dksX18_counts_0 24 rfl rfl
theorem dX18_counts_0 : decode cX18_counts 0 = .ok (.aload_n 0, 1) := dk_42 (dk_at dksX18_counts_0 0 rfl rfl)
theorem dX18_counts_1 : decode cX18_counts 1 = .ok (.getfield 22, 3) := dk_180 0 22 (dk_at dksX18_counts_0 1 rfl rfl)
theorem dX18_counts_4 : decode cX18_counts 4 = .ok (.iload_n 1, 1) := dk_27 (dk_at dksX18_counts_0 4 rfl rfl)
theorem dX18_counts_5 : decode cX18_counts 5 = .ok (.if_icmp .gt 22, 3) := dk_163 0 22 (dk_at dksX18_counts_0 5 rfl rfl)
theorem dX18_counts_8 : decode cX18_counts 8 = .ok (.aload_n 0, 1) := dk_42 (dk_at dksX18_counts_0 8 rfl rfl)
theorem dX18_counts_9 : decode cX18_counts 9 = .ok (.getfield 9, 3) := dk_180 0 9 (dk_at dksX18_counts_0 9 rfl rfl)
theorem dX18_counts_12 : decode cX18_counts 12 = .ok (.ifCond .lt 11, 3) := dk_155 0 11 (dk_at dksX18_counts_0 12 rfl rfl)
theorem dX18_counts_15 : decode cX18_counts 15 = .ok (.aload_n 0, 1) := dk_42 (dk_at dksX18_counts_0 15 rfl rfl)
theorem dX18_counts_16 : decode cX18_counts 16 = .ok (.getfield 9, 3) := dk_180 0 9 (dk_at dksX18_counts_0 16 rfl rfl)
theorem dX18_counts_19 : decode cX18_counts 19 = .ok (.iload_n 1, 1) := dk_27 (dk_at dksX18_counts_0 19 rfl rfl)
theorem dX18_counts_20 : decode cX18_counts 20 = .ok (.if_icmp .le 7, 3) := dk_164 0 7 (dk_at dksX18_counts_0 20 rfl rfl)
theorem dX18_counts_23 : decode cX18_counts 23 = .ok (.iconst 1, 1) := dk_4 (dk_at dksX18_counts_0 23 rfl rfl)
theorem dX18_counts_24 : decode cX18_counts 24 = .ok (.goto 4, 3) := dk_167 0 4 (dk_at dksX18_counts_1 0 rfl rfl)
theorem dX18_counts_27 : decode cX18_counts 27 = .ok (.iconst 0, 1) := dk_3 (dk_at dksX18_counts_1 3 rfl rfl)
theorem dX18_counts_28 : decode cX18_counts 28 = .ok (.ireturn, 1) := dk_172 (dk_at dksX18_counts_1 4 rfl rfl)
set_option maxRecDepth 100000
abbrev cJ0_init : ByteArray := prog_36_method_1_code
def yJ0_init : MethodName := ⟨RJ0, "<init>", "()V"⟩
theorem dJ0_init_0 : decode cJ0_init 0 = .ok (.aload_n 0, 1) := by decide +kernel
theorem dJ0_init_1 : decode cJ0_init 1 = .ok (.invokespecial 1, 3) := by decide +kernel
theorem dJ0_init_4 : decode cJ0_init 4 = .ok (.return_, 1) := by decide +kernel
set_option maxRecDepth 100000
abbrev cJ1_init : ByteArray := prog_37_method_1_code
def yJ1_init : MethodName := ⟨RJ1, "<init>", "()V"⟩
def dkwJ1_init_0 : List UInt8 := [42, 183, 0, 1, 42, 3, 181, 0, 7, 177]
abbrev dktJ1_init_0 : List UInt8 := dkwJ1_init_0 ++ []
theorem dksJ1_init_0 : cJ1_init.data.toList.drop 0 = dktJ1_init_0 := by decide +kernel
theorem dJ1_init_0 : decode cJ1_init 0 = .ok (.aload_n 0, 1) := dk_42 (dk_at dksJ1_init_0 0 rfl rfl)
theorem dJ1_init_1 : decode cJ1_init 1 = .ok (.invokespecial 1, 3) := dk_183 0 1 (dk_at dksJ1_init_0 1 rfl rfl)
theorem dJ1_init_4 : decode cJ1_init 4 = .ok (.aload_n 0, 1) := dk_42 (dk_at dksJ1_init_0 4 rfl rfl)
theorem dJ1_init_5 : decode cJ1_init 5 = .ok (.iconst 0, 1) := dk_3 (dk_at dksJ1_init_0 5 rfl rfl)
theorem dJ1_init_6 : decode cJ1_init 6 = .ok (.putfield 7, 3) := dk_181 0 7 (dk_at dksJ1_init_0 6 rfl rfl)
theorem dJ1_init_9 : decode cJ1_init 9 = .ok (.return_, 1) := dk_177 (dk_at dksJ1_init_0 9 rfl rfl)
set_option maxRecDepth 100000
abbrev cJ2_init : ByteArray := prog_38_method_2_code
def yJ2_init : MethodName := ⟨RJ2, "<init>", "()V"⟩
def dkwJ2_init_0 : List UInt8 := [42, 183, 0, 1, 42, 178, 0, 39, 181, 0, 9, 177]
abbrev dktJ2_init_0 : List UInt8 := dkwJ2_init_0 ++ []
theorem dksJ2_init_0 : cJ2_init.data.toList.drop 0 = dktJ2_init_0 := by decide +kernel
theorem dJ2_init_0 : decode cJ2_init 0 = .ok (.aload_n 0, 1) := dk_42 (dk_at dksJ2_init_0 0 rfl rfl)
theorem dJ2_init_1 : decode cJ2_init 1 = .ok (.invokespecial 1, 3) := dk_183 0 1 (dk_at dksJ2_init_0 1 rfl rfl)
theorem dJ2_init_4 : decode cJ2_init 4 = .ok (.aload_n 0, 1) := dk_42 (dk_at dksJ2_init_0 4 rfl rfl)
theorem dJ2_init_5 : decode cJ2_init 5 = .ok (.getstatic 39, 3) := dk_178 0 39 (dk_at dksJ2_init_0 5 rfl rfl)
theorem dJ2_init_8 : decode cJ2_init 8 = .ok (.putfield 9, 3) := dk_181 0 9 (dk_at dksJ2_init_0 8 rfl rfl)
theorem dJ2_init_11 : decode cJ2_init 11 = .ok (.return_, 1) := dk_177 (dk_at dksJ2_init_0 11 rfl rfl)
abbrev cJ2_size : ByteArray := prog_38_method_8_code
def yJ2_size : MethodName := ⟨RJ2, "size", "()I"⟩
theorem dJ2_size_0 : decode cJ2_size 0 = .ok (.aload_n 0, 1) := by decide +kernel
theorem dJ2_size_1 : decode cJ2_size 1 = .ok (.getfield 48, 3) := by decide +kernel
theorem dJ2_size_4 : decode cJ2_size 4 = .ok (.ireturn, 1) := by decide +kernel
abbrev cJ2_get : ByteArray := prog_38_method_20_code
def yJ2_get : MethodName := ⟨RJ2, "get", "(I)Ljava/lang/Object;"⟩
def dkwJ2_get_0 : List UInt8 := [27, 42, 180, 0, 48, 184, 0, 118, 87, 42, 27, 182, 0, 123, 176]
abbrev dktJ2_get_0 : List UInt8 := dkwJ2_get_0 ++ []
theorem dksJ2_get_0 : cJ2_get.data.toList.drop 0 = dktJ2_get_0 := by decide +kernel
theorem dJ2_get_0 : decode cJ2_get 0 = .ok (.iload_n 1, 1) := dk_27 (dk_at dksJ2_get_0 0 rfl rfl)
theorem dJ2_get_1 : decode cJ2_get 1 = .ok (.aload_n 0, 1) := dk_42 (dk_at dksJ2_get_0 1 rfl rfl)
theorem dJ2_get_2 : decode cJ2_get 2 = .ok (.getfield 48, 3) := dk_180 0 48 (dk_at dksJ2_get_0 2 rfl rfl)
theorem dJ2_get_5 : decode cJ2_get 5 = .ok (.invokestatic 118, 3) := dk_184 0 118 (dk_at dksJ2_get_0 5 rfl rfl)
theorem dJ2_get_8 : decode cJ2_get 8 = .ok (.pop, 1) := dk_87 (dk_at dksJ2_get_0 8 rfl rfl)
theorem dJ2_get_9 : decode cJ2_get 9 = .ok (.aload_n 0, 1) := dk_42 (dk_at dksJ2_get_0 9 rfl rfl)
theorem dJ2_get_10 : decode cJ2_get 10 = .ok (.iload_n 1, 1) := dk_27 (dk_at dksJ2_get_0 10 rfl rfl)
theorem dJ2_get_11 : decode cJ2_get 11 = .ok (.invokevirtual 123, 3) := dk_182 0 123 (dk_at dksJ2_get_0 11 rfl rfl)
theorem dJ2_get_14 : decode cJ2_get 14 = .ok (.areturn, 1) := dk_176 (dk_at dksJ2_get_0 14 rfl rfl)
abbrev cJ2_elementData : ByteArray := prog_38_method_18_code
def yJ2_elementData : MethodName := ⟨RJ2, "elementData", "(I)Ljava/lang/Object;"⟩
def dkwJ2_elementData_0 : List UInt8 := [42, 180, 0, 9, 27, 50, 176]
abbrev dktJ2_elementData_0 : List UInt8 := dkwJ2_elementData_0 ++ []
theorem dksJ2_elementData_0 : cJ2_elementData.data.toList.drop 0 = dktJ2_elementData_0 := by decide +kernel
theorem dJ2_elementData_0 : decode cJ2_elementData 0 = .ok (.aload_n 0, 1) := dk_42 (dk_at dksJ2_elementData_0 0 rfl rfl)
theorem dJ2_elementData_1 : decode cJ2_elementData 1 = .ok (.getfield 9, 3) := dk_180 0 9 (dk_at dksJ2_elementData_0 1 rfl rfl)
theorem dJ2_elementData_4 : decode cJ2_elementData 4 = .ok (.iload_n 1, 1) := dk_27 (dk_at dksJ2_elementData_0 4 rfl rfl)
theorem dJ2_elementData_5 : decode cJ2_elementData 5 = .ok (.aaload, 1) := dk_50 (dk_at dksJ2_elementData_0 5 rfl rfl)
theorem dJ2_elementData_6 : decode cJ2_elementData 6 = .ok (.areturn, 1) := dk_176 (dk_at dksJ2_elementData_0 6 rfl rfl)
abbrev cJ2_clear : ByteArray := prog_38_method_40_code
def yJ2_clear : MethodName := ⟨RJ2, "clear", "()V"⟩
def dkwJ2_clear_1 : List UInt8 := [181, 0, 48, 62, 29, 28, 162, 0, 13, 43, 29, 1, 83, 132, 3, 1, 167, 255, 244, 177]
abbrev dktJ2_clear_1 : List UInt8 := dkwJ2_clear_1 ++ []
def dkwJ2_clear_0 : List UInt8 := [42, 89, 180, 0, 63, 4, 96, 181, 0, 63, 42, 180, 0, 9, 76, 42, 180, 0, 48, 61, 42, 3, 90]
abbrev dktJ2_clear_0 : List UInt8 := dkwJ2_clear_0 ++ dktJ2_clear_1
theorem dksJ2_clear_0 : cJ2_clear.data.toList.drop 0 = dktJ2_clear_0 := by decide +kernel
theorem dksJ2_clear_1 : cJ2_clear.data.toList.drop 23 = dktJ2_clear_1 := dk_seg dksJ2_clear_0 23 rfl rfl
theorem dJ2_clear_0 : decode cJ2_clear 0 = .ok (.aload_n 0, 1) := dk_42 (dk_at dksJ2_clear_0 0 rfl rfl)
theorem dJ2_clear_1 : decode cJ2_clear 1 = .ok (.dup, 1) := dk_89 (dk_at dksJ2_clear_0 1 rfl rfl)
theorem dJ2_clear_2 : decode cJ2_clear 2 = .ok (.getfield 63, 3) := dk_180 0 63 (dk_at dksJ2_clear_0 2 rfl rfl)
theorem dJ2_clear_5 : decode cJ2_clear 5 = .ok (.iconst 1, 1) := dk_4 (dk_at dksJ2_clear_0 5 rfl rfl)
theorem dJ2_clear_6 : decode cJ2_clear 6 = .ok (.iadd, 1) := dk_96 (dk_at dksJ2_clear_0 6 rfl rfl)
theorem dJ2_clear_7 : decode cJ2_clear 7 = .ok (.putfield 63, 3) := dk_181 0 63 (dk_at dksJ2_clear_0 7 rfl rfl)
theorem dJ2_clear_10 : decode cJ2_clear 10 = .ok (.aload_n 0, 1) := dk_42 (dk_at dksJ2_clear_0 10 rfl rfl)
theorem dJ2_clear_11 : decode cJ2_clear 11 = .ok (.getfield 9, 3) := dk_180 0 9 (dk_at dksJ2_clear_0 11 rfl rfl)
theorem dJ2_clear_14 : decode cJ2_clear 14 = .ok (.astore_n 1, 1) := dk_76 (dk_at dksJ2_clear_0 14 rfl rfl)
theorem dJ2_clear_15 : decode cJ2_clear 15 = .ok (.aload_n 0, 1) := dk_42 (dk_at dksJ2_clear_0 15 rfl rfl)
theorem dJ2_clear_16 : decode cJ2_clear 16 = .ok (.getfield 48, 3) := dk_180 0 48 (dk_at dksJ2_clear_0 16 rfl rfl)
theorem dJ2_clear_19 : decode cJ2_clear 19 = .ok (.istore_n 2, 1) := dk_61 (dk_at dksJ2_clear_0 19 rfl rfl)
theorem dJ2_clear_20 : decode cJ2_clear 20 = .ok (.aload_n 0, 1) := dk_42 (dk_at dksJ2_clear_0 20 rfl rfl)
theorem dJ2_clear_21 : decode cJ2_clear 21 = .ok (.iconst 0, 1) := dk_3 (dk_at dksJ2_clear_0 21 rfl rfl)
theorem dJ2_clear_22 : decode cJ2_clear 22 = .ok (.dup_x1, 1) := dk_90 (dk_at dksJ2_clear_0 22 rfl rfl)
theorem dJ2_clear_23 : decode cJ2_clear 23 = .ok (.putfield 48, 3) := dk_181 0 48 (dk_at dksJ2_clear_1 0 rfl rfl)
theorem dJ2_clear_26 : decode cJ2_clear 26 = .ok (.istore_n 3, 1) := dk_62 (dk_at dksJ2_clear_1 3 rfl rfl)
theorem dJ2_clear_27 : decode cJ2_clear 27 = .ok (.iload_n 3, 1) := dk_29 (dk_at dksJ2_clear_1 4 rfl rfl)
theorem dJ2_clear_28 : decode cJ2_clear 28 = .ok (.iload_n 2, 1) := dk_28 (dk_at dksJ2_clear_1 5 rfl rfl)
theorem dJ2_clear_29 : decode cJ2_clear 29 = .ok (.if_icmp .ge 13, 3) := dk_162 0 13 (dk_at dksJ2_clear_1 6 rfl rfl)
theorem dJ2_clear_32 : decode cJ2_clear 32 = .ok (.aload_n 1, 1) := dk_43 (dk_at dksJ2_clear_1 9 rfl rfl)
theorem dJ2_clear_33 : decode cJ2_clear 33 = .ok (.iload_n 3, 1) := dk_29 (dk_at dksJ2_clear_1 10 rfl rfl)
theorem dJ2_clear_34 : decode cJ2_clear 34 = .ok (.aconst_null, 1) := dk_1 (dk_at dksJ2_clear_1 11 rfl rfl)
theorem dJ2_clear_35 : decode cJ2_clear 35 = .ok (.aastore, 1) := dk_83 (dk_at dksJ2_clear_1 12 rfl rfl)
theorem dJ2_clear_36 : decode cJ2_clear 36 = .ok (.iinc 3 1, 3) := dk_132 3 1 (dk_at dksJ2_clear_1 13 rfl rfl)
theorem dJ2_clear_39 : decode cJ2_clear 39 = .ok (.goto (-12), 3) := dk_167 255 244 (dk_at dksJ2_clear_1 16 rfl rfl)
theorem dJ2_clear_42 : decode cJ2_clear 42 = .ok (.return_, 1) := dk_177 (dk_at dksJ2_clear_1 19 rfl rfl)
abbrev cJ2_iterator : ByteArray := prog_38_method_55_code
def yJ2_iterator : MethodName := ⟨RJ2, "iterator", "()Ljava/util/Iterator;"⟩
def dkwJ2_iterator_0 : List UInt8 := [187, 1, 11, 89, 42, 183, 1, 13, 176]
abbrev dktJ2_iterator_0 : List UInt8 := dkwJ2_iterator_0 ++ []
theorem dksJ2_iterator_0 : cJ2_iterator.data.toList.drop 0 = dktJ2_iterator_0 := by decide +kernel
theorem dJ2_iterator_0 : decode cJ2_iterator 0 = .ok (.new 267, 3) := dk_187 1 11 (dk_at dksJ2_iterator_0 0 rfl rfl)
theorem dJ2_iterator_3 : decode cJ2_iterator 3 = .ok (.dup, 1) := dk_89 (dk_at dksJ2_iterator_0 3 rfl rfl)
theorem dJ2_iterator_4 : decode cJ2_iterator 4 = .ok (.aload_n 0, 1) := dk_42 (dk_at dksJ2_iterator_0 4 rfl rfl)
theorem dJ2_iterator_5 : decode cJ2_iterator 5 = .ok (.invokespecial 269, 3) := dk_183 1 13 (dk_at dksJ2_iterator_0 5 rfl rfl)
theorem dJ2_iterator_8 : decode cJ2_iterator 8 = .ok (.areturn, 1) := dk_176 (dk_at dksJ2_iterator_0 8 rfl rfl)
abbrev cJ2_add : ByteArray := prog_38_method_25_code
def yJ2_add : MethodName := ⟨RJ2, "add", "(Ljava/lang/Object;)Z"⟩
def dkwJ2_add_1 : List UInt8 := [172]
abbrev dktJ2_add_1 : List UInt8 := dkwJ2_add_1 ++ []
def dkwJ2_add_0 : List UInt8 := [42, 89, 180, 0, 63, 4, 96, 181, 0, 63, 42, 43, 42, 180, 0, 9, 42, 180, 0, 48, 182, 0, 131, 4]
abbrev dktJ2_add_0 : List UInt8 := dkwJ2_add_0 ++ dktJ2_add_1
theorem dksJ2_add_0 : cJ2_add.data.toList.drop 0 = dktJ2_add_0 := by decide +kernel
theorem dksJ2_add_1 : cJ2_add.data.toList.drop 24 = dktJ2_add_1 := dk_seg dksJ2_add_0 24 rfl rfl
theorem dJ2_add_0 : decode cJ2_add 0 = .ok (.aload_n 0, 1) := dk_42 (dk_at dksJ2_add_0 0 rfl rfl)
theorem dJ2_add_1 : decode cJ2_add 1 = .ok (.dup, 1) := dk_89 (dk_at dksJ2_add_0 1 rfl rfl)
theorem dJ2_add_2 : decode cJ2_add 2 = .ok (.getfield 63, 3) := dk_180 0 63 (dk_at dksJ2_add_0 2 rfl rfl)
theorem dJ2_add_5 : decode cJ2_add 5 = .ok (.iconst 1, 1) := dk_4 (dk_at dksJ2_add_0 5 rfl rfl)
theorem dJ2_add_6 : decode cJ2_add 6 = .ok (.iadd, 1) := dk_96 (dk_at dksJ2_add_0 6 rfl rfl)
theorem dJ2_add_7 : decode cJ2_add 7 = .ok (.putfield 63, 3) := dk_181 0 63 (dk_at dksJ2_add_0 7 rfl rfl)
theorem dJ2_add_10 : decode cJ2_add 10 = .ok (.aload_n 0, 1) := dk_42 (dk_at dksJ2_add_0 10 rfl rfl)
theorem dJ2_add_11 : decode cJ2_add 11 = .ok (.aload_n 1, 1) := dk_43 (dk_at dksJ2_add_0 11 rfl rfl)
theorem dJ2_add_12 : decode cJ2_add 12 = .ok (.aload_n 0, 1) := dk_42 (dk_at dksJ2_add_0 12 rfl rfl)
theorem dJ2_add_13 : decode cJ2_add 13 = .ok (.getfield 9, 3) := dk_180 0 9 (dk_at dksJ2_add_0 13 rfl rfl)
theorem dJ2_add_16 : decode cJ2_add 16 = .ok (.aload_n 0, 1) := dk_42 (dk_at dksJ2_add_0 16 rfl rfl)
theorem dJ2_add_17 : decode cJ2_add 17 = .ok (.getfield 48, 3) := dk_180 0 48 (dk_at dksJ2_add_0 17 rfl rfl)
theorem dJ2_add_20 : decode cJ2_add 20 = .ok (.invokevirtual 131, 3) := dk_182 0 131 (dk_at dksJ2_add_0 20 rfl rfl)
theorem dJ2_add_23 : decode cJ2_add 23 = .ok (.iconst 1, 1) := dk_4 (dk_at dksJ2_add_0 23 rfl rfl)
theorem dJ2_add_24 : decode cJ2_add 24 = .ok (.ireturn, 1) := dk_172 (dk_at dksJ2_add_1 0 rfl rfl)
abbrev cJ2_add_2 : ByteArray := prog_38_method_24_code
def yJ2_add_2 : MethodName := ⟨RJ2, "add", "(Ljava/lang/Object;[Ljava/lang/Object;I)V"⟩
def dkwJ2_add_2_0 : List UInt8 := [29, 44, 190, 160, 0, 8, 42, 182, 0, 129, 77, 44, 29, 43, 83, 42, 29, 4, 96, 181, 0, 48, 177]
abbrev dktJ2_add_2_0 : List UInt8 := dkwJ2_add_2_0 ++ []
theorem dksJ2_add_2_0 : cJ2_add_2.data.toList.drop 0 = dktJ2_add_2_0 := by decide +kernel
theorem dJ2_add_2_0 : decode cJ2_add_2 0 = .ok (.iload_n 3, 1) := dk_29 (dk_at dksJ2_add_2_0 0 rfl rfl)
theorem dJ2_add_2_1 : decode cJ2_add_2 1 = .ok (.aload_n 2, 1) := dk_44 (dk_at dksJ2_add_2_0 1 rfl rfl)
theorem dJ2_add_2_2 : decode cJ2_add_2 2 = .ok (.arraylength, 1) := dk_190 (dk_at dksJ2_add_2_0 2 rfl rfl)
theorem dJ2_add_2_3 : decode cJ2_add_2 3 = .ok (.if_icmp .ne 8, 3) := dk_160 0 8 (dk_at dksJ2_add_2_0 3 rfl rfl)
theorem dJ2_add_2_6 : decode cJ2_add_2 6 = .ok (.aload_n 0, 1) := dk_42 (dk_at dksJ2_add_2_0 6 rfl rfl)
theorem dJ2_add_2_7 : decode cJ2_add_2 7 = .ok (.invokevirtual 129, 3) := dk_182 0 129 (dk_at dksJ2_add_2_0 7 rfl rfl)
theorem dJ2_add_2_10 : decode cJ2_add_2 10 = .ok (.astore_n 2, 1) := dk_77 (dk_at dksJ2_add_2_0 10 rfl rfl)
theorem dJ2_add_2_11 : decode cJ2_add_2 11 = .ok (.aload_n 2, 1) := dk_44 (dk_at dksJ2_add_2_0 11 rfl rfl)
theorem dJ2_add_2_12 : decode cJ2_add_2 12 = .ok (.iload_n 3, 1) := dk_29 (dk_at dksJ2_add_2_0 12 rfl rfl)
theorem dJ2_add_2_13 : decode cJ2_add_2 13 = .ok (.aload_n 1, 1) := dk_43 (dk_at dksJ2_add_2_0 13 rfl rfl)
theorem dJ2_add_2_14 : decode cJ2_add_2 14 = .ok (.aastore, 1) := dk_83 (dk_at dksJ2_add_2_0 14 rfl rfl)
theorem dJ2_add_2_15 : decode cJ2_add_2 15 = .ok (.aload_n 0, 1) := dk_42 (dk_at dksJ2_add_2_0 15 rfl rfl)
theorem dJ2_add_2_16 : decode cJ2_add_2 16 = .ok (.iload_n 3, 1) := dk_29 (dk_at dksJ2_add_2_0 16 rfl rfl)
theorem dJ2_add_2_17 : decode cJ2_add_2 17 = .ok (.iconst 1, 1) := dk_4 (dk_at dksJ2_add_2_0 17 rfl rfl)
theorem dJ2_add_2_18 : decode cJ2_add_2 18 = .ok (.iadd, 1) := dk_96 (dk_at dksJ2_add_2_0 18 rfl rfl)
theorem dJ2_add_2_19 : decode cJ2_add_2 19 = .ok (.putfield 48, 3) := dk_181 0 48 (dk_at dksJ2_add_2_0 19 rfl rfl)
theorem dJ2_add_2_22 : decode cJ2_add_2 22 = .ok (.return_, 1) := dk_177 (dk_at dksJ2_add_2_0 22 rfl rfl)
abbrev cJ2_grow : ByteArray := prog_38_method_7_code
def yJ2_grow : MethodName := ⟨RJ2, "grow", "()[Ljava/lang/Object;"⟩
def dkwJ2_grow_0 : List UInt8 := [42, 42, 180, 0, 48, 4, 96, 182, 0, 69, 176]
abbrev dktJ2_grow_0 : List UInt8 := dkwJ2_grow_0 ++ []
theorem dksJ2_grow_0 : cJ2_grow.data.toList.drop 0 = dktJ2_grow_0 := by decide +kernel
theorem dJ2_grow_0 : decode cJ2_grow 0 = .ok (.aload_n 0, 1) := dk_42 (dk_at dksJ2_grow_0 0 rfl rfl)
theorem dJ2_grow_1 : decode cJ2_grow 1 = .ok (.aload_n 0, 1) := dk_42 (dk_at dksJ2_grow_0 1 rfl rfl)
theorem dJ2_grow_2 : decode cJ2_grow 2 = .ok (.getfield 48, 3) := dk_180 0 48 (dk_at dksJ2_grow_0 2 rfl rfl)
theorem dJ2_grow_5 : decode cJ2_grow 5 = .ok (.iconst 1, 1) := dk_4 (dk_at dksJ2_grow_0 5 rfl rfl)
theorem dJ2_grow_6 : decode cJ2_grow 6 = .ok (.iadd, 1) := dk_96 (dk_at dksJ2_grow_0 6 rfl rfl)
theorem dJ2_grow_7 : decode cJ2_grow 7 = .ok (.invokevirtual 69, 3) := dk_182 0 69 (dk_at dksJ2_grow_0 7 rfl rfl)
theorem dJ2_grow_10 : decode cJ2_grow 10 = .ok (.areturn, 1) := dk_176 (dk_at dksJ2_grow_0 10 rfl rfl)
abbrev cJ2_grow_2 : ByteArray := prog_38_method_6_code
def yJ2_grow_2 : MethodName := ⟨RJ2, "grow", "(I)[Ljava/lang/Object;"⟩
def dkwJ2_grow_2_2 : List UInt8 := [27, 184, 0, 79, 189, 0, 7, 90, 181, 0, 9, 176]
abbrev dktJ2_grow_2_2 : List UInt8 := dkwJ2_grow_2_2 ++ []
def dkwJ2_grow_2_1 : List UInt8 := [28, 4, 122, 184, 0, 73, 62, 42, 42, 180, 0, 9, 29, 184, 0, 66, 90, 181, 0, 9, 176, 42, 16, 10]
abbrev dktJ2_grow_2_1 : List UInt8 := dkwJ2_grow_2_1 ++ dktJ2_grow_2_2
def dkwJ2_grow_2_0 : List UInt8 := [42, 180, 0, 9, 190, 61, 28, 157, 0, 13, 42, 180, 0, 9, 178, 0, 39, 165, 0, 28, 28, 27, 28, 100]
abbrev dktJ2_grow_2_0 : List UInt8 := dkwJ2_grow_2_0 ++ dktJ2_grow_2_1
theorem dksJ2_grow_2_0 : cJ2_grow_2.data.toList.drop 0 = dktJ2_grow_2_0 := by decide +kernel
theorem dksJ2_grow_2_1 : cJ2_grow_2.data.toList.drop 24 = dktJ2_grow_2_1 := dk_seg dksJ2_grow_2_0 24 rfl rfl
theorem dksJ2_grow_2_2 : cJ2_grow_2.data.toList.drop 48 = dktJ2_grow_2_2 := dk_seg dksJ2_grow_2_1 24 rfl rfl
theorem dJ2_grow_2_0 : decode cJ2_grow_2 0 = .ok (.aload_n 0, 1) := dk_42 (dk_at dksJ2_grow_2_0 0 rfl rfl)
theorem dJ2_grow_2_1 : decode cJ2_grow_2 1 = .ok (.getfield 9, 3) := dk_180 0 9 (dk_at dksJ2_grow_2_0 1 rfl rfl)
theorem dJ2_grow_2_4 : decode cJ2_grow_2 4 = .ok (.arraylength, 1) := dk_190 (dk_at dksJ2_grow_2_0 4 rfl rfl)
theorem dJ2_grow_2_5 : decode cJ2_grow_2 5 = .ok (.istore_n 2, 1) := dk_61 (dk_at dksJ2_grow_2_0 5 rfl rfl)
theorem dJ2_grow_2_6 : decode cJ2_grow_2 6 = .ok (.iload_n 2, 1) := dk_28 (dk_at dksJ2_grow_2_0 6 rfl rfl)
theorem dJ2_grow_2_7 : decode cJ2_grow_2 7 = .ok (.ifCond .gt 13, 3) := dk_157 0 13 (dk_at dksJ2_grow_2_0 7 rfl rfl)
theorem dJ2_grow_2_10 : decode cJ2_grow_2 10 = .ok (.aload_n 0, 1) := dk_42 (dk_at dksJ2_grow_2_0 10 rfl rfl)
theorem dJ2_grow_2_11 : decode cJ2_grow_2 11 = .ok (.getfield 9, 3) := dk_180 0 9 (dk_at dksJ2_grow_2_0 11 rfl rfl)
theorem dJ2_grow_2_14 : decode cJ2_grow_2 14 = .ok (.getstatic 39, 3) := dk_178 0 39 (dk_at dksJ2_grow_2_0 14 rfl rfl)
theorem dJ2_grow_2_17 : decode cJ2_grow_2 17 = .ok (.if_acmp .eq 28, 3) := dk_165 0 28 (dk_at dksJ2_grow_2_0 17 rfl rfl)
theorem dJ2_grow_2_20 : decode cJ2_grow_2 20 = .ok (.iload_n 2, 1) := dk_28 (dk_at dksJ2_grow_2_0 20 rfl rfl)
theorem dJ2_grow_2_21 : decode cJ2_grow_2 21 = .ok (.iload_n 1, 1) := dk_27 (dk_at dksJ2_grow_2_0 21 rfl rfl)
theorem dJ2_grow_2_22 : decode cJ2_grow_2 22 = .ok (.iload_n 2, 1) := dk_28 (dk_at dksJ2_grow_2_0 22 rfl rfl)
theorem dJ2_grow_2_23 : decode cJ2_grow_2 23 = .ok (.isub, 1) := dk_100 (dk_at dksJ2_grow_2_0 23 rfl rfl)
theorem dJ2_grow_2_24 : decode cJ2_grow_2 24 = .ok (.iload_n 2, 1) := dk_28 (dk_at dksJ2_grow_2_1 0 rfl rfl)
theorem dJ2_grow_2_25 : decode cJ2_grow_2 25 = .ok (.iconst 1, 1) := dk_4 (dk_at dksJ2_grow_2_1 1 rfl rfl)
theorem dJ2_grow_2_26 : decode cJ2_grow_2 26 = .ok (.ishr, 1) := dk_122 (dk_at dksJ2_grow_2_1 2 rfl rfl)
theorem dJ2_grow_2_27 : decode cJ2_grow_2 27 = .ok (.invokestatic 73, 3) := dk_184 0 73 (dk_at dksJ2_grow_2_1 3 rfl rfl)
theorem dJ2_grow_2_30 : decode cJ2_grow_2 30 = .ok (.istore_n 3, 1) := dk_62 (dk_at dksJ2_grow_2_1 6 rfl rfl)
theorem dJ2_grow_2_31 : decode cJ2_grow_2 31 = .ok (.aload_n 0, 1) := dk_42 (dk_at dksJ2_grow_2_1 7 rfl rfl)
theorem dJ2_grow_2_32 : decode cJ2_grow_2 32 = .ok (.aload_n 0, 1) := dk_42 (dk_at dksJ2_grow_2_1 8 rfl rfl)
theorem dJ2_grow_2_33 : decode cJ2_grow_2 33 = .ok (.getfield 9, 3) := dk_180 0 9 (dk_at dksJ2_grow_2_1 9 rfl rfl)
theorem dJ2_grow_2_36 : decode cJ2_grow_2 36 = .ok (.iload_n 3, 1) := dk_29 (dk_at dksJ2_grow_2_1 12 rfl rfl)
theorem dJ2_grow_2_37 : decode cJ2_grow_2 37 = .ok (.invokestatic 66, 3) := dk_184 0 66 (dk_at dksJ2_grow_2_1 13 rfl rfl)
theorem dJ2_grow_2_40 : decode cJ2_grow_2 40 = .ok (.dup_x1, 1) := dk_90 (dk_at dksJ2_grow_2_1 16 rfl rfl)
theorem dJ2_grow_2_41 : decode cJ2_grow_2 41 = .ok (.putfield 9, 3) := dk_181 0 9 (dk_at dksJ2_grow_2_1 17 rfl rfl)
theorem dJ2_grow_2_44 : decode cJ2_grow_2 44 = .ok (.areturn, 1) := dk_176 (dk_at dksJ2_grow_2_1 20 rfl rfl)
theorem dJ2_grow_2_45 : decode cJ2_grow_2 45 = .ok (.aload_n 0, 1) := dk_42 (dk_at dksJ2_grow_2_1 21 rfl rfl)
theorem dJ2_grow_2_46 : decode cJ2_grow_2 46 = .ok (.bipush 10, 2) := dk_16 10 (dk_at dksJ2_grow_2_1 22 rfl rfl)
theorem dJ2_grow_2_48 : decode cJ2_grow_2 48 = .ok (.iload_n 1, 1) := dk_27 (dk_at dksJ2_grow_2_2 0 rfl rfl)
theorem dJ2_grow_2_49 : decode cJ2_grow_2 49 = .ok (.invokestatic 79, 3) := dk_184 0 79 (dk_at dksJ2_grow_2_2 1 rfl rfl)
theorem dJ2_grow_2_52 : decode cJ2_grow_2 52 = .ok (.anewarray 7, 3) := dk_189 0 7 (dk_at dksJ2_grow_2_2 4 rfl rfl)
theorem dJ2_grow_2_55 : decode cJ2_grow_2 55 = .ok (.dup_x1, 1) := dk_90 (dk_at dksJ2_grow_2_2 7 rfl rfl)
theorem dJ2_grow_2_56 : decode cJ2_grow_2 56 = .ok (.putfield 9, 3) := dk_181 0 9 (dk_at dksJ2_grow_2_2 8 rfl rfl)
theorem dJ2_grow_2_59 : decode cJ2_grow_2 59 = .ok (.areturn, 1) := dk_176 (dk_at dksJ2_grow_2_2 11 rfl rfl)
abbrev cJ2_remove : ByteArray := prog_38_method_29_code
def yJ2_remove : MethodName := ⟨RJ2, "remove", "(I)Ljava/lang/Object;"⟩
def dkwJ2_remove_1 : List UInt8 := [45, 176]
abbrev dktJ2_remove_1 : List UInt8 := dkwJ2_remove_1 ++ []
def dkwJ2_remove_0 : List UInt8 := [27, 42, 180, 0, 48, 184, 0, 118, 87, 42, 180, 0, 9, 77, 44, 27, 50, 78, 42, 44, 27, 182, 0, 144]
abbrev dktJ2_remove_0 : List UInt8 := dkwJ2_remove_0 ++ dktJ2_remove_1
theorem dksJ2_remove_0 : cJ2_remove.data.toList.drop 0 = dktJ2_remove_0 := by decide +kernel
theorem dksJ2_remove_1 : cJ2_remove.data.toList.drop 24 = dktJ2_remove_1 := dk_seg dksJ2_remove_0 24 rfl rfl
theorem dJ2_remove_0 : decode cJ2_remove 0 = .ok (.iload_n 1, 1) := dk_27 (dk_at dksJ2_remove_0 0 rfl rfl)
theorem dJ2_remove_1 : decode cJ2_remove 1 = .ok (.aload_n 0, 1) := dk_42 (dk_at dksJ2_remove_0 1 rfl rfl)
theorem dJ2_remove_2 : decode cJ2_remove 2 = .ok (.getfield 48, 3) := dk_180 0 48 (dk_at dksJ2_remove_0 2 rfl rfl)
theorem dJ2_remove_5 : decode cJ2_remove 5 = .ok (.invokestatic 118, 3) := dk_184 0 118 (dk_at dksJ2_remove_0 5 rfl rfl)
theorem dJ2_remove_8 : decode cJ2_remove 8 = .ok (.pop, 1) := dk_87 (dk_at dksJ2_remove_0 8 rfl rfl)
theorem dJ2_remove_9 : decode cJ2_remove 9 = .ok (.aload_n 0, 1) := dk_42 (dk_at dksJ2_remove_0 9 rfl rfl)
theorem dJ2_remove_10 : decode cJ2_remove 10 = .ok (.getfield 9, 3) := dk_180 0 9 (dk_at dksJ2_remove_0 10 rfl rfl)
theorem dJ2_remove_13 : decode cJ2_remove 13 = .ok (.astore_n 2, 1) := dk_77 (dk_at dksJ2_remove_0 13 rfl rfl)
theorem dJ2_remove_14 : decode cJ2_remove 14 = .ok (.aload_n 2, 1) := dk_44 (dk_at dksJ2_remove_0 14 rfl rfl)
theorem dJ2_remove_15 : decode cJ2_remove 15 = .ok (.iload_n 1, 1) := dk_27 (dk_at dksJ2_remove_0 15 rfl rfl)
theorem dJ2_remove_16 : decode cJ2_remove 16 = .ok (.aaload, 1) := dk_50 (dk_at dksJ2_remove_0 16 rfl rfl)
theorem dJ2_remove_17 : decode cJ2_remove 17 = .ok (.astore_n 3, 1) := dk_78 (dk_at dksJ2_remove_0 17 rfl rfl)
theorem dJ2_remove_18 : decode cJ2_remove 18 = .ok (.aload_n 0, 1) := dk_42 (dk_at dksJ2_remove_0 18 rfl rfl)
theorem dJ2_remove_19 : decode cJ2_remove 19 = .ok (.aload_n 2, 1) := dk_44 (dk_at dksJ2_remove_0 19 rfl rfl)
theorem dJ2_remove_20 : decode cJ2_remove 20 = .ok (.iload_n 1, 1) := dk_27 (dk_at dksJ2_remove_0 20 rfl rfl)
theorem dJ2_remove_21 : decode cJ2_remove 21 = .ok (.invokevirtual 144, 3) := dk_182 0 144 (dk_at dksJ2_remove_0 21 rfl rfl)
theorem dJ2_remove_24 : decode cJ2_remove 24 = .ok (.aload_n 3, 1) := dk_45 (dk_at dksJ2_remove_1 0 rfl rfl)
theorem dJ2_remove_25 : decode cJ2_remove 25 = .ok (.areturn, 1) := dk_176 (dk_at dksJ2_remove_1 1 rfl rfl)
abbrev cJ2_fastRemove : ByteArray := prog_38_method_39_code
def yJ2_fastRemove : MethodName := ⟨RJ2, "fastRemove", "([Ljava/lang/Object;I)V"⟩
def dkwJ2_fastRemove_1 : List UInt8 := [4, 96, 43, 28, 29, 28, 100, 184, 0, 112, 43, 42, 29, 90, 181, 0, 48, 1, 83, 177]
abbrev dktJ2_fastRemove_1 : List UInt8 := dkwJ2_fastRemove_1 ++ []
def dkwJ2_fastRemove_0 : List UInt8 := [42, 89, 180, 0, 63, 4, 96, 181, 0, 63, 42, 180, 0, 48, 4, 100, 89, 62, 28, 164, 0, 15, 43, 28]
abbrev dktJ2_fastRemove_0 : List UInt8 := dkwJ2_fastRemove_0 ++ dktJ2_fastRemove_1
theorem dksJ2_fastRemove_0 : cJ2_fastRemove.data.toList.drop 0 = dktJ2_fastRemove_0 := by decide +kernel
theorem dksJ2_fastRemove_1 : cJ2_fastRemove.data.toList.drop 24 = dktJ2_fastRemove_1 := dk_seg dksJ2_fastRemove_0 24 rfl rfl
theorem dJ2_fastRemove_0 : decode cJ2_fastRemove 0 = .ok (.aload_n 0, 1) := dk_42 (dk_at dksJ2_fastRemove_0 0 rfl rfl)
theorem dJ2_fastRemove_1 : decode cJ2_fastRemove 1 = .ok (.dup, 1) := dk_89 (dk_at dksJ2_fastRemove_0 1 rfl rfl)
theorem dJ2_fastRemove_2 : decode cJ2_fastRemove 2 = .ok (.getfield 63, 3) := dk_180 0 63 (dk_at dksJ2_fastRemove_0 2 rfl rfl)
theorem dJ2_fastRemove_5 : decode cJ2_fastRemove 5 = .ok (.iconst 1, 1) := dk_4 (dk_at dksJ2_fastRemove_0 5 rfl rfl)
theorem dJ2_fastRemove_6 : decode cJ2_fastRemove 6 = .ok (.iadd, 1) := dk_96 (dk_at dksJ2_fastRemove_0 6 rfl rfl)
theorem dJ2_fastRemove_7 : decode cJ2_fastRemove 7 = .ok (.putfield 63, 3) := dk_181 0 63 (dk_at dksJ2_fastRemove_0 7 rfl rfl)
theorem dJ2_fastRemove_10 : decode cJ2_fastRemove 10 = .ok (.aload_n 0, 1) := dk_42 (dk_at dksJ2_fastRemove_0 10 rfl rfl)
theorem dJ2_fastRemove_11 : decode cJ2_fastRemove 11 = .ok (.getfield 48, 3) := dk_180 0 48 (dk_at dksJ2_fastRemove_0 11 rfl rfl)
theorem dJ2_fastRemove_14 : decode cJ2_fastRemove 14 = .ok (.iconst 1, 1) := dk_4 (dk_at dksJ2_fastRemove_0 14 rfl rfl)
theorem dJ2_fastRemove_15 : decode cJ2_fastRemove 15 = .ok (.isub, 1) := dk_100 (dk_at dksJ2_fastRemove_0 15 rfl rfl)
theorem dJ2_fastRemove_16 : decode cJ2_fastRemove 16 = .ok (.dup, 1) := dk_89 (dk_at dksJ2_fastRemove_0 16 rfl rfl)
theorem dJ2_fastRemove_17 : decode cJ2_fastRemove 17 = .ok (.istore_n 3, 1) := dk_62 (dk_at dksJ2_fastRemove_0 17 rfl rfl)
theorem dJ2_fastRemove_18 : decode cJ2_fastRemove 18 = .ok (.iload_n 2, 1) := dk_28 (dk_at dksJ2_fastRemove_0 18 rfl rfl)
theorem dJ2_fastRemove_19 : decode cJ2_fastRemove 19 = .ok (.if_icmp .le 15, 3) := dk_164 0 15 (dk_at dksJ2_fastRemove_0 19 rfl rfl)
theorem dJ2_fastRemove_22 : decode cJ2_fastRemove 22 = .ok (.aload_n 1, 1) := dk_43 (dk_at dksJ2_fastRemove_0 22 rfl rfl)
theorem dJ2_fastRemove_23 : decode cJ2_fastRemove 23 = .ok (.iload_n 2, 1) := dk_28 (dk_at dksJ2_fastRemove_0 23 rfl rfl)
theorem dJ2_fastRemove_24 : decode cJ2_fastRemove 24 = .ok (.iconst 1, 1) := dk_4 (dk_at dksJ2_fastRemove_1 0 rfl rfl)
theorem dJ2_fastRemove_25 : decode cJ2_fastRemove 25 = .ok (.iadd, 1) := dk_96 (dk_at dksJ2_fastRemove_1 1 rfl rfl)
theorem dJ2_fastRemove_26 : decode cJ2_fastRemove 26 = .ok (.aload_n 1, 1) := dk_43 (dk_at dksJ2_fastRemove_1 2 rfl rfl)
theorem dJ2_fastRemove_27 : decode cJ2_fastRemove 27 = .ok (.iload_n 2, 1) := dk_28 (dk_at dksJ2_fastRemove_1 3 rfl rfl)
theorem dJ2_fastRemove_28 : decode cJ2_fastRemove 28 = .ok (.iload_n 3, 1) := dk_29 (dk_at dksJ2_fastRemove_1 4 rfl rfl)
theorem dJ2_fastRemove_29 : decode cJ2_fastRemove 29 = .ok (.iload_n 2, 1) := dk_28 (dk_at dksJ2_fastRemove_1 5 rfl rfl)
theorem dJ2_fastRemove_30 : decode cJ2_fastRemove 30 = .ok (.isub, 1) := dk_100 (dk_at dksJ2_fastRemove_1 6 rfl rfl)
theorem dJ2_fastRemove_31 : decode cJ2_fastRemove 31 = .ok (.invokestatic 112, 3) := dk_184 0 112 (dk_at dksJ2_fastRemove_1 7 rfl rfl)
theorem dJ2_fastRemove_34 : decode cJ2_fastRemove 34 = .ok (.aload_n 1, 1) := dk_43 (dk_at dksJ2_fastRemove_1 10 rfl rfl)
theorem dJ2_fastRemove_35 : decode cJ2_fastRemove 35 = .ok (.aload_n 0, 1) := dk_42 (dk_at dksJ2_fastRemove_1 11 rfl rfl)
theorem dJ2_fastRemove_36 : decode cJ2_fastRemove 36 = .ok (.iload_n 3, 1) := dk_29 (dk_at dksJ2_fastRemove_1 12 rfl rfl)
theorem dJ2_fastRemove_37 : decode cJ2_fastRemove 37 = .ok (.dup_x1, 1) := dk_90 (dk_at dksJ2_fastRemove_1 13 rfl rfl)
theorem dJ2_fastRemove_38 : decode cJ2_fastRemove 38 = .ok (.putfield 48, 3) := dk_181 0 48 (dk_at dksJ2_fastRemove_1 14 rfl rfl)
theorem dJ2_fastRemove_41 : decode cJ2_fastRemove 41 = .ok (.aconst_null, 1) := dk_1 (dk_at dksJ2_fastRemove_1 17 rfl rfl)
theorem dJ2_fastRemove_42 : decode cJ2_fastRemove 42 = .ok (.aastore, 1) := dk_83 (dk_at dksJ2_fastRemove_1 18 rfl rfl)
theorem dJ2_fastRemove_43 : decode cJ2_fastRemove 43 = .ok (.return_, 1) := dk_177 (dk_at dksJ2_fastRemove_1 19 rfl rfl)
abbrev cJ2_isEmpty : ByteArray := prog_38_method_9_code
def yJ2_isEmpty : MethodName := ⟨RJ2, "isEmpty", "()Z"⟩
def dkwJ2_isEmpty_0 : List UInt8 := [42, 180, 0, 48, 154, 0, 7, 4, 167, 0, 4, 3, 172]
abbrev dktJ2_isEmpty_0 : List UInt8 := dkwJ2_isEmpty_0 ++ []
theorem dksJ2_isEmpty_0 : cJ2_isEmpty.data.toList.drop 0 = dktJ2_isEmpty_0 := by decide +kernel
theorem dJ2_isEmpty_0 : decode cJ2_isEmpty 0 = .ok (.aload_n 0, 1) := dk_42 (dk_at dksJ2_isEmpty_0 0 rfl rfl)
theorem dJ2_isEmpty_1 : decode cJ2_isEmpty 1 = .ok (.getfield 48, 3) := dk_180 0 48 (dk_at dksJ2_isEmpty_0 1 rfl rfl)
theorem dJ2_isEmpty_4 : decode cJ2_isEmpty 4 = .ok (.ifCond .ne 7, 3) := dk_154 0 7 (dk_at dksJ2_isEmpty_0 4 rfl rfl)
theorem dJ2_isEmpty_7 : decode cJ2_isEmpty 7 = .ok (.iconst 1, 1) := dk_4 (dk_at dksJ2_isEmpty_0 7 rfl rfl)
theorem dJ2_isEmpty_8 : decode cJ2_isEmpty 8 = .ok (.goto 4, 3) := dk_167 0 4 (dk_at dksJ2_isEmpty_0 8 rfl rfl)
theorem dJ2_isEmpty_11 : decode cJ2_isEmpty 11 = .ok (.iconst 0, 1) := dk_3 (dk_at dksJ2_isEmpty_0 11 rfl rfl)
theorem dJ2_isEmpty_12 : decode cJ2_isEmpty 12 = .ok (.ireturn, 1) := dk_172 (dk_at dksJ2_isEmpty_0 12 rfl rfl)
set_option maxRecDepth 100000
abbrev cJ3_init : ByteArray := prog_33_method_1_code
def yJ3_init : MethodName := ⟨RJ3, "<init>", "()V"⟩
def dkwJ3_init_1 : List UInt8 := [182, 0, 27, 87, 177]
abbrev dktJ3_init_1 : List UInt8 := dkwJ3_init_1 ++ []
def dkwJ3_init_0 : List UInt8 := [42, 183, 0, 1, 42, 42, 181, 0, 7, 42, 178, 0, 13, 181, 0, 17, 42, 178, 0, 20, 181, 0, 24, 42]
abbrev dktJ3_init_0 : List UInt8 := dkwJ3_init_0 ++ dktJ3_init_1
theorem dksJ3_init_0 : cJ3_init.data.toList.drop 0 = dktJ3_init_0 := by decide +kernel
theorem dksJ3_init_1 : cJ3_init.data.toList.drop 24 = dktJ3_init_1 := dk_seg dksJ3_init_0 24 rfl rfl
theorem dJ3_init_0 : decode cJ3_init 0 = .ok (.aload_n 0, 1) := dk_42 (dk_at dksJ3_init_0 0 rfl rfl)
theorem dJ3_init_1 : decode cJ3_init 1 = .ok (.invokespecial 1, 3) := dk_183 0 1 (dk_at dksJ3_init_0 1 rfl rfl)
theorem dJ3_init_4 : decode cJ3_init 4 = .ok (.aload_n 0, 1) := dk_42 (dk_at dksJ3_init_0 4 rfl rfl)
theorem dJ3_init_5 : decode cJ3_init 5 = .ok (.aload_n 0, 1) := dk_42 (dk_at dksJ3_init_0 5 rfl rfl)
theorem dJ3_init_6 : decode cJ3_init 6 = .ok (.putfield 7, 3) := dk_181 0 7 (dk_at dksJ3_init_0 6 rfl rfl)
theorem dJ3_init_9 : decode cJ3_init 9 = .ok (.aload_n 0, 1) := dk_42 (dk_at dksJ3_init_0 9 rfl rfl)
theorem dJ3_init_10 : decode cJ3_init 10 = .ok (.getstatic 13, 3) := dk_178 0 13 (dk_at dksJ3_init_0 10 rfl rfl)
theorem dJ3_init_13 : decode cJ3_init 13 = .ok (.putfield 17, 3) := dk_181 0 17 (dk_at dksJ3_init_0 13 rfl rfl)
theorem dJ3_init_16 : decode cJ3_init 16 = .ok (.aload_n 0, 1) := dk_42 (dk_at dksJ3_init_0 16 rfl rfl)
theorem dJ3_init_17 : decode cJ3_init 17 = .ok (.getstatic 20, 3) := dk_178 0 20 (dk_at dksJ3_init_0 17 rfl rfl)
theorem dJ3_init_20 : decode cJ3_init 20 = .ok (.putfield 24, 3) := dk_181 0 24 (dk_at dksJ3_init_0 20 rfl rfl)
theorem dJ3_init_23 : decode cJ3_init 23 = .ok (.aload_n 0, 1) := dk_42 (dk_at dksJ3_init_0 23 rfl rfl)
theorem dJ3_init_24 : decode cJ3_init 24 = .ok (.invokevirtual 27, 3) := dk_182 0 27 (dk_at dksJ3_init_1 0 rfl rfl)
theorem dJ3_init_27 : decode cJ3_init 27 = .ok (.pop, 1) := dk_87 (dk_at dksJ3_init_1 3 rfl rfl)
theorem dJ3_init_28 : decode cJ3_init 28 = .ok (.return_, 1) := dk_177 (dk_at dksJ3_init_1 4 rfl rfl)
set_option maxRecDepth 100000
abbrev cJ4_init : ByteArray := prog_25_method_1_code
def yJ4_init : MethodName := ⟨RJ4, "<init>", "()V"⟩
theorem dJ4_init_0 : decode cJ4_init 0 = .ok (.aload_n 0, 1) := by decide +kernel
theorem dJ4_init_1 : decode cJ4_init 1 = .ok (.invokespecial 1, 3) := by decide +kernel
theorem dJ4_init_4 : decode cJ4_init 4 = .ok (.return_, 1) := by decide +kernel
set_option maxRecDepth 100000
abbrev cJ5_checkIndex : ByteArray := prog_44_method_17_code
def yJ5_checkIndex : MethodName := ⟨RJ5, "checkIndex", "(II)I"⟩
def dkwJ5_checkIndex_0 : List UInt8 := [26, 27, 1, 184, 0, 105, 172]
abbrev dktJ5_checkIndex_0 : List UInt8 := dkwJ5_checkIndex_0 ++ []
theorem dksJ5_checkIndex_0 : cJ5_checkIndex.data.toList.drop 0 = dktJ5_checkIndex_0 := by decide +kernel
theorem dJ5_checkIndex_0 : decode cJ5_checkIndex 0 = .ok (.iload_n 0, 1) := dk_26 (dk_at dksJ5_checkIndex_0 0 rfl rfl)
theorem dJ5_checkIndex_1 : decode cJ5_checkIndex 1 = .ok (.iload_n 1, 1) := dk_27 (dk_at dksJ5_checkIndex_0 1 rfl rfl)
theorem dJ5_checkIndex_2 : decode cJ5_checkIndex 2 = .ok (.aconst_null, 1) := dk_1 (dk_at dksJ5_checkIndex_0 2 rfl rfl)
theorem dJ5_checkIndex_3 : decode cJ5_checkIndex 3 = .ok (.invokestatic 105, 3) := dk_184 0 105 (dk_at dksJ5_checkIndex_0 3 rfl rfl)
theorem dJ5_checkIndex_6 : decode cJ5_checkIndex 6 = .ok (.ireturn, 1) := dk_172 (dk_at dksJ5_checkIndex_0 6 rfl rfl)
set_option maxRecDepth 100000
abbrev cJ6_checkIndex : ByteArray := prog_48_method_11_code
def yJ6_checkIndex : MethodName := ⟨RJ6, "checkIndex", "(IILjava/util/function/BiFunction;)I"⟩
def dkwJ6_checkIndex_0 : List UInt8 := [26, 155, 0, 8, 26, 27, 161, 0, 10, 44, 26, 27, 184, 0, 95, 191, 26, 172]
abbrev dktJ6_checkIndex_0 : List UInt8 := dkwJ6_checkIndex_0 ++ []
theorem dksJ6_checkIndex_0 : cJ6_checkIndex.data.toList.drop 0 = dktJ6_checkIndex_0 := by decide +kernel
theorem dJ6_checkIndex_0 : decode cJ6_checkIndex 0 = .ok (.iload_n 0, 1) := dk_26 (dk_at dksJ6_checkIndex_0 0 rfl rfl)
theorem dJ6_checkIndex_1 : decode cJ6_checkIndex 1 = .ok (.ifCond .lt 8, 3) := dk_155 0 8 (dk_at dksJ6_checkIndex_0 1 rfl rfl)
theorem dJ6_checkIndex_4 : decode cJ6_checkIndex 4 = .ok (.iload_n 0, 1) := dk_26 (dk_at dksJ6_checkIndex_0 4 rfl rfl)
theorem dJ6_checkIndex_5 : decode cJ6_checkIndex 5 = .ok (.iload_n 1, 1) := dk_27 (dk_at dksJ6_checkIndex_0 5 rfl rfl)
theorem dJ6_checkIndex_6 : decode cJ6_checkIndex 6 = .ok (.if_icmp .lt 10, 3) := dk_161 0 10 (dk_at dksJ6_checkIndex_0 6 rfl rfl)
theorem dJ6_checkIndex_9 : decode cJ6_checkIndex 9 = .ok (.aload_n 2, 1) := dk_44 (dk_at dksJ6_checkIndex_0 9 rfl rfl)
theorem dJ6_checkIndex_10 : decode cJ6_checkIndex 10 = .ok (.iload_n 0, 1) := dk_26 (dk_at dksJ6_checkIndex_0 10 rfl rfl)
theorem dJ6_checkIndex_11 : decode cJ6_checkIndex 11 = .ok (.iload_n 1, 1) := dk_27 (dk_at dksJ6_checkIndex_0 11 rfl rfl)
theorem dJ6_checkIndex_12 : decode cJ6_checkIndex 12 = .ok (.invokestatic 95, 3) := dk_184 0 95 (dk_at dksJ6_checkIndex_0 12 rfl rfl)
theorem dJ6_checkIndex_15 : decode cJ6_checkIndex 15 = .ok (.athrow, 1) := dk_191 (dk_at dksJ6_checkIndex_0 15 rfl rfl)
theorem dJ6_checkIndex_16 : decode cJ6_checkIndex 16 = .ok (.iload_n 0, 1) := dk_26 (dk_at dksJ6_checkIndex_0 16 rfl rfl)
theorem dJ6_checkIndex_17 : decode cJ6_checkIndex 17 = .ok (.ireturn, 1) := dk_172 (dk_at dksJ6_checkIndex_0 17 rfl rfl)
set_option maxRecDepth 100000
abbrev cJ7_length : ByteArray := prog_29_method_54_code
def yJ7_length : MethodName := ⟨RJ7, "length", "()I"⟩
def dkwJ7_length_0 : List UInt8 := [42, 180, 0, 9, 190, 42, 182, 1, 79, 122, 172]
abbrev dktJ7_length_0 : List UInt8 := dkwJ7_length_0 ++ []
theorem dksJ7_length_0 : cJ7_length.data.toList.drop 0 = dktJ7_length_0 := by decide +kernel
theorem dJ7_length_0 : decode cJ7_length 0 = .ok (.aload_n 0, 1) := dk_42 (dk_at dksJ7_length_0 0 rfl rfl)
theorem dJ7_length_1 : decode cJ7_length 1 = .ok (.getfield 9, 3) := dk_180 0 9 (dk_at dksJ7_length_0 1 rfl rfl)
theorem dJ7_length_4 : decode cJ7_length 4 = .ok (.arraylength, 1) := dk_190 (dk_at dksJ7_length_0 4 rfl rfl)
theorem dJ7_length_5 : decode cJ7_length 5 = .ok (.aload_n 0, 1) := dk_42 (dk_at dksJ7_length_0 5 rfl rfl)
theorem dJ7_length_6 : decode cJ7_length 6 = .ok (.invokevirtual 335, 3) := dk_182 1 79 (dk_at dksJ7_length_0 6 rfl rfl)
theorem dJ7_length_9 : decode cJ7_length 9 = .ok (.ishr, 1) := dk_122 (dk_at dksJ7_length_0 9 rfl rfl)
theorem dJ7_length_10 : decode cJ7_length 10 = .ok (.ireturn, 1) := dk_172 (dk_at dksJ7_length_0 10 rfl rfl)
abbrev cJ7_coder : ByteArray := prog_29_method_152_code
def yJ7_coder : MethodName := ⟨RJ7, "coder", "()B"⟩
def dkwJ7_coder_0 : List UInt8 := [178, 0, 38, 153, 0, 10, 42, 180, 0, 15, 167, 0, 4, 4, 172]
abbrev dktJ7_coder_0 : List UInt8 := dkwJ7_coder_0 ++ []
theorem dksJ7_coder_0 : cJ7_coder.data.toList.drop 0 = dktJ7_coder_0 := by decide +kernel
theorem dJ7_coder_0 : decode cJ7_coder 0 = .ok (.getstatic 38, 3) := dk_178 0 38 (dk_at dksJ7_coder_0 0 rfl rfl)
theorem dJ7_coder_3 : decode cJ7_coder 3 = .ok (.ifCond .eq 10, 3) := dk_153 0 10 (dk_at dksJ7_coder_0 3 rfl rfl)
theorem dJ7_coder_6 : decode cJ7_coder 6 = .ok (.aload_n 0, 1) := dk_42 (dk_at dksJ7_coder_0 6 rfl rfl)
theorem dJ7_coder_7 : decode cJ7_coder 7 = .ok (.getfield 15, 3) := dk_180 0 15 (dk_at dksJ7_coder_0 7 rfl rfl)
theorem dJ7_coder_10 : decode cJ7_coder 10 = .ok (.goto 4, 3) := dk_167 0 4 (dk_at dksJ7_coder_0 10 rfl rfl)
theorem dJ7_coder_13 : decode cJ7_coder 13 = .ok (.iconst 1, 1) := dk_4 (dk_at dksJ7_coder_0 13 rfl rfl)
theorem dJ7_coder_14 : decode cJ7_coder 14 = .ok (.ireturn, 1) := dk_172 (dk_at dksJ7_coder_0 14 rfl rfl)
abbrev cJ7_charAt : ByteArray := prog_29_method_56_code
def yJ7_charAt : MethodName := ⟨RJ7, "charAt", "(I)C"⟩
def dkwJ7_charAt_1 : List UInt8 := [172]
abbrev dktJ7_charAt_1 : List UInt8 := dkwJ7_charAt_1 ++ []
def dkwJ7_charAt_0 : List UInt8 := [42, 182, 1, 236, 153, 0, 12, 42, 180, 0, 9, 27, 184, 1, 239, 172, 42, 180, 0, 9, 27, 184, 1, 242]
abbrev dktJ7_charAt_0 : List UInt8 := dkwJ7_charAt_0 ++ dktJ7_charAt_1
theorem dksJ7_charAt_0 : cJ7_charAt.data.toList.drop 0 = dktJ7_charAt_0 := by decide +kernel
theorem dksJ7_charAt_1 : cJ7_charAt.data.toList.drop 24 = dktJ7_charAt_1 := dk_seg dksJ7_charAt_0 24 rfl rfl
theorem dJ7_charAt_0 : decode cJ7_charAt 0 = .ok (.aload_n 0, 1) := dk_42 (dk_at dksJ7_charAt_0 0 rfl rfl)
theorem dJ7_charAt_1 : decode cJ7_charAt 1 = .ok (.invokevirtual 492, 3) := dk_182 1 236 (dk_at dksJ7_charAt_0 1 rfl rfl)
theorem dJ7_charAt_4 : decode cJ7_charAt 4 = .ok (.ifCond .eq 12, 3) := dk_153 0 12 (dk_at dksJ7_charAt_0 4 rfl rfl)
theorem dJ7_charAt_7 : decode cJ7_charAt 7 = .ok (.aload_n 0, 1) := dk_42 (dk_at dksJ7_charAt_0 7 rfl rfl)
theorem dJ7_charAt_8 : decode cJ7_charAt 8 = .ok (.getfield 9, 3) := dk_180 0 9 (dk_at dksJ7_charAt_0 8 rfl rfl)
theorem dJ7_charAt_11 : decode cJ7_charAt 11 = .ok (.iload_n 1, 1) := dk_27 (dk_at dksJ7_charAt_0 11 rfl rfl)
theorem dJ7_charAt_12 : decode cJ7_charAt 12 = .ok (.invokestatic 495, 3) := dk_184 1 239 (dk_at dksJ7_charAt_0 12 rfl rfl)
theorem dJ7_charAt_15 : decode cJ7_charAt 15 = .ok (.ireturn, 1) := dk_172 (dk_at dksJ7_charAt_0 15 rfl rfl)
theorem dJ7_charAt_16 : decode cJ7_charAt 16 = .ok (.aload_n 0, 1) := dk_42 (dk_at dksJ7_charAt_0 16 rfl rfl)
theorem dJ7_charAt_17 : decode cJ7_charAt 17 = .ok (.getfield 9, 3) := dk_180 0 9 (dk_at dksJ7_charAt_0 17 rfl rfl)
theorem dJ7_charAt_20 : decode cJ7_charAt 20 = .ok (.iload_n 1, 1) := dk_27 (dk_at dksJ7_charAt_0 20 rfl rfl)
theorem dJ7_charAt_21 : decode cJ7_charAt 21 = .ok (.invokestatic 498, 3) := dk_184 1 242 (dk_at dksJ7_charAt_0 21 rfl rfl)
theorem dJ7_charAt_24 : decode cJ7_charAt 24 = .ok (.ireturn, 1) := dk_172 (dk_at dksJ7_charAt_1 0 rfl rfl)
abbrev cJ7_isLatin1 : ByteArray := prog_29_method_154_code
def yJ7_isLatin1 : MethodName := ⟨RJ7, "isLatin1", "()Z"⟩
def dkwJ7_isLatin1_0 : List UInt8 := [178, 0, 38, 153, 0, 14, 42, 180, 0, 15, 154, 0, 7, 4, 167, 0, 4, 3, 172]
abbrev dktJ7_isLatin1_0 : List UInt8 := dkwJ7_isLatin1_0 ++ []
theorem dksJ7_isLatin1_0 : cJ7_isLatin1.data.toList.drop 0 = dktJ7_isLatin1_0 := by decide +kernel
theorem dJ7_isLatin1_0 : decode cJ7_isLatin1 0 = .ok (.getstatic 38, 3) := dk_178 0 38 (dk_at dksJ7_isLatin1_0 0 rfl rfl)
theorem dJ7_isLatin1_3 : decode cJ7_isLatin1 3 = .ok (.ifCond .eq 14, 3) := dk_153 0 14 (dk_at dksJ7_isLatin1_0 3 rfl rfl)
theorem dJ7_isLatin1_6 : decode cJ7_isLatin1 6 = .ok (.aload_n 0, 1) := dk_42 (dk_at dksJ7_isLatin1_0 6 rfl rfl)
theorem dJ7_isLatin1_7 : decode cJ7_isLatin1 7 = .ok (.getfield 15, 3) := dk_180 0 15 (dk_at dksJ7_isLatin1_0 7 rfl rfl)
theorem dJ7_isLatin1_10 : decode cJ7_isLatin1 10 = .ok (.ifCond .ne 7, 3) := dk_154 0 7 (dk_at dksJ7_isLatin1_0 10 rfl rfl)
theorem dJ7_isLatin1_13 : decode cJ7_isLatin1 13 = .ok (.iconst 1, 1) := dk_4 (dk_at dksJ7_isLatin1_0 13 rfl rfl)
theorem dJ7_isLatin1_14 : decode cJ7_isLatin1 14 = .ok (.goto 4, 3) := dk_167 0 4 (dk_at dksJ7_isLatin1_0 14 rfl rfl)
theorem dJ7_isLatin1_17 : decode cJ7_isLatin1 17 = .ok (.iconst 0, 1) := dk_3 (dk_at dksJ7_isLatin1_0 17 rfl rfl)
theorem dJ7_isLatin1_18 : decode cJ7_isLatin1 18 = .ok (.ireturn, 1) := dk_172 (dk_at dksJ7_isLatin1_0 18 rfl rfl)
abbrev cJ7_checkIndex : ByteArray := prog_29_method_155_code
def yJ7_checkIndex : MethodName := ⟨RJ7, "checkIndex", "(II)V"⟩
def dkwJ7_checkIndex_0 : List UInt8 := [26, 27, 178, 4, 29, 184, 4, 35, 87, 177]
abbrev dktJ7_checkIndex_0 : List UInt8 := dkwJ7_checkIndex_0 ++ []
theorem dksJ7_checkIndex_0 : cJ7_checkIndex.data.toList.drop 0 = dktJ7_checkIndex_0 := by decide +kernel
theorem dJ7_checkIndex_0 : decode cJ7_checkIndex 0 = .ok (.iload_n 0, 1) := dk_26 (dk_at dksJ7_checkIndex_0 0 rfl rfl)
theorem dJ7_checkIndex_1 : decode cJ7_checkIndex 1 = .ok (.iload_n 1, 1) := dk_27 (dk_at dksJ7_checkIndex_0 1 rfl rfl)
theorem dJ7_checkIndex_2 : decode cJ7_checkIndex 2 = .ok (.getstatic 1053, 3) := dk_178 4 29 (dk_at dksJ7_checkIndex_0 2 rfl rfl)
theorem dJ7_checkIndex_5 : decode cJ7_checkIndex 5 = .ok (.invokestatic 1059, 3) := dk_184 4 35 (dk_at dksJ7_checkIndex_0 5 rfl rfl)
theorem dJ7_checkIndex_8 : decode cJ7_checkIndex 8 = .ok (.pop, 1) := dk_87 (dk_at dksJ7_checkIndex_0 8 rfl rfl)
theorem dJ7_checkIndex_9 : decode cJ7_checkIndex 9 = .ok (.return_, 1) := dk_177 (dk_at dksJ7_checkIndex_0 9 rfl rfl)
set_option maxRecDepth 100000
abbrev cJ8_charAt : ByteArray := prog_30_method_2_code
def yJ8_charAt : MethodName := ⟨RJ8, "charAt", "([BI)C"⟩
def dkwJ8_charAt_0 : List UInt8 := [27, 42, 190, 184, 0, 9, 42, 27, 51, 17, 0, 255, 126, 146, 172]
abbrev dktJ8_charAt_0 : List UInt8 := dkwJ8_charAt_0 ++ []
theorem dksJ8_charAt_0 : cJ8_charAt.data.toList.drop 0 = dktJ8_charAt_0 := by decide +kernel
theorem dJ8_charAt_0 : decode cJ8_charAt 0 = .ok (.iload_n 1, 1) := dk_27 (dk_at dksJ8_charAt_0 0 rfl rfl)
theorem dJ8_charAt_1 : decode cJ8_charAt 1 = .ok (.aload_n 0, 1) := dk_42 (dk_at dksJ8_charAt_0 1 rfl rfl)
theorem dJ8_charAt_2 : decode cJ8_charAt 2 = .ok (.arraylength, 1) := dk_190 (dk_at dksJ8_charAt_0 2 rfl rfl)
theorem dJ8_charAt_3 : decode cJ8_charAt 3 = .ok (.invokestatic 9, 3) := dk_184 0 9 (dk_at dksJ8_charAt_0 3 rfl rfl)
theorem dJ8_charAt_6 : decode cJ8_charAt 6 = .ok (.aload_n 0, 1) := dk_42 (dk_at dksJ8_charAt_0 6 rfl rfl)
theorem dJ8_charAt_7 : decode cJ8_charAt 7 = .ok (.iload_n 1, 1) := dk_27 (dk_at dksJ8_charAt_0 7 rfl rfl)
theorem dJ8_charAt_8 : decode cJ8_charAt 8 = .ok (.baload, 1) := dk_51 (dk_at dksJ8_charAt_0 8 rfl rfl)
theorem dJ8_charAt_9 : decode cJ8_charAt 9 = .ok (.sipush 255, 3) := dk_17 0 255 (dk_at dksJ8_charAt_0 9 rfl rfl)
theorem dJ8_charAt_12 : decode cJ8_charAt 12 = .ok (.iand, 1) := dk_126 (dk_at dksJ8_charAt_0 12 rfl rfl)
theorem dJ8_charAt_13 : decode cJ8_charAt 13 = .ok (.i2c, 1) := dk_146 (dk_at dksJ8_charAt_0 13 rfl rfl)
theorem dJ8_charAt_14 : decode cJ8_charAt 14 = .ok (.ireturn, 1) := dk_172 (dk_at dksJ8_charAt_0 14 rfl rfl)
set_option maxRecDepth 100000
abbrev cJ9_charAt : ByteArray := prog_31_method_83_code
def yJ9_charAt : MethodName := ⟨RJ9, "charAt", "([BI)C"⟩
def dkwJ9_charAt_0 : List UInt8 := [27, 42, 184, 0, 67, 42, 27, 184, 0, 71, 172]
abbrev dktJ9_charAt_0 : List UInt8 := dkwJ9_charAt_0 ++ []
theorem dksJ9_charAt_0 : cJ9_charAt.data.toList.drop 0 = dktJ9_charAt_0 := by decide +kernel
theorem dJ9_charAt_0 : decode cJ9_charAt 0 = .ok (.iload_n 1, 1) := dk_27 (dk_at dksJ9_charAt_0 0 rfl rfl)
theorem dJ9_charAt_1 : decode cJ9_charAt 1 = .ok (.aload_n 0, 1) := dk_42 (dk_at dksJ9_charAt_0 1 rfl rfl)
theorem dJ9_charAt_2 : decode cJ9_charAt 2 = .ok (.invokestatic 67, 3) := dk_184 0 67 (dk_at dksJ9_charAt_0 2 rfl rfl)
theorem dJ9_charAt_5 : decode cJ9_charAt 5 = .ok (.aload_n 0, 1) := dk_42 (dk_at dksJ9_charAt_0 5 rfl rfl)
theorem dJ9_charAt_6 : decode cJ9_charAt 6 = .ok (.iload_n 1, 1) := dk_27 (dk_at dksJ9_charAt_0 6 rfl rfl)
theorem dJ9_charAt_7 : decode cJ9_charAt 7 = .ok (.invokestatic 71, 3) := dk_184 0 71 (dk_at dksJ9_charAt_0 7 rfl rfl)
theorem dJ9_charAt_10 : decode cJ9_charAt 10 = .ok (.ireturn, 1) := dk_172 (dk_at dksJ9_charAt_0 10 rfl rfl)
abbrev cJ9_checkIndex : ByteArray := prog_31_method_91_code
def yJ9_checkIndex : MethodName := ⟨RJ9, "checkIndex", "(I[B)V"⟩
def dkwJ9_checkIndex_0 : List UInt8 := [26, 43, 184, 0, 48, 184, 1, 158, 177]
abbrev dktJ9_checkIndex_0 : List UInt8 := dkwJ9_checkIndex_0 ++ []
theorem dksJ9_checkIndex_0 : cJ9_checkIndex.data.toList.drop 0 = dktJ9_checkIndex_0 := by decide +kernel
theorem dJ9_checkIndex_0 : decode cJ9_checkIndex 0 = .ok (.iload_n 0, 1) := dk_26 (dk_at dksJ9_checkIndex_0 0 rfl rfl)
theorem dJ9_checkIndex_1 : decode cJ9_checkIndex 1 = .ok (.aload_n 1, 1) := dk_43 (dk_at dksJ9_checkIndex_0 1 rfl rfl)
theorem dJ9_checkIndex_2 : decode cJ9_checkIndex 2 = .ok (.invokestatic 48, 3) := dk_184 0 48 (dk_at dksJ9_checkIndex_0 2 rfl rfl)
theorem dJ9_checkIndex_5 : decode cJ9_checkIndex 5 = .ok (.invokestatic 414, 3) := dk_184 1 158 (dk_at dksJ9_checkIndex_0 5 rfl rfl)
theorem dJ9_checkIndex_8 : decode cJ9_checkIndex 8 = .ok (.return_, 1) := dk_177 (dk_at dksJ9_checkIndex_0 8 rfl rfl)
abbrev cJ9_length : ByteArray := prog_31_method_6_code
def yJ9_length : MethodName := ⟨RJ9, "length", "([B)I"⟩
def dkwJ9_length_0 : List UInt8 := [42, 190, 4, 122, 172]
abbrev dktJ9_length_0 : List UInt8 := dkwJ9_length_0 ++ []
theorem dksJ9_length_0 : cJ9_length.data.toList.drop 0 = dktJ9_length_0 := by decide +kernel
theorem dJ9_length_0 : decode cJ9_length 0 = .ok (.aload_n 0, 1) := dk_42 (dk_at dksJ9_length_0 0 rfl rfl)
theorem dJ9_length_1 : decode cJ9_length 1 = .ok (.arraylength, 1) := dk_190 (dk_at dksJ9_length_0 1 rfl rfl)
theorem dJ9_length_2 : decode cJ9_length 2 = .ok (.iconst 1, 1) := dk_4 (dk_at dksJ9_length_0 2 rfl rfl)
theorem dJ9_length_3 : decode cJ9_length 3 = .ok (.ishr, 1) := dk_122 (dk_at dksJ9_length_0 3 rfl rfl)
theorem dJ9_length_4 : decode cJ9_length 4 = .ok (.ireturn, 1) := dk_172 (dk_at dksJ9_length_0 4 rfl rfl)
abbrev cJ9_getChar : ByteArray := prog_31_method_5_code
def yJ9_getChar : MethodName := ⟨RJ9, "getChar", "([BI)C"⟩
def dkwJ9_getChar_2 : List UInt8 := [51, 17, 0, 255, 126, 178, 0, 63, 120, 128, 146, 172]
abbrev dktJ9_getChar_2 : List UInt8 := dkwJ9_getChar_2 ++ []
def dkwJ9_getChar_1 : List UInt8 := [183, 0, 56, 191, 27, 4, 120, 60, 42, 27, 132, 1, 1, 51, 17, 0, 255, 126, 178, 0, 59, 120, 42, 27]
abbrev dktJ9_getChar_1 : List UInt8 := dkwJ9_getChar_1 ++ dktJ9_getChar_2
def dkwJ9_getChar_0 : List UInt8 := [178, 0, 44, 154, 0, 25, 27, 155, 0, 11, 27, 42, 184, 0, 48, 161, 0, 13, 187, 0, 52, 89, 18, 54]
abbrev dktJ9_getChar_0 : List UInt8 := dkwJ9_getChar_0 ++ dktJ9_getChar_1
theorem dksJ9_getChar_0 : cJ9_getChar.data.toList.drop 0 = dktJ9_getChar_0 := by decide +kernel
theorem dksJ9_getChar_1 : cJ9_getChar.data.toList.drop 24 = dktJ9_getChar_1 := dk_seg dksJ9_getChar_0 24 rfl rfl
theorem dksJ9_getChar_2 : cJ9_getChar.data.toList.drop 48 = dktJ9_getChar_2 := dk_seg dksJ9_getChar_1 24 rfl rfl
theorem dJ9_getChar_0 : decode cJ9_getChar 0 = .ok (.getstatic 44, 3) := dk_178 0 44 (dk_at dksJ9_getChar_0 0 rfl rfl)
theorem dJ9_getChar_3 : decode cJ9_getChar 3 = .ok (.ifCond .ne 25, 3) := dk_154 0 25 (dk_at dksJ9_getChar_0 3 rfl rfl)
theorem dJ9_getChar_6 : decode cJ9_getChar 6 = .ok (.iload_n 1, 1) := dk_27 (dk_at dksJ9_getChar_0 6 rfl rfl)
theorem dJ9_getChar_7 : decode cJ9_getChar 7 = .ok (.ifCond .lt 11, 3) := dk_155 0 11 (dk_at dksJ9_getChar_0 7 rfl rfl)
theorem dJ9_getChar_10 : decode cJ9_getChar 10 = .ok (.iload_n 1, 1) := dk_27 (dk_at dksJ9_getChar_0 10 rfl rfl)
theorem dJ9_getChar_11 : decode cJ9_getChar 11 = .ok (.aload_n 0, 1) := dk_42 (dk_at dksJ9_getChar_0 11 rfl rfl)
theorem dJ9_getChar_12 : decode cJ9_getChar 12 = .ok (.invokestatic 48, 3) := dk_184 0 48 (dk_at dksJ9_getChar_0 12 rfl rfl)
theorem dJ9_getChar_15 : decode cJ9_getChar 15 = .ok (.if_icmp .lt 13, 3) := dk_161 0 13 (dk_at dksJ9_getChar_0 15 rfl rfl)
theorem dJ9_getChar_18 : decode cJ9_getChar 18 = .ok (.new 52, 3) := dk_187 0 52 (dk_at dksJ9_getChar_0 18 rfl rfl)
theorem dJ9_getChar_21 : decode cJ9_getChar 21 = .ok (.dup, 1) := dk_89 (dk_at dksJ9_getChar_0 21 rfl rfl)
theorem dJ9_getChar_22 : decode cJ9_getChar 22 = .ok (.ldc 54, 2) := dk_18 54 (dk_at dksJ9_getChar_0 22 rfl rfl)
theorem dJ9_getChar_24 : decode cJ9_getChar 24 = .ok (.invokespecial 56, 3) := dk_183 0 56 (dk_at dksJ9_getChar_1 0 rfl rfl)
theorem dJ9_getChar_27 : decode cJ9_getChar 27 = .ok (.athrow, 1) := dk_191 (dk_at dksJ9_getChar_1 3 rfl rfl)
theorem dJ9_getChar_28 : decode cJ9_getChar 28 = .ok (.iload_n 1, 1) := dk_27 (dk_at dksJ9_getChar_1 4 rfl rfl)
theorem dJ9_getChar_29 : decode cJ9_getChar 29 = .ok (.iconst 1, 1) := dk_4 (dk_at dksJ9_getChar_1 5 rfl rfl)
theorem dJ9_getChar_30 : decode cJ9_getChar 30 = .ok (.ishl, 1) := dk_120 (dk_at dksJ9_getChar_1 6 rfl rfl)
theorem dJ9_getChar_31 : decode cJ9_getChar 31 = .ok (.istore_n 1, 1) := dk_60 (dk_at dksJ9_getChar_1 7 rfl rfl)
theorem dJ9_getChar_32 : decode cJ9_getChar 32 = .ok (.aload_n 0, 1) := dk_42 (dk_at dksJ9_getChar_1 8 rfl rfl)
theorem dJ9_getChar_33 : decode cJ9_getChar 33 = .ok (.iload_n 1, 1) := dk_27 (dk_at dksJ9_getChar_1 9 rfl rfl)
theorem dJ9_getChar_34 : decode cJ9_getChar 34 = .ok (.iinc 1 1, 3) := dk_132 1 1 (dk_at dksJ9_getChar_1 10 rfl rfl)
theorem dJ9_getChar_37 : decode cJ9_getChar 37 = .ok (.baload, 1) := dk_51 (dk_at dksJ9_getChar_1 13 rfl rfl)
theorem dJ9_getChar_38 : decode cJ9_getChar 38 = .ok (.sipush 255, 3) := dk_17 0 255 (dk_at dksJ9_getChar_1 14 rfl rfl)
theorem dJ9_getChar_41 : decode cJ9_getChar 41 = .ok (.iand, 1) := dk_126 (dk_at dksJ9_getChar_1 17 rfl rfl)
theorem dJ9_getChar_42 : decode cJ9_getChar 42 = .ok (.getstatic 59, 3) := dk_178 0 59 (dk_at dksJ9_getChar_1 18 rfl rfl)
theorem dJ9_getChar_45 : decode cJ9_getChar 45 = .ok (.ishl, 1) := dk_120 (dk_at dksJ9_getChar_1 21 rfl rfl)
theorem dJ9_getChar_46 : decode cJ9_getChar 46 = .ok (.aload_n 0, 1) := dk_42 (dk_at dksJ9_getChar_1 22 rfl rfl)
theorem dJ9_getChar_47 : decode cJ9_getChar 47 = .ok (.iload_n 1, 1) := dk_27 (dk_at dksJ9_getChar_1 23 rfl rfl)
theorem dJ9_getChar_48 : decode cJ9_getChar 48 = .ok (.baload, 1) := dk_51 (dk_at dksJ9_getChar_2 0 rfl rfl)
theorem dJ9_getChar_49 : decode cJ9_getChar 49 = .ok (.sipush 255, 3) := dk_17 0 255 (dk_at dksJ9_getChar_2 1 rfl rfl)
theorem dJ9_getChar_52 : decode cJ9_getChar 52 = .ok (.iand, 1) := dk_126 (dk_at dksJ9_getChar_2 4 rfl rfl)
theorem dJ9_getChar_53 : decode cJ9_getChar 53 = .ok (.getstatic 63, 3) := dk_178 0 63 (dk_at dksJ9_getChar_2 5 rfl rfl)
theorem dJ9_getChar_56 : decode cJ9_getChar 56 = .ok (.ishl, 1) := dk_120 (dk_at dksJ9_getChar_2 8 rfl rfl)
theorem dJ9_getChar_57 : decode cJ9_getChar 57 = .ok (.ior, 1) := dk_128 (dk_at dksJ9_getChar_2 9 rfl rfl)
theorem dJ9_getChar_58 : decode cJ9_getChar 58 = .ok (.i2c, 1) := dk_146 (dk_at dksJ9_getChar_2 10 rfl rfl)
theorem dJ9_getChar_59 : decode cJ9_getChar 59 = .ok (.ireturn, 1) := dk_172 (dk_at dksJ9_getChar_2 11 rfl rfl)
set_option maxRecDepth 100000
abbrev cJ10_init : ByteArray := prog_39_method_1_code
def yJ10_init : MethodName := ⟨RJ10, "<init>", "(Ljava/util/ArrayList;)V"⟩
def dkwJ10_init_1 : List UInt8 := [181, 0, 22, 177]
abbrev dktJ10_init_1 : List UInt8 := dkwJ10_init_1 ++ []
def dkwJ10_init_0 : List UInt8 := [42, 43, 181, 0, 1, 42, 183, 0, 7, 42, 2, 181, 0, 13, 42, 42, 180, 0, 1, 180, 0, 17]
abbrev dktJ10_init_0 : List UInt8 := dkwJ10_init_0 ++ dktJ10_init_1
theorem dksJ10_init_0 : cJ10_init.data.toList.drop 0 = dktJ10_init_0 := by decide +kernel
theorem dksJ10_init_1 : cJ10_init.data.toList.drop 22 = dktJ10_init_1 := dk_seg dksJ10_init_0 22 rfl rfl
theorem dJ10_init_0 : decode cJ10_init 0 = .ok (.aload_n 0, 1) := dk_42 (dk_at dksJ10_init_0 0 rfl rfl)
theorem dJ10_init_1 : decode cJ10_init 1 = .ok (.aload_n 1, 1) := dk_43 (dk_at dksJ10_init_0 1 rfl rfl)
theorem dJ10_init_2 : decode cJ10_init 2 = .ok (.putfield 1, 3) := dk_181 0 1 (dk_at dksJ10_init_0 2 rfl rfl)
theorem dJ10_init_5 : decode cJ10_init 5 = .ok (.aload_n 0, 1) := dk_42 (dk_at dksJ10_init_0 5 rfl rfl)
theorem dJ10_init_6 : decode cJ10_init 6 = .ok (.invokespecial 7, 3) := dk_183 0 7 (dk_at dksJ10_init_0 6 rfl rfl)
theorem dJ10_init_9 : decode cJ10_init 9 = .ok (.aload_n 0, 1) := dk_42 (dk_at dksJ10_init_0 9 rfl rfl)
theorem dJ10_init_10 : decode cJ10_init 10 = .ok (.iconst (-1), 1) := dk_2 (dk_at dksJ10_init_0 10 rfl rfl)
theorem dJ10_init_11 : decode cJ10_init 11 = .ok (.putfield 13, 3) := dk_181 0 13 (dk_at dksJ10_init_0 11 rfl rfl)
theorem dJ10_init_14 : decode cJ10_init 14 = .ok (.aload_n 0, 1) := dk_42 (dk_at dksJ10_init_0 14 rfl rfl)
theorem dJ10_init_15 : decode cJ10_init 15 = .ok (.aload_n 0, 1) := dk_42 (dk_at dksJ10_init_0 15 rfl rfl)
theorem dJ10_init_16 : decode cJ10_init 16 = .ok (.getfield 1, 3) := dk_180 0 1 (dk_at dksJ10_init_0 16 rfl rfl)
theorem dJ10_init_19 : decode cJ10_init 19 = .ok (.getfield 17, 3) := dk_180 0 17 (dk_at dksJ10_init_0 19 rfl rfl)
theorem dJ10_init_22 : decode cJ10_init 22 = .ok (.putfield 22, 3) := dk_181 0 22 (dk_at dksJ10_init_1 0 rfl rfl)
theorem dJ10_init_25 : decode cJ10_init 25 = .ok (.return_, 1) := dk_177 (dk_at dksJ10_init_1 3 rfl rfl)
abbrev cJ10_hasNext : ByteArray := prog_39_method_2_code
def yJ10_hasNext : MethodName := ⟨RJ10, "hasNext", "()Z"⟩
def dkwJ10_hasNext_0 : List UInt8 := [42, 180, 0, 25, 42, 180, 0, 1, 180, 0, 28, 159, 0, 7, 4, 167, 0, 4, 3, 172]
abbrev dktJ10_hasNext_0 : List UInt8 := dkwJ10_hasNext_0 ++ []
theorem dksJ10_hasNext_0 : cJ10_hasNext.data.toList.drop 0 = dktJ10_hasNext_0 := by decide +kernel
theorem dJ10_hasNext_0 : decode cJ10_hasNext 0 = .ok (.aload_n 0, 1) := dk_42 (dk_at dksJ10_hasNext_0 0 rfl rfl)
theorem dJ10_hasNext_1 : decode cJ10_hasNext 1 = .ok (.getfield 25, 3) := dk_180 0 25 (dk_at dksJ10_hasNext_0 1 rfl rfl)
theorem dJ10_hasNext_4 : decode cJ10_hasNext 4 = .ok (.aload_n 0, 1) := dk_42 (dk_at dksJ10_hasNext_0 4 rfl rfl)
theorem dJ10_hasNext_5 : decode cJ10_hasNext 5 = .ok (.getfield 1, 3) := dk_180 0 1 (dk_at dksJ10_hasNext_0 5 rfl rfl)
theorem dJ10_hasNext_8 : decode cJ10_hasNext 8 = .ok (.getfield 28, 3) := dk_180 0 28 (dk_at dksJ10_hasNext_0 8 rfl rfl)
theorem dJ10_hasNext_11 : decode cJ10_hasNext 11 = .ok (.if_icmp .eq 7, 3) := dk_159 0 7 (dk_at dksJ10_hasNext_0 11 rfl rfl)
theorem dJ10_hasNext_14 : decode cJ10_hasNext 14 = .ok (.iconst 1, 1) := dk_4 (dk_at dksJ10_hasNext_0 14 rfl rfl)
theorem dJ10_hasNext_15 : decode cJ10_hasNext 15 = .ok (.goto 4, 3) := dk_167 0 4 (dk_at dksJ10_hasNext_0 15 rfl rfl)
theorem dJ10_hasNext_18 : decode cJ10_hasNext 18 = .ok (.iconst 0, 1) := dk_3 (dk_at dksJ10_hasNext_0 18 rfl rfl)
theorem dJ10_hasNext_19 : decode cJ10_hasNext 19 = .ok (.ireturn, 1) := dk_172 (dk_at dksJ10_hasNext_0 19 rfl rfl)
abbrev cJ10_next : ByteArray := prog_39_method_3_code
def yJ10_next : MethodName := ⟨RJ10, "next", "()Ljava/lang/Object;"⟩
def dkwJ10_next_2 : List UInt8 := [183, 0, 43, 191, 42, 27, 4, 96, 181, 0, 25, 44, 42, 27, 90, 181, 0, 13, 50, 176]
abbrev dktJ10_next_2 : List UInt8 := dkwJ10_next_2 ++ []
def dkwJ10_next_1 : List UInt8 := [183, 0, 36, 191, 42, 180, 0, 1, 180, 0, 37, 77, 27, 44, 190, 161, 0, 11, 187, 0, 41, 89]
abbrev dktJ10_next_1 : List UInt8 := dkwJ10_next_1 ++ dktJ10_next_2
def dkwJ10_next_0 : List UInt8 := [42, 182, 0, 31, 42, 180, 0, 25, 60, 27, 42, 180, 0, 1, 180, 0, 28, 161, 0, 11, 187, 0, 34, 89]
abbrev dktJ10_next_0 : List UInt8 := dkwJ10_next_0 ++ dktJ10_next_1
theorem dksJ10_next_0 : cJ10_next.data.toList.drop 0 = dktJ10_next_0 := by decide +kernel
theorem dksJ10_next_1 : cJ10_next.data.toList.drop 24 = dktJ10_next_1 := dk_seg dksJ10_next_0 24 rfl rfl
theorem dksJ10_next_2 : cJ10_next.data.toList.drop 46 = dktJ10_next_2 := dk_seg dksJ10_next_1 22 rfl rfl
theorem dJ10_next_0 : decode cJ10_next 0 = .ok (.aload_n 0, 1) := dk_42 (dk_at dksJ10_next_0 0 rfl rfl)
theorem dJ10_next_1 : decode cJ10_next 1 = .ok (.invokevirtual 31, 3) := dk_182 0 31 (dk_at dksJ10_next_0 1 rfl rfl)
theorem dJ10_next_4 : decode cJ10_next 4 = .ok (.aload_n 0, 1) := dk_42 (dk_at dksJ10_next_0 4 rfl rfl)
theorem dJ10_next_5 : decode cJ10_next 5 = .ok (.getfield 25, 3) := dk_180 0 25 (dk_at dksJ10_next_0 5 rfl rfl)
theorem dJ10_next_8 : decode cJ10_next 8 = .ok (.istore_n 1, 1) := dk_60 (dk_at dksJ10_next_0 8 rfl rfl)
theorem dJ10_next_9 : decode cJ10_next 9 = .ok (.iload_n 1, 1) := dk_27 (dk_at dksJ10_next_0 9 rfl rfl)
theorem dJ10_next_10 : decode cJ10_next 10 = .ok (.aload_n 0, 1) := dk_42 (dk_at dksJ10_next_0 10 rfl rfl)
theorem dJ10_next_11 : decode cJ10_next 11 = .ok (.getfield 1, 3) := dk_180 0 1 (dk_at dksJ10_next_0 11 rfl rfl)
theorem dJ10_next_14 : decode cJ10_next 14 = .ok (.getfield 28, 3) := dk_180 0 28 (dk_at dksJ10_next_0 14 rfl rfl)
theorem dJ10_next_17 : decode cJ10_next 17 = .ok (.if_icmp .lt 11, 3) := dk_161 0 11 (dk_at dksJ10_next_0 17 rfl rfl)
theorem dJ10_next_20 : decode cJ10_next 20 = .ok (.new 34, 3) := dk_187 0 34 (dk_at dksJ10_next_0 20 rfl rfl)
theorem dJ10_next_23 : decode cJ10_next 23 = .ok (.dup, 1) := dk_89 (dk_at dksJ10_next_0 23 rfl rfl)
theorem dJ10_next_24 : decode cJ10_next 24 = .ok (.invokespecial 36, 3) := dk_183 0 36 (dk_at dksJ10_next_1 0 rfl rfl)
theorem dJ10_next_27 : decode cJ10_next 27 = .ok (.athrow, 1) := dk_191 (dk_at dksJ10_next_1 3 rfl rfl)
theorem dJ10_next_28 : decode cJ10_next 28 = .ok (.aload_n 0, 1) := dk_42 (dk_at dksJ10_next_1 4 rfl rfl)
theorem dJ10_next_29 : decode cJ10_next 29 = .ok (.getfield 1, 3) := dk_180 0 1 (dk_at dksJ10_next_1 5 rfl rfl)
theorem dJ10_next_32 : decode cJ10_next 32 = .ok (.getfield 37, 3) := dk_180 0 37 (dk_at dksJ10_next_1 8 rfl rfl)
theorem dJ10_next_35 : decode cJ10_next 35 = .ok (.astore_n 2, 1) := dk_77 (dk_at dksJ10_next_1 11 rfl rfl)
theorem dJ10_next_36 : decode cJ10_next 36 = .ok (.iload_n 1, 1) := dk_27 (dk_at dksJ10_next_1 12 rfl rfl)
theorem dJ10_next_37 : decode cJ10_next 37 = .ok (.aload_n 2, 1) := dk_44 (dk_at dksJ10_next_1 13 rfl rfl)
theorem dJ10_next_38 : decode cJ10_next 38 = .ok (.arraylength, 1) := dk_190 (dk_at dksJ10_next_1 14 rfl rfl)
theorem dJ10_next_39 : decode cJ10_next 39 = .ok (.if_icmp .lt 11, 3) := dk_161 0 11 (dk_at dksJ10_next_1 15 rfl rfl)
theorem dJ10_next_42 : decode cJ10_next 42 = .ok (.new 41, 3) := dk_187 0 41 (dk_at dksJ10_next_1 18 rfl rfl)
theorem dJ10_next_45 : decode cJ10_next 45 = .ok (.dup, 1) := dk_89 (dk_at dksJ10_next_1 21 rfl rfl)
theorem dJ10_next_46 : decode cJ10_next 46 = .ok (.invokespecial 43, 3) := dk_183 0 43 (dk_at dksJ10_next_2 0 rfl rfl)
theorem dJ10_next_49 : decode cJ10_next 49 = .ok (.athrow, 1) := dk_191 (dk_at dksJ10_next_2 3 rfl rfl)
theorem dJ10_next_50 : decode cJ10_next 50 = .ok (.aload_n 0, 1) := dk_42 (dk_at dksJ10_next_2 4 rfl rfl)
theorem dJ10_next_51 : decode cJ10_next 51 = .ok (.iload_n 1, 1) := dk_27 (dk_at dksJ10_next_2 5 rfl rfl)
theorem dJ10_next_52 : decode cJ10_next 52 = .ok (.iconst 1, 1) := dk_4 (dk_at dksJ10_next_2 6 rfl rfl)
theorem dJ10_next_53 : decode cJ10_next 53 = .ok (.iadd, 1) := dk_96 (dk_at dksJ10_next_2 7 rfl rfl)
theorem dJ10_next_54 : decode cJ10_next 54 = .ok (.putfield 25, 3) := dk_181 0 25 (dk_at dksJ10_next_2 8 rfl rfl)
theorem dJ10_next_57 : decode cJ10_next 57 = .ok (.aload_n 2, 1) := dk_44 (dk_at dksJ10_next_2 11 rfl rfl)
theorem dJ10_next_58 : decode cJ10_next 58 = .ok (.aload_n 0, 1) := dk_42 (dk_at dksJ10_next_2 12 rfl rfl)
theorem dJ10_next_59 : decode cJ10_next 59 = .ok (.iload_n 1, 1) := dk_27 (dk_at dksJ10_next_2 13 rfl rfl)
theorem dJ10_next_60 : decode cJ10_next 60 = .ok (.dup_x1, 1) := dk_90 (dk_at dksJ10_next_2 14 rfl rfl)
theorem dJ10_next_61 : decode cJ10_next 61 = .ok (.putfield 13, 3) := dk_181 0 13 (dk_at dksJ10_next_2 15 rfl rfl)
theorem dJ10_next_64 : decode cJ10_next 64 = .ok (.aaload, 1) := dk_50 (dk_at dksJ10_next_2 18 rfl rfl)
theorem dJ10_next_65 : decode cJ10_next 65 = .ok (.areturn, 1) := dk_176 (dk_at dksJ10_next_2 19 rfl rfl)
abbrev cJ10_checkForComodification : ByteArray := prog_39_method_6_code
def yJ10_checkForComodification : MethodName := ⟨RJ10, "checkForComodification", "()V"⟩
def dkwJ10_checkForComodification_0 : List UInt8 := [42, 180, 0, 1, 180, 0, 17, 42, 180, 0, 22, 159, 0, 11, 187, 0, 41, 89, 183, 0, 43, 191, 177]
abbrev dktJ10_checkForComodification_0 : List UInt8 := dkwJ10_checkForComodification_0 ++ []
theorem dksJ10_checkForComodification_0 : cJ10_checkForComodification.data.toList.drop 0 = dktJ10_checkForComodification_0 := by decide +kernel
theorem dJ10_checkForComodification_0 : decode cJ10_checkForComodification 0 = .ok (.aload_n 0, 1) := dk_42 (dk_at dksJ10_checkForComodification_0 0 rfl rfl)
theorem dJ10_checkForComodification_1 : decode cJ10_checkForComodification 1 = .ok (.getfield 1, 3) := dk_180 0 1 (dk_at dksJ10_checkForComodification_0 1 rfl rfl)
theorem dJ10_checkForComodification_4 : decode cJ10_checkForComodification 4 = .ok (.getfield 17, 3) := dk_180 0 17 (dk_at dksJ10_checkForComodification_0 4 rfl rfl)
theorem dJ10_checkForComodification_7 : decode cJ10_checkForComodification 7 = .ok (.aload_n 0, 1) := dk_42 (dk_at dksJ10_checkForComodification_0 7 rfl rfl)
theorem dJ10_checkForComodification_8 : decode cJ10_checkForComodification 8 = .ok (.getfield 22, 3) := dk_180 0 22 (dk_at dksJ10_checkForComodification_0 8 rfl rfl)
theorem dJ10_checkForComodification_11 : decode cJ10_checkForComodification 11 = .ok (.if_icmp .eq 11, 3) := dk_159 0 11 (dk_at dksJ10_checkForComodification_0 11 rfl rfl)
theorem dJ10_checkForComodification_14 : decode cJ10_checkForComodification 14 = .ok (.new 41, 3) := dk_187 0 41 (dk_at dksJ10_checkForComodification_0 14 rfl rfl)
theorem dJ10_checkForComodification_17 : decode cJ10_checkForComodification 17 = .ok (.dup, 1) := dk_89 (dk_at dksJ10_checkForComodification_0 17 rfl rfl)
theorem dJ10_checkForComodification_18 : decode cJ10_checkForComodification 18 = .ok (.invokespecial 43, 3) := dk_183 0 43 (dk_at dksJ10_checkForComodification_0 18 rfl rfl)
theorem dJ10_checkForComodification_21 : decode cJ10_checkForComodification 21 = .ok (.athrow, 1) := dk_191 (dk_at dksJ10_checkForComodification_0 21 rfl rfl)
theorem dJ10_checkForComodification_22 : decode cJ10_checkForComodification 22 = .ok (.return_, 1) := dk_177 (dk_at dksJ10_checkForComodification_0 22 rfl rfl)
set_option maxRecDepth 100000
abbrev cJ11_newLength : ByteArray := prog_47_method_27_code
def yJ11_newLength : MethodName := ⟨RJ11, "newLength", "(III)I"⟩
def dkwJ11_newLength_1 : List UInt8 := [184, 0, 201, 172]
abbrev dktJ11_newLength_1 : List UInt8 := dkwJ11_newLength_1 ++ []
def dkwJ11_newLength_0 : List UInt8 := [26, 27, 28, 184, 0, 194, 96, 62, 3, 29, 162, 0, 11, 29, 18, 200, 163, 0, 5, 29, 172, 26, 27]
abbrev dktJ11_newLength_0 : List UInt8 := dkwJ11_newLength_0 ++ dktJ11_newLength_1
theorem dksJ11_newLength_0 : cJ11_newLength.data.toList.drop 0 = dktJ11_newLength_0 := by decide +kernel
theorem dksJ11_newLength_1 : cJ11_newLength.data.toList.drop 23 = dktJ11_newLength_1 := dk_seg dksJ11_newLength_0 23 rfl rfl
theorem dJ11_newLength_0 : decode cJ11_newLength 0 = .ok (.iload_n 0, 1) := dk_26 (dk_at dksJ11_newLength_0 0 rfl rfl)
theorem dJ11_newLength_1 : decode cJ11_newLength 1 = .ok (.iload_n 1, 1) := dk_27 (dk_at dksJ11_newLength_0 1 rfl rfl)
theorem dJ11_newLength_2 : decode cJ11_newLength 2 = .ok (.iload_n 2, 1) := dk_28 (dk_at dksJ11_newLength_0 2 rfl rfl)
theorem dJ11_newLength_3 : decode cJ11_newLength 3 = .ok (.invokestatic 194, 3) := dk_184 0 194 (dk_at dksJ11_newLength_0 3 rfl rfl)
theorem dJ11_newLength_6 : decode cJ11_newLength 6 = .ok (.iadd, 1) := dk_96 (dk_at dksJ11_newLength_0 6 rfl rfl)
theorem dJ11_newLength_7 : decode cJ11_newLength 7 = .ok (.istore_n 3, 1) := dk_62 (dk_at dksJ11_newLength_0 7 rfl rfl)
theorem dJ11_newLength_8 : decode cJ11_newLength 8 = .ok (.iconst 0, 1) := dk_3 (dk_at dksJ11_newLength_0 8 rfl rfl)
theorem dJ11_newLength_9 : decode cJ11_newLength 9 = .ok (.iload_n 3, 1) := dk_29 (dk_at dksJ11_newLength_0 9 rfl rfl)
theorem dJ11_newLength_10 : decode cJ11_newLength 10 = .ok (.if_icmp .ge 11, 3) := dk_162 0 11 (dk_at dksJ11_newLength_0 10 rfl rfl)
theorem dJ11_newLength_13 : decode cJ11_newLength 13 = .ok (.iload_n 3, 1) := dk_29 (dk_at dksJ11_newLength_0 13 rfl rfl)
theorem dJ11_newLength_14 : decode cJ11_newLength 14 = .ok (.ldc 200, 2) := dk_18 200 (dk_at dksJ11_newLength_0 14 rfl rfl)
theorem dJ11_newLength_16 : decode cJ11_newLength 16 = .ok (.if_icmp .gt 5, 3) := dk_163 0 5 (dk_at dksJ11_newLength_0 16 rfl rfl)
theorem dJ11_newLength_19 : decode cJ11_newLength 19 = .ok (.iload_n 3, 1) := dk_29 (dk_at dksJ11_newLength_0 19 rfl rfl)
theorem dJ11_newLength_20 : decode cJ11_newLength 20 = .ok (.ireturn, 1) := dk_172 (dk_at dksJ11_newLength_0 20 rfl rfl)
theorem dJ11_newLength_21 : decode cJ11_newLength 21 = .ok (.iload_n 0, 1) := dk_26 (dk_at dksJ11_newLength_0 21 rfl rfl)
theorem dJ11_newLength_22 : decode cJ11_newLength 22 = .ok (.iload_n 1, 1) := dk_27 (dk_at dksJ11_newLength_0 22 rfl rfl)
theorem dJ11_newLength_23 : decode cJ11_newLength 23 = .ok (.invokestatic 201, 3) := dk_184 0 201 (dk_at dksJ11_newLength_1 0 rfl rfl)
theorem dJ11_newLength_26 : decode cJ11_newLength 26 = .ok (.ireturn, 1) := dk_172 (dk_at dksJ11_newLength_1 3 rfl rfl)
abbrev cJ11_hugeLength : ByteArray := prog_47_method_28_code
def yJ11_hugeLength : MethodName := ⟨RJ11, "hugeLength", "(II)I"⟩
def dkwJ11_hugeLength_2 : List UInt8 := [191, 28, 18, 200, 163, 0, 6, 18, 200, 172, 28, 172]
abbrev dktJ11_hugeLength_2 : List UInt8 := dkwJ11_hugeLength_2 ++ []
def dkwJ11_hugeLength_1 : List UInt8 := [26, 182, 0, 98, 18, 208, 182, 0, 94, 27, 182, 0, 98, 18, 210, 182, 0, 94, 182, 0, 101, 183, 0, 212]
abbrev dktJ11_hugeLength_1 : List UInt8 := dkwJ11_hugeLength_1 ++ dktJ11_hugeLength_2
def dkwJ11_hugeLength_0 : List UInt8 := [26, 27, 96, 61, 28, 156, 0, 44, 187, 0, 204, 89, 187, 0, 89, 89, 183, 0, 91, 18, 206, 182, 0, 94]
abbrev dktJ11_hugeLength_0 : List UInt8 := dkwJ11_hugeLength_0 ++ dktJ11_hugeLength_1
theorem dksJ11_hugeLength_0 : cJ11_hugeLength.data.toList.drop 0 = dktJ11_hugeLength_0 := by decide +kernel
theorem dksJ11_hugeLength_1 : cJ11_hugeLength.data.toList.drop 24 = dktJ11_hugeLength_1 := dk_seg dksJ11_hugeLength_0 24 rfl rfl
theorem dksJ11_hugeLength_2 : cJ11_hugeLength.data.toList.drop 48 = dktJ11_hugeLength_2 := dk_seg dksJ11_hugeLength_1 24 rfl rfl
theorem dJ11_hugeLength_0 : decode cJ11_hugeLength 0 = .ok (.iload_n 0, 1) := dk_26 (dk_at dksJ11_hugeLength_0 0 rfl rfl)
theorem dJ11_hugeLength_1 : decode cJ11_hugeLength 1 = .ok (.iload_n 1, 1) := dk_27 (dk_at dksJ11_hugeLength_0 1 rfl rfl)
theorem dJ11_hugeLength_2 : decode cJ11_hugeLength 2 = .ok (.iadd, 1) := dk_96 (dk_at dksJ11_hugeLength_0 2 rfl rfl)
theorem dJ11_hugeLength_3 : decode cJ11_hugeLength 3 = .ok (.istore_n 2, 1) := dk_61 (dk_at dksJ11_hugeLength_0 3 rfl rfl)
theorem dJ11_hugeLength_4 : decode cJ11_hugeLength 4 = .ok (.iload_n 2, 1) := dk_28 (dk_at dksJ11_hugeLength_0 4 rfl rfl)
theorem dJ11_hugeLength_5 : decode cJ11_hugeLength 5 = .ok (.ifCond .ge 44, 3) := dk_156 0 44 (dk_at dksJ11_hugeLength_0 5 rfl rfl)
theorem dJ11_hugeLength_8 : decode cJ11_hugeLength 8 = .ok (.new 204, 3) := dk_187 0 204 (dk_at dksJ11_hugeLength_0 8 rfl rfl)
theorem dJ11_hugeLength_11 : decode cJ11_hugeLength 11 = .ok (.dup, 1) := dk_89 (dk_at dksJ11_hugeLength_0 11 rfl rfl)
theorem dJ11_hugeLength_12 : decode cJ11_hugeLength 12 = .ok (.new 89, 3) := dk_187 0 89 (dk_at dksJ11_hugeLength_0 12 rfl rfl)
theorem dJ11_hugeLength_15 : decode cJ11_hugeLength 15 = .ok (.dup, 1) := dk_89 (dk_at dksJ11_hugeLength_0 15 rfl rfl)
theorem dJ11_hugeLength_16 : decode cJ11_hugeLength 16 = .ok (.invokespecial 91, 3) := dk_183 0 91 (dk_at dksJ11_hugeLength_0 16 rfl rfl)
theorem dJ11_hugeLength_19 : decode cJ11_hugeLength 19 = .ok (.ldc 206, 2) := dk_18 206 (dk_at dksJ11_hugeLength_0 19 rfl rfl)
theorem dJ11_hugeLength_21 : decode cJ11_hugeLength 21 = .ok (.invokevirtual 94, 3) := dk_182 0 94 (dk_at dksJ11_hugeLength_0 21 rfl rfl)
theorem dJ11_hugeLength_24 : decode cJ11_hugeLength 24 = .ok (.iload_n 0, 1) := dk_26 (dk_at dksJ11_hugeLength_1 0 rfl rfl)
theorem dJ11_hugeLength_25 : decode cJ11_hugeLength 25 = .ok (.invokevirtual 98, 3) := dk_182 0 98 (dk_at dksJ11_hugeLength_1 1 rfl rfl)
theorem dJ11_hugeLength_28 : decode cJ11_hugeLength 28 = .ok (.ldc 208, 2) := dk_18 208 (dk_at dksJ11_hugeLength_1 4 rfl rfl)
theorem dJ11_hugeLength_30 : decode cJ11_hugeLength 30 = .ok (.invokevirtual 94, 3) := dk_182 0 94 (dk_at dksJ11_hugeLength_1 6 rfl rfl)
theorem dJ11_hugeLength_33 : decode cJ11_hugeLength 33 = .ok (.iload_n 1, 1) := dk_27 (dk_at dksJ11_hugeLength_1 9 rfl rfl)
theorem dJ11_hugeLength_34 : decode cJ11_hugeLength 34 = .ok (.invokevirtual 98, 3) := dk_182 0 98 (dk_at dksJ11_hugeLength_1 10 rfl rfl)
theorem dJ11_hugeLength_37 : decode cJ11_hugeLength 37 = .ok (.ldc 210, 2) := dk_18 210 (dk_at dksJ11_hugeLength_1 13 rfl rfl)
theorem dJ11_hugeLength_39 : decode cJ11_hugeLength 39 = .ok (.invokevirtual 94, 3) := dk_182 0 94 (dk_at dksJ11_hugeLength_1 15 rfl rfl)
theorem dJ11_hugeLength_42 : decode cJ11_hugeLength 42 = .ok (.invokevirtual 101, 3) := dk_182 0 101 (dk_at dksJ11_hugeLength_1 18 rfl rfl)
theorem dJ11_hugeLength_45 : decode cJ11_hugeLength 45 = .ok (.invokespecial 212, 3) := dk_183 0 212 (dk_at dksJ11_hugeLength_1 21 rfl rfl)
theorem dJ11_hugeLength_48 : decode cJ11_hugeLength 48 = .ok (.athrow, 1) := dk_191 (dk_at dksJ11_hugeLength_2 0 rfl rfl)
theorem dJ11_hugeLength_49 : decode cJ11_hugeLength 49 = .ok (.iload_n 2, 1) := dk_28 (dk_at dksJ11_hugeLength_2 1 rfl rfl)
theorem dJ11_hugeLength_50 : decode cJ11_hugeLength 50 = .ok (.ldc 200, 2) := dk_18 200 (dk_at dksJ11_hugeLength_2 2 rfl rfl)
theorem dJ11_hugeLength_52 : decode cJ11_hugeLength 52 = .ok (.if_icmp .gt 6, 3) := dk_163 0 6 (dk_at dksJ11_hugeLength_2 4 rfl rfl)
theorem dJ11_hugeLength_55 : decode cJ11_hugeLength 55 = .ok (.ldc 200, 2) := dk_18 200 (dk_at dksJ11_hugeLength_2 7 rfl rfl)
theorem dJ11_hugeLength_57 : decode cJ11_hugeLength 57 = .ok (.ireturn, 1) := dk_172 (dk_at dksJ11_hugeLength_2 9 rfl rfl)
theorem dJ11_hugeLength_58 : decode cJ11_hugeLength 58 = .ok (.iload_n 2, 1) := dk_28 (dk_at dksJ11_hugeLength_2 10 rfl rfl)
theorem dJ11_hugeLength_59 : decode cJ11_hugeLength 59 = .ok (.ireturn, 1) := dk_172 (dk_at dksJ11_hugeLength_2 11 rfl rfl)
set_option maxRecDepth 100000
abbrev cJ12_max : ByteArray := prog_28_method_65_code
def yJ12_max : MethodName := ⟨RJ12, "max", "(II)I"⟩
def dkwJ12_max_0 : List UInt8 := [26, 27, 161, 0, 7, 26, 167, 0, 4, 27, 172]
abbrev dktJ12_max_0 : List UInt8 := dkwJ12_max_0 ++ []
theorem dksJ12_max_0 : cJ12_max.data.toList.drop 0 = dktJ12_max_0 := by decide +kernel
theorem dJ12_max_0 : decode cJ12_max 0 = .ok (.iload_n 0, 1) := dk_26 (dk_at dksJ12_max_0 0 rfl rfl)
theorem dJ12_max_1 : decode cJ12_max 1 = .ok (.iload_n 1, 1) := dk_27 (dk_at dksJ12_max_0 1 rfl rfl)
theorem dJ12_max_2 : decode cJ12_max 2 = .ok (.if_icmp .lt 7, 3) := dk_161 0 7 (dk_at dksJ12_max_0 2 rfl rfl)
theorem dJ12_max_5 : decode cJ12_max 5 = .ok (.iload_n 0, 1) := dk_26 (dk_at dksJ12_max_0 5 rfl rfl)
theorem dJ12_max_6 : decode cJ12_max 6 = .ok (.goto 4, 3) := dk_167 0 4 (dk_at dksJ12_max_0 6 rfl rfl)
theorem dJ12_max_9 : decode cJ12_max 9 = .ok (.iload_n 1, 1) := dk_27 (dk_at dksJ12_max_0 9 rfl rfl)
theorem dJ12_max_10 : decode cJ12_max 10 = .ok (.ireturn, 1) := dk_172 (dk_at dksJ12_max_0 10 rfl rfl)
abbrev cJ12_min : ByteArray := prog_28_method_69_code
def yJ12_min : MethodName := ⟨RJ12, "min", "(II)I"⟩
def dkwJ12_min_0 : List UInt8 := [26, 27, 163, 0, 7, 26, 167, 0, 4, 27, 172]
abbrev dktJ12_min_0 : List UInt8 := dkwJ12_min_0 ++ []
theorem dksJ12_min_0 : cJ12_min.data.toList.drop 0 = dktJ12_min_0 := by decide +kernel
theorem dJ12_min_0 : decode cJ12_min 0 = .ok (.iload_n 0, 1) := dk_26 (dk_at dksJ12_min_0 0 rfl rfl)
theorem dJ12_min_1 : decode cJ12_min 1 = .ok (.iload_n 1, 1) := dk_27 (dk_at dksJ12_min_0 1 rfl rfl)
theorem dJ12_min_2 : decode cJ12_min 2 = .ok (.if_icmp .gt 7, 3) := dk_163 0 7 (dk_at dksJ12_min_0 2 rfl rfl)
theorem dJ12_min_5 : decode cJ12_min 5 = .ok (.iload_n 0, 1) := dk_26 (dk_at dksJ12_min_0 5 rfl rfl)
theorem dJ12_min_6 : decode cJ12_min 6 = .ok (.goto 4, 3) := dk_167 0 4 (dk_at dksJ12_min_0 6 rfl rfl)
theorem dJ12_min_9 : decode cJ12_min 9 = .ok (.iload_n 1, 1) := dk_27 (dk_at dksJ12_min_0 9 rfl rfl)
theorem dJ12_min_10 : decode cJ12_min 10 = .ok (.ireturn, 1) := dk_172 (dk_at dksJ12_min_0 10 rfl rfl)
abbrev cJ12_abs : ByteArray := prog_28_method_59_code
def yJ12_abs : MethodName := ⟨RJ12, "abs", "(I)I"⟩
def dkwJ12_abs_0 : List UInt8 := [26, 156, 0, 8, 26, 116, 167, 0, 4, 26, 172]
abbrev dktJ12_abs_0 : List UInt8 := dkwJ12_abs_0 ++ []
theorem dksJ12_abs_0 : cJ12_abs.data.toList.drop 0 = dktJ12_abs_0 := by decide +kernel
theorem dJ12_abs_0 : decode cJ12_abs 0 = .ok (.iload_n 0, 1) := dk_26 (dk_at dksJ12_abs_0 0 rfl rfl)
theorem dJ12_abs_1 : decode cJ12_abs 1 = .ok (.ifCond .ge 8, 3) := dk_156 0 8 (dk_at dksJ12_abs_0 1 rfl rfl)
theorem dJ12_abs_4 : decode cJ12_abs 4 = .ok (.iload_n 0, 1) := dk_26 (dk_at dksJ12_abs_0 4 rfl rfl)
theorem dJ12_abs_5 : decode cJ12_abs 5 = .ok (.ineg, 1) := dk_116 (dk_at dksJ12_abs_0 5 rfl rfl)
theorem dJ12_abs_6 : decode cJ12_abs 6 = .ok (.goto 4, 3) := dk_167 0 4 (dk_at dksJ12_abs_0 6 rfl rfl)
theorem dJ12_abs_9 : decode cJ12_abs 9 = .ok (.iload_n 0, 1) := dk_26 (dk_at dksJ12_abs_0 9 rfl rfl)
theorem dJ12_abs_10 : decode cJ12_abs 10 = .ok (.ireturn, 1) := dk_172 (dk_at dksJ12_abs_0 10 rfl rfl)
set_option maxRecDepth 100000
abbrev cJ13_copyOf : ByteArray := prog_40_method_119_code
def yJ13_copyOf : MethodName := ⟨RJ13, "copyOf", "([Ljava/lang/Object;I)[Ljava/lang/Object;"⟩
def dkwJ13_copyOf_0 : List UInt8 := [42, 27, 42, 182, 0, 86, 184, 1, 44, 176]
abbrev dktJ13_copyOf_0 : List UInt8 := dkwJ13_copyOf_0 ++ []
theorem dksJ13_copyOf_0 : cJ13_copyOf.data.toList.drop 0 = dktJ13_copyOf_0 := by decide +kernel
theorem dJ13_copyOf_0 : decode cJ13_copyOf 0 = .ok (.aload_n 0, 1) := dk_42 (dk_at dksJ13_copyOf_0 0 rfl rfl)
theorem dJ13_copyOf_1 : decode cJ13_copyOf 1 = .ok (.iload_n 1, 1) := dk_27 (dk_at dksJ13_copyOf_0 1 rfl rfl)
theorem dJ13_copyOf_2 : decode cJ13_copyOf 2 = .ok (.aload_n 0, 1) := dk_42 (dk_at dksJ13_copyOf_0 2 rfl rfl)
theorem dJ13_copyOf_3 : decode cJ13_copyOf 3 = .ok (.invokevirtual 86, 3) := dk_182 0 86 (dk_at dksJ13_copyOf_0 3 rfl rfl)
theorem dJ13_copyOf_6 : decode cJ13_copyOf 6 = .ok (.invokestatic 300, 3) := dk_184 1 44 (dk_at dksJ13_copyOf_0 6 rfl rfl)
theorem dJ13_copyOf_9 : decode cJ13_copyOf 9 = .ok (.areturn, 1) := dk_176 (dk_at dksJ13_copyOf_0 9 rfl rfl)
abbrev cJ13_copyOf_2 : ByteArray := prog_40_method_120_code
def yJ13_copyOf_2 : MethodName := ⟨RJ13, "copyOf", "([Ljava/lang/Object;ILjava/lang/Class;)[Ljava/lang/Object;"⟩
def dkwJ13_copyOf_2_1 : List UInt8 := [78, 42, 3, 45, 3, 42, 190, 27, 184, 1, 48, 184, 0, 150, 45, 176]
abbrev dktJ13_copyOf_2_1 : List UInt8 := dkwJ13_copyOf_2_1 ++ []
def dkwJ13_copyOf_2_0 : List UInt8 := [44, 18, 110, 166, 0, 10, 27, 189, 0, 2, 167, 0, 14, 44, 182, 0, 90, 27, 184, 0, 95, 192, 0, 110]
abbrev dktJ13_copyOf_2_0 : List UInt8 := dkwJ13_copyOf_2_0 ++ dktJ13_copyOf_2_1
theorem dksJ13_copyOf_2_0 : cJ13_copyOf_2.data.toList.drop 0 = dktJ13_copyOf_2_0 := by decide +kernel
theorem dksJ13_copyOf_2_1 : cJ13_copyOf_2.data.toList.drop 24 = dktJ13_copyOf_2_1 := dk_seg dksJ13_copyOf_2_0 24 rfl rfl
theorem dJ13_copyOf_2_0 : decode cJ13_copyOf_2 0 = .ok (.aload_n 2, 1) := dk_44 (dk_at dksJ13_copyOf_2_0 0 rfl rfl)
theorem dJ13_copyOf_2_1 : decode cJ13_copyOf_2 1 = .ok (.ldc 110, 2) := dk_18 110 (dk_at dksJ13_copyOf_2_0 1 rfl rfl)
theorem dJ13_copyOf_2_3 : decode cJ13_copyOf_2 3 = .ok (.if_acmp .ne 10, 3) := dk_166 0 10 (dk_at dksJ13_copyOf_2_0 3 rfl rfl)
theorem dJ13_copyOf_2_6 : decode cJ13_copyOf_2 6 = .ok (.iload_n 1, 1) := dk_27 (dk_at dksJ13_copyOf_2_0 6 rfl rfl)
theorem dJ13_copyOf_2_7 : decode cJ13_copyOf_2 7 = .ok (.anewarray 2, 3) := dk_189 0 2 (dk_at dksJ13_copyOf_2_0 7 rfl rfl)
theorem dJ13_copyOf_2_10 : decode cJ13_copyOf_2 10 = .ok (.goto 14, 3) := dk_167 0 14 (dk_at dksJ13_copyOf_2_0 10 rfl rfl)
theorem dJ13_copyOf_2_13 : decode cJ13_copyOf_2 13 = .ok (.aload_n 2, 1) := dk_44 (dk_at dksJ13_copyOf_2_0 13 rfl rfl)
theorem dJ13_copyOf_2_14 : decode cJ13_copyOf_2 14 = .ok (.invokevirtual 90, 3) := dk_182 0 90 (dk_at dksJ13_copyOf_2_0 14 rfl rfl)
theorem dJ13_copyOf_2_17 : decode cJ13_copyOf_2 17 = .ok (.iload_n 1, 1) := dk_27 (dk_at dksJ13_copyOf_2_0 17 rfl rfl)
theorem dJ13_copyOf_2_18 : decode cJ13_copyOf_2 18 = .ok (.invokestatic 95, 3) := dk_184 0 95 (dk_at dksJ13_copyOf_2_0 18 rfl rfl)
theorem dJ13_copyOf_2_21 : decode cJ13_copyOf_2 21 = .ok (.checkcast 110, 3) := dk_192 0 110 (dk_at dksJ13_copyOf_2_0 21 rfl rfl)
theorem dJ13_copyOf_2_24 : decode cJ13_copyOf_2 24 = .ok (.astore_n 3, 1) := dk_78 (dk_at dksJ13_copyOf_2_1 0 rfl rfl)
theorem dJ13_copyOf_2_25 : decode cJ13_copyOf_2 25 = .ok (.aload_n 0, 1) := dk_42 (dk_at dksJ13_copyOf_2_1 1 rfl rfl)
theorem dJ13_copyOf_2_26 : decode cJ13_copyOf_2 26 = .ok (.iconst 0, 1) := dk_3 (dk_at dksJ13_copyOf_2_1 2 rfl rfl)
theorem dJ13_copyOf_2_27 : decode cJ13_copyOf_2 27 = .ok (.aload_n 3, 1) := dk_45 (dk_at dksJ13_copyOf_2_1 3 rfl rfl)
theorem dJ13_copyOf_2_28 : decode cJ13_copyOf_2 28 = .ok (.iconst 0, 1) := dk_3 (dk_at dksJ13_copyOf_2_1 4 rfl rfl)
theorem dJ13_copyOf_2_29 : decode cJ13_copyOf_2 29 = .ok (.aload_n 0, 1) := dk_42 (dk_at dksJ13_copyOf_2_1 5 rfl rfl)
theorem dJ13_copyOf_2_30 : decode cJ13_copyOf_2 30 = .ok (.arraylength, 1) := dk_190 (dk_at dksJ13_copyOf_2_1 6 rfl rfl)
theorem dJ13_copyOf_2_31 : decode cJ13_copyOf_2 31 = .ok (.iload_n 1, 1) := dk_27 (dk_at dksJ13_copyOf_2_1 7 rfl rfl)
theorem dJ13_copyOf_2_32 : decode cJ13_copyOf_2 32 = .ok (.invokestatic 304, 3) := dk_184 1 48 (dk_at dksJ13_copyOf_2_1 8 rfl rfl)
theorem dJ13_copyOf_2_35 : decode cJ13_copyOf_2 35 = .ok (.invokestatic 150, 3) := dk_184 0 150 (dk_at dksJ13_copyOf_2_1 11 rfl rfl)
theorem dJ13_copyOf_2_38 : decode cJ13_copyOf_2 38 = .ok (.aload_n 3, 1) := dk_45 (dk_at dksJ13_copyOf_2_1 14 rfl rfl)
theorem dJ13_copyOf_2_39 : decode cJ13_copyOf_2 39 = .ok (.areturn, 1) := dk_176 (dk_at dksJ13_copyOf_2_1 15 rfl rfl)
set_option maxRecDepth 100000
abbrev cJ14_bitCount : ByteArray := prog_26_method_49_code
def yJ14_bitCount : MethodName := ⟨RJ14, "bitCount", "(I)I"⟩
def dkwJ14_bitCount_2 : List UInt8 := [26, 16, 63, 126, 172]
abbrev dktJ14_bitCount_2 : List UInt8 := dkwJ14_bitCount_2 ++ []
def dkwJ14_bitCount_1 : List UInt8 := [26, 26, 7, 124, 96, 19, 1, 11, 126, 59, 26, 26, 16, 8, 124, 96, 59, 26, 26, 16, 16, 124, 96, 59]
abbrev dktJ14_bitCount_1 : List UInt8 := dkwJ14_bitCount_1 ++ dktJ14_bitCount_2
def dkwJ14_bitCount_0 : List UInt8 := [26, 26, 4, 124, 19, 1, 9, 126, 100, 59, 26, 19, 1, 10, 126, 26, 5, 124, 19, 1, 10, 126, 96, 59]
abbrev dktJ14_bitCount_0 : List UInt8 := dkwJ14_bitCount_0 ++ dktJ14_bitCount_1
theorem dksJ14_bitCount_0 : cJ14_bitCount.data.toList.drop 0 = dktJ14_bitCount_0 := by decide +kernel
theorem dksJ14_bitCount_1 : cJ14_bitCount.data.toList.drop 24 = dktJ14_bitCount_1 := dk_seg dksJ14_bitCount_0 24 rfl rfl
theorem dksJ14_bitCount_2 : cJ14_bitCount.data.toList.drop 48 = dktJ14_bitCount_2 := dk_seg dksJ14_bitCount_1 24 rfl rfl
theorem dJ14_bitCount_0 : decode cJ14_bitCount 0 = .ok (.iload_n 0, 1) := dk_26 (dk_at dksJ14_bitCount_0 0 rfl rfl)
theorem dJ14_bitCount_1 : decode cJ14_bitCount 1 = .ok (.iload_n 0, 1) := dk_26 (dk_at dksJ14_bitCount_0 1 rfl rfl)
theorem dJ14_bitCount_2 : decode cJ14_bitCount 2 = .ok (.iconst 1, 1) := dk_4 (dk_at dksJ14_bitCount_0 2 rfl rfl)
theorem dJ14_bitCount_3 : decode cJ14_bitCount 3 = .ok (.iushr, 1) := dk_124 (dk_at dksJ14_bitCount_0 3 rfl rfl)
theorem dJ14_bitCount_4 : decode cJ14_bitCount 4 = .ok (.ldc_w 265, 3) := dk_19 1 9 (dk_at dksJ14_bitCount_0 4 rfl rfl)
theorem dJ14_bitCount_7 : decode cJ14_bitCount 7 = .ok (.iand, 1) := dk_126 (dk_at dksJ14_bitCount_0 7 rfl rfl)
theorem dJ14_bitCount_8 : decode cJ14_bitCount 8 = .ok (.isub, 1) := dk_100 (dk_at dksJ14_bitCount_0 8 rfl rfl)
theorem dJ14_bitCount_9 : decode cJ14_bitCount 9 = .ok (.istore_n 0, 1) := dk_59 (dk_at dksJ14_bitCount_0 9 rfl rfl)
theorem dJ14_bitCount_10 : decode cJ14_bitCount 10 = .ok (.iload_n 0, 1) := dk_26 (dk_at dksJ14_bitCount_0 10 rfl rfl)
theorem dJ14_bitCount_11 : decode cJ14_bitCount 11 = .ok (.ldc_w 266, 3) := dk_19 1 10 (dk_at dksJ14_bitCount_0 11 rfl rfl)
theorem dJ14_bitCount_14 : decode cJ14_bitCount 14 = .ok (.iand, 1) := dk_126 (dk_at dksJ14_bitCount_0 14 rfl rfl)
theorem dJ14_bitCount_15 : decode cJ14_bitCount 15 = .ok (.iload_n 0, 1) := dk_26 (dk_at dksJ14_bitCount_0 15 rfl rfl)
theorem dJ14_bitCount_16 : decode cJ14_bitCount 16 = .ok (.iconst 2, 1) := dk_5 (dk_at dksJ14_bitCount_0 16 rfl rfl)
theorem dJ14_bitCount_17 : decode cJ14_bitCount 17 = .ok (.iushr, 1) := dk_124 (dk_at dksJ14_bitCount_0 17 rfl rfl)
theorem dJ14_bitCount_18 : decode cJ14_bitCount 18 = .ok (.ldc_w 266, 3) := dk_19 1 10 (dk_at dksJ14_bitCount_0 18 rfl rfl)
theorem dJ14_bitCount_21 : decode cJ14_bitCount 21 = .ok (.iand, 1) := dk_126 (dk_at dksJ14_bitCount_0 21 rfl rfl)
theorem dJ14_bitCount_22 : decode cJ14_bitCount 22 = .ok (.iadd, 1) := dk_96 (dk_at dksJ14_bitCount_0 22 rfl rfl)
theorem dJ14_bitCount_23 : decode cJ14_bitCount 23 = .ok (.istore_n 0, 1) := dk_59 (dk_at dksJ14_bitCount_0 23 rfl rfl)
theorem dJ14_bitCount_24 : decode cJ14_bitCount 24 = .ok (.iload_n 0, 1) := dk_26 (dk_at dksJ14_bitCount_1 0 rfl rfl)
theorem dJ14_bitCount_25 : decode cJ14_bitCount 25 = .ok (.iload_n 0, 1) := dk_26 (dk_at dksJ14_bitCount_1 1 rfl rfl)
theorem dJ14_bitCount_26 : decode cJ14_bitCount 26 = .ok (.iconst 4, 1) := dk_7 (dk_at dksJ14_bitCount_1 2 rfl rfl)
theorem dJ14_bitCount_27 : decode cJ14_bitCount 27 = .ok (.iushr, 1) := dk_124 (dk_at dksJ14_bitCount_1 3 rfl rfl)
theorem dJ14_bitCount_28 : decode cJ14_bitCount 28 = .ok (.iadd, 1) := dk_96 (dk_at dksJ14_bitCount_1 4 rfl rfl)
theorem dJ14_bitCount_29 : decode cJ14_bitCount 29 = .ok (.ldc_w 267, 3) := dk_19 1 11 (dk_at dksJ14_bitCount_1 5 rfl rfl)
theorem dJ14_bitCount_32 : decode cJ14_bitCount 32 = .ok (.iand, 1) := dk_126 (dk_at dksJ14_bitCount_1 8 rfl rfl)
theorem dJ14_bitCount_33 : decode cJ14_bitCount 33 = .ok (.istore_n 0, 1) := dk_59 (dk_at dksJ14_bitCount_1 9 rfl rfl)
theorem dJ14_bitCount_34 : decode cJ14_bitCount 34 = .ok (.iload_n 0, 1) := dk_26 (dk_at dksJ14_bitCount_1 10 rfl rfl)
theorem dJ14_bitCount_35 : decode cJ14_bitCount 35 = .ok (.iload_n 0, 1) := dk_26 (dk_at dksJ14_bitCount_1 11 rfl rfl)
theorem dJ14_bitCount_36 : decode cJ14_bitCount 36 = .ok (.bipush 8, 2) := dk_16 8 (dk_at dksJ14_bitCount_1 12 rfl rfl)
theorem dJ14_bitCount_38 : decode cJ14_bitCount 38 = .ok (.iushr, 1) := dk_124 (dk_at dksJ14_bitCount_1 14 rfl rfl)
theorem dJ14_bitCount_39 : decode cJ14_bitCount 39 = .ok (.iadd, 1) := dk_96 (dk_at dksJ14_bitCount_1 15 rfl rfl)
theorem dJ14_bitCount_40 : decode cJ14_bitCount 40 = .ok (.istore_n 0, 1) := dk_59 (dk_at dksJ14_bitCount_1 16 rfl rfl)
theorem dJ14_bitCount_41 : decode cJ14_bitCount 41 = .ok (.iload_n 0, 1) := dk_26 (dk_at dksJ14_bitCount_1 17 rfl rfl)
theorem dJ14_bitCount_42 : decode cJ14_bitCount 42 = .ok (.iload_n 0, 1) := dk_26 (dk_at dksJ14_bitCount_1 18 rfl rfl)
theorem dJ14_bitCount_43 : decode cJ14_bitCount 43 = .ok (.bipush 16, 2) := dk_16 16 (dk_at dksJ14_bitCount_1 19 rfl rfl)
theorem dJ14_bitCount_45 : decode cJ14_bitCount 45 = .ok (.iushr, 1) := dk_124 (dk_at dksJ14_bitCount_1 21 rfl rfl)
theorem dJ14_bitCount_46 : decode cJ14_bitCount 46 = .ok (.iadd, 1) := dk_96 (dk_at dksJ14_bitCount_1 22 rfl rfl)
theorem dJ14_bitCount_47 : decode cJ14_bitCount 47 = .ok (.istore_n 0, 1) := dk_59 (dk_at dksJ14_bitCount_1 23 rfl rfl)
theorem dJ14_bitCount_48 : decode cJ14_bitCount 48 = .ok (.iload_n 0, 1) := dk_26 (dk_at dksJ14_bitCount_2 0 rfl rfl)
theorem dJ14_bitCount_49 : decode cJ14_bitCount 49 = .ok (.bipush 63, 2) := dk_16 63 (dk_at dksJ14_bitCount_2 1 rfl rfl)
theorem dJ14_bitCount_51 : decode cJ14_bitCount 51 = .ok (.iand, 1) := dk_126 (dk_at dksJ14_bitCount_2 3 rfl rfl)
theorem dJ14_bitCount_52 : decode cJ14_bitCount 52 = .ok (.ireturn, 1) := dk_172 (dk_at dksJ14_bitCount_2 4 rfl rfl)
abbrev cJ14_lowestOneBit : ByteArray := prog_26_method_46_code
def yJ14_lowestOneBit : MethodName := ⟨RJ14, "lowestOneBit", "(I)I"⟩
def dkwJ14_lowestOneBit_0 : List UInt8 := [26, 26, 116, 126, 172]
abbrev dktJ14_lowestOneBit_0 : List UInt8 := dkwJ14_lowestOneBit_0 ++ []
theorem dksJ14_lowestOneBit_0 : cJ14_lowestOneBit.data.toList.drop 0 = dktJ14_lowestOneBit_0 := by decide +kernel
theorem dJ14_lowestOneBit_0 : decode cJ14_lowestOneBit 0 = .ok (.iload_n 0, 1) := dk_26 (dk_at dksJ14_lowestOneBit_0 0 rfl rfl)
theorem dJ14_lowestOneBit_1 : decode cJ14_lowestOneBit 1 = .ok (.iload_n 0, 1) := dk_26 (dk_at dksJ14_lowestOneBit_0 1 rfl rfl)
theorem dJ14_lowestOneBit_2 : decode cJ14_lowestOneBit 2 = .ok (.ineg, 1) := dk_116 (dk_at dksJ14_lowestOneBit_0 2 rfl rfl)
theorem dJ14_lowestOneBit_3 : decode cJ14_lowestOneBit 3 = .ok (.iand, 1) := dk_126 (dk_at dksJ14_lowestOneBit_0 3 rfl rfl)
theorem dJ14_lowestOneBit_4 : decode cJ14_lowestOneBit 4 = .ok (.ireturn, 1) := dk_172 (dk_at dksJ14_lowestOneBit_0 4 rfl rfl)
set_option maxRecDepth 100000
abbrev cJ15_init : ByteArray := object_method_1_code
def yJ15_init : MethodName := ⟨RJ15, "<init>", "()V"⟩
theorem dJ15_init_0 : decode cJ15_init 0 = .ok (.return_, 1) := by decide +kernel
