set_option maxRecDepth 100000
abbrev cX0_addBracket : ByteArray := prog_1_method_66_code
def yX0_addBracket : MethodName := ⟨RX0, "addBracket", "(II)V"⟩
def dkwX0_addBracket_2 : List UInt8 := [182, 2, 21, 177]
abbrev dktX0_addBracket_2 : List UInt8 := dkwX0_addBracket_2 ++ []
def dkwX0_addBracket_1 : List UInt8 := [132, 3, 1, 167, 255, 232, 42, 27, 42, 180, 1, 253, 28, 46, 3, 42, 180, 2, 9, 28, 46, 6]
abbrev dktX0_addBracket_1 : List UInt8 := dkwX0_addBracket_1 ++ dktX0_addBracket_2
def dkwX0_addBracket_0 : List UInt8 := [3, 62, 29, 6, 162, 0, 25, 42, 180, 2, 15, 29, 42, 180, 2, 12, 6, 28, 104, 29, 96, 46, 79]
abbrev dktX0_addBracket_0 : List UInt8 := dkwX0_addBracket_0 ++ dktX0_addBracket_1
theorem dksX0_addBracket_0 : cX0_addBracket.data.toList.drop 0 = dktX0_addBracket_0 := by decide +kernel
theorem dksX0_addBracket_1 : cX0_addBracket.data.toList.drop 23 = dktX0_addBracket_1 := dk_seg dksX0_addBracket_0 23 rfl rfl
theorem dksX0_addBracket_2 : cX0_addBracket.data.toList.drop 45 = dktX0_addBracket_2 := dk_seg dksX0_addBracket_1 22 rfl rfl
theorem dX0_addBracket_0 : decode cX0_addBracket 0 = .ok (.iconst 0, 1) := dk_3 (dk_at dksX0_addBracket_0 0 rfl rfl)
theorem dX0_addBracket_1 : decode cX0_addBracket 1 = .ok (.istore_n 3, 1) := dk_62 (dk_at dksX0_addBracket_0 1 rfl rfl)
theorem dX0_addBracket_2 : decode cX0_addBracket 2 = .ok (.iload_n 3, 1) := dk_29 (dk_at dksX0_addBracket_0 2 rfl rfl)
theorem dX0_addBracket_3 : decode cX0_addBracket 3 = .ok (.iconst 3, 1) := dk_6 (dk_at dksX0_addBracket_0 3 rfl rfl)
theorem dX0_addBracket_4 : decode cX0_addBracket 4 = .ok (.if_icmp .ge 25, 3) := dk_162 0 25 (dk_at dksX0_addBracket_0 4 rfl rfl)
theorem dX0_addBracket_7 : decode cX0_addBracket 7 = .ok (.aload_n 0, 1) := dk_42 (dk_at dksX0_addBracket_0 7 rfl rfl)
theorem dX0_addBracket_8 : decode cX0_addBracket 8 = .ok (.getfield 527, 3) := dk_180 2 15 (dk_at dksX0_addBracket_0 8 rfl rfl)
theorem dX0_addBracket_11 : decode cX0_addBracket 11 = .ok (.iload_n 3, 1) := dk_29 (dk_at dksX0_addBracket_0 11 rfl rfl)
theorem dX0_addBracket_12 : decode cX0_addBracket 12 = .ok (.aload_n 0, 1) := dk_42 (dk_at dksX0_addBracket_0 12 rfl rfl)
theorem dX0_addBracket_13 : decode cX0_addBracket 13 = .ok (.getfield 524, 3) := dk_180 2 12 (dk_at dksX0_addBracket_0 13 rfl rfl)
theorem dX0_addBracket_16 : decode cX0_addBracket 16 = .ok (.iconst 3, 1) := dk_6 (dk_at dksX0_addBracket_0 16 rfl rfl)
theorem dX0_addBracket_17 : decode cX0_addBracket 17 = .ok (.iload_n 2, 1) := dk_28 (dk_at dksX0_addBracket_0 17 rfl rfl)
theorem dX0_addBracket_18 : decode cX0_addBracket 18 = .ok (.imul, 1) := dk_104 (dk_at dksX0_addBracket_0 18 rfl rfl)
theorem dX0_addBracket_19 : decode cX0_addBracket 19 = .ok (.iload_n 3, 1) := dk_29 (dk_at dksX0_addBracket_0 19 rfl rfl)
theorem dX0_addBracket_20 : decode cX0_addBracket 20 = .ok (.iadd, 1) := dk_96 (dk_at dksX0_addBracket_0 20 rfl rfl)
theorem dX0_addBracket_21 : decode cX0_addBracket 21 = .ok (.iaload, 1) := dk_46 (dk_at dksX0_addBracket_0 21 rfl rfl)
theorem dX0_addBracket_22 : decode cX0_addBracket 22 = .ok (.iastore, 1) := dk_79 (dk_at dksX0_addBracket_0 22 rfl rfl)
theorem dX0_addBracket_23 : decode cX0_addBracket 23 = .ok (.iinc 3 1, 3) := dk_132 3 1 (dk_at dksX0_addBracket_1 0 rfl rfl)
theorem dX0_addBracket_26 : decode cX0_addBracket 26 = .ok (.goto (-24), 3) := dk_167 255 232 (dk_at dksX0_addBracket_1 3 rfl rfl)
theorem dX0_addBracket_29 : decode cX0_addBracket 29 = .ok (.aload_n 0, 1) := dk_42 (dk_at dksX0_addBracket_1 6 rfl rfl)
theorem dX0_addBracket_30 : decode cX0_addBracket 30 = .ok (.iload_n 1, 1) := dk_27 (dk_at dksX0_addBracket_1 7 rfl rfl)
theorem dX0_addBracket_31 : decode cX0_addBracket 31 = .ok (.aload_n 0, 1) := dk_42 (dk_at dksX0_addBracket_1 8 rfl rfl)
theorem dX0_addBracket_32 : decode cX0_addBracket 32 = .ok (.getfield 509, 3) := dk_180 1 253 (dk_at dksX0_addBracket_1 9 rfl rfl)
theorem dX0_addBracket_35 : decode cX0_addBracket 35 = .ok (.iload_n 2, 1) := dk_28 (dk_at dksX0_addBracket_1 12 rfl rfl)
theorem dX0_addBracket_36 : decode cX0_addBracket 36 = .ok (.iaload, 1) := dk_46 (dk_at dksX0_addBracket_1 13 rfl rfl)
theorem dX0_addBracket_37 : decode cX0_addBracket 37 = .ok (.iconst 0, 1) := dk_3 (dk_at dksX0_addBracket_1 14 rfl rfl)
theorem dX0_addBracket_38 : decode cX0_addBracket 38 = .ok (.aload_n 0, 1) := dk_42 (dk_at dksX0_addBracket_1 15 rfl rfl)
theorem dX0_addBracket_39 : decode cX0_addBracket 39 = .ok (.getfield 521, 3) := dk_180 2 9 (dk_at dksX0_addBracket_1 16 rfl rfl)
theorem dX0_addBracket_42 : decode cX0_addBracket 42 = .ok (.iload_n 2, 1) := dk_28 (dk_at dksX0_addBracket_1 19 rfl rfl)
theorem dX0_addBracket_43 : decode cX0_addBracket 43 = .ok (.iaload, 1) := dk_46 (dk_at dksX0_addBracket_1 20 rfl rfl)
theorem dX0_addBracket_44 : decode cX0_addBracket 44 = .ok (.iconst 3, 1) := dk_6 (dk_at dksX0_addBracket_1 21 rfl rfl)
theorem dX0_addBracket_45 : decode cX0_addBracket 45 = .ok (.invokevirtual 533, 3) := dk_182 2 21 (dk_at dksX0_addBracket_2 0 rfl rfl)
theorem dX0_addBracket_48 : decode cX0_addBracket 48 = .ok (.return_, 1) := dk_177 (dk_at dksX0_addBracket_2 3 rfl rfl)
abbrev cX0_fit : ByteArray := prog_1_method_63_code
def yX0_fit : MethodName := ⟨RX0, "fit", "(IIIIII)V"⟩
def dkwX0_fit_12 : List UInt8 := [21, 6, 182, 2, 28, 42, 180, 2, 3, 21, 14, 46, 54, 14, 167, 255, 174, 132, 12, 1, 167, 255, 141, 177]
abbrev dktX0_fit_12 : List UInt8 := dkwX0_fit_12 ++ []
def dkwX0_fit_11 : List UInt8 := [132, 13, 1, 42, 180, 2, 15, 29, 21, 14, 79, 42, 27, 28, 4, 96, 29, 4, 96, 21, 12, 21, 5]
abbrev dktX0_fit_11 : List UInt8 := dkwX0_fit_11 ++ dktX0_fit_12
def dkwX0_fit_10 : List UInt8 := [160, 0, 51, 42, 180, 2, 0, 21, 14, 46, 42, 180, 1, 238, 6, 27, 104, 29, 96, 46, 163, 0, 31]
abbrev dktX0_fit_10 : List UInt8 := dkwX0_fit_10 ++ dktX0_fit_11
def dkwX0_fit_9 : List UInt8 := [21, 14, 16, 254, 159, 0, 81, 21, 13, 5, 162, 0, 75, 42, 180, 1, 253, 21, 14, 46, 21, 9]
abbrev dktX0_fit_9 : List UInt8 := dkwX0_fit_9 ++ dktX0_fit_10
def dkwX0_fit_8 : List UInt8 := [21, 10, 100, 163, 0, 111, 3, 54, 13, 42, 180, 1, 250, 21, 4, 21, 12, 184, 2, 35, 46, 54, 14]
abbrev dktX0_fit_8 : List UInt8 := dkwX0_fit_8 ++ dktX0_fit_9
def dkwX0_fit_7 : List UInt8 := [21, 4, 4, 96, 184, 2, 32, 167, 0, 7, 21, 4, 4, 96, 54, 11, 21, 11, 54, 12, 21, 12, 21, 5]
abbrev dktX0_fit_7 : List UInt8 := dkwX0_fit_7 ++ dktX0_fit_8
def dkwX0_fit_6 : List UInt8 := [46, 46, 54, 9, 42, 180, 1, 162, 21, 7, 46, 4, 100, 28, 100, 54, 10, 21, 10, 154, 0, 15, 21, 5]
abbrev dktX0_fit_6 : List UInt8 := dkwX0_fit_6 ++ dktX0_fit_7
def dkwX0_fit_5 : List UInt8 := [4, 96, 21, 5, 21, 6, 182, 2, 28, 177, 42, 180, 1, 145, 42, 180, 1, 189, 6, 21, 7, 104, 29, 96]
abbrev dktX0_fit_5 : List UInt8 := dkwX0_fit_5 ++ dktX0_fit_6
def dkwX0_fit_4 : List UInt8 := [180, 0, 117, 42, 180, 2, 25, 21, 4, 96, 46, 21, 8, 160, 0, 20, 42, 27, 28, 4, 96, 29, 21, 4]
abbrev dktX0_fit_4 : List UInt8 := dkwX0_fit_4 ++ dktX0_fit_5
def dkwX0_fit_3 : List UInt8 := [21, 7, 104, 28, 96, 46, 54, 8, 21, 8, 2, 159, 0, 45, 21, 4, 21, 5, 162, 0, 37, 42]
abbrev dktX0_fit_3 : List UInt8 := dkwX0_fit_3 ++ dktX0_fit_4
def dkwX0_fit_2 : List UInt8 := [27, 46, 27, 29, 182, 2, 21, 42, 89, 180, 2, 18, 4, 96, 181, 2, 18, 177, 42, 180, 1, 165, 16, 12]
abbrev dktX0_fit_2 : List UInt8 := dkwX0_fit_2 ++ dktX0_fit_3
def dkwX0_fit_1 : List UInt8 := [46, 160, 0, 41, 21, 4, 21, 5, 160, 0, 33, 42, 21, 6, 42, 180, 1, 223, 27, 46, 42, 180, 1, 226]
abbrev dktX0_fit_1 : List UInt8 := dkwX0_fit_1 ++ dktX0_fit_2
def dkwX0_fit_0 : List UInt8 := [42, 180, 1, 204, 27, 46, 54, 7, 42, 180, 2, 18, 4, 164, 0, 4, 177, 28, 42, 180, 1, 162, 21, 7]
abbrev dktX0_fit_0 : List UInt8 := dkwX0_fit_0 ++ dktX0_fit_1
theorem dksX0_fit_0 : cX0_fit.data.toList.drop 0 = dktX0_fit_0 := by decide +kernel
theorem dksX0_fit_1 : cX0_fit.data.toList.drop 24 = dktX0_fit_1 := dk_seg dksX0_fit_0 24 rfl rfl
theorem dksX0_fit_2 : cX0_fit.data.toList.drop 48 = dktX0_fit_2 := dk_seg dksX0_fit_1 24 rfl rfl
theorem dksX0_fit_3 : cX0_fit.data.toList.drop 72 = dktX0_fit_3 := dk_seg dksX0_fit_2 24 rfl rfl
theorem dksX0_fit_4 : cX0_fit.data.toList.drop 94 = dktX0_fit_4 := dk_seg dksX0_fit_3 22 rfl rfl
theorem dksX0_fit_5 : cX0_fit.data.toList.drop 118 = dktX0_fit_5 := dk_seg dksX0_fit_4 24 rfl rfl
theorem dksX0_fit_6 : cX0_fit.data.toList.drop 142 = dktX0_fit_6 := dk_seg dksX0_fit_5 24 rfl rfl
theorem dksX0_fit_7 : cX0_fit.data.toList.drop 166 = dktX0_fit_7 := dk_seg dksX0_fit_6 24 rfl rfl
theorem dksX0_fit_8 : cX0_fit.data.toList.drop 190 = dktX0_fit_8 := dk_seg dksX0_fit_7 24 rfl rfl
theorem dksX0_fit_9 : cX0_fit.data.toList.drop 213 = dktX0_fit_9 := dk_seg dksX0_fit_8 23 rfl rfl
theorem dksX0_fit_10 : cX0_fit.data.toList.drop 235 = dktX0_fit_10 := dk_seg dksX0_fit_9 22 rfl rfl
theorem dksX0_fit_11 : cX0_fit.data.toList.drop 258 = dktX0_fit_11 := dk_seg dksX0_fit_10 23 rfl rfl
theorem dksX0_fit_12 : cX0_fit.data.toList.drop 281 = dktX0_fit_12 := dk_seg dksX0_fit_11 23 rfl rfl
theorem dX0_fit_0 : decode cX0_fit 0 = .ok (.aload_n 0, 1) := dk_42 (dk_at dksX0_fit_0 0 rfl rfl)
theorem dX0_fit_1 : decode cX0_fit 1 = .ok (.getfield 460, 3) := dk_180 1 204 (dk_at dksX0_fit_0 1 rfl rfl)
theorem dX0_fit_4 : decode cX0_fit 4 = .ok (.iload_n 1, 1) := dk_27 (dk_at dksX0_fit_0 4 rfl rfl)
theorem dX0_fit_5 : decode cX0_fit 5 = .ok (.iaload, 1) := dk_46 (dk_at dksX0_fit_0 5 rfl rfl)
theorem dX0_fit_6 : decode cX0_fit 6 = .ok (.istore 7, 2) := dk_54 7 (dk_at dksX0_fit_0 6 rfl rfl)
theorem dX0_fit_8 : decode cX0_fit 8 = .ok (.aload_n 0, 1) := dk_42 (dk_at dksX0_fit_0 8 rfl rfl)
theorem dX0_fit_9 : decode cX0_fit 9 = .ok (.getfield 530, 3) := dk_180 2 18 (dk_at dksX0_fit_0 9 rfl rfl)
theorem dX0_fit_12 : decode cX0_fit 12 = .ok (.iconst 1, 1) := dk_4 (dk_at dksX0_fit_0 12 rfl rfl)
theorem dX0_fit_13 : decode cX0_fit 13 = .ok (.if_icmp .le 4, 3) := dk_164 0 4 (dk_at dksX0_fit_0 13 rfl rfl)
theorem dX0_fit_16 : decode cX0_fit 16 = .ok (.return_, 1) := dk_177 (dk_at dksX0_fit_0 16 rfl rfl)
theorem dX0_fit_17 : decode cX0_fit 17 = .ok (.iload_n 2, 1) := dk_28 (dk_at dksX0_fit_0 17 rfl rfl)
theorem dX0_fit_18 : decode cX0_fit 18 = .ok (.aload_n 0, 1) := dk_42 (dk_at dksX0_fit_0 18 rfl rfl)
theorem dX0_fit_19 : decode cX0_fit 19 = .ok (.getfield 418, 3) := dk_180 1 162 (dk_at dksX0_fit_0 19 rfl rfl)
theorem dX0_fit_22 : decode cX0_fit 22 = .ok (.iload 7, 2) := dk_21 7 (dk_at dksX0_fit_0 22 rfl rfl)
theorem dX0_fit_24 : decode cX0_fit 24 = .ok (.iaload, 1) := dk_46 (dk_at dksX0_fit_1 0 rfl rfl)
theorem dX0_fit_25 : decode cX0_fit 25 = .ok (.if_icmp .ne 41, 3) := dk_160 0 41 (dk_at dksX0_fit_1 1 rfl rfl)
theorem dX0_fit_28 : decode cX0_fit 28 = .ok (.iload 4, 2) := dk_21 4 (dk_at dksX0_fit_1 4 rfl rfl)
theorem dX0_fit_30 : decode cX0_fit 30 = .ok (.iload 5, 2) := dk_21 5 (dk_at dksX0_fit_1 6 rfl rfl)
theorem dX0_fit_32 : decode cX0_fit 32 = .ok (.if_icmp .ne 33, 3) := dk_160 0 33 (dk_at dksX0_fit_1 8 rfl rfl)
theorem dX0_fit_35 : decode cX0_fit 35 = .ok (.aload_n 0, 1) := dk_42 (dk_at dksX0_fit_1 11 rfl rfl)
theorem dX0_fit_36 : decode cX0_fit 36 = .ok (.iload 6, 2) := dk_21 6 (dk_at dksX0_fit_1 12 rfl rfl)
theorem dX0_fit_38 : decode cX0_fit 38 = .ok (.aload_n 0, 1) := dk_42 (dk_at dksX0_fit_1 14 rfl rfl)
theorem dX0_fit_39 : decode cX0_fit 39 = .ok (.getfield 479, 3) := dk_180 1 223 (dk_at dksX0_fit_1 15 rfl rfl)
theorem dX0_fit_42 : decode cX0_fit 42 = .ok (.iload_n 1, 1) := dk_27 (dk_at dksX0_fit_1 18 rfl rfl)
theorem dX0_fit_43 : decode cX0_fit 43 = .ok (.iaload, 1) := dk_46 (dk_at dksX0_fit_1 19 rfl rfl)
theorem dX0_fit_44 : decode cX0_fit 44 = .ok (.aload_n 0, 1) := dk_42 (dk_at dksX0_fit_1 20 rfl rfl)
theorem dX0_fit_45 : decode cX0_fit 45 = .ok (.getfield 482, 3) := dk_180 1 226 (dk_at dksX0_fit_1 21 rfl rfl)
theorem dX0_fit_48 : decode cX0_fit 48 = .ok (.iload_n 1, 1) := dk_27 (dk_at dksX0_fit_2 0 rfl rfl)
theorem dX0_fit_49 : decode cX0_fit 49 = .ok (.iaload, 1) := dk_46 (dk_at dksX0_fit_2 1 rfl rfl)
theorem dX0_fit_50 : decode cX0_fit 50 = .ok (.iload_n 1, 1) := dk_27 (dk_at dksX0_fit_2 2 rfl rfl)
theorem dX0_fit_51 : decode cX0_fit 51 = .ok (.iload_n 3, 1) := dk_29 (dk_at dksX0_fit_2 3 rfl rfl)
theorem dX0_fit_52 : decode cX0_fit 52 = .ok (.invokevirtual 533, 3) := dk_182 2 21 (dk_at dksX0_fit_2 4 rfl rfl)
theorem dX0_fit_55 : decode cX0_fit 55 = .ok (.aload_n 0, 1) := dk_42 (dk_at dksX0_fit_2 7 rfl rfl)
theorem dX0_fit_56 : decode cX0_fit 56 = .ok (.dup, 1) := dk_89 (dk_at dksX0_fit_2 8 rfl rfl)
theorem dX0_fit_57 : decode cX0_fit 57 = .ok (.getfield 530, 3) := dk_180 2 18 (dk_at dksX0_fit_2 9 rfl rfl)
theorem dX0_fit_60 : decode cX0_fit 60 = .ok (.iconst 1, 1) := dk_4 (dk_at dksX0_fit_2 12 rfl rfl)
theorem dX0_fit_61 : decode cX0_fit 61 = .ok (.iadd, 1) := dk_96 (dk_at dksX0_fit_2 13 rfl rfl)
theorem dX0_fit_62 : decode cX0_fit 62 = .ok (.putfield 530, 3) := dk_181 2 18 (dk_at dksX0_fit_2 14 rfl rfl)
theorem dX0_fit_65 : decode cX0_fit 65 = .ok (.return_, 1) := dk_177 (dk_at dksX0_fit_2 17 rfl rfl)
theorem dX0_fit_66 : decode cX0_fit 66 = .ok (.aload_n 0, 1) := dk_42 (dk_at dksX0_fit_2 18 rfl rfl)
theorem dX0_fit_67 : decode cX0_fit 67 = .ok (.getfield 421, 3) := dk_180 1 165 (dk_at dksX0_fit_2 19 rfl rfl)
theorem dX0_fit_70 : decode cX0_fit 70 = .ok (.bipush 12, 2) := dk_16 12 (dk_at dksX0_fit_2 22 rfl rfl)
theorem dX0_fit_72 : decode cX0_fit 72 = .ok (.iload 7, 2) := dk_21 7 (dk_at dksX0_fit_3 0 rfl rfl)
theorem dX0_fit_74 : decode cX0_fit 74 = .ok (.imul, 1) := dk_104 (dk_at dksX0_fit_3 2 rfl rfl)
theorem dX0_fit_75 : decode cX0_fit 75 = .ok (.iload_n 2, 1) := dk_28 (dk_at dksX0_fit_3 3 rfl rfl)
theorem dX0_fit_76 : decode cX0_fit 76 = .ok (.iadd, 1) := dk_96 (dk_at dksX0_fit_3 4 rfl rfl)
theorem dX0_fit_77 : decode cX0_fit 77 = .ok (.iaload, 1) := dk_46 (dk_at dksX0_fit_3 5 rfl rfl)
theorem dX0_fit_78 : decode cX0_fit 78 = .ok (.istore 8, 2) := dk_54 8 (dk_at dksX0_fit_3 6 rfl rfl)
theorem dX0_fit_80 : decode cX0_fit 80 = .ok (.iload 8, 2) := dk_21 8 (dk_at dksX0_fit_3 8 rfl rfl)
theorem dX0_fit_82 : decode cX0_fit 82 = .ok (.iconst (-1), 1) := dk_2 (dk_at dksX0_fit_3 10 rfl rfl)
theorem dX0_fit_83 : decode cX0_fit 83 = .ok (.if_icmp .eq 45, 3) := dk_159 0 45 (dk_at dksX0_fit_3 11 rfl rfl)
theorem dX0_fit_86 : decode cX0_fit 86 = .ok (.iload 4, 2) := dk_21 4 (dk_at dksX0_fit_3 14 rfl rfl)
theorem dX0_fit_88 : decode cX0_fit 88 = .ok (.iload 5, 2) := dk_21 5 (dk_at dksX0_fit_3 16 rfl rfl)
theorem dX0_fit_90 : decode cX0_fit 90 = .ok (.if_icmp .ge 37, 3) := dk_162 0 37 (dk_at dksX0_fit_3 18 rfl rfl)
theorem dX0_fit_93 : decode cX0_fit 93 = .ok (.aload_n 0, 1) := dk_42 (dk_at dksX0_fit_3 21 rfl rfl)
theorem dX0_fit_94 : decode cX0_fit 94 = .ok (.getfield 117, 3) := dk_180 0 117 (dk_at dksX0_fit_4 0 rfl rfl)
theorem dX0_fit_97 : decode cX0_fit 97 = .ok (.aload_n 0, 1) := dk_42 (dk_at dksX0_fit_4 3 rfl rfl)
theorem dX0_fit_98 : decode cX0_fit 98 = .ok (.getfield 537, 3) := dk_180 2 25 (dk_at dksX0_fit_4 4 rfl rfl)
theorem dX0_fit_101 : decode cX0_fit 101 = .ok (.iload 4, 2) := dk_21 4 (dk_at dksX0_fit_4 7 rfl rfl)
theorem dX0_fit_103 : decode cX0_fit 103 = .ok (.iadd, 1) := dk_96 (dk_at dksX0_fit_4 9 rfl rfl)
theorem dX0_fit_104 : decode cX0_fit 104 = .ok (.iaload, 1) := dk_46 (dk_at dksX0_fit_4 10 rfl rfl)
theorem dX0_fit_105 : decode cX0_fit 105 = .ok (.iload 8, 2) := dk_21 8 (dk_at dksX0_fit_4 11 rfl rfl)
theorem dX0_fit_107 : decode cX0_fit 107 = .ok (.if_icmp .ne 20, 3) := dk_160 0 20 (dk_at dksX0_fit_4 13 rfl rfl)
theorem dX0_fit_110 : decode cX0_fit 110 = .ok (.aload_n 0, 1) := dk_42 (dk_at dksX0_fit_4 16 rfl rfl)
theorem dX0_fit_111 : decode cX0_fit 111 = .ok (.iload_n 1, 1) := dk_27 (dk_at dksX0_fit_4 17 rfl rfl)
theorem dX0_fit_112 : decode cX0_fit 112 = .ok (.iload_n 2, 1) := dk_28 (dk_at dksX0_fit_4 18 rfl rfl)
theorem dX0_fit_113 : decode cX0_fit 113 = .ok (.iconst 1, 1) := dk_4 (dk_at dksX0_fit_4 19 rfl rfl)
theorem dX0_fit_114 : decode cX0_fit 114 = .ok (.iadd, 1) := dk_96 (dk_at dksX0_fit_4 20 rfl rfl)
theorem dX0_fit_115 : decode cX0_fit 115 = .ok (.iload_n 3, 1) := dk_29 (dk_at dksX0_fit_4 21 rfl rfl)
theorem dX0_fit_116 : decode cX0_fit 116 = .ok (.iload 4, 2) := dk_21 4 (dk_at dksX0_fit_4 22 rfl rfl)
theorem dX0_fit_118 : decode cX0_fit 118 = .ok (.iconst 1, 1) := dk_4 (dk_at dksX0_fit_5 0 rfl rfl)
theorem dX0_fit_119 : decode cX0_fit 119 = .ok (.iadd, 1) := dk_96 (dk_at dksX0_fit_5 1 rfl rfl)
theorem dX0_fit_120 : decode cX0_fit 120 = .ok (.iload 5, 2) := dk_21 5 (dk_at dksX0_fit_5 2 rfl rfl)
theorem dX0_fit_122 : decode cX0_fit 122 = .ok (.iload 6, 2) := dk_21 6 (dk_at dksX0_fit_5 4 rfl rfl)
theorem dX0_fit_124 : decode cX0_fit 124 = .ok (.invokevirtual 540, 3) := dk_182 2 28 (dk_at dksX0_fit_5 6 rfl rfl)
theorem dX0_fit_127 : decode cX0_fit 127 = .ok (.return_, 1) := dk_177 (dk_at dksX0_fit_5 9 rfl rfl)
theorem dX0_fit_128 : decode cX0_fit 128 = .ok (.aload_n 0, 1) := dk_42 (dk_at dksX0_fit_5 10 rfl rfl)
theorem dX0_fit_129 : decode cX0_fit 129 = .ok (.getfield 401, 3) := dk_180 1 145 (dk_at dksX0_fit_5 11 rfl rfl)
theorem dX0_fit_132 : decode cX0_fit 132 = .ok (.aload_n 0, 1) := dk_42 (dk_at dksX0_fit_5 14 rfl rfl)
theorem dX0_fit_133 : decode cX0_fit 133 = .ok (.getfield 445, 3) := dk_180 1 189 (dk_at dksX0_fit_5 15 rfl rfl)
theorem dX0_fit_136 : decode cX0_fit 136 = .ok (.iconst 3, 1) := dk_6 (dk_at dksX0_fit_5 18 rfl rfl)
theorem dX0_fit_137 : decode cX0_fit 137 = .ok (.iload 7, 2) := dk_21 7 (dk_at dksX0_fit_5 19 rfl rfl)
theorem dX0_fit_139 : decode cX0_fit 139 = .ok (.imul, 1) := dk_104 (dk_at dksX0_fit_5 21 rfl rfl)
theorem dX0_fit_140 : decode cX0_fit 140 = .ok (.iload_n 3, 1) := dk_29 (dk_at dksX0_fit_5 22 rfl rfl)
theorem dX0_fit_141 : decode cX0_fit 141 = .ok (.iadd, 1) := dk_96 (dk_at dksX0_fit_5 23 rfl rfl)
theorem dX0_fit_142 : decode cX0_fit 142 = .ok (.iaload, 1) := dk_46 (dk_at dksX0_fit_6 0 rfl rfl)
theorem dX0_fit_143 : decode cX0_fit 143 = .ok (.iaload, 1) := dk_46 (dk_at dksX0_fit_6 1 rfl rfl)
theorem dX0_fit_144 : decode cX0_fit 144 = .ok (.istore 9, 2) := dk_54 9 (dk_at dksX0_fit_6 2 rfl rfl)
theorem dX0_fit_146 : decode cX0_fit 146 = .ok (.aload_n 0, 1) := dk_42 (dk_at dksX0_fit_6 4 rfl rfl)
theorem dX0_fit_147 : decode cX0_fit 147 = .ok (.getfield 418, 3) := dk_180 1 162 (dk_at dksX0_fit_6 5 rfl rfl)
theorem dX0_fit_150 : decode cX0_fit 150 = .ok (.iload 7, 2) := dk_21 7 (dk_at dksX0_fit_6 8 rfl rfl)
theorem dX0_fit_152 : decode cX0_fit 152 = .ok (.iaload, 1) := dk_46 (dk_at dksX0_fit_6 10 rfl rfl)
theorem dX0_fit_153 : decode cX0_fit 153 = .ok (.iconst 1, 1) := dk_4 (dk_at dksX0_fit_6 11 rfl rfl)
theorem dX0_fit_154 : decode cX0_fit 154 = .ok (.isub, 1) := dk_100 (dk_at dksX0_fit_6 12 rfl rfl)
theorem dX0_fit_155 : decode cX0_fit 155 = .ok (.iload_n 2, 1) := dk_28 (dk_at dksX0_fit_6 13 rfl rfl)
theorem dX0_fit_156 : decode cX0_fit 156 = .ok (.isub, 1) := dk_100 (dk_at dksX0_fit_6 14 rfl rfl)
theorem dX0_fit_157 : decode cX0_fit 157 = .ok (.istore 10, 2) := dk_54 10 (dk_at dksX0_fit_6 15 rfl rfl)
theorem dX0_fit_159 : decode cX0_fit 159 = .ok (.iload 10, 2) := dk_21 10 (dk_at dksX0_fit_6 17 rfl rfl)
theorem dX0_fit_161 : decode cX0_fit 161 = .ok (.ifCond .ne 15, 3) := dk_154 0 15 (dk_at dksX0_fit_6 19 rfl rfl)
theorem dX0_fit_164 : decode cX0_fit 164 = .ok (.iload 5, 2) := dk_21 5 (dk_at dksX0_fit_6 22 rfl rfl)
theorem dX0_fit_166 : decode cX0_fit 166 = .ok (.iload 4, 2) := dk_21 4 (dk_at dksX0_fit_7 0 rfl rfl)
theorem dX0_fit_168 : decode cX0_fit 168 = .ok (.iconst 1, 1) := dk_4 (dk_at dksX0_fit_7 2 rfl rfl)
theorem dX0_fit_169 : decode cX0_fit 169 = .ok (.iadd, 1) := dk_96 (dk_at dksX0_fit_7 3 rfl rfl)
theorem dX0_fit_170 : decode cX0_fit 170 = .ok (.invokestatic 544, 3) := dk_184 2 32 (dk_at dksX0_fit_7 4 rfl rfl)
theorem dX0_fit_173 : decode cX0_fit 173 = .ok (.goto 7, 3) := dk_167 0 7 (dk_at dksX0_fit_7 7 rfl rfl)
theorem dX0_fit_176 : decode cX0_fit 176 = .ok (.iload 4, 2) := dk_21 4 (dk_at dksX0_fit_7 10 rfl rfl)
theorem dX0_fit_178 : decode cX0_fit 178 = .ok (.iconst 1, 1) := dk_4 (dk_at dksX0_fit_7 12 rfl rfl)
theorem dX0_fit_179 : decode cX0_fit 179 = .ok (.iadd, 1) := dk_96 (dk_at dksX0_fit_7 13 rfl rfl)
theorem dX0_fit_180 : decode cX0_fit 180 = .ok (.istore 11, 2) := dk_54 11 (dk_at dksX0_fit_7 14 rfl rfl)
theorem dX0_fit_182 : decode cX0_fit 182 = .ok (.iload 11, 2) := dk_21 11 (dk_at dksX0_fit_7 16 rfl rfl)
theorem dX0_fit_184 : decode cX0_fit 184 = .ok (.istore 12, 2) := dk_54 12 (dk_at dksX0_fit_7 18 rfl rfl)
theorem dX0_fit_186 : decode cX0_fit 186 = .ok (.iload 12, 2) := dk_21 12 (dk_at dksX0_fit_7 20 rfl rfl)
theorem dX0_fit_188 : decode cX0_fit 188 = .ok (.iload 5, 2) := dk_21 5 (dk_at dksX0_fit_7 22 rfl rfl)
theorem dX0_fit_190 : decode cX0_fit 190 = .ok (.iload 10, 2) := dk_21 10 (dk_at dksX0_fit_8 0 rfl rfl)
theorem dX0_fit_192 : decode cX0_fit 192 = .ok (.isub, 1) := dk_100 (dk_at dksX0_fit_8 2 rfl rfl)
theorem dX0_fit_193 : decode cX0_fit 193 = .ok (.if_icmp .gt 111, 3) := dk_163 0 111 (dk_at dksX0_fit_8 3 rfl rfl)
theorem dX0_fit_196 : decode cX0_fit 196 = .ok (.iconst 0, 1) := dk_3 (dk_at dksX0_fit_8 6 rfl rfl)
theorem dX0_fit_197 : decode cX0_fit 197 = .ok (.istore 13, 2) := dk_54 13 (dk_at dksX0_fit_8 7 rfl rfl)
theorem dX0_fit_199 : decode cX0_fit 199 = .ok (.aload_n 0, 1) := dk_42 (dk_at dksX0_fit_8 9 rfl rfl)
theorem dX0_fit_200 : decode cX0_fit 200 = .ok (.getfield 506, 3) := dk_180 1 250 (dk_at dksX0_fit_8 10 rfl rfl)
theorem dX0_fit_203 : decode cX0_fit 203 = .ok (.iload 4, 2) := dk_21 4 (dk_at dksX0_fit_8 13 rfl rfl)
theorem dX0_fit_205 : decode cX0_fit 205 = .ok (.iload 12, 2) := dk_21 12 (dk_at dksX0_fit_8 15 rfl rfl)
theorem dX0_fit_207 : decode cX0_fit 207 = .ok (.invokestatic 547, 3) := dk_184 2 35 (dk_at dksX0_fit_8 17 rfl rfl)
theorem dX0_fit_210 : decode cX0_fit 210 = .ok (.iaload, 1) := dk_46 (dk_at dksX0_fit_8 20 rfl rfl)
theorem dX0_fit_211 : decode cX0_fit 211 = .ok (.istore 14, 2) := dk_54 14 (dk_at dksX0_fit_8 21 rfl rfl)
theorem dX0_fit_213 : decode cX0_fit 213 = .ok (.iload 14, 2) := dk_21 14 (dk_at dksX0_fit_9 0 rfl rfl)
theorem dX0_fit_215 : decode cX0_fit 215 = .ok (.bipush (-2), 2) := dk_16 254 (dk_at dksX0_fit_9 2 rfl rfl)
theorem dX0_fit_217 : decode cX0_fit 217 = .ok (.if_icmp .eq 81, 3) := dk_159 0 81 (dk_at dksX0_fit_9 4 rfl rfl)
theorem dX0_fit_220 : decode cX0_fit 220 = .ok (.iload 13, 2) := dk_21 13 (dk_at dksX0_fit_9 7 rfl rfl)
theorem dX0_fit_222 : decode cX0_fit 222 = .ok (.iconst 2, 1) := dk_5 (dk_at dksX0_fit_9 9 rfl rfl)
theorem dX0_fit_223 : decode cX0_fit 223 = .ok (.if_icmp .ge 75, 3) := dk_162 0 75 (dk_at dksX0_fit_9 10 rfl rfl)
theorem dX0_fit_226 : decode cX0_fit 226 = .ok (.aload_n 0, 1) := dk_42 (dk_at dksX0_fit_9 13 rfl rfl)
theorem dX0_fit_227 : decode cX0_fit 227 = .ok (.getfield 509, 3) := dk_180 1 253 (dk_at dksX0_fit_9 14 rfl rfl)
theorem dX0_fit_230 : decode cX0_fit 230 = .ok (.iload 14, 2) := dk_21 14 (dk_at dksX0_fit_9 17 rfl rfl)
theorem dX0_fit_232 : decode cX0_fit 232 = .ok (.iaload, 1) := dk_46 (dk_at dksX0_fit_9 19 rfl rfl)
theorem dX0_fit_233 : decode cX0_fit 233 = .ok (.iload 9, 2) := dk_21 9 (dk_at dksX0_fit_9 20 rfl rfl)
theorem dX0_fit_235 : decode cX0_fit 235 = .ok (.if_icmp .ne 51, 3) := dk_160 0 51 (dk_at dksX0_fit_10 0 rfl rfl)
theorem dX0_fit_238 : decode cX0_fit 238 = .ok (.aload_n 0, 1) := dk_42 (dk_at dksX0_fit_10 3 rfl rfl)
theorem dX0_fit_239 : decode cX0_fit 239 = .ok (.getfield 512, 3) := dk_180 2 0 (dk_at dksX0_fit_10 4 rfl rfl)
theorem dX0_fit_242 : decode cX0_fit 242 = .ok (.iload 14, 2) := dk_21 14 (dk_at dksX0_fit_10 7 rfl rfl)
theorem dX0_fit_244 : decode cX0_fit 244 = .ok (.iaload, 1) := dk_46 (dk_at dksX0_fit_10 9 rfl rfl)
theorem dX0_fit_245 : decode cX0_fit 245 = .ok (.aload_n 0, 1) := dk_42 (dk_at dksX0_fit_10 10 rfl rfl)
theorem dX0_fit_246 : decode cX0_fit 246 = .ok (.getfield 494, 3) := dk_180 1 238 (dk_at dksX0_fit_10 11 rfl rfl)
theorem dX0_fit_249 : decode cX0_fit 249 = .ok (.iconst 3, 1) := dk_6 (dk_at dksX0_fit_10 14 rfl rfl)
theorem dX0_fit_250 : decode cX0_fit 250 = .ok (.iload_n 1, 1) := dk_27 (dk_at dksX0_fit_10 15 rfl rfl)
theorem dX0_fit_251 : decode cX0_fit 251 = .ok (.imul, 1) := dk_104 (dk_at dksX0_fit_10 16 rfl rfl)
theorem dX0_fit_252 : decode cX0_fit 252 = .ok (.iload_n 3, 1) := dk_29 (dk_at dksX0_fit_10 17 rfl rfl)
theorem dX0_fit_253 : decode cX0_fit 253 = .ok (.iadd, 1) := dk_96 (dk_at dksX0_fit_10 18 rfl rfl)
theorem dX0_fit_254 : decode cX0_fit 254 = .ok (.iaload, 1) := dk_46 (dk_at dksX0_fit_10 19 rfl rfl)
theorem dX0_fit_255 : decode cX0_fit 255 = .ok (.if_icmp .gt 31, 3) := dk_163 0 31 (dk_at dksX0_fit_10 20 rfl rfl)
theorem dX0_fit_258 : decode cX0_fit 258 = .ok (.iinc 13 1, 3) := dk_132 13 1 (dk_at dksX0_fit_11 0 rfl rfl)
theorem dX0_fit_261 : decode cX0_fit 261 = .ok (.aload_n 0, 1) := dk_42 (dk_at dksX0_fit_11 3 rfl rfl)
theorem dX0_fit_262 : decode cX0_fit 262 = .ok (.getfield 527, 3) := dk_180 2 15 (dk_at dksX0_fit_11 4 rfl rfl)
theorem dX0_fit_265 : decode cX0_fit 265 = .ok (.iload_n 3, 1) := dk_29 (dk_at dksX0_fit_11 7 rfl rfl)
theorem dX0_fit_266 : decode cX0_fit 266 = .ok (.iload 14, 2) := dk_21 14 (dk_at dksX0_fit_11 8 rfl rfl)
theorem dX0_fit_268 : decode cX0_fit 268 = .ok (.iastore, 1) := dk_79 (dk_at dksX0_fit_11 10 rfl rfl)
theorem dX0_fit_269 : decode cX0_fit 269 = .ok (.aload_n 0, 1) := dk_42 (dk_at dksX0_fit_11 11 rfl rfl)
theorem dX0_fit_270 : decode cX0_fit 270 = .ok (.iload_n 1, 1) := dk_27 (dk_at dksX0_fit_11 12 rfl rfl)
theorem dX0_fit_271 : decode cX0_fit 271 = .ok (.iload_n 2, 1) := dk_28 (dk_at dksX0_fit_11 13 rfl rfl)
theorem dX0_fit_272 : decode cX0_fit 272 = .ok (.iconst 1, 1) := dk_4 (dk_at dksX0_fit_11 14 rfl rfl)
theorem dX0_fit_273 : decode cX0_fit 273 = .ok (.iadd, 1) := dk_96 (dk_at dksX0_fit_11 15 rfl rfl)
theorem dX0_fit_274 : decode cX0_fit 274 = .ok (.iload_n 3, 1) := dk_29 (dk_at dksX0_fit_11 16 rfl rfl)
theorem dX0_fit_275 : decode cX0_fit 275 = .ok (.iconst 1, 1) := dk_4 (dk_at dksX0_fit_11 17 rfl rfl)
theorem dX0_fit_276 : decode cX0_fit 276 = .ok (.iadd, 1) := dk_96 (dk_at dksX0_fit_11 18 rfl rfl)
theorem dX0_fit_277 : decode cX0_fit 277 = .ok (.iload 12, 2) := dk_21 12 (dk_at dksX0_fit_11 19 rfl rfl)
theorem dX0_fit_279 : decode cX0_fit 279 = .ok (.iload 5, 2) := dk_21 5 (dk_at dksX0_fit_11 21 rfl rfl)
theorem dX0_fit_281 : decode cX0_fit 281 = .ok (.iload 6, 2) := dk_21 6 (dk_at dksX0_fit_12 0 rfl rfl)
theorem dX0_fit_283 : decode cX0_fit 283 = .ok (.invokevirtual 540, 3) := dk_182 2 28 (dk_at dksX0_fit_12 2 rfl rfl)
theorem dX0_fit_286 : decode cX0_fit 286 = .ok (.aload_n 0, 1) := dk_42 (dk_at dksX0_fit_12 5 rfl rfl)
theorem dX0_fit_287 : decode cX0_fit 287 = .ok (.getfield 515, 3) := dk_180 2 3 (dk_at dksX0_fit_12 6 rfl rfl)
theorem dX0_fit_290 : decode cX0_fit 290 = .ok (.iload 14, 2) := dk_21 14 (dk_at dksX0_fit_12 9 rfl rfl)
theorem dX0_fit_292 : decode cX0_fit 292 = .ok (.iaload, 1) := dk_46 (dk_at dksX0_fit_12 11 rfl rfl)
theorem dX0_fit_293 : decode cX0_fit 293 = .ok (.istore 14, 2) := dk_54 14 (dk_at dksX0_fit_12 12 rfl rfl)
theorem dX0_fit_295 : decode cX0_fit 295 = .ok (.goto (-82), 3) := dk_167 255 174 (dk_at dksX0_fit_12 14 rfl rfl)
theorem dX0_fit_298 : decode cX0_fit 298 = .ok (.iinc 12 1, 3) := dk_132 12 1 (dk_at dksX0_fit_12 17 rfl rfl)
theorem dX0_fit_301 : decode cX0_fit 301 = .ok (.goto (-115), 3) := dk_167 255 141 (dk_at dksX0_fit_12 20 rfl rfl)
theorem dX0_fit_304 : decode cX0_fit 304 = .ok (.return_, 1) := dk_177 (dk_at dksX0_fit_12 23 rfl rfl)
abbrev cX0_termOf : ByteArray := prog_1_method_85_code
def yX0_termOf : MethodName := ⟨RX0, "termOf", "(I)I"⟩
def dkwX0_termOf_3 : List UInt8 := [182, 2, 134, 172]
abbrev dktX0_termOf_3 : List UInt8 := dkwX0_termOf_3 ++ []
def dkwX0_termOf_2 : List UInt8 := [96, 46, 182, 2, 140, 54, 5, 42, 21, 5, 182, 2, 131, 132, 4, 1, 167, 255, 219, 42, 28, 29]
abbrev dktX0_termOf_2 : List UInt8 := dkwX0_termOf_2 ++ dktX0_termOf_3
def dkwX0_termOf_1 : List UInt8 := [3, 54, 4, 21, 4, 42, 180, 1, 220, 28, 46, 162, 0, 32, 42, 42, 180, 2, 12, 6, 27, 104, 21, 4]
abbrev dktX0_termOf_1 : List UInt8 := dkwX0_termOf_1 ++ dktX0_termOf_2
def dkwX0_termOf_0 : List UInt8 := [42, 180, 2, 9, 27, 46, 61, 28, 156, 0, 11, 42, 2, 28, 100, 182, 2, 137, 172, 42, 180, 2, 99, 62]
abbrev dktX0_termOf_0 : List UInt8 := dkwX0_termOf_0 ++ dktX0_termOf_1
theorem dksX0_termOf_0 : cX0_termOf.data.toList.drop 0 = dktX0_termOf_0 := by decide +kernel
theorem dksX0_termOf_1 : cX0_termOf.data.toList.drop 24 = dktX0_termOf_1 := dk_seg dksX0_termOf_0 24 rfl rfl
theorem dksX0_termOf_2 : cX0_termOf.data.toList.drop 48 = dktX0_termOf_2 := dk_seg dksX0_termOf_1 24 rfl rfl
theorem dksX0_termOf_3 : cX0_termOf.data.toList.drop 70 = dktX0_termOf_3 := dk_seg dksX0_termOf_2 22 rfl rfl
theorem dX0_termOf_0 : decode cX0_termOf 0 = .ok (.aload_n 0, 1) := dk_42 (dk_at dksX0_termOf_0 0 rfl rfl)
theorem dX0_termOf_1 : decode cX0_termOf 1 = .ok (.getfield 521, 3) := dk_180 2 9 (dk_at dksX0_termOf_0 1 rfl rfl)
theorem dX0_termOf_4 : decode cX0_termOf 4 = .ok (.iload_n 1, 1) := dk_27 (dk_at dksX0_termOf_0 4 rfl rfl)
theorem dX0_termOf_5 : decode cX0_termOf 5 = .ok (.iaload, 1) := dk_46 (dk_at dksX0_termOf_0 5 rfl rfl)
theorem dX0_termOf_6 : decode cX0_termOf 6 = .ok (.istore_n 2, 1) := dk_61 (dk_at dksX0_termOf_0 6 rfl rfl)
theorem dX0_termOf_7 : decode cX0_termOf 7 = .ok (.iload_n 2, 1) := dk_28 (dk_at dksX0_termOf_0 7 rfl rfl)
theorem dX0_termOf_8 : decode cX0_termOf 8 = .ok (.ifCond .ge 11, 3) := dk_156 0 11 (dk_at dksX0_termOf_0 8 rfl rfl)
theorem dX0_termOf_11 : decode cX0_termOf 11 = .ok (.aload_n 0, 1) := dk_42 (dk_at dksX0_termOf_0 11 rfl rfl)
theorem dX0_termOf_12 : decode cX0_termOf 12 = .ok (.iconst (-1), 1) := dk_2 (dk_at dksX0_termOf_0 12 rfl rfl)
theorem dX0_termOf_13 : decode cX0_termOf 13 = .ok (.iload_n 2, 1) := dk_28 (dk_at dksX0_termOf_0 13 rfl rfl)
theorem dX0_termOf_14 : decode cX0_termOf 14 = .ok (.isub, 1) := dk_100 (dk_at dksX0_termOf_0 14 rfl rfl)
theorem dX0_termOf_15 : decode cX0_termOf 15 = .ok (.invokevirtual 649, 3) := dk_182 2 137 (dk_at dksX0_termOf_0 15 rfl rfl)
theorem dX0_termOf_18 : decode cX0_termOf 18 = .ok (.ireturn, 1) := dk_172 (dk_at dksX0_termOf_0 18 rfl rfl)
theorem dX0_termOf_19 : decode cX0_termOf 19 = .ok (.aload_n 0, 1) := dk_42 (dk_at dksX0_termOf_0 19 rfl rfl)
theorem dX0_termOf_20 : decode cX0_termOf 20 = .ok (.getfield 611, 3) := dk_180 2 99 (dk_at dksX0_termOf_0 20 rfl rfl)
theorem dX0_termOf_23 : decode cX0_termOf 23 = .ok (.istore_n 3, 1) := dk_62 (dk_at dksX0_termOf_0 23 rfl rfl)
theorem dX0_termOf_24 : decode cX0_termOf 24 = .ok (.iconst 0, 1) := dk_3 (dk_at dksX0_termOf_1 0 rfl rfl)
theorem dX0_termOf_25 : decode cX0_termOf 25 = .ok (.istore 4, 2) := dk_54 4 (dk_at dksX0_termOf_1 1 rfl rfl)
theorem dX0_termOf_27 : decode cX0_termOf 27 = .ok (.iload 4, 2) := dk_21 4 (dk_at dksX0_termOf_1 3 rfl rfl)
theorem dX0_termOf_29 : decode cX0_termOf 29 = .ok (.aload_n 0, 1) := dk_42 (dk_at dksX0_termOf_1 5 rfl rfl)
theorem dX0_termOf_30 : decode cX0_termOf 30 = .ok (.getfield 476, 3) := dk_180 1 220 (dk_at dksX0_termOf_1 6 rfl rfl)
theorem dX0_termOf_33 : decode cX0_termOf 33 = .ok (.iload_n 2, 1) := dk_28 (dk_at dksX0_termOf_1 9 rfl rfl)
theorem dX0_termOf_34 : decode cX0_termOf 34 = .ok (.iaload, 1) := dk_46 (dk_at dksX0_termOf_1 10 rfl rfl)
theorem dX0_termOf_35 : decode cX0_termOf 35 = .ok (.if_icmp .ge 32, 3) := dk_162 0 32 (dk_at dksX0_termOf_1 11 rfl rfl)
theorem dX0_termOf_38 : decode cX0_termOf 38 = .ok (.aload_n 0, 1) := dk_42 (dk_at dksX0_termOf_1 14 rfl rfl)
theorem dX0_termOf_39 : decode cX0_termOf 39 = .ok (.aload_n 0, 1) := dk_42 (dk_at dksX0_termOf_1 15 rfl rfl)
theorem dX0_termOf_40 : decode cX0_termOf 40 = .ok (.getfield 524, 3) := dk_180 2 12 (dk_at dksX0_termOf_1 16 rfl rfl)
theorem dX0_termOf_43 : decode cX0_termOf 43 = .ok (.iconst 3, 1) := dk_6 (dk_at dksX0_termOf_1 19 rfl rfl)
theorem dX0_termOf_44 : decode cX0_termOf 44 = .ok (.iload_n 1, 1) := dk_27 (dk_at dksX0_termOf_1 20 rfl rfl)
theorem dX0_termOf_45 : decode cX0_termOf 45 = .ok (.imul, 1) := dk_104 (dk_at dksX0_termOf_1 21 rfl rfl)
theorem dX0_termOf_46 : decode cX0_termOf 46 = .ok (.iload 4, 2) := dk_21 4 (dk_at dksX0_termOf_1 22 rfl rfl)
theorem dX0_termOf_48 : decode cX0_termOf 48 = .ok (.iadd, 1) := dk_96 (dk_at dksX0_termOf_2 0 rfl rfl)
theorem dX0_termOf_49 : decode cX0_termOf 49 = .ok (.iaload, 1) := dk_46 (dk_at dksX0_termOf_2 1 rfl rfl)
theorem dX0_termOf_50 : decode cX0_termOf 50 = .ok (.invokevirtual 652, 3) := dk_182 2 140 (dk_at dksX0_termOf_2 2 rfl rfl)
theorem dX0_termOf_53 : decode cX0_termOf 53 = .ok (.istore 5, 2) := dk_54 5 (dk_at dksX0_termOf_2 5 rfl rfl)
theorem dX0_termOf_55 : decode cX0_termOf 55 = .ok (.aload_n 0, 1) := dk_42 (dk_at dksX0_termOf_2 7 rfl rfl)
theorem dX0_termOf_56 : decode cX0_termOf 56 = .ok (.iload 5, 2) := dk_21 5 (dk_at dksX0_termOf_2 8 rfl rfl)
theorem dX0_termOf_58 : decode cX0_termOf 58 = .ok (.invokevirtual 643, 3) := dk_182 2 131 (dk_at dksX0_termOf_2 10 rfl rfl)
theorem dX0_termOf_61 : decode cX0_termOf 61 = .ok (.iinc 4 1, 3) := dk_132 4 1 (dk_at dksX0_termOf_2 13 rfl rfl)
theorem dX0_termOf_64 : decode cX0_termOf 64 = .ok (.goto (-37), 3) := dk_167 255 219 (dk_at dksX0_termOf_2 16 rfl rfl)
theorem dX0_termOf_67 : decode cX0_termOf 67 = .ok (.aload_n 0, 1) := dk_42 (dk_at dksX0_termOf_2 19 rfl rfl)
theorem dX0_termOf_68 : decode cX0_termOf 68 = .ok (.iload_n 2, 1) := dk_28 (dk_at dksX0_termOf_2 20 rfl rfl)
theorem dX0_termOf_69 : decode cX0_termOf 69 = .ok (.iload_n 3, 1) := dk_29 (dk_at dksX0_termOf_2 21 rfl rfl)
theorem dX0_termOf_70 : decode cX0_termOf 70 = .ok (.invokevirtual 646, 3) := dk_182 2 134 (dk_at dksX0_termOf_3 0 rfl rfl)
theorem dX0_termOf_73 : decode cX0_termOf 73 = .ok (.ireturn, 1) := dk_172 (dk_at dksX0_termOf_3 3 rfl rfl)
abbrev cX0_variableNode : ByteArray := prog_1_method_73_code
def yX0_variableNode : MethodName := ⟨RX0, "variableNode", "(I)I"⟩
def dkwX0_variableNode_0 : List UInt8 := [42, 2, 27, 100, 42, 180, 2, 99, 3, 182, 2, 102, 172]
abbrev dktX0_variableNode_0 : List UInt8 := dkwX0_variableNode_0 ++ []
theorem dksX0_variableNode_0 : cX0_variableNode.data.toList.drop 0 = dktX0_variableNode_0 := by decide +kernel
theorem dX0_variableNode_0 : decode cX0_variableNode 0 = .ok (.aload_n 0, 1) := dk_42 (dk_at dksX0_variableNode_0 0 rfl rfl)
theorem dX0_variableNode_1 : decode cX0_variableNode 1 = .ok (.iconst (-1), 1) := dk_2 (dk_at dksX0_variableNode_0 1 rfl rfl)
theorem dX0_variableNode_2 : decode cX0_variableNode 2 = .ok (.iload_n 1, 1) := dk_27 (dk_at dksX0_variableNode_0 2 rfl rfl)
theorem dX0_variableNode_3 : decode cX0_variableNode 3 = .ok (.isub, 1) := dk_100 (dk_at dksX0_variableNode_0 3 rfl rfl)
theorem dX0_variableNode_4 : decode cX0_variableNode 4 = .ok (.aload_n 0, 1) := dk_42 (dk_at dksX0_variableNode_0 4 rfl rfl)
theorem dX0_variableNode_5 : decode cX0_variableNode 5 = .ok (.getfield 611, 3) := dk_180 2 99 (dk_at dksX0_variableNode_0 5 rfl rfl)
theorem dX0_variableNode_8 : decode cX0_variableNode 8 = .ok (.iconst 0, 1) := dk_3 (dk_at dksX0_variableNode_0 8 rfl rfl)
theorem dX0_variableNode_9 : decode cX0_variableNode 9 = .ok (.invokevirtual 614, 3) := dk_182 2 102 (dk_at dksX0_variableNode_0 9 rfl rfl)
theorem dX0_variableNode_12 : decode cX0_variableNode 12 = .ok (.ireturn, 1) := dk_172 (dk_at dksX0_variableNode_0 12 rfl rfl)
abbrev cX0_nodeOf : ByteArray := prog_1_method_70_code
def yX0_nodeOf : MethodName := ⟨RX0, "nodeOf", "(III)I"⟩
def dkwX0_nodeOf_14 : List UInt8 := [42, 180, 2, 51, 21, 4, 46, 79, 42, 180, 2, 51, 21, 4, 21, 6, 79, 21, 6, 172]
abbrev dktX0_nodeOf_14 : List UInt8 := dkwX0_nodeOf_14 ++ []
def dkwX0_nodeOf_13 : List UInt8 := [2, 27, 100, 182, 2, 93, 167, 0, 11, 42, 27, 21, 6, 29, 182, 2, 96, 79, 42, 180, 2, 75, 21, 6]
abbrev dktX0_nodeOf_13 : List UInt8 := dkwX0_nodeOf_13 ++ dktX0_nodeOf_14
def dkwX0_nodeOf_12 : List UInt8 := [21, 6, 21, 5, 79, 42, 180, 2, 87, 21, 6, 3, 79, 42, 180, 2, 90, 21, 6, 27, 156, 0, 13, 42]
abbrev dktX0_nodeOf_12 : List UInt8 := dkwX0_nodeOf_12 ++ dktX0_nodeOf_13
def dkwX0_nodeOf_11 : List UInt8 := [96, 181, 0, 203, 42, 180, 2, 55, 28, 21, 7, 96, 46, 79, 132, 7, 1, 167, 255, 222, 42, 180, 2, 78]
abbrev dktX0_nodeOf_11 : List UInt8 := dkwX0_nodeOf_11 ++ dktX0_nodeOf_12
def dkwX0_nodeOf_10 : List UInt8 := [180, 0, 203, 79, 3, 54, 7, 21, 7, 29, 162, 0, 34, 42, 180, 2, 69, 42, 89, 180, 0, 203, 90, 4]
abbrev dktX0_nodeOf_10 : List UInt8 := dkwX0_nodeOf_10 ++ dktX0_nodeOf_11
def dkwX0_nodeOf_9 : List UInt8 := [180, 2, 63, 21, 6, 27, 79, 42, 180, 2, 66, 21, 6, 29, 79, 42, 180, 2, 72, 21, 6, 42]
abbrev dktX0_nodeOf_9 : List UInt8 := dkwX0_nodeOf_9 ++ dktX0_nodeOf_10
def dkwX0_nodeOf_8 : List UInt8 := [164, 0, 10, 42, 16, 6, 182, 2, 83, 191, 42, 89, 180, 0, 200, 90, 4, 96, 181, 0, 200, 54, 6, 42]
abbrev dktX0_nodeOf_8 : List UInt8 := dkwX0_nodeOf_8 ++ dktX0_nodeOf_9
def dkwX0_nodeOf_7 : List UInt8 := [16, 40, 163, 0, 25, 42, 180, 0, 200, 19, 2, 81, 159, 0, 15, 42, 180, 0, 203, 29, 96, 19, 2, 82]
abbrev dktX0_nodeOf_7 : List UInt8 := dkwX0_nodeOf_7 ++ dktX0_nodeOf_8
def dkwX0_nodeOf_6 : List UInt8 := [180, 2, 78, 42, 180, 2, 55, 28, 21, 6, 96, 46, 46, 96, 54, 5, 132, 6, 1, 167, 255, 228, 21, 5]
abbrev dktX0_nodeOf_6 : List UInt8 := dkwX0_nodeOf_6 ++ dktX0_nodeOf_7
def dkwX0_nodeOf_5 : List UInt8 := [21, 5, 46, 54, 5, 167, 255, 151, 4, 54, 5, 3, 54, 6, 21, 6, 29, 162, 0, 28, 21, 5, 42]
abbrev dktX0_nodeOf_5 : List UInt8 := dkwX0_nodeOf_5 ++ dktX0_nodeOf_6
def dkwX0_nodeOf_4 : List UInt8 := [167, 0, 4, 3, 54, 6, 132, 7, 1, 167, 255, 208, 21, 6, 153, 0, 6, 21, 5, 172, 42, 180, 2, 75]
abbrev dktX0_nodeOf_4 : List UInt8 := dkwX0_nodeOf_4 ++ dktX0_nodeOf_5
def dkwX0_nodeOf_3 : List UInt8 := [42, 180, 2, 72, 21, 5, 46, 21, 7, 96, 46, 42, 180, 2, 55, 28, 21, 7, 96, 46, 160, 0, 7, 4]
abbrev dktX0_nodeOf_3 : List UInt8 := dkwX0_nodeOf_3 ++ dktX0_nodeOf_4
def dkwX0_nodeOf_2 : List UInt8 := [167, 0, 4, 3, 54, 6, 3, 54, 7, 21, 7, 29, 162, 0, 48, 21, 6, 153, 0, 43, 42, 180, 2, 69]
abbrev dktX0_nodeOf_2 : List UInt8 := dkwX0_nodeOf_2 ++ dktX0_nodeOf_3
def dkwX0_nodeOf_1 : List UInt8 := [180, 2, 63, 21, 5, 46, 27, 160, 0, 18, 42, 180, 2, 66, 21, 5, 46, 29, 160, 0, 7, 4]
abbrev dktX0_nodeOf_1 : List UInt8 := dkwX0_nodeOf_1 ++ dktX0_nodeOf_2
def dkwX0_nodeOf_0 : List UInt8 := [42, 27, 28, 29, 182, 2, 59, 54, 4, 42, 180, 2, 51, 21, 4, 46, 54, 5, 21, 5, 153, 0, 106, 42]
abbrev dktX0_nodeOf_0 : List UInt8 := dkwX0_nodeOf_0 ++ dktX0_nodeOf_1
theorem dksX0_nodeOf_0 : cX0_nodeOf.data.toList.drop 0 = dktX0_nodeOf_0 := by decide +kernel
theorem dksX0_nodeOf_1 : cX0_nodeOf.data.toList.drop 24 = dktX0_nodeOf_1 := dk_seg dksX0_nodeOf_0 24 rfl rfl
theorem dksX0_nodeOf_2 : cX0_nodeOf.data.toList.drop 46 = dktX0_nodeOf_2 := dk_seg dksX0_nodeOf_1 22 rfl rfl
theorem dksX0_nodeOf_3 : cX0_nodeOf.data.toList.drop 70 = dktX0_nodeOf_3 := dk_seg dksX0_nodeOf_2 24 rfl rfl
theorem dksX0_nodeOf_4 : cX0_nodeOf.data.toList.drop 94 = dktX0_nodeOf_4 := dk_seg dksX0_nodeOf_3 24 rfl rfl
theorem dksX0_nodeOf_5 : cX0_nodeOf.data.toList.drop 118 = dktX0_nodeOf_5 := dk_seg dksX0_nodeOf_4 24 rfl rfl
theorem dksX0_nodeOf_6 : cX0_nodeOf.data.toList.drop 141 = dktX0_nodeOf_6 := dk_seg dksX0_nodeOf_5 23 rfl rfl
theorem dksX0_nodeOf_7 : cX0_nodeOf.data.toList.drop 165 = dktX0_nodeOf_7 := dk_seg dksX0_nodeOf_6 24 rfl rfl
theorem dksX0_nodeOf_8 : cX0_nodeOf.data.toList.drop 189 = dktX0_nodeOf_8 := dk_seg dksX0_nodeOf_7 24 rfl rfl
theorem dksX0_nodeOf_9 : cX0_nodeOf.data.toList.drop 213 = dktX0_nodeOf_9 := dk_seg dksX0_nodeOf_8 24 rfl rfl
theorem dksX0_nodeOf_10 : cX0_nodeOf.data.toList.drop 235 = dktX0_nodeOf_10 := dk_seg dksX0_nodeOf_9 22 rfl rfl
theorem dksX0_nodeOf_11 : cX0_nodeOf.data.toList.drop 259 = dktX0_nodeOf_11 := dk_seg dksX0_nodeOf_10 24 rfl rfl
theorem dksX0_nodeOf_12 : cX0_nodeOf.data.toList.drop 283 = dktX0_nodeOf_12 := dk_seg dksX0_nodeOf_11 24 rfl rfl
theorem dksX0_nodeOf_13 : cX0_nodeOf.data.toList.drop 307 = dktX0_nodeOf_13 := dk_seg dksX0_nodeOf_12 24 rfl rfl
theorem dksX0_nodeOf_14 : cX0_nodeOf.data.toList.drop 331 = dktX0_nodeOf_14 := dk_seg dksX0_nodeOf_13 24 rfl rfl
theorem dX0_nodeOf_0 : decode cX0_nodeOf 0 = .ok (.aload_n 0, 1) := dk_42 (dk_at dksX0_nodeOf_0 0 rfl rfl)
theorem dX0_nodeOf_1 : decode cX0_nodeOf 1 = .ok (.iload_n 1, 1) := dk_27 (dk_at dksX0_nodeOf_0 1 rfl rfl)
theorem dX0_nodeOf_2 : decode cX0_nodeOf 2 = .ok (.iload_n 2, 1) := dk_28 (dk_at dksX0_nodeOf_0 2 rfl rfl)
theorem dX0_nodeOf_3 : decode cX0_nodeOf 3 = .ok (.iload_n 3, 1) := dk_29 (dk_at dksX0_nodeOf_0 3 rfl rfl)
theorem dX0_nodeOf_4 : decode cX0_nodeOf 4 = .ok (.invokevirtual 571, 3) := dk_182 2 59 (dk_at dksX0_nodeOf_0 4 rfl rfl)
theorem dX0_nodeOf_7 : decode cX0_nodeOf 7 = .ok (.istore 4, 2) := dk_54 4 (dk_at dksX0_nodeOf_0 7 rfl rfl)
theorem dX0_nodeOf_9 : decode cX0_nodeOf 9 = .ok (.aload_n 0, 1) := dk_42 (dk_at dksX0_nodeOf_0 9 rfl rfl)
theorem dX0_nodeOf_10 : decode cX0_nodeOf 10 = .ok (.getfield 563, 3) := dk_180 2 51 (dk_at dksX0_nodeOf_0 10 rfl rfl)
theorem dX0_nodeOf_13 : decode cX0_nodeOf 13 = .ok (.iload 4, 2) := dk_21 4 (dk_at dksX0_nodeOf_0 13 rfl rfl)
theorem dX0_nodeOf_15 : decode cX0_nodeOf 15 = .ok (.iaload, 1) := dk_46 (dk_at dksX0_nodeOf_0 15 rfl rfl)
theorem dX0_nodeOf_16 : decode cX0_nodeOf 16 = .ok (.istore 5, 2) := dk_54 5 (dk_at dksX0_nodeOf_0 16 rfl rfl)
theorem dX0_nodeOf_18 : decode cX0_nodeOf 18 = .ok (.iload 5, 2) := dk_21 5 (dk_at dksX0_nodeOf_0 18 rfl rfl)
theorem dX0_nodeOf_20 : decode cX0_nodeOf 20 = .ok (.ifCond .eq 106, 3) := dk_153 0 106 (dk_at dksX0_nodeOf_0 20 rfl rfl)
theorem dX0_nodeOf_23 : decode cX0_nodeOf 23 = .ok (.aload_n 0, 1) := dk_42 (dk_at dksX0_nodeOf_0 23 rfl rfl)
theorem dX0_nodeOf_24 : decode cX0_nodeOf 24 = .ok (.getfield 575, 3) := dk_180 2 63 (dk_at dksX0_nodeOf_1 0 rfl rfl)
theorem dX0_nodeOf_27 : decode cX0_nodeOf 27 = .ok (.iload 5, 2) := dk_21 5 (dk_at dksX0_nodeOf_1 3 rfl rfl)
theorem dX0_nodeOf_29 : decode cX0_nodeOf 29 = .ok (.iaload, 1) := dk_46 (dk_at dksX0_nodeOf_1 5 rfl rfl)
theorem dX0_nodeOf_30 : decode cX0_nodeOf 30 = .ok (.iload_n 1, 1) := dk_27 (dk_at dksX0_nodeOf_1 6 rfl rfl)
theorem dX0_nodeOf_31 : decode cX0_nodeOf 31 = .ok (.if_icmp .ne 18, 3) := dk_160 0 18 (dk_at dksX0_nodeOf_1 7 rfl rfl)
theorem dX0_nodeOf_34 : decode cX0_nodeOf 34 = .ok (.aload_n 0, 1) := dk_42 (dk_at dksX0_nodeOf_1 10 rfl rfl)
theorem dX0_nodeOf_35 : decode cX0_nodeOf 35 = .ok (.getfield 578, 3) := dk_180 2 66 (dk_at dksX0_nodeOf_1 11 rfl rfl)
theorem dX0_nodeOf_38 : decode cX0_nodeOf 38 = .ok (.iload 5, 2) := dk_21 5 (dk_at dksX0_nodeOf_1 14 rfl rfl)
theorem dX0_nodeOf_40 : decode cX0_nodeOf 40 = .ok (.iaload, 1) := dk_46 (dk_at dksX0_nodeOf_1 16 rfl rfl)
theorem dX0_nodeOf_41 : decode cX0_nodeOf 41 = .ok (.iload_n 3, 1) := dk_29 (dk_at dksX0_nodeOf_1 17 rfl rfl)
theorem dX0_nodeOf_42 : decode cX0_nodeOf 42 = .ok (.if_icmp .ne 7, 3) := dk_160 0 7 (dk_at dksX0_nodeOf_1 18 rfl rfl)
theorem dX0_nodeOf_45 : decode cX0_nodeOf 45 = .ok (.iconst 1, 1) := dk_4 (dk_at dksX0_nodeOf_1 21 rfl rfl)
theorem dX0_nodeOf_46 : decode cX0_nodeOf 46 = .ok (.goto 4, 3) := dk_167 0 4 (dk_at dksX0_nodeOf_2 0 rfl rfl)
theorem dX0_nodeOf_49 : decode cX0_nodeOf 49 = .ok (.iconst 0, 1) := dk_3 (dk_at dksX0_nodeOf_2 3 rfl rfl)
theorem dX0_nodeOf_50 : decode cX0_nodeOf 50 = .ok (.istore 6, 2) := dk_54 6 (dk_at dksX0_nodeOf_2 4 rfl rfl)
theorem dX0_nodeOf_52 : decode cX0_nodeOf 52 = .ok (.iconst 0, 1) := dk_3 (dk_at dksX0_nodeOf_2 6 rfl rfl)
theorem dX0_nodeOf_53 : decode cX0_nodeOf 53 = .ok (.istore 7, 2) := dk_54 7 (dk_at dksX0_nodeOf_2 7 rfl rfl)
theorem dX0_nodeOf_55 : decode cX0_nodeOf 55 = .ok (.iload 7, 2) := dk_21 7 (dk_at dksX0_nodeOf_2 9 rfl rfl)
theorem dX0_nodeOf_57 : decode cX0_nodeOf 57 = .ok (.iload_n 3, 1) := dk_29 (dk_at dksX0_nodeOf_2 11 rfl rfl)
theorem dX0_nodeOf_58 : decode cX0_nodeOf 58 = .ok (.if_icmp .ge 48, 3) := dk_162 0 48 (dk_at dksX0_nodeOf_2 12 rfl rfl)
theorem dX0_nodeOf_61 : decode cX0_nodeOf 61 = .ok (.iload 6, 2) := dk_21 6 (dk_at dksX0_nodeOf_2 15 rfl rfl)
theorem dX0_nodeOf_63 : decode cX0_nodeOf 63 = .ok (.ifCond .eq 43, 3) := dk_153 0 43 (dk_at dksX0_nodeOf_2 17 rfl rfl)
theorem dX0_nodeOf_66 : decode cX0_nodeOf 66 = .ok (.aload_n 0, 1) := dk_42 (dk_at dksX0_nodeOf_2 20 rfl rfl)
theorem dX0_nodeOf_67 : decode cX0_nodeOf 67 = .ok (.getfield 581, 3) := dk_180 2 69 (dk_at dksX0_nodeOf_2 21 rfl rfl)
theorem dX0_nodeOf_70 : decode cX0_nodeOf 70 = .ok (.aload_n 0, 1) := dk_42 (dk_at dksX0_nodeOf_3 0 rfl rfl)
theorem dX0_nodeOf_71 : decode cX0_nodeOf 71 = .ok (.getfield 584, 3) := dk_180 2 72 (dk_at dksX0_nodeOf_3 1 rfl rfl)
theorem dX0_nodeOf_74 : decode cX0_nodeOf 74 = .ok (.iload 5, 2) := dk_21 5 (dk_at dksX0_nodeOf_3 4 rfl rfl)
theorem dX0_nodeOf_76 : decode cX0_nodeOf 76 = .ok (.iaload, 1) := dk_46 (dk_at dksX0_nodeOf_3 6 rfl rfl)
theorem dX0_nodeOf_77 : decode cX0_nodeOf 77 = .ok (.iload 7, 2) := dk_21 7 (dk_at dksX0_nodeOf_3 7 rfl rfl)
theorem dX0_nodeOf_79 : decode cX0_nodeOf 79 = .ok (.iadd, 1) := dk_96 (dk_at dksX0_nodeOf_3 9 rfl rfl)
theorem dX0_nodeOf_80 : decode cX0_nodeOf 80 = .ok (.iaload, 1) := dk_46 (dk_at dksX0_nodeOf_3 10 rfl rfl)
theorem dX0_nodeOf_81 : decode cX0_nodeOf 81 = .ok (.aload_n 0, 1) := dk_42 (dk_at dksX0_nodeOf_3 11 rfl rfl)
theorem dX0_nodeOf_82 : decode cX0_nodeOf 82 = .ok (.getfield 567, 3) := dk_180 2 55 (dk_at dksX0_nodeOf_3 12 rfl rfl)
theorem dX0_nodeOf_85 : decode cX0_nodeOf 85 = .ok (.iload_n 2, 1) := dk_28 (dk_at dksX0_nodeOf_3 15 rfl rfl)
theorem dX0_nodeOf_86 : decode cX0_nodeOf 86 = .ok (.iload 7, 2) := dk_21 7 (dk_at dksX0_nodeOf_3 16 rfl rfl)
theorem dX0_nodeOf_88 : decode cX0_nodeOf 88 = .ok (.iadd, 1) := dk_96 (dk_at dksX0_nodeOf_3 18 rfl rfl)
theorem dX0_nodeOf_89 : decode cX0_nodeOf 89 = .ok (.iaload, 1) := dk_46 (dk_at dksX0_nodeOf_3 19 rfl rfl)
theorem dX0_nodeOf_90 : decode cX0_nodeOf 90 = .ok (.if_icmp .ne 7, 3) := dk_160 0 7 (dk_at dksX0_nodeOf_3 20 rfl rfl)
theorem dX0_nodeOf_93 : decode cX0_nodeOf 93 = .ok (.iconst 1, 1) := dk_4 (dk_at dksX0_nodeOf_3 23 rfl rfl)
theorem dX0_nodeOf_94 : decode cX0_nodeOf 94 = .ok (.goto 4, 3) := dk_167 0 4 (dk_at dksX0_nodeOf_4 0 rfl rfl)
theorem dX0_nodeOf_97 : decode cX0_nodeOf 97 = .ok (.iconst 0, 1) := dk_3 (dk_at dksX0_nodeOf_4 3 rfl rfl)
theorem dX0_nodeOf_98 : decode cX0_nodeOf 98 = .ok (.istore 6, 2) := dk_54 6 (dk_at dksX0_nodeOf_4 4 rfl rfl)
theorem dX0_nodeOf_100 : decode cX0_nodeOf 100 = .ok (.iinc 7 1, 3) := dk_132 7 1 (dk_at dksX0_nodeOf_4 6 rfl rfl)
theorem dX0_nodeOf_103 : decode cX0_nodeOf 103 = .ok (.goto (-48), 3) := dk_167 255 208 (dk_at dksX0_nodeOf_4 9 rfl rfl)
theorem dX0_nodeOf_106 : decode cX0_nodeOf 106 = .ok (.iload 6, 2) := dk_21 6 (dk_at dksX0_nodeOf_4 12 rfl rfl)
theorem dX0_nodeOf_108 : decode cX0_nodeOf 108 = .ok (.ifCond .eq 6, 3) := dk_153 0 6 (dk_at dksX0_nodeOf_4 14 rfl rfl)
theorem dX0_nodeOf_111 : decode cX0_nodeOf 111 = .ok (.iload 5, 2) := dk_21 5 (dk_at dksX0_nodeOf_4 17 rfl rfl)
theorem dX0_nodeOf_113 : decode cX0_nodeOf 113 = .ok (.ireturn, 1) := dk_172 (dk_at dksX0_nodeOf_4 19 rfl rfl)
theorem dX0_nodeOf_114 : decode cX0_nodeOf 114 = .ok (.aload_n 0, 1) := dk_42 (dk_at dksX0_nodeOf_4 20 rfl rfl)
theorem dX0_nodeOf_115 : decode cX0_nodeOf 115 = .ok (.getfield 587, 3) := dk_180 2 75 (dk_at dksX0_nodeOf_4 21 rfl rfl)
theorem dX0_nodeOf_118 : decode cX0_nodeOf 118 = .ok (.iload 5, 2) := dk_21 5 (dk_at dksX0_nodeOf_5 0 rfl rfl)
theorem dX0_nodeOf_120 : decode cX0_nodeOf 120 = .ok (.iaload, 1) := dk_46 (dk_at dksX0_nodeOf_5 2 rfl rfl)
theorem dX0_nodeOf_121 : decode cX0_nodeOf 121 = .ok (.istore 5, 2) := dk_54 5 (dk_at dksX0_nodeOf_5 3 rfl rfl)
theorem dX0_nodeOf_123 : decode cX0_nodeOf 123 = .ok (.goto (-105), 3) := dk_167 255 151 (dk_at dksX0_nodeOf_5 5 rfl rfl)
theorem dX0_nodeOf_126 : decode cX0_nodeOf 126 = .ok (.iconst 1, 1) := dk_4 (dk_at dksX0_nodeOf_5 8 rfl rfl)
theorem dX0_nodeOf_127 : decode cX0_nodeOf 127 = .ok (.istore 5, 2) := dk_54 5 (dk_at dksX0_nodeOf_5 9 rfl rfl)
theorem dX0_nodeOf_129 : decode cX0_nodeOf 129 = .ok (.iconst 0, 1) := dk_3 (dk_at dksX0_nodeOf_5 11 rfl rfl)
theorem dX0_nodeOf_130 : decode cX0_nodeOf 130 = .ok (.istore 6, 2) := dk_54 6 (dk_at dksX0_nodeOf_5 12 rfl rfl)
theorem dX0_nodeOf_132 : decode cX0_nodeOf 132 = .ok (.iload 6, 2) := dk_21 6 (dk_at dksX0_nodeOf_5 14 rfl rfl)
theorem dX0_nodeOf_134 : decode cX0_nodeOf 134 = .ok (.iload_n 3, 1) := dk_29 (dk_at dksX0_nodeOf_5 16 rfl rfl)
theorem dX0_nodeOf_135 : decode cX0_nodeOf 135 = .ok (.if_icmp .ge 28, 3) := dk_162 0 28 (dk_at dksX0_nodeOf_5 17 rfl rfl)
theorem dX0_nodeOf_138 : decode cX0_nodeOf 138 = .ok (.iload 5, 2) := dk_21 5 (dk_at dksX0_nodeOf_5 20 rfl rfl)
theorem dX0_nodeOf_140 : decode cX0_nodeOf 140 = .ok (.aload_n 0, 1) := dk_42 (dk_at dksX0_nodeOf_5 22 rfl rfl)
theorem dX0_nodeOf_141 : decode cX0_nodeOf 141 = .ok (.getfield 590, 3) := dk_180 2 78 (dk_at dksX0_nodeOf_6 0 rfl rfl)
theorem dX0_nodeOf_144 : decode cX0_nodeOf 144 = .ok (.aload_n 0, 1) := dk_42 (dk_at dksX0_nodeOf_6 3 rfl rfl)
theorem dX0_nodeOf_145 : decode cX0_nodeOf 145 = .ok (.getfield 567, 3) := dk_180 2 55 (dk_at dksX0_nodeOf_6 4 rfl rfl)
theorem dX0_nodeOf_148 : decode cX0_nodeOf 148 = .ok (.iload_n 2, 1) := dk_28 (dk_at dksX0_nodeOf_6 7 rfl rfl)
theorem dX0_nodeOf_149 : decode cX0_nodeOf 149 = .ok (.iload 6, 2) := dk_21 6 (dk_at dksX0_nodeOf_6 8 rfl rfl)
theorem dX0_nodeOf_151 : decode cX0_nodeOf 151 = .ok (.iadd, 1) := dk_96 (dk_at dksX0_nodeOf_6 10 rfl rfl)
theorem dX0_nodeOf_152 : decode cX0_nodeOf 152 = .ok (.iaload, 1) := dk_46 (dk_at dksX0_nodeOf_6 11 rfl rfl)
theorem dX0_nodeOf_153 : decode cX0_nodeOf 153 = .ok (.iaload, 1) := dk_46 (dk_at dksX0_nodeOf_6 12 rfl rfl)
theorem dX0_nodeOf_154 : decode cX0_nodeOf 154 = .ok (.iadd, 1) := dk_96 (dk_at dksX0_nodeOf_6 13 rfl rfl)
theorem dX0_nodeOf_155 : decode cX0_nodeOf 155 = .ok (.istore 5, 2) := dk_54 5 (dk_at dksX0_nodeOf_6 14 rfl rfl)
theorem dX0_nodeOf_157 : decode cX0_nodeOf 157 = .ok (.iinc 6 1, 3) := dk_132 6 1 (dk_at dksX0_nodeOf_6 16 rfl rfl)
theorem dX0_nodeOf_160 : decode cX0_nodeOf 160 = .ok (.goto (-28), 3) := dk_167 255 228 (dk_at dksX0_nodeOf_6 19 rfl rfl)
theorem dX0_nodeOf_163 : decode cX0_nodeOf 163 = .ok (.iload 5, 2) := dk_21 5 (dk_at dksX0_nodeOf_6 22 rfl rfl)
theorem dX0_nodeOf_165 : decode cX0_nodeOf 165 = .ok (.bipush 40, 2) := dk_16 40 (dk_at dksX0_nodeOf_7 0 rfl rfl)
theorem dX0_nodeOf_167 : decode cX0_nodeOf 167 = .ok (.if_icmp .gt 25, 3) := dk_163 0 25 (dk_at dksX0_nodeOf_7 2 rfl rfl)
theorem dX0_nodeOf_170 : decode cX0_nodeOf 170 = .ok (.aload_n 0, 1) := dk_42 (dk_at dksX0_nodeOf_7 5 rfl rfl)
theorem dX0_nodeOf_171 : decode cX0_nodeOf 171 = .ok (.getfield 200, 3) := dk_180 0 200 (dk_at dksX0_nodeOf_7 6 rfl rfl)
theorem dX0_nodeOf_174 : decode cX0_nodeOf 174 = .ok (.ldc_w 593, 3) := dk_19 2 81 (dk_at dksX0_nodeOf_7 9 rfl rfl)
theorem dX0_nodeOf_177 : decode cX0_nodeOf 177 = .ok (.if_icmp .eq 15, 3) := dk_159 0 15 (dk_at dksX0_nodeOf_7 12 rfl rfl)
theorem dX0_nodeOf_180 : decode cX0_nodeOf 180 = .ok (.aload_n 0, 1) := dk_42 (dk_at dksX0_nodeOf_7 15 rfl rfl)
theorem dX0_nodeOf_181 : decode cX0_nodeOf 181 = .ok (.getfield 203, 3) := dk_180 0 203 (dk_at dksX0_nodeOf_7 16 rfl rfl)
theorem dX0_nodeOf_184 : decode cX0_nodeOf 184 = .ok (.iload_n 3, 1) := dk_29 (dk_at dksX0_nodeOf_7 19 rfl rfl)
theorem dX0_nodeOf_185 : decode cX0_nodeOf 185 = .ok (.iadd, 1) := dk_96 (dk_at dksX0_nodeOf_7 20 rfl rfl)
theorem dX0_nodeOf_186 : decode cX0_nodeOf 186 = .ok (.ldc_w 594, 3) := dk_19 2 82 (dk_at dksX0_nodeOf_7 21 rfl rfl)
theorem dX0_nodeOf_189 : decode cX0_nodeOf 189 = .ok (.if_icmp .le 10, 3) := dk_164 0 10 (dk_at dksX0_nodeOf_8 0 rfl rfl)
theorem dX0_nodeOf_192 : decode cX0_nodeOf 192 = .ok (.aload_n 0, 1) := dk_42 (dk_at dksX0_nodeOf_8 3 rfl rfl)
theorem dX0_nodeOf_193 : decode cX0_nodeOf 193 = .ok (.bipush 6, 2) := dk_16 6 (dk_at dksX0_nodeOf_8 4 rfl rfl)
theorem dX0_nodeOf_195 : decode cX0_nodeOf 195 = .ok (.invokevirtual 595, 3) := dk_182 2 83 (dk_at dksX0_nodeOf_8 6 rfl rfl)
theorem dX0_nodeOf_198 : decode cX0_nodeOf 198 = .ok (.athrow, 1) := dk_191 (dk_at dksX0_nodeOf_8 9 rfl rfl)
theorem dX0_nodeOf_199 : decode cX0_nodeOf 199 = .ok (.aload_n 0, 1) := dk_42 (dk_at dksX0_nodeOf_8 10 rfl rfl)
theorem dX0_nodeOf_200 : decode cX0_nodeOf 200 = .ok (.dup, 1) := dk_89 (dk_at dksX0_nodeOf_8 11 rfl rfl)
theorem dX0_nodeOf_201 : decode cX0_nodeOf 201 = .ok (.getfield 200, 3) := dk_180 0 200 (dk_at dksX0_nodeOf_8 12 rfl rfl)
theorem dX0_nodeOf_204 : decode cX0_nodeOf 204 = .ok (.dup_x1, 1) := dk_90 (dk_at dksX0_nodeOf_8 15 rfl rfl)
theorem dX0_nodeOf_205 : decode cX0_nodeOf 205 = .ok (.iconst 1, 1) := dk_4 (dk_at dksX0_nodeOf_8 16 rfl rfl)
theorem dX0_nodeOf_206 : decode cX0_nodeOf 206 = .ok (.iadd, 1) := dk_96 (dk_at dksX0_nodeOf_8 17 rfl rfl)
theorem dX0_nodeOf_207 : decode cX0_nodeOf 207 = .ok (.putfield 200, 3) := dk_181 0 200 (dk_at dksX0_nodeOf_8 18 rfl rfl)
theorem dX0_nodeOf_210 : decode cX0_nodeOf 210 = .ok (.istore 6, 2) := dk_54 6 (dk_at dksX0_nodeOf_8 21 rfl rfl)
theorem dX0_nodeOf_212 : decode cX0_nodeOf 212 = .ok (.aload_n 0, 1) := dk_42 (dk_at dksX0_nodeOf_8 23 rfl rfl)
theorem dX0_nodeOf_213 : decode cX0_nodeOf 213 = .ok (.getfield 575, 3) := dk_180 2 63 (dk_at dksX0_nodeOf_9 0 rfl rfl)
theorem dX0_nodeOf_216 : decode cX0_nodeOf 216 = .ok (.iload 6, 2) := dk_21 6 (dk_at dksX0_nodeOf_9 3 rfl rfl)
theorem dX0_nodeOf_218 : decode cX0_nodeOf 218 = .ok (.iload_n 1, 1) := dk_27 (dk_at dksX0_nodeOf_9 5 rfl rfl)
theorem dX0_nodeOf_219 : decode cX0_nodeOf 219 = .ok (.iastore, 1) := dk_79 (dk_at dksX0_nodeOf_9 6 rfl rfl)
theorem dX0_nodeOf_220 : decode cX0_nodeOf 220 = .ok (.aload_n 0, 1) := dk_42 (dk_at dksX0_nodeOf_9 7 rfl rfl)
theorem dX0_nodeOf_221 : decode cX0_nodeOf 221 = .ok (.getfield 578, 3) := dk_180 2 66 (dk_at dksX0_nodeOf_9 8 rfl rfl)
theorem dX0_nodeOf_224 : decode cX0_nodeOf 224 = .ok (.iload 6, 2) := dk_21 6 (dk_at dksX0_nodeOf_9 11 rfl rfl)
theorem dX0_nodeOf_226 : decode cX0_nodeOf 226 = .ok (.iload_n 3, 1) := dk_29 (dk_at dksX0_nodeOf_9 13 rfl rfl)
theorem dX0_nodeOf_227 : decode cX0_nodeOf 227 = .ok (.iastore, 1) := dk_79 (dk_at dksX0_nodeOf_9 14 rfl rfl)
theorem dX0_nodeOf_228 : decode cX0_nodeOf 228 = .ok (.aload_n 0, 1) := dk_42 (dk_at dksX0_nodeOf_9 15 rfl rfl)
theorem dX0_nodeOf_229 : decode cX0_nodeOf 229 = .ok (.getfield 584, 3) := dk_180 2 72 (dk_at dksX0_nodeOf_9 16 rfl rfl)
theorem dX0_nodeOf_232 : decode cX0_nodeOf 232 = .ok (.iload 6, 2) := dk_21 6 (dk_at dksX0_nodeOf_9 19 rfl rfl)
theorem dX0_nodeOf_234 : decode cX0_nodeOf 234 = .ok (.aload_n 0, 1) := dk_42 (dk_at dksX0_nodeOf_9 21 rfl rfl)
theorem dX0_nodeOf_235 : decode cX0_nodeOf 235 = .ok (.getfield 203, 3) := dk_180 0 203 (dk_at dksX0_nodeOf_10 0 rfl rfl)
theorem dX0_nodeOf_238 : decode cX0_nodeOf 238 = .ok (.iastore, 1) := dk_79 (dk_at dksX0_nodeOf_10 3 rfl rfl)
theorem dX0_nodeOf_239 : decode cX0_nodeOf 239 = .ok (.iconst 0, 1) := dk_3 (dk_at dksX0_nodeOf_10 4 rfl rfl)
theorem dX0_nodeOf_240 : decode cX0_nodeOf 240 = .ok (.istore 7, 2) := dk_54 7 (dk_at dksX0_nodeOf_10 5 rfl rfl)
theorem dX0_nodeOf_242 : decode cX0_nodeOf 242 = .ok (.iload 7, 2) := dk_21 7 (dk_at dksX0_nodeOf_10 7 rfl rfl)
theorem dX0_nodeOf_244 : decode cX0_nodeOf 244 = .ok (.iload_n 3, 1) := dk_29 (dk_at dksX0_nodeOf_10 9 rfl rfl)
theorem dX0_nodeOf_245 : decode cX0_nodeOf 245 = .ok (.if_icmp .ge 34, 3) := dk_162 0 34 (dk_at dksX0_nodeOf_10 10 rfl rfl)
theorem dX0_nodeOf_248 : decode cX0_nodeOf 248 = .ok (.aload_n 0, 1) := dk_42 (dk_at dksX0_nodeOf_10 13 rfl rfl)
theorem dX0_nodeOf_249 : decode cX0_nodeOf 249 = .ok (.getfield 581, 3) := dk_180 2 69 (dk_at dksX0_nodeOf_10 14 rfl rfl)
theorem dX0_nodeOf_252 : decode cX0_nodeOf 252 = .ok (.aload_n 0, 1) := dk_42 (dk_at dksX0_nodeOf_10 17 rfl rfl)
theorem dX0_nodeOf_253 : decode cX0_nodeOf 253 = .ok (.dup, 1) := dk_89 (dk_at dksX0_nodeOf_10 18 rfl rfl)
theorem dX0_nodeOf_254 : decode cX0_nodeOf 254 = .ok (.getfield 203, 3) := dk_180 0 203 (dk_at dksX0_nodeOf_10 19 rfl rfl)
theorem dX0_nodeOf_257 : decode cX0_nodeOf 257 = .ok (.dup_x1, 1) := dk_90 (dk_at dksX0_nodeOf_10 22 rfl rfl)
theorem dX0_nodeOf_258 : decode cX0_nodeOf 258 = .ok (.iconst 1, 1) := dk_4 (dk_at dksX0_nodeOf_10 23 rfl rfl)
theorem dX0_nodeOf_259 : decode cX0_nodeOf 259 = .ok (.iadd, 1) := dk_96 (dk_at dksX0_nodeOf_11 0 rfl rfl)
theorem dX0_nodeOf_260 : decode cX0_nodeOf 260 = .ok (.putfield 203, 3) := dk_181 0 203 (dk_at dksX0_nodeOf_11 1 rfl rfl)
theorem dX0_nodeOf_263 : decode cX0_nodeOf 263 = .ok (.aload_n 0, 1) := dk_42 (dk_at dksX0_nodeOf_11 4 rfl rfl)
theorem dX0_nodeOf_264 : decode cX0_nodeOf 264 = .ok (.getfield 567, 3) := dk_180 2 55 (dk_at dksX0_nodeOf_11 5 rfl rfl)
theorem dX0_nodeOf_267 : decode cX0_nodeOf 267 = .ok (.iload_n 2, 1) := dk_28 (dk_at dksX0_nodeOf_11 8 rfl rfl)
theorem dX0_nodeOf_268 : decode cX0_nodeOf 268 = .ok (.iload 7, 2) := dk_21 7 (dk_at dksX0_nodeOf_11 9 rfl rfl)
theorem dX0_nodeOf_270 : decode cX0_nodeOf 270 = .ok (.iadd, 1) := dk_96 (dk_at dksX0_nodeOf_11 11 rfl rfl)
theorem dX0_nodeOf_271 : decode cX0_nodeOf 271 = .ok (.iaload, 1) := dk_46 (dk_at dksX0_nodeOf_11 12 rfl rfl)
theorem dX0_nodeOf_272 : decode cX0_nodeOf 272 = .ok (.iastore, 1) := dk_79 (dk_at dksX0_nodeOf_11 13 rfl rfl)
theorem dX0_nodeOf_273 : decode cX0_nodeOf 273 = .ok (.iinc 7 1, 3) := dk_132 7 1 (dk_at dksX0_nodeOf_11 14 rfl rfl)
theorem dX0_nodeOf_276 : decode cX0_nodeOf 276 = .ok (.goto (-34), 3) := dk_167 255 222 (dk_at dksX0_nodeOf_11 17 rfl rfl)
theorem dX0_nodeOf_279 : decode cX0_nodeOf 279 = .ok (.aload_n 0, 1) := dk_42 (dk_at dksX0_nodeOf_11 20 rfl rfl)
theorem dX0_nodeOf_280 : decode cX0_nodeOf 280 = .ok (.getfield 590, 3) := dk_180 2 78 (dk_at dksX0_nodeOf_11 21 rfl rfl)
theorem dX0_nodeOf_283 : decode cX0_nodeOf 283 = .ok (.iload 6, 2) := dk_21 6 (dk_at dksX0_nodeOf_12 0 rfl rfl)
theorem dX0_nodeOf_285 : decode cX0_nodeOf 285 = .ok (.iload 5, 2) := dk_21 5 (dk_at dksX0_nodeOf_12 2 rfl rfl)
theorem dX0_nodeOf_287 : decode cX0_nodeOf 287 = .ok (.iastore, 1) := dk_79 (dk_at dksX0_nodeOf_12 4 rfl rfl)
theorem dX0_nodeOf_288 : decode cX0_nodeOf 288 = .ok (.aload_n 0, 1) := dk_42 (dk_at dksX0_nodeOf_12 5 rfl rfl)
theorem dX0_nodeOf_289 : decode cX0_nodeOf 289 = .ok (.getfield 599, 3) := dk_180 2 87 (dk_at dksX0_nodeOf_12 6 rfl rfl)
theorem dX0_nodeOf_292 : decode cX0_nodeOf 292 = .ok (.iload 6, 2) := dk_21 6 (dk_at dksX0_nodeOf_12 9 rfl rfl)
theorem dX0_nodeOf_294 : decode cX0_nodeOf 294 = .ok (.iconst 0, 1) := dk_3 (dk_at dksX0_nodeOf_12 11 rfl rfl)
theorem dX0_nodeOf_295 : decode cX0_nodeOf 295 = .ok (.iastore, 1) := dk_79 (dk_at dksX0_nodeOf_12 12 rfl rfl)
theorem dX0_nodeOf_296 : decode cX0_nodeOf 296 = .ok (.aload_n 0, 1) := dk_42 (dk_at dksX0_nodeOf_12 13 rfl rfl)
theorem dX0_nodeOf_297 : decode cX0_nodeOf 297 = .ok (.getfield 602, 3) := dk_180 2 90 (dk_at dksX0_nodeOf_12 14 rfl rfl)
theorem dX0_nodeOf_300 : decode cX0_nodeOf 300 = .ok (.iload 6, 2) := dk_21 6 (dk_at dksX0_nodeOf_12 17 rfl rfl)
theorem dX0_nodeOf_302 : decode cX0_nodeOf 302 = .ok (.iload_n 1, 1) := dk_27 (dk_at dksX0_nodeOf_12 19 rfl rfl)
theorem dX0_nodeOf_303 : decode cX0_nodeOf 303 = .ok (.ifCond .ge 13, 3) := dk_156 0 13 (dk_at dksX0_nodeOf_12 20 rfl rfl)
theorem dX0_nodeOf_306 : decode cX0_nodeOf 306 = .ok (.aload_n 0, 1) := dk_42 (dk_at dksX0_nodeOf_12 23 rfl rfl)
theorem dX0_nodeOf_307 : decode cX0_nodeOf 307 = .ok (.iconst (-1), 1) := dk_2 (dk_at dksX0_nodeOf_13 0 rfl rfl)
theorem dX0_nodeOf_308 : decode cX0_nodeOf 308 = .ok (.iload_n 1, 1) := dk_27 (dk_at dksX0_nodeOf_13 1 rfl rfl)
theorem dX0_nodeOf_309 : decode cX0_nodeOf 309 = .ok (.isub, 1) := dk_100 (dk_at dksX0_nodeOf_13 2 rfl rfl)
theorem dX0_nodeOf_310 : decode cX0_nodeOf 310 = .ok (.invokevirtual 605, 3) := dk_182 2 93 (dk_at dksX0_nodeOf_13 3 rfl rfl)
theorem dX0_nodeOf_313 : decode cX0_nodeOf 313 = .ok (.goto 11, 3) := dk_167 0 11 (dk_at dksX0_nodeOf_13 6 rfl rfl)
theorem dX0_nodeOf_316 : decode cX0_nodeOf 316 = .ok (.aload_n 0, 1) := dk_42 (dk_at dksX0_nodeOf_13 9 rfl rfl)
theorem dX0_nodeOf_317 : decode cX0_nodeOf 317 = .ok (.iload_n 1, 1) := dk_27 (dk_at dksX0_nodeOf_13 10 rfl rfl)
theorem dX0_nodeOf_318 : decode cX0_nodeOf 318 = .ok (.iload 6, 2) := dk_21 6 (dk_at dksX0_nodeOf_13 11 rfl rfl)
theorem dX0_nodeOf_320 : decode cX0_nodeOf 320 = .ok (.iload_n 3, 1) := dk_29 (dk_at dksX0_nodeOf_13 13 rfl rfl)
theorem dX0_nodeOf_321 : decode cX0_nodeOf 321 = .ok (.invokevirtual 608, 3) := dk_182 2 96 (dk_at dksX0_nodeOf_13 14 rfl rfl)
theorem dX0_nodeOf_324 : decode cX0_nodeOf 324 = .ok (.iastore, 1) := dk_79 (dk_at dksX0_nodeOf_13 17 rfl rfl)
theorem dX0_nodeOf_325 : decode cX0_nodeOf 325 = .ok (.aload_n 0, 1) := dk_42 (dk_at dksX0_nodeOf_13 18 rfl rfl)
theorem dX0_nodeOf_326 : decode cX0_nodeOf 326 = .ok (.getfield 587, 3) := dk_180 2 75 (dk_at dksX0_nodeOf_13 19 rfl rfl)
theorem dX0_nodeOf_329 : decode cX0_nodeOf 329 = .ok (.iload 6, 2) := dk_21 6 (dk_at dksX0_nodeOf_13 22 rfl rfl)
theorem dX0_nodeOf_331 : decode cX0_nodeOf 331 = .ok (.aload_n 0, 1) := dk_42 (dk_at dksX0_nodeOf_14 0 rfl rfl)
theorem dX0_nodeOf_332 : decode cX0_nodeOf 332 = .ok (.getfield 563, 3) := dk_180 2 51 (dk_at dksX0_nodeOf_14 1 rfl rfl)
theorem dX0_nodeOf_335 : decode cX0_nodeOf 335 = .ok (.iload 4, 2) := dk_21 4 (dk_at dksX0_nodeOf_14 4 rfl rfl)
theorem dX0_nodeOf_337 : decode cX0_nodeOf 337 = .ok (.iaload, 1) := dk_46 (dk_at dksX0_nodeOf_14 6 rfl rfl)
theorem dX0_nodeOf_338 : decode cX0_nodeOf 338 = .ok (.iastore, 1) := dk_79 (dk_at dksX0_nodeOf_14 7 rfl rfl)
theorem dX0_nodeOf_339 : decode cX0_nodeOf 339 = .ok (.aload_n 0, 1) := dk_42 (dk_at dksX0_nodeOf_14 8 rfl rfl)
theorem dX0_nodeOf_340 : decode cX0_nodeOf 340 = .ok (.getfield 563, 3) := dk_180 2 51 (dk_at dksX0_nodeOf_14 9 rfl rfl)
theorem dX0_nodeOf_343 : decode cX0_nodeOf 343 = .ok (.iload 4, 2) := dk_21 4 (dk_at dksX0_nodeOf_14 12 rfl rfl)
theorem dX0_nodeOf_345 : decode cX0_nodeOf 345 = .ok (.iload 6, 2) := dk_21 6 (dk_at dksX0_nodeOf_14 14 rfl rfl)
theorem dX0_nodeOf_347 : decode cX0_nodeOf 347 = .ok (.iastore, 1) := dk_79 (dk_at dksX0_nodeOf_14 16 rfl rfl)
theorem dX0_nodeOf_348 : decode cX0_nodeOf 348 = .ok (.iload 6, 2) := dk_21 6 (dk_at dksX0_nodeOf_14 17 rfl rfl)
theorem dX0_nodeOf_350 : decode cX0_nodeOf 350 = .ok (.ireturn, 1) := dk_172 (dk_at dksX0_nodeOf_14 19 rfl rfl)
abbrev cX0_slotOf : ByteArray := prog_1_method_69_code
def yX0_slotOf : MethodName := ⟨RX0, "slotOf", "(III)I"⟩
def dkwX0_slotOf_2 : List UInt8 := [167, 255, 219, 21, 4, 19, 2, 58, 126, 172]
abbrev dktX0_slotOf_2 : List UInt8 := dkwX0_slotOf_2 ++ []
def dkwX0_slotOf_1 : List UInt8 := [180, 2, 55, 28, 21, 5, 96, 46, 96, 54, 4, 21, 4, 21, 4, 16, 15, 124, 130, 54, 4, 132, 5, 1]
abbrev dktX0_slotOf_1 : List UInt8 := dkwX0_slotOf_1 ++ dktX0_slotOf_2
def dkwX0_slotOf_0 : List UInt8 := [27, 16, 31, 104, 29, 96, 54, 4, 3, 54, 5, 21, 5, 29, 162, 0, 37, 21, 4, 19, 2, 54, 104, 42]
abbrev dktX0_slotOf_0 : List UInt8 := dkwX0_slotOf_0 ++ dktX0_slotOf_1
theorem dksX0_slotOf_0 : cX0_slotOf.data.toList.drop 0 = dktX0_slotOf_0 := by decide +kernel
theorem dksX0_slotOf_1 : cX0_slotOf.data.toList.drop 24 = dktX0_slotOf_1 := dk_seg dksX0_slotOf_0 24 rfl rfl
theorem dksX0_slotOf_2 : cX0_slotOf.data.toList.drop 48 = dktX0_slotOf_2 := dk_seg dksX0_slotOf_1 24 rfl rfl
theorem dX0_slotOf_0 : decode cX0_slotOf 0 = .ok (.iload_n 1, 1) := dk_27 (dk_at dksX0_slotOf_0 0 rfl rfl)
theorem dX0_slotOf_1 : decode cX0_slotOf 1 = .ok (.bipush 31, 2) := dk_16 31 (dk_at dksX0_slotOf_0 1 rfl rfl)
theorem dX0_slotOf_3 : decode cX0_slotOf 3 = .ok (.imul, 1) := dk_104 (dk_at dksX0_slotOf_0 3 rfl rfl)
theorem dX0_slotOf_4 : decode cX0_slotOf 4 = .ok (.iload_n 3, 1) := dk_29 (dk_at dksX0_slotOf_0 4 rfl rfl)
theorem dX0_slotOf_5 : decode cX0_slotOf 5 = .ok (.iadd, 1) := dk_96 (dk_at dksX0_slotOf_0 5 rfl rfl)
theorem dX0_slotOf_6 : decode cX0_slotOf 6 = .ok (.istore 4, 2) := dk_54 4 (dk_at dksX0_slotOf_0 6 rfl rfl)
theorem dX0_slotOf_8 : decode cX0_slotOf 8 = .ok (.iconst 0, 1) := dk_3 (dk_at dksX0_slotOf_0 8 rfl rfl)
theorem dX0_slotOf_9 : decode cX0_slotOf 9 = .ok (.istore 5, 2) := dk_54 5 (dk_at dksX0_slotOf_0 9 rfl rfl)
theorem dX0_slotOf_11 : decode cX0_slotOf 11 = .ok (.iload 5, 2) := dk_21 5 (dk_at dksX0_slotOf_0 11 rfl rfl)
theorem dX0_slotOf_13 : decode cX0_slotOf 13 = .ok (.iload_n 3, 1) := dk_29 (dk_at dksX0_slotOf_0 13 rfl rfl)
theorem dX0_slotOf_14 : decode cX0_slotOf 14 = .ok (.if_icmp .ge 37, 3) := dk_162 0 37 (dk_at dksX0_slotOf_0 14 rfl rfl)
theorem dX0_slotOf_17 : decode cX0_slotOf 17 = .ok (.iload 4, 2) := dk_21 4 (dk_at dksX0_slotOf_0 17 rfl rfl)
theorem dX0_slotOf_19 : decode cX0_slotOf 19 = .ok (.ldc_w 566, 3) := dk_19 2 54 (dk_at dksX0_slotOf_0 19 rfl rfl)
theorem dX0_slotOf_22 : decode cX0_slotOf 22 = .ok (.imul, 1) := dk_104 (dk_at dksX0_slotOf_0 22 rfl rfl)
theorem dX0_slotOf_23 : decode cX0_slotOf 23 = .ok (.aload_n 0, 1) := dk_42 (dk_at dksX0_slotOf_0 23 rfl rfl)
theorem dX0_slotOf_24 : decode cX0_slotOf 24 = .ok (.getfield 567, 3) := dk_180 2 55 (dk_at dksX0_slotOf_1 0 rfl rfl)
theorem dX0_slotOf_27 : decode cX0_slotOf 27 = .ok (.iload_n 2, 1) := dk_28 (dk_at dksX0_slotOf_1 3 rfl rfl)
theorem dX0_slotOf_28 : decode cX0_slotOf 28 = .ok (.iload 5, 2) := dk_21 5 (dk_at dksX0_slotOf_1 4 rfl rfl)
theorem dX0_slotOf_30 : decode cX0_slotOf 30 = .ok (.iadd, 1) := dk_96 (dk_at dksX0_slotOf_1 6 rfl rfl)
theorem dX0_slotOf_31 : decode cX0_slotOf 31 = .ok (.iaload, 1) := dk_46 (dk_at dksX0_slotOf_1 7 rfl rfl)
theorem dX0_slotOf_32 : decode cX0_slotOf 32 = .ok (.iadd, 1) := dk_96 (dk_at dksX0_slotOf_1 8 rfl rfl)
theorem dX0_slotOf_33 : decode cX0_slotOf 33 = .ok (.istore 4, 2) := dk_54 4 (dk_at dksX0_slotOf_1 9 rfl rfl)
theorem dX0_slotOf_35 : decode cX0_slotOf 35 = .ok (.iload 4, 2) := dk_21 4 (dk_at dksX0_slotOf_1 11 rfl rfl)
theorem dX0_slotOf_37 : decode cX0_slotOf 37 = .ok (.iload 4, 2) := dk_21 4 (dk_at dksX0_slotOf_1 13 rfl rfl)
theorem dX0_slotOf_39 : decode cX0_slotOf 39 = .ok (.bipush 15, 2) := dk_16 15 (dk_at dksX0_slotOf_1 15 rfl rfl)
theorem dX0_slotOf_41 : decode cX0_slotOf 41 = .ok (.iushr, 1) := dk_124 (dk_at dksX0_slotOf_1 17 rfl rfl)
theorem dX0_slotOf_42 : decode cX0_slotOf 42 = .ok (.ixor, 1) := dk_130 (dk_at dksX0_slotOf_1 18 rfl rfl)
theorem dX0_slotOf_43 : decode cX0_slotOf 43 = .ok (.istore 4, 2) := dk_54 4 (dk_at dksX0_slotOf_1 19 rfl rfl)
theorem dX0_slotOf_45 : decode cX0_slotOf 45 = .ok (.iinc 5 1, 3) := dk_132 5 1 (dk_at dksX0_slotOf_1 21 rfl rfl)
theorem dX0_slotOf_48 : decode cX0_slotOf 48 = .ok (.goto (-37), 3) := dk_167 255 219 (dk_at dksX0_slotOf_2 0 rfl rfl)
theorem dX0_slotOf_51 : decode cX0_slotOf 51 = .ok (.iload 4, 2) := dk_21 4 (dk_at dksX0_slotOf_2 3 rfl rfl)
theorem dX0_slotOf_53 : decode cX0_slotOf 53 = .ok (.ldc_w 570, 3) := dk_19 2 58 (dk_at dksX0_slotOf_2 5 rfl rfl)
theorem dX0_slotOf_56 : decode cX0_slotOf 56 = .ok (.iand, 1) := dk_126 (dk_at dksX0_slotOf_2 8 rfl rfl)
theorem dX0_slotOf_57 : decode cX0_slotOf 57 = .ok (.ireturn, 1) := dk_172 (dk_at dksX0_slotOf_2 9 rfl rfl)
abbrev cX0_stop : ByteArray := prog_1_method_1_code
def yX0_stop : MethodName := ⟨RX0, "stop", "(I)LRewriteHouse$Stop;"⟩
def dkwX0_stop_0 : List UInt8 := [42, 180, 0, 3, 27, 181, 0, 7, 42, 180, 0, 3, 176]
abbrev dktX0_stop_0 : List UInt8 := dkwX0_stop_0 ++ []
theorem dksX0_stop_0 : cX0_stop.data.toList.drop 0 = dktX0_stop_0 := by decide +kernel
theorem dX0_stop_0 : decode cX0_stop 0 = .ok (.aload_n 0, 1) := dk_42 (dk_at dksX0_stop_0 0 rfl rfl)
theorem dX0_stop_1 : decode cX0_stop 1 = .ok (.getfield 3, 3) := dk_180 0 3 (dk_at dksX0_stop_0 1 rfl rfl)
theorem dX0_stop_4 : decode cX0_stop 4 = .ok (.iload_n 1, 1) := dk_27 (dk_at dksX0_stop_0 4 rfl rfl)
theorem dX0_stop_5 : decode cX0_stop 5 = .ok (.putfield 7, 3) := dk_181 0 7 (dk_at dksX0_stop_0 5 rfl rfl)
theorem dX0_stop_8 : decode cX0_stop 8 = .ok (.aload_n 0, 1) := dk_42 (dk_at dksX0_stop_0 8 rfl rfl)
theorem dX0_stop_9 : decode cX0_stop 9 = .ok (.getfield 3, 3) := dk_180 0 3 (dk_at dksX0_stop_0 9 rfl rfl)
theorem dX0_stop_12 : decode cX0_stop 12 = .ok (.areturn, 1) := dk_176 (dk_at dksX0_stop_0 12 rfl rfl)
abbrev cX0_sortOfVariable : ByteArray := prog_1_method_71_code
def yX0_sortOfVariable : MethodName := ⟨RX0, "sortOfVariable", "(I)I"⟩
def dkwX0_sortOfVariable_0 : List UInt8 := [42, 180, 1, 247, 27, 16, 30, 112, 46, 172]
abbrev dktX0_sortOfVariable_0 : List UInt8 := dkwX0_sortOfVariable_0 ++ []
theorem dksX0_sortOfVariable_0 : cX0_sortOfVariable.data.toList.drop 0 = dktX0_sortOfVariable_0 := by decide +kernel
theorem dX0_sortOfVariable_0 : decode cX0_sortOfVariable 0 = .ok (.aload_n 0, 1) := dk_42 (dk_at dksX0_sortOfVariable_0 0 rfl rfl)
theorem dX0_sortOfVariable_1 : decode cX0_sortOfVariable 1 = .ok (.getfield 503, 3) := dk_180 1 247 (dk_at dksX0_sortOfVariable_0 1 rfl rfl)
theorem dX0_sortOfVariable_4 : decode cX0_sortOfVariable 4 = .ok (.iload_n 1, 1) := dk_27 (dk_at dksX0_sortOfVariable_0 4 rfl rfl)
theorem dX0_sortOfVariable_5 : decode cX0_sortOfVariable 5 = .ok (.bipush 30, 2) := dk_16 30 (dk_at dksX0_sortOfVariable_0 5 rfl rfl)
theorem dX0_sortOfVariable_7 : decode cX0_sortOfVariable 7 = .ok (.irem, 1) := dk_112 (dk_at dksX0_sortOfVariable_0 7 rfl rfl)
theorem dX0_sortOfVariable_8 : decode cX0_sortOfVariable 8 = .ok (.iaload, 1) := dk_46 (dk_at dksX0_sortOfVariable_0 8 rfl rfl)
theorem dX0_sortOfVariable_9 : decode cX0_sortOfVariable 9 = .ok (.ireturn, 1) := dk_172 (dk_at dksX0_sortOfVariable_0 9 rfl rfl)
abbrev cX0_leastOf : ByteArray := prog_1_method_79_code
def yX0_leastOf : MethodName := ⟨RX0, "leastOf", "(III)I"⟩
def dkwX0_leastOf_5 : List UInt8 := [180, 2, 112, 29, 182, 2, 115, 172]
abbrev dktX0_leastOf_5 : List UInt8 := dkwX0_leastOf_5 ++ []
def dkwX0_leastOf_4 : List UInt8 := [42, 180, 2, 90, 42, 28, 21, 4, 182, 2, 109, 46, 79, 132, 4, 1, 167, 255, 228, 42, 27, 42]
abbrev dktX0_leastOf_4 : List UInt8 := dkwX0_leastOf_4 ++ dktX0_leastOf_5
def dkwX0_leastOf_3 : List UInt8 := [132, 5, 1, 167, 255, 209, 21, 4, 172, 3, 54, 4, 21, 4, 29, 162, 0, 28, 42, 180, 2, 112, 21, 4]
abbrev dktX0_leastOf_3 : List UInt8 := dkwX0_leastOf_3 ++ dktX0_leastOf_4
def dkwX0_leastOf_2 : List UInt8 := [180, 2, 90, 42, 28, 21, 5, 182, 2, 109, 46, 79, 42, 27, 42, 180, 2, 112, 5, 182, 2, 115, 54, 4]
abbrev dktX0_leastOf_2 : List UInt8 := dkwX0_leastOf_2 ++ dktX0_leastOf_3
def dkwX0_leastOf_1 : List UInt8 := [54, 5, 21, 5, 29, 162, 0, 47, 42, 180, 2, 112, 3, 21, 4, 79, 42, 180, 2, 112, 4, 42]
abbrev dktX0_leastOf_1 : List UInt8 := dkwX0_leastOf_1 ++ dktX0_leastOf_2
def dkwX0_leastOf_0 : List UInt8 := [42, 180, 1, 229, 27, 51, 153, 0, 72, 42, 180, 2, 90, 42, 28, 3, 182, 2, 109, 46, 54, 4, 4]
abbrev dktX0_leastOf_0 : List UInt8 := dkwX0_leastOf_0 ++ dktX0_leastOf_1
theorem dksX0_leastOf_0 : cX0_leastOf.data.toList.drop 0 = dktX0_leastOf_0 := by decide +kernel
theorem dksX0_leastOf_1 : cX0_leastOf.data.toList.drop 23 = dktX0_leastOf_1 := dk_seg dksX0_leastOf_0 23 rfl rfl
theorem dksX0_leastOf_2 : cX0_leastOf.data.toList.drop 45 = dktX0_leastOf_2 := dk_seg dksX0_leastOf_1 22 rfl rfl
theorem dksX0_leastOf_3 : cX0_leastOf.data.toList.drop 69 = dktX0_leastOf_3 := dk_seg dksX0_leastOf_2 24 rfl rfl
theorem dksX0_leastOf_4 : cX0_leastOf.data.toList.drop 93 = dktX0_leastOf_4 := dk_seg dksX0_leastOf_3 24 rfl rfl
theorem dksX0_leastOf_5 : cX0_leastOf.data.toList.drop 115 = dktX0_leastOf_5 := dk_seg dksX0_leastOf_4 22 rfl rfl
theorem dX0_leastOf_0 : decode cX0_leastOf 0 = .ok (.aload_n 0, 1) := dk_42 (dk_at dksX0_leastOf_0 0 rfl rfl)
theorem dX0_leastOf_1 : decode cX0_leastOf 1 = .ok (.getfield 485, 3) := dk_180 1 229 (dk_at dksX0_leastOf_0 1 rfl rfl)
theorem dX0_leastOf_4 : decode cX0_leastOf 4 = .ok (.iload_n 1, 1) := dk_27 (dk_at dksX0_leastOf_0 4 rfl rfl)
theorem dX0_leastOf_5 : decode cX0_leastOf 5 = .ok (.baload, 1) := dk_51 (dk_at dksX0_leastOf_0 5 rfl rfl)
theorem dX0_leastOf_6 : decode cX0_leastOf 6 = .ok (.ifCond .eq 72, 3) := dk_153 0 72 (dk_at dksX0_leastOf_0 6 rfl rfl)
theorem dX0_leastOf_9 : decode cX0_leastOf 9 = .ok (.aload_n 0, 1) := dk_42 (dk_at dksX0_leastOf_0 9 rfl rfl)
theorem dX0_leastOf_10 : decode cX0_leastOf 10 = .ok (.getfield 602, 3) := dk_180 2 90 (dk_at dksX0_leastOf_0 10 rfl rfl)
theorem dX0_leastOf_13 : decode cX0_leastOf 13 = .ok (.aload_n 0, 1) := dk_42 (dk_at dksX0_leastOf_0 13 rfl rfl)
theorem dX0_leastOf_14 : decode cX0_leastOf 14 = .ok (.iload_n 2, 1) := dk_28 (dk_at dksX0_leastOf_0 14 rfl rfl)
theorem dX0_leastOf_15 : decode cX0_leastOf 15 = .ok (.iconst 0, 1) := dk_3 (dk_at dksX0_leastOf_0 15 rfl rfl)
theorem dX0_leastOf_16 : decode cX0_leastOf 16 = .ok (.invokevirtual 621, 3) := dk_182 2 109 (dk_at dksX0_leastOf_0 16 rfl rfl)
theorem dX0_leastOf_19 : decode cX0_leastOf 19 = .ok (.iaload, 1) := dk_46 (dk_at dksX0_leastOf_0 19 rfl rfl)
theorem dX0_leastOf_20 : decode cX0_leastOf 20 = .ok (.istore 4, 2) := dk_54 4 (dk_at dksX0_leastOf_0 20 rfl rfl)
theorem dX0_leastOf_22 : decode cX0_leastOf 22 = .ok (.iconst 1, 1) := dk_4 (dk_at dksX0_leastOf_0 22 rfl rfl)
theorem dX0_leastOf_23 : decode cX0_leastOf 23 = .ok (.istore 5, 2) := dk_54 5 (dk_at dksX0_leastOf_1 0 rfl rfl)
theorem dX0_leastOf_25 : decode cX0_leastOf 25 = .ok (.iload 5, 2) := dk_21 5 (dk_at dksX0_leastOf_1 2 rfl rfl)
theorem dX0_leastOf_27 : decode cX0_leastOf 27 = .ok (.iload_n 3, 1) := dk_29 (dk_at dksX0_leastOf_1 4 rfl rfl)
theorem dX0_leastOf_28 : decode cX0_leastOf 28 = .ok (.if_icmp .ge 47, 3) := dk_162 0 47 (dk_at dksX0_leastOf_1 5 rfl rfl)
theorem dX0_leastOf_31 : decode cX0_leastOf 31 = .ok (.aload_n 0, 1) := dk_42 (dk_at dksX0_leastOf_1 8 rfl rfl)
theorem dX0_leastOf_32 : decode cX0_leastOf 32 = .ok (.getfield 624, 3) := dk_180 2 112 (dk_at dksX0_leastOf_1 9 rfl rfl)
theorem dX0_leastOf_35 : decode cX0_leastOf 35 = .ok (.iconst 0, 1) := dk_3 (dk_at dksX0_leastOf_1 12 rfl rfl)
theorem dX0_leastOf_36 : decode cX0_leastOf 36 = .ok (.iload 4, 2) := dk_21 4 (dk_at dksX0_leastOf_1 13 rfl rfl)
theorem dX0_leastOf_38 : decode cX0_leastOf 38 = .ok (.iastore, 1) := dk_79 (dk_at dksX0_leastOf_1 15 rfl rfl)
theorem dX0_leastOf_39 : decode cX0_leastOf 39 = .ok (.aload_n 0, 1) := dk_42 (dk_at dksX0_leastOf_1 16 rfl rfl)
theorem dX0_leastOf_40 : decode cX0_leastOf 40 = .ok (.getfield 624, 3) := dk_180 2 112 (dk_at dksX0_leastOf_1 17 rfl rfl)
theorem dX0_leastOf_43 : decode cX0_leastOf 43 = .ok (.iconst 1, 1) := dk_4 (dk_at dksX0_leastOf_1 20 rfl rfl)
theorem dX0_leastOf_44 : decode cX0_leastOf 44 = .ok (.aload_n 0, 1) := dk_42 (dk_at dksX0_leastOf_1 21 rfl rfl)
theorem dX0_leastOf_45 : decode cX0_leastOf 45 = .ok (.getfield 602, 3) := dk_180 2 90 (dk_at dksX0_leastOf_2 0 rfl rfl)
theorem dX0_leastOf_48 : decode cX0_leastOf 48 = .ok (.aload_n 0, 1) := dk_42 (dk_at dksX0_leastOf_2 3 rfl rfl)
theorem dX0_leastOf_49 : decode cX0_leastOf 49 = .ok (.iload_n 2, 1) := dk_28 (dk_at dksX0_leastOf_2 4 rfl rfl)
theorem dX0_leastOf_50 : decode cX0_leastOf 50 = .ok (.iload 5, 2) := dk_21 5 (dk_at dksX0_leastOf_2 5 rfl rfl)
theorem dX0_leastOf_52 : decode cX0_leastOf 52 = .ok (.invokevirtual 621, 3) := dk_182 2 109 (dk_at dksX0_leastOf_2 7 rfl rfl)
theorem dX0_leastOf_55 : decode cX0_leastOf 55 = .ok (.iaload, 1) := dk_46 (dk_at dksX0_leastOf_2 10 rfl rfl)
theorem dX0_leastOf_56 : decode cX0_leastOf 56 = .ok (.iastore, 1) := dk_79 (dk_at dksX0_leastOf_2 11 rfl rfl)
theorem dX0_leastOf_57 : decode cX0_leastOf 57 = .ok (.aload_n 0, 1) := dk_42 (dk_at dksX0_leastOf_2 12 rfl rfl)
theorem dX0_leastOf_58 : decode cX0_leastOf 58 = .ok (.iload_n 1, 1) := dk_27 (dk_at dksX0_leastOf_2 13 rfl rfl)
theorem dX0_leastOf_59 : decode cX0_leastOf 59 = .ok (.aload_n 0, 1) := dk_42 (dk_at dksX0_leastOf_2 14 rfl rfl)
theorem dX0_leastOf_60 : decode cX0_leastOf 60 = .ok (.getfield 624, 3) := dk_180 2 112 (dk_at dksX0_leastOf_2 15 rfl rfl)
theorem dX0_leastOf_63 : decode cX0_leastOf 63 = .ok (.iconst 2, 1) := dk_5 (dk_at dksX0_leastOf_2 18 rfl rfl)
theorem dX0_leastOf_64 : decode cX0_leastOf 64 = .ok (.invokevirtual 627, 3) := dk_182 2 115 (dk_at dksX0_leastOf_2 19 rfl rfl)
theorem dX0_leastOf_67 : decode cX0_leastOf 67 = .ok (.istore 4, 2) := dk_54 4 (dk_at dksX0_leastOf_2 22 rfl rfl)
theorem dX0_leastOf_69 : decode cX0_leastOf 69 = .ok (.iinc 5 1, 3) := dk_132 5 1 (dk_at dksX0_leastOf_3 0 rfl rfl)
theorem dX0_leastOf_72 : decode cX0_leastOf 72 = .ok (.goto (-47), 3) := dk_167 255 209 (dk_at dksX0_leastOf_3 3 rfl rfl)
theorem dX0_leastOf_75 : decode cX0_leastOf 75 = .ok (.iload 4, 2) := dk_21 4 (dk_at dksX0_leastOf_3 6 rfl rfl)
theorem dX0_leastOf_77 : decode cX0_leastOf 77 = .ok (.ireturn, 1) := dk_172 (dk_at dksX0_leastOf_3 8 rfl rfl)
theorem dX0_leastOf_78 : decode cX0_leastOf 78 = .ok (.iconst 0, 1) := dk_3 (dk_at dksX0_leastOf_3 9 rfl rfl)
theorem dX0_leastOf_79 : decode cX0_leastOf 79 = .ok (.istore 4, 2) := dk_54 4 (dk_at dksX0_leastOf_3 10 rfl rfl)
theorem dX0_leastOf_81 : decode cX0_leastOf 81 = .ok (.iload 4, 2) := dk_21 4 (dk_at dksX0_leastOf_3 12 rfl rfl)
theorem dX0_leastOf_83 : decode cX0_leastOf 83 = .ok (.iload_n 3, 1) := dk_29 (dk_at dksX0_leastOf_3 14 rfl rfl)
theorem dX0_leastOf_84 : decode cX0_leastOf 84 = .ok (.if_icmp .ge 28, 3) := dk_162 0 28 (dk_at dksX0_leastOf_3 15 rfl rfl)
theorem dX0_leastOf_87 : decode cX0_leastOf 87 = .ok (.aload_n 0, 1) := dk_42 (dk_at dksX0_leastOf_3 18 rfl rfl)
theorem dX0_leastOf_88 : decode cX0_leastOf 88 = .ok (.getfield 624, 3) := dk_180 2 112 (dk_at dksX0_leastOf_3 19 rfl rfl)
theorem dX0_leastOf_91 : decode cX0_leastOf 91 = .ok (.iload 4, 2) := dk_21 4 (dk_at dksX0_leastOf_3 22 rfl rfl)
theorem dX0_leastOf_93 : decode cX0_leastOf 93 = .ok (.aload_n 0, 1) := dk_42 (dk_at dksX0_leastOf_4 0 rfl rfl)
theorem dX0_leastOf_94 : decode cX0_leastOf 94 = .ok (.getfield 602, 3) := dk_180 2 90 (dk_at dksX0_leastOf_4 1 rfl rfl)
theorem dX0_leastOf_97 : decode cX0_leastOf 97 = .ok (.aload_n 0, 1) := dk_42 (dk_at dksX0_leastOf_4 4 rfl rfl)
theorem dX0_leastOf_98 : decode cX0_leastOf 98 = .ok (.iload_n 2, 1) := dk_28 (dk_at dksX0_leastOf_4 5 rfl rfl)
theorem dX0_leastOf_99 : decode cX0_leastOf 99 = .ok (.iload 4, 2) := dk_21 4 (dk_at dksX0_leastOf_4 6 rfl rfl)
theorem dX0_leastOf_101 : decode cX0_leastOf 101 = .ok (.invokevirtual 621, 3) := dk_182 2 109 (dk_at dksX0_leastOf_4 8 rfl rfl)
theorem dX0_leastOf_104 : decode cX0_leastOf 104 = .ok (.iaload, 1) := dk_46 (dk_at dksX0_leastOf_4 11 rfl rfl)
theorem dX0_leastOf_105 : decode cX0_leastOf 105 = .ok (.iastore, 1) := dk_79 (dk_at dksX0_leastOf_4 12 rfl rfl)
theorem dX0_leastOf_106 : decode cX0_leastOf 106 = .ok (.iinc 4 1, 3) := dk_132 4 1 (dk_at dksX0_leastOf_4 13 rfl rfl)
theorem dX0_leastOf_109 : decode cX0_leastOf 109 = .ok (.goto (-28), 3) := dk_167 255 228 (dk_at dksX0_leastOf_4 16 rfl rfl)
theorem dX0_leastOf_112 : decode cX0_leastOf 112 = .ok (.aload_n 0, 1) := dk_42 (dk_at dksX0_leastOf_4 19 rfl rfl)
theorem dX0_leastOf_113 : decode cX0_leastOf 113 = .ok (.iload_n 1, 1) := dk_27 (dk_at dksX0_leastOf_4 20 rfl rfl)
theorem dX0_leastOf_114 : decode cX0_leastOf 114 = .ok (.aload_n 0, 1) := dk_42 (dk_at dksX0_leastOf_4 21 rfl rfl)
theorem dX0_leastOf_115 : decode cX0_leastOf 115 = .ok (.getfield 624, 3) := dk_180 2 112 (dk_at dksX0_leastOf_5 0 rfl rfl)
theorem dX0_leastOf_118 : decode cX0_leastOf 118 = .ok (.iload_n 3, 1) := dk_29 (dk_at dksX0_leastOf_5 3 rfl rfl)
theorem dX0_leastOf_119 : decode cX0_leastOf 119 = .ok (.invokevirtual 627, 3) := dk_182 2 115 (dk_at dksX0_leastOf_5 4 rfl rfl)
theorem dX0_leastOf_122 : decode cX0_leastOf 122 = .ok (.ireturn, 1) := dk_172 (dk_at dksX0_leastOf_5 7 rfl rfl)
abbrev cX0_at : ByteArray := prog_1_method_75_code
def yX0_at : MethodName := ⟨RX0, "at", "(II)I"⟩
def dkwX0_at_0 : List UInt8 := [42, 180, 2, 69, 42, 180, 2, 72, 27, 46, 28, 96, 46, 172]
abbrev dktX0_at_0 : List UInt8 := dkwX0_at_0 ++ []
theorem dksX0_at_0 : cX0_at.data.toList.drop 0 = dktX0_at_0 := by decide +kernel
theorem dX0_at_0 : decode cX0_at 0 = .ok (.aload_n 0, 1) := dk_42 (dk_at dksX0_at_0 0 rfl rfl)
theorem dX0_at_1 : decode cX0_at 1 = .ok (.getfield 581, 3) := dk_180 2 69 (dk_at dksX0_at_0 1 rfl rfl)
theorem dX0_at_4 : decode cX0_at 4 = .ok (.aload_n 0, 1) := dk_42 (dk_at dksX0_at_0 4 rfl rfl)
theorem dX0_at_5 : decode cX0_at 5 = .ok (.getfield 584, 3) := dk_180 2 72 (dk_at dksX0_at_0 5 rfl rfl)
theorem dX0_at_8 : decode cX0_at 8 = .ok (.iload_n 1, 1) := dk_27 (dk_at dksX0_at_0 8 rfl rfl)
theorem dX0_at_9 : decode cX0_at 9 = .ok (.iaload, 1) := dk_46 (dk_at dksX0_at_0 9 rfl rfl)
theorem dX0_at_10 : decode cX0_at 10 = .ok (.iload_n 2, 1) := dk_28 (dk_at dksX0_at_0 10 rfl rfl)
theorem dX0_at_11 : decode cX0_at 11 = .ok (.iadd, 1) := dk_96 (dk_at dksX0_at_0 11 rfl rfl)
theorem dX0_at_12 : decode cX0_at 12 = .ok (.iaload, 1) := dk_46 (dk_at dksX0_at_0 12 rfl rfl)
theorem dX0_at_13 : decode cX0_at 13 = .ok (.ireturn, 1) := dk_172 (dk_at dksX0_at_0 13 rfl rfl)
abbrev cX0_leastBy : ByteArray := prog_1_method_77_code
def yX0_leastBy : MethodName := ⟨RX0, "leastBy", "(I[II)I"⟩
def dkwX0_leastBy_5 : List UInt8 := [130, 126, 154, 0, 7, 21, 6, 54, 4, 132, 6, 1, 167, 255, 214, 21, 4, 172]
abbrev dktX0_leastBy_5 : List UInt8 := dkwX0_leastBy_5 ++ []
def dkwX0_leastBy_4 : List UInt8 := [162, 0, 39, 21, 5, 21, 6, 122, 4, 126, 4, 160, 0, 22, 21, 5, 42, 180, 1, 142, 21, 6, 46, 2]
abbrev dktX0_leastBy_4 : List UInt8 := dkwX0_leastBy_4 ++ dktX0_leastBy_5
def dkwX0_leastBy_3 : List UInt8 := [21, 6, 46, 120, 128, 54, 5, 132, 6, 1, 167, 255, 186, 3, 54, 6, 21, 6, 42, 180, 0, 145]
abbrev dktX0_leastBy_3 : List UInt8 := dkwX0_leastBy_3 ++ dktX0_leastBy_4
def dkwX0_leastBy_2 : List UInt8 := [51, 153, 0, 29, 42, 21, 6, 44, 29, 4, 182, 2, 105, 153, 0, 17, 21, 5, 4, 42, 180, 1, 192]
abbrev dktX0_leastBy_2 : List UInt8 := dkwX0_leastBy_2 ++ dktX0_leastBy_3
def dkwX0_leastBy_1 : List UInt8 := [21, 6, 46, 27, 160, 0, 50, 42, 21, 6, 44, 29, 3, 182, 2, 105, 154, 0, 24, 42, 180, 1, 232, 27]
abbrev dktX0_leastBy_1 : List UInt8 := dkwX0_leastBy_1 ++ dktX0_leastBy_2
def dkwX0_leastBy_0 : List UInt8 := [16, 254, 54, 4, 3, 54, 5, 3, 54, 6, 21, 6, 42, 180, 0, 151, 162, 0, 67, 42, 180, 1, 195]
abbrev dktX0_leastBy_0 : List UInt8 := dkwX0_leastBy_0 ++ dktX0_leastBy_1
theorem dksX0_leastBy_0 : cX0_leastBy.data.toList.drop 0 = dktX0_leastBy_0 := by decide +kernel
theorem dksX0_leastBy_1 : cX0_leastBy.data.toList.drop 23 = dktX0_leastBy_1 := dk_seg dksX0_leastBy_0 23 rfl rfl
theorem dksX0_leastBy_2 : cX0_leastBy.data.toList.drop 47 = dktX0_leastBy_2 := dk_seg dksX0_leastBy_1 24 rfl rfl
theorem dksX0_leastBy_3 : cX0_leastBy.data.toList.drop 70 = dktX0_leastBy_3 := dk_seg dksX0_leastBy_2 23 rfl rfl
theorem dksX0_leastBy_4 : cX0_leastBy.data.toList.drop 92 = dktX0_leastBy_4 := dk_seg dksX0_leastBy_3 22 rfl rfl
theorem dksX0_leastBy_5 : cX0_leastBy.data.toList.drop 116 = dktX0_leastBy_5 := dk_seg dksX0_leastBy_4 24 rfl rfl
theorem dX0_leastBy_0 : decode cX0_leastBy 0 = .ok (.bipush (-2), 2) := dk_16 254 (dk_at dksX0_leastBy_0 0 rfl rfl)
theorem dX0_leastBy_2 : decode cX0_leastBy 2 = .ok (.istore 4, 2) := dk_54 4 (dk_at dksX0_leastBy_0 2 rfl rfl)
theorem dX0_leastBy_4 : decode cX0_leastBy 4 = .ok (.iconst 0, 1) := dk_3 (dk_at dksX0_leastBy_0 4 rfl rfl)
theorem dX0_leastBy_5 : decode cX0_leastBy 5 = .ok (.istore 5, 2) := dk_54 5 (dk_at dksX0_leastBy_0 5 rfl rfl)
theorem dX0_leastBy_7 : decode cX0_leastBy 7 = .ok (.iconst 0, 1) := dk_3 (dk_at dksX0_leastBy_0 7 rfl rfl)
theorem dX0_leastBy_8 : decode cX0_leastBy 8 = .ok (.istore 6, 2) := dk_54 6 (dk_at dksX0_leastBy_0 8 rfl rfl)
theorem dX0_leastBy_10 : decode cX0_leastBy 10 = .ok (.iload 6, 2) := dk_21 6 (dk_at dksX0_leastBy_0 10 rfl rfl)
theorem dX0_leastBy_12 : decode cX0_leastBy 12 = .ok (.aload_n 0, 1) := dk_42 (dk_at dksX0_leastBy_0 12 rfl rfl)
theorem dX0_leastBy_13 : decode cX0_leastBy 13 = .ok (.getfield 151, 3) := dk_180 0 151 (dk_at dksX0_leastBy_0 13 rfl rfl)
theorem dX0_leastBy_16 : decode cX0_leastBy 16 = .ok (.if_icmp .ge 67, 3) := dk_162 0 67 (dk_at dksX0_leastBy_0 16 rfl rfl)
theorem dX0_leastBy_19 : decode cX0_leastBy 19 = .ok (.aload_n 0, 1) := dk_42 (dk_at dksX0_leastBy_0 19 rfl rfl)
theorem dX0_leastBy_20 : decode cX0_leastBy 20 = .ok (.getfield 451, 3) := dk_180 1 195 (dk_at dksX0_leastBy_0 20 rfl rfl)
theorem dX0_leastBy_23 : decode cX0_leastBy 23 = .ok (.iload 6, 2) := dk_21 6 (dk_at dksX0_leastBy_1 0 rfl rfl)
theorem dX0_leastBy_25 : decode cX0_leastBy 25 = .ok (.iaload, 1) := dk_46 (dk_at dksX0_leastBy_1 2 rfl rfl)
theorem dX0_leastBy_26 : decode cX0_leastBy 26 = .ok (.iload_n 1, 1) := dk_27 (dk_at dksX0_leastBy_1 3 rfl rfl)
theorem dX0_leastBy_27 : decode cX0_leastBy 27 = .ok (.if_icmp .ne 50, 3) := dk_160 0 50 (dk_at dksX0_leastBy_1 4 rfl rfl)
theorem dX0_leastBy_30 : decode cX0_leastBy 30 = .ok (.aload_n 0, 1) := dk_42 (dk_at dksX0_leastBy_1 7 rfl rfl)
theorem dX0_leastBy_31 : decode cX0_leastBy 31 = .ok (.iload 6, 2) := dk_21 6 (dk_at dksX0_leastBy_1 8 rfl rfl)
theorem dX0_leastBy_33 : decode cX0_leastBy 33 = .ok (.aload_n 2, 1) := dk_44 (dk_at dksX0_leastBy_1 10 rfl rfl)
theorem dX0_leastBy_34 : decode cX0_leastBy 34 = .ok (.iload_n 3, 1) := dk_29 (dk_at dksX0_leastBy_1 11 rfl rfl)
theorem dX0_leastBy_35 : decode cX0_leastBy 35 = .ok (.iconst 0, 1) := dk_3 (dk_at dksX0_leastBy_1 12 rfl rfl)
theorem dX0_leastBy_36 : decode cX0_leastBy 36 = .ok (.invokevirtual 617, 3) := dk_182 2 105 (dk_at dksX0_leastBy_1 13 rfl rfl)
theorem dX0_leastBy_39 : decode cX0_leastBy 39 = .ok (.ifCond .ne 24, 3) := dk_154 0 24 (dk_at dksX0_leastBy_1 16 rfl rfl)
theorem dX0_leastBy_42 : decode cX0_leastBy 42 = .ok (.aload_n 0, 1) := dk_42 (dk_at dksX0_leastBy_1 19 rfl rfl)
theorem dX0_leastBy_43 : decode cX0_leastBy 43 = .ok (.getfield 488, 3) := dk_180 1 232 (dk_at dksX0_leastBy_1 20 rfl rfl)
theorem dX0_leastBy_46 : decode cX0_leastBy 46 = .ok (.iload_n 1, 1) := dk_27 (dk_at dksX0_leastBy_1 23 rfl rfl)
theorem dX0_leastBy_47 : decode cX0_leastBy 47 = .ok (.baload, 1) := dk_51 (dk_at dksX0_leastBy_2 0 rfl rfl)
theorem dX0_leastBy_48 : decode cX0_leastBy 48 = .ok (.ifCond .eq 29, 3) := dk_153 0 29 (dk_at dksX0_leastBy_2 1 rfl rfl)
theorem dX0_leastBy_51 : decode cX0_leastBy 51 = .ok (.aload_n 0, 1) := dk_42 (dk_at dksX0_leastBy_2 4 rfl rfl)
theorem dX0_leastBy_52 : decode cX0_leastBy 52 = .ok (.iload 6, 2) := dk_21 6 (dk_at dksX0_leastBy_2 5 rfl rfl)
theorem dX0_leastBy_54 : decode cX0_leastBy 54 = .ok (.aload_n 2, 1) := dk_44 (dk_at dksX0_leastBy_2 7 rfl rfl)
theorem dX0_leastBy_55 : decode cX0_leastBy 55 = .ok (.iload_n 3, 1) := dk_29 (dk_at dksX0_leastBy_2 8 rfl rfl)
theorem dX0_leastBy_56 : decode cX0_leastBy 56 = .ok (.iconst 1, 1) := dk_4 (dk_at dksX0_leastBy_2 9 rfl rfl)
theorem dX0_leastBy_57 : decode cX0_leastBy 57 = .ok (.invokevirtual 617, 3) := dk_182 2 105 (dk_at dksX0_leastBy_2 10 rfl rfl)
theorem dX0_leastBy_60 : decode cX0_leastBy 60 = .ok (.ifCond .eq 17, 3) := dk_153 0 17 (dk_at dksX0_leastBy_2 13 rfl rfl)
theorem dX0_leastBy_63 : decode cX0_leastBy 63 = .ok (.iload 5, 2) := dk_21 5 (dk_at dksX0_leastBy_2 16 rfl rfl)
theorem dX0_leastBy_65 : decode cX0_leastBy 65 = .ok (.iconst 1, 1) := dk_4 (dk_at dksX0_leastBy_2 18 rfl rfl)
theorem dX0_leastBy_66 : decode cX0_leastBy 66 = .ok (.aload_n 0, 1) := dk_42 (dk_at dksX0_leastBy_2 19 rfl rfl)
theorem dX0_leastBy_67 : decode cX0_leastBy 67 = .ok (.getfield 448, 3) := dk_180 1 192 (dk_at dksX0_leastBy_2 20 rfl rfl)
theorem dX0_leastBy_70 : decode cX0_leastBy 70 = .ok (.iload 6, 2) := dk_21 6 (dk_at dksX0_leastBy_3 0 rfl rfl)
theorem dX0_leastBy_72 : decode cX0_leastBy 72 = .ok (.iaload, 1) := dk_46 (dk_at dksX0_leastBy_3 2 rfl rfl)
theorem dX0_leastBy_73 : decode cX0_leastBy 73 = .ok (.ishl, 1) := dk_120 (dk_at dksX0_leastBy_3 3 rfl rfl)
theorem dX0_leastBy_74 : decode cX0_leastBy 74 = .ok (.ior, 1) := dk_128 (dk_at dksX0_leastBy_3 4 rfl rfl)
theorem dX0_leastBy_75 : decode cX0_leastBy 75 = .ok (.istore 5, 2) := dk_54 5 (dk_at dksX0_leastBy_3 5 rfl rfl)
theorem dX0_leastBy_77 : decode cX0_leastBy 77 = .ok (.iinc 6 1, 3) := dk_132 6 1 (dk_at dksX0_leastBy_3 7 rfl rfl)
theorem dX0_leastBy_80 : decode cX0_leastBy 80 = .ok (.goto (-70), 3) := dk_167 255 186 (dk_at dksX0_leastBy_3 10 rfl rfl)
theorem dX0_leastBy_83 : decode cX0_leastBy 83 = .ok (.iconst 0, 1) := dk_3 (dk_at dksX0_leastBy_3 13 rfl rfl)
theorem dX0_leastBy_84 : decode cX0_leastBy 84 = .ok (.istore 6, 2) := dk_54 6 (dk_at dksX0_leastBy_3 14 rfl rfl)
theorem dX0_leastBy_86 : decode cX0_leastBy 86 = .ok (.iload 6, 2) := dk_21 6 (dk_at dksX0_leastBy_3 16 rfl rfl)
theorem dX0_leastBy_88 : decode cX0_leastBy 88 = .ok (.aload_n 0, 1) := dk_42 (dk_at dksX0_leastBy_3 18 rfl rfl)
theorem dX0_leastBy_89 : decode cX0_leastBy 89 = .ok (.getfield 145, 3) := dk_180 0 145 (dk_at dksX0_leastBy_3 19 rfl rfl)
theorem dX0_leastBy_92 : decode cX0_leastBy 92 = .ok (.if_icmp .ge 39, 3) := dk_162 0 39 (dk_at dksX0_leastBy_4 0 rfl rfl)
theorem dX0_leastBy_95 : decode cX0_leastBy 95 = .ok (.iload 5, 2) := dk_21 5 (dk_at dksX0_leastBy_4 3 rfl rfl)
theorem dX0_leastBy_97 : decode cX0_leastBy 97 = .ok (.iload 6, 2) := dk_21 6 (dk_at dksX0_leastBy_4 5 rfl rfl)
theorem dX0_leastBy_99 : decode cX0_leastBy 99 = .ok (.ishr, 1) := dk_122 (dk_at dksX0_leastBy_4 7 rfl rfl)
theorem dX0_leastBy_100 : decode cX0_leastBy 100 = .ok (.iconst 1, 1) := dk_4 (dk_at dksX0_leastBy_4 8 rfl rfl)
theorem dX0_leastBy_101 : decode cX0_leastBy 101 = .ok (.iand, 1) := dk_126 (dk_at dksX0_leastBy_4 9 rfl rfl)
theorem dX0_leastBy_102 : decode cX0_leastBy 102 = .ok (.iconst 1, 1) := dk_4 (dk_at dksX0_leastBy_4 10 rfl rfl)
theorem dX0_leastBy_103 : decode cX0_leastBy 103 = .ok (.if_icmp .ne 22, 3) := dk_160 0 22 (dk_at dksX0_leastBy_4 11 rfl rfl)
theorem dX0_leastBy_106 : decode cX0_leastBy 106 = .ok (.iload 5, 2) := dk_21 5 (dk_at dksX0_leastBy_4 14 rfl rfl)
theorem dX0_leastBy_108 : decode cX0_leastBy 108 = .ok (.aload_n 0, 1) := dk_42 (dk_at dksX0_leastBy_4 16 rfl rfl)
theorem dX0_leastBy_109 : decode cX0_leastBy 109 = .ok (.getfield 398, 3) := dk_180 1 142 (dk_at dksX0_leastBy_4 17 rfl rfl)
theorem dX0_leastBy_112 : decode cX0_leastBy 112 = .ok (.iload 6, 2) := dk_21 6 (dk_at dksX0_leastBy_4 20 rfl rfl)
theorem dX0_leastBy_114 : decode cX0_leastBy 114 = .ok (.iaload, 1) := dk_46 (dk_at dksX0_leastBy_4 22 rfl rfl)
theorem dX0_leastBy_115 : decode cX0_leastBy 115 = .ok (.iconst (-1), 1) := dk_2 (dk_at dksX0_leastBy_4 23 rfl rfl)
theorem dX0_leastBy_116 : decode cX0_leastBy 116 = .ok (.ixor, 1) := dk_130 (dk_at dksX0_leastBy_5 0 rfl rfl)
theorem dX0_leastBy_117 : decode cX0_leastBy 117 = .ok (.iand, 1) := dk_126 (dk_at dksX0_leastBy_5 1 rfl rfl)
theorem dX0_leastBy_118 : decode cX0_leastBy 118 = .ok (.ifCond .ne 7, 3) := dk_154 0 7 (dk_at dksX0_leastBy_5 2 rfl rfl)
theorem dX0_leastBy_121 : decode cX0_leastBy 121 = .ok (.iload 6, 2) := dk_21 6 (dk_at dksX0_leastBy_5 5 rfl rfl)
theorem dX0_leastBy_123 : decode cX0_leastBy 123 = .ok (.istore 4, 2) := dk_54 4 (dk_at dksX0_leastBy_5 7 rfl rfl)
theorem dX0_leastBy_125 : decode cX0_leastBy 125 = .ok (.iinc 6 1, 3) := dk_132 6 1 (dk_at dksX0_leastBy_5 9 rfl rfl)
theorem dX0_leastBy_128 : decode cX0_leastBy 128 = .ok (.goto (-42), 3) := dk_167 255 214 (dk_at dksX0_leastBy_5 12 rfl rfl)
theorem dX0_leastBy_131 : decode cX0_leastBy 131 = .ok (.iload 4, 2) := dk_21 4 (dk_at dksX0_leastBy_5 15 rfl rfl)
theorem dX0_leastBy_133 : decode cX0_leastBy 133 = .ok (.ireturn, 1) := dk_172 (dk_at dksX0_leastBy_5 17 rfl rfl)
abbrev cX0_isRowAbove : ByteArray := prog_1_method_78_code
def yX0_isRowAbove : MethodName := ⟨RX0, "isRowAbove", "(I[IIZ)Z"⟩
def dkwX0_isRowAbove_2 : List UInt8 := [96, 46, 182, 1, 148, 154, 0, 5, 3, 172, 132, 5, 1, 167, 255, 198, 4, 172]
abbrev dktX0_isRowAbove_2 : List UInt8 := dkwX0_isRowAbove_2 ++ []
def dkwX0_isRowAbove_1 : List UInt8 := [21, 5, 46, 54, 6, 21, 6, 16, 254, 159, 0, 23, 42, 21, 6, 42, 180, 1, 189, 6, 27, 104, 21, 5]
abbrev dktX0_isRowAbove_1 : List UInt8 := dkwX0_isRowAbove_1 ++ dktX0_isRowAbove_2
def dkwX0_isRowAbove_0 : List UInt8 := [3, 54, 5, 21, 5, 29, 162, 0, 58, 44, 21, 4, 153, 0, 12, 29, 4, 100, 21, 5, 100, 167, 0, 5]
abbrev dktX0_isRowAbove_0 : List UInt8 := dkwX0_isRowAbove_0 ++ dktX0_isRowAbove_1
theorem dksX0_isRowAbove_0 : cX0_isRowAbove.data.toList.drop 0 = dktX0_isRowAbove_0 := by decide +kernel
theorem dksX0_isRowAbove_1 : cX0_isRowAbove.data.toList.drop 24 = dktX0_isRowAbove_1 := dk_seg dksX0_isRowAbove_0 24 rfl rfl
theorem dksX0_isRowAbove_2 : cX0_isRowAbove.data.toList.drop 48 = dktX0_isRowAbove_2 := dk_seg dksX0_isRowAbove_1 24 rfl rfl
theorem dX0_isRowAbove_0 : decode cX0_isRowAbove 0 = .ok (.iconst 0, 1) := dk_3 (dk_at dksX0_isRowAbove_0 0 rfl rfl)
theorem dX0_isRowAbove_1 : decode cX0_isRowAbove 1 = .ok (.istore 5, 2) := dk_54 5 (dk_at dksX0_isRowAbove_0 1 rfl rfl)
theorem dX0_isRowAbove_3 : decode cX0_isRowAbove 3 = .ok (.iload 5, 2) := dk_21 5 (dk_at dksX0_isRowAbove_0 3 rfl rfl)
theorem dX0_isRowAbove_5 : decode cX0_isRowAbove 5 = .ok (.iload_n 3, 1) := dk_29 (dk_at dksX0_isRowAbove_0 5 rfl rfl)
theorem dX0_isRowAbove_6 : decode cX0_isRowAbove 6 = .ok (.if_icmp .ge 58, 3) := dk_162 0 58 (dk_at dksX0_isRowAbove_0 6 rfl rfl)
theorem dX0_isRowAbove_9 : decode cX0_isRowAbove 9 = .ok (.aload_n 2, 1) := dk_44 (dk_at dksX0_isRowAbove_0 9 rfl rfl)
theorem dX0_isRowAbove_10 : decode cX0_isRowAbove 10 = .ok (.iload 4, 2) := dk_21 4 (dk_at dksX0_isRowAbove_0 10 rfl rfl)
theorem dX0_isRowAbove_12 : decode cX0_isRowAbove 12 = .ok (.ifCond .eq 12, 3) := dk_153 0 12 (dk_at dksX0_isRowAbove_0 12 rfl rfl)
theorem dX0_isRowAbove_15 : decode cX0_isRowAbove 15 = .ok (.iload_n 3, 1) := dk_29 (dk_at dksX0_isRowAbove_0 15 rfl rfl)
theorem dX0_isRowAbove_16 : decode cX0_isRowAbove 16 = .ok (.iconst 1, 1) := dk_4 (dk_at dksX0_isRowAbove_0 16 rfl rfl)
theorem dX0_isRowAbove_17 : decode cX0_isRowAbove 17 = .ok (.isub, 1) := dk_100 (dk_at dksX0_isRowAbove_0 17 rfl rfl)
theorem dX0_isRowAbove_18 : decode cX0_isRowAbove 18 = .ok (.iload 5, 2) := dk_21 5 (dk_at dksX0_isRowAbove_0 18 rfl rfl)
theorem dX0_isRowAbove_20 : decode cX0_isRowAbove 20 = .ok (.isub, 1) := dk_100 (dk_at dksX0_isRowAbove_0 20 rfl rfl)
theorem dX0_isRowAbove_21 : decode cX0_isRowAbove 21 = .ok (.goto 5, 3) := dk_167 0 5 (dk_at dksX0_isRowAbove_0 21 rfl rfl)
theorem dX0_isRowAbove_24 : decode cX0_isRowAbove 24 = .ok (.iload 5, 2) := dk_21 5 (dk_at dksX0_isRowAbove_1 0 rfl rfl)
theorem dX0_isRowAbove_26 : decode cX0_isRowAbove 26 = .ok (.iaload, 1) := dk_46 (dk_at dksX0_isRowAbove_1 2 rfl rfl)
theorem dX0_isRowAbove_27 : decode cX0_isRowAbove 27 = .ok (.istore 6, 2) := dk_54 6 (dk_at dksX0_isRowAbove_1 3 rfl rfl)
theorem dX0_isRowAbove_29 : decode cX0_isRowAbove 29 = .ok (.iload 6, 2) := dk_21 6 (dk_at dksX0_isRowAbove_1 5 rfl rfl)
theorem dX0_isRowAbove_31 : decode cX0_isRowAbove 31 = .ok (.bipush (-2), 2) := dk_16 254 (dk_at dksX0_isRowAbove_1 7 rfl rfl)
theorem dX0_isRowAbove_33 : decode cX0_isRowAbove 33 = .ok (.if_icmp .eq 23, 3) := dk_159 0 23 (dk_at dksX0_isRowAbove_1 9 rfl rfl)
theorem dX0_isRowAbove_36 : decode cX0_isRowAbove 36 = .ok (.aload_n 0, 1) := dk_42 (dk_at dksX0_isRowAbove_1 12 rfl rfl)
theorem dX0_isRowAbove_37 : decode cX0_isRowAbove 37 = .ok (.iload 6, 2) := dk_21 6 (dk_at dksX0_isRowAbove_1 13 rfl rfl)
theorem dX0_isRowAbove_39 : decode cX0_isRowAbove 39 = .ok (.aload_n 0, 1) := dk_42 (dk_at dksX0_isRowAbove_1 15 rfl rfl)
theorem dX0_isRowAbove_40 : decode cX0_isRowAbove 40 = .ok (.getfield 445, 3) := dk_180 1 189 (dk_at dksX0_isRowAbove_1 16 rfl rfl)
theorem dX0_isRowAbove_43 : decode cX0_isRowAbove 43 = .ok (.iconst 3, 1) := dk_6 (dk_at dksX0_isRowAbove_1 19 rfl rfl)
theorem dX0_isRowAbove_44 : decode cX0_isRowAbove 44 = .ok (.iload_n 1, 1) := dk_27 (dk_at dksX0_isRowAbove_1 20 rfl rfl)
theorem dX0_isRowAbove_45 : decode cX0_isRowAbove 45 = .ok (.imul, 1) := dk_104 (dk_at dksX0_isRowAbove_1 21 rfl rfl)
theorem dX0_isRowAbove_46 : decode cX0_isRowAbove 46 = .ok (.iload 5, 2) := dk_21 5 (dk_at dksX0_isRowAbove_1 22 rfl rfl)
theorem dX0_isRowAbove_48 : decode cX0_isRowAbove 48 = .ok (.iadd, 1) := dk_96 (dk_at dksX0_isRowAbove_2 0 rfl rfl)
theorem dX0_isRowAbove_49 : decode cX0_isRowAbove 49 = .ok (.iaload, 1) := dk_46 (dk_at dksX0_isRowAbove_2 1 rfl rfl)
theorem dX0_isRowAbove_50 : decode cX0_isRowAbove 50 = .ok (.invokevirtual 404, 3) := dk_182 1 148 (dk_at dksX0_isRowAbove_2 2 rfl rfl)
theorem dX0_isRowAbove_53 : decode cX0_isRowAbove 53 = .ok (.ifCond .ne 5, 3) := dk_154 0 5 (dk_at dksX0_isRowAbove_2 5 rfl rfl)
theorem dX0_isRowAbove_56 : decode cX0_isRowAbove 56 = .ok (.iconst 0, 1) := dk_3 (dk_at dksX0_isRowAbove_2 8 rfl rfl)
theorem dX0_isRowAbove_57 : decode cX0_isRowAbove 57 = .ok (.ireturn, 1) := dk_172 (dk_at dksX0_isRowAbove_2 9 rfl rfl)
theorem dX0_isRowAbove_58 : decode cX0_isRowAbove 58 = .ok (.iinc 5 1, 3) := dk_132 5 1 (dk_at dksX0_isRowAbove_2 10 rfl rfl)
theorem dX0_isRowAbove_61 : decode cX0_isRowAbove 61 = .ok (.goto (-58), 3) := dk_167 255 198 (dk_at dksX0_isRowAbove_2 13 rfl rfl)
theorem dX0_isRowAbove_64 : decode cX0_isRowAbove 64 = .ok (.iconst 1, 1) := dk_4 (dk_at dksX0_isRowAbove_2 16 rfl rfl)
theorem dX0_isRowAbove_65 : decode cX0_isRowAbove 65 = .ok (.ireturn, 1) := dk_172 (dk_at dksX0_isRowAbove_2 17 rfl rfl)
abbrev cX0_push : ByteArray := prog_1_method_76_code
def yX0_push : MethodName := ⟨RX0, "push", "(I)V"⟩
def dkwX0_push_0 : List UInt8 := [42, 180, 2, 55, 42, 89, 180, 2, 99, 90, 4, 96, 181, 2, 99, 27, 79, 177]
abbrev dktX0_push_0 : List UInt8 := dkwX0_push_0 ++ []
theorem dksX0_push_0 : cX0_push.data.toList.drop 0 = dktX0_push_0 := by decide +kernel
theorem dX0_push_0 : decode cX0_push 0 = .ok (.aload_n 0, 1) := dk_42 (dk_at dksX0_push_0 0 rfl rfl)
theorem dX0_push_1 : decode cX0_push 1 = .ok (.getfield 567, 3) := dk_180 2 55 (dk_at dksX0_push_0 1 rfl rfl)
theorem dX0_push_4 : decode cX0_push 4 = .ok (.aload_n 0, 1) := dk_42 (dk_at dksX0_push_0 4 rfl rfl)
theorem dX0_push_5 : decode cX0_push 5 = .ok (.dup, 1) := dk_89 (dk_at dksX0_push_0 5 rfl rfl)
theorem dX0_push_6 : decode cX0_push 6 = .ok (.getfield 611, 3) := dk_180 2 99 (dk_at dksX0_push_0 6 rfl rfl)
theorem dX0_push_9 : decode cX0_push 9 = .ok (.dup_x1, 1) := dk_90 (dk_at dksX0_push_0 9 rfl rfl)
theorem dX0_push_10 : decode cX0_push 10 = .ok (.iconst 1, 1) := dk_4 (dk_at dksX0_push_0 10 rfl rfl)
theorem dX0_push_11 : decode cX0_push 11 = .ok (.iadd, 1) := dk_96 (dk_at dksX0_push_0 11 rfl rfl)
theorem dX0_push_12 : decode cX0_push 12 = .ok (.putfield 611, 3) := dk_181 2 99 (dk_at dksX0_push_0 12 rfl rfl)
theorem dX0_push_15 : decode cX0_push 15 = .ok (.iload_n 1, 1) := dk_27 (dk_at dksX0_push_0 15 rfl rfl)
theorem dX0_push_16 : decode cX0_push 16 = .ok (.iastore, 1) := dk_79 (dk_at dksX0_push_0 16 rfl rfl)
theorem dX0_push_17 : decode cX0_push 17 = .ok (.return_, 1) := dk_177 (dk_at dksX0_push_0 17 rfl rfl)
abbrev cX0_make : ByteArray := prog_1_method_81_code
def yX0_make : MethodName := ⟨RX0, "make", "(II)I"⟩
def dkwX0_make_6 : List UInt8 := [181, 2, 99, 42, 27, 28, 29, 182, 2, 102, 172]
abbrev dktX0_make_6 : List UInt8 := dkwX0_make_6 ++ []
def dkwX0_make_5 : List UInt8 := [180, 2, 55, 28, 46, 172, 42, 180, 1, 232, 27, 51, 153, 0, 9, 42, 28, 29, 182, 2, 128, 42, 28]
abbrev dktX0_make_5 : List UInt8 := dkwX0_make_5 ++ dktX0_make_6
def dkwX0_make_4 : List UInt8 := [21, 5, 62, 42, 28, 181, 2, 99, 29, 5, 162, 0, 19, 29, 154, 0, 8, 21, 4, 167, 0, 9, 42]
abbrev dktX0_make_4 : List UInt8 := dkwX0_make_4 ++ dktX0_make_5
def dkwX0_make_3 : List UInt8 := [28, 21, 5, 132, 5, 1, 96, 42, 180, 2, 55, 28, 21, 6, 96, 46, 79, 132, 6, 1, 167, 255, 212]
abbrev dktX0_make_3 : List UInt8 := dkwX0_make_3 ++ dktX0_make_4
def dkwX0_make_2 : List UInt8 := [21, 6, 29, 162, 0, 44, 42, 180, 2, 55, 28, 21, 6, 96, 46, 21, 4, 159, 0, 24, 42, 180, 2, 55]
abbrev dktX0_make_2 : List UInt8 := dkwX0_make_2 ++ dktX0_make_3
def dkwX0_make_1 : List UInt8 := [180, 1, 235, 27, 46, 16, 254, 159, 0, 92, 42, 27, 182, 2, 125, 54, 4, 3, 54, 5, 3, 54, 6]
abbrev dktX0_make_1 : List UInt8 := dkwX0_make_1 ++ dktX0_make_2
def dkwX0_make_0 : List UInt8 := [42, 180, 2, 99, 28, 100, 62, 42, 180, 1, 229, 27, 51, 153, 0, 10, 42, 27, 28, 182, 2, 122, 62, 42]
abbrev dktX0_make_0 : List UInt8 := dkwX0_make_0 ++ dktX0_make_1
theorem dksX0_make_0 : cX0_make.data.toList.drop 0 = dktX0_make_0 := by decide +kernel
theorem dksX0_make_1 : cX0_make.data.toList.drop 24 = dktX0_make_1 := dk_seg dksX0_make_0 24 rfl rfl
theorem dksX0_make_2 : cX0_make.data.toList.drop 47 = dktX0_make_2 := dk_seg dksX0_make_1 23 rfl rfl
theorem dksX0_make_3 : cX0_make.data.toList.drop 71 = dktX0_make_3 := dk_seg dksX0_make_2 24 rfl rfl
theorem dksX0_make_4 : cX0_make.data.toList.drop 94 = dktX0_make_4 := dk_seg dksX0_make_3 23 rfl rfl
theorem dksX0_make_5 : cX0_make.data.toList.drop 117 = dktX0_make_5 := dk_seg dksX0_make_4 23 rfl rfl
theorem dksX0_make_6 : cX0_make.data.toList.drop 140 = dktX0_make_6 := dk_seg dksX0_make_5 23 rfl rfl
theorem dX0_make_0 : decode cX0_make 0 = .ok (.aload_n 0, 1) := dk_42 (dk_at dksX0_make_0 0 rfl rfl)
theorem dX0_make_1 : decode cX0_make 1 = .ok (.getfield 611, 3) := dk_180 2 99 (dk_at dksX0_make_0 1 rfl rfl)
theorem dX0_make_4 : decode cX0_make 4 = .ok (.iload_n 2, 1) := dk_28 (dk_at dksX0_make_0 4 rfl rfl)
theorem dX0_make_5 : decode cX0_make 5 = .ok (.isub, 1) := dk_100 (dk_at dksX0_make_0 5 rfl rfl)
theorem dX0_make_6 : decode cX0_make 6 = .ok (.istore_n 3, 1) := dk_62 (dk_at dksX0_make_0 6 rfl rfl)
theorem dX0_make_7 : decode cX0_make 7 = .ok (.aload_n 0, 1) := dk_42 (dk_at dksX0_make_0 7 rfl rfl)
theorem dX0_make_8 : decode cX0_make 8 = .ok (.getfield 485, 3) := dk_180 1 229 (dk_at dksX0_make_0 8 rfl rfl)
theorem dX0_make_11 : decode cX0_make 11 = .ok (.iload_n 1, 1) := dk_27 (dk_at dksX0_make_0 11 rfl rfl)
theorem dX0_make_12 : decode cX0_make 12 = .ok (.baload, 1) := dk_51 (dk_at dksX0_make_0 12 rfl rfl)
theorem dX0_make_13 : decode cX0_make 13 = .ok (.ifCond .eq 10, 3) := dk_153 0 10 (dk_at dksX0_make_0 13 rfl rfl)
theorem dX0_make_16 : decode cX0_make 16 = .ok (.aload_n 0, 1) := dk_42 (dk_at dksX0_make_0 16 rfl rfl)
theorem dX0_make_17 : decode cX0_make 17 = .ok (.iload_n 1, 1) := dk_27 (dk_at dksX0_make_0 17 rfl rfl)
theorem dX0_make_18 : decode cX0_make 18 = .ok (.iload_n 2, 1) := dk_28 (dk_at dksX0_make_0 18 rfl rfl)
theorem dX0_make_19 : decode cX0_make 19 = .ok (.invokevirtual 634, 3) := dk_182 2 122 (dk_at dksX0_make_0 19 rfl rfl)
theorem dX0_make_22 : decode cX0_make 22 = .ok (.istore_n 3, 1) := dk_62 (dk_at dksX0_make_0 22 rfl rfl)
theorem dX0_make_23 : decode cX0_make 23 = .ok (.aload_n 0, 1) := dk_42 (dk_at dksX0_make_0 23 rfl rfl)
theorem dX0_make_24 : decode cX0_make 24 = .ok (.getfield 491, 3) := dk_180 1 235 (dk_at dksX0_make_1 0 rfl rfl)
theorem dX0_make_27 : decode cX0_make 27 = .ok (.iload_n 1, 1) := dk_27 (dk_at dksX0_make_1 3 rfl rfl)
theorem dX0_make_28 : decode cX0_make 28 = .ok (.iaload, 1) := dk_46 (dk_at dksX0_make_1 4 rfl rfl)
theorem dX0_make_29 : decode cX0_make 29 = .ok (.bipush (-2), 2) := dk_16 254 (dk_at dksX0_make_1 5 rfl rfl)
theorem dX0_make_31 : decode cX0_make 31 = .ok (.if_icmp .eq 92, 3) := dk_159 0 92 (dk_at dksX0_make_1 7 rfl rfl)
theorem dX0_make_34 : decode cX0_make 34 = .ok (.aload_n 0, 1) := dk_42 (dk_at dksX0_make_1 10 rfl rfl)
theorem dX0_make_35 : decode cX0_make 35 = .ok (.iload_n 1, 1) := dk_27 (dk_at dksX0_make_1 11 rfl rfl)
theorem dX0_make_36 : decode cX0_make 36 = .ok (.invokevirtual 637, 3) := dk_182 2 125 (dk_at dksX0_make_1 12 rfl rfl)
theorem dX0_make_39 : decode cX0_make 39 = .ok (.istore 4, 2) := dk_54 4 (dk_at dksX0_make_1 15 rfl rfl)
theorem dX0_make_41 : decode cX0_make 41 = .ok (.iconst 0, 1) := dk_3 (dk_at dksX0_make_1 17 rfl rfl)
theorem dX0_make_42 : decode cX0_make 42 = .ok (.istore 5, 2) := dk_54 5 (dk_at dksX0_make_1 18 rfl rfl)
theorem dX0_make_44 : decode cX0_make 44 = .ok (.iconst 0, 1) := dk_3 (dk_at dksX0_make_1 20 rfl rfl)
theorem dX0_make_45 : decode cX0_make 45 = .ok (.istore 6, 2) := dk_54 6 (dk_at dksX0_make_1 21 rfl rfl)
theorem dX0_make_47 : decode cX0_make 47 = .ok (.iload 6, 2) := dk_21 6 (dk_at dksX0_make_2 0 rfl rfl)
theorem dX0_make_49 : decode cX0_make 49 = .ok (.iload_n 3, 1) := dk_29 (dk_at dksX0_make_2 2 rfl rfl)
theorem dX0_make_50 : decode cX0_make 50 = .ok (.if_icmp .ge 44, 3) := dk_162 0 44 (dk_at dksX0_make_2 3 rfl rfl)
theorem dX0_make_53 : decode cX0_make 53 = .ok (.aload_n 0, 1) := dk_42 (dk_at dksX0_make_2 6 rfl rfl)
theorem dX0_make_54 : decode cX0_make 54 = .ok (.getfield 567, 3) := dk_180 2 55 (dk_at dksX0_make_2 7 rfl rfl)
theorem dX0_make_57 : decode cX0_make 57 = .ok (.iload_n 2, 1) := dk_28 (dk_at dksX0_make_2 10 rfl rfl)
theorem dX0_make_58 : decode cX0_make 58 = .ok (.iload 6, 2) := dk_21 6 (dk_at dksX0_make_2 11 rfl rfl)
theorem dX0_make_60 : decode cX0_make 60 = .ok (.iadd, 1) := dk_96 (dk_at dksX0_make_2 13 rfl rfl)
theorem dX0_make_61 : decode cX0_make 61 = .ok (.iaload, 1) := dk_46 (dk_at dksX0_make_2 14 rfl rfl)
theorem dX0_make_62 : decode cX0_make 62 = .ok (.iload 4, 2) := dk_21 4 (dk_at dksX0_make_2 15 rfl rfl)
theorem dX0_make_64 : decode cX0_make 64 = .ok (.if_icmp .eq 24, 3) := dk_159 0 24 (dk_at dksX0_make_2 17 rfl rfl)
theorem dX0_make_67 : decode cX0_make 67 = .ok (.aload_n 0, 1) := dk_42 (dk_at dksX0_make_2 20 rfl rfl)
theorem dX0_make_68 : decode cX0_make 68 = .ok (.getfield 567, 3) := dk_180 2 55 (dk_at dksX0_make_2 21 rfl rfl)
theorem dX0_make_71 : decode cX0_make 71 = .ok (.iload_n 2, 1) := dk_28 (dk_at dksX0_make_3 0 rfl rfl)
theorem dX0_make_72 : decode cX0_make 72 = .ok (.iload 5, 2) := dk_21 5 (dk_at dksX0_make_3 1 rfl rfl)
theorem dX0_make_74 : decode cX0_make 74 = .ok (.iinc 5 1, 3) := dk_132 5 1 (dk_at dksX0_make_3 3 rfl rfl)
theorem dX0_make_77 : decode cX0_make 77 = .ok (.iadd, 1) := dk_96 (dk_at dksX0_make_3 6 rfl rfl)
theorem dX0_make_78 : decode cX0_make 78 = .ok (.aload_n 0, 1) := dk_42 (dk_at dksX0_make_3 7 rfl rfl)
theorem dX0_make_79 : decode cX0_make 79 = .ok (.getfield 567, 3) := dk_180 2 55 (dk_at dksX0_make_3 8 rfl rfl)
theorem dX0_make_82 : decode cX0_make 82 = .ok (.iload_n 2, 1) := dk_28 (dk_at dksX0_make_3 11 rfl rfl)
theorem dX0_make_83 : decode cX0_make 83 = .ok (.iload 6, 2) := dk_21 6 (dk_at dksX0_make_3 12 rfl rfl)
theorem dX0_make_85 : decode cX0_make 85 = .ok (.iadd, 1) := dk_96 (dk_at dksX0_make_3 14 rfl rfl)
theorem dX0_make_86 : decode cX0_make 86 = .ok (.iaload, 1) := dk_46 (dk_at dksX0_make_3 15 rfl rfl)
theorem dX0_make_87 : decode cX0_make 87 = .ok (.iastore, 1) := dk_79 (dk_at dksX0_make_3 16 rfl rfl)
theorem dX0_make_88 : decode cX0_make 88 = .ok (.iinc 6 1, 3) := dk_132 6 1 (dk_at dksX0_make_3 17 rfl rfl)
theorem dX0_make_91 : decode cX0_make 91 = .ok (.goto (-44), 3) := dk_167 255 212 (dk_at dksX0_make_3 20 rfl rfl)
theorem dX0_make_94 : decode cX0_make 94 = .ok (.iload 5, 2) := dk_21 5 (dk_at dksX0_make_4 0 rfl rfl)
theorem dX0_make_96 : decode cX0_make 96 = .ok (.istore_n 3, 1) := dk_62 (dk_at dksX0_make_4 2 rfl rfl)
theorem dX0_make_97 : decode cX0_make 97 = .ok (.aload_n 0, 1) := dk_42 (dk_at dksX0_make_4 3 rfl rfl)
theorem dX0_make_98 : decode cX0_make 98 = .ok (.iload_n 2, 1) := dk_28 (dk_at dksX0_make_4 4 rfl rfl)
theorem dX0_make_99 : decode cX0_make 99 = .ok (.putfield 611, 3) := dk_181 2 99 (dk_at dksX0_make_4 5 rfl rfl)
theorem dX0_make_102 : decode cX0_make 102 = .ok (.iload_n 3, 1) := dk_29 (dk_at dksX0_make_4 8 rfl rfl)
theorem dX0_make_103 : decode cX0_make 103 = .ok (.iconst 2, 1) := dk_5 (dk_at dksX0_make_4 9 rfl rfl)
theorem dX0_make_104 : decode cX0_make 104 = .ok (.if_icmp .ge 19, 3) := dk_162 0 19 (dk_at dksX0_make_4 10 rfl rfl)
theorem dX0_make_107 : decode cX0_make 107 = .ok (.iload_n 3, 1) := dk_29 (dk_at dksX0_make_4 13 rfl rfl)
theorem dX0_make_108 : decode cX0_make 108 = .ok (.ifCond .ne 8, 3) := dk_154 0 8 (dk_at dksX0_make_4 14 rfl rfl)
theorem dX0_make_111 : decode cX0_make 111 = .ok (.iload 4, 2) := dk_21 4 (dk_at dksX0_make_4 17 rfl rfl)
theorem dX0_make_113 : decode cX0_make 113 = .ok (.goto 9, 3) := dk_167 0 9 (dk_at dksX0_make_4 19 rfl rfl)
theorem dX0_make_116 : decode cX0_make 116 = .ok (.aload_n 0, 1) := dk_42 (dk_at dksX0_make_4 22 rfl rfl)
theorem dX0_make_117 : decode cX0_make 117 = .ok (.getfield 567, 3) := dk_180 2 55 (dk_at dksX0_make_5 0 rfl rfl)
theorem dX0_make_120 : decode cX0_make 120 = .ok (.iload_n 2, 1) := dk_28 (dk_at dksX0_make_5 3 rfl rfl)
theorem dX0_make_121 : decode cX0_make 121 = .ok (.iaload, 1) := dk_46 (dk_at dksX0_make_5 4 rfl rfl)
theorem dX0_make_122 : decode cX0_make 122 = .ok (.ireturn, 1) := dk_172 (dk_at dksX0_make_5 5 rfl rfl)
theorem dX0_make_123 : decode cX0_make 123 = .ok (.aload_n 0, 1) := dk_42 (dk_at dksX0_make_5 6 rfl rfl)
theorem dX0_make_124 : decode cX0_make 124 = .ok (.getfield 488, 3) := dk_180 1 232 (dk_at dksX0_make_5 7 rfl rfl)
theorem dX0_make_127 : decode cX0_make 127 = .ok (.iload_n 1, 1) := dk_27 (dk_at dksX0_make_5 10 rfl rfl)
theorem dX0_make_128 : decode cX0_make 128 = .ok (.baload, 1) := dk_51 (dk_at dksX0_make_5 11 rfl rfl)
theorem dX0_make_129 : decode cX0_make 129 = .ok (.ifCond .eq 9, 3) := dk_153 0 9 (dk_at dksX0_make_5 12 rfl rfl)
theorem dX0_make_132 : decode cX0_make 132 = .ok (.aload_n 0, 1) := dk_42 (dk_at dksX0_make_5 15 rfl rfl)
theorem dX0_make_133 : decode cX0_make 133 = .ok (.iload_n 2, 1) := dk_28 (dk_at dksX0_make_5 16 rfl rfl)
theorem dX0_make_134 : decode cX0_make 134 = .ok (.iload_n 3, 1) := dk_29 (dk_at dksX0_make_5 17 rfl rfl)
theorem dX0_make_135 : decode cX0_make 135 = .ok (.invokevirtual 640, 3) := dk_182 2 128 (dk_at dksX0_make_5 18 rfl rfl)
theorem dX0_make_138 : decode cX0_make 138 = .ok (.aload_n 0, 1) := dk_42 (dk_at dksX0_make_5 21 rfl rfl)
theorem dX0_make_139 : decode cX0_make 139 = .ok (.iload_n 2, 1) := dk_28 (dk_at dksX0_make_5 22 rfl rfl)
theorem dX0_make_140 : decode cX0_make 140 = .ok (.putfield 611, 3) := dk_181 2 99 (dk_at dksX0_make_6 0 rfl rfl)
theorem dX0_make_143 : decode cX0_make 143 = .ok (.aload_n 0, 1) := dk_42 (dk_at dksX0_make_6 3 rfl rfl)
theorem dX0_make_144 : decode cX0_make 144 = .ok (.iload_n 1, 1) := dk_27 (dk_at dksX0_make_6 4 rfl rfl)
theorem dX0_make_145 : decode cX0_make 145 = .ok (.iload_n 2, 1) := dk_28 (dk_at dksX0_make_6 5 rfl rfl)
theorem dX0_make_146 : decode cX0_make 146 = .ok (.iload_n 3, 1) := dk_29 (dk_at dksX0_make_6 6 rfl rfl)
theorem dX0_make_147 : decode cX0_make 147 = .ok (.invokevirtual 614, 3) := dk_182 2 102 (dk_at dksX0_make_6 7 rfl rfl)
theorem dX0_make_150 : decode cX0_make 150 = .ok (.ireturn, 1) := dk_172 (dk_at dksX0_make_6 10 rfl rfl)
abbrev cX0_flatten : ByteArray := prog_1_method_82_code
def yX0_flatten : MethodName := ⟨RX0, "flatten", "(II)I"⟩
def dkwX0_flatten_5 : List UInt8 := [79, 132, 5, 1, 167, 255, 228, 42, 28, 21, 4, 96, 181, 2, 99, 21, 4, 172]
abbrev dktX0_flatten_5 : List UInt8 := dkwX0_flatten_5 ++ []
def dkwX0_flatten_4 : List UInt8 := [21, 5, 21, 4, 162, 0, 27, 42, 180, 2, 55, 28, 21, 5, 96, 42, 180, 2, 55, 29, 21, 5, 96, 46]
abbrev dktX0_flatten_4 : List UInt8 := dkwX0_flatten_4 ++ dktX0_flatten_5
def dkwX0_flatten_3 : List UInt8 := [42, 21, 5, 182, 2, 131, 132, 4, 1, 167, 255, 185, 42, 180, 2, 99, 29, 100, 54, 4, 3, 54, 5]
abbrev dktX0_flatten_3 : List UInt8 := dkwX0_flatten_3 ++ dktX0_flatten_4
def dkwX0_flatten_2 : List UInt8 := [162, 0, 21, 42, 42, 21, 5, 21, 6, 182, 2, 109, 182, 2, 131, 132, 6, 1, 167, 255, 229, 167, 0, 9]
abbrev dktX0_flatten_2 : List UInt8 := dkwX0_flatten_2 ++ dktX0_flatten_3
def dkwX0_flatten_1 : List UInt8 := [180, 2, 63, 21, 5, 46, 27, 160, 0, 39, 3, 54, 6, 21, 6, 42, 180, 2, 66, 21, 5, 46]
abbrev dktX0_flatten_1 : List UInt8 := dkwX0_flatten_1 ++ dktX0_flatten_2
def dkwX0_flatten_0 : List UInt8 := [42, 180, 2, 99, 62, 28, 54, 4, 21, 4, 29, 162, 0, 71, 42, 180, 2, 55, 21, 4, 46, 54, 5, 42]
abbrev dktX0_flatten_0 : List UInt8 := dkwX0_flatten_0 ++ dktX0_flatten_1
theorem dksX0_flatten_0 : cX0_flatten.data.toList.drop 0 = dktX0_flatten_0 := by decide +kernel
theorem dksX0_flatten_1 : cX0_flatten.data.toList.drop 24 = dktX0_flatten_1 := dk_seg dksX0_flatten_0 24 rfl rfl
theorem dksX0_flatten_2 : cX0_flatten.data.toList.drop 46 = dktX0_flatten_2 := dk_seg dksX0_flatten_1 22 rfl rfl
theorem dksX0_flatten_3 : cX0_flatten.data.toList.drop 70 = dktX0_flatten_3 := dk_seg dksX0_flatten_2 24 rfl rfl
theorem dksX0_flatten_4 : cX0_flatten.data.toList.drop 93 = dktX0_flatten_4 := dk_seg dksX0_flatten_3 23 rfl rfl
theorem dksX0_flatten_5 : cX0_flatten.data.toList.drop 117 = dktX0_flatten_5 := dk_seg dksX0_flatten_4 24 rfl rfl
theorem dX0_flatten_0 : decode cX0_flatten 0 = .ok (.aload_n 0, 1) := dk_42 (dk_at dksX0_flatten_0 0 rfl rfl)
theorem dX0_flatten_1 : decode cX0_flatten 1 = .ok (.getfield 611, 3) := dk_180 2 99 (dk_at dksX0_flatten_0 1 rfl rfl)
theorem dX0_flatten_4 : decode cX0_flatten 4 = .ok (.istore_n 3, 1) := dk_62 (dk_at dksX0_flatten_0 4 rfl rfl)
theorem dX0_flatten_5 : decode cX0_flatten 5 = .ok (.iload_n 2, 1) := dk_28 (dk_at dksX0_flatten_0 5 rfl rfl)
theorem dX0_flatten_6 : decode cX0_flatten 6 = .ok (.istore 4, 2) := dk_54 4 (dk_at dksX0_flatten_0 6 rfl rfl)
theorem dX0_flatten_8 : decode cX0_flatten 8 = .ok (.iload 4, 2) := dk_21 4 (dk_at dksX0_flatten_0 8 rfl rfl)
theorem dX0_flatten_10 : decode cX0_flatten 10 = .ok (.iload_n 3, 1) := dk_29 (dk_at dksX0_flatten_0 10 rfl rfl)
theorem dX0_flatten_11 : decode cX0_flatten 11 = .ok (.if_icmp .ge 71, 3) := dk_162 0 71 (dk_at dksX0_flatten_0 11 rfl rfl)
theorem dX0_flatten_14 : decode cX0_flatten 14 = .ok (.aload_n 0, 1) := dk_42 (dk_at dksX0_flatten_0 14 rfl rfl)
theorem dX0_flatten_15 : decode cX0_flatten 15 = .ok (.getfield 567, 3) := dk_180 2 55 (dk_at dksX0_flatten_0 15 rfl rfl)
theorem dX0_flatten_18 : decode cX0_flatten 18 = .ok (.iload 4, 2) := dk_21 4 (dk_at dksX0_flatten_0 18 rfl rfl)
theorem dX0_flatten_20 : decode cX0_flatten 20 = .ok (.iaload, 1) := dk_46 (dk_at dksX0_flatten_0 20 rfl rfl)
theorem dX0_flatten_21 : decode cX0_flatten 21 = .ok (.istore 5, 2) := dk_54 5 (dk_at dksX0_flatten_0 21 rfl rfl)
theorem dX0_flatten_23 : decode cX0_flatten 23 = .ok (.aload_n 0, 1) := dk_42 (dk_at dksX0_flatten_0 23 rfl rfl)
theorem dX0_flatten_24 : decode cX0_flatten 24 = .ok (.getfield 575, 3) := dk_180 2 63 (dk_at dksX0_flatten_1 0 rfl rfl)
theorem dX0_flatten_27 : decode cX0_flatten 27 = .ok (.iload 5, 2) := dk_21 5 (dk_at dksX0_flatten_1 3 rfl rfl)
theorem dX0_flatten_29 : decode cX0_flatten 29 = .ok (.iaload, 1) := dk_46 (dk_at dksX0_flatten_1 5 rfl rfl)
theorem dX0_flatten_30 : decode cX0_flatten 30 = .ok (.iload_n 1, 1) := dk_27 (dk_at dksX0_flatten_1 6 rfl rfl)
theorem dX0_flatten_31 : decode cX0_flatten 31 = .ok (.if_icmp .ne 39, 3) := dk_160 0 39 (dk_at dksX0_flatten_1 7 rfl rfl)
theorem dX0_flatten_34 : decode cX0_flatten 34 = .ok (.iconst 0, 1) := dk_3 (dk_at dksX0_flatten_1 10 rfl rfl)
theorem dX0_flatten_35 : decode cX0_flatten 35 = .ok (.istore 6, 2) := dk_54 6 (dk_at dksX0_flatten_1 11 rfl rfl)
theorem dX0_flatten_37 : decode cX0_flatten 37 = .ok (.iload 6, 2) := dk_21 6 (dk_at dksX0_flatten_1 13 rfl rfl)
theorem dX0_flatten_39 : decode cX0_flatten 39 = .ok (.aload_n 0, 1) := dk_42 (dk_at dksX0_flatten_1 15 rfl rfl)
theorem dX0_flatten_40 : decode cX0_flatten 40 = .ok (.getfield 578, 3) := dk_180 2 66 (dk_at dksX0_flatten_1 16 rfl rfl)
theorem dX0_flatten_43 : decode cX0_flatten 43 = .ok (.iload 5, 2) := dk_21 5 (dk_at dksX0_flatten_1 19 rfl rfl)
theorem dX0_flatten_45 : decode cX0_flatten 45 = .ok (.iaload, 1) := dk_46 (dk_at dksX0_flatten_1 21 rfl rfl)
theorem dX0_flatten_46 : decode cX0_flatten 46 = .ok (.if_icmp .ge 21, 3) := dk_162 0 21 (dk_at dksX0_flatten_2 0 rfl rfl)
theorem dX0_flatten_49 : decode cX0_flatten 49 = .ok (.aload_n 0, 1) := dk_42 (dk_at dksX0_flatten_2 3 rfl rfl)
theorem dX0_flatten_50 : decode cX0_flatten 50 = .ok (.aload_n 0, 1) := dk_42 (dk_at dksX0_flatten_2 4 rfl rfl)
theorem dX0_flatten_51 : decode cX0_flatten 51 = .ok (.iload 5, 2) := dk_21 5 (dk_at dksX0_flatten_2 5 rfl rfl)
theorem dX0_flatten_53 : decode cX0_flatten 53 = .ok (.iload 6, 2) := dk_21 6 (dk_at dksX0_flatten_2 7 rfl rfl)
theorem dX0_flatten_55 : decode cX0_flatten 55 = .ok (.invokevirtual 621, 3) := dk_182 2 109 (dk_at dksX0_flatten_2 9 rfl rfl)
theorem dX0_flatten_58 : decode cX0_flatten 58 = .ok (.invokevirtual 643, 3) := dk_182 2 131 (dk_at dksX0_flatten_2 12 rfl rfl)
theorem dX0_flatten_61 : decode cX0_flatten 61 = .ok (.iinc 6 1, 3) := dk_132 6 1 (dk_at dksX0_flatten_2 15 rfl rfl)
theorem dX0_flatten_64 : decode cX0_flatten 64 = .ok (.goto (-27), 3) := dk_167 255 229 (dk_at dksX0_flatten_2 18 rfl rfl)
theorem dX0_flatten_67 : decode cX0_flatten 67 = .ok (.goto 9, 3) := dk_167 0 9 (dk_at dksX0_flatten_2 21 rfl rfl)
theorem dX0_flatten_70 : decode cX0_flatten 70 = .ok (.aload_n 0, 1) := dk_42 (dk_at dksX0_flatten_3 0 rfl rfl)
theorem dX0_flatten_71 : decode cX0_flatten 71 = .ok (.iload 5, 2) := dk_21 5 (dk_at dksX0_flatten_3 1 rfl rfl)
theorem dX0_flatten_73 : decode cX0_flatten 73 = .ok (.invokevirtual 643, 3) := dk_182 2 131 (dk_at dksX0_flatten_3 3 rfl rfl)
theorem dX0_flatten_76 : decode cX0_flatten 76 = .ok (.iinc 4 1, 3) := dk_132 4 1 (dk_at dksX0_flatten_3 6 rfl rfl)
theorem dX0_flatten_79 : decode cX0_flatten 79 = .ok (.goto (-71), 3) := dk_167 255 185 (dk_at dksX0_flatten_3 9 rfl rfl)
theorem dX0_flatten_82 : decode cX0_flatten 82 = .ok (.aload_n 0, 1) := dk_42 (dk_at dksX0_flatten_3 12 rfl rfl)
theorem dX0_flatten_83 : decode cX0_flatten 83 = .ok (.getfield 611, 3) := dk_180 2 99 (dk_at dksX0_flatten_3 13 rfl rfl)
theorem dX0_flatten_86 : decode cX0_flatten 86 = .ok (.iload_n 3, 1) := dk_29 (dk_at dksX0_flatten_3 16 rfl rfl)
theorem dX0_flatten_87 : decode cX0_flatten 87 = .ok (.isub, 1) := dk_100 (dk_at dksX0_flatten_3 17 rfl rfl)
theorem dX0_flatten_88 : decode cX0_flatten 88 = .ok (.istore 4, 2) := dk_54 4 (dk_at dksX0_flatten_3 18 rfl rfl)
theorem dX0_flatten_90 : decode cX0_flatten 90 = .ok (.iconst 0, 1) := dk_3 (dk_at dksX0_flatten_3 20 rfl rfl)
theorem dX0_flatten_91 : decode cX0_flatten 91 = .ok (.istore 5, 2) := dk_54 5 (dk_at dksX0_flatten_3 21 rfl rfl)
theorem dX0_flatten_93 : decode cX0_flatten 93 = .ok (.iload 5, 2) := dk_21 5 (dk_at dksX0_flatten_4 0 rfl rfl)
theorem dX0_flatten_95 : decode cX0_flatten 95 = .ok (.iload 4, 2) := dk_21 4 (dk_at dksX0_flatten_4 2 rfl rfl)
theorem dX0_flatten_97 : decode cX0_flatten 97 = .ok (.if_icmp .ge 27, 3) := dk_162 0 27 (dk_at dksX0_flatten_4 4 rfl rfl)
theorem dX0_flatten_100 : decode cX0_flatten 100 = .ok (.aload_n 0, 1) := dk_42 (dk_at dksX0_flatten_4 7 rfl rfl)
theorem dX0_flatten_101 : decode cX0_flatten 101 = .ok (.getfield 567, 3) := dk_180 2 55 (dk_at dksX0_flatten_4 8 rfl rfl)
theorem dX0_flatten_104 : decode cX0_flatten 104 = .ok (.iload_n 2, 1) := dk_28 (dk_at dksX0_flatten_4 11 rfl rfl)
theorem dX0_flatten_105 : decode cX0_flatten 105 = .ok (.iload 5, 2) := dk_21 5 (dk_at dksX0_flatten_4 12 rfl rfl)
theorem dX0_flatten_107 : decode cX0_flatten 107 = .ok (.iadd, 1) := dk_96 (dk_at dksX0_flatten_4 14 rfl rfl)
theorem dX0_flatten_108 : decode cX0_flatten 108 = .ok (.aload_n 0, 1) := dk_42 (dk_at dksX0_flatten_4 15 rfl rfl)
theorem dX0_flatten_109 : decode cX0_flatten 109 = .ok (.getfield 567, 3) := dk_180 2 55 (dk_at dksX0_flatten_4 16 rfl rfl)
theorem dX0_flatten_112 : decode cX0_flatten 112 = .ok (.iload_n 3, 1) := dk_29 (dk_at dksX0_flatten_4 19 rfl rfl)
theorem dX0_flatten_113 : decode cX0_flatten 113 = .ok (.iload 5, 2) := dk_21 5 (dk_at dksX0_flatten_4 20 rfl rfl)
theorem dX0_flatten_115 : decode cX0_flatten 115 = .ok (.iadd, 1) := dk_96 (dk_at dksX0_flatten_4 22 rfl rfl)
theorem dX0_flatten_116 : decode cX0_flatten 116 = .ok (.iaload, 1) := dk_46 (dk_at dksX0_flatten_4 23 rfl rfl)
theorem dX0_flatten_117 : decode cX0_flatten 117 = .ok (.iastore, 1) := dk_79 (dk_at dksX0_flatten_5 0 rfl rfl)
theorem dX0_flatten_118 : decode cX0_flatten 118 = .ok (.iinc 5 1, 3) := dk_132 5 1 (dk_at dksX0_flatten_5 1 rfl rfl)
theorem dX0_flatten_121 : decode cX0_flatten 121 = .ok (.goto (-28), 3) := dk_167 255 228 (dk_at dksX0_flatten_5 4 rfl rfl)
theorem dX0_flatten_124 : decode cX0_flatten 124 = .ok (.aload_n 0, 1) := dk_42 (dk_at dksX0_flatten_5 7 rfl rfl)
theorem dX0_flatten_125 : decode cX0_flatten 125 = .ok (.iload_n 2, 1) := dk_28 (dk_at dksX0_flatten_5 8 rfl rfl)
theorem dX0_flatten_126 : decode cX0_flatten 126 = .ok (.iload 4, 2) := dk_21 4 (dk_at dksX0_flatten_5 9 rfl rfl)
theorem dX0_flatten_128 : decode cX0_flatten 128 = .ok (.iadd, 1) := dk_96 (dk_at dksX0_flatten_5 11 rfl rfl)
theorem dX0_flatten_129 : decode cX0_flatten 129 = .ok (.putfield 611, 3) := dk_181 2 99 (dk_at dksX0_flatten_5 12 rfl rfl)
theorem dX0_flatten_132 : decode cX0_flatten 132 = .ok (.iload 4, 2) := dk_21 4 (dk_at dksX0_flatten_5 15 rfl rfl)
theorem dX0_flatten_134 : decode cX0_flatten 134 = .ok (.ireturn, 1) := dk_172 (dk_at dksX0_flatten_5 17 rfl rfl)
abbrev cX0_unitNode : ByteArray := prog_1_method_74_code
def yX0_unitNode : MethodName := ⟨RX0, "unitNode", "(I)I"⟩
def dkwX0_unitNode_0 : List UInt8 := [42, 42, 180, 1, 235, 27, 46, 42, 180, 2, 99, 3, 182, 2, 102, 172]
abbrev dktX0_unitNode_0 : List UInt8 := dkwX0_unitNode_0 ++ []
theorem dksX0_unitNode_0 : cX0_unitNode.data.toList.drop 0 = dktX0_unitNode_0 := by decide +kernel
theorem dX0_unitNode_0 : decode cX0_unitNode 0 = .ok (.aload_n 0, 1) := dk_42 (dk_at dksX0_unitNode_0 0 rfl rfl)
theorem dX0_unitNode_1 : decode cX0_unitNode 1 = .ok (.aload_n 0, 1) := dk_42 (dk_at dksX0_unitNode_0 1 rfl rfl)
theorem dX0_unitNode_2 : decode cX0_unitNode 2 = .ok (.getfield 491, 3) := dk_180 1 235 (dk_at dksX0_unitNode_0 2 rfl rfl)
theorem dX0_unitNode_5 : decode cX0_unitNode 5 = .ok (.iload_n 1, 1) := dk_27 (dk_at dksX0_unitNode_0 5 rfl rfl)
theorem dX0_unitNode_6 : decode cX0_unitNode 6 = .ok (.iaload, 1) := dk_46 (dk_at dksX0_unitNode_0 6 rfl rfl)
theorem dX0_unitNode_7 : decode cX0_unitNode 7 = .ok (.aload_n 0, 1) := dk_42 (dk_at dksX0_unitNode_0 7 rfl rfl)
theorem dX0_unitNode_8 : decode cX0_unitNode 8 = .ok (.getfield 611, 3) := dk_180 2 99 (dk_at dksX0_unitNode_0 8 rfl rfl)
theorem dX0_unitNode_11 : decode cX0_unitNode 11 = .ok (.iconst 0, 1) := dk_3 (dk_at dksX0_unitNode_0 11 rfl rfl)
theorem dX0_unitNode_12 : decode cX0_unitNode 12 = .ok (.invokevirtual 614, 3) := dk_182 2 102 (dk_at dksX0_unitNode_0 12 rfl rfl)
theorem dX0_unitNode_15 : decode cX0_unitNode 15 = .ok (.ireturn, 1) := dk_172 (dk_at dksX0_unitNode_0 15 rfl rfl)
abbrev cX0_arrange : ByteArray := prog_1_method_83_code
def yX0_arrange : MethodName := ⟨RX0, "arrange", "(II)V"⟩
def dkwX0_arrange_3 : List UInt8 := [21, 4, 4, 100, 21, 5, 79, 132, 4, 255, 167, 255, 188, 132, 3, 1, 167, 255, 172, 177]
abbrev dktX0_arrange_3 : List UInt8 := dkwX0_arrange_3 ++ []
def dkwX0_arrange_2 : List UInt8 := [46, 54, 5, 42, 180, 2, 55, 21, 4, 42, 180, 2, 55, 21, 4, 4, 100, 46, 79, 42, 180, 2, 55]
abbrev dktX0_arrange_2 : List UInt8 := dkwX0_arrange_2 ++ dktX0_arrange_3
def dkwX0_arrange_1 : List UInt8 := [21, 4, 46, 42, 180, 2, 55, 21, 4, 4, 100, 46, 182, 2, 119, 156, 0, 45, 42, 180, 2, 55, 21, 4]
abbrev dktX0_arrange_1 : List UInt8 := dkwX0_arrange_1 ++ dktX0_arrange_2
def dkwX0_arrange_0 : List UInt8 := [4, 62, 29, 28, 162, 0, 85, 27, 29, 96, 54, 4, 21, 4, 27, 164, 0, 68, 42, 42, 180, 2, 55]
abbrev dktX0_arrange_0 : List UInt8 := dkwX0_arrange_0 ++ dktX0_arrange_1
theorem dksX0_arrange_0 : cX0_arrange.data.toList.drop 0 = dktX0_arrange_0 := by decide +kernel
theorem dksX0_arrange_1 : cX0_arrange.data.toList.drop 23 = dktX0_arrange_1 := dk_seg dksX0_arrange_0 23 rfl rfl
theorem dksX0_arrange_2 : cX0_arrange.data.toList.drop 47 = dktX0_arrange_2 := dk_seg dksX0_arrange_1 24 rfl rfl
theorem dksX0_arrange_3 : cX0_arrange.data.toList.drop 70 = dktX0_arrange_3 := dk_seg dksX0_arrange_2 23 rfl rfl
theorem dX0_arrange_0 : decode cX0_arrange 0 = .ok (.iconst 1, 1) := dk_4 (dk_at dksX0_arrange_0 0 rfl rfl)
theorem dX0_arrange_1 : decode cX0_arrange 1 = .ok (.istore_n 3, 1) := dk_62 (dk_at dksX0_arrange_0 1 rfl rfl)
theorem dX0_arrange_2 : decode cX0_arrange 2 = .ok (.iload_n 3, 1) := dk_29 (dk_at dksX0_arrange_0 2 rfl rfl)
theorem dX0_arrange_3 : decode cX0_arrange 3 = .ok (.iload_n 2, 1) := dk_28 (dk_at dksX0_arrange_0 3 rfl rfl)
theorem dX0_arrange_4 : decode cX0_arrange 4 = .ok (.if_icmp .ge 85, 3) := dk_162 0 85 (dk_at dksX0_arrange_0 4 rfl rfl)
theorem dX0_arrange_7 : decode cX0_arrange 7 = .ok (.iload_n 1, 1) := dk_27 (dk_at dksX0_arrange_0 7 rfl rfl)
theorem dX0_arrange_8 : decode cX0_arrange 8 = .ok (.iload_n 3, 1) := dk_29 (dk_at dksX0_arrange_0 8 rfl rfl)
theorem dX0_arrange_9 : decode cX0_arrange 9 = .ok (.iadd, 1) := dk_96 (dk_at dksX0_arrange_0 9 rfl rfl)
theorem dX0_arrange_10 : decode cX0_arrange 10 = .ok (.istore 4, 2) := dk_54 4 (dk_at dksX0_arrange_0 10 rfl rfl)
theorem dX0_arrange_12 : decode cX0_arrange 12 = .ok (.iload 4, 2) := dk_21 4 (dk_at dksX0_arrange_0 12 rfl rfl)
theorem dX0_arrange_14 : decode cX0_arrange 14 = .ok (.iload_n 1, 1) := dk_27 (dk_at dksX0_arrange_0 14 rfl rfl)
theorem dX0_arrange_15 : decode cX0_arrange 15 = .ok (.if_icmp .le 68, 3) := dk_164 0 68 (dk_at dksX0_arrange_0 15 rfl rfl)
theorem dX0_arrange_18 : decode cX0_arrange 18 = .ok (.aload_n 0, 1) := dk_42 (dk_at dksX0_arrange_0 18 rfl rfl)
theorem dX0_arrange_19 : decode cX0_arrange 19 = .ok (.aload_n 0, 1) := dk_42 (dk_at dksX0_arrange_0 19 rfl rfl)
theorem dX0_arrange_20 : decode cX0_arrange 20 = .ok (.getfield 567, 3) := dk_180 2 55 (dk_at dksX0_arrange_0 20 rfl rfl)
theorem dX0_arrange_23 : decode cX0_arrange 23 = .ok (.iload 4, 2) := dk_21 4 (dk_at dksX0_arrange_1 0 rfl rfl)
theorem dX0_arrange_25 : decode cX0_arrange 25 = .ok (.iaload, 1) := dk_46 (dk_at dksX0_arrange_1 2 rfl rfl)
theorem dX0_arrange_26 : decode cX0_arrange 26 = .ok (.aload_n 0, 1) := dk_42 (dk_at dksX0_arrange_1 3 rfl rfl)
theorem dX0_arrange_27 : decode cX0_arrange 27 = .ok (.getfield 567, 3) := dk_180 2 55 (dk_at dksX0_arrange_1 4 rfl rfl)
theorem dX0_arrange_30 : decode cX0_arrange 30 = .ok (.iload 4, 2) := dk_21 4 (dk_at dksX0_arrange_1 7 rfl rfl)
theorem dX0_arrange_32 : decode cX0_arrange 32 = .ok (.iconst 1, 1) := dk_4 (dk_at dksX0_arrange_1 9 rfl rfl)
theorem dX0_arrange_33 : decode cX0_arrange 33 = .ok (.isub, 1) := dk_100 (dk_at dksX0_arrange_1 10 rfl rfl)
theorem dX0_arrange_34 : decode cX0_arrange 34 = .ok (.iaload, 1) := dk_46 (dk_at dksX0_arrange_1 11 rfl rfl)
theorem dX0_arrange_35 : decode cX0_arrange 35 = .ok (.invokevirtual 631, 3) := dk_182 2 119 (dk_at dksX0_arrange_1 12 rfl rfl)
theorem dX0_arrange_38 : decode cX0_arrange 38 = .ok (.ifCond .ge 45, 3) := dk_156 0 45 (dk_at dksX0_arrange_1 15 rfl rfl)
theorem dX0_arrange_41 : decode cX0_arrange 41 = .ok (.aload_n 0, 1) := dk_42 (dk_at dksX0_arrange_1 18 rfl rfl)
theorem dX0_arrange_42 : decode cX0_arrange 42 = .ok (.getfield 567, 3) := dk_180 2 55 (dk_at dksX0_arrange_1 19 rfl rfl)
theorem dX0_arrange_45 : decode cX0_arrange 45 = .ok (.iload 4, 2) := dk_21 4 (dk_at dksX0_arrange_1 22 rfl rfl)
theorem dX0_arrange_47 : decode cX0_arrange 47 = .ok (.iaload, 1) := dk_46 (dk_at dksX0_arrange_2 0 rfl rfl)
theorem dX0_arrange_48 : decode cX0_arrange 48 = .ok (.istore 5, 2) := dk_54 5 (dk_at dksX0_arrange_2 1 rfl rfl)
theorem dX0_arrange_50 : decode cX0_arrange 50 = .ok (.aload_n 0, 1) := dk_42 (dk_at dksX0_arrange_2 3 rfl rfl)
theorem dX0_arrange_51 : decode cX0_arrange 51 = .ok (.getfield 567, 3) := dk_180 2 55 (dk_at dksX0_arrange_2 4 rfl rfl)
theorem dX0_arrange_54 : decode cX0_arrange 54 = .ok (.iload 4, 2) := dk_21 4 (dk_at dksX0_arrange_2 7 rfl rfl)
theorem dX0_arrange_56 : decode cX0_arrange 56 = .ok (.aload_n 0, 1) := dk_42 (dk_at dksX0_arrange_2 9 rfl rfl)
theorem dX0_arrange_57 : decode cX0_arrange 57 = .ok (.getfield 567, 3) := dk_180 2 55 (dk_at dksX0_arrange_2 10 rfl rfl)
theorem dX0_arrange_60 : decode cX0_arrange 60 = .ok (.iload 4, 2) := dk_21 4 (dk_at dksX0_arrange_2 13 rfl rfl)
theorem dX0_arrange_62 : decode cX0_arrange 62 = .ok (.iconst 1, 1) := dk_4 (dk_at dksX0_arrange_2 15 rfl rfl)
theorem dX0_arrange_63 : decode cX0_arrange 63 = .ok (.isub, 1) := dk_100 (dk_at dksX0_arrange_2 16 rfl rfl)
theorem dX0_arrange_64 : decode cX0_arrange 64 = .ok (.iaload, 1) := dk_46 (dk_at dksX0_arrange_2 17 rfl rfl)
theorem dX0_arrange_65 : decode cX0_arrange 65 = .ok (.iastore, 1) := dk_79 (dk_at dksX0_arrange_2 18 rfl rfl)
theorem dX0_arrange_66 : decode cX0_arrange 66 = .ok (.aload_n 0, 1) := dk_42 (dk_at dksX0_arrange_2 19 rfl rfl)
theorem dX0_arrange_67 : decode cX0_arrange 67 = .ok (.getfield 567, 3) := dk_180 2 55 (dk_at dksX0_arrange_2 20 rfl rfl)
theorem dX0_arrange_70 : decode cX0_arrange 70 = .ok (.iload 4, 2) := dk_21 4 (dk_at dksX0_arrange_3 0 rfl rfl)
theorem dX0_arrange_72 : decode cX0_arrange 72 = .ok (.iconst 1, 1) := dk_4 (dk_at dksX0_arrange_3 2 rfl rfl)
theorem dX0_arrange_73 : decode cX0_arrange 73 = .ok (.isub, 1) := dk_100 (dk_at dksX0_arrange_3 3 rfl rfl)
theorem dX0_arrange_74 : decode cX0_arrange 74 = .ok (.iload 5, 2) := dk_21 5 (dk_at dksX0_arrange_3 4 rfl rfl)
theorem dX0_arrange_76 : decode cX0_arrange 76 = .ok (.iastore, 1) := dk_79 (dk_at dksX0_arrange_3 6 rfl rfl)
theorem dX0_arrange_77 : decode cX0_arrange 77 = .ok (.iinc 4 (-1), 3) := dk_132 4 255 (dk_at dksX0_arrange_3 7 rfl rfl)
theorem dX0_arrange_80 : decode cX0_arrange 80 = .ok (.goto (-68), 3) := dk_167 255 188 (dk_at dksX0_arrange_3 10 rfl rfl)
theorem dX0_arrange_83 : decode cX0_arrange 83 = .ok (.iinc 3 1, 3) := dk_132 3 1 (dk_at dksX0_arrange_3 13 rfl rfl)
theorem dX0_arrange_86 : decode cX0_arrange 86 = .ok (.goto (-84), 3) := dk_167 255 172 (dk_at dksX0_arrange_3 16 rfl rfl)
theorem dX0_arrange_89 : decode cX0_arrange 89 = .ok (.return_, 1) := dk_177 (dk_at dksX0_arrange_3 19 rfl rfl)
abbrev cX0_compare : ByteArray := prog_1_method_80_code
def yX0_compare : MethodName := ⟨RX0, "compare", "(II)I"⟩
def dkwX0_compare_7 : List UInt8 := [21, 6, 153, 0, 6, 21, 6, 172, 132, 5, 1, 167, 255, 214, 3, 172]
abbrev dktX0_compare_7 : List UInt8 := dkwX0_compare_7 ++ []
def dkwX0_compare_6 : List UInt8 := [46, 162, 0, 37, 42, 42, 27, 21, 5, 182, 2, 109, 42, 28, 21, 5, 182, 2, 109, 182, 2, 119, 54, 6]
abbrev dktX0_compare_6 : List UInt8 := dkwX0_compare_6 ++ dktX0_compare_7
def dkwX0_compare_5 : List UInt8 := [180, 2, 66, 28, 46, 162, 0, 7, 2, 167, 0, 4, 4, 172, 3, 54, 5, 21, 5, 42, 180, 2, 66, 27]
abbrev dktX0_compare_5 : List UInt8 := dkwX0_compare_5 ++ dktX0_compare_6
def dkwX0_compare_4 : List UInt8 := [159, 0, 17, 29, 21, 4, 162, 0, 7, 2, 167, 0, 27, 4, 167, 0, 23, 42, 180, 2, 66, 27, 46, 42]
abbrev dktX0_compare_4 : List UInt8 := dkwX0_compare_4 ++ dktX0_compare_5
def dkwX0_compare_3 : List UInt8 := [21, 4, 160, 0, 18, 42, 180, 2, 66, 27, 46, 42, 180, 2, 66, 28, 46, 159, 0, 44, 29, 21, 4]
abbrev dktX0_compare_3 : List UInt8 := dkwX0_compare_3 ++ dktX0_compare_4
def dkwX0_compare_2 : List UInt8 := [42, 180, 2, 63, 28, 46, 100, 167, 0, 13, 17, 3, 232, 42, 180, 2, 63, 28, 46, 96, 54, 4, 29]
abbrev dktX0_compare_2 : List UInt8 := dkwX0_compare_2 ++ dktX0_compare_3
def dkwX0_compare_1 : List UInt8 := [167, 0, 13, 17, 3, 232, 42, 180, 2, 63, 27, 46, 96, 62, 42, 180, 2, 63, 28, 46, 156, 0, 14, 2]
abbrev dktX0_compare_1 : List UInt8 := dkwX0_compare_1 ++ dktX0_compare_2
def dkwX0_compare_0 : List UInt8 := [27, 28, 160, 0, 5, 3, 172, 42, 180, 2, 63, 27, 46, 156, 0, 14, 2, 42, 180, 2, 63, 27, 46, 100]
abbrev dktX0_compare_0 : List UInt8 := dkwX0_compare_0 ++ dktX0_compare_1
theorem dksX0_compare_0 : cX0_compare.data.toList.drop 0 = dktX0_compare_0 := by decide +kernel
theorem dksX0_compare_1 : cX0_compare.data.toList.drop 24 = dktX0_compare_1 := dk_seg dksX0_compare_0 24 rfl rfl
theorem dksX0_compare_2 : cX0_compare.data.toList.drop 48 = dktX0_compare_2 := dk_seg dksX0_compare_1 24 rfl rfl
theorem dksX0_compare_3 : cX0_compare.data.toList.drop 71 = dktX0_compare_3 := dk_seg dksX0_compare_2 23 rfl rfl
theorem dksX0_compare_4 : cX0_compare.data.toList.drop 94 = dktX0_compare_4 := dk_seg dksX0_compare_3 23 rfl rfl
theorem dksX0_compare_5 : cX0_compare.data.toList.drop 118 = dktX0_compare_5 := dk_seg dksX0_compare_4 24 rfl rfl
theorem dksX0_compare_6 : cX0_compare.data.toList.drop 142 = dktX0_compare_6 := dk_seg dksX0_compare_5 24 rfl rfl
theorem dksX0_compare_7 : cX0_compare.data.toList.drop 166 = dktX0_compare_7 := dk_seg dksX0_compare_6 24 rfl rfl
theorem dX0_compare_0 : decode cX0_compare 0 = .ok (.iload_n 1, 1) := dk_27 (dk_at dksX0_compare_0 0 rfl rfl)
theorem dX0_compare_1 : decode cX0_compare 1 = .ok (.iload_n 2, 1) := dk_28 (dk_at dksX0_compare_0 1 rfl rfl)
theorem dX0_compare_2 : decode cX0_compare 2 = .ok (.if_icmp .ne 5, 3) := dk_160 0 5 (dk_at dksX0_compare_0 2 rfl rfl)
theorem dX0_compare_5 : decode cX0_compare 5 = .ok (.iconst 0, 1) := dk_3 (dk_at dksX0_compare_0 5 rfl rfl)
theorem dX0_compare_6 : decode cX0_compare 6 = .ok (.ireturn, 1) := dk_172 (dk_at dksX0_compare_0 6 rfl rfl)
theorem dX0_compare_7 : decode cX0_compare 7 = .ok (.aload_n 0, 1) := dk_42 (dk_at dksX0_compare_0 7 rfl rfl)
theorem dX0_compare_8 : decode cX0_compare 8 = .ok (.getfield 575, 3) := dk_180 2 63 (dk_at dksX0_compare_0 8 rfl rfl)
theorem dX0_compare_11 : decode cX0_compare 11 = .ok (.iload_n 1, 1) := dk_27 (dk_at dksX0_compare_0 11 rfl rfl)
theorem dX0_compare_12 : decode cX0_compare 12 = .ok (.iaload, 1) := dk_46 (dk_at dksX0_compare_0 12 rfl rfl)
theorem dX0_compare_13 : decode cX0_compare 13 = .ok (.ifCond .ge 14, 3) := dk_156 0 14 (dk_at dksX0_compare_0 13 rfl rfl)
theorem dX0_compare_16 : decode cX0_compare 16 = .ok (.iconst (-1), 1) := dk_2 (dk_at dksX0_compare_0 16 rfl rfl)
theorem dX0_compare_17 : decode cX0_compare 17 = .ok (.aload_n 0, 1) := dk_42 (dk_at dksX0_compare_0 17 rfl rfl)
theorem dX0_compare_18 : decode cX0_compare 18 = .ok (.getfield 575, 3) := dk_180 2 63 (dk_at dksX0_compare_0 18 rfl rfl)
theorem dX0_compare_21 : decode cX0_compare 21 = .ok (.iload_n 1, 1) := dk_27 (dk_at dksX0_compare_0 21 rfl rfl)
theorem dX0_compare_22 : decode cX0_compare 22 = .ok (.iaload, 1) := dk_46 (dk_at dksX0_compare_0 22 rfl rfl)
theorem dX0_compare_23 : decode cX0_compare 23 = .ok (.isub, 1) := dk_100 (dk_at dksX0_compare_0 23 rfl rfl)
theorem dX0_compare_24 : decode cX0_compare 24 = .ok (.goto 13, 3) := dk_167 0 13 (dk_at dksX0_compare_1 0 rfl rfl)
theorem dX0_compare_27 : decode cX0_compare 27 = .ok (.sipush 1000, 3) := dk_17 3 232 (dk_at dksX0_compare_1 3 rfl rfl)
theorem dX0_compare_30 : decode cX0_compare 30 = .ok (.aload_n 0, 1) := dk_42 (dk_at dksX0_compare_1 6 rfl rfl)
theorem dX0_compare_31 : decode cX0_compare 31 = .ok (.getfield 575, 3) := dk_180 2 63 (dk_at dksX0_compare_1 7 rfl rfl)
theorem dX0_compare_34 : decode cX0_compare 34 = .ok (.iload_n 1, 1) := dk_27 (dk_at dksX0_compare_1 10 rfl rfl)
theorem dX0_compare_35 : decode cX0_compare 35 = .ok (.iaload, 1) := dk_46 (dk_at dksX0_compare_1 11 rfl rfl)
theorem dX0_compare_36 : decode cX0_compare 36 = .ok (.iadd, 1) := dk_96 (dk_at dksX0_compare_1 12 rfl rfl)
theorem dX0_compare_37 : decode cX0_compare 37 = .ok (.istore_n 3, 1) := dk_62 (dk_at dksX0_compare_1 13 rfl rfl)
theorem dX0_compare_38 : decode cX0_compare 38 = .ok (.aload_n 0, 1) := dk_42 (dk_at dksX0_compare_1 14 rfl rfl)
theorem dX0_compare_39 : decode cX0_compare 39 = .ok (.getfield 575, 3) := dk_180 2 63 (dk_at dksX0_compare_1 15 rfl rfl)
theorem dX0_compare_42 : decode cX0_compare 42 = .ok (.iload_n 2, 1) := dk_28 (dk_at dksX0_compare_1 18 rfl rfl)
theorem dX0_compare_43 : decode cX0_compare 43 = .ok (.iaload, 1) := dk_46 (dk_at dksX0_compare_1 19 rfl rfl)
theorem dX0_compare_44 : decode cX0_compare 44 = .ok (.ifCond .ge 14, 3) := dk_156 0 14 (dk_at dksX0_compare_1 20 rfl rfl)
theorem dX0_compare_47 : decode cX0_compare 47 = .ok (.iconst (-1), 1) := dk_2 (dk_at dksX0_compare_1 23 rfl rfl)
theorem dX0_compare_48 : decode cX0_compare 48 = .ok (.aload_n 0, 1) := dk_42 (dk_at dksX0_compare_2 0 rfl rfl)
theorem dX0_compare_49 : decode cX0_compare 49 = .ok (.getfield 575, 3) := dk_180 2 63 (dk_at dksX0_compare_2 1 rfl rfl)
theorem dX0_compare_52 : decode cX0_compare 52 = .ok (.iload_n 2, 1) := dk_28 (dk_at dksX0_compare_2 4 rfl rfl)
theorem dX0_compare_53 : decode cX0_compare 53 = .ok (.iaload, 1) := dk_46 (dk_at dksX0_compare_2 5 rfl rfl)
theorem dX0_compare_54 : decode cX0_compare 54 = .ok (.isub, 1) := dk_100 (dk_at dksX0_compare_2 6 rfl rfl)
theorem dX0_compare_55 : decode cX0_compare 55 = .ok (.goto 13, 3) := dk_167 0 13 (dk_at dksX0_compare_2 7 rfl rfl)
theorem dX0_compare_58 : decode cX0_compare 58 = .ok (.sipush 1000, 3) := dk_17 3 232 (dk_at dksX0_compare_2 10 rfl rfl)
theorem dX0_compare_61 : decode cX0_compare 61 = .ok (.aload_n 0, 1) := dk_42 (dk_at dksX0_compare_2 13 rfl rfl)
theorem dX0_compare_62 : decode cX0_compare 62 = .ok (.getfield 575, 3) := dk_180 2 63 (dk_at dksX0_compare_2 14 rfl rfl)
theorem dX0_compare_65 : decode cX0_compare 65 = .ok (.iload_n 2, 1) := dk_28 (dk_at dksX0_compare_2 17 rfl rfl)
theorem dX0_compare_66 : decode cX0_compare 66 = .ok (.iaload, 1) := dk_46 (dk_at dksX0_compare_2 18 rfl rfl)
theorem dX0_compare_67 : decode cX0_compare 67 = .ok (.iadd, 1) := dk_96 (dk_at dksX0_compare_2 19 rfl rfl)
theorem dX0_compare_68 : decode cX0_compare 68 = .ok (.istore 4, 2) := dk_54 4 (dk_at dksX0_compare_2 20 rfl rfl)
theorem dX0_compare_70 : decode cX0_compare 70 = .ok (.iload_n 3, 1) := dk_29 (dk_at dksX0_compare_2 22 rfl rfl)
theorem dX0_compare_71 : decode cX0_compare 71 = .ok (.iload 4, 2) := dk_21 4 (dk_at dksX0_compare_3 0 rfl rfl)
theorem dX0_compare_73 : decode cX0_compare 73 = .ok (.if_icmp .ne 18, 3) := dk_160 0 18 (dk_at dksX0_compare_3 2 rfl rfl)
theorem dX0_compare_76 : decode cX0_compare 76 = .ok (.aload_n 0, 1) := dk_42 (dk_at dksX0_compare_3 5 rfl rfl)
theorem dX0_compare_77 : decode cX0_compare 77 = .ok (.getfield 578, 3) := dk_180 2 66 (dk_at dksX0_compare_3 6 rfl rfl)
theorem dX0_compare_80 : decode cX0_compare 80 = .ok (.iload_n 1, 1) := dk_27 (dk_at dksX0_compare_3 9 rfl rfl)
theorem dX0_compare_81 : decode cX0_compare 81 = .ok (.iaload, 1) := dk_46 (dk_at dksX0_compare_3 10 rfl rfl)
theorem dX0_compare_82 : decode cX0_compare 82 = .ok (.aload_n 0, 1) := dk_42 (dk_at dksX0_compare_3 11 rfl rfl)
theorem dX0_compare_83 : decode cX0_compare 83 = .ok (.getfield 578, 3) := dk_180 2 66 (dk_at dksX0_compare_3 12 rfl rfl)
theorem dX0_compare_86 : decode cX0_compare 86 = .ok (.iload_n 2, 1) := dk_28 (dk_at dksX0_compare_3 15 rfl rfl)
theorem dX0_compare_87 : decode cX0_compare 87 = .ok (.iaload, 1) := dk_46 (dk_at dksX0_compare_3 16 rfl rfl)
theorem dX0_compare_88 : decode cX0_compare 88 = .ok (.if_icmp .eq 44, 3) := dk_159 0 44 (dk_at dksX0_compare_3 17 rfl rfl)
theorem dX0_compare_91 : decode cX0_compare 91 = .ok (.iload_n 3, 1) := dk_29 (dk_at dksX0_compare_3 20 rfl rfl)
theorem dX0_compare_92 : decode cX0_compare 92 = .ok (.iload 4, 2) := dk_21 4 (dk_at dksX0_compare_3 21 rfl rfl)
theorem dX0_compare_94 : decode cX0_compare 94 = .ok (.if_icmp .eq 17, 3) := dk_159 0 17 (dk_at dksX0_compare_4 0 rfl rfl)
theorem dX0_compare_97 : decode cX0_compare 97 = .ok (.iload_n 3, 1) := dk_29 (dk_at dksX0_compare_4 3 rfl rfl)
theorem dX0_compare_98 : decode cX0_compare 98 = .ok (.iload 4, 2) := dk_21 4 (dk_at dksX0_compare_4 4 rfl rfl)
theorem dX0_compare_100 : decode cX0_compare 100 = .ok (.if_icmp .ge 7, 3) := dk_162 0 7 (dk_at dksX0_compare_4 6 rfl rfl)
theorem dX0_compare_103 : decode cX0_compare 103 = .ok (.iconst (-1), 1) := dk_2 (dk_at dksX0_compare_4 9 rfl rfl)
theorem dX0_compare_104 : decode cX0_compare 104 = .ok (.goto 27, 3) := dk_167 0 27 (dk_at dksX0_compare_4 10 rfl rfl)
theorem dX0_compare_107 : decode cX0_compare 107 = .ok (.iconst 1, 1) := dk_4 (dk_at dksX0_compare_4 13 rfl rfl)
theorem dX0_compare_108 : decode cX0_compare 108 = .ok (.goto 23, 3) := dk_167 0 23 (dk_at dksX0_compare_4 14 rfl rfl)
theorem dX0_compare_111 : decode cX0_compare 111 = .ok (.aload_n 0, 1) := dk_42 (dk_at dksX0_compare_4 17 rfl rfl)
theorem dX0_compare_112 : decode cX0_compare 112 = .ok (.getfield 578, 3) := dk_180 2 66 (dk_at dksX0_compare_4 18 rfl rfl)
theorem dX0_compare_115 : decode cX0_compare 115 = .ok (.iload_n 1, 1) := dk_27 (dk_at dksX0_compare_4 21 rfl rfl)
theorem dX0_compare_116 : decode cX0_compare 116 = .ok (.iaload, 1) := dk_46 (dk_at dksX0_compare_4 22 rfl rfl)
theorem dX0_compare_117 : decode cX0_compare 117 = .ok (.aload_n 0, 1) := dk_42 (dk_at dksX0_compare_4 23 rfl rfl)
theorem dX0_compare_118 : decode cX0_compare 118 = .ok (.getfield 578, 3) := dk_180 2 66 (dk_at dksX0_compare_5 0 rfl rfl)
theorem dX0_compare_121 : decode cX0_compare 121 = .ok (.iload_n 2, 1) := dk_28 (dk_at dksX0_compare_5 3 rfl rfl)
theorem dX0_compare_122 : decode cX0_compare 122 = .ok (.iaload, 1) := dk_46 (dk_at dksX0_compare_5 4 rfl rfl)
theorem dX0_compare_123 : decode cX0_compare 123 = .ok (.if_icmp .ge 7, 3) := dk_162 0 7 (dk_at dksX0_compare_5 5 rfl rfl)
theorem dX0_compare_126 : decode cX0_compare 126 = .ok (.iconst (-1), 1) := dk_2 (dk_at dksX0_compare_5 8 rfl rfl)
theorem dX0_compare_127 : decode cX0_compare 127 = .ok (.goto 4, 3) := dk_167 0 4 (dk_at dksX0_compare_5 9 rfl rfl)
theorem dX0_compare_130 : decode cX0_compare 130 = .ok (.iconst 1, 1) := dk_4 (dk_at dksX0_compare_5 12 rfl rfl)
theorem dX0_compare_131 : decode cX0_compare 131 = .ok (.ireturn, 1) := dk_172 (dk_at dksX0_compare_5 13 rfl rfl)
theorem dX0_compare_132 : decode cX0_compare 132 = .ok (.iconst 0, 1) := dk_3 (dk_at dksX0_compare_5 14 rfl rfl)
theorem dX0_compare_133 : decode cX0_compare 133 = .ok (.istore 5, 2) := dk_54 5 (dk_at dksX0_compare_5 15 rfl rfl)
theorem dX0_compare_135 : decode cX0_compare 135 = .ok (.iload 5, 2) := dk_21 5 (dk_at dksX0_compare_5 17 rfl rfl)
theorem dX0_compare_137 : decode cX0_compare 137 = .ok (.aload_n 0, 1) := dk_42 (dk_at dksX0_compare_5 19 rfl rfl)
theorem dX0_compare_138 : decode cX0_compare 138 = .ok (.getfield 578, 3) := dk_180 2 66 (dk_at dksX0_compare_5 20 rfl rfl)
theorem dX0_compare_141 : decode cX0_compare 141 = .ok (.iload_n 1, 1) := dk_27 (dk_at dksX0_compare_5 23 rfl rfl)
theorem dX0_compare_142 : decode cX0_compare 142 = .ok (.iaload, 1) := dk_46 (dk_at dksX0_compare_6 0 rfl rfl)
theorem dX0_compare_143 : decode cX0_compare 143 = .ok (.if_icmp .ge 37, 3) := dk_162 0 37 (dk_at dksX0_compare_6 1 rfl rfl)
theorem dX0_compare_146 : decode cX0_compare 146 = .ok (.aload_n 0, 1) := dk_42 (dk_at dksX0_compare_6 4 rfl rfl)
theorem dX0_compare_147 : decode cX0_compare 147 = .ok (.aload_n 0, 1) := dk_42 (dk_at dksX0_compare_6 5 rfl rfl)
theorem dX0_compare_148 : decode cX0_compare 148 = .ok (.iload_n 1, 1) := dk_27 (dk_at dksX0_compare_6 6 rfl rfl)
theorem dX0_compare_149 : decode cX0_compare 149 = .ok (.iload 5, 2) := dk_21 5 (dk_at dksX0_compare_6 7 rfl rfl)
theorem dX0_compare_151 : decode cX0_compare 151 = .ok (.invokevirtual 621, 3) := dk_182 2 109 (dk_at dksX0_compare_6 9 rfl rfl)
theorem dX0_compare_154 : decode cX0_compare 154 = .ok (.aload_n 0, 1) := dk_42 (dk_at dksX0_compare_6 12 rfl rfl)
theorem dX0_compare_155 : decode cX0_compare 155 = .ok (.iload_n 2, 1) := dk_28 (dk_at dksX0_compare_6 13 rfl rfl)
theorem dX0_compare_156 : decode cX0_compare 156 = .ok (.iload 5, 2) := dk_21 5 (dk_at dksX0_compare_6 14 rfl rfl)
theorem dX0_compare_158 : decode cX0_compare 158 = .ok (.invokevirtual 621, 3) := dk_182 2 109 (dk_at dksX0_compare_6 16 rfl rfl)
theorem dX0_compare_161 : decode cX0_compare 161 = .ok (.invokevirtual 631, 3) := dk_182 2 119 (dk_at dksX0_compare_6 19 rfl rfl)
theorem dX0_compare_164 : decode cX0_compare 164 = .ok (.istore 6, 2) := dk_54 6 (dk_at dksX0_compare_6 22 rfl rfl)
theorem dX0_compare_166 : decode cX0_compare 166 = .ok (.iload 6, 2) := dk_21 6 (dk_at dksX0_compare_7 0 rfl rfl)
theorem dX0_compare_168 : decode cX0_compare 168 = .ok (.ifCond .eq 6, 3) := dk_153 0 6 (dk_at dksX0_compare_7 2 rfl rfl)
theorem dX0_compare_171 : decode cX0_compare 171 = .ok (.iload 6, 2) := dk_21 6 (dk_at dksX0_compare_7 5 rfl rfl)
theorem dX0_compare_173 : decode cX0_compare 173 = .ok (.ireturn, 1) := dk_172 (dk_at dksX0_compare_7 7 rfl rfl)
theorem dX0_compare_174 : decode cX0_compare 174 = .ok (.iinc 5 1, 3) := dk_132 5 1 (dk_at dksX0_compare_7 8 rfl rfl)
theorem dX0_compare_177 : decode cX0_compare 177 = .ok (.goto (-42), 3) := dk_167 255 214 (dk_at dksX0_compare_7 11 rfl rfl)
theorem dX0_compare_180 : decode cX0_compare 180 = .ok (.iconst 0, 1) := dk_3 (dk_at dksX0_compare_7 14 rfl rfl)
theorem dX0_compare_181 : decode cX0_compare 181 = .ok (.ireturn, 1) := dk_172 (dk_at dksX0_compare_7 15 rfl rfl)
abbrev cX0_know : ByteArray := prog_1_method_95_code
def yX0_know : MethodName := ⟨RX0, "know", "(I)V"⟩
def dkwX0_know_2 : List UInt8 := [167, 255, 233, 177]
abbrev dktX0_know_2 : List UInt8 := dkwX0_know_2 ++ []
def dkwX0_know_1 : List UInt8 := [61, 28, 42, 180, 2, 66, 27, 46, 162, 0, 19, 42, 42, 27, 28, 182, 2, 109, 182, 2, 174, 132, 2, 1]
abbrev dktX0_know_1 : List UInt8 := dkwX0_know_1 ++ dktX0_know_2
def dkwX0_know_0 : List UInt8 := [42, 180, 2, 63, 27, 46, 156, 0, 17, 42, 180, 2, 171, 2, 42, 180, 2, 63, 27, 46, 100, 4, 84, 3]
abbrev dktX0_know_0 : List UInt8 := dkwX0_know_0 ++ dktX0_know_1
theorem dksX0_know_0 : cX0_know.data.toList.drop 0 = dktX0_know_0 := by decide +kernel
theorem dksX0_know_1 : cX0_know.data.toList.drop 24 = dktX0_know_1 := dk_seg dksX0_know_0 24 rfl rfl
theorem dksX0_know_2 : cX0_know.data.toList.drop 48 = dktX0_know_2 := dk_seg dksX0_know_1 24 rfl rfl
theorem dX0_know_0 : decode cX0_know 0 = .ok (.aload_n 0, 1) := dk_42 (dk_at dksX0_know_0 0 rfl rfl)
theorem dX0_know_1 : decode cX0_know 1 = .ok (.getfield 575, 3) := dk_180 2 63 (dk_at dksX0_know_0 1 rfl rfl)
theorem dX0_know_4 : decode cX0_know 4 = .ok (.iload_n 1, 1) := dk_27 (dk_at dksX0_know_0 4 rfl rfl)
theorem dX0_know_5 : decode cX0_know 5 = .ok (.iaload, 1) := dk_46 (dk_at dksX0_know_0 5 rfl rfl)
theorem dX0_know_6 : decode cX0_know 6 = .ok (.ifCond .ge 17, 3) := dk_156 0 17 (dk_at dksX0_know_0 6 rfl rfl)
theorem dX0_know_9 : decode cX0_know 9 = .ok (.aload_n 0, 1) := dk_42 (dk_at dksX0_know_0 9 rfl rfl)
theorem dX0_know_10 : decode cX0_know 10 = .ok (.getfield 683, 3) := dk_180 2 171 (dk_at dksX0_know_0 10 rfl rfl)
theorem dX0_know_13 : decode cX0_know 13 = .ok (.iconst (-1), 1) := dk_2 (dk_at dksX0_know_0 13 rfl rfl)
theorem dX0_know_14 : decode cX0_know 14 = .ok (.aload_n 0, 1) := dk_42 (dk_at dksX0_know_0 14 rfl rfl)
theorem dX0_know_15 : decode cX0_know 15 = .ok (.getfield 575, 3) := dk_180 2 63 (dk_at dksX0_know_0 15 rfl rfl)
theorem dX0_know_18 : decode cX0_know 18 = .ok (.iload_n 1, 1) := dk_27 (dk_at dksX0_know_0 18 rfl rfl)
theorem dX0_know_19 : decode cX0_know 19 = .ok (.iaload, 1) := dk_46 (dk_at dksX0_know_0 19 rfl rfl)
theorem dX0_know_20 : decode cX0_know 20 = .ok (.isub, 1) := dk_100 (dk_at dksX0_know_0 20 rfl rfl)
theorem dX0_know_21 : decode cX0_know 21 = .ok (.iconst 1, 1) := dk_4 (dk_at dksX0_know_0 21 rfl rfl)
theorem dX0_know_22 : decode cX0_know 22 = .ok (.bastore, 1) := dk_84 (dk_at dksX0_know_0 22 rfl rfl)
theorem dX0_know_23 : decode cX0_know 23 = .ok (.iconst 0, 1) := dk_3 (dk_at dksX0_know_0 23 rfl rfl)
theorem dX0_know_24 : decode cX0_know 24 = .ok (.istore_n 2, 1) := dk_61 (dk_at dksX0_know_1 0 rfl rfl)
theorem dX0_know_25 : decode cX0_know 25 = .ok (.iload_n 2, 1) := dk_28 (dk_at dksX0_know_1 1 rfl rfl)
theorem dX0_know_26 : decode cX0_know 26 = .ok (.aload_n 0, 1) := dk_42 (dk_at dksX0_know_1 2 rfl rfl)
theorem dX0_know_27 : decode cX0_know 27 = .ok (.getfield 578, 3) := dk_180 2 66 (dk_at dksX0_know_1 3 rfl rfl)
theorem dX0_know_30 : decode cX0_know 30 = .ok (.iload_n 1, 1) := dk_27 (dk_at dksX0_know_1 6 rfl rfl)
theorem dX0_know_31 : decode cX0_know 31 = .ok (.iaload, 1) := dk_46 (dk_at dksX0_know_1 7 rfl rfl)
theorem dX0_know_32 : decode cX0_know 32 = .ok (.if_icmp .ge 19, 3) := dk_162 0 19 (dk_at dksX0_know_1 8 rfl rfl)
theorem dX0_know_35 : decode cX0_know 35 = .ok (.aload_n 0, 1) := dk_42 (dk_at dksX0_know_1 11 rfl rfl)
theorem dX0_know_36 : decode cX0_know 36 = .ok (.aload_n 0, 1) := dk_42 (dk_at dksX0_know_1 12 rfl rfl)
theorem dX0_know_37 : decode cX0_know 37 = .ok (.iload_n 1, 1) := dk_27 (dk_at dksX0_know_1 13 rfl rfl)
theorem dX0_know_38 : decode cX0_know 38 = .ok (.iload_n 2, 1) := dk_28 (dk_at dksX0_know_1 14 rfl rfl)
theorem dX0_know_39 : decode cX0_know 39 = .ok (.invokevirtual 621, 3) := dk_182 2 109 (dk_at dksX0_know_1 15 rfl rfl)
theorem dX0_know_42 : decode cX0_know 42 = .ok (.invokevirtual 686, 3) := dk_182 2 174 (dk_at dksX0_know_1 18 rfl rfl)
theorem dX0_know_45 : decode cX0_know 45 = .ok (.iinc 2 1, 3) := dk_132 2 1 (dk_at dksX0_know_1 21 rfl rfl)
theorem dX0_know_48 : decode cX0_know 48 = .ok (.goto (-23), 3) := dk_167 255 233 (dk_at dksX0_know_2 0 rfl rfl)
theorem dX0_know_51 : decode cX0_know 51 = .ok (.return_, 1) := dk_177 (dk_at dksX0_know_2 3 rfl rfl)
abbrev cX0_layCondition : ByteArray := prog_1_method_99_code
def yX0_layCondition : MethodName := ⟨RX0, "layCondition", "(I)Z"⟩
def dkwX0_layCondition_10 : List UInt8 := [154, 0, 5, 3, 172, 29, 154, 0, 8, 42, 28, 182, 2, 174, 4, 172]
abbrev dktX0_layCondition_10 : List UInt8 := dkwX0_layCondition_10 ++ []
def dkwX0_layCondition_9 : List UInt8 := [180, 2, 198, 27, 21, 4, 79, 21, 4, 153, 0, 18, 42, 21, 4, 42, 180, 1, 130, 27, 46, 182, 2, 195]
abbrev dktX0_layCondition_9 : List UInt8 := dkwX0_layCondition_9 ++ dktX0_layCondition_10
def dkwX0_layCondition_8 : List UInt8 := [180, 1, 130, 27, 46, 42, 180, 1, 133, 27, 46, 42, 28, 182, 2, 189, 182, 2, 180, 54, 4, 42]
abbrev dktX0_layCondition_8 : List UInt8 := dkwX0_layCondition_8 ++ dktX0_layCondition_9
def dkwX0_layCondition_7 : List UInt8 := [29, 153, 0, 19, 42, 28, 42, 180, 1, 121, 27, 46, 182, 2, 195, 154, 0, 5, 3, 172, 42, 42]
abbrev dktX0_layCondition_7 : List UInt8 := dkwX0_layCondition_7 ++ dktX0_layCondition_8
def dkwX0_layCondition_6 : List UInt8 := [3, 172, 42, 180, 2, 201, 27, 28, 79, 42, 180, 1, 127, 27, 46, 154, 0, 7, 4, 167, 0, 4, 3, 62]
abbrev dktX0_layCondition_6 : List UInt8 := dkwX0_layCondition_6 ++ dktX0_layCondition_7
def dkwX0_layCondition_5 : List UInt8 := [172, 42, 42, 180, 1, 121, 27, 46, 42, 180, 1, 124, 27, 46, 16, 254, 182, 2, 180, 61, 28, 154, 0, 5]
abbrev dktX0_layCondition_5 : List UInt8 := dkwX0_layCondition_5 ++ dktX0_layCondition_6
def dkwX0_layCondition_4 : List UInt8 := [42, 42, 180, 2, 201, 27, 46, 42, 180, 1, 121, 27, 46, 182, 2, 195, 153, 0, 7, 4, 167, 0, 4, 3]
abbrev dktX0_layCondition_4 : List UInt8 := dkwX0_layCondition_4 ++ dktX0_layCondition_5
def dkwX0_layCondition_3 : List UInt8 := [42, 180, 1, 145, 42, 180, 2, 198, 27, 46, 46, 182, 2, 180, 79, 42, 180, 2, 201, 27, 46, 153, 0, 26]
abbrev dktX0_layCondition_3 : List UInt8 := dkwX0_layCondition_3 ++ dktX0_layCondition_4
def dkwX0_layCondition_2 : List UInt8 := [27, 46, 182, 0, 132, 172, 42, 180, 2, 201, 27, 42, 42, 180, 1, 121, 27, 46, 42, 180, 1, 124, 27, 46]
abbrev dktX0_layCondition_2 : List UInt8 := dkwX0_layCondition_2 ++ dktX0_layCondition_3
def dkwX0_layCondition_1 : List UInt8 := [27, 46, 46, 182, 1, 139, 79, 42, 180, 2, 198, 27, 46, 16, 254, 160, 0, 15, 42, 7, 42, 180, 1, 130]
abbrev dktX0_layCondition_1 : List UInt8 := dkwX0_layCondition_1 ++ dktX0_layCondition_2
def dkwX0_layCondition_0 : List UInt8 := [42, 180, 1, 127, 27, 46, 5, 160, 0, 114, 42, 180, 2, 198, 27, 42, 42, 180, 0, 117, 42, 180, 1, 130]
abbrev dktX0_layCondition_0 : List UInt8 := dkwX0_layCondition_0 ++ dktX0_layCondition_1
theorem dksX0_layCondition_0 : cX0_layCondition.data.toList.drop 0 = dktX0_layCondition_0 := by decide +kernel
theorem dksX0_layCondition_1 : cX0_layCondition.data.toList.drop 24 = dktX0_layCondition_1 := dk_seg dksX0_layCondition_0 24 rfl rfl
theorem dksX0_layCondition_2 : cX0_layCondition.data.toList.drop 48 = dktX0_layCondition_2 := dk_seg dksX0_layCondition_1 24 rfl rfl
theorem dksX0_layCondition_3 : cX0_layCondition.data.toList.drop 72 = dktX0_layCondition_3 := dk_seg dksX0_layCondition_2 24 rfl rfl
theorem dksX0_layCondition_4 : cX0_layCondition.data.toList.drop 96 = dktX0_layCondition_4 := dk_seg dksX0_layCondition_3 24 rfl rfl
theorem dksX0_layCondition_5 : cX0_layCondition.data.toList.drop 120 = dktX0_layCondition_5 := dk_seg dksX0_layCondition_4 24 rfl rfl
theorem dksX0_layCondition_6 : cX0_layCondition.data.toList.drop 144 = dktX0_layCondition_6 := dk_seg dksX0_layCondition_5 24 rfl rfl
theorem dksX0_layCondition_7 : cX0_layCondition.data.toList.drop 168 = dktX0_layCondition_7 := dk_seg dksX0_layCondition_6 24 rfl rfl
theorem dksX0_layCondition_8 : cX0_layCondition.data.toList.drop 190 = dktX0_layCondition_8 := dk_seg dksX0_layCondition_7 22 rfl rfl
theorem dksX0_layCondition_9 : cX0_layCondition.data.toList.drop 212 = dktX0_layCondition_9 := dk_seg dksX0_layCondition_8 22 rfl rfl
theorem dksX0_layCondition_10 : cX0_layCondition.data.toList.drop 236 = dktX0_layCondition_10 := dk_seg dksX0_layCondition_9 24 rfl rfl
theorem dX0_layCondition_0 : decode cX0_layCondition 0 = .ok (.aload_n 0, 1) := dk_42 (dk_at dksX0_layCondition_0 0 rfl rfl)
theorem dX0_layCondition_1 : decode cX0_layCondition 1 = .ok (.getfield 383, 3) := dk_180 1 127 (dk_at dksX0_layCondition_0 1 rfl rfl)
theorem dX0_layCondition_4 : decode cX0_layCondition 4 = .ok (.iload_n 1, 1) := dk_27 (dk_at dksX0_layCondition_0 4 rfl rfl)
theorem dX0_layCondition_5 : decode cX0_layCondition 5 = .ok (.iaload, 1) := dk_46 (dk_at dksX0_layCondition_0 5 rfl rfl)
theorem dX0_layCondition_6 : decode cX0_layCondition 6 = .ok (.iconst 2, 1) := dk_5 (dk_at dksX0_layCondition_0 6 rfl rfl)
theorem dX0_layCondition_7 : decode cX0_layCondition 7 = .ok (.if_icmp .ne 114, 3) := dk_160 0 114 (dk_at dksX0_layCondition_0 7 rfl rfl)
theorem dX0_layCondition_10 : decode cX0_layCondition 10 = .ok (.aload_n 0, 1) := dk_42 (dk_at dksX0_layCondition_0 10 rfl rfl)
theorem dX0_layCondition_11 : decode cX0_layCondition 11 = .ok (.getfield 710, 3) := dk_180 2 198 (dk_at dksX0_layCondition_0 11 rfl rfl)
theorem dX0_layCondition_14 : decode cX0_layCondition 14 = .ok (.iload_n 1, 1) := dk_27 (dk_at dksX0_layCondition_0 14 rfl rfl)
theorem dX0_layCondition_15 : decode cX0_layCondition 15 = .ok (.aload_n 0, 1) := dk_42 (dk_at dksX0_layCondition_0 15 rfl rfl)
theorem dX0_layCondition_16 : decode cX0_layCondition 16 = .ok (.aload_n 0, 1) := dk_42 (dk_at dksX0_layCondition_0 16 rfl rfl)
theorem dX0_layCondition_17 : decode cX0_layCondition 17 = .ok (.getfield 117, 3) := dk_180 0 117 (dk_at dksX0_layCondition_0 17 rfl rfl)
theorem dX0_layCondition_20 : decode cX0_layCondition 20 = .ok (.aload_n 0, 1) := dk_42 (dk_at dksX0_layCondition_0 20 rfl rfl)
theorem dX0_layCondition_21 : decode cX0_layCondition 21 = .ok (.getfield 386, 3) := dk_180 1 130 (dk_at dksX0_layCondition_0 21 rfl rfl)
theorem dX0_layCondition_24 : decode cX0_layCondition 24 = .ok (.iload_n 1, 1) := dk_27 (dk_at dksX0_layCondition_1 0 rfl rfl)
theorem dX0_layCondition_25 : decode cX0_layCondition 25 = .ok (.iaload, 1) := dk_46 (dk_at dksX0_layCondition_1 1 rfl rfl)
theorem dX0_layCondition_26 : decode cX0_layCondition 26 = .ok (.iaload, 1) := dk_46 (dk_at dksX0_layCondition_1 2 rfl rfl)
theorem dX0_layCondition_27 : decode cX0_layCondition 27 = .ok (.invokevirtual 395, 3) := dk_182 1 139 (dk_at dksX0_layCondition_1 3 rfl rfl)
theorem dX0_layCondition_30 : decode cX0_layCondition 30 = .ok (.iastore, 1) := dk_79 (dk_at dksX0_layCondition_1 6 rfl rfl)
theorem dX0_layCondition_31 : decode cX0_layCondition 31 = .ok (.aload_n 0, 1) := dk_42 (dk_at dksX0_layCondition_1 7 rfl rfl)
theorem dX0_layCondition_32 : decode cX0_layCondition 32 = .ok (.getfield 710, 3) := dk_180 2 198 (dk_at dksX0_layCondition_1 8 rfl rfl)
theorem dX0_layCondition_35 : decode cX0_layCondition 35 = .ok (.iload_n 1, 1) := dk_27 (dk_at dksX0_layCondition_1 11 rfl rfl)
theorem dX0_layCondition_36 : decode cX0_layCondition 36 = .ok (.iaload, 1) := dk_46 (dk_at dksX0_layCondition_1 12 rfl rfl)
theorem dX0_layCondition_37 : decode cX0_layCondition 37 = .ok (.bipush (-2), 2) := dk_16 254 (dk_at dksX0_layCondition_1 13 rfl rfl)
theorem dX0_layCondition_39 : decode cX0_layCondition 39 = .ok (.if_icmp .ne 15, 3) := dk_160 0 15 (dk_at dksX0_layCondition_1 15 rfl rfl)
theorem dX0_layCondition_42 : decode cX0_layCondition 42 = .ok (.aload_n 0, 1) := dk_42 (dk_at dksX0_layCondition_1 18 rfl rfl)
theorem dX0_layCondition_43 : decode cX0_layCondition 43 = .ok (.iconst 4, 1) := dk_7 (dk_at dksX0_layCondition_1 19 rfl rfl)
theorem dX0_layCondition_44 : decode cX0_layCondition 44 = .ok (.aload_n 0, 1) := dk_42 (dk_at dksX0_layCondition_1 20 rfl rfl)
theorem dX0_layCondition_45 : decode cX0_layCondition 45 = .ok (.getfield 386, 3) := dk_180 1 130 (dk_at dksX0_layCondition_1 21 rfl rfl)
theorem dX0_layCondition_48 : decode cX0_layCondition 48 = .ok (.iload_n 1, 1) := dk_27 (dk_at dksX0_layCondition_2 0 rfl rfl)
theorem dX0_layCondition_49 : decode cX0_layCondition 49 = .ok (.iaload, 1) := dk_46 (dk_at dksX0_layCondition_2 1 rfl rfl)
theorem dX0_layCondition_50 : decode cX0_layCondition 50 = .ok (.invokevirtual 132, 3) := dk_182 0 132 (dk_at dksX0_layCondition_2 2 rfl rfl)
theorem dX0_layCondition_53 : decode cX0_layCondition 53 = .ok (.ireturn, 1) := dk_172 (dk_at dksX0_layCondition_2 5 rfl rfl)
theorem dX0_layCondition_54 : decode cX0_layCondition 54 = .ok (.aload_n 0, 1) := dk_42 (dk_at dksX0_layCondition_2 6 rfl rfl)
theorem dX0_layCondition_55 : decode cX0_layCondition 55 = .ok (.getfield 713, 3) := dk_180 2 201 (dk_at dksX0_layCondition_2 7 rfl rfl)
theorem dX0_layCondition_58 : decode cX0_layCondition 58 = .ok (.iload_n 1, 1) := dk_27 (dk_at dksX0_layCondition_2 10 rfl rfl)
theorem dX0_layCondition_59 : decode cX0_layCondition 59 = .ok (.aload_n 0, 1) := dk_42 (dk_at dksX0_layCondition_2 11 rfl rfl)
theorem dX0_layCondition_60 : decode cX0_layCondition 60 = .ok (.aload_n 0, 1) := dk_42 (dk_at dksX0_layCondition_2 12 rfl rfl)
theorem dX0_layCondition_61 : decode cX0_layCondition 61 = .ok (.getfield 377, 3) := dk_180 1 121 (dk_at dksX0_layCondition_2 13 rfl rfl)
theorem dX0_layCondition_64 : decode cX0_layCondition 64 = .ok (.iload_n 1, 1) := dk_27 (dk_at dksX0_layCondition_2 16 rfl rfl)
theorem dX0_layCondition_65 : decode cX0_layCondition 65 = .ok (.iaload, 1) := dk_46 (dk_at dksX0_layCondition_2 17 rfl rfl)
theorem dX0_layCondition_66 : decode cX0_layCondition 66 = .ok (.aload_n 0, 1) := dk_42 (dk_at dksX0_layCondition_2 18 rfl rfl)
theorem dX0_layCondition_67 : decode cX0_layCondition 67 = .ok (.getfield 380, 3) := dk_180 1 124 (dk_at dksX0_layCondition_2 19 rfl rfl)
theorem dX0_layCondition_70 : decode cX0_layCondition 70 = .ok (.iload_n 1, 1) := dk_27 (dk_at dksX0_layCondition_2 22 rfl rfl)
theorem dX0_layCondition_71 : decode cX0_layCondition 71 = .ok (.iaload, 1) := dk_46 (dk_at dksX0_layCondition_2 23 rfl rfl)
theorem dX0_layCondition_72 : decode cX0_layCondition 72 = .ok (.aload_n 0, 1) := dk_42 (dk_at dksX0_layCondition_3 0 rfl rfl)
theorem dX0_layCondition_73 : decode cX0_layCondition 73 = .ok (.getfield 401, 3) := dk_180 1 145 (dk_at dksX0_layCondition_3 1 rfl rfl)
theorem dX0_layCondition_76 : decode cX0_layCondition 76 = .ok (.aload_n 0, 1) := dk_42 (dk_at dksX0_layCondition_3 4 rfl rfl)
theorem dX0_layCondition_77 : decode cX0_layCondition 77 = .ok (.getfield 710, 3) := dk_180 2 198 (dk_at dksX0_layCondition_3 5 rfl rfl)
theorem dX0_layCondition_80 : decode cX0_layCondition 80 = .ok (.iload_n 1, 1) := dk_27 (dk_at dksX0_layCondition_3 8 rfl rfl)
theorem dX0_layCondition_81 : decode cX0_layCondition 81 = .ok (.iaload, 1) := dk_46 (dk_at dksX0_layCondition_3 9 rfl rfl)
theorem dX0_layCondition_82 : decode cX0_layCondition 82 = .ok (.iaload, 1) := dk_46 (dk_at dksX0_layCondition_3 10 rfl rfl)
theorem dX0_layCondition_83 : decode cX0_layCondition 83 = .ok (.invokevirtual 692, 3) := dk_182 2 180 (dk_at dksX0_layCondition_3 11 rfl rfl)
theorem dX0_layCondition_86 : decode cX0_layCondition 86 = .ok (.iastore, 1) := dk_79 (dk_at dksX0_layCondition_3 14 rfl rfl)
theorem dX0_layCondition_87 : decode cX0_layCondition 87 = .ok (.aload_n 0, 1) := dk_42 (dk_at dksX0_layCondition_3 15 rfl rfl)
theorem dX0_layCondition_88 : decode cX0_layCondition 88 = .ok (.getfield 713, 3) := dk_180 2 201 (dk_at dksX0_layCondition_3 16 rfl rfl)
theorem dX0_layCondition_91 : decode cX0_layCondition 91 = .ok (.iload_n 1, 1) := dk_27 (dk_at dksX0_layCondition_3 19 rfl rfl)
theorem dX0_layCondition_92 : decode cX0_layCondition 92 = .ok (.iaload, 1) := dk_46 (dk_at dksX0_layCondition_3 20 rfl rfl)
theorem dX0_layCondition_93 : decode cX0_layCondition 93 = .ok (.ifCond .eq 26, 3) := dk_153 0 26 (dk_at dksX0_layCondition_3 21 rfl rfl)
theorem dX0_layCondition_96 : decode cX0_layCondition 96 = .ok (.aload_n 0, 1) := dk_42 (dk_at dksX0_layCondition_4 0 rfl rfl)
theorem dX0_layCondition_97 : decode cX0_layCondition 97 = .ok (.aload_n 0, 1) := dk_42 (dk_at dksX0_layCondition_4 1 rfl rfl)
theorem dX0_layCondition_98 : decode cX0_layCondition 98 = .ok (.getfield 713, 3) := dk_180 2 201 (dk_at dksX0_layCondition_4 2 rfl rfl)
theorem dX0_layCondition_101 : decode cX0_layCondition 101 = .ok (.iload_n 1, 1) := dk_27 (dk_at dksX0_layCondition_4 5 rfl rfl)
theorem dX0_layCondition_102 : decode cX0_layCondition 102 = .ok (.iaload, 1) := dk_46 (dk_at dksX0_layCondition_4 6 rfl rfl)
theorem dX0_layCondition_103 : decode cX0_layCondition 103 = .ok (.aload_n 0, 1) := dk_42 (dk_at dksX0_layCondition_4 7 rfl rfl)
theorem dX0_layCondition_104 : decode cX0_layCondition 104 = .ok (.getfield 377, 3) := dk_180 1 121 (dk_at dksX0_layCondition_4 8 rfl rfl)
theorem dX0_layCondition_107 : decode cX0_layCondition 107 = .ok (.iload_n 1, 1) := dk_27 (dk_at dksX0_layCondition_4 11 rfl rfl)
theorem dX0_layCondition_108 : decode cX0_layCondition 108 = .ok (.iaload, 1) := dk_46 (dk_at dksX0_layCondition_4 12 rfl rfl)
theorem dX0_layCondition_109 : decode cX0_layCondition 109 = .ok (.invokevirtual 707, 3) := dk_182 2 195 (dk_at dksX0_layCondition_4 13 rfl rfl)
theorem dX0_layCondition_112 : decode cX0_layCondition 112 = .ok (.ifCond .eq 7, 3) := dk_153 0 7 (dk_at dksX0_layCondition_4 16 rfl rfl)
theorem dX0_layCondition_115 : decode cX0_layCondition 115 = .ok (.iconst 1, 1) := dk_4 (dk_at dksX0_layCondition_4 19 rfl rfl)
theorem dX0_layCondition_116 : decode cX0_layCondition 116 = .ok (.goto 4, 3) := dk_167 0 4 (dk_at dksX0_layCondition_4 20 rfl rfl)
theorem dX0_layCondition_119 : decode cX0_layCondition 119 = .ok (.iconst 0, 1) := dk_3 (dk_at dksX0_layCondition_4 23 rfl rfl)
theorem dX0_layCondition_120 : decode cX0_layCondition 120 = .ok (.ireturn, 1) := dk_172 (dk_at dksX0_layCondition_5 0 rfl rfl)
theorem dX0_layCondition_121 : decode cX0_layCondition 121 = .ok (.aload_n 0, 1) := dk_42 (dk_at dksX0_layCondition_5 1 rfl rfl)
theorem dX0_layCondition_122 : decode cX0_layCondition 122 = .ok (.aload_n 0, 1) := dk_42 (dk_at dksX0_layCondition_5 2 rfl rfl)
theorem dX0_layCondition_123 : decode cX0_layCondition 123 = .ok (.getfield 377, 3) := dk_180 1 121 (dk_at dksX0_layCondition_5 3 rfl rfl)
theorem dX0_layCondition_126 : decode cX0_layCondition 126 = .ok (.iload_n 1, 1) := dk_27 (dk_at dksX0_layCondition_5 6 rfl rfl)
theorem dX0_layCondition_127 : decode cX0_layCondition 127 = .ok (.iaload, 1) := dk_46 (dk_at dksX0_layCondition_5 7 rfl rfl)
theorem dX0_layCondition_128 : decode cX0_layCondition 128 = .ok (.aload_n 0, 1) := dk_42 (dk_at dksX0_layCondition_5 8 rfl rfl)
theorem dX0_layCondition_129 : decode cX0_layCondition 129 = .ok (.getfield 380, 3) := dk_180 1 124 (dk_at dksX0_layCondition_5 9 rfl rfl)
theorem dX0_layCondition_132 : decode cX0_layCondition 132 = .ok (.iload_n 1, 1) := dk_27 (dk_at dksX0_layCondition_5 12 rfl rfl)
theorem dX0_layCondition_133 : decode cX0_layCondition 133 = .ok (.iaload, 1) := dk_46 (dk_at dksX0_layCondition_5 13 rfl rfl)
theorem dX0_layCondition_134 : decode cX0_layCondition 134 = .ok (.bipush (-2), 2) := dk_16 254 (dk_at dksX0_layCondition_5 14 rfl rfl)
theorem dX0_layCondition_136 : decode cX0_layCondition 136 = .ok (.invokevirtual 692, 3) := dk_182 2 180 (dk_at dksX0_layCondition_5 16 rfl rfl)
theorem dX0_layCondition_139 : decode cX0_layCondition 139 = .ok (.istore_n 2, 1) := dk_61 (dk_at dksX0_layCondition_5 19 rfl rfl)
theorem dX0_layCondition_140 : decode cX0_layCondition 140 = .ok (.iload_n 2, 1) := dk_28 (dk_at dksX0_layCondition_5 20 rfl rfl)
theorem dX0_layCondition_141 : decode cX0_layCondition 141 = .ok (.ifCond .ne 5, 3) := dk_154 0 5 (dk_at dksX0_layCondition_5 21 rfl rfl)
theorem dX0_layCondition_144 : decode cX0_layCondition 144 = .ok (.iconst 0, 1) := dk_3 (dk_at dksX0_layCondition_6 0 rfl rfl)
theorem dX0_layCondition_145 : decode cX0_layCondition 145 = .ok (.ireturn, 1) := dk_172 (dk_at dksX0_layCondition_6 1 rfl rfl)
theorem dX0_layCondition_146 : decode cX0_layCondition 146 = .ok (.aload_n 0, 1) := dk_42 (dk_at dksX0_layCondition_6 2 rfl rfl)
theorem dX0_layCondition_147 : decode cX0_layCondition 147 = .ok (.getfield 713, 3) := dk_180 2 201 (dk_at dksX0_layCondition_6 3 rfl rfl)
theorem dX0_layCondition_150 : decode cX0_layCondition 150 = .ok (.iload_n 1, 1) := dk_27 (dk_at dksX0_layCondition_6 6 rfl rfl)
theorem dX0_layCondition_151 : decode cX0_layCondition 151 = .ok (.iload_n 2, 1) := dk_28 (dk_at dksX0_layCondition_6 7 rfl rfl)
theorem dX0_layCondition_152 : decode cX0_layCondition 152 = .ok (.iastore, 1) := dk_79 (dk_at dksX0_layCondition_6 8 rfl rfl)
theorem dX0_layCondition_153 : decode cX0_layCondition 153 = .ok (.aload_n 0, 1) := dk_42 (dk_at dksX0_layCondition_6 9 rfl rfl)
theorem dX0_layCondition_154 : decode cX0_layCondition 154 = .ok (.getfield 383, 3) := dk_180 1 127 (dk_at dksX0_layCondition_6 10 rfl rfl)
theorem dX0_layCondition_157 : decode cX0_layCondition 157 = .ok (.iload_n 1, 1) := dk_27 (dk_at dksX0_layCondition_6 13 rfl rfl)
theorem dX0_layCondition_158 : decode cX0_layCondition 158 = .ok (.iaload, 1) := dk_46 (dk_at dksX0_layCondition_6 14 rfl rfl)
theorem dX0_layCondition_159 : decode cX0_layCondition 159 = .ok (.ifCond .ne 7, 3) := dk_154 0 7 (dk_at dksX0_layCondition_6 15 rfl rfl)
theorem dX0_layCondition_162 : decode cX0_layCondition 162 = .ok (.iconst 1, 1) := dk_4 (dk_at dksX0_layCondition_6 18 rfl rfl)
theorem dX0_layCondition_163 : decode cX0_layCondition 163 = .ok (.goto 4, 3) := dk_167 0 4 (dk_at dksX0_layCondition_6 19 rfl rfl)
theorem dX0_layCondition_166 : decode cX0_layCondition 166 = .ok (.iconst 0, 1) := dk_3 (dk_at dksX0_layCondition_6 22 rfl rfl)
theorem dX0_layCondition_167 : decode cX0_layCondition 167 = .ok (.istore_n 3, 1) := dk_62 (dk_at dksX0_layCondition_6 23 rfl rfl)
theorem dX0_layCondition_168 : decode cX0_layCondition 168 = .ok (.iload_n 3, 1) := dk_29 (dk_at dksX0_layCondition_7 0 rfl rfl)
theorem dX0_layCondition_169 : decode cX0_layCondition 169 = .ok (.ifCond .eq 19, 3) := dk_153 0 19 (dk_at dksX0_layCondition_7 1 rfl rfl)
theorem dX0_layCondition_172 : decode cX0_layCondition 172 = .ok (.aload_n 0, 1) := dk_42 (dk_at dksX0_layCondition_7 4 rfl rfl)
theorem dX0_layCondition_173 : decode cX0_layCondition 173 = .ok (.iload_n 2, 1) := dk_28 (dk_at dksX0_layCondition_7 5 rfl rfl)
theorem dX0_layCondition_174 : decode cX0_layCondition 174 = .ok (.aload_n 0, 1) := dk_42 (dk_at dksX0_layCondition_7 6 rfl rfl)
theorem dX0_layCondition_175 : decode cX0_layCondition 175 = .ok (.getfield 377, 3) := dk_180 1 121 (dk_at dksX0_layCondition_7 7 rfl rfl)
theorem dX0_layCondition_178 : decode cX0_layCondition 178 = .ok (.iload_n 1, 1) := dk_27 (dk_at dksX0_layCondition_7 10 rfl rfl)
theorem dX0_layCondition_179 : decode cX0_layCondition 179 = .ok (.iaload, 1) := dk_46 (dk_at dksX0_layCondition_7 11 rfl rfl)
theorem dX0_layCondition_180 : decode cX0_layCondition 180 = .ok (.invokevirtual 707, 3) := dk_182 2 195 (dk_at dksX0_layCondition_7 12 rfl rfl)
theorem dX0_layCondition_183 : decode cX0_layCondition 183 = .ok (.ifCond .ne 5, 3) := dk_154 0 5 (dk_at dksX0_layCondition_7 15 rfl rfl)
theorem dX0_layCondition_186 : decode cX0_layCondition 186 = .ok (.iconst 0, 1) := dk_3 (dk_at dksX0_layCondition_7 18 rfl rfl)
theorem dX0_layCondition_187 : decode cX0_layCondition 187 = .ok (.ireturn, 1) := dk_172 (dk_at dksX0_layCondition_7 19 rfl rfl)
theorem dX0_layCondition_188 : decode cX0_layCondition 188 = .ok (.aload_n 0, 1) := dk_42 (dk_at dksX0_layCondition_7 20 rfl rfl)
theorem dX0_layCondition_189 : decode cX0_layCondition 189 = .ok (.aload_n 0, 1) := dk_42 (dk_at dksX0_layCondition_7 21 rfl rfl)
theorem dX0_layCondition_190 : decode cX0_layCondition 190 = .ok (.getfield 386, 3) := dk_180 1 130 (dk_at dksX0_layCondition_8 0 rfl rfl)
theorem dX0_layCondition_193 : decode cX0_layCondition 193 = .ok (.iload_n 1, 1) := dk_27 (dk_at dksX0_layCondition_8 3 rfl rfl)
theorem dX0_layCondition_194 : decode cX0_layCondition 194 = .ok (.iaload, 1) := dk_46 (dk_at dksX0_layCondition_8 4 rfl rfl)
theorem dX0_layCondition_195 : decode cX0_layCondition 195 = .ok (.aload_n 0, 1) := dk_42 (dk_at dksX0_layCondition_8 5 rfl rfl)
theorem dX0_layCondition_196 : decode cX0_layCondition 196 = .ok (.getfield 389, 3) := dk_180 1 133 (dk_at dksX0_layCondition_8 6 rfl rfl)
theorem dX0_layCondition_199 : decode cX0_layCondition 199 = .ok (.iload_n 1, 1) := dk_27 (dk_at dksX0_layCondition_8 9 rfl rfl)
theorem dX0_layCondition_200 : decode cX0_layCondition 200 = .ok (.iaload, 1) := dk_46 (dk_at dksX0_layCondition_8 10 rfl rfl)
theorem dX0_layCondition_201 : decode cX0_layCondition 201 = .ok (.aload_n 0, 1) := dk_42 (dk_at dksX0_layCondition_8 11 rfl rfl)
theorem dX0_layCondition_202 : decode cX0_layCondition 202 = .ok (.iload_n 2, 1) := dk_28 (dk_at dksX0_layCondition_8 12 rfl rfl)
theorem dX0_layCondition_203 : decode cX0_layCondition 203 = .ok (.invokevirtual 701, 3) := dk_182 2 189 (dk_at dksX0_layCondition_8 13 rfl rfl)
theorem dX0_layCondition_206 : decode cX0_layCondition 206 = .ok (.invokevirtual 692, 3) := dk_182 2 180 (dk_at dksX0_layCondition_8 16 rfl rfl)
theorem dX0_layCondition_209 : decode cX0_layCondition 209 = .ok (.istore 4, 2) := dk_54 4 (dk_at dksX0_layCondition_8 19 rfl rfl)
theorem dX0_layCondition_211 : decode cX0_layCondition 211 = .ok (.aload_n 0, 1) := dk_42 (dk_at dksX0_layCondition_8 21 rfl rfl)
theorem dX0_layCondition_212 : decode cX0_layCondition 212 = .ok (.getfield 710, 3) := dk_180 2 198 (dk_at dksX0_layCondition_9 0 rfl rfl)
theorem dX0_layCondition_215 : decode cX0_layCondition 215 = .ok (.iload_n 1, 1) := dk_27 (dk_at dksX0_layCondition_9 3 rfl rfl)
theorem dX0_layCondition_216 : decode cX0_layCondition 216 = .ok (.iload 4, 2) := dk_21 4 (dk_at dksX0_layCondition_9 4 rfl rfl)
theorem dX0_layCondition_218 : decode cX0_layCondition 218 = .ok (.iastore, 1) := dk_79 (dk_at dksX0_layCondition_9 6 rfl rfl)
theorem dX0_layCondition_219 : decode cX0_layCondition 219 = .ok (.iload 4, 2) := dk_21 4 (dk_at dksX0_layCondition_9 7 rfl rfl)
theorem dX0_layCondition_221 : decode cX0_layCondition 221 = .ok (.ifCond .eq 18, 3) := dk_153 0 18 (dk_at dksX0_layCondition_9 9 rfl rfl)
theorem dX0_layCondition_224 : decode cX0_layCondition 224 = .ok (.aload_n 0, 1) := dk_42 (dk_at dksX0_layCondition_9 12 rfl rfl)
theorem dX0_layCondition_225 : decode cX0_layCondition 225 = .ok (.iload 4, 2) := dk_21 4 (dk_at dksX0_layCondition_9 13 rfl rfl)
theorem dX0_layCondition_227 : decode cX0_layCondition 227 = .ok (.aload_n 0, 1) := dk_42 (dk_at dksX0_layCondition_9 15 rfl rfl)
theorem dX0_layCondition_228 : decode cX0_layCondition 228 = .ok (.getfield 386, 3) := dk_180 1 130 (dk_at dksX0_layCondition_9 16 rfl rfl)
theorem dX0_layCondition_231 : decode cX0_layCondition 231 = .ok (.iload_n 1, 1) := dk_27 (dk_at dksX0_layCondition_9 19 rfl rfl)
theorem dX0_layCondition_232 : decode cX0_layCondition 232 = .ok (.iaload, 1) := dk_46 (dk_at dksX0_layCondition_9 20 rfl rfl)
theorem dX0_layCondition_233 : decode cX0_layCondition 233 = .ok (.invokevirtual 707, 3) := dk_182 2 195 (dk_at dksX0_layCondition_9 21 rfl rfl)
theorem dX0_layCondition_236 : decode cX0_layCondition 236 = .ok (.ifCond .ne 5, 3) := dk_154 0 5 (dk_at dksX0_layCondition_10 0 rfl rfl)
theorem dX0_layCondition_239 : decode cX0_layCondition 239 = .ok (.iconst 0, 1) := dk_3 (dk_at dksX0_layCondition_10 3 rfl rfl)
theorem dX0_layCondition_240 : decode cX0_layCondition 240 = .ok (.ireturn, 1) := dk_172 (dk_at dksX0_layCondition_10 4 rfl rfl)
theorem dX0_layCondition_241 : decode cX0_layCondition 241 = .ok (.iload_n 3, 1) := dk_29 (dk_at dksX0_layCondition_10 5 rfl rfl)
theorem dX0_layCondition_242 : decode cX0_layCondition 242 = .ok (.ifCond .ne 8, 3) := dk_154 0 8 (dk_at dksX0_layCondition_10 6 rfl rfl)
theorem dX0_layCondition_245 : decode cX0_layCondition 245 = .ok (.aload_n 0, 1) := dk_42 (dk_at dksX0_layCondition_10 9 rfl rfl)
theorem dX0_layCondition_246 : decode cX0_layCondition 246 = .ok (.iload_n 2, 1) := dk_28 (dk_at dksX0_layCondition_10 10 rfl rfl)
theorem dX0_layCondition_247 : decode cX0_layCondition 247 = .ok (.invokevirtual 686, 3) := dk_182 2 174 (dk_at dksX0_layCondition_10 11 rfl rfl)
theorem dX0_layCondition_250 : decode cX0_layCondition 250 = .ok (.iconst 1, 1) := dk_4 (dk_at dksX0_layCondition_10 14 rfl rfl)
theorem dX0_layCondition_251 : decode cX0_layCondition 251 = .ok (.ireturn, 1) := dk_172 (dk_at dksX0_layCondition_10 15 rfl rfl)
abbrev cX0_needs : ByteArray := prog_1_method_97_code
def yX0_needs : MethodName := ⟨RX0, "needs", "(II)Z"⟩
def dkwX0_needs_0 : List UInt8 := [42, 27, 182, 2, 177, 153, 0, 13, 42, 16, 8, 28, 182, 0, 132, 153, 0, 7, 4, 167, 0, 4, 3, 172]
abbrev dktX0_needs_0 : List UInt8 := dkwX0_needs_0 ++ []
theorem dksX0_needs_0 : cX0_needs.data.toList.drop 0 = dktX0_needs_0 := by decide +kernel
theorem dX0_needs_0 : decode cX0_needs 0 = .ok (.aload_n 0, 1) := dk_42 (dk_at dksX0_needs_0 0 rfl rfl)
theorem dX0_needs_1 : decode cX0_needs 1 = .ok (.iload_n 1, 1) := dk_27 (dk_at dksX0_needs_0 1 rfl rfl)
theorem dX0_needs_2 : decode cX0_needs 2 = .ok (.invokevirtual 689, 3) := dk_182 2 177 (dk_at dksX0_needs_0 2 rfl rfl)
theorem dX0_needs_5 : decode cX0_needs 5 = .ok (.ifCond .eq 13, 3) := dk_153 0 13 (dk_at dksX0_needs_0 5 rfl rfl)
theorem dX0_needs_8 : decode cX0_needs 8 = .ok (.aload_n 0, 1) := dk_42 (dk_at dksX0_needs_0 8 rfl rfl)
theorem dX0_needs_9 : decode cX0_needs 9 = .ok (.bipush 8, 2) := dk_16 8 (dk_at dksX0_needs_0 9 rfl rfl)
theorem dX0_needs_11 : decode cX0_needs 11 = .ok (.iload_n 2, 1) := dk_28 (dk_at dksX0_needs_0 11 rfl rfl)
theorem dX0_needs_12 : decode cX0_needs 12 = .ok (.invokevirtual 132, 3) := dk_182 0 132 (dk_at dksX0_needs_0 12 rfl rfl)
theorem dX0_needs_15 : decode cX0_needs 15 = .ok (.ifCond .eq 7, 3) := dk_153 0 7 (dk_at dksX0_needs_0 15 rfl rfl)
theorem dX0_needs_18 : decode cX0_needs 18 = .ok (.iconst 1, 1) := dk_4 (dk_at dksX0_needs_0 18 rfl rfl)
theorem dX0_needs_19 : decode cX0_needs 19 = .ok (.goto 4, 3) := dk_167 0 4 (dk_at dksX0_needs_0 19 rfl rfl)
theorem dX0_needs_22 : decode cX0_needs 22 = .ok (.iconst 0, 1) := dk_3 (dk_at dksX0_needs_0 22 rfl rfl)
theorem dX0_needs_23 : decode cX0_needs 23 = .ok (.ireturn, 1) := dk_172 (dk_at dksX0_needs_0 23 rfl rfl)
abbrev cX0_hasUnknown : ByteArray := prog_1_method_96_code
def yX0_hasUnknown : MethodName := ⟨RX0, "hasUnknown", "(I)Z"⟩
def dkwX0_hasUnknown_2 : List UInt8 := [154, 0, 20, 42, 42, 27, 29, 182, 2, 109, 182, 2, 177, 61, 132, 3, 1, 167, 255, 228, 28, 172]
abbrev dktX0_hasUnknown_2 : List UInt8 := dkwX0_hasUnknown_2 ++ []
def dkwX0_hasUnknown_1 : List UInt8 := [154, 0, 7, 4, 167, 0, 4, 3, 61, 3, 62, 29, 42, 180, 2, 66, 27, 46, 162, 0, 24, 28]
abbrev dktX0_hasUnknown_1 : List UInt8 := dkwX0_hasUnknown_1 ++ dktX0_hasUnknown_2
def dkwX0_hasUnknown_0 : List UInt8 := [42, 180, 2, 63, 27, 46, 156, 0, 23, 42, 180, 2, 171, 2, 42, 180, 2, 63, 27, 46, 100, 51]
abbrev dktX0_hasUnknown_0 : List UInt8 := dkwX0_hasUnknown_0 ++ dktX0_hasUnknown_1
theorem dksX0_hasUnknown_0 : cX0_hasUnknown.data.toList.drop 0 = dktX0_hasUnknown_0 := by decide +kernel
theorem dksX0_hasUnknown_1 : cX0_hasUnknown.data.toList.drop 22 = dktX0_hasUnknown_1 := dk_seg dksX0_hasUnknown_0 22 rfl rfl
theorem dksX0_hasUnknown_2 : cX0_hasUnknown.data.toList.drop 44 = dktX0_hasUnknown_2 := dk_seg dksX0_hasUnknown_1 22 rfl rfl
theorem dX0_hasUnknown_0 : decode cX0_hasUnknown 0 = .ok (.aload_n 0, 1) := dk_42 (dk_at dksX0_hasUnknown_0 0 rfl rfl)
theorem dX0_hasUnknown_1 : decode cX0_hasUnknown 1 = .ok (.getfield 575, 3) := dk_180 2 63 (dk_at dksX0_hasUnknown_0 1 rfl rfl)
theorem dX0_hasUnknown_4 : decode cX0_hasUnknown 4 = .ok (.iload_n 1, 1) := dk_27 (dk_at dksX0_hasUnknown_0 4 rfl rfl)
theorem dX0_hasUnknown_5 : decode cX0_hasUnknown 5 = .ok (.iaload, 1) := dk_46 (dk_at dksX0_hasUnknown_0 5 rfl rfl)
theorem dX0_hasUnknown_6 : decode cX0_hasUnknown 6 = .ok (.ifCond .ge 23, 3) := dk_156 0 23 (dk_at dksX0_hasUnknown_0 6 rfl rfl)
theorem dX0_hasUnknown_9 : decode cX0_hasUnknown 9 = .ok (.aload_n 0, 1) := dk_42 (dk_at dksX0_hasUnknown_0 9 rfl rfl)
theorem dX0_hasUnknown_10 : decode cX0_hasUnknown 10 = .ok (.getfield 683, 3) := dk_180 2 171 (dk_at dksX0_hasUnknown_0 10 rfl rfl)
theorem dX0_hasUnknown_13 : decode cX0_hasUnknown 13 = .ok (.iconst (-1), 1) := dk_2 (dk_at dksX0_hasUnknown_0 13 rfl rfl)
theorem dX0_hasUnknown_14 : decode cX0_hasUnknown 14 = .ok (.aload_n 0, 1) := dk_42 (dk_at dksX0_hasUnknown_0 14 rfl rfl)
theorem dX0_hasUnknown_15 : decode cX0_hasUnknown 15 = .ok (.getfield 575, 3) := dk_180 2 63 (dk_at dksX0_hasUnknown_0 15 rfl rfl)
theorem dX0_hasUnknown_18 : decode cX0_hasUnknown 18 = .ok (.iload_n 1, 1) := dk_27 (dk_at dksX0_hasUnknown_0 18 rfl rfl)
theorem dX0_hasUnknown_19 : decode cX0_hasUnknown 19 = .ok (.iaload, 1) := dk_46 (dk_at dksX0_hasUnknown_0 19 rfl rfl)
theorem dX0_hasUnknown_20 : decode cX0_hasUnknown 20 = .ok (.isub, 1) := dk_100 (dk_at dksX0_hasUnknown_0 20 rfl rfl)
theorem dX0_hasUnknown_21 : decode cX0_hasUnknown 21 = .ok (.baload, 1) := dk_51 (dk_at dksX0_hasUnknown_0 21 rfl rfl)
theorem dX0_hasUnknown_22 : decode cX0_hasUnknown 22 = .ok (.ifCond .ne 7, 3) := dk_154 0 7 (dk_at dksX0_hasUnknown_1 0 rfl rfl)
theorem dX0_hasUnknown_25 : decode cX0_hasUnknown 25 = .ok (.iconst 1, 1) := dk_4 (dk_at dksX0_hasUnknown_1 3 rfl rfl)
theorem dX0_hasUnknown_26 : decode cX0_hasUnknown 26 = .ok (.goto 4, 3) := dk_167 0 4 (dk_at dksX0_hasUnknown_1 4 rfl rfl)
theorem dX0_hasUnknown_29 : decode cX0_hasUnknown 29 = .ok (.iconst 0, 1) := dk_3 (dk_at dksX0_hasUnknown_1 7 rfl rfl)
theorem dX0_hasUnknown_30 : decode cX0_hasUnknown 30 = .ok (.istore_n 2, 1) := dk_61 (dk_at dksX0_hasUnknown_1 8 rfl rfl)
theorem dX0_hasUnknown_31 : decode cX0_hasUnknown 31 = .ok (.iconst 0, 1) := dk_3 (dk_at dksX0_hasUnknown_1 9 rfl rfl)
theorem dX0_hasUnknown_32 : decode cX0_hasUnknown 32 = .ok (.istore_n 3, 1) := dk_62 (dk_at dksX0_hasUnknown_1 10 rfl rfl)
theorem dX0_hasUnknown_33 : decode cX0_hasUnknown 33 = .ok (.iload_n 3, 1) := dk_29 (dk_at dksX0_hasUnknown_1 11 rfl rfl)
theorem dX0_hasUnknown_34 : decode cX0_hasUnknown 34 = .ok (.aload_n 0, 1) := dk_42 (dk_at dksX0_hasUnknown_1 12 rfl rfl)
theorem dX0_hasUnknown_35 : decode cX0_hasUnknown 35 = .ok (.getfield 578, 3) := dk_180 2 66 (dk_at dksX0_hasUnknown_1 13 rfl rfl)
theorem dX0_hasUnknown_38 : decode cX0_hasUnknown 38 = .ok (.iload_n 1, 1) := dk_27 (dk_at dksX0_hasUnknown_1 16 rfl rfl)
theorem dX0_hasUnknown_39 : decode cX0_hasUnknown 39 = .ok (.iaload, 1) := dk_46 (dk_at dksX0_hasUnknown_1 17 rfl rfl)
theorem dX0_hasUnknown_40 : decode cX0_hasUnknown 40 = .ok (.if_icmp .ge 24, 3) := dk_162 0 24 (dk_at dksX0_hasUnknown_1 18 rfl rfl)
theorem dX0_hasUnknown_43 : decode cX0_hasUnknown 43 = .ok (.iload_n 2, 1) := dk_28 (dk_at dksX0_hasUnknown_1 21 rfl rfl)
theorem dX0_hasUnknown_44 : decode cX0_hasUnknown 44 = .ok (.ifCond .ne 20, 3) := dk_154 0 20 (dk_at dksX0_hasUnknown_2 0 rfl rfl)
theorem dX0_hasUnknown_47 : decode cX0_hasUnknown 47 = .ok (.aload_n 0, 1) := dk_42 (dk_at dksX0_hasUnknown_2 3 rfl rfl)
theorem dX0_hasUnknown_48 : decode cX0_hasUnknown 48 = .ok (.aload_n 0, 1) := dk_42 (dk_at dksX0_hasUnknown_2 4 rfl rfl)
theorem dX0_hasUnknown_49 : decode cX0_hasUnknown 49 = .ok (.iload_n 1, 1) := dk_27 (dk_at dksX0_hasUnknown_2 5 rfl rfl)
theorem dX0_hasUnknown_50 : decode cX0_hasUnknown 50 = .ok (.iload_n 3, 1) := dk_29 (dk_at dksX0_hasUnknown_2 6 rfl rfl)
theorem dX0_hasUnknown_51 : decode cX0_hasUnknown 51 = .ok (.invokevirtual 621, 3) := dk_182 2 109 (dk_at dksX0_hasUnknown_2 7 rfl rfl)
theorem dX0_hasUnknown_54 : decode cX0_hasUnknown 54 = .ok (.invokevirtual 689, 3) := dk_182 2 177 (dk_at dksX0_hasUnknown_2 10 rfl rfl)
theorem dX0_hasUnknown_57 : decode cX0_hasUnknown 57 = .ok (.istore_n 2, 1) := dk_61 (dk_at dksX0_hasUnknown_2 13 rfl rfl)
theorem dX0_hasUnknown_58 : decode cX0_hasUnknown 58 = .ok (.iinc 3 1, 3) := dk_132 3 1 (dk_at dksX0_hasUnknown_2 14 rfl rfl)
theorem dX0_hasUnknown_61 : decode cX0_hasUnknown 61 = .ok (.goto (-28), 3) := dk_167 255 228 (dk_at dksX0_hasUnknown_2 17 rfl rfl)
theorem dX0_hasUnknown_64 : decode cX0_hasUnknown 64 = .ok (.iload_n 2, 1) := dk_28 (dk_at dksX0_hasUnknown_2 20 rfl rfl)
theorem dX0_hasUnknown_65 : decode cX0_hasUnknown 65 = .ok (.ireturn, 1) := dk_172 (dk_at dksX0_hasUnknown_2 21 rfl rfl)
abbrev cX0_kindAt : ByteArray := prog_1_method_94_code
def yX0_kindAt : MethodName := ⟨RX0, "kindAt", "(I)I"⟩
def dkwX0_kindAt_1 : List UInt8 := [182, 2, 93, 46, 167, 0, 14, 42, 180, 1, 223, 42, 180, 2, 63, 27, 46, 46, 172]
abbrev dktX0_kindAt_1 : List UInt8 := dkwX0_kindAt_1 ++ []
def dkwX0_kindAt_0 : List UInt8 := [42, 180, 2, 63, 27, 46, 156, 0, 23, 42, 180, 1, 145, 42, 2, 42, 180, 2, 63, 27, 46, 100]
abbrev dktX0_kindAt_0 : List UInt8 := dkwX0_kindAt_0 ++ dktX0_kindAt_1
theorem dksX0_kindAt_0 : cX0_kindAt.data.toList.drop 0 = dktX0_kindAt_0 := by decide +kernel
theorem dksX0_kindAt_1 : cX0_kindAt.data.toList.drop 22 = dktX0_kindAt_1 := dk_seg dksX0_kindAt_0 22 rfl rfl
theorem dX0_kindAt_0 : decode cX0_kindAt 0 = .ok (.aload_n 0, 1) := dk_42 (dk_at dksX0_kindAt_0 0 rfl rfl)
theorem dX0_kindAt_1 : decode cX0_kindAt 1 = .ok (.getfield 575, 3) := dk_180 2 63 (dk_at dksX0_kindAt_0 1 rfl rfl)
theorem dX0_kindAt_4 : decode cX0_kindAt 4 = .ok (.iload_n 1, 1) := dk_27 (dk_at dksX0_kindAt_0 4 rfl rfl)
theorem dX0_kindAt_5 : decode cX0_kindAt 5 = .ok (.iaload, 1) := dk_46 (dk_at dksX0_kindAt_0 5 rfl rfl)
theorem dX0_kindAt_6 : decode cX0_kindAt 6 = .ok (.ifCond .ge 23, 3) := dk_156 0 23 (dk_at dksX0_kindAt_0 6 rfl rfl)
theorem dX0_kindAt_9 : decode cX0_kindAt 9 = .ok (.aload_n 0, 1) := dk_42 (dk_at dksX0_kindAt_0 9 rfl rfl)
theorem dX0_kindAt_10 : decode cX0_kindAt 10 = .ok (.getfield 401, 3) := dk_180 1 145 (dk_at dksX0_kindAt_0 10 rfl rfl)
theorem dX0_kindAt_13 : decode cX0_kindAt 13 = .ok (.aload_n 0, 1) := dk_42 (dk_at dksX0_kindAt_0 13 rfl rfl)
theorem dX0_kindAt_14 : decode cX0_kindAt 14 = .ok (.iconst (-1), 1) := dk_2 (dk_at dksX0_kindAt_0 14 rfl rfl)
theorem dX0_kindAt_15 : decode cX0_kindAt 15 = .ok (.aload_n 0, 1) := dk_42 (dk_at dksX0_kindAt_0 15 rfl rfl)
theorem dX0_kindAt_16 : decode cX0_kindAt 16 = .ok (.getfield 575, 3) := dk_180 2 63 (dk_at dksX0_kindAt_0 16 rfl rfl)
theorem dX0_kindAt_19 : decode cX0_kindAt 19 = .ok (.iload_n 1, 1) := dk_27 (dk_at dksX0_kindAt_0 19 rfl rfl)
theorem dX0_kindAt_20 : decode cX0_kindAt 20 = .ok (.iaload, 1) := dk_46 (dk_at dksX0_kindAt_0 20 rfl rfl)
theorem dX0_kindAt_21 : decode cX0_kindAt 21 = .ok (.isub, 1) := dk_100 (dk_at dksX0_kindAt_0 21 rfl rfl)
theorem dX0_kindAt_22 : decode cX0_kindAt 22 = .ok (.invokevirtual 605, 3) := dk_182 2 93 (dk_at dksX0_kindAt_1 0 rfl rfl)
theorem dX0_kindAt_25 : decode cX0_kindAt 25 = .ok (.iaload, 1) := dk_46 (dk_at dksX0_kindAt_1 3 rfl rfl)
theorem dX0_kindAt_26 : decode cX0_kindAt 26 = .ok (.goto 14, 3) := dk_167 0 14 (dk_at dksX0_kindAt_1 4 rfl rfl)
theorem dX0_kindAt_29 : decode cX0_kindAt 29 = .ok (.aload_n 0, 1) := dk_42 (dk_at dksX0_kindAt_1 7 rfl rfl)
theorem dX0_kindAt_30 : decode cX0_kindAt 30 = .ok (.getfield 479, 3) := dk_180 1 223 (dk_at dksX0_kindAt_1 8 rfl rfl)
theorem dX0_kindAt_33 : decode cX0_kindAt 33 = .ok (.aload_n 0, 1) := dk_42 (dk_at dksX0_kindAt_1 11 rfl rfl)
theorem dX0_kindAt_34 : decode cX0_kindAt 34 = .ok (.getfield 575, 3) := dk_180 2 63 (dk_at dksX0_kindAt_1 12 rfl rfl)
theorem dX0_kindAt_37 : decode cX0_kindAt 37 = .ok (.iload_n 1, 1) := dk_27 (dk_at dksX0_kindAt_1 15 rfl rfl)
theorem dX0_kindAt_38 : decode cX0_kindAt 38 = .ok (.iaload, 1) := dk_46 (dk_at dksX0_kindAt_1 16 rfl rfl)
theorem dX0_kindAt_39 : decode cX0_kindAt 39 = .ok (.iaload, 1) := dk_46 (dk_at dksX0_kindAt_1 17 rfl rfl)
theorem dX0_kindAt_40 : decode cX0_kindAt 40 = .ok (.ireturn, 1) := dk_172 (dk_at dksX0_kindAt_1 18 rfl rfl)
abbrev cX0_term : ByteArray := prog_1_method_151_code
def yX0_term : MethodName := ⟨RX0, "term", "()I"⟩
def dkwX0_term_7 : List UInt8 := [172, 42, 180, 0, 178, 17, 0, 200, 160, 0, 8, 16, 253, 167, 0, 8, 42, 29, 182, 3, 253, 172]
abbrev dktX0_term_7 : List UInt8 := dkwX0_term_7 ++ []
def dkwX0_term_6 : List UInt8 := [167, 0, 8, 42, 28, 182, 3, 250, 62, 29, 154, 0, 15, 42, 16, 6, 3, 182, 0, 132, 54, 4, 16, 240]
abbrev dktX0_term_6 : List UInt8 := dkwX0_term_6 ++ dktX0_term_7
def dkwX0_term_5 : List UInt8 := [180, 0, 39, 16, 254, 182, 2, 168, 61, 28, 16, 250, 160, 0, 6, 16, 252, 172, 28, 156, 0, 7, 3]
abbrev dktX0_term_5 : List UInt8 := dkwX0_term_5 ++ dktX0_term_6
def dkwX0_term_4 : List UInt8 := [182, 0, 132, 153, 0, 7, 4, 167, 0, 4, 3, 61, 16, 246, 42, 180, 0, 36, 100, 172, 42, 3, 42]
abbrev dktX0_term_4 : List UInt8 := dkwX0_term_4 ++ dktX0_term_5
def dkwX0_term_3 : List UInt8 := [46, 6, 160, 0, 10, 42, 180, 0, 39, 154, 0, 33, 27, 153, 0, 19, 42, 4, 42, 180, 0, 39]
abbrev dktX0_term_3 : List UInt8 := dkwX0_term_3 ++ dktX0_term_4
def dkwX0_term_2 : List UInt8 := [180, 0, 39, 46, 5, 162, 0, 11, 42, 182, 0, 138, 60, 167, 255, 234, 42, 180, 0, 108, 42, 180, 0, 39]
abbrev dktX0_term_2 : List UInt8 := dkwX0_term_2 ++ dktX0_term_3
def dkwX0_term_1 : List UInt8 := [180, 0, 175, 181, 0, 85, 42, 16, 32, 182, 2, 210, 4, 60, 27, 153, 0, 24, 42, 180, 0, 108, 42]
abbrev dktX0_term_1 : List UInt8 := dkwX0_term_1 ++ dktX0_term_2
def dkwX0_term_0 : List UInt8 := [42, 182, 2, 204, 42, 182, 3, 247, 42, 3, 181, 3, 161, 42, 42, 180, 0, 172, 181, 0, 72, 42, 42]
abbrev dktX0_term_0 : List UInt8 := dkwX0_term_0 ++ dktX0_term_1
theorem dksX0_term_0 : cX0_term.data.toList.drop 0 = dktX0_term_0 := by decide +kernel
theorem dksX0_term_1 : cX0_term.data.toList.drop 23 = dktX0_term_1 := dk_seg dksX0_term_0 23 rfl rfl
theorem dksX0_term_2 : cX0_term.data.toList.drop 46 = dktX0_term_2 := dk_seg dksX0_term_1 23 rfl rfl
theorem dksX0_term_3 : cX0_term.data.toList.drop 70 = dktX0_term_3 := dk_seg dksX0_term_2 24 rfl rfl
theorem dksX0_term_4 : cX0_term.data.toList.drop 92 = dktX0_term_4 := dk_seg dksX0_term_3 22 rfl rfl
theorem dksX0_term_5 : cX0_term.data.toList.drop 115 = dktX0_term_5 := dk_seg dksX0_term_4 23 rfl rfl
theorem dksX0_term_6 : cX0_term.data.toList.drop 138 = dktX0_term_6 := dk_seg dksX0_term_5 23 rfl rfl
theorem dksX0_term_7 : cX0_term.data.toList.drop 162 = dktX0_term_7 := dk_seg dksX0_term_6 24 rfl rfl
theorem dX0_term_0 : decode cX0_term 0 = .ok (.aload_n 0, 1) := dk_42 (dk_at dksX0_term_0 0 rfl rfl)
theorem dX0_term_1 : decode cX0_term 1 = .ok (.invokevirtual 716, 3) := dk_182 2 204 (dk_at dksX0_term_0 1 rfl rfl)
theorem dX0_term_4 : decode cX0_term 4 = .ok (.aload_n 0, 1) := dk_42 (dk_at dksX0_term_0 4 rfl rfl)
theorem dX0_term_5 : decode cX0_term 5 = .ok (.invokevirtual 1015, 3) := dk_182 3 247 (dk_at dksX0_term_0 5 rfl rfl)
theorem dX0_term_8 : decode cX0_term 8 = .ok (.aload_n 0, 1) := dk_42 (dk_at dksX0_term_0 8 rfl rfl)
theorem dX0_term_9 : decode cX0_term 9 = .ok (.iconst 0, 1) := dk_3 (dk_at dksX0_term_0 9 rfl rfl)
theorem dX0_term_10 : decode cX0_term 10 = .ok (.putfield 929, 3) := dk_181 3 161 (dk_at dksX0_term_0 10 rfl rfl)
theorem dX0_term_13 : decode cX0_term 13 = .ok (.aload_n 0, 1) := dk_42 (dk_at dksX0_term_0 13 rfl rfl)
theorem dX0_term_14 : decode cX0_term 14 = .ok (.aload_n 0, 1) := dk_42 (dk_at dksX0_term_0 14 rfl rfl)
theorem dX0_term_15 : decode cX0_term 15 = .ok (.getfield 172, 3) := dk_180 0 172 (dk_at dksX0_term_0 15 rfl rfl)
theorem dX0_term_18 : decode cX0_term 18 = .ok (.putfield 72, 3) := dk_181 0 72 (dk_at dksX0_term_0 18 rfl rfl)
theorem dX0_term_21 : decode cX0_term 21 = .ok (.aload_n 0, 1) := dk_42 (dk_at dksX0_term_0 21 rfl rfl)
theorem dX0_term_22 : decode cX0_term 22 = .ok (.aload_n 0, 1) := dk_42 (dk_at dksX0_term_0 22 rfl rfl)
theorem dX0_term_23 : decode cX0_term 23 = .ok (.getfield 175, 3) := dk_180 0 175 (dk_at dksX0_term_1 0 rfl rfl)
theorem dX0_term_26 : decode cX0_term 26 = .ok (.putfield 85, 3) := dk_181 0 85 (dk_at dksX0_term_1 3 rfl rfl)
theorem dX0_term_29 : decode cX0_term 29 = .ok (.aload_n 0, 1) := dk_42 (dk_at dksX0_term_1 6 rfl rfl)
theorem dX0_term_30 : decode cX0_term 30 = .ok (.bipush 32, 2) := dk_16 32 (dk_at dksX0_term_1 7 rfl rfl)
theorem dX0_term_32 : decode cX0_term 32 = .ok (.invokevirtual 722, 3) := dk_182 2 210 (dk_at dksX0_term_1 9 rfl rfl)
theorem dX0_term_35 : decode cX0_term 35 = .ok (.iconst 1, 1) := dk_4 (dk_at dksX0_term_1 12 rfl rfl)
theorem dX0_term_36 : decode cX0_term 36 = .ok (.istore_n 1, 1) := dk_60 (dk_at dksX0_term_1 13 rfl rfl)
theorem dX0_term_37 : decode cX0_term 37 = .ok (.iload_n 1, 1) := dk_27 (dk_at dksX0_term_1 14 rfl rfl)
theorem dX0_term_38 : decode cX0_term 38 = .ok (.ifCond .eq 24, 3) := dk_153 0 24 (dk_at dksX0_term_1 15 rfl rfl)
theorem dX0_term_41 : decode cX0_term 41 = .ok (.aload_n 0, 1) := dk_42 (dk_at dksX0_term_1 18 rfl rfl)
theorem dX0_term_42 : decode cX0_term 42 = .ok (.getfield 108, 3) := dk_180 0 108 (dk_at dksX0_term_1 19 rfl rfl)
theorem dX0_term_45 : decode cX0_term 45 = .ok (.aload_n 0, 1) := dk_42 (dk_at dksX0_term_1 22 rfl rfl)
theorem dX0_term_46 : decode cX0_term 46 = .ok (.getfield 39, 3) := dk_180 0 39 (dk_at dksX0_term_2 0 rfl rfl)
theorem dX0_term_49 : decode cX0_term 49 = .ok (.iaload, 1) := dk_46 (dk_at dksX0_term_2 3 rfl rfl)
theorem dX0_term_50 : decode cX0_term 50 = .ok (.iconst 2, 1) := dk_5 (dk_at dksX0_term_2 4 rfl rfl)
theorem dX0_term_51 : decode cX0_term 51 = .ok (.if_icmp .ge 11, 3) := dk_162 0 11 (dk_at dksX0_term_2 5 rfl rfl)
theorem dX0_term_54 : decode cX0_term 54 = .ok (.aload_n 0, 1) := dk_42 (dk_at dksX0_term_2 8 rfl rfl)
theorem dX0_term_55 : decode cX0_term 55 = .ok (.invokevirtual 138, 3) := dk_182 0 138 (dk_at dksX0_term_2 9 rfl rfl)
theorem dX0_term_58 : decode cX0_term 58 = .ok (.istore_n 1, 1) := dk_60 (dk_at dksX0_term_2 12 rfl rfl)
theorem dX0_term_59 : decode cX0_term 59 = .ok (.goto (-22), 3) := dk_167 255 234 (dk_at dksX0_term_2 13 rfl rfl)
theorem dX0_term_62 : decode cX0_term 62 = .ok (.aload_n 0, 1) := dk_42 (dk_at dksX0_term_2 16 rfl rfl)
theorem dX0_term_63 : decode cX0_term 63 = .ok (.getfield 108, 3) := dk_180 0 108 (dk_at dksX0_term_2 17 rfl rfl)
theorem dX0_term_66 : decode cX0_term 66 = .ok (.aload_n 0, 1) := dk_42 (dk_at dksX0_term_2 20 rfl rfl)
theorem dX0_term_67 : decode cX0_term 67 = .ok (.getfield 39, 3) := dk_180 0 39 (dk_at dksX0_term_2 21 rfl rfl)
theorem dX0_term_70 : decode cX0_term 70 = .ok (.iaload, 1) := dk_46 (dk_at dksX0_term_3 0 rfl rfl)
theorem dX0_term_71 : decode cX0_term 71 = .ok (.iconst 3, 1) := dk_6 (dk_at dksX0_term_3 1 rfl rfl)
theorem dX0_term_72 : decode cX0_term 72 = .ok (.if_icmp .ne 10, 3) := dk_160 0 10 (dk_at dksX0_term_3 2 rfl rfl)
theorem dX0_term_75 : decode cX0_term 75 = .ok (.aload_n 0, 1) := dk_42 (dk_at dksX0_term_3 5 rfl rfl)
theorem dX0_term_76 : decode cX0_term 76 = .ok (.getfield 39, 3) := dk_180 0 39 (dk_at dksX0_term_3 6 rfl rfl)
theorem dX0_term_79 : decode cX0_term 79 = .ok (.ifCond .ne 33, 3) := dk_154 0 33 (dk_at dksX0_term_3 9 rfl rfl)
theorem dX0_term_82 : decode cX0_term 82 = .ok (.iload_n 1, 1) := dk_27 (dk_at dksX0_term_3 12 rfl rfl)
theorem dX0_term_83 : decode cX0_term 83 = .ok (.ifCond .eq 19, 3) := dk_153 0 19 (dk_at dksX0_term_3 13 rfl rfl)
theorem dX0_term_86 : decode cX0_term 86 = .ok (.aload_n 0, 1) := dk_42 (dk_at dksX0_term_3 16 rfl rfl)
theorem dX0_term_87 : decode cX0_term 87 = .ok (.iconst 1, 1) := dk_4 (dk_at dksX0_term_3 17 rfl rfl)
theorem dX0_term_88 : decode cX0_term 88 = .ok (.aload_n 0, 1) := dk_42 (dk_at dksX0_term_3 18 rfl rfl)
theorem dX0_term_89 : decode cX0_term 89 = .ok (.getfield 39, 3) := dk_180 0 39 (dk_at dksX0_term_3 19 rfl rfl)
theorem dX0_term_92 : decode cX0_term 92 = .ok (.invokevirtual 132, 3) := dk_182 0 132 (dk_at dksX0_term_4 0 rfl rfl)
theorem dX0_term_95 : decode cX0_term 95 = .ok (.ifCond .eq 7, 3) := dk_153 0 7 (dk_at dksX0_term_4 3 rfl rfl)
theorem dX0_term_98 : decode cX0_term 98 = .ok (.iconst 1, 1) := dk_4 (dk_at dksX0_term_4 6 rfl rfl)
theorem dX0_term_99 : decode cX0_term 99 = .ok (.goto 4, 3) := dk_167 0 4 (dk_at dksX0_term_4 7 rfl rfl)
theorem dX0_term_102 : decode cX0_term 102 = .ok (.iconst 0, 1) := dk_3 (dk_at dksX0_term_4 10 rfl rfl)
theorem dX0_term_103 : decode cX0_term 103 = .ok (.istore_n 2, 1) := dk_61 (dk_at dksX0_term_4 11 rfl rfl)
theorem dX0_term_104 : decode cX0_term 104 = .ok (.bipush (-10), 2) := dk_16 246 (dk_at dksX0_term_4 12 rfl rfl)
theorem dX0_term_106 : decode cX0_term 106 = .ok (.aload_n 0, 1) := dk_42 (dk_at dksX0_term_4 14 rfl rfl)
theorem dX0_term_107 : decode cX0_term 107 = .ok (.getfield 36, 3) := dk_180 0 36 (dk_at dksX0_term_4 15 rfl rfl)
theorem dX0_term_110 : decode cX0_term 110 = .ok (.isub, 1) := dk_100 (dk_at dksX0_term_4 18 rfl rfl)
theorem dX0_term_111 : decode cX0_term 111 = .ok (.ireturn, 1) := dk_172 (dk_at dksX0_term_4 19 rfl rfl)
theorem dX0_term_112 : decode cX0_term 112 = .ok (.aload_n 0, 1) := dk_42 (dk_at dksX0_term_4 20 rfl rfl)
theorem dX0_term_113 : decode cX0_term 113 = .ok (.iconst 0, 1) := dk_3 (dk_at dksX0_term_4 21 rfl rfl)
theorem dX0_term_114 : decode cX0_term 114 = .ok (.aload_n 0, 1) := dk_42 (dk_at dksX0_term_4 22 rfl rfl)
theorem dX0_term_115 : decode cX0_term 115 = .ok (.getfield 39, 3) := dk_180 0 39 (dk_at dksX0_term_5 0 rfl rfl)
theorem dX0_term_118 : decode cX0_term 118 = .ok (.bipush (-2), 2) := dk_16 254 (dk_at dksX0_term_5 3 rfl rfl)
theorem dX0_term_120 : decode cX0_term 120 = .ok (.invokevirtual 680, 3) := dk_182 2 168 (dk_at dksX0_term_5 5 rfl rfl)
theorem dX0_term_123 : decode cX0_term 123 = .ok (.istore_n 2, 1) := dk_61 (dk_at dksX0_term_5 8 rfl rfl)
theorem dX0_term_124 : decode cX0_term 124 = .ok (.iload_n 2, 1) := dk_28 (dk_at dksX0_term_5 9 rfl rfl)
theorem dX0_term_125 : decode cX0_term 125 = .ok (.bipush (-6), 2) := dk_16 250 (dk_at dksX0_term_5 10 rfl rfl)
theorem dX0_term_127 : decode cX0_term 127 = .ok (.if_icmp .ne 6, 3) := dk_160 0 6 (dk_at dksX0_term_5 12 rfl rfl)
theorem dX0_term_130 : decode cX0_term 130 = .ok (.bipush (-4), 2) := dk_16 252 (dk_at dksX0_term_5 15 rfl rfl)
theorem dX0_term_132 : decode cX0_term 132 = .ok (.ireturn, 1) := dk_172 (dk_at dksX0_term_5 17 rfl rfl)
theorem dX0_term_133 : decode cX0_term 133 = .ok (.iload_n 2, 1) := dk_28 (dk_at dksX0_term_5 18 rfl rfl)
theorem dX0_term_134 : decode cX0_term 134 = .ok (.ifCond .ge 7, 3) := dk_156 0 7 (dk_at dksX0_term_5 19 rfl rfl)
theorem dX0_term_137 : decode cX0_term 137 = .ok (.iconst 0, 1) := dk_3 (dk_at dksX0_term_5 22 rfl rfl)
theorem dX0_term_138 : decode cX0_term 138 = .ok (.goto 8, 3) := dk_167 0 8 (dk_at dksX0_term_6 0 rfl rfl)
theorem dX0_term_141 : decode cX0_term 141 = .ok (.aload_n 0, 1) := dk_42 (dk_at dksX0_term_6 3 rfl rfl)
theorem dX0_term_142 : decode cX0_term 142 = .ok (.iload_n 2, 1) := dk_28 (dk_at dksX0_term_6 4 rfl rfl)
theorem dX0_term_143 : decode cX0_term 143 = .ok (.invokevirtual 1018, 3) := dk_182 3 250 (dk_at dksX0_term_6 5 rfl rfl)
theorem dX0_term_146 : decode cX0_term 146 = .ok (.istore_n 3, 1) := dk_62 (dk_at dksX0_term_6 8 rfl rfl)
theorem dX0_term_147 : decode cX0_term 147 = .ok (.iload_n 3, 1) := dk_29 (dk_at dksX0_term_6 9 rfl rfl)
theorem dX0_term_148 : decode cX0_term 148 = .ok (.ifCond .ne 15, 3) := dk_154 0 15 (dk_at dksX0_term_6 10 rfl rfl)
theorem dX0_term_151 : decode cX0_term 151 = .ok (.aload_n 0, 1) := dk_42 (dk_at dksX0_term_6 13 rfl rfl)
theorem dX0_term_152 : decode cX0_term 152 = .ok (.bipush 6, 2) := dk_16 6 (dk_at dksX0_term_6 14 rfl rfl)
theorem dX0_term_154 : decode cX0_term 154 = .ok (.iconst 0, 1) := dk_3 (dk_at dksX0_term_6 16 rfl rfl)
theorem dX0_term_155 : decode cX0_term 155 = .ok (.invokevirtual 132, 3) := dk_182 0 132 (dk_at dksX0_term_6 17 rfl rfl)
theorem dX0_term_158 : decode cX0_term 158 = .ok (.istore 4, 2) := dk_54 4 (dk_at dksX0_term_6 20 rfl rfl)
theorem dX0_term_160 : decode cX0_term 160 = .ok (.bipush (-16), 2) := dk_16 240 (dk_at dksX0_term_6 22 rfl rfl)
theorem dX0_term_162 : decode cX0_term 162 = .ok (.ireturn, 1) := dk_172 (dk_at dksX0_term_7 0 rfl rfl)
theorem dX0_term_163 : decode cX0_term 163 = .ok (.aload_n 0, 1) := dk_42 (dk_at dksX0_term_7 1 rfl rfl)
theorem dX0_term_164 : decode cX0_term 164 = .ok (.getfield 178, 3) := dk_180 0 178 (dk_at dksX0_term_7 2 rfl rfl)
theorem dX0_term_167 : decode cX0_term 167 = .ok (.sipush 200, 3) := dk_17 0 200 (dk_at dksX0_term_7 5 rfl rfl)
theorem dX0_term_170 : decode cX0_term 170 = .ok (.if_icmp .ne 8, 3) := dk_160 0 8 (dk_at dksX0_term_7 8 rfl rfl)
theorem dX0_term_173 : decode cX0_term 173 = .ok (.bipush (-3), 2) := dk_16 253 (dk_at dksX0_term_7 11 rfl rfl)
theorem dX0_term_175 : decode cX0_term 175 = .ok (.goto 8, 3) := dk_167 0 8 (dk_at dksX0_term_7 13 rfl rfl)
theorem dX0_term_178 : decode cX0_term 178 = .ok (.aload_n 0, 1) := dk_42 (dk_at dksX0_term_7 16 rfl rfl)
theorem dX0_term_179 : decode cX0_term 179 = .ok (.iload_n 3, 1) := dk_29 (dk_at dksX0_term_7 17 rfl rfl)
theorem dX0_term_180 : decode cX0_term 180 = .ok (.invokevirtual 1021, 3) := dk_182 3 253 (dk_at dksX0_term_7 18 rfl rfl)
theorem dX0_term_183 : decode cX0_term 183 = .ok (.ireturn, 1) := dk_172 (dk_at dksX0_term_7 21 rfl rfl)
abbrev cX0_begin : ByteArray := prog_1_method_149_code
def yX0_begin : MethodName := ⟨RX0, "begin", "()V"⟩
def dkwX0_begin_3 : List UInt8 := [177]
abbrev dktX0_begin_3 : List UInt8 := dkwX0_begin_3 ++ []
def dkwX0_begin_2 : List UInt8 := [181, 3, 108, 42, 20, 3, 245, 181, 3, 112, 42, 3, 181, 3, 161, 42, 3, 181, 3, 158, 42, 182, 3, 170]
abbrev dktX0_begin_2 : List UInt8 := dkwX0_begin_2 ++ dktX0_begin_3
def dkwX0_begin_1 : List UInt8 := [42, 3, 181, 3, 143, 42, 3, 181, 3, 198, 42, 3, 181, 3, 78, 42, 3, 181, 3, 121, 42, 9]
abbrev dktX0_begin_1 : List UInt8 := dkwX0_begin_1 ++ dktX0_begin_2
def dkwX0_begin_0 : List UInt8 := [42, 182, 3, 242, 42, 3, 181, 3, 11, 42, 3, 181, 3, 45, 42, 3, 181, 3, 54, 42, 3, 181, 3, 140]
abbrev dktX0_begin_0 : List UInt8 := dkwX0_begin_0 ++ dktX0_begin_1
theorem dksX0_begin_0 : cX0_begin.data.toList.drop 0 = dktX0_begin_0 := by decide +kernel
theorem dksX0_begin_1 : cX0_begin.data.toList.drop 24 = dktX0_begin_1 := dk_seg dksX0_begin_0 24 rfl rfl
theorem dksX0_begin_2 : cX0_begin.data.toList.drop 46 = dktX0_begin_2 := dk_seg dksX0_begin_1 22 rfl rfl
theorem dksX0_begin_3 : cX0_begin.data.toList.drop 70 = dktX0_begin_3 := dk_seg dksX0_begin_2 24 rfl rfl
theorem dX0_begin_0 : decode cX0_begin 0 = .ok (.aload_n 0, 1) := dk_42 (dk_at dksX0_begin_0 0 rfl rfl)
theorem dX0_begin_1 : decode cX0_begin 1 = .ok (.invokevirtual 1010, 3) := dk_182 3 242 (dk_at dksX0_begin_0 1 rfl rfl)
theorem dX0_begin_4 : decode cX0_begin 4 = .ok (.aload_n 0, 1) := dk_42 (dk_at dksX0_begin_0 4 rfl rfl)
theorem dX0_begin_5 : decode cX0_begin 5 = .ok (.iconst 0, 1) := dk_3 (dk_at dksX0_begin_0 5 rfl rfl)
theorem dX0_begin_6 : decode cX0_begin 6 = .ok (.putfield 779, 3) := dk_181 3 11 (dk_at dksX0_begin_0 6 rfl rfl)
theorem dX0_begin_9 : decode cX0_begin 9 = .ok (.aload_n 0, 1) := dk_42 (dk_at dksX0_begin_0 9 rfl rfl)
theorem dX0_begin_10 : decode cX0_begin 10 = .ok (.iconst 0, 1) := dk_3 (dk_at dksX0_begin_0 10 rfl rfl)
theorem dX0_begin_11 : decode cX0_begin 11 = .ok (.putfield 813, 3) := dk_181 3 45 (dk_at dksX0_begin_0 11 rfl rfl)
theorem dX0_begin_14 : decode cX0_begin 14 = .ok (.aload_n 0, 1) := dk_42 (dk_at dksX0_begin_0 14 rfl rfl)
theorem dX0_begin_15 : decode cX0_begin 15 = .ok (.iconst 0, 1) := dk_3 (dk_at dksX0_begin_0 15 rfl rfl)
theorem dX0_begin_16 : decode cX0_begin 16 = .ok (.putfield 822, 3) := dk_181 3 54 (dk_at dksX0_begin_0 16 rfl rfl)
theorem dX0_begin_19 : decode cX0_begin 19 = .ok (.aload_n 0, 1) := dk_42 (dk_at dksX0_begin_0 19 rfl rfl)
theorem dX0_begin_20 : decode cX0_begin 20 = .ok (.iconst 0, 1) := dk_3 (dk_at dksX0_begin_0 20 rfl rfl)
theorem dX0_begin_21 : decode cX0_begin 21 = .ok (.putfield 908, 3) := dk_181 3 140 (dk_at dksX0_begin_0 21 rfl rfl)
theorem dX0_begin_24 : decode cX0_begin 24 = .ok (.aload_n 0, 1) := dk_42 (dk_at dksX0_begin_1 0 rfl rfl)
theorem dX0_begin_25 : decode cX0_begin 25 = .ok (.iconst 0, 1) := dk_3 (dk_at dksX0_begin_1 1 rfl rfl)
theorem dX0_begin_26 : decode cX0_begin 26 = .ok (.putfield 911, 3) := dk_181 3 143 (dk_at dksX0_begin_1 2 rfl rfl)
theorem dX0_begin_29 : decode cX0_begin 29 = .ok (.aload_n 0, 1) := dk_42 (dk_at dksX0_begin_1 5 rfl rfl)
theorem dX0_begin_30 : decode cX0_begin 30 = .ok (.iconst 0, 1) := dk_3 (dk_at dksX0_begin_1 6 rfl rfl)
theorem dX0_begin_31 : decode cX0_begin 31 = .ok (.putfield 966, 3) := dk_181 3 198 (dk_at dksX0_begin_1 7 rfl rfl)
theorem dX0_begin_34 : decode cX0_begin 34 = .ok (.aload_n 0, 1) := dk_42 (dk_at dksX0_begin_1 10 rfl rfl)
theorem dX0_begin_35 : decode cX0_begin 35 = .ok (.iconst 0, 1) := dk_3 (dk_at dksX0_begin_1 11 rfl rfl)
theorem dX0_begin_36 : decode cX0_begin 36 = .ok (.putfield 846, 3) := dk_181 3 78 (dk_at dksX0_begin_1 12 rfl rfl)
theorem dX0_begin_39 : decode cX0_begin 39 = .ok (.aload_n 0, 1) := dk_42 (dk_at dksX0_begin_1 15 rfl rfl)
theorem dX0_begin_40 : decode cX0_begin 40 = .ok (.iconst 0, 1) := dk_3 (dk_at dksX0_begin_1 16 rfl rfl)
theorem dX0_begin_41 : decode cX0_begin 41 = .ok (.putfield 889, 3) := dk_181 3 121 (dk_at dksX0_begin_1 17 rfl rfl)
theorem dX0_begin_44 : decode cX0_begin 44 = .ok (.aload_n 0, 1) := dk_42 (dk_at dksX0_begin_1 20 rfl rfl)
theorem dX0_begin_45 : decode cX0_begin 45 = .ok (.lconst 0, 1) := dk_9 (dk_at dksX0_begin_1 21 rfl rfl)
theorem dX0_begin_46 : decode cX0_begin 46 = .ok (.putfield 876, 3) := dk_181 3 108 (dk_at dksX0_begin_2 0 rfl rfl)
theorem dX0_begin_49 : decode cX0_begin 49 = .ok (.aload_n 0, 1) := dk_42 (dk_at dksX0_begin_2 3 rfl rfl)
theorem dX0_begin_50 : decode cX0_begin 50 = .ok (.ldc2_w 1013, 3) := dk_20 3 245 (dk_at dksX0_begin_2 4 rfl rfl)
theorem dX0_begin_53 : decode cX0_begin 53 = .ok (.putfield 880, 3) := dk_181 3 112 (dk_at dksX0_begin_2 7 rfl rfl)
theorem dX0_begin_56 : decode cX0_begin 56 = .ok (.aload_n 0, 1) := dk_42 (dk_at dksX0_begin_2 10 rfl rfl)
theorem dX0_begin_57 : decode cX0_begin 57 = .ok (.iconst 0, 1) := dk_3 (dk_at dksX0_begin_2 11 rfl rfl)
theorem dX0_begin_58 : decode cX0_begin 58 = .ok (.putfield 929, 3) := dk_181 3 161 (dk_at dksX0_begin_2 12 rfl rfl)
theorem dX0_begin_61 : decode cX0_begin 61 = .ok (.aload_n 0, 1) := dk_42 (dk_at dksX0_begin_2 15 rfl rfl)
theorem dX0_begin_62 : decode cX0_begin 62 = .ok (.iconst 0, 1) := dk_3 (dk_at dksX0_begin_2 16 rfl rfl)
theorem dX0_begin_63 : decode cX0_begin 63 = .ok (.putfield 926, 3) := dk_181 3 158 (dk_at dksX0_begin_2 17 rfl rfl)
theorem dX0_begin_66 : decode cX0_begin 66 = .ok (.aload_n 0, 1) := dk_42 (dk_at dksX0_begin_2 20 rfl rfl)
theorem dX0_begin_67 : decode cX0_begin 67 = .ok (.invokevirtual 938, 3) := dk_182 3 170 (dk_at dksX0_begin_2 21 rfl rfl)
theorem dX0_begin_70 : decode cX0_begin 70 = .ok (.return_, 1) := dk_177 (dk_at dksX0_begin_3 0 rfl rfl)
abbrev cX0_dropNodes : ByteArray := prog_1_method_72_code
def yX0_dropNodes : MethodName := ⟨RX0, "dropNodes", "()V"⟩
def dkwX0_dropNodes_5 : List UInt8 := [79, 132, 1, 1, 167, 255, 238, 42, 3, 181, 2, 99, 177]
abbrev dktX0_dropNodes_5 : List UInt8 := dkwX0_dropNodes_5 ++ []
def dkwX0_dropNodes_4 : List UInt8 := [42, 42, 180, 0, 206, 181, 0, 203, 3, 60, 27, 42, 180, 0, 197, 162, 0, 16, 42, 180, 2, 87, 27, 3]
abbrev dktX0_dropNodes_4 : List UInt8 := dkwX0_dropNodes_4 ++ dktX0_dropNodes_5
def dkwX0_dropNodes_3 : List UInt8 := [182, 2, 59, 42, 180, 2, 75, 27, 46, 79, 132, 1, 255, 167, 255, 180, 42, 42, 180, 0, 197, 181, 0, 200]
abbrev dktX0_dropNodes_3 : List UInt8 := dkwX0_dropNodes_3 ++ dktX0_dropNodes_4
def dkwX0_dropNodes_2 : List UInt8 := [132, 2, 1, 167, 255, 224, 42, 180, 2, 51, 42, 42, 180, 2, 63, 27, 46, 3, 42, 180, 2, 66, 27, 46]
abbrev dktX0_dropNodes_2 : List UInt8 := dkwX0_dropNodes_2 ++ dktX0_dropNodes_3
def dkwX0_dropNodes_1 : List UInt8 := [162, 0, 28, 42, 180, 2, 55, 28, 42, 180, 2, 69, 42, 180, 2, 72, 27, 46, 28, 96, 46, 79]
abbrev dktX0_dropNodes_1 : List UInt8 := dkwX0_dropNodes_1 ++ dktX0_dropNodes_2
def dkwX0_dropNodes_0 : List UInt8 := [42, 180, 0, 200, 4, 100, 60, 27, 42, 180, 0, 197, 161, 0, 74, 3, 61, 28, 42, 180, 2, 66, 27, 46]
abbrev dktX0_dropNodes_0 : List UInt8 := dkwX0_dropNodes_0 ++ dktX0_dropNodes_1
theorem dksX0_dropNodes_0 : cX0_dropNodes.data.toList.drop 0 = dktX0_dropNodes_0 := by decide +kernel
theorem dksX0_dropNodes_1 : cX0_dropNodes.data.toList.drop 24 = dktX0_dropNodes_1 := dk_seg dksX0_dropNodes_0 24 rfl rfl
theorem dksX0_dropNodes_2 : cX0_dropNodes.data.toList.drop 46 = dktX0_dropNodes_2 := dk_seg dksX0_dropNodes_1 22 rfl rfl
theorem dksX0_dropNodes_3 : cX0_dropNodes.data.toList.drop 70 = dktX0_dropNodes_3 := dk_seg dksX0_dropNodes_2 24 rfl rfl
theorem dksX0_dropNodes_4 : cX0_dropNodes.data.toList.drop 94 = dktX0_dropNodes_4 := dk_seg dksX0_dropNodes_3 24 rfl rfl
theorem dksX0_dropNodes_5 : cX0_dropNodes.data.toList.drop 118 = dktX0_dropNodes_5 := dk_seg dksX0_dropNodes_4 24 rfl rfl
theorem dX0_dropNodes_0 : decode cX0_dropNodes 0 = .ok (.aload_n 0, 1) := dk_42 (dk_at dksX0_dropNodes_0 0 rfl rfl)
theorem dX0_dropNodes_1 : decode cX0_dropNodes 1 = .ok (.getfield 200, 3) := dk_180 0 200 (dk_at dksX0_dropNodes_0 1 rfl rfl)
theorem dX0_dropNodes_4 : decode cX0_dropNodes 4 = .ok (.iconst 1, 1) := dk_4 (dk_at dksX0_dropNodes_0 4 rfl rfl)
theorem dX0_dropNodes_5 : decode cX0_dropNodes 5 = .ok (.isub, 1) := dk_100 (dk_at dksX0_dropNodes_0 5 rfl rfl)
theorem dX0_dropNodes_6 : decode cX0_dropNodes 6 = .ok (.istore_n 1, 1) := dk_60 (dk_at dksX0_dropNodes_0 6 rfl rfl)
theorem dX0_dropNodes_7 : decode cX0_dropNodes 7 = .ok (.iload_n 1, 1) := dk_27 (dk_at dksX0_dropNodes_0 7 rfl rfl)
theorem dX0_dropNodes_8 : decode cX0_dropNodes 8 = .ok (.aload_n 0, 1) := dk_42 (dk_at dksX0_dropNodes_0 8 rfl rfl)
theorem dX0_dropNodes_9 : decode cX0_dropNodes 9 = .ok (.getfield 197, 3) := dk_180 0 197 (dk_at dksX0_dropNodes_0 9 rfl rfl)
theorem dX0_dropNodes_12 : decode cX0_dropNodes 12 = .ok (.if_icmp .lt 74, 3) := dk_161 0 74 (dk_at dksX0_dropNodes_0 12 rfl rfl)
theorem dX0_dropNodes_15 : decode cX0_dropNodes 15 = .ok (.iconst 0, 1) := dk_3 (dk_at dksX0_dropNodes_0 15 rfl rfl)
theorem dX0_dropNodes_16 : decode cX0_dropNodes 16 = .ok (.istore_n 2, 1) := dk_61 (dk_at dksX0_dropNodes_0 16 rfl rfl)
theorem dX0_dropNodes_17 : decode cX0_dropNodes 17 = .ok (.iload_n 2, 1) := dk_28 (dk_at dksX0_dropNodes_0 17 rfl rfl)
theorem dX0_dropNodes_18 : decode cX0_dropNodes 18 = .ok (.aload_n 0, 1) := dk_42 (dk_at dksX0_dropNodes_0 18 rfl rfl)
theorem dX0_dropNodes_19 : decode cX0_dropNodes 19 = .ok (.getfield 578, 3) := dk_180 2 66 (dk_at dksX0_dropNodes_0 19 rfl rfl)
theorem dX0_dropNodes_22 : decode cX0_dropNodes 22 = .ok (.iload_n 1, 1) := dk_27 (dk_at dksX0_dropNodes_0 22 rfl rfl)
theorem dX0_dropNodes_23 : decode cX0_dropNodes 23 = .ok (.iaload, 1) := dk_46 (dk_at dksX0_dropNodes_0 23 rfl rfl)
theorem dX0_dropNodes_24 : decode cX0_dropNodes 24 = .ok (.if_icmp .ge 28, 3) := dk_162 0 28 (dk_at dksX0_dropNodes_1 0 rfl rfl)
theorem dX0_dropNodes_27 : decode cX0_dropNodes 27 = .ok (.aload_n 0, 1) := dk_42 (dk_at dksX0_dropNodes_1 3 rfl rfl)
theorem dX0_dropNodes_28 : decode cX0_dropNodes 28 = .ok (.getfield 567, 3) := dk_180 2 55 (dk_at dksX0_dropNodes_1 4 rfl rfl)
theorem dX0_dropNodes_31 : decode cX0_dropNodes 31 = .ok (.iload_n 2, 1) := dk_28 (dk_at dksX0_dropNodes_1 7 rfl rfl)
theorem dX0_dropNodes_32 : decode cX0_dropNodes 32 = .ok (.aload_n 0, 1) := dk_42 (dk_at dksX0_dropNodes_1 8 rfl rfl)
theorem dX0_dropNodes_33 : decode cX0_dropNodes 33 = .ok (.getfield 581, 3) := dk_180 2 69 (dk_at dksX0_dropNodes_1 9 rfl rfl)
theorem dX0_dropNodes_36 : decode cX0_dropNodes 36 = .ok (.aload_n 0, 1) := dk_42 (dk_at dksX0_dropNodes_1 12 rfl rfl)
theorem dX0_dropNodes_37 : decode cX0_dropNodes 37 = .ok (.getfield 584, 3) := dk_180 2 72 (dk_at dksX0_dropNodes_1 13 rfl rfl)
theorem dX0_dropNodes_40 : decode cX0_dropNodes 40 = .ok (.iload_n 1, 1) := dk_27 (dk_at dksX0_dropNodes_1 16 rfl rfl)
theorem dX0_dropNodes_41 : decode cX0_dropNodes 41 = .ok (.iaload, 1) := dk_46 (dk_at dksX0_dropNodes_1 17 rfl rfl)
theorem dX0_dropNodes_42 : decode cX0_dropNodes 42 = .ok (.iload_n 2, 1) := dk_28 (dk_at dksX0_dropNodes_1 18 rfl rfl)
theorem dX0_dropNodes_43 : decode cX0_dropNodes 43 = .ok (.iadd, 1) := dk_96 (dk_at dksX0_dropNodes_1 19 rfl rfl)
theorem dX0_dropNodes_44 : decode cX0_dropNodes 44 = .ok (.iaload, 1) := dk_46 (dk_at dksX0_dropNodes_1 20 rfl rfl)
theorem dX0_dropNodes_45 : decode cX0_dropNodes 45 = .ok (.iastore, 1) := dk_79 (dk_at dksX0_dropNodes_1 21 rfl rfl)
theorem dX0_dropNodes_46 : decode cX0_dropNodes 46 = .ok (.iinc 2 1, 3) := dk_132 2 1 (dk_at dksX0_dropNodes_2 0 rfl rfl)
theorem dX0_dropNodes_49 : decode cX0_dropNodes 49 = .ok (.goto (-32), 3) := dk_167 255 224 (dk_at dksX0_dropNodes_2 3 rfl rfl)
theorem dX0_dropNodes_52 : decode cX0_dropNodes 52 = .ok (.aload_n 0, 1) := dk_42 (dk_at dksX0_dropNodes_2 6 rfl rfl)
theorem dX0_dropNodes_53 : decode cX0_dropNodes 53 = .ok (.getfield 563, 3) := dk_180 2 51 (dk_at dksX0_dropNodes_2 7 rfl rfl)
theorem dX0_dropNodes_56 : decode cX0_dropNodes 56 = .ok (.aload_n 0, 1) := dk_42 (dk_at dksX0_dropNodes_2 10 rfl rfl)
theorem dX0_dropNodes_57 : decode cX0_dropNodes 57 = .ok (.aload_n 0, 1) := dk_42 (dk_at dksX0_dropNodes_2 11 rfl rfl)
theorem dX0_dropNodes_58 : decode cX0_dropNodes 58 = .ok (.getfield 575, 3) := dk_180 2 63 (dk_at dksX0_dropNodes_2 12 rfl rfl)
theorem dX0_dropNodes_61 : decode cX0_dropNodes 61 = .ok (.iload_n 1, 1) := dk_27 (dk_at dksX0_dropNodes_2 15 rfl rfl)
theorem dX0_dropNodes_62 : decode cX0_dropNodes 62 = .ok (.iaload, 1) := dk_46 (dk_at dksX0_dropNodes_2 16 rfl rfl)
theorem dX0_dropNodes_63 : decode cX0_dropNodes 63 = .ok (.iconst 0, 1) := dk_3 (dk_at dksX0_dropNodes_2 17 rfl rfl)
theorem dX0_dropNodes_64 : decode cX0_dropNodes 64 = .ok (.aload_n 0, 1) := dk_42 (dk_at dksX0_dropNodes_2 18 rfl rfl)
theorem dX0_dropNodes_65 : decode cX0_dropNodes 65 = .ok (.getfield 578, 3) := dk_180 2 66 (dk_at dksX0_dropNodes_2 19 rfl rfl)
theorem dX0_dropNodes_68 : decode cX0_dropNodes 68 = .ok (.iload_n 1, 1) := dk_27 (dk_at dksX0_dropNodes_2 22 rfl rfl)
theorem dX0_dropNodes_69 : decode cX0_dropNodes 69 = .ok (.iaload, 1) := dk_46 (dk_at dksX0_dropNodes_2 23 rfl rfl)
theorem dX0_dropNodes_70 : decode cX0_dropNodes 70 = .ok (.invokevirtual 571, 3) := dk_182 2 59 (dk_at dksX0_dropNodes_3 0 rfl rfl)
theorem dX0_dropNodes_73 : decode cX0_dropNodes 73 = .ok (.aload_n 0, 1) := dk_42 (dk_at dksX0_dropNodes_3 3 rfl rfl)
theorem dX0_dropNodes_74 : decode cX0_dropNodes 74 = .ok (.getfield 587, 3) := dk_180 2 75 (dk_at dksX0_dropNodes_3 4 rfl rfl)
theorem dX0_dropNodes_77 : decode cX0_dropNodes 77 = .ok (.iload_n 1, 1) := dk_27 (dk_at dksX0_dropNodes_3 7 rfl rfl)
theorem dX0_dropNodes_78 : decode cX0_dropNodes 78 = .ok (.iaload, 1) := dk_46 (dk_at dksX0_dropNodes_3 8 rfl rfl)
theorem dX0_dropNodes_79 : decode cX0_dropNodes 79 = .ok (.iastore, 1) := dk_79 (dk_at dksX0_dropNodes_3 9 rfl rfl)
theorem dX0_dropNodes_80 : decode cX0_dropNodes 80 = .ok (.iinc 1 (-1), 3) := dk_132 1 255 (dk_at dksX0_dropNodes_3 10 rfl rfl)
theorem dX0_dropNodes_83 : decode cX0_dropNodes 83 = .ok (.goto (-76), 3) := dk_167 255 180 (dk_at dksX0_dropNodes_3 13 rfl rfl)
theorem dX0_dropNodes_86 : decode cX0_dropNodes 86 = .ok (.aload_n 0, 1) := dk_42 (dk_at dksX0_dropNodes_3 16 rfl rfl)
theorem dX0_dropNodes_87 : decode cX0_dropNodes 87 = .ok (.aload_n 0, 1) := dk_42 (dk_at dksX0_dropNodes_3 17 rfl rfl)
theorem dX0_dropNodes_88 : decode cX0_dropNodes 88 = .ok (.getfield 197, 3) := dk_180 0 197 (dk_at dksX0_dropNodes_3 18 rfl rfl)
theorem dX0_dropNodes_91 : decode cX0_dropNodes 91 = .ok (.putfield 200, 3) := dk_181 0 200 (dk_at dksX0_dropNodes_3 21 rfl rfl)
theorem dX0_dropNodes_94 : decode cX0_dropNodes 94 = .ok (.aload_n 0, 1) := dk_42 (dk_at dksX0_dropNodes_4 0 rfl rfl)
theorem dX0_dropNodes_95 : decode cX0_dropNodes 95 = .ok (.aload_n 0, 1) := dk_42 (dk_at dksX0_dropNodes_4 1 rfl rfl)
theorem dX0_dropNodes_96 : decode cX0_dropNodes 96 = .ok (.getfield 206, 3) := dk_180 0 206 (dk_at dksX0_dropNodes_4 2 rfl rfl)
theorem dX0_dropNodes_99 : decode cX0_dropNodes 99 = .ok (.putfield 203, 3) := dk_181 0 203 (dk_at dksX0_dropNodes_4 5 rfl rfl)
theorem dX0_dropNodes_102 : decode cX0_dropNodes 102 = .ok (.iconst 0, 1) := dk_3 (dk_at dksX0_dropNodes_4 8 rfl rfl)
theorem dX0_dropNodes_103 : decode cX0_dropNodes 103 = .ok (.istore_n 1, 1) := dk_60 (dk_at dksX0_dropNodes_4 9 rfl rfl)
theorem dX0_dropNodes_104 : decode cX0_dropNodes 104 = .ok (.iload_n 1, 1) := dk_27 (dk_at dksX0_dropNodes_4 10 rfl rfl)
theorem dX0_dropNodes_105 : decode cX0_dropNodes 105 = .ok (.aload_n 0, 1) := dk_42 (dk_at dksX0_dropNodes_4 11 rfl rfl)
theorem dX0_dropNodes_106 : decode cX0_dropNodes 106 = .ok (.getfield 197, 3) := dk_180 0 197 (dk_at dksX0_dropNodes_4 12 rfl rfl)
theorem dX0_dropNodes_109 : decode cX0_dropNodes 109 = .ok (.if_icmp .ge 16, 3) := dk_162 0 16 (dk_at dksX0_dropNodes_4 15 rfl rfl)
theorem dX0_dropNodes_112 : decode cX0_dropNodes 112 = .ok (.aload_n 0, 1) := dk_42 (dk_at dksX0_dropNodes_4 18 rfl rfl)
theorem dX0_dropNodes_113 : decode cX0_dropNodes 113 = .ok (.getfield 599, 3) := dk_180 2 87 (dk_at dksX0_dropNodes_4 19 rfl rfl)
theorem dX0_dropNodes_116 : decode cX0_dropNodes 116 = .ok (.iload_n 1, 1) := dk_27 (dk_at dksX0_dropNodes_4 22 rfl rfl)
theorem dX0_dropNodes_117 : decode cX0_dropNodes 117 = .ok (.iconst 0, 1) := dk_3 (dk_at dksX0_dropNodes_4 23 rfl rfl)
theorem dX0_dropNodes_118 : decode cX0_dropNodes 118 = .ok (.iastore, 1) := dk_79 (dk_at dksX0_dropNodes_5 0 rfl rfl)
theorem dX0_dropNodes_119 : decode cX0_dropNodes 119 = .ok (.iinc 1 1, 3) := dk_132 1 1 (dk_at dksX0_dropNodes_5 1 rfl rfl)
theorem dX0_dropNodes_122 : decode cX0_dropNodes 122 = .ok (.goto (-18), 3) := dk_167 255 238 (dk_at dksX0_dropNodes_5 4 rfl rfl)
theorem dX0_dropNodes_125 : decode cX0_dropNodes 125 = .ok (.aload_n 0, 1) := dk_42 (dk_at dksX0_dropNodes_5 7 rfl rfl)
theorem dX0_dropNodes_126 : decode cX0_dropNodes 126 = .ok (.iconst 0, 1) := dk_3 (dk_at dksX0_dropNodes_5 8 rfl rfl)
theorem dX0_dropNodes_127 : decode cX0_dropNodes 127 = .ok (.putfield 611, 3) := dk_181 2 99 (dk_at dksX0_dropNodes_5 9 rfl rfl)
theorem dX0_dropNodes_130 : decode cX0_dropNodes 130 = .ok (.return_, 1) := dk_177 (dk_at dksX0_dropNodes_5 12 rfl rfl)
abbrev cX0_unbind : ByteArray := prog_1_method_128_code
def yX0_unbind : MethodName := ⟨RX0, "unbind", "()V"⟩
def dkwX0_unbind_0 : List UInt8 := [3, 60, 27, 16, 60, 162, 0, 16, 42, 180, 3, 39, 27, 3, 79, 132, 1, 1, 167, 255, 240, 177]
abbrev dktX0_unbind_0 : List UInt8 := dkwX0_unbind_0 ++ []
theorem dksX0_unbind_0 : cX0_unbind.data.toList.drop 0 = dktX0_unbind_0 := by decide +kernel
theorem dX0_unbind_0 : decode cX0_unbind 0 = .ok (.iconst 0, 1) := dk_3 (dk_at dksX0_unbind_0 0 rfl rfl)
theorem dX0_unbind_1 : decode cX0_unbind 1 = .ok (.istore_n 1, 1) := dk_60 (dk_at dksX0_unbind_0 1 rfl rfl)
theorem dX0_unbind_2 : decode cX0_unbind 2 = .ok (.iload_n 1, 1) := dk_27 (dk_at dksX0_unbind_0 2 rfl rfl)
theorem dX0_unbind_3 : decode cX0_unbind 3 = .ok (.bipush 60, 2) := dk_16 60 (dk_at dksX0_unbind_0 3 rfl rfl)
theorem dX0_unbind_5 : decode cX0_unbind 5 = .ok (.if_icmp .ge 16, 3) := dk_162 0 16 (dk_at dksX0_unbind_0 5 rfl rfl)
theorem dX0_unbind_8 : decode cX0_unbind 8 = .ok (.aload_n 0, 1) := dk_42 (dk_at dksX0_unbind_0 8 rfl rfl)
theorem dX0_unbind_9 : decode cX0_unbind 9 = .ok (.getfield 807, 3) := dk_180 3 39 (dk_at dksX0_unbind_0 9 rfl rfl)
theorem dX0_unbind_12 : decode cX0_unbind 12 = .ok (.iload_n 1, 1) := dk_27 (dk_at dksX0_unbind_0 12 rfl rfl)
theorem dX0_unbind_13 : decode cX0_unbind 13 = .ok (.iconst 0, 1) := dk_3 (dk_at dksX0_unbind_0 13 rfl rfl)
theorem dX0_unbind_14 : decode cX0_unbind 14 = .ok (.iastore, 1) := dk_79 (dk_at dksX0_unbind_0 14 rfl rfl)
theorem dX0_unbind_15 : decode cX0_unbind 15 = .ok (.iinc 1 1, 3) := dk_132 1 1 (dk_at dksX0_unbind_0 15 rfl rfl)
theorem dX0_unbind_18 : decode cX0_unbind 18 = .ok (.goto (-16), 3) := dk_167 255 240 (dk_at dksX0_unbind_0 18 rfl rfl)
theorem dX0_unbind_21 : decode cX0_unbind 21 = .ok (.return_, 1) := dk_177 (dk_at dksX0_unbind_0 21 rfl rfl)
abbrev cX0_madeOf : ByteArray := prog_1_method_152_code
def yX0_madeOf : MethodName := ⟨RX0, "madeOf", "(I)I"⟩
def dkwX0_madeOf_0 : List UInt8 := [42, 27, 182, 2, 140, 172, 77, 42, 3, 181, 2, 99, 3, 172]
abbrev dktX0_madeOf_0 : List UInt8 := dkwX0_madeOf_0 ++ []
theorem dksX0_madeOf_0 : cX0_madeOf.data.toList.drop 0 = dktX0_madeOf_0 := by decide +kernel
theorem dX0_madeOf_0 : decode cX0_madeOf 0 = .ok (.aload_n 0, 1) := dk_42 (dk_at dksX0_madeOf_0 0 rfl rfl)
theorem dX0_madeOf_1 : decode cX0_madeOf 1 = .ok (.iload_n 1, 1) := dk_27 (dk_at dksX0_madeOf_0 1 rfl rfl)
theorem dX0_madeOf_2 : decode cX0_madeOf 2 = .ok (.invokevirtual 652, 3) := dk_182 2 140 (dk_at dksX0_madeOf_0 2 rfl rfl)
theorem dX0_madeOf_5 : decode cX0_madeOf 5 = .ok (.ireturn, 1) := dk_172 (dk_at dksX0_madeOf_0 5 rfl rfl)
theorem dX0_madeOf_6 : decode cX0_madeOf 6 = .ok (.astore_n 2, 1) := dk_77 (dk_at dksX0_madeOf_0 6 rfl rfl)
theorem dX0_madeOf_7 : decode cX0_madeOf 7 = .ok (.aload_n 0, 1) := dk_42 (dk_at dksX0_madeOf_0 7 rfl rfl)
theorem dX0_madeOf_8 : decode cX0_madeOf 8 = .ok (.iconst 0, 1) := dk_3 (dk_at dksX0_madeOf_0 8 rfl rfl)
theorem dX0_madeOf_9 : decode cX0_madeOf 9 = .ok (.putfield 611, 3) := dk_181 2 99 (dk_at dksX0_madeOf_0 9 rfl rfl)
theorem dX0_madeOf_12 : decode cX0_madeOf 12 = .ok (.iconst 0, 1) := dk_3 (dk_at dksX0_madeOf_0 12 rfl rfl)
theorem dX0_madeOf_13 : decode cX0_madeOf 13 = .ok (.ireturn, 1) := dk_172 (dk_at dksX0_madeOf_0 13 rfl rfl)
abbrev cX0_newHandle : ByteArray := prog_1_method_90_code
def yX0_newHandle : MethodName := ⟨RX0, "newHandle", "(I)I"⟩
def dkwX0_newHandle_1 : List UInt8 := [181, 0, 178, 172]
abbrev dktX0_newHandle_1 : List UInt8 := dkwX0_newHandle_1 ++ []
def dkwX0_newHandle_0 : List UInt8 := [42, 27, 42, 180, 2, 157, 16, 80, 42, 180, 0, 178, 104, 182, 2, 160, 42, 89, 180, 0, 178, 90, 4, 96]
abbrev dktX0_newHandle_0 : List UInt8 := dkwX0_newHandle_0 ++ dktX0_newHandle_1
theorem dksX0_newHandle_0 : cX0_newHandle.data.toList.drop 0 = dktX0_newHandle_0 := by decide +kernel
theorem dksX0_newHandle_1 : cX0_newHandle.data.toList.drop 24 = dktX0_newHandle_1 := dk_seg dksX0_newHandle_0 24 rfl rfl
theorem dX0_newHandle_0 : decode cX0_newHandle 0 = .ok (.aload_n 0, 1) := dk_42 (dk_at dksX0_newHandle_0 0 rfl rfl)
theorem dX0_newHandle_1 : decode cX0_newHandle 1 = .ok (.iload_n 1, 1) := dk_27 (dk_at dksX0_newHandle_0 1 rfl rfl)
theorem dX0_newHandle_2 : decode cX0_newHandle 2 = .ok (.aload_n 0, 1) := dk_42 (dk_at dksX0_newHandle_0 2 rfl rfl)
theorem dX0_newHandle_3 : decode cX0_newHandle 3 = .ok (.getfield 669, 3) := dk_180 2 157 (dk_at dksX0_newHandle_0 3 rfl rfl)
theorem dX0_newHandle_6 : decode cX0_newHandle 6 = .ok (.bipush 80, 2) := dk_16 80 (dk_at dksX0_newHandle_0 6 rfl rfl)
theorem dX0_newHandle_8 : decode cX0_newHandle 8 = .ok (.aload_n 0, 1) := dk_42 (dk_at dksX0_newHandle_0 8 rfl rfl)
theorem dX0_newHandle_9 : decode cX0_newHandle 9 = .ok (.getfield 178, 3) := dk_180 0 178 (dk_at dksX0_newHandle_0 9 rfl rfl)
theorem dX0_newHandle_12 : decode cX0_newHandle 12 = .ok (.imul, 1) := dk_104 (dk_at dksX0_newHandle_0 12 rfl rfl)
theorem dX0_newHandle_13 : decode cX0_newHandle 13 = .ok (.invokevirtual 672, 3) := dk_182 2 160 (dk_at dksX0_newHandle_0 13 rfl rfl)
theorem dX0_newHandle_16 : decode cX0_newHandle 16 = .ok (.aload_n 0, 1) := dk_42 (dk_at dksX0_newHandle_0 16 rfl rfl)
theorem dX0_newHandle_17 : decode cX0_newHandle 17 = .ok (.dup, 1) := dk_89 (dk_at dksX0_newHandle_0 17 rfl rfl)
theorem dX0_newHandle_18 : decode cX0_newHandle 18 = .ok (.getfield 178, 3) := dk_180 0 178 (dk_at dksX0_newHandle_0 18 rfl rfl)
theorem dX0_newHandle_21 : decode cX0_newHandle 21 = .ok (.dup_x1, 1) := dk_90 (dk_at dksX0_newHandle_0 21 rfl rfl)
theorem dX0_newHandle_22 : decode cX0_newHandle 22 = .ok (.iconst 1, 1) := dk_4 (dk_at dksX0_newHandle_0 22 rfl rfl)
theorem dX0_newHandle_23 : decode cX0_newHandle 23 = .ok (.iadd, 1) := dk_96 (dk_at dksX0_newHandle_0 23 rfl rfl)
theorem dX0_newHandle_24 : decode cX0_newHandle 24 = .ok (.putfield 178, 3) := dk_181 0 178 (dk_at dksX0_newHandle_1 0 rfl rfl)
theorem dX0_newHandle_27 : decode cX0_newHandle 27 = .ok (.ireturn, 1) := dk_172 (dk_at dksX0_newHandle_1 3 rfl rfl)
abbrev cX0_saveTo : ByteArray := prog_1_method_87_code
def yX0_saveTo : MethodName := ⟨RX0, "saveTo", "(I[II)V"⟩
def dkwX0_saveTo_0 : List UInt8 := [42, 29, 181, 2, 143, 42, 27, 44, 182, 2, 146, 177]
abbrev dktX0_saveTo_0 : List UInt8 := dkwX0_saveTo_0 ++ []
theorem dksX0_saveTo_0 : cX0_saveTo.data.toList.drop 0 = dktX0_saveTo_0 := by decide +kernel
theorem dX0_saveTo_0 : decode cX0_saveTo 0 = .ok (.aload_n 0, 1) := dk_42 (dk_at dksX0_saveTo_0 0 rfl rfl)
theorem dX0_saveTo_1 : decode cX0_saveTo 1 = .ok (.iload_n 3, 1) := dk_29 (dk_at dksX0_saveTo_0 1 rfl rfl)
theorem dX0_saveTo_2 : decode cX0_saveTo 2 = .ok (.putfield 655, 3) := dk_181 2 143 (dk_at dksX0_saveTo_0 2 rfl rfl)
theorem dX0_saveTo_5 : decode cX0_saveTo 5 = .ok (.aload_n 0, 1) := dk_42 (dk_at dksX0_saveTo_0 5 rfl rfl)
theorem dX0_saveTo_6 : decode cX0_saveTo 6 = .ok (.iload_n 1, 1) := dk_27 (dk_at dksX0_saveTo_0 6 rfl rfl)
theorem dX0_saveTo_7 : decode cX0_saveTo 7 = .ok (.aload_n 2, 1) := dk_44 (dk_at dksX0_saveTo_0 7 rfl rfl)
theorem dX0_saveTo_8 : decode cX0_saveTo 8 = .ok (.invokevirtual 658, 3) := dk_182 2 146 (dk_at dksX0_saveTo_0 8 rfl rfl)
theorem dX0_saveTo_11 : decode cX0_saveTo 11 = .ok (.return_, 1) := dk_177 (dk_at dksX0_saveTo_0 11 rfl rfl)
abbrev cX0_save : ByteArray := prog_1_method_86_code
def yX0_save : MethodName := ⟨RX0, "save", "(I[I)V"⟩
def dkwX0_save_2 : List UInt8 := [46, 162, 0, 20, 42, 42, 27, 29, 182, 2, 109, 44, 182, 2, 146, 132, 3, 1, 167, 255, 232, 177]
abbrev dktX0_save_2 : List UInt8 := dkwX0_save_2 ++ []
def dkwX0_save_1 : List UInt8 := [180, 2, 143, 90, 4, 96, 181, 2, 143, 42, 180, 2, 66, 27, 46, 79, 3, 62, 29, 42, 180, 2, 66, 27]
abbrev dktX0_save_1 : List UInt8 := dkwX0_save_1 ++ dktX0_save_2
def dkwX0_save_0 : List UInt8 := [44, 42, 89, 180, 2, 143, 90, 4, 96, 181, 2, 143, 42, 180, 2, 63, 27, 46, 79, 44, 42, 89]
abbrev dktX0_save_0 : List UInt8 := dkwX0_save_0 ++ dktX0_save_1
theorem dksX0_save_0 : cX0_save.data.toList.drop 0 = dktX0_save_0 := by decide +kernel
theorem dksX0_save_1 : cX0_save.data.toList.drop 22 = dktX0_save_1 := dk_seg dksX0_save_0 22 rfl rfl
theorem dksX0_save_2 : cX0_save.data.toList.drop 46 = dktX0_save_2 := dk_seg dksX0_save_1 24 rfl rfl
theorem dX0_save_0 : decode cX0_save 0 = .ok (.aload_n 2, 1) := dk_44 (dk_at dksX0_save_0 0 rfl rfl)
theorem dX0_save_1 : decode cX0_save 1 = .ok (.aload_n 0, 1) := dk_42 (dk_at dksX0_save_0 1 rfl rfl)
theorem dX0_save_2 : decode cX0_save 2 = .ok (.dup, 1) := dk_89 (dk_at dksX0_save_0 2 rfl rfl)
theorem dX0_save_3 : decode cX0_save 3 = .ok (.getfield 655, 3) := dk_180 2 143 (dk_at dksX0_save_0 3 rfl rfl)
theorem dX0_save_6 : decode cX0_save 6 = .ok (.dup_x1, 1) := dk_90 (dk_at dksX0_save_0 6 rfl rfl)
theorem dX0_save_7 : decode cX0_save 7 = .ok (.iconst 1, 1) := dk_4 (dk_at dksX0_save_0 7 rfl rfl)
theorem dX0_save_8 : decode cX0_save 8 = .ok (.iadd, 1) := dk_96 (dk_at dksX0_save_0 8 rfl rfl)
theorem dX0_save_9 : decode cX0_save 9 = .ok (.putfield 655, 3) := dk_181 2 143 (dk_at dksX0_save_0 9 rfl rfl)
theorem dX0_save_12 : decode cX0_save 12 = .ok (.aload_n 0, 1) := dk_42 (dk_at dksX0_save_0 12 rfl rfl)
theorem dX0_save_13 : decode cX0_save 13 = .ok (.getfield 575, 3) := dk_180 2 63 (dk_at dksX0_save_0 13 rfl rfl)
theorem dX0_save_16 : decode cX0_save 16 = .ok (.iload_n 1, 1) := dk_27 (dk_at dksX0_save_0 16 rfl rfl)
theorem dX0_save_17 : decode cX0_save 17 = .ok (.iaload, 1) := dk_46 (dk_at dksX0_save_0 17 rfl rfl)
theorem dX0_save_18 : decode cX0_save 18 = .ok (.iastore, 1) := dk_79 (dk_at dksX0_save_0 18 rfl rfl)
theorem dX0_save_19 : decode cX0_save 19 = .ok (.aload_n 2, 1) := dk_44 (dk_at dksX0_save_0 19 rfl rfl)
theorem dX0_save_20 : decode cX0_save 20 = .ok (.aload_n 0, 1) := dk_42 (dk_at dksX0_save_0 20 rfl rfl)
theorem dX0_save_21 : decode cX0_save 21 = .ok (.dup, 1) := dk_89 (dk_at dksX0_save_0 21 rfl rfl)
theorem dX0_save_22 : decode cX0_save 22 = .ok (.getfield 655, 3) := dk_180 2 143 (dk_at dksX0_save_1 0 rfl rfl)
theorem dX0_save_25 : decode cX0_save 25 = .ok (.dup_x1, 1) := dk_90 (dk_at dksX0_save_1 3 rfl rfl)
theorem dX0_save_26 : decode cX0_save 26 = .ok (.iconst 1, 1) := dk_4 (dk_at dksX0_save_1 4 rfl rfl)
theorem dX0_save_27 : decode cX0_save 27 = .ok (.iadd, 1) := dk_96 (dk_at dksX0_save_1 5 rfl rfl)
theorem dX0_save_28 : decode cX0_save 28 = .ok (.putfield 655, 3) := dk_181 2 143 (dk_at dksX0_save_1 6 rfl rfl)
theorem dX0_save_31 : decode cX0_save 31 = .ok (.aload_n 0, 1) := dk_42 (dk_at dksX0_save_1 9 rfl rfl)
theorem dX0_save_32 : decode cX0_save 32 = .ok (.getfield 578, 3) := dk_180 2 66 (dk_at dksX0_save_1 10 rfl rfl)
theorem dX0_save_35 : decode cX0_save 35 = .ok (.iload_n 1, 1) := dk_27 (dk_at dksX0_save_1 13 rfl rfl)
theorem dX0_save_36 : decode cX0_save 36 = .ok (.iaload, 1) := dk_46 (dk_at dksX0_save_1 14 rfl rfl)
theorem dX0_save_37 : decode cX0_save 37 = .ok (.iastore, 1) := dk_79 (dk_at dksX0_save_1 15 rfl rfl)
theorem dX0_save_38 : decode cX0_save 38 = .ok (.iconst 0, 1) := dk_3 (dk_at dksX0_save_1 16 rfl rfl)
theorem dX0_save_39 : decode cX0_save 39 = .ok (.istore_n 3, 1) := dk_62 (dk_at dksX0_save_1 17 rfl rfl)
theorem dX0_save_40 : decode cX0_save 40 = .ok (.iload_n 3, 1) := dk_29 (dk_at dksX0_save_1 18 rfl rfl)
theorem dX0_save_41 : decode cX0_save 41 = .ok (.aload_n 0, 1) := dk_42 (dk_at dksX0_save_1 19 rfl rfl)
theorem dX0_save_42 : decode cX0_save 42 = .ok (.getfield 578, 3) := dk_180 2 66 (dk_at dksX0_save_1 20 rfl rfl)
theorem dX0_save_45 : decode cX0_save 45 = .ok (.iload_n 1, 1) := dk_27 (dk_at dksX0_save_1 23 rfl rfl)
theorem dX0_save_46 : decode cX0_save 46 = .ok (.iaload, 1) := dk_46 (dk_at dksX0_save_2 0 rfl rfl)
theorem dX0_save_47 : decode cX0_save 47 = .ok (.if_icmp .ge 20, 3) := dk_162 0 20 (dk_at dksX0_save_2 1 rfl rfl)
theorem dX0_save_50 : decode cX0_save 50 = .ok (.aload_n 0, 1) := dk_42 (dk_at dksX0_save_2 4 rfl rfl)
theorem dX0_save_51 : decode cX0_save 51 = .ok (.aload_n 0, 1) := dk_42 (dk_at dksX0_save_2 5 rfl rfl)
theorem dX0_save_52 : decode cX0_save 52 = .ok (.iload_n 1, 1) := dk_27 (dk_at dksX0_save_2 6 rfl rfl)
theorem dX0_save_53 : decode cX0_save 53 = .ok (.iload_n 3, 1) := dk_29 (dk_at dksX0_save_2 7 rfl rfl)
theorem dX0_save_54 : decode cX0_save 54 = .ok (.invokevirtual 621, 3) := dk_182 2 109 (dk_at dksX0_save_2 8 rfl rfl)
theorem dX0_save_57 : decode cX0_save 57 = .ok (.aload_n 2, 1) := dk_44 (dk_at dksX0_save_2 11 rfl rfl)
theorem dX0_save_58 : decode cX0_save 58 = .ok (.invokevirtual 658, 3) := dk_182 2 146 (dk_at dksX0_save_2 12 rfl rfl)
theorem dX0_save_61 : decode cX0_save 61 = .ok (.iinc 3 1, 3) := dk_132 3 1 (dk_at dksX0_save_2 15 rfl rfl)
theorem dX0_save_64 : decode cX0_save 64 = .ok (.goto (-24), 3) := dk_167 255 232 (dk_at dksX0_save_2 18 rfl rfl)
theorem dX0_save_67 : decode cX0_save 67 = .ok (.return_, 1) := dk_177 (dk_at dksX0_save_2 21 rfl rfl)
abbrev cX0_fault : ByteArray := prog_1_method_153_code
def yX0_fault : MethodName := ⟨RX0, "fault", "(I)I"⟩
def dkwX0_fault_1 : List UInt8 := [172]
abbrev dktX0_fault_1 : List UInt8 := dkwX0_fault_1 ++ []
def dkwX0_fault_0 : List UInt8 := [27, 154, 0, 10, 42, 180, 0, 30, 167, 0, 16, 27, 4, 160, 0, 10, 42, 180, 0, 33, 167, 0, 4, 2]
abbrev dktX0_fault_0 : List UInt8 := dkwX0_fault_0 ++ dktX0_fault_1
theorem dksX0_fault_0 : cX0_fault.data.toList.drop 0 = dktX0_fault_0 := by decide +kernel
theorem dksX0_fault_1 : cX0_fault.data.toList.drop 24 = dktX0_fault_1 := dk_seg dksX0_fault_0 24 rfl rfl
theorem dX0_fault_0 : decode cX0_fault 0 = .ok (.iload_n 1, 1) := dk_27 (dk_at dksX0_fault_0 0 rfl rfl)
theorem dX0_fault_1 : decode cX0_fault 1 = .ok (.ifCond .ne 10, 3) := dk_154 0 10 (dk_at dksX0_fault_0 1 rfl rfl)
theorem dX0_fault_4 : decode cX0_fault 4 = .ok (.aload_n 0, 1) := dk_42 (dk_at dksX0_fault_0 4 rfl rfl)
theorem dX0_fault_5 : decode cX0_fault 5 = .ok (.getfield 30, 3) := dk_180 0 30 (dk_at dksX0_fault_0 5 rfl rfl)
theorem dX0_fault_8 : decode cX0_fault 8 = .ok (.goto 16, 3) := dk_167 0 16 (dk_at dksX0_fault_0 8 rfl rfl)
theorem dX0_fault_11 : decode cX0_fault 11 = .ok (.iload_n 1, 1) := dk_27 (dk_at dksX0_fault_0 11 rfl rfl)
theorem dX0_fault_12 : decode cX0_fault 12 = .ok (.iconst 1, 1) := dk_4 (dk_at dksX0_fault_0 12 rfl rfl)
theorem dX0_fault_13 : decode cX0_fault 13 = .ok (.if_icmp .ne 10, 3) := dk_160 0 10 (dk_at dksX0_fault_0 13 rfl rfl)
theorem dX0_fault_16 : decode cX0_fault 16 = .ok (.aload_n 0, 1) := dk_42 (dk_at dksX0_fault_0 16 rfl rfl)
theorem dX0_fault_17 : decode cX0_fault 17 = .ok (.getfield 33, 3) := dk_180 0 33 (dk_at dksX0_fault_0 17 rfl rfl)
theorem dX0_fault_20 : decode cX0_fault 20 = .ok (.goto 4, 3) := dk_167 0 4 (dk_at dksX0_fault_0 20 rfl rfl)
theorem dX0_fault_23 : decode cX0_fault 23 = .ok (.iconst (-1), 1) := dk_2 (dk_at dksX0_fault_0 23 rfl rfl)
theorem dX0_fault_24 : decode cX0_fault 24 = .ok (.ireturn, 1) := dk_172 (dk_at dksX0_fault_1 0 rfl rfl)
abbrev cX0_count : ByteArray := prog_1_method_154_code
def yX0_count : MethodName := ⟨RX0, "count", "(I)I"⟩
def dkwX0_count_4 : List UInt8 := [180, 0, 187, 172, 27, 16, 10, 160, 0, 10, 42, 180, 0, 190, 167, 0, 4, 2, 172]
abbrev dktX0_count_4 : List UInt8 := dkwX0_count_4 ++ []
def dkwX0_count_3 : List UInt8 := [172, 42, 180, 0, 157, 172, 42, 180, 0, 160, 172, 42, 180, 0, 178, 172, 42, 180, 0, 184, 172, 42]
abbrev dktX0_count_3 : List UInt8 := dkwX0_count_3 ++ dktX0_count_4
def dkwX0_count_2 : List UInt8 := [42, 180, 0, 145, 172, 42, 180, 0, 169, 172, 42, 180, 0, 166, 172, 42, 180, 0, 151, 172, 42, 180, 0, 154]
abbrev dktX0_count_2 : List UInt8 := dkwX0_count_2 ++ dktX0_count_3
def dkwX0_count_1 : List UInt8 := [170, 0, 0, 0, 0, 0, 105, 0, 0, 0, 0, 0, 0, 0, 9, 0, 0, 0, 55, 0, 0, 0, 60, 0, 0, 0, 65, 0, 0, 0, 70, 0, 0, 0, 75, 0, 0, 0, 80, 0, 0, 0, 85, 0, 0, 0, 90, 0, 0, 0, 95, 0, 0, 0, 100]
abbrev dktX0_count_1 : List UInt8 := dkwX0_count_1 ++ dktX0_count_2
def dkwX0_count_0 : List UInt8 := [27]
abbrev dktX0_count_0 : List UInt8 := dkwX0_count_0 ++ dktX0_count_1
theorem dksX0_count_0 : cX0_count.data.toList.drop 0 = dktX0_count_0 := by decide +kernel
theorem dksX0_count_1 : cX0_count.data.toList.drop 1 = dktX0_count_1 := dk_seg dksX0_count_0 1 rfl rfl
theorem dksX0_count_2 : cX0_count.data.toList.drop 56 = dktX0_count_2 := dk_seg dksX0_count_1 55 rfl rfl
theorem dksX0_count_3 : cX0_count.data.toList.drop 80 = dktX0_count_3 := dk_seg dksX0_count_2 24 rfl rfl
theorem dksX0_count_4 : cX0_count.data.toList.drop 102 = dktX0_count_4 := dk_seg dksX0_count_3 22 rfl rfl
theorem dX0_count_0 : decode cX0_count 0 = .ok (.iload_n 1, 1) := dk_27 (dk_at dksX0_count_0 0 rfl rfl)
theorem dX0_count_1 : decode cX0_count 1 = .ok (.tableswitch 105 0 9 #[55, 60, 65, 70, 75, 80, 85, 90, 95, 100], 55) := by decide +kernel
theorem dX0_count_56 : decode cX0_count 56 = .ok (.aload_n 0, 1) := dk_42 (dk_at dksX0_count_2 0 rfl rfl)
theorem dX0_count_57 : decode cX0_count 57 = .ok (.getfield 145, 3) := dk_180 0 145 (dk_at dksX0_count_2 1 rfl rfl)
theorem dX0_count_60 : decode cX0_count 60 = .ok (.ireturn, 1) := dk_172 (dk_at dksX0_count_2 4 rfl rfl)
theorem dX0_count_61 : decode cX0_count 61 = .ok (.aload_n 0, 1) := dk_42 (dk_at dksX0_count_2 5 rfl rfl)
theorem dX0_count_62 : decode cX0_count 62 = .ok (.getfield 169, 3) := dk_180 0 169 (dk_at dksX0_count_2 6 rfl rfl)
theorem dX0_count_65 : decode cX0_count 65 = .ok (.ireturn, 1) := dk_172 (dk_at dksX0_count_2 9 rfl rfl)
theorem dX0_count_66 : decode cX0_count 66 = .ok (.aload_n 0, 1) := dk_42 (dk_at dksX0_count_2 10 rfl rfl)
theorem dX0_count_67 : decode cX0_count 67 = .ok (.getfield 166, 3) := dk_180 0 166 (dk_at dksX0_count_2 11 rfl rfl)
theorem dX0_count_70 : decode cX0_count 70 = .ok (.ireturn, 1) := dk_172 (dk_at dksX0_count_2 14 rfl rfl)
theorem dX0_count_71 : decode cX0_count 71 = .ok (.aload_n 0, 1) := dk_42 (dk_at dksX0_count_2 15 rfl rfl)
theorem dX0_count_72 : decode cX0_count 72 = .ok (.getfield 151, 3) := dk_180 0 151 (dk_at dksX0_count_2 16 rfl rfl)
theorem dX0_count_75 : decode cX0_count 75 = .ok (.ireturn, 1) := dk_172 (dk_at dksX0_count_2 19 rfl rfl)
theorem dX0_count_76 : decode cX0_count 76 = .ok (.aload_n 0, 1) := dk_42 (dk_at dksX0_count_2 20 rfl rfl)
theorem dX0_count_77 : decode cX0_count 77 = .ok (.getfield 154, 3) := dk_180 0 154 (dk_at dksX0_count_2 21 rfl rfl)
theorem dX0_count_80 : decode cX0_count 80 = .ok (.ireturn, 1) := dk_172 (dk_at dksX0_count_3 0 rfl rfl)
theorem dX0_count_81 : decode cX0_count 81 = .ok (.aload_n 0, 1) := dk_42 (dk_at dksX0_count_3 1 rfl rfl)
theorem dX0_count_82 : decode cX0_count 82 = .ok (.getfield 157, 3) := dk_180 0 157 (dk_at dksX0_count_3 2 rfl rfl)
theorem dX0_count_85 : decode cX0_count 85 = .ok (.ireturn, 1) := dk_172 (dk_at dksX0_count_3 5 rfl rfl)
theorem dX0_count_86 : decode cX0_count 86 = .ok (.aload_n 0, 1) := dk_42 (dk_at dksX0_count_3 6 rfl rfl)
theorem dX0_count_87 : decode cX0_count 87 = .ok (.getfield 160, 3) := dk_180 0 160 (dk_at dksX0_count_3 7 rfl rfl)
theorem dX0_count_90 : decode cX0_count 90 = .ok (.ireturn, 1) := dk_172 (dk_at dksX0_count_3 10 rfl rfl)
theorem dX0_count_91 : decode cX0_count 91 = .ok (.aload_n 0, 1) := dk_42 (dk_at dksX0_count_3 11 rfl rfl)
theorem dX0_count_92 : decode cX0_count 92 = .ok (.getfield 178, 3) := dk_180 0 178 (dk_at dksX0_count_3 12 rfl rfl)
theorem dX0_count_95 : decode cX0_count 95 = .ok (.ireturn, 1) := dk_172 (dk_at dksX0_count_3 15 rfl rfl)
theorem dX0_count_96 : decode cX0_count 96 = .ok (.aload_n 0, 1) := dk_42 (dk_at dksX0_count_3 16 rfl rfl)
theorem dX0_count_97 : decode cX0_count 97 = .ok (.getfield 184, 3) := dk_180 0 184 (dk_at dksX0_count_3 17 rfl rfl)
theorem dX0_count_100 : decode cX0_count 100 = .ok (.ireturn, 1) := dk_172 (dk_at dksX0_count_3 20 rfl rfl)
theorem dX0_count_101 : decode cX0_count 101 = .ok (.aload_n 0, 1) := dk_42 (dk_at dksX0_count_3 21 rfl rfl)
theorem dX0_count_102 : decode cX0_count 102 = .ok (.getfield 187, 3) := dk_180 0 187 (dk_at dksX0_count_4 0 rfl rfl)
theorem dX0_count_105 : decode cX0_count 105 = .ok (.ireturn, 1) := dk_172 (dk_at dksX0_count_4 3 rfl rfl)
theorem dX0_count_106 : decode cX0_count 106 = .ok (.iload_n 1, 1) := dk_27 (dk_at dksX0_count_4 4 rfl rfl)
theorem dX0_count_107 : decode cX0_count 107 = .ok (.bipush 10, 2) := dk_16 10 (dk_at dksX0_count_4 5 rfl rfl)
theorem dX0_count_109 : decode cX0_count 109 = .ok (.if_icmp .ne 10, 3) := dk_160 0 10 (dk_at dksX0_count_4 7 rfl rfl)
theorem dX0_count_112 : decode cX0_count 112 = .ok (.aload_n 0, 1) := dk_42 (dk_at dksX0_count_4 10 rfl rfl)
theorem dX0_count_113 : decode cX0_count 113 = .ok (.getfield 190, 3) := dk_180 0 190 (dk_at dksX0_count_4 11 rfl rfl)
theorem dX0_count_116 : decode cX0_count 116 = .ok (.goto 4, 3) := dk_167 0 4 (dk_at dksX0_count_4 14 rfl rfl)
theorem dX0_count_119 : decode cX0_count 119 = .ok (.iconst (-1), 1) := dk_2 (dk_at dksX0_count_4 17 rfl rfl)
theorem dX0_count_120 : decode cX0_count 120 = .ok (.ireturn, 1) := dk_172 (dk_at dksX0_count_4 18 rfl rfl)
abbrev cX0_about : ByteArray := prog_1_method_155_code
def yX0_about : MethodName := ⟨RX0, "about", "(II)I"⟩
def dkwX0_about_6 : List UInt8 := [172]
abbrev dktX0_about_6 : List UInt8 := dkwX0_about_6 ++ []
def dkwX0_about_5 : List UInt8 := [180, 2, 63, 29, 46, 100, 167, 0, 5, 16, 254, 172, 42, 180, 2, 66, 29, 46, 172, 42, 29, 182, 2, 189]
abbrev dktX0_about_5 : List UInt8 := dkwX0_about_5 ++ dktX0_about_6
def dkwX0_about_4 : List UInt8 := [16, 254, 167, 0, 9, 42, 180, 2, 63, 29, 46, 172, 42, 180, 2, 63, 29, 46, 156, 0, 14, 2, 42]
abbrev dktX0_about_4 : List UInt8 := dkwX0_about_4 ++ dktX0_about_5
def dkwX0_about_3 : List UInt8 := [42, 180, 2, 78, 29, 46, 172, 42, 180, 2, 90, 29, 46, 172, 42, 180, 2, 63, 29, 46, 156, 0, 8]
abbrev dktX0_about_3 : List UInt8 := dkwX0_about_3 ++ dktX0_about_4
def dkwX0_about_2 : List UInt8 := [170, 0, 0, 0, 0, 99, 0, 0, 0, 0, 0, 0, 0, 4, 0, 0, 0, 34, 0, 0, 0, 41, 0, 0, 0, 48, 0, 0, 0, 69, 0, 0, 0, 92]
abbrev dktX0_about_2 : List UInt8 := dkwX0_about_2 ++ dktX0_about_3
def dkwX0_about_1 : List UInt8 := [27, 182, 4, 3, 62, 28]
abbrev dktX0_about_1 : List UInt8 := dkwX0_about_1 ++ dktX0_about_2
def dkwX0_about_0 : List UInt8 := [42, 27, 182, 4, 0, 153, 0, 12, 28, 3, 8, 184, 0, 20, 154, 0, 5, 2, 172, 42, 182, 3, 247, 42]
abbrev dktX0_about_0 : List UInt8 := dkwX0_about_0 ++ dktX0_about_1
theorem dksX0_about_0 : cX0_about.data.toList.drop 0 = dktX0_about_0 := by decide +kernel
theorem dksX0_about_1 : cX0_about.data.toList.drop 24 = dktX0_about_1 := dk_seg dksX0_about_0 24 rfl rfl
theorem dksX0_about_2 : cX0_about.data.toList.drop 30 = dktX0_about_2 := dk_seg dksX0_about_1 6 rfl rfl
theorem dksX0_about_3 : cX0_about.data.toList.drop 64 = dktX0_about_3 := dk_seg dksX0_about_2 34 rfl rfl
theorem dksX0_about_4 : cX0_about.data.toList.drop 87 = dktX0_about_4 := dk_seg dksX0_about_3 23 rfl rfl
theorem dksX0_about_5 : cX0_about.data.toList.drop 110 = dktX0_about_5 := dk_seg dksX0_about_4 23 rfl rfl
theorem dksX0_about_6 : cX0_about.data.toList.drop 134 = dktX0_about_6 := dk_seg dksX0_about_5 24 rfl rfl
theorem dX0_about_0 : decode cX0_about 0 = .ok (.aload_n 0, 1) := dk_42 (dk_at dksX0_about_0 0 rfl rfl)
theorem dX0_about_1 : decode cX0_about 1 = .ok (.iload_n 1, 1) := dk_27 (dk_at dksX0_about_0 1 rfl rfl)
theorem dX0_about_2 : decode cX0_about 2 = .ok (.invokevirtual 1024, 3) := dk_182 4 0 (dk_at dksX0_about_0 2 rfl rfl)
theorem dX0_about_5 : decode cX0_about 5 = .ok (.ifCond .eq 12, 3) := dk_153 0 12 (dk_at dksX0_about_0 5 rfl rfl)
theorem dX0_about_8 : decode cX0_about 8 = .ok (.iload_n 2, 1) := dk_28 (dk_at dksX0_about_0 8 rfl rfl)
theorem dX0_about_9 : decode cX0_about 9 = .ok (.iconst 0, 1) := dk_3 (dk_at dksX0_about_0 9 rfl rfl)
theorem dX0_about_10 : decode cX0_about 10 = .ok (.iconst 5, 1) := dk_8 (dk_at dksX0_about_0 10 rfl rfl)
theorem dX0_about_11 : decode cX0_about 11 = .ok (.invokestatic 20, 3) := dk_184 0 20 (dk_at dksX0_about_0 11 rfl rfl)
theorem dX0_about_14 : decode cX0_about 14 = .ok (.ifCond .ne 5, 3) := dk_154 0 5 (dk_at dksX0_about_0 14 rfl rfl)
theorem dX0_about_17 : decode cX0_about 17 = .ok (.iconst (-1), 1) := dk_2 (dk_at dksX0_about_0 17 rfl rfl)
theorem dX0_about_18 : decode cX0_about 18 = .ok (.ireturn, 1) := dk_172 (dk_at dksX0_about_0 18 rfl rfl)
theorem dX0_about_19 : decode cX0_about 19 = .ok (.aload_n 0, 1) := dk_42 (dk_at dksX0_about_0 19 rfl rfl)
theorem dX0_about_20 : decode cX0_about 20 = .ok (.invokevirtual 1015, 3) := dk_182 3 247 (dk_at dksX0_about_0 20 rfl rfl)
theorem dX0_about_23 : decode cX0_about 23 = .ok (.aload_n 0, 1) := dk_42 (dk_at dksX0_about_0 23 rfl rfl)
theorem dX0_about_24 : decode cX0_about 24 = .ok (.iload_n 1, 1) := dk_27 (dk_at dksX0_about_1 0 rfl rfl)
theorem dX0_about_25 : decode cX0_about 25 = .ok (.invokevirtual 1027, 3) := dk_182 4 3 (dk_at dksX0_about_1 1 rfl rfl)
theorem dX0_about_28 : decode cX0_about 28 = .ok (.istore_n 3, 1) := dk_62 (dk_at dksX0_about_1 4 rfl rfl)
theorem dX0_about_29 : decode cX0_about 29 = .ok (.iload_n 2, 1) := dk_28 (dk_at dksX0_about_1 5 rfl rfl)
theorem dX0_about_30 : decode cX0_about 30 = .ok (.tableswitch 99 0 4 #[34, 41, 48, 69, 92], 34) := by decide +kernel
theorem dX0_about_64 : decode cX0_about 64 = .ok (.aload_n 0, 1) := dk_42 (dk_at dksX0_about_3 0 rfl rfl)
theorem dX0_about_65 : decode cX0_about 65 = .ok (.getfield 590, 3) := dk_180 2 78 (dk_at dksX0_about_3 1 rfl rfl)
theorem dX0_about_68 : decode cX0_about 68 = .ok (.iload_n 3, 1) := dk_29 (dk_at dksX0_about_3 4 rfl rfl)
theorem dX0_about_69 : decode cX0_about 69 = .ok (.iaload, 1) := dk_46 (dk_at dksX0_about_3 5 rfl rfl)
theorem dX0_about_70 : decode cX0_about 70 = .ok (.ireturn, 1) := dk_172 (dk_at dksX0_about_3 6 rfl rfl)
theorem dX0_about_71 : decode cX0_about 71 = .ok (.aload_n 0, 1) := dk_42 (dk_at dksX0_about_3 7 rfl rfl)
theorem dX0_about_72 : decode cX0_about 72 = .ok (.getfield 602, 3) := dk_180 2 90 (dk_at dksX0_about_3 8 rfl rfl)
theorem dX0_about_75 : decode cX0_about 75 = .ok (.iload_n 3, 1) := dk_29 (dk_at dksX0_about_3 11 rfl rfl)
theorem dX0_about_76 : decode cX0_about 76 = .ok (.iaload, 1) := dk_46 (dk_at dksX0_about_3 12 rfl rfl)
theorem dX0_about_77 : decode cX0_about 77 = .ok (.ireturn, 1) := dk_172 (dk_at dksX0_about_3 13 rfl rfl)
theorem dX0_about_78 : decode cX0_about 78 = .ok (.aload_n 0, 1) := dk_42 (dk_at dksX0_about_3 14 rfl rfl)
theorem dX0_about_79 : decode cX0_about 79 = .ok (.getfield 575, 3) := dk_180 2 63 (dk_at dksX0_about_3 15 rfl rfl)
theorem dX0_about_82 : decode cX0_about 82 = .ok (.iload_n 3, 1) := dk_29 (dk_at dksX0_about_3 18 rfl rfl)
theorem dX0_about_83 : decode cX0_about 83 = .ok (.iaload, 1) := dk_46 (dk_at dksX0_about_3 19 rfl rfl)
theorem dX0_about_84 : decode cX0_about 84 = .ok (.ifCond .ge 8, 3) := dk_156 0 8 (dk_at dksX0_about_3 20 rfl rfl)
theorem dX0_about_87 : decode cX0_about 87 = .ok (.bipush (-2), 2) := dk_16 254 (dk_at dksX0_about_4 0 rfl rfl)
theorem dX0_about_89 : decode cX0_about 89 = .ok (.goto 9, 3) := dk_167 0 9 (dk_at dksX0_about_4 2 rfl rfl)
theorem dX0_about_92 : decode cX0_about 92 = .ok (.aload_n 0, 1) := dk_42 (dk_at dksX0_about_4 5 rfl rfl)
theorem dX0_about_93 : decode cX0_about 93 = .ok (.getfield 575, 3) := dk_180 2 63 (dk_at dksX0_about_4 6 rfl rfl)
theorem dX0_about_96 : decode cX0_about 96 = .ok (.iload_n 3, 1) := dk_29 (dk_at dksX0_about_4 9 rfl rfl)
theorem dX0_about_97 : decode cX0_about 97 = .ok (.iaload, 1) := dk_46 (dk_at dksX0_about_4 10 rfl rfl)
theorem dX0_about_98 : decode cX0_about 98 = .ok (.ireturn, 1) := dk_172 (dk_at dksX0_about_4 11 rfl rfl)
theorem dX0_about_99 : decode cX0_about 99 = .ok (.aload_n 0, 1) := dk_42 (dk_at dksX0_about_4 12 rfl rfl)
theorem dX0_about_100 : decode cX0_about 100 = .ok (.getfield 575, 3) := dk_180 2 63 (dk_at dksX0_about_4 13 rfl rfl)
theorem dX0_about_103 : decode cX0_about 103 = .ok (.iload_n 3, 1) := dk_29 (dk_at dksX0_about_4 16 rfl rfl)
theorem dX0_about_104 : decode cX0_about 104 = .ok (.iaload, 1) := dk_46 (dk_at dksX0_about_4 17 rfl rfl)
theorem dX0_about_105 : decode cX0_about 105 = .ok (.ifCond .ge 14, 3) := dk_156 0 14 (dk_at dksX0_about_4 18 rfl rfl)
theorem dX0_about_108 : decode cX0_about 108 = .ok (.iconst (-1), 1) := dk_2 (dk_at dksX0_about_4 21 rfl rfl)
theorem dX0_about_109 : decode cX0_about 109 = .ok (.aload_n 0, 1) := dk_42 (dk_at dksX0_about_4 22 rfl rfl)
theorem dX0_about_110 : decode cX0_about 110 = .ok (.getfield 575, 3) := dk_180 2 63 (dk_at dksX0_about_5 0 rfl rfl)
theorem dX0_about_113 : decode cX0_about 113 = .ok (.iload_n 3, 1) := dk_29 (dk_at dksX0_about_5 3 rfl rfl)
theorem dX0_about_114 : decode cX0_about 114 = .ok (.iaload, 1) := dk_46 (dk_at dksX0_about_5 4 rfl rfl)
theorem dX0_about_115 : decode cX0_about 115 = .ok (.isub, 1) := dk_100 (dk_at dksX0_about_5 5 rfl rfl)
theorem dX0_about_116 : decode cX0_about 116 = .ok (.goto 5, 3) := dk_167 0 5 (dk_at dksX0_about_5 6 rfl rfl)
theorem dX0_about_119 : decode cX0_about 119 = .ok (.bipush (-2), 2) := dk_16 254 (dk_at dksX0_about_5 9 rfl rfl)
theorem dX0_about_121 : decode cX0_about 121 = .ok (.ireturn, 1) := dk_172 (dk_at dksX0_about_5 11 rfl rfl)
theorem dX0_about_122 : decode cX0_about 122 = .ok (.aload_n 0, 1) := dk_42 (dk_at dksX0_about_5 12 rfl rfl)
theorem dX0_about_123 : decode cX0_about 123 = .ok (.getfield 578, 3) := dk_180 2 66 (dk_at dksX0_about_5 13 rfl rfl)
theorem dX0_about_126 : decode cX0_about 126 = .ok (.iload_n 3, 1) := dk_29 (dk_at dksX0_about_5 16 rfl rfl)
theorem dX0_about_127 : decode cX0_about 127 = .ok (.iaload, 1) := dk_46 (dk_at dksX0_about_5 17 rfl rfl)
theorem dX0_about_128 : decode cX0_about 128 = .ok (.ireturn, 1) := dk_172 (dk_at dksX0_about_5 18 rfl rfl)
theorem dX0_about_129 : decode cX0_about 129 = .ok (.aload_n 0, 1) := dk_42 (dk_at dksX0_about_5 19 rfl rfl)
theorem dX0_about_130 : decode cX0_about 130 = .ok (.iload_n 3, 1) := dk_29 (dk_at dksX0_about_5 20 rfl rfl)
theorem dX0_about_131 : decode cX0_about 131 = .ok (.invokevirtual 701, 3) := dk_182 2 189 (dk_at dksX0_about_5 21 rfl rfl)
theorem dX0_about_134 : decode cX0_about 134 = .ok (.ireturn, 1) := dk_172 (dk_at dksX0_about_6 0 rfl rfl)
abbrev cX0_isHandle : ByteArray := prog_1_method_92_code
def yX0_isHandle : MethodName := ⟨RX0, "isHandle", "(I)Z"⟩
def dkwX0_isHandle_0 : List UInt8 := [27, 3, 42, 180, 0, 178, 4, 100, 184, 0, 20, 172]
abbrev dktX0_isHandle_0 : List UInt8 := dkwX0_isHandle_0 ++ []
theorem dksX0_isHandle_0 : cX0_isHandle.data.toList.drop 0 = dktX0_isHandle_0 := by decide +kernel
theorem dX0_isHandle_0 : decode cX0_isHandle 0 = .ok (.iload_n 1, 1) := dk_27 (dk_at dksX0_isHandle_0 0 rfl rfl)
theorem dX0_isHandle_1 : decode cX0_isHandle 1 = .ok (.iconst 0, 1) := dk_3 (dk_at dksX0_isHandle_0 1 rfl rfl)
theorem dX0_isHandle_2 : decode cX0_isHandle 2 = .ok (.aload_n 0, 1) := dk_42 (dk_at dksX0_isHandle_0 2 rfl rfl)
theorem dX0_isHandle_3 : decode cX0_isHandle 3 = .ok (.getfield 178, 3) := dk_180 0 178 (dk_at dksX0_isHandle_0 3 rfl rfl)
theorem dX0_isHandle_6 : decode cX0_isHandle 6 = .ok (.iconst 1, 1) := dk_4 (dk_at dksX0_isHandle_0 6 rfl rfl)
theorem dX0_isHandle_7 : decode cX0_isHandle 7 = .ok (.isub, 1) := dk_100 (dk_at dksX0_isHandle_0 7 rfl rfl)
theorem dX0_isHandle_8 : decode cX0_isHandle 8 = .ok (.invokestatic 20, 3) := dk_184 0 20 (dk_at dksX0_isHandle_0 8 rfl rfl)
theorem dX0_isHandle_11 : decode cX0_isHandle 11 = .ok (.ireturn, 1) := dk_172 (dk_at dksX0_isHandle_0 11 rfl rfl)
abbrev cX0_termAt : ByteArray := prog_1_method_91_code
def yX0_termAt : MethodName := ⟨RX0, "termAt", "(I)I"⟩
def dkwX0_termAt_0 : List UInt8 := [42, 42, 180, 2, 157, 16, 80, 27, 104, 182, 2, 164, 172]
abbrev dktX0_termAt_0 : List UInt8 := dkwX0_termAt_0 ++ []
theorem dksX0_termAt_0 : cX0_termAt.data.toList.drop 0 = dktX0_termAt_0 := by decide +kernel
theorem dX0_termAt_0 : decode cX0_termAt 0 = .ok (.aload_n 0, 1) := dk_42 (dk_at dksX0_termAt_0 0 rfl rfl)
theorem dX0_termAt_1 : decode cX0_termAt 1 = .ok (.aload_n 0, 1) := dk_42 (dk_at dksX0_termAt_0 1 rfl rfl)
theorem dX0_termAt_2 : decode cX0_termAt 2 = .ok (.getfield 669, 3) := dk_180 2 157 (dk_at dksX0_termAt_0 2 rfl rfl)
theorem dX0_termAt_5 : decode cX0_termAt 5 = .ok (.bipush 80, 2) := dk_16 80 (dk_at dksX0_termAt_0 5 rfl rfl)
theorem dX0_termAt_7 : decode cX0_termAt 7 = .ok (.iload_n 1, 1) := dk_27 (dk_at dksX0_termAt_0 7 rfl rfl)
theorem dX0_termAt_8 : decode cX0_termAt 8 = .ok (.imul, 1) := dk_104 (dk_at dksX0_termAt_0 8 rfl rfl)
theorem dX0_termAt_9 : decode cX0_termAt 9 = .ok (.invokevirtual 676, 3) := dk_182 2 164 (dk_at dksX0_termAt_0 9 rfl rfl)
theorem dX0_termAt_12 : decode cX0_termAt 12 = .ok (.ireturn, 1) := dk_172 (dk_at dksX0_termAt_0 12 rfl rfl)
abbrev cX0_loadFrom : ByteArray := prog_1_method_89_code
def yX0_loadFrom : MethodName := ⟨RX0, "loadFrom", "([II)I"⟩
def dkwX0_loadFrom_0 : List UInt8 := [42, 28, 181, 2, 150, 42, 43, 182, 2, 153, 172]
abbrev dktX0_loadFrom_0 : List UInt8 := dkwX0_loadFrom_0 ++ []
theorem dksX0_loadFrom_0 : cX0_loadFrom.data.toList.drop 0 = dktX0_loadFrom_0 := by decide +kernel
theorem dX0_loadFrom_0 : decode cX0_loadFrom 0 = .ok (.aload_n 0, 1) := dk_42 (dk_at dksX0_loadFrom_0 0 rfl rfl)
theorem dX0_loadFrom_1 : decode cX0_loadFrom 1 = .ok (.iload_n 2, 1) := dk_28 (dk_at dksX0_loadFrom_0 1 rfl rfl)
theorem dX0_loadFrom_2 : decode cX0_loadFrom 2 = .ok (.putfield 662, 3) := dk_181 2 150 (dk_at dksX0_loadFrom_0 2 rfl rfl)
theorem dX0_loadFrom_5 : decode cX0_loadFrom 5 = .ok (.aload_n 0, 1) := dk_42 (dk_at dksX0_loadFrom_0 5 rfl rfl)
theorem dX0_loadFrom_6 : decode cX0_loadFrom 6 = .ok (.aload_n 1, 1) := dk_43 (dk_at dksX0_loadFrom_0 6 rfl rfl)
theorem dX0_loadFrom_7 : decode cX0_loadFrom 7 = .ok (.invokevirtual 665, 3) := dk_182 2 153 (dk_at dksX0_loadFrom_0 7 rfl rfl)
theorem dX0_loadFrom_10 : decode cX0_loadFrom 10 = .ok (.ireturn, 1) := dk_172 (dk_at dksX0_loadFrom_0 10 rfl rfl)
abbrev cX0_load : ByteArray := prog_1_method_88_code
def yX0_load : MethodName := ⟨RX0, "load", "([I)I"⟩
def dkwX0_load_3 : List UInt8 := [28, 21, 4, 29, 182, 2, 102, 172]
abbrev dktX0_load_3 : List UInt8 := dkwX0_load_3 ++ []
def dkwX0_load_2 : List UInt8 := [182, 2, 153, 54, 6, 42, 21, 6, 182, 2, 131, 132, 5, 1, 167, 255, 234, 42, 21, 4, 181, 2, 99, 42]
abbrev dktX0_load_2 : List UInt8 := dkwX0_load_2 ++ dktX0_load_3
def dkwX0_load_1 : List UInt8 := [181, 2, 150, 46, 62, 42, 180, 2, 99, 54, 4, 3, 54, 5, 21, 5, 29, 162, 0, 22, 42, 43]
abbrev dktX0_load_1 : List UInt8 := dkwX0_load_1 ++ dktX0_load_2
def dkwX0_load_0 : List UInt8 := [43, 42, 89, 180, 2, 150, 90, 4, 96, 181, 2, 150, 46, 61, 43, 42, 89, 180, 2, 150, 90, 4, 96]
abbrev dktX0_load_0 : List UInt8 := dkwX0_load_0 ++ dktX0_load_1
theorem dksX0_load_0 : cX0_load.data.toList.drop 0 = dktX0_load_0 := by decide +kernel
theorem dksX0_load_1 : cX0_load.data.toList.drop 23 = dktX0_load_1 := dk_seg dksX0_load_0 23 rfl rfl
theorem dksX0_load_2 : cX0_load.data.toList.drop 45 = dktX0_load_2 := dk_seg dksX0_load_1 22 rfl rfl
theorem dksX0_load_3 : cX0_load.data.toList.drop 69 = dktX0_load_3 := dk_seg dksX0_load_2 24 rfl rfl
theorem dX0_load_0 : decode cX0_load 0 = .ok (.aload_n 1, 1) := dk_43 (dk_at dksX0_load_0 0 rfl rfl)
theorem dX0_load_1 : decode cX0_load 1 = .ok (.aload_n 0, 1) := dk_42 (dk_at dksX0_load_0 1 rfl rfl)
theorem dX0_load_2 : decode cX0_load 2 = .ok (.dup, 1) := dk_89 (dk_at dksX0_load_0 2 rfl rfl)
theorem dX0_load_3 : decode cX0_load 3 = .ok (.getfield 662, 3) := dk_180 2 150 (dk_at dksX0_load_0 3 rfl rfl)
theorem dX0_load_6 : decode cX0_load 6 = .ok (.dup_x1, 1) := dk_90 (dk_at dksX0_load_0 6 rfl rfl)
theorem dX0_load_7 : decode cX0_load 7 = .ok (.iconst 1, 1) := dk_4 (dk_at dksX0_load_0 7 rfl rfl)
theorem dX0_load_8 : decode cX0_load 8 = .ok (.iadd, 1) := dk_96 (dk_at dksX0_load_0 8 rfl rfl)
theorem dX0_load_9 : decode cX0_load 9 = .ok (.putfield 662, 3) := dk_181 2 150 (dk_at dksX0_load_0 9 rfl rfl)
theorem dX0_load_12 : decode cX0_load 12 = .ok (.iaload, 1) := dk_46 (dk_at dksX0_load_0 12 rfl rfl)
theorem dX0_load_13 : decode cX0_load 13 = .ok (.istore_n 2, 1) := dk_61 (dk_at dksX0_load_0 13 rfl rfl)
theorem dX0_load_14 : decode cX0_load 14 = .ok (.aload_n 1, 1) := dk_43 (dk_at dksX0_load_0 14 rfl rfl)
theorem dX0_load_15 : decode cX0_load 15 = .ok (.aload_n 0, 1) := dk_42 (dk_at dksX0_load_0 15 rfl rfl)
theorem dX0_load_16 : decode cX0_load 16 = .ok (.dup, 1) := dk_89 (dk_at dksX0_load_0 16 rfl rfl)
theorem dX0_load_17 : decode cX0_load 17 = .ok (.getfield 662, 3) := dk_180 2 150 (dk_at dksX0_load_0 17 rfl rfl)
theorem dX0_load_20 : decode cX0_load 20 = .ok (.dup_x1, 1) := dk_90 (dk_at dksX0_load_0 20 rfl rfl)
theorem dX0_load_21 : decode cX0_load 21 = .ok (.iconst 1, 1) := dk_4 (dk_at dksX0_load_0 21 rfl rfl)
theorem dX0_load_22 : decode cX0_load 22 = .ok (.iadd, 1) := dk_96 (dk_at dksX0_load_0 22 rfl rfl)
theorem dX0_load_23 : decode cX0_load 23 = .ok (.putfield 662, 3) := dk_181 2 150 (dk_at dksX0_load_1 0 rfl rfl)
theorem dX0_load_26 : decode cX0_load 26 = .ok (.iaload, 1) := dk_46 (dk_at dksX0_load_1 3 rfl rfl)
theorem dX0_load_27 : decode cX0_load 27 = .ok (.istore_n 3, 1) := dk_62 (dk_at dksX0_load_1 4 rfl rfl)
theorem dX0_load_28 : decode cX0_load 28 = .ok (.aload_n 0, 1) := dk_42 (dk_at dksX0_load_1 5 rfl rfl)
theorem dX0_load_29 : decode cX0_load 29 = .ok (.getfield 611, 3) := dk_180 2 99 (dk_at dksX0_load_1 6 rfl rfl)
theorem dX0_load_32 : decode cX0_load 32 = .ok (.istore 4, 2) := dk_54 4 (dk_at dksX0_load_1 9 rfl rfl)
theorem dX0_load_34 : decode cX0_load 34 = .ok (.iconst 0, 1) := dk_3 (dk_at dksX0_load_1 11 rfl rfl)
theorem dX0_load_35 : decode cX0_load 35 = .ok (.istore 5, 2) := dk_54 5 (dk_at dksX0_load_1 12 rfl rfl)
theorem dX0_load_37 : decode cX0_load 37 = .ok (.iload 5, 2) := dk_21 5 (dk_at dksX0_load_1 14 rfl rfl)
theorem dX0_load_39 : decode cX0_load 39 = .ok (.iload_n 3, 1) := dk_29 (dk_at dksX0_load_1 16 rfl rfl)
theorem dX0_load_40 : decode cX0_load 40 = .ok (.if_icmp .ge 22, 3) := dk_162 0 22 (dk_at dksX0_load_1 17 rfl rfl)
theorem dX0_load_43 : decode cX0_load 43 = .ok (.aload_n 0, 1) := dk_42 (dk_at dksX0_load_1 20 rfl rfl)
theorem dX0_load_44 : decode cX0_load 44 = .ok (.aload_n 1, 1) := dk_43 (dk_at dksX0_load_1 21 rfl rfl)
theorem dX0_load_45 : decode cX0_load 45 = .ok (.invokevirtual 665, 3) := dk_182 2 153 (dk_at dksX0_load_2 0 rfl rfl)
theorem dX0_load_48 : decode cX0_load 48 = .ok (.istore 6, 2) := dk_54 6 (dk_at dksX0_load_2 3 rfl rfl)
theorem dX0_load_50 : decode cX0_load 50 = .ok (.aload_n 0, 1) := dk_42 (dk_at dksX0_load_2 5 rfl rfl)
theorem dX0_load_51 : decode cX0_load 51 = .ok (.iload 6, 2) := dk_21 6 (dk_at dksX0_load_2 6 rfl rfl)
theorem dX0_load_53 : decode cX0_load 53 = .ok (.invokevirtual 643, 3) := dk_182 2 131 (dk_at dksX0_load_2 8 rfl rfl)
theorem dX0_load_56 : decode cX0_load 56 = .ok (.iinc 5 1, 3) := dk_132 5 1 (dk_at dksX0_load_2 11 rfl rfl)
theorem dX0_load_59 : decode cX0_load 59 = .ok (.goto (-22), 3) := dk_167 255 234 (dk_at dksX0_load_2 14 rfl rfl)
theorem dX0_load_62 : decode cX0_load 62 = .ok (.aload_n 0, 1) := dk_42 (dk_at dksX0_load_2 17 rfl rfl)
theorem dX0_load_63 : decode cX0_load 63 = .ok (.iload 4, 2) := dk_21 4 (dk_at dksX0_load_2 18 rfl rfl)
theorem dX0_load_65 : decode cX0_load 65 = .ok (.putfield 611, 3) := dk_181 2 99 (dk_at dksX0_load_2 20 rfl rfl)
theorem dX0_load_68 : decode cX0_load 68 = .ok (.aload_n 0, 1) := dk_42 (dk_at dksX0_load_2 23 rfl rfl)
theorem dX0_load_69 : decode cX0_load 69 = .ok (.iload_n 2, 1) := dk_28 (dk_at dksX0_load_3 0 rfl rfl)
theorem dX0_load_70 : decode cX0_load 70 = .ok (.iload 4, 2) := dk_21 4 (dk_at dksX0_load_3 1 rfl rfl)
theorem dX0_load_72 : decode cX0_load 72 = .ok (.iload_n 3, 1) := dk_29 (dk_at dksX0_load_3 3 rfl rfl)
theorem dX0_load_73 : decode cX0_load 73 = .ok (.invokevirtual 614, 3) := dk_182 2 102 (dk_at dksX0_load_3 4 rfl rfl)
theorem dX0_load_76 : decode cX0_load 76 = .ok (.ireturn, 1) := dk_172 (dk_at dksX0_load_3 7 rfl rfl)
abbrev cX0_part : ByteArray := prog_1_method_156_code
def yX0_part : MethodName := ⟨RX0, "part", "(II)I"⟩
def dkwX0_part_2 : List UInt8 := [160, 0, 8, 16, 253, 167, 0, 13, 42, 42, 29, 28, 182, 2, 109, 182, 3, 253, 172]
abbrev dktX0_part_2 : List UInt8 := dkwX0_part_2 ++ []
def dkwX0_part_1 : List UInt8 := [180, 2, 66, 29, 46, 4, 100, 184, 0, 20, 154, 0, 7, 2, 167, 0, 28, 42, 180, 0, 178, 17, 0, 200]
abbrev dktX0_part_1 : List UInt8 := dkwX0_part_1 ++ dktX0_part_2
def dkwX0_part_0 : List UInt8 := [42, 27, 182, 4, 0, 154, 0, 5, 2, 172, 42, 182, 3, 247, 42, 27, 182, 4, 3, 62, 28, 3, 42]
abbrev dktX0_part_0 : List UInt8 := dkwX0_part_0 ++ dktX0_part_1
theorem dksX0_part_0 : cX0_part.data.toList.drop 0 = dktX0_part_0 := by decide +kernel
theorem dksX0_part_1 : cX0_part.data.toList.drop 23 = dktX0_part_1 := dk_seg dksX0_part_0 23 rfl rfl
theorem dksX0_part_2 : cX0_part.data.toList.drop 47 = dktX0_part_2 := dk_seg dksX0_part_1 24 rfl rfl
theorem dX0_part_0 : decode cX0_part 0 = .ok (.aload_n 0, 1) := dk_42 (dk_at dksX0_part_0 0 rfl rfl)
theorem dX0_part_1 : decode cX0_part 1 = .ok (.iload_n 1, 1) := dk_27 (dk_at dksX0_part_0 1 rfl rfl)
theorem dX0_part_2 : decode cX0_part 2 = .ok (.invokevirtual 1024, 3) := dk_182 4 0 (dk_at dksX0_part_0 2 rfl rfl)
theorem dX0_part_5 : decode cX0_part 5 = .ok (.ifCond .ne 5, 3) := dk_154 0 5 (dk_at dksX0_part_0 5 rfl rfl)
theorem dX0_part_8 : decode cX0_part 8 = .ok (.iconst (-1), 1) := dk_2 (dk_at dksX0_part_0 8 rfl rfl)
theorem dX0_part_9 : decode cX0_part 9 = .ok (.ireturn, 1) := dk_172 (dk_at dksX0_part_0 9 rfl rfl)
theorem dX0_part_10 : decode cX0_part 10 = .ok (.aload_n 0, 1) := dk_42 (dk_at dksX0_part_0 10 rfl rfl)
theorem dX0_part_11 : decode cX0_part 11 = .ok (.invokevirtual 1015, 3) := dk_182 3 247 (dk_at dksX0_part_0 11 rfl rfl)
theorem dX0_part_14 : decode cX0_part 14 = .ok (.aload_n 0, 1) := dk_42 (dk_at dksX0_part_0 14 rfl rfl)
theorem dX0_part_15 : decode cX0_part 15 = .ok (.iload_n 1, 1) := dk_27 (dk_at dksX0_part_0 15 rfl rfl)
theorem dX0_part_16 : decode cX0_part 16 = .ok (.invokevirtual 1027, 3) := dk_182 4 3 (dk_at dksX0_part_0 16 rfl rfl)
theorem dX0_part_19 : decode cX0_part 19 = .ok (.istore_n 3, 1) := dk_62 (dk_at dksX0_part_0 19 rfl rfl)
theorem dX0_part_20 : decode cX0_part 20 = .ok (.iload_n 2, 1) := dk_28 (dk_at dksX0_part_0 20 rfl rfl)
theorem dX0_part_21 : decode cX0_part 21 = .ok (.iconst 0, 1) := dk_3 (dk_at dksX0_part_0 21 rfl rfl)
theorem dX0_part_22 : decode cX0_part 22 = .ok (.aload_n 0, 1) := dk_42 (dk_at dksX0_part_0 22 rfl rfl)
theorem dX0_part_23 : decode cX0_part 23 = .ok (.getfield 578, 3) := dk_180 2 66 (dk_at dksX0_part_1 0 rfl rfl)
theorem dX0_part_26 : decode cX0_part 26 = .ok (.iload_n 3, 1) := dk_29 (dk_at dksX0_part_1 3 rfl rfl)
theorem dX0_part_27 : decode cX0_part 27 = .ok (.iaload, 1) := dk_46 (dk_at dksX0_part_1 4 rfl rfl)
theorem dX0_part_28 : decode cX0_part 28 = .ok (.iconst 1, 1) := dk_4 (dk_at dksX0_part_1 5 rfl rfl)
theorem dX0_part_29 : decode cX0_part 29 = .ok (.isub, 1) := dk_100 (dk_at dksX0_part_1 6 rfl rfl)
theorem dX0_part_30 : decode cX0_part 30 = .ok (.invokestatic 20, 3) := dk_184 0 20 (dk_at dksX0_part_1 7 rfl rfl)
theorem dX0_part_33 : decode cX0_part 33 = .ok (.ifCond .ne 7, 3) := dk_154 0 7 (dk_at dksX0_part_1 10 rfl rfl)
theorem dX0_part_36 : decode cX0_part 36 = .ok (.iconst (-1), 1) := dk_2 (dk_at dksX0_part_1 13 rfl rfl)
theorem dX0_part_37 : decode cX0_part 37 = .ok (.goto 28, 3) := dk_167 0 28 (dk_at dksX0_part_1 14 rfl rfl)
theorem dX0_part_40 : decode cX0_part 40 = .ok (.aload_n 0, 1) := dk_42 (dk_at dksX0_part_1 17 rfl rfl)
theorem dX0_part_41 : decode cX0_part 41 = .ok (.getfield 178, 3) := dk_180 0 178 (dk_at dksX0_part_1 18 rfl rfl)
theorem dX0_part_44 : decode cX0_part 44 = .ok (.sipush 200, 3) := dk_17 0 200 (dk_at dksX0_part_1 21 rfl rfl)
theorem dX0_part_47 : decode cX0_part 47 = .ok (.if_icmp .ne 8, 3) := dk_160 0 8 (dk_at dksX0_part_2 0 rfl rfl)
theorem dX0_part_50 : decode cX0_part 50 = .ok (.bipush (-3), 2) := dk_16 253 (dk_at dksX0_part_2 3 rfl rfl)
theorem dX0_part_52 : decode cX0_part 52 = .ok (.goto 13, 3) := dk_167 0 13 (dk_at dksX0_part_2 5 rfl rfl)
theorem dX0_part_55 : decode cX0_part 55 = .ok (.aload_n 0, 1) := dk_42 (dk_at dksX0_part_2 8 rfl rfl)
theorem dX0_part_56 : decode cX0_part 56 = .ok (.aload_n 0, 1) := dk_42 (dk_at dksX0_part_2 9 rfl rfl)
theorem dX0_part_57 : decode cX0_part 57 = .ok (.iload_n 3, 1) := dk_29 (dk_at dksX0_part_2 10 rfl rfl)
theorem dX0_part_58 : decode cX0_part 58 = .ok (.iload_n 2, 1) := dk_28 (dk_at dksX0_part_2 11 rfl rfl)
theorem dX0_part_59 : decode cX0_part 59 = .ok (.invokevirtual 621, 3) := dk_182 2 109 (dk_at dksX0_part_2 12 rfl rfl)
theorem dX0_part_62 : decode cX0_part 62 = .ok (.invokevirtual 1021, 3) := dk_182 3 253 (dk_at dksX0_part_2 15 rfl rfl)
theorem dX0_part_65 : decode cX0_part 65 = .ok (.ireturn, 1) := dk_172 (dk_at dksX0_part_2 18 rfl rfl)
abbrev cX0_order : ByteArray := prog_1_method_157_code
def yX0_order : MethodName := ⟨RX0, "order", "(II)I"⟩
def dkwX0_order_1 : List UInt8 := [42, 27, 182, 4, 3, 42, 28, 182, 4, 3, 182, 2, 119, 172]
abbrev dktX0_order_1 : List UInt8 := dkwX0_order_1 ++ []
def dkwX0_order_0 : List UInt8 := [42, 27, 182, 4, 0, 153, 0, 11, 42, 28, 182, 4, 0, 154, 0, 6, 16, 247, 172, 42, 182, 3, 247, 42]
abbrev dktX0_order_0 : List UInt8 := dkwX0_order_0 ++ dktX0_order_1
theorem dksX0_order_0 : cX0_order.data.toList.drop 0 = dktX0_order_0 := by decide +kernel
theorem dksX0_order_1 : cX0_order.data.toList.drop 24 = dktX0_order_1 := dk_seg dksX0_order_0 24 rfl rfl
theorem dX0_order_0 : decode cX0_order 0 = .ok (.aload_n 0, 1) := dk_42 (dk_at dksX0_order_0 0 rfl rfl)
theorem dX0_order_1 : decode cX0_order 1 = .ok (.iload_n 1, 1) := dk_27 (dk_at dksX0_order_0 1 rfl rfl)
theorem dX0_order_2 : decode cX0_order 2 = .ok (.invokevirtual 1024, 3) := dk_182 4 0 (dk_at dksX0_order_0 2 rfl rfl)
theorem dX0_order_5 : decode cX0_order 5 = .ok (.ifCond .eq 11, 3) := dk_153 0 11 (dk_at dksX0_order_0 5 rfl rfl)
theorem dX0_order_8 : decode cX0_order 8 = .ok (.aload_n 0, 1) := dk_42 (dk_at dksX0_order_0 8 rfl rfl)
theorem dX0_order_9 : decode cX0_order 9 = .ok (.iload_n 2, 1) := dk_28 (dk_at dksX0_order_0 9 rfl rfl)
theorem dX0_order_10 : decode cX0_order 10 = .ok (.invokevirtual 1024, 3) := dk_182 4 0 (dk_at dksX0_order_0 10 rfl rfl)
theorem dX0_order_13 : decode cX0_order 13 = .ok (.ifCond .ne 6, 3) := dk_154 0 6 (dk_at dksX0_order_0 13 rfl rfl)
theorem dX0_order_16 : decode cX0_order 16 = .ok (.bipush (-9), 2) := dk_16 247 (dk_at dksX0_order_0 16 rfl rfl)
theorem dX0_order_18 : decode cX0_order 18 = .ok (.ireturn, 1) := dk_172 (dk_at dksX0_order_0 18 rfl rfl)
theorem dX0_order_19 : decode cX0_order 19 = .ok (.aload_n 0, 1) := dk_42 (dk_at dksX0_order_0 19 rfl rfl)
theorem dX0_order_20 : decode cX0_order 20 = .ok (.invokevirtual 1015, 3) := dk_182 3 247 (dk_at dksX0_order_0 20 rfl rfl)
theorem dX0_order_23 : decode cX0_order 23 = .ok (.aload_n 0, 1) := dk_42 (dk_at dksX0_order_0 23 rfl rfl)
theorem dX0_order_24 : decode cX0_order 24 = .ok (.aload_n 0, 1) := dk_42 (dk_at dksX0_order_1 0 rfl rfl)
theorem dX0_order_25 : decode cX0_order 25 = .ok (.iload_n 1, 1) := dk_27 (dk_at dksX0_order_1 1 rfl rfl)
theorem dX0_order_26 : decode cX0_order 26 = .ok (.invokevirtual 1027, 3) := dk_182 4 3 (dk_at dksX0_order_1 2 rfl rfl)
theorem dX0_order_29 : decode cX0_order 29 = .ok (.aload_n 0, 1) := dk_42 (dk_at dksX0_order_1 5 rfl rfl)
theorem dX0_order_30 : decode cX0_order 30 = .ok (.iload_n 2, 1) := dk_28 (dk_at dksX0_order_1 6 rfl rfl)
theorem dX0_order_31 : decode cX0_order 31 = .ok (.invokevirtual 1027, 3) := dk_182 4 3 (dk_at dksX0_order_1 7 rfl rfl)
theorem dX0_order_34 : decode cX0_order 34 = .ok (.invokevirtual 631, 3) := dk_182 2 119 (dk_at dksX0_order_1 10 rfl rfl)
theorem dX0_order_37 : decode cX0_order 37 = .ok (.ireturn, 1) := dk_172 (dk_at dksX0_order_1 13 rfl rfl)
abbrev cX0_forget : ByteArray := prog_1_method_158_code
def yX0_forget : MethodName := ⟨RX0, "forget", "()I"⟩
def dkwX0_forget_0 : List UInt8 := [42, 180, 0, 178, 60, 42, 3, 181, 0, 178, 27, 172]
abbrev dktX0_forget_0 : List UInt8 := dkwX0_forget_0 ++ []
theorem dksX0_forget_0 : cX0_forget.data.toList.drop 0 = dktX0_forget_0 := by decide +kernel
theorem dX0_forget_0 : decode cX0_forget 0 = .ok (.aload_n 0, 1) := dk_42 (dk_at dksX0_forget_0 0 rfl rfl)
theorem dX0_forget_1 : decode cX0_forget 1 = .ok (.getfield 178, 3) := dk_180 0 178 (dk_at dksX0_forget_0 1 rfl rfl)
theorem dX0_forget_4 : decode cX0_forget 4 = .ok (.istore_n 1, 1) := dk_60 (dk_at dksX0_forget_0 4 rfl rfl)
theorem dX0_forget_5 : decode cX0_forget 5 = .ok (.aload_n 0, 1) := dk_42 (dk_at dksX0_forget_0 5 rfl rfl)
theorem dX0_forget_6 : decode cX0_forget 6 = .ok (.iconst 0, 1) := dk_3 (dk_at dksX0_forget_0 6 rfl rfl)
theorem dX0_forget_7 : decode cX0_forget 7 = .ok (.putfield 178, 3) := dk_181 0 178 (dk_at dksX0_forget_0 7 rfl rfl)
theorem dX0_forget_10 : decode cX0_forget 10 = .ok (.iload_n 1, 1) := dk_27 (dk_at dksX0_forget_0 10 rfl rfl)
theorem dX0_forget_11 : decode cX0_forget 11 = .ok (.ireturn, 1) := dk_172 (dk_at dksX0_forget_0 11 rfl rfl)
abbrev cX0_print : ByteArray := prog_1_method_163_code
def yX0_print : MethodName := ⟨RX0, "print", "(II)I"⟩
def dkwX0_print_2 : List UInt8 := [16, 99, 182, 4, 24, 28, 2, 160, 0, 10, 42, 180, 4, 6, 167, 0, 7, 42, 180, 4, 12, 172]
abbrev dktX0_print_2 : List UInt8 := dkwX0_print_2 ++ []
def dkwX0_print_1 : List UInt8 := [62, 42, 3, 181, 4, 6, 42, 28, 181, 4, 9, 42, 2, 181, 4, 12, 42, 29, 42, 180, 2, 66, 29, 46]
abbrev dktX0_print_1 : List UInt8 := dkwX0_print_1 ++ dktX0_print_2
def dkwX0_print_0 : List UInt8 := [42, 27, 182, 4, 0, 153, 0, 8, 28, 2, 162, 0, 5, 2, 172, 42, 182, 3, 247, 42, 27, 182, 4, 3]
abbrev dktX0_print_0 : List UInt8 := dkwX0_print_0 ++ dktX0_print_1
theorem dksX0_print_0 : cX0_print.data.toList.drop 0 = dktX0_print_0 := by decide +kernel
theorem dksX0_print_1 : cX0_print.data.toList.drop 24 = dktX0_print_1 := dk_seg dksX0_print_0 24 rfl rfl
theorem dksX0_print_2 : cX0_print.data.toList.drop 48 = dktX0_print_2 := dk_seg dksX0_print_1 24 rfl rfl
theorem dX0_print_0 : decode cX0_print 0 = .ok (.aload_n 0, 1) := dk_42 (dk_at dksX0_print_0 0 rfl rfl)
theorem dX0_print_1 : decode cX0_print 1 = .ok (.iload_n 1, 1) := dk_27 (dk_at dksX0_print_0 1 rfl rfl)
theorem dX0_print_2 : decode cX0_print 2 = .ok (.invokevirtual 1024, 3) := dk_182 4 0 (dk_at dksX0_print_0 2 rfl rfl)
theorem dX0_print_5 : decode cX0_print 5 = .ok (.ifCond .eq 8, 3) := dk_153 0 8 (dk_at dksX0_print_0 5 rfl rfl)
theorem dX0_print_8 : decode cX0_print 8 = .ok (.iload_n 2, 1) := dk_28 (dk_at dksX0_print_0 8 rfl rfl)
theorem dX0_print_9 : decode cX0_print 9 = .ok (.iconst (-1), 1) := dk_2 (dk_at dksX0_print_0 9 rfl rfl)
theorem dX0_print_10 : decode cX0_print 10 = .ok (.if_icmp .ge 5, 3) := dk_162 0 5 (dk_at dksX0_print_0 10 rfl rfl)
theorem dX0_print_13 : decode cX0_print 13 = .ok (.iconst (-1), 1) := dk_2 (dk_at dksX0_print_0 13 rfl rfl)
theorem dX0_print_14 : decode cX0_print 14 = .ok (.ireturn, 1) := dk_172 (dk_at dksX0_print_0 14 rfl rfl)
theorem dX0_print_15 : decode cX0_print 15 = .ok (.aload_n 0, 1) := dk_42 (dk_at dksX0_print_0 15 rfl rfl)
theorem dX0_print_16 : decode cX0_print 16 = .ok (.invokevirtual 1015, 3) := dk_182 3 247 (dk_at dksX0_print_0 16 rfl rfl)
theorem dX0_print_19 : decode cX0_print 19 = .ok (.aload_n 0, 1) := dk_42 (dk_at dksX0_print_0 19 rfl rfl)
theorem dX0_print_20 : decode cX0_print 20 = .ok (.iload_n 1, 1) := dk_27 (dk_at dksX0_print_0 20 rfl rfl)
theorem dX0_print_21 : decode cX0_print 21 = .ok (.invokevirtual 1027, 3) := dk_182 4 3 (dk_at dksX0_print_0 21 rfl rfl)
theorem dX0_print_24 : decode cX0_print 24 = .ok (.istore_n 3, 1) := dk_62 (dk_at dksX0_print_1 0 rfl rfl)
theorem dX0_print_25 : decode cX0_print 25 = .ok (.aload_n 0, 1) := dk_42 (dk_at dksX0_print_1 1 rfl rfl)
theorem dX0_print_26 : decode cX0_print 26 = .ok (.iconst 0, 1) := dk_3 (dk_at dksX0_print_1 2 rfl rfl)
theorem dX0_print_27 : decode cX0_print 27 = .ok (.putfield 1030, 3) := dk_181 4 6 (dk_at dksX0_print_1 3 rfl rfl)
theorem dX0_print_30 : decode cX0_print 30 = .ok (.aload_n 0, 1) := dk_42 (dk_at dksX0_print_1 6 rfl rfl)
theorem dX0_print_31 : decode cX0_print 31 = .ok (.iload_n 2, 1) := dk_28 (dk_at dksX0_print_1 7 rfl rfl)
theorem dX0_print_32 : decode cX0_print 32 = .ok (.putfield 1033, 3) := dk_181 4 9 (dk_at dksX0_print_1 8 rfl rfl)
theorem dX0_print_35 : decode cX0_print 35 = .ok (.aload_n 0, 1) := dk_42 (dk_at dksX0_print_1 11 rfl rfl)
theorem dX0_print_36 : decode cX0_print 36 = .ok (.iconst (-1), 1) := dk_2 (dk_at dksX0_print_1 12 rfl rfl)
theorem dX0_print_37 : decode cX0_print 37 = .ok (.putfield 1036, 3) := dk_181 4 12 (dk_at dksX0_print_1 13 rfl rfl)
theorem dX0_print_40 : decode cX0_print 40 = .ok (.aload_n 0, 1) := dk_42 (dk_at dksX0_print_1 16 rfl rfl)
theorem dX0_print_41 : decode cX0_print 41 = .ok (.iload_n 3, 1) := dk_29 (dk_at dksX0_print_1 17 rfl rfl)
theorem dX0_print_42 : decode cX0_print 42 = .ok (.aload_n 0, 1) := dk_42 (dk_at dksX0_print_1 18 rfl rfl)
theorem dX0_print_43 : decode cX0_print 43 = .ok (.getfield 578, 3) := dk_180 2 66 (dk_at dksX0_print_1 19 rfl rfl)
theorem dX0_print_46 : decode cX0_print 46 = .ok (.iload_n 3, 1) := dk_29 (dk_at dksX0_print_1 22 rfl rfl)
theorem dX0_print_47 : decode cX0_print 47 = .ok (.iaload, 1) := dk_46 (dk_at dksX0_print_1 23 rfl rfl)
theorem dX0_print_48 : decode cX0_print 48 = .ok (.bipush 99, 2) := dk_16 99 (dk_at dksX0_print_2 0 rfl rfl)
theorem dX0_print_50 : decode cX0_print 50 = .ok (.invokevirtual 1048, 3) := dk_182 4 24 (dk_at dksX0_print_2 2 rfl rfl)
theorem dX0_print_53 : decode cX0_print 53 = .ok (.iload_n 2, 1) := dk_28 (dk_at dksX0_print_2 5 rfl rfl)
theorem dX0_print_54 : decode cX0_print 54 = .ok (.iconst (-1), 1) := dk_2 (dk_at dksX0_print_2 6 rfl rfl)
theorem dX0_print_55 : decode cX0_print 55 = .ok (.if_icmp .ne 10, 3) := dk_160 0 10 (dk_at dksX0_print_2 7 rfl rfl)
theorem dX0_print_58 : decode cX0_print 58 = .ok (.aload_n 0, 1) := dk_42 (dk_at dksX0_print_2 10 rfl rfl)
theorem dX0_print_59 : decode cX0_print 59 = .ok (.getfield 1030, 3) := dk_180 4 6 (dk_at dksX0_print_2 11 rfl rfl)
theorem dX0_print_62 : decode cX0_print 62 = .ok (.goto 7, 3) := dk_167 0 7 (dk_at dksX0_print_2 14 rfl rfl)
theorem dX0_print_65 : decode cX0_print 65 = .ok (.aload_n 0, 1) := dk_42 (dk_at dksX0_print_2 17 rfl rfl)
theorem dX0_print_66 : decode cX0_print 66 = .ok (.getfield 1036, 3) := dk_180 4 12 (dk_at dksX0_print_2 18 rfl rfl)
theorem dX0_print_69 : decode cX0_print 69 = .ok (.ireturn, 1) := dk_172 (dk_at dksX0_print_2 21 rfl rfl)
abbrev cX0_printTerm : ByteArray := prog_1_method_162_code
def yX0_printTerm : MethodName := ⟨RX0, "printTerm", "(III)V"⟩
def dkwX0_printTerm_10 : List UInt8 := [21, 5, 153, 0, 9, 42, 16, 41, 182, 4, 21, 177]
abbrev dktX0_printTerm_10 : List UInt8 := dkwX0_printTerm_10 ++ []
def dkwX0_printTerm_9 : List UInt8 := [21, 11, 42, 180, 2, 66, 21, 11, 46, 21, 10, 182, 4, 24, 132, 7, 1, 132, 8, 1, 167, 255, 115]
abbrev dktX0_printTerm_9 : List UInt8 := dkwX0_printTerm_9 ++ dktX0_printTerm_10
def dkwX0_printTerm_8 : List UInt8 := [51, 153, 0, 15, 21, 7, 4, 160, 0, 9, 28, 4, 100, 167, 0, 5, 21, 7, 182, 2, 109, 54, 11, 42]
abbrev dktX0_printTerm_8 : List UInt8 := dkwX0_printTerm_8 ++ dktX0_printTerm_9
def dkwX0_printTerm_7 : List UInt8 := [164, 0, 16, 42, 27, 28, 4, 100, 21, 10, 182, 4, 24, 167, 0, 49, 42, 27, 42, 180, 1, 229, 21, 4]
abbrev dktX0_printTerm_7 : List UInt8 := dkwX0_printTerm_7 ++ dktX0_printTerm_8
def dkwX0_printTerm_6 : List UInt8 := [21, 7, 96, 46, 54, 10, 42, 180, 1, 229, 21, 4, 51, 153, 0, 26, 21, 7, 154, 0, 21, 28, 5]
abbrev dktX0_printTerm_6 : List UInt8 := dkwX0_printTerm_6 ++ dktX0_printTerm_7
def dkwX0_printTerm_5 : List UInt8 := [21, 9, 2, 159, 0, 12, 42, 21, 9, 182, 4, 18, 167, 0, 99, 42, 180, 1, 238, 6, 21, 4, 104]
abbrev dktX0_printTerm_5 : List UInt8 := dkwX0_printTerm_5 ++ dktX0_printTerm_6
def dkwX0_printTerm_4 : List UInt8 := [180, 1, 162, 21, 6, 46, 162, 0, 135, 42, 180, 1, 165, 16, 12, 21, 6, 104, 21, 8, 96, 46, 54, 9]
abbrev dktX0_printTerm_4 : List UInt8 := dkwX0_printTerm_4 ++ dktX0_printTerm_5
def dkwX0_printTerm_3 : List UInt8 := [16, 40, 182, 4, 21, 42, 180, 1, 204, 21, 4, 46, 54, 6, 3, 54, 7, 3, 54, 8, 21, 8, 42]
abbrev dktX0_printTerm_3 : List UInt8 := dkwX0_printTerm_3 ++ dktX0_printTerm_4
def dkwX0_printTerm_2 : List UInt8 := [180, 1, 226, 21, 4, 46, 29, 164, 0, 7, 4, 167, 0, 4, 3, 54, 5, 21, 5, 153, 0, 9, 42]
abbrev dktX0_printTerm_2 : List UInt8 := dkwX0_printTerm_2 ++ dktX0_printTerm_3
def dkwX0_printTerm_1 : List UInt8 := [112, 46, 182, 4, 18, 2, 21, 4, 100, 16, 30, 161, 0, 9, 42, 16, 39, 182, 4, 15, 177, 42]
abbrev dktX0_printTerm_1 : List UInt8 := dkwX0_printTerm_1 ++ dktX0_printTerm_2
def dkwX0_printTerm_0 : List UInt8 := [42, 180, 2, 63, 27, 46, 54, 4, 21, 4, 156, 0, 35, 42, 42, 180, 1, 244, 2, 21, 4, 100, 16, 30]
abbrev dktX0_printTerm_0 : List UInt8 := dkwX0_printTerm_0 ++ dktX0_printTerm_1
theorem dksX0_printTerm_0 : cX0_printTerm.data.toList.drop 0 = dktX0_printTerm_0 := by decide +kernel
theorem dksX0_printTerm_1 : cX0_printTerm.data.toList.drop 24 = dktX0_printTerm_1 := dk_seg dksX0_printTerm_0 24 rfl rfl
theorem dksX0_printTerm_2 : cX0_printTerm.data.toList.drop 46 = dktX0_printTerm_2 := dk_seg dksX0_printTerm_1 22 rfl rfl
theorem dksX0_printTerm_3 : cX0_printTerm.data.toList.drop 69 = dktX0_printTerm_3 := dk_seg dksX0_printTerm_2 23 rfl rfl
theorem dksX0_printTerm_4 : cX0_printTerm.data.toList.drop 92 = dktX0_printTerm_4 := dk_seg dksX0_printTerm_3 23 rfl rfl
theorem dksX0_printTerm_5 : cX0_printTerm.data.toList.drop 116 = dktX0_printTerm_5 := dk_seg dksX0_printTerm_4 24 rfl rfl
theorem dksX0_printTerm_6 : cX0_printTerm.data.toList.drop 139 = dktX0_printTerm_6 := dk_seg dksX0_printTerm_5 23 rfl rfl
theorem dksX0_printTerm_7 : cX0_printTerm.data.toList.drop 162 = dktX0_printTerm_7 := dk_seg dksX0_printTerm_6 23 rfl rfl
theorem dksX0_printTerm_8 : cX0_printTerm.data.toList.drop 186 = dktX0_printTerm_8 := dk_seg dksX0_printTerm_7 24 rfl rfl
theorem dksX0_printTerm_9 : cX0_printTerm.data.toList.drop 210 = dktX0_printTerm_9 := dk_seg dksX0_printTerm_8 24 rfl rfl
theorem dksX0_printTerm_10 : cX0_printTerm.data.toList.drop 233 = dktX0_printTerm_10 := dk_seg dksX0_printTerm_9 23 rfl rfl
theorem dX0_printTerm_0 : decode cX0_printTerm 0 = .ok (.aload_n 0, 1) := dk_42 (dk_at dksX0_printTerm_0 0 rfl rfl)
theorem dX0_printTerm_1 : decode cX0_printTerm 1 = .ok (.getfield 575, 3) := dk_180 2 63 (dk_at dksX0_printTerm_0 1 rfl rfl)
theorem dX0_printTerm_4 : decode cX0_printTerm 4 = .ok (.iload_n 1, 1) := dk_27 (dk_at dksX0_printTerm_0 4 rfl rfl)
theorem dX0_printTerm_5 : decode cX0_printTerm 5 = .ok (.iaload, 1) := dk_46 (dk_at dksX0_printTerm_0 5 rfl rfl)
theorem dX0_printTerm_6 : decode cX0_printTerm 6 = .ok (.istore 4, 2) := dk_54 4 (dk_at dksX0_printTerm_0 6 rfl rfl)
theorem dX0_printTerm_8 : decode cX0_printTerm 8 = .ok (.iload 4, 2) := dk_21 4 (dk_at dksX0_printTerm_0 8 rfl rfl)
theorem dX0_printTerm_10 : decode cX0_printTerm 10 = .ok (.ifCond .ge 35, 3) := dk_156 0 35 (dk_at dksX0_printTerm_0 10 rfl rfl)
theorem dX0_printTerm_13 : decode cX0_printTerm 13 = .ok (.aload_n 0, 1) := dk_42 (dk_at dksX0_printTerm_0 13 rfl rfl)
theorem dX0_printTerm_14 : decode cX0_printTerm 14 = .ok (.aload_n 0, 1) := dk_42 (dk_at dksX0_printTerm_0 14 rfl rfl)
theorem dX0_printTerm_15 : decode cX0_printTerm 15 = .ok (.getfield 500, 3) := dk_180 1 244 (dk_at dksX0_printTerm_0 15 rfl rfl)
theorem dX0_printTerm_18 : decode cX0_printTerm 18 = .ok (.iconst (-1), 1) := dk_2 (dk_at dksX0_printTerm_0 18 rfl rfl)
theorem dX0_printTerm_19 : decode cX0_printTerm 19 = .ok (.iload 4, 2) := dk_21 4 (dk_at dksX0_printTerm_0 19 rfl rfl)
theorem dX0_printTerm_21 : decode cX0_printTerm 21 = .ok (.isub, 1) := dk_100 (dk_at dksX0_printTerm_0 21 rfl rfl)
theorem dX0_printTerm_22 : decode cX0_printTerm 22 = .ok (.bipush 30, 2) := dk_16 30 (dk_at dksX0_printTerm_0 22 rfl rfl)
theorem dX0_printTerm_24 : decode cX0_printTerm 24 = .ok (.irem, 1) := dk_112 (dk_at dksX0_printTerm_1 0 rfl rfl)
theorem dX0_printTerm_25 : decode cX0_printTerm 25 = .ok (.iaload, 1) := dk_46 (dk_at dksX0_printTerm_1 1 rfl rfl)
theorem dX0_printTerm_26 : decode cX0_printTerm 26 = .ok (.invokevirtual 1042, 3) := dk_182 4 18 (dk_at dksX0_printTerm_1 2 rfl rfl)
theorem dX0_printTerm_29 : decode cX0_printTerm 29 = .ok (.iconst (-1), 1) := dk_2 (dk_at dksX0_printTerm_1 5 rfl rfl)
theorem dX0_printTerm_30 : decode cX0_printTerm 30 = .ok (.iload 4, 2) := dk_21 4 (dk_at dksX0_printTerm_1 6 rfl rfl)
theorem dX0_printTerm_32 : decode cX0_printTerm 32 = .ok (.isub, 1) := dk_100 (dk_at dksX0_printTerm_1 8 rfl rfl)
theorem dX0_printTerm_33 : decode cX0_printTerm 33 = .ok (.bipush 30, 2) := dk_16 30 (dk_at dksX0_printTerm_1 9 rfl rfl)
theorem dX0_printTerm_35 : decode cX0_printTerm 35 = .ok (.if_icmp .lt 9, 3) := dk_161 0 9 (dk_at dksX0_printTerm_1 11 rfl rfl)
theorem dX0_printTerm_38 : decode cX0_printTerm 38 = .ok (.aload_n 0, 1) := dk_42 (dk_at dksX0_printTerm_1 14 rfl rfl)
theorem dX0_printTerm_39 : decode cX0_printTerm 39 = .ok (.bipush 39, 2) := dk_16 39 (dk_at dksX0_printTerm_1 15 rfl rfl)
theorem dX0_printTerm_41 : decode cX0_printTerm 41 = .ok (.invokevirtual 1039, 3) := dk_182 4 15 (dk_at dksX0_printTerm_1 17 rfl rfl)
theorem dX0_printTerm_44 : decode cX0_printTerm 44 = .ok (.return_, 1) := dk_177 (dk_at dksX0_printTerm_1 20 rfl rfl)
theorem dX0_printTerm_45 : decode cX0_printTerm 45 = .ok (.aload_n 0, 1) := dk_42 (dk_at dksX0_printTerm_1 21 rfl rfl)
theorem dX0_printTerm_46 : decode cX0_printTerm 46 = .ok (.getfield 482, 3) := dk_180 1 226 (dk_at dksX0_printTerm_2 0 rfl rfl)
theorem dX0_printTerm_49 : decode cX0_printTerm 49 = .ok (.iload 4, 2) := dk_21 4 (dk_at dksX0_printTerm_2 3 rfl rfl)
theorem dX0_printTerm_51 : decode cX0_printTerm 51 = .ok (.iaload, 1) := dk_46 (dk_at dksX0_printTerm_2 5 rfl rfl)
theorem dX0_printTerm_52 : decode cX0_printTerm 52 = .ok (.iload_n 3, 1) := dk_29 (dk_at dksX0_printTerm_2 6 rfl rfl)
theorem dX0_printTerm_53 : decode cX0_printTerm 53 = .ok (.if_icmp .le 7, 3) := dk_164 0 7 (dk_at dksX0_printTerm_2 7 rfl rfl)
theorem dX0_printTerm_56 : decode cX0_printTerm 56 = .ok (.iconst 1, 1) := dk_4 (dk_at dksX0_printTerm_2 10 rfl rfl)
theorem dX0_printTerm_57 : decode cX0_printTerm 57 = .ok (.goto 4, 3) := dk_167 0 4 (dk_at dksX0_printTerm_2 11 rfl rfl)
theorem dX0_printTerm_60 : decode cX0_printTerm 60 = .ok (.iconst 0, 1) := dk_3 (dk_at dksX0_printTerm_2 14 rfl rfl)
theorem dX0_printTerm_61 : decode cX0_printTerm 61 = .ok (.istore 5, 2) := dk_54 5 (dk_at dksX0_printTerm_2 15 rfl rfl)
theorem dX0_printTerm_63 : decode cX0_printTerm 63 = .ok (.iload 5, 2) := dk_21 5 (dk_at dksX0_printTerm_2 17 rfl rfl)
theorem dX0_printTerm_65 : decode cX0_printTerm 65 = .ok (.ifCond .eq 9, 3) := dk_153 0 9 (dk_at dksX0_printTerm_2 19 rfl rfl)
theorem dX0_printTerm_68 : decode cX0_printTerm 68 = .ok (.aload_n 0, 1) := dk_42 (dk_at dksX0_printTerm_2 22 rfl rfl)
theorem dX0_printTerm_69 : decode cX0_printTerm 69 = .ok (.bipush 40, 2) := dk_16 40 (dk_at dksX0_printTerm_3 0 rfl rfl)
theorem dX0_printTerm_71 : decode cX0_printTerm 71 = .ok (.invokevirtual 1045, 3) := dk_182 4 21 (dk_at dksX0_printTerm_3 2 rfl rfl)
theorem dX0_printTerm_74 : decode cX0_printTerm 74 = .ok (.aload_n 0, 1) := dk_42 (dk_at dksX0_printTerm_3 5 rfl rfl)
theorem dX0_printTerm_75 : decode cX0_printTerm 75 = .ok (.getfield 460, 3) := dk_180 1 204 (dk_at dksX0_printTerm_3 6 rfl rfl)
theorem dX0_printTerm_78 : decode cX0_printTerm 78 = .ok (.iload 4, 2) := dk_21 4 (dk_at dksX0_printTerm_3 9 rfl rfl)
theorem dX0_printTerm_80 : decode cX0_printTerm 80 = .ok (.iaload, 1) := dk_46 (dk_at dksX0_printTerm_3 11 rfl rfl)
theorem dX0_printTerm_81 : decode cX0_printTerm 81 = .ok (.istore 6, 2) := dk_54 6 (dk_at dksX0_printTerm_3 12 rfl rfl)
theorem dX0_printTerm_83 : decode cX0_printTerm 83 = .ok (.iconst 0, 1) := dk_3 (dk_at dksX0_printTerm_3 14 rfl rfl)
theorem dX0_printTerm_84 : decode cX0_printTerm 84 = .ok (.istore 7, 2) := dk_54 7 (dk_at dksX0_printTerm_3 15 rfl rfl)
theorem dX0_printTerm_86 : decode cX0_printTerm 86 = .ok (.iconst 0, 1) := dk_3 (dk_at dksX0_printTerm_3 17 rfl rfl)
theorem dX0_printTerm_87 : decode cX0_printTerm 87 = .ok (.istore 8, 2) := dk_54 8 (dk_at dksX0_printTerm_3 18 rfl rfl)
theorem dX0_printTerm_89 : decode cX0_printTerm 89 = .ok (.iload 8, 2) := dk_21 8 (dk_at dksX0_printTerm_3 20 rfl rfl)
theorem dX0_printTerm_91 : decode cX0_printTerm 91 = .ok (.aload_n 0, 1) := dk_42 (dk_at dksX0_printTerm_3 22 rfl rfl)
theorem dX0_printTerm_92 : decode cX0_printTerm 92 = .ok (.getfield 418, 3) := dk_180 1 162 (dk_at dksX0_printTerm_4 0 rfl rfl)
theorem dX0_printTerm_95 : decode cX0_printTerm 95 = .ok (.iload 6, 2) := dk_21 6 (dk_at dksX0_printTerm_4 3 rfl rfl)
theorem dX0_printTerm_97 : decode cX0_printTerm 97 = .ok (.iaload, 1) := dk_46 (dk_at dksX0_printTerm_4 5 rfl rfl)
theorem dX0_printTerm_98 : decode cX0_printTerm 98 = .ok (.if_icmp .ge 135, 3) := dk_162 0 135 (dk_at dksX0_printTerm_4 6 rfl rfl)
theorem dX0_printTerm_101 : decode cX0_printTerm 101 = .ok (.aload_n 0, 1) := dk_42 (dk_at dksX0_printTerm_4 9 rfl rfl)
theorem dX0_printTerm_102 : decode cX0_printTerm 102 = .ok (.getfield 421, 3) := dk_180 1 165 (dk_at dksX0_printTerm_4 10 rfl rfl)
theorem dX0_printTerm_105 : decode cX0_printTerm 105 = .ok (.bipush 12, 2) := dk_16 12 (dk_at dksX0_printTerm_4 13 rfl rfl)
theorem dX0_printTerm_107 : decode cX0_printTerm 107 = .ok (.iload 6, 2) := dk_21 6 (dk_at dksX0_printTerm_4 15 rfl rfl)
theorem dX0_printTerm_109 : decode cX0_printTerm 109 = .ok (.imul, 1) := dk_104 (dk_at dksX0_printTerm_4 17 rfl rfl)
theorem dX0_printTerm_110 : decode cX0_printTerm 110 = .ok (.iload 8, 2) := dk_21 8 (dk_at dksX0_printTerm_4 18 rfl rfl)
theorem dX0_printTerm_112 : decode cX0_printTerm 112 = .ok (.iadd, 1) := dk_96 (dk_at dksX0_printTerm_4 20 rfl rfl)
theorem dX0_printTerm_113 : decode cX0_printTerm 113 = .ok (.iaload, 1) := dk_46 (dk_at dksX0_printTerm_4 21 rfl rfl)
theorem dX0_printTerm_114 : decode cX0_printTerm 114 = .ok (.istore 9, 2) := dk_54 9 (dk_at dksX0_printTerm_4 22 rfl rfl)
theorem dX0_printTerm_116 : decode cX0_printTerm 116 = .ok (.iload 9, 2) := dk_21 9 (dk_at dksX0_printTerm_5 0 rfl rfl)
theorem dX0_printTerm_118 : decode cX0_printTerm 118 = .ok (.iconst (-1), 1) := dk_2 (dk_at dksX0_printTerm_5 2 rfl rfl)
theorem dX0_printTerm_119 : decode cX0_printTerm 119 = .ok (.if_icmp .eq 12, 3) := dk_159 0 12 (dk_at dksX0_printTerm_5 3 rfl rfl)
theorem dX0_printTerm_122 : decode cX0_printTerm 122 = .ok (.aload_n 0, 1) := dk_42 (dk_at dksX0_printTerm_5 6 rfl rfl)
theorem dX0_printTerm_123 : decode cX0_printTerm 123 = .ok (.iload 9, 2) := dk_21 9 (dk_at dksX0_printTerm_5 7 rfl rfl)
theorem dX0_printTerm_125 : decode cX0_printTerm 125 = .ok (.invokevirtual 1042, 3) := dk_182 4 18 (dk_at dksX0_printTerm_5 9 rfl rfl)
theorem dX0_printTerm_128 : decode cX0_printTerm 128 = .ok (.goto 99, 3) := dk_167 0 99 (dk_at dksX0_printTerm_5 12 rfl rfl)
theorem dX0_printTerm_131 : decode cX0_printTerm 131 = .ok (.aload_n 0, 1) := dk_42 (dk_at dksX0_printTerm_5 15 rfl rfl)
theorem dX0_printTerm_132 : decode cX0_printTerm 132 = .ok (.getfield 494, 3) := dk_180 1 238 (dk_at dksX0_printTerm_5 16 rfl rfl)
theorem dX0_printTerm_135 : decode cX0_printTerm 135 = .ok (.iconst 3, 1) := dk_6 (dk_at dksX0_printTerm_5 19 rfl rfl)
theorem dX0_printTerm_136 : decode cX0_printTerm 136 = .ok (.iload 4, 2) := dk_21 4 (dk_at dksX0_printTerm_5 20 rfl rfl)
theorem dX0_printTerm_138 : decode cX0_printTerm 138 = .ok (.imul, 1) := dk_104 (dk_at dksX0_printTerm_5 22 rfl rfl)
theorem dX0_printTerm_139 : decode cX0_printTerm 139 = .ok (.iload 7, 2) := dk_21 7 (dk_at dksX0_printTerm_6 0 rfl rfl)
theorem dX0_printTerm_141 : decode cX0_printTerm 141 = .ok (.iadd, 1) := dk_96 (dk_at dksX0_printTerm_6 2 rfl rfl)
theorem dX0_printTerm_142 : decode cX0_printTerm 142 = .ok (.iaload, 1) := dk_46 (dk_at dksX0_printTerm_6 3 rfl rfl)
theorem dX0_printTerm_143 : decode cX0_printTerm 143 = .ok (.istore 10, 2) := dk_54 10 (dk_at dksX0_printTerm_6 4 rfl rfl)
theorem dX0_printTerm_145 : decode cX0_printTerm 145 = .ok (.aload_n 0, 1) := dk_42 (dk_at dksX0_printTerm_6 6 rfl rfl)
theorem dX0_printTerm_146 : decode cX0_printTerm 146 = .ok (.getfield 485, 3) := dk_180 1 229 (dk_at dksX0_printTerm_6 7 rfl rfl)
theorem dX0_printTerm_149 : decode cX0_printTerm 149 = .ok (.iload 4, 2) := dk_21 4 (dk_at dksX0_printTerm_6 10 rfl rfl)
theorem dX0_printTerm_151 : decode cX0_printTerm 151 = .ok (.baload, 1) := dk_51 (dk_at dksX0_printTerm_6 12 rfl rfl)
theorem dX0_printTerm_152 : decode cX0_printTerm 152 = .ok (.ifCond .eq 26, 3) := dk_153 0 26 (dk_at dksX0_printTerm_6 13 rfl rfl)
theorem dX0_printTerm_155 : decode cX0_printTerm 155 = .ok (.iload 7, 2) := dk_21 7 (dk_at dksX0_printTerm_6 16 rfl rfl)
theorem dX0_printTerm_157 : decode cX0_printTerm 157 = .ok (.ifCond .ne 21, 3) := dk_154 0 21 (dk_at dksX0_printTerm_6 18 rfl rfl)
theorem dX0_printTerm_160 : decode cX0_printTerm 160 = .ok (.iload_n 2, 1) := dk_28 (dk_at dksX0_printTerm_6 21 rfl rfl)
theorem dX0_printTerm_161 : decode cX0_printTerm 161 = .ok (.iconst 2, 1) := dk_5 (dk_at dksX0_printTerm_6 22 rfl rfl)
theorem dX0_printTerm_162 : decode cX0_printTerm 162 = .ok (.if_icmp .le 16, 3) := dk_164 0 16 (dk_at dksX0_printTerm_7 0 rfl rfl)
theorem dX0_printTerm_165 : decode cX0_printTerm 165 = .ok (.aload_n 0, 1) := dk_42 (dk_at dksX0_printTerm_7 3 rfl rfl)
theorem dX0_printTerm_166 : decode cX0_printTerm 166 = .ok (.iload_n 1, 1) := dk_27 (dk_at dksX0_printTerm_7 4 rfl rfl)
theorem dX0_printTerm_167 : decode cX0_printTerm 167 = .ok (.iload_n 2, 1) := dk_28 (dk_at dksX0_printTerm_7 5 rfl rfl)
theorem dX0_printTerm_168 : decode cX0_printTerm 168 = .ok (.iconst 1, 1) := dk_4 (dk_at dksX0_printTerm_7 6 rfl rfl)
theorem dX0_printTerm_169 : decode cX0_printTerm 169 = .ok (.isub, 1) := dk_100 (dk_at dksX0_printTerm_7 7 rfl rfl)
theorem dX0_printTerm_170 : decode cX0_printTerm 170 = .ok (.iload 10, 2) := dk_21 10 (dk_at dksX0_printTerm_7 8 rfl rfl)
theorem dX0_printTerm_172 : decode cX0_printTerm 172 = .ok (.invokevirtual 1048, 3) := dk_182 4 24 (dk_at dksX0_printTerm_7 10 rfl rfl)
theorem dX0_printTerm_175 : decode cX0_printTerm 175 = .ok (.goto 49, 3) := dk_167 0 49 (dk_at dksX0_printTerm_7 13 rfl rfl)
theorem dX0_printTerm_178 : decode cX0_printTerm 178 = .ok (.aload_n 0, 1) := dk_42 (dk_at dksX0_printTerm_7 16 rfl rfl)
theorem dX0_printTerm_179 : decode cX0_printTerm 179 = .ok (.iload_n 1, 1) := dk_27 (dk_at dksX0_printTerm_7 17 rfl rfl)
theorem dX0_printTerm_180 : decode cX0_printTerm 180 = .ok (.aload_n 0, 1) := dk_42 (dk_at dksX0_printTerm_7 18 rfl rfl)
theorem dX0_printTerm_181 : decode cX0_printTerm 181 = .ok (.getfield 485, 3) := dk_180 1 229 (dk_at dksX0_printTerm_7 19 rfl rfl)
theorem dX0_printTerm_184 : decode cX0_printTerm 184 = .ok (.iload 4, 2) := dk_21 4 (dk_at dksX0_printTerm_7 22 rfl rfl)
theorem dX0_printTerm_186 : decode cX0_printTerm 186 = .ok (.baload, 1) := dk_51 (dk_at dksX0_printTerm_8 0 rfl rfl)
theorem dX0_printTerm_187 : decode cX0_printTerm 187 = .ok (.ifCond .eq 15, 3) := dk_153 0 15 (dk_at dksX0_printTerm_8 1 rfl rfl)
theorem dX0_printTerm_190 : decode cX0_printTerm 190 = .ok (.iload 7, 2) := dk_21 7 (dk_at dksX0_printTerm_8 4 rfl rfl)
theorem dX0_printTerm_192 : decode cX0_printTerm 192 = .ok (.iconst 1, 1) := dk_4 (dk_at dksX0_printTerm_8 6 rfl rfl)
theorem dX0_printTerm_193 : decode cX0_printTerm 193 = .ok (.if_icmp .ne 9, 3) := dk_160 0 9 (dk_at dksX0_printTerm_8 7 rfl rfl)
theorem dX0_printTerm_196 : decode cX0_printTerm 196 = .ok (.iload_n 2, 1) := dk_28 (dk_at dksX0_printTerm_8 10 rfl rfl)
theorem dX0_printTerm_197 : decode cX0_printTerm 197 = .ok (.iconst 1, 1) := dk_4 (dk_at dksX0_printTerm_8 11 rfl rfl)
theorem dX0_printTerm_198 : decode cX0_printTerm 198 = .ok (.isub, 1) := dk_100 (dk_at dksX0_printTerm_8 12 rfl rfl)
theorem dX0_printTerm_199 : decode cX0_printTerm 199 = .ok (.goto 5, 3) := dk_167 0 5 (dk_at dksX0_printTerm_8 13 rfl rfl)
theorem dX0_printTerm_202 : decode cX0_printTerm 202 = .ok (.iload 7, 2) := dk_21 7 (dk_at dksX0_printTerm_8 16 rfl rfl)
theorem dX0_printTerm_204 : decode cX0_printTerm 204 = .ok (.invokevirtual 621, 3) := dk_182 2 109 (dk_at dksX0_printTerm_8 18 rfl rfl)
theorem dX0_printTerm_207 : decode cX0_printTerm 207 = .ok (.istore 11, 2) := dk_54 11 (dk_at dksX0_printTerm_8 21 rfl rfl)
theorem dX0_printTerm_209 : decode cX0_printTerm 209 = .ok (.aload_n 0, 1) := dk_42 (dk_at dksX0_printTerm_8 23 rfl rfl)
theorem dX0_printTerm_210 : decode cX0_printTerm 210 = .ok (.iload 11, 2) := dk_21 11 (dk_at dksX0_printTerm_9 0 rfl rfl)
theorem dX0_printTerm_212 : decode cX0_printTerm 212 = .ok (.aload_n 0, 1) := dk_42 (dk_at dksX0_printTerm_9 2 rfl rfl)
theorem dX0_printTerm_213 : decode cX0_printTerm 213 = .ok (.getfield 578, 3) := dk_180 2 66 (dk_at dksX0_printTerm_9 3 rfl rfl)
theorem dX0_printTerm_216 : decode cX0_printTerm 216 = .ok (.iload 11, 2) := dk_21 11 (dk_at dksX0_printTerm_9 6 rfl rfl)
theorem dX0_printTerm_218 : decode cX0_printTerm 218 = .ok (.iaload, 1) := dk_46 (dk_at dksX0_printTerm_9 8 rfl rfl)
theorem dX0_printTerm_219 : decode cX0_printTerm 219 = .ok (.iload 10, 2) := dk_21 10 (dk_at dksX0_printTerm_9 9 rfl rfl)
theorem dX0_printTerm_221 : decode cX0_printTerm 221 = .ok (.invokevirtual 1048, 3) := dk_182 4 24 (dk_at dksX0_printTerm_9 11 rfl rfl)
theorem dX0_printTerm_224 : decode cX0_printTerm 224 = .ok (.iinc 7 1, 3) := dk_132 7 1 (dk_at dksX0_printTerm_9 14 rfl rfl)
theorem dX0_printTerm_227 : decode cX0_printTerm 227 = .ok (.iinc 8 1, 3) := dk_132 8 1 (dk_at dksX0_printTerm_9 17 rfl rfl)
theorem dX0_printTerm_230 : decode cX0_printTerm 230 = .ok (.goto (-141), 3) := dk_167 255 115 (dk_at dksX0_printTerm_9 20 rfl rfl)
theorem dX0_printTerm_233 : decode cX0_printTerm 233 = .ok (.iload 5, 2) := dk_21 5 (dk_at dksX0_printTerm_10 0 rfl rfl)
theorem dX0_printTerm_235 : decode cX0_printTerm 235 = .ok (.ifCond .eq 9, 3) := dk_153 0 9 (dk_at dksX0_printTerm_10 2 rfl rfl)
theorem dX0_printTerm_238 : decode cX0_printTerm 238 = .ok (.aload_n 0, 1) := dk_42 (dk_at dksX0_printTerm_10 5 rfl rfl)
theorem dX0_printTerm_239 : decode cX0_printTerm 239 = .ok (.bipush 41, 2) := dk_16 41 (dk_at dksX0_printTerm_10 6 rfl rfl)
theorem dX0_printTerm_241 : decode cX0_printTerm 241 = .ok (.invokevirtual 1045, 3) := dk_182 4 21 (dk_at dksX0_printTerm_10 8 rfl rfl)
theorem dX0_printTerm_244 : decode cX0_printTerm 244 = .ok (.return_, 1) := dk_177 (dk_at dksX0_printTerm_10 11 rfl rfl)
abbrev cX0_printWord : ByteArray := prog_1_method_160_code
def yX0_printWord : MethodName := ⟨RX0, "printWord", "(I)V"⟩
def dkwX0_printWord_2 : List UInt8 := [177]
abbrev dktX0_printWord_2 : List UInt8 := dkwX0_printWord_2 ++ []
def dkwX0_printWord_1 : List UInt8 := [180, 0, 75, 27, 46, 162, 0, 19, 42, 42, 180, 0, 82, 28, 51, 182, 4, 15, 132, 2, 1, 167, 255, 233]
abbrev dktX0_printWord_1 : List UInt8 := dkwX0_printWord_1 ++ dktX0_printWord_2
def dkwX0_printWord_0 : List UInt8 := [42, 180, 4, 6, 158, 0, 9, 42, 16, 32, 182, 4, 15, 42, 180, 0, 79, 27, 46, 61, 28, 42]
abbrev dktX0_printWord_0 : List UInt8 := dkwX0_printWord_0 ++ dktX0_printWord_1
theorem dksX0_printWord_0 : cX0_printWord.data.toList.drop 0 = dktX0_printWord_0 := by decide +kernel
theorem dksX0_printWord_1 : cX0_printWord.data.toList.drop 22 = dktX0_printWord_1 := dk_seg dksX0_printWord_0 22 rfl rfl
theorem dksX0_printWord_2 : cX0_printWord.data.toList.drop 46 = dktX0_printWord_2 := dk_seg dksX0_printWord_1 24 rfl rfl
theorem dX0_printWord_0 : decode cX0_printWord 0 = .ok (.aload_n 0, 1) := dk_42 (dk_at dksX0_printWord_0 0 rfl rfl)
theorem dX0_printWord_1 : decode cX0_printWord 1 = .ok (.getfield 1030, 3) := dk_180 4 6 (dk_at dksX0_printWord_0 1 rfl rfl)
theorem dX0_printWord_4 : decode cX0_printWord 4 = .ok (.ifCond .le 9, 3) := dk_158 0 9 (dk_at dksX0_printWord_0 4 rfl rfl)
theorem dX0_printWord_7 : decode cX0_printWord 7 = .ok (.aload_n 0, 1) := dk_42 (dk_at dksX0_printWord_0 7 rfl rfl)
theorem dX0_printWord_8 : decode cX0_printWord 8 = .ok (.bipush 32, 2) := dk_16 32 (dk_at dksX0_printWord_0 8 rfl rfl)
theorem dX0_printWord_10 : decode cX0_printWord 10 = .ok (.invokevirtual 1039, 3) := dk_182 4 15 (dk_at dksX0_printWord_0 10 rfl rfl)
theorem dX0_printWord_13 : decode cX0_printWord 13 = .ok (.aload_n 0, 1) := dk_42 (dk_at dksX0_printWord_0 13 rfl rfl)
theorem dX0_printWord_14 : decode cX0_printWord 14 = .ok (.getfield 79, 3) := dk_180 0 79 (dk_at dksX0_printWord_0 14 rfl rfl)
theorem dX0_printWord_17 : decode cX0_printWord 17 = .ok (.iload_n 1, 1) := dk_27 (dk_at dksX0_printWord_0 17 rfl rfl)
theorem dX0_printWord_18 : decode cX0_printWord 18 = .ok (.iaload, 1) := dk_46 (dk_at dksX0_printWord_0 18 rfl rfl)
theorem dX0_printWord_19 : decode cX0_printWord 19 = .ok (.istore_n 2, 1) := dk_61 (dk_at dksX0_printWord_0 19 rfl rfl)
theorem dX0_printWord_20 : decode cX0_printWord 20 = .ok (.iload_n 2, 1) := dk_28 (dk_at dksX0_printWord_0 20 rfl rfl)
theorem dX0_printWord_21 : decode cX0_printWord 21 = .ok (.aload_n 0, 1) := dk_42 (dk_at dksX0_printWord_0 21 rfl rfl)
theorem dX0_printWord_22 : decode cX0_printWord 22 = .ok (.getfield 75, 3) := dk_180 0 75 (dk_at dksX0_printWord_1 0 rfl rfl)
theorem dX0_printWord_25 : decode cX0_printWord 25 = .ok (.iload_n 1, 1) := dk_27 (dk_at dksX0_printWord_1 3 rfl rfl)
theorem dX0_printWord_26 : decode cX0_printWord 26 = .ok (.iaload, 1) := dk_46 (dk_at dksX0_printWord_1 4 rfl rfl)
theorem dX0_printWord_27 : decode cX0_printWord 27 = .ok (.if_icmp .ge 19, 3) := dk_162 0 19 (dk_at dksX0_printWord_1 5 rfl rfl)
theorem dX0_printWord_30 : decode cX0_printWord 30 = .ok (.aload_n 0, 1) := dk_42 (dk_at dksX0_printWord_1 8 rfl rfl)
theorem dX0_printWord_31 : decode cX0_printWord 31 = .ok (.aload_n 0, 1) := dk_42 (dk_at dksX0_printWord_1 9 rfl rfl)
theorem dX0_printWord_32 : decode cX0_printWord 32 = .ok (.getfield 82, 3) := dk_180 0 82 (dk_at dksX0_printWord_1 10 rfl rfl)
theorem dX0_printWord_35 : decode cX0_printWord 35 = .ok (.iload_n 2, 1) := dk_28 (dk_at dksX0_printWord_1 13 rfl rfl)
theorem dX0_printWord_36 : decode cX0_printWord 36 = .ok (.baload, 1) := dk_51 (dk_at dksX0_printWord_1 14 rfl rfl)
theorem dX0_printWord_37 : decode cX0_printWord 37 = .ok (.invokevirtual 1039, 3) := dk_182 4 15 (dk_at dksX0_printWord_1 15 rfl rfl)
theorem dX0_printWord_40 : decode cX0_printWord 40 = .ok (.iinc 2 1, 3) := dk_132 2 1 (dk_at dksX0_printWord_1 18 rfl rfl)
theorem dX0_printWord_43 : decode cX0_printWord 43 = .ok (.goto (-23), 3) := dk_167 255 233 (dk_at dksX0_printWord_1 21 rfl rfl)
theorem dX0_printWord_46 : decode cX0_printWord 46 = .ok (.return_, 1) := dk_177 (dk_at dksX0_printWord_2 0 rfl rfl)
abbrev cX0_printByte : ByteArray := prog_1_method_159_code
def yX0_printByte : MethodName := ⟨RX0, "printByte", "(I)V"⟩
def dkwX0_printByte_1 : List UInt8 := [181, 4, 6, 177]
abbrev dktX0_printByte_1 : List UInt8 := dkwX0_printByte_1 ++ []
def dkwX0_printByte_0 : List UInt8 := [42, 180, 4, 6, 42, 180, 4, 9, 160, 0, 8, 42, 27, 181, 4, 12, 42, 89, 180, 4, 6, 4, 96]
abbrev dktX0_printByte_0 : List UInt8 := dkwX0_printByte_0 ++ dktX0_printByte_1
theorem dksX0_printByte_0 : cX0_printByte.data.toList.drop 0 = dktX0_printByte_0 := by decide +kernel
theorem dksX0_printByte_1 : cX0_printByte.data.toList.drop 23 = dktX0_printByte_1 := dk_seg dksX0_printByte_0 23 rfl rfl
theorem dX0_printByte_0 : decode cX0_printByte 0 = .ok (.aload_n 0, 1) := dk_42 (dk_at dksX0_printByte_0 0 rfl rfl)
theorem dX0_printByte_1 : decode cX0_printByte 1 = .ok (.getfield 1030, 3) := dk_180 4 6 (dk_at dksX0_printByte_0 1 rfl rfl)
theorem dX0_printByte_4 : decode cX0_printByte 4 = .ok (.aload_n 0, 1) := dk_42 (dk_at dksX0_printByte_0 4 rfl rfl)
theorem dX0_printByte_5 : decode cX0_printByte 5 = .ok (.getfield 1033, 3) := dk_180 4 9 (dk_at dksX0_printByte_0 5 rfl rfl)
theorem dX0_printByte_8 : decode cX0_printByte 8 = .ok (.if_icmp .ne 8, 3) := dk_160 0 8 (dk_at dksX0_printByte_0 8 rfl rfl)
theorem dX0_printByte_11 : decode cX0_printByte 11 = .ok (.aload_n 0, 1) := dk_42 (dk_at dksX0_printByte_0 11 rfl rfl)
theorem dX0_printByte_12 : decode cX0_printByte 12 = .ok (.iload_n 1, 1) := dk_27 (dk_at dksX0_printByte_0 12 rfl rfl)
theorem dX0_printByte_13 : decode cX0_printByte 13 = .ok (.putfield 1036, 3) := dk_181 4 12 (dk_at dksX0_printByte_0 13 rfl rfl)
theorem dX0_printByte_16 : decode cX0_printByte 16 = .ok (.aload_n 0, 1) := dk_42 (dk_at dksX0_printByte_0 16 rfl rfl)
theorem dX0_printByte_17 : decode cX0_printByte 17 = .ok (.dup, 1) := dk_89 (dk_at dksX0_printByte_0 17 rfl rfl)
theorem dX0_printByte_18 : decode cX0_printByte 18 = .ok (.getfield 1030, 3) := dk_180 4 6 (dk_at dksX0_printByte_0 18 rfl rfl)
theorem dX0_printByte_21 : decode cX0_printByte 21 = .ok (.iconst 1, 1) := dk_4 (dk_at dksX0_printByte_0 21 rfl rfl)
theorem dX0_printByte_22 : decode cX0_printByte 22 = .ok (.iadd, 1) := dk_96 (dk_at dksX0_printByte_0 22 rfl rfl)
theorem dX0_printByte_23 : decode cX0_printByte 23 = .ok (.putfield 1030, 3) := dk_181 4 6 (dk_at dksX0_printByte_1 0 rfl rfl)
theorem dX0_printByte_26 : decode cX0_printByte 26 = .ok (.return_, 1) := dk_177 (dk_at dksX0_printByte_1 3 rfl rfl)
abbrev cX0_printSign : ByteArray := prog_1_method_161_code
def yX0_printSign : MethodName := ⟨RX0, "printSign", "(I)V"⟩
def dkwX0_printSign_0 : List UInt8 := [42, 180, 4, 6, 158, 0, 9, 42, 16, 32, 182, 4, 15, 42, 27, 182, 4, 15, 177]
abbrev dktX0_printSign_0 : List UInt8 := dkwX0_printSign_0 ++ []
theorem dksX0_printSign_0 : cX0_printSign.data.toList.drop 0 = dktX0_printSign_0 := by decide +kernel
theorem dX0_printSign_0 : decode cX0_printSign 0 = .ok (.aload_n 0, 1) := dk_42 (dk_at dksX0_printSign_0 0 rfl rfl)
theorem dX0_printSign_1 : decode cX0_printSign 1 = .ok (.getfield 1030, 3) := dk_180 4 6 (dk_at dksX0_printSign_0 1 rfl rfl)
theorem dX0_printSign_4 : decode cX0_printSign 4 = .ok (.ifCond .le 9, 3) := dk_158 0 9 (dk_at dksX0_printSign_0 4 rfl rfl)
theorem dX0_printSign_7 : decode cX0_printSign 7 = .ok (.aload_n 0, 1) := dk_42 (dk_at dksX0_printSign_0 7 rfl rfl)
theorem dX0_printSign_8 : decode cX0_printSign 8 = .ok (.bipush 32, 2) := dk_16 32 (dk_at dksX0_printSign_0 8 rfl rfl)
theorem dX0_printSign_10 : decode cX0_printSign 10 = .ok (.invokevirtual 1039, 3) := dk_182 4 15 (dk_at dksX0_printSign_0 10 rfl rfl)
theorem dX0_printSign_13 : decode cX0_printSign 13 = .ok (.aload_n 0, 1) := dk_42 (dk_at dksX0_printSign_0 13 rfl rfl)
theorem dX0_printSign_14 : decode cX0_printSign 14 = .ok (.iload_n 1, 1) := dk_27 (dk_at dksX0_printSign_0 14 rfl rfl)
theorem dX0_printSign_15 : decode cX0_printSign 15 = .ok (.invokevirtual 1039, 3) := dk_182 4 15 (dk_at dksX0_printSign_0 15 rfl rfl)
theorem dX0_printSign_18 : decode cX0_printSign 18 = .ok (.return_, 1) := dk_177 (dk_at dksX0_printSign_0 18 rfl rfl)
abbrev cX0_below : ByteArray := prog_1_method_165_code
def yX0_below : MethodName := ⟨RX0, "below", "(II)I"⟩
def dkwX0_below_1 : List UInt8 := [182, 1, 148, 153, 0, 7, 4, 167, 0, 4, 3, 172]
abbrev dktX0_below_1 : List UInt8 := dkwX0_below_1 ++ []
def dkwX0_below_0 : List UInt8 := [42, 27, 182, 4, 27, 153, 0, 11, 42, 28, 182, 4, 27, 154, 0, 7, 2, 167, 0, 17, 42, 27, 28]
abbrev dktX0_below_0 : List UInt8 := dkwX0_below_0 ++ dktX0_below_1
theorem dksX0_below_0 : cX0_below.data.toList.drop 0 = dktX0_below_0 := by decide +kernel
theorem dksX0_below_1 : cX0_below.data.toList.drop 23 = dktX0_below_1 := dk_seg dksX0_below_0 23 rfl rfl
theorem dX0_below_0 : decode cX0_below 0 = .ok (.aload_n 0, 1) := dk_42 (dk_at dksX0_below_0 0 rfl rfl)
theorem dX0_below_1 : decode cX0_below 1 = .ok (.iload_n 1, 1) := dk_27 (dk_at dksX0_below_0 1 rfl rfl)
theorem dX0_below_2 : decode cX0_below 2 = .ok (.invokevirtual 1051, 3) := dk_182 4 27 (dk_at dksX0_below_0 2 rfl rfl)
theorem dX0_below_5 : decode cX0_below 5 = .ok (.ifCond .eq 11, 3) := dk_153 0 11 (dk_at dksX0_below_0 5 rfl rfl)
theorem dX0_below_8 : decode cX0_below 8 = .ok (.aload_n 0, 1) := dk_42 (dk_at dksX0_below_0 8 rfl rfl)
theorem dX0_below_9 : decode cX0_below 9 = .ok (.iload_n 2, 1) := dk_28 (dk_at dksX0_below_0 9 rfl rfl)
theorem dX0_below_10 : decode cX0_below 10 = .ok (.invokevirtual 1051, 3) := dk_182 4 27 (dk_at dksX0_below_0 10 rfl rfl)
theorem dX0_below_13 : decode cX0_below 13 = .ok (.ifCond .ne 7, 3) := dk_154 0 7 (dk_at dksX0_below_0 13 rfl rfl)
theorem dX0_below_16 : decode cX0_below 16 = .ok (.iconst (-1), 1) := dk_2 (dk_at dksX0_below_0 16 rfl rfl)
theorem dX0_below_17 : decode cX0_below 17 = .ok (.goto 17, 3) := dk_167 0 17 (dk_at dksX0_below_0 17 rfl rfl)
theorem dX0_below_20 : decode cX0_below 20 = .ok (.aload_n 0, 1) := dk_42 (dk_at dksX0_below_0 20 rfl rfl)
theorem dX0_below_21 : decode cX0_below 21 = .ok (.iload_n 1, 1) := dk_27 (dk_at dksX0_below_0 21 rfl rfl)
theorem dX0_below_22 : decode cX0_below 22 = .ok (.iload_n 2, 1) := dk_28 (dk_at dksX0_below_0 22 rfl rfl)
theorem dX0_below_23 : decode cX0_below 23 = .ok (.invokevirtual 404, 3) := dk_182 1 148 (dk_at dksX0_below_1 0 rfl rfl)
theorem dX0_below_26 : decode cX0_below 26 = .ok (.ifCond .eq 7, 3) := dk_153 0 7 (dk_at dksX0_below_1 3 rfl rfl)
theorem dX0_below_29 : decode cX0_below 29 = .ok (.iconst 1, 1) := dk_4 (dk_at dksX0_below_1 6 rfl rfl)
theorem dX0_below_30 : decode cX0_below 30 = .ok (.goto 4, 3) := dk_167 0 4 (dk_at dksX0_below_1 7 rfl rfl)
theorem dX0_below_33 : decode cX0_below 33 = .ok (.iconst 0, 1) := dk_3 (dk_at dksX0_below_1 10 rfl rfl)
theorem dX0_below_34 : decode cX0_below 34 = .ok (.ireturn, 1) := dk_172 (dk_at dksX0_below_1 11 rfl rfl)
abbrev cX0_isSort : ByteArray := prog_1_method_164_code
def yX0_isSort : MethodName := ⟨RX0, "isSort", "(I)Z"⟩
def dkwX0_isSort_0 : List UInt8 := [27, 3, 42, 180, 0, 145, 4, 100, 184, 0, 20, 172]
abbrev dktX0_isSort_0 : List UInt8 := dkwX0_isSort_0 ++ []
theorem dksX0_isSort_0 : cX0_isSort.data.toList.drop 0 = dktX0_isSort_0 := by decide +kernel
theorem dX0_isSort_0 : decode cX0_isSort 0 = .ok (.iload_n 1, 1) := dk_27 (dk_at dksX0_isSort_0 0 rfl rfl)
theorem dX0_isSort_1 : decode cX0_isSort 1 = .ok (.iconst 0, 1) := dk_3 (dk_at dksX0_isSort_0 1 rfl rfl)
theorem dX0_isSort_2 : decode cX0_isSort 2 = .ok (.aload_n 0, 1) := dk_42 (dk_at dksX0_isSort_0 2 rfl rfl)
theorem dX0_isSort_3 : decode cX0_isSort 3 = .ok (.getfield 145, 3) := dk_180 0 145 (dk_at dksX0_isSort_0 3 rfl rfl)
theorem dX0_isSort_6 : decode cX0_isSort 6 = .ok (.iconst 1, 1) := dk_4 (dk_at dksX0_isSort_0 6 rfl rfl)
theorem dX0_isSort_7 : decode cX0_isSort 7 = .ok (.isub, 1) := dk_100 (dk_at dksX0_isSort_0 7 rfl rfl)
theorem dX0_isSort_8 : decode cX0_isSort 8 = .ok (.invokestatic 20, 3) := dk_184 0 20 (dk_at dksX0_isSort_0 8 rfl rfl)
theorem dX0_isSort_11 : decode cX0_isSort 11 = .ok (.ireturn, 1) := dk_172 (dk_at dksX0_isSort_0 11 rfl rfl)
abbrev cX0_kind : ByteArray := prog_1_method_166_code
def yX0_kind : MethodName := ⟨RX0, "kind", "(I)I"⟩
def dkwX0_kind_0 : List UInt8 := [42, 27, 182, 4, 27, 153, 0, 12, 42, 180, 1, 145, 27, 46, 167, 0, 4, 2, 172]
abbrev dktX0_kind_0 : List UInt8 := dkwX0_kind_0 ++ []
theorem dksX0_kind_0 : cX0_kind.data.toList.drop 0 = dktX0_kind_0 := by decide +kernel
theorem dX0_kind_0 : decode cX0_kind 0 = .ok (.aload_n 0, 1) := dk_42 (dk_at dksX0_kind_0 0 rfl rfl)
theorem dX0_kind_1 : decode cX0_kind 1 = .ok (.iload_n 1, 1) := dk_27 (dk_at dksX0_kind_0 1 rfl rfl)
theorem dX0_kind_2 : decode cX0_kind 2 = .ok (.invokevirtual 1051, 3) := dk_182 4 27 (dk_at dksX0_kind_0 2 rfl rfl)
theorem dX0_kind_5 : decode cX0_kind 5 = .ok (.ifCond .eq 12, 3) := dk_153 0 12 (dk_at dksX0_kind_0 5 rfl rfl)
theorem dX0_kind_8 : decode cX0_kind 8 = .ok (.aload_n 0, 1) := dk_42 (dk_at dksX0_kind_0 8 rfl rfl)
theorem dX0_kind_9 : decode cX0_kind 9 = .ok (.getfield 401, 3) := dk_180 1 145 (dk_at dksX0_kind_0 9 rfl rfl)
theorem dX0_kind_12 : decode cX0_kind 12 = .ok (.iload_n 1, 1) := dk_27 (dk_at dksX0_kind_0 12 rfl rfl)
theorem dX0_kind_13 : decode cX0_kind 13 = .ok (.iaload, 1) := dk_46 (dk_at dksX0_kind_0 13 rfl rfl)
theorem dX0_kind_14 : decode cX0_kind 14 = .ok (.goto 4, 3) := dk_167 0 4 (dk_at dksX0_kind_0 14 rfl rfl)
theorem dX0_kind_17 : decode cX0_kind 17 = .ok (.iconst (-1), 1) := dk_2 (dk_at dksX0_kind_0 17 rfl rfl)
theorem dX0_kind_18 : decode cX0_kind 18 = .ok (.ireturn, 1) := dk_172 (dk_at dksX0_kind_0 18 rfl rfl)
abbrev cX0_operator : ByteArray := prog_1_method_167_code
def yX0_operator : MethodName := ⟨RX0, "operator", "(II)I"⟩
def dkwX0_operator_5 : List UInt8 := [27, 46, 172, 42, 27, 182, 4, 30, 172, 42, 180, 1, 223, 27, 46, 172]
abbrev dktX0_operator_5 : List UInt8 := dkwX0_operator_5 ++ []
def dkwX0_operator_4 : List UInt8 := [167, 0, 4, 3, 172, 42, 180, 1, 232, 27, 51, 153, 0, 7, 4, 167, 0, 4, 3, 172, 42, 180, 1, 235]
abbrev dktX0_operator_4 : List UInt8 := dkwX0_operator_4 ++ dktX0_operator_5
def dkwX0_operator_3 : List UInt8 := [42, 180, 1, 220, 27, 46, 172, 42, 180, 1, 226, 27, 46, 172, 42, 180, 1, 229, 27, 51, 153, 0, 7, 4]
abbrev dktX0_operator_3 : List UInt8 := dkwX0_operator_3 ++ dktX0_operator_4
def dkwX0_operator_2 : List UInt8 := [170, 0, 0, 0, 94, 0, 0, 0, 0, 0, 0, 0, 5, 0, 0, 0, 37, 0, 0, 0, 44, 0, 0, 0, 51, 0, 0, 0, 66, 0, 0, 0, 81, 0, 0, 0, 88]
abbrev dktX0_operator_2 : List UInt8 := dkwX0_operator_2 ++ dktX0_operator_3
def dkwX0_operator_1 : List UInt8 := [2, 172, 28]
abbrev dktX0_operator_1 : List UInt8 := dkwX0_operator_1 ++ dktX0_operator_2
def dkwX0_operator_0 : List UInt8 := [27, 3, 42, 180, 0, 166, 4, 100, 184, 0, 20, 153, 0, 13, 28, 3, 16, 6, 184, 0, 20, 154, 0, 5]
abbrev dktX0_operator_0 : List UInt8 := dkwX0_operator_0 ++ dktX0_operator_1
theorem dksX0_operator_0 : cX0_operator.data.toList.drop 0 = dktX0_operator_0 := by decide +kernel
theorem dksX0_operator_1 : cX0_operator.data.toList.drop 24 = dktX0_operator_1 := dk_seg dksX0_operator_0 24 rfl rfl
theorem dksX0_operator_2 : cX0_operator.data.toList.drop 27 = dktX0_operator_2 := dk_seg dksX0_operator_1 3 rfl rfl
theorem dksX0_operator_3 : cX0_operator.data.toList.drop 64 = dktX0_operator_3 := dk_seg dksX0_operator_2 37 rfl rfl
theorem dksX0_operator_4 : cX0_operator.data.toList.drop 88 = dktX0_operator_4 := dk_seg dksX0_operator_3 24 rfl rfl
theorem dksX0_operator_5 : cX0_operator.data.toList.drop 112 = dktX0_operator_5 := dk_seg dksX0_operator_4 24 rfl rfl
theorem dX0_operator_0 : decode cX0_operator 0 = .ok (.iload_n 1, 1) := dk_27 (dk_at dksX0_operator_0 0 rfl rfl)
theorem dX0_operator_1 : decode cX0_operator 1 = .ok (.iconst 0, 1) := dk_3 (dk_at dksX0_operator_0 1 rfl rfl)
theorem dX0_operator_2 : decode cX0_operator 2 = .ok (.aload_n 0, 1) := dk_42 (dk_at dksX0_operator_0 2 rfl rfl)
theorem dX0_operator_3 : decode cX0_operator 3 = .ok (.getfield 166, 3) := dk_180 0 166 (dk_at dksX0_operator_0 3 rfl rfl)
theorem dX0_operator_6 : decode cX0_operator 6 = .ok (.iconst 1, 1) := dk_4 (dk_at dksX0_operator_0 6 rfl rfl)
theorem dX0_operator_7 : decode cX0_operator 7 = .ok (.isub, 1) := dk_100 (dk_at dksX0_operator_0 7 rfl rfl)
theorem dX0_operator_8 : decode cX0_operator 8 = .ok (.invokestatic 20, 3) := dk_184 0 20 (dk_at dksX0_operator_0 8 rfl rfl)
theorem dX0_operator_11 : decode cX0_operator 11 = .ok (.ifCond .eq 13, 3) := dk_153 0 13 (dk_at dksX0_operator_0 11 rfl rfl)
theorem dX0_operator_14 : decode cX0_operator 14 = .ok (.iload_n 2, 1) := dk_28 (dk_at dksX0_operator_0 14 rfl rfl)
theorem dX0_operator_15 : decode cX0_operator 15 = .ok (.iconst 0, 1) := dk_3 (dk_at dksX0_operator_0 15 rfl rfl)
theorem dX0_operator_16 : decode cX0_operator 16 = .ok (.bipush 6, 2) := dk_16 6 (dk_at dksX0_operator_0 16 rfl rfl)
theorem dX0_operator_18 : decode cX0_operator 18 = .ok (.invokestatic 20, 3) := dk_184 0 20 (dk_at dksX0_operator_0 18 rfl rfl)
theorem dX0_operator_21 : decode cX0_operator 21 = .ok (.ifCond .ne 5, 3) := dk_154 0 5 (dk_at dksX0_operator_0 21 rfl rfl)
theorem dX0_operator_24 : decode cX0_operator 24 = .ok (.iconst (-1), 1) := dk_2 (dk_at dksX0_operator_1 0 rfl rfl)
theorem dX0_operator_25 : decode cX0_operator 25 = .ok (.ireturn, 1) := dk_172 (dk_at dksX0_operator_1 1 rfl rfl)
theorem dX0_operator_26 : decode cX0_operator 26 = .ok (.iload_n 2, 1) := dk_28 (dk_at dksX0_operator_1 2 rfl rfl)
theorem dX0_operator_27 : decode cX0_operator 27 = .ok (.tableswitch 94 0 5 #[37, 44, 51, 66, 81, 88], 37) := by decide +kernel
theorem dX0_operator_64 : decode cX0_operator 64 = .ok (.aload_n 0, 1) := dk_42 (dk_at dksX0_operator_3 0 rfl rfl)
theorem dX0_operator_65 : decode cX0_operator 65 = .ok (.getfield 476, 3) := dk_180 1 220 (dk_at dksX0_operator_3 1 rfl rfl)
theorem dX0_operator_68 : decode cX0_operator 68 = .ok (.iload_n 1, 1) := dk_27 (dk_at dksX0_operator_3 4 rfl rfl)
theorem dX0_operator_69 : decode cX0_operator 69 = .ok (.iaload, 1) := dk_46 (dk_at dksX0_operator_3 5 rfl rfl)
theorem dX0_operator_70 : decode cX0_operator 70 = .ok (.ireturn, 1) := dk_172 (dk_at dksX0_operator_3 6 rfl rfl)
theorem dX0_operator_71 : decode cX0_operator 71 = .ok (.aload_n 0, 1) := dk_42 (dk_at dksX0_operator_3 7 rfl rfl)
theorem dX0_operator_72 : decode cX0_operator 72 = .ok (.getfield 482, 3) := dk_180 1 226 (dk_at dksX0_operator_3 8 rfl rfl)
theorem dX0_operator_75 : decode cX0_operator 75 = .ok (.iload_n 1, 1) := dk_27 (dk_at dksX0_operator_3 11 rfl rfl)
theorem dX0_operator_76 : decode cX0_operator 76 = .ok (.iaload, 1) := dk_46 (dk_at dksX0_operator_3 12 rfl rfl)
theorem dX0_operator_77 : decode cX0_operator 77 = .ok (.ireturn, 1) := dk_172 (dk_at dksX0_operator_3 13 rfl rfl)
theorem dX0_operator_78 : decode cX0_operator 78 = .ok (.aload_n 0, 1) := dk_42 (dk_at dksX0_operator_3 14 rfl rfl)
theorem dX0_operator_79 : decode cX0_operator 79 = .ok (.getfield 485, 3) := dk_180 1 229 (dk_at dksX0_operator_3 15 rfl rfl)
theorem dX0_operator_82 : decode cX0_operator 82 = .ok (.iload_n 1, 1) := dk_27 (dk_at dksX0_operator_3 18 rfl rfl)
theorem dX0_operator_83 : decode cX0_operator 83 = .ok (.baload, 1) := dk_51 (dk_at dksX0_operator_3 19 rfl rfl)
theorem dX0_operator_84 : decode cX0_operator 84 = .ok (.ifCond .eq 7, 3) := dk_153 0 7 (dk_at dksX0_operator_3 20 rfl rfl)
theorem dX0_operator_87 : decode cX0_operator 87 = .ok (.iconst 1, 1) := dk_4 (dk_at dksX0_operator_3 23 rfl rfl)
theorem dX0_operator_88 : decode cX0_operator 88 = .ok (.goto 4, 3) := dk_167 0 4 (dk_at dksX0_operator_4 0 rfl rfl)
theorem dX0_operator_91 : decode cX0_operator 91 = .ok (.iconst 0, 1) := dk_3 (dk_at dksX0_operator_4 3 rfl rfl)
theorem dX0_operator_92 : decode cX0_operator 92 = .ok (.ireturn, 1) := dk_172 (dk_at dksX0_operator_4 4 rfl rfl)
theorem dX0_operator_93 : decode cX0_operator 93 = .ok (.aload_n 0, 1) := dk_42 (dk_at dksX0_operator_4 5 rfl rfl)
theorem dX0_operator_94 : decode cX0_operator 94 = .ok (.getfield 488, 3) := dk_180 1 232 (dk_at dksX0_operator_4 6 rfl rfl)
theorem dX0_operator_97 : decode cX0_operator 97 = .ok (.iload_n 1, 1) := dk_27 (dk_at dksX0_operator_4 9 rfl rfl)
theorem dX0_operator_98 : decode cX0_operator 98 = .ok (.baload, 1) := dk_51 (dk_at dksX0_operator_4 10 rfl rfl)
theorem dX0_operator_99 : decode cX0_operator 99 = .ok (.ifCond .eq 7, 3) := dk_153 0 7 (dk_at dksX0_operator_4 11 rfl rfl)
theorem dX0_operator_102 : decode cX0_operator 102 = .ok (.iconst 1, 1) := dk_4 (dk_at dksX0_operator_4 14 rfl rfl)
theorem dX0_operator_103 : decode cX0_operator 103 = .ok (.goto 4, 3) := dk_167 0 4 (dk_at dksX0_operator_4 15 rfl rfl)
theorem dX0_operator_106 : decode cX0_operator 106 = .ok (.iconst 0, 1) := dk_3 (dk_at dksX0_operator_4 18 rfl rfl)
theorem dX0_operator_107 : decode cX0_operator 107 = .ok (.ireturn, 1) := dk_172 (dk_at dksX0_operator_4 19 rfl rfl)
theorem dX0_operator_108 : decode cX0_operator 108 = .ok (.aload_n 0, 1) := dk_42 (dk_at dksX0_operator_4 20 rfl rfl)
theorem dX0_operator_109 : decode cX0_operator 109 = .ok (.getfield 491, 3) := dk_180 1 235 (dk_at dksX0_operator_4 21 rfl rfl)
theorem dX0_operator_112 : decode cX0_operator 112 = .ok (.iload_n 1, 1) := dk_27 (dk_at dksX0_operator_5 0 rfl rfl)
theorem dX0_operator_113 : decode cX0_operator 113 = .ok (.iaload, 1) := dk_46 (dk_at dksX0_operator_5 1 rfl rfl)
theorem dX0_operator_114 : decode cX0_operator 114 = .ok (.ireturn, 1) := dk_172 (dk_at dksX0_operator_5 2 rfl rfl)
theorem dX0_operator_115 : decode cX0_operator 115 = .ok (.aload_n 0, 1) := dk_42 (dk_at dksX0_operator_5 3 rfl rfl)
theorem dX0_operator_116 : decode cX0_operator 116 = .ok (.iload_n 1, 1) := dk_27 (dk_at dksX0_operator_5 4 rfl rfl)
theorem dX0_operator_117 : decode cX0_operator 117 = .ok (.invokevirtual 1054, 3) := dk_182 4 30 (dk_at dksX0_operator_5 5 rfl rfl)
theorem dX0_operator_120 : decode cX0_operator 120 = .ok (.ireturn, 1) := dk_172 (dk_at dksX0_operator_5 8 rfl rfl)
theorem dX0_operator_121 : decode cX0_operator 121 = .ok (.aload_n 0, 1) := dk_42 (dk_at dksX0_operator_5 9 rfl rfl)
theorem dX0_operator_122 : decode cX0_operator 122 = .ok (.getfield 479, 3) := dk_180 1 223 (dk_at dksX0_operator_5 10 rfl rfl)
theorem dX0_operator_125 : decode cX0_operator 125 = .ok (.iload_n 1, 1) := dk_27 (dk_at dksX0_operator_5 13 rfl rfl)
theorem dX0_operator_126 : decode cX0_operator 126 = .ok (.iaload, 1) := dk_46 (dk_at dksX0_operator_5 14 rfl rfl)
theorem dX0_operator_127 : decode cX0_operator 127 = .ok (.ireturn, 1) := dk_172 (dk_at dksX0_operator_5 15 rfl rfl)
abbrev cX0_rowsOf : ByteArray := prog_1_method_168_code
def yX0_rowsOf : MethodName := ⟨RX0, "rowsOf", "(I)I"⟩
def dkwX0_rowsOf_1 : List UInt8 := [167, 0, 4, 3, 96, 61, 132, 3, 1, 167, 255, 227, 28, 172]
abbrev dktX0_rowsOf_1 : List UInt8 := dkwX0_rowsOf_1 ++ []
def dkwX0_rowsOf_0 : List UInt8 := [3, 61, 3, 62, 29, 42, 180, 0, 151, 162, 0, 27, 28, 42, 180, 1, 195, 29, 46, 27, 160, 0, 7, 4]
abbrev dktX0_rowsOf_0 : List UInt8 := dkwX0_rowsOf_0 ++ dktX0_rowsOf_1
theorem dksX0_rowsOf_0 : cX0_rowsOf.data.toList.drop 0 = dktX0_rowsOf_0 := by decide +kernel
theorem dksX0_rowsOf_1 : cX0_rowsOf.data.toList.drop 24 = dktX0_rowsOf_1 := dk_seg dksX0_rowsOf_0 24 rfl rfl
theorem dX0_rowsOf_0 : decode cX0_rowsOf 0 = .ok (.iconst 0, 1) := dk_3 (dk_at dksX0_rowsOf_0 0 rfl rfl)
theorem dX0_rowsOf_1 : decode cX0_rowsOf 1 = .ok (.istore_n 2, 1) := dk_61 (dk_at dksX0_rowsOf_0 1 rfl rfl)
theorem dX0_rowsOf_2 : decode cX0_rowsOf 2 = .ok (.iconst 0, 1) := dk_3 (dk_at dksX0_rowsOf_0 2 rfl rfl)
theorem dX0_rowsOf_3 : decode cX0_rowsOf 3 = .ok (.istore_n 3, 1) := dk_62 (dk_at dksX0_rowsOf_0 3 rfl rfl)
theorem dX0_rowsOf_4 : decode cX0_rowsOf 4 = .ok (.iload_n 3, 1) := dk_29 (dk_at dksX0_rowsOf_0 4 rfl rfl)
theorem dX0_rowsOf_5 : decode cX0_rowsOf 5 = .ok (.aload_n 0, 1) := dk_42 (dk_at dksX0_rowsOf_0 5 rfl rfl)
theorem dX0_rowsOf_6 : decode cX0_rowsOf 6 = .ok (.getfield 151, 3) := dk_180 0 151 (dk_at dksX0_rowsOf_0 6 rfl rfl)
theorem dX0_rowsOf_9 : decode cX0_rowsOf 9 = .ok (.if_icmp .ge 27, 3) := dk_162 0 27 (dk_at dksX0_rowsOf_0 9 rfl rfl)
theorem dX0_rowsOf_12 : decode cX0_rowsOf 12 = .ok (.iload_n 2, 1) := dk_28 (dk_at dksX0_rowsOf_0 12 rfl rfl)
theorem dX0_rowsOf_13 : decode cX0_rowsOf 13 = .ok (.aload_n 0, 1) := dk_42 (dk_at dksX0_rowsOf_0 13 rfl rfl)
theorem dX0_rowsOf_14 : decode cX0_rowsOf 14 = .ok (.getfield 451, 3) := dk_180 1 195 (dk_at dksX0_rowsOf_0 14 rfl rfl)
theorem dX0_rowsOf_17 : decode cX0_rowsOf 17 = .ok (.iload_n 3, 1) := dk_29 (dk_at dksX0_rowsOf_0 17 rfl rfl)
theorem dX0_rowsOf_18 : decode cX0_rowsOf 18 = .ok (.iaload, 1) := dk_46 (dk_at dksX0_rowsOf_0 18 rfl rfl)
theorem dX0_rowsOf_19 : decode cX0_rowsOf 19 = .ok (.iload_n 1, 1) := dk_27 (dk_at dksX0_rowsOf_0 19 rfl rfl)
theorem dX0_rowsOf_20 : decode cX0_rowsOf 20 = .ok (.if_icmp .ne 7, 3) := dk_160 0 7 (dk_at dksX0_rowsOf_0 20 rfl rfl)
theorem dX0_rowsOf_23 : decode cX0_rowsOf 23 = .ok (.iconst 1, 1) := dk_4 (dk_at dksX0_rowsOf_0 23 rfl rfl)
theorem dX0_rowsOf_24 : decode cX0_rowsOf 24 = .ok (.goto 4, 3) := dk_167 0 4 (dk_at dksX0_rowsOf_1 0 rfl rfl)
theorem dX0_rowsOf_27 : decode cX0_rowsOf 27 = .ok (.iconst 0, 1) := dk_3 (dk_at dksX0_rowsOf_1 3 rfl rfl)
theorem dX0_rowsOf_28 : decode cX0_rowsOf 28 = .ok (.iadd, 1) := dk_96 (dk_at dksX0_rowsOf_1 4 rfl rfl)
theorem dX0_rowsOf_29 : decode cX0_rowsOf 29 = .ok (.istore_n 2, 1) := dk_61 (dk_at dksX0_rowsOf_1 5 rfl rfl)
theorem dX0_rowsOf_30 : decode cX0_rowsOf 30 = .ok (.iinc 3 1, 3) := dk_132 3 1 (dk_at dksX0_rowsOf_1 6 rfl rfl)
theorem dX0_rowsOf_33 : decode cX0_rowsOf 33 = .ok (.goto (-29), 3) := dk_167 255 227 (dk_at dksX0_rowsOf_1 9 rfl rfl)
theorem dX0_rowsOf_36 : decode cX0_rowsOf 36 = .ok (.iload_n 2, 1) := dk_28 (dk_at dksX0_rowsOf_1 12 rfl rfl)
theorem dX0_rowsOf_37 : decode cX0_rowsOf 37 = .ok (.ireturn, 1) := dk_172 (dk_at dksX0_rowsOf_1 13 rfl rfl)
abbrev cX0_match : ByteArray := prog_1_method_169_code
def yX0_match : MethodName := ⟨RX0, "match", "(IIZ)I"⟩
def dkwX0_match_4 : List UInt8 := [181, 0, 181, 42, 21, 6, 181, 0, 184, 21, 6, 172, 58, 6, 42, 25, 6, 182, 4, 39, 172]
abbrev dktX0_match_4 : List UInt8 := dkwX0_match_4 ++ []
def dkwX0_match_3 : List UInt8 := [182, 2, 160, 42, 21, 5, 42, 180, 4, 33, 16, 80, 182, 2, 160, 42, 29, 181, 4, 36, 42, 3]
abbrev dktX0_match_3 : List UInt8 := dkwX0_match_3 ++ dktX0_match_4
def dkwX0_match_2 : List UInt8 := [159, 0, 5, 2, 172, 42, 21, 4, 21, 5, 29, 182, 3, 173, 54, 6, 42, 21, 4, 42, 180, 4, 33, 3]
abbrev dktX0_match_2 : List UInt8 := dkwX0_match_2 ++ dktX0_match_3
def dkwX0_match_1 : List UInt8 := [182, 4, 3, 54, 4, 42, 28, 182, 4, 3, 54, 5, 42, 21, 4, 182, 2, 189, 42, 21, 5, 182, 2, 189]
abbrev dktX0_match_1 : List UInt8 := dkwX0_match_1 ++ dktX0_match_2
def dkwX0_match_0 : List UInt8 := [42, 27, 182, 4, 0, 153, 0, 11, 42, 28, 182, 4, 0, 154, 0, 5, 2, 172, 42, 182, 3, 247, 42, 27]
abbrev dktX0_match_0 : List UInt8 := dkwX0_match_0 ++ dktX0_match_1
theorem dksX0_match_0 : cX0_match.data.toList.drop 0 = dktX0_match_0 := by decide +kernel
theorem dksX0_match_1 : cX0_match.data.toList.drop 24 = dktX0_match_1 := dk_seg dksX0_match_0 24 rfl rfl
theorem dksX0_match_2 : cX0_match.data.toList.drop 48 = dktX0_match_2 := dk_seg dksX0_match_1 24 rfl rfl
theorem dksX0_match_3 : cX0_match.data.toList.drop 72 = dktX0_match_3 := dk_seg dksX0_match_2 24 rfl rfl
theorem dksX0_match_4 : cX0_match.data.toList.drop 94 = dktX0_match_4 := dk_seg dksX0_match_3 22 rfl rfl
theorem dX0_match_0 : decode cX0_match 0 = .ok (.aload_n 0, 1) := dk_42 (dk_at dksX0_match_0 0 rfl rfl)
theorem dX0_match_1 : decode cX0_match 1 = .ok (.iload_n 1, 1) := dk_27 (dk_at dksX0_match_0 1 rfl rfl)
theorem dX0_match_2 : decode cX0_match 2 = .ok (.invokevirtual 1024, 3) := dk_182 4 0 (dk_at dksX0_match_0 2 rfl rfl)
theorem dX0_match_5 : decode cX0_match 5 = .ok (.ifCond .eq 11, 3) := dk_153 0 11 (dk_at dksX0_match_0 5 rfl rfl)
theorem dX0_match_8 : decode cX0_match 8 = .ok (.aload_n 0, 1) := dk_42 (dk_at dksX0_match_0 8 rfl rfl)
theorem dX0_match_9 : decode cX0_match 9 = .ok (.iload_n 2, 1) := dk_28 (dk_at dksX0_match_0 9 rfl rfl)
theorem dX0_match_10 : decode cX0_match 10 = .ok (.invokevirtual 1024, 3) := dk_182 4 0 (dk_at dksX0_match_0 10 rfl rfl)
theorem dX0_match_13 : decode cX0_match 13 = .ok (.ifCond .ne 5, 3) := dk_154 0 5 (dk_at dksX0_match_0 13 rfl rfl)
theorem dX0_match_16 : decode cX0_match 16 = .ok (.iconst (-1), 1) := dk_2 (dk_at dksX0_match_0 16 rfl rfl)
theorem dX0_match_17 : decode cX0_match 17 = .ok (.ireturn, 1) := dk_172 (dk_at dksX0_match_0 17 rfl rfl)
theorem dX0_match_18 : decode cX0_match 18 = .ok (.aload_n 0, 1) := dk_42 (dk_at dksX0_match_0 18 rfl rfl)
theorem dX0_match_19 : decode cX0_match 19 = .ok (.invokevirtual 1015, 3) := dk_182 3 247 (dk_at dksX0_match_0 19 rfl rfl)
theorem dX0_match_22 : decode cX0_match 22 = .ok (.aload_n 0, 1) := dk_42 (dk_at dksX0_match_0 22 rfl rfl)
theorem dX0_match_23 : decode cX0_match 23 = .ok (.iload_n 1, 1) := dk_27 (dk_at dksX0_match_0 23 rfl rfl)
theorem dX0_match_24 : decode cX0_match 24 = .ok (.invokevirtual 1027, 3) := dk_182 4 3 (dk_at dksX0_match_1 0 rfl rfl)
theorem dX0_match_27 : decode cX0_match 27 = .ok (.istore 4, 2) := dk_54 4 (dk_at dksX0_match_1 3 rfl rfl)
theorem dX0_match_29 : decode cX0_match 29 = .ok (.aload_n 0, 1) := dk_42 (dk_at dksX0_match_1 5 rfl rfl)
theorem dX0_match_30 : decode cX0_match 30 = .ok (.iload_n 2, 1) := dk_28 (dk_at dksX0_match_1 6 rfl rfl)
theorem dX0_match_31 : decode cX0_match 31 = .ok (.invokevirtual 1027, 3) := dk_182 4 3 (dk_at dksX0_match_1 7 rfl rfl)
theorem dX0_match_34 : decode cX0_match 34 = .ok (.istore 5, 2) := dk_54 5 (dk_at dksX0_match_1 10 rfl rfl)
theorem dX0_match_36 : decode cX0_match 36 = .ok (.aload_n 0, 1) := dk_42 (dk_at dksX0_match_1 12 rfl rfl)
theorem dX0_match_37 : decode cX0_match 37 = .ok (.iload 4, 2) := dk_21 4 (dk_at dksX0_match_1 13 rfl rfl)
theorem dX0_match_39 : decode cX0_match 39 = .ok (.invokevirtual 701, 3) := dk_182 2 189 (dk_at dksX0_match_1 15 rfl rfl)
theorem dX0_match_42 : decode cX0_match 42 = .ok (.aload_n 0, 1) := dk_42 (dk_at dksX0_match_1 18 rfl rfl)
theorem dX0_match_43 : decode cX0_match 43 = .ok (.iload 5, 2) := dk_21 5 (dk_at dksX0_match_1 19 rfl rfl)
theorem dX0_match_45 : decode cX0_match 45 = .ok (.invokevirtual 701, 3) := dk_182 2 189 (dk_at dksX0_match_1 21 rfl rfl)
theorem dX0_match_48 : decode cX0_match 48 = .ok (.if_icmp .eq 5, 3) := dk_159 0 5 (dk_at dksX0_match_2 0 rfl rfl)
theorem dX0_match_51 : decode cX0_match 51 = .ok (.iconst (-1), 1) := dk_2 (dk_at dksX0_match_2 3 rfl rfl)
theorem dX0_match_52 : decode cX0_match 52 = .ok (.ireturn, 1) := dk_172 (dk_at dksX0_match_2 4 rfl rfl)
theorem dX0_match_53 : decode cX0_match 53 = .ok (.aload_n 0, 1) := dk_42 (dk_at dksX0_match_2 5 rfl rfl)
theorem dX0_match_54 : decode cX0_match 54 = .ok (.iload 4, 2) := dk_21 4 (dk_at dksX0_match_2 6 rfl rfl)
theorem dX0_match_56 : decode cX0_match 56 = .ok (.iload 5, 2) := dk_21 5 (dk_at dksX0_match_2 8 rfl rfl)
theorem dX0_match_58 : decode cX0_match 58 = .ok (.iload_n 3, 1) := dk_29 (dk_at dksX0_match_2 10 rfl rfl)
theorem dX0_match_59 : decode cX0_match 59 = .ok (.invokevirtual 941, 3) := dk_182 3 173 (dk_at dksX0_match_2 11 rfl rfl)
theorem dX0_match_62 : decode cX0_match 62 = .ok (.istore 6, 2) := dk_54 6 (dk_at dksX0_match_2 14 rfl rfl)
theorem dX0_match_64 : decode cX0_match 64 = .ok (.aload_n 0, 1) := dk_42 (dk_at dksX0_match_2 16 rfl rfl)
theorem dX0_match_65 : decode cX0_match 65 = .ok (.iload 4, 2) := dk_21 4 (dk_at dksX0_match_2 17 rfl rfl)
theorem dX0_match_67 : decode cX0_match 67 = .ok (.aload_n 0, 1) := dk_42 (dk_at dksX0_match_2 19 rfl rfl)
theorem dX0_match_68 : decode cX0_match 68 = .ok (.getfield 1057, 3) := dk_180 4 33 (dk_at dksX0_match_2 20 rfl rfl)
theorem dX0_match_71 : decode cX0_match 71 = .ok (.iconst 0, 1) := dk_3 (dk_at dksX0_match_2 23 rfl rfl)
theorem dX0_match_72 : decode cX0_match 72 = .ok (.invokevirtual 672, 3) := dk_182 2 160 (dk_at dksX0_match_3 0 rfl rfl)
theorem dX0_match_75 : decode cX0_match 75 = .ok (.aload_n 0, 1) := dk_42 (dk_at dksX0_match_3 3 rfl rfl)
theorem dX0_match_76 : decode cX0_match 76 = .ok (.iload 5, 2) := dk_21 5 (dk_at dksX0_match_3 4 rfl rfl)
theorem dX0_match_78 : decode cX0_match 78 = .ok (.aload_n 0, 1) := dk_42 (dk_at dksX0_match_3 6 rfl rfl)
theorem dX0_match_79 : decode cX0_match 79 = .ok (.getfield 1057, 3) := dk_180 4 33 (dk_at dksX0_match_3 7 rfl rfl)
theorem dX0_match_82 : decode cX0_match 82 = .ok (.bipush 80, 2) := dk_16 80 (dk_at dksX0_match_3 10 rfl rfl)
theorem dX0_match_84 : decode cX0_match 84 = .ok (.invokevirtual 672, 3) := dk_182 2 160 (dk_at dksX0_match_3 12 rfl rfl)
theorem dX0_match_87 : decode cX0_match 87 = .ok (.aload_n 0, 1) := dk_42 (dk_at dksX0_match_3 15 rfl rfl)
theorem dX0_match_88 : decode cX0_match 88 = .ok (.iload_n 3, 1) := dk_29 (dk_at dksX0_match_3 16 rfl rfl)
theorem dX0_match_89 : decode cX0_match 89 = .ok (.putfield 1060, 3) := dk_181 4 36 (dk_at dksX0_match_3 17 rfl rfl)
theorem dX0_match_92 : decode cX0_match 92 = .ok (.aload_n 0, 1) := dk_42 (dk_at dksX0_match_3 20 rfl rfl)
theorem dX0_match_93 : decode cX0_match 93 = .ok (.iconst 0, 1) := dk_3 (dk_at dksX0_match_3 21 rfl rfl)
theorem dX0_match_94 : decode cX0_match 94 = .ok (.putfield 181, 3) := dk_181 0 181 (dk_at dksX0_match_4 0 rfl rfl)
theorem dX0_match_97 : decode cX0_match 97 = .ok (.aload_n 0, 1) := dk_42 (dk_at dksX0_match_4 3 rfl rfl)
theorem dX0_match_98 : decode cX0_match 98 = .ok (.iload 6, 2) := dk_21 6 (dk_at dksX0_match_4 4 rfl rfl)
theorem dX0_match_100 : decode cX0_match 100 = .ok (.putfield 184, 3) := dk_181 0 184 (dk_at dksX0_match_4 6 rfl rfl)
theorem dX0_match_103 : decode cX0_match 103 = .ok (.iload 6, 2) := dk_21 6 (dk_at dksX0_match_4 9 rfl rfl)
theorem dX0_match_105 : decode cX0_match 105 = .ok (.ireturn, 1) := dk_172 (dk_at dksX0_match_4 11 rfl rfl)
theorem dX0_match_106 : decode cX0_match 106 = .ok (.astore 6, 2) := dk_58 6 (dk_at dksX0_match_4 12 rfl rfl)
theorem dX0_match_108 : decode cX0_match 108 = .ok (.aload_n 0, 1) := dk_42 (dk_at dksX0_match_4 14 rfl rfl)
theorem dX0_match_109 : decode cX0_match 109 = .ok (.aload 6, 2) := dk_25 6 (dk_at dksX0_match_4 15 rfl rfl)
theorem dX0_match_111 : decode cX0_match 111 = .ok (.invokevirtual 1063, 3) := dk_182 4 39 (dk_at dksX0_match_4 17 rfl rfl)
theorem dX0_match_114 : decode cX0_match 114 = .ok (.ireturn, 1) := dk_172 (dk_at dksX0_match_4 20 rfl rfl)
abbrev cX0_matchers : ByteArray := prog_1_method_121_code
def yX0_matchers : MethodName := ⟨RX0, "matchers", "(IIZ)I"⟩
def dkwX0_matchers_8 : List UInt8 := [182, 2, 83, 191, 42, 180, 3, 81, 172]
abbrev dktX0_matchers_8 : List UInt8 := dkwX0_matchers_8 ++ []
def dkwX0_matchers_7 : List UInt8 := [89, 180, 3, 121, 42, 180, 3, 81, 96, 181, 3, 121, 42, 180, 3, 121, 17, 23, 112, 164, 0, 9, 42, 7]
abbrev dktX0_matchers_7 : List UInt8 := dkwX0_matchers_7 ++ dktX0_matchers_8
def dkwX0_matchers_6 : List UInt8 := [21, 4, 182, 3, 118, 167, 0, 13, 42, 27, 28, 182, 3, 33, 42, 182, 3, 36, 42, 3, 181, 3, 11, 42]
abbrev dktX0_matchers_6 : List UInt8 := dkwX0_matchers_6 ++ dktX0_matchers_7
def dkwX0_matchers_5 : List UInt8 := [42, 180, 1, 232, 21, 4, 51, 153, 0, 14, 42, 27, 28, 21, 4, 182, 3, 115, 167, 0, 24, 42, 27, 28]
abbrev dktX0_matchers_5 : List UInt8 := dkwX0_matchers_5 ++ dktX0_matchers_6
def dkwX0_matchers_4 : List UInt8 := [155, 0, 56, 42, 180, 1, 229, 21, 4, 51, 153, 0, 46, 42, 180, 2, 63, 28, 46, 21, 4, 160, 0, 35]
abbrev dktX0_matchers_4 : List UInt8 := dkwX0_matchers_4 ++ dktX0_matchers_5
def dkwX0_matchers_3 : List UInt8 := [181, 3, 90, 42, 180, 2, 63, 27, 46, 54, 4, 42, 21, 4, 181, 3, 99, 29, 153, 0, 61, 21, 4]
abbrev dktX0_matchers_3 : List UInt8 := dkwX0_matchers_3 ++ dktX0_matchers_4
def dkwX0_matchers_2 : List UInt8 := [42, 7, 182, 2, 83, 191, 42, 3, 181, 3, 81, 42, 3, 181, 3, 11, 42, 3, 181, 3, 87, 42, 3]
abbrev dktX0_matchers_2 : List UInt8 := dkwX0_matchers_2 ++ dktX0_matchers_3
def dkwX0_matchers_1 : List UInt8 := [27, 28, 182, 3, 4, 184, 3, 1, 97, 181, 3, 108, 42, 180, 3, 108, 42, 180, 3, 112, 148, 158, 0, 9]
abbrev dktX0_matchers_1 : List UInt8 := dkwX0_matchers_1 ++ dktX0_matchers_2
def dkwX0_matchers_0 : List UInt8 := [42, 27, 28, 182, 2, 243, 153, 0, 9, 42, 6, 182, 2, 83, 191, 42, 89, 180, 3, 108, 20, 2, 255, 42]
abbrev dktX0_matchers_0 : List UInt8 := dkwX0_matchers_0 ++ dktX0_matchers_1
theorem dksX0_matchers_0 : cX0_matchers.data.toList.drop 0 = dktX0_matchers_0 := by decide +kernel
theorem dksX0_matchers_1 : cX0_matchers.data.toList.drop 24 = dktX0_matchers_1 := dk_seg dksX0_matchers_0 24 rfl rfl
theorem dksX0_matchers_2 : cX0_matchers.data.toList.drop 48 = dktX0_matchers_2 := dk_seg dksX0_matchers_1 24 rfl rfl
theorem dksX0_matchers_3 : cX0_matchers.data.toList.drop 71 = dktX0_matchers_3 := dk_seg dksX0_matchers_2 23 rfl rfl
theorem dksX0_matchers_4 : cX0_matchers.data.toList.drop 94 = dktX0_matchers_4 := dk_seg dksX0_matchers_3 23 rfl rfl
theorem dksX0_matchers_5 : cX0_matchers.data.toList.drop 118 = dktX0_matchers_5 := dk_seg dksX0_matchers_4 24 rfl rfl
theorem dksX0_matchers_6 : cX0_matchers.data.toList.drop 142 = dktX0_matchers_6 := dk_seg dksX0_matchers_5 24 rfl rfl
theorem dksX0_matchers_7 : cX0_matchers.data.toList.drop 166 = dktX0_matchers_7 := dk_seg dksX0_matchers_6 24 rfl rfl
theorem dksX0_matchers_8 : cX0_matchers.data.toList.drop 190 = dktX0_matchers_8 := dk_seg dksX0_matchers_7 24 rfl rfl
theorem dX0_matchers_0 : decode cX0_matchers 0 = .ok (.aload_n 0, 1) := dk_42 (dk_at dksX0_matchers_0 0 rfl rfl)
theorem dX0_matchers_1 : decode cX0_matchers 1 = .ok (.iload_n 1, 1) := dk_27 (dk_at dksX0_matchers_0 1 rfl rfl)
theorem dX0_matchers_2 : decode cX0_matchers 2 = .ok (.iload_n 2, 1) := dk_28 (dk_at dksX0_matchers_0 2 rfl rfl)
theorem dX0_matchers_3 : decode cX0_matchers 3 = .ok (.invokevirtual 755, 3) := dk_182 2 243 (dk_at dksX0_matchers_0 3 rfl rfl)
theorem dX0_matchers_6 : decode cX0_matchers 6 = .ok (.ifCond .eq 9, 3) := dk_153 0 9 (dk_at dksX0_matchers_0 6 rfl rfl)
theorem dX0_matchers_9 : decode cX0_matchers 9 = .ok (.aload_n 0, 1) := dk_42 (dk_at dksX0_matchers_0 9 rfl rfl)
theorem dX0_matchers_10 : decode cX0_matchers 10 = .ok (.iconst 3, 1) := dk_6 (dk_at dksX0_matchers_0 10 rfl rfl)
theorem dX0_matchers_11 : decode cX0_matchers 11 = .ok (.invokevirtual 595, 3) := dk_182 2 83 (dk_at dksX0_matchers_0 11 rfl rfl)
theorem dX0_matchers_14 : decode cX0_matchers 14 = .ok (.athrow, 1) := dk_191 (dk_at dksX0_matchers_0 14 rfl rfl)
theorem dX0_matchers_15 : decode cX0_matchers 15 = .ok (.aload_n 0, 1) := dk_42 (dk_at dksX0_matchers_0 15 rfl rfl)
theorem dX0_matchers_16 : decode cX0_matchers 16 = .ok (.dup, 1) := dk_89 (dk_at dksX0_matchers_0 16 rfl rfl)
theorem dX0_matchers_17 : decode cX0_matchers 17 = .ok (.getfield 876, 3) := dk_180 3 108 (dk_at dksX0_matchers_0 17 rfl rfl)
theorem dX0_matchers_20 : decode cX0_matchers 20 = .ok (.ldc2_w 767, 3) := dk_20 2 255 (dk_at dksX0_matchers_0 20 rfl rfl)
theorem dX0_matchers_23 : decode cX0_matchers 23 = .ok (.aload_n 0, 1) := dk_42 (dk_at dksX0_matchers_0 23 rfl rfl)
theorem dX0_matchers_24 : decode cX0_matchers 24 = .ok (.iload_n 1, 1) := dk_27 (dk_at dksX0_matchers_1 0 rfl rfl)
theorem dX0_matchers_25 : decode cX0_matchers 25 = .ok (.iload_n 2, 1) := dk_28 (dk_at dksX0_matchers_1 1 rfl rfl)
theorem dX0_matchers_26 : decode cX0_matchers 26 = .ok (.invokevirtual 772, 3) := dk_182 3 4 (dk_at dksX0_matchers_1 2 rfl rfl)
theorem dX0_matchers_29 : decode cX0_matchers 29 = .ok (.invokestatic 769, 3) := dk_184 3 1 (dk_at dksX0_matchers_1 5 rfl rfl)
theorem dX0_matchers_32 : decode cX0_matchers 32 = .ok (.ladd, 1) := dk_97 (dk_at dksX0_matchers_1 8 rfl rfl)
theorem dX0_matchers_33 : decode cX0_matchers 33 = .ok (.putfield 876, 3) := dk_181 3 108 (dk_at dksX0_matchers_1 9 rfl rfl)
theorem dX0_matchers_36 : decode cX0_matchers 36 = .ok (.aload_n 0, 1) := dk_42 (dk_at dksX0_matchers_1 12 rfl rfl)
theorem dX0_matchers_37 : decode cX0_matchers 37 = .ok (.getfield 876, 3) := dk_180 3 108 (dk_at dksX0_matchers_1 13 rfl rfl)
theorem dX0_matchers_40 : decode cX0_matchers 40 = .ok (.aload_n 0, 1) := dk_42 (dk_at dksX0_matchers_1 16 rfl rfl)
theorem dX0_matchers_41 : decode cX0_matchers 41 = .ok (.getfield 880, 3) := dk_180 3 112 (dk_at dksX0_matchers_1 17 rfl rfl)
theorem dX0_matchers_44 : decode cX0_matchers 44 = .ok (.lcmp, 1) := dk_148 (dk_at dksX0_matchers_1 20 rfl rfl)
theorem dX0_matchers_45 : decode cX0_matchers 45 = .ok (.ifCond .le 9, 3) := dk_158 0 9 (dk_at dksX0_matchers_1 21 rfl rfl)
theorem dX0_matchers_48 : decode cX0_matchers 48 = .ok (.aload_n 0, 1) := dk_42 (dk_at dksX0_matchers_2 0 rfl rfl)
theorem dX0_matchers_49 : decode cX0_matchers 49 = .ok (.iconst 4, 1) := dk_7 (dk_at dksX0_matchers_2 1 rfl rfl)
theorem dX0_matchers_50 : decode cX0_matchers 50 = .ok (.invokevirtual 595, 3) := dk_182 2 83 (dk_at dksX0_matchers_2 2 rfl rfl)
theorem dX0_matchers_53 : decode cX0_matchers 53 = .ok (.athrow, 1) := dk_191 (dk_at dksX0_matchers_2 5 rfl rfl)
theorem dX0_matchers_54 : decode cX0_matchers 54 = .ok (.aload_n 0, 1) := dk_42 (dk_at dksX0_matchers_2 6 rfl rfl)
theorem dX0_matchers_55 : decode cX0_matchers 55 = .ok (.iconst 0, 1) := dk_3 (dk_at dksX0_matchers_2 7 rfl rfl)
theorem dX0_matchers_56 : decode cX0_matchers 56 = .ok (.putfield 849, 3) := dk_181 3 81 (dk_at dksX0_matchers_2 8 rfl rfl)
theorem dX0_matchers_59 : decode cX0_matchers 59 = .ok (.aload_n 0, 1) := dk_42 (dk_at dksX0_matchers_2 11 rfl rfl)
theorem dX0_matchers_60 : decode cX0_matchers 60 = .ok (.iconst 0, 1) := dk_3 (dk_at dksX0_matchers_2 12 rfl rfl)
theorem dX0_matchers_61 : decode cX0_matchers 61 = .ok (.putfield 779, 3) := dk_181 3 11 (dk_at dksX0_matchers_2 13 rfl rfl)
theorem dX0_matchers_64 : decode cX0_matchers 64 = .ok (.aload_n 0, 1) := dk_42 (dk_at dksX0_matchers_2 16 rfl rfl)
theorem dX0_matchers_65 : decode cX0_matchers 65 = .ok (.iconst 0, 1) := dk_3 (dk_at dksX0_matchers_2 17 rfl rfl)
theorem dX0_matchers_66 : decode cX0_matchers 66 = .ok (.putfield 855, 3) := dk_181 3 87 (dk_at dksX0_matchers_2 18 rfl rfl)
theorem dX0_matchers_69 : decode cX0_matchers 69 = .ok (.aload_n 0, 1) := dk_42 (dk_at dksX0_matchers_2 21 rfl rfl)
theorem dX0_matchers_70 : decode cX0_matchers 70 = .ok (.iconst 0, 1) := dk_3 (dk_at dksX0_matchers_2 22 rfl rfl)
theorem dX0_matchers_71 : decode cX0_matchers 71 = .ok (.putfield 858, 3) := dk_181 3 90 (dk_at dksX0_matchers_3 0 rfl rfl)
theorem dX0_matchers_74 : decode cX0_matchers 74 = .ok (.aload_n 0, 1) := dk_42 (dk_at dksX0_matchers_3 3 rfl rfl)
theorem dX0_matchers_75 : decode cX0_matchers 75 = .ok (.getfield 575, 3) := dk_180 2 63 (dk_at dksX0_matchers_3 4 rfl rfl)
theorem dX0_matchers_78 : decode cX0_matchers 78 = .ok (.iload_n 1, 1) := dk_27 (dk_at dksX0_matchers_3 7 rfl rfl)
theorem dX0_matchers_79 : decode cX0_matchers 79 = .ok (.iaload, 1) := dk_46 (dk_at dksX0_matchers_3 8 rfl rfl)
theorem dX0_matchers_80 : decode cX0_matchers 80 = .ok (.istore 4, 2) := dk_54 4 (dk_at dksX0_matchers_3 9 rfl rfl)
theorem dX0_matchers_82 : decode cX0_matchers 82 = .ok (.aload_n 0, 1) := dk_42 (dk_at dksX0_matchers_3 11 rfl rfl)
theorem dX0_matchers_83 : decode cX0_matchers 83 = .ok (.iload 4, 2) := dk_21 4 (dk_at dksX0_matchers_3 12 rfl rfl)
theorem dX0_matchers_85 : decode cX0_matchers 85 = .ok (.putfield 867, 3) := dk_181 3 99 (dk_at dksX0_matchers_3 14 rfl rfl)
theorem dX0_matchers_88 : decode cX0_matchers 88 = .ok (.iload_n 3, 1) := dk_29 (dk_at dksX0_matchers_3 17 rfl rfl)
theorem dX0_matchers_89 : decode cX0_matchers 89 = .ok (.ifCond .eq 61, 3) := dk_153 0 61 (dk_at dksX0_matchers_3 18 rfl rfl)
theorem dX0_matchers_92 : decode cX0_matchers 92 = .ok (.iload 4, 2) := dk_21 4 (dk_at dksX0_matchers_3 21 rfl rfl)
theorem dX0_matchers_94 : decode cX0_matchers 94 = .ok (.ifCond .lt 56, 3) := dk_155 0 56 (dk_at dksX0_matchers_4 0 rfl rfl)
theorem dX0_matchers_97 : decode cX0_matchers 97 = .ok (.aload_n 0, 1) := dk_42 (dk_at dksX0_matchers_4 3 rfl rfl)
theorem dX0_matchers_98 : decode cX0_matchers 98 = .ok (.getfield 485, 3) := dk_180 1 229 (dk_at dksX0_matchers_4 4 rfl rfl)
theorem dX0_matchers_101 : decode cX0_matchers 101 = .ok (.iload 4, 2) := dk_21 4 (dk_at dksX0_matchers_4 7 rfl rfl)
theorem dX0_matchers_103 : decode cX0_matchers 103 = .ok (.baload, 1) := dk_51 (dk_at dksX0_matchers_4 9 rfl rfl)
theorem dX0_matchers_104 : decode cX0_matchers 104 = .ok (.ifCond .eq 46, 3) := dk_153 0 46 (dk_at dksX0_matchers_4 10 rfl rfl)
theorem dX0_matchers_107 : decode cX0_matchers 107 = .ok (.aload_n 0, 1) := dk_42 (dk_at dksX0_matchers_4 13 rfl rfl)
theorem dX0_matchers_108 : decode cX0_matchers 108 = .ok (.getfield 575, 3) := dk_180 2 63 (dk_at dksX0_matchers_4 14 rfl rfl)
theorem dX0_matchers_111 : decode cX0_matchers 111 = .ok (.iload_n 2, 1) := dk_28 (dk_at dksX0_matchers_4 17 rfl rfl)
theorem dX0_matchers_112 : decode cX0_matchers 112 = .ok (.iaload, 1) := dk_46 (dk_at dksX0_matchers_4 18 rfl rfl)
theorem dX0_matchers_113 : decode cX0_matchers 113 = .ok (.iload 4, 2) := dk_21 4 (dk_at dksX0_matchers_4 19 rfl rfl)
theorem dX0_matchers_115 : decode cX0_matchers 115 = .ok (.if_icmp .ne 35, 3) := dk_160 0 35 (dk_at dksX0_matchers_4 21 rfl rfl)
theorem dX0_matchers_118 : decode cX0_matchers 118 = .ok (.aload_n 0, 1) := dk_42 (dk_at dksX0_matchers_5 0 rfl rfl)
theorem dX0_matchers_119 : decode cX0_matchers 119 = .ok (.getfield 488, 3) := dk_180 1 232 (dk_at dksX0_matchers_5 1 rfl rfl)
theorem dX0_matchers_122 : decode cX0_matchers 122 = .ok (.iload 4, 2) := dk_21 4 (dk_at dksX0_matchers_5 4 rfl rfl)
theorem dX0_matchers_124 : decode cX0_matchers 124 = .ok (.baload, 1) := dk_51 (dk_at dksX0_matchers_5 6 rfl rfl)
theorem dX0_matchers_125 : decode cX0_matchers 125 = .ok (.ifCond .eq 14, 3) := dk_153 0 14 (dk_at dksX0_matchers_5 7 rfl rfl)
theorem dX0_matchers_128 : decode cX0_matchers 128 = .ok (.aload_n 0, 1) := dk_42 (dk_at dksX0_matchers_5 10 rfl rfl)
theorem dX0_matchers_129 : decode cX0_matchers 129 = .ok (.iload_n 1, 1) := dk_27 (dk_at dksX0_matchers_5 11 rfl rfl)
theorem dX0_matchers_130 : decode cX0_matchers 130 = .ok (.iload_n 2, 1) := dk_28 (dk_at dksX0_matchers_5 12 rfl rfl)
theorem dX0_matchers_131 : decode cX0_matchers 131 = .ok (.iload 4, 2) := dk_21 4 (dk_at dksX0_matchers_5 13 rfl rfl)
theorem dX0_matchers_133 : decode cX0_matchers 133 = .ok (.invokevirtual 883, 3) := dk_182 3 115 (dk_at dksX0_matchers_5 15 rfl rfl)
theorem dX0_matchers_136 : decode cX0_matchers 136 = .ok (.goto 24, 3) := dk_167 0 24 (dk_at dksX0_matchers_5 18 rfl rfl)
theorem dX0_matchers_139 : decode cX0_matchers 139 = .ok (.aload_n 0, 1) := dk_42 (dk_at dksX0_matchers_5 21 rfl rfl)
theorem dX0_matchers_140 : decode cX0_matchers 140 = .ok (.iload_n 1, 1) := dk_27 (dk_at dksX0_matchers_5 22 rfl rfl)
theorem dX0_matchers_141 : decode cX0_matchers 141 = .ok (.iload_n 2, 1) := dk_28 (dk_at dksX0_matchers_5 23 rfl rfl)
theorem dX0_matchers_142 : decode cX0_matchers 142 = .ok (.iload 4, 2) := dk_21 4 (dk_at dksX0_matchers_6 0 rfl rfl)
theorem dX0_matchers_144 : decode cX0_matchers 144 = .ok (.invokevirtual 886, 3) := dk_182 3 118 (dk_at dksX0_matchers_6 2 rfl rfl)
theorem dX0_matchers_147 : decode cX0_matchers 147 = .ok (.goto 13, 3) := dk_167 0 13 (dk_at dksX0_matchers_6 5 rfl rfl)
theorem dX0_matchers_150 : decode cX0_matchers 150 = .ok (.aload_n 0, 1) := dk_42 (dk_at dksX0_matchers_6 8 rfl rfl)
theorem dX0_matchers_151 : decode cX0_matchers 151 = .ok (.iload_n 1, 1) := dk_27 (dk_at dksX0_matchers_6 9 rfl rfl)
theorem dX0_matchers_152 : decode cX0_matchers 152 = .ok (.iload_n 2, 1) := dk_28 (dk_at dksX0_matchers_6 10 rfl rfl)
theorem dX0_matchers_153 : decode cX0_matchers 153 = .ok (.invokevirtual 801, 3) := dk_182 3 33 (dk_at dksX0_matchers_6 11 rfl rfl)
theorem dX0_matchers_156 : decode cX0_matchers 156 = .ok (.aload_n 0, 1) := dk_42 (dk_at dksX0_matchers_6 14 rfl rfl)
theorem dX0_matchers_157 : decode cX0_matchers 157 = .ok (.invokevirtual 804, 3) := dk_182 3 36 (dk_at dksX0_matchers_6 15 rfl rfl)
theorem dX0_matchers_160 : decode cX0_matchers 160 = .ok (.aload_n 0, 1) := dk_42 (dk_at dksX0_matchers_6 18 rfl rfl)
theorem dX0_matchers_161 : decode cX0_matchers 161 = .ok (.iconst 0, 1) := dk_3 (dk_at dksX0_matchers_6 19 rfl rfl)
theorem dX0_matchers_162 : decode cX0_matchers 162 = .ok (.putfield 779, 3) := dk_181 3 11 (dk_at dksX0_matchers_6 20 rfl rfl)
theorem dX0_matchers_165 : decode cX0_matchers 165 = .ok (.aload_n 0, 1) := dk_42 (dk_at dksX0_matchers_6 23 rfl rfl)
theorem dX0_matchers_166 : decode cX0_matchers 166 = .ok (.dup, 1) := dk_89 (dk_at dksX0_matchers_7 0 rfl rfl)
theorem dX0_matchers_167 : decode cX0_matchers 167 = .ok (.getfield 889, 3) := dk_180 3 121 (dk_at dksX0_matchers_7 1 rfl rfl)
theorem dX0_matchers_170 : decode cX0_matchers 170 = .ok (.aload_n 0, 1) := dk_42 (dk_at dksX0_matchers_7 4 rfl rfl)
theorem dX0_matchers_171 : decode cX0_matchers 171 = .ok (.getfield 849, 3) := dk_180 3 81 (dk_at dksX0_matchers_7 5 rfl rfl)
theorem dX0_matchers_174 : decode cX0_matchers 174 = .ok (.iadd, 1) := dk_96 (dk_at dksX0_matchers_7 8 rfl rfl)
theorem dX0_matchers_175 : decode cX0_matchers 175 = .ok (.putfield 889, 3) := dk_181 3 121 (dk_at dksX0_matchers_7 9 rfl rfl)
theorem dX0_matchers_178 : decode cX0_matchers 178 = .ok (.aload_n 0, 1) := dk_42 (dk_at dksX0_matchers_7 12 rfl rfl)
theorem dX0_matchers_179 : decode cX0_matchers 179 = .ok (.getfield 889, 3) := dk_180 3 121 (dk_at dksX0_matchers_7 13 rfl rfl)
theorem dX0_matchers_182 : decode cX0_matchers 182 = .ok (.sipush 6000, 3) := dk_17 23 112 (dk_at dksX0_matchers_7 16 rfl rfl)
theorem dX0_matchers_185 : decode cX0_matchers 185 = .ok (.if_icmp .le 9, 3) := dk_164 0 9 (dk_at dksX0_matchers_7 19 rfl rfl)
theorem dX0_matchers_188 : decode cX0_matchers 188 = .ok (.aload_n 0, 1) := dk_42 (dk_at dksX0_matchers_7 22 rfl rfl)
theorem dX0_matchers_189 : decode cX0_matchers 189 = .ok (.iconst 4, 1) := dk_7 (dk_at dksX0_matchers_7 23 rfl rfl)
theorem dX0_matchers_190 : decode cX0_matchers 190 = .ok (.invokevirtual 595, 3) := dk_182 2 83 (dk_at dksX0_matchers_8 0 rfl rfl)
theorem dX0_matchers_193 : decode cX0_matchers 193 = .ok (.athrow, 1) := dk_191 (dk_at dksX0_matchers_8 3 rfl rfl)
theorem dX0_matchers_194 : decode cX0_matchers 194 = .ok (.aload_n 0, 1) := dk_42 (dk_at dksX0_matchers_8 4 rfl rfl)
theorem dX0_matchers_195 : decode cX0_matchers 195 = .ok (.getfield 849, 3) := dk_180 3 81 (dk_at dksX0_matchers_8 5 rfl rfl)
theorem dX0_matchers_198 : decode cX0_matchers 198 = .ok (.ireturn, 1) := dk_172 (dk_at dksX0_matchers_8 8 rfl rfl)
abbrev cX0_isWide : ByteArray := prog_1_method_103_code
def yX0_isWide : MethodName := ⟨RX0, "isWide", "(II)Z"⟩
def dkwX0_isWide_3 : List UInt8 := [182, 2, 243, 153, 0, 5, 4, 172, 132, 3, 1, 167, 255, 227, 3, 172]
abbrev dktX0_isWide_3 : List UInt8 := dkwX0_isWide_3 ++ []
def dkwX0_isWide_2 : List UInt8 := [4, 172, 3, 62, 29, 42, 180, 2, 66, 28, 46, 162, 0, 25, 42, 27, 42, 28, 29, 182, 2, 109]
abbrev dktX0_isWide_2 : List UInt8 := dkwX0_isWide_2 ++ dktX0_isWide_3
def dkwX0_isWide_1 : List UInt8 := [180, 2, 66, 28, 46, 16, 6, 164, 0, 19, 42, 27, 42, 180, 2, 63, 28, 46, 182, 2, 240, 153, 0, 5]
abbrev dktX0_isWide_1 : List UInt8 := dkwX0_isWide_1 ++ dktX0_isWide_2
def dkwX0_isWide_0 : List UInt8 := [42, 180, 2, 63, 28, 46, 155, 0, 44, 42, 180, 1, 229, 42, 180, 2, 63, 28, 46, 51, 153, 0, 30, 42]
abbrev dktX0_isWide_0 : List UInt8 := dkwX0_isWide_0 ++ dktX0_isWide_1
theorem dksX0_isWide_0 : cX0_isWide.data.toList.drop 0 = dktX0_isWide_0 := by decide +kernel
theorem dksX0_isWide_1 : cX0_isWide.data.toList.drop 24 = dktX0_isWide_1 := dk_seg dksX0_isWide_0 24 rfl rfl
theorem dksX0_isWide_2 : cX0_isWide.data.toList.drop 48 = dktX0_isWide_2 := dk_seg dksX0_isWide_1 24 rfl rfl
theorem dksX0_isWide_3 : cX0_isWide.data.toList.drop 70 = dktX0_isWide_3 := dk_seg dksX0_isWide_2 22 rfl rfl
theorem dX0_isWide_0 : decode cX0_isWide 0 = .ok (.aload_n 0, 1) := dk_42 (dk_at dksX0_isWide_0 0 rfl rfl)
theorem dX0_isWide_1 : decode cX0_isWide 1 = .ok (.getfield 575, 3) := dk_180 2 63 (dk_at dksX0_isWide_0 1 rfl rfl)
theorem dX0_isWide_4 : decode cX0_isWide 4 = .ok (.iload_n 2, 1) := dk_28 (dk_at dksX0_isWide_0 4 rfl rfl)
theorem dX0_isWide_5 : decode cX0_isWide 5 = .ok (.iaload, 1) := dk_46 (dk_at dksX0_isWide_0 5 rfl rfl)
theorem dX0_isWide_6 : decode cX0_isWide 6 = .ok (.ifCond .lt 44, 3) := dk_155 0 44 (dk_at dksX0_isWide_0 6 rfl rfl)
theorem dX0_isWide_9 : decode cX0_isWide 9 = .ok (.aload_n 0, 1) := dk_42 (dk_at dksX0_isWide_0 9 rfl rfl)
theorem dX0_isWide_10 : decode cX0_isWide 10 = .ok (.getfield 485, 3) := dk_180 1 229 (dk_at dksX0_isWide_0 10 rfl rfl)
theorem dX0_isWide_13 : decode cX0_isWide 13 = .ok (.aload_n 0, 1) := dk_42 (dk_at dksX0_isWide_0 13 rfl rfl)
theorem dX0_isWide_14 : decode cX0_isWide 14 = .ok (.getfield 575, 3) := dk_180 2 63 (dk_at dksX0_isWide_0 14 rfl rfl)
theorem dX0_isWide_17 : decode cX0_isWide 17 = .ok (.iload_n 2, 1) := dk_28 (dk_at dksX0_isWide_0 17 rfl rfl)
theorem dX0_isWide_18 : decode cX0_isWide 18 = .ok (.iaload, 1) := dk_46 (dk_at dksX0_isWide_0 18 rfl rfl)
theorem dX0_isWide_19 : decode cX0_isWide 19 = .ok (.baload, 1) := dk_51 (dk_at dksX0_isWide_0 19 rfl rfl)
theorem dX0_isWide_20 : decode cX0_isWide 20 = .ok (.ifCond .eq 30, 3) := dk_153 0 30 (dk_at dksX0_isWide_0 20 rfl rfl)
theorem dX0_isWide_23 : decode cX0_isWide 23 = .ok (.aload_n 0, 1) := dk_42 (dk_at dksX0_isWide_0 23 rfl rfl)
theorem dX0_isWide_24 : decode cX0_isWide 24 = .ok (.getfield 578, 3) := dk_180 2 66 (dk_at dksX0_isWide_1 0 rfl rfl)
theorem dX0_isWide_27 : decode cX0_isWide 27 = .ok (.iload_n 2, 1) := dk_28 (dk_at dksX0_isWide_1 3 rfl rfl)
theorem dX0_isWide_28 : decode cX0_isWide 28 = .ok (.iaload, 1) := dk_46 (dk_at dksX0_isWide_1 4 rfl rfl)
theorem dX0_isWide_29 : decode cX0_isWide 29 = .ok (.bipush 6, 2) := dk_16 6 (dk_at dksX0_isWide_1 5 rfl rfl)
theorem dX0_isWide_31 : decode cX0_isWide 31 = .ok (.if_icmp .le 19, 3) := dk_164 0 19 (dk_at dksX0_isWide_1 7 rfl rfl)
theorem dX0_isWide_34 : decode cX0_isWide 34 = .ok (.aload_n 0, 1) := dk_42 (dk_at dksX0_isWide_1 10 rfl rfl)
theorem dX0_isWide_35 : decode cX0_isWide 35 = .ok (.iload_n 1, 1) := dk_27 (dk_at dksX0_isWide_1 11 rfl rfl)
theorem dX0_isWide_36 : decode cX0_isWide 36 = .ok (.aload_n 0, 1) := dk_42 (dk_at dksX0_isWide_1 12 rfl rfl)
theorem dX0_isWide_37 : decode cX0_isWide 37 = .ok (.getfield 575, 3) := dk_180 2 63 (dk_at dksX0_isWide_1 13 rfl rfl)
theorem dX0_isWide_40 : decode cX0_isWide 40 = .ok (.iload_n 2, 1) := dk_28 (dk_at dksX0_isWide_1 16 rfl rfl)
theorem dX0_isWide_41 : decode cX0_isWide 41 = .ok (.iaload, 1) := dk_46 (dk_at dksX0_isWide_1 17 rfl rfl)
theorem dX0_isWide_42 : decode cX0_isWide 42 = .ok (.invokevirtual 752, 3) := dk_182 2 240 (dk_at dksX0_isWide_1 18 rfl rfl)
theorem dX0_isWide_45 : decode cX0_isWide 45 = .ok (.ifCond .eq 5, 3) := dk_153 0 5 (dk_at dksX0_isWide_1 21 rfl rfl)
theorem dX0_isWide_48 : decode cX0_isWide 48 = .ok (.iconst 1, 1) := dk_4 (dk_at dksX0_isWide_2 0 rfl rfl)
theorem dX0_isWide_49 : decode cX0_isWide 49 = .ok (.ireturn, 1) := dk_172 (dk_at dksX0_isWide_2 1 rfl rfl)
theorem dX0_isWide_50 : decode cX0_isWide 50 = .ok (.iconst 0, 1) := dk_3 (dk_at dksX0_isWide_2 2 rfl rfl)
theorem dX0_isWide_51 : decode cX0_isWide 51 = .ok (.istore_n 3, 1) := dk_62 (dk_at dksX0_isWide_2 3 rfl rfl)
theorem dX0_isWide_52 : decode cX0_isWide 52 = .ok (.iload_n 3, 1) := dk_29 (dk_at dksX0_isWide_2 4 rfl rfl)
theorem dX0_isWide_53 : decode cX0_isWide 53 = .ok (.aload_n 0, 1) := dk_42 (dk_at dksX0_isWide_2 5 rfl rfl)
theorem dX0_isWide_54 : decode cX0_isWide 54 = .ok (.getfield 578, 3) := dk_180 2 66 (dk_at dksX0_isWide_2 6 rfl rfl)
theorem dX0_isWide_57 : decode cX0_isWide 57 = .ok (.iload_n 2, 1) := dk_28 (dk_at dksX0_isWide_2 9 rfl rfl)
theorem dX0_isWide_58 : decode cX0_isWide 58 = .ok (.iaload, 1) := dk_46 (dk_at dksX0_isWide_2 10 rfl rfl)
theorem dX0_isWide_59 : decode cX0_isWide 59 = .ok (.if_icmp .ge 25, 3) := dk_162 0 25 (dk_at dksX0_isWide_2 11 rfl rfl)
theorem dX0_isWide_62 : decode cX0_isWide 62 = .ok (.aload_n 0, 1) := dk_42 (dk_at dksX0_isWide_2 14 rfl rfl)
theorem dX0_isWide_63 : decode cX0_isWide 63 = .ok (.iload_n 1, 1) := dk_27 (dk_at dksX0_isWide_2 15 rfl rfl)
theorem dX0_isWide_64 : decode cX0_isWide 64 = .ok (.aload_n 0, 1) := dk_42 (dk_at dksX0_isWide_2 16 rfl rfl)
theorem dX0_isWide_65 : decode cX0_isWide 65 = .ok (.iload_n 2, 1) := dk_28 (dk_at dksX0_isWide_2 17 rfl rfl)
theorem dX0_isWide_66 : decode cX0_isWide 66 = .ok (.iload_n 3, 1) := dk_29 (dk_at dksX0_isWide_2 18 rfl rfl)
theorem dX0_isWide_67 : decode cX0_isWide 67 = .ok (.invokevirtual 621, 3) := dk_182 2 109 (dk_at dksX0_isWide_2 19 rfl rfl)
theorem dX0_isWide_70 : decode cX0_isWide 70 = .ok (.invokevirtual 755, 3) := dk_182 2 243 (dk_at dksX0_isWide_3 0 rfl rfl)
theorem dX0_isWide_73 : decode cX0_isWide 73 = .ok (.ifCond .eq 5, 3) := dk_153 0 5 (dk_at dksX0_isWide_3 3 rfl rfl)
theorem dX0_isWide_76 : decode cX0_isWide 76 = .ok (.iconst 1, 1) := dk_4 (dk_at dksX0_isWide_3 6 rfl rfl)
theorem dX0_isWide_77 : decode cX0_isWide 77 = .ok (.ireturn, 1) := dk_172 (dk_at dksX0_isWide_3 7 rfl rfl)
theorem dX0_isWide_78 : decode cX0_isWide 78 = .ok (.iinc 3 1, 3) := dk_132 3 1 (dk_at dksX0_isWide_3 8 rfl rfl)
theorem dX0_isWide_81 : decode cX0_isWide 81 = .ok (.goto (-29), 3) := dk_167 255 227 (dk_at dksX0_isWide_3 11 rfl rfl)
theorem dX0_isWide_84 : decode cX0_isWide 84 = .ok (.iconst 0, 1) := dk_3 (dk_at dksX0_isWide_3 14 rfl rfl)
theorem dX0_isWide_85 : decode cX0_isWide 85 = .ok (.ireturn, 1) := dk_172 (dk_at dksX0_isWide_3 15 rfl rfl)
abbrev cX0_hasAssoc : ByteArray := prog_1_method_102_code
def yX0_hasAssoc : MethodName := ⟨RX0, "hasAssoc", "(II)Z"⟩
def dkwX0_hasAssoc_2 : List UInt8 := [62, 132, 4, 1, 167, 255, 225, 29, 172]
abbrev dktX0_hasAssoc_2 : List UInt8 := dkwX0_hasAssoc_2 ++ []
def dkwX0_hasAssoc_1 : List UInt8 := [180, 2, 66, 27, 46, 162, 0, 26, 29, 154, 0, 22, 42, 42, 27, 21, 4, 182, 2, 109, 28, 182, 2, 240]
abbrev dktX0_hasAssoc_1 : List UInt8 := dkwX0_hasAssoc_1 ++ dktX0_hasAssoc_2
def dkwX0_hasAssoc_0 : List UInt8 := [42, 180, 2, 63, 27, 46, 28, 160, 0, 7, 4, 167, 0, 4, 3, 62, 3, 54, 4, 21, 4, 42]
abbrev dktX0_hasAssoc_0 : List UInt8 := dkwX0_hasAssoc_0 ++ dktX0_hasAssoc_1
theorem dksX0_hasAssoc_0 : cX0_hasAssoc.data.toList.drop 0 = dktX0_hasAssoc_0 := by decide +kernel
theorem dksX0_hasAssoc_1 : cX0_hasAssoc.data.toList.drop 22 = dktX0_hasAssoc_1 := dk_seg dksX0_hasAssoc_0 22 rfl rfl
theorem dksX0_hasAssoc_2 : cX0_hasAssoc.data.toList.drop 46 = dktX0_hasAssoc_2 := dk_seg dksX0_hasAssoc_1 24 rfl rfl
theorem dX0_hasAssoc_0 : decode cX0_hasAssoc 0 = .ok (.aload_n 0, 1) := dk_42 (dk_at dksX0_hasAssoc_0 0 rfl rfl)
theorem dX0_hasAssoc_1 : decode cX0_hasAssoc 1 = .ok (.getfield 575, 3) := dk_180 2 63 (dk_at dksX0_hasAssoc_0 1 rfl rfl)
theorem dX0_hasAssoc_4 : decode cX0_hasAssoc 4 = .ok (.iload_n 1, 1) := dk_27 (dk_at dksX0_hasAssoc_0 4 rfl rfl)
theorem dX0_hasAssoc_5 : decode cX0_hasAssoc 5 = .ok (.iaload, 1) := dk_46 (dk_at dksX0_hasAssoc_0 5 rfl rfl)
theorem dX0_hasAssoc_6 : decode cX0_hasAssoc 6 = .ok (.iload_n 2, 1) := dk_28 (dk_at dksX0_hasAssoc_0 6 rfl rfl)
theorem dX0_hasAssoc_7 : decode cX0_hasAssoc 7 = .ok (.if_icmp .ne 7, 3) := dk_160 0 7 (dk_at dksX0_hasAssoc_0 7 rfl rfl)
theorem dX0_hasAssoc_10 : decode cX0_hasAssoc 10 = .ok (.iconst 1, 1) := dk_4 (dk_at dksX0_hasAssoc_0 10 rfl rfl)
theorem dX0_hasAssoc_11 : decode cX0_hasAssoc 11 = .ok (.goto 4, 3) := dk_167 0 4 (dk_at dksX0_hasAssoc_0 11 rfl rfl)
theorem dX0_hasAssoc_14 : decode cX0_hasAssoc 14 = .ok (.iconst 0, 1) := dk_3 (dk_at dksX0_hasAssoc_0 14 rfl rfl)
theorem dX0_hasAssoc_15 : decode cX0_hasAssoc 15 = .ok (.istore_n 3, 1) := dk_62 (dk_at dksX0_hasAssoc_0 15 rfl rfl)
theorem dX0_hasAssoc_16 : decode cX0_hasAssoc 16 = .ok (.iconst 0, 1) := dk_3 (dk_at dksX0_hasAssoc_0 16 rfl rfl)
theorem dX0_hasAssoc_17 : decode cX0_hasAssoc 17 = .ok (.istore 4, 2) := dk_54 4 (dk_at dksX0_hasAssoc_0 17 rfl rfl)
theorem dX0_hasAssoc_19 : decode cX0_hasAssoc 19 = .ok (.iload 4, 2) := dk_21 4 (dk_at dksX0_hasAssoc_0 19 rfl rfl)
theorem dX0_hasAssoc_21 : decode cX0_hasAssoc 21 = .ok (.aload_n 0, 1) := dk_42 (dk_at dksX0_hasAssoc_0 21 rfl rfl)
theorem dX0_hasAssoc_22 : decode cX0_hasAssoc 22 = .ok (.getfield 578, 3) := dk_180 2 66 (dk_at dksX0_hasAssoc_1 0 rfl rfl)
theorem dX0_hasAssoc_25 : decode cX0_hasAssoc 25 = .ok (.iload_n 1, 1) := dk_27 (dk_at dksX0_hasAssoc_1 3 rfl rfl)
theorem dX0_hasAssoc_26 : decode cX0_hasAssoc 26 = .ok (.iaload, 1) := dk_46 (dk_at dksX0_hasAssoc_1 4 rfl rfl)
theorem dX0_hasAssoc_27 : decode cX0_hasAssoc 27 = .ok (.if_icmp .ge 26, 3) := dk_162 0 26 (dk_at dksX0_hasAssoc_1 5 rfl rfl)
theorem dX0_hasAssoc_30 : decode cX0_hasAssoc 30 = .ok (.iload_n 3, 1) := dk_29 (dk_at dksX0_hasAssoc_1 8 rfl rfl)
theorem dX0_hasAssoc_31 : decode cX0_hasAssoc 31 = .ok (.ifCond .ne 22, 3) := dk_154 0 22 (dk_at dksX0_hasAssoc_1 9 rfl rfl)
theorem dX0_hasAssoc_34 : decode cX0_hasAssoc 34 = .ok (.aload_n 0, 1) := dk_42 (dk_at dksX0_hasAssoc_1 12 rfl rfl)
theorem dX0_hasAssoc_35 : decode cX0_hasAssoc 35 = .ok (.aload_n 0, 1) := dk_42 (dk_at dksX0_hasAssoc_1 13 rfl rfl)
theorem dX0_hasAssoc_36 : decode cX0_hasAssoc 36 = .ok (.iload_n 1, 1) := dk_27 (dk_at dksX0_hasAssoc_1 14 rfl rfl)
theorem dX0_hasAssoc_37 : decode cX0_hasAssoc 37 = .ok (.iload 4, 2) := dk_21 4 (dk_at dksX0_hasAssoc_1 15 rfl rfl)
theorem dX0_hasAssoc_39 : decode cX0_hasAssoc 39 = .ok (.invokevirtual 621, 3) := dk_182 2 109 (dk_at dksX0_hasAssoc_1 17 rfl rfl)
theorem dX0_hasAssoc_42 : decode cX0_hasAssoc 42 = .ok (.iload_n 2, 1) := dk_28 (dk_at dksX0_hasAssoc_1 20 rfl rfl)
theorem dX0_hasAssoc_43 : decode cX0_hasAssoc 43 = .ok (.invokevirtual 752, 3) := dk_182 2 240 (dk_at dksX0_hasAssoc_1 21 rfl rfl)
theorem dX0_hasAssoc_46 : decode cX0_hasAssoc 46 = .ok (.istore_n 3, 1) := dk_62 (dk_at dksX0_hasAssoc_2 0 rfl rfl)
theorem dX0_hasAssoc_47 : decode cX0_hasAssoc 47 = .ok (.iinc 4 1, 3) := dk_132 4 1 (dk_at dksX0_hasAssoc_2 1 rfl rfl)
theorem dX0_hasAssoc_50 : decode cX0_hasAssoc 50 = .ok (.goto (-31), 3) := dk_167 255 225 (dk_at dksX0_hasAssoc_2 4 rfl rfl)
theorem dX0_hasAssoc_53 : decode cX0_hasAssoc 53 = .ok (.iload_n 3, 1) := dk_29 (dk_at dksX0_hasAssoc_2 7 rfl rfl)
theorem dX0_hasAssoc_54 : decode cX0_hasAssoc 54 = .ok (.ireturn, 1) := dk_172 (dk_at dksX0_hasAssoc_2 8 rfl rfl)
abbrev cX0_deals : ByteArray := prog_1_method_106_code
def yX0_deals : MethodName := ⟨RX0, "deals", "(II)J"⟩
def dkwX0_deals_5 : List UInt8 := [22, 4, 173]
abbrev dktX0_deals_5 : List UInt8 := dkwX0_deals_5 ++ []
def dkwX0_deals_4 : List UInt8 := [42, 42, 27, 21, 6, 182, 2, 109, 28, 182, 3, 4, 184, 3, 1, 105, 55, 4, 132, 6, 1, 167, 255, 213]
abbrev dktX0_deals_4 : List UInt8 := dkwX0_deals_4 ++ dktX0_deals_5
def dkwX0_deals_3 : List UInt8 := [54, 6, 21, 6, 42, 180, 2, 66, 27, 46, 162, 0, 38, 20, 2, 255, 22, 4, 184, 3, 1, 20, 2, 255]
abbrev dktX0_deals_3 : List UInt8 := dkwX0_deals_3 ++ dktX0_deals_4
def dkwX0_deals_2 : List UInt8 := [55, 4, 167, 0, 21, 29, 155, 0, 17, 42, 180, 1, 232, 29, 51, 153, 0, 8, 20, 2, 253, 55, 4, 3]
abbrev dktX0_deals_2 : List UInt8 := dkwX0_deals_2 ++ dktX0_deals_3
def dkwX0_deals_1 : List UInt8 := [42, 28, 29, 182, 2, 246, 184, 2, 32, 42, 180, 2, 66, 27, 46, 42, 180, 1, 232, 29, 51, 184, 2, 249]
abbrev dktX0_deals_1 : List UInt8 := dkwX0_deals_1 ++ dktX0_deals_2
def dkwX0_deals_0 : List UInt8 := [42, 180, 2, 63, 27, 46, 62, 10, 55, 4, 29, 155, 0, 42, 42, 180, 1, 229, 29, 51, 153, 0, 33, 4]
abbrev dktX0_deals_0 : List UInt8 := dkwX0_deals_0 ++ dktX0_deals_1
theorem dksX0_deals_0 : cX0_deals.data.toList.drop 0 = dktX0_deals_0 := by decide +kernel
theorem dksX0_deals_1 : cX0_deals.data.toList.drop 24 = dktX0_deals_1 := dk_seg dksX0_deals_0 24 rfl rfl
theorem dksX0_deals_2 : cX0_deals.data.toList.drop 48 = dktX0_deals_2 := dk_seg dksX0_deals_1 24 rfl rfl
theorem dksX0_deals_3 : cX0_deals.data.toList.drop 72 = dktX0_deals_3 := dk_seg dksX0_deals_2 24 rfl rfl
theorem dksX0_deals_4 : cX0_deals.data.toList.drop 96 = dktX0_deals_4 := dk_seg dksX0_deals_3 24 rfl rfl
theorem dksX0_deals_5 : cX0_deals.data.toList.drop 120 = dktX0_deals_5 := dk_seg dksX0_deals_4 24 rfl rfl
theorem dX0_deals_0 : decode cX0_deals 0 = .ok (.aload_n 0, 1) := dk_42 (dk_at dksX0_deals_0 0 rfl rfl)
theorem dX0_deals_1 : decode cX0_deals 1 = .ok (.getfield 575, 3) := dk_180 2 63 (dk_at dksX0_deals_0 1 rfl rfl)
theorem dX0_deals_4 : decode cX0_deals 4 = .ok (.iload_n 1, 1) := dk_27 (dk_at dksX0_deals_0 4 rfl rfl)
theorem dX0_deals_5 : decode cX0_deals 5 = .ok (.iaload, 1) := dk_46 (dk_at dksX0_deals_0 5 rfl rfl)
theorem dX0_deals_6 : decode cX0_deals 6 = .ok (.istore_n 3, 1) := dk_62 (dk_at dksX0_deals_0 6 rfl rfl)
theorem dX0_deals_7 : decode cX0_deals 7 = .ok (.lconst 1, 1) := dk_10 (dk_at dksX0_deals_0 7 rfl rfl)
theorem dX0_deals_8 : decode cX0_deals 8 = .ok (.lstore 4, 2) := dk_55 4 (dk_at dksX0_deals_0 8 rfl rfl)
theorem dX0_deals_10 : decode cX0_deals 10 = .ok (.iload_n 3, 1) := dk_29 (dk_at dksX0_deals_0 10 rfl rfl)
theorem dX0_deals_11 : decode cX0_deals 11 = .ok (.ifCond .lt 42, 3) := dk_155 0 42 (dk_at dksX0_deals_0 11 rfl rfl)
theorem dX0_deals_14 : decode cX0_deals 14 = .ok (.aload_n 0, 1) := dk_42 (dk_at dksX0_deals_0 14 rfl rfl)
theorem dX0_deals_15 : decode cX0_deals 15 = .ok (.getfield 485, 3) := dk_180 1 229 (dk_at dksX0_deals_0 15 rfl rfl)
theorem dX0_deals_18 : decode cX0_deals 18 = .ok (.iload_n 3, 1) := dk_29 (dk_at dksX0_deals_0 18 rfl rfl)
theorem dX0_deals_19 : decode cX0_deals 19 = .ok (.baload, 1) := dk_51 (dk_at dksX0_deals_0 19 rfl rfl)
theorem dX0_deals_20 : decode cX0_deals 20 = .ok (.ifCond .eq 33, 3) := dk_153 0 33 (dk_at dksX0_deals_0 20 rfl rfl)
theorem dX0_deals_23 : decode cX0_deals 23 = .ok (.iconst 1, 1) := dk_4 (dk_at dksX0_deals_0 23 rfl rfl)
theorem dX0_deals_24 : decode cX0_deals 24 = .ok (.aload_n 0, 1) := dk_42 (dk_at dksX0_deals_1 0 rfl rfl)
theorem dX0_deals_25 : decode cX0_deals 25 = .ok (.iload_n 2, 1) := dk_28 (dk_at dksX0_deals_1 1 rfl rfl)
theorem dX0_deals_26 : decode cX0_deals 26 = .ok (.iload_n 3, 1) := dk_29 (dk_at dksX0_deals_1 2 rfl rfl)
theorem dX0_deals_27 : decode cX0_deals 27 = .ok (.invokevirtual 758, 3) := dk_182 2 246 (dk_at dksX0_deals_1 3 rfl rfl)
theorem dX0_deals_30 : decode cX0_deals 30 = .ok (.invokestatic 544, 3) := dk_184 2 32 (dk_at dksX0_deals_1 6 rfl rfl)
theorem dX0_deals_33 : decode cX0_deals 33 = .ok (.aload_n 0, 1) := dk_42 (dk_at dksX0_deals_1 9 rfl rfl)
theorem dX0_deals_34 : decode cX0_deals 34 = .ok (.getfield 578, 3) := dk_180 2 66 (dk_at dksX0_deals_1 10 rfl rfl)
theorem dX0_deals_37 : decode cX0_deals 37 = .ok (.iload_n 1, 1) := dk_27 (dk_at dksX0_deals_1 13 rfl rfl)
theorem dX0_deals_38 : decode cX0_deals 38 = .ok (.iaload, 1) := dk_46 (dk_at dksX0_deals_1 14 rfl rfl)
theorem dX0_deals_39 : decode cX0_deals 39 = .ok (.aload_n 0, 1) := dk_42 (dk_at dksX0_deals_1 15 rfl rfl)
theorem dX0_deals_40 : decode cX0_deals 40 = .ok (.getfield 488, 3) := dk_180 1 232 (dk_at dksX0_deals_1 16 rfl rfl)
theorem dX0_deals_43 : decode cX0_deals 43 = .ok (.iload_n 3, 1) := dk_29 (dk_at dksX0_deals_1 19 rfl rfl)
theorem dX0_deals_44 : decode cX0_deals 44 = .ok (.baload, 1) := dk_51 (dk_at dksX0_deals_1 20 rfl rfl)
theorem dX0_deals_45 : decode cX0_deals 45 = .ok (.invokestatic 761, 3) := dk_184 2 249 (dk_at dksX0_deals_1 21 rfl rfl)
theorem dX0_deals_48 : decode cX0_deals 48 = .ok (.lstore 4, 2) := dk_55 4 (dk_at dksX0_deals_2 0 rfl rfl)
theorem dX0_deals_50 : decode cX0_deals 50 = .ok (.goto 21, 3) := dk_167 0 21 (dk_at dksX0_deals_2 2 rfl rfl)
theorem dX0_deals_53 : decode cX0_deals 53 = .ok (.iload_n 3, 1) := dk_29 (dk_at dksX0_deals_2 5 rfl rfl)
theorem dX0_deals_54 : decode cX0_deals 54 = .ok (.ifCond .lt 17, 3) := dk_155 0 17 (dk_at dksX0_deals_2 6 rfl rfl)
theorem dX0_deals_57 : decode cX0_deals 57 = .ok (.aload_n 0, 1) := dk_42 (dk_at dksX0_deals_2 9 rfl rfl)
theorem dX0_deals_58 : decode cX0_deals 58 = .ok (.getfield 488, 3) := dk_180 1 232 (dk_at dksX0_deals_2 10 rfl rfl)
theorem dX0_deals_61 : decode cX0_deals 61 = .ok (.iload_n 3, 1) := dk_29 (dk_at dksX0_deals_2 13 rfl rfl)
theorem dX0_deals_62 : decode cX0_deals 62 = .ok (.baload, 1) := dk_51 (dk_at dksX0_deals_2 14 rfl rfl)
theorem dX0_deals_63 : decode cX0_deals 63 = .ok (.ifCond .eq 8, 3) := dk_153 0 8 (dk_at dksX0_deals_2 15 rfl rfl)
theorem dX0_deals_66 : decode cX0_deals 66 = .ok (.ldc2_w 765, 3) := dk_20 2 253 (dk_at dksX0_deals_2 18 rfl rfl)
theorem dX0_deals_69 : decode cX0_deals 69 = .ok (.lstore 4, 2) := dk_55 4 (dk_at dksX0_deals_2 21 rfl rfl)
theorem dX0_deals_71 : decode cX0_deals 71 = .ok (.iconst 0, 1) := dk_3 (dk_at dksX0_deals_2 23 rfl rfl)
theorem dX0_deals_72 : decode cX0_deals 72 = .ok (.istore 6, 2) := dk_54 6 (dk_at dksX0_deals_3 0 rfl rfl)
theorem dX0_deals_74 : decode cX0_deals 74 = .ok (.iload 6, 2) := dk_21 6 (dk_at dksX0_deals_3 2 rfl rfl)
theorem dX0_deals_76 : decode cX0_deals 76 = .ok (.aload_n 0, 1) := dk_42 (dk_at dksX0_deals_3 4 rfl rfl)
theorem dX0_deals_77 : decode cX0_deals 77 = .ok (.getfield 578, 3) := dk_180 2 66 (dk_at dksX0_deals_3 5 rfl rfl)
theorem dX0_deals_80 : decode cX0_deals 80 = .ok (.iload_n 1, 1) := dk_27 (dk_at dksX0_deals_3 8 rfl rfl)
theorem dX0_deals_81 : decode cX0_deals 81 = .ok (.iaload, 1) := dk_46 (dk_at dksX0_deals_3 9 rfl rfl)
theorem dX0_deals_82 : decode cX0_deals 82 = .ok (.if_icmp .ge 38, 3) := dk_162 0 38 (dk_at dksX0_deals_3 10 rfl rfl)
theorem dX0_deals_85 : decode cX0_deals 85 = .ok (.ldc2_w 767, 3) := dk_20 2 255 (dk_at dksX0_deals_3 13 rfl rfl)
theorem dX0_deals_88 : decode cX0_deals 88 = .ok (.lload 4, 2) := dk_22 4 (dk_at dksX0_deals_3 16 rfl rfl)
theorem dX0_deals_90 : decode cX0_deals 90 = .ok (.invokestatic 769, 3) := dk_184 3 1 (dk_at dksX0_deals_3 18 rfl rfl)
theorem dX0_deals_93 : decode cX0_deals 93 = .ok (.ldc2_w 767, 3) := dk_20 2 255 (dk_at dksX0_deals_3 21 rfl rfl)
theorem dX0_deals_96 : decode cX0_deals 96 = .ok (.aload_n 0, 1) := dk_42 (dk_at dksX0_deals_4 0 rfl rfl)
theorem dX0_deals_97 : decode cX0_deals 97 = .ok (.aload_n 0, 1) := dk_42 (dk_at dksX0_deals_4 1 rfl rfl)
theorem dX0_deals_98 : decode cX0_deals 98 = .ok (.iload_n 1, 1) := dk_27 (dk_at dksX0_deals_4 2 rfl rfl)
theorem dX0_deals_99 : decode cX0_deals 99 = .ok (.iload 6, 2) := dk_21 6 (dk_at dksX0_deals_4 3 rfl rfl)
theorem dX0_deals_101 : decode cX0_deals 101 = .ok (.invokevirtual 621, 3) := dk_182 2 109 (dk_at dksX0_deals_4 5 rfl rfl)
theorem dX0_deals_104 : decode cX0_deals 104 = .ok (.iload_n 2, 1) := dk_28 (dk_at dksX0_deals_4 8 rfl rfl)
theorem dX0_deals_105 : decode cX0_deals 105 = .ok (.invokevirtual 772, 3) := dk_182 3 4 (dk_at dksX0_deals_4 9 rfl rfl)
theorem dX0_deals_108 : decode cX0_deals 108 = .ok (.invokestatic 769, 3) := dk_184 3 1 (dk_at dksX0_deals_4 12 rfl rfl)
theorem dX0_deals_111 : decode cX0_deals 111 = .ok (.lmul, 1) := dk_105 (dk_at dksX0_deals_4 15 rfl rfl)
theorem dX0_deals_112 : decode cX0_deals 112 = .ok (.lstore 4, 2) := dk_55 4 (dk_at dksX0_deals_4 16 rfl rfl)
theorem dX0_deals_114 : decode cX0_deals 114 = .ok (.iinc 6 1, 3) := dk_132 6 1 (dk_at dksX0_deals_4 18 rfl rfl)
theorem dX0_deals_117 : decode cX0_deals 117 = .ok (.goto (-43), 3) := dk_167 255 213 (dk_at dksX0_deals_4 21 rfl rfl)
theorem dX0_deals_120 : decode cX0_deals 120 = .ok (.lload 4, 2) := dk_22 4 (dk_at dksX0_deals_5 0 rfl rfl)
theorem dX0_deals_122 : decode cX0_deals 122 = .ok (.lreturn, 1) := dk_173 (dk_at dksX0_deals_5 2 rfl rfl)
abbrev cX0_longest : ByteArray := prog_1_method_104_code
def yX0_longest : MethodName := ⟨RX0, "longest", "(II)I"⟩
def dkwX0_longest_2 : List UInt8 := [184, 2, 32, 62, 132, 4, 1, 167, 255, 225, 29, 172]
abbrev dktX0_longest_2 : List UInt8 := dkwX0_longest_2 ++ []
def dkwX0_longest_1 : List UInt8 := [21, 4, 42, 180, 2, 66, 27, 46, 162, 0, 26, 29, 42, 42, 27, 21, 4, 182, 2, 109, 28, 182, 2, 246]
abbrev dktX0_longest_1 : List UInt8 := dkwX0_longest_1 ++ dktX0_longest_2
def dkwX0_longest_0 : List UInt8 := [42, 180, 2, 63, 27, 46, 28, 160, 0, 12, 42, 180, 2, 66, 27, 46, 167, 0, 4, 3, 62, 3, 54, 4]
abbrev dktX0_longest_0 : List UInt8 := dkwX0_longest_0 ++ dktX0_longest_1
theorem dksX0_longest_0 : cX0_longest.data.toList.drop 0 = dktX0_longest_0 := by decide +kernel
theorem dksX0_longest_1 : cX0_longest.data.toList.drop 24 = dktX0_longest_1 := dk_seg dksX0_longest_0 24 rfl rfl
theorem dksX0_longest_2 : cX0_longest.data.toList.drop 48 = dktX0_longest_2 := dk_seg dksX0_longest_1 24 rfl rfl
theorem dX0_longest_0 : decode cX0_longest 0 = .ok (.aload_n 0, 1) := dk_42 (dk_at dksX0_longest_0 0 rfl rfl)
theorem dX0_longest_1 : decode cX0_longest 1 = .ok (.getfield 575, 3) := dk_180 2 63 (dk_at dksX0_longest_0 1 rfl rfl)
theorem dX0_longest_4 : decode cX0_longest 4 = .ok (.iload_n 1, 1) := dk_27 (dk_at dksX0_longest_0 4 rfl rfl)
theorem dX0_longest_5 : decode cX0_longest 5 = .ok (.iaload, 1) := dk_46 (dk_at dksX0_longest_0 5 rfl rfl)
theorem dX0_longest_6 : decode cX0_longest 6 = .ok (.iload_n 2, 1) := dk_28 (dk_at dksX0_longest_0 6 rfl rfl)
theorem dX0_longest_7 : decode cX0_longest 7 = .ok (.if_icmp .ne 12, 3) := dk_160 0 12 (dk_at dksX0_longest_0 7 rfl rfl)
theorem dX0_longest_10 : decode cX0_longest 10 = .ok (.aload_n 0, 1) := dk_42 (dk_at dksX0_longest_0 10 rfl rfl)
theorem dX0_longest_11 : decode cX0_longest 11 = .ok (.getfield 578, 3) := dk_180 2 66 (dk_at dksX0_longest_0 11 rfl rfl)
theorem dX0_longest_14 : decode cX0_longest 14 = .ok (.iload_n 1, 1) := dk_27 (dk_at dksX0_longest_0 14 rfl rfl)
theorem dX0_longest_15 : decode cX0_longest 15 = .ok (.iaload, 1) := dk_46 (dk_at dksX0_longest_0 15 rfl rfl)
theorem dX0_longest_16 : decode cX0_longest 16 = .ok (.goto 4, 3) := dk_167 0 4 (dk_at dksX0_longest_0 16 rfl rfl)
theorem dX0_longest_19 : decode cX0_longest 19 = .ok (.iconst 0, 1) := dk_3 (dk_at dksX0_longest_0 19 rfl rfl)
theorem dX0_longest_20 : decode cX0_longest 20 = .ok (.istore_n 3, 1) := dk_62 (dk_at dksX0_longest_0 20 rfl rfl)
theorem dX0_longest_21 : decode cX0_longest 21 = .ok (.iconst 0, 1) := dk_3 (dk_at dksX0_longest_0 21 rfl rfl)
theorem dX0_longest_22 : decode cX0_longest 22 = .ok (.istore 4, 2) := dk_54 4 (dk_at dksX0_longest_0 22 rfl rfl)
theorem dX0_longest_24 : decode cX0_longest 24 = .ok (.iload 4, 2) := dk_21 4 (dk_at dksX0_longest_1 0 rfl rfl)
theorem dX0_longest_26 : decode cX0_longest 26 = .ok (.aload_n 0, 1) := dk_42 (dk_at dksX0_longest_1 2 rfl rfl)
theorem dX0_longest_27 : decode cX0_longest 27 = .ok (.getfield 578, 3) := dk_180 2 66 (dk_at dksX0_longest_1 3 rfl rfl)
theorem dX0_longest_30 : decode cX0_longest 30 = .ok (.iload_n 1, 1) := dk_27 (dk_at dksX0_longest_1 6 rfl rfl)
theorem dX0_longest_31 : decode cX0_longest 31 = .ok (.iaload, 1) := dk_46 (dk_at dksX0_longest_1 7 rfl rfl)
theorem dX0_longest_32 : decode cX0_longest 32 = .ok (.if_icmp .ge 26, 3) := dk_162 0 26 (dk_at dksX0_longest_1 8 rfl rfl)
theorem dX0_longest_35 : decode cX0_longest 35 = .ok (.iload_n 3, 1) := dk_29 (dk_at dksX0_longest_1 11 rfl rfl)
theorem dX0_longest_36 : decode cX0_longest 36 = .ok (.aload_n 0, 1) := dk_42 (dk_at dksX0_longest_1 12 rfl rfl)
theorem dX0_longest_37 : decode cX0_longest 37 = .ok (.aload_n 0, 1) := dk_42 (dk_at dksX0_longest_1 13 rfl rfl)
theorem dX0_longest_38 : decode cX0_longest 38 = .ok (.iload_n 1, 1) := dk_27 (dk_at dksX0_longest_1 14 rfl rfl)
theorem dX0_longest_39 : decode cX0_longest 39 = .ok (.iload 4, 2) := dk_21 4 (dk_at dksX0_longest_1 15 rfl rfl)
theorem dX0_longest_41 : decode cX0_longest 41 = .ok (.invokevirtual 621, 3) := dk_182 2 109 (dk_at dksX0_longest_1 17 rfl rfl)
theorem dX0_longest_44 : decode cX0_longest 44 = .ok (.iload_n 2, 1) := dk_28 (dk_at dksX0_longest_1 20 rfl rfl)
theorem dX0_longest_45 : decode cX0_longest 45 = .ok (.invokevirtual 758, 3) := dk_182 2 246 (dk_at dksX0_longest_1 21 rfl rfl)
theorem dX0_longest_48 : decode cX0_longest 48 = .ok (.invokestatic 544, 3) := dk_184 2 32 (dk_at dksX0_longest_2 0 rfl rfl)
theorem dX0_longest_51 : decode cX0_longest 51 = .ok (.istore_n 3, 1) := dk_62 (dk_at dksX0_longest_2 3 rfl rfl)
theorem dX0_longest_52 : decode cX0_longest 52 = .ok (.iinc 4 1, 3) := dk_132 4 1 (dk_at dksX0_longest_2 4 rfl rfl)
theorem dX0_longest_55 : decode cX0_longest 55 = .ok (.goto (-31), 3) := dk_167 255 225 (dk_at dksX0_longest_2 7 rfl rfl)
theorem dX0_longest_58 : decode cX0_longest 58 = .ok (.iload_n 3, 1) := dk_29 (dk_at dksX0_longest_2 10 rfl rfl)
theorem dX0_longest_59 : decode cX0_longest 59 = .ok (.ireturn, 1) := dk_172 (dk_at dksX0_longest_2 11 rfl rfl)
abbrev cX0_waysToDeal : ByteArray := prog_1_method_105_code
def yX0_waysToDeal : MethodName := ⟨RX0, "waysToDeal", "(IIZ)J"⟩
def dkwX0_waysToDeal_1 : List UInt8 := [33, 27, 4, 96, 21, 5, 96, 133, 105, 21, 5, 133, 109, 66, 132, 5, 1, 167, 255, 220, 33, 173]
abbrev dktX0_waysToDeal_1 : List UInt8 := dkwX0_waysToDeal_1 ++ []
def dkwX0_waysToDeal_0 : List UInt8 := [10, 66, 4, 54, 5, 21, 5, 26, 163, 0, 36, 28, 153, 0, 12, 33, 27, 4, 96, 133, 105, 167, 0, 16]
abbrev dktX0_waysToDeal_0 : List UInt8 := dkwX0_waysToDeal_0 ++ dktX0_waysToDeal_1
theorem dksX0_waysToDeal_0 : cX0_waysToDeal.data.toList.drop 0 = dktX0_waysToDeal_0 := by decide +kernel
theorem dksX0_waysToDeal_1 : cX0_waysToDeal.data.toList.drop 24 = dktX0_waysToDeal_1 := dk_seg dksX0_waysToDeal_0 24 rfl rfl
theorem dX0_waysToDeal_0 : decode cX0_waysToDeal 0 = .ok (.lconst 1, 1) := dk_10 (dk_at dksX0_waysToDeal_0 0 rfl rfl)
theorem dX0_waysToDeal_1 : decode cX0_waysToDeal 1 = .ok (.lstore_n 3, 1) := dk_66 (dk_at dksX0_waysToDeal_0 1 rfl rfl)
theorem dX0_waysToDeal_2 : decode cX0_waysToDeal 2 = .ok (.iconst 1, 1) := dk_4 (dk_at dksX0_waysToDeal_0 2 rfl rfl)
theorem dX0_waysToDeal_3 : decode cX0_waysToDeal 3 = .ok (.istore 5, 2) := dk_54 5 (dk_at dksX0_waysToDeal_0 3 rfl rfl)
theorem dX0_waysToDeal_5 : decode cX0_waysToDeal 5 = .ok (.iload 5, 2) := dk_21 5 (dk_at dksX0_waysToDeal_0 5 rfl rfl)
theorem dX0_waysToDeal_7 : decode cX0_waysToDeal 7 = .ok (.iload_n 0, 1) := dk_26 (dk_at dksX0_waysToDeal_0 7 rfl rfl)
theorem dX0_waysToDeal_8 : decode cX0_waysToDeal 8 = .ok (.if_icmp .gt 36, 3) := dk_163 0 36 (dk_at dksX0_waysToDeal_0 8 rfl rfl)
theorem dX0_waysToDeal_11 : decode cX0_waysToDeal 11 = .ok (.iload_n 2, 1) := dk_28 (dk_at dksX0_waysToDeal_0 11 rfl rfl)
theorem dX0_waysToDeal_12 : decode cX0_waysToDeal 12 = .ok (.ifCond .eq 12, 3) := dk_153 0 12 (dk_at dksX0_waysToDeal_0 12 rfl rfl)
theorem dX0_waysToDeal_15 : decode cX0_waysToDeal 15 = .ok (.lload_n 3, 1) := dk_33 (dk_at dksX0_waysToDeal_0 15 rfl rfl)
theorem dX0_waysToDeal_16 : decode cX0_waysToDeal 16 = .ok (.iload_n 1, 1) := dk_27 (dk_at dksX0_waysToDeal_0 16 rfl rfl)
theorem dX0_waysToDeal_17 : decode cX0_waysToDeal 17 = .ok (.iconst 1, 1) := dk_4 (dk_at dksX0_waysToDeal_0 17 rfl rfl)
theorem dX0_waysToDeal_18 : decode cX0_waysToDeal 18 = .ok (.iadd, 1) := dk_96 (dk_at dksX0_waysToDeal_0 18 rfl rfl)
theorem dX0_waysToDeal_19 : decode cX0_waysToDeal 19 = .ok (.i2l, 1) := dk_133 (dk_at dksX0_waysToDeal_0 19 rfl rfl)
theorem dX0_waysToDeal_20 : decode cX0_waysToDeal 20 = .ok (.lmul, 1) := dk_105 (dk_at dksX0_waysToDeal_0 20 rfl rfl)
theorem dX0_waysToDeal_21 : decode cX0_waysToDeal 21 = .ok (.goto 16, 3) := dk_167 0 16 (dk_at dksX0_waysToDeal_0 21 rfl rfl)
theorem dX0_waysToDeal_24 : decode cX0_waysToDeal 24 = .ok (.lload_n 3, 1) := dk_33 (dk_at dksX0_waysToDeal_1 0 rfl rfl)
theorem dX0_waysToDeal_25 : decode cX0_waysToDeal 25 = .ok (.iload_n 1, 1) := dk_27 (dk_at dksX0_waysToDeal_1 1 rfl rfl)
theorem dX0_waysToDeal_26 : decode cX0_waysToDeal 26 = .ok (.iconst 1, 1) := dk_4 (dk_at dksX0_waysToDeal_1 2 rfl rfl)
theorem dX0_waysToDeal_27 : decode cX0_waysToDeal 27 = .ok (.iadd, 1) := dk_96 (dk_at dksX0_waysToDeal_1 3 rfl rfl)
theorem dX0_waysToDeal_28 : decode cX0_waysToDeal 28 = .ok (.iload 5, 2) := dk_21 5 (dk_at dksX0_waysToDeal_1 4 rfl rfl)
theorem dX0_waysToDeal_30 : decode cX0_waysToDeal 30 = .ok (.iadd, 1) := dk_96 (dk_at dksX0_waysToDeal_1 6 rfl rfl)
theorem dX0_waysToDeal_31 : decode cX0_waysToDeal 31 = .ok (.i2l, 1) := dk_133 (dk_at dksX0_waysToDeal_1 7 rfl rfl)
theorem dX0_waysToDeal_32 : decode cX0_waysToDeal 32 = .ok (.lmul, 1) := dk_105 (dk_at dksX0_waysToDeal_1 8 rfl rfl)
theorem dX0_waysToDeal_33 : decode cX0_waysToDeal 33 = .ok (.iload 5, 2) := dk_21 5 (dk_at dksX0_waysToDeal_1 9 rfl rfl)
theorem dX0_waysToDeal_35 : decode cX0_waysToDeal 35 = .ok (.i2l, 1) := dk_133 (dk_at dksX0_waysToDeal_1 11 rfl rfl)
theorem dX0_waysToDeal_36 : decode cX0_waysToDeal 36 = .ok (.ldiv, 1) := dk_109 (dk_at dksX0_waysToDeal_1 12 rfl rfl)
theorem dX0_waysToDeal_37 : decode cX0_waysToDeal 37 = .ok (.lstore_n 3, 1) := dk_66 (dk_at dksX0_waysToDeal_1 13 rfl rfl)
theorem dX0_waysToDeal_38 : decode cX0_waysToDeal 38 = .ok (.iinc 5 1, 3) := dk_132 5 1 (dk_at dksX0_waysToDeal_1 14 rfl rfl)
theorem dX0_waysToDeal_41 : decode cX0_waysToDeal 41 = .ok (.goto (-36), 3) := dk_167 255 220 (dk_at dksX0_waysToDeal_1 17 rfl rfl)
theorem dX0_waysToDeal_44 : decode cX0_waysToDeal 44 = .ok (.lload_n 3, 1) := dk_33 (dk_at dksX0_waysToDeal_1 20 rfl rfl)
theorem dX0_waysToDeal_45 : decode cX0_waysToDeal 45 = .ok (.lreturn, 1) := dk_173 (dk_at dksX0_waysToDeal_1 21 rfl rfl)
abbrev cX0_matchBag : ByteArray := prog_1_method_123_code
def yX0_matchBag : MethodName := ⟨RX0, "matchBag", "(III)V"⟩
def dkwX0_matchBag_2 : List UInt8 := [167, 255, 213, 177]
abbrev dktX0_matchBag_2 : List UInt8 := dkwX0_matchBag_2 ++ []
def dkwX0_matchBag_1 : List UInt8 := [182, 3, 124, 181, 3, 90, 42, 27, 42, 28, 29, 21, 4, 182, 3, 124, 182, 3, 127, 132, 4, 1]
abbrev dktX0_matchBag_1 : List UInt8 := dkwX0_matchBag_1 ++ dktX0_matchBag_2
def dkwX0_matchBag_0 : List UInt8 := [4, 54, 4, 21, 4, 4, 42, 180, 2, 66, 28, 46, 120, 162, 0, 36, 42, 42, 28, 29, 21, 4, 2, 130]
abbrev dktX0_matchBag_0 : List UInt8 := dkwX0_matchBag_0 ++ dktX0_matchBag_1
theorem dksX0_matchBag_0 : cX0_matchBag.data.toList.drop 0 = dktX0_matchBag_0 := by decide +kernel
theorem dksX0_matchBag_1 : cX0_matchBag.data.toList.drop 24 = dktX0_matchBag_1 := dk_seg dksX0_matchBag_0 24 rfl rfl
theorem dksX0_matchBag_2 : cX0_matchBag.data.toList.drop 46 = dktX0_matchBag_2 := dk_seg dksX0_matchBag_1 22 rfl rfl
theorem dX0_matchBag_0 : decode cX0_matchBag 0 = .ok (.iconst 1, 1) := dk_4 (dk_at dksX0_matchBag_0 0 rfl rfl)
theorem dX0_matchBag_1 : decode cX0_matchBag 1 = .ok (.istore 4, 2) := dk_54 4 (dk_at dksX0_matchBag_0 1 rfl rfl)
theorem dX0_matchBag_3 : decode cX0_matchBag 3 = .ok (.iload 4, 2) := dk_21 4 (dk_at dksX0_matchBag_0 3 rfl rfl)
theorem dX0_matchBag_5 : decode cX0_matchBag 5 = .ok (.iconst 1, 1) := dk_4 (dk_at dksX0_matchBag_0 5 rfl rfl)
theorem dX0_matchBag_6 : decode cX0_matchBag 6 = .ok (.aload_n 0, 1) := dk_42 (dk_at dksX0_matchBag_0 6 rfl rfl)
theorem dX0_matchBag_7 : decode cX0_matchBag 7 = .ok (.getfield 578, 3) := dk_180 2 66 (dk_at dksX0_matchBag_0 7 rfl rfl)
theorem dX0_matchBag_10 : decode cX0_matchBag 10 = .ok (.iload_n 2, 1) := dk_28 (dk_at dksX0_matchBag_0 10 rfl rfl)
theorem dX0_matchBag_11 : decode cX0_matchBag 11 = .ok (.iaload, 1) := dk_46 (dk_at dksX0_matchBag_0 11 rfl rfl)
theorem dX0_matchBag_12 : decode cX0_matchBag 12 = .ok (.ishl, 1) := dk_120 (dk_at dksX0_matchBag_0 12 rfl rfl)
theorem dX0_matchBag_13 : decode cX0_matchBag 13 = .ok (.if_icmp .ge 36, 3) := dk_162 0 36 (dk_at dksX0_matchBag_0 13 rfl rfl)
theorem dX0_matchBag_16 : decode cX0_matchBag 16 = .ok (.aload_n 0, 1) := dk_42 (dk_at dksX0_matchBag_0 16 rfl rfl)
theorem dX0_matchBag_17 : decode cX0_matchBag 17 = .ok (.aload_n 0, 1) := dk_42 (dk_at dksX0_matchBag_0 17 rfl rfl)
theorem dX0_matchBag_18 : decode cX0_matchBag 18 = .ok (.iload_n 2, 1) := dk_28 (dk_at dksX0_matchBag_0 18 rfl rfl)
theorem dX0_matchBag_19 : decode cX0_matchBag 19 = .ok (.iload_n 3, 1) := dk_29 (dk_at dksX0_matchBag_0 19 rfl rfl)
theorem dX0_matchBag_20 : decode cX0_matchBag 20 = .ok (.iload 4, 2) := dk_21 4 (dk_at dksX0_matchBag_0 20 rfl rfl)
theorem dX0_matchBag_22 : decode cX0_matchBag 22 = .ok (.iconst (-1), 1) := dk_2 (dk_at dksX0_matchBag_0 22 rfl rfl)
theorem dX0_matchBag_23 : decode cX0_matchBag 23 = .ok (.ixor, 1) := dk_130 (dk_at dksX0_matchBag_0 23 rfl rfl)
theorem dX0_matchBag_24 : decode cX0_matchBag 24 = .ok (.invokevirtual 892, 3) := dk_182 3 124 (dk_at dksX0_matchBag_1 0 rfl rfl)
theorem dX0_matchBag_27 : decode cX0_matchBag 27 = .ok (.putfield 858, 3) := dk_181 3 90 (dk_at dksX0_matchBag_1 3 rfl rfl)
theorem dX0_matchBag_30 : decode cX0_matchBag 30 = .ok (.aload_n 0, 1) := dk_42 (dk_at dksX0_matchBag_1 6 rfl rfl)
theorem dX0_matchBag_31 : decode cX0_matchBag 31 = .ok (.iload_n 1, 1) := dk_27 (dk_at dksX0_matchBag_1 7 rfl rfl)
theorem dX0_matchBag_32 : decode cX0_matchBag 32 = .ok (.aload_n 0, 1) := dk_42 (dk_at dksX0_matchBag_1 8 rfl rfl)
theorem dX0_matchBag_33 : decode cX0_matchBag 33 = .ok (.iload_n 2, 1) := dk_28 (dk_at dksX0_matchBag_1 9 rfl rfl)
theorem dX0_matchBag_34 : decode cX0_matchBag 34 = .ok (.iload_n 3, 1) := dk_29 (dk_at dksX0_matchBag_1 10 rfl rfl)
theorem dX0_matchBag_35 : decode cX0_matchBag 35 = .ok (.iload 4, 2) := dk_21 4 (dk_at dksX0_matchBag_1 11 rfl rfl)
theorem dX0_matchBag_37 : decode cX0_matchBag 37 = .ok (.invokevirtual 892, 3) := dk_182 3 124 (dk_at dksX0_matchBag_1 13 rfl rfl)
theorem dX0_matchBag_40 : decode cX0_matchBag 40 = .ok (.invokevirtual 895, 3) := dk_182 3 127 (dk_at dksX0_matchBag_1 16 rfl rfl)
theorem dX0_matchBag_43 : decode cX0_matchBag 43 = .ok (.iinc 4 1, 3) := dk_132 4 1 (dk_at dksX0_matchBag_1 19 rfl rfl)
theorem dX0_matchBag_46 : decode cX0_matchBag 46 = .ok (.goto (-43), 3) := dk_167 255 213 (dk_at dksX0_matchBag_2 0 rfl rfl)
theorem dX0_matchBag_49 : decode cX0_matchBag 49 = .ok (.return_, 1) := dk_177 (dk_at dksX0_matchBag_2 3 rfl rfl)
abbrev cX0_some : ByteArray := prog_1_method_124_code
def yX0_some : MethodName := ⟨RX0, "some", "(III)I"⟩
def dkwX0_some_2 : List UInt8 := [180, 2, 99, 21, 4, 160, 0, 5, 3, 172, 42, 28, 21, 4, 182, 3, 75, 172]
abbrev dktX0_some_2 : List UInt8 := dkwX0_some_2 ++ []
def dkwX0_some_1 : List UInt8 := [4, 126, 4, 160, 0, 14, 42, 42, 27, 21, 5, 182, 2, 109, 182, 2, 131, 132, 5, 1, 167, 255, 221, 42]
abbrev dktX0_some_1 : List UInt8 := dkwX0_some_1 ++ dktX0_some_2
def dkwX0_some_0 : List UInt8 := [42, 180, 2, 99, 54, 4, 3, 54, 5, 21, 5, 42, 180, 2, 66, 27, 46, 162, 0, 30, 29, 21, 5, 122]
abbrev dktX0_some_0 : List UInt8 := dkwX0_some_0 ++ dktX0_some_1
theorem dksX0_some_0 : cX0_some.data.toList.drop 0 = dktX0_some_0 := by decide +kernel
theorem dksX0_some_1 : cX0_some.data.toList.drop 24 = dktX0_some_1 := dk_seg dksX0_some_0 24 rfl rfl
theorem dksX0_some_2 : cX0_some.data.toList.drop 48 = dktX0_some_2 := dk_seg dksX0_some_1 24 rfl rfl
theorem dX0_some_0 : decode cX0_some 0 = .ok (.aload_n 0, 1) := dk_42 (dk_at dksX0_some_0 0 rfl rfl)
theorem dX0_some_1 : decode cX0_some 1 = .ok (.getfield 611, 3) := dk_180 2 99 (dk_at dksX0_some_0 1 rfl rfl)
theorem dX0_some_4 : decode cX0_some 4 = .ok (.istore 4, 2) := dk_54 4 (dk_at dksX0_some_0 4 rfl rfl)
theorem dX0_some_6 : decode cX0_some 6 = .ok (.iconst 0, 1) := dk_3 (dk_at dksX0_some_0 6 rfl rfl)
theorem dX0_some_7 : decode cX0_some 7 = .ok (.istore 5, 2) := dk_54 5 (dk_at dksX0_some_0 7 rfl rfl)
theorem dX0_some_9 : decode cX0_some 9 = .ok (.iload 5, 2) := dk_21 5 (dk_at dksX0_some_0 9 rfl rfl)
theorem dX0_some_11 : decode cX0_some 11 = .ok (.aload_n 0, 1) := dk_42 (dk_at dksX0_some_0 11 rfl rfl)
theorem dX0_some_12 : decode cX0_some 12 = .ok (.getfield 578, 3) := dk_180 2 66 (dk_at dksX0_some_0 12 rfl rfl)
theorem dX0_some_15 : decode cX0_some 15 = .ok (.iload_n 1, 1) := dk_27 (dk_at dksX0_some_0 15 rfl rfl)
theorem dX0_some_16 : decode cX0_some 16 = .ok (.iaload, 1) := dk_46 (dk_at dksX0_some_0 16 rfl rfl)
theorem dX0_some_17 : decode cX0_some 17 = .ok (.if_icmp .ge 30, 3) := dk_162 0 30 (dk_at dksX0_some_0 17 rfl rfl)
theorem dX0_some_20 : decode cX0_some 20 = .ok (.iload_n 3, 1) := dk_29 (dk_at dksX0_some_0 20 rfl rfl)
theorem dX0_some_21 : decode cX0_some 21 = .ok (.iload 5, 2) := dk_21 5 (dk_at dksX0_some_0 21 rfl rfl)
theorem dX0_some_23 : decode cX0_some 23 = .ok (.ishr, 1) := dk_122 (dk_at dksX0_some_0 23 rfl rfl)
theorem dX0_some_24 : decode cX0_some 24 = .ok (.iconst 1, 1) := dk_4 (dk_at dksX0_some_1 0 rfl rfl)
theorem dX0_some_25 : decode cX0_some 25 = .ok (.iand, 1) := dk_126 (dk_at dksX0_some_1 1 rfl rfl)
theorem dX0_some_26 : decode cX0_some 26 = .ok (.iconst 1, 1) := dk_4 (dk_at dksX0_some_1 2 rfl rfl)
theorem dX0_some_27 : decode cX0_some 27 = .ok (.if_icmp .ne 14, 3) := dk_160 0 14 (dk_at dksX0_some_1 3 rfl rfl)
theorem dX0_some_30 : decode cX0_some 30 = .ok (.aload_n 0, 1) := dk_42 (dk_at dksX0_some_1 6 rfl rfl)
theorem dX0_some_31 : decode cX0_some 31 = .ok (.aload_n 0, 1) := dk_42 (dk_at dksX0_some_1 7 rfl rfl)
theorem dX0_some_32 : decode cX0_some 32 = .ok (.iload_n 1, 1) := dk_27 (dk_at dksX0_some_1 8 rfl rfl)
theorem dX0_some_33 : decode cX0_some 33 = .ok (.iload 5, 2) := dk_21 5 (dk_at dksX0_some_1 9 rfl rfl)
theorem dX0_some_35 : decode cX0_some 35 = .ok (.invokevirtual 621, 3) := dk_182 2 109 (dk_at dksX0_some_1 11 rfl rfl)
theorem dX0_some_38 : decode cX0_some 38 = .ok (.invokevirtual 643, 3) := dk_182 2 131 (dk_at dksX0_some_1 14 rfl rfl)
theorem dX0_some_41 : decode cX0_some 41 = .ok (.iinc 5 1, 3) := dk_132 5 1 (dk_at dksX0_some_1 17 rfl rfl)
theorem dX0_some_44 : decode cX0_some 44 = .ok (.goto (-35), 3) := dk_167 255 221 (dk_at dksX0_some_1 20 rfl rfl)
theorem dX0_some_47 : decode cX0_some 47 = .ok (.aload_n 0, 1) := dk_42 (dk_at dksX0_some_1 23 rfl rfl)
theorem dX0_some_48 : decode cX0_some 48 = .ok (.getfield 611, 3) := dk_180 2 99 (dk_at dksX0_some_2 0 rfl rfl)
theorem dX0_some_51 : decode cX0_some 51 = .ok (.iload 4, 2) := dk_21 4 (dk_at dksX0_some_2 3 rfl rfl)
theorem dX0_some_53 : decode cX0_some 53 = .ok (.if_icmp .ne 5, 3) := dk_160 0 5 (dk_at dksX0_some_2 5 rfl rfl)
theorem dX0_some_56 : decode cX0_some 56 = .ok (.iconst 0, 1) := dk_3 (dk_at dksX0_some_2 8 rfl rfl)
theorem dX0_some_57 : decode cX0_some 57 = .ok (.ireturn, 1) := dk_172 (dk_at dksX0_some_2 9 rfl rfl)
theorem dX0_some_58 : decode cX0_some 58 = .ok (.aload_n 0, 1) := dk_42 (dk_at dksX0_some_2 10 rfl rfl)
theorem dX0_some_59 : decode cX0_some 59 = .ok (.iload_n 2, 1) := dk_28 (dk_at dksX0_some_2 11 rfl rfl)
theorem dX0_some_60 : decode cX0_some 60 = .ok (.iload 4, 2) := dk_21 4 (dk_at dksX0_some_2 12 rfl rfl)
theorem dX0_some_62 : decode cX0_some 62 = .ok (.invokevirtual 843, 3) := dk_182 3 75 (dk_at dksX0_some_2 14 rfl rfl)
theorem dX0_some_65 : decode cX0_some 65 = .ok (.ireturn, 1) := dk_172 (dk_at dksX0_some_2 17 rfl rfl)
abbrev cX0_makeSome : ByteArray := prog_1_method_84_code
def yX0_makeSome : MethodName := ⟨RX0, "makeSome", "(II)I"⟩
def dkwX0_makeSome_2 : List UInt8 := [28, 181, 2, 99, 21, 4, 172, 42, 27, 28, 182, 2, 134, 172]
abbrev dktX0_makeSome_2 : List UInt8 := dkwX0_makeSome_2 ++ []
def dkwX0_makeSome_1 : List UInt8 := [160, 0, 7, 3, 167, 0, 17, 42, 27, 182, 2, 125, 167, 0, 9, 42, 180, 2, 55, 28, 46, 54, 4, 42]
abbrev dktX0_makeSome_1 : List UInt8 := dkwX0_makeSome_1 ++ dktX0_makeSome_2
def dkwX0_makeSome_0 : List UInt8 := [42, 180, 2, 99, 28, 100, 62, 29, 5, 162, 0, 46, 29, 154, 0, 26, 42, 180, 1, 235, 27, 46, 16, 254]
abbrev dktX0_makeSome_0 : List UInt8 := dkwX0_makeSome_0 ++ dktX0_makeSome_1
theorem dksX0_makeSome_0 : cX0_makeSome.data.toList.drop 0 = dktX0_makeSome_0 := by decide +kernel
theorem dksX0_makeSome_1 : cX0_makeSome.data.toList.drop 24 = dktX0_makeSome_1 := dk_seg dksX0_makeSome_0 24 rfl rfl
theorem dksX0_makeSome_2 : cX0_makeSome.data.toList.drop 48 = dktX0_makeSome_2 := dk_seg dksX0_makeSome_1 24 rfl rfl
theorem dX0_makeSome_0 : decode cX0_makeSome 0 = .ok (.aload_n 0, 1) := dk_42 (dk_at dksX0_makeSome_0 0 rfl rfl)
theorem dX0_makeSome_1 : decode cX0_makeSome 1 = .ok (.getfield 611, 3) := dk_180 2 99 (dk_at dksX0_makeSome_0 1 rfl rfl)
theorem dX0_makeSome_4 : decode cX0_makeSome 4 = .ok (.iload_n 2, 1) := dk_28 (dk_at dksX0_makeSome_0 4 rfl rfl)
theorem dX0_makeSome_5 : decode cX0_makeSome 5 = .ok (.isub, 1) := dk_100 (dk_at dksX0_makeSome_0 5 rfl rfl)
theorem dX0_makeSome_6 : decode cX0_makeSome 6 = .ok (.istore_n 3, 1) := dk_62 (dk_at dksX0_makeSome_0 6 rfl rfl)
theorem dX0_makeSome_7 : decode cX0_makeSome 7 = .ok (.iload_n 3, 1) := dk_29 (dk_at dksX0_makeSome_0 7 rfl rfl)
theorem dX0_makeSome_8 : decode cX0_makeSome 8 = .ok (.iconst 2, 1) := dk_5 (dk_at dksX0_makeSome_0 8 rfl rfl)
theorem dX0_makeSome_9 : decode cX0_makeSome 9 = .ok (.if_icmp .ge 46, 3) := dk_162 0 46 (dk_at dksX0_makeSome_0 9 rfl rfl)
theorem dX0_makeSome_12 : decode cX0_makeSome 12 = .ok (.iload_n 3, 1) := dk_29 (dk_at dksX0_makeSome_0 12 rfl rfl)
theorem dX0_makeSome_13 : decode cX0_makeSome 13 = .ok (.ifCond .ne 26, 3) := dk_154 0 26 (dk_at dksX0_makeSome_0 13 rfl rfl)
theorem dX0_makeSome_16 : decode cX0_makeSome 16 = .ok (.aload_n 0, 1) := dk_42 (dk_at dksX0_makeSome_0 16 rfl rfl)
theorem dX0_makeSome_17 : decode cX0_makeSome 17 = .ok (.getfield 491, 3) := dk_180 1 235 (dk_at dksX0_makeSome_0 17 rfl rfl)
theorem dX0_makeSome_20 : decode cX0_makeSome 20 = .ok (.iload_n 1, 1) := dk_27 (dk_at dksX0_makeSome_0 20 rfl rfl)
theorem dX0_makeSome_21 : decode cX0_makeSome 21 = .ok (.iaload, 1) := dk_46 (dk_at dksX0_makeSome_0 21 rfl rfl)
theorem dX0_makeSome_22 : decode cX0_makeSome 22 = .ok (.bipush (-2), 2) := dk_16 254 (dk_at dksX0_makeSome_0 22 rfl rfl)
theorem dX0_makeSome_24 : decode cX0_makeSome 24 = .ok (.if_icmp .ne 7, 3) := dk_160 0 7 (dk_at dksX0_makeSome_1 0 rfl rfl)
theorem dX0_makeSome_27 : decode cX0_makeSome 27 = .ok (.iconst 0, 1) := dk_3 (dk_at dksX0_makeSome_1 3 rfl rfl)
theorem dX0_makeSome_28 : decode cX0_makeSome 28 = .ok (.goto 17, 3) := dk_167 0 17 (dk_at dksX0_makeSome_1 4 rfl rfl)
theorem dX0_makeSome_31 : decode cX0_makeSome 31 = .ok (.aload_n 0, 1) := dk_42 (dk_at dksX0_makeSome_1 7 rfl rfl)
theorem dX0_makeSome_32 : decode cX0_makeSome 32 = .ok (.iload_n 1, 1) := dk_27 (dk_at dksX0_makeSome_1 8 rfl rfl)
theorem dX0_makeSome_33 : decode cX0_makeSome 33 = .ok (.invokevirtual 637, 3) := dk_182 2 125 (dk_at dksX0_makeSome_1 9 rfl rfl)
theorem dX0_makeSome_36 : decode cX0_makeSome 36 = .ok (.goto 9, 3) := dk_167 0 9 (dk_at dksX0_makeSome_1 12 rfl rfl)
theorem dX0_makeSome_39 : decode cX0_makeSome 39 = .ok (.aload_n 0, 1) := dk_42 (dk_at dksX0_makeSome_1 15 rfl rfl)
theorem dX0_makeSome_40 : decode cX0_makeSome 40 = .ok (.getfield 567, 3) := dk_180 2 55 (dk_at dksX0_makeSome_1 16 rfl rfl)
theorem dX0_makeSome_43 : decode cX0_makeSome 43 = .ok (.iload_n 2, 1) := dk_28 (dk_at dksX0_makeSome_1 19 rfl rfl)
theorem dX0_makeSome_44 : decode cX0_makeSome 44 = .ok (.iaload, 1) := dk_46 (dk_at dksX0_makeSome_1 20 rfl rfl)
theorem dX0_makeSome_45 : decode cX0_makeSome 45 = .ok (.istore 4, 2) := dk_54 4 (dk_at dksX0_makeSome_1 21 rfl rfl)
theorem dX0_makeSome_47 : decode cX0_makeSome 47 = .ok (.aload_n 0, 1) := dk_42 (dk_at dksX0_makeSome_1 23 rfl rfl)
theorem dX0_makeSome_48 : decode cX0_makeSome 48 = .ok (.iload_n 2, 1) := dk_28 (dk_at dksX0_makeSome_2 0 rfl rfl)
theorem dX0_makeSome_49 : decode cX0_makeSome 49 = .ok (.putfield 611, 3) := dk_181 2 99 (dk_at dksX0_makeSome_2 1 rfl rfl)
theorem dX0_makeSome_52 : decode cX0_makeSome 52 = .ok (.iload 4, 2) := dk_21 4 (dk_at dksX0_makeSome_2 4 rfl rfl)
theorem dX0_makeSome_54 : decode cX0_makeSome 54 = .ok (.ireturn, 1) := dk_172 (dk_at dksX0_makeSome_2 6 rfl rfl)
theorem dX0_makeSome_55 : decode cX0_makeSome 55 = .ok (.aload_n 0, 1) := dk_42 (dk_at dksX0_makeSome_2 7 rfl rfl)
theorem dX0_makeSome_56 : decode cX0_makeSome 56 = .ok (.iload_n 1, 1) := dk_27 (dk_at dksX0_makeSome_2 8 rfl rfl)
theorem dX0_makeSome_57 : decode cX0_makeSome 57 = .ok (.iload_n 2, 1) := dk_28 (dk_at dksX0_makeSome_2 9 rfl rfl)
theorem dX0_makeSome_58 : decode cX0_makeSome 58 = .ok (.invokevirtual 646, 3) := dk_182 2 134 (dk_at dksX0_makeSome_2 10 rfl rfl)
theorem dX0_makeSome_61 : decode cX0_makeSome 61 = .ok (.ireturn, 1) := dk_172 (dk_at dksX0_makeSome_2 13 rfl rfl)
abbrev cX0_matchPart : ByteArray := prog_1_method_122_code
def yX0_matchPart : MethodName := ⟨RX0, "matchPart", "(II)V"⟩
def dkwX0_matchPart_0 : List UInt8 := [42, 3, 181, 3, 11, 42, 27, 28, 182, 3, 33, 42, 182, 3, 36, 177]
abbrev dktX0_matchPart_0 : List UInt8 := dkwX0_matchPart_0 ++ []
theorem dksX0_matchPart_0 : cX0_matchPart.data.toList.drop 0 = dktX0_matchPart_0 := by decide +kernel
theorem dX0_matchPart_0 : decode cX0_matchPart 0 = .ok (.aload_n 0, 1) := dk_42 (dk_at dksX0_matchPart_0 0 rfl rfl)
theorem dX0_matchPart_1 : decode cX0_matchPart 1 = .ok (.iconst 0, 1) := dk_3 (dk_at dksX0_matchPart_0 1 rfl rfl)
theorem dX0_matchPart_2 : decode cX0_matchPart 2 = .ok (.putfield 779, 3) := dk_181 3 11 (dk_at dksX0_matchPart_0 2 rfl rfl)
theorem dX0_matchPart_5 : decode cX0_matchPart 5 = .ok (.aload_n 0, 1) := dk_42 (dk_at dksX0_matchPart_0 5 rfl rfl)
theorem dX0_matchPart_6 : decode cX0_matchPart 6 = .ok (.iload_n 1, 1) := dk_27 (dk_at dksX0_matchPart_0 6 rfl rfl)
theorem dX0_matchPart_7 : decode cX0_matchPart 7 = .ok (.iload_n 2, 1) := dk_28 (dk_at dksX0_matchPart_0 7 rfl rfl)
theorem dX0_matchPart_8 : decode cX0_matchPart 8 = .ok (.invokevirtual 801, 3) := dk_182 3 33 (dk_at dksX0_matchPart_0 8 rfl rfl)
theorem dX0_matchPart_11 : decode cX0_matchPart 11 = .ok (.aload_n 0, 1) := dk_42 (dk_at dksX0_matchPart_0 11 rfl rfl)
theorem dX0_matchPart_12 : decode cX0_matchPart 12 = .ok (.invokevirtual 804, 3) := dk_182 3 36 (dk_at dksX0_matchPart_0 12 rfl rfl)
theorem dX0_matchPart_15 : decode cX0_matchPart 15 = .ok (.return_, 1) := dk_177 (dk_at dksX0_matchPart_0 15 rfl rfl)
abbrev cX0_goal : ByteArray := prog_1_method_107_code
def yX0_goal : MethodName := ⟨RX0, "goal", "(II)V"⟩
def dkwX0_goal_1 : List UInt8 := [181, 3, 11, 28, 79, 177]
abbrev dktX0_goal_1 : List UInt8 := dkwX0_goal_1 ++ []
def dkwX0_goal_0 : List UInt8 := [42, 180, 3, 8, 42, 180, 3, 11, 27, 79, 42, 180, 3, 14, 42, 89, 180, 3, 11, 90, 4, 96]
abbrev dktX0_goal_0 : List UInt8 := dkwX0_goal_0 ++ dktX0_goal_1
theorem dksX0_goal_0 : cX0_goal.data.toList.drop 0 = dktX0_goal_0 := by decide +kernel
theorem dksX0_goal_1 : cX0_goal.data.toList.drop 22 = dktX0_goal_1 := dk_seg dksX0_goal_0 22 rfl rfl
theorem dX0_goal_0 : decode cX0_goal 0 = .ok (.aload_n 0, 1) := dk_42 (dk_at dksX0_goal_0 0 rfl rfl)
theorem dX0_goal_1 : decode cX0_goal 1 = .ok (.getfield 776, 3) := dk_180 3 8 (dk_at dksX0_goal_0 1 rfl rfl)
theorem dX0_goal_4 : decode cX0_goal 4 = .ok (.aload_n 0, 1) := dk_42 (dk_at dksX0_goal_0 4 rfl rfl)
theorem dX0_goal_5 : decode cX0_goal 5 = .ok (.getfield 779, 3) := dk_180 3 11 (dk_at dksX0_goal_0 5 rfl rfl)
theorem dX0_goal_8 : decode cX0_goal 8 = .ok (.iload_n 1, 1) := dk_27 (dk_at dksX0_goal_0 8 rfl rfl)
theorem dX0_goal_9 : decode cX0_goal 9 = .ok (.iastore, 1) := dk_79 (dk_at dksX0_goal_0 9 rfl rfl)
theorem dX0_goal_10 : decode cX0_goal 10 = .ok (.aload_n 0, 1) := dk_42 (dk_at dksX0_goal_0 10 rfl rfl)
theorem dX0_goal_11 : decode cX0_goal 11 = .ok (.getfield 782, 3) := dk_180 3 14 (dk_at dksX0_goal_0 11 rfl rfl)
theorem dX0_goal_14 : decode cX0_goal 14 = .ok (.aload_n 0, 1) := dk_42 (dk_at dksX0_goal_0 14 rfl rfl)
theorem dX0_goal_15 : decode cX0_goal 15 = .ok (.dup, 1) := dk_89 (dk_at dksX0_goal_0 15 rfl rfl)
theorem dX0_goal_16 : decode cX0_goal 16 = .ok (.getfield 779, 3) := dk_180 3 11 (dk_at dksX0_goal_0 16 rfl rfl)
theorem dX0_goal_19 : decode cX0_goal 19 = .ok (.dup_x1, 1) := dk_90 (dk_at dksX0_goal_0 19 rfl rfl)
theorem dX0_goal_20 : decode cX0_goal 20 = .ok (.iconst 1, 1) := dk_4 (dk_at dksX0_goal_0 20 rfl rfl)
theorem dX0_goal_21 : decode cX0_goal 21 = .ok (.iadd, 1) := dk_96 (dk_at dksX0_goal_0 21 rfl rfl)
theorem dX0_goal_22 : decode cX0_goal 22 = .ok (.putfield 779, 3) := dk_181 3 11 (dk_at dksX0_goal_1 0 rfl rfl)
theorem dX0_goal_25 : decode cX0_goal 25 = .ok (.iload_n 2, 1) := dk_28 (dk_at dksX0_goal_1 3 rfl rfl)
theorem dX0_goal_26 : decode cX0_goal 26 = .ok (.iastore, 1) := dk_79 (dk_at dksX0_goal_1 4 rfl rfl)
theorem dX0_goal_27 : decode cX0_goal 27 = .ok (.return_, 1) := dk_177 (dk_at dksX0_goal_1 5 rfl rfl)
abbrev cX0_solve : ByteArray := prog_1_method_108_code
def yX0_solve : MethodName := ⟨RX0, "solve", "()V"⟩
def dkwX0_solve_9 : List UInt8 := [177]
abbrev dktX0_solve_9 : List UInt8 := dkwX0_solve_9 ++ []
def dkwX0_solve_8 : List UInt8 := [182, 3, 36, 42, 27, 4, 96, 181, 3, 11, 42, 180, 3, 8, 27, 28, 79, 42, 180, 3, 14, 27, 29, 79]
abbrev dktX0_solve_8 : List UInt8 := dkwX0_solve_8 ++ dktX0_solve_9
def dkwX0_solve_7 : List UInt8 := [21, 5, 182, 2, 109, 42, 29, 21, 5, 182, 2, 109, 182, 3, 33, 132, 5, 255, 167, 255, 230, 42]
abbrev dktX0_solve_7 : List UInt8 := dkwX0_solve_7 ++ dktX0_solve_8
def dkwX0_solve_6 : List UInt8 := [46, 21, 4, 160, 0, 46, 42, 180, 2, 66, 28, 46, 4, 100, 54, 5, 21, 5, 155, 0, 27, 42, 42, 28]
abbrev dktX0_solve_6 : List UInt8 := dkwX0_solve_6 ++ dktX0_solve_7
def dkwX0_solve_5 : List UInt8 := [21, 4, 46, 16, 254, 159, 0, 14, 42, 21, 4, 28, 29, 182, 3, 30, 167, 0, 57, 42, 180, 2, 63, 29]
abbrev dktX0_solve_5 : List UInt8 := dkwX0_solve_5 ++ dktX0_solve_6
def dkwX0_solve_4 : List UInt8 := [21, 4, 28, 29, 182, 3, 27, 167, 0, 90, 42, 180, 1, 232, 21, 4, 51, 154, 0, 15, 42, 180, 1, 235]
abbrev dktX0_solve_4 : List UInt8 := dkwX0_solve_4 ++ dktX0_solve_5
def dkwX0_solve_3 : List UInt8 := [42, 2, 21, 4, 100, 29, 182, 3, 24, 167, 0, 111, 42, 180, 1, 229, 21, 4, 51, 153, 0, 14, 42]
abbrev dktX0_solve_3 : List UInt8 := dkwX0_solve_3 ++ dktX0_solve_4
def dkwX0_solve_2 : List UInt8 := [54, 4, 29, 156, 0, 16, 42, 2, 29, 100, 21, 4, 28, 182, 3, 20, 167, 0, 128, 21, 4, 156, 0, 15]
abbrev dktX0_solve_2 : List UInt8 := dkwX0_solve_2 ++ dktX0_solve_3
def dkwX0_solve_1 : List UInt8 := [180, 3, 11, 60, 42, 180, 3, 8, 27, 46, 61, 42, 180, 3, 14, 27, 46, 62, 42, 180, 2, 63, 28, 46]
abbrev dktX0_solve_1 : List UInt8 := dkwX0_solve_1 ++ dktX0_solve_2
def dkwX0_solve_0 : List UInt8 := [42, 180, 3, 11, 154, 0, 8, 42, 182, 3, 17, 177, 42, 89, 180, 3, 11, 4, 100, 181, 3, 11, 42]
abbrev dktX0_solve_0 : List UInt8 := dkwX0_solve_0 ++ dktX0_solve_1
theorem dksX0_solve_0 : cX0_solve.data.toList.drop 0 = dktX0_solve_0 := by decide +kernel
theorem dksX0_solve_1 : cX0_solve.data.toList.drop 23 = dktX0_solve_1 := dk_seg dksX0_solve_0 23 rfl rfl
theorem dksX0_solve_2 : cX0_solve.data.toList.drop 47 = dktX0_solve_2 := dk_seg dksX0_solve_1 24 rfl rfl
theorem dksX0_solve_3 : cX0_solve.data.toList.drop 71 = dktX0_solve_3 := dk_seg dksX0_solve_2 24 rfl rfl
theorem dksX0_solve_4 : cX0_solve.data.toList.drop 94 = dktX0_solve_4 := dk_seg dksX0_solve_3 23 rfl rfl
theorem dksX0_solve_5 : cX0_solve.data.toList.drop 118 = dktX0_solve_5 := dk_seg dksX0_solve_4 24 rfl rfl
theorem dksX0_solve_6 : cX0_solve.data.toList.drop 142 = dktX0_solve_6 := dk_seg dksX0_solve_5 24 rfl rfl
theorem dksX0_solve_7 : cX0_solve.data.toList.drop 166 = dktX0_solve_7 := dk_seg dksX0_solve_6 24 rfl rfl
theorem dksX0_solve_8 : cX0_solve.data.toList.drop 188 = dktX0_solve_8 := dk_seg dksX0_solve_7 22 rfl rfl
theorem dksX0_solve_9 : cX0_solve.data.toList.drop 212 = dktX0_solve_9 := dk_seg dksX0_solve_8 24 rfl rfl
theorem dX0_solve_0 : decode cX0_solve 0 = .ok (.aload_n 0, 1) := dk_42 (dk_at dksX0_solve_0 0 rfl rfl)
theorem dX0_solve_1 : decode cX0_solve 1 = .ok (.getfield 779, 3) := dk_180 3 11 (dk_at dksX0_solve_0 1 rfl rfl)
theorem dX0_solve_4 : decode cX0_solve 4 = .ok (.ifCond .ne 8, 3) := dk_154 0 8 (dk_at dksX0_solve_0 4 rfl rfl)
theorem dX0_solve_7 : decode cX0_solve 7 = .ok (.aload_n 0, 1) := dk_42 (dk_at dksX0_solve_0 7 rfl rfl)
theorem dX0_solve_8 : decode cX0_solve 8 = .ok (.invokevirtual 785, 3) := dk_182 3 17 (dk_at dksX0_solve_0 8 rfl rfl)
theorem dX0_solve_11 : decode cX0_solve 11 = .ok (.return_, 1) := dk_177 (dk_at dksX0_solve_0 11 rfl rfl)
theorem dX0_solve_12 : decode cX0_solve 12 = .ok (.aload_n 0, 1) := dk_42 (dk_at dksX0_solve_0 12 rfl rfl)
theorem dX0_solve_13 : decode cX0_solve 13 = .ok (.dup, 1) := dk_89 (dk_at dksX0_solve_0 13 rfl rfl)
theorem dX0_solve_14 : decode cX0_solve 14 = .ok (.getfield 779, 3) := dk_180 3 11 (dk_at dksX0_solve_0 14 rfl rfl)
theorem dX0_solve_17 : decode cX0_solve 17 = .ok (.iconst 1, 1) := dk_4 (dk_at dksX0_solve_0 17 rfl rfl)
theorem dX0_solve_18 : decode cX0_solve 18 = .ok (.isub, 1) := dk_100 (dk_at dksX0_solve_0 18 rfl rfl)
theorem dX0_solve_19 : decode cX0_solve 19 = .ok (.putfield 779, 3) := dk_181 3 11 (dk_at dksX0_solve_0 19 rfl rfl)
theorem dX0_solve_22 : decode cX0_solve 22 = .ok (.aload_n 0, 1) := dk_42 (dk_at dksX0_solve_0 22 rfl rfl)
theorem dX0_solve_23 : decode cX0_solve 23 = .ok (.getfield 779, 3) := dk_180 3 11 (dk_at dksX0_solve_1 0 rfl rfl)
theorem dX0_solve_26 : decode cX0_solve 26 = .ok (.istore_n 1, 1) := dk_60 (dk_at dksX0_solve_1 3 rfl rfl)
theorem dX0_solve_27 : decode cX0_solve 27 = .ok (.aload_n 0, 1) := dk_42 (dk_at dksX0_solve_1 4 rfl rfl)
theorem dX0_solve_28 : decode cX0_solve 28 = .ok (.getfield 776, 3) := dk_180 3 8 (dk_at dksX0_solve_1 5 rfl rfl)
theorem dX0_solve_31 : decode cX0_solve 31 = .ok (.iload_n 1, 1) := dk_27 (dk_at dksX0_solve_1 8 rfl rfl)
theorem dX0_solve_32 : decode cX0_solve 32 = .ok (.iaload, 1) := dk_46 (dk_at dksX0_solve_1 9 rfl rfl)
theorem dX0_solve_33 : decode cX0_solve 33 = .ok (.istore_n 2, 1) := dk_61 (dk_at dksX0_solve_1 10 rfl rfl)
theorem dX0_solve_34 : decode cX0_solve 34 = .ok (.aload_n 0, 1) := dk_42 (dk_at dksX0_solve_1 11 rfl rfl)
theorem dX0_solve_35 : decode cX0_solve 35 = .ok (.getfield 782, 3) := dk_180 3 14 (dk_at dksX0_solve_1 12 rfl rfl)
theorem dX0_solve_38 : decode cX0_solve 38 = .ok (.iload_n 1, 1) := dk_27 (dk_at dksX0_solve_1 15 rfl rfl)
theorem dX0_solve_39 : decode cX0_solve 39 = .ok (.iaload, 1) := dk_46 (dk_at dksX0_solve_1 16 rfl rfl)
theorem dX0_solve_40 : decode cX0_solve 40 = .ok (.istore_n 3, 1) := dk_62 (dk_at dksX0_solve_1 17 rfl rfl)
theorem dX0_solve_41 : decode cX0_solve 41 = .ok (.aload_n 0, 1) := dk_42 (dk_at dksX0_solve_1 18 rfl rfl)
theorem dX0_solve_42 : decode cX0_solve 42 = .ok (.getfield 575, 3) := dk_180 2 63 (dk_at dksX0_solve_1 19 rfl rfl)
theorem dX0_solve_45 : decode cX0_solve 45 = .ok (.iload_n 2, 1) := dk_28 (dk_at dksX0_solve_1 22 rfl rfl)
theorem dX0_solve_46 : decode cX0_solve 46 = .ok (.iaload, 1) := dk_46 (dk_at dksX0_solve_1 23 rfl rfl)
theorem dX0_solve_47 : decode cX0_solve 47 = .ok (.istore 4, 2) := dk_54 4 (dk_at dksX0_solve_2 0 rfl rfl)
theorem dX0_solve_49 : decode cX0_solve 49 = .ok (.iload_n 3, 1) := dk_29 (dk_at dksX0_solve_2 2 rfl rfl)
theorem dX0_solve_50 : decode cX0_solve 50 = .ok (.ifCond .ge 16, 3) := dk_156 0 16 (dk_at dksX0_solve_2 3 rfl rfl)
theorem dX0_solve_53 : decode cX0_solve 53 = .ok (.aload_n 0, 1) := dk_42 (dk_at dksX0_solve_2 6 rfl rfl)
theorem dX0_solve_54 : decode cX0_solve 54 = .ok (.iconst (-1), 1) := dk_2 (dk_at dksX0_solve_2 7 rfl rfl)
theorem dX0_solve_55 : decode cX0_solve 55 = .ok (.iload_n 3, 1) := dk_29 (dk_at dksX0_solve_2 8 rfl rfl)
theorem dX0_solve_56 : decode cX0_solve 56 = .ok (.isub, 1) := dk_100 (dk_at dksX0_solve_2 9 rfl rfl)
theorem dX0_solve_57 : decode cX0_solve 57 = .ok (.iload 4, 2) := dk_21 4 (dk_at dksX0_solve_2 10 rfl rfl)
theorem dX0_solve_59 : decode cX0_solve 59 = .ok (.iload_n 2, 1) := dk_28 (dk_at dksX0_solve_2 12 rfl rfl)
theorem dX0_solve_60 : decode cX0_solve 60 = .ok (.invokevirtual 788, 3) := dk_182 3 20 (dk_at dksX0_solve_2 13 rfl rfl)
theorem dX0_solve_63 : decode cX0_solve 63 = .ok (.goto 128, 3) := dk_167 0 128 (dk_at dksX0_solve_2 16 rfl rfl)
theorem dX0_solve_66 : decode cX0_solve 66 = .ok (.iload 4, 2) := dk_21 4 (dk_at dksX0_solve_2 19 rfl rfl)
theorem dX0_solve_68 : decode cX0_solve 68 = .ok (.ifCond .ge 15, 3) := dk_156 0 15 (dk_at dksX0_solve_2 21 rfl rfl)
theorem dX0_solve_71 : decode cX0_solve 71 = .ok (.aload_n 0, 1) := dk_42 (dk_at dksX0_solve_3 0 rfl rfl)
theorem dX0_solve_72 : decode cX0_solve 72 = .ok (.iconst (-1), 1) := dk_2 (dk_at dksX0_solve_3 1 rfl rfl)
theorem dX0_solve_73 : decode cX0_solve 73 = .ok (.iload 4, 2) := dk_21 4 (dk_at dksX0_solve_3 2 rfl rfl)
theorem dX0_solve_75 : decode cX0_solve 75 = .ok (.isub, 1) := dk_100 (dk_at dksX0_solve_3 4 rfl rfl)
theorem dX0_solve_76 : decode cX0_solve 76 = .ok (.iload_n 3, 1) := dk_29 (dk_at dksX0_solve_3 5 rfl rfl)
theorem dX0_solve_77 : decode cX0_solve 77 = .ok (.invokevirtual 792, 3) := dk_182 3 24 (dk_at dksX0_solve_3 6 rfl rfl)
theorem dX0_solve_80 : decode cX0_solve 80 = .ok (.goto 111, 3) := dk_167 0 111 (dk_at dksX0_solve_3 9 rfl rfl)
theorem dX0_solve_83 : decode cX0_solve 83 = .ok (.aload_n 0, 1) := dk_42 (dk_at dksX0_solve_3 12 rfl rfl)
theorem dX0_solve_84 : decode cX0_solve 84 = .ok (.getfield 485, 3) := dk_180 1 229 (dk_at dksX0_solve_3 13 rfl rfl)
theorem dX0_solve_87 : decode cX0_solve 87 = .ok (.iload 4, 2) := dk_21 4 (dk_at dksX0_solve_3 16 rfl rfl)
theorem dX0_solve_89 : decode cX0_solve 89 = .ok (.baload, 1) := dk_51 (dk_at dksX0_solve_3 18 rfl rfl)
theorem dX0_solve_90 : decode cX0_solve 90 = .ok (.ifCond .eq 14, 3) := dk_153 0 14 (dk_at dksX0_solve_3 19 rfl rfl)
theorem dX0_solve_93 : decode cX0_solve 93 = .ok (.aload_n 0, 1) := dk_42 (dk_at dksX0_solve_3 22 rfl rfl)
theorem dX0_solve_94 : decode cX0_solve 94 = .ok (.iload 4, 2) := dk_21 4 (dk_at dksX0_solve_4 0 rfl rfl)
theorem dX0_solve_96 : decode cX0_solve 96 = .ok (.iload_n 2, 1) := dk_28 (dk_at dksX0_solve_4 2 rfl rfl)
theorem dX0_solve_97 : decode cX0_solve 97 = .ok (.iload_n 3, 1) := dk_29 (dk_at dksX0_solve_4 3 rfl rfl)
theorem dX0_solve_98 : decode cX0_solve 98 = .ok (.invokevirtual 795, 3) := dk_182 3 27 (dk_at dksX0_solve_4 4 rfl rfl)
theorem dX0_solve_101 : decode cX0_solve 101 = .ok (.goto 90, 3) := dk_167 0 90 (dk_at dksX0_solve_4 7 rfl rfl)
theorem dX0_solve_104 : decode cX0_solve 104 = .ok (.aload_n 0, 1) := dk_42 (dk_at dksX0_solve_4 10 rfl rfl)
theorem dX0_solve_105 : decode cX0_solve 105 = .ok (.getfield 488, 3) := dk_180 1 232 (dk_at dksX0_solve_4 11 rfl rfl)
theorem dX0_solve_108 : decode cX0_solve 108 = .ok (.iload 4, 2) := dk_21 4 (dk_at dksX0_solve_4 14 rfl rfl)
theorem dX0_solve_110 : decode cX0_solve 110 = .ok (.baload, 1) := dk_51 (dk_at dksX0_solve_4 16 rfl rfl)
theorem dX0_solve_111 : decode cX0_solve 111 = .ok (.ifCond .ne 15, 3) := dk_154 0 15 (dk_at dksX0_solve_4 17 rfl rfl)
theorem dX0_solve_114 : decode cX0_solve 114 = .ok (.aload_n 0, 1) := dk_42 (dk_at dksX0_solve_4 20 rfl rfl)
theorem dX0_solve_115 : decode cX0_solve 115 = .ok (.getfield 491, 3) := dk_180 1 235 (dk_at dksX0_solve_4 21 rfl rfl)
theorem dX0_solve_118 : decode cX0_solve 118 = .ok (.iload 4, 2) := dk_21 4 (dk_at dksX0_solve_5 0 rfl rfl)
theorem dX0_solve_120 : decode cX0_solve 120 = .ok (.iaload, 1) := dk_46 (dk_at dksX0_solve_5 2 rfl rfl)
theorem dX0_solve_121 : decode cX0_solve 121 = .ok (.bipush (-2), 2) := dk_16 254 (dk_at dksX0_solve_5 3 rfl rfl)
theorem dX0_solve_123 : decode cX0_solve 123 = .ok (.if_icmp .eq 14, 3) := dk_159 0 14 (dk_at dksX0_solve_5 5 rfl rfl)
theorem dX0_solve_126 : decode cX0_solve 126 = .ok (.aload_n 0, 1) := dk_42 (dk_at dksX0_solve_5 8 rfl rfl)
theorem dX0_solve_127 : decode cX0_solve 127 = .ok (.iload 4, 2) := dk_21 4 (dk_at dksX0_solve_5 9 rfl rfl)
theorem dX0_solve_129 : decode cX0_solve 129 = .ok (.iload_n 2, 1) := dk_28 (dk_at dksX0_solve_5 11 rfl rfl)
theorem dX0_solve_130 : decode cX0_solve 130 = .ok (.iload_n 3, 1) := dk_29 (dk_at dksX0_solve_5 12 rfl rfl)
theorem dX0_solve_131 : decode cX0_solve 131 = .ok (.invokevirtual 798, 3) := dk_182 3 30 (dk_at dksX0_solve_5 13 rfl rfl)
theorem dX0_solve_134 : decode cX0_solve 134 = .ok (.goto 57, 3) := dk_167 0 57 (dk_at dksX0_solve_5 16 rfl rfl)
theorem dX0_solve_137 : decode cX0_solve 137 = .ok (.aload_n 0, 1) := dk_42 (dk_at dksX0_solve_5 19 rfl rfl)
theorem dX0_solve_138 : decode cX0_solve 138 = .ok (.getfield 575, 3) := dk_180 2 63 (dk_at dksX0_solve_5 20 rfl rfl)
theorem dX0_solve_141 : decode cX0_solve 141 = .ok (.iload_n 3, 1) := dk_29 (dk_at dksX0_solve_5 23 rfl rfl)
theorem dX0_solve_142 : decode cX0_solve 142 = .ok (.iaload, 1) := dk_46 (dk_at dksX0_solve_6 0 rfl rfl)
theorem dX0_solve_143 : decode cX0_solve 143 = .ok (.iload 4, 2) := dk_21 4 (dk_at dksX0_solve_6 1 rfl rfl)
theorem dX0_solve_145 : decode cX0_solve 145 = .ok (.if_icmp .ne 46, 3) := dk_160 0 46 (dk_at dksX0_solve_6 3 rfl rfl)
theorem dX0_solve_148 : decode cX0_solve 148 = .ok (.aload_n 0, 1) := dk_42 (dk_at dksX0_solve_6 6 rfl rfl)
theorem dX0_solve_149 : decode cX0_solve 149 = .ok (.getfield 578, 3) := dk_180 2 66 (dk_at dksX0_solve_6 7 rfl rfl)
theorem dX0_solve_152 : decode cX0_solve 152 = .ok (.iload_n 2, 1) := dk_28 (dk_at dksX0_solve_6 10 rfl rfl)
theorem dX0_solve_153 : decode cX0_solve 153 = .ok (.iaload, 1) := dk_46 (dk_at dksX0_solve_6 11 rfl rfl)
theorem dX0_solve_154 : decode cX0_solve 154 = .ok (.iconst 1, 1) := dk_4 (dk_at dksX0_solve_6 12 rfl rfl)
theorem dX0_solve_155 : decode cX0_solve 155 = .ok (.isub, 1) := dk_100 (dk_at dksX0_solve_6 13 rfl rfl)
theorem dX0_solve_156 : decode cX0_solve 156 = .ok (.istore 5, 2) := dk_54 5 (dk_at dksX0_solve_6 14 rfl rfl)
theorem dX0_solve_158 : decode cX0_solve 158 = .ok (.iload 5, 2) := dk_21 5 (dk_at dksX0_solve_6 16 rfl rfl)
theorem dX0_solve_160 : decode cX0_solve 160 = .ok (.ifCond .lt 27, 3) := dk_155 0 27 (dk_at dksX0_solve_6 18 rfl rfl)
theorem dX0_solve_163 : decode cX0_solve 163 = .ok (.aload_n 0, 1) := dk_42 (dk_at dksX0_solve_6 21 rfl rfl)
theorem dX0_solve_164 : decode cX0_solve 164 = .ok (.aload_n 0, 1) := dk_42 (dk_at dksX0_solve_6 22 rfl rfl)
theorem dX0_solve_165 : decode cX0_solve 165 = .ok (.iload_n 2, 1) := dk_28 (dk_at dksX0_solve_6 23 rfl rfl)
theorem dX0_solve_166 : decode cX0_solve 166 = .ok (.iload 5, 2) := dk_21 5 (dk_at dksX0_solve_7 0 rfl rfl)
theorem dX0_solve_168 : decode cX0_solve 168 = .ok (.invokevirtual 621, 3) := dk_182 2 109 (dk_at dksX0_solve_7 2 rfl rfl)
theorem dX0_solve_171 : decode cX0_solve 171 = .ok (.aload_n 0, 1) := dk_42 (dk_at dksX0_solve_7 5 rfl rfl)
theorem dX0_solve_172 : decode cX0_solve 172 = .ok (.iload_n 3, 1) := dk_29 (dk_at dksX0_solve_7 6 rfl rfl)
theorem dX0_solve_173 : decode cX0_solve 173 = .ok (.iload 5, 2) := dk_21 5 (dk_at dksX0_solve_7 7 rfl rfl)
theorem dX0_solve_175 : decode cX0_solve 175 = .ok (.invokevirtual 621, 3) := dk_182 2 109 (dk_at dksX0_solve_7 9 rfl rfl)
theorem dX0_solve_178 : decode cX0_solve 178 = .ok (.invokevirtual 801, 3) := dk_182 3 33 (dk_at dksX0_solve_7 12 rfl rfl)
theorem dX0_solve_181 : decode cX0_solve 181 = .ok (.iinc 5 (-1), 3) := dk_132 5 255 (dk_at dksX0_solve_7 15 rfl rfl)
theorem dX0_solve_184 : decode cX0_solve 184 = .ok (.goto (-26), 3) := dk_167 255 230 (dk_at dksX0_solve_7 18 rfl rfl)
theorem dX0_solve_187 : decode cX0_solve 187 = .ok (.aload_n 0, 1) := dk_42 (dk_at dksX0_solve_7 21 rfl rfl)
theorem dX0_solve_188 : decode cX0_solve 188 = .ok (.invokevirtual 804, 3) := dk_182 3 36 (dk_at dksX0_solve_8 0 rfl rfl)
theorem dX0_solve_191 : decode cX0_solve 191 = .ok (.aload_n 0, 1) := dk_42 (dk_at dksX0_solve_8 3 rfl rfl)
theorem dX0_solve_192 : decode cX0_solve 192 = .ok (.iload_n 1, 1) := dk_27 (dk_at dksX0_solve_8 4 rfl rfl)
theorem dX0_solve_193 : decode cX0_solve 193 = .ok (.iconst 1, 1) := dk_4 (dk_at dksX0_solve_8 5 rfl rfl)
theorem dX0_solve_194 : decode cX0_solve 194 = .ok (.iadd, 1) := dk_96 (dk_at dksX0_solve_8 6 rfl rfl)
theorem dX0_solve_195 : decode cX0_solve 195 = .ok (.putfield 779, 3) := dk_181 3 11 (dk_at dksX0_solve_8 7 rfl rfl)
theorem dX0_solve_198 : decode cX0_solve 198 = .ok (.aload_n 0, 1) := dk_42 (dk_at dksX0_solve_8 10 rfl rfl)
theorem dX0_solve_199 : decode cX0_solve 199 = .ok (.getfield 776, 3) := dk_180 3 8 (dk_at dksX0_solve_8 11 rfl rfl)
theorem dX0_solve_202 : decode cX0_solve 202 = .ok (.iload_n 1, 1) := dk_27 (dk_at dksX0_solve_8 14 rfl rfl)
theorem dX0_solve_203 : decode cX0_solve 203 = .ok (.iload_n 2, 1) := dk_28 (dk_at dksX0_solve_8 15 rfl rfl)
theorem dX0_solve_204 : decode cX0_solve 204 = .ok (.iastore, 1) := dk_79 (dk_at dksX0_solve_8 16 rfl rfl)
theorem dX0_solve_205 : decode cX0_solve 205 = .ok (.aload_n 0, 1) := dk_42 (dk_at dksX0_solve_8 17 rfl rfl)
theorem dX0_solve_206 : decode cX0_solve 206 = .ok (.getfield 782, 3) := dk_180 3 14 (dk_at dksX0_solve_8 18 rfl rfl)
theorem dX0_solve_209 : decode cX0_solve 209 = .ok (.iload_n 1, 1) := dk_27 (dk_at dksX0_solve_8 21 rfl rfl)
theorem dX0_solve_210 : decode cX0_solve 210 = .ok (.iload_n 3, 1) := dk_29 (dk_at dksX0_solve_8 22 rfl rfl)
theorem dX0_solve_211 : decode cX0_solve 211 = .ok (.iastore, 1) := dk_79 (dk_at dksX0_solve_8 23 rfl rfl)
theorem dX0_solve_212 : decode cX0_solve 212 = .ok (.return_, 1) := dk_177 (dk_at dksX0_solve_9 0 rfl rfl)
abbrev cX0_list : ByteArray := prog_1_method_116_code
def yX0_list : MethodName := ⟨RX0, "list", "()V"⟩
def dkwX0_list_9 : List UInt8 := [96, 181, 3, 81, 177]
abbrev dktX0_list_9 : List UInt8 := dkwX0_list_9 ++ []
def dkwX0_list_8 : List UInt8 := [180, 3, 84, 16, 62, 28, 104, 29, 96, 21, 4, 79, 132, 3, 1, 167, 255, 180, 42, 89, 180, 3, 81, 4]
abbrev dktX0_list_8 : List UInt8 := dkwX0_list_8 ++ dktX0_list_9
def dkwX0_list_7 : List UInt8 := [29, 96, 42, 180, 3, 84, 16, 62, 21, 5, 4, 100, 104, 29, 96, 46, 79, 132, 5, 255, 167, 255, 221, 42]
abbrev dktX0_list_7 : List UInt8 := dkwX0_list_7 ++ dktX0_list_8
def dkwX0_list_6 : List UInt8 := [104, 29, 96, 46, 54, 4, 27, 54, 5, 21, 5, 28, 164, 0, 35, 42, 180, 3, 84, 16, 62, 21, 5, 104]
abbrev dktX0_list_6 : List UInt8 := dkwX0_list_6 ++ dktX0_list_7
def dkwX0_list_5 : List UInt8 := [160, 0, 9, 42, 5, 182, 2, 83, 191, 3, 62, 29, 16, 62, 162, 0, 76, 42, 180, 3, 84, 16, 62, 27]
abbrev dktX0_list_5 : List UInt8 := dkwX0_list_5 ++ dktX0_list_6
def dkwX0_list_4 : List UInt8 := [154, 0, 4, 177, 29, 158, 0, 6, 167, 0, 9, 132, 2, 255, 167, 255, 224, 42, 180, 3, 81, 17, 0, 200]
abbrev dktX0_list_4 : List UInt8 := dkwX0_list_4 ++ dktX0_list_5
def dkwX0_list_3 : List UInt8 := [180, 3, 90, 79, 27, 61, 28, 42, 180, 3, 78, 164, 0, 30, 42, 27, 28, 4, 100, 182, 3, 93, 62, 29]
abbrev dktX0_list_3 : List UInt8 := dkwX0_list_3 ++ dktX0_list_4
def dkwX0_list_2 : List UInt8 := [104, 16, 60, 96, 42, 180, 3, 87, 79, 42, 180, 3, 84, 16, 62, 27, 104, 16, 60, 96, 4, 96, 42]
abbrev dktX0_list_2 : List UInt8 := dkwX0_list_2 ++ dktX0_list_3
def dkwX0_list_1 : List UInt8 := [27, 104, 28, 96, 42, 180, 3, 39, 28, 46, 79, 132, 2, 1, 167, 255, 230, 42, 180, 3, 84, 16, 62, 27]
abbrev dktX0_list_1 : List UInt8 := dkwX0_list_1 ++ dktX0_list_2
def dkwX0_list_0 : List UInt8 := [42, 180, 3, 78, 42, 180, 3, 81, 96, 60, 3, 61, 28, 16, 60, 162, 0, 26, 42, 180, 3, 84, 16, 62]
abbrev dktX0_list_0 : List UInt8 := dkwX0_list_0 ++ dktX0_list_1
theorem dksX0_list_0 : cX0_list.data.toList.drop 0 = dktX0_list_0 := by decide +kernel
theorem dksX0_list_1 : cX0_list.data.toList.drop 24 = dktX0_list_1 := dk_seg dksX0_list_0 24 rfl rfl
theorem dksX0_list_2 : cX0_list.data.toList.drop 48 = dktX0_list_2 := dk_seg dksX0_list_1 24 rfl rfl
theorem dksX0_list_3 : cX0_list.data.toList.drop 71 = dktX0_list_3 := dk_seg dksX0_list_2 23 rfl rfl
theorem dksX0_list_4 : cX0_list.data.toList.drop 95 = dktX0_list_4 := dk_seg dksX0_list_3 24 rfl rfl
theorem dksX0_list_5 : cX0_list.data.toList.drop 119 = dktX0_list_5 := dk_seg dksX0_list_4 24 rfl rfl
theorem dksX0_list_6 : cX0_list.data.toList.drop 143 = dktX0_list_6 := dk_seg dksX0_list_5 24 rfl rfl
theorem dksX0_list_7 : cX0_list.data.toList.drop 167 = dktX0_list_7 := dk_seg dksX0_list_6 24 rfl rfl
theorem dksX0_list_8 : cX0_list.data.toList.drop 191 = dktX0_list_8 := dk_seg dksX0_list_7 24 rfl rfl
theorem dksX0_list_9 : cX0_list.data.toList.drop 215 = dktX0_list_9 := dk_seg dksX0_list_8 24 rfl rfl
theorem dX0_list_0 : decode cX0_list 0 = .ok (.aload_n 0, 1) := dk_42 (dk_at dksX0_list_0 0 rfl rfl)
theorem dX0_list_1 : decode cX0_list 1 = .ok (.getfield 846, 3) := dk_180 3 78 (dk_at dksX0_list_0 1 rfl rfl)
theorem dX0_list_4 : decode cX0_list 4 = .ok (.aload_n 0, 1) := dk_42 (dk_at dksX0_list_0 4 rfl rfl)
theorem dX0_list_5 : decode cX0_list 5 = .ok (.getfield 849, 3) := dk_180 3 81 (dk_at dksX0_list_0 5 rfl rfl)
theorem dX0_list_8 : decode cX0_list 8 = .ok (.iadd, 1) := dk_96 (dk_at dksX0_list_0 8 rfl rfl)
theorem dX0_list_9 : decode cX0_list 9 = .ok (.istore_n 1, 1) := dk_60 (dk_at dksX0_list_0 9 rfl rfl)
theorem dX0_list_10 : decode cX0_list 10 = .ok (.iconst 0, 1) := dk_3 (dk_at dksX0_list_0 10 rfl rfl)
theorem dX0_list_11 : decode cX0_list 11 = .ok (.istore_n 2, 1) := dk_61 (dk_at dksX0_list_0 11 rfl rfl)
theorem dX0_list_12 : decode cX0_list 12 = .ok (.iload_n 2, 1) := dk_28 (dk_at dksX0_list_0 12 rfl rfl)
theorem dX0_list_13 : decode cX0_list 13 = .ok (.bipush 60, 2) := dk_16 60 (dk_at dksX0_list_0 13 rfl rfl)
theorem dX0_list_15 : decode cX0_list 15 = .ok (.if_icmp .ge 26, 3) := dk_162 0 26 (dk_at dksX0_list_0 15 rfl rfl)
theorem dX0_list_18 : decode cX0_list 18 = .ok (.aload_n 0, 1) := dk_42 (dk_at dksX0_list_0 18 rfl rfl)
theorem dX0_list_19 : decode cX0_list 19 = .ok (.getfield 852, 3) := dk_180 3 84 (dk_at dksX0_list_0 19 rfl rfl)
theorem dX0_list_22 : decode cX0_list 22 = .ok (.bipush 62, 2) := dk_16 62 (dk_at dksX0_list_0 22 rfl rfl)
theorem dX0_list_24 : decode cX0_list 24 = .ok (.iload_n 1, 1) := dk_27 (dk_at dksX0_list_1 0 rfl rfl)
theorem dX0_list_25 : decode cX0_list 25 = .ok (.imul, 1) := dk_104 (dk_at dksX0_list_1 1 rfl rfl)
theorem dX0_list_26 : decode cX0_list 26 = .ok (.iload_n 2, 1) := dk_28 (dk_at dksX0_list_1 2 rfl rfl)
theorem dX0_list_27 : decode cX0_list 27 = .ok (.iadd, 1) := dk_96 (dk_at dksX0_list_1 3 rfl rfl)
theorem dX0_list_28 : decode cX0_list 28 = .ok (.aload_n 0, 1) := dk_42 (dk_at dksX0_list_1 4 rfl rfl)
theorem dX0_list_29 : decode cX0_list 29 = .ok (.getfield 807, 3) := dk_180 3 39 (dk_at dksX0_list_1 5 rfl rfl)
theorem dX0_list_32 : decode cX0_list 32 = .ok (.iload_n 2, 1) := dk_28 (dk_at dksX0_list_1 8 rfl rfl)
theorem dX0_list_33 : decode cX0_list 33 = .ok (.iaload, 1) := dk_46 (dk_at dksX0_list_1 9 rfl rfl)
theorem dX0_list_34 : decode cX0_list 34 = .ok (.iastore, 1) := dk_79 (dk_at dksX0_list_1 10 rfl rfl)
theorem dX0_list_35 : decode cX0_list 35 = .ok (.iinc 2 1, 3) := dk_132 2 1 (dk_at dksX0_list_1 11 rfl rfl)
theorem dX0_list_38 : decode cX0_list 38 = .ok (.goto (-26), 3) := dk_167 255 230 (dk_at dksX0_list_1 14 rfl rfl)
theorem dX0_list_41 : decode cX0_list 41 = .ok (.aload_n 0, 1) := dk_42 (dk_at dksX0_list_1 17 rfl rfl)
theorem dX0_list_42 : decode cX0_list 42 = .ok (.getfield 852, 3) := dk_180 3 84 (dk_at dksX0_list_1 18 rfl rfl)
theorem dX0_list_45 : decode cX0_list 45 = .ok (.bipush 62, 2) := dk_16 62 (dk_at dksX0_list_1 21 rfl rfl)
theorem dX0_list_47 : decode cX0_list 47 = .ok (.iload_n 1, 1) := dk_27 (dk_at dksX0_list_1 23 rfl rfl)
theorem dX0_list_48 : decode cX0_list 48 = .ok (.imul, 1) := dk_104 (dk_at dksX0_list_2 0 rfl rfl)
theorem dX0_list_49 : decode cX0_list 49 = .ok (.bipush 60, 2) := dk_16 60 (dk_at dksX0_list_2 1 rfl rfl)
theorem dX0_list_51 : decode cX0_list 51 = .ok (.iadd, 1) := dk_96 (dk_at dksX0_list_2 3 rfl rfl)
theorem dX0_list_52 : decode cX0_list 52 = .ok (.aload_n 0, 1) := dk_42 (dk_at dksX0_list_2 4 rfl rfl)
theorem dX0_list_53 : decode cX0_list 53 = .ok (.getfield 855, 3) := dk_180 3 87 (dk_at dksX0_list_2 5 rfl rfl)
theorem dX0_list_56 : decode cX0_list 56 = .ok (.iastore, 1) := dk_79 (dk_at dksX0_list_2 8 rfl rfl)
theorem dX0_list_57 : decode cX0_list 57 = .ok (.aload_n 0, 1) := dk_42 (dk_at dksX0_list_2 9 rfl rfl)
theorem dX0_list_58 : decode cX0_list 58 = .ok (.getfield 852, 3) := dk_180 3 84 (dk_at dksX0_list_2 10 rfl rfl)
theorem dX0_list_61 : decode cX0_list 61 = .ok (.bipush 62, 2) := dk_16 62 (dk_at dksX0_list_2 13 rfl rfl)
theorem dX0_list_63 : decode cX0_list 63 = .ok (.iload_n 1, 1) := dk_27 (dk_at dksX0_list_2 15 rfl rfl)
theorem dX0_list_64 : decode cX0_list 64 = .ok (.imul, 1) := dk_104 (dk_at dksX0_list_2 16 rfl rfl)
theorem dX0_list_65 : decode cX0_list 65 = .ok (.bipush 60, 2) := dk_16 60 (dk_at dksX0_list_2 17 rfl rfl)
theorem dX0_list_67 : decode cX0_list 67 = .ok (.iadd, 1) := dk_96 (dk_at dksX0_list_2 19 rfl rfl)
theorem dX0_list_68 : decode cX0_list 68 = .ok (.iconst 1, 1) := dk_4 (dk_at dksX0_list_2 20 rfl rfl)
theorem dX0_list_69 : decode cX0_list 69 = .ok (.iadd, 1) := dk_96 (dk_at dksX0_list_2 21 rfl rfl)
theorem dX0_list_70 : decode cX0_list 70 = .ok (.aload_n 0, 1) := dk_42 (dk_at dksX0_list_2 22 rfl rfl)
theorem dX0_list_71 : decode cX0_list 71 = .ok (.getfield 858, 3) := dk_180 3 90 (dk_at dksX0_list_3 0 rfl rfl)
theorem dX0_list_74 : decode cX0_list 74 = .ok (.iastore, 1) := dk_79 (dk_at dksX0_list_3 3 rfl rfl)
theorem dX0_list_75 : decode cX0_list 75 = .ok (.iload_n 1, 1) := dk_27 (dk_at dksX0_list_3 4 rfl rfl)
theorem dX0_list_76 : decode cX0_list 76 = .ok (.istore_n 2, 1) := dk_61 (dk_at dksX0_list_3 5 rfl rfl)
theorem dX0_list_77 : decode cX0_list 77 = .ok (.iload_n 2, 1) := dk_28 (dk_at dksX0_list_3 6 rfl rfl)
theorem dX0_list_78 : decode cX0_list 78 = .ok (.aload_n 0, 1) := dk_42 (dk_at dksX0_list_3 7 rfl rfl)
theorem dX0_list_79 : decode cX0_list 79 = .ok (.getfield 846, 3) := dk_180 3 78 (dk_at dksX0_list_3 8 rfl rfl)
theorem dX0_list_82 : decode cX0_list 82 = .ok (.if_icmp .le 30, 3) := dk_164 0 30 (dk_at dksX0_list_3 11 rfl rfl)
theorem dX0_list_85 : decode cX0_list 85 = .ok (.aload_n 0, 1) := dk_42 (dk_at dksX0_list_3 14 rfl rfl)
theorem dX0_list_86 : decode cX0_list 86 = .ok (.iload_n 1, 1) := dk_27 (dk_at dksX0_list_3 15 rfl rfl)
theorem dX0_list_87 : decode cX0_list 87 = .ok (.iload_n 2, 1) := dk_28 (dk_at dksX0_list_3 16 rfl rfl)
theorem dX0_list_88 : decode cX0_list 88 = .ok (.iconst 1, 1) := dk_4 (dk_at dksX0_list_3 17 rfl rfl)
theorem dX0_list_89 : decode cX0_list 89 = .ok (.isub, 1) := dk_100 (dk_at dksX0_list_3 18 rfl rfl)
theorem dX0_list_90 : decode cX0_list 90 = .ok (.invokevirtual 861, 3) := dk_182 3 93 (dk_at dksX0_list_3 19 rfl rfl)
theorem dX0_list_93 : decode cX0_list 93 = .ok (.istore_n 3, 1) := dk_62 (dk_at dksX0_list_3 22 rfl rfl)
theorem dX0_list_94 : decode cX0_list 94 = .ok (.iload_n 3, 1) := dk_29 (dk_at dksX0_list_3 23 rfl rfl)
theorem dX0_list_95 : decode cX0_list 95 = .ok (.ifCond .ne 4, 3) := dk_154 0 4 (dk_at dksX0_list_4 0 rfl rfl)
theorem dX0_list_98 : decode cX0_list 98 = .ok (.return_, 1) := dk_177 (dk_at dksX0_list_4 3 rfl rfl)
theorem dX0_list_99 : decode cX0_list 99 = .ok (.iload_n 3, 1) := dk_29 (dk_at dksX0_list_4 4 rfl rfl)
theorem dX0_list_100 : decode cX0_list 100 = .ok (.ifCond .le 6, 3) := dk_158 0 6 (dk_at dksX0_list_4 5 rfl rfl)
theorem dX0_list_103 : decode cX0_list 103 = .ok (.goto 9, 3) := dk_167 0 9 (dk_at dksX0_list_4 8 rfl rfl)
theorem dX0_list_106 : decode cX0_list 106 = .ok (.iinc 2 (-1), 3) := dk_132 2 255 (dk_at dksX0_list_4 11 rfl rfl)
theorem dX0_list_109 : decode cX0_list 109 = .ok (.goto (-32), 3) := dk_167 255 224 (dk_at dksX0_list_4 14 rfl rfl)
theorem dX0_list_112 : decode cX0_list 112 = .ok (.aload_n 0, 1) := dk_42 (dk_at dksX0_list_4 17 rfl rfl)
theorem dX0_list_113 : decode cX0_list 113 = .ok (.getfield 849, 3) := dk_180 3 81 (dk_at dksX0_list_4 18 rfl rfl)
theorem dX0_list_116 : decode cX0_list 116 = .ok (.sipush 200, 3) := dk_17 0 200 (dk_at dksX0_list_4 21 rfl rfl)
theorem dX0_list_119 : decode cX0_list 119 = .ok (.if_icmp .ne 9, 3) := dk_160 0 9 (dk_at dksX0_list_5 0 rfl rfl)
theorem dX0_list_122 : decode cX0_list 122 = .ok (.aload_n 0, 1) := dk_42 (dk_at dksX0_list_5 3 rfl rfl)
theorem dX0_list_123 : decode cX0_list 123 = .ok (.iconst 2, 1) := dk_5 (dk_at dksX0_list_5 4 rfl rfl)
theorem dX0_list_124 : decode cX0_list 124 = .ok (.invokevirtual 595, 3) := dk_182 2 83 (dk_at dksX0_list_5 5 rfl rfl)
theorem dX0_list_127 : decode cX0_list 127 = .ok (.athrow, 1) := dk_191 (dk_at dksX0_list_5 8 rfl rfl)
theorem dX0_list_128 : decode cX0_list 128 = .ok (.iconst 0, 1) := dk_3 (dk_at dksX0_list_5 9 rfl rfl)
theorem dX0_list_129 : decode cX0_list 129 = .ok (.istore_n 3, 1) := dk_62 (dk_at dksX0_list_5 10 rfl rfl)
theorem dX0_list_130 : decode cX0_list 130 = .ok (.iload_n 3, 1) := dk_29 (dk_at dksX0_list_5 11 rfl rfl)
theorem dX0_list_131 : decode cX0_list 131 = .ok (.bipush 62, 2) := dk_16 62 (dk_at dksX0_list_5 12 rfl rfl)
theorem dX0_list_133 : decode cX0_list 133 = .ok (.if_icmp .ge 76, 3) := dk_162 0 76 (dk_at dksX0_list_5 14 rfl rfl)
theorem dX0_list_136 : decode cX0_list 136 = .ok (.aload_n 0, 1) := dk_42 (dk_at dksX0_list_5 17 rfl rfl)
theorem dX0_list_137 : decode cX0_list 137 = .ok (.getfield 852, 3) := dk_180 3 84 (dk_at dksX0_list_5 18 rfl rfl)
theorem dX0_list_140 : decode cX0_list 140 = .ok (.bipush 62, 2) := dk_16 62 (dk_at dksX0_list_5 21 rfl rfl)
theorem dX0_list_142 : decode cX0_list 142 = .ok (.iload_n 1, 1) := dk_27 (dk_at dksX0_list_5 23 rfl rfl)
theorem dX0_list_143 : decode cX0_list 143 = .ok (.imul, 1) := dk_104 (dk_at dksX0_list_6 0 rfl rfl)
theorem dX0_list_144 : decode cX0_list 144 = .ok (.iload_n 3, 1) := dk_29 (dk_at dksX0_list_6 1 rfl rfl)
theorem dX0_list_145 : decode cX0_list 145 = .ok (.iadd, 1) := dk_96 (dk_at dksX0_list_6 2 rfl rfl)
theorem dX0_list_146 : decode cX0_list 146 = .ok (.iaload, 1) := dk_46 (dk_at dksX0_list_6 3 rfl rfl)
theorem dX0_list_147 : decode cX0_list 147 = .ok (.istore 4, 2) := dk_54 4 (dk_at dksX0_list_6 4 rfl rfl)
theorem dX0_list_149 : decode cX0_list 149 = .ok (.iload_n 1, 1) := dk_27 (dk_at dksX0_list_6 6 rfl rfl)
theorem dX0_list_150 : decode cX0_list 150 = .ok (.istore 5, 2) := dk_54 5 (dk_at dksX0_list_6 7 rfl rfl)
theorem dX0_list_152 : decode cX0_list 152 = .ok (.iload 5, 2) := dk_21 5 (dk_at dksX0_list_6 9 rfl rfl)
theorem dX0_list_154 : decode cX0_list 154 = .ok (.iload_n 2, 1) := dk_28 (dk_at dksX0_list_6 11 rfl rfl)
theorem dX0_list_155 : decode cX0_list 155 = .ok (.if_icmp .le 35, 3) := dk_164 0 35 (dk_at dksX0_list_6 12 rfl rfl)
theorem dX0_list_158 : decode cX0_list 158 = .ok (.aload_n 0, 1) := dk_42 (dk_at dksX0_list_6 15 rfl rfl)
theorem dX0_list_159 : decode cX0_list 159 = .ok (.getfield 852, 3) := dk_180 3 84 (dk_at dksX0_list_6 16 rfl rfl)
theorem dX0_list_162 : decode cX0_list 162 = .ok (.bipush 62, 2) := dk_16 62 (dk_at dksX0_list_6 19 rfl rfl)
theorem dX0_list_164 : decode cX0_list 164 = .ok (.iload 5, 2) := dk_21 5 (dk_at dksX0_list_6 21 rfl rfl)
theorem dX0_list_166 : decode cX0_list 166 = .ok (.imul, 1) := dk_104 (dk_at dksX0_list_6 23 rfl rfl)
theorem dX0_list_167 : decode cX0_list 167 = .ok (.iload_n 3, 1) := dk_29 (dk_at dksX0_list_7 0 rfl rfl)
theorem dX0_list_168 : decode cX0_list 168 = .ok (.iadd, 1) := dk_96 (dk_at dksX0_list_7 1 rfl rfl)
theorem dX0_list_169 : decode cX0_list 169 = .ok (.aload_n 0, 1) := dk_42 (dk_at dksX0_list_7 2 rfl rfl)
theorem dX0_list_170 : decode cX0_list 170 = .ok (.getfield 852, 3) := dk_180 3 84 (dk_at dksX0_list_7 3 rfl rfl)
theorem dX0_list_173 : decode cX0_list 173 = .ok (.bipush 62, 2) := dk_16 62 (dk_at dksX0_list_7 6 rfl rfl)
theorem dX0_list_175 : decode cX0_list 175 = .ok (.iload 5, 2) := dk_21 5 (dk_at dksX0_list_7 8 rfl rfl)
theorem dX0_list_177 : decode cX0_list 177 = .ok (.iconst 1, 1) := dk_4 (dk_at dksX0_list_7 10 rfl rfl)
theorem dX0_list_178 : decode cX0_list 178 = .ok (.isub, 1) := dk_100 (dk_at dksX0_list_7 11 rfl rfl)
theorem dX0_list_179 : decode cX0_list 179 = .ok (.imul, 1) := dk_104 (dk_at dksX0_list_7 12 rfl rfl)
theorem dX0_list_180 : decode cX0_list 180 = .ok (.iload_n 3, 1) := dk_29 (dk_at dksX0_list_7 13 rfl rfl)
theorem dX0_list_181 : decode cX0_list 181 = .ok (.iadd, 1) := dk_96 (dk_at dksX0_list_7 14 rfl rfl)
theorem dX0_list_182 : decode cX0_list 182 = .ok (.iaload, 1) := dk_46 (dk_at dksX0_list_7 15 rfl rfl)
theorem dX0_list_183 : decode cX0_list 183 = .ok (.iastore, 1) := dk_79 (dk_at dksX0_list_7 16 rfl rfl)
theorem dX0_list_184 : decode cX0_list 184 = .ok (.iinc 5 (-1), 3) := dk_132 5 255 (dk_at dksX0_list_7 17 rfl rfl)
theorem dX0_list_187 : decode cX0_list 187 = .ok (.goto (-35), 3) := dk_167 255 221 (dk_at dksX0_list_7 20 rfl rfl)
theorem dX0_list_190 : decode cX0_list 190 = .ok (.aload_n 0, 1) := dk_42 (dk_at dksX0_list_7 23 rfl rfl)
theorem dX0_list_191 : decode cX0_list 191 = .ok (.getfield 852, 3) := dk_180 3 84 (dk_at dksX0_list_8 0 rfl rfl)
theorem dX0_list_194 : decode cX0_list 194 = .ok (.bipush 62, 2) := dk_16 62 (dk_at dksX0_list_8 3 rfl rfl)
theorem dX0_list_196 : decode cX0_list 196 = .ok (.iload_n 2, 1) := dk_28 (dk_at dksX0_list_8 5 rfl rfl)
theorem dX0_list_197 : decode cX0_list 197 = .ok (.imul, 1) := dk_104 (dk_at dksX0_list_8 6 rfl rfl)
theorem dX0_list_198 : decode cX0_list 198 = .ok (.iload_n 3, 1) := dk_29 (dk_at dksX0_list_8 7 rfl rfl)
theorem dX0_list_199 : decode cX0_list 199 = .ok (.iadd, 1) := dk_96 (dk_at dksX0_list_8 8 rfl rfl)
theorem dX0_list_200 : decode cX0_list 200 = .ok (.iload 4, 2) := dk_21 4 (dk_at dksX0_list_8 9 rfl rfl)
theorem dX0_list_202 : decode cX0_list 202 = .ok (.iastore, 1) := dk_79 (dk_at dksX0_list_8 11 rfl rfl)
theorem dX0_list_203 : decode cX0_list 203 = .ok (.iinc 3 1, 3) := dk_132 3 1 (dk_at dksX0_list_8 12 rfl rfl)
theorem dX0_list_206 : decode cX0_list 206 = .ok (.goto (-76), 3) := dk_167 255 180 (dk_at dksX0_list_8 15 rfl rfl)
theorem dX0_list_209 : decode cX0_list 209 = .ok (.aload_n 0, 1) := dk_42 (dk_at dksX0_list_8 18 rfl rfl)
theorem dX0_list_210 : decode cX0_list 210 = .ok (.dup, 1) := dk_89 (dk_at dksX0_list_8 19 rfl rfl)
theorem dX0_list_211 : decode cX0_list 211 = .ok (.getfield 849, 3) := dk_180 3 81 (dk_at dksX0_list_8 20 rfl rfl)
theorem dX0_list_214 : decode cX0_list 214 = .ok (.iconst 1, 1) := dk_4 (dk_at dksX0_list_8 23 rfl rfl)
theorem dX0_list_215 : decode cX0_list 215 = .ok (.iadd, 1) := dk_96 (dk_at dksX0_list_9 0 rfl rfl)
theorem dX0_list_216 : decode cX0_list 216 = .ok (.putfield 849, 3) := dk_181 3 81 (dk_at dksX0_list_9 1 rfl rfl)
theorem dX0_list_219 : decode cX0_list 219 = .ok (.return_, 1) := dk_177 (dk_at dksX0_list_9 4 rfl rfl)
abbrev cX0_compareMatchers : ByteArray := prog_1_method_117_code
def yX0_compareMatchers : MethodName := ⟨RX0, "compareMatchers", "(II)I"⟩
def dkwX0_compareMatchers_3 : List UInt8 := [54, 6, 21, 6, 153, 0, 6, 21, 6, 172, 132, 3, 1, 167, 255, 175, 3, 172]
abbrev dktX0_compareMatchers_3 : List UInt8 := dkwX0_compareMatchers_3 ++ []
def dkwX0_compareMatchers_2 : List UInt8 := [16, 60, 162, 0, 14, 42, 21, 4, 21, 5, 182, 2, 119, 167, 0, 11, 42, 21, 4, 21, 5, 182, 3, 96]
abbrev dktX0_compareMatchers_2 : List UInt8 := dkwX0_compareMatchers_2 ++ dktX0_compareMatchers_3
def dkwX0_compareMatchers_1 : List UInt8 := [180, 3, 84, 16, 62, 28, 104, 29, 96, 46, 54, 5, 21, 4, 21, 5, 160, 0, 7, 3, 167, 0, 28, 29]
abbrev dktX0_compareMatchers_1 : List UInt8 := dkwX0_compareMatchers_1 ++ dktX0_compareMatchers_2
def dkwX0_compareMatchers_0 : List UInt8 := [3, 62, 29, 16, 62, 162, 0, 81, 42, 180, 3, 84, 16, 62, 27, 104, 29, 96, 46, 54, 4, 42]
abbrev dktX0_compareMatchers_0 : List UInt8 := dkwX0_compareMatchers_0 ++ dktX0_compareMatchers_1
theorem dksX0_compareMatchers_0 : cX0_compareMatchers.data.toList.drop 0 = dktX0_compareMatchers_0 := by decide +kernel
theorem dksX0_compareMatchers_1 : cX0_compareMatchers.data.toList.drop 22 = dktX0_compareMatchers_1 := dk_seg dksX0_compareMatchers_0 22 rfl rfl
theorem dksX0_compareMatchers_2 : cX0_compareMatchers.data.toList.drop 46 = dktX0_compareMatchers_2 := dk_seg dksX0_compareMatchers_1 24 rfl rfl
theorem dksX0_compareMatchers_3 : cX0_compareMatchers.data.toList.drop 70 = dktX0_compareMatchers_3 := dk_seg dksX0_compareMatchers_2 24 rfl rfl
theorem dX0_compareMatchers_0 : decode cX0_compareMatchers 0 = .ok (.iconst 0, 1) := dk_3 (dk_at dksX0_compareMatchers_0 0 rfl rfl)
theorem dX0_compareMatchers_1 : decode cX0_compareMatchers 1 = .ok (.istore_n 3, 1) := dk_62 (dk_at dksX0_compareMatchers_0 1 rfl rfl)
theorem dX0_compareMatchers_2 : decode cX0_compareMatchers 2 = .ok (.iload_n 3, 1) := dk_29 (dk_at dksX0_compareMatchers_0 2 rfl rfl)
theorem dX0_compareMatchers_3 : decode cX0_compareMatchers 3 = .ok (.bipush 62, 2) := dk_16 62 (dk_at dksX0_compareMatchers_0 3 rfl rfl)
theorem dX0_compareMatchers_5 : decode cX0_compareMatchers 5 = .ok (.if_icmp .ge 81, 3) := dk_162 0 81 (dk_at dksX0_compareMatchers_0 5 rfl rfl)
theorem dX0_compareMatchers_8 : decode cX0_compareMatchers 8 = .ok (.aload_n 0, 1) := dk_42 (dk_at dksX0_compareMatchers_0 8 rfl rfl)
theorem dX0_compareMatchers_9 : decode cX0_compareMatchers 9 = .ok (.getfield 852, 3) := dk_180 3 84 (dk_at dksX0_compareMatchers_0 9 rfl rfl)
theorem dX0_compareMatchers_12 : decode cX0_compareMatchers 12 = .ok (.bipush 62, 2) := dk_16 62 (dk_at dksX0_compareMatchers_0 12 rfl rfl)
theorem dX0_compareMatchers_14 : decode cX0_compareMatchers 14 = .ok (.iload_n 1, 1) := dk_27 (dk_at dksX0_compareMatchers_0 14 rfl rfl)
theorem dX0_compareMatchers_15 : decode cX0_compareMatchers 15 = .ok (.imul, 1) := dk_104 (dk_at dksX0_compareMatchers_0 15 rfl rfl)
theorem dX0_compareMatchers_16 : decode cX0_compareMatchers 16 = .ok (.iload_n 3, 1) := dk_29 (dk_at dksX0_compareMatchers_0 16 rfl rfl)
theorem dX0_compareMatchers_17 : decode cX0_compareMatchers 17 = .ok (.iadd, 1) := dk_96 (dk_at dksX0_compareMatchers_0 17 rfl rfl)
theorem dX0_compareMatchers_18 : decode cX0_compareMatchers 18 = .ok (.iaload, 1) := dk_46 (dk_at dksX0_compareMatchers_0 18 rfl rfl)
theorem dX0_compareMatchers_19 : decode cX0_compareMatchers 19 = .ok (.istore 4, 2) := dk_54 4 (dk_at dksX0_compareMatchers_0 19 rfl rfl)
theorem dX0_compareMatchers_21 : decode cX0_compareMatchers 21 = .ok (.aload_n 0, 1) := dk_42 (dk_at dksX0_compareMatchers_0 21 rfl rfl)
theorem dX0_compareMatchers_22 : decode cX0_compareMatchers 22 = .ok (.getfield 852, 3) := dk_180 3 84 (dk_at dksX0_compareMatchers_1 0 rfl rfl)
theorem dX0_compareMatchers_25 : decode cX0_compareMatchers 25 = .ok (.bipush 62, 2) := dk_16 62 (dk_at dksX0_compareMatchers_1 3 rfl rfl)
theorem dX0_compareMatchers_27 : decode cX0_compareMatchers 27 = .ok (.iload_n 2, 1) := dk_28 (dk_at dksX0_compareMatchers_1 5 rfl rfl)
theorem dX0_compareMatchers_28 : decode cX0_compareMatchers 28 = .ok (.imul, 1) := dk_104 (dk_at dksX0_compareMatchers_1 6 rfl rfl)
theorem dX0_compareMatchers_29 : decode cX0_compareMatchers 29 = .ok (.iload_n 3, 1) := dk_29 (dk_at dksX0_compareMatchers_1 7 rfl rfl)
theorem dX0_compareMatchers_30 : decode cX0_compareMatchers 30 = .ok (.iadd, 1) := dk_96 (dk_at dksX0_compareMatchers_1 8 rfl rfl)
theorem dX0_compareMatchers_31 : decode cX0_compareMatchers 31 = .ok (.iaload, 1) := dk_46 (dk_at dksX0_compareMatchers_1 9 rfl rfl)
theorem dX0_compareMatchers_32 : decode cX0_compareMatchers 32 = .ok (.istore 5, 2) := dk_54 5 (dk_at dksX0_compareMatchers_1 10 rfl rfl)
theorem dX0_compareMatchers_34 : decode cX0_compareMatchers 34 = .ok (.iload 4, 2) := dk_21 4 (dk_at dksX0_compareMatchers_1 12 rfl rfl)
theorem dX0_compareMatchers_36 : decode cX0_compareMatchers 36 = .ok (.iload 5, 2) := dk_21 5 (dk_at dksX0_compareMatchers_1 14 rfl rfl)
theorem dX0_compareMatchers_38 : decode cX0_compareMatchers 38 = .ok (.if_icmp .ne 7, 3) := dk_160 0 7 (dk_at dksX0_compareMatchers_1 16 rfl rfl)
theorem dX0_compareMatchers_41 : decode cX0_compareMatchers 41 = .ok (.iconst 0, 1) := dk_3 (dk_at dksX0_compareMatchers_1 19 rfl rfl)
theorem dX0_compareMatchers_42 : decode cX0_compareMatchers 42 = .ok (.goto 28, 3) := dk_167 0 28 (dk_at dksX0_compareMatchers_1 20 rfl rfl)
theorem dX0_compareMatchers_45 : decode cX0_compareMatchers 45 = .ok (.iload_n 3, 1) := dk_29 (dk_at dksX0_compareMatchers_1 23 rfl rfl)
theorem dX0_compareMatchers_46 : decode cX0_compareMatchers 46 = .ok (.bipush 60, 2) := dk_16 60 (dk_at dksX0_compareMatchers_2 0 rfl rfl)
theorem dX0_compareMatchers_48 : decode cX0_compareMatchers 48 = .ok (.if_icmp .ge 14, 3) := dk_162 0 14 (dk_at dksX0_compareMatchers_2 2 rfl rfl)
theorem dX0_compareMatchers_51 : decode cX0_compareMatchers 51 = .ok (.aload_n 0, 1) := dk_42 (dk_at dksX0_compareMatchers_2 5 rfl rfl)
theorem dX0_compareMatchers_52 : decode cX0_compareMatchers 52 = .ok (.iload 4, 2) := dk_21 4 (dk_at dksX0_compareMatchers_2 6 rfl rfl)
theorem dX0_compareMatchers_54 : decode cX0_compareMatchers 54 = .ok (.iload 5, 2) := dk_21 5 (dk_at dksX0_compareMatchers_2 8 rfl rfl)
theorem dX0_compareMatchers_56 : decode cX0_compareMatchers 56 = .ok (.invokevirtual 631, 3) := dk_182 2 119 (dk_at dksX0_compareMatchers_2 10 rfl rfl)
theorem dX0_compareMatchers_59 : decode cX0_compareMatchers 59 = .ok (.goto 11, 3) := dk_167 0 11 (dk_at dksX0_compareMatchers_2 13 rfl rfl)
theorem dX0_compareMatchers_62 : decode cX0_compareMatchers 62 = .ok (.aload_n 0, 1) := dk_42 (dk_at dksX0_compareMatchers_2 16 rfl rfl)
theorem dX0_compareMatchers_63 : decode cX0_compareMatchers 63 = .ok (.iload 4, 2) := dk_21 4 (dk_at dksX0_compareMatchers_2 17 rfl rfl)
theorem dX0_compareMatchers_65 : decode cX0_compareMatchers 65 = .ok (.iload 5, 2) := dk_21 5 (dk_at dksX0_compareMatchers_2 19 rfl rfl)
theorem dX0_compareMatchers_67 : decode cX0_compareMatchers 67 = .ok (.invokevirtual 864, 3) := dk_182 3 96 (dk_at dksX0_compareMatchers_2 21 rfl rfl)
theorem dX0_compareMatchers_70 : decode cX0_compareMatchers 70 = .ok (.istore 6, 2) := dk_54 6 (dk_at dksX0_compareMatchers_3 0 rfl rfl)
theorem dX0_compareMatchers_72 : decode cX0_compareMatchers 72 = .ok (.iload 6, 2) := dk_21 6 (dk_at dksX0_compareMatchers_3 2 rfl rfl)
theorem dX0_compareMatchers_74 : decode cX0_compareMatchers 74 = .ok (.ifCond .eq 6, 3) := dk_153 0 6 (dk_at dksX0_compareMatchers_3 4 rfl rfl)
theorem dX0_compareMatchers_77 : decode cX0_compareMatchers 77 = .ok (.iload 6, 2) := dk_21 6 (dk_at dksX0_compareMatchers_3 7 rfl rfl)
theorem dX0_compareMatchers_79 : decode cX0_compareMatchers 79 = .ok (.ireturn, 1) := dk_172 (dk_at dksX0_compareMatchers_3 9 rfl rfl)
theorem dX0_compareMatchers_80 : decode cX0_compareMatchers 80 = .ok (.iinc 3 1, 3) := dk_132 3 1 (dk_at dksX0_compareMatchers_3 10 rfl rfl)
theorem dX0_compareMatchers_83 : decode cX0_compareMatchers 83 = .ok (.goto (-81), 3) := dk_167 255 175 (dk_at dksX0_compareMatchers_3 13 rfl rfl)
theorem dX0_compareMatchers_86 : decode cX0_compareMatchers 86 = .ok (.iconst 0, 1) := dk_3 (dk_at dksX0_compareMatchers_3 16 rfl rfl)
theorem dX0_compareMatchers_87 : decode cX0_compareMatchers 87 = .ok (.ireturn, 1) := dk_172 (dk_at dksX0_compareMatchers_3 17 rfl rfl)
abbrev cX0_compareRest : ByteArray := prog_1_method_120_code
def yX0_compareRest : MethodName := ⟨RX0, "compareRest", "(II)I"⟩
def dkwX0_compareRest_3 : List UInt8 := [167, 255, 219, 3, 172]
abbrev dktX0_compareRest_3 : List UInt8 := dkwX0_compareRest_3 ++ []
def dkwX0_compareRest_2 : List UInt8 := [28, 21, 4, 182, 3, 105, 182, 2, 119, 54, 5, 21, 5, 153, 0, 6, 21, 5, 172, 132, 4, 1]
abbrev dktX0_compareRest_2 : List UInt8 := dkwX0_compareRest_2 ++ dktX0_compareRest_3
def dkwX0_compareRest_1 : List UInt8 := [2, 167, 0, 4, 4, 172, 3, 54, 4, 21, 4, 29, 162, 0, 37, 42, 42, 27, 21, 4, 182, 3, 105, 42]
abbrev dktX0_compareRest_1 : List UInt8 := dkwX0_compareRest_1 ++ dktX0_compareRest_2
def dkwX0_compareRest_0 : List UInt8 := [42, 27, 182, 3, 102, 62, 29, 42, 28, 182, 3, 102, 159, 0, 18, 29, 42, 28, 182, 3, 102, 162, 0, 7]
abbrev dktX0_compareRest_0 : List UInt8 := dkwX0_compareRest_0 ++ dktX0_compareRest_1
theorem dksX0_compareRest_0 : cX0_compareRest.data.toList.drop 0 = dktX0_compareRest_0 := by decide +kernel
theorem dksX0_compareRest_1 : cX0_compareRest.data.toList.drop 24 = dktX0_compareRest_1 := dk_seg dksX0_compareRest_0 24 rfl rfl
theorem dksX0_compareRest_2 : cX0_compareRest.data.toList.drop 48 = dktX0_compareRest_2 := dk_seg dksX0_compareRest_1 24 rfl rfl
theorem dksX0_compareRest_3 : cX0_compareRest.data.toList.drop 70 = dktX0_compareRest_3 := dk_seg dksX0_compareRest_2 22 rfl rfl
theorem dX0_compareRest_0 : decode cX0_compareRest 0 = .ok (.aload_n 0, 1) := dk_42 (dk_at dksX0_compareRest_0 0 rfl rfl)
theorem dX0_compareRest_1 : decode cX0_compareRest 1 = .ok (.iload_n 1, 1) := dk_27 (dk_at dksX0_compareRest_0 1 rfl rfl)
theorem dX0_compareRest_2 : decode cX0_compareRest 2 = .ok (.invokevirtual 870, 3) := dk_182 3 102 (dk_at dksX0_compareRest_0 2 rfl rfl)
theorem dX0_compareRest_5 : decode cX0_compareRest 5 = .ok (.istore_n 3, 1) := dk_62 (dk_at dksX0_compareRest_0 5 rfl rfl)
theorem dX0_compareRest_6 : decode cX0_compareRest 6 = .ok (.iload_n 3, 1) := dk_29 (dk_at dksX0_compareRest_0 6 rfl rfl)
theorem dX0_compareRest_7 : decode cX0_compareRest 7 = .ok (.aload_n 0, 1) := dk_42 (dk_at dksX0_compareRest_0 7 rfl rfl)
theorem dX0_compareRest_8 : decode cX0_compareRest 8 = .ok (.iload_n 2, 1) := dk_28 (dk_at dksX0_compareRest_0 8 rfl rfl)
theorem dX0_compareRest_9 : decode cX0_compareRest 9 = .ok (.invokevirtual 870, 3) := dk_182 3 102 (dk_at dksX0_compareRest_0 9 rfl rfl)
theorem dX0_compareRest_12 : decode cX0_compareRest 12 = .ok (.if_icmp .eq 18, 3) := dk_159 0 18 (dk_at dksX0_compareRest_0 12 rfl rfl)
theorem dX0_compareRest_15 : decode cX0_compareRest 15 = .ok (.iload_n 3, 1) := dk_29 (dk_at dksX0_compareRest_0 15 rfl rfl)
theorem dX0_compareRest_16 : decode cX0_compareRest 16 = .ok (.aload_n 0, 1) := dk_42 (dk_at dksX0_compareRest_0 16 rfl rfl)
theorem dX0_compareRest_17 : decode cX0_compareRest 17 = .ok (.iload_n 2, 1) := dk_28 (dk_at dksX0_compareRest_0 17 rfl rfl)
theorem dX0_compareRest_18 : decode cX0_compareRest 18 = .ok (.invokevirtual 870, 3) := dk_182 3 102 (dk_at dksX0_compareRest_0 18 rfl rfl)
theorem dX0_compareRest_21 : decode cX0_compareRest 21 = .ok (.if_icmp .ge 7, 3) := dk_162 0 7 (dk_at dksX0_compareRest_0 21 rfl rfl)
theorem dX0_compareRest_24 : decode cX0_compareRest 24 = .ok (.iconst (-1), 1) := dk_2 (dk_at dksX0_compareRest_1 0 rfl rfl)
theorem dX0_compareRest_25 : decode cX0_compareRest 25 = .ok (.goto 4, 3) := dk_167 0 4 (dk_at dksX0_compareRest_1 1 rfl rfl)
theorem dX0_compareRest_28 : decode cX0_compareRest 28 = .ok (.iconst 1, 1) := dk_4 (dk_at dksX0_compareRest_1 4 rfl rfl)
theorem dX0_compareRest_29 : decode cX0_compareRest 29 = .ok (.ireturn, 1) := dk_172 (dk_at dksX0_compareRest_1 5 rfl rfl)
theorem dX0_compareRest_30 : decode cX0_compareRest 30 = .ok (.iconst 0, 1) := dk_3 (dk_at dksX0_compareRest_1 6 rfl rfl)
theorem dX0_compareRest_31 : decode cX0_compareRest 31 = .ok (.istore 4, 2) := dk_54 4 (dk_at dksX0_compareRest_1 7 rfl rfl)
theorem dX0_compareRest_33 : decode cX0_compareRest 33 = .ok (.iload 4, 2) := dk_21 4 (dk_at dksX0_compareRest_1 9 rfl rfl)
theorem dX0_compareRest_35 : decode cX0_compareRest 35 = .ok (.iload_n 3, 1) := dk_29 (dk_at dksX0_compareRest_1 11 rfl rfl)
theorem dX0_compareRest_36 : decode cX0_compareRest 36 = .ok (.if_icmp .ge 37, 3) := dk_162 0 37 (dk_at dksX0_compareRest_1 12 rfl rfl)
theorem dX0_compareRest_39 : decode cX0_compareRest 39 = .ok (.aload_n 0, 1) := dk_42 (dk_at dksX0_compareRest_1 15 rfl rfl)
theorem dX0_compareRest_40 : decode cX0_compareRest 40 = .ok (.aload_n 0, 1) := dk_42 (dk_at dksX0_compareRest_1 16 rfl rfl)
theorem dX0_compareRest_41 : decode cX0_compareRest 41 = .ok (.iload_n 1, 1) := dk_27 (dk_at dksX0_compareRest_1 17 rfl rfl)
theorem dX0_compareRest_42 : decode cX0_compareRest 42 = .ok (.iload 4, 2) := dk_21 4 (dk_at dksX0_compareRest_1 18 rfl rfl)
theorem dX0_compareRest_44 : decode cX0_compareRest 44 = .ok (.invokevirtual 873, 3) := dk_182 3 105 (dk_at dksX0_compareRest_1 20 rfl rfl)
theorem dX0_compareRest_47 : decode cX0_compareRest 47 = .ok (.aload_n 0, 1) := dk_42 (dk_at dksX0_compareRest_1 23 rfl rfl)
theorem dX0_compareRest_48 : decode cX0_compareRest 48 = .ok (.iload_n 2, 1) := dk_28 (dk_at dksX0_compareRest_2 0 rfl rfl)
theorem dX0_compareRest_49 : decode cX0_compareRest 49 = .ok (.iload 4, 2) := dk_21 4 (dk_at dksX0_compareRest_2 1 rfl rfl)
theorem dX0_compareRest_51 : decode cX0_compareRest 51 = .ok (.invokevirtual 873, 3) := dk_182 3 105 (dk_at dksX0_compareRest_2 3 rfl rfl)
theorem dX0_compareRest_54 : decode cX0_compareRest 54 = .ok (.invokevirtual 631, 3) := dk_182 2 119 (dk_at dksX0_compareRest_2 6 rfl rfl)
theorem dX0_compareRest_57 : decode cX0_compareRest 57 = .ok (.istore 5, 2) := dk_54 5 (dk_at dksX0_compareRest_2 9 rfl rfl)
theorem dX0_compareRest_59 : decode cX0_compareRest 59 = .ok (.iload 5, 2) := dk_21 5 (dk_at dksX0_compareRest_2 11 rfl rfl)
theorem dX0_compareRest_61 : decode cX0_compareRest 61 = .ok (.ifCond .eq 6, 3) := dk_153 0 6 (dk_at dksX0_compareRest_2 13 rfl rfl)
theorem dX0_compareRest_64 : decode cX0_compareRest 64 = .ok (.iload 5, 2) := dk_21 5 (dk_at dksX0_compareRest_2 16 rfl rfl)
theorem dX0_compareRest_66 : decode cX0_compareRest 66 = .ok (.ireturn, 1) := dk_172 (dk_at dksX0_compareRest_2 18 rfl rfl)
theorem dX0_compareRest_67 : decode cX0_compareRest 67 = .ok (.iinc 4 1, 3) := dk_132 4 1 (dk_at dksX0_compareRest_2 19 rfl rfl)
theorem dX0_compareRest_70 : decode cX0_compareRest 70 = .ok (.goto (-37), 3) := dk_167 255 219 (dk_at dksX0_compareRest_3 0 rfl rfl)
theorem dX0_compareRest_73 : decode cX0_compareRest 73 = .ok (.iconst 0, 1) := dk_3 (dk_at dksX0_compareRest_3 3 rfl rfl)
theorem dX0_compareRest_74 : decode cX0_compareRest 74 = .ok (.ireturn, 1) := dk_172 (dk_at dksX0_compareRest_3 4 rfl rfl)
abbrev cX0_restMany : ByteArray := prog_1_method_118_code
def yX0_restMany : MethodName := ⟨RX0, "restMany", "(I)I"⟩
def dkwX0_restMany_1 : List UInt8 := [180, 2, 66, 27, 46, 167, 0, 4, 4, 172]
abbrev dktX0_restMany_1 : List UInt8 := dkwX0_restMany_1 ++ []
def dkwX0_restMany_0 : List UInt8 := [27, 154, 0, 7, 3, 167, 0, 26, 42, 180, 2, 63, 27, 46, 42, 180, 3, 99, 160, 0, 12, 42]
abbrev dktX0_restMany_0 : List UInt8 := dkwX0_restMany_0 ++ dktX0_restMany_1
theorem dksX0_restMany_0 : cX0_restMany.data.toList.drop 0 = dktX0_restMany_0 := by decide +kernel
theorem dksX0_restMany_1 : cX0_restMany.data.toList.drop 22 = dktX0_restMany_1 := dk_seg dksX0_restMany_0 22 rfl rfl
theorem dX0_restMany_0 : decode cX0_restMany 0 = .ok (.iload_n 1, 1) := dk_27 (dk_at dksX0_restMany_0 0 rfl rfl)
theorem dX0_restMany_1 : decode cX0_restMany 1 = .ok (.ifCond .ne 7, 3) := dk_154 0 7 (dk_at dksX0_restMany_0 1 rfl rfl)
theorem dX0_restMany_4 : decode cX0_restMany 4 = .ok (.iconst 0, 1) := dk_3 (dk_at dksX0_restMany_0 4 rfl rfl)
theorem dX0_restMany_5 : decode cX0_restMany 5 = .ok (.goto 26, 3) := dk_167 0 26 (dk_at dksX0_restMany_0 5 rfl rfl)
theorem dX0_restMany_8 : decode cX0_restMany 8 = .ok (.aload_n 0, 1) := dk_42 (dk_at dksX0_restMany_0 8 rfl rfl)
theorem dX0_restMany_9 : decode cX0_restMany 9 = .ok (.getfield 575, 3) := dk_180 2 63 (dk_at dksX0_restMany_0 9 rfl rfl)
theorem dX0_restMany_12 : decode cX0_restMany 12 = .ok (.iload_n 1, 1) := dk_27 (dk_at dksX0_restMany_0 12 rfl rfl)
theorem dX0_restMany_13 : decode cX0_restMany 13 = .ok (.iaload, 1) := dk_46 (dk_at dksX0_restMany_0 13 rfl rfl)
theorem dX0_restMany_14 : decode cX0_restMany 14 = .ok (.aload_n 0, 1) := dk_42 (dk_at dksX0_restMany_0 14 rfl rfl)
theorem dX0_restMany_15 : decode cX0_restMany 15 = .ok (.getfield 867, 3) := dk_180 3 99 (dk_at dksX0_restMany_0 15 rfl rfl)
theorem dX0_restMany_18 : decode cX0_restMany 18 = .ok (.if_icmp .ne 12, 3) := dk_160 0 12 (dk_at dksX0_restMany_0 18 rfl rfl)
theorem dX0_restMany_21 : decode cX0_restMany 21 = .ok (.aload_n 0, 1) := dk_42 (dk_at dksX0_restMany_0 21 rfl rfl)
theorem dX0_restMany_22 : decode cX0_restMany 22 = .ok (.getfield 578, 3) := dk_180 2 66 (dk_at dksX0_restMany_1 0 rfl rfl)
theorem dX0_restMany_25 : decode cX0_restMany 25 = .ok (.iload_n 1, 1) := dk_27 (dk_at dksX0_restMany_1 3 rfl rfl)
theorem dX0_restMany_26 : decode cX0_restMany 26 = .ok (.iaload, 1) := dk_46 (dk_at dksX0_restMany_1 4 rfl rfl)
theorem dX0_restMany_27 : decode cX0_restMany 27 = .ok (.goto 4, 3) := dk_167 0 4 (dk_at dksX0_restMany_1 5 rfl rfl)
theorem dX0_restMany_30 : decode cX0_restMany 30 = .ok (.iconst 1, 1) := dk_4 (dk_at dksX0_restMany_1 8 rfl rfl)
theorem dX0_restMany_31 : decode cX0_restMany 31 = .ok (.ireturn, 1) := dk_172 (dk_at dksX0_restMany_1 9 rfl rfl)
abbrev cX0_restAt : ByteArray := prog_1_method_119_code
def yX0_restAt : MethodName := ⟨RX0, "restAt", "(II)I"⟩
def dkwX0_restAt_0 : List UInt8 := [42, 180, 2, 63, 27, 46, 42, 180, 3, 99, 160, 0, 12, 42, 27, 28, 182, 2, 109, 167, 0, 4, 27, 172]
abbrev dktX0_restAt_0 : List UInt8 := dkwX0_restAt_0 ++ []
theorem dksX0_restAt_0 : cX0_restAt.data.toList.drop 0 = dktX0_restAt_0 := by decide +kernel
theorem dX0_restAt_0 : decode cX0_restAt 0 = .ok (.aload_n 0, 1) := dk_42 (dk_at dksX0_restAt_0 0 rfl rfl)
theorem dX0_restAt_1 : decode cX0_restAt 1 = .ok (.getfield 575, 3) := dk_180 2 63 (dk_at dksX0_restAt_0 1 rfl rfl)
theorem dX0_restAt_4 : decode cX0_restAt 4 = .ok (.iload_n 1, 1) := dk_27 (dk_at dksX0_restAt_0 4 rfl rfl)
theorem dX0_restAt_5 : decode cX0_restAt 5 = .ok (.iaload, 1) := dk_46 (dk_at dksX0_restAt_0 5 rfl rfl)
theorem dX0_restAt_6 : decode cX0_restAt 6 = .ok (.aload_n 0, 1) := dk_42 (dk_at dksX0_restAt_0 6 rfl rfl)
theorem dX0_restAt_7 : decode cX0_restAt 7 = .ok (.getfield 867, 3) := dk_180 3 99 (dk_at dksX0_restAt_0 7 rfl rfl)
theorem dX0_restAt_10 : decode cX0_restAt 10 = .ok (.if_icmp .ne 12, 3) := dk_160 0 12 (dk_at dksX0_restAt_0 10 rfl rfl)
theorem dX0_restAt_13 : decode cX0_restAt 13 = .ok (.aload_n 0, 1) := dk_42 (dk_at dksX0_restAt_0 13 rfl rfl)
theorem dX0_restAt_14 : decode cX0_restAt 14 = .ok (.iload_n 1, 1) := dk_27 (dk_at dksX0_restAt_0 14 rfl rfl)
theorem dX0_restAt_15 : decode cX0_restAt 15 = .ok (.iload_n 2, 1) := dk_28 (dk_at dksX0_restAt_0 15 rfl rfl)
theorem dX0_restAt_16 : decode cX0_restAt 16 = .ok (.invokevirtual 621, 3) := dk_182 2 109 (dk_at dksX0_restAt_0 16 rfl rfl)
theorem dX0_restAt_19 : decode cX0_restAt 19 = .ok (.goto 4, 3) := dk_167 0 4 (dk_at dksX0_restAt_0 19 rfl rfl)
theorem dX0_restAt_22 : decode cX0_restAt 22 = .ok (.iload_n 1, 1) := dk_27 (dk_at dksX0_restAt_0 22 rfl rfl)
theorem dX0_restAt_23 : decode cX0_restAt 23 = .ok (.ireturn, 1) := dk_172 (dk_at dksX0_restAt_0 23 rfl rfl)
abbrev cX0_share : ByteArray := prog_1_method_114_code
def yX0_share : MethodName := ⟨RX0, "share", "(III)V"⟩
def dkwX0_share_7 : List UInt8 := [100, 21, 5, 126, 54, 7, 167, 255, 133, 177]
abbrev dktX0_share_7 : List UInt8 := dkwX0_share_7 ++ []
def dkwX0_share_6 : List UInt8 := [161, 0, 12, 42, 27, 28, 29, 21, 7, 182, 3, 66, 21, 7, 154, 0, 7, 2, 167, 0, 10, 21, 7, 4]
abbrev dktX0_share_6 : List UInt8 := dkwX0_share_6 ++ dktX0_share_7
def dkwX0_share_5 : List UInt8 := [180, 1, 235, 28, 46, 16, 254, 160, 0, 18, 21, 5, 21, 7, 130, 184, 3, 70, 21, 6, 4, 100]
abbrev dktX0_share_5 : List UInt8 := dkwX0_share_5 ++ dktX0_share_6
def dkwX0_share_4 : List UInt8 := [21, 5, 21, 5, 116, 126, 96, 126, 154, 0, 7, 4, 167, 0, 4, 3, 54, 8, 21, 8, 153, 0, 38, 42]
abbrev dktX0_share_4 : List UInt8 := dkwX0_share_4 ++ dktX0_share_5
def dkwX0_share_3 : List UInt8 := [21, 7, 153, 0, 18, 21, 7, 21, 7, 116, 126, 21, 5, 21, 5, 116, 126, 160, 0, 22, 21, 7, 21, 7]
abbrev dktX0_share_3 : List UInt8 := dkwX0_share_3 ++ dktX0_share_4
def dkwX0_share_2 : List UInt8 := [21, 7, 155, 0, 124, 42, 180, 1, 232, 28, 51, 154, 0, 47, 21, 5, 21, 5, 116, 126, 153, 0, 38]
abbrev dktX0_share_2 : List UInt8 := dkwX0_share_2 ++ dktX0_share_3
def dkwX0_share_1 : List UInt8 := [100, 54, 6, 21, 6, 4, 160, 0, 13, 42, 27, 28, 29, 21, 5, 182, 3, 66, 177, 21, 5, 54, 7]
abbrev dktX0_share_1 : List UInt8 := dkwX0_share_1 ++ dktX0_share_2
def dkwX0_share_0 : List UInt8 := [42, 180, 3, 57, 27, 46, 54, 4, 42, 180, 3, 63, 27, 46, 54, 5, 42, 180, 2, 66, 29, 46, 21, 4]
abbrev dktX0_share_0 : List UInt8 := dkwX0_share_0 ++ dktX0_share_1
theorem dksX0_share_0 : cX0_share.data.toList.drop 0 = dktX0_share_0 := by decide +kernel
theorem dksX0_share_1 : cX0_share.data.toList.drop 24 = dktX0_share_1 := dk_seg dksX0_share_0 24 rfl rfl
theorem dksX0_share_2 : cX0_share.data.toList.drop 47 = dktX0_share_2 := dk_seg dksX0_share_1 23 rfl rfl
theorem dksX0_share_3 : cX0_share.data.toList.drop 70 = dktX0_share_3 := dk_seg dksX0_share_2 23 rfl rfl
theorem dksX0_share_4 : cX0_share.data.toList.drop 94 = dktX0_share_4 := dk_seg dksX0_share_3 24 rfl rfl
theorem dksX0_share_5 : cX0_share.data.toList.drop 118 = dktX0_share_5 := dk_seg dksX0_share_4 24 rfl rfl
theorem dksX0_share_6 : cX0_share.data.toList.drop 140 = dktX0_share_6 := dk_seg dksX0_share_5 22 rfl rfl
theorem dksX0_share_7 : cX0_share.data.toList.drop 164 = dktX0_share_7 := dk_seg dksX0_share_6 24 rfl rfl
theorem dX0_share_0 : decode cX0_share 0 = .ok (.aload_n 0, 1) := dk_42 (dk_at dksX0_share_0 0 rfl rfl)
theorem dX0_share_1 : decode cX0_share 1 = .ok (.getfield 825, 3) := dk_180 3 57 (dk_at dksX0_share_0 1 rfl rfl)
theorem dX0_share_4 : decode cX0_share 4 = .ok (.iload_n 1, 1) := dk_27 (dk_at dksX0_share_0 4 rfl rfl)
theorem dX0_share_5 : decode cX0_share 5 = .ok (.iaload, 1) := dk_46 (dk_at dksX0_share_0 5 rfl rfl)
theorem dX0_share_6 : decode cX0_share 6 = .ok (.istore 4, 2) := dk_54 4 (dk_at dksX0_share_0 6 rfl rfl)
theorem dX0_share_8 : decode cX0_share 8 = .ok (.aload_n 0, 1) := dk_42 (dk_at dksX0_share_0 8 rfl rfl)
theorem dX0_share_9 : decode cX0_share 9 = .ok (.getfield 831, 3) := dk_180 3 63 (dk_at dksX0_share_0 9 rfl rfl)
theorem dX0_share_12 : decode cX0_share 12 = .ok (.iload_n 1, 1) := dk_27 (dk_at dksX0_share_0 12 rfl rfl)
theorem dX0_share_13 : decode cX0_share 13 = .ok (.iaload, 1) := dk_46 (dk_at dksX0_share_0 13 rfl rfl)
theorem dX0_share_14 : decode cX0_share 14 = .ok (.istore 5, 2) := dk_54 5 (dk_at dksX0_share_0 14 rfl rfl)
theorem dX0_share_16 : decode cX0_share 16 = .ok (.aload_n 0, 1) := dk_42 (dk_at dksX0_share_0 16 rfl rfl)
theorem dX0_share_17 : decode cX0_share 17 = .ok (.getfield 578, 3) := dk_180 2 66 (dk_at dksX0_share_0 17 rfl rfl)
theorem dX0_share_20 : decode cX0_share 20 = .ok (.iload_n 3, 1) := dk_29 (dk_at dksX0_share_0 20 rfl rfl)
theorem dX0_share_21 : decode cX0_share 21 = .ok (.iaload, 1) := dk_46 (dk_at dksX0_share_0 21 rfl rfl)
theorem dX0_share_22 : decode cX0_share 22 = .ok (.iload 4, 2) := dk_21 4 (dk_at dksX0_share_0 22 rfl rfl)
theorem dX0_share_24 : decode cX0_share 24 = .ok (.isub, 1) := dk_100 (dk_at dksX0_share_1 0 rfl rfl)
theorem dX0_share_25 : decode cX0_share 25 = .ok (.istore 6, 2) := dk_54 6 (dk_at dksX0_share_1 1 rfl rfl)
theorem dX0_share_27 : decode cX0_share 27 = .ok (.iload 6, 2) := dk_21 6 (dk_at dksX0_share_1 3 rfl rfl)
theorem dX0_share_29 : decode cX0_share 29 = .ok (.iconst 1, 1) := dk_4 (dk_at dksX0_share_1 5 rfl rfl)
theorem dX0_share_30 : decode cX0_share 30 = .ok (.if_icmp .ne 13, 3) := dk_160 0 13 (dk_at dksX0_share_1 6 rfl rfl)
theorem dX0_share_33 : decode cX0_share 33 = .ok (.aload_n 0, 1) := dk_42 (dk_at dksX0_share_1 9 rfl rfl)
theorem dX0_share_34 : decode cX0_share 34 = .ok (.iload_n 1, 1) := dk_27 (dk_at dksX0_share_1 10 rfl rfl)
theorem dX0_share_35 : decode cX0_share 35 = .ok (.iload_n 2, 1) := dk_28 (dk_at dksX0_share_1 11 rfl rfl)
theorem dX0_share_36 : decode cX0_share 36 = .ok (.iload_n 3, 1) := dk_29 (dk_at dksX0_share_1 12 rfl rfl)
theorem dX0_share_37 : decode cX0_share 37 = .ok (.iload 5, 2) := dk_21 5 (dk_at dksX0_share_1 13 rfl rfl)
theorem dX0_share_39 : decode cX0_share 39 = .ok (.invokevirtual 834, 3) := dk_182 3 66 (dk_at dksX0_share_1 15 rfl rfl)
theorem dX0_share_42 : decode cX0_share 42 = .ok (.return_, 1) := dk_177 (dk_at dksX0_share_1 18 rfl rfl)
theorem dX0_share_43 : decode cX0_share 43 = .ok (.iload 5, 2) := dk_21 5 (dk_at dksX0_share_1 19 rfl rfl)
theorem dX0_share_45 : decode cX0_share 45 = .ok (.istore 7, 2) := dk_54 7 (dk_at dksX0_share_1 21 rfl rfl)
theorem dX0_share_47 : decode cX0_share 47 = .ok (.iload 7, 2) := dk_21 7 (dk_at dksX0_share_2 0 rfl rfl)
theorem dX0_share_49 : decode cX0_share 49 = .ok (.ifCond .lt 124, 3) := dk_155 0 124 (dk_at dksX0_share_2 2 rfl rfl)
theorem dX0_share_52 : decode cX0_share 52 = .ok (.aload_n 0, 1) := dk_42 (dk_at dksX0_share_2 5 rfl rfl)
theorem dX0_share_53 : decode cX0_share 53 = .ok (.getfield 488, 3) := dk_180 1 232 (dk_at dksX0_share_2 6 rfl rfl)
theorem dX0_share_56 : decode cX0_share 56 = .ok (.iload_n 2, 1) := dk_28 (dk_at dksX0_share_2 9 rfl rfl)
theorem dX0_share_57 : decode cX0_share 57 = .ok (.baload, 1) := dk_51 (dk_at dksX0_share_2 10 rfl rfl)
theorem dX0_share_58 : decode cX0_share 58 = .ok (.ifCond .ne 47, 3) := dk_154 0 47 (dk_at dksX0_share_2 11 rfl rfl)
theorem dX0_share_61 : decode cX0_share 61 = .ok (.iload 5, 2) := dk_21 5 (dk_at dksX0_share_2 14 rfl rfl)
theorem dX0_share_63 : decode cX0_share 63 = .ok (.iload 5, 2) := dk_21 5 (dk_at dksX0_share_2 16 rfl rfl)
theorem dX0_share_65 : decode cX0_share 65 = .ok (.ineg, 1) := dk_116 (dk_at dksX0_share_2 18 rfl rfl)
theorem dX0_share_66 : decode cX0_share 66 = .ok (.iand, 1) := dk_126 (dk_at dksX0_share_2 19 rfl rfl)
theorem dX0_share_67 : decode cX0_share 67 = .ok (.ifCond .eq 38, 3) := dk_153 0 38 (dk_at dksX0_share_2 20 rfl rfl)
theorem dX0_share_70 : decode cX0_share 70 = .ok (.iload 7, 2) := dk_21 7 (dk_at dksX0_share_3 0 rfl rfl)
theorem dX0_share_72 : decode cX0_share 72 = .ok (.ifCond .eq 18, 3) := dk_153 0 18 (dk_at dksX0_share_3 2 rfl rfl)
theorem dX0_share_75 : decode cX0_share 75 = .ok (.iload 7, 2) := dk_21 7 (dk_at dksX0_share_3 5 rfl rfl)
theorem dX0_share_77 : decode cX0_share 77 = .ok (.iload 7, 2) := dk_21 7 (dk_at dksX0_share_3 7 rfl rfl)
theorem dX0_share_79 : decode cX0_share 79 = .ok (.ineg, 1) := dk_116 (dk_at dksX0_share_3 9 rfl rfl)
theorem dX0_share_80 : decode cX0_share 80 = .ok (.iand, 1) := dk_126 (dk_at dksX0_share_3 10 rfl rfl)
theorem dX0_share_81 : decode cX0_share 81 = .ok (.iload 5, 2) := dk_21 5 (dk_at dksX0_share_3 11 rfl rfl)
theorem dX0_share_83 : decode cX0_share 83 = .ok (.iload 5, 2) := dk_21 5 (dk_at dksX0_share_3 13 rfl rfl)
theorem dX0_share_85 : decode cX0_share 85 = .ok (.ineg, 1) := dk_116 (dk_at dksX0_share_3 15 rfl rfl)
theorem dX0_share_86 : decode cX0_share 86 = .ok (.iand, 1) := dk_126 (dk_at dksX0_share_3 16 rfl rfl)
theorem dX0_share_87 : decode cX0_share 87 = .ok (.if_icmp .ne 22, 3) := dk_160 0 22 (dk_at dksX0_share_3 17 rfl rfl)
theorem dX0_share_90 : decode cX0_share 90 = .ok (.iload 7, 2) := dk_21 7 (dk_at dksX0_share_3 20 rfl rfl)
theorem dX0_share_92 : decode cX0_share 92 = .ok (.iload 7, 2) := dk_21 7 (dk_at dksX0_share_3 22 rfl rfl)
theorem dX0_share_94 : decode cX0_share 94 = .ok (.iload 5, 2) := dk_21 5 (dk_at dksX0_share_4 0 rfl rfl)
theorem dX0_share_96 : decode cX0_share 96 = .ok (.iload 5, 2) := dk_21 5 (dk_at dksX0_share_4 2 rfl rfl)
theorem dX0_share_98 : decode cX0_share 98 = .ok (.ineg, 1) := dk_116 (dk_at dksX0_share_4 4 rfl rfl)
theorem dX0_share_99 : decode cX0_share 99 = .ok (.iand, 1) := dk_126 (dk_at dksX0_share_4 5 rfl rfl)
theorem dX0_share_100 : decode cX0_share 100 = .ok (.iadd, 1) := dk_96 (dk_at dksX0_share_4 6 rfl rfl)
theorem dX0_share_101 : decode cX0_share 101 = .ok (.iand, 1) := dk_126 (dk_at dksX0_share_4 7 rfl rfl)
theorem dX0_share_102 : decode cX0_share 102 = .ok (.ifCond .ne 7, 3) := dk_154 0 7 (dk_at dksX0_share_4 8 rfl rfl)
theorem dX0_share_105 : decode cX0_share 105 = .ok (.iconst 1, 1) := dk_4 (dk_at dksX0_share_4 11 rfl rfl)
theorem dX0_share_106 : decode cX0_share 106 = .ok (.goto 4, 3) := dk_167 0 4 (dk_at dksX0_share_4 12 rfl rfl)
theorem dX0_share_109 : decode cX0_share 109 = .ok (.iconst 0, 1) := dk_3 (dk_at dksX0_share_4 15 rfl rfl)
theorem dX0_share_110 : decode cX0_share 110 = .ok (.istore 8, 2) := dk_54 8 (dk_at dksX0_share_4 16 rfl rfl)
theorem dX0_share_112 : decode cX0_share 112 = .ok (.iload 8, 2) := dk_21 8 (dk_at dksX0_share_4 18 rfl rfl)
theorem dX0_share_114 : decode cX0_share 114 = .ok (.ifCond .eq 38, 3) := dk_153 0 38 (dk_at dksX0_share_4 20 rfl rfl)
theorem dX0_share_117 : decode cX0_share 117 = .ok (.aload_n 0, 1) := dk_42 (dk_at dksX0_share_4 23 rfl rfl)
theorem dX0_share_118 : decode cX0_share 118 = .ok (.getfield 491, 3) := dk_180 1 235 (dk_at dksX0_share_5 0 rfl rfl)
theorem dX0_share_121 : decode cX0_share 121 = .ok (.iload_n 2, 1) := dk_28 (dk_at dksX0_share_5 3 rfl rfl)
theorem dX0_share_122 : decode cX0_share 122 = .ok (.iaload, 1) := dk_46 (dk_at dksX0_share_5 4 rfl rfl)
theorem dX0_share_123 : decode cX0_share 123 = .ok (.bipush (-2), 2) := dk_16 254 (dk_at dksX0_share_5 5 rfl rfl)
theorem dX0_share_125 : decode cX0_share 125 = .ok (.if_icmp .ne 18, 3) := dk_160 0 18 (dk_at dksX0_share_5 7 rfl rfl)
theorem dX0_share_128 : decode cX0_share 128 = .ok (.iload 5, 2) := dk_21 5 (dk_at dksX0_share_5 10 rfl rfl)
theorem dX0_share_130 : decode cX0_share 130 = .ok (.iload 7, 2) := dk_21 7 (dk_at dksX0_share_5 12 rfl rfl)
theorem dX0_share_132 : decode cX0_share 132 = .ok (.ixor, 1) := dk_130 (dk_at dksX0_share_5 14 rfl rfl)
theorem dX0_share_133 : decode cX0_share 133 = .ok (.invokestatic 838, 3) := dk_184 3 70 (dk_at dksX0_share_5 15 rfl rfl)
theorem dX0_share_136 : decode cX0_share 136 = .ok (.iload 6, 2) := dk_21 6 (dk_at dksX0_share_5 18 rfl rfl)
theorem dX0_share_138 : decode cX0_share 138 = .ok (.iconst 1, 1) := dk_4 (dk_at dksX0_share_5 20 rfl rfl)
theorem dX0_share_139 : decode cX0_share 139 = .ok (.isub, 1) := dk_100 (dk_at dksX0_share_5 21 rfl rfl)
theorem dX0_share_140 : decode cX0_share 140 = .ok (.if_icmp .lt 12, 3) := dk_161 0 12 (dk_at dksX0_share_6 0 rfl rfl)
theorem dX0_share_143 : decode cX0_share 143 = .ok (.aload_n 0, 1) := dk_42 (dk_at dksX0_share_6 3 rfl rfl)
theorem dX0_share_144 : decode cX0_share 144 = .ok (.iload_n 1, 1) := dk_27 (dk_at dksX0_share_6 4 rfl rfl)
theorem dX0_share_145 : decode cX0_share 145 = .ok (.iload_n 2, 1) := dk_28 (dk_at dksX0_share_6 5 rfl rfl)
theorem dX0_share_146 : decode cX0_share 146 = .ok (.iload_n 3, 1) := dk_29 (dk_at dksX0_share_6 6 rfl rfl)
theorem dX0_share_147 : decode cX0_share 147 = .ok (.iload 7, 2) := dk_21 7 (dk_at dksX0_share_6 7 rfl rfl)
theorem dX0_share_149 : decode cX0_share 149 = .ok (.invokevirtual 834, 3) := dk_182 3 66 (dk_at dksX0_share_6 9 rfl rfl)
theorem dX0_share_152 : decode cX0_share 152 = .ok (.iload 7, 2) := dk_21 7 (dk_at dksX0_share_6 12 rfl rfl)
theorem dX0_share_154 : decode cX0_share 154 = .ok (.ifCond .ne 7, 3) := dk_154 0 7 (dk_at dksX0_share_6 14 rfl rfl)
theorem dX0_share_157 : decode cX0_share 157 = .ok (.iconst (-1), 1) := dk_2 (dk_at dksX0_share_6 17 rfl rfl)
theorem dX0_share_158 : decode cX0_share 158 = .ok (.goto 10, 3) := dk_167 0 10 (dk_at dksX0_share_6 18 rfl rfl)
theorem dX0_share_161 : decode cX0_share 161 = .ok (.iload 7, 2) := dk_21 7 (dk_at dksX0_share_6 21 rfl rfl)
theorem dX0_share_163 : decode cX0_share 163 = .ok (.iconst 1, 1) := dk_4 (dk_at dksX0_share_6 23 rfl rfl)
theorem dX0_share_164 : decode cX0_share 164 = .ok (.isub, 1) := dk_100 (dk_at dksX0_share_7 0 rfl rfl)
theorem dX0_share_165 : decode cX0_share 165 = .ok (.iload 5, 2) := dk_21 5 (dk_at dksX0_share_7 1 rfl rfl)
theorem dX0_share_167 : decode cX0_share 167 = .ok (.iand, 1) := dk_126 (dk_at dksX0_share_7 3 rfl rfl)
theorem dX0_share_168 : decode cX0_share 168 = .ok (.istore 7, 2) := dk_54 7 (dk_at dksX0_share_7 4 rfl rfl)
theorem dX0_share_170 : decode cX0_share 170 = .ok (.goto (-123), 3) := dk_167 255 133 (dk_at dksX0_share_7 6 rfl rfl)
theorem dX0_share_173 : decode cX0_share 173 = .ok (.return_, 1) := dk_177 (dk_at dksX0_share_7 9 rfl rfl)
abbrev cX0_shareOne : ByteArray := prog_1_method_115_code
def yX0_shareOne : MethodName := ⟨RX0, "shareOne", "(IIII)V"⟩
def dkwX0_shareOne_7 : List UInt8 := [180, 3, 54, 21, 9, 153, 0, 7, 4, 167, 0, 4, 3, 100, 181, 3, 54, 177]
abbrev dktX0_shareOne_7 : List UInt8 := dkwX0_shareOne_7 ++ []
def dkwX0_shareOne_6 : List UInt8 := [21, 7, 182, 2, 109, 21, 6, 182, 3, 33, 42, 182, 3, 36, 42, 21, 8, 181, 3, 11, 42, 89]
abbrev dktX0_shareOne_6 : List UInt8 := dkwX0_shareOne_6 ++ dktX0_shareOne_7
def dkwX0_shareOne_5 : List UInt8 := [180, 3, 60, 27, 46, 42, 180, 3, 63, 27, 46, 21, 4, 130, 182, 3, 51, 100, 182, 3, 33, 42, 42, 29]
abbrev dktX0_shareOne_5 : List UInt8 := dkwX0_shareOne_5 ++ dktX0_shareOne_6
def dkwX0_shareOne_4 : List UInt8 := [162, 0, 7, 4, 167, 0, 4, 3, 54, 9, 21, 9, 153, 0, 33, 42, 29, 2, 42, 21, 7, 4, 96, 42]
abbrev dktX0_shareOne_4 : List UInt8 := dkwX0_shareOne_4 ++ dktX0_shareOne_5
def dkwX0_shareOne_3 : List UInt8 := [180, 3, 57, 27, 46, 54, 7, 42, 180, 3, 11, 54, 8, 21, 7, 4, 96, 42, 180, 2, 66, 29, 46]
abbrev dktX0_shareOne_3 : List UInt8 := dkwX0_shareOne_3 ++ dktX0_shareOne_4
def dkwX0_shareOne_2 : List UInt8 := [132, 6, 1, 167, 255, 216, 42, 28, 21, 5, 182, 3, 75, 54, 6, 21, 6, 154, 0, 4, 177, 42]
abbrev dktX0_shareOne_2 : List UInt8 := dkwX0_shareOne_2 ++ dktX0_shareOne_3
def dkwX0_shareOne_1 : List UInt8 := [4, 160, 0, 21, 42, 42, 180, 3, 48, 42, 180, 3, 60, 27, 46, 21, 6, 96, 46, 182, 2, 131]
abbrev dktX0_shareOne_1 : List UInt8 := dkwX0_shareOne_1 ++ dktX0_shareOne_2
def dkwX0_shareOne_0 : List UInt8 := [42, 180, 2, 99, 54, 5, 3, 54, 6, 21, 4, 21, 6, 122, 153, 0, 38, 21, 4, 21, 6, 122, 4, 126]
abbrev dktX0_shareOne_0 : List UInt8 := dkwX0_shareOne_0 ++ dktX0_shareOne_1
theorem dksX0_shareOne_0 : cX0_shareOne.data.toList.drop 0 = dktX0_shareOne_0 := by decide +kernel
theorem dksX0_shareOne_1 : cX0_shareOne.data.toList.drop 24 = dktX0_shareOne_1 := dk_seg dksX0_shareOne_0 24 rfl rfl
theorem dksX0_shareOne_2 : cX0_shareOne.data.toList.drop 46 = dktX0_shareOne_2 := dk_seg dksX0_shareOne_1 22 rfl rfl
theorem dksX0_shareOne_3 : cX0_shareOne.data.toList.drop 68 = dktX0_shareOne_3 := dk_seg dksX0_shareOne_2 22 rfl rfl
theorem dksX0_shareOne_4 : cX0_shareOne.data.toList.drop 91 = dktX0_shareOne_4 := dk_seg dksX0_shareOne_3 23 rfl rfl
theorem dksX0_shareOne_5 : cX0_shareOne.data.toList.drop 115 = dktX0_shareOne_5 := dk_seg dksX0_shareOne_4 24 rfl rfl
theorem dksX0_shareOne_6 : cX0_shareOne.data.toList.drop 139 = dktX0_shareOne_6 := dk_seg dksX0_shareOne_5 24 rfl rfl
theorem dksX0_shareOne_7 : cX0_shareOne.data.toList.drop 161 = dktX0_shareOne_7 := dk_seg dksX0_shareOne_6 22 rfl rfl
theorem dX0_shareOne_0 : decode cX0_shareOne 0 = .ok (.aload_n 0, 1) := dk_42 (dk_at dksX0_shareOne_0 0 rfl rfl)
theorem dX0_shareOne_1 : decode cX0_shareOne 1 = .ok (.getfield 611, 3) := dk_180 2 99 (dk_at dksX0_shareOne_0 1 rfl rfl)
theorem dX0_shareOne_4 : decode cX0_shareOne 4 = .ok (.istore 5, 2) := dk_54 5 (dk_at dksX0_shareOne_0 4 rfl rfl)
theorem dX0_shareOne_6 : decode cX0_shareOne 6 = .ok (.iconst 0, 1) := dk_3 (dk_at dksX0_shareOne_0 6 rfl rfl)
theorem dX0_shareOne_7 : decode cX0_shareOne 7 = .ok (.istore 6, 2) := dk_54 6 (dk_at dksX0_shareOne_0 7 rfl rfl)
theorem dX0_shareOne_9 : decode cX0_shareOne 9 = .ok (.iload 4, 2) := dk_21 4 (dk_at dksX0_shareOne_0 9 rfl rfl)
theorem dX0_shareOne_11 : decode cX0_shareOne 11 = .ok (.iload 6, 2) := dk_21 6 (dk_at dksX0_shareOne_0 11 rfl rfl)
theorem dX0_shareOne_13 : decode cX0_shareOne 13 = .ok (.ishr, 1) := dk_122 (dk_at dksX0_shareOne_0 13 rfl rfl)
theorem dX0_shareOne_14 : decode cX0_shareOne 14 = .ok (.ifCond .eq 38, 3) := dk_153 0 38 (dk_at dksX0_shareOne_0 14 rfl rfl)
theorem dX0_shareOne_17 : decode cX0_shareOne 17 = .ok (.iload 4, 2) := dk_21 4 (dk_at dksX0_shareOne_0 17 rfl rfl)
theorem dX0_shareOne_19 : decode cX0_shareOne 19 = .ok (.iload 6, 2) := dk_21 6 (dk_at dksX0_shareOne_0 19 rfl rfl)
theorem dX0_shareOne_21 : decode cX0_shareOne 21 = .ok (.ishr, 1) := dk_122 (dk_at dksX0_shareOne_0 21 rfl rfl)
theorem dX0_shareOne_22 : decode cX0_shareOne 22 = .ok (.iconst 1, 1) := dk_4 (dk_at dksX0_shareOne_0 22 rfl rfl)
theorem dX0_shareOne_23 : decode cX0_shareOne 23 = .ok (.iand, 1) := dk_126 (dk_at dksX0_shareOne_0 23 rfl rfl)
theorem dX0_shareOne_24 : decode cX0_shareOne 24 = .ok (.iconst 1, 1) := dk_4 (dk_at dksX0_shareOne_1 0 rfl rfl)
theorem dX0_shareOne_25 : decode cX0_shareOne 25 = .ok (.if_icmp .ne 21, 3) := dk_160 0 21 (dk_at dksX0_shareOne_1 1 rfl rfl)
theorem dX0_shareOne_28 : decode cX0_shareOne 28 = .ok (.aload_n 0, 1) := dk_42 (dk_at dksX0_shareOne_1 4 rfl rfl)
theorem dX0_shareOne_29 : decode cX0_shareOne 29 = .ok (.aload_n 0, 1) := dk_42 (dk_at dksX0_shareOne_1 5 rfl rfl)
theorem dX0_shareOne_30 : decode cX0_shareOne 30 = .ok (.getfield 816, 3) := dk_180 3 48 (dk_at dksX0_shareOne_1 6 rfl rfl)
theorem dX0_shareOne_33 : decode cX0_shareOne 33 = .ok (.aload_n 0, 1) := dk_42 (dk_at dksX0_shareOne_1 9 rfl rfl)
theorem dX0_shareOne_34 : decode cX0_shareOne 34 = .ok (.getfield 828, 3) := dk_180 3 60 (dk_at dksX0_shareOne_1 10 rfl rfl)
theorem dX0_shareOne_37 : decode cX0_shareOne 37 = .ok (.iload_n 1, 1) := dk_27 (dk_at dksX0_shareOne_1 13 rfl rfl)
theorem dX0_shareOne_38 : decode cX0_shareOne 38 = .ok (.iaload, 1) := dk_46 (dk_at dksX0_shareOne_1 14 rfl rfl)
theorem dX0_shareOne_39 : decode cX0_shareOne 39 = .ok (.iload 6, 2) := dk_21 6 (dk_at dksX0_shareOne_1 15 rfl rfl)
theorem dX0_shareOne_41 : decode cX0_shareOne 41 = .ok (.iadd, 1) := dk_96 (dk_at dksX0_shareOne_1 17 rfl rfl)
theorem dX0_shareOne_42 : decode cX0_shareOne 42 = .ok (.iaload, 1) := dk_46 (dk_at dksX0_shareOne_1 18 rfl rfl)
theorem dX0_shareOne_43 : decode cX0_shareOne 43 = .ok (.invokevirtual 643, 3) := dk_182 2 131 (dk_at dksX0_shareOne_1 19 rfl rfl)
theorem dX0_shareOne_46 : decode cX0_shareOne 46 = .ok (.iinc 6 1, 3) := dk_132 6 1 (dk_at dksX0_shareOne_2 0 rfl rfl)
theorem dX0_shareOne_49 : decode cX0_shareOne 49 = .ok (.goto (-40), 3) := dk_167 255 216 (dk_at dksX0_shareOne_2 3 rfl rfl)
theorem dX0_shareOne_52 : decode cX0_shareOne 52 = .ok (.aload_n 0, 1) := dk_42 (dk_at dksX0_shareOne_2 6 rfl rfl)
theorem dX0_shareOne_53 : decode cX0_shareOne 53 = .ok (.iload_n 2, 1) := dk_28 (dk_at dksX0_shareOne_2 7 rfl rfl)
theorem dX0_shareOne_54 : decode cX0_shareOne 54 = .ok (.iload 5, 2) := dk_21 5 (dk_at dksX0_shareOne_2 8 rfl rfl)
theorem dX0_shareOne_56 : decode cX0_shareOne 56 = .ok (.invokevirtual 843, 3) := dk_182 3 75 (dk_at dksX0_shareOne_2 10 rfl rfl)
theorem dX0_shareOne_59 : decode cX0_shareOne 59 = .ok (.istore 6, 2) := dk_54 6 (dk_at dksX0_shareOne_2 13 rfl rfl)
theorem dX0_shareOne_61 : decode cX0_shareOne 61 = .ok (.iload 6, 2) := dk_21 6 (dk_at dksX0_shareOne_2 15 rfl rfl)
theorem dX0_shareOne_63 : decode cX0_shareOne 63 = .ok (.ifCond .ne 4, 3) := dk_154 0 4 (dk_at dksX0_shareOne_2 17 rfl rfl)
theorem dX0_shareOne_66 : decode cX0_shareOne 66 = .ok (.return_, 1) := dk_177 (dk_at dksX0_shareOne_2 20 rfl rfl)
theorem dX0_shareOne_67 : decode cX0_shareOne 67 = .ok (.aload_n 0, 1) := dk_42 (dk_at dksX0_shareOne_2 21 rfl rfl)
theorem dX0_shareOne_68 : decode cX0_shareOne 68 = .ok (.getfield 825, 3) := dk_180 3 57 (dk_at dksX0_shareOne_3 0 rfl rfl)
theorem dX0_shareOne_71 : decode cX0_shareOne 71 = .ok (.iload_n 1, 1) := dk_27 (dk_at dksX0_shareOne_3 3 rfl rfl)
theorem dX0_shareOne_72 : decode cX0_shareOne 72 = .ok (.iaload, 1) := dk_46 (dk_at dksX0_shareOne_3 4 rfl rfl)
theorem dX0_shareOne_73 : decode cX0_shareOne 73 = .ok (.istore 7, 2) := dk_54 7 (dk_at dksX0_shareOne_3 5 rfl rfl)
theorem dX0_shareOne_75 : decode cX0_shareOne 75 = .ok (.aload_n 0, 1) := dk_42 (dk_at dksX0_shareOne_3 7 rfl rfl)
theorem dX0_shareOne_76 : decode cX0_shareOne 76 = .ok (.getfield 779, 3) := dk_180 3 11 (dk_at dksX0_shareOne_3 8 rfl rfl)
theorem dX0_shareOne_79 : decode cX0_shareOne 79 = .ok (.istore 8, 2) := dk_54 8 (dk_at dksX0_shareOne_3 11 rfl rfl)
theorem dX0_shareOne_81 : decode cX0_shareOne 81 = .ok (.iload 7, 2) := dk_21 7 (dk_at dksX0_shareOne_3 13 rfl rfl)
theorem dX0_shareOne_83 : decode cX0_shareOne 83 = .ok (.iconst 1, 1) := dk_4 (dk_at dksX0_shareOne_3 15 rfl rfl)
theorem dX0_shareOne_84 : decode cX0_shareOne 84 = .ok (.iadd, 1) := dk_96 (dk_at dksX0_shareOne_3 16 rfl rfl)
theorem dX0_shareOne_85 : decode cX0_shareOne 85 = .ok (.aload_n 0, 1) := dk_42 (dk_at dksX0_shareOne_3 17 rfl rfl)
theorem dX0_shareOne_86 : decode cX0_shareOne 86 = .ok (.getfield 578, 3) := dk_180 2 66 (dk_at dksX0_shareOne_3 18 rfl rfl)
theorem dX0_shareOne_89 : decode cX0_shareOne 89 = .ok (.iload_n 3, 1) := dk_29 (dk_at dksX0_shareOne_3 21 rfl rfl)
theorem dX0_shareOne_90 : decode cX0_shareOne 90 = .ok (.iaload, 1) := dk_46 (dk_at dksX0_shareOne_3 22 rfl rfl)
theorem dX0_shareOne_91 : decode cX0_shareOne 91 = .ok (.if_icmp .ge 7, 3) := dk_162 0 7 (dk_at dksX0_shareOne_4 0 rfl rfl)
theorem dX0_shareOne_94 : decode cX0_shareOne 94 = .ok (.iconst 1, 1) := dk_4 (dk_at dksX0_shareOne_4 3 rfl rfl)
theorem dX0_shareOne_95 : decode cX0_shareOne 95 = .ok (.goto 4, 3) := dk_167 0 4 (dk_at dksX0_shareOne_4 4 rfl rfl)
theorem dX0_shareOne_98 : decode cX0_shareOne 98 = .ok (.iconst 0, 1) := dk_3 (dk_at dksX0_shareOne_4 7 rfl rfl)
theorem dX0_shareOne_99 : decode cX0_shareOne 99 = .ok (.istore 9, 2) := dk_54 9 (dk_at dksX0_shareOne_4 8 rfl rfl)
theorem dX0_shareOne_101 : decode cX0_shareOne 101 = .ok (.iload 9, 2) := dk_21 9 (dk_at dksX0_shareOne_4 10 rfl rfl)
theorem dX0_shareOne_103 : decode cX0_shareOne 103 = .ok (.ifCond .eq 33, 3) := dk_153 0 33 (dk_at dksX0_shareOne_4 12 rfl rfl)
theorem dX0_shareOne_106 : decode cX0_shareOne 106 = .ok (.aload_n 0, 1) := dk_42 (dk_at dksX0_shareOne_4 15 rfl rfl)
theorem dX0_shareOne_107 : decode cX0_shareOne 107 = .ok (.iload_n 3, 1) := dk_29 (dk_at dksX0_shareOne_4 16 rfl rfl)
theorem dX0_shareOne_108 : decode cX0_shareOne 108 = .ok (.iconst (-1), 1) := dk_2 (dk_at dksX0_shareOne_4 17 rfl rfl)
theorem dX0_shareOne_109 : decode cX0_shareOne 109 = .ok (.aload_n 0, 1) := dk_42 (dk_at dksX0_shareOne_4 18 rfl rfl)
theorem dX0_shareOne_110 : decode cX0_shareOne 110 = .ok (.iload 7, 2) := dk_21 7 (dk_at dksX0_shareOne_4 19 rfl rfl)
theorem dX0_shareOne_112 : decode cX0_shareOne 112 = .ok (.iconst 1, 1) := dk_4 (dk_at dksX0_shareOne_4 21 rfl rfl)
theorem dX0_shareOne_113 : decode cX0_shareOne 113 = .ok (.iadd, 1) := dk_96 (dk_at dksX0_shareOne_4 22 rfl rfl)
theorem dX0_shareOne_114 : decode cX0_shareOne 114 = .ok (.aload_n 0, 1) := dk_42 (dk_at dksX0_shareOne_4 23 rfl rfl)
theorem dX0_shareOne_115 : decode cX0_shareOne 115 = .ok (.getfield 828, 3) := dk_180 3 60 (dk_at dksX0_shareOne_5 0 rfl rfl)
theorem dX0_shareOne_118 : decode cX0_shareOne 118 = .ok (.iload_n 1, 1) := dk_27 (dk_at dksX0_shareOne_5 3 rfl rfl)
theorem dX0_shareOne_119 : decode cX0_shareOne 119 = .ok (.iaload, 1) := dk_46 (dk_at dksX0_shareOne_5 4 rfl rfl)
theorem dX0_shareOne_120 : decode cX0_shareOne 120 = .ok (.aload_n 0, 1) := dk_42 (dk_at dksX0_shareOne_5 5 rfl rfl)
theorem dX0_shareOne_121 : decode cX0_shareOne 121 = .ok (.getfield 831, 3) := dk_180 3 63 (dk_at dksX0_shareOne_5 6 rfl rfl)
theorem dX0_shareOne_124 : decode cX0_shareOne 124 = .ok (.iload_n 1, 1) := dk_27 (dk_at dksX0_shareOne_5 9 rfl rfl)
theorem dX0_shareOne_125 : decode cX0_shareOne 125 = .ok (.iaload, 1) := dk_46 (dk_at dksX0_shareOne_5 10 rfl rfl)
theorem dX0_shareOne_126 : decode cX0_shareOne 126 = .ok (.iload 4, 2) := dk_21 4 (dk_at dksX0_shareOne_5 11 rfl rfl)
theorem dX0_shareOne_128 : decode cX0_shareOne 128 = .ok (.ixor, 1) := dk_130 (dk_at dksX0_shareOne_5 13 rfl rfl)
theorem dX0_shareOne_129 : decode cX0_shareOne 129 = .ok (.invokevirtual 819, 3) := dk_182 3 51 (dk_at dksX0_shareOne_5 14 rfl rfl)
theorem dX0_shareOne_132 : decode cX0_shareOne 132 = .ok (.isub, 1) := dk_100 (dk_at dksX0_shareOne_5 17 rfl rfl)
theorem dX0_shareOne_133 : decode cX0_shareOne 133 = .ok (.invokevirtual 801, 3) := dk_182 3 33 (dk_at dksX0_shareOne_5 18 rfl rfl)
theorem dX0_shareOne_136 : decode cX0_shareOne 136 = .ok (.aload_n 0, 1) := dk_42 (dk_at dksX0_shareOne_5 21 rfl rfl)
theorem dX0_shareOne_137 : decode cX0_shareOne 137 = .ok (.aload_n 0, 1) := dk_42 (dk_at dksX0_shareOne_5 22 rfl rfl)
theorem dX0_shareOne_138 : decode cX0_shareOne 138 = .ok (.iload_n 3, 1) := dk_29 (dk_at dksX0_shareOne_5 23 rfl rfl)
theorem dX0_shareOne_139 : decode cX0_shareOne 139 = .ok (.iload 7, 2) := dk_21 7 (dk_at dksX0_shareOne_6 0 rfl rfl)
theorem dX0_shareOne_141 : decode cX0_shareOne 141 = .ok (.invokevirtual 621, 3) := dk_182 2 109 (dk_at dksX0_shareOne_6 2 rfl rfl)
theorem dX0_shareOne_144 : decode cX0_shareOne 144 = .ok (.iload 6, 2) := dk_21 6 (dk_at dksX0_shareOne_6 5 rfl rfl)
theorem dX0_shareOne_146 : decode cX0_shareOne 146 = .ok (.invokevirtual 801, 3) := dk_182 3 33 (dk_at dksX0_shareOne_6 7 rfl rfl)
theorem dX0_shareOne_149 : decode cX0_shareOne 149 = .ok (.aload_n 0, 1) := dk_42 (dk_at dksX0_shareOne_6 10 rfl rfl)
theorem dX0_shareOne_150 : decode cX0_shareOne 150 = .ok (.invokevirtual 804, 3) := dk_182 3 36 (dk_at dksX0_shareOne_6 11 rfl rfl)
theorem dX0_shareOne_153 : decode cX0_shareOne 153 = .ok (.aload_n 0, 1) := dk_42 (dk_at dksX0_shareOne_6 14 rfl rfl)
theorem dX0_shareOne_154 : decode cX0_shareOne 154 = .ok (.iload 8, 2) := dk_21 8 (dk_at dksX0_shareOne_6 15 rfl rfl)
theorem dX0_shareOne_156 : decode cX0_shareOne 156 = .ok (.putfield 779, 3) := dk_181 3 11 (dk_at dksX0_shareOne_6 17 rfl rfl)
theorem dX0_shareOne_159 : decode cX0_shareOne 159 = .ok (.aload_n 0, 1) := dk_42 (dk_at dksX0_shareOne_6 20 rfl rfl)
theorem dX0_shareOne_160 : decode cX0_shareOne 160 = .ok (.dup, 1) := dk_89 (dk_at dksX0_shareOne_6 21 rfl rfl)
theorem dX0_shareOne_161 : decode cX0_shareOne 161 = .ok (.getfield 822, 3) := dk_180 3 54 (dk_at dksX0_shareOne_7 0 rfl rfl)
theorem dX0_shareOne_164 : decode cX0_shareOne 164 = .ok (.iload 9, 2) := dk_21 9 (dk_at dksX0_shareOne_7 3 rfl rfl)
theorem dX0_shareOne_166 : decode cX0_shareOne 166 = .ok (.ifCond .eq 7, 3) := dk_153 0 7 (dk_at dksX0_shareOne_7 5 rfl rfl)
theorem dX0_shareOne_169 : decode cX0_shareOne 169 = .ok (.iconst 1, 1) := dk_4 (dk_at dksX0_shareOne_7 8 rfl rfl)
theorem dX0_shareOne_170 : decode cX0_shareOne 170 = .ok (.goto 4, 3) := dk_167 0 4 (dk_at dksX0_shareOne_7 9 rfl rfl)
theorem dX0_shareOne_173 : decode cX0_shareOne 173 = .ok (.iconst 0, 1) := dk_3 (dk_at dksX0_shareOne_7 12 rfl rfl)
theorem dX0_shareOne_174 : decode cX0_shareOne 174 = .ok (.isub, 1) := dk_100 (dk_at dksX0_shareOne_7 13 rfl rfl)
theorem dX0_shareOne_175 : decode cX0_shareOne 175 = .ok (.putfield 822, 3) := dk_181 3 54 (dk_at dksX0_shareOne_7 14 rfl rfl)
theorem dX0_shareOne_178 : decode cX0_shareOne 178 = .ok (.return_, 1) := dk_177 (dk_at dksX0_shareOne_7 17 rfl rfl)
abbrev cX0_newShare : ByteArray := prog_1_method_113_code
def yX0_newShare : MethodName := ⟨RX0, "newShare", "(III)I"⟩
def dkwX0_newShare_1 : List UInt8 := [42, 180, 3, 54, 29, 79, 42, 89, 180, 3, 54, 90, 4, 96, 181, 3, 54, 172]
abbrev dktX0_newShare_1 : List UInt8 := dkwX0_newShare_1 ++ []
def dkwX0_newShare_0 : List UInt8 := [42, 180, 3, 57, 42, 180, 3, 54, 27, 79, 42, 180, 3, 60, 42, 180, 3, 54, 28, 79, 42, 180, 3, 63]
abbrev dktX0_newShare_0 : List UInt8 := dkwX0_newShare_0 ++ dktX0_newShare_1
theorem dksX0_newShare_0 : cX0_newShare.data.toList.drop 0 = dktX0_newShare_0 := by decide +kernel
theorem dksX0_newShare_1 : cX0_newShare.data.toList.drop 24 = dktX0_newShare_1 := dk_seg dksX0_newShare_0 24 rfl rfl
theorem dX0_newShare_0 : decode cX0_newShare 0 = .ok (.aload_n 0, 1) := dk_42 (dk_at dksX0_newShare_0 0 rfl rfl)
theorem dX0_newShare_1 : decode cX0_newShare 1 = .ok (.getfield 825, 3) := dk_180 3 57 (dk_at dksX0_newShare_0 1 rfl rfl)
theorem dX0_newShare_4 : decode cX0_newShare 4 = .ok (.aload_n 0, 1) := dk_42 (dk_at dksX0_newShare_0 4 rfl rfl)
theorem dX0_newShare_5 : decode cX0_newShare 5 = .ok (.getfield 822, 3) := dk_180 3 54 (dk_at dksX0_newShare_0 5 rfl rfl)
theorem dX0_newShare_8 : decode cX0_newShare 8 = .ok (.iload_n 1, 1) := dk_27 (dk_at dksX0_newShare_0 8 rfl rfl)
theorem dX0_newShare_9 : decode cX0_newShare 9 = .ok (.iastore, 1) := dk_79 (dk_at dksX0_newShare_0 9 rfl rfl)
theorem dX0_newShare_10 : decode cX0_newShare 10 = .ok (.aload_n 0, 1) := dk_42 (dk_at dksX0_newShare_0 10 rfl rfl)
theorem dX0_newShare_11 : decode cX0_newShare 11 = .ok (.getfield 828, 3) := dk_180 3 60 (dk_at dksX0_newShare_0 11 rfl rfl)
theorem dX0_newShare_14 : decode cX0_newShare 14 = .ok (.aload_n 0, 1) := dk_42 (dk_at dksX0_newShare_0 14 rfl rfl)
theorem dX0_newShare_15 : decode cX0_newShare 15 = .ok (.getfield 822, 3) := dk_180 3 54 (dk_at dksX0_newShare_0 15 rfl rfl)
theorem dX0_newShare_18 : decode cX0_newShare 18 = .ok (.iload_n 2, 1) := dk_28 (dk_at dksX0_newShare_0 18 rfl rfl)
theorem dX0_newShare_19 : decode cX0_newShare 19 = .ok (.iastore, 1) := dk_79 (dk_at dksX0_newShare_0 19 rfl rfl)
theorem dX0_newShare_20 : decode cX0_newShare 20 = .ok (.aload_n 0, 1) := dk_42 (dk_at dksX0_newShare_0 20 rfl rfl)
theorem dX0_newShare_21 : decode cX0_newShare 21 = .ok (.getfield 831, 3) := dk_180 3 63 (dk_at dksX0_newShare_0 21 rfl rfl)
theorem dX0_newShare_24 : decode cX0_newShare 24 = .ok (.aload_n 0, 1) := dk_42 (dk_at dksX0_newShare_1 0 rfl rfl)
theorem dX0_newShare_25 : decode cX0_newShare 25 = .ok (.getfield 822, 3) := dk_180 3 54 (dk_at dksX0_newShare_1 1 rfl rfl)
theorem dX0_newShare_28 : decode cX0_newShare 28 = .ok (.iload_n 3, 1) := dk_29 (dk_at dksX0_newShare_1 4 rfl rfl)
theorem dX0_newShare_29 : decode cX0_newShare 29 = .ok (.iastore, 1) := dk_79 (dk_at dksX0_newShare_1 5 rfl rfl)
theorem dX0_newShare_30 : decode cX0_newShare 30 = .ok (.aload_n 0, 1) := dk_42 (dk_at dksX0_newShare_1 6 rfl rfl)
theorem dX0_newShare_31 : decode cX0_newShare 31 = .ok (.dup, 1) := dk_89 (dk_at dksX0_newShare_1 7 rfl rfl)
theorem dX0_newShare_32 : decode cX0_newShare 32 = .ok (.getfield 822, 3) := dk_180 3 54 (dk_at dksX0_newShare_1 8 rfl rfl)
theorem dX0_newShare_35 : decode cX0_newShare 35 = .ok (.dup_x1, 1) := dk_90 (dk_at dksX0_newShare_1 11 rfl rfl)
theorem dX0_newShare_36 : decode cX0_newShare 36 = .ok (.iconst 1, 1) := dk_4 (dk_at dksX0_newShare_1 12 rfl rfl)
theorem dX0_newShare_37 : decode cX0_newShare 37 = .ok (.iadd, 1) := dk_96 (dk_at dksX0_newShare_1 13 rfl rfl)
theorem dX0_newShare_38 : decode cX0_newShare 38 = .ok (.putfield 822, 3) := dk_181 3 54 (dk_at dksX0_newShare_1 14 rfl rfl)
theorem dX0_newShare_41 : decode cX0_newShare 41 = .ok (.ireturn, 1) := dk_172 (dk_at dksX0_newShare_1 17 rfl rfl)
abbrev cX0_solveVariable : ByteArray := prog_1_method_109_code
def yX0_solveVariable : MethodName := ⟨RX0, "solveVariable", "(II)V"⟩
def dkwX0_solveVariable_3 : List UInt8 := [27, 3, 79, 177]
abbrev dktX0_solveVariable_3 : List UInt8 := dkwX0_solveVariable_3 ++ []
def dkwX0_solveVariable_2 : List UInt8 := [182, 2, 93, 182, 1, 148, 153, 0, 21, 42, 180, 3, 39, 27, 28, 79, 42, 182, 3, 36, 42, 180, 3, 39]
abbrev dktX0_solveVariable_2 : List UInt8 := dkwX0_solveVariable_2 ++ dktX0_solveVariable_3
def dkwX0_solveVariable_1 : List UInt8 := [167, 0, 50, 42, 180, 2, 90, 28, 46, 16, 254, 159, 0, 39, 42, 42, 180, 2, 90, 28, 46, 42, 27]
abbrev dktX0_solveVariable_1 : List UInt8 := dkwX0_solveVariable_1 ++ dktX0_solveVariable_2
def dkwX0_solveVariable_0 : List UInt8 := [42, 180, 3, 39, 27, 46, 153, 0, 20, 42, 180, 3, 39, 27, 46, 28, 160, 0, 57, 42, 182, 3, 36]
abbrev dktX0_solveVariable_0 : List UInt8 := dkwX0_solveVariable_0 ++ dktX0_solveVariable_1
theorem dksX0_solveVariable_0 : cX0_solveVariable.data.toList.drop 0 = dktX0_solveVariable_0 := by decide +kernel
theorem dksX0_solveVariable_1 : cX0_solveVariable.data.toList.drop 23 = dktX0_solveVariable_1 := dk_seg dksX0_solveVariable_0 23 rfl rfl
theorem dksX0_solveVariable_2 : cX0_solveVariable.data.toList.drop 46 = dktX0_solveVariable_2 := dk_seg dksX0_solveVariable_1 23 rfl rfl
theorem dksX0_solveVariable_3 : cX0_solveVariable.data.toList.drop 70 = dktX0_solveVariable_3 := dk_seg dksX0_solveVariable_2 24 rfl rfl
theorem dX0_solveVariable_0 : decode cX0_solveVariable 0 = .ok (.aload_n 0, 1) := dk_42 (dk_at dksX0_solveVariable_0 0 rfl rfl)
theorem dX0_solveVariable_1 : decode cX0_solveVariable 1 = .ok (.getfield 807, 3) := dk_180 3 39 (dk_at dksX0_solveVariable_0 1 rfl rfl)
theorem dX0_solveVariable_4 : decode cX0_solveVariable 4 = .ok (.iload_n 1, 1) := dk_27 (dk_at dksX0_solveVariable_0 4 rfl rfl)
theorem dX0_solveVariable_5 : decode cX0_solveVariable 5 = .ok (.iaload, 1) := dk_46 (dk_at dksX0_solveVariable_0 5 rfl rfl)
theorem dX0_solveVariable_6 : decode cX0_solveVariable 6 = .ok (.ifCond .eq 20, 3) := dk_153 0 20 (dk_at dksX0_solveVariable_0 6 rfl rfl)
theorem dX0_solveVariable_9 : decode cX0_solveVariable 9 = .ok (.aload_n 0, 1) := dk_42 (dk_at dksX0_solveVariable_0 9 rfl rfl)
theorem dX0_solveVariable_10 : decode cX0_solveVariable 10 = .ok (.getfield 807, 3) := dk_180 3 39 (dk_at dksX0_solveVariable_0 10 rfl rfl)
theorem dX0_solveVariable_13 : decode cX0_solveVariable 13 = .ok (.iload_n 1, 1) := dk_27 (dk_at dksX0_solveVariable_0 13 rfl rfl)
theorem dX0_solveVariable_14 : decode cX0_solveVariable 14 = .ok (.iaload, 1) := dk_46 (dk_at dksX0_solveVariable_0 14 rfl rfl)
theorem dX0_solveVariable_15 : decode cX0_solveVariable 15 = .ok (.iload_n 2, 1) := dk_28 (dk_at dksX0_solveVariable_0 15 rfl rfl)
theorem dX0_solveVariable_16 : decode cX0_solveVariable 16 = .ok (.if_icmp .ne 57, 3) := dk_160 0 57 (dk_at dksX0_solveVariable_0 16 rfl rfl)
theorem dX0_solveVariable_19 : decode cX0_solveVariable 19 = .ok (.aload_n 0, 1) := dk_42 (dk_at dksX0_solveVariable_0 19 rfl rfl)
theorem dX0_solveVariable_20 : decode cX0_solveVariable 20 = .ok (.invokevirtual 804, 3) := dk_182 3 36 (dk_at dksX0_solveVariable_0 20 rfl rfl)
theorem dX0_solveVariable_23 : decode cX0_solveVariable 23 = .ok (.goto 50, 3) := dk_167 0 50 (dk_at dksX0_solveVariable_1 0 rfl rfl)
theorem dX0_solveVariable_26 : decode cX0_solveVariable 26 = .ok (.aload_n 0, 1) := dk_42 (dk_at dksX0_solveVariable_1 3 rfl rfl)
theorem dX0_solveVariable_27 : decode cX0_solveVariable 27 = .ok (.getfield 602, 3) := dk_180 2 90 (dk_at dksX0_solveVariable_1 4 rfl rfl)
theorem dX0_solveVariable_30 : decode cX0_solveVariable 30 = .ok (.iload_n 2, 1) := dk_28 (dk_at dksX0_solveVariable_1 7 rfl rfl)
theorem dX0_solveVariable_31 : decode cX0_solveVariable 31 = .ok (.iaload, 1) := dk_46 (dk_at dksX0_solveVariable_1 8 rfl rfl)
theorem dX0_solveVariable_32 : decode cX0_solveVariable 32 = .ok (.bipush (-2), 2) := dk_16 254 (dk_at dksX0_solveVariable_1 9 rfl rfl)
theorem dX0_solveVariable_34 : decode cX0_solveVariable 34 = .ok (.if_icmp .eq 39, 3) := dk_159 0 39 (dk_at dksX0_solveVariable_1 11 rfl rfl)
theorem dX0_solveVariable_37 : decode cX0_solveVariable 37 = .ok (.aload_n 0, 1) := dk_42 (dk_at dksX0_solveVariable_1 14 rfl rfl)
theorem dX0_solveVariable_38 : decode cX0_solveVariable 38 = .ok (.aload_n 0, 1) := dk_42 (dk_at dksX0_solveVariable_1 15 rfl rfl)
theorem dX0_solveVariable_39 : decode cX0_solveVariable 39 = .ok (.getfield 602, 3) := dk_180 2 90 (dk_at dksX0_solveVariable_1 16 rfl rfl)
theorem dX0_solveVariable_42 : decode cX0_solveVariable 42 = .ok (.iload_n 2, 1) := dk_28 (dk_at dksX0_solveVariable_1 19 rfl rfl)
theorem dX0_solveVariable_43 : decode cX0_solveVariable 43 = .ok (.iaload, 1) := dk_46 (dk_at dksX0_solveVariable_1 20 rfl rfl)
theorem dX0_solveVariable_44 : decode cX0_solveVariable 44 = .ok (.aload_n 0, 1) := dk_42 (dk_at dksX0_solveVariable_1 21 rfl rfl)
theorem dX0_solveVariable_45 : decode cX0_solveVariable 45 = .ok (.iload_n 1, 1) := dk_27 (dk_at dksX0_solveVariable_1 22 rfl rfl)
theorem dX0_solveVariable_46 : decode cX0_solveVariable 46 = .ok (.invokevirtual 605, 3) := dk_182 2 93 (dk_at dksX0_solveVariable_2 0 rfl rfl)
theorem dX0_solveVariable_49 : decode cX0_solveVariable 49 = .ok (.invokevirtual 404, 3) := dk_182 1 148 (dk_at dksX0_solveVariable_2 3 rfl rfl)
theorem dX0_solveVariable_52 : decode cX0_solveVariable 52 = .ok (.ifCond .eq 21, 3) := dk_153 0 21 (dk_at dksX0_solveVariable_2 6 rfl rfl)
theorem dX0_solveVariable_55 : decode cX0_solveVariable 55 = .ok (.aload_n 0, 1) := dk_42 (dk_at dksX0_solveVariable_2 9 rfl rfl)
theorem dX0_solveVariable_56 : decode cX0_solveVariable 56 = .ok (.getfield 807, 3) := dk_180 3 39 (dk_at dksX0_solveVariable_2 10 rfl rfl)
theorem dX0_solveVariable_59 : decode cX0_solveVariable 59 = .ok (.iload_n 1, 1) := dk_27 (dk_at dksX0_solveVariable_2 13 rfl rfl)
theorem dX0_solveVariable_60 : decode cX0_solveVariable 60 = .ok (.iload_n 2, 1) := dk_28 (dk_at dksX0_solveVariable_2 14 rfl rfl)
theorem dX0_solveVariable_61 : decode cX0_solveVariable 61 = .ok (.iastore, 1) := dk_79 (dk_at dksX0_solveVariable_2 15 rfl rfl)
theorem dX0_solveVariable_62 : decode cX0_solveVariable 62 = .ok (.aload_n 0, 1) := dk_42 (dk_at dksX0_solveVariable_2 16 rfl rfl)
theorem dX0_solveVariable_63 : decode cX0_solveVariable 63 = .ok (.invokevirtual 804, 3) := dk_182 3 36 (dk_at dksX0_solveVariable_2 17 rfl rfl)
theorem dX0_solveVariable_66 : decode cX0_solveVariable 66 = .ok (.aload_n 0, 1) := dk_42 (dk_at dksX0_solveVariable_2 20 rfl rfl)
theorem dX0_solveVariable_67 : decode cX0_solveVariable 67 = .ok (.getfield 807, 3) := dk_180 3 39 (dk_at dksX0_solveVariable_2 21 rfl rfl)
theorem dX0_solveVariable_70 : decode cX0_solveVariable 70 = .ok (.iload_n 1, 1) := dk_27 (dk_at dksX0_solveVariable_3 0 rfl rfl)
theorem dX0_solveVariable_71 : decode cX0_solveVariable 71 = .ok (.iconst 0, 1) := dk_3 (dk_at dksX0_solveVariable_3 1 rfl rfl)
theorem dX0_solveVariable_72 : decode cX0_solveVariable 72 = .ok (.iastore, 1) := dk_79 (dk_at dksX0_solveVariable_3 2 rfl rfl)
theorem dX0_solveVariable_73 : decode cX0_solveVariable 73 = .ok (.return_, 1) := dk_177 (dk_at dksX0_solveVariable_3 3 rfl rfl)
abbrev cX0_solveAssoc : ByteArray := prog_1_method_112_code
def yX0_solveAssoc : MethodName := ⟨RX0, "solveAssoc", "(III)V"⟩
def dkwX0_solveAssoc_7 : List UInt8 := [181, 3, 45, 177]
abbrev dktX0_solveAssoc_7 : List UInt8 := dkwX0_solveAssoc_7 ++ []
def dkwX0_solveAssoc_6 : List UInt8 := [100, 182, 3, 51, 27, 28, 182, 3, 20, 42, 89, 180, 3, 54, 4, 100, 181, 3, 54, 42, 21, 4]
abbrev dktX0_solveAssoc_6 : List UInt8 := dkwX0_solveAssoc_6 ++ dktX0_solveAssoc_7
def dkwX0_solveAssoc_5 : List UInt8 := [162, 0, 14, 42, 180, 1, 235, 27, 46, 16, 254, 159, 0, 32, 42, 42, 3, 21, 4, 4, 21, 5, 120, 4]
abbrev dktX0_solveAssoc_5 : List UInt8 := dkwX0_solveAssoc_5 ++ dktX0_solveAssoc_6
def dkwX0_solveAssoc_4 : List UInt8 := [181, 3, 45, 29, 79, 42, 180, 3, 45, 21, 4, 100, 54, 5, 21, 5, 42, 180, 2, 66, 28, 46]
abbrev dktX0_solveAssoc_4 : List UInt8 := dkwX0_solveAssoc_4 ++ dktX0_solveAssoc_5
def dkwX0_solveAssoc_3 : List UInt8 := [159, 0, 12, 29, 42, 27, 182, 2, 125, 159, 0, 20, 42, 180, 3, 48, 42, 89, 180, 3, 45, 90, 4, 96]
abbrev dktX0_solveAssoc_3 : List UInt8 := dkwX0_solveAssoc_3 ++ dktX0_solveAssoc_4
def dkwX0_solveAssoc_2 : List UInt8 := [29, 21, 5, 182, 2, 109, 79, 132, 5, 1, 167, 255, 219, 167, 0, 40, 42, 180, 1, 235, 27, 46, 16, 254]
abbrev dktX0_solveAssoc_2 : List UInt8 := dkwX0_solveAssoc_2 ++ dktX0_solveAssoc_3
def dkwX0_solveAssoc_1 : List UInt8 := [180, 2, 66, 29, 46, 162, 0, 32, 42, 180, 3, 48, 42, 89, 180, 3, 45, 90, 4, 96, 181, 3, 45, 42]
abbrev dktX0_solveAssoc_1 : List UInt8 := dkwX0_solveAssoc_1 ++ dktX0_solveAssoc_2
def dkwX0_solveAssoc_0 : List UInt8 := [42, 180, 3, 45, 54, 4, 42, 180, 2, 63, 29, 46, 27, 160, 0, 49, 3, 54, 5, 21, 5, 42]
abbrev dktX0_solveAssoc_0 : List UInt8 := dkwX0_solveAssoc_0 ++ dktX0_solveAssoc_1
theorem dksX0_solveAssoc_0 : cX0_solveAssoc.data.toList.drop 0 = dktX0_solveAssoc_0 := by decide +kernel
theorem dksX0_solveAssoc_1 : cX0_solveAssoc.data.toList.drop 22 = dktX0_solveAssoc_1 := dk_seg dksX0_solveAssoc_0 22 rfl rfl
theorem dksX0_solveAssoc_2 : cX0_solveAssoc.data.toList.drop 46 = dktX0_solveAssoc_2 := dk_seg dksX0_solveAssoc_1 24 rfl rfl
theorem dksX0_solveAssoc_3 : cX0_solveAssoc.data.toList.drop 70 = dktX0_solveAssoc_3 := dk_seg dksX0_solveAssoc_2 24 rfl rfl
theorem dksX0_solveAssoc_4 : cX0_solveAssoc.data.toList.drop 94 = dktX0_solveAssoc_4 := dk_seg dksX0_solveAssoc_3 24 rfl rfl
theorem dksX0_solveAssoc_5 : cX0_solveAssoc.data.toList.drop 116 = dktX0_solveAssoc_5 := dk_seg dksX0_solveAssoc_4 22 rfl rfl
theorem dksX0_solveAssoc_6 : cX0_solveAssoc.data.toList.drop 140 = dktX0_solveAssoc_6 := dk_seg dksX0_solveAssoc_5 24 rfl rfl
theorem dksX0_solveAssoc_7 : cX0_solveAssoc.data.toList.drop 162 = dktX0_solveAssoc_7 := dk_seg dksX0_solveAssoc_6 22 rfl rfl
theorem dX0_solveAssoc_0 : decode cX0_solveAssoc 0 = .ok (.aload_n 0, 1) := dk_42 (dk_at dksX0_solveAssoc_0 0 rfl rfl)
theorem dX0_solveAssoc_1 : decode cX0_solveAssoc 1 = .ok (.getfield 813, 3) := dk_180 3 45 (dk_at dksX0_solveAssoc_0 1 rfl rfl)
theorem dX0_solveAssoc_4 : decode cX0_solveAssoc 4 = .ok (.istore 4, 2) := dk_54 4 (dk_at dksX0_solveAssoc_0 4 rfl rfl)
theorem dX0_solveAssoc_6 : decode cX0_solveAssoc 6 = .ok (.aload_n 0, 1) := dk_42 (dk_at dksX0_solveAssoc_0 6 rfl rfl)
theorem dX0_solveAssoc_7 : decode cX0_solveAssoc 7 = .ok (.getfield 575, 3) := dk_180 2 63 (dk_at dksX0_solveAssoc_0 7 rfl rfl)
theorem dX0_solveAssoc_10 : decode cX0_solveAssoc 10 = .ok (.iload_n 3, 1) := dk_29 (dk_at dksX0_solveAssoc_0 10 rfl rfl)
theorem dX0_solveAssoc_11 : decode cX0_solveAssoc 11 = .ok (.iaload, 1) := dk_46 (dk_at dksX0_solveAssoc_0 11 rfl rfl)
theorem dX0_solveAssoc_12 : decode cX0_solveAssoc 12 = .ok (.iload_n 1, 1) := dk_27 (dk_at dksX0_solveAssoc_0 12 rfl rfl)
theorem dX0_solveAssoc_13 : decode cX0_solveAssoc 13 = .ok (.if_icmp .ne 49, 3) := dk_160 0 49 (dk_at dksX0_solveAssoc_0 13 rfl rfl)
theorem dX0_solveAssoc_16 : decode cX0_solveAssoc 16 = .ok (.iconst 0, 1) := dk_3 (dk_at dksX0_solveAssoc_0 16 rfl rfl)
theorem dX0_solveAssoc_17 : decode cX0_solveAssoc 17 = .ok (.istore 5, 2) := dk_54 5 (dk_at dksX0_solveAssoc_0 17 rfl rfl)
theorem dX0_solveAssoc_19 : decode cX0_solveAssoc 19 = .ok (.iload 5, 2) := dk_21 5 (dk_at dksX0_solveAssoc_0 19 rfl rfl)
theorem dX0_solveAssoc_21 : decode cX0_solveAssoc 21 = .ok (.aload_n 0, 1) := dk_42 (dk_at dksX0_solveAssoc_0 21 rfl rfl)
theorem dX0_solveAssoc_22 : decode cX0_solveAssoc 22 = .ok (.getfield 578, 3) := dk_180 2 66 (dk_at dksX0_solveAssoc_1 0 rfl rfl)
theorem dX0_solveAssoc_25 : decode cX0_solveAssoc 25 = .ok (.iload_n 3, 1) := dk_29 (dk_at dksX0_solveAssoc_1 3 rfl rfl)
theorem dX0_solveAssoc_26 : decode cX0_solveAssoc 26 = .ok (.iaload, 1) := dk_46 (dk_at dksX0_solveAssoc_1 4 rfl rfl)
theorem dX0_solveAssoc_27 : decode cX0_solveAssoc 27 = .ok (.if_icmp .ge 32, 3) := dk_162 0 32 (dk_at dksX0_solveAssoc_1 5 rfl rfl)
theorem dX0_solveAssoc_30 : decode cX0_solveAssoc 30 = .ok (.aload_n 0, 1) := dk_42 (dk_at dksX0_solveAssoc_1 8 rfl rfl)
theorem dX0_solveAssoc_31 : decode cX0_solveAssoc 31 = .ok (.getfield 816, 3) := dk_180 3 48 (dk_at dksX0_solveAssoc_1 9 rfl rfl)
theorem dX0_solveAssoc_34 : decode cX0_solveAssoc 34 = .ok (.aload_n 0, 1) := dk_42 (dk_at dksX0_solveAssoc_1 12 rfl rfl)
theorem dX0_solveAssoc_35 : decode cX0_solveAssoc 35 = .ok (.dup, 1) := dk_89 (dk_at dksX0_solveAssoc_1 13 rfl rfl)
theorem dX0_solveAssoc_36 : decode cX0_solveAssoc 36 = .ok (.getfield 813, 3) := dk_180 3 45 (dk_at dksX0_solveAssoc_1 14 rfl rfl)
theorem dX0_solveAssoc_39 : decode cX0_solveAssoc 39 = .ok (.dup_x1, 1) := dk_90 (dk_at dksX0_solveAssoc_1 17 rfl rfl)
theorem dX0_solveAssoc_40 : decode cX0_solveAssoc 40 = .ok (.iconst 1, 1) := dk_4 (dk_at dksX0_solveAssoc_1 18 rfl rfl)
theorem dX0_solveAssoc_41 : decode cX0_solveAssoc 41 = .ok (.iadd, 1) := dk_96 (dk_at dksX0_solveAssoc_1 19 rfl rfl)
theorem dX0_solveAssoc_42 : decode cX0_solveAssoc 42 = .ok (.putfield 813, 3) := dk_181 3 45 (dk_at dksX0_solveAssoc_1 20 rfl rfl)
theorem dX0_solveAssoc_45 : decode cX0_solveAssoc 45 = .ok (.aload_n 0, 1) := dk_42 (dk_at dksX0_solveAssoc_1 23 rfl rfl)
theorem dX0_solveAssoc_46 : decode cX0_solveAssoc 46 = .ok (.iload_n 3, 1) := dk_29 (dk_at dksX0_solveAssoc_2 0 rfl rfl)
theorem dX0_solveAssoc_47 : decode cX0_solveAssoc 47 = .ok (.iload 5, 2) := dk_21 5 (dk_at dksX0_solveAssoc_2 1 rfl rfl)
theorem dX0_solveAssoc_49 : decode cX0_solveAssoc 49 = .ok (.invokevirtual 621, 3) := dk_182 2 109 (dk_at dksX0_solveAssoc_2 3 rfl rfl)
theorem dX0_solveAssoc_52 : decode cX0_solveAssoc 52 = .ok (.iastore, 1) := dk_79 (dk_at dksX0_solveAssoc_2 6 rfl rfl)
theorem dX0_solveAssoc_53 : decode cX0_solveAssoc 53 = .ok (.iinc 5 1, 3) := dk_132 5 1 (dk_at dksX0_solveAssoc_2 7 rfl rfl)
theorem dX0_solveAssoc_56 : decode cX0_solveAssoc 56 = .ok (.goto (-37), 3) := dk_167 255 219 (dk_at dksX0_solveAssoc_2 10 rfl rfl)
theorem dX0_solveAssoc_59 : decode cX0_solveAssoc 59 = .ok (.goto 40, 3) := dk_167 0 40 (dk_at dksX0_solveAssoc_2 13 rfl rfl)
theorem dX0_solveAssoc_62 : decode cX0_solveAssoc 62 = .ok (.aload_n 0, 1) := dk_42 (dk_at dksX0_solveAssoc_2 16 rfl rfl)
theorem dX0_solveAssoc_63 : decode cX0_solveAssoc 63 = .ok (.getfield 491, 3) := dk_180 1 235 (dk_at dksX0_solveAssoc_2 17 rfl rfl)
theorem dX0_solveAssoc_66 : decode cX0_solveAssoc 66 = .ok (.iload_n 1, 1) := dk_27 (dk_at dksX0_solveAssoc_2 20 rfl rfl)
theorem dX0_solveAssoc_67 : decode cX0_solveAssoc 67 = .ok (.iaload, 1) := dk_46 (dk_at dksX0_solveAssoc_2 21 rfl rfl)
theorem dX0_solveAssoc_68 : decode cX0_solveAssoc 68 = .ok (.bipush (-2), 2) := dk_16 254 (dk_at dksX0_solveAssoc_2 22 rfl rfl)
theorem dX0_solveAssoc_70 : decode cX0_solveAssoc 70 = .ok (.if_icmp .eq 12, 3) := dk_159 0 12 (dk_at dksX0_solveAssoc_3 0 rfl rfl)
theorem dX0_solveAssoc_73 : decode cX0_solveAssoc 73 = .ok (.iload_n 3, 1) := dk_29 (dk_at dksX0_solveAssoc_3 3 rfl rfl)
theorem dX0_solveAssoc_74 : decode cX0_solveAssoc 74 = .ok (.aload_n 0, 1) := dk_42 (dk_at dksX0_solveAssoc_3 4 rfl rfl)
theorem dX0_solveAssoc_75 : decode cX0_solveAssoc 75 = .ok (.iload_n 1, 1) := dk_27 (dk_at dksX0_solveAssoc_3 5 rfl rfl)
theorem dX0_solveAssoc_76 : decode cX0_solveAssoc 76 = .ok (.invokevirtual 637, 3) := dk_182 2 125 (dk_at dksX0_solveAssoc_3 6 rfl rfl)
theorem dX0_solveAssoc_79 : decode cX0_solveAssoc 79 = .ok (.if_icmp .eq 20, 3) := dk_159 0 20 (dk_at dksX0_solveAssoc_3 9 rfl rfl)
theorem dX0_solveAssoc_82 : decode cX0_solveAssoc 82 = .ok (.aload_n 0, 1) := dk_42 (dk_at dksX0_solveAssoc_3 12 rfl rfl)
theorem dX0_solveAssoc_83 : decode cX0_solveAssoc 83 = .ok (.getfield 816, 3) := dk_180 3 48 (dk_at dksX0_solveAssoc_3 13 rfl rfl)
theorem dX0_solveAssoc_86 : decode cX0_solveAssoc 86 = .ok (.aload_n 0, 1) := dk_42 (dk_at dksX0_solveAssoc_3 16 rfl rfl)
theorem dX0_solveAssoc_87 : decode cX0_solveAssoc 87 = .ok (.dup, 1) := dk_89 (dk_at dksX0_solveAssoc_3 17 rfl rfl)
theorem dX0_solveAssoc_88 : decode cX0_solveAssoc 88 = .ok (.getfield 813, 3) := dk_180 3 45 (dk_at dksX0_solveAssoc_3 18 rfl rfl)
theorem dX0_solveAssoc_91 : decode cX0_solveAssoc 91 = .ok (.dup_x1, 1) := dk_90 (dk_at dksX0_solveAssoc_3 21 rfl rfl)
theorem dX0_solveAssoc_92 : decode cX0_solveAssoc 92 = .ok (.iconst 1, 1) := dk_4 (dk_at dksX0_solveAssoc_3 22 rfl rfl)
theorem dX0_solveAssoc_93 : decode cX0_solveAssoc 93 = .ok (.iadd, 1) := dk_96 (dk_at dksX0_solveAssoc_3 23 rfl rfl)
theorem dX0_solveAssoc_94 : decode cX0_solveAssoc 94 = .ok (.putfield 813, 3) := dk_181 3 45 (dk_at dksX0_solveAssoc_4 0 rfl rfl)
theorem dX0_solveAssoc_97 : decode cX0_solveAssoc 97 = .ok (.iload_n 3, 1) := dk_29 (dk_at dksX0_solveAssoc_4 3 rfl rfl)
theorem dX0_solveAssoc_98 : decode cX0_solveAssoc 98 = .ok (.iastore, 1) := dk_79 (dk_at dksX0_solveAssoc_4 4 rfl rfl)
theorem dX0_solveAssoc_99 : decode cX0_solveAssoc 99 = .ok (.aload_n 0, 1) := dk_42 (dk_at dksX0_solveAssoc_4 5 rfl rfl)
theorem dX0_solveAssoc_100 : decode cX0_solveAssoc 100 = .ok (.getfield 813, 3) := dk_180 3 45 (dk_at dksX0_solveAssoc_4 6 rfl rfl)
theorem dX0_solveAssoc_103 : decode cX0_solveAssoc 103 = .ok (.iload 4, 2) := dk_21 4 (dk_at dksX0_solveAssoc_4 9 rfl rfl)
theorem dX0_solveAssoc_105 : decode cX0_solveAssoc 105 = .ok (.isub, 1) := dk_100 (dk_at dksX0_solveAssoc_4 11 rfl rfl)
theorem dX0_solveAssoc_106 : decode cX0_solveAssoc 106 = .ok (.istore 5, 2) := dk_54 5 (dk_at dksX0_solveAssoc_4 12 rfl rfl)
theorem dX0_solveAssoc_108 : decode cX0_solveAssoc 108 = .ok (.iload 5, 2) := dk_21 5 (dk_at dksX0_solveAssoc_4 14 rfl rfl)
theorem dX0_solveAssoc_110 : decode cX0_solveAssoc 110 = .ok (.aload_n 0, 1) := dk_42 (dk_at dksX0_solveAssoc_4 16 rfl rfl)
theorem dX0_solveAssoc_111 : decode cX0_solveAssoc 111 = .ok (.getfield 578, 3) := dk_180 2 66 (dk_at dksX0_solveAssoc_4 17 rfl rfl)
theorem dX0_solveAssoc_114 : decode cX0_solveAssoc 114 = .ok (.iload_n 2, 1) := dk_28 (dk_at dksX0_solveAssoc_4 20 rfl rfl)
theorem dX0_solveAssoc_115 : decode cX0_solveAssoc 115 = .ok (.iaload, 1) := dk_46 (dk_at dksX0_solveAssoc_4 21 rfl rfl)
theorem dX0_solveAssoc_116 : decode cX0_solveAssoc 116 = .ok (.if_icmp .ge 14, 3) := dk_162 0 14 (dk_at dksX0_solveAssoc_5 0 rfl rfl)
theorem dX0_solveAssoc_119 : decode cX0_solveAssoc 119 = .ok (.aload_n 0, 1) := dk_42 (dk_at dksX0_solveAssoc_5 3 rfl rfl)
theorem dX0_solveAssoc_120 : decode cX0_solveAssoc 120 = .ok (.getfield 491, 3) := dk_180 1 235 (dk_at dksX0_solveAssoc_5 4 rfl rfl)
theorem dX0_solveAssoc_123 : decode cX0_solveAssoc 123 = .ok (.iload_n 1, 1) := dk_27 (dk_at dksX0_solveAssoc_5 7 rfl rfl)
theorem dX0_solveAssoc_124 : decode cX0_solveAssoc 124 = .ok (.iaload, 1) := dk_46 (dk_at dksX0_solveAssoc_5 8 rfl rfl)
theorem dX0_solveAssoc_125 : decode cX0_solveAssoc 125 = .ok (.bipush (-2), 2) := dk_16 254 (dk_at dksX0_solveAssoc_5 9 rfl rfl)
theorem dX0_solveAssoc_127 : decode cX0_solveAssoc 127 = .ok (.if_icmp .eq 32, 3) := dk_159 0 32 (dk_at dksX0_solveAssoc_5 11 rfl rfl)
theorem dX0_solveAssoc_130 : decode cX0_solveAssoc 130 = .ok (.aload_n 0, 1) := dk_42 (dk_at dksX0_solveAssoc_5 14 rfl rfl)
theorem dX0_solveAssoc_131 : decode cX0_solveAssoc 131 = .ok (.aload_n 0, 1) := dk_42 (dk_at dksX0_solveAssoc_5 15 rfl rfl)
theorem dX0_solveAssoc_132 : decode cX0_solveAssoc 132 = .ok (.iconst 0, 1) := dk_3 (dk_at dksX0_solveAssoc_5 16 rfl rfl)
theorem dX0_solveAssoc_133 : decode cX0_solveAssoc 133 = .ok (.iload 4, 2) := dk_21 4 (dk_at dksX0_solveAssoc_5 17 rfl rfl)
theorem dX0_solveAssoc_135 : decode cX0_solveAssoc 135 = .ok (.iconst 1, 1) := dk_4 (dk_at dksX0_solveAssoc_5 19 rfl rfl)
theorem dX0_solveAssoc_136 : decode cX0_solveAssoc 136 = .ok (.iload 5, 2) := dk_21 5 (dk_at dksX0_solveAssoc_5 20 rfl rfl)
theorem dX0_solveAssoc_138 : decode cX0_solveAssoc 138 = .ok (.ishl, 1) := dk_120 (dk_at dksX0_solveAssoc_5 22 rfl rfl)
theorem dX0_solveAssoc_139 : decode cX0_solveAssoc 139 = .ok (.iconst 1, 1) := dk_4 (dk_at dksX0_solveAssoc_5 23 rfl rfl)
theorem dX0_solveAssoc_140 : decode cX0_solveAssoc 140 = .ok (.isub, 1) := dk_100 (dk_at dksX0_solveAssoc_6 0 rfl rfl)
theorem dX0_solveAssoc_141 : decode cX0_solveAssoc 141 = .ok (.invokevirtual 819, 3) := dk_182 3 51 (dk_at dksX0_solveAssoc_6 1 rfl rfl)
theorem dX0_solveAssoc_144 : decode cX0_solveAssoc 144 = .ok (.iload_n 1, 1) := dk_27 (dk_at dksX0_solveAssoc_6 4 rfl rfl)
theorem dX0_solveAssoc_145 : decode cX0_solveAssoc 145 = .ok (.iload_n 2, 1) := dk_28 (dk_at dksX0_solveAssoc_6 5 rfl rfl)
theorem dX0_solveAssoc_146 : decode cX0_solveAssoc 146 = .ok (.invokevirtual 788, 3) := dk_182 3 20 (dk_at dksX0_solveAssoc_6 6 rfl rfl)
theorem dX0_solveAssoc_149 : decode cX0_solveAssoc 149 = .ok (.aload_n 0, 1) := dk_42 (dk_at dksX0_solveAssoc_6 9 rfl rfl)
theorem dX0_solveAssoc_150 : decode cX0_solveAssoc 150 = .ok (.dup, 1) := dk_89 (dk_at dksX0_solveAssoc_6 10 rfl rfl)
theorem dX0_solveAssoc_151 : decode cX0_solveAssoc 151 = .ok (.getfield 822, 3) := dk_180 3 54 (dk_at dksX0_solveAssoc_6 11 rfl rfl)
theorem dX0_solveAssoc_154 : decode cX0_solveAssoc 154 = .ok (.iconst 1, 1) := dk_4 (dk_at dksX0_solveAssoc_6 14 rfl rfl)
theorem dX0_solveAssoc_155 : decode cX0_solveAssoc 155 = .ok (.isub, 1) := dk_100 (dk_at dksX0_solveAssoc_6 15 rfl rfl)
theorem dX0_solveAssoc_156 : decode cX0_solveAssoc 156 = .ok (.putfield 822, 3) := dk_181 3 54 (dk_at dksX0_solveAssoc_6 16 rfl rfl)
theorem dX0_solveAssoc_159 : decode cX0_solveAssoc 159 = .ok (.aload_n 0, 1) := dk_42 (dk_at dksX0_solveAssoc_6 19 rfl rfl)
theorem dX0_solveAssoc_160 : decode cX0_solveAssoc 160 = .ok (.iload 4, 2) := dk_21 4 (dk_at dksX0_solveAssoc_6 20 rfl rfl)
theorem dX0_solveAssoc_162 : decode cX0_solveAssoc 162 = .ok (.putfield 813, 3) := dk_181 3 45 (dk_at dksX0_solveAssoc_7 0 rfl rfl)
theorem dX0_solveAssoc_165 : decode cX0_solveAssoc 165 = .ok (.return_, 1) := dk_177 (dk_at dksX0_solveAssoc_7 3 rfl rfl)
abbrev cX0_solveTwo : ByteArray := prog_1_method_111_code
def yX0_solveTwo : MethodName := ⟨RX0, "solveTwo", "(III)V"⟩
def dkwX0_solveTwo_3 : List UInt8 := [182, 2, 125, 182, 3, 42, 42, 28, 42, 27, 182, 2, 125, 29, 182, 3, 42, 177]
abbrev dktX0_solveTwo_3 : List UInt8 := dkwX0_solveTwo_3 ++ []
def dkwX0_solveTwo_2 : List UInt8 := [182, 2, 109, 182, 3, 42, 42, 180, 1, 235, 27, 46, 16, 254, 159, 0, 25, 42, 28, 29, 42, 27]
abbrev dktX0_solveTwo_2 : List UInt8 := dkwX0_solveTwo_2 ++ dktX0_solveTwo_3
def dkwX0_solveTwo_1 : List UInt8 := [182, 3, 42, 42, 180, 1, 232, 27, 51, 153, 0, 20, 42, 28, 42, 29, 4, 182, 2, 109, 42, 29, 3]
abbrev dktX0_solveTwo_1 : List UInt8 := dkwX0_solveTwo_1 ++ dktX0_solveTwo_2
def dkwX0_solveTwo_0 : List UInt8 := [42, 180, 2, 63, 29, 46, 27, 160, 0, 46, 42, 28, 42, 29, 3, 182, 2, 109, 42, 29, 4, 182, 2, 109]
abbrev dktX0_solveTwo_0 : List UInt8 := dkwX0_solveTwo_0 ++ dktX0_solveTwo_1
theorem dksX0_solveTwo_0 : cX0_solveTwo.data.toList.drop 0 = dktX0_solveTwo_0 := by decide +kernel
theorem dksX0_solveTwo_1 : cX0_solveTwo.data.toList.drop 24 = dktX0_solveTwo_1 := dk_seg dksX0_solveTwo_0 24 rfl rfl
theorem dksX0_solveTwo_2 : cX0_solveTwo.data.toList.drop 47 = dktX0_solveTwo_2 := dk_seg dksX0_solveTwo_1 23 rfl rfl
theorem dksX0_solveTwo_3 : cX0_solveTwo.data.toList.drop 69 = dktX0_solveTwo_3 := dk_seg dksX0_solveTwo_2 22 rfl rfl
theorem dX0_solveTwo_0 : decode cX0_solveTwo 0 = .ok (.aload_n 0, 1) := dk_42 (dk_at dksX0_solveTwo_0 0 rfl rfl)
theorem dX0_solveTwo_1 : decode cX0_solveTwo 1 = .ok (.getfield 575, 3) := dk_180 2 63 (dk_at dksX0_solveTwo_0 1 rfl rfl)
theorem dX0_solveTwo_4 : decode cX0_solveTwo 4 = .ok (.iload_n 3, 1) := dk_29 (dk_at dksX0_solveTwo_0 4 rfl rfl)
theorem dX0_solveTwo_5 : decode cX0_solveTwo 5 = .ok (.iaload, 1) := dk_46 (dk_at dksX0_solveTwo_0 5 rfl rfl)
theorem dX0_solveTwo_6 : decode cX0_solveTwo 6 = .ok (.iload_n 1, 1) := dk_27 (dk_at dksX0_solveTwo_0 6 rfl rfl)
theorem dX0_solveTwo_7 : decode cX0_solveTwo 7 = .ok (.if_icmp .ne 46, 3) := dk_160 0 46 (dk_at dksX0_solveTwo_0 7 rfl rfl)
theorem dX0_solveTwo_10 : decode cX0_solveTwo 10 = .ok (.aload_n 0, 1) := dk_42 (dk_at dksX0_solveTwo_0 10 rfl rfl)
theorem dX0_solveTwo_11 : decode cX0_solveTwo 11 = .ok (.iload_n 2, 1) := dk_28 (dk_at dksX0_solveTwo_0 11 rfl rfl)
theorem dX0_solveTwo_12 : decode cX0_solveTwo 12 = .ok (.aload_n 0, 1) := dk_42 (dk_at dksX0_solveTwo_0 12 rfl rfl)
theorem dX0_solveTwo_13 : decode cX0_solveTwo 13 = .ok (.iload_n 3, 1) := dk_29 (dk_at dksX0_solveTwo_0 13 rfl rfl)
theorem dX0_solveTwo_14 : decode cX0_solveTwo 14 = .ok (.iconst 0, 1) := dk_3 (dk_at dksX0_solveTwo_0 14 rfl rfl)
theorem dX0_solveTwo_15 : decode cX0_solveTwo 15 = .ok (.invokevirtual 621, 3) := dk_182 2 109 (dk_at dksX0_solveTwo_0 15 rfl rfl)
theorem dX0_solveTwo_18 : decode cX0_solveTwo 18 = .ok (.aload_n 0, 1) := dk_42 (dk_at dksX0_solveTwo_0 18 rfl rfl)
theorem dX0_solveTwo_19 : decode cX0_solveTwo 19 = .ok (.iload_n 3, 1) := dk_29 (dk_at dksX0_solveTwo_0 19 rfl rfl)
theorem dX0_solveTwo_20 : decode cX0_solveTwo 20 = .ok (.iconst 1, 1) := dk_4 (dk_at dksX0_solveTwo_0 20 rfl rfl)
theorem dX0_solveTwo_21 : decode cX0_solveTwo 21 = .ok (.invokevirtual 621, 3) := dk_182 2 109 (dk_at dksX0_solveTwo_0 21 rfl rfl)
theorem dX0_solveTwo_24 : decode cX0_solveTwo 24 = .ok (.invokevirtual 810, 3) := dk_182 3 42 (dk_at dksX0_solveTwo_1 0 rfl rfl)
theorem dX0_solveTwo_27 : decode cX0_solveTwo 27 = .ok (.aload_n 0, 1) := dk_42 (dk_at dksX0_solveTwo_1 3 rfl rfl)
theorem dX0_solveTwo_28 : decode cX0_solveTwo 28 = .ok (.getfield 488, 3) := dk_180 1 232 (dk_at dksX0_solveTwo_1 4 rfl rfl)
theorem dX0_solveTwo_31 : decode cX0_solveTwo 31 = .ok (.iload_n 1, 1) := dk_27 (dk_at dksX0_solveTwo_1 7 rfl rfl)
theorem dX0_solveTwo_32 : decode cX0_solveTwo 32 = .ok (.baload, 1) := dk_51 (dk_at dksX0_solveTwo_1 8 rfl rfl)
theorem dX0_solveTwo_33 : decode cX0_solveTwo 33 = .ok (.ifCond .eq 20, 3) := dk_153 0 20 (dk_at dksX0_solveTwo_1 9 rfl rfl)
theorem dX0_solveTwo_36 : decode cX0_solveTwo 36 = .ok (.aload_n 0, 1) := dk_42 (dk_at dksX0_solveTwo_1 12 rfl rfl)
theorem dX0_solveTwo_37 : decode cX0_solveTwo 37 = .ok (.iload_n 2, 1) := dk_28 (dk_at dksX0_solveTwo_1 13 rfl rfl)
theorem dX0_solveTwo_38 : decode cX0_solveTwo 38 = .ok (.aload_n 0, 1) := dk_42 (dk_at dksX0_solveTwo_1 14 rfl rfl)
theorem dX0_solveTwo_39 : decode cX0_solveTwo 39 = .ok (.iload_n 3, 1) := dk_29 (dk_at dksX0_solveTwo_1 15 rfl rfl)
theorem dX0_solveTwo_40 : decode cX0_solveTwo 40 = .ok (.iconst 1, 1) := dk_4 (dk_at dksX0_solveTwo_1 16 rfl rfl)
theorem dX0_solveTwo_41 : decode cX0_solveTwo 41 = .ok (.invokevirtual 621, 3) := dk_182 2 109 (dk_at dksX0_solveTwo_1 17 rfl rfl)
theorem dX0_solveTwo_44 : decode cX0_solveTwo 44 = .ok (.aload_n 0, 1) := dk_42 (dk_at dksX0_solveTwo_1 20 rfl rfl)
theorem dX0_solveTwo_45 : decode cX0_solveTwo 45 = .ok (.iload_n 3, 1) := dk_29 (dk_at dksX0_solveTwo_1 21 rfl rfl)
theorem dX0_solveTwo_46 : decode cX0_solveTwo 46 = .ok (.iconst 0, 1) := dk_3 (dk_at dksX0_solveTwo_1 22 rfl rfl)
theorem dX0_solveTwo_47 : decode cX0_solveTwo 47 = .ok (.invokevirtual 621, 3) := dk_182 2 109 (dk_at dksX0_solveTwo_2 0 rfl rfl)
theorem dX0_solveTwo_50 : decode cX0_solveTwo 50 = .ok (.invokevirtual 810, 3) := dk_182 3 42 (dk_at dksX0_solveTwo_2 3 rfl rfl)
theorem dX0_solveTwo_53 : decode cX0_solveTwo 53 = .ok (.aload_n 0, 1) := dk_42 (dk_at dksX0_solveTwo_2 6 rfl rfl)
theorem dX0_solveTwo_54 : decode cX0_solveTwo 54 = .ok (.getfield 491, 3) := dk_180 1 235 (dk_at dksX0_solveTwo_2 7 rfl rfl)
theorem dX0_solveTwo_57 : decode cX0_solveTwo 57 = .ok (.iload_n 1, 1) := dk_27 (dk_at dksX0_solveTwo_2 10 rfl rfl)
theorem dX0_solveTwo_58 : decode cX0_solveTwo 58 = .ok (.iaload, 1) := dk_46 (dk_at dksX0_solveTwo_2 11 rfl rfl)
theorem dX0_solveTwo_59 : decode cX0_solveTwo 59 = .ok (.bipush (-2), 2) := dk_16 254 (dk_at dksX0_solveTwo_2 12 rfl rfl)
theorem dX0_solveTwo_61 : decode cX0_solveTwo 61 = .ok (.if_icmp .eq 25, 3) := dk_159 0 25 (dk_at dksX0_solveTwo_2 14 rfl rfl)
theorem dX0_solveTwo_64 : decode cX0_solveTwo 64 = .ok (.aload_n 0, 1) := dk_42 (dk_at dksX0_solveTwo_2 17 rfl rfl)
theorem dX0_solveTwo_65 : decode cX0_solveTwo 65 = .ok (.iload_n 2, 1) := dk_28 (dk_at dksX0_solveTwo_2 18 rfl rfl)
theorem dX0_solveTwo_66 : decode cX0_solveTwo 66 = .ok (.iload_n 3, 1) := dk_29 (dk_at dksX0_solveTwo_2 19 rfl rfl)
theorem dX0_solveTwo_67 : decode cX0_solveTwo 67 = .ok (.aload_n 0, 1) := dk_42 (dk_at dksX0_solveTwo_2 20 rfl rfl)
theorem dX0_solveTwo_68 : decode cX0_solveTwo 68 = .ok (.iload_n 1, 1) := dk_27 (dk_at dksX0_solveTwo_2 21 rfl rfl)
theorem dX0_solveTwo_69 : decode cX0_solveTwo 69 = .ok (.invokevirtual 637, 3) := dk_182 2 125 (dk_at dksX0_solveTwo_3 0 rfl rfl)
theorem dX0_solveTwo_72 : decode cX0_solveTwo 72 = .ok (.invokevirtual 810, 3) := dk_182 3 42 (dk_at dksX0_solveTwo_3 3 rfl rfl)
theorem dX0_solveTwo_75 : decode cX0_solveTwo 75 = .ok (.aload_n 0, 1) := dk_42 (dk_at dksX0_solveTwo_3 6 rfl rfl)
theorem dX0_solveTwo_76 : decode cX0_solveTwo 76 = .ok (.iload_n 2, 1) := dk_28 (dk_at dksX0_solveTwo_3 7 rfl rfl)
theorem dX0_solveTwo_77 : decode cX0_solveTwo 77 = .ok (.aload_n 0, 1) := dk_42 (dk_at dksX0_solveTwo_3 8 rfl rfl)
theorem dX0_solveTwo_78 : decode cX0_solveTwo 78 = .ok (.iload_n 1, 1) := dk_27 (dk_at dksX0_solveTwo_3 9 rfl rfl)
theorem dX0_solveTwo_79 : decode cX0_solveTwo 79 = .ok (.invokevirtual 637, 3) := dk_182 2 125 (dk_at dksX0_solveTwo_3 10 rfl rfl)
theorem dX0_solveTwo_82 : decode cX0_solveTwo 82 = .ok (.iload_n 3, 1) := dk_29 (dk_at dksX0_solveTwo_3 13 rfl rfl)
theorem dX0_solveTwo_83 : decode cX0_solveTwo 83 = .ok (.invokevirtual 810, 3) := dk_182 3 42 (dk_at dksX0_solveTwo_3 14 rfl rfl)
theorem dX0_solveTwo_86 : decode cX0_solveTwo 86 = .ok (.return_, 1) := dk_177 (dk_at dksX0_solveTwo_3 17 rfl rfl)
abbrev cX0_solvePair : ByteArray := prog_1_method_110_code
def yX0_solvePair : MethodName := ⟨RX0, "solvePair", "(III)V"⟩
def dkwX0_solvePair_1 : List UInt8 := [28, 182, 3, 33, 42, 182, 3, 36, 42, 21, 4, 181, 3, 11, 177]
abbrev dktX0_solvePair_1 : List UInt8 := dkwX0_solvePair_1 ++ []
def dkwX0_solvePair_0 : List UInt8 := [42, 180, 3, 11, 54, 4, 42, 42, 27, 4, 182, 2, 109, 29, 182, 3, 33, 42, 42, 27, 3, 182, 2, 109]
abbrev dktX0_solvePair_0 : List UInt8 := dkwX0_solvePair_0 ++ dktX0_solvePair_1
theorem dksX0_solvePair_0 : cX0_solvePair.data.toList.drop 0 = dktX0_solvePair_0 := by decide +kernel
theorem dksX0_solvePair_1 : cX0_solvePair.data.toList.drop 24 = dktX0_solvePair_1 := dk_seg dksX0_solvePair_0 24 rfl rfl
theorem dX0_solvePair_0 : decode cX0_solvePair 0 = .ok (.aload_n 0, 1) := dk_42 (dk_at dksX0_solvePair_0 0 rfl rfl)
theorem dX0_solvePair_1 : decode cX0_solvePair 1 = .ok (.getfield 779, 3) := dk_180 3 11 (dk_at dksX0_solvePair_0 1 rfl rfl)
theorem dX0_solvePair_4 : decode cX0_solvePair 4 = .ok (.istore 4, 2) := dk_54 4 (dk_at dksX0_solvePair_0 4 rfl rfl)
theorem dX0_solvePair_6 : decode cX0_solvePair 6 = .ok (.aload_n 0, 1) := dk_42 (dk_at dksX0_solvePair_0 6 rfl rfl)
theorem dX0_solvePair_7 : decode cX0_solvePair 7 = .ok (.aload_n 0, 1) := dk_42 (dk_at dksX0_solvePair_0 7 rfl rfl)
theorem dX0_solvePair_8 : decode cX0_solvePair 8 = .ok (.iload_n 1, 1) := dk_27 (dk_at dksX0_solvePair_0 8 rfl rfl)
theorem dX0_solvePair_9 : decode cX0_solvePair 9 = .ok (.iconst 1, 1) := dk_4 (dk_at dksX0_solvePair_0 9 rfl rfl)
theorem dX0_solvePair_10 : decode cX0_solvePair 10 = .ok (.invokevirtual 621, 3) := dk_182 2 109 (dk_at dksX0_solvePair_0 10 rfl rfl)
theorem dX0_solvePair_13 : decode cX0_solvePair 13 = .ok (.iload_n 3, 1) := dk_29 (dk_at dksX0_solvePair_0 13 rfl rfl)
theorem dX0_solvePair_14 : decode cX0_solvePair 14 = .ok (.invokevirtual 801, 3) := dk_182 3 33 (dk_at dksX0_solvePair_0 14 rfl rfl)
theorem dX0_solvePair_17 : decode cX0_solvePair 17 = .ok (.aload_n 0, 1) := dk_42 (dk_at dksX0_solvePair_0 17 rfl rfl)
theorem dX0_solvePair_18 : decode cX0_solvePair 18 = .ok (.aload_n 0, 1) := dk_42 (dk_at dksX0_solvePair_0 18 rfl rfl)
theorem dX0_solvePair_19 : decode cX0_solvePair 19 = .ok (.iload_n 1, 1) := dk_27 (dk_at dksX0_solvePair_0 19 rfl rfl)
theorem dX0_solvePair_20 : decode cX0_solvePair 20 = .ok (.iconst 0, 1) := dk_3 (dk_at dksX0_solvePair_0 20 rfl rfl)
theorem dX0_solvePair_21 : decode cX0_solvePair 21 = .ok (.invokevirtual 621, 3) := dk_182 2 109 (dk_at dksX0_solvePair_0 21 rfl rfl)
theorem dX0_solvePair_24 : decode cX0_solvePair 24 = .ok (.iload_n 2, 1) := dk_28 (dk_at dksX0_solvePair_1 0 rfl rfl)
theorem dX0_solvePair_25 : decode cX0_solvePair 25 = .ok (.invokevirtual 801, 3) := dk_182 3 33 (dk_at dksX0_solvePair_1 1 rfl rfl)
theorem dX0_solvePair_28 : decode cX0_solvePair 28 = .ok (.aload_n 0, 1) := dk_42 (dk_at dksX0_solvePair_1 4 rfl rfl)
theorem dX0_solvePair_29 : decode cX0_solvePair 29 = .ok (.invokevirtual 804, 3) := dk_182 3 36 (dk_at dksX0_solvePair_1 5 rfl rfl)
theorem dX0_solvePair_32 : decode cX0_solvePair 32 = .ok (.aload_n 0, 1) := dk_42 (dk_at dksX0_solvePair_1 8 rfl rfl)
theorem dX0_solvePair_33 : decode cX0_solvePair 33 = .ok (.iload 4, 2) := dk_21 4 (dk_at dksX0_solvePair_1 9 rfl rfl)
theorem dX0_solvePair_35 : decode cX0_solvePair 35 = .ok (.putfield 779, 3) := dk_181 3 11 (dk_at dksX0_solvePair_1 11 rfl rfl)
theorem dX0_solvePair_38 : decode cX0_solvePair 38 = .ok (.return_, 1) := dk_177 (dk_at dksX0_solvePair_1 14 rfl rfl)
abbrev cX0_matchRow : ByteArray := prog_1_method_126_code
def yX0_matchRow : MethodName := ⟨RX0, "matchRow", "(III)V"⟩
def dkwX0_matchRow_3 : List UInt8 := [182, 3, 130, 182, 3, 127, 132, 5, 1, 167, 255, 196, 132, 4, 1, 167, 255, 173, 177]
abbrev dktX0_matchRow_3 : List UInt8 := dkwX0_matchRow_3 ++ []
def dkwX0_matchRow_2 : List UInt8 := [29, 21, 5, 42, 180, 2, 66, 28, 46, 182, 3, 130, 181, 3, 90, 42, 27, 42, 28, 29, 21, 4, 21, 5]
abbrev dktX0_matchRow_2 : List UInt8 := dkwX0_matchRow_2 ++ dktX0_matchRow_3
def dkwX0_matchRow_1 : List UInt8 := [180, 2, 66, 28, 46, 163, 0, 55, 42, 42, 28, 29, 3, 21, 4, 182, 3, 130, 181, 3, 87, 42, 42, 28]
abbrev dktX0_matchRow_1 : List UInt8 := dkwX0_matchRow_1 ++ dktX0_matchRow_2
def dkwX0_matchRow_0 : List UInt8 := [3, 54, 4, 21, 4, 42, 180, 2, 66, 28, 46, 162, 0, 78, 21, 4, 4, 96, 54, 5, 21, 5, 42]
abbrev dktX0_matchRow_0 : List UInt8 := dkwX0_matchRow_0 ++ dktX0_matchRow_1
theorem dksX0_matchRow_0 : cX0_matchRow.data.toList.drop 0 = dktX0_matchRow_0 := by decide +kernel
theorem dksX0_matchRow_1 : cX0_matchRow.data.toList.drop 23 = dktX0_matchRow_1 := dk_seg dksX0_matchRow_0 23 rfl rfl
theorem dksX0_matchRow_2 : cX0_matchRow.data.toList.drop 47 = dktX0_matchRow_2 := dk_seg dksX0_matchRow_1 24 rfl rfl
theorem dksX0_matchRow_3 : cX0_matchRow.data.toList.drop 71 = dktX0_matchRow_3 := dk_seg dksX0_matchRow_2 24 rfl rfl
theorem dX0_matchRow_0 : decode cX0_matchRow 0 = .ok (.iconst 0, 1) := dk_3 (dk_at dksX0_matchRow_0 0 rfl rfl)
theorem dX0_matchRow_1 : decode cX0_matchRow 1 = .ok (.istore 4, 2) := dk_54 4 (dk_at dksX0_matchRow_0 1 rfl rfl)
theorem dX0_matchRow_3 : decode cX0_matchRow 3 = .ok (.iload 4, 2) := dk_21 4 (dk_at dksX0_matchRow_0 3 rfl rfl)
theorem dX0_matchRow_5 : decode cX0_matchRow 5 = .ok (.aload_n 0, 1) := dk_42 (dk_at dksX0_matchRow_0 5 rfl rfl)
theorem dX0_matchRow_6 : decode cX0_matchRow 6 = .ok (.getfield 578, 3) := dk_180 2 66 (dk_at dksX0_matchRow_0 6 rfl rfl)
theorem dX0_matchRow_9 : decode cX0_matchRow 9 = .ok (.iload_n 2, 1) := dk_28 (dk_at dksX0_matchRow_0 9 rfl rfl)
theorem dX0_matchRow_10 : decode cX0_matchRow 10 = .ok (.iaload, 1) := dk_46 (dk_at dksX0_matchRow_0 10 rfl rfl)
theorem dX0_matchRow_11 : decode cX0_matchRow 11 = .ok (.if_icmp .ge 78, 3) := dk_162 0 78 (dk_at dksX0_matchRow_0 11 rfl rfl)
theorem dX0_matchRow_14 : decode cX0_matchRow 14 = .ok (.iload 4, 2) := dk_21 4 (dk_at dksX0_matchRow_0 14 rfl rfl)
theorem dX0_matchRow_16 : decode cX0_matchRow 16 = .ok (.iconst 1, 1) := dk_4 (dk_at dksX0_matchRow_0 16 rfl rfl)
theorem dX0_matchRow_17 : decode cX0_matchRow 17 = .ok (.iadd, 1) := dk_96 (dk_at dksX0_matchRow_0 17 rfl rfl)
theorem dX0_matchRow_18 : decode cX0_matchRow 18 = .ok (.istore 5, 2) := dk_54 5 (dk_at dksX0_matchRow_0 18 rfl rfl)
theorem dX0_matchRow_20 : decode cX0_matchRow 20 = .ok (.iload 5, 2) := dk_21 5 (dk_at dksX0_matchRow_0 20 rfl rfl)
theorem dX0_matchRow_22 : decode cX0_matchRow 22 = .ok (.aload_n 0, 1) := dk_42 (dk_at dksX0_matchRow_0 22 rfl rfl)
theorem dX0_matchRow_23 : decode cX0_matchRow 23 = .ok (.getfield 578, 3) := dk_180 2 66 (dk_at dksX0_matchRow_1 0 rfl rfl)
theorem dX0_matchRow_26 : decode cX0_matchRow 26 = .ok (.iload_n 2, 1) := dk_28 (dk_at dksX0_matchRow_1 3 rfl rfl)
theorem dX0_matchRow_27 : decode cX0_matchRow 27 = .ok (.iaload, 1) := dk_46 (dk_at dksX0_matchRow_1 4 rfl rfl)
theorem dX0_matchRow_28 : decode cX0_matchRow 28 = .ok (.if_icmp .gt 55, 3) := dk_163 0 55 (dk_at dksX0_matchRow_1 5 rfl rfl)
theorem dX0_matchRow_31 : decode cX0_matchRow 31 = .ok (.aload_n 0, 1) := dk_42 (dk_at dksX0_matchRow_1 8 rfl rfl)
theorem dX0_matchRow_32 : decode cX0_matchRow 32 = .ok (.aload_n 0, 1) := dk_42 (dk_at dksX0_matchRow_1 9 rfl rfl)
theorem dX0_matchRow_33 : decode cX0_matchRow 33 = .ok (.iload_n 2, 1) := dk_28 (dk_at dksX0_matchRow_1 10 rfl rfl)
theorem dX0_matchRow_34 : decode cX0_matchRow 34 = .ok (.iload_n 3, 1) := dk_29 (dk_at dksX0_matchRow_1 11 rfl rfl)
theorem dX0_matchRow_35 : decode cX0_matchRow 35 = .ok (.iconst 0, 1) := dk_3 (dk_at dksX0_matchRow_1 12 rfl rfl)
theorem dX0_matchRow_36 : decode cX0_matchRow 36 = .ok (.iload 4, 2) := dk_21 4 (dk_at dksX0_matchRow_1 13 rfl rfl)
theorem dX0_matchRow_38 : decode cX0_matchRow 38 = .ok (.invokevirtual 898, 3) := dk_182 3 130 (dk_at dksX0_matchRow_1 15 rfl rfl)
theorem dX0_matchRow_41 : decode cX0_matchRow 41 = .ok (.putfield 855, 3) := dk_181 3 87 (dk_at dksX0_matchRow_1 18 rfl rfl)
theorem dX0_matchRow_44 : decode cX0_matchRow 44 = .ok (.aload_n 0, 1) := dk_42 (dk_at dksX0_matchRow_1 21 rfl rfl)
theorem dX0_matchRow_45 : decode cX0_matchRow 45 = .ok (.aload_n 0, 1) := dk_42 (dk_at dksX0_matchRow_1 22 rfl rfl)
theorem dX0_matchRow_46 : decode cX0_matchRow 46 = .ok (.iload_n 2, 1) := dk_28 (dk_at dksX0_matchRow_1 23 rfl rfl)
theorem dX0_matchRow_47 : decode cX0_matchRow 47 = .ok (.iload_n 3, 1) := dk_29 (dk_at dksX0_matchRow_2 0 rfl rfl)
theorem dX0_matchRow_48 : decode cX0_matchRow 48 = .ok (.iload 5, 2) := dk_21 5 (dk_at dksX0_matchRow_2 1 rfl rfl)
theorem dX0_matchRow_50 : decode cX0_matchRow 50 = .ok (.aload_n 0, 1) := dk_42 (dk_at dksX0_matchRow_2 3 rfl rfl)
theorem dX0_matchRow_51 : decode cX0_matchRow 51 = .ok (.getfield 578, 3) := dk_180 2 66 (dk_at dksX0_matchRow_2 4 rfl rfl)
theorem dX0_matchRow_54 : decode cX0_matchRow 54 = .ok (.iload_n 2, 1) := dk_28 (dk_at dksX0_matchRow_2 7 rfl rfl)
theorem dX0_matchRow_55 : decode cX0_matchRow 55 = .ok (.iaload, 1) := dk_46 (dk_at dksX0_matchRow_2 8 rfl rfl)
theorem dX0_matchRow_56 : decode cX0_matchRow 56 = .ok (.invokevirtual 898, 3) := dk_182 3 130 (dk_at dksX0_matchRow_2 9 rfl rfl)
theorem dX0_matchRow_59 : decode cX0_matchRow 59 = .ok (.putfield 858, 3) := dk_181 3 90 (dk_at dksX0_matchRow_2 12 rfl rfl)
theorem dX0_matchRow_62 : decode cX0_matchRow 62 = .ok (.aload_n 0, 1) := dk_42 (dk_at dksX0_matchRow_2 15 rfl rfl)
theorem dX0_matchRow_63 : decode cX0_matchRow 63 = .ok (.iload_n 1, 1) := dk_27 (dk_at dksX0_matchRow_2 16 rfl rfl)
theorem dX0_matchRow_64 : decode cX0_matchRow 64 = .ok (.aload_n 0, 1) := dk_42 (dk_at dksX0_matchRow_2 17 rfl rfl)
theorem dX0_matchRow_65 : decode cX0_matchRow 65 = .ok (.iload_n 2, 1) := dk_28 (dk_at dksX0_matchRow_2 18 rfl rfl)
theorem dX0_matchRow_66 : decode cX0_matchRow 66 = .ok (.iload_n 3, 1) := dk_29 (dk_at dksX0_matchRow_2 19 rfl rfl)
theorem dX0_matchRow_67 : decode cX0_matchRow 67 = .ok (.iload 4, 2) := dk_21 4 (dk_at dksX0_matchRow_2 20 rfl rfl)
theorem dX0_matchRow_69 : decode cX0_matchRow 69 = .ok (.iload 5, 2) := dk_21 5 (dk_at dksX0_matchRow_2 22 rfl rfl)
theorem dX0_matchRow_71 : decode cX0_matchRow 71 = .ok (.invokevirtual 898, 3) := dk_182 3 130 (dk_at dksX0_matchRow_3 0 rfl rfl)
theorem dX0_matchRow_74 : decode cX0_matchRow 74 = .ok (.invokevirtual 895, 3) := dk_182 3 127 (dk_at dksX0_matchRow_3 3 rfl rfl)
theorem dX0_matchRow_77 : decode cX0_matchRow 77 = .ok (.iinc 5 1, 3) := dk_132 5 1 (dk_at dksX0_matchRow_3 6 rfl rfl)
theorem dX0_matchRow_80 : decode cX0_matchRow 80 = .ok (.goto (-60), 3) := dk_167 255 196 (dk_at dksX0_matchRow_3 9 rfl rfl)
theorem dX0_matchRow_83 : decode cX0_matchRow 83 = .ok (.iinc 4 1, 3) := dk_132 4 1 (dk_at dksX0_matchRow_3 12 rfl rfl)
theorem dX0_matchRow_86 : decode cX0_matchRow 86 = .ok (.goto (-83), 3) := dk_167 255 173 (dk_at dksX0_matchRow_3 15 rfl rfl)
theorem dX0_matchRow_89 : decode cX0_matchRow 89 = .ok (.return_, 1) := dk_177 (dk_at dksX0_matchRow_3 18 rfl rfl)
abbrev cX0_span : ByteArray := prog_1_method_125_code
def yX0_span : MethodName := ⟨RX0, "span", "(IIII)I"⟩
def dkwX0_span_0 : List UInt8 := [42, 27, 28, 4, 21, 4, 120, 4, 29, 120, 100, 182, 3, 124, 172]
abbrev dktX0_span_0 : List UInt8 := dkwX0_span_0 ++ []
theorem dksX0_span_0 : cX0_span.data.toList.drop 0 = dktX0_span_0 := by decide +kernel
theorem dX0_span_0 : decode cX0_span 0 = .ok (.aload_n 0, 1) := dk_42 (dk_at dksX0_span_0 0 rfl rfl)
theorem dX0_span_1 : decode cX0_span 1 = .ok (.iload_n 1, 1) := dk_27 (dk_at dksX0_span_0 1 rfl rfl)
theorem dX0_span_2 : decode cX0_span 2 = .ok (.iload_n 2, 1) := dk_28 (dk_at dksX0_span_0 2 rfl rfl)
theorem dX0_span_3 : decode cX0_span 3 = .ok (.iconst 1, 1) := dk_4 (dk_at dksX0_span_0 3 rfl rfl)
theorem dX0_span_4 : decode cX0_span 4 = .ok (.iload 4, 2) := dk_21 4 (dk_at dksX0_span_0 4 rfl rfl)
theorem dX0_span_6 : decode cX0_span 6 = .ok (.ishl, 1) := dk_120 (dk_at dksX0_span_0 6 rfl rfl)
theorem dX0_span_7 : decode cX0_span 7 = .ok (.iconst 1, 1) := dk_4 (dk_at dksX0_span_0 7 rfl rfl)
theorem dX0_span_8 : decode cX0_span 8 = .ok (.iload_n 3, 1) := dk_29 (dk_at dksX0_span_0 8 rfl rfl)
theorem dX0_span_9 : decode cX0_span 9 = .ok (.ishl, 1) := dk_120 (dk_at dksX0_span_0 9 rfl rfl)
theorem dX0_span_10 : decode cX0_span 10 = .ok (.isub, 1) := dk_100 (dk_at dksX0_span_0 10 rfl rfl)
theorem dX0_span_11 : decode cX0_span 11 = .ok (.invokevirtual 892, 3) := dk_182 3 124 (dk_at dksX0_span_0 11 rfl rfl)
theorem dX0_span_14 : decode cX0_span 14 = .ok (.ireturn, 1) := dk_172 (dk_at dksX0_span_0 14 rfl rfl)
abbrev cX0_stopped : ByteArray := prog_1_method_150_code
def yX0_stopped : MethodName := ⟨RX0, "stopped", "(LRewriteHouse$Stop;)I"⟩
def dkwX0_stopped_0 : List UInt8 := [42, 43, 180, 0, 7, 181, 0, 187, 16, 236, 43, 180, 0, 7, 100, 172]
abbrev dktX0_stopped_0 : List UInt8 := dkwX0_stopped_0 ++ []
theorem dksX0_stopped_0 : cX0_stopped.data.toList.drop 0 = dktX0_stopped_0 := by decide +kernel
theorem dX0_stopped_0 : decode cX0_stopped 0 = .ok (.aload_n 0, 1) := dk_42 (dk_at dksX0_stopped_0 0 rfl rfl)
theorem dX0_stopped_1 : decode cX0_stopped 1 = .ok (.aload_n 1, 1) := dk_43 (dk_at dksX0_stopped_0 1 rfl rfl)
theorem dX0_stopped_2 : decode cX0_stopped 2 = .ok (.getfield 7, 3) := dk_180 0 7 (dk_at dksX0_stopped_0 2 rfl rfl)
theorem dX0_stopped_5 : decode cX0_stopped 5 = .ok (.putfield 187, 3) := dk_181 0 187 (dk_at dksX0_stopped_0 5 rfl rfl)
theorem dX0_stopped_8 : decode cX0_stopped 8 = .ok (.bipush (-20), 2) := dk_16 236 (dk_at dksX0_stopped_0 8 rfl rfl)
theorem dX0_stopped_10 : decode cX0_stopped 10 = .ok (.aload_n 1, 1) := dk_43 (dk_at dksX0_stopped_0 10 rfl rfl)
theorem dX0_stopped_11 : decode cX0_stopped 11 = .ok (.getfield 7, 3) := dk_180 0 7 (dk_at dksX0_stopped_0 11 rfl rfl)
theorem dX0_stopped_14 : decode cX0_stopped 14 = .ok (.isub, 1) := dk_100 (dk_at dksX0_stopped_0 14 rfl rfl)
theorem dX0_stopped_15 : decode cX0_stopped 15 = .ok (.ireturn, 1) := dk_172 (dk_at dksX0_stopped_0 15 rfl rfl)
abbrev cX0_bound : ByteArray := prog_1_method_170_code
def yX0_bound : MethodName := ⟨RX0, "bound", "(II)I"⟩
def dkwX0_bound_5 : List UInt8 := [167, 0, 9, 42, 21, 6, 182, 3, 253, 172]
abbrev dktX0_bound_5 : List UInt8 := dkwX0_bound_5 ++ []
def dkwX0_bound_4 : List UInt8 := [54, 6, 21, 6, 154, 0, 8, 16, 254, 167, 0, 24, 42, 180, 0, 178, 17, 0, 200, 160, 0, 8, 16, 253]
abbrev dktX0_bound_4 : List UInt8 := dkwX0_bound_4 ++ dktX0_bound_5
def dkwX0_bound_3 : List UInt8 := [54, 5, 42, 180, 3, 84, 16, 62, 27, 104, 28, 155, 0, 7, 28, 167, 0, 7, 16, 59, 28, 100, 96, 46]
abbrev dktX0_bound_3 : List UInt8 := dkwX0_bound_3 ++ dktX0_bound_4
def dkwX0_bound_2 : List UInt8 := [42, 42, 180, 4, 33, 16, 80, 182, 2, 164, 54, 4, 42, 29, 21, 4, 42, 180, 4, 36, 182, 3, 173]
abbrev dktX0_bound_2 : List UInt8 := dkwX0_bound_2 ++ dktX0_bound_3
def dkwX0_bound_1 : List UInt8 := [16, 59, 184, 0, 20, 154, 0, 5, 2, 172, 42, 182, 3, 247, 42, 42, 180, 4, 33, 3, 182, 2, 164, 62]
abbrev dktX0_bound_1 : List UInt8 := dkwX0_bound_1 ++ dktX0_bound_2
def dkwX0_bound_0 : List UInt8 := [42, 180, 0, 181, 154, 0, 28, 27, 3, 42, 180, 0, 184, 4, 100, 184, 0, 20, 153, 0, 14, 28, 16, 254]
abbrev dktX0_bound_0 : List UInt8 := dkwX0_bound_0 ++ dktX0_bound_1
theorem dksX0_bound_0 : cX0_bound.data.toList.drop 0 = dktX0_bound_0 := by decide +kernel
theorem dksX0_bound_1 : cX0_bound.data.toList.drop 24 = dktX0_bound_1 := dk_seg dksX0_bound_0 24 rfl rfl
theorem dksX0_bound_2 : cX0_bound.data.toList.drop 48 = dktX0_bound_2 := dk_seg dksX0_bound_1 24 rfl rfl
theorem dksX0_bound_3 : cX0_bound.data.toList.drop 71 = dktX0_bound_3 := dk_seg dksX0_bound_2 23 rfl rfl
theorem dksX0_bound_4 : cX0_bound.data.toList.drop 95 = dktX0_bound_4 := dk_seg dksX0_bound_3 24 rfl rfl
theorem dksX0_bound_5 : cX0_bound.data.toList.drop 119 = dktX0_bound_5 := dk_seg dksX0_bound_4 24 rfl rfl
theorem dX0_bound_0 : decode cX0_bound 0 = .ok (.aload_n 0, 1) := dk_42 (dk_at dksX0_bound_0 0 rfl rfl)
theorem dX0_bound_1 : decode cX0_bound 1 = .ok (.getfield 181, 3) := dk_180 0 181 (dk_at dksX0_bound_0 1 rfl rfl)
theorem dX0_bound_4 : decode cX0_bound 4 = .ok (.ifCond .ne 28, 3) := dk_154 0 28 (dk_at dksX0_bound_0 4 rfl rfl)
theorem dX0_bound_7 : decode cX0_bound 7 = .ok (.iload_n 1, 1) := dk_27 (dk_at dksX0_bound_0 7 rfl rfl)
theorem dX0_bound_8 : decode cX0_bound 8 = .ok (.iconst 0, 1) := dk_3 (dk_at dksX0_bound_0 8 rfl rfl)
theorem dX0_bound_9 : decode cX0_bound 9 = .ok (.aload_n 0, 1) := dk_42 (dk_at dksX0_bound_0 9 rfl rfl)
theorem dX0_bound_10 : decode cX0_bound 10 = .ok (.getfield 184, 3) := dk_180 0 184 (dk_at dksX0_bound_0 10 rfl rfl)
theorem dX0_bound_13 : decode cX0_bound 13 = .ok (.iconst 1, 1) := dk_4 (dk_at dksX0_bound_0 13 rfl rfl)
theorem dX0_bound_14 : decode cX0_bound 14 = .ok (.isub, 1) := dk_100 (dk_at dksX0_bound_0 14 rfl rfl)
theorem dX0_bound_15 : decode cX0_bound 15 = .ok (.invokestatic 20, 3) := dk_184 0 20 (dk_at dksX0_bound_0 15 rfl rfl)
theorem dX0_bound_18 : decode cX0_bound 18 = .ok (.ifCond .eq 14, 3) := dk_153 0 14 (dk_at dksX0_bound_0 18 rfl rfl)
theorem dX0_bound_21 : decode cX0_bound 21 = .ok (.iload_n 2, 1) := dk_28 (dk_at dksX0_bound_0 21 rfl rfl)
theorem dX0_bound_22 : decode cX0_bound 22 = .ok (.bipush (-2), 2) := dk_16 254 (dk_at dksX0_bound_0 22 rfl rfl)
theorem dX0_bound_24 : decode cX0_bound 24 = .ok (.bipush 59, 2) := dk_16 59 (dk_at dksX0_bound_1 0 rfl rfl)
theorem dX0_bound_26 : decode cX0_bound 26 = .ok (.invokestatic 20, 3) := dk_184 0 20 (dk_at dksX0_bound_1 2 rfl rfl)
theorem dX0_bound_29 : decode cX0_bound 29 = .ok (.ifCond .ne 5, 3) := dk_154 0 5 (dk_at dksX0_bound_1 5 rfl rfl)
theorem dX0_bound_32 : decode cX0_bound 32 = .ok (.iconst (-1), 1) := dk_2 (dk_at dksX0_bound_1 8 rfl rfl)
theorem dX0_bound_33 : decode cX0_bound 33 = .ok (.ireturn, 1) := dk_172 (dk_at dksX0_bound_1 9 rfl rfl)
theorem dX0_bound_34 : decode cX0_bound 34 = .ok (.aload_n 0, 1) := dk_42 (dk_at dksX0_bound_1 10 rfl rfl)
theorem dX0_bound_35 : decode cX0_bound 35 = .ok (.invokevirtual 1015, 3) := dk_182 3 247 (dk_at dksX0_bound_1 11 rfl rfl)
theorem dX0_bound_38 : decode cX0_bound 38 = .ok (.aload_n 0, 1) := dk_42 (dk_at dksX0_bound_1 14 rfl rfl)
theorem dX0_bound_39 : decode cX0_bound 39 = .ok (.aload_n 0, 1) := dk_42 (dk_at dksX0_bound_1 15 rfl rfl)
theorem dX0_bound_40 : decode cX0_bound 40 = .ok (.getfield 1057, 3) := dk_180 4 33 (dk_at dksX0_bound_1 16 rfl rfl)
theorem dX0_bound_43 : decode cX0_bound 43 = .ok (.iconst 0, 1) := dk_3 (dk_at dksX0_bound_1 19 rfl rfl)
theorem dX0_bound_44 : decode cX0_bound 44 = .ok (.invokevirtual 676, 3) := dk_182 2 164 (dk_at dksX0_bound_1 20 rfl rfl)
theorem dX0_bound_47 : decode cX0_bound 47 = .ok (.istore_n 3, 1) := dk_62 (dk_at dksX0_bound_1 23 rfl rfl)
theorem dX0_bound_48 : decode cX0_bound 48 = .ok (.aload_n 0, 1) := dk_42 (dk_at dksX0_bound_2 0 rfl rfl)
theorem dX0_bound_49 : decode cX0_bound 49 = .ok (.aload_n 0, 1) := dk_42 (dk_at dksX0_bound_2 1 rfl rfl)
theorem dX0_bound_50 : decode cX0_bound 50 = .ok (.getfield 1057, 3) := dk_180 4 33 (dk_at dksX0_bound_2 2 rfl rfl)
theorem dX0_bound_53 : decode cX0_bound 53 = .ok (.bipush 80, 2) := dk_16 80 (dk_at dksX0_bound_2 5 rfl rfl)
theorem dX0_bound_55 : decode cX0_bound 55 = .ok (.invokevirtual 676, 3) := dk_182 2 164 (dk_at dksX0_bound_2 7 rfl rfl)
theorem dX0_bound_58 : decode cX0_bound 58 = .ok (.istore 4, 2) := dk_54 4 (dk_at dksX0_bound_2 10 rfl rfl)
theorem dX0_bound_60 : decode cX0_bound 60 = .ok (.aload_n 0, 1) := dk_42 (dk_at dksX0_bound_2 12 rfl rfl)
theorem dX0_bound_61 : decode cX0_bound 61 = .ok (.iload_n 3, 1) := dk_29 (dk_at dksX0_bound_2 13 rfl rfl)
theorem dX0_bound_62 : decode cX0_bound 62 = .ok (.iload 4, 2) := dk_21 4 (dk_at dksX0_bound_2 14 rfl rfl)
theorem dX0_bound_64 : decode cX0_bound 64 = .ok (.aload_n 0, 1) := dk_42 (dk_at dksX0_bound_2 16 rfl rfl)
theorem dX0_bound_65 : decode cX0_bound 65 = .ok (.getfield 1060, 3) := dk_180 4 36 (dk_at dksX0_bound_2 17 rfl rfl)
theorem dX0_bound_68 : decode cX0_bound 68 = .ok (.invokevirtual 941, 3) := dk_182 3 173 (dk_at dksX0_bound_2 20 rfl rfl)
theorem dX0_bound_71 : decode cX0_bound 71 = .ok (.istore 5, 2) := dk_54 5 (dk_at dksX0_bound_3 0 rfl rfl)
theorem dX0_bound_73 : decode cX0_bound 73 = .ok (.aload_n 0, 1) := dk_42 (dk_at dksX0_bound_3 2 rfl rfl)
theorem dX0_bound_74 : decode cX0_bound 74 = .ok (.getfield 852, 3) := dk_180 3 84 (dk_at dksX0_bound_3 3 rfl rfl)
theorem dX0_bound_77 : decode cX0_bound 77 = .ok (.bipush 62, 2) := dk_16 62 (dk_at dksX0_bound_3 6 rfl rfl)
theorem dX0_bound_79 : decode cX0_bound 79 = .ok (.iload_n 1, 1) := dk_27 (dk_at dksX0_bound_3 8 rfl rfl)
theorem dX0_bound_80 : decode cX0_bound 80 = .ok (.imul, 1) := dk_104 (dk_at dksX0_bound_3 9 rfl rfl)
theorem dX0_bound_81 : decode cX0_bound 81 = .ok (.iload_n 2, 1) := dk_28 (dk_at dksX0_bound_3 10 rfl rfl)
theorem dX0_bound_82 : decode cX0_bound 82 = .ok (.ifCond .lt 7, 3) := dk_155 0 7 (dk_at dksX0_bound_3 11 rfl rfl)
theorem dX0_bound_85 : decode cX0_bound 85 = .ok (.iload_n 2, 1) := dk_28 (dk_at dksX0_bound_3 14 rfl rfl)
theorem dX0_bound_86 : decode cX0_bound 86 = .ok (.goto 7, 3) := dk_167 0 7 (dk_at dksX0_bound_3 15 rfl rfl)
theorem dX0_bound_89 : decode cX0_bound 89 = .ok (.bipush 59, 2) := dk_16 59 (dk_at dksX0_bound_3 18 rfl rfl)
theorem dX0_bound_91 : decode cX0_bound 91 = .ok (.iload_n 2, 1) := dk_28 (dk_at dksX0_bound_3 20 rfl rfl)
theorem dX0_bound_92 : decode cX0_bound 92 = .ok (.isub, 1) := dk_100 (dk_at dksX0_bound_3 21 rfl rfl)
theorem dX0_bound_93 : decode cX0_bound 93 = .ok (.iadd, 1) := dk_96 (dk_at dksX0_bound_3 22 rfl rfl)
theorem dX0_bound_94 : decode cX0_bound 94 = .ok (.iaload, 1) := dk_46 (dk_at dksX0_bound_3 23 rfl rfl)
theorem dX0_bound_95 : decode cX0_bound 95 = .ok (.istore 6, 2) := dk_54 6 (dk_at dksX0_bound_4 0 rfl rfl)
theorem dX0_bound_97 : decode cX0_bound 97 = .ok (.iload 6, 2) := dk_21 6 (dk_at dksX0_bound_4 2 rfl rfl)
theorem dX0_bound_99 : decode cX0_bound 99 = .ok (.ifCond .ne 8, 3) := dk_154 0 8 (dk_at dksX0_bound_4 4 rfl rfl)
theorem dX0_bound_102 : decode cX0_bound 102 = .ok (.bipush (-2), 2) := dk_16 254 (dk_at dksX0_bound_4 7 rfl rfl)
theorem dX0_bound_104 : decode cX0_bound 104 = .ok (.goto 24, 3) := dk_167 0 24 (dk_at dksX0_bound_4 9 rfl rfl)
theorem dX0_bound_107 : decode cX0_bound 107 = .ok (.aload_n 0, 1) := dk_42 (dk_at dksX0_bound_4 12 rfl rfl)
theorem dX0_bound_108 : decode cX0_bound 108 = .ok (.getfield 178, 3) := dk_180 0 178 (dk_at dksX0_bound_4 13 rfl rfl)
theorem dX0_bound_111 : decode cX0_bound 111 = .ok (.sipush 200, 3) := dk_17 0 200 (dk_at dksX0_bound_4 16 rfl rfl)
theorem dX0_bound_114 : decode cX0_bound 114 = .ok (.if_icmp .ne 8, 3) := dk_160 0 8 (dk_at dksX0_bound_4 19 rfl rfl)
theorem dX0_bound_117 : decode cX0_bound 117 = .ok (.bipush (-3), 2) := dk_16 253 (dk_at dksX0_bound_4 22 rfl rfl)
theorem dX0_bound_119 : decode cX0_bound 119 = .ok (.goto 9, 3) := dk_167 0 9 (dk_at dksX0_bound_5 0 rfl rfl)
theorem dX0_bound_122 : decode cX0_bound 122 = .ok (.aload_n 0, 1) := dk_42 (dk_at dksX0_bound_5 3 rfl rfl)
theorem dX0_bound_123 : decode cX0_bound 123 = .ok (.iload 6, 2) := dk_21 6 (dk_at dksX0_bound_5 4 rfl rfl)
theorem dX0_bound_125 : decode cX0_bound 125 = .ok (.invokevirtual 1021, 3) := dk_182 3 253 (dk_at dksX0_bound_5 6 rfl rfl)
theorem dX0_bound_128 : decode cX0_bound 128 = .ok (.ireturn, 1) := dk_172 (dk_at dksX0_bound_5 9 rfl rfl)
abbrev cX0_reduce : ByteArray := prog_1_method_172_code
def yX0_reduce : MethodName := ⟨RX0, "reduce", "(I)I"⟩
def dkwX0_reduce_2 : List UInt8 := [42, 182, 4, 43, 42, 44, 182, 4, 39, 172]
abbrev dktX0_reduce_2 : List UInt8 := dkwX0_reduce_2 ++ []
def dkwX0_reduce_1 : List UInt8 := [182, 3, 247, 42, 42, 27, 182, 4, 3, 182, 3, 155, 61, 42, 182, 4, 43, 42, 28, 182, 3, 253, 172, 77]
abbrev dktX0_reduce_1 : List UInt8 := dkwX0_reduce_1 ++ dktX0_reduce_2
def dkwX0_reduce_0 : List UInt8 := [42, 27, 182, 4, 0, 154, 0, 5, 2, 172, 42, 180, 0, 178, 17, 0, 200, 160, 0, 6, 16, 253, 172, 42]
abbrev dktX0_reduce_0 : List UInt8 := dkwX0_reduce_0 ++ dktX0_reduce_1
theorem dksX0_reduce_0 : cX0_reduce.data.toList.drop 0 = dktX0_reduce_0 := by decide +kernel
theorem dksX0_reduce_1 : cX0_reduce.data.toList.drop 24 = dktX0_reduce_1 := dk_seg dksX0_reduce_0 24 rfl rfl
theorem dksX0_reduce_2 : cX0_reduce.data.toList.drop 48 = dktX0_reduce_2 := dk_seg dksX0_reduce_1 24 rfl rfl
theorem dX0_reduce_0 : decode cX0_reduce 0 = .ok (.aload_n 0, 1) := dk_42 (dk_at dksX0_reduce_0 0 rfl rfl)
theorem dX0_reduce_1 : decode cX0_reduce 1 = .ok (.iload_n 1, 1) := dk_27 (dk_at dksX0_reduce_0 1 rfl rfl)
theorem dX0_reduce_2 : decode cX0_reduce 2 = .ok (.invokevirtual 1024, 3) := dk_182 4 0 (dk_at dksX0_reduce_0 2 rfl rfl)
theorem dX0_reduce_5 : decode cX0_reduce 5 = .ok (.ifCond .ne 5, 3) := dk_154 0 5 (dk_at dksX0_reduce_0 5 rfl rfl)
theorem dX0_reduce_8 : decode cX0_reduce 8 = .ok (.iconst (-1), 1) := dk_2 (dk_at dksX0_reduce_0 8 rfl rfl)
theorem dX0_reduce_9 : decode cX0_reduce 9 = .ok (.ireturn, 1) := dk_172 (dk_at dksX0_reduce_0 9 rfl rfl)
theorem dX0_reduce_10 : decode cX0_reduce 10 = .ok (.aload_n 0, 1) := dk_42 (dk_at dksX0_reduce_0 10 rfl rfl)
theorem dX0_reduce_11 : decode cX0_reduce 11 = .ok (.getfield 178, 3) := dk_180 0 178 (dk_at dksX0_reduce_0 11 rfl rfl)
theorem dX0_reduce_14 : decode cX0_reduce 14 = .ok (.sipush 200, 3) := dk_17 0 200 (dk_at dksX0_reduce_0 14 rfl rfl)
theorem dX0_reduce_17 : decode cX0_reduce 17 = .ok (.if_icmp .ne 6, 3) := dk_160 0 6 (dk_at dksX0_reduce_0 17 rfl rfl)
theorem dX0_reduce_20 : decode cX0_reduce 20 = .ok (.bipush (-3), 2) := dk_16 253 (dk_at dksX0_reduce_0 20 rfl rfl)
theorem dX0_reduce_22 : decode cX0_reduce 22 = .ok (.ireturn, 1) := dk_172 (dk_at dksX0_reduce_0 22 rfl rfl)
theorem dX0_reduce_23 : decode cX0_reduce 23 = .ok (.aload_n 0, 1) := dk_42 (dk_at dksX0_reduce_0 23 rfl rfl)
theorem dX0_reduce_24 : decode cX0_reduce 24 = .ok (.invokevirtual 1015, 3) := dk_182 3 247 (dk_at dksX0_reduce_1 0 rfl rfl)
theorem dX0_reduce_27 : decode cX0_reduce 27 = .ok (.aload_n 0, 1) := dk_42 (dk_at dksX0_reduce_1 3 rfl rfl)
theorem dX0_reduce_28 : decode cX0_reduce 28 = .ok (.aload_n 0, 1) := dk_42 (dk_at dksX0_reduce_1 4 rfl rfl)
theorem dX0_reduce_29 : decode cX0_reduce 29 = .ok (.iload_n 1, 1) := dk_27 (dk_at dksX0_reduce_1 5 rfl rfl)
theorem dX0_reduce_30 : decode cX0_reduce 30 = .ok (.invokevirtual 1027, 3) := dk_182 4 3 (dk_at dksX0_reduce_1 6 rfl rfl)
theorem dX0_reduce_33 : decode cX0_reduce 33 = .ok (.invokevirtual 923, 3) := dk_182 3 155 (dk_at dksX0_reduce_1 9 rfl rfl)
theorem dX0_reduce_36 : decode cX0_reduce 36 = .ok (.istore_n 2, 1) := dk_61 (dk_at dksX0_reduce_1 12 rfl rfl)
theorem dX0_reduce_37 : decode cX0_reduce 37 = .ok (.aload_n 0, 1) := dk_42 (dk_at dksX0_reduce_1 13 rfl rfl)
theorem dX0_reduce_38 : decode cX0_reduce 38 = .ok (.invokevirtual 1067, 3) := dk_182 4 43 (dk_at dksX0_reduce_1 14 rfl rfl)
theorem dX0_reduce_41 : decode cX0_reduce 41 = .ok (.aload_n 0, 1) := dk_42 (dk_at dksX0_reduce_1 17 rfl rfl)
theorem dX0_reduce_42 : decode cX0_reduce 42 = .ok (.iload_n 2, 1) := dk_28 (dk_at dksX0_reduce_1 18 rfl rfl)
theorem dX0_reduce_43 : decode cX0_reduce 43 = .ok (.invokevirtual 1021, 3) := dk_182 3 253 (dk_at dksX0_reduce_1 19 rfl rfl)
theorem dX0_reduce_46 : decode cX0_reduce 46 = .ok (.ireturn, 1) := dk_172 (dk_at dksX0_reduce_1 22 rfl rfl)
theorem dX0_reduce_47 : decode cX0_reduce 47 = .ok (.astore_n 2, 1) := dk_77 (dk_at dksX0_reduce_1 23 rfl rfl)
theorem dX0_reduce_48 : decode cX0_reduce 48 = .ok (.aload_n 0, 1) := dk_42 (dk_at dksX0_reduce_2 0 rfl rfl)
theorem dX0_reduce_49 : decode cX0_reduce 49 = .ok (.invokevirtual 1067, 3) := dk_182 4 43 (dk_at dksX0_reduce_2 1 rfl rfl)
theorem dX0_reduce_52 : decode cX0_reduce 52 = .ok (.aload_n 0, 1) := dk_42 (dk_at dksX0_reduce_2 4 rfl rfl)
theorem dX0_reduce_53 : decode cX0_reduce 53 = .ok (.aload_n 2, 1) := dk_44 (dk_at dksX0_reduce_2 5 rfl rfl)
theorem dX0_reduce_54 : decode cX0_reduce 54 = .ok (.invokevirtual 1063, 3) := dk_182 4 39 (dk_at dksX0_reduce_2 6 rfl rfl)
theorem dX0_reduce_57 : decode cX0_reduce 57 = .ok (.ireturn, 1) := dk_172 (dk_at dksX0_reduce_2 9 rfl rfl)
abbrev cX0_toRest : ByteArray := prog_1_method_130_code
def yX0_toRest : MethodName := ⟨RX0, "toRest", "(I)I"⟩
def dkwX0_toRest_9 : List UInt8 := [4, 100, 181, 3, 140, 21, 4, 172]
abbrev dktX0_toRest_9 : List UInt8 := dkwX0_toRest_9 ++ []
def dkwX0_toRest_8 : List UInt8 := [42, 180, 2, 63, 21, 4, 46, 155, 0, 12, 42, 180, 2, 87, 21, 4, 21, 4, 79, 42, 89, 180, 3, 140]
abbrev dktX0_toRest_8 : List UInt8 := dkwX0_toRest_8 ++ dktX0_toRest_9
def dkwX0_toRest_7 : List UInt8 := [180, 2, 87, 42, 180, 3, 146, 21, 5, 46, 21, 4, 79, 132, 5, 1, 167, 255, 230, 42, 28, 181, 3, 143]
abbrev dktX0_toRest_7 : List UInt8 := dkwX0_toRest_7 ++ dktX0_toRest_8
def dkwX0_toRest_6 : List UInt8 := [182, 3, 137, 54, 4, 21, 6, 62, 167, 255, 167, 28, 54, 5, 21, 5, 42, 180, 3, 143, 162, 0, 23, 42]
abbrev dktX0_toRest_6 : List UInt8 := dkwX0_toRest_6 ++ dktX0_toRest_7
def dkwX0_toRest_5 : List UInt8 := [79, 42, 21, 5, 182, 3, 152, 54, 6, 21, 6, 154, 0, 8, 21, 5, 167, 0, 9, 42, 21, 6]
abbrev dktX0_toRest_5 : List UInt8 := dkwX0_toRest_5 ++ dktX0_toRest_6
def dkwX0_toRest_4 : List UInt8 := [54, 4, 21, 4, 154, 0, 50, 42, 180, 3, 146, 42, 89, 180, 3, 143, 90, 4, 96, 181, 3, 143, 21, 5]
abbrev dktX0_toRest_4 : List UInt8 := dkwX0_toRest_4 ++ dktX0_toRest_5
def dkwX0_toRest_3 : List UInt8 := [180, 3, 143, 90, 4, 96, 181, 3, 143, 29, 79, 42, 29, 182, 3, 149, 54, 5, 42, 21, 5, 182, 3, 137]
abbrev dktX0_toRest_3 : List UInt8 := dkwX0_toRest_3 ++ dktX0_toRest_4
def dkwX0_toRest_2 : List UInt8 := [181, 3, 140, 42, 180, 3, 143, 61, 27, 62, 3, 54, 4, 21, 4, 154, 0, 90, 42, 180, 3, 146, 42, 89]
abbrev dktX0_toRest_2 : List UInt8 := dkwX0_toRest_2 ++ dktX0_toRest_3
def dkwX0_toRest_1 : List UInt8 := [42, 180, 3, 140, 16, 60, 164, 0, 9, 42, 8, 182, 2, 83, 191, 42, 89, 180, 3, 140, 4, 96]
abbrev dktX0_toRest_1 : List UInt8 := dkwX0_toRest_1 ++ dktX0_toRest_2
def dkwX0_toRest_0 : List UInt8 := [42, 180, 2, 63, 27, 46, 155, 0, 12, 42, 180, 2, 87, 27, 46, 153, 0, 9, 42, 27, 182, 3, 137, 172]
abbrev dktX0_toRest_0 : List UInt8 := dkwX0_toRest_0 ++ dktX0_toRest_1
theorem dksX0_toRest_0 : cX0_toRest.data.toList.drop 0 = dktX0_toRest_0 := by decide +kernel
theorem dksX0_toRest_1 : cX0_toRest.data.toList.drop 24 = dktX0_toRest_1 := dk_seg dksX0_toRest_0 24 rfl rfl
theorem dksX0_toRest_2 : cX0_toRest.data.toList.drop 46 = dktX0_toRest_2 := dk_seg dksX0_toRest_1 22 rfl rfl
theorem dksX0_toRest_3 : cX0_toRest.data.toList.drop 70 = dktX0_toRest_3 := dk_seg dksX0_toRest_2 24 rfl rfl
theorem dksX0_toRest_4 : cX0_toRest.data.toList.drop 94 = dktX0_toRest_4 := dk_seg dksX0_toRest_3 24 rfl rfl
theorem dksX0_toRest_5 : cX0_toRest.data.toList.drop 118 = dktX0_toRest_5 := dk_seg dksX0_toRest_4 24 rfl rfl
theorem dksX0_toRest_6 : cX0_toRest.data.toList.drop 140 = dktX0_toRest_6 := dk_seg dksX0_toRest_5 22 rfl rfl
theorem dksX0_toRest_7 : cX0_toRest.data.toList.drop 164 = dktX0_toRest_7 := dk_seg dksX0_toRest_6 24 rfl rfl
theorem dksX0_toRest_8 : cX0_toRest.data.toList.drop 188 = dktX0_toRest_8 := dk_seg dksX0_toRest_7 24 rfl rfl
theorem dksX0_toRest_9 : cX0_toRest.data.toList.drop 212 = dktX0_toRest_9 := dk_seg dksX0_toRest_8 24 rfl rfl
theorem dX0_toRest_0 : decode cX0_toRest 0 = .ok (.aload_n 0, 1) := dk_42 (dk_at dksX0_toRest_0 0 rfl rfl)
theorem dX0_toRest_1 : decode cX0_toRest 1 = .ok (.getfield 575, 3) := dk_180 2 63 (dk_at dksX0_toRest_0 1 rfl rfl)
theorem dX0_toRest_4 : decode cX0_toRest 4 = .ok (.iload_n 1, 1) := dk_27 (dk_at dksX0_toRest_0 4 rfl rfl)
theorem dX0_toRest_5 : decode cX0_toRest 5 = .ok (.iaload, 1) := dk_46 (dk_at dksX0_toRest_0 5 rfl rfl)
theorem dX0_toRest_6 : decode cX0_toRest 6 = .ok (.ifCond .lt 12, 3) := dk_155 0 12 (dk_at dksX0_toRest_0 6 rfl rfl)
theorem dX0_toRest_9 : decode cX0_toRest 9 = .ok (.aload_n 0, 1) := dk_42 (dk_at dksX0_toRest_0 9 rfl rfl)
theorem dX0_toRest_10 : decode cX0_toRest 10 = .ok (.getfield 599, 3) := dk_180 2 87 (dk_at dksX0_toRest_0 10 rfl rfl)
theorem dX0_toRest_13 : decode cX0_toRest 13 = .ok (.iload_n 1, 1) := dk_27 (dk_at dksX0_toRest_0 13 rfl rfl)
theorem dX0_toRest_14 : decode cX0_toRest 14 = .ok (.iaload, 1) := dk_46 (dk_at dksX0_toRest_0 14 rfl rfl)
theorem dX0_toRest_15 : decode cX0_toRest 15 = .ok (.ifCond .eq 9, 3) := dk_153 0 9 (dk_at dksX0_toRest_0 15 rfl rfl)
theorem dX0_toRest_18 : decode cX0_toRest 18 = .ok (.aload_n 0, 1) := dk_42 (dk_at dksX0_toRest_0 18 rfl rfl)
theorem dX0_toRest_19 : decode cX0_toRest 19 = .ok (.iload_n 1, 1) := dk_27 (dk_at dksX0_toRest_0 19 rfl rfl)
theorem dX0_toRest_20 : decode cX0_toRest 20 = .ok (.invokevirtual 905, 3) := dk_182 3 137 (dk_at dksX0_toRest_0 20 rfl rfl)
theorem dX0_toRest_23 : decode cX0_toRest 23 = .ok (.ireturn, 1) := dk_172 (dk_at dksX0_toRest_0 23 rfl rfl)
theorem dX0_toRest_24 : decode cX0_toRest 24 = .ok (.aload_n 0, 1) := dk_42 (dk_at dksX0_toRest_1 0 rfl rfl)
theorem dX0_toRest_25 : decode cX0_toRest 25 = .ok (.getfield 908, 3) := dk_180 3 140 (dk_at dksX0_toRest_1 1 rfl rfl)
theorem dX0_toRest_28 : decode cX0_toRest 28 = .ok (.bipush 60, 2) := dk_16 60 (dk_at dksX0_toRest_1 4 rfl rfl)
theorem dX0_toRest_30 : decode cX0_toRest 30 = .ok (.if_icmp .le 9, 3) := dk_164 0 9 (dk_at dksX0_toRest_1 6 rfl rfl)
theorem dX0_toRest_33 : decode cX0_toRest 33 = .ok (.aload_n 0, 1) := dk_42 (dk_at dksX0_toRest_1 9 rfl rfl)
theorem dX0_toRest_34 : decode cX0_toRest 34 = .ok (.iconst 5, 1) := dk_8 (dk_at dksX0_toRest_1 10 rfl rfl)
theorem dX0_toRest_35 : decode cX0_toRest 35 = .ok (.invokevirtual 595, 3) := dk_182 2 83 (dk_at dksX0_toRest_1 11 rfl rfl)
theorem dX0_toRest_38 : decode cX0_toRest 38 = .ok (.athrow, 1) := dk_191 (dk_at dksX0_toRest_1 14 rfl rfl)
theorem dX0_toRest_39 : decode cX0_toRest 39 = .ok (.aload_n 0, 1) := dk_42 (dk_at dksX0_toRest_1 15 rfl rfl)
theorem dX0_toRest_40 : decode cX0_toRest 40 = .ok (.dup, 1) := dk_89 (dk_at dksX0_toRest_1 16 rfl rfl)
theorem dX0_toRest_41 : decode cX0_toRest 41 = .ok (.getfield 908, 3) := dk_180 3 140 (dk_at dksX0_toRest_1 17 rfl rfl)
theorem dX0_toRest_44 : decode cX0_toRest 44 = .ok (.iconst 1, 1) := dk_4 (dk_at dksX0_toRest_1 20 rfl rfl)
theorem dX0_toRest_45 : decode cX0_toRest 45 = .ok (.iadd, 1) := dk_96 (dk_at dksX0_toRest_1 21 rfl rfl)
theorem dX0_toRest_46 : decode cX0_toRest 46 = .ok (.putfield 908, 3) := dk_181 3 140 (dk_at dksX0_toRest_2 0 rfl rfl)
theorem dX0_toRest_49 : decode cX0_toRest 49 = .ok (.aload_n 0, 1) := dk_42 (dk_at dksX0_toRest_2 3 rfl rfl)
theorem dX0_toRest_50 : decode cX0_toRest 50 = .ok (.getfield 911, 3) := dk_180 3 143 (dk_at dksX0_toRest_2 4 rfl rfl)
theorem dX0_toRest_53 : decode cX0_toRest 53 = .ok (.istore_n 2, 1) := dk_61 (dk_at dksX0_toRest_2 7 rfl rfl)
theorem dX0_toRest_54 : decode cX0_toRest 54 = .ok (.iload_n 1, 1) := dk_27 (dk_at dksX0_toRest_2 8 rfl rfl)
theorem dX0_toRest_55 : decode cX0_toRest 55 = .ok (.istore_n 3, 1) := dk_62 (dk_at dksX0_toRest_2 9 rfl rfl)
theorem dX0_toRest_56 : decode cX0_toRest 56 = .ok (.iconst 0, 1) := dk_3 (dk_at dksX0_toRest_2 10 rfl rfl)
theorem dX0_toRest_57 : decode cX0_toRest 57 = .ok (.istore 4, 2) := dk_54 4 (dk_at dksX0_toRest_2 11 rfl rfl)
theorem dX0_toRest_59 : decode cX0_toRest 59 = .ok (.iload 4, 2) := dk_21 4 (dk_at dksX0_toRest_2 13 rfl rfl)
theorem dX0_toRest_61 : decode cX0_toRest 61 = .ok (.ifCond .ne 90, 3) := dk_154 0 90 (dk_at dksX0_toRest_2 15 rfl rfl)
theorem dX0_toRest_64 : decode cX0_toRest 64 = .ok (.aload_n 0, 1) := dk_42 (dk_at dksX0_toRest_2 18 rfl rfl)
theorem dX0_toRest_65 : decode cX0_toRest 65 = .ok (.getfield 914, 3) := dk_180 3 146 (dk_at dksX0_toRest_2 19 rfl rfl)
theorem dX0_toRest_68 : decode cX0_toRest 68 = .ok (.aload_n 0, 1) := dk_42 (dk_at dksX0_toRest_2 22 rfl rfl)
theorem dX0_toRest_69 : decode cX0_toRest 69 = .ok (.dup, 1) := dk_89 (dk_at dksX0_toRest_2 23 rfl rfl)
theorem dX0_toRest_70 : decode cX0_toRest 70 = .ok (.getfield 911, 3) := dk_180 3 143 (dk_at dksX0_toRest_3 0 rfl rfl)
theorem dX0_toRest_73 : decode cX0_toRest 73 = .ok (.dup_x1, 1) := dk_90 (dk_at dksX0_toRest_3 3 rfl rfl)
theorem dX0_toRest_74 : decode cX0_toRest 74 = .ok (.iconst 1, 1) := dk_4 (dk_at dksX0_toRest_3 4 rfl rfl)
theorem dX0_toRest_75 : decode cX0_toRest 75 = .ok (.iadd, 1) := dk_96 (dk_at dksX0_toRest_3 5 rfl rfl)
theorem dX0_toRest_76 : decode cX0_toRest 76 = .ok (.putfield 911, 3) := dk_181 3 143 (dk_at dksX0_toRest_3 6 rfl rfl)
theorem dX0_toRest_79 : decode cX0_toRest 79 = .ok (.iload_n 3, 1) := dk_29 (dk_at dksX0_toRest_3 9 rfl rfl)
theorem dX0_toRest_80 : decode cX0_toRest 80 = .ok (.iastore, 1) := dk_79 (dk_at dksX0_toRest_3 10 rfl rfl)
theorem dX0_toRest_81 : decode cX0_toRest 81 = .ok (.aload_n 0, 1) := dk_42 (dk_at dksX0_toRest_3 11 rfl rfl)
theorem dX0_toRest_82 : decode cX0_toRest 82 = .ok (.iload_n 3, 1) := dk_29 (dk_at dksX0_toRest_3 12 rfl rfl)
theorem dX0_toRest_83 : decode cX0_toRest 83 = .ok (.invokevirtual 917, 3) := dk_182 3 149 (dk_at dksX0_toRest_3 13 rfl rfl)
theorem dX0_toRest_86 : decode cX0_toRest 86 = .ok (.istore 5, 2) := dk_54 5 (dk_at dksX0_toRest_3 16 rfl rfl)
theorem dX0_toRest_88 : decode cX0_toRest 88 = .ok (.aload_n 0, 1) := dk_42 (dk_at dksX0_toRest_3 18 rfl rfl)
theorem dX0_toRest_89 : decode cX0_toRest 89 = .ok (.iload 5, 2) := dk_21 5 (dk_at dksX0_toRest_3 19 rfl rfl)
theorem dX0_toRest_91 : decode cX0_toRest 91 = .ok (.invokevirtual 905, 3) := dk_182 3 137 (dk_at dksX0_toRest_3 21 rfl rfl)
theorem dX0_toRest_94 : decode cX0_toRest 94 = .ok (.istore 4, 2) := dk_54 4 (dk_at dksX0_toRest_4 0 rfl rfl)
theorem dX0_toRest_96 : decode cX0_toRest 96 = .ok (.iload 4, 2) := dk_21 4 (dk_at dksX0_toRest_4 2 rfl rfl)
theorem dX0_toRest_98 : decode cX0_toRest 98 = .ok (.ifCond .ne 50, 3) := dk_154 0 50 (dk_at dksX0_toRest_4 4 rfl rfl)
theorem dX0_toRest_101 : decode cX0_toRest 101 = .ok (.aload_n 0, 1) := dk_42 (dk_at dksX0_toRest_4 7 rfl rfl)
theorem dX0_toRest_102 : decode cX0_toRest 102 = .ok (.getfield 914, 3) := dk_180 3 146 (dk_at dksX0_toRest_4 8 rfl rfl)
theorem dX0_toRest_105 : decode cX0_toRest 105 = .ok (.aload_n 0, 1) := dk_42 (dk_at dksX0_toRest_4 11 rfl rfl)
theorem dX0_toRest_106 : decode cX0_toRest 106 = .ok (.dup, 1) := dk_89 (dk_at dksX0_toRest_4 12 rfl rfl)
theorem dX0_toRest_107 : decode cX0_toRest 107 = .ok (.getfield 911, 3) := dk_180 3 143 (dk_at dksX0_toRest_4 13 rfl rfl)
theorem dX0_toRest_110 : decode cX0_toRest 110 = .ok (.dup_x1, 1) := dk_90 (dk_at dksX0_toRest_4 16 rfl rfl)
theorem dX0_toRest_111 : decode cX0_toRest 111 = .ok (.iconst 1, 1) := dk_4 (dk_at dksX0_toRest_4 17 rfl rfl)
theorem dX0_toRest_112 : decode cX0_toRest 112 = .ok (.iadd, 1) := dk_96 (dk_at dksX0_toRest_4 18 rfl rfl)
theorem dX0_toRest_113 : decode cX0_toRest 113 = .ok (.putfield 911, 3) := dk_181 3 143 (dk_at dksX0_toRest_4 19 rfl rfl)
theorem dX0_toRest_116 : decode cX0_toRest 116 = .ok (.iload 5, 2) := dk_21 5 (dk_at dksX0_toRest_4 22 rfl rfl)
theorem dX0_toRest_118 : decode cX0_toRest 118 = .ok (.iastore, 1) := dk_79 (dk_at dksX0_toRest_5 0 rfl rfl)
theorem dX0_toRest_119 : decode cX0_toRest 119 = .ok (.aload_n 0, 1) := dk_42 (dk_at dksX0_toRest_5 1 rfl rfl)
theorem dX0_toRest_120 : decode cX0_toRest 120 = .ok (.iload 5, 2) := dk_21 5 (dk_at dksX0_toRest_5 2 rfl rfl)
theorem dX0_toRest_122 : decode cX0_toRest 122 = .ok (.invokevirtual 920, 3) := dk_182 3 152 (dk_at dksX0_toRest_5 4 rfl rfl)
theorem dX0_toRest_125 : decode cX0_toRest 125 = .ok (.istore 6, 2) := dk_54 6 (dk_at dksX0_toRest_5 7 rfl rfl)
theorem dX0_toRest_127 : decode cX0_toRest 127 = .ok (.iload 6, 2) := dk_21 6 (dk_at dksX0_toRest_5 9 rfl rfl)
theorem dX0_toRest_129 : decode cX0_toRest 129 = .ok (.ifCond .ne 8, 3) := dk_154 0 8 (dk_at dksX0_toRest_5 11 rfl rfl)
theorem dX0_toRest_132 : decode cX0_toRest 132 = .ok (.iload 5, 2) := dk_21 5 (dk_at dksX0_toRest_5 14 rfl rfl)
theorem dX0_toRest_134 : decode cX0_toRest 134 = .ok (.goto 9, 3) := dk_167 0 9 (dk_at dksX0_toRest_5 16 rfl rfl)
theorem dX0_toRest_137 : decode cX0_toRest 137 = .ok (.aload_n 0, 1) := dk_42 (dk_at dksX0_toRest_5 19 rfl rfl)
theorem dX0_toRest_138 : decode cX0_toRest 138 = .ok (.iload 6, 2) := dk_21 6 (dk_at dksX0_toRest_5 20 rfl rfl)
theorem dX0_toRest_140 : decode cX0_toRest 140 = .ok (.invokevirtual 905, 3) := dk_182 3 137 (dk_at dksX0_toRest_6 0 rfl rfl)
theorem dX0_toRest_143 : decode cX0_toRest 143 = .ok (.istore 4, 2) := dk_54 4 (dk_at dksX0_toRest_6 3 rfl rfl)
theorem dX0_toRest_145 : decode cX0_toRest 145 = .ok (.iload 6, 2) := dk_21 6 (dk_at dksX0_toRest_6 5 rfl rfl)
theorem dX0_toRest_147 : decode cX0_toRest 147 = .ok (.istore_n 3, 1) := dk_62 (dk_at dksX0_toRest_6 7 rfl rfl)
theorem dX0_toRest_148 : decode cX0_toRest 148 = .ok (.goto (-89), 3) := dk_167 255 167 (dk_at dksX0_toRest_6 8 rfl rfl)
theorem dX0_toRest_151 : decode cX0_toRest 151 = .ok (.iload_n 2, 1) := dk_28 (dk_at dksX0_toRest_6 11 rfl rfl)
theorem dX0_toRest_152 : decode cX0_toRest 152 = .ok (.istore 5, 2) := dk_54 5 (dk_at dksX0_toRest_6 12 rfl rfl)
theorem dX0_toRest_154 : decode cX0_toRest 154 = .ok (.iload 5, 2) := dk_21 5 (dk_at dksX0_toRest_6 14 rfl rfl)
theorem dX0_toRest_156 : decode cX0_toRest 156 = .ok (.aload_n 0, 1) := dk_42 (dk_at dksX0_toRest_6 16 rfl rfl)
theorem dX0_toRest_157 : decode cX0_toRest 157 = .ok (.getfield 911, 3) := dk_180 3 143 (dk_at dksX0_toRest_6 17 rfl rfl)
theorem dX0_toRest_160 : decode cX0_toRest 160 = .ok (.if_icmp .ge 23, 3) := dk_162 0 23 (dk_at dksX0_toRest_6 20 rfl rfl)
theorem dX0_toRest_163 : decode cX0_toRest 163 = .ok (.aload_n 0, 1) := dk_42 (dk_at dksX0_toRest_6 23 rfl rfl)
theorem dX0_toRest_164 : decode cX0_toRest 164 = .ok (.getfield 599, 3) := dk_180 2 87 (dk_at dksX0_toRest_7 0 rfl rfl)
theorem dX0_toRest_167 : decode cX0_toRest 167 = .ok (.aload_n 0, 1) := dk_42 (dk_at dksX0_toRest_7 3 rfl rfl)
theorem dX0_toRest_168 : decode cX0_toRest 168 = .ok (.getfield 914, 3) := dk_180 3 146 (dk_at dksX0_toRest_7 4 rfl rfl)
theorem dX0_toRest_171 : decode cX0_toRest 171 = .ok (.iload 5, 2) := dk_21 5 (dk_at dksX0_toRest_7 7 rfl rfl)
theorem dX0_toRest_173 : decode cX0_toRest 173 = .ok (.iaload, 1) := dk_46 (dk_at dksX0_toRest_7 9 rfl rfl)
theorem dX0_toRest_174 : decode cX0_toRest 174 = .ok (.iload 4, 2) := dk_21 4 (dk_at dksX0_toRest_7 10 rfl rfl)
theorem dX0_toRest_176 : decode cX0_toRest 176 = .ok (.iastore, 1) := dk_79 (dk_at dksX0_toRest_7 12 rfl rfl)
theorem dX0_toRest_177 : decode cX0_toRest 177 = .ok (.iinc 5 1, 3) := dk_132 5 1 (dk_at dksX0_toRest_7 13 rfl rfl)
theorem dX0_toRest_180 : decode cX0_toRest 180 = .ok (.goto (-26), 3) := dk_167 255 230 (dk_at dksX0_toRest_7 16 rfl rfl)
theorem dX0_toRest_183 : decode cX0_toRest 183 = .ok (.aload_n 0, 1) := dk_42 (dk_at dksX0_toRest_7 19 rfl rfl)
theorem dX0_toRest_184 : decode cX0_toRest 184 = .ok (.iload_n 2, 1) := dk_28 (dk_at dksX0_toRest_7 20 rfl rfl)
theorem dX0_toRest_185 : decode cX0_toRest 185 = .ok (.putfield 911, 3) := dk_181 3 143 (dk_at dksX0_toRest_7 21 rfl rfl)
theorem dX0_toRest_188 : decode cX0_toRest 188 = .ok (.aload_n 0, 1) := dk_42 (dk_at dksX0_toRest_8 0 rfl rfl)
theorem dX0_toRest_189 : decode cX0_toRest 189 = .ok (.getfield 575, 3) := dk_180 2 63 (dk_at dksX0_toRest_8 1 rfl rfl)
theorem dX0_toRest_192 : decode cX0_toRest 192 = .ok (.iload 4, 2) := dk_21 4 (dk_at dksX0_toRest_8 4 rfl rfl)
theorem dX0_toRest_194 : decode cX0_toRest 194 = .ok (.iaload, 1) := dk_46 (dk_at dksX0_toRest_8 6 rfl rfl)
theorem dX0_toRest_195 : decode cX0_toRest 195 = .ok (.ifCond .lt 12, 3) := dk_155 0 12 (dk_at dksX0_toRest_8 7 rfl rfl)
theorem dX0_toRest_198 : decode cX0_toRest 198 = .ok (.aload_n 0, 1) := dk_42 (dk_at dksX0_toRest_8 10 rfl rfl)
theorem dX0_toRest_199 : decode cX0_toRest 199 = .ok (.getfield 599, 3) := dk_180 2 87 (dk_at dksX0_toRest_8 11 rfl rfl)
theorem dX0_toRest_202 : decode cX0_toRest 202 = .ok (.iload 4, 2) := dk_21 4 (dk_at dksX0_toRest_8 14 rfl rfl)
theorem dX0_toRest_204 : decode cX0_toRest 204 = .ok (.iload 4, 2) := dk_21 4 (dk_at dksX0_toRest_8 16 rfl rfl)
theorem dX0_toRest_206 : decode cX0_toRest 206 = .ok (.iastore, 1) := dk_79 (dk_at dksX0_toRest_8 18 rfl rfl)
theorem dX0_toRest_207 : decode cX0_toRest 207 = .ok (.aload_n 0, 1) := dk_42 (dk_at dksX0_toRest_8 19 rfl rfl)
theorem dX0_toRest_208 : decode cX0_toRest 208 = .ok (.dup, 1) := dk_89 (dk_at dksX0_toRest_8 20 rfl rfl)
theorem dX0_toRest_209 : decode cX0_toRest 209 = .ok (.getfield 908, 3) := dk_180 3 140 (dk_at dksX0_toRest_8 21 rfl rfl)
theorem dX0_toRest_212 : decode cX0_toRest 212 = .ok (.iconst 1, 1) := dk_4 (dk_at dksX0_toRest_9 0 rfl rfl)
theorem dX0_toRest_213 : decode cX0_toRest 213 = .ok (.isub, 1) := dk_100 (dk_at dksX0_toRest_9 1 rfl rfl)
theorem dX0_toRest_214 : decode cX0_toRest 214 = .ok (.putfield 908, 3) := dk_181 3 140 (dk_at dksX0_toRest_9 2 rfl rfl)
theorem dX0_toRest_217 : decode cX0_toRest 217 = .ok (.iload 4, 2) := dk_21 4 (dk_at dksX0_toRest_9 5 rfl rfl)
theorem dX0_toRest_219 : decode cX0_toRest 219 = .ok (.ireturn, 1) := dk_172 (dk_at dksX0_toRest_9 7 rfl rfl)
abbrev cX0_came : ByteArray := prog_1_method_131_code
def yX0_came : MethodName := ⟨RX0, "came", "(I)I"⟩
def dkwX0_came_0 : List UInt8 := [42, 180, 2, 63, 27, 46, 156, 0, 7, 27, 167, 0, 9, 42, 180, 2, 87, 27, 46, 172]
abbrev dktX0_came_0 : List UInt8 := dkwX0_came_0 ++ []
theorem dksX0_came_0 : cX0_came.data.toList.drop 0 = dktX0_came_0 := by decide +kernel
theorem dX0_came_0 : decode cX0_came 0 = .ok (.aload_n 0, 1) := dk_42 (dk_at dksX0_came_0 0 rfl rfl)
theorem dX0_came_1 : decode cX0_came 1 = .ok (.getfield 575, 3) := dk_180 2 63 (dk_at dksX0_came_0 1 rfl rfl)
theorem dX0_came_4 : decode cX0_came 4 = .ok (.iload_n 1, 1) := dk_27 (dk_at dksX0_came_0 4 rfl rfl)
theorem dX0_came_5 : decode cX0_came 5 = .ok (.iaload, 1) := dk_46 (dk_at dksX0_came_0 5 rfl rfl)
theorem dX0_came_6 : decode cX0_came 6 = .ok (.ifCond .ge 7, 3) := dk_156 0 7 (dk_at dksX0_came_0 6 rfl rfl)
theorem dX0_came_9 : decode cX0_came 9 = .ok (.iload_n 1, 1) := dk_27 (dk_at dksX0_came_0 9 rfl rfl)
theorem dX0_came_10 : decode cX0_came 10 = .ok (.goto 9, 3) := dk_167 0 9 (dk_at dksX0_came_0 10 rfl rfl)
theorem dX0_came_13 : decode cX0_came 13 = .ok (.aload_n 0, 1) := dk_42 (dk_at dksX0_came_0 13 rfl rfl)
theorem dX0_came_14 : decode cX0_came 14 = .ok (.getfield 599, 3) := dk_180 2 87 (dk_at dksX0_came_0 14 rfl rfl)
theorem dX0_came_17 : decode cX0_came 17 = .ok (.iload_n 1, 1) := dk_27 (dk_at dksX0_came_0 17 rfl rfl)
theorem dX0_came_18 : decode cX0_came 18 = .ok (.iaload, 1) := dk_46 (dk_at dksX0_came_0 18 rfl rfl)
theorem dX0_came_19 : decode cX0_came 19 = .ok (.ireturn, 1) := dk_172 (dk_at dksX0_came_0 19 rfl rfl)
abbrev cX0_reduceRow : ByteArray := prog_1_method_132_code
def yX0_reduceRow : MethodName := ⟨RX0, "reduceRow", "(I)I"⟩
def dkwX0_reduceRow_4 : List UInt8 := [28, 182, 2, 134, 172]
abbrev dktX0_reduceRow_4 : List UInt8 := dkwX0_reduceRow_4 ++ []
def dkwX0_reduceRow_3 : List UInt8 := [132, 4, 1, 167, 255, 203, 29, 153, 0, 10, 42, 28, 181, 2, 99, 27, 172, 42, 42, 180, 2, 63, 27, 46]
abbrev dktX0_reduceRow_3 : List UInt8 := dkwX0_reduceRow_3 ++ dktX0_reduceRow_4
def dkwX0_reduceRow_2 : List UInt8 := [42, 27, 21, 4, 182, 2, 109, 160, 0, 7, 4, 167, 0, 4, 3, 126, 62, 42, 21, 5, 182, 2, 131]
abbrev dktX0_reduceRow_2 : List UInt8 := dkwX0_reduceRow_2 ++ dktX0_reduceRow_3
def dkwX0_reduceRow_1 : List UInt8 := [180, 2, 66, 27, 46, 162, 0, 48, 42, 42, 27, 21, 4, 182, 2, 109, 182, 3, 155, 54, 5, 29, 21, 5]
abbrev dktX0_reduceRow_1 : List UInt8 := dkwX0_reduceRow_1 ++ dktX0_reduceRow_2
def dkwX0_reduceRow_0 : List UInt8 := [42, 180, 2, 66, 27, 46, 154, 0, 5, 27, 172, 42, 180, 2, 99, 61, 4, 62, 3, 54, 4, 21, 4, 42]
abbrev dktX0_reduceRow_0 : List UInt8 := dkwX0_reduceRow_0 ++ dktX0_reduceRow_1
theorem dksX0_reduceRow_0 : cX0_reduceRow.data.toList.drop 0 = dktX0_reduceRow_0 := by decide +kernel
theorem dksX0_reduceRow_1 : cX0_reduceRow.data.toList.drop 24 = dktX0_reduceRow_1 := dk_seg dksX0_reduceRow_0 24 rfl rfl
theorem dksX0_reduceRow_2 : cX0_reduceRow.data.toList.drop 48 = dktX0_reduceRow_2 := dk_seg dksX0_reduceRow_1 24 rfl rfl
theorem dksX0_reduceRow_3 : cX0_reduceRow.data.toList.drop 71 = dktX0_reduceRow_3 := dk_seg dksX0_reduceRow_2 23 rfl rfl
theorem dksX0_reduceRow_4 : cX0_reduceRow.data.toList.drop 95 = dktX0_reduceRow_4 := dk_seg dksX0_reduceRow_3 24 rfl rfl
theorem dX0_reduceRow_0 : decode cX0_reduceRow 0 = .ok (.aload_n 0, 1) := dk_42 (dk_at dksX0_reduceRow_0 0 rfl rfl)
theorem dX0_reduceRow_1 : decode cX0_reduceRow 1 = .ok (.getfield 578, 3) := dk_180 2 66 (dk_at dksX0_reduceRow_0 1 rfl rfl)
theorem dX0_reduceRow_4 : decode cX0_reduceRow 4 = .ok (.iload_n 1, 1) := dk_27 (dk_at dksX0_reduceRow_0 4 rfl rfl)
theorem dX0_reduceRow_5 : decode cX0_reduceRow 5 = .ok (.iaload, 1) := dk_46 (dk_at dksX0_reduceRow_0 5 rfl rfl)
theorem dX0_reduceRow_6 : decode cX0_reduceRow 6 = .ok (.ifCond .ne 5, 3) := dk_154 0 5 (dk_at dksX0_reduceRow_0 6 rfl rfl)
theorem dX0_reduceRow_9 : decode cX0_reduceRow 9 = .ok (.iload_n 1, 1) := dk_27 (dk_at dksX0_reduceRow_0 9 rfl rfl)
theorem dX0_reduceRow_10 : decode cX0_reduceRow 10 = .ok (.ireturn, 1) := dk_172 (dk_at dksX0_reduceRow_0 10 rfl rfl)
theorem dX0_reduceRow_11 : decode cX0_reduceRow 11 = .ok (.aload_n 0, 1) := dk_42 (dk_at dksX0_reduceRow_0 11 rfl rfl)
theorem dX0_reduceRow_12 : decode cX0_reduceRow 12 = .ok (.getfield 611, 3) := dk_180 2 99 (dk_at dksX0_reduceRow_0 12 rfl rfl)
theorem dX0_reduceRow_15 : decode cX0_reduceRow 15 = .ok (.istore_n 2, 1) := dk_61 (dk_at dksX0_reduceRow_0 15 rfl rfl)
theorem dX0_reduceRow_16 : decode cX0_reduceRow 16 = .ok (.iconst 1, 1) := dk_4 (dk_at dksX0_reduceRow_0 16 rfl rfl)
theorem dX0_reduceRow_17 : decode cX0_reduceRow 17 = .ok (.istore_n 3, 1) := dk_62 (dk_at dksX0_reduceRow_0 17 rfl rfl)
theorem dX0_reduceRow_18 : decode cX0_reduceRow 18 = .ok (.iconst 0, 1) := dk_3 (dk_at dksX0_reduceRow_0 18 rfl rfl)
theorem dX0_reduceRow_19 : decode cX0_reduceRow 19 = .ok (.istore 4, 2) := dk_54 4 (dk_at dksX0_reduceRow_0 19 rfl rfl)
theorem dX0_reduceRow_21 : decode cX0_reduceRow 21 = .ok (.iload 4, 2) := dk_21 4 (dk_at dksX0_reduceRow_0 21 rfl rfl)
theorem dX0_reduceRow_23 : decode cX0_reduceRow 23 = .ok (.aload_n 0, 1) := dk_42 (dk_at dksX0_reduceRow_0 23 rfl rfl)
theorem dX0_reduceRow_24 : decode cX0_reduceRow 24 = .ok (.getfield 578, 3) := dk_180 2 66 (dk_at dksX0_reduceRow_1 0 rfl rfl)
theorem dX0_reduceRow_27 : decode cX0_reduceRow 27 = .ok (.iload_n 1, 1) := dk_27 (dk_at dksX0_reduceRow_1 3 rfl rfl)
theorem dX0_reduceRow_28 : decode cX0_reduceRow 28 = .ok (.iaload, 1) := dk_46 (dk_at dksX0_reduceRow_1 4 rfl rfl)
theorem dX0_reduceRow_29 : decode cX0_reduceRow 29 = .ok (.if_icmp .ge 48, 3) := dk_162 0 48 (dk_at dksX0_reduceRow_1 5 rfl rfl)
theorem dX0_reduceRow_32 : decode cX0_reduceRow 32 = .ok (.aload_n 0, 1) := dk_42 (dk_at dksX0_reduceRow_1 8 rfl rfl)
theorem dX0_reduceRow_33 : decode cX0_reduceRow 33 = .ok (.aload_n 0, 1) := dk_42 (dk_at dksX0_reduceRow_1 9 rfl rfl)
theorem dX0_reduceRow_34 : decode cX0_reduceRow 34 = .ok (.iload_n 1, 1) := dk_27 (dk_at dksX0_reduceRow_1 10 rfl rfl)
theorem dX0_reduceRow_35 : decode cX0_reduceRow 35 = .ok (.iload 4, 2) := dk_21 4 (dk_at dksX0_reduceRow_1 11 rfl rfl)
theorem dX0_reduceRow_37 : decode cX0_reduceRow 37 = .ok (.invokevirtual 621, 3) := dk_182 2 109 (dk_at dksX0_reduceRow_1 13 rfl rfl)
theorem dX0_reduceRow_40 : decode cX0_reduceRow 40 = .ok (.invokevirtual 923, 3) := dk_182 3 155 (dk_at dksX0_reduceRow_1 16 rfl rfl)
theorem dX0_reduceRow_43 : decode cX0_reduceRow 43 = .ok (.istore 5, 2) := dk_54 5 (dk_at dksX0_reduceRow_1 19 rfl rfl)
theorem dX0_reduceRow_45 : decode cX0_reduceRow 45 = .ok (.iload_n 3, 1) := dk_29 (dk_at dksX0_reduceRow_1 21 rfl rfl)
theorem dX0_reduceRow_46 : decode cX0_reduceRow 46 = .ok (.iload 5, 2) := dk_21 5 (dk_at dksX0_reduceRow_1 22 rfl rfl)
theorem dX0_reduceRow_48 : decode cX0_reduceRow 48 = .ok (.aload_n 0, 1) := dk_42 (dk_at dksX0_reduceRow_2 0 rfl rfl)
theorem dX0_reduceRow_49 : decode cX0_reduceRow 49 = .ok (.iload_n 1, 1) := dk_27 (dk_at dksX0_reduceRow_2 1 rfl rfl)
theorem dX0_reduceRow_50 : decode cX0_reduceRow 50 = .ok (.iload 4, 2) := dk_21 4 (dk_at dksX0_reduceRow_2 2 rfl rfl)
theorem dX0_reduceRow_52 : decode cX0_reduceRow 52 = .ok (.invokevirtual 621, 3) := dk_182 2 109 (dk_at dksX0_reduceRow_2 4 rfl rfl)
theorem dX0_reduceRow_55 : decode cX0_reduceRow 55 = .ok (.if_icmp .ne 7, 3) := dk_160 0 7 (dk_at dksX0_reduceRow_2 7 rfl rfl)
theorem dX0_reduceRow_58 : decode cX0_reduceRow 58 = .ok (.iconst 1, 1) := dk_4 (dk_at dksX0_reduceRow_2 10 rfl rfl)
theorem dX0_reduceRow_59 : decode cX0_reduceRow 59 = .ok (.goto 4, 3) := dk_167 0 4 (dk_at dksX0_reduceRow_2 11 rfl rfl)
theorem dX0_reduceRow_62 : decode cX0_reduceRow 62 = .ok (.iconst 0, 1) := dk_3 (dk_at dksX0_reduceRow_2 14 rfl rfl)
theorem dX0_reduceRow_63 : decode cX0_reduceRow 63 = .ok (.iand, 1) := dk_126 (dk_at dksX0_reduceRow_2 15 rfl rfl)
theorem dX0_reduceRow_64 : decode cX0_reduceRow 64 = .ok (.istore_n 3, 1) := dk_62 (dk_at dksX0_reduceRow_2 16 rfl rfl)
theorem dX0_reduceRow_65 : decode cX0_reduceRow 65 = .ok (.aload_n 0, 1) := dk_42 (dk_at dksX0_reduceRow_2 17 rfl rfl)
theorem dX0_reduceRow_66 : decode cX0_reduceRow 66 = .ok (.iload 5, 2) := dk_21 5 (dk_at dksX0_reduceRow_2 18 rfl rfl)
theorem dX0_reduceRow_68 : decode cX0_reduceRow 68 = .ok (.invokevirtual 643, 3) := dk_182 2 131 (dk_at dksX0_reduceRow_2 20 rfl rfl)
theorem dX0_reduceRow_71 : decode cX0_reduceRow 71 = .ok (.iinc 4 1, 3) := dk_132 4 1 (dk_at dksX0_reduceRow_3 0 rfl rfl)
theorem dX0_reduceRow_74 : decode cX0_reduceRow 74 = .ok (.goto (-53), 3) := dk_167 255 203 (dk_at dksX0_reduceRow_3 3 rfl rfl)
theorem dX0_reduceRow_77 : decode cX0_reduceRow 77 = .ok (.iload_n 3, 1) := dk_29 (dk_at dksX0_reduceRow_3 6 rfl rfl)
theorem dX0_reduceRow_78 : decode cX0_reduceRow 78 = .ok (.ifCond .eq 10, 3) := dk_153 0 10 (dk_at dksX0_reduceRow_3 7 rfl rfl)
theorem dX0_reduceRow_81 : decode cX0_reduceRow 81 = .ok (.aload_n 0, 1) := dk_42 (dk_at dksX0_reduceRow_3 10 rfl rfl)
theorem dX0_reduceRow_82 : decode cX0_reduceRow 82 = .ok (.iload_n 2, 1) := dk_28 (dk_at dksX0_reduceRow_3 11 rfl rfl)
theorem dX0_reduceRow_83 : decode cX0_reduceRow 83 = .ok (.putfield 611, 3) := dk_181 2 99 (dk_at dksX0_reduceRow_3 12 rfl rfl)
theorem dX0_reduceRow_86 : decode cX0_reduceRow 86 = .ok (.iload_n 1, 1) := dk_27 (dk_at dksX0_reduceRow_3 15 rfl rfl)
theorem dX0_reduceRow_87 : decode cX0_reduceRow 87 = .ok (.ireturn, 1) := dk_172 (dk_at dksX0_reduceRow_3 16 rfl rfl)
theorem dX0_reduceRow_88 : decode cX0_reduceRow 88 = .ok (.aload_n 0, 1) := dk_42 (dk_at dksX0_reduceRow_3 17 rfl rfl)
theorem dX0_reduceRow_89 : decode cX0_reduceRow 89 = .ok (.aload_n 0, 1) := dk_42 (dk_at dksX0_reduceRow_3 18 rfl rfl)
theorem dX0_reduceRow_90 : decode cX0_reduceRow 90 = .ok (.getfield 575, 3) := dk_180 2 63 (dk_at dksX0_reduceRow_3 19 rfl rfl)
theorem dX0_reduceRow_93 : decode cX0_reduceRow 93 = .ok (.iload_n 1, 1) := dk_27 (dk_at dksX0_reduceRow_3 22 rfl rfl)
theorem dX0_reduceRow_94 : decode cX0_reduceRow 94 = .ok (.iaload, 1) := dk_46 (dk_at dksX0_reduceRow_3 23 rfl rfl)
theorem dX0_reduceRow_95 : decode cX0_reduceRow 95 = .ok (.iload_n 2, 1) := dk_28 (dk_at dksX0_reduceRow_4 0 rfl rfl)
theorem dX0_reduceRow_96 : decode cX0_reduceRow 96 = .ok (.invokevirtual 646, 3) := dk_182 2 134 (dk_at dksX0_reduceRow_4 1 rfl rfl)
theorem dX0_reduceRow_99 : decode cX0_reduceRow 99 = .ok (.ireturn, 1) := dk_172 (dk_at dksX0_reduceRow_4 4 rfl rfl)
abbrev cX0_tryEquations : ByteArray := prog_1_method_135_code
def yX0_tryEquations : MethodName := ⟨RX0, "tryEquations", "(I)I"⟩
def dkwX0_tryEquations_2 : List UInt8 := [153, 0, 10, 42, 182, 3, 167, 21, 4, 172, 132, 3, 1, 167, 255, 206, 132, 2, 1, 167, 255, 193, 3, 172]
abbrev dktX0_tryEquations_2 : List UInt8 := dkwX0_tryEquations_2 ++ []
def dkwX0_tryEquations_1 : List UInt8 := [4, 160, 0, 7, 4, 167, 0, 4, 3, 160, 0, 23, 42, 29, 27, 182, 3, 164, 54, 4, 21, 4]
abbrev dktX0_tryEquations_1 : List UInt8 := dkwX0_tryEquations_1 ++ dktX0_tryEquations_2
def dkwX0_tryEquations_0 : List UInt8 := [3, 61, 28, 5, 162, 0, 64, 3, 62, 29, 42, 180, 0, 157, 162, 0, 48, 42, 180, 1, 87, 29, 51, 28]
abbrev dktX0_tryEquations_0 : List UInt8 := dkwX0_tryEquations_0 ++ dktX0_tryEquations_1
theorem dksX0_tryEquations_0 : cX0_tryEquations.data.toList.drop 0 = dktX0_tryEquations_0 := by decide +kernel
theorem dksX0_tryEquations_1 : cX0_tryEquations.data.toList.drop 24 = dktX0_tryEquations_1 := dk_seg dksX0_tryEquations_0 24 rfl rfl
theorem dksX0_tryEquations_2 : cX0_tryEquations.data.toList.drop 46 = dktX0_tryEquations_2 := dk_seg dksX0_tryEquations_1 22 rfl rfl
theorem dX0_tryEquations_0 : decode cX0_tryEquations 0 = .ok (.iconst 0, 1) := dk_3 (dk_at dksX0_tryEquations_0 0 rfl rfl)
theorem dX0_tryEquations_1 : decode cX0_tryEquations 1 = .ok (.istore_n 2, 1) := dk_61 (dk_at dksX0_tryEquations_0 1 rfl rfl)
theorem dX0_tryEquations_2 : decode cX0_tryEquations 2 = .ok (.iload_n 2, 1) := dk_28 (dk_at dksX0_tryEquations_0 2 rfl rfl)
theorem dX0_tryEquations_3 : decode cX0_tryEquations 3 = .ok (.iconst 2, 1) := dk_5 (dk_at dksX0_tryEquations_0 3 rfl rfl)
theorem dX0_tryEquations_4 : decode cX0_tryEquations 4 = .ok (.if_icmp .ge 64, 3) := dk_162 0 64 (dk_at dksX0_tryEquations_0 4 rfl rfl)
theorem dX0_tryEquations_7 : decode cX0_tryEquations 7 = .ok (.iconst 0, 1) := dk_3 (dk_at dksX0_tryEquations_0 7 rfl rfl)
theorem dX0_tryEquations_8 : decode cX0_tryEquations 8 = .ok (.istore_n 3, 1) := dk_62 (dk_at dksX0_tryEquations_0 8 rfl rfl)
theorem dX0_tryEquations_9 : decode cX0_tryEquations 9 = .ok (.iload_n 3, 1) := dk_29 (dk_at dksX0_tryEquations_0 9 rfl rfl)
theorem dX0_tryEquations_10 : decode cX0_tryEquations 10 = .ok (.aload_n 0, 1) := dk_42 (dk_at dksX0_tryEquations_0 10 rfl rfl)
theorem dX0_tryEquations_11 : decode cX0_tryEquations 11 = .ok (.getfield 157, 3) := dk_180 0 157 (dk_at dksX0_tryEquations_0 11 rfl rfl)
theorem dX0_tryEquations_14 : decode cX0_tryEquations 14 = .ok (.if_icmp .ge 48, 3) := dk_162 0 48 (dk_at dksX0_tryEquations_0 14 rfl rfl)
theorem dX0_tryEquations_17 : decode cX0_tryEquations 17 = .ok (.aload_n 0, 1) := dk_42 (dk_at dksX0_tryEquations_0 17 rfl rfl)
theorem dX0_tryEquations_18 : decode cX0_tryEquations 18 = .ok (.getfield 343, 3) := dk_180 1 87 (dk_at dksX0_tryEquations_0 18 rfl rfl)
theorem dX0_tryEquations_21 : decode cX0_tryEquations 21 = .ok (.iload_n 3, 1) := dk_29 (dk_at dksX0_tryEquations_0 21 rfl rfl)
theorem dX0_tryEquations_22 : decode cX0_tryEquations 22 = .ok (.baload, 1) := dk_51 (dk_at dksX0_tryEquations_0 22 rfl rfl)
theorem dX0_tryEquations_23 : decode cX0_tryEquations 23 = .ok (.iload_n 2, 1) := dk_28 (dk_at dksX0_tryEquations_0 23 rfl rfl)
theorem dX0_tryEquations_24 : decode cX0_tryEquations 24 = .ok (.iconst 1, 1) := dk_4 (dk_at dksX0_tryEquations_1 0 rfl rfl)
theorem dX0_tryEquations_25 : decode cX0_tryEquations 25 = .ok (.if_icmp .ne 7, 3) := dk_160 0 7 (dk_at dksX0_tryEquations_1 1 rfl rfl)
theorem dX0_tryEquations_28 : decode cX0_tryEquations 28 = .ok (.iconst 1, 1) := dk_4 (dk_at dksX0_tryEquations_1 4 rfl rfl)
theorem dX0_tryEquations_29 : decode cX0_tryEquations 29 = .ok (.goto 4, 3) := dk_167 0 4 (dk_at dksX0_tryEquations_1 5 rfl rfl)
theorem dX0_tryEquations_32 : decode cX0_tryEquations 32 = .ok (.iconst 0, 1) := dk_3 (dk_at dksX0_tryEquations_1 8 rfl rfl)
theorem dX0_tryEquations_33 : decode cX0_tryEquations 33 = .ok (.if_icmp .ne 23, 3) := dk_160 0 23 (dk_at dksX0_tryEquations_1 9 rfl rfl)
theorem dX0_tryEquations_36 : decode cX0_tryEquations 36 = .ok (.aload_n 0, 1) := dk_42 (dk_at dksX0_tryEquations_1 12 rfl rfl)
theorem dX0_tryEquations_37 : decode cX0_tryEquations 37 = .ok (.iload_n 3, 1) := dk_29 (dk_at dksX0_tryEquations_1 13 rfl rfl)
theorem dX0_tryEquations_38 : decode cX0_tryEquations 38 = .ok (.iload_n 1, 1) := dk_27 (dk_at dksX0_tryEquations_1 14 rfl rfl)
theorem dX0_tryEquations_39 : decode cX0_tryEquations 39 = .ok (.invokevirtual 932, 3) := dk_182 3 164 (dk_at dksX0_tryEquations_1 15 rfl rfl)
theorem dX0_tryEquations_42 : decode cX0_tryEquations 42 = .ok (.istore 4, 2) := dk_54 4 (dk_at dksX0_tryEquations_1 18 rfl rfl)
theorem dX0_tryEquations_44 : decode cX0_tryEquations 44 = .ok (.iload 4, 2) := dk_21 4 (dk_at dksX0_tryEquations_1 20 rfl rfl)
theorem dX0_tryEquations_46 : decode cX0_tryEquations 46 = .ok (.ifCond .eq 10, 3) := dk_153 0 10 (dk_at dksX0_tryEquations_2 0 rfl rfl)
theorem dX0_tryEquations_49 : decode cX0_tryEquations 49 = .ok (.aload_n 0, 1) := dk_42 (dk_at dksX0_tryEquations_2 3 rfl rfl)
theorem dX0_tryEquations_50 : decode cX0_tryEquations 50 = .ok (.invokevirtual 935, 3) := dk_182 3 167 (dk_at dksX0_tryEquations_2 4 rfl rfl)
theorem dX0_tryEquations_53 : decode cX0_tryEquations 53 = .ok (.iload 4, 2) := dk_21 4 (dk_at dksX0_tryEquations_2 7 rfl rfl)
theorem dX0_tryEquations_55 : decode cX0_tryEquations 55 = .ok (.ireturn, 1) := dk_172 (dk_at dksX0_tryEquations_2 9 rfl rfl)
theorem dX0_tryEquations_56 : decode cX0_tryEquations 56 = .ok (.iinc 3 1, 3) := dk_132 3 1 (dk_at dksX0_tryEquations_2 10 rfl rfl)
theorem dX0_tryEquations_59 : decode cX0_tryEquations 59 = .ok (.goto (-50), 3) := dk_167 255 206 (dk_at dksX0_tryEquations_2 13 rfl rfl)
theorem dX0_tryEquations_62 : decode cX0_tryEquations 62 = .ok (.iinc 2 1, 3) := dk_132 2 1 (dk_at dksX0_tryEquations_2 16 rfl rfl)
theorem dX0_tryEquations_65 : decode cX0_tryEquations 65 = .ok (.goto (-63), 3) := dk_167 255 193 (dk_at dksX0_tryEquations_2 19 rfl rfl)
theorem dX0_tryEquations_68 : decode cX0_tryEquations 68 = .ok (.iconst 0, 1) := dk_3 (dk_at dksX0_tryEquations_2 22 rfl rfl)
theorem dX0_tryEquations_69 : decode cX0_tryEquations 69 = .ok (.ireturn, 1) := dk_172 (dk_at dksX0_tryEquations_2 23 rfl rfl)
abbrev cX0_tryOne : ByteArray := prog_1_method_136_code
def yX0_tryOne : MethodName := ⟨RX0, "tryOne", "(II)I"⟩
def dkwX0_tryOne_6 : List UInt8 := [167, 255, 164, 42, 29, 181, 3, 78, 21, 6, 172]
abbrev dktX0_tryOne_6 : List UInt8 := dkwX0_tryOne_6 ++ []
def dkwX0_tryOne_5 : List UInt8 := [180, 3, 84, 16, 62, 29, 21, 7, 96, 104, 16, 60, 96, 4, 96, 46, 182, 3, 186, 54, 6, 132, 7, 1]
abbrev dktX0_tryOne_5 : List UInt8 := dkwX0_tryOne_5 ++ dktX0_tryOne_6
def dkwX0_tryOne_4 : List UInt8 := [16, 62, 29, 21, 7, 96, 104, 16, 60, 96, 46, 42, 42, 180, 2, 192, 27, 46, 182, 3, 134, 42]
abbrev dktX0_tryOne_4 : List UInt8 := dkwX0_tryOne_4 ++ dktX0_tryOne_5
def dkwX0_tryOne_3 : List UInt8 := [3, 182, 3, 180, 153, 0, 63, 42, 42, 180, 2, 192, 27, 46, 182, 3, 183, 42, 21, 5, 42, 180, 3, 84]
abbrev dktX0_tryOne_3 : List UInt8 := dkwX0_tryOne_3 ++ dktX0_tryOne_4
def dkwX0_tryOne_2 : List UInt8 := [54, 7, 21, 7, 21, 4, 162, 0, 91, 21, 6, 154, 0, 86, 42, 29, 21, 7, 96, 182, 3, 177, 42, 27]
abbrev dktX0_tryOne_2 : List UInt8 := dkwX0_tryOne_2 ++ dktX0_tryOne_3
def dkwX0_tryOne_1 : List UInt8 := [180, 2, 63, 42, 180, 2, 183, 27, 46, 46, 54, 5, 42, 29, 21, 4, 96, 181, 3, 78, 3, 54, 6, 3]
abbrev dktX0_tryOne_1 : List UInt8 := dkwX0_tryOne_1 ++ dktX0_tryOne_2
def dkwX0_tryOne_0 : List UInt8 := [42, 182, 3, 170, 42, 180, 3, 78, 62, 42, 42, 180, 2, 183, 27, 46, 28, 4, 182, 3, 173, 54, 4, 42]
abbrev dktX0_tryOne_0 : List UInt8 := dkwX0_tryOne_0 ++ dktX0_tryOne_1
theorem dksX0_tryOne_0 : cX0_tryOne.data.toList.drop 0 = dktX0_tryOne_0 := by decide +kernel
theorem dksX0_tryOne_1 : cX0_tryOne.data.toList.drop 24 = dktX0_tryOne_1 := dk_seg dksX0_tryOne_0 24 rfl rfl
theorem dksX0_tryOne_2 : cX0_tryOne.data.toList.drop 48 = dktX0_tryOne_2 := dk_seg dksX0_tryOne_1 24 rfl rfl
theorem dksX0_tryOne_3 : cX0_tryOne.data.toList.drop 72 = dktX0_tryOne_3 := dk_seg dksX0_tryOne_2 24 rfl rfl
theorem dksX0_tryOne_4 : cX0_tryOne.data.toList.drop 96 = dktX0_tryOne_4 := dk_seg dksX0_tryOne_3 24 rfl rfl
theorem dksX0_tryOne_5 : cX0_tryOne.data.toList.drop 118 = dktX0_tryOne_5 := dk_seg dksX0_tryOne_4 22 rfl rfl
theorem dksX0_tryOne_6 : cX0_tryOne.data.toList.drop 142 = dktX0_tryOne_6 := dk_seg dksX0_tryOne_5 24 rfl rfl
theorem dX0_tryOne_0 : decode cX0_tryOne 0 = .ok (.aload_n 0, 1) := dk_42 (dk_at dksX0_tryOne_0 0 rfl rfl)
theorem dX0_tryOne_1 : decode cX0_tryOne 1 = .ok (.invokevirtual 938, 3) := dk_182 3 170 (dk_at dksX0_tryOne_0 1 rfl rfl)
theorem dX0_tryOne_4 : decode cX0_tryOne 4 = .ok (.aload_n 0, 1) := dk_42 (dk_at dksX0_tryOne_0 4 rfl rfl)
theorem dX0_tryOne_5 : decode cX0_tryOne 5 = .ok (.getfield 846, 3) := dk_180 3 78 (dk_at dksX0_tryOne_0 5 rfl rfl)
theorem dX0_tryOne_8 : decode cX0_tryOne 8 = .ok (.istore_n 3, 1) := dk_62 (dk_at dksX0_tryOne_0 8 rfl rfl)
theorem dX0_tryOne_9 : decode cX0_tryOne 9 = .ok (.aload_n 0, 1) := dk_42 (dk_at dksX0_tryOne_0 9 rfl rfl)
theorem dX0_tryOne_10 : decode cX0_tryOne 10 = .ok (.aload_n 0, 1) := dk_42 (dk_at dksX0_tryOne_0 10 rfl rfl)
theorem dX0_tryOne_11 : decode cX0_tryOne 11 = .ok (.getfield 695, 3) := dk_180 2 183 (dk_at dksX0_tryOne_0 11 rfl rfl)
theorem dX0_tryOne_14 : decode cX0_tryOne 14 = .ok (.iload_n 1, 1) := dk_27 (dk_at dksX0_tryOne_0 14 rfl rfl)
theorem dX0_tryOne_15 : decode cX0_tryOne 15 = .ok (.iaload, 1) := dk_46 (dk_at dksX0_tryOne_0 15 rfl rfl)
theorem dX0_tryOne_16 : decode cX0_tryOne 16 = .ok (.iload_n 2, 1) := dk_28 (dk_at dksX0_tryOne_0 16 rfl rfl)
theorem dX0_tryOne_17 : decode cX0_tryOne 17 = .ok (.iconst 1, 1) := dk_4 (dk_at dksX0_tryOne_0 17 rfl rfl)
theorem dX0_tryOne_18 : decode cX0_tryOne 18 = .ok (.invokevirtual 941, 3) := dk_182 3 173 (dk_at dksX0_tryOne_0 18 rfl rfl)
theorem dX0_tryOne_21 : decode cX0_tryOne 21 = .ok (.istore 4, 2) := dk_54 4 (dk_at dksX0_tryOne_0 21 rfl rfl)
theorem dX0_tryOne_23 : decode cX0_tryOne 23 = .ok (.aload_n 0, 1) := dk_42 (dk_at dksX0_tryOne_0 23 rfl rfl)
theorem dX0_tryOne_24 : decode cX0_tryOne 24 = .ok (.getfield 575, 3) := dk_180 2 63 (dk_at dksX0_tryOne_1 0 rfl rfl)
theorem dX0_tryOne_27 : decode cX0_tryOne 27 = .ok (.aload_n 0, 1) := dk_42 (dk_at dksX0_tryOne_1 3 rfl rfl)
theorem dX0_tryOne_28 : decode cX0_tryOne 28 = .ok (.getfield 695, 3) := dk_180 2 183 (dk_at dksX0_tryOne_1 4 rfl rfl)
theorem dX0_tryOne_31 : decode cX0_tryOne 31 = .ok (.iload_n 1, 1) := dk_27 (dk_at dksX0_tryOne_1 7 rfl rfl)
theorem dX0_tryOne_32 : decode cX0_tryOne 32 = .ok (.iaload, 1) := dk_46 (dk_at dksX0_tryOne_1 8 rfl rfl)
theorem dX0_tryOne_33 : decode cX0_tryOne 33 = .ok (.iaload, 1) := dk_46 (dk_at dksX0_tryOne_1 9 rfl rfl)
theorem dX0_tryOne_34 : decode cX0_tryOne 34 = .ok (.istore 5, 2) := dk_54 5 (dk_at dksX0_tryOne_1 10 rfl rfl)
theorem dX0_tryOne_36 : decode cX0_tryOne 36 = .ok (.aload_n 0, 1) := dk_42 (dk_at dksX0_tryOne_1 12 rfl rfl)
theorem dX0_tryOne_37 : decode cX0_tryOne 37 = .ok (.iload_n 3, 1) := dk_29 (dk_at dksX0_tryOne_1 13 rfl rfl)
theorem dX0_tryOne_38 : decode cX0_tryOne 38 = .ok (.iload 4, 2) := dk_21 4 (dk_at dksX0_tryOne_1 14 rfl rfl)
theorem dX0_tryOne_40 : decode cX0_tryOne 40 = .ok (.iadd, 1) := dk_96 (dk_at dksX0_tryOne_1 16 rfl rfl)
theorem dX0_tryOne_41 : decode cX0_tryOne 41 = .ok (.putfield 846, 3) := dk_181 3 78 (dk_at dksX0_tryOne_1 17 rfl rfl)
theorem dX0_tryOne_44 : decode cX0_tryOne 44 = .ok (.iconst 0, 1) := dk_3 (dk_at dksX0_tryOne_1 20 rfl rfl)
theorem dX0_tryOne_45 : decode cX0_tryOne 45 = .ok (.istore 6, 2) := dk_54 6 (dk_at dksX0_tryOne_1 21 rfl rfl)
theorem dX0_tryOne_47 : decode cX0_tryOne 47 = .ok (.iconst 0, 1) := dk_3 (dk_at dksX0_tryOne_1 23 rfl rfl)
theorem dX0_tryOne_48 : decode cX0_tryOne 48 = .ok (.istore 7, 2) := dk_54 7 (dk_at dksX0_tryOne_2 0 rfl rfl)
theorem dX0_tryOne_50 : decode cX0_tryOne 50 = .ok (.iload 7, 2) := dk_21 7 (dk_at dksX0_tryOne_2 2 rfl rfl)
theorem dX0_tryOne_52 : decode cX0_tryOne 52 = .ok (.iload 4, 2) := dk_21 4 (dk_at dksX0_tryOne_2 4 rfl rfl)
theorem dX0_tryOne_54 : decode cX0_tryOne 54 = .ok (.if_icmp .ge 91, 3) := dk_162 0 91 (dk_at dksX0_tryOne_2 6 rfl rfl)
theorem dX0_tryOne_57 : decode cX0_tryOne 57 = .ok (.iload 6, 2) := dk_21 6 (dk_at dksX0_tryOne_2 9 rfl rfl)
theorem dX0_tryOne_59 : decode cX0_tryOne 59 = .ok (.ifCond .ne 86, 3) := dk_154 0 86 (dk_at dksX0_tryOne_2 11 rfl rfl)
theorem dX0_tryOne_62 : decode cX0_tryOne 62 = .ok (.aload_n 0, 1) := dk_42 (dk_at dksX0_tryOne_2 14 rfl rfl)
theorem dX0_tryOne_63 : decode cX0_tryOne 63 = .ok (.iload_n 3, 1) := dk_29 (dk_at dksX0_tryOne_2 15 rfl rfl)
theorem dX0_tryOne_64 : decode cX0_tryOne 64 = .ok (.iload 7, 2) := dk_21 7 (dk_at dksX0_tryOne_2 16 rfl rfl)
theorem dX0_tryOne_66 : decode cX0_tryOne 66 = .ok (.iadd, 1) := dk_96 (dk_at dksX0_tryOne_2 18 rfl rfl)
theorem dX0_tryOne_67 : decode cX0_tryOne 67 = .ok (.invokevirtual 945, 3) := dk_182 3 177 (dk_at dksX0_tryOne_2 19 rfl rfl)
theorem dX0_tryOne_70 : decode cX0_tryOne 70 = .ok (.aload_n 0, 1) := dk_42 (dk_at dksX0_tryOne_2 22 rfl rfl)
theorem dX0_tryOne_71 : decode cX0_tryOne 71 = .ok (.iload_n 1, 1) := dk_27 (dk_at dksX0_tryOne_2 23 rfl rfl)
theorem dX0_tryOne_72 : decode cX0_tryOne 72 = .ok (.iconst 0, 1) := dk_3 (dk_at dksX0_tryOne_3 0 rfl rfl)
theorem dX0_tryOne_73 : decode cX0_tryOne 73 = .ok (.invokevirtual 948, 3) := dk_182 3 180 (dk_at dksX0_tryOne_3 1 rfl rfl)
theorem dX0_tryOne_76 : decode cX0_tryOne 76 = .ok (.ifCond .eq 63, 3) := dk_153 0 63 (dk_at dksX0_tryOne_3 4 rfl rfl)
theorem dX0_tryOne_79 : decode cX0_tryOne 79 = .ok (.aload_n 0, 1) := dk_42 (dk_at dksX0_tryOne_3 7 rfl rfl)
theorem dX0_tryOne_80 : decode cX0_tryOne 80 = .ok (.aload_n 0, 1) := dk_42 (dk_at dksX0_tryOne_3 8 rfl rfl)
theorem dX0_tryOne_81 : decode cX0_tryOne 81 = .ok (.getfield 704, 3) := dk_180 2 192 (dk_at dksX0_tryOne_3 9 rfl rfl)
theorem dX0_tryOne_84 : decode cX0_tryOne 84 = .ok (.iload_n 1, 1) := dk_27 (dk_at dksX0_tryOne_3 12 rfl rfl)
theorem dX0_tryOne_85 : decode cX0_tryOne 85 = .ok (.iaload, 1) := dk_46 (dk_at dksX0_tryOne_3 13 rfl rfl)
theorem dX0_tryOne_86 : decode cX0_tryOne 86 = .ok (.invokevirtual 951, 3) := dk_182 3 183 (dk_at dksX0_tryOne_3 14 rfl rfl)
theorem dX0_tryOne_89 : decode cX0_tryOne 89 = .ok (.aload_n 0, 1) := dk_42 (dk_at dksX0_tryOne_3 17 rfl rfl)
theorem dX0_tryOne_90 : decode cX0_tryOne 90 = .ok (.iload 5, 2) := dk_21 5 (dk_at dksX0_tryOne_3 18 rfl rfl)
theorem dX0_tryOne_92 : decode cX0_tryOne 92 = .ok (.aload_n 0, 1) := dk_42 (dk_at dksX0_tryOne_3 20 rfl rfl)
theorem dX0_tryOne_93 : decode cX0_tryOne 93 = .ok (.getfield 852, 3) := dk_180 3 84 (dk_at dksX0_tryOne_3 21 rfl rfl)
theorem dX0_tryOne_96 : decode cX0_tryOne 96 = .ok (.bipush 62, 2) := dk_16 62 (dk_at dksX0_tryOne_4 0 rfl rfl)
theorem dX0_tryOne_98 : decode cX0_tryOne 98 = .ok (.iload_n 3, 1) := dk_29 (dk_at dksX0_tryOne_4 2 rfl rfl)
theorem dX0_tryOne_99 : decode cX0_tryOne 99 = .ok (.iload 7, 2) := dk_21 7 (dk_at dksX0_tryOne_4 3 rfl rfl)
theorem dX0_tryOne_101 : decode cX0_tryOne 101 = .ok (.iadd, 1) := dk_96 (dk_at dksX0_tryOne_4 5 rfl rfl)
theorem dX0_tryOne_102 : decode cX0_tryOne 102 = .ok (.imul, 1) := dk_104 (dk_at dksX0_tryOne_4 6 rfl rfl)
theorem dX0_tryOne_103 : decode cX0_tryOne 103 = .ok (.bipush 60, 2) := dk_16 60 (dk_at dksX0_tryOne_4 7 rfl rfl)
theorem dX0_tryOne_105 : decode cX0_tryOne 105 = .ok (.iadd, 1) := dk_96 (dk_at dksX0_tryOne_4 9 rfl rfl)
theorem dX0_tryOne_106 : decode cX0_tryOne 106 = .ok (.iaload, 1) := dk_46 (dk_at dksX0_tryOne_4 10 rfl rfl)
theorem dX0_tryOne_107 : decode cX0_tryOne 107 = .ok (.aload_n 0, 1) := dk_42 (dk_at dksX0_tryOne_4 11 rfl rfl)
theorem dX0_tryOne_108 : decode cX0_tryOne 108 = .ok (.aload_n 0, 1) := dk_42 (dk_at dksX0_tryOne_4 12 rfl rfl)
theorem dX0_tryOne_109 : decode cX0_tryOne 109 = .ok (.getfield 704, 3) := dk_180 2 192 (dk_at dksX0_tryOne_4 13 rfl rfl)
theorem dX0_tryOne_112 : decode cX0_tryOne 112 = .ok (.iload_n 1, 1) := dk_27 (dk_at dksX0_tryOne_4 16 rfl rfl)
theorem dX0_tryOne_113 : decode cX0_tryOne 113 = .ok (.iaload, 1) := dk_46 (dk_at dksX0_tryOne_4 17 rfl rfl)
theorem dX0_tryOne_114 : decode cX0_tryOne 114 = .ok (.invokevirtual 902, 3) := dk_182 3 134 (dk_at dksX0_tryOne_4 18 rfl rfl)
theorem dX0_tryOne_117 : decode cX0_tryOne 117 = .ok (.aload_n 0, 1) := dk_42 (dk_at dksX0_tryOne_4 21 rfl rfl)
theorem dX0_tryOne_118 : decode cX0_tryOne 118 = .ok (.getfield 852, 3) := dk_180 3 84 (dk_at dksX0_tryOne_5 0 rfl rfl)
theorem dX0_tryOne_121 : decode cX0_tryOne 121 = .ok (.bipush 62, 2) := dk_16 62 (dk_at dksX0_tryOne_5 3 rfl rfl)
theorem dX0_tryOne_123 : decode cX0_tryOne 123 = .ok (.iload_n 3, 1) := dk_29 (dk_at dksX0_tryOne_5 5 rfl rfl)
theorem dX0_tryOne_124 : decode cX0_tryOne 124 = .ok (.iload 7, 2) := dk_21 7 (dk_at dksX0_tryOne_5 6 rfl rfl)
theorem dX0_tryOne_126 : decode cX0_tryOne 126 = .ok (.iadd, 1) := dk_96 (dk_at dksX0_tryOne_5 8 rfl rfl)
theorem dX0_tryOne_127 : decode cX0_tryOne 127 = .ok (.imul, 1) := dk_104 (dk_at dksX0_tryOne_5 9 rfl rfl)
theorem dX0_tryOne_128 : decode cX0_tryOne 128 = .ok (.bipush 60, 2) := dk_16 60 (dk_at dksX0_tryOne_5 10 rfl rfl)
theorem dX0_tryOne_130 : decode cX0_tryOne 130 = .ok (.iadd, 1) := dk_96 (dk_at dksX0_tryOne_5 12 rfl rfl)
theorem dX0_tryOne_131 : decode cX0_tryOne 131 = .ok (.iconst 1, 1) := dk_4 (dk_at dksX0_tryOne_5 13 rfl rfl)
theorem dX0_tryOne_132 : decode cX0_tryOne 132 = .ok (.iadd, 1) := dk_96 (dk_at dksX0_tryOne_5 14 rfl rfl)
theorem dX0_tryOne_133 : decode cX0_tryOne 133 = .ok (.iaload, 1) := dk_46 (dk_at dksX0_tryOne_5 15 rfl rfl)
theorem dX0_tryOne_134 : decode cX0_tryOne 134 = .ok (.invokevirtual 954, 3) := dk_182 3 186 (dk_at dksX0_tryOne_5 16 rfl rfl)
theorem dX0_tryOne_137 : decode cX0_tryOne 137 = .ok (.istore 6, 2) := dk_54 6 (dk_at dksX0_tryOne_5 19 rfl rfl)
theorem dX0_tryOne_139 : decode cX0_tryOne 139 = .ok (.iinc 7 1, 3) := dk_132 7 1 (dk_at dksX0_tryOne_5 21 rfl rfl)
theorem dX0_tryOne_142 : decode cX0_tryOne 142 = .ok (.goto (-92), 3) := dk_167 255 164 (dk_at dksX0_tryOne_6 0 rfl rfl)
theorem dX0_tryOne_145 : decode cX0_tryOne 145 = .ok (.aload_n 0, 1) := dk_42 (dk_at dksX0_tryOne_6 3 rfl rfl)
theorem dX0_tryOne_146 : decode cX0_tryOne 146 = .ok (.iload_n 3, 1) := dk_29 (dk_at dksX0_tryOne_6 4 rfl rfl)
theorem dX0_tryOne_147 : decode cX0_tryOne 147 = .ok (.putfield 846, 3) := dk_181 3 78 (dk_at dksX0_tryOne_6 5 rfl rfl)
theorem dX0_tryOne_150 : decode cX0_tryOne 150 = .ok (.iload 6, 2) := dk_21 6 (dk_at dksX0_tryOne_6 8 rfl rfl)
theorem dX0_tryOne_152 : decode cX0_tryOne 152 = .ok (.ireturn, 1) := dk_172 (dk_at dksX0_tryOne_6 10 rfl rfl)
abbrev cX0_takeRow : ByteArray := prog_1_method_127_code
def yX0_takeRow : MethodName := ⟨RX0, "takeRow", "(I)V"⟩
def dkwX0_takeRow_1 : List UInt8 := [79, 132, 2, 1, 167, 255, 230, 177]
abbrev dktX0_takeRow_1 : List UInt8 := dkwX0_takeRow_1 ++ []
def dkwX0_takeRow_0 : List UInt8 := [3, 61, 28, 16, 60, 162, 0, 26, 42, 180, 3, 39, 28, 42, 180, 3, 84, 16, 62, 27, 104, 28, 96, 46]
abbrev dktX0_takeRow_0 : List UInt8 := dkwX0_takeRow_0 ++ dktX0_takeRow_1
theorem dksX0_takeRow_0 : cX0_takeRow.data.toList.drop 0 = dktX0_takeRow_0 := by decide +kernel
theorem dksX0_takeRow_1 : cX0_takeRow.data.toList.drop 24 = dktX0_takeRow_1 := dk_seg dksX0_takeRow_0 24 rfl rfl
theorem dX0_takeRow_0 : decode cX0_takeRow 0 = .ok (.iconst 0, 1) := dk_3 (dk_at dksX0_takeRow_0 0 rfl rfl)
theorem dX0_takeRow_1 : decode cX0_takeRow 1 = .ok (.istore_n 2, 1) := dk_61 (dk_at dksX0_takeRow_0 1 rfl rfl)
theorem dX0_takeRow_2 : decode cX0_takeRow 2 = .ok (.iload_n 2, 1) := dk_28 (dk_at dksX0_takeRow_0 2 rfl rfl)
theorem dX0_takeRow_3 : decode cX0_takeRow 3 = .ok (.bipush 60, 2) := dk_16 60 (dk_at dksX0_takeRow_0 3 rfl rfl)
theorem dX0_takeRow_5 : decode cX0_takeRow 5 = .ok (.if_icmp .ge 26, 3) := dk_162 0 26 (dk_at dksX0_takeRow_0 5 rfl rfl)
theorem dX0_takeRow_8 : decode cX0_takeRow 8 = .ok (.aload_n 0, 1) := dk_42 (dk_at dksX0_takeRow_0 8 rfl rfl)
theorem dX0_takeRow_9 : decode cX0_takeRow 9 = .ok (.getfield 807, 3) := dk_180 3 39 (dk_at dksX0_takeRow_0 9 rfl rfl)
theorem dX0_takeRow_12 : decode cX0_takeRow 12 = .ok (.iload_n 2, 1) := dk_28 (dk_at dksX0_takeRow_0 12 rfl rfl)
theorem dX0_takeRow_13 : decode cX0_takeRow 13 = .ok (.aload_n 0, 1) := dk_42 (dk_at dksX0_takeRow_0 13 rfl rfl)
theorem dX0_takeRow_14 : decode cX0_takeRow 14 = .ok (.getfield 852, 3) := dk_180 3 84 (dk_at dksX0_takeRow_0 14 rfl rfl)
theorem dX0_takeRow_17 : decode cX0_takeRow 17 = .ok (.bipush 62, 2) := dk_16 62 (dk_at dksX0_takeRow_0 17 rfl rfl)
theorem dX0_takeRow_19 : decode cX0_takeRow 19 = .ok (.iload_n 1, 1) := dk_27 (dk_at dksX0_takeRow_0 19 rfl rfl)
theorem dX0_takeRow_20 : decode cX0_takeRow 20 = .ok (.imul, 1) := dk_104 (dk_at dksX0_takeRow_0 20 rfl rfl)
theorem dX0_takeRow_21 : decode cX0_takeRow 21 = .ok (.iload_n 2, 1) := dk_28 (dk_at dksX0_takeRow_0 21 rfl rfl)
theorem dX0_takeRow_22 : decode cX0_takeRow 22 = .ok (.iadd, 1) := dk_96 (dk_at dksX0_takeRow_0 22 rfl rfl)
theorem dX0_takeRow_23 : decode cX0_takeRow 23 = .ok (.iaload, 1) := dk_46 (dk_at dksX0_takeRow_0 23 rfl rfl)
theorem dX0_takeRow_24 : decode cX0_takeRow 24 = .ok (.iastore, 1) := dk_79 (dk_at dksX0_takeRow_1 0 rfl rfl)
theorem dX0_takeRow_25 : decode cX0_takeRow 25 = .ok (.iinc 2 1, 3) := dk_132 2 1 (dk_at dksX0_takeRow_1 1 rfl rfl)
theorem dX0_takeRow_28 : decode cX0_takeRow 28 = .ok (.goto (-26), 3) := dk_167 255 230 (dk_at dksX0_takeRow_1 4 rfl rfl)
theorem dX0_takeRow_31 : decode cX0_takeRow 31 = .ok (.return_, 1) := dk_177 (dk_at dksX0_takeRow_1 7 rfl rfl)
abbrev cX0_holds : ByteArray := prog_1_method_138_code
def yX0_holds : MethodName := ⟨RX0, "holds", "(II)Z"⟩
def dkwX0_holds_5 : List UInt8 := [42, 21, 4, 181, 3, 78, 21, 6, 172]
abbrev dktX0_holds_5 : List UInt8 := dkwX0_holds_5 ++ []
def dkwX0_holds_4 : List UInt8 := [21, 4, 21, 5, 96, 181, 3, 78, 42, 27, 28, 4, 96, 182, 3, 180, 54, 6, 132, 7, 1, 167, 255, 213]
abbrev dktX0_holds_4 : List UInt8 := dkwX0_holds_4 ++ dktX0_holds_5
def dkwX0_holds_3 : List UInt8 := [54, 7, 21, 7, 21, 5, 162, 0, 42, 21, 6, 154, 0, 37, 42, 21, 4, 21, 7, 96, 182, 3, 177, 42]
abbrev dktX0_holds_3 : List UInt8 := dkwX0_holds_3 ++ dktX0_holds_4
def dkwX0_holds_2 : List UInt8 := [4, 167, 0, 4, 3, 172, 42, 180, 3, 78, 54, 4, 42, 29, 182, 3, 192, 54, 5, 3, 54, 6, 3]
abbrev dktX0_holds_2 : List UInt8 := dkwX0_holds_2 ++ dktX0_holds_3
def dkwX0_holds_1 : List UInt8 := [46, 4, 159, 0, 28, 42, 29, 182, 3, 189, 153, 0, 18, 42, 27, 28, 4, 96, 182, 3, 180, 153, 0, 7]
abbrev dktX0_holds_1 : List UInt8 := dkwX0_holds_1 ++ dktX0_holds_2
def dkwX0_holds_0 : List UInt8 := [28, 42, 180, 1, 100, 27, 46, 160, 0, 5, 4, 172, 16, 6, 27, 104, 28, 96, 62, 42, 180, 1, 127, 29]
abbrev dktX0_holds_0 : List UInt8 := dkwX0_holds_0 ++ dktX0_holds_1
theorem dksX0_holds_0 : cX0_holds.data.toList.drop 0 = dktX0_holds_0 := by decide +kernel
theorem dksX0_holds_1 : cX0_holds.data.toList.drop 24 = dktX0_holds_1 := dk_seg dksX0_holds_0 24 rfl rfl
theorem dksX0_holds_2 : cX0_holds.data.toList.drop 48 = dktX0_holds_2 := dk_seg dksX0_holds_1 24 rfl rfl
theorem dksX0_holds_3 : cX0_holds.data.toList.drop 71 = dktX0_holds_3 := dk_seg dksX0_holds_2 23 rfl rfl
theorem dksX0_holds_4 : cX0_holds.data.toList.drop 95 = dktX0_holds_4 := dk_seg dksX0_holds_3 24 rfl rfl
theorem dksX0_holds_5 : cX0_holds.data.toList.drop 119 = dktX0_holds_5 := dk_seg dksX0_holds_4 24 rfl rfl
theorem dX0_holds_0 : decode cX0_holds 0 = .ok (.iload_n 2, 1) := dk_28 (dk_at dksX0_holds_0 0 rfl rfl)
theorem dX0_holds_1 : decode cX0_holds 1 = .ok (.aload_n 0, 1) := dk_42 (dk_at dksX0_holds_0 1 rfl rfl)
theorem dX0_holds_2 : decode cX0_holds 2 = .ok (.getfield 356, 3) := dk_180 1 100 (dk_at dksX0_holds_0 2 rfl rfl)
theorem dX0_holds_5 : decode cX0_holds 5 = .ok (.iload_n 1, 1) := dk_27 (dk_at dksX0_holds_0 5 rfl rfl)
theorem dX0_holds_6 : decode cX0_holds 6 = .ok (.iaload, 1) := dk_46 (dk_at dksX0_holds_0 6 rfl rfl)
theorem dX0_holds_7 : decode cX0_holds 7 = .ok (.if_icmp .ne 5, 3) := dk_160 0 5 (dk_at dksX0_holds_0 7 rfl rfl)
theorem dX0_holds_10 : decode cX0_holds 10 = .ok (.iconst 1, 1) := dk_4 (dk_at dksX0_holds_0 10 rfl rfl)
theorem dX0_holds_11 : decode cX0_holds 11 = .ok (.ireturn, 1) := dk_172 (dk_at dksX0_holds_0 11 rfl rfl)
theorem dX0_holds_12 : decode cX0_holds 12 = .ok (.bipush 6, 2) := dk_16 6 (dk_at dksX0_holds_0 12 rfl rfl)
theorem dX0_holds_14 : decode cX0_holds 14 = .ok (.iload_n 1, 1) := dk_27 (dk_at dksX0_holds_0 14 rfl rfl)
theorem dX0_holds_15 : decode cX0_holds 15 = .ok (.imul, 1) := dk_104 (dk_at dksX0_holds_0 15 rfl rfl)
theorem dX0_holds_16 : decode cX0_holds 16 = .ok (.iload_n 2, 1) := dk_28 (dk_at dksX0_holds_0 16 rfl rfl)
theorem dX0_holds_17 : decode cX0_holds 17 = .ok (.iadd, 1) := dk_96 (dk_at dksX0_holds_0 17 rfl rfl)
theorem dX0_holds_18 : decode cX0_holds 18 = .ok (.istore_n 3, 1) := dk_62 (dk_at dksX0_holds_0 18 rfl rfl)
theorem dX0_holds_19 : decode cX0_holds 19 = .ok (.aload_n 0, 1) := dk_42 (dk_at dksX0_holds_0 19 rfl rfl)
theorem dX0_holds_20 : decode cX0_holds 20 = .ok (.getfield 383, 3) := dk_180 1 127 (dk_at dksX0_holds_0 20 rfl rfl)
theorem dX0_holds_23 : decode cX0_holds 23 = .ok (.iload_n 3, 1) := dk_29 (dk_at dksX0_holds_0 23 rfl rfl)
theorem dX0_holds_24 : decode cX0_holds 24 = .ok (.iaload, 1) := dk_46 (dk_at dksX0_holds_1 0 rfl rfl)
theorem dX0_holds_25 : decode cX0_holds 25 = .ok (.iconst 1, 1) := dk_4 (dk_at dksX0_holds_1 1 rfl rfl)
theorem dX0_holds_26 : decode cX0_holds 26 = .ok (.if_icmp .eq 28, 3) := dk_159 0 28 (dk_at dksX0_holds_1 2 rfl rfl)
theorem dX0_holds_29 : decode cX0_holds 29 = .ok (.aload_n 0, 1) := dk_42 (dk_at dksX0_holds_1 5 rfl rfl)
theorem dX0_holds_30 : decode cX0_holds 30 = .ok (.iload_n 3, 1) := dk_29 (dk_at dksX0_holds_1 6 rfl rfl)
theorem dX0_holds_31 : decode cX0_holds 31 = .ok (.invokevirtual 957, 3) := dk_182 3 189 (dk_at dksX0_holds_1 7 rfl rfl)
theorem dX0_holds_34 : decode cX0_holds 34 = .ok (.ifCond .eq 18, 3) := dk_153 0 18 (dk_at dksX0_holds_1 10 rfl rfl)
theorem dX0_holds_37 : decode cX0_holds 37 = .ok (.aload_n 0, 1) := dk_42 (dk_at dksX0_holds_1 13 rfl rfl)
theorem dX0_holds_38 : decode cX0_holds 38 = .ok (.iload_n 1, 1) := dk_27 (dk_at dksX0_holds_1 14 rfl rfl)
theorem dX0_holds_39 : decode cX0_holds 39 = .ok (.iload_n 2, 1) := dk_28 (dk_at dksX0_holds_1 15 rfl rfl)
theorem dX0_holds_40 : decode cX0_holds 40 = .ok (.iconst 1, 1) := dk_4 (dk_at dksX0_holds_1 16 rfl rfl)
theorem dX0_holds_41 : decode cX0_holds 41 = .ok (.iadd, 1) := dk_96 (dk_at dksX0_holds_1 17 rfl rfl)
theorem dX0_holds_42 : decode cX0_holds 42 = .ok (.invokevirtual 948, 3) := dk_182 3 180 (dk_at dksX0_holds_1 18 rfl rfl)
theorem dX0_holds_45 : decode cX0_holds 45 = .ok (.ifCond .eq 7, 3) := dk_153 0 7 (dk_at dksX0_holds_1 21 rfl rfl)
theorem dX0_holds_48 : decode cX0_holds 48 = .ok (.iconst 1, 1) := dk_4 (dk_at dksX0_holds_2 0 rfl rfl)
theorem dX0_holds_49 : decode cX0_holds 49 = .ok (.goto 4, 3) := dk_167 0 4 (dk_at dksX0_holds_2 1 rfl rfl)
theorem dX0_holds_52 : decode cX0_holds 52 = .ok (.iconst 0, 1) := dk_3 (dk_at dksX0_holds_2 4 rfl rfl)
theorem dX0_holds_53 : decode cX0_holds 53 = .ok (.ireturn, 1) := dk_172 (dk_at dksX0_holds_2 5 rfl rfl)
theorem dX0_holds_54 : decode cX0_holds 54 = .ok (.aload_n 0, 1) := dk_42 (dk_at dksX0_holds_2 6 rfl rfl)
theorem dX0_holds_55 : decode cX0_holds 55 = .ok (.getfield 846, 3) := dk_180 3 78 (dk_at dksX0_holds_2 7 rfl rfl)
theorem dX0_holds_58 : decode cX0_holds 58 = .ok (.istore 4, 2) := dk_54 4 (dk_at dksX0_holds_2 10 rfl rfl)
theorem dX0_holds_60 : decode cX0_holds 60 = .ok (.aload_n 0, 1) := dk_42 (dk_at dksX0_holds_2 12 rfl rfl)
theorem dX0_holds_61 : decode cX0_holds 61 = .ok (.iload_n 3, 1) := dk_29 (dk_at dksX0_holds_2 13 rfl rfl)
theorem dX0_holds_62 : decode cX0_holds 62 = .ok (.invokevirtual 960, 3) := dk_182 3 192 (dk_at dksX0_holds_2 14 rfl rfl)
theorem dX0_holds_65 : decode cX0_holds 65 = .ok (.istore 5, 2) := dk_54 5 (dk_at dksX0_holds_2 17 rfl rfl)
theorem dX0_holds_67 : decode cX0_holds 67 = .ok (.iconst 0, 1) := dk_3 (dk_at dksX0_holds_2 19 rfl rfl)
theorem dX0_holds_68 : decode cX0_holds 68 = .ok (.istore 6, 2) := dk_54 6 (dk_at dksX0_holds_2 20 rfl rfl)
theorem dX0_holds_70 : decode cX0_holds 70 = .ok (.iconst 0, 1) := dk_3 (dk_at dksX0_holds_2 22 rfl rfl)
theorem dX0_holds_71 : decode cX0_holds 71 = .ok (.istore 7, 2) := dk_54 7 (dk_at dksX0_holds_3 0 rfl rfl)
theorem dX0_holds_73 : decode cX0_holds 73 = .ok (.iload 7, 2) := dk_21 7 (dk_at dksX0_holds_3 2 rfl rfl)
theorem dX0_holds_75 : decode cX0_holds 75 = .ok (.iload 5, 2) := dk_21 5 (dk_at dksX0_holds_3 4 rfl rfl)
theorem dX0_holds_77 : decode cX0_holds 77 = .ok (.if_icmp .ge 42, 3) := dk_162 0 42 (dk_at dksX0_holds_3 6 rfl rfl)
theorem dX0_holds_80 : decode cX0_holds 80 = .ok (.iload 6, 2) := dk_21 6 (dk_at dksX0_holds_3 9 rfl rfl)
theorem dX0_holds_82 : decode cX0_holds 82 = .ok (.ifCond .ne 37, 3) := dk_154 0 37 (dk_at dksX0_holds_3 11 rfl rfl)
theorem dX0_holds_85 : decode cX0_holds 85 = .ok (.aload_n 0, 1) := dk_42 (dk_at dksX0_holds_3 14 rfl rfl)
theorem dX0_holds_86 : decode cX0_holds 86 = .ok (.iload 4, 2) := dk_21 4 (dk_at dksX0_holds_3 15 rfl rfl)
theorem dX0_holds_88 : decode cX0_holds 88 = .ok (.iload 7, 2) := dk_21 7 (dk_at dksX0_holds_3 17 rfl rfl)
theorem dX0_holds_90 : decode cX0_holds 90 = .ok (.iadd, 1) := dk_96 (dk_at dksX0_holds_3 19 rfl rfl)
theorem dX0_holds_91 : decode cX0_holds 91 = .ok (.invokevirtual 945, 3) := dk_182 3 177 (dk_at dksX0_holds_3 20 rfl rfl)
theorem dX0_holds_94 : decode cX0_holds 94 = .ok (.aload_n 0, 1) := dk_42 (dk_at dksX0_holds_3 23 rfl rfl)
theorem dX0_holds_95 : decode cX0_holds 95 = .ok (.iload 4, 2) := dk_21 4 (dk_at dksX0_holds_4 0 rfl rfl)
theorem dX0_holds_97 : decode cX0_holds 97 = .ok (.iload 5, 2) := dk_21 5 (dk_at dksX0_holds_4 2 rfl rfl)
theorem dX0_holds_99 : decode cX0_holds 99 = .ok (.iadd, 1) := dk_96 (dk_at dksX0_holds_4 4 rfl rfl)
theorem dX0_holds_100 : decode cX0_holds 100 = .ok (.putfield 846, 3) := dk_181 3 78 (dk_at dksX0_holds_4 5 rfl rfl)
theorem dX0_holds_103 : decode cX0_holds 103 = .ok (.aload_n 0, 1) := dk_42 (dk_at dksX0_holds_4 8 rfl rfl)
theorem dX0_holds_104 : decode cX0_holds 104 = .ok (.iload_n 1, 1) := dk_27 (dk_at dksX0_holds_4 9 rfl rfl)
theorem dX0_holds_105 : decode cX0_holds 105 = .ok (.iload_n 2, 1) := dk_28 (dk_at dksX0_holds_4 10 rfl rfl)
theorem dX0_holds_106 : decode cX0_holds 106 = .ok (.iconst 1, 1) := dk_4 (dk_at dksX0_holds_4 11 rfl rfl)
theorem dX0_holds_107 : decode cX0_holds 107 = .ok (.iadd, 1) := dk_96 (dk_at dksX0_holds_4 12 rfl rfl)
theorem dX0_holds_108 : decode cX0_holds 108 = .ok (.invokevirtual 948, 3) := dk_182 3 180 (dk_at dksX0_holds_4 13 rfl rfl)
theorem dX0_holds_111 : decode cX0_holds 111 = .ok (.istore 6, 2) := dk_54 6 (dk_at dksX0_holds_4 16 rfl rfl)
theorem dX0_holds_113 : decode cX0_holds 113 = .ok (.iinc 7 1, 3) := dk_132 7 1 (dk_at dksX0_holds_4 18 rfl rfl)
theorem dX0_holds_116 : decode cX0_holds 116 = .ok (.goto (-43), 3) := dk_167 255 213 (dk_at dksX0_holds_4 21 rfl rfl)
theorem dX0_holds_119 : decode cX0_holds 119 = .ok (.aload_n 0, 1) := dk_42 (dk_at dksX0_holds_5 0 rfl rfl)
theorem dX0_holds_120 : decode cX0_holds 120 = .ok (.iload 4, 2) := dk_21 4 (dk_at dksX0_holds_5 1 rfl rfl)
theorem dX0_holds_122 : decode cX0_holds 122 = .ok (.putfield 846, 3) := dk_181 3 78 (dk_at dksX0_holds_5 3 rfl rfl)
theorem dX0_holds_125 : decode cX0_holds 125 = .ok (.iload 6, 2) := dk_21 6 (dk_at dksX0_holds_5 6 rfl rfl)
theorem dX0_holds_127 : decode cX0_holds 127 = .ok (.ireturn, 1) := dk_172 (dk_at dksX0_holds_5 8 rfl rfl)
abbrev cX0_isTrue : ByteArray := prog_1_method_142_code
def yX0_isTrue : MethodName := ⟨RX0, "isTrue", "(I)Z"⟩
def dkwX0_isTrue_3 : List UInt8 := [160, 0, 7, 4, 167, 0, 4, 3, 172]
abbrev dktX0_isTrue_3 : List UInt8 := dkwX0_isTrue_3 ++ []
def dkwX0_isTrue_2 : List UInt8 := [182, 1, 148, 153, 0, 7, 4, 167, 0, 4, 3, 172, 28, 42, 42, 180, 2, 198, 27, 46, 182, 3, 207]
abbrev dktX0_isTrue_2 : List UInt8 := dkwX0_isTrue_2 ++ dktX0_isTrue_3
def dkwX0_isTrue_1 : List UInt8 := [180, 2, 90, 28, 46, 16, 254, 159, 0, 26, 42, 42, 180, 2, 90, 28, 46, 42, 180, 2, 198, 27, 46]
abbrev dktX0_isTrue_1 : List UInt8 := dkwX0_isTrue_1 ++ dktX0_isTrue_2
def dkwX0_isTrue_0 : List UInt8 := [42, 42, 180, 2, 201, 27, 46, 182, 3, 207, 61, 42, 180, 1, 127, 27, 46, 5, 160, 0, 39, 42]
abbrev dktX0_isTrue_0 : List UInt8 := dkwX0_isTrue_0 ++ dktX0_isTrue_1
theorem dksX0_isTrue_0 : cX0_isTrue.data.toList.drop 0 = dktX0_isTrue_0 := by decide +kernel
theorem dksX0_isTrue_1 : cX0_isTrue.data.toList.drop 22 = dktX0_isTrue_1 := dk_seg dksX0_isTrue_0 22 rfl rfl
theorem dksX0_isTrue_2 : cX0_isTrue.data.toList.drop 45 = dktX0_isTrue_2 := dk_seg dksX0_isTrue_1 23 rfl rfl
theorem dksX0_isTrue_3 : cX0_isTrue.data.toList.drop 68 = dktX0_isTrue_3 := dk_seg dksX0_isTrue_2 23 rfl rfl
theorem dX0_isTrue_0 : decode cX0_isTrue 0 = .ok (.aload_n 0, 1) := dk_42 (dk_at dksX0_isTrue_0 0 rfl rfl)
theorem dX0_isTrue_1 : decode cX0_isTrue 1 = .ok (.aload_n 0, 1) := dk_42 (dk_at dksX0_isTrue_0 1 rfl rfl)
theorem dX0_isTrue_2 : decode cX0_isTrue 2 = .ok (.getfield 713, 3) := dk_180 2 201 (dk_at dksX0_isTrue_0 2 rfl rfl)
theorem dX0_isTrue_5 : decode cX0_isTrue 5 = .ok (.iload_n 1, 1) := dk_27 (dk_at dksX0_isTrue_0 5 rfl rfl)
theorem dX0_isTrue_6 : decode cX0_isTrue 6 = .ok (.iaload, 1) := dk_46 (dk_at dksX0_isTrue_0 6 rfl rfl)
theorem dX0_isTrue_7 : decode cX0_isTrue 7 = .ok (.invokevirtual 975, 3) := dk_182 3 207 (dk_at dksX0_isTrue_0 7 rfl rfl)
theorem dX0_isTrue_10 : decode cX0_isTrue 10 = .ok (.istore_n 2, 1) := dk_61 (dk_at dksX0_isTrue_0 10 rfl rfl)
theorem dX0_isTrue_11 : decode cX0_isTrue 11 = .ok (.aload_n 0, 1) := dk_42 (dk_at dksX0_isTrue_0 11 rfl rfl)
theorem dX0_isTrue_12 : decode cX0_isTrue 12 = .ok (.getfield 383, 3) := dk_180 1 127 (dk_at dksX0_isTrue_0 12 rfl rfl)
theorem dX0_isTrue_15 : decode cX0_isTrue 15 = .ok (.iload_n 1, 1) := dk_27 (dk_at dksX0_isTrue_0 15 rfl rfl)
theorem dX0_isTrue_16 : decode cX0_isTrue 16 = .ok (.iaload, 1) := dk_46 (dk_at dksX0_isTrue_0 16 rfl rfl)
theorem dX0_isTrue_17 : decode cX0_isTrue 17 = .ok (.iconst 2, 1) := dk_5 (dk_at dksX0_isTrue_0 17 rfl rfl)
theorem dX0_isTrue_18 : decode cX0_isTrue 18 = .ok (.if_icmp .ne 39, 3) := dk_160 0 39 (dk_at dksX0_isTrue_0 18 rfl rfl)
theorem dX0_isTrue_21 : decode cX0_isTrue 21 = .ok (.aload_n 0, 1) := dk_42 (dk_at dksX0_isTrue_0 21 rfl rfl)
theorem dX0_isTrue_22 : decode cX0_isTrue 22 = .ok (.getfield 602, 3) := dk_180 2 90 (dk_at dksX0_isTrue_1 0 rfl rfl)
theorem dX0_isTrue_25 : decode cX0_isTrue 25 = .ok (.iload_n 2, 1) := dk_28 (dk_at dksX0_isTrue_1 3 rfl rfl)
theorem dX0_isTrue_26 : decode cX0_isTrue 26 = .ok (.iaload, 1) := dk_46 (dk_at dksX0_isTrue_1 4 rfl rfl)
theorem dX0_isTrue_27 : decode cX0_isTrue 27 = .ok (.bipush (-2), 2) := dk_16 254 (dk_at dksX0_isTrue_1 5 rfl rfl)
theorem dX0_isTrue_29 : decode cX0_isTrue 29 = .ok (.if_icmp .eq 26, 3) := dk_159 0 26 (dk_at dksX0_isTrue_1 7 rfl rfl)
theorem dX0_isTrue_32 : decode cX0_isTrue 32 = .ok (.aload_n 0, 1) := dk_42 (dk_at dksX0_isTrue_1 10 rfl rfl)
theorem dX0_isTrue_33 : decode cX0_isTrue 33 = .ok (.aload_n 0, 1) := dk_42 (dk_at dksX0_isTrue_1 11 rfl rfl)
theorem dX0_isTrue_34 : decode cX0_isTrue 34 = .ok (.getfield 602, 3) := dk_180 2 90 (dk_at dksX0_isTrue_1 12 rfl rfl)
theorem dX0_isTrue_37 : decode cX0_isTrue 37 = .ok (.iload_n 2, 1) := dk_28 (dk_at dksX0_isTrue_1 15 rfl rfl)
theorem dX0_isTrue_38 : decode cX0_isTrue 38 = .ok (.iaload, 1) := dk_46 (dk_at dksX0_isTrue_1 16 rfl rfl)
theorem dX0_isTrue_39 : decode cX0_isTrue 39 = .ok (.aload_n 0, 1) := dk_42 (dk_at dksX0_isTrue_1 17 rfl rfl)
theorem dX0_isTrue_40 : decode cX0_isTrue 40 = .ok (.getfield 710, 3) := dk_180 2 198 (dk_at dksX0_isTrue_1 18 rfl rfl)
theorem dX0_isTrue_43 : decode cX0_isTrue 43 = .ok (.iload_n 1, 1) := dk_27 (dk_at dksX0_isTrue_1 21 rfl rfl)
theorem dX0_isTrue_44 : decode cX0_isTrue 44 = .ok (.iaload, 1) := dk_46 (dk_at dksX0_isTrue_1 22 rfl rfl)
theorem dX0_isTrue_45 : decode cX0_isTrue 45 = .ok (.invokevirtual 404, 3) := dk_182 1 148 (dk_at dksX0_isTrue_2 0 rfl rfl)
theorem dX0_isTrue_48 : decode cX0_isTrue 48 = .ok (.ifCond .eq 7, 3) := dk_153 0 7 (dk_at dksX0_isTrue_2 3 rfl rfl)
theorem dX0_isTrue_51 : decode cX0_isTrue 51 = .ok (.iconst 1, 1) := dk_4 (dk_at dksX0_isTrue_2 6 rfl rfl)
theorem dX0_isTrue_52 : decode cX0_isTrue 52 = .ok (.goto 4, 3) := dk_167 0 4 (dk_at dksX0_isTrue_2 7 rfl rfl)
theorem dX0_isTrue_55 : decode cX0_isTrue 55 = .ok (.iconst 0, 1) := dk_3 (dk_at dksX0_isTrue_2 10 rfl rfl)
theorem dX0_isTrue_56 : decode cX0_isTrue 56 = .ok (.ireturn, 1) := dk_172 (dk_at dksX0_isTrue_2 11 rfl rfl)
theorem dX0_isTrue_57 : decode cX0_isTrue 57 = .ok (.iload_n 2, 1) := dk_28 (dk_at dksX0_isTrue_2 12 rfl rfl)
theorem dX0_isTrue_58 : decode cX0_isTrue 58 = .ok (.aload_n 0, 1) := dk_42 (dk_at dksX0_isTrue_2 13 rfl rfl)
theorem dX0_isTrue_59 : decode cX0_isTrue 59 = .ok (.aload_n 0, 1) := dk_42 (dk_at dksX0_isTrue_2 14 rfl rfl)
theorem dX0_isTrue_60 : decode cX0_isTrue 60 = .ok (.getfield 710, 3) := dk_180 2 198 (dk_at dksX0_isTrue_2 15 rfl rfl)
theorem dX0_isTrue_63 : decode cX0_isTrue 63 = .ok (.iload_n 1, 1) := dk_27 (dk_at dksX0_isTrue_2 18 rfl rfl)
theorem dX0_isTrue_64 : decode cX0_isTrue 64 = .ok (.iaload, 1) := dk_46 (dk_at dksX0_isTrue_2 19 rfl rfl)
theorem dX0_isTrue_65 : decode cX0_isTrue 65 = .ok (.invokevirtual 975, 3) := dk_182 3 207 (dk_at dksX0_isTrue_2 20 rfl rfl)
theorem dX0_isTrue_68 : decode cX0_isTrue 68 = .ok (.if_icmp .ne 7, 3) := dk_160 0 7 (dk_at dksX0_isTrue_3 0 rfl rfl)
theorem dX0_isTrue_71 : decode cX0_isTrue 71 = .ok (.iconst 1, 1) := dk_4 (dk_at dksX0_isTrue_3 3 rfl rfl)
theorem dX0_isTrue_72 : decode cX0_isTrue 72 = .ok (.goto 4, 3) := dk_167 0 4 (dk_at dksX0_isTrue_3 4 rfl rfl)
theorem dX0_isTrue_75 : decode cX0_isTrue 75 = .ok (.iconst 0, 1) := dk_3 (dk_at dksX0_isTrue_3 7 rfl rfl)
theorem dX0_isTrue_76 : decode cX0_isTrue 76 = .ok (.ireturn, 1) := dk_172 (dk_at dksX0_isTrue_3 8 rfl rfl)
abbrev cX0_reduced : ByteArray := prog_1_method_141_code
def yX0_reduced : MethodName := ⟨RX0, "reduced", "(I)I"⟩
def dkwX0_reduced_2 : List UInt8 := [182, 3, 204, 21, 4, 172]
abbrev dktX0_reduced_2 : List UInt8 := dkwX0_reduced_2 ++ []
def dkwX0_reduced_1 : List UInt8 := [180, 3, 140, 184, 2, 32, 181, 3, 140, 42, 28, 182, 3, 155, 54, 4, 42, 29, 181, 3, 140, 42]
abbrev dktX0_reduced_1 : List UInt8 := dkwX0_reduced_1 ++ dktX0_reduced_2
def dkwX0_reduced_0 : List UInt8 := [42, 27, 182, 3, 183, 42, 27, 182, 3, 134, 61, 42, 182, 3, 201, 42, 180, 3, 140, 62, 42, 4, 42]
abbrev dktX0_reduced_0 : List UInt8 := dkwX0_reduced_0 ++ dktX0_reduced_1
theorem dksX0_reduced_0 : cX0_reduced.data.toList.drop 0 = dktX0_reduced_0 := by decide +kernel
theorem dksX0_reduced_1 : cX0_reduced.data.toList.drop 23 = dktX0_reduced_1 := dk_seg dksX0_reduced_0 23 rfl rfl
theorem dksX0_reduced_2 : cX0_reduced.data.toList.drop 45 = dktX0_reduced_2 := dk_seg dksX0_reduced_1 22 rfl rfl
theorem dX0_reduced_0 : decode cX0_reduced 0 = .ok (.aload_n 0, 1) := dk_42 (dk_at dksX0_reduced_0 0 rfl rfl)
theorem dX0_reduced_1 : decode cX0_reduced 1 = .ok (.iload_n 1, 1) := dk_27 (dk_at dksX0_reduced_0 1 rfl rfl)
theorem dX0_reduced_2 : decode cX0_reduced 2 = .ok (.invokevirtual 951, 3) := dk_182 3 183 (dk_at dksX0_reduced_0 2 rfl rfl)
theorem dX0_reduced_5 : decode cX0_reduced 5 = .ok (.aload_n 0, 1) := dk_42 (dk_at dksX0_reduced_0 5 rfl rfl)
theorem dX0_reduced_6 : decode cX0_reduced 6 = .ok (.iload_n 1, 1) := dk_27 (dk_at dksX0_reduced_0 6 rfl rfl)
theorem dX0_reduced_7 : decode cX0_reduced 7 = .ok (.invokevirtual 902, 3) := dk_182 3 134 (dk_at dksX0_reduced_0 7 rfl rfl)
theorem dX0_reduced_10 : decode cX0_reduced 10 = .ok (.istore_n 2, 1) := dk_61 (dk_at dksX0_reduced_0 10 rfl rfl)
theorem dX0_reduced_11 : decode cX0_reduced 11 = .ok (.aload_n 0, 1) := dk_42 (dk_at dksX0_reduced_0 11 rfl rfl)
theorem dX0_reduced_12 : decode cX0_reduced 12 = .ok (.invokevirtual 969, 3) := dk_182 3 201 (dk_at dksX0_reduced_0 12 rfl rfl)
theorem dX0_reduced_15 : decode cX0_reduced 15 = .ok (.aload_n 0, 1) := dk_42 (dk_at dksX0_reduced_0 15 rfl rfl)
theorem dX0_reduced_16 : decode cX0_reduced 16 = .ok (.getfield 908, 3) := dk_180 3 140 (dk_at dksX0_reduced_0 16 rfl rfl)
theorem dX0_reduced_19 : decode cX0_reduced 19 = .ok (.istore_n 3, 1) := dk_62 (dk_at dksX0_reduced_0 19 rfl rfl)
theorem dX0_reduced_20 : decode cX0_reduced 20 = .ok (.aload_n 0, 1) := dk_42 (dk_at dksX0_reduced_0 20 rfl rfl)
theorem dX0_reduced_21 : decode cX0_reduced 21 = .ok (.iconst 1, 1) := dk_4 (dk_at dksX0_reduced_0 21 rfl rfl)
theorem dX0_reduced_22 : decode cX0_reduced 22 = .ok (.aload_n 0, 1) := dk_42 (dk_at dksX0_reduced_0 22 rfl rfl)
theorem dX0_reduced_23 : decode cX0_reduced 23 = .ok (.getfield 908, 3) := dk_180 3 140 (dk_at dksX0_reduced_1 0 rfl rfl)
theorem dX0_reduced_26 : decode cX0_reduced 26 = .ok (.invokestatic 544, 3) := dk_184 2 32 (dk_at dksX0_reduced_1 3 rfl rfl)
theorem dX0_reduced_29 : decode cX0_reduced 29 = .ok (.putfield 908, 3) := dk_181 3 140 (dk_at dksX0_reduced_1 6 rfl rfl)
theorem dX0_reduced_32 : decode cX0_reduced 32 = .ok (.aload_n 0, 1) := dk_42 (dk_at dksX0_reduced_1 9 rfl rfl)
theorem dX0_reduced_33 : decode cX0_reduced 33 = .ok (.iload_n 2, 1) := dk_28 (dk_at dksX0_reduced_1 10 rfl rfl)
theorem dX0_reduced_34 : decode cX0_reduced 34 = .ok (.invokevirtual 923, 3) := dk_182 3 155 (dk_at dksX0_reduced_1 11 rfl rfl)
theorem dX0_reduced_37 : decode cX0_reduced 37 = .ok (.istore 4, 2) := dk_54 4 (dk_at dksX0_reduced_1 14 rfl rfl)
theorem dX0_reduced_39 : decode cX0_reduced 39 = .ok (.aload_n 0, 1) := dk_42 (dk_at dksX0_reduced_1 16 rfl rfl)
theorem dX0_reduced_40 : decode cX0_reduced 40 = .ok (.iload_n 3, 1) := dk_29 (dk_at dksX0_reduced_1 17 rfl rfl)
theorem dX0_reduced_41 : decode cX0_reduced 41 = .ok (.putfield 908, 3) := dk_181 3 140 (dk_at dksX0_reduced_1 18 rfl rfl)
theorem dX0_reduced_44 : decode cX0_reduced 44 = .ok (.aload_n 0, 1) := dk_42 (dk_at dksX0_reduced_1 21 rfl rfl)
theorem dX0_reduced_45 : decode cX0_reduced 45 = .ok (.invokevirtual 972, 3) := dk_182 3 204 (dk_at dksX0_reduced_2 0 rfl rfl)
theorem dX0_reduced_48 : decode cX0_reduced 48 = .ok (.iload 4, 2) := dk_21 4 (dk_at dksX0_reduced_2 3 rfl rfl)
theorem dX0_reduced_50 : decode cX0_reduced 50 = .ok (.ireturn, 1) := dk_172 (dk_at dksX0_reduced_2 5 rfl rfl)
abbrev cX0_countFilled : ByteArray := prog_1_method_133_code
def yX0_countFilled : MethodName := ⟨RX0, "countFilled", "(I)V"⟩
def dkwX0_countFilled_1 : List UInt8 := [164, 0, 10, 42, 16, 7, 182, 2, 83, 191, 177]
abbrev dktX0_countFilled_1 : List UInt8 := dkwX0_countFilled_1 ++ []
def dkwX0_countFilled_0 : List UInt8 := [42, 89, 180, 3, 158, 42, 180, 2, 78, 27, 46, 96, 181, 3, 158, 42, 180, 3, 158, 17, 15, 160]
abbrev dktX0_countFilled_0 : List UInt8 := dkwX0_countFilled_0 ++ dktX0_countFilled_1
theorem dksX0_countFilled_0 : cX0_countFilled.data.toList.drop 0 = dktX0_countFilled_0 := by decide +kernel
theorem dksX0_countFilled_1 : cX0_countFilled.data.toList.drop 22 = dktX0_countFilled_1 := dk_seg dksX0_countFilled_0 22 rfl rfl
theorem dX0_countFilled_0 : decode cX0_countFilled 0 = .ok (.aload_n 0, 1) := dk_42 (dk_at dksX0_countFilled_0 0 rfl rfl)
theorem dX0_countFilled_1 : decode cX0_countFilled 1 = .ok (.dup, 1) := dk_89 (dk_at dksX0_countFilled_0 1 rfl rfl)
theorem dX0_countFilled_2 : decode cX0_countFilled 2 = .ok (.getfield 926, 3) := dk_180 3 158 (dk_at dksX0_countFilled_0 2 rfl rfl)
theorem dX0_countFilled_5 : decode cX0_countFilled 5 = .ok (.aload_n 0, 1) := dk_42 (dk_at dksX0_countFilled_0 5 rfl rfl)
theorem dX0_countFilled_6 : decode cX0_countFilled 6 = .ok (.getfield 590, 3) := dk_180 2 78 (dk_at dksX0_countFilled_0 6 rfl rfl)
theorem dX0_countFilled_9 : decode cX0_countFilled 9 = .ok (.iload_n 1, 1) := dk_27 (dk_at dksX0_countFilled_0 9 rfl rfl)
theorem dX0_countFilled_10 : decode cX0_countFilled 10 = .ok (.iaload, 1) := dk_46 (dk_at dksX0_countFilled_0 10 rfl rfl)
theorem dX0_countFilled_11 : decode cX0_countFilled 11 = .ok (.iadd, 1) := dk_96 (dk_at dksX0_countFilled_0 11 rfl rfl)
theorem dX0_countFilled_12 : decode cX0_countFilled 12 = .ok (.putfield 926, 3) := dk_181 3 158 (dk_at dksX0_countFilled_0 12 rfl rfl)
theorem dX0_countFilled_15 : decode cX0_countFilled 15 = .ok (.aload_n 0, 1) := dk_42 (dk_at dksX0_countFilled_0 15 rfl rfl)
theorem dX0_countFilled_16 : decode cX0_countFilled 16 = .ok (.getfield 926, 3) := dk_180 3 158 (dk_at dksX0_countFilled_0 16 rfl rfl)
theorem dX0_countFilled_19 : decode cX0_countFilled 19 = .ok (.sipush 4000, 3) := dk_17 15 160 (dk_at dksX0_countFilled_0 19 rfl rfl)
theorem dX0_countFilled_22 : decode cX0_countFilled 22 = .ok (.if_icmp .le 10, 3) := dk_164 0 10 (dk_at dksX0_countFilled_1 0 rfl rfl)
theorem dX0_countFilled_25 : decode cX0_countFilled 25 = .ok (.aload_n 0, 1) := dk_42 (dk_at dksX0_countFilled_1 3 rfl rfl)
theorem dX0_countFilled_26 : decode cX0_countFilled 26 = .ok (.bipush 7, 2) := dk_16 7 (dk_at dksX0_countFilled_1 4 rfl rfl)
theorem dX0_countFilled_28 : decode cX0_countFilled 28 = .ok (.invokevirtual 595, 3) := dk_182 2 83 (dk_at dksX0_countFilled_1 6 rfl rfl)
theorem dX0_countFilled_31 : decode cX0_countFilled 31 = .ok (.athrow, 1) := dk_191 (dk_at dksX0_countFilled_1 9 rfl rfl)
theorem dX0_countFilled_32 : decode cX0_countFilled 32 = .ok (.return_, 1) := dk_177 (dk_at dksX0_countFilled_1 10 rfl rfl)
abbrev cX0_filled : ByteArray := prog_1_method_129_code
def yX0_filled : MethodName := ⟨RX0, "filled", "(I)I"⟩
def dkwX0_filled_3 : List UInt8 := [154, 0, 7, 27, 167, 0, 14, 42, 42, 180, 2, 63, 27, 46, 28, 182, 2, 134, 172]
abbrev dktX0_filled_3 : List UInt8 := dkwX0_filled_3 ++ []
def dkwX0_filled_2 : List UInt8 := [182, 3, 134, 54, 4, 42, 21, 4, 182, 2, 131, 132, 3, 1, 167, 255, 225, 42, 180, 2, 66, 27, 46]
abbrev dktX0_filled_2 : List UInt8 := dkwX0_filled_2 ++ dktX0_filled_3
def dkwX0_filled_1 : List UInt8 := [180, 2, 99, 61, 3, 62, 29, 42, 180, 2, 66, 27, 46, 162, 0, 27, 42, 42, 27, 29, 182, 2, 109]
abbrev dktX0_filled_1 : List UInt8 := dkwX0_filled_1 ++ dktX0_filled_2
def dkwX0_filled_0 : List UInt8 := [42, 180, 2, 63, 27, 46, 156, 0, 17, 42, 180, 3, 39, 2, 42, 180, 2, 63, 27, 46, 100, 46, 172, 42]
abbrev dktX0_filled_0 : List UInt8 := dkwX0_filled_0 ++ dktX0_filled_1
theorem dksX0_filled_0 : cX0_filled.data.toList.drop 0 = dktX0_filled_0 := by decide +kernel
theorem dksX0_filled_1 : cX0_filled.data.toList.drop 24 = dktX0_filled_1 := dk_seg dksX0_filled_0 24 rfl rfl
theorem dksX0_filled_2 : cX0_filled.data.toList.drop 47 = dktX0_filled_2 := dk_seg dksX0_filled_1 23 rfl rfl
theorem dksX0_filled_3 : cX0_filled.data.toList.drop 70 = dktX0_filled_3 := dk_seg dksX0_filled_2 23 rfl rfl
theorem dX0_filled_0 : decode cX0_filled 0 = .ok (.aload_n 0, 1) := dk_42 (dk_at dksX0_filled_0 0 rfl rfl)
theorem dX0_filled_1 : decode cX0_filled 1 = .ok (.getfield 575, 3) := dk_180 2 63 (dk_at dksX0_filled_0 1 rfl rfl)
theorem dX0_filled_4 : decode cX0_filled 4 = .ok (.iload_n 1, 1) := dk_27 (dk_at dksX0_filled_0 4 rfl rfl)
theorem dX0_filled_5 : decode cX0_filled 5 = .ok (.iaload, 1) := dk_46 (dk_at dksX0_filled_0 5 rfl rfl)
theorem dX0_filled_6 : decode cX0_filled 6 = .ok (.ifCond .ge 17, 3) := dk_156 0 17 (dk_at dksX0_filled_0 6 rfl rfl)
theorem dX0_filled_9 : decode cX0_filled 9 = .ok (.aload_n 0, 1) := dk_42 (dk_at dksX0_filled_0 9 rfl rfl)
theorem dX0_filled_10 : decode cX0_filled 10 = .ok (.getfield 807, 3) := dk_180 3 39 (dk_at dksX0_filled_0 10 rfl rfl)
theorem dX0_filled_13 : decode cX0_filled 13 = .ok (.iconst (-1), 1) := dk_2 (dk_at dksX0_filled_0 13 rfl rfl)
theorem dX0_filled_14 : decode cX0_filled 14 = .ok (.aload_n 0, 1) := dk_42 (dk_at dksX0_filled_0 14 rfl rfl)
theorem dX0_filled_15 : decode cX0_filled 15 = .ok (.getfield 575, 3) := dk_180 2 63 (dk_at dksX0_filled_0 15 rfl rfl)
theorem dX0_filled_18 : decode cX0_filled 18 = .ok (.iload_n 1, 1) := dk_27 (dk_at dksX0_filled_0 18 rfl rfl)
theorem dX0_filled_19 : decode cX0_filled 19 = .ok (.iaload, 1) := dk_46 (dk_at dksX0_filled_0 19 rfl rfl)
theorem dX0_filled_20 : decode cX0_filled 20 = .ok (.isub, 1) := dk_100 (dk_at dksX0_filled_0 20 rfl rfl)
theorem dX0_filled_21 : decode cX0_filled 21 = .ok (.iaload, 1) := dk_46 (dk_at dksX0_filled_0 21 rfl rfl)
theorem dX0_filled_22 : decode cX0_filled 22 = .ok (.ireturn, 1) := dk_172 (dk_at dksX0_filled_0 22 rfl rfl)
theorem dX0_filled_23 : decode cX0_filled 23 = .ok (.aload_n 0, 1) := dk_42 (dk_at dksX0_filled_0 23 rfl rfl)
theorem dX0_filled_24 : decode cX0_filled 24 = .ok (.getfield 611, 3) := dk_180 2 99 (dk_at dksX0_filled_1 0 rfl rfl)
theorem dX0_filled_27 : decode cX0_filled 27 = .ok (.istore_n 2, 1) := dk_61 (dk_at dksX0_filled_1 3 rfl rfl)
theorem dX0_filled_28 : decode cX0_filled 28 = .ok (.iconst 0, 1) := dk_3 (dk_at dksX0_filled_1 4 rfl rfl)
theorem dX0_filled_29 : decode cX0_filled 29 = .ok (.istore_n 3, 1) := dk_62 (dk_at dksX0_filled_1 5 rfl rfl)
theorem dX0_filled_30 : decode cX0_filled 30 = .ok (.iload_n 3, 1) := dk_29 (dk_at dksX0_filled_1 6 rfl rfl)
theorem dX0_filled_31 : decode cX0_filled 31 = .ok (.aload_n 0, 1) := dk_42 (dk_at dksX0_filled_1 7 rfl rfl)
theorem dX0_filled_32 : decode cX0_filled 32 = .ok (.getfield 578, 3) := dk_180 2 66 (dk_at dksX0_filled_1 8 rfl rfl)
theorem dX0_filled_35 : decode cX0_filled 35 = .ok (.iload_n 1, 1) := dk_27 (dk_at dksX0_filled_1 11 rfl rfl)
theorem dX0_filled_36 : decode cX0_filled 36 = .ok (.iaload, 1) := dk_46 (dk_at dksX0_filled_1 12 rfl rfl)
theorem dX0_filled_37 : decode cX0_filled 37 = .ok (.if_icmp .ge 27, 3) := dk_162 0 27 (dk_at dksX0_filled_1 13 rfl rfl)
theorem dX0_filled_40 : decode cX0_filled 40 = .ok (.aload_n 0, 1) := dk_42 (dk_at dksX0_filled_1 16 rfl rfl)
theorem dX0_filled_41 : decode cX0_filled 41 = .ok (.aload_n 0, 1) := dk_42 (dk_at dksX0_filled_1 17 rfl rfl)
theorem dX0_filled_42 : decode cX0_filled 42 = .ok (.iload_n 1, 1) := dk_27 (dk_at dksX0_filled_1 18 rfl rfl)
theorem dX0_filled_43 : decode cX0_filled 43 = .ok (.iload_n 3, 1) := dk_29 (dk_at dksX0_filled_1 19 rfl rfl)
theorem dX0_filled_44 : decode cX0_filled 44 = .ok (.invokevirtual 621, 3) := dk_182 2 109 (dk_at dksX0_filled_1 20 rfl rfl)
theorem dX0_filled_47 : decode cX0_filled 47 = .ok (.invokevirtual 902, 3) := dk_182 3 134 (dk_at dksX0_filled_2 0 rfl rfl)
theorem dX0_filled_50 : decode cX0_filled 50 = .ok (.istore 4, 2) := dk_54 4 (dk_at dksX0_filled_2 3 rfl rfl)
theorem dX0_filled_52 : decode cX0_filled 52 = .ok (.aload_n 0, 1) := dk_42 (dk_at dksX0_filled_2 5 rfl rfl)
theorem dX0_filled_53 : decode cX0_filled 53 = .ok (.iload 4, 2) := dk_21 4 (dk_at dksX0_filled_2 6 rfl rfl)
theorem dX0_filled_55 : decode cX0_filled 55 = .ok (.invokevirtual 643, 3) := dk_182 2 131 (dk_at dksX0_filled_2 8 rfl rfl)
theorem dX0_filled_58 : decode cX0_filled 58 = .ok (.iinc 3 1, 3) := dk_132 3 1 (dk_at dksX0_filled_2 11 rfl rfl)
theorem dX0_filled_61 : decode cX0_filled 61 = .ok (.goto (-31), 3) := dk_167 255 225 (dk_at dksX0_filled_2 14 rfl rfl)
theorem dX0_filled_64 : decode cX0_filled 64 = .ok (.aload_n 0, 1) := dk_42 (dk_at dksX0_filled_2 17 rfl rfl)
theorem dX0_filled_65 : decode cX0_filled 65 = .ok (.getfield 578, 3) := dk_180 2 66 (dk_at dksX0_filled_2 18 rfl rfl)
theorem dX0_filled_68 : decode cX0_filled 68 = .ok (.iload_n 1, 1) := dk_27 (dk_at dksX0_filled_2 21 rfl rfl)
theorem dX0_filled_69 : decode cX0_filled 69 = .ok (.iaload, 1) := dk_46 (dk_at dksX0_filled_2 22 rfl rfl)
theorem dX0_filled_70 : decode cX0_filled 70 = .ok (.ifCond .ne 7, 3) := dk_154 0 7 (dk_at dksX0_filled_3 0 rfl rfl)
theorem dX0_filled_73 : decode cX0_filled 73 = .ok (.iload_n 1, 1) := dk_27 (dk_at dksX0_filled_3 3 rfl rfl)
theorem dX0_filled_74 : decode cX0_filled 74 = .ok (.goto 14, 3) := dk_167 0 14 (dk_at dksX0_filled_3 4 rfl rfl)
theorem dX0_filled_77 : decode cX0_filled 77 = .ok (.aload_n 0, 1) := dk_42 (dk_at dksX0_filled_3 7 rfl rfl)
theorem dX0_filled_78 : decode cX0_filled 78 = .ok (.aload_n 0, 1) := dk_42 (dk_at dksX0_filled_3 8 rfl rfl)
theorem dX0_filled_79 : decode cX0_filled 79 = .ok (.getfield 575, 3) := dk_180 2 63 (dk_at dksX0_filled_3 9 rfl rfl)
theorem dX0_filled_82 : decode cX0_filled 82 = .ok (.iload_n 1, 1) := dk_27 (dk_at dksX0_filled_3 12 rfl rfl)
theorem dX0_filled_83 : decode cX0_filled 83 = .ok (.iaload, 1) := dk_46 (dk_at dksX0_filled_3 13 rfl rfl)
theorem dX0_filled_84 : decode cX0_filled 84 = .ok (.iload_n 2, 1) := dk_28 (dk_at dksX0_filled_3 14 rfl rfl)
theorem dX0_filled_85 : decode cX0_filled 85 = .ok (.invokevirtual 646, 3) := dk_182 2 134 (dk_at dksX0_filled_3 15 rfl rfl)
theorem dX0_filled_88 : decode cX0_filled 88 = .ok (.ireturn, 1) := dk_172 (dk_at dksX0_filled_3 18 rfl rfl)
