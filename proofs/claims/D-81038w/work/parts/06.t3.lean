set_option maxRecDepth 100000
abbrev cX2_rowCount : ByteArray := prog_4_method_110_code
def yX2_rowCount : MethodName := ⟨RX2, "rowCount", "(II)I"⟩
def dkwX2_rowCount_1 : List UInt8 := [182, 2, 198, 160, 0, 7, 3, 167, 0, 4, 4, 172]
abbrev dktX2_rowCount_1 : List UInt8 := dkwX2_rowCount_1 ++ []
def dkwX2_rowCount_0 : List UInt8 := [42, 180, 0, 181, 28, 46, 27, 160, 0, 12, 42, 180, 0, 187, 28, 46, 167, 0, 17, 28, 42, 27]
abbrev dktX2_rowCount_0 : List UInt8 := dkwX2_rowCount_0 ++ dktX2_rowCount_1
theorem dksX2_rowCount_0 : cX2_rowCount.data.toList.drop 0 = dktX2_rowCount_0 := by decide +kernel
theorem dksX2_rowCount_1 : cX2_rowCount.data.toList.drop 22 = dktX2_rowCount_1 := dk_seg dksX2_rowCount_0 22 rfl rfl
theorem dX2_rowCount_0 : decode cX2_rowCount 0 = .ok (.aload_n 0, 1) := dk_42 (dk_at dksX2_rowCount_0 0 rfl rfl)
theorem dX2_rowCount_1 : decode cX2_rowCount 1 = .ok (.getfield 181, 3) := dk_180 0 181 (dk_at dksX2_rowCount_0 1 rfl rfl)
theorem dX2_rowCount_4 : decode cX2_rowCount 4 = .ok (.iload_n 2, 1) := dk_28 (dk_at dksX2_rowCount_0 4 rfl rfl)
theorem dX2_rowCount_5 : decode cX2_rowCount 5 = .ok (.iaload, 1) := dk_46 (dk_at dksX2_rowCount_0 5 rfl rfl)
theorem dX2_rowCount_6 : decode cX2_rowCount 6 = .ok (.iload_n 1, 1) := dk_27 (dk_at dksX2_rowCount_0 6 rfl rfl)
theorem dX2_rowCount_7 : decode cX2_rowCount 7 = .ok (.if_icmp .ne 12, 3) := dk_160 0 12 (dk_at dksX2_rowCount_0 7 rfl rfl)
theorem dX2_rowCount_10 : decode cX2_rowCount 10 = .ok (.aload_n 0, 1) := dk_42 (dk_at dksX2_rowCount_0 10 rfl rfl)
theorem dX2_rowCount_11 : decode cX2_rowCount 11 = .ok (.getfield 187, 3) := dk_180 0 187 (dk_at dksX2_rowCount_0 11 rfl rfl)
theorem dX2_rowCount_14 : decode cX2_rowCount 14 = .ok (.iload_n 2, 1) := dk_28 (dk_at dksX2_rowCount_0 14 rfl rfl)
theorem dX2_rowCount_15 : decode cX2_rowCount 15 = .ok (.iaload, 1) := dk_46 (dk_at dksX2_rowCount_0 15 rfl rfl)
theorem dX2_rowCount_16 : decode cX2_rowCount 16 = .ok (.goto 17, 3) := dk_167 0 17 (dk_at dksX2_rowCount_0 16 rfl rfl)
theorem dX2_rowCount_19 : decode cX2_rowCount 19 = .ok (.iload_n 2, 1) := dk_28 (dk_at dksX2_rowCount_0 19 rfl rfl)
theorem dX2_rowCount_20 : decode cX2_rowCount 20 = .ok (.aload_n 0, 1) := dk_42 (dk_at dksX2_rowCount_0 20 rfl rfl)
theorem dX2_rowCount_21 : decode cX2_rowCount 21 = .ok (.iload_n 1, 1) := dk_27 (dk_at dksX2_rowCount_0 21 rfl rfl)
theorem dX2_rowCount_22 : decode cX2_rowCount 22 = .ok (.invokevirtual 710, 3) := dk_182 2 198 (dk_at dksX2_rowCount_1 0 rfl rfl)
theorem dX2_rowCount_25 : decode cX2_rowCount 25 = .ok (.if_icmp .ne 7, 3) := dk_160 0 7 (dk_at dksX2_rowCount_1 3 rfl rfl)
theorem dX2_rowCount_28 : decode cX2_rowCount 28 = .ok (.iconst 0, 1) := dk_3 (dk_at dksX2_rowCount_1 6 rfl rfl)
theorem dX2_rowCount_29 : decode cX2_rowCount 29 = .ok (.goto 4, 3) := dk_167 0 4 (dk_at dksX2_rowCount_1 7 rfl rfl)
theorem dX2_rowCount_32 : decode cX2_rowCount 32 = .ok (.iconst 1, 1) := dk_4 (dk_at dksX2_rowCount_1 10 rfl rfl)
theorem dX2_rowCount_33 : decode cX2_rowCount 33 = .ok (.ireturn, 1) := dk_172 (dk_at dksX2_rowCount_1 11 rfl rfl)
abbrev cX2_solveSide : ByteArray := prog_4_method_118_code
def yX2_solveSide : MethodName := ⟨RX2, "solveSide", "(LRewriteHouseModel;I)V"⟩
def dkwX2_solveSide_9 : List UInt8 := [3, 21, 15, 182, 3, 129, 184, 3, 123, 42, 21, 14, 181, 3, 99, 132, 12, 1, 167, 255, 167, 177]
abbrev dktX2_solveSide_9 : List UInt8 := dkwX2_solveSide_9 ++ []
def dkwX2_solveSide_8 : List UInt8 := [21, 5, 21, 12, 96, 42, 180, 1, 15, 27, 46, 182, 3, 129, 54, 15, 42, 42, 3, 21, 9, 21, 13, 3]
abbrev dktX2_solveSide_8 : List UInt8 := dkwX2_solveSide_8 ++ dktX2_solveSide_9
def dkwX2_solveSide_7 : List UInt8 := [21, 5, 21, 12, 182, 3, 136, 54, 13, 42, 180, 3, 99, 54, 14, 42, 4, 28, 29, 21, 4, 4, 96]
abbrev dktX2_solveSide_7 : List UInt8 := dkwX2_solveSide_7 ++ dktX2_solveSide_8
def dkwX2_solveSide_6 : List UInt8 := [21, 12, 21, 10, 163, 0, 88, 42, 21, 6, 21, 9, 21, 12, 182, 3, 133, 153, 0, 69, 42, 21, 6, 29]
abbrev dktX2_solveSide_6 : List UInt8 := dkwX2_solveSide_6 ++ dktX2_solveSide_7
def dkwX2_solveSide_5 : List UInt8 := [54, 10, 21, 8, 4, 160, 0, 11, 21, 7, 21, 5, 100, 167, 0, 4, 3, 54, 11, 21, 11, 54, 12]
abbrev dktX2_solveSide_5 : List UInt8 := dkwX2_solveSide_5 ++ dktX2_solveSide_6
def dkwX2_solveSide_4 : List UInt8 := [21, 6, 46, 155, 0, 11, 21, 7, 21, 5, 100, 167, 0, 13, 21, 7, 21, 5, 100, 21, 8, 4, 100, 100]
abbrev dktX2_solveSide_4 : List UInt8 := dkwX2_solveSide_4 ++ dktX2_solveSide_5
def dkwX2_solveSide_3 : List UInt8 := [42, 180, 1, 15, 27, 46, 184, 3, 123, 177, 42, 28, 21, 4, 182, 2, 179, 54, 9, 42, 180, 0, 174]
abbrev dktX2_solveSide_3 : List UInt8 := dkwX2_solveSide_3 ++ dktX2_solveSide_4
def dkwX2_solveSide_2 : List UInt8 := [42, 180, 0, 187, 28, 46, 21, 4, 100, 54, 8, 21, 8, 154, 0, 21, 21, 5, 21, 7, 160, 0, 13, 42]
abbrev dktX2_solveSide_2 : List UInt8 := dkwX2_solveSide_2 ++ dktX2_solveSide_3
def dkwX2_solveSide_1 : List UInt8 := [180, 1, 12, 27, 46, 54, 5, 42, 180, 0, 181, 28, 46, 54, 6, 42, 21, 6, 29, 182, 3, 126, 54, 7]
abbrev dktX2_solveSide_1 : List UInt8 := dkwX2_solveSide_1 ++ dktX2_solveSide_2
def dkwX2_solveSide_0 : List UInt8 := [42, 180, 1, 3, 27, 46, 61, 42, 180, 1, 6, 27, 46, 62, 42, 180, 1, 9, 27, 46, 54, 4, 42]
abbrev dktX2_solveSide_0 : List UInt8 := dkwX2_solveSide_0 ++ dktX2_solveSide_1
theorem dksX2_solveSide_0 : cX2_solveSide.data.toList.drop 0 = dktX2_solveSide_0 := by decide +kernel
theorem dksX2_solveSide_1 : cX2_solveSide.data.toList.drop 23 = dktX2_solveSide_1 := dk_seg dksX2_solveSide_0 23 rfl rfl
theorem dksX2_solveSide_2 : cX2_solveSide.data.toList.drop 47 = dktX2_solveSide_2 := dk_seg dksX2_solveSide_1 24 rfl rfl
theorem dksX2_solveSide_3 : cX2_solveSide.data.toList.drop 71 = dktX2_solveSide_3 := dk_seg dksX2_solveSide_2 24 rfl rfl
theorem dksX2_solveSide_4 : cX2_solveSide.data.toList.drop 94 = dktX2_solveSide_4 := dk_seg dksX2_solveSide_3 23 rfl rfl
theorem dksX2_solveSide_5 : cX2_solveSide.data.toList.drop 118 = dktX2_solveSide_5 := dk_seg dksX2_solveSide_4 24 rfl rfl
theorem dksX2_solveSide_6 : cX2_solveSide.data.toList.drop 141 = dktX2_solveSide_6 := dk_seg dksX2_solveSide_5 23 rfl rfl
theorem dksX2_solveSide_7 : cX2_solveSide.data.toList.drop 165 = dktX2_solveSide_7 := dk_seg dksX2_solveSide_6 24 rfl rfl
theorem dksX2_solveSide_8 : cX2_solveSide.data.toList.drop 188 = dktX2_solveSide_8 := dk_seg dksX2_solveSide_7 23 rfl rfl
theorem dksX2_solveSide_9 : cX2_solveSide.data.toList.drop 212 = dktX2_solveSide_9 := dk_seg dksX2_solveSide_8 24 rfl rfl
theorem dX2_solveSide_0 : decode cX2_solveSide 0 = .ok (.aload_n 0, 1) := dk_42 (dk_at dksX2_solveSide_0 0 rfl rfl)
theorem dX2_solveSide_1 : decode cX2_solveSide 1 = .ok (.getfield 259, 3) := dk_180 1 3 (dk_at dksX2_solveSide_0 1 rfl rfl)
theorem dX2_solveSide_4 : decode cX2_solveSide 4 = .ok (.iload_n 1, 1) := dk_27 (dk_at dksX2_solveSide_0 4 rfl rfl)
theorem dX2_solveSide_5 : decode cX2_solveSide 5 = .ok (.iaload, 1) := dk_46 (dk_at dksX2_solveSide_0 5 rfl rfl)
theorem dX2_solveSide_6 : decode cX2_solveSide 6 = .ok (.istore_n 2, 1) := dk_61 (dk_at dksX2_solveSide_0 6 rfl rfl)
theorem dX2_solveSide_7 : decode cX2_solveSide 7 = .ok (.aload_n 0, 1) := dk_42 (dk_at dksX2_solveSide_0 7 rfl rfl)
theorem dX2_solveSide_8 : decode cX2_solveSide 8 = .ok (.getfield 262, 3) := dk_180 1 6 (dk_at dksX2_solveSide_0 8 rfl rfl)
theorem dX2_solveSide_11 : decode cX2_solveSide 11 = .ok (.iload_n 1, 1) := dk_27 (dk_at dksX2_solveSide_0 11 rfl rfl)
theorem dX2_solveSide_12 : decode cX2_solveSide 12 = .ok (.iaload, 1) := dk_46 (dk_at dksX2_solveSide_0 12 rfl rfl)
theorem dX2_solveSide_13 : decode cX2_solveSide 13 = .ok (.istore_n 3, 1) := dk_62 (dk_at dksX2_solveSide_0 13 rfl rfl)
theorem dX2_solveSide_14 : decode cX2_solveSide 14 = .ok (.aload_n 0, 1) := dk_42 (dk_at dksX2_solveSide_0 14 rfl rfl)
theorem dX2_solveSide_15 : decode cX2_solveSide 15 = .ok (.getfield 265, 3) := dk_180 1 9 (dk_at dksX2_solveSide_0 15 rfl rfl)
theorem dX2_solveSide_18 : decode cX2_solveSide 18 = .ok (.iload_n 1, 1) := dk_27 (dk_at dksX2_solveSide_0 18 rfl rfl)
theorem dX2_solveSide_19 : decode cX2_solveSide 19 = .ok (.iaload, 1) := dk_46 (dk_at dksX2_solveSide_0 19 rfl rfl)
theorem dX2_solveSide_20 : decode cX2_solveSide 20 = .ok (.istore 4, 2) := dk_54 4 (dk_at dksX2_solveSide_0 20 rfl rfl)
theorem dX2_solveSide_22 : decode cX2_solveSide 22 = .ok (.aload_n 0, 1) := dk_42 (dk_at dksX2_solveSide_0 22 rfl rfl)
theorem dX2_solveSide_23 : decode cX2_solveSide 23 = .ok (.getfield 268, 3) := dk_180 1 12 (dk_at dksX2_solveSide_1 0 rfl rfl)
theorem dX2_solveSide_26 : decode cX2_solveSide 26 = .ok (.iload_n 1, 1) := dk_27 (dk_at dksX2_solveSide_1 3 rfl rfl)
theorem dX2_solveSide_27 : decode cX2_solveSide 27 = .ok (.iaload, 1) := dk_46 (dk_at dksX2_solveSide_1 4 rfl rfl)
theorem dX2_solveSide_28 : decode cX2_solveSide 28 = .ok (.istore 5, 2) := dk_54 5 (dk_at dksX2_solveSide_1 5 rfl rfl)
theorem dX2_solveSide_30 : decode cX2_solveSide 30 = .ok (.aload_n 0, 1) := dk_42 (dk_at dksX2_solveSide_1 7 rfl rfl)
theorem dX2_solveSide_31 : decode cX2_solveSide 31 = .ok (.getfield 181, 3) := dk_180 0 181 (dk_at dksX2_solveSide_1 8 rfl rfl)
theorem dX2_solveSide_34 : decode cX2_solveSide 34 = .ok (.iload_n 2, 1) := dk_28 (dk_at dksX2_solveSide_1 11 rfl rfl)
theorem dX2_solveSide_35 : decode cX2_solveSide 35 = .ok (.iaload, 1) := dk_46 (dk_at dksX2_solveSide_1 12 rfl rfl)
theorem dX2_solveSide_36 : decode cX2_solveSide 36 = .ok (.istore 6, 2) := dk_54 6 (dk_at dksX2_solveSide_1 13 rfl rfl)
theorem dX2_solveSide_38 : decode cX2_solveSide 38 = .ok (.aload_n 0, 1) := dk_42 (dk_at dksX2_solveSide_1 15 rfl rfl)
theorem dX2_solveSide_39 : decode cX2_solveSide 39 = .ok (.iload 6, 2) := dk_21 6 (dk_at dksX2_solveSide_1 16 rfl rfl)
theorem dX2_solveSide_41 : decode cX2_solveSide 41 = .ok (.iload_n 3, 1) := dk_29 (dk_at dksX2_solveSide_1 18 rfl rfl)
theorem dX2_solveSide_42 : decode cX2_solveSide 42 = .ok (.invokevirtual 894, 3) := dk_182 3 126 (dk_at dksX2_solveSide_1 19 rfl rfl)
theorem dX2_solveSide_45 : decode cX2_solveSide 45 = .ok (.istore 7, 2) := dk_54 7 (dk_at dksX2_solveSide_1 22 rfl rfl)
theorem dX2_solveSide_47 : decode cX2_solveSide 47 = .ok (.aload_n 0, 1) := dk_42 (dk_at dksX2_solveSide_2 0 rfl rfl)
theorem dX2_solveSide_48 : decode cX2_solveSide 48 = .ok (.getfield 187, 3) := dk_180 0 187 (dk_at dksX2_solveSide_2 1 rfl rfl)
theorem dX2_solveSide_51 : decode cX2_solveSide 51 = .ok (.iload_n 2, 1) := dk_28 (dk_at dksX2_solveSide_2 4 rfl rfl)
theorem dX2_solveSide_52 : decode cX2_solveSide 52 = .ok (.iaload, 1) := dk_46 (dk_at dksX2_solveSide_2 5 rfl rfl)
theorem dX2_solveSide_53 : decode cX2_solveSide 53 = .ok (.iload 4, 2) := dk_21 4 (dk_at dksX2_solveSide_2 6 rfl rfl)
theorem dX2_solveSide_55 : decode cX2_solveSide 55 = .ok (.isub, 1) := dk_100 (dk_at dksX2_solveSide_2 8 rfl rfl)
theorem dX2_solveSide_56 : decode cX2_solveSide 56 = .ok (.istore 8, 2) := dk_54 8 (dk_at dksX2_solveSide_2 9 rfl rfl)
theorem dX2_solveSide_58 : decode cX2_solveSide 58 = .ok (.iload 8, 2) := dk_21 8 (dk_at dksX2_solveSide_2 11 rfl rfl)
theorem dX2_solveSide_60 : decode cX2_solveSide 60 = .ok (.ifCond .ne 21, 3) := dk_154 0 21 (dk_at dksX2_solveSide_2 13 rfl rfl)
theorem dX2_solveSide_63 : decode cX2_solveSide 63 = .ok (.iload 5, 2) := dk_21 5 (dk_at dksX2_solveSide_2 16 rfl rfl)
theorem dX2_solveSide_65 : decode cX2_solveSide 65 = .ok (.iload 7, 2) := dk_21 7 (dk_at dksX2_solveSide_2 18 rfl rfl)
theorem dX2_solveSide_67 : decode cX2_solveSide 67 = .ok (.if_icmp .ne 13, 3) := dk_160 0 13 (dk_at dksX2_solveSide_2 20 rfl rfl)
theorem dX2_solveSide_70 : decode cX2_solveSide 70 = .ok (.aload_n 0, 1) := dk_42 (dk_at dksX2_solveSide_2 23 rfl rfl)
theorem dX2_solveSide_71 : decode cX2_solveSide 71 = .ok (.aload_n 0, 1) := dk_42 (dk_at dksX2_solveSide_3 0 rfl rfl)
theorem dX2_solveSide_72 : decode cX2_solveSide 72 = .ok (.getfield 271, 3) := dk_180 1 15 (dk_at dksX2_solveSide_3 1 rfl rfl)
theorem dX2_solveSide_75 : decode cX2_solveSide 75 = .ok (.iload_n 1, 1) := dk_27 (dk_at dksX2_solveSide_3 4 rfl rfl)
theorem dX2_solveSide_76 : decode cX2_solveSide 76 = .ok (.iaload, 1) := dk_46 (dk_at dksX2_solveSide_3 5 rfl rfl)
theorem dX2_solveSide_77 : decode cX2_solveSide 77 = .ok (.invokestatic 891, 3) := dk_184 3 123 (dk_at dksX2_solveSide_3 6 rfl rfl)
theorem dX2_solveSide_80 : decode cX2_solveSide 80 = .ok (.return_, 1) := dk_177 (dk_at dksX2_solveSide_3 9 rfl rfl)
theorem dX2_solveSide_81 : decode cX2_solveSide 81 = .ok (.aload_n 0, 1) := dk_42 (dk_at dksX2_solveSide_3 10 rfl rfl)
theorem dX2_solveSide_82 : decode cX2_solveSide 82 = .ok (.iload_n 2, 1) := dk_28 (dk_at dksX2_solveSide_3 11 rfl rfl)
theorem dX2_solveSide_83 : decode cX2_solveSide 83 = .ok (.iload 4, 2) := dk_21 4 (dk_at dksX2_solveSide_3 12 rfl rfl)
theorem dX2_solveSide_85 : decode cX2_solveSide 85 = .ok (.invokevirtual 691, 3) := dk_182 2 179 (dk_at dksX2_solveSide_3 14 rfl rfl)
theorem dX2_solveSide_88 : decode cX2_solveSide 88 = .ok (.istore 9, 2) := dk_54 9 (dk_at dksX2_solveSide_3 17 rfl rfl)
theorem dX2_solveSide_90 : decode cX2_solveSide 90 = .ok (.aload_n 0, 1) := dk_42 (dk_at dksX2_solveSide_3 19 rfl rfl)
theorem dX2_solveSide_91 : decode cX2_solveSide 91 = .ok (.getfield 174, 3) := dk_180 0 174 (dk_at dksX2_solveSide_3 20 rfl rfl)
theorem dX2_solveSide_94 : decode cX2_solveSide 94 = .ok (.iload 6, 2) := dk_21 6 (dk_at dksX2_solveSide_4 0 rfl rfl)
theorem dX2_solveSide_96 : decode cX2_solveSide 96 = .ok (.iaload, 1) := dk_46 (dk_at dksX2_solveSide_4 2 rfl rfl)
theorem dX2_solveSide_97 : decode cX2_solveSide 97 = .ok (.ifCond .lt 11, 3) := dk_155 0 11 (dk_at dksX2_solveSide_4 3 rfl rfl)
theorem dX2_solveSide_100 : decode cX2_solveSide 100 = .ok (.iload 7, 2) := dk_21 7 (dk_at dksX2_solveSide_4 6 rfl rfl)
theorem dX2_solveSide_102 : decode cX2_solveSide 102 = .ok (.iload 5, 2) := dk_21 5 (dk_at dksX2_solveSide_4 8 rfl rfl)
theorem dX2_solveSide_104 : decode cX2_solveSide 104 = .ok (.isub, 1) := dk_100 (dk_at dksX2_solveSide_4 10 rfl rfl)
theorem dX2_solveSide_105 : decode cX2_solveSide 105 = .ok (.goto 13, 3) := dk_167 0 13 (dk_at dksX2_solveSide_4 11 rfl rfl)
theorem dX2_solveSide_108 : decode cX2_solveSide 108 = .ok (.iload 7, 2) := dk_21 7 (dk_at dksX2_solveSide_4 14 rfl rfl)
theorem dX2_solveSide_110 : decode cX2_solveSide 110 = .ok (.iload 5, 2) := dk_21 5 (dk_at dksX2_solveSide_4 16 rfl rfl)
theorem dX2_solveSide_112 : decode cX2_solveSide 112 = .ok (.isub, 1) := dk_100 (dk_at dksX2_solveSide_4 18 rfl rfl)
theorem dX2_solveSide_113 : decode cX2_solveSide 113 = .ok (.iload 8, 2) := dk_21 8 (dk_at dksX2_solveSide_4 19 rfl rfl)
theorem dX2_solveSide_115 : decode cX2_solveSide 115 = .ok (.iconst 1, 1) := dk_4 (dk_at dksX2_solveSide_4 21 rfl rfl)
theorem dX2_solveSide_116 : decode cX2_solveSide 116 = .ok (.isub, 1) := dk_100 (dk_at dksX2_solveSide_4 22 rfl rfl)
theorem dX2_solveSide_117 : decode cX2_solveSide 117 = .ok (.isub, 1) := dk_100 (dk_at dksX2_solveSide_4 23 rfl rfl)
theorem dX2_solveSide_118 : decode cX2_solveSide 118 = .ok (.istore 10, 2) := dk_54 10 (dk_at dksX2_solveSide_5 0 rfl rfl)
theorem dX2_solveSide_120 : decode cX2_solveSide 120 = .ok (.iload 8, 2) := dk_21 8 (dk_at dksX2_solveSide_5 2 rfl rfl)
theorem dX2_solveSide_122 : decode cX2_solveSide 122 = .ok (.iconst 1, 1) := dk_4 (dk_at dksX2_solveSide_5 4 rfl rfl)
theorem dX2_solveSide_123 : decode cX2_solveSide 123 = .ok (.if_icmp .ne 11, 3) := dk_160 0 11 (dk_at dksX2_solveSide_5 5 rfl rfl)
theorem dX2_solveSide_126 : decode cX2_solveSide 126 = .ok (.iload 7, 2) := dk_21 7 (dk_at dksX2_solveSide_5 8 rfl rfl)
theorem dX2_solveSide_128 : decode cX2_solveSide 128 = .ok (.iload 5, 2) := dk_21 5 (dk_at dksX2_solveSide_5 10 rfl rfl)
theorem dX2_solveSide_130 : decode cX2_solveSide 130 = .ok (.isub, 1) := dk_100 (dk_at dksX2_solveSide_5 12 rfl rfl)
theorem dX2_solveSide_131 : decode cX2_solveSide 131 = .ok (.goto 4, 3) := dk_167 0 4 (dk_at dksX2_solveSide_5 13 rfl rfl)
theorem dX2_solveSide_134 : decode cX2_solveSide 134 = .ok (.iconst 0, 1) := dk_3 (dk_at dksX2_solveSide_5 16 rfl rfl)
theorem dX2_solveSide_135 : decode cX2_solveSide 135 = .ok (.istore 11, 2) := dk_54 11 (dk_at dksX2_solveSide_5 17 rfl rfl)
theorem dX2_solveSide_137 : decode cX2_solveSide 137 = .ok (.iload 11, 2) := dk_21 11 (dk_at dksX2_solveSide_5 19 rfl rfl)
theorem dX2_solveSide_139 : decode cX2_solveSide 139 = .ok (.istore 12, 2) := dk_54 12 (dk_at dksX2_solveSide_5 21 rfl rfl)
theorem dX2_solveSide_141 : decode cX2_solveSide 141 = .ok (.iload 12, 2) := dk_21 12 (dk_at dksX2_solveSide_6 0 rfl rfl)
theorem dX2_solveSide_143 : decode cX2_solveSide 143 = .ok (.iload 10, 2) := dk_21 10 (dk_at dksX2_solveSide_6 2 rfl rfl)
theorem dX2_solveSide_145 : decode cX2_solveSide 145 = .ok (.if_icmp .gt 88, 3) := dk_163 0 88 (dk_at dksX2_solveSide_6 4 rfl rfl)
theorem dX2_solveSide_148 : decode cX2_solveSide 148 = .ok (.aload_n 0, 1) := dk_42 (dk_at dksX2_solveSide_6 7 rfl rfl)
theorem dX2_solveSide_149 : decode cX2_solveSide 149 = .ok (.iload 6, 2) := dk_21 6 (dk_at dksX2_solveSide_6 8 rfl rfl)
theorem dX2_solveSide_151 : decode cX2_solveSide 151 = .ok (.iload 9, 2) := dk_21 9 (dk_at dksX2_solveSide_6 10 rfl rfl)
theorem dX2_solveSide_153 : decode cX2_solveSide 153 = .ok (.iload 12, 2) := dk_21 12 (dk_at dksX2_solveSide_6 12 rfl rfl)
theorem dX2_solveSide_155 : decode cX2_solveSide 155 = .ok (.invokevirtual 901, 3) := dk_182 3 133 (dk_at dksX2_solveSide_6 14 rfl rfl)
theorem dX2_solveSide_158 : decode cX2_solveSide 158 = .ok (.ifCond .eq 69, 3) := dk_153 0 69 (dk_at dksX2_solveSide_6 17 rfl rfl)
theorem dX2_solveSide_161 : decode cX2_solveSide 161 = .ok (.aload_n 0, 1) := dk_42 (dk_at dksX2_solveSide_6 20 rfl rfl)
theorem dX2_solveSide_162 : decode cX2_solveSide 162 = .ok (.iload 6, 2) := dk_21 6 (dk_at dksX2_solveSide_6 21 rfl rfl)
theorem dX2_solveSide_164 : decode cX2_solveSide 164 = .ok (.iload_n 3, 1) := dk_29 (dk_at dksX2_solveSide_6 23 rfl rfl)
theorem dX2_solveSide_165 : decode cX2_solveSide 165 = .ok (.iload 5, 2) := dk_21 5 (dk_at dksX2_solveSide_7 0 rfl rfl)
theorem dX2_solveSide_167 : decode cX2_solveSide 167 = .ok (.iload 12, 2) := dk_21 12 (dk_at dksX2_solveSide_7 2 rfl rfl)
theorem dX2_solveSide_169 : decode cX2_solveSide 169 = .ok (.invokevirtual 904, 3) := dk_182 3 136 (dk_at dksX2_solveSide_7 4 rfl rfl)
theorem dX2_solveSide_172 : decode cX2_solveSide 172 = .ok (.istore 13, 2) := dk_54 13 (dk_at dksX2_solveSide_7 7 rfl rfl)
theorem dX2_solveSide_174 : decode cX2_solveSide 174 = .ok (.aload_n 0, 1) := dk_42 (dk_at dksX2_solveSide_7 9 rfl rfl)
theorem dX2_solveSide_175 : decode cX2_solveSide 175 = .ok (.getfield 867, 3) := dk_180 3 99 (dk_at dksX2_solveSide_7 10 rfl rfl)
theorem dX2_solveSide_178 : decode cX2_solveSide 178 = .ok (.istore 14, 2) := dk_54 14 (dk_at dksX2_solveSide_7 13 rfl rfl)
theorem dX2_solveSide_180 : decode cX2_solveSide 180 = .ok (.aload_n 0, 1) := dk_42 (dk_at dksX2_solveSide_7 15 rfl rfl)
theorem dX2_solveSide_181 : decode cX2_solveSide 181 = .ok (.iconst 1, 1) := dk_4 (dk_at dksX2_solveSide_7 16 rfl rfl)
theorem dX2_solveSide_182 : decode cX2_solveSide 182 = .ok (.iload_n 2, 1) := dk_28 (dk_at dksX2_solveSide_7 17 rfl rfl)
theorem dX2_solveSide_183 : decode cX2_solveSide 183 = .ok (.iload_n 3, 1) := dk_29 (dk_at dksX2_solveSide_7 18 rfl rfl)
theorem dX2_solveSide_184 : decode cX2_solveSide 184 = .ok (.iload 4, 2) := dk_21 4 (dk_at dksX2_solveSide_7 19 rfl rfl)
theorem dX2_solveSide_186 : decode cX2_solveSide 186 = .ok (.iconst 1, 1) := dk_4 (dk_at dksX2_solveSide_7 21 rfl rfl)
theorem dX2_solveSide_187 : decode cX2_solveSide 187 = .ok (.iadd, 1) := dk_96 (dk_at dksX2_solveSide_7 22 rfl rfl)
theorem dX2_solveSide_188 : decode cX2_solveSide 188 = .ok (.iload 5, 2) := dk_21 5 (dk_at dksX2_solveSide_8 0 rfl rfl)
theorem dX2_solveSide_190 : decode cX2_solveSide 190 = .ok (.iload 12, 2) := dk_21 12 (dk_at dksX2_solveSide_8 2 rfl rfl)
theorem dX2_solveSide_192 : decode cX2_solveSide 192 = .ok (.iadd, 1) := dk_96 (dk_at dksX2_solveSide_8 4 rfl rfl)
theorem dX2_solveSide_193 : decode cX2_solveSide 193 = .ok (.aload_n 0, 1) := dk_42 (dk_at dksX2_solveSide_8 5 rfl rfl)
theorem dX2_solveSide_194 : decode cX2_solveSide 194 = .ok (.getfield 271, 3) := dk_180 1 15 (dk_at dksX2_solveSide_8 6 rfl rfl)
theorem dX2_solveSide_197 : decode cX2_solveSide 197 = .ok (.iload_n 1, 1) := dk_27 (dk_at dksX2_solveSide_8 9 rfl rfl)
theorem dX2_solveSide_198 : decode cX2_solveSide 198 = .ok (.iaload, 1) := dk_46 (dk_at dksX2_solveSide_8 10 rfl rfl)
theorem dX2_solveSide_199 : decode cX2_solveSide 199 = .ok (.invokevirtual 897, 3) := dk_182 3 129 (dk_at dksX2_solveSide_8 11 rfl rfl)
theorem dX2_solveSide_202 : decode cX2_solveSide 202 = .ok (.istore 15, 2) := dk_54 15 (dk_at dksX2_solveSide_8 14 rfl rfl)
theorem dX2_solveSide_204 : decode cX2_solveSide 204 = .ok (.aload_n 0, 1) := dk_42 (dk_at dksX2_solveSide_8 16 rfl rfl)
theorem dX2_solveSide_205 : decode cX2_solveSide 205 = .ok (.aload_n 0, 1) := dk_42 (dk_at dksX2_solveSide_8 17 rfl rfl)
theorem dX2_solveSide_206 : decode cX2_solveSide 206 = .ok (.iconst 0, 1) := dk_3 (dk_at dksX2_solveSide_8 18 rfl rfl)
theorem dX2_solveSide_207 : decode cX2_solveSide 207 = .ok (.iload 9, 2) := dk_21 9 (dk_at dksX2_solveSide_8 19 rfl rfl)
theorem dX2_solveSide_209 : decode cX2_solveSide 209 = .ok (.iload 13, 2) := dk_21 13 (dk_at dksX2_solveSide_8 21 rfl rfl)
theorem dX2_solveSide_211 : decode cX2_solveSide 211 = .ok (.iconst 0, 1) := dk_3 (dk_at dksX2_solveSide_8 23 rfl rfl)
theorem dX2_solveSide_212 : decode cX2_solveSide 212 = .ok (.iconst 0, 1) := dk_3 (dk_at dksX2_solveSide_9 0 rfl rfl)
theorem dX2_solveSide_213 : decode cX2_solveSide 213 = .ok (.iload 15, 2) := dk_21 15 (dk_at dksX2_solveSide_9 1 rfl rfl)
theorem dX2_solveSide_215 : decode cX2_solveSide 215 = .ok (.invokevirtual 897, 3) := dk_182 3 129 (dk_at dksX2_solveSide_9 3 rfl rfl)
theorem dX2_solveSide_218 : decode cX2_solveSide 218 = .ok (.invokestatic 891, 3) := dk_184 3 123 (dk_at dksX2_solveSide_9 6 rfl rfl)
theorem dX2_solveSide_221 : decode cX2_solveSide 221 = .ok (.aload_n 0, 1) := dk_42 (dk_at dksX2_solveSide_9 9 rfl rfl)
theorem dX2_solveSide_222 : decode cX2_solveSide 222 = .ok (.iload 14, 2) := dk_21 14 (dk_at dksX2_solveSide_9 10 rfl rfl)
theorem dX2_solveSide_224 : decode cX2_solveSide 224 = .ok (.putfield 867, 3) := dk_181 3 99 (dk_at dksX2_solveSide_9 12 rfl rfl)
theorem dX2_solveSide_227 : decode cX2_solveSide 227 = .ok (.iinc 12 1, 3) := dk_132 12 1 (dk_at dksX2_solveSide_9 15 rfl rfl)
theorem dX2_solveSide_230 : decode cX2_solveSide 230 = .ok (.goto (-89), 3) := dk_167 255 167 (dk_at dksX2_solveSide_9 18 rfl rfl)
theorem dX2_solveSide_233 : decode cX2_solveSide 233 = .ok (.return_, 1) := dk_177 (dk_at dksX2_solveSide_9 21 rfl rfl)
abbrev cX2_mayTake : ByteArray := prog_4_method_115_code
def yX2_mayTake : MethodName := ⟨RX2, "mayTake", "(III)Z"⟩
def dkwX2_mayTake_2 : List UInt8 := [4, 167, 0, 17, 3, 167, 0, 13, 29, 4, 160, 0, 7, 4, 167, 0, 4, 3, 172]
abbrev dktX2_mayTake_2 : List UInt8 := dkwX2_mayTake_2 ++ []
def dkwX2_mayTake_1 : List UInt8 := [167, 0, 4, 3, 54, 4, 21, 4, 153, 0, 24, 29, 157, 0, 12, 42, 180, 0, 174, 27, 46, 155, 0, 7]
abbrev dktX2_mayTake_1 : List UInt8 := dkwX2_mayTake_1 ++ dktX2_mayTake_2
def dkwX2_mayTake_0 : List UInt8 := [42, 28, 182, 2, 185, 154, 0, 17, 42, 180, 0, 174, 42, 180, 0, 181, 28, 46, 46, 155, 0, 7, 4]
abbrev dktX2_mayTake_0 : List UInt8 := dkwX2_mayTake_0 ++ dktX2_mayTake_1
theorem dksX2_mayTake_0 : cX2_mayTake.data.toList.drop 0 = dktX2_mayTake_0 := by decide +kernel
theorem dksX2_mayTake_1 : cX2_mayTake.data.toList.drop 23 = dktX2_mayTake_1 := dk_seg dksX2_mayTake_0 23 rfl rfl
theorem dksX2_mayTake_2 : cX2_mayTake.data.toList.drop 47 = dktX2_mayTake_2 := dk_seg dksX2_mayTake_1 24 rfl rfl
theorem dX2_mayTake_0 : decode cX2_mayTake 0 = .ok (.aload_n 0, 1) := dk_42 (dk_at dksX2_mayTake_0 0 rfl rfl)
theorem dX2_mayTake_1 : decode cX2_mayTake 1 = .ok (.iload_n 2, 1) := dk_28 (dk_at dksX2_mayTake_0 1 rfl rfl)
theorem dX2_mayTake_2 : decode cX2_mayTake 2 = .ok (.invokevirtual 697, 3) := dk_182 2 185 (dk_at dksX2_mayTake_0 2 rfl rfl)
theorem dX2_mayTake_5 : decode cX2_mayTake 5 = .ok (.ifCond .ne 17, 3) := dk_154 0 17 (dk_at dksX2_mayTake_0 5 rfl rfl)
theorem dX2_mayTake_8 : decode cX2_mayTake 8 = .ok (.aload_n 0, 1) := dk_42 (dk_at dksX2_mayTake_0 8 rfl rfl)
theorem dX2_mayTake_9 : decode cX2_mayTake 9 = .ok (.getfield 174, 3) := dk_180 0 174 (dk_at dksX2_mayTake_0 9 rfl rfl)
theorem dX2_mayTake_12 : decode cX2_mayTake 12 = .ok (.aload_n 0, 1) := dk_42 (dk_at dksX2_mayTake_0 12 rfl rfl)
theorem dX2_mayTake_13 : decode cX2_mayTake 13 = .ok (.getfield 181, 3) := dk_180 0 181 (dk_at dksX2_mayTake_0 13 rfl rfl)
theorem dX2_mayTake_16 : decode cX2_mayTake 16 = .ok (.iload_n 2, 1) := dk_28 (dk_at dksX2_mayTake_0 16 rfl rfl)
theorem dX2_mayTake_17 : decode cX2_mayTake 17 = .ok (.iaload, 1) := dk_46 (dk_at dksX2_mayTake_0 17 rfl rfl)
theorem dX2_mayTake_18 : decode cX2_mayTake 18 = .ok (.iaload, 1) := dk_46 (dk_at dksX2_mayTake_0 18 rfl rfl)
theorem dX2_mayTake_19 : decode cX2_mayTake 19 = .ok (.ifCond .lt 7, 3) := dk_155 0 7 (dk_at dksX2_mayTake_0 19 rfl rfl)
theorem dX2_mayTake_22 : decode cX2_mayTake 22 = .ok (.iconst 1, 1) := dk_4 (dk_at dksX2_mayTake_0 22 rfl rfl)
theorem dX2_mayTake_23 : decode cX2_mayTake 23 = .ok (.goto 4, 3) := dk_167 0 4 (dk_at dksX2_mayTake_1 0 rfl rfl)
theorem dX2_mayTake_26 : decode cX2_mayTake 26 = .ok (.iconst 0, 1) := dk_3 (dk_at dksX2_mayTake_1 3 rfl rfl)
theorem dX2_mayTake_27 : decode cX2_mayTake 27 = .ok (.istore 4, 2) := dk_54 4 (dk_at dksX2_mayTake_1 4 rfl rfl)
theorem dX2_mayTake_29 : decode cX2_mayTake 29 = .ok (.iload 4, 2) := dk_21 4 (dk_at dksX2_mayTake_1 6 rfl rfl)
theorem dX2_mayTake_31 : decode cX2_mayTake 31 = .ok (.ifCond .eq 24, 3) := dk_153 0 24 (dk_at dksX2_mayTake_1 8 rfl rfl)
theorem dX2_mayTake_34 : decode cX2_mayTake 34 = .ok (.iload_n 3, 1) := dk_29 (dk_at dksX2_mayTake_1 11 rfl rfl)
theorem dX2_mayTake_35 : decode cX2_mayTake 35 = .ok (.ifCond .gt 12, 3) := dk_157 0 12 (dk_at dksX2_mayTake_1 12 rfl rfl)
theorem dX2_mayTake_38 : decode cX2_mayTake 38 = .ok (.aload_n 0, 1) := dk_42 (dk_at dksX2_mayTake_1 15 rfl rfl)
theorem dX2_mayTake_39 : decode cX2_mayTake 39 = .ok (.getfield 174, 3) := dk_180 0 174 (dk_at dksX2_mayTake_1 16 rfl rfl)
theorem dX2_mayTake_42 : decode cX2_mayTake 42 = .ok (.iload_n 1, 1) := dk_27 (dk_at dksX2_mayTake_1 19 rfl rfl)
theorem dX2_mayTake_43 : decode cX2_mayTake 43 = .ok (.iaload, 1) := dk_46 (dk_at dksX2_mayTake_1 20 rfl rfl)
theorem dX2_mayTake_44 : decode cX2_mayTake 44 = .ok (.ifCond .lt 7, 3) := dk_155 0 7 (dk_at dksX2_mayTake_1 21 rfl rfl)
theorem dX2_mayTake_47 : decode cX2_mayTake 47 = .ok (.iconst 1, 1) := dk_4 (dk_at dksX2_mayTake_2 0 rfl rfl)
theorem dX2_mayTake_48 : decode cX2_mayTake 48 = .ok (.goto 17, 3) := dk_167 0 17 (dk_at dksX2_mayTake_2 1 rfl rfl)
theorem dX2_mayTake_51 : decode cX2_mayTake 51 = .ok (.iconst 0, 1) := dk_3 (dk_at dksX2_mayTake_2 4 rfl rfl)
theorem dX2_mayTake_52 : decode cX2_mayTake 52 = .ok (.goto 13, 3) := dk_167 0 13 (dk_at dksX2_mayTake_2 5 rfl rfl)
theorem dX2_mayTake_55 : decode cX2_mayTake 55 = .ok (.iload_n 3, 1) := dk_29 (dk_at dksX2_mayTake_2 8 rfl rfl)
theorem dX2_mayTake_56 : decode cX2_mayTake 56 = .ok (.iconst 1, 1) := dk_4 (dk_at dksX2_mayTake_2 9 rfl rfl)
theorem dX2_mayTake_57 : decode cX2_mayTake 57 = .ok (.if_icmp .ne 7, 3) := dk_160 0 7 (dk_at dksX2_mayTake_2 10 rfl rfl)
theorem dX2_mayTake_60 : decode cX2_mayTake 60 = .ok (.iconst 1, 1) := dk_4 (dk_at dksX2_mayTake_2 13 rfl rfl)
theorem dX2_mayTake_61 : decode cX2_mayTake 61 = .ok (.goto 4, 3) := dk_167 0 4 (dk_at dksX2_mayTake_2 14 rfl rfl)
theorem dX2_mayTake_64 : decode cX2_mayTake 64 = .ok (.iconst 0, 1) := dk_3 (dk_at dksX2_mayTake_2 17 rfl rfl)
theorem dX2_mayTake_65 : decode cX2_mayTake 65 = .ok (.ireturn, 1) := dk_172 (dk_at dksX2_mayTake_2 18 rfl rfl)
abbrev cX2_segment : ByteArray := prog_4_method_112_code
def yX2_segment : MethodName := ⟨RX2, "segment", "(IIII)I"⟩
def dkwX2_segment_1 : List UInt8 := [182, 3, 102, 182, 2, 245, 132, 6, 1, 167, 255, 232, 42, 27, 21, 5, 182, 2, 248, 172]
abbrev dktX2_segment_1 : List UInt8 := dkwX2_segment_1 ++ []
def dkwX2_segment_0 : List UInt8 := [42, 180, 2, 195, 54, 5, 3, 54, 6, 21, 6, 21, 4, 162, 0, 23, 42, 42, 27, 28, 29, 21, 6, 96]
abbrev dktX2_segment_0 : List UInt8 := dkwX2_segment_0 ++ dktX2_segment_1
theorem dksX2_segment_0 : cX2_segment.data.toList.drop 0 = dktX2_segment_0 := by decide +kernel
theorem dksX2_segment_1 : cX2_segment.data.toList.drop 24 = dktX2_segment_1 := dk_seg dksX2_segment_0 24 rfl rfl
theorem dX2_segment_0 : decode cX2_segment 0 = .ok (.aload_n 0, 1) := dk_42 (dk_at dksX2_segment_0 0 rfl rfl)
theorem dX2_segment_1 : decode cX2_segment 1 = .ok (.getfield 707, 3) := dk_180 2 195 (dk_at dksX2_segment_0 1 rfl rfl)
theorem dX2_segment_4 : decode cX2_segment 4 = .ok (.istore 5, 2) := dk_54 5 (dk_at dksX2_segment_0 4 rfl rfl)
theorem dX2_segment_6 : decode cX2_segment 6 = .ok (.iconst 0, 1) := dk_3 (dk_at dksX2_segment_0 6 rfl rfl)
theorem dX2_segment_7 : decode cX2_segment 7 = .ok (.istore 6, 2) := dk_54 6 (dk_at dksX2_segment_0 7 rfl rfl)
theorem dX2_segment_9 : decode cX2_segment 9 = .ok (.iload 6, 2) := dk_21 6 (dk_at dksX2_segment_0 9 rfl rfl)
theorem dX2_segment_11 : decode cX2_segment 11 = .ok (.iload 4, 2) := dk_21 4 (dk_at dksX2_segment_0 11 rfl rfl)
theorem dX2_segment_13 : decode cX2_segment 13 = .ok (.if_icmp .ge 23, 3) := dk_162 0 23 (dk_at dksX2_segment_0 13 rfl rfl)
theorem dX2_segment_16 : decode cX2_segment 16 = .ok (.aload_n 0, 1) := dk_42 (dk_at dksX2_segment_0 16 rfl rfl)
theorem dX2_segment_17 : decode cX2_segment 17 = .ok (.aload_n 0, 1) := dk_42 (dk_at dksX2_segment_0 17 rfl rfl)
theorem dX2_segment_18 : decode cX2_segment 18 = .ok (.iload_n 1, 1) := dk_27 (dk_at dksX2_segment_0 18 rfl rfl)
theorem dX2_segment_19 : decode cX2_segment 19 = .ok (.iload_n 2, 1) := dk_28 (dk_at dksX2_segment_0 19 rfl rfl)
theorem dX2_segment_20 : decode cX2_segment 20 = .ok (.iload_n 3, 1) := dk_29 (dk_at dksX2_segment_0 20 rfl rfl)
theorem dX2_segment_21 : decode cX2_segment 21 = .ok (.iload 6, 2) := dk_21 6 (dk_at dksX2_segment_0 21 rfl rfl)
theorem dX2_segment_23 : decode cX2_segment 23 = .ok (.iadd, 1) := dk_96 (dk_at dksX2_segment_0 23 rfl rfl)
theorem dX2_segment_24 : decode cX2_segment 24 = .ok (.invokevirtual 870, 3) := dk_182 3 102 (dk_at dksX2_segment_1 0 rfl rfl)
theorem dX2_segment_27 : decode cX2_segment 27 = .ok (.invokevirtual 757, 3) := dk_182 2 245 (dk_at dksX2_segment_1 3 rfl rfl)
theorem dX2_segment_30 : decode cX2_segment 30 = .ok (.iinc 6 1, 3) := dk_132 6 1 (dk_at dksX2_segment_1 6 rfl rfl)
theorem dX2_segment_33 : decode cX2_segment 33 = .ok (.goto (-24), 3) := dk_167 255 232 (dk_at dksX2_segment_1 9 rfl rfl)
theorem dX2_segment_36 : decode cX2_segment 36 = .ok (.aload_n 0, 1) := dk_42 (dk_at dksX2_segment_1 12 rfl rfl)
theorem dX2_segment_37 : decode cX2_segment 37 = .ok (.iload_n 1, 1) := dk_27 (dk_at dksX2_segment_1 13 rfl rfl)
theorem dX2_segment_38 : decode cX2_segment 38 = .ok (.iload 5, 2) := dk_21 5 (dk_at dksX2_segment_1 14 rfl rfl)
theorem dX2_segment_40 : decode cX2_segment 40 = .ok (.invokevirtual 760, 3) := dk_182 2 248 (dk_at dksX2_segment_1 16 rfl rfl)
theorem dX2_segment_43 : decode cX2_segment 43 = .ok (.ireturn, 1) := dk_172 (dk_at dksX2_segment_1 19 rfl rfl)
abbrev cX2_solveAny : ByteArray := prog_4_method_119_code
def yX2_solveAny : MethodName := ⟨RX2, "solveAny", "(LRewriteHouseModel;I)V"⟩
def dkwX2_solveAny_9 : List UInt8 := [21, 9, 4, 100, 21, 5, 126, 54, 9, 167, 255, 138, 177]
abbrev dktX2_solveAny_9 : List UInt8 := dkwX2_solveAny_9 ++ []
def dkwX2_solveAny_8 : List UInt8 := [3, 21, 12, 182, 3, 129, 184, 3, 123, 42, 21, 11, 181, 3, 99, 21, 9, 154, 0, 7, 2, 167, 0, 10]
abbrev dktX2_solveAny_8 : List UInt8 := dkwX2_solveAny_8 ++ dktX2_solveAny_9
def dkwX2_solveAny_7 : List UInt8 := [21, 9, 2, 130, 126, 42, 180, 1, 15, 27, 46, 182, 3, 129, 54, 12, 42, 42, 3, 21, 8, 21, 10, 3]
abbrev dktX2_solveAny_7 : List UInt8 := dkwX2_solveAny_7 ++ dktX2_solveAny_8
def dkwX2_solveAny_6 : List UInt8 := [21, 9, 182, 3, 142, 54, 10, 42, 180, 3, 99, 54, 11, 42, 5, 28, 29, 21, 4, 4, 96, 21, 5]
abbrev dktX2_solveAny_6 : List UInt8 := dkwX2_solveAny_6 ++ dktX2_solveAny_7
def dkwX2_solveAny_5 : List UInt8 := [160, 0, 85, 42, 21, 6, 21, 8, 21, 9, 184, 3, 139, 182, 3, 133, 153, 0, 69, 42, 21, 6, 29]
abbrev dktX2_solveAny_5 : List UInt8 := dkwX2_solveAny_5 ++ dktX2_solveAny_6
def dkwX2_solveAny_4 : List UInt8 := [182, 2, 179, 54, 8, 21, 5, 54, 9, 21, 9, 155, 0, 119, 21, 7, 4, 163, 0, 10, 21, 9, 21, 5]
abbrev dktX2_solveAny_4 : List UInt8 := dkwX2_solveAny_4 ++ dktX2_solveAny_5
def dkwX2_solveAny_3 : List UInt8 := [180, 0, 174, 21, 6, 46, 156, 0, 14, 21, 5, 184, 3, 139, 21, 7, 162, 0, 4, 177, 42, 28, 21, 4]
abbrev dktX2_solveAny_3 : List UInt8 := dkwX2_solveAny_3 ++ dktX2_solveAny_4
def dkwX2_solveAny_2 : List UInt8 := [54, 7, 21, 7, 154, 0, 19, 21, 5, 154, 0, 13, 42, 42, 180, 1, 15, 27, 46, 184, 3, 123, 177, 42]
abbrev dktX2_solveAny_2 : List UInt8 := dkwX2_solveAny_2 ++ dktX2_solveAny_3
def dkwX2_solveAny_1 : List UInt8 := [180, 1, 12, 27, 46, 54, 5, 42, 180, 0, 181, 28, 46, 54, 6, 42, 180, 0, 187, 28, 46, 21, 4, 100]
abbrev dktX2_solveAny_1 : List UInt8 := dkwX2_solveAny_1 ++ dktX2_solveAny_2
def dkwX2_solveAny_0 : List UInt8 := [42, 180, 1, 3, 27, 46, 61, 42, 180, 1, 6, 27, 46, 62, 42, 180, 1, 9, 27, 46, 54, 4, 42]
abbrev dktX2_solveAny_0 : List UInt8 := dkwX2_solveAny_0 ++ dktX2_solveAny_1
theorem dksX2_solveAny_0 : cX2_solveAny.data.toList.drop 0 = dktX2_solveAny_0 := by decide +kernel
theorem dksX2_solveAny_1 : cX2_solveAny.data.toList.drop 23 = dktX2_solveAny_1 := dk_seg dksX2_solveAny_0 23 rfl rfl
theorem dksX2_solveAny_2 : cX2_solveAny.data.toList.drop 47 = dktX2_solveAny_2 := dk_seg dksX2_solveAny_1 24 rfl rfl
theorem dksX2_solveAny_3 : cX2_solveAny.data.toList.drop 71 = dktX2_solveAny_3 := dk_seg dksX2_solveAny_2 24 rfl rfl
theorem dksX2_solveAny_4 : cX2_solveAny.data.toList.drop 95 = dktX2_solveAny_4 := dk_seg dksX2_solveAny_3 24 rfl rfl
theorem dksX2_solveAny_5 : cX2_solveAny.data.toList.drop 119 = dktX2_solveAny_5 := dk_seg dksX2_solveAny_4 24 rfl rfl
theorem dksX2_solveAny_6 : cX2_solveAny.data.toList.drop 142 = dktX2_solveAny_6 := dk_seg dksX2_solveAny_5 23 rfl rfl
theorem dksX2_solveAny_7 : cX2_solveAny.data.toList.drop 165 = dktX2_solveAny_7 := dk_seg dksX2_solveAny_6 23 rfl rfl
theorem dksX2_solveAny_8 : cX2_solveAny.data.toList.drop 189 = dktX2_solveAny_8 := dk_seg dksX2_solveAny_7 24 rfl rfl
theorem dksX2_solveAny_9 : cX2_solveAny.data.toList.drop 213 = dktX2_solveAny_9 := dk_seg dksX2_solveAny_8 24 rfl rfl
theorem dX2_solveAny_0 : decode cX2_solveAny 0 = .ok (.aload_n 0, 1) := dk_42 (dk_at dksX2_solveAny_0 0 rfl rfl)
theorem dX2_solveAny_1 : decode cX2_solveAny 1 = .ok (.getfield 259, 3) := dk_180 1 3 (dk_at dksX2_solveAny_0 1 rfl rfl)
theorem dX2_solveAny_4 : decode cX2_solveAny 4 = .ok (.iload_n 1, 1) := dk_27 (dk_at dksX2_solveAny_0 4 rfl rfl)
theorem dX2_solveAny_5 : decode cX2_solveAny 5 = .ok (.iaload, 1) := dk_46 (dk_at dksX2_solveAny_0 5 rfl rfl)
theorem dX2_solveAny_6 : decode cX2_solveAny 6 = .ok (.istore_n 2, 1) := dk_61 (dk_at dksX2_solveAny_0 6 rfl rfl)
theorem dX2_solveAny_7 : decode cX2_solveAny 7 = .ok (.aload_n 0, 1) := dk_42 (dk_at dksX2_solveAny_0 7 rfl rfl)
theorem dX2_solveAny_8 : decode cX2_solveAny 8 = .ok (.getfield 262, 3) := dk_180 1 6 (dk_at dksX2_solveAny_0 8 rfl rfl)
theorem dX2_solveAny_11 : decode cX2_solveAny 11 = .ok (.iload_n 1, 1) := dk_27 (dk_at dksX2_solveAny_0 11 rfl rfl)
theorem dX2_solveAny_12 : decode cX2_solveAny 12 = .ok (.iaload, 1) := dk_46 (dk_at dksX2_solveAny_0 12 rfl rfl)
theorem dX2_solveAny_13 : decode cX2_solveAny 13 = .ok (.istore_n 3, 1) := dk_62 (dk_at dksX2_solveAny_0 13 rfl rfl)
theorem dX2_solveAny_14 : decode cX2_solveAny 14 = .ok (.aload_n 0, 1) := dk_42 (dk_at dksX2_solveAny_0 14 rfl rfl)
theorem dX2_solveAny_15 : decode cX2_solveAny 15 = .ok (.getfield 265, 3) := dk_180 1 9 (dk_at dksX2_solveAny_0 15 rfl rfl)
theorem dX2_solveAny_18 : decode cX2_solveAny 18 = .ok (.iload_n 1, 1) := dk_27 (dk_at dksX2_solveAny_0 18 rfl rfl)
theorem dX2_solveAny_19 : decode cX2_solveAny 19 = .ok (.iaload, 1) := dk_46 (dk_at dksX2_solveAny_0 19 rfl rfl)
theorem dX2_solveAny_20 : decode cX2_solveAny 20 = .ok (.istore 4, 2) := dk_54 4 (dk_at dksX2_solveAny_0 20 rfl rfl)
theorem dX2_solveAny_22 : decode cX2_solveAny 22 = .ok (.aload_n 0, 1) := dk_42 (dk_at dksX2_solveAny_0 22 rfl rfl)
theorem dX2_solveAny_23 : decode cX2_solveAny 23 = .ok (.getfield 268, 3) := dk_180 1 12 (dk_at dksX2_solveAny_1 0 rfl rfl)
theorem dX2_solveAny_26 : decode cX2_solveAny 26 = .ok (.iload_n 1, 1) := dk_27 (dk_at dksX2_solveAny_1 3 rfl rfl)
theorem dX2_solveAny_27 : decode cX2_solveAny 27 = .ok (.iaload, 1) := dk_46 (dk_at dksX2_solveAny_1 4 rfl rfl)
theorem dX2_solveAny_28 : decode cX2_solveAny 28 = .ok (.istore 5, 2) := dk_54 5 (dk_at dksX2_solveAny_1 5 rfl rfl)
theorem dX2_solveAny_30 : decode cX2_solveAny 30 = .ok (.aload_n 0, 1) := dk_42 (dk_at dksX2_solveAny_1 7 rfl rfl)
theorem dX2_solveAny_31 : decode cX2_solveAny 31 = .ok (.getfield 181, 3) := dk_180 0 181 (dk_at dksX2_solveAny_1 8 rfl rfl)
theorem dX2_solveAny_34 : decode cX2_solveAny 34 = .ok (.iload_n 2, 1) := dk_28 (dk_at dksX2_solveAny_1 11 rfl rfl)
theorem dX2_solveAny_35 : decode cX2_solveAny 35 = .ok (.iaload, 1) := dk_46 (dk_at dksX2_solveAny_1 12 rfl rfl)
theorem dX2_solveAny_36 : decode cX2_solveAny 36 = .ok (.istore 6, 2) := dk_54 6 (dk_at dksX2_solveAny_1 13 rfl rfl)
theorem dX2_solveAny_38 : decode cX2_solveAny 38 = .ok (.aload_n 0, 1) := dk_42 (dk_at dksX2_solveAny_1 15 rfl rfl)
theorem dX2_solveAny_39 : decode cX2_solveAny 39 = .ok (.getfield 187, 3) := dk_180 0 187 (dk_at dksX2_solveAny_1 16 rfl rfl)
theorem dX2_solveAny_42 : decode cX2_solveAny 42 = .ok (.iload_n 2, 1) := dk_28 (dk_at dksX2_solveAny_1 19 rfl rfl)
theorem dX2_solveAny_43 : decode cX2_solveAny 43 = .ok (.iaload, 1) := dk_46 (dk_at dksX2_solveAny_1 20 rfl rfl)
theorem dX2_solveAny_44 : decode cX2_solveAny 44 = .ok (.iload 4, 2) := dk_21 4 (dk_at dksX2_solveAny_1 21 rfl rfl)
theorem dX2_solveAny_46 : decode cX2_solveAny 46 = .ok (.isub, 1) := dk_100 (dk_at dksX2_solveAny_1 23 rfl rfl)
theorem dX2_solveAny_47 : decode cX2_solveAny 47 = .ok (.istore 7, 2) := dk_54 7 (dk_at dksX2_solveAny_2 0 rfl rfl)
theorem dX2_solveAny_49 : decode cX2_solveAny 49 = .ok (.iload 7, 2) := dk_21 7 (dk_at dksX2_solveAny_2 2 rfl rfl)
theorem dX2_solveAny_51 : decode cX2_solveAny 51 = .ok (.ifCond .ne 19, 3) := dk_154 0 19 (dk_at dksX2_solveAny_2 4 rfl rfl)
theorem dX2_solveAny_54 : decode cX2_solveAny 54 = .ok (.iload 5, 2) := dk_21 5 (dk_at dksX2_solveAny_2 7 rfl rfl)
theorem dX2_solveAny_56 : decode cX2_solveAny 56 = .ok (.ifCond .ne 13, 3) := dk_154 0 13 (dk_at dksX2_solveAny_2 9 rfl rfl)
theorem dX2_solveAny_59 : decode cX2_solveAny 59 = .ok (.aload_n 0, 1) := dk_42 (dk_at dksX2_solveAny_2 12 rfl rfl)
theorem dX2_solveAny_60 : decode cX2_solveAny 60 = .ok (.aload_n 0, 1) := dk_42 (dk_at dksX2_solveAny_2 13 rfl rfl)
theorem dX2_solveAny_61 : decode cX2_solveAny 61 = .ok (.getfield 271, 3) := dk_180 1 15 (dk_at dksX2_solveAny_2 14 rfl rfl)
theorem dX2_solveAny_64 : decode cX2_solveAny 64 = .ok (.iload_n 1, 1) := dk_27 (dk_at dksX2_solveAny_2 17 rfl rfl)
theorem dX2_solveAny_65 : decode cX2_solveAny 65 = .ok (.iaload, 1) := dk_46 (dk_at dksX2_solveAny_2 18 rfl rfl)
theorem dX2_solveAny_66 : decode cX2_solveAny 66 = .ok (.invokestatic 891, 3) := dk_184 3 123 (dk_at dksX2_solveAny_2 19 rfl rfl)
theorem dX2_solveAny_69 : decode cX2_solveAny 69 = .ok (.return_, 1) := dk_177 (dk_at dksX2_solveAny_2 22 rfl rfl)
theorem dX2_solveAny_70 : decode cX2_solveAny 70 = .ok (.aload_n 0, 1) := dk_42 (dk_at dksX2_solveAny_2 23 rfl rfl)
theorem dX2_solveAny_71 : decode cX2_solveAny 71 = .ok (.getfield 174, 3) := dk_180 0 174 (dk_at dksX2_solveAny_3 0 rfl rfl)
theorem dX2_solveAny_74 : decode cX2_solveAny 74 = .ok (.iload 6, 2) := dk_21 6 (dk_at dksX2_solveAny_3 3 rfl rfl)
theorem dX2_solveAny_76 : decode cX2_solveAny 76 = .ok (.iaload, 1) := dk_46 (dk_at dksX2_solveAny_3 5 rfl rfl)
theorem dX2_solveAny_77 : decode cX2_solveAny 77 = .ok (.ifCond .ge 14, 3) := dk_156 0 14 (dk_at dksX2_solveAny_3 6 rfl rfl)
theorem dX2_solveAny_80 : decode cX2_solveAny 80 = .ok (.iload 5, 2) := dk_21 5 (dk_at dksX2_solveAny_3 9 rfl rfl)
theorem dX2_solveAny_82 : decode cX2_solveAny 82 = .ok (.invokestatic 907, 3) := dk_184 3 139 (dk_at dksX2_solveAny_3 11 rfl rfl)
theorem dX2_solveAny_85 : decode cX2_solveAny 85 = .ok (.iload 7, 2) := dk_21 7 (dk_at dksX2_solveAny_3 14 rfl rfl)
theorem dX2_solveAny_87 : decode cX2_solveAny 87 = .ok (.if_icmp .ge 4, 3) := dk_162 0 4 (dk_at dksX2_solveAny_3 16 rfl rfl)
theorem dX2_solveAny_90 : decode cX2_solveAny 90 = .ok (.return_, 1) := dk_177 (dk_at dksX2_solveAny_3 19 rfl rfl)
theorem dX2_solveAny_91 : decode cX2_solveAny 91 = .ok (.aload_n 0, 1) := dk_42 (dk_at dksX2_solveAny_3 20 rfl rfl)
theorem dX2_solveAny_92 : decode cX2_solveAny 92 = .ok (.iload_n 2, 1) := dk_28 (dk_at dksX2_solveAny_3 21 rfl rfl)
theorem dX2_solveAny_93 : decode cX2_solveAny 93 = .ok (.iload 4, 2) := dk_21 4 (dk_at dksX2_solveAny_3 22 rfl rfl)
theorem dX2_solveAny_95 : decode cX2_solveAny 95 = .ok (.invokevirtual 691, 3) := dk_182 2 179 (dk_at dksX2_solveAny_4 0 rfl rfl)
theorem dX2_solveAny_98 : decode cX2_solveAny 98 = .ok (.istore 8, 2) := dk_54 8 (dk_at dksX2_solveAny_4 3 rfl rfl)
theorem dX2_solveAny_100 : decode cX2_solveAny 100 = .ok (.iload 5, 2) := dk_21 5 (dk_at dksX2_solveAny_4 5 rfl rfl)
theorem dX2_solveAny_102 : decode cX2_solveAny 102 = .ok (.istore 9, 2) := dk_54 9 (dk_at dksX2_solveAny_4 7 rfl rfl)
theorem dX2_solveAny_104 : decode cX2_solveAny 104 = .ok (.iload 9, 2) := dk_21 9 (dk_at dksX2_solveAny_4 9 rfl rfl)
theorem dX2_solveAny_106 : decode cX2_solveAny 106 = .ok (.ifCond .lt 119, 3) := dk_155 0 119 (dk_at dksX2_solveAny_4 11 rfl rfl)
theorem dX2_solveAny_109 : decode cX2_solveAny 109 = .ok (.iload 7, 2) := dk_21 7 (dk_at dksX2_solveAny_4 14 rfl rfl)
theorem dX2_solveAny_111 : decode cX2_solveAny 111 = .ok (.iconst 1, 1) := dk_4 (dk_at dksX2_solveAny_4 16 rfl rfl)
theorem dX2_solveAny_112 : decode cX2_solveAny 112 = .ok (.if_icmp .gt 10, 3) := dk_163 0 10 (dk_at dksX2_solveAny_4 17 rfl rfl)
theorem dX2_solveAny_115 : decode cX2_solveAny 115 = .ok (.iload 9, 2) := dk_21 9 (dk_at dksX2_solveAny_4 20 rfl rfl)
theorem dX2_solveAny_117 : decode cX2_solveAny 117 = .ok (.iload 5, 2) := dk_21 5 (dk_at dksX2_solveAny_4 22 rfl rfl)
theorem dX2_solveAny_119 : decode cX2_solveAny 119 = .ok (.if_icmp .ne 85, 3) := dk_160 0 85 (dk_at dksX2_solveAny_5 0 rfl rfl)
theorem dX2_solveAny_122 : decode cX2_solveAny 122 = .ok (.aload_n 0, 1) := dk_42 (dk_at dksX2_solveAny_5 3 rfl rfl)
theorem dX2_solveAny_123 : decode cX2_solveAny 123 = .ok (.iload 6, 2) := dk_21 6 (dk_at dksX2_solveAny_5 4 rfl rfl)
theorem dX2_solveAny_125 : decode cX2_solveAny 125 = .ok (.iload 8, 2) := dk_21 8 (dk_at dksX2_solveAny_5 6 rfl rfl)
theorem dX2_solveAny_127 : decode cX2_solveAny 127 = .ok (.iload 9, 2) := dk_21 9 (dk_at dksX2_solveAny_5 8 rfl rfl)
theorem dX2_solveAny_129 : decode cX2_solveAny 129 = .ok (.invokestatic 907, 3) := dk_184 3 139 (dk_at dksX2_solveAny_5 10 rfl rfl)
theorem dX2_solveAny_132 : decode cX2_solveAny 132 = .ok (.invokevirtual 901, 3) := dk_182 3 133 (dk_at dksX2_solveAny_5 13 rfl rfl)
theorem dX2_solveAny_135 : decode cX2_solveAny 135 = .ok (.ifCond .eq 69, 3) := dk_153 0 69 (dk_at dksX2_solveAny_5 16 rfl rfl)
theorem dX2_solveAny_138 : decode cX2_solveAny 138 = .ok (.aload_n 0, 1) := dk_42 (dk_at dksX2_solveAny_5 19 rfl rfl)
theorem dX2_solveAny_139 : decode cX2_solveAny 139 = .ok (.iload 6, 2) := dk_21 6 (dk_at dksX2_solveAny_5 20 rfl rfl)
theorem dX2_solveAny_141 : decode cX2_solveAny 141 = .ok (.iload_n 3, 1) := dk_29 (dk_at dksX2_solveAny_5 22 rfl rfl)
theorem dX2_solveAny_142 : decode cX2_solveAny 142 = .ok (.iload 9, 2) := dk_21 9 (dk_at dksX2_solveAny_6 0 rfl rfl)
theorem dX2_solveAny_144 : decode cX2_solveAny 144 = .ok (.invokevirtual 910, 3) := dk_182 3 142 (dk_at dksX2_solveAny_6 2 rfl rfl)
theorem dX2_solveAny_147 : decode cX2_solveAny 147 = .ok (.istore 10, 2) := dk_54 10 (dk_at dksX2_solveAny_6 5 rfl rfl)
theorem dX2_solveAny_149 : decode cX2_solveAny 149 = .ok (.aload_n 0, 1) := dk_42 (dk_at dksX2_solveAny_6 7 rfl rfl)
theorem dX2_solveAny_150 : decode cX2_solveAny 150 = .ok (.getfield 867, 3) := dk_180 3 99 (dk_at dksX2_solveAny_6 8 rfl rfl)
theorem dX2_solveAny_153 : decode cX2_solveAny 153 = .ok (.istore 11, 2) := dk_54 11 (dk_at dksX2_solveAny_6 11 rfl rfl)
theorem dX2_solveAny_155 : decode cX2_solveAny 155 = .ok (.aload_n 0, 1) := dk_42 (dk_at dksX2_solveAny_6 13 rfl rfl)
theorem dX2_solveAny_156 : decode cX2_solveAny 156 = .ok (.iconst 2, 1) := dk_5 (dk_at dksX2_solveAny_6 14 rfl rfl)
theorem dX2_solveAny_157 : decode cX2_solveAny 157 = .ok (.iload_n 2, 1) := dk_28 (dk_at dksX2_solveAny_6 15 rfl rfl)
theorem dX2_solveAny_158 : decode cX2_solveAny 158 = .ok (.iload_n 3, 1) := dk_29 (dk_at dksX2_solveAny_6 16 rfl rfl)
theorem dX2_solveAny_159 : decode cX2_solveAny 159 = .ok (.iload 4, 2) := dk_21 4 (dk_at dksX2_solveAny_6 17 rfl rfl)
theorem dX2_solveAny_161 : decode cX2_solveAny 161 = .ok (.iconst 1, 1) := dk_4 (dk_at dksX2_solveAny_6 19 rfl rfl)
theorem dX2_solveAny_162 : decode cX2_solveAny 162 = .ok (.iadd, 1) := dk_96 (dk_at dksX2_solveAny_6 20 rfl rfl)
theorem dX2_solveAny_163 : decode cX2_solveAny 163 = .ok (.iload 5, 2) := dk_21 5 (dk_at dksX2_solveAny_6 21 rfl rfl)
theorem dX2_solveAny_165 : decode cX2_solveAny 165 = .ok (.iload 9, 2) := dk_21 9 (dk_at dksX2_solveAny_7 0 rfl rfl)
theorem dX2_solveAny_167 : decode cX2_solveAny 167 = .ok (.iconst (-1), 1) := dk_2 (dk_at dksX2_solveAny_7 2 rfl rfl)
theorem dX2_solveAny_168 : decode cX2_solveAny 168 = .ok (.ixor, 1) := dk_130 (dk_at dksX2_solveAny_7 3 rfl rfl)
theorem dX2_solveAny_169 : decode cX2_solveAny 169 = .ok (.iand, 1) := dk_126 (dk_at dksX2_solveAny_7 4 rfl rfl)
theorem dX2_solveAny_170 : decode cX2_solveAny 170 = .ok (.aload_n 0, 1) := dk_42 (dk_at dksX2_solveAny_7 5 rfl rfl)
theorem dX2_solveAny_171 : decode cX2_solveAny 171 = .ok (.getfield 271, 3) := dk_180 1 15 (dk_at dksX2_solveAny_7 6 rfl rfl)
theorem dX2_solveAny_174 : decode cX2_solveAny 174 = .ok (.iload_n 1, 1) := dk_27 (dk_at dksX2_solveAny_7 9 rfl rfl)
theorem dX2_solveAny_175 : decode cX2_solveAny 175 = .ok (.iaload, 1) := dk_46 (dk_at dksX2_solveAny_7 10 rfl rfl)
theorem dX2_solveAny_176 : decode cX2_solveAny 176 = .ok (.invokevirtual 897, 3) := dk_182 3 129 (dk_at dksX2_solveAny_7 11 rfl rfl)
theorem dX2_solveAny_179 : decode cX2_solveAny 179 = .ok (.istore 12, 2) := dk_54 12 (dk_at dksX2_solveAny_7 14 rfl rfl)
theorem dX2_solveAny_181 : decode cX2_solveAny 181 = .ok (.aload_n 0, 1) := dk_42 (dk_at dksX2_solveAny_7 16 rfl rfl)
theorem dX2_solveAny_182 : decode cX2_solveAny 182 = .ok (.aload_n 0, 1) := dk_42 (dk_at dksX2_solveAny_7 17 rfl rfl)
theorem dX2_solveAny_183 : decode cX2_solveAny 183 = .ok (.iconst 0, 1) := dk_3 (dk_at dksX2_solveAny_7 18 rfl rfl)
theorem dX2_solveAny_184 : decode cX2_solveAny 184 = .ok (.iload 8, 2) := dk_21 8 (dk_at dksX2_solveAny_7 19 rfl rfl)
theorem dX2_solveAny_186 : decode cX2_solveAny 186 = .ok (.iload 10, 2) := dk_21 10 (dk_at dksX2_solveAny_7 21 rfl rfl)
theorem dX2_solveAny_188 : decode cX2_solveAny 188 = .ok (.iconst 0, 1) := dk_3 (dk_at dksX2_solveAny_7 23 rfl rfl)
theorem dX2_solveAny_189 : decode cX2_solveAny 189 = .ok (.iconst 0, 1) := dk_3 (dk_at dksX2_solveAny_8 0 rfl rfl)
theorem dX2_solveAny_190 : decode cX2_solveAny 190 = .ok (.iload 12, 2) := dk_21 12 (dk_at dksX2_solveAny_8 1 rfl rfl)
theorem dX2_solveAny_192 : decode cX2_solveAny 192 = .ok (.invokevirtual 897, 3) := dk_182 3 129 (dk_at dksX2_solveAny_8 3 rfl rfl)
theorem dX2_solveAny_195 : decode cX2_solveAny 195 = .ok (.invokestatic 891, 3) := dk_184 3 123 (dk_at dksX2_solveAny_8 6 rfl rfl)
theorem dX2_solveAny_198 : decode cX2_solveAny 198 = .ok (.aload_n 0, 1) := dk_42 (dk_at dksX2_solveAny_8 9 rfl rfl)
theorem dX2_solveAny_199 : decode cX2_solveAny 199 = .ok (.iload 11, 2) := dk_21 11 (dk_at dksX2_solveAny_8 10 rfl rfl)
theorem dX2_solveAny_201 : decode cX2_solveAny 201 = .ok (.putfield 867, 3) := dk_181 3 99 (dk_at dksX2_solveAny_8 12 rfl rfl)
theorem dX2_solveAny_204 : decode cX2_solveAny 204 = .ok (.iload 9, 2) := dk_21 9 (dk_at dksX2_solveAny_8 15 rfl rfl)
theorem dX2_solveAny_206 : decode cX2_solveAny 206 = .ok (.ifCond .ne 7, 3) := dk_154 0 7 (dk_at dksX2_solveAny_8 17 rfl rfl)
theorem dX2_solveAny_209 : decode cX2_solveAny 209 = .ok (.iconst (-1), 1) := dk_2 (dk_at dksX2_solveAny_8 20 rfl rfl)
theorem dX2_solveAny_210 : decode cX2_solveAny 210 = .ok (.goto 10, 3) := dk_167 0 10 (dk_at dksX2_solveAny_8 21 rfl rfl)
theorem dX2_solveAny_213 : decode cX2_solveAny 213 = .ok (.iload 9, 2) := dk_21 9 (dk_at dksX2_solveAny_9 0 rfl rfl)
theorem dX2_solveAny_215 : decode cX2_solveAny 215 = .ok (.iconst 1, 1) := dk_4 (dk_at dksX2_solveAny_9 2 rfl rfl)
theorem dX2_solveAny_216 : decode cX2_solveAny 216 = .ok (.isub, 1) := dk_100 (dk_at dksX2_solveAny_9 3 rfl rfl)
theorem dX2_solveAny_217 : decode cX2_solveAny 217 = .ok (.iload 5, 2) := dk_21 5 (dk_at dksX2_solveAny_9 4 rfl rfl)
theorem dX2_solveAny_219 : decode cX2_solveAny 219 = .ok (.iand, 1) := dk_126 (dk_at dksX2_solveAny_9 6 rfl rfl)
theorem dX2_solveAny_220 : decode cX2_solveAny 220 = .ok (.istore 9, 2) := dk_54 9 (dk_at dksX2_solveAny_9 7 rfl rfl)
theorem dX2_solveAny_222 : decode cX2_solveAny 222 = .ok (.goto (-118), 3) := dk_167 255 138 (dk_at dksX2_solveAny_9 9 rfl rfl)
theorem dX2_solveAny_225 : decode cX2_solveAny 225 = .ok (.return_, 1) := dk_177 (dk_at dksX2_solveAny_9 12 rfl rfl)
abbrev cX2_bits : ByteArray := prog_4_method_114_code
def yX2_bits : MethodName := ⟨RX2, "bits", "(I)I"⟩
theorem dX2_bits_0 : decode cX2_bits 0 = .ok (.iload_n 0, 1) := by decide +kernel
theorem dX2_bits_1 : decode cX2_bits 1 = .ok (.invokestatic 873, 3) := by decide +kernel
theorem dX2_bits_4 : decode cX2_bits 4 = .ok (.ireturn, 1) := by decide +kernel
abbrev cX2_stopped : ByteArray := prog_4_method_152_code
def yX2_stopped : MethodName := ⟨RX2, "stopped", "()I"⟩
def dkwX2_stopped_0 : List UInt8 := [42, 42, 180, 0, 7, 180, 0, 11, 181, 3, 10, 16, 236, 42, 180, 0, 7, 180, 0, 11, 100, 172]
abbrev dktX2_stopped_0 : List UInt8 := dkwX2_stopped_0 ++ []
theorem dksX2_stopped_0 : cX2_stopped.data.toList.drop 0 = dktX2_stopped_0 := by decide +kernel
theorem dX2_stopped_0 : decode cX2_stopped 0 = .ok (.aload_n 0, 1) := dk_42 (dk_at dksX2_stopped_0 0 rfl rfl)
theorem dX2_stopped_1 : decode cX2_stopped 1 = .ok (.aload_n 0, 1) := dk_42 (dk_at dksX2_stopped_0 1 rfl rfl)
theorem dX2_stopped_2 : decode cX2_stopped 2 = .ok (.getfield 7, 3) := dk_180 0 7 (dk_at dksX2_stopped_0 2 rfl rfl)
theorem dX2_stopped_5 : decode cX2_stopped 5 = .ok (.getfield 11, 3) := dk_180 0 11 (dk_at dksX2_stopped_0 5 rfl rfl)
theorem dX2_stopped_8 : decode cX2_stopped 8 = .ok (.putfield 778, 3) := dk_181 3 10 (dk_at dksX2_stopped_0 8 rfl rfl)
theorem dX2_stopped_11 : decode cX2_stopped 11 = .ok (.bipush (-20), 2) := dk_16 236 (dk_at dksX2_stopped_0 11 rfl rfl)
theorem dX2_stopped_13 : decode cX2_stopped 13 = .ok (.aload_n 0, 1) := dk_42 (dk_at dksX2_stopped_0 13 rfl rfl)
theorem dX2_stopped_14 : decode cX2_stopped 14 = .ok (.getfield 7, 3) := dk_180 0 7 (dk_at dksX2_stopped_0 14 rfl rfl)
theorem dX2_stopped_17 : decode cX2_stopped 17 = .ok (.getfield 11, 3) := dk_180 0 11 (dk_at dksX2_stopped_0 17 rfl rfl)
theorem dX2_stopped_20 : decode cX2_stopped 20 = .ok (.isub, 1) := dk_100 (dk_at dksX2_stopped_0 20 rfl rfl)
theorem dX2_stopped_21 : decode cX2_stopped 21 = .ok (.ireturn, 1) := dk_172 (dk_at dksX2_stopped_0 21 rfl rfl)
abbrev cX2_bound : ByteArray := prog_4_method_157_code
def yX2_bound : MethodName := ⟨RX2, "bound", "(II)I"⟩
def dkwX2_bound_4 : List UInt8 := [160, 0, 8, 16, 253, 167, 0, 8, 42, 29, 182, 3, 80, 172]
abbrev dktX2_bound_4 : List UInt8 := dkwX2_bound_4 ++ []
def dkwX2_bound_3 : List UInt8 := [16, 61, 167, 0, 4, 28, 96, 46, 62, 29, 156, 0, 6, 16, 254, 172, 42, 180, 3, 1, 17, 0, 200]
abbrev dktX2_bound_3 : List UInt8 := dkwX2_bound_3 ++ dktX2_bound_4
def dkwX2_bound_2 : List UInt8 := [180, 1, 52, 16, 64, 27, 104, 28, 2, 160, 0, 8, 16, 60, 167, 0, 15, 28, 16, 254, 160, 0, 8]
abbrev dktX2_bound_2 : List UInt8 := dkwX2_bound_2 ++ dktX2_bound_3
def dkwX2_bound_1 : List UInt8 := [184, 1, 147, 153, 0, 17, 28, 133, 20, 4, 52, 20, 4, 54, 184, 1, 147, 154, 0, 5, 2, 172, 42]
abbrev dktX2_bound_1 : List UInt8 := dkwX2_bound_1 ++ dktX2_bound_2
def dkwX2_bound_0 : List UInt8 := [42, 3, 181, 0, 1, 42, 180, 3, 7, 4, 160, 0, 33, 27, 133, 9, 42, 180, 3, 4, 4, 100, 133]
abbrev dktX2_bound_0 : List UInt8 := dkwX2_bound_0 ++ dktX2_bound_1
theorem dksX2_bound_0 : cX2_bound.data.toList.drop 0 = dktX2_bound_0 := by decide +kernel
theorem dksX2_bound_1 : cX2_bound.data.toList.drop 23 = dktX2_bound_1 := dk_seg dksX2_bound_0 23 rfl rfl
theorem dksX2_bound_2 : cX2_bound.data.toList.drop 46 = dktX2_bound_2 := dk_seg dksX2_bound_1 23 rfl rfl
theorem dksX2_bound_3 : cX2_bound.data.toList.drop 69 = dktX2_bound_3 := dk_seg dksX2_bound_2 23 rfl rfl
theorem dksX2_bound_4 : cX2_bound.data.toList.drop 92 = dktX2_bound_4 := dk_seg dksX2_bound_3 23 rfl rfl
theorem dX2_bound_0 : decode cX2_bound 0 = .ok (.aload_n 0, 1) := dk_42 (dk_at dksX2_bound_0 0 rfl rfl)
theorem dX2_bound_1 : decode cX2_bound 1 = .ok (.iconst 0, 1) := dk_3 (dk_at dksX2_bound_0 1 rfl rfl)
theorem dX2_bound_2 : decode cX2_bound 2 = .ok (.putfield 1, 3) := dk_181 0 1 (dk_at dksX2_bound_0 2 rfl rfl)
theorem dX2_bound_5 : decode cX2_bound 5 = .ok (.aload_n 0, 1) := dk_42 (dk_at dksX2_bound_0 5 rfl rfl)
theorem dX2_bound_6 : decode cX2_bound 6 = .ok (.getfield 775, 3) := dk_180 3 7 (dk_at dksX2_bound_0 6 rfl rfl)
theorem dX2_bound_9 : decode cX2_bound 9 = .ok (.iconst 1, 1) := dk_4 (dk_at dksX2_bound_0 9 rfl rfl)
theorem dX2_bound_10 : decode cX2_bound 10 = .ok (.if_icmp .ne 33, 3) := dk_160 0 33 (dk_at dksX2_bound_0 10 rfl rfl)
theorem dX2_bound_13 : decode cX2_bound 13 = .ok (.iload_n 1, 1) := dk_27 (dk_at dksX2_bound_0 13 rfl rfl)
theorem dX2_bound_14 : decode cX2_bound 14 = .ok (.i2l, 1) := dk_133 (dk_at dksX2_bound_0 14 rfl rfl)
theorem dX2_bound_15 : decode cX2_bound 15 = .ok (.lconst 0, 1) := dk_9 (dk_at dksX2_bound_0 15 rfl rfl)
theorem dX2_bound_16 : decode cX2_bound 16 = .ok (.aload_n 0, 1) := dk_42 (dk_at dksX2_bound_0 16 rfl rfl)
theorem dX2_bound_17 : decode cX2_bound 17 = .ok (.getfield 772, 3) := dk_180 3 4 (dk_at dksX2_bound_0 17 rfl rfl)
theorem dX2_bound_20 : decode cX2_bound 20 = .ok (.iconst 1, 1) := dk_4 (dk_at dksX2_bound_0 20 rfl rfl)
theorem dX2_bound_21 : decode cX2_bound 21 = .ok (.isub, 1) := dk_100 (dk_at dksX2_bound_0 21 rfl rfl)
theorem dX2_bound_22 : decode cX2_bound 22 = .ok (.i2l, 1) := dk_133 (dk_at dksX2_bound_0 22 rfl rfl)
theorem dX2_bound_23 : decode cX2_bound 23 = .ok (.invokestatic 403, 3) := dk_184 1 147 (dk_at dksX2_bound_1 0 rfl rfl)
theorem dX2_bound_26 : decode cX2_bound 26 = .ok (.ifCond .eq 17, 3) := dk_153 0 17 (dk_at dksX2_bound_1 3 rfl rfl)
theorem dX2_bound_29 : decode cX2_bound 29 = .ok (.iload_n 2, 1) := dk_28 (dk_at dksX2_bound_1 6 rfl rfl)
theorem dX2_bound_30 : decode cX2_bound 30 = .ok (.i2l, 1) := dk_133 (dk_at dksX2_bound_1 7 rfl rfl)
theorem dX2_bound_31 : decode cX2_bound 31 = .ok (.ldc2_w 1076, 3) := dk_20 4 52 (dk_at dksX2_bound_1 8 rfl rfl)
theorem dX2_bound_34 : decode cX2_bound 34 = .ok (.ldc2_w 1078, 3) := dk_20 4 54 (dk_at dksX2_bound_1 11 rfl rfl)
theorem dX2_bound_37 : decode cX2_bound 37 = .ok (.invokestatic 403, 3) := dk_184 1 147 (dk_at dksX2_bound_1 14 rfl rfl)
theorem dX2_bound_40 : decode cX2_bound 40 = .ok (.ifCond .ne 5, 3) := dk_154 0 5 (dk_at dksX2_bound_1 17 rfl rfl)
theorem dX2_bound_43 : decode cX2_bound 43 = .ok (.iconst (-1), 1) := dk_2 (dk_at dksX2_bound_1 20 rfl rfl)
theorem dX2_bound_44 : decode cX2_bound 44 = .ok (.ireturn, 1) := dk_172 (dk_at dksX2_bound_1 21 rfl rfl)
theorem dX2_bound_45 : decode cX2_bound 45 = .ok (.aload_n 0, 1) := dk_42 (dk_at dksX2_bound_1 22 rfl rfl)
theorem dX2_bound_46 : decode cX2_bound 46 = .ok (.getfield 308, 3) := dk_180 1 52 (dk_at dksX2_bound_2 0 rfl rfl)
theorem dX2_bound_49 : decode cX2_bound 49 = .ok (.bipush 64, 2) := dk_16 64 (dk_at dksX2_bound_2 3 rfl rfl)
theorem dX2_bound_51 : decode cX2_bound 51 = .ok (.iload_n 1, 1) := dk_27 (dk_at dksX2_bound_2 5 rfl rfl)
theorem dX2_bound_52 : decode cX2_bound 52 = .ok (.imul, 1) := dk_104 (dk_at dksX2_bound_2 6 rfl rfl)
theorem dX2_bound_53 : decode cX2_bound 53 = .ok (.iload_n 2, 1) := dk_28 (dk_at dksX2_bound_2 7 rfl rfl)
theorem dX2_bound_54 : decode cX2_bound 54 = .ok (.iconst (-1), 1) := dk_2 (dk_at dksX2_bound_2 8 rfl rfl)
theorem dX2_bound_55 : decode cX2_bound 55 = .ok (.if_icmp .ne 8, 3) := dk_160 0 8 (dk_at dksX2_bound_2 9 rfl rfl)
theorem dX2_bound_58 : decode cX2_bound 58 = .ok (.bipush 60, 2) := dk_16 60 (dk_at dksX2_bound_2 12 rfl rfl)
theorem dX2_bound_60 : decode cX2_bound 60 = .ok (.goto 15, 3) := dk_167 0 15 (dk_at dksX2_bound_2 14 rfl rfl)
theorem dX2_bound_63 : decode cX2_bound 63 = .ok (.iload_n 2, 1) := dk_28 (dk_at dksX2_bound_2 17 rfl rfl)
theorem dX2_bound_64 : decode cX2_bound 64 = .ok (.bipush (-2), 2) := dk_16 254 (dk_at dksX2_bound_2 18 rfl rfl)
theorem dX2_bound_66 : decode cX2_bound 66 = .ok (.if_icmp .ne 8, 3) := dk_160 0 8 (dk_at dksX2_bound_2 20 rfl rfl)
theorem dX2_bound_69 : decode cX2_bound 69 = .ok (.bipush 61, 2) := dk_16 61 (dk_at dksX2_bound_3 0 rfl rfl)
theorem dX2_bound_71 : decode cX2_bound 71 = .ok (.goto 4, 3) := dk_167 0 4 (dk_at dksX2_bound_3 2 rfl rfl)
theorem dX2_bound_74 : decode cX2_bound 74 = .ok (.iload_n 2, 1) := dk_28 (dk_at dksX2_bound_3 5 rfl rfl)
theorem dX2_bound_75 : decode cX2_bound 75 = .ok (.iadd, 1) := dk_96 (dk_at dksX2_bound_3 6 rfl rfl)
theorem dX2_bound_76 : decode cX2_bound 76 = .ok (.iaload, 1) := dk_46 (dk_at dksX2_bound_3 7 rfl rfl)
theorem dX2_bound_77 : decode cX2_bound 77 = .ok (.istore_n 3, 1) := dk_62 (dk_at dksX2_bound_3 8 rfl rfl)
theorem dX2_bound_78 : decode cX2_bound 78 = .ok (.iload_n 3, 1) := dk_29 (dk_at dksX2_bound_3 9 rfl rfl)
theorem dX2_bound_79 : decode cX2_bound 79 = .ok (.ifCond .ge 6, 3) := dk_156 0 6 (dk_at dksX2_bound_3 10 rfl rfl)
theorem dX2_bound_82 : decode cX2_bound 82 = .ok (.bipush (-2), 2) := dk_16 254 (dk_at dksX2_bound_3 13 rfl rfl)
theorem dX2_bound_84 : decode cX2_bound 84 = .ok (.ireturn, 1) := dk_172 (dk_at dksX2_bound_3 15 rfl rfl)
theorem dX2_bound_85 : decode cX2_bound 85 = .ok (.aload_n 0, 1) := dk_42 (dk_at dksX2_bound_3 16 rfl rfl)
theorem dX2_bound_86 : decode cX2_bound 86 = .ok (.getfield 769, 3) := dk_180 3 1 (dk_at dksX2_bound_3 17 rfl rfl)
theorem dX2_bound_89 : decode cX2_bound 89 = .ok (.sipush 200, 3) := dk_17 0 200 (dk_at dksX2_bound_3 20 rfl rfl)
theorem dX2_bound_92 : decode cX2_bound 92 = .ok (.if_icmp .ne 8, 3) := dk_160 0 8 (dk_at dksX2_bound_4 0 rfl rfl)
theorem dX2_bound_95 : decode cX2_bound 95 = .ok (.bipush (-3), 2) := dk_16 253 (dk_at dksX2_bound_4 3 rfl rfl)
theorem dX2_bound_97 : decode cX2_bound 97 = .ok (.goto 8, 3) := dk_167 0 8 (dk_at dksX2_bound_4 5 rfl rfl)
theorem dX2_bound_100 : decode cX2_bound 100 = .ok (.aload_n 0, 1) := dk_42 (dk_at dksX2_bound_4 8 rfl rfl)
theorem dX2_bound_101 : decode cX2_bound 101 = .ok (.iload_n 3, 1) := dk_29 (dk_at dksX2_bound_4 9 rfl rfl)
theorem dX2_bound_102 : decode cX2_bound 102 = .ok (.invokevirtual 848, 3) := dk_182 3 80 (dk_at dksX2_bound_4 10 rfl rfl)
theorem dX2_bound_105 : decode cX2_bound 105 = .ok (.ireturn, 1) := dk_172 (dk_at dksX2_bound_4 13 rfl rfl)
abbrev cX2_reduce : ByteArray := prog_4_method_158_code
def yX2_reduce : MethodName := ⟨RX2, "reduce", "(I)I"⟩
def dkwX2_reduce_3 : List UInt8 := [182, 4, 49, 172]
abbrev dktX2_reduce_3 : List UInt8 := dkwX2_reduce_3 ++ []
def dkwX2_reduce_2 : List UInt8 := [180, 3, 202, 181, 3, 13, 42, 28, 182, 3, 80, 172, 77, 42, 42, 180, 3, 202, 181, 3, 13, 42]
abbrev dktX2_reduce_2 : List UInt8 := dkwX2_reduce_2 ++ dktX2_reduce_3
def dkwX2_reduce_1 : List UInt8 := [160, 0, 6, 16, 253, 172, 42, 182, 4, 43, 42, 42, 180, 0, 250, 27, 46, 3, 184, 3, 220, 61, 42, 42]
abbrev dktX2_reduce_1 : List UInt8 := dkwX2_reduce_1 ++ dktX2_reduce_2
def dkwX2_reduce_0 : List UInt8 := [42, 3, 181, 0, 1, 42, 27, 182, 3, 83, 153, 0, 5, 2, 172, 42, 180, 3, 1, 17, 0, 200]
abbrev dktX2_reduce_0 : List UInt8 := dkwX2_reduce_0 ++ dktX2_reduce_1
theorem dksX2_reduce_0 : cX2_reduce.data.toList.drop 0 = dktX2_reduce_0 := by decide +kernel
theorem dksX2_reduce_1 : cX2_reduce.data.toList.drop 22 = dktX2_reduce_1 := dk_seg dksX2_reduce_0 22 rfl rfl
theorem dksX2_reduce_2 : cX2_reduce.data.toList.drop 46 = dktX2_reduce_2 := dk_seg dksX2_reduce_1 24 rfl rfl
theorem dksX2_reduce_3 : cX2_reduce.data.toList.drop 68 = dktX2_reduce_3 := dk_seg dksX2_reduce_2 22 rfl rfl
theorem dX2_reduce_0 : decode cX2_reduce 0 = .ok (.aload_n 0, 1) := dk_42 (dk_at dksX2_reduce_0 0 rfl rfl)
theorem dX2_reduce_1 : decode cX2_reduce 1 = .ok (.iconst 0, 1) := dk_3 (dk_at dksX2_reduce_0 1 rfl rfl)
theorem dX2_reduce_2 : decode cX2_reduce 2 = .ok (.putfield 1, 3) := dk_181 0 1 (dk_at dksX2_reduce_0 2 rfl rfl)
theorem dX2_reduce_5 : decode cX2_reduce 5 = .ok (.aload_n 0, 1) := dk_42 (dk_at dksX2_reduce_0 5 rfl rfl)
theorem dX2_reduce_6 : decode cX2_reduce 6 = .ok (.iload_n 1, 1) := dk_27 (dk_at dksX2_reduce_0 6 rfl rfl)
theorem dX2_reduce_7 : decode cX2_reduce 7 = .ok (.invokevirtual 851, 3) := dk_182 3 83 (dk_at dksX2_reduce_0 7 rfl rfl)
theorem dX2_reduce_10 : decode cX2_reduce 10 = .ok (.ifCond .eq 5, 3) := dk_153 0 5 (dk_at dksX2_reduce_0 10 rfl rfl)
theorem dX2_reduce_13 : decode cX2_reduce 13 = .ok (.iconst (-1), 1) := dk_2 (dk_at dksX2_reduce_0 13 rfl rfl)
theorem dX2_reduce_14 : decode cX2_reduce 14 = .ok (.ireturn, 1) := dk_172 (dk_at dksX2_reduce_0 14 rfl rfl)
theorem dX2_reduce_15 : decode cX2_reduce 15 = .ok (.aload_n 0, 1) := dk_42 (dk_at dksX2_reduce_0 15 rfl rfl)
theorem dX2_reduce_16 : decode cX2_reduce 16 = .ok (.getfield 769, 3) := dk_180 3 1 (dk_at dksX2_reduce_0 16 rfl rfl)
theorem dX2_reduce_19 : decode cX2_reduce 19 = .ok (.sipush 200, 3) := dk_17 0 200 (dk_at dksX2_reduce_0 19 rfl rfl)
theorem dX2_reduce_22 : decode cX2_reduce 22 = .ok (.if_icmp .ne 6, 3) := dk_160 0 6 (dk_at dksX2_reduce_1 0 rfl rfl)
theorem dX2_reduce_25 : decode cX2_reduce 25 = .ok (.bipush (-3), 2) := dk_16 253 (dk_at dksX2_reduce_1 3 rfl rfl)
theorem dX2_reduce_27 : decode cX2_reduce 27 = .ok (.ireturn, 1) := dk_172 (dk_at dksX2_reduce_1 5 rfl rfl)
theorem dX2_reduce_28 : decode cX2_reduce 28 = .ok (.aload_n 0, 1) := dk_42 (dk_at dksX2_reduce_1 6 rfl rfl)
theorem dX2_reduce_29 : decode cX2_reduce 29 = .ok (.invokevirtual 1067, 3) := dk_182 4 43 (dk_at dksX2_reduce_1 7 rfl rfl)
theorem dX2_reduce_32 : decode cX2_reduce 32 = .ok (.aload_n 0, 1) := dk_42 (dk_at dksX2_reduce_1 10 rfl rfl)
theorem dX2_reduce_33 : decode cX2_reduce 33 = .ok (.aload_n 0, 1) := dk_42 (dk_at dksX2_reduce_1 11 rfl rfl)
theorem dX2_reduce_34 : decode cX2_reduce 34 = .ok (.getfield 250, 3) := dk_180 0 250 (dk_at dksX2_reduce_1 12 rfl rfl)
theorem dX2_reduce_37 : decode cX2_reduce 37 = .ok (.iload_n 1, 1) := dk_27 (dk_at dksX2_reduce_1 15 rfl rfl)
theorem dX2_reduce_38 : decode cX2_reduce 38 = .ok (.iaload, 1) := dk_46 (dk_at dksX2_reduce_1 16 rfl rfl)
theorem dX2_reduce_39 : decode cX2_reduce 39 = .ok (.iconst 0, 1) := dk_3 (dk_at dksX2_reduce_1 17 rfl rfl)
theorem dX2_reduce_40 : decode cX2_reduce 40 = .ok (.invokestatic 988, 3) := dk_184 3 220 (dk_at dksX2_reduce_1 18 rfl rfl)
theorem dX2_reduce_43 : decode cX2_reduce 43 = .ok (.istore_n 2, 1) := dk_61 (dk_at dksX2_reduce_1 21 rfl rfl)
theorem dX2_reduce_44 : decode cX2_reduce 44 = .ok (.aload_n 0, 1) := dk_42 (dk_at dksX2_reduce_1 22 rfl rfl)
theorem dX2_reduce_45 : decode cX2_reduce 45 = .ok (.aload_n 0, 1) := dk_42 (dk_at dksX2_reduce_1 23 rfl rfl)
theorem dX2_reduce_46 : decode cX2_reduce 46 = .ok (.getfield 970, 3) := dk_180 3 202 (dk_at dksX2_reduce_2 0 rfl rfl)
theorem dX2_reduce_49 : decode cX2_reduce 49 = .ok (.putfield 781, 3) := dk_181 3 13 (dk_at dksX2_reduce_2 3 rfl rfl)
theorem dX2_reduce_52 : decode cX2_reduce 52 = .ok (.aload_n 0, 1) := dk_42 (dk_at dksX2_reduce_2 6 rfl rfl)
theorem dX2_reduce_53 : decode cX2_reduce 53 = .ok (.iload_n 2, 1) := dk_28 (dk_at dksX2_reduce_2 7 rfl rfl)
theorem dX2_reduce_54 : decode cX2_reduce 54 = .ok (.invokevirtual 848, 3) := dk_182 3 80 (dk_at dksX2_reduce_2 8 rfl rfl)
theorem dX2_reduce_57 : decode cX2_reduce 57 = .ok (.ireturn, 1) := dk_172 (dk_at dksX2_reduce_2 11 rfl rfl)
theorem dX2_reduce_58 : decode cX2_reduce 58 = .ok (.astore_n 2, 1) := dk_77 (dk_at dksX2_reduce_2 12 rfl rfl)
theorem dX2_reduce_59 : decode cX2_reduce 59 = .ok (.aload_n 0, 1) := dk_42 (dk_at dksX2_reduce_2 13 rfl rfl)
theorem dX2_reduce_60 : decode cX2_reduce 60 = .ok (.aload_n 0, 1) := dk_42 (dk_at dksX2_reduce_2 14 rfl rfl)
theorem dX2_reduce_61 : decode cX2_reduce 61 = .ok (.getfield 970, 3) := dk_180 3 202 (dk_at dksX2_reduce_2 15 rfl rfl)
theorem dX2_reduce_64 : decode cX2_reduce 64 = .ok (.putfield 781, 3) := dk_181 3 13 (dk_at dksX2_reduce_2 18 rfl rfl)
theorem dX2_reduce_67 : decode cX2_reduce 67 = .ok (.aload_n 0, 1) := dk_42 (dk_at dksX2_reduce_2 21 rfl rfl)
theorem dX2_reduce_68 : decode cX2_reduce 68 = .ok (.invokevirtual 1073, 3) := dk_182 4 49 (dk_at dksX2_reduce_3 0 rfl rfl)
theorem dX2_reduce_71 : decode cX2_reduce 71 = .ok (.ireturn, 1) := dk_172 (dk_at dksX2_reduce_3 3 rfl rfl)
abbrev cX2_reduced : ByteArray := prog_4_method_136_code
def yX2_reduced : MethodName := ⟨RX2, "reduced", "(LRewriteHouseModel;II)I"⟩
def dkwX2_reduced_10 : List UInt8 := [180, 1, 33, 42, 180, 3, 205, 46, 21, 5, 182, 3, 217, 167, 255, 223, 21, 5, 172]
abbrev dktX2_reduced_10 : List UInt8 := dkwX2_reduced_10 ++ []
def dkwX2_reduced_9 : List UInt8 := [167, 255, 69, 42, 180, 3, 205, 29, 164, 0, 31, 42, 89, 180, 3, 205, 4, 100, 181, 3, 205, 42, 42]
abbrev dktX2_reduced_9 : List UInt8 := dkwX2_reduced_9 ++ dktX2_reduced_10
def dkwX2_reduced_8 : List UInt8 := [28, 184, 3, 214, 54, 7, 21, 7, 156, 0, 8, 21, 6, 167, 0, 4, 2, 54, 5, 21, 7, 54, 4]
abbrev dktX2_reduced_8 : List UInt8 := dkwX2_reduced_8 ++ dktX2_reduced_9
def dkwX2_reduced_7 : List UInt8 := [42, 180, 1, 33, 42, 180, 3, 205, 21, 6, 79, 42, 89, 180, 3, 205, 4, 96, 181, 3, 205, 42, 21, 6]
abbrev dktX2_reduced_7 : List UInt8 := dkwX2_reduced_7 ++ dktX2_reduced_8
def dkwX2_reduced_6 : List UInt8 := [182, 3, 208, 155, 0, 14, 42, 21, 6, 182, 3, 208, 54, 5, 167, 0, 57, 21, 6, 21, 4, 159, 0, 24]
abbrev dktX2_reduced_6 : List UInt8 := dkwX2_reduced_6 ++ dktX2_reduced_7
def dkwX2_reduced_5 : List UInt8 := [182, 2, 185, 153, 0, 10, 21, 6, 54, 5, 167, 0, 84, 21, 6, 21, 4, 159, 0, 23, 42, 21, 6]
abbrev dktX2_reduced_5 : List UInt8 := dkwX2_reduced_5 ++ dktX2_reduced_6
def dkwX2_reduced_4 : List UInt8 := [181, 3, 205, 42, 21, 4, 28, 184, 3, 211, 54, 6, 21, 6, 21, 4, 159, 0, 19, 42, 21, 6]
abbrev dktX2_reduced_4 : List UInt8 := dkwX2_reduced_4 ++ dktX2_reduced_5
def dkwX2_reduced_3 : List UInt8 := [8, 3, 182, 1, 178, 42, 180, 1, 33, 42, 180, 3, 205, 21, 4, 79, 42, 89, 180, 3, 205, 4, 96]
abbrev dktX2_reduced_3 : List UInt8 := dkwX2_reduced_3 ++ dktX2_reduced_4
def dkwX2_reduced_2 : List UInt8 := [182, 3, 208, 155, 0, 14, 42, 21, 4, 182, 3, 208, 54, 5, 167, 255, 218, 28, 16, 60, 164, 0, 9, 42]
abbrev dktX2_reduced_2 : List UInt8 := dkwX2_reduced_2 ++ dktX2_reduced_3
def dkwX2_reduced_1 : List UInt8 := [156, 0, 188, 42, 21, 4, 182, 2, 185, 153, 0, 10, 21, 4, 54, 5, 167, 255, 238, 42, 21, 4]
abbrev dktX2_reduced_1 : List UInt8 := dkwX2_reduced_1 ++ dktX2_reduced_2
def dkwX2_reduced_0 : List UInt8 := [42, 27, 182, 2, 185, 153, 0, 5, 27, 172, 42, 180, 3, 205, 62, 27, 54, 4, 2, 54, 5, 21, 5]
abbrev dktX2_reduced_0 : List UInt8 := dkwX2_reduced_0 ++ dktX2_reduced_1
theorem dksX2_reduced_0 : cX2_reduced.data.toList.drop 0 = dktX2_reduced_0 := by decide +kernel
theorem dksX2_reduced_1 : cX2_reduced.data.toList.drop 23 = dktX2_reduced_1 := dk_seg dksX2_reduced_0 23 rfl rfl
theorem dksX2_reduced_2 : cX2_reduced.data.toList.drop 45 = dktX2_reduced_2 := dk_seg dksX2_reduced_1 22 rfl rfl
theorem dksX2_reduced_3 : cX2_reduced.data.toList.drop 69 = dktX2_reduced_3 := dk_seg dksX2_reduced_2 24 rfl rfl
theorem dksX2_reduced_4 : cX2_reduced.data.toList.drop 92 = dktX2_reduced_4 := dk_seg dksX2_reduced_3 23 rfl rfl
theorem dksX2_reduced_5 : cX2_reduced.data.toList.drop 114 = dktX2_reduced_5 := dk_seg dksX2_reduced_4 22 rfl rfl
theorem dksX2_reduced_6 : cX2_reduced.data.toList.drop 137 = dktX2_reduced_6 := dk_seg dksX2_reduced_5 23 rfl rfl
theorem dksX2_reduced_7 : cX2_reduced.data.toList.drop 161 = dktX2_reduced_7 := dk_seg dksX2_reduced_6 24 rfl rfl
theorem dksX2_reduced_8 : cX2_reduced.data.toList.drop 185 = dktX2_reduced_8 := dk_seg dksX2_reduced_7 24 rfl rfl
theorem dksX2_reduced_9 : cX2_reduced.data.toList.drop 208 = dktX2_reduced_9 := dk_seg dksX2_reduced_8 23 rfl rfl
theorem dksX2_reduced_10 : cX2_reduced.data.toList.drop 231 = dktX2_reduced_10 := dk_seg dksX2_reduced_9 23 rfl rfl
theorem dX2_reduced_0 : decode cX2_reduced 0 = .ok (.aload_n 0, 1) := dk_42 (dk_at dksX2_reduced_0 0 rfl rfl)
theorem dX2_reduced_1 : decode cX2_reduced 1 = .ok (.iload_n 1, 1) := dk_27 (dk_at dksX2_reduced_0 1 rfl rfl)
theorem dX2_reduced_2 : decode cX2_reduced 2 = .ok (.invokevirtual 697, 3) := dk_182 2 185 (dk_at dksX2_reduced_0 2 rfl rfl)
theorem dX2_reduced_5 : decode cX2_reduced 5 = .ok (.ifCond .eq 5, 3) := dk_153 0 5 (dk_at dksX2_reduced_0 5 rfl rfl)
theorem dX2_reduced_8 : decode cX2_reduced 8 = .ok (.iload_n 1, 1) := dk_27 (dk_at dksX2_reduced_0 8 rfl rfl)
theorem dX2_reduced_9 : decode cX2_reduced 9 = .ok (.ireturn, 1) := dk_172 (dk_at dksX2_reduced_0 9 rfl rfl)
theorem dX2_reduced_10 : decode cX2_reduced 10 = .ok (.aload_n 0, 1) := dk_42 (dk_at dksX2_reduced_0 10 rfl rfl)
theorem dX2_reduced_11 : decode cX2_reduced 11 = .ok (.getfield 973, 3) := dk_180 3 205 (dk_at dksX2_reduced_0 11 rfl rfl)
theorem dX2_reduced_14 : decode cX2_reduced 14 = .ok (.istore_n 3, 1) := dk_62 (dk_at dksX2_reduced_0 14 rfl rfl)
theorem dX2_reduced_15 : decode cX2_reduced 15 = .ok (.iload_n 1, 1) := dk_27 (dk_at dksX2_reduced_0 15 rfl rfl)
theorem dX2_reduced_16 : decode cX2_reduced 16 = .ok (.istore 4, 2) := dk_54 4 (dk_at dksX2_reduced_0 16 rfl rfl)
theorem dX2_reduced_18 : decode cX2_reduced 18 = .ok (.iconst (-1), 1) := dk_2 (dk_at dksX2_reduced_0 18 rfl rfl)
theorem dX2_reduced_19 : decode cX2_reduced 19 = .ok (.istore 5, 2) := dk_54 5 (dk_at dksX2_reduced_0 19 rfl rfl)
theorem dX2_reduced_21 : decode cX2_reduced 21 = .ok (.iload 5, 2) := dk_21 5 (dk_at dksX2_reduced_0 21 rfl rfl)
theorem dX2_reduced_23 : decode cX2_reduced 23 = .ok (.ifCond .ge 188, 3) := dk_156 0 188 (dk_at dksX2_reduced_1 0 rfl rfl)
theorem dX2_reduced_26 : decode cX2_reduced 26 = .ok (.aload_n 0, 1) := dk_42 (dk_at dksX2_reduced_1 3 rfl rfl)
theorem dX2_reduced_27 : decode cX2_reduced 27 = .ok (.iload 4, 2) := dk_21 4 (dk_at dksX2_reduced_1 4 rfl rfl)
theorem dX2_reduced_29 : decode cX2_reduced 29 = .ok (.invokevirtual 697, 3) := dk_182 2 185 (dk_at dksX2_reduced_1 6 rfl rfl)
theorem dX2_reduced_32 : decode cX2_reduced 32 = .ok (.ifCond .eq 10, 3) := dk_153 0 10 (dk_at dksX2_reduced_1 9 rfl rfl)
theorem dX2_reduced_35 : decode cX2_reduced 35 = .ok (.iload 4, 2) := dk_21 4 (dk_at dksX2_reduced_1 12 rfl rfl)
theorem dX2_reduced_37 : decode cX2_reduced 37 = .ok (.istore 5, 2) := dk_54 5 (dk_at dksX2_reduced_1 14 rfl rfl)
theorem dX2_reduced_39 : decode cX2_reduced 39 = .ok (.goto (-18), 3) := dk_167 255 238 (dk_at dksX2_reduced_1 16 rfl rfl)
theorem dX2_reduced_42 : decode cX2_reduced 42 = .ok (.aload_n 0, 1) := dk_42 (dk_at dksX2_reduced_1 19 rfl rfl)
theorem dX2_reduced_43 : decode cX2_reduced 43 = .ok (.iload 4, 2) := dk_21 4 (dk_at dksX2_reduced_1 20 rfl rfl)
theorem dX2_reduced_45 : decode cX2_reduced 45 = .ok (.invokevirtual 976, 3) := dk_182 3 208 (dk_at dksX2_reduced_2 0 rfl rfl)
theorem dX2_reduced_48 : decode cX2_reduced 48 = .ok (.ifCond .lt 14, 3) := dk_155 0 14 (dk_at dksX2_reduced_2 3 rfl rfl)
theorem dX2_reduced_51 : decode cX2_reduced 51 = .ok (.aload_n 0, 1) := dk_42 (dk_at dksX2_reduced_2 6 rfl rfl)
theorem dX2_reduced_52 : decode cX2_reduced 52 = .ok (.iload 4, 2) := dk_21 4 (dk_at dksX2_reduced_2 7 rfl rfl)
theorem dX2_reduced_54 : decode cX2_reduced 54 = .ok (.invokevirtual 976, 3) := dk_182 3 208 (dk_at dksX2_reduced_2 9 rfl rfl)
theorem dX2_reduced_57 : decode cX2_reduced 57 = .ok (.istore 5, 2) := dk_54 5 (dk_at dksX2_reduced_2 12 rfl rfl)
theorem dX2_reduced_59 : decode cX2_reduced 59 = .ok (.goto (-38), 3) := dk_167 255 218 (dk_at dksX2_reduced_2 14 rfl rfl)
theorem dX2_reduced_62 : decode cX2_reduced 62 = .ok (.iload_n 2, 1) := dk_28 (dk_at dksX2_reduced_2 17 rfl rfl)
theorem dX2_reduced_63 : decode cX2_reduced 63 = .ok (.bipush 60, 2) := dk_16 60 (dk_at dksX2_reduced_2 18 rfl rfl)
theorem dX2_reduced_65 : decode cX2_reduced 65 = .ok (.if_icmp .le 9, 3) := dk_164 0 9 (dk_at dksX2_reduced_2 20 rfl rfl)
theorem dX2_reduced_68 : decode cX2_reduced 68 = .ok (.aload_n 0, 1) := dk_42 (dk_at dksX2_reduced_2 23 rfl rfl)
theorem dX2_reduced_69 : decode cX2_reduced 69 = .ok (.iconst 5, 1) := dk_8 (dk_at dksX2_reduced_3 0 rfl rfl)
theorem dX2_reduced_70 : decode cX2_reduced 70 = .ok (.iconst 0, 1) := dk_3 (dk_at dksX2_reduced_3 1 rfl rfl)
theorem dX2_reduced_71 : decode cX2_reduced 71 = .ok (.invokevirtual 434, 3) := dk_182 1 178 (dk_at dksX2_reduced_3 2 rfl rfl)
theorem dX2_reduced_74 : decode cX2_reduced 74 = .ok (.aload_n 0, 1) := dk_42 (dk_at dksX2_reduced_3 5 rfl rfl)
theorem dX2_reduced_75 : decode cX2_reduced 75 = .ok (.getfield 289, 3) := dk_180 1 33 (dk_at dksX2_reduced_3 6 rfl rfl)
theorem dX2_reduced_78 : decode cX2_reduced 78 = .ok (.aload_n 0, 1) := dk_42 (dk_at dksX2_reduced_3 9 rfl rfl)
theorem dX2_reduced_79 : decode cX2_reduced 79 = .ok (.getfield 973, 3) := dk_180 3 205 (dk_at dksX2_reduced_3 10 rfl rfl)
theorem dX2_reduced_82 : decode cX2_reduced 82 = .ok (.iload 4, 2) := dk_21 4 (dk_at dksX2_reduced_3 13 rfl rfl)
theorem dX2_reduced_84 : decode cX2_reduced 84 = .ok (.iastore, 1) := dk_79 (dk_at dksX2_reduced_3 15 rfl rfl)
theorem dX2_reduced_85 : decode cX2_reduced 85 = .ok (.aload_n 0, 1) := dk_42 (dk_at dksX2_reduced_3 16 rfl rfl)
theorem dX2_reduced_86 : decode cX2_reduced 86 = .ok (.dup, 1) := dk_89 (dk_at dksX2_reduced_3 17 rfl rfl)
theorem dX2_reduced_87 : decode cX2_reduced 87 = .ok (.getfield 973, 3) := dk_180 3 205 (dk_at dksX2_reduced_3 18 rfl rfl)
theorem dX2_reduced_90 : decode cX2_reduced 90 = .ok (.iconst 1, 1) := dk_4 (dk_at dksX2_reduced_3 21 rfl rfl)
theorem dX2_reduced_91 : decode cX2_reduced 91 = .ok (.iadd, 1) := dk_96 (dk_at dksX2_reduced_3 22 rfl rfl)
theorem dX2_reduced_92 : decode cX2_reduced 92 = .ok (.putfield 973, 3) := dk_181 3 205 (dk_at dksX2_reduced_4 0 rfl rfl)
theorem dX2_reduced_95 : decode cX2_reduced 95 = .ok (.aload_n 0, 1) := dk_42 (dk_at dksX2_reduced_4 3 rfl rfl)
theorem dX2_reduced_96 : decode cX2_reduced 96 = .ok (.iload 4, 2) := dk_21 4 (dk_at dksX2_reduced_4 4 rfl rfl)
theorem dX2_reduced_98 : decode cX2_reduced 98 = .ok (.iload_n 2, 1) := dk_28 (dk_at dksX2_reduced_4 6 rfl rfl)
theorem dX2_reduced_99 : decode cX2_reduced 99 = .ok (.invokestatic 979, 3) := dk_184 3 211 (dk_at dksX2_reduced_4 7 rfl rfl)
theorem dX2_reduced_102 : decode cX2_reduced 102 = .ok (.istore 6, 2) := dk_54 6 (dk_at dksX2_reduced_4 10 rfl rfl)
theorem dX2_reduced_104 : decode cX2_reduced 104 = .ok (.iload 6, 2) := dk_21 6 (dk_at dksX2_reduced_4 12 rfl rfl)
theorem dX2_reduced_106 : decode cX2_reduced 106 = .ok (.iload 4, 2) := dk_21 4 (dk_at dksX2_reduced_4 14 rfl rfl)
theorem dX2_reduced_108 : decode cX2_reduced 108 = .ok (.if_icmp .eq 19, 3) := dk_159 0 19 (dk_at dksX2_reduced_4 16 rfl rfl)
theorem dX2_reduced_111 : decode cX2_reduced 111 = .ok (.aload_n 0, 1) := dk_42 (dk_at dksX2_reduced_4 19 rfl rfl)
theorem dX2_reduced_112 : decode cX2_reduced 112 = .ok (.iload 6, 2) := dk_21 6 (dk_at dksX2_reduced_4 20 rfl rfl)
theorem dX2_reduced_114 : decode cX2_reduced 114 = .ok (.invokevirtual 697, 3) := dk_182 2 185 (dk_at dksX2_reduced_5 0 rfl rfl)
theorem dX2_reduced_117 : decode cX2_reduced 117 = .ok (.ifCond .eq 10, 3) := dk_153 0 10 (dk_at dksX2_reduced_5 3 rfl rfl)
theorem dX2_reduced_120 : decode cX2_reduced 120 = .ok (.iload 6, 2) := dk_21 6 (dk_at dksX2_reduced_5 6 rfl rfl)
theorem dX2_reduced_122 : decode cX2_reduced 122 = .ok (.istore 5, 2) := dk_54 5 (dk_at dksX2_reduced_5 8 rfl rfl)
theorem dX2_reduced_124 : decode cX2_reduced 124 = .ok (.goto 84, 3) := dk_167 0 84 (dk_at dksX2_reduced_5 10 rfl rfl)
theorem dX2_reduced_127 : decode cX2_reduced 127 = .ok (.iload 6, 2) := dk_21 6 (dk_at dksX2_reduced_5 13 rfl rfl)
theorem dX2_reduced_129 : decode cX2_reduced 129 = .ok (.iload 4, 2) := dk_21 4 (dk_at dksX2_reduced_5 15 rfl rfl)
theorem dX2_reduced_131 : decode cX2_reduced 131 = .ok (.if_icmp .eq 23, 3) := dk_159 0 23 (dk_at dksX2_reduced_5 17 rfl rfl)
theorem dX2_reduced_134 : decode cX2_reduced 134 = .ok (.aload_n 0, 1) := dk_42 (dk_at dksX2_reduced_5 20 rfl rfl)
theorem dX2_reduced_135 : decode cX2_reduced 135 = .ok (.iload 6, 2) := dk_21 6 (dk_at dksX2_reduced_5 21 rfl rfl)
theorem dX2_reduced_137 : decode cX2_reduced 137 = .ok (.invokevirtual 976, 3) := dk_182 3 208 (dk_at dksX2_reduced_6 0 rfl rfl)
theorem dX2_reduced_140 : decode cX2_reduced 140 = .ok (.ifCond .lt 14, 3) := dk_155 0 14 (dk_at dksX2_reduced_6 3 rfl rfl)
theorem dX2_reduced_143 : decode cX2_reduced 143 = .ok (.aload_n 0, 1) := dk_42 (dk_at dksX2_reduced_6 6 rfl rfl)
theorem dX2_reduced_144 : decode cX2_reduced 144 = .ok (.iload 6, 2) := dk_21 6 (dk_at dksX2_reduced_6 7 rfl rfl)
theorem dX2_reduced_146 : decode cX2_reduced 146 = .ok (.invokevirtual 976, 3) := dk_182 3 208 (dk_at dksX2_reduced_6 9 rfl rfl)
theorem dX2_reduced_149 : decode cX2_reduced 149 = .ok (.istore 5, 2) := dk_54 5 (dk_at dksX2_reduced_6 12 rfl rfl)
theorem dX2_reduced_151 : decode cX2_reduced 151 = .ok (.goto 57, 3) := dk_167 0 57 (dk_at dksX2_reduced_6 14 rfl rfl)
theorem dX2_reduced_154 : decode cX2_reduced 154 = .ok (.iload 6, 2) := dk_21 6 (dk_at dksX2_reduced_6 17 rfl rfl)
theorem dX2_reduced_156 : decode cX2_reduced 156 = .ok (.iload 4, 2) := dk_21 4 (dk_at dksX2_reduced_6 19 rfl rfl)
theorem dX2_reduced_158 : decode cX2_reduced 158 = .ok (.if_icmp .eq 24, 3) := dk_159 0 24 (dk_at dksX2_reduced_6 21 rfl rfl)
theorem dX2_reduced_161 : decode cX2_reduced 161 = .ok (.aload_n 0, 1) := dk_42 (dk_at dksX2_reduced_7 0 rfl rfl)
theorem dX2_reduced_162 : decode cX2_reduced 162 = .ok (.getfield 289, 3) := dk_180 1 33 (dk_at dksX2_reduced_7 1 rfl rfl)
theorem dX2_reduced_165 : decode cX2_reduced 165 = .ok (.aload_n 0, 1) := dk_42 (dk_at dksX2_reduced_7 4 rfl rfl)
theorem dX2_reduced_166 : decode cX2_reduced 166 = .ok (.getfield 973, 3) := dk_180 3 205 (dk_at dksX2_reduced_7 5 rfl rfl)
theorem dX2_reduced_169 : decode cX2_reduced 169 = .ok (.iload 6, 2) := dk_21 6 (dk_at dksX2_reduced_7 8 rfl rfl)
theorem dX2_reduced_171 : decode cX2_reduced 171 = .ok (.iastore, 1) := dk_79 (dk_at dksX2_reduced_7 10 rfl rfl)
theorem dX2_reduced_172 : decode cX2_reduced 172 = .ok (.aload_n 0, 1) := dk_42 (dk_at dksX2_reduced_7 11 rfl rfl)
theorem dX2_reduced_173 : decode cX2_reduced 173 = .ok (.dup, 1) := dk_89 (dk_at dksX2_reduced_7 12 rfl rfl)
theorem dX2_reduced_174 : decode cX2_reduced 174 = .ok (.getfield 973, 3) := dk_180 3 205 (dk_at dksX2_reduced_7 13 rfl rfl)
theorem dX2_reduced_177 : decode cX2_reduced 177 = .ok (.iconst 1, 1) := dk_4 (dk_at dksX2_reduced_7 16 rfl rfl)
theorem dX2_reduced_178 : decode cX2_reduced 178 = .ok (.iadd, 1) := dk_96 (dk_at dksX2_reduced_7 17 rfl rfl)
theorem dX2_reduced_179 : decode cX2_reduced 179 = .ok (.putfield 973, 3) := dk_181 3 205 (dk_at dksX2_reduced_7 18 rfl rfl)
theorem dX2_reduced_182 : decode cX2_reduced 182 = .ok (.aload_n 0, 1) := dk_42 (dk_at dksX2_reduced_7 21 rfl rfl)
theorem dX2_reduced_183 : decode cX2_reduced 183 = .ok (.iload 6, 2) := dk_21 6 (dk_at dksX2_reduced_7 22 rfl rfl)
theorem dX2_reduced_185 : decode cX2_reduced 185 = .ok (.iload_n 2, 1) := dk_28 (dk_at dksX2_reduced_8 0 rfl rfl)
theorem dX2_reduced_186 : decode cX2_reduced 186 = .ok (.invokestatic 982, 3) := dk_184 3 214 (dk_at dksX2_reduced_8 1 rfl rfl)
theorem dX2_reduced_189 : decode cX2_reduced 189 = .ok (.istore 7, 2) := dk_54 7 (dk_at dksX2_reduced_8 4 rfl rfl)
theorem dX2_reduced_191 : decode cX2_reduced 191 = .ok (.iload 7, 2) := dk_21 7 (dk_at dksX2_reduced_8 6 rfl rfl)
theorem dX2_reduced_193 : decode cX2_reduced 193 = .ok (.ifCond .ge 8, 3) := dk_156 0 8 (dk_at dksX2_reduced_8 8 rfl rfl)
theorem dX2_reduced_196 : decode cX2_reduced 196 = .ok (.iload 6, 2) := dk_21 6 (dk_at dksX2_reduced_8 11 rfl rfl)
theorem dX2_reduced_198 : decode cX2_reduced 198 = .ok (.goto 4, 3) := dk_167 0 4 (dk_at dksX2_reduced_8 13 rfl rfl)
theorem dX2_reduced_201 : decode cX2_reduced 201 = .ok (.iconst (-1), 1) := dk_2 (dk_at dksX2_reduced_8 16 rfl rfl)
theorem dX2_reduced_202 : decode cX2_reduced 202 = .ok (.istore 5, 2) := dk_54 5 (dk_at dksX2_reduced_8 17 rfl rfl)
theorem dX2_reduced_204 : decode cX2_reduced 204 = .ok (.iload 7, 2) := dk_21 7 (dk_at dksX2_reduced_8 19 rfl rfl)
theorem dX2_reduced_206 : decode cX2_reduced 206 = .ok (.istore 4, 2) := dk_54 4 (dk_at dksX2_reduced_8 21 rfl rfl)
theorem dX2_reduced_208 : decode cX2_reduced 208 = .ok (.goto (-187), 3) := dk_167 255 69 (dk_at dksX2_reduced_9 0 rfl rfl)
theorem dX2_reduced_211 : decode cX2_reduced 211 = .ok (.aload_n 0, 1) := dk_42 (dk_at dksX2_reduced_9 3 rfl rfl)
theorem dX2_reduced_212 : decode cX2_reduced 212 = .ok (.getfield 973, 3) := dk_180 3 205 (dk_at dksX2_reduced_9 4 rfl rfl)
theorem dX2_reduced_215 : decode cX2_reduced 215 = .ok (.iload_n 3, 1) := dk_29 (dk_at dksX2_reduced_9 7 rfl rfl)
theorem dX2_reduced_216 : decode cX2_reduced 216 = .ok (.if_icmp .le 31, 3) := dk_164 0 31 (dk_at dksX2_reduced_9 8 rfl rfl)
theorem dX2_reduced_219 : decode cX2_reduced 219 = .ok (.aload_n 0, 1) := dk_42 (dk_at dksX2_reduced_9 11 rfl rfl)
theorem dX2_reduced_220 : decode cX2_reduced 220 = .ok (.dup, 1) := dk_89 (dk_at dksX2_reduced_9 12 rfl rfl)
theorem dX2_reduced_221 : decode cX2_reduced 221 = .ok (.getfield 973, 3) := dk_180 3 205 (dk_at dksX2_reduced_9 13 rfl rfl)
theorem dX2_reduced_224 : decode cX2_reduced 224 = .ok (.iconst 1, 1) := dk_4 (dk_at dksX2_reduced_9 16 rfl rfl)
theorem dX2_reduced_225 : decode cX2_reduced 225 = .ok (.isub, 1) := dk_100 (dk_at dksX2_reduced_9 17 rfl rfl)
theorem dX2_reduced_226 : decode cX2_reduced 226 = .ok (.putfield 973, 3) := dk_181 3 205 (dk_at dksX2_reduced_9 18 rfl rfl)
theorem dX2_reduced_229 : decode cX2_reduced 229 = .ok (.aload_n 0, 1) := dk_42 (dk_at dksX2_reduced_9 21 rfl rfl)
theorem dX2_reduced_230 : decode cX2_reduced 230 = .ok (.aload_n 0, 1) := dk_42 (dk_at dksX2_reduced_9 22 rfl rfl)
theorem dX2_reduced_231 : decode cX2_reduced 231 = .ok (.getfield 289, 3) := dk_180 1 33 (dk_at dksX2_reduced_10 0 rfl rfl)
theorem dX2_reduced_234 : decode cX2_reduced 234 = .ok (.aload_n 0, 1) := dk_42 (dk_at dksX2_reduced_10 3 rfl rfl)
theorem dX2_reduced_235 : decode cX2_reduced 235 = .ok (.getfield 973, 3) := dk_180 3 205 (dk_at dksX2_reduced_10 4 rfl rfl)
theorem dX2_reduced_238 : decode cX2_reduced 238 = .ok (.iaload, 1) := dk_46 (dk_at dksX2_reduced_10 7 rfl rfl)
theorem dX2_reduced_239 : decode cX2_reduced 239 = .ok (.iload 5, 2) := dk_21 5 (dk_at dksX2_reduced_10 8 rfl rfl)
theorem dX2_reduced_241 : decode cX2_reduced 241 = .ok (.invokevirtual 985, 3) := dk_182 3 217 (dk_at dksX2_reduced_10 10 rfl rfl)
theorem dX2_reduced_244 : decode cX2_reduced 244 = .ok (.goto (-33), 3) := dk_167 255 223 (dk_at dksX2_reduced_10 13 rfl rfl)
theorem dX2_reduced_247 : decode cX2_reduced 247 = .ok (.iload 5, 2) := dk_21 5 (dk_at dksX2_reduced_10 16 rfl rfl)
theorem dX2_reduced_249 : decode cX2_reduced 249 = .ok (.ireturn, 1) := dk_172 (dk_at dksX2_reduced_10 18 rfl rfl)
abbrev cX2_memo : ByteArray := prog_4_method_134_code
def yX2_memo : MethodName := ⟨RX2, "memo", "(I)I"⟩
def dkwX2_memo_0 : List UInt8 := [42, 180, 0, 202, 27, 46, 42, 180, 1, 25, 160, 0, 12, 42, 180, 0, 199, 27, 46, 167, 0, 4, 2, 172]
abbrev dktX2_memo_0 : List UInt8 := dkwX2_memo_0 ++ []
theorem dksX2_memo_0 : cX2_memo.data.toList.drop 0 = dktX2_memo_0 := by decide +kernel
theorem dX2_memo_0 : decode cX2_memo 0 = .ok (.aload_n 0, 1) := dk_42 (dk_at dksX2_memo_0 0 rfl rfl)
theorem dX2_memo_1 : decode cX2_memo 1 = .ok (.getfield 202, 3) := dk_180 0 202 (dk_at dksX2_memo_0 1 rfl rfl)
theorem dX2_memo_4 : decode cX2_memo 4 = .ok (.iload_n 1, 1) := dk_27 (dk_at dksX2_memo_0 4 rfl rfl)
theorem dX2_memo_5 : decode cX2_memo 5 = .ok (.iaload, 1) := dk_46 (dk_at dksX2_memo_0 5 rfl rfl)
theorem dX2_memo_6 : decode cX2_memo 6 = .ok (.aload_n 0, 1) := dk_42 (dk_at dksX2_memo_0 6 rfl rfl)
theorem dX2_memo_7 : decode cX2_memo 7 = .ok (.getfield 281, 3) := dk_180 1 25 (dk_at dksX2_memo_0 7 rfl rfl)
theorem dX2_memo_10 : decode cX2_memo 10 = .ok (.if_icmp .ne 12, 3) := dk_160 0 12 (dk_at dksX2_memo_0 10 rfl rfl)
theorem dX2_memo_13 : decode cX2_memo 13 = .ok (.aload_n 0, 1) := dk_42 (dk_at dksX2_memo_0 13 rfl rfl)
theorem dX2_memo_14 : decode cX2_memo 14 = .ok (.getfield 199, 3) := dk_180 0 199 (dk_at dksX2_memo_0 14 rfl rfl)
theorem dX2_memo_17 : decode cX2_memo 17 = .ok (.iload_n 1, 1) := dk_27 (dk_at dksX2_memo_0 17 rfl rfl)
theorem dX2_memo_18 : decode cX2_memo 18 = .ok (.iaload, 1) := dk_46 (dk_at dksX2_memo_0 18 rfl rfl)
theorem dX2_memo_19 : decode cX2_memo 19 = .ok (.goto 4, 3) := dk_167 0 4 (dk_at dksX2_memo_0 19 rfl rfl)
theorem dX2_memo_22 : decode cX2_memo 22 = .ok (.iconst (-1), 1) := dk_2 (dk_at dksX2_memo_0 22 rfl rfl)
theorem dX2_memo_23 : decode cX2_memo 23 = .ok (.ireturn, 1) := dk_172 (dk_at dksX2_memo_0 23 rfl rfl)
abbrev cX2_reduceRow : ByteArray := prog_4_method_137_code
def yX2_reduceRow : MethodName := ⟨RX2, "reduceRow", "(LRewriteHouseModel;II)I"⟩
def dkwX2_reduceRow_3 : List UInt8 := [54, 4, 42, 180, 0, 190, 21, 4, 46, 16, 40, 164, 0, 10, 42, 16, 6, 3, 182, 1, 178, 21, 4, 172]
abbrev dktX2_reduceRow_3 : List UInt8 := dkwX2_reduceRow_3 ++ []
def dkwX2_reduceRow_2 : List UInt8 := [42, 21, 5, 182, 2, 245, 132, 4, 1, 167, 255, 220, 42, 42, 180, 0, 181, 27, 46, 29, 182, 2, 248]
abbrev dktX2_reduceRow_2 : List UInt8 := dkwX2_reduceRow_2 ++ dktX2_reduceRow_3
def dkwX2_reduceRow_1 : List UInt8 := [180, 0, 187, 27, 46, 162, 0, 31, 42, 42, 27, 21, 4, 182, 2, 179, 28, 4, 96, 184, 3, 220, 54, 5]
abbrev dktX2_reduceRow_1 : List UInt8 := dkwX2_reduceRow_1 ++ dktX2_reduceRow_2
def dkwX2_reduceRow_0 : List UInt8 := [42, 180, 0, 187, 27, 46, 154, 0, 5, 27, 172, 42, 180, 2, 195, 62, 3, 54, 4, 21, 4, 42]
abbrev dktX2_reduceRow_0 : List UInt8 := dkwX2_reduceRow_0 ++ dktX2_reduceRow_1
theorem dksX2_reduceRow_0 : cX2_reduceRow.data.toList.drop 0 = dktX2_reduceRow_0 := by decide +kernel
theorem dksX2_reduceRow_1 : cX2_reduceRow.data.toList.drop 22 = dktX2_reduceRow_1 := dk_seg dksX2_reduceRow_0 22 rfl rfl
theorem dksX2_reduceRow_2 : cX2_reduceRow.data.toList.drop 46 = dktX2_reduceRow_2 := dk_seg dksX2_reduceRow_1 24 rfl rfl
theorem dksX2_reduceRow_3 : cX2_reduceRow.data.toList.drop 69 = dktX2_reduceRow_3 := dk_seg dksX2_reduceRow_2 23 rfl rfl
theorem dX2_reduceRow_0 : decode cX2_reduceRow 0 = .ok (.aload_n 0, 1) := dk_42 (dk_at dksX2_reduceRow_0 0 rfl rfl)
theorem dX2_reduceRow_1 : decode cX2_reduceRow 1 = .ok (.getfield 187, 3) := dk_180 0 187 (dk_at dksX2_reduceRow_0 1 rfl rfl)
theorem dX2_reduceRow_4 : decode cX2_reduceRow 4 = .ok (.iload_n 1, 1) := dk_27 (dk_at dksX2_reduceRow_0 4 rfl rfl)
theorem dX2_reduceRow_5 : decode cX2_reduceRow 5 = .ok (.iaload, 1) := dk_46 (dk_at dksX2_reduceRow_0 5 rfl rfl)
theorem dX2_reduceRow_6 : decode cX2_reduceRow 6 = .ok (.ifCond .ne 5, 3) := dk_154 0 5 (dk_at dksX2_reduceRow_0 6 rfl rfl)
theorem dX2_reduceRow_9 : decode cX2_reduceRow 9 = .ok (.iload_n 1, 1) := dk_27 (dk_at dksX2_reduceRow_0 9 rfl rfl)
theorem dX2_reduceRow_10 : decode cX2_reduceRow 10 = .ok (.ireturn, 1) := dk_172 (dk_at dksX2_reduceRow_0 10 rfl rfl)
theorem dX2_reduceRow_11 : decode cX2_reduceRow 11 = .ok (.aload_n 0, 1) := dk_42 (dk_at dksX2_reduceRow_0 11 rfl rfl)
theorem dX2_reduceRow_12 : decode cX2_reduceRow 12 = .ok (.getfield 707, 3) := dk_180 2 195 (dk_at dksX2_reduceRow_0 12 rfl rfl)
theorem dX2_reduceRow_15 : decode cX2_reduceRow 15 = .ok (.istore_n 3, 1) := dk_62 (dk_at dksX2_reduceRow_0 15 rfl rfl)
theorem dX2_reduceRow_16 : decode cX2_reduceRow 16 = .ok (.iconst 0, 1) := dk_3 (dk_at dksX2_reduceRow_0 16 rfl rfl)
theorem dX2_reduceRow_17 : decode cX2_reduceRow 17 = .ok (.istore 4, 2) := dk_54 4 (dk_at dksX2_reduceRow_0 17 rfl rfl)
theorem dX2_reduceRow_19 : decode cX2_reduceRow 19 = .ok (.iload 4, 2) := dk_21 4 (dk_at dksX2_reduceRow_0 19 rfl rfl)
theorem dX2_reduceRow_21 : decode cX2_reduceRow 21 = .ok (.aload_n 0, 1) := dk_42 (dk_at dksX2_reduceRow_0 21 rfl rfl)
theorem dX2_reduceRow_22 : decode cX2_reduceRow 22 = .ok (.getfield 187, 3) := dk_180 0 187 (dk_at dksX2_reduceRow_1 0 rfl rfl)
theorem dX2_reduceRow_25 : decode cX2_reduceRow 25 = .ok (.iload_n 1, 1) := dk_27 (dk_at dksX2_reduceRow_1 3 rfl rfl)
theorem dX2_reduceRow_26 : decode cX2_reduceRow 26 = .ok (.iaload, 1) := dk_46 (dk_at dksX2_reduceRow_1 4 rfl rfl)
theorem dX2_reduceRow_27 : decode cX2_reduceRow 27 = .ok (.if_icmp .ge 31, 3) := dk_162 0 31 (dk_at dksX2_reduceRow_1 5 rfl rfl)
theorem dX2_reduceRow_30 : decode cX2_reduceRow 30 = .ok (.aload_n 0, 1) := dk_42 (dk_at dksX2_reduceRow_1 8 rfl rfl)
theorem dX2_reduceRow_31 : decode cX2_reduceRow 31 = .ok (.aload_n 0, 1) := dk_42 (dk_at dksX2_reduceRow_1 9 rfl rfl)
theorem dX2_reduceRow_32 : decode cX2_reduceRow 32 = .ok (.iload_n 1, 1) := dk_27 (dk_at dksX2_reduceRow_1 10 rfl rfl)
theorem dX2_reduceRow_33 : decode cX2_reduceRow 33 = .ok (.iload 4, 2) := dk_21 4 (dk_at dksX2_reduceRow_1 11 rfl rfl)
theorem dX2_reduceRow_35 : decode cX2_reduceRow 35 = .ok (.invokevirtual 691, 3) := dk_182 2 179 (dk_at dksX2_reduceRow_1 13 rfl rfl)
theorem dX2_reduceRow_38 : decode cX2_reduceRow 38 = .ok (.iload_n 2, 1) := dk_28 (dk_at dksX2_reduceRow_1 16 rfl rfl)
theorem dX2_reduceRow_39 : decode cX2_reduceRow 39 = .ok (.iconst 1, 1) := dk_4 (dk_at dksX2_reduceRow_1 17 rfl rfl)
theorem dX2_reduceRow_40 : decode cX2_reduceRow 40 = .ok (.iadd, 1) := dk_96 (dk_at dksX2_reduceRow_1 18 rfl rfl)
theorem dX2_reduceRow_41 : decode cX2_reduceRow 41 = .ok (.invokestatic 988, 3) := dk_184 3 220 (dk_at dksX2_reduceRow_1 19 rfl rfl)
theorem dX2_reduceRow_44 : decode cX2_reduceRow 44 = .ok (.istore 5, 2) := dk_54 5 (dk_at dksX2_reduceRow_1 22 rfl rfl)
theorem dX2_reduceRow_46 : decode cX2_reduceRow 46 = .ok (.aload_n 0, 1) := dk_42 (dk_at dksX2_reduceRow_2 0 rfl rfl)
theorem dX2_reduceRow_47 : decode cX2_reduceRow 47 = .ok (.iload 5, 2) := dk_21 5 (dk_at dksX2_reduceRow_2 1 rfl rfl)
theorem dX2_reduceRow_49 : decode cX2_reduceRow 49 = .ok (.invokevirtual 757, 3) := dk_182 2 245 (dk_at dksX2_reduceRow_2 3 rfl rfl)
theorem dX2_reduceRow_52 : decode cX2_reduceRow 52 = .ok (.iinc 4 1, 3) := dk_132 4 1 (dk_at dksX2_reduceRow_2 6 rfl rfl)
theorem dX2_reduceRow_55 : decode cX2_reduceRow 55 = .ok (.goto (-36), 3) := dk_167 255 220 (dk_at dksX2_reduceRow_2 9 rfl rfl)
theorem dX2_reduceRow_58 : decode cX2_reduceRow 58 = .ok (.aload_n 0, 1) := dk_42 (dk_at dksX2_reduceRow_2 12 rfl rfl)
theorem dX2_reduceRow_59 : decode cX2_reduceRow 59 = .ok (.aload_n 0, 1) := dk_42 (dk_at dksX2_reduceRow_2 13 rfl rfl)
theorem dX2_reduceRow_60 : decode cX2_reduceRow 60 = .ok (.getfield 181, 3) := dk_180 0 181 (dk_at dksX2_reduceRow_2 14 rfl rfl)
theorem dX2_reduceRow_63 : decode cX2_reduceRow 63 = .ok (.iload_n 1, 1) := dk_27 (dk_at dksX2_reduceRow_2 17 rfl rfl)
theorem dX2_reduceRow_64 : decode cX2_reduceRow 64 = .ok (.iaload, 1) := dk_46 (dk_at dksX2_reduceRow_2 18 rfl rfl)
theorem dX2_reduceRow_65 : decode cX2_reduceRow 65 = .ok (.iload_n 3, 1) := dk_29 (dk_at dksX2_reduceRow_2 19 rfl rfl)
theorem dX2_reduceRow_66 : decode cX2_reduceRow 66 = .ok (.invokevirtual 760, 3) := dk_182 2 248 (dk_at dksX2_reduceRow_2 20 rfl rfl)
theorem dX2_reduceRow_69 : decode cX2_reduceRow 69 = .ok (.istore 4, 2) := dk_54 4 (dk_at dksX2_reduceRow_3 0 rfl rfl)
theorem dX2_reduceRow_71 : decode cX2_reduceRow 71 = .ok (.aload_n 0, 1) := dk_42 (dk_at dksX2_reduceRow_3 2 rfl rfl)
theorem dX2_reduceRow_72 : decode cX2_reduceRow 72 = .ok (.getfield 190, 3) := dk_180 0 190 (dk_at dksX2_reduceRow_3 3 rfl rfl)
theorem dX2_reduceRow_75 : decode cX2_reduceRow 75 = .ok (.iload 4, 2) := dk_21 4 (dk_at dksX2_reduceRow_3 6 rfl rfl)
theorem dX2_reduceRow_77 : decode cX2_reduceRow 77 = .ok (.iaload, 1) := dk_46 (dk_at dksX2_reduceRow_3 8 rfl rfl)
theorem dX2_reduceRow_78 : decode cX2_reduceRow 78 = .ok (.bipush 40, 2) := dk_16 40 (dk_at dksX2_reduceRow_3 9 rfl rfl)
theorem dX2_reduceRow_80 : decode cX2_reduceRow 80 = .ok (.if_icmp .le 10, 3) := dk_164 0 10 (dk_at dksX2_reduceRow_3 11 rfl rfl)
theorem dX2_reduceRow_83 : decode cX2_reduceRow 83 = .ok (.aload_n 0, 1) := dk_42 (dk_at dksX2_reduceRow_3 14 rfl rfl)
theorem dX2_reduceRow_84 : decode cX2_reduceRow 84 = .ok (.bipush 6, 2) := dk_16 6 (dk_at dksX2_reduceRow_3 15 rfl rfl)
theorem dX2_reduceRow_86 : decode cX2_reduceRow 86 = .ok (.iconst 0, 1) := dk_3 (dk_at dksX2_reduceRow_3 17 rfl rfl)
theorem dX2_reduceRow_87 : decode cX2_reduceRow 87 = .ok (.invokevirtual 434, 3) := dk_182 1 178 (dk_at dksX2_reduceRow_3 18 rfl rfl)
theorem dX2_reduceRow_90 : decode cX2_reduceRow 90 = .ok (.iload 4, 2) := dk_21 4 (dk_at dksX2_reduceRow_3 21 rfl rfl)
theorem dX2_reduceRow_92 : decode cX2_reduceRow 92 = .ok (.ireturn, 1) := dk_172 (dk_at dksX2_reduceRow_3 23 rfl rfl)
abbrev cX2_byEquation : ByteArray := prog_4_method_138_code
def yX2_byEquation : MethodName := ⟨RX2, "byEquation", "(LRewriteHouseModel;II)I"⟩
def dkwX2_byEquation_8 : List UInt8 := [2, 172]
abbrev dktX2_byEquation_8 : List UInt8 := dkwX2_byEquation_8 ++ []
def dkwX2_byEquation_7 : List UInt8 := [132, 7, 1, 167, 255, 145, 42, 21, 5, 181, 3, 187, 132, 4, 1, 167, 255, 88, 132, 3, 1, 167, 255, 74]
abbrev dktX2_byEquation_7 : List UInt8 := dkwX2_byEquation_7 ++ dktX2_byEquation_8
def dkwX2_byEquation_6 : List UInt8 := [182, 3, 236, 54, 11, 42, 182, 3, 239, 42, 21, 5, 181, 3, 187, 21, 11, 172, 42, 21, 9, 181, 3, 187]
abbrev dktX2_byEquation_6 : List UInt8 := dkwX2_byEquation_6 ++ dktX2_byEquation_7
def dkwX2_byEquation_5 : List UInt8 := [42, 180, 0, 232, 21, 4, 46, 46, 42, 42, 180, 0, 235, 21, 4, 46, 21, 10, 182, 3, 233, 21, 8]
abbrev dktX2_byEquation_5 : List UInt8 := dkwX2_byEquation_5 ++ dktX2_byEquation_6
def dkwX2_byEquation_4 : List UInt8 := [155, 0, 65, 42, 42, 180, 0, 190, 42, 180, 0, 235, 21, 4, 46, 46, 182, 3, 230, 42, 42, 180, 0, 181]
abbrev dktX2_byEquation_4 : List UInt8 := dkwX2_byEquation_4 ++ dktX2_byEquation_5
def dkwX2_byEquation_3 : List UInt8 := [54, 8, 42, 180, 3, 187, 54, 9, 42, 21, 4, 3, 21, 8, 28, 184, 3, 227, 54, 10, 21, 10]
abbrev dktX2_byEquation_3 : List UInt8 := dkwX2_byEquation_3 ++ dktX2_byEquation_4
def dkwX2_byEquation_2 : List UInt8 := [182, 3, 223, 54, 6, 3, 54, 7, 21, 7, 21, 6, 162, 0, 110, 21, 5, 16, 64, 21, 7, 104, 96]
abbrev dktX2_byEquation_2 : List UInt8 := dkwX2_byEquation_2 ++ dktX2_byEquation_3
def dkwX2_byEquation_1 : List UInt8 := [21, 4, 46, 29, 160, 0, 148, 42, 180, 3, 187, 54, 5, 42, 42, 180, 0, 232, 21, 4, 46, 27, 4, 2]
abbrev dktX2_byEquation_1 : List UInt8 := dkwX2_byEquation_1 ++ dktX2_byEquation_2
def dkwX2_byEquation_0 : List UInt8 := [3, 62, 29, 5, 162, 0, 183, 3, 54, 4, 21, 4, 42, 180, 2, 3, 162, 0, 165, 42, 180, 0, 105]
abbrev dktX2_byEquation_0 : List UInt8 := dkwX2_byEquation_0 ++ dktX2_byEquation_1
theorem dksX2_byEquation_0 : cX2_byEquation.data.toList.drop 0 = dktX2_byEquation_0 := by decide +kernel
theorem dksX2_byEquation_1 : cX2_byEquation.data.toList.drop 23 = dktX2_byEquation_1 := dk_seg dksX2_byEquation_0 23 rfl rfl
theorem dksX2_byEquation_2 : cX2_byEquation.data.toList.drop 47 = dktX2_byEquation_2 := dk_seg dksX2_byEquation_1 24 rfl rfl
theorem dksX2_byEquation_3 : cX2_byEquation.data.toList.drop 70 = dktX2_byEquation_3 := dk_seg dksX2_byEquation_2 23 rfl rfl
theorem dksX2_byEquation_4 : cX2_byEquation.data.toList.drop 92 = dktX2_byEquation_4 := dk_seg dksX2_byEquation_3 22 rfl rfl
theorem dksX2_byEquation_5 : cX2_byEquation.data.toList.drop 116 = dktX2_byEquation_5 := dk_seg dksX2_byEquation_4 24 rfl rfl
theorem dksX2_byEquation_6 : cX2_byEquation.data.toList.drop 139 = dktX2_byEquation_6 := dk_seg dksX2_byEquation_5 23 rfl rfl
theorem dksX2_byEquation_7 : cX2_byEquation.data.toList.drop 163 = dktX2_byEquation_7 := dk_seg dksX2_byEquation_6 24 rfl rfl
theorem dksX2_byEquation_8 : cX2_byEquation.data.toList.drop 187 = dktX2_byEquation_8 := dk_seg dksX2_byEquation_7 24 rfl rfl
theorem dX2_byEquation_0 : decode cX2_byEquation 0 = .ok (.iconst 0, 1) := dk_3 (dk_at dksX2_byEquation_0 0 rfl rfl)
theorem dX2_byEquation_1 : decode cX2_byEquation 1 = .ok (.istore_n 3, 1) := dk_62 (dk_at dksX2_byEquation_0 1 rfl rfl)
theorem dX2_byEquation_2 : decode cX2_byEquation 2 = .ok (.iload_n 3, 1) := dk_29 (dk_at dksX2_byEquation_0 2 rfl rfl)
theorem dX2_byEquation_3 : decode cX2_byEquation 3 = .ok (.iconst 2, 1) := dk_5 (dk_at dksX2_byEquation_0 3 rfl rfl)
theorem dX2_byEquation_4 : decode cX2_byEquation 4 = .ok (.if_icmp .ge 183, 3) := dk_162 0 183 (dk_at dksX2_byEquation_0 4 rfl rfl)
theorem dX2_byEquation_7 : decode cX2_byEquation 7 = .ok (.iconst 0, 1) := dk_3 (dk_at dksX2_byEquation_0 7 rfl rfl)
theorem dX2_byEquation_8 : decode cX2_byEquation 8 = .ok (.istore 4, 2) := dk_54 4 (dk_at dksX2_byEquation_0 8 rfl rfl)
theorem dX2_byEquation_10 : decode cX2_byEquation 10 = .ok (.iload 4, 2) := dk_21 4 (dk_at dksX2_byEquation_0 10 rfl rfl)
theorem dX2_byEquation_12 : decode cX2_byEquation 12 = .ok (.aload_n 0, 1) := dk_42 (dk_at dksX2_byEquation_0 12 rfl rfl)
theorem dX2_byEquation_13 : decode cX2_byEquation 13 = .ok (.getfield 515, 3) := dk_180 2 3 (dk_at dksX2_byEquation_0 13 rfl rfl)
theorem dX2_byEquation_16 : decode cX2_byEquation 16 = .ok (.if_icmp .ge 165, 3) := dk_162 0 165 (dk_at dksX2_byEquation_0 16 rfl rfl)
theorem dX2_byEquation_19 : decode cX2_byEquation 19 = .ok (.aload_n 0, 1) := dk_42 (dk_at dksX2_byEquation_0 19 rfl rfl)
theorem dX2_byEquation_20 : decode cX2_byEquation 20 = .ok (.getfield 105, 3) := dk_180 0 105 (dk_at dksX2_byEquation_0 20 rfl rfl)
theorem dX2_byEquation_23 : decode cX2_byEquation 23 = .ok (.iload 4, 2) := dk_21 4 (dk_at dksX2_byEquation_1 0 rfl rfl)
theorem dX2_byEquation_25 : decode cX2_byEquation 25 = .ok (.iaload, 1) := dk_46 (dk_at dksX2_byEquation_1 2 rfl rfl)
theorem dX2_byEquation_26 : decode cX2_byEquation 26 = .ok (.iload_n 3, 1) := dk_29 (dk_at dksX2_byEquation_1 3 rfl rfl)
theorem dX2_byEquation_27 : decode cX2_byEquation 27 = .ok (.if_icmp .ne 148, 3) := dk_160 0 148 (dk_at dksX2_byEquation_1 4 rfl rfl)
theorem dX2_byEquation_30 : decode cX2_byEquation 30 = .ok (.aload_n 0, 1) := dk_42 (dk_at dksX2_byEquation_1 7 rfl rfl)
theorem dX2_byEquation_31 : decode cX2_byEquation 31 = .ok (.getfield 955, 3) := dk_180 3 187 (dk_at dksX2_byEquation_1 8 rfl rfl)
theorem dX2_byEquation_34 : decode cX2_byEquation 34 = .ok (.istore 5, 2) := dk_54 5 (dk_at dksX2_byEquation_1 11 rfl rfl)
theorem dX2_byEquation_36 : decode cX2_byEquation 36 = .ok (.aload_n 0, 1) := dk_42 (dk_at dksX2_byEquation_1 13 rfl rfl)
theorem dX2_byEquation_37 : decode cX2_byEquation 37 = .ok (.aload_n 0, 1) := dk_42 (dk_at dksX2_byEquation_1 14 rfl rfl)
theorem dX2_byEquation_38 : decode cX2_byEquation 38 = .ok (.getfield 232, 3) := dk_180 0 232 (dk_at dksX2_byEquation_1 15 rfl rfl)
theorem dX2_byEquation_41 : decode cX2_byEquation 41 = .ok (.iload 4, 2) := dk_21 4 (dk_at dksX2_byEquation_1 18 rfl rfl)
theorem dX2_byEquation_43 : decode cX2_byEquation 43 = .ok (.iaload, 1) := dk_46 (dk_at dksX2_byEquation_1 20 rfl rfl)
theorem dX2_byEquation_44 : decode cX2_byEquation 44 = .ok (.iload_n 1, 1) := dk_27 (dk_at dksX2_byEquation_1 21 rfl rfl)
theorem dX2_byEquation_45 : decode cX2_byEquation 45 = .ok (.iconst 1, 1) := dk_4 (dk_at dksX2_byEquation_1 22 rfl rfl)
theorem dX2_byEquation_46 : decode cX2_byEquation 46 = .ok (.iconst (-1), 1) := dk_2 (dk_at dksX2_byEquation_1 23 rfl rfl)
theorem dX2_byEquation_47 : decode cX2_byEquation 47 = .ok (.invokevirtual 991, 3) := dk_182 3 223 (dk_at dksX2_byEquation_2 0 rfl rfl)
theorem dX2_byEquation_50 : decode cX2_byEquation 50 = .ok (.istore 6, 2) := dk_54 6 (dk_at dksX2_byEquation_2 3 rfl rfl)
theorem dX2_byEquation_52 : decode cX2_byEquation 52 = .ok (.iconst 0, 1) := dk_3 (dk_at dksX2_byEquation_2 5 rfl rfl)
theorem dX2_byEquation_53 : decode cX2_byEquation 53 = .ok (.istore 7, 2) := dk_54 7 (dk_at dksX2_byEquation_2 6 rfl rfl)
theorem dX2_byEquation_55 : decode cX2_byEquation 55 = .ok (.iload 7, 2) := dk_21 7 (dk_at dksX2_byEquation_2 8 rfl rfl)
theorem dX2_byEquation_57 : decode cX2_byEquation 57 = .ok (.iload 6, 2) := dk_21 6 (dk_at dksX2_byEquation_2 10 rfl rfl)
theorem dX2_byEquation_59 : decode cX2_byEquation 59 = .ok (.if_icmp .ge 110, 3) := dk_162 0 110 (dk_at dksX2_byEquation_2 12 rfl rfl)
theorem dX2_byEquation_62 : decode cX2_byEquation 62 = .ok (.iload 5, 2) := dk_21 5 (dk_at dksX2_byEquation_2 15 rfl rfl)
theorem dX2_byEquation_64 : decode cX2_byEquation 64 = .ok (.bipush 64, 2) := dk_16 64 (dk_at dksX2_byEquation_2 17 rfl rfl)
theorem dX2_byEquation_66 : decode cX2_byEquation 66 = .ok (.iload 7, 2) := dk_21 7 (dk_at dksX2_byEquation_2 19 rfl rfl)
theorem dX2_byEquation_68 : decode cX2_byEquation 68 = .ok (.imul, 1) := dk_104 (dk_at dksX2_byEquation_2 21 rfl rfl)
theorem dX2_byEquation_69 : decode cX2_byEquation 69 = .ok (.iadd, 1) := dk_96 (dk_at dksX2_byEquation_2 22 rfl rfl)
theorem dX2_byEquation_70 : decode cX2_byEquation 70 = .ok (.istore 8, 2) := dk_54 8 (dk_at dksX2_byEquation_3 0 rfl rfl)
theorem dX2_byEquation_72 : decode cX2_byEquation 72 = .ok (.aload_n 0, 1) := dk_42 (dk_at dksX2_byEquation_3 2 rfl rfl)
theorem dX2_byEquation_73 : decode cX2_byEquation 73 = .ok (.getfield 955, 3) := dk_180 3 187 (dk_at dksX2_byEquation_3 3 rfl rfl)
theorem dX2_byEquation_76 : decode cX2_byEquation 76 = .ok (.istore 9, 2) := dk_54 9 (dk_at dksX2_byEquation_3 6 rfl rfl)
theorem dX2_byEquation_78 : decode cX2_byEquation 78 = .ok (.aload_n 0, 1) := dk_42 (dk_at dksX2_byEquation_3 8 rfl rfl)
theorem dX2_byEquation_79 : decode cX2_byEquation 79 = .ok (.iload 4, 2) := dk_21 4 (dk_at dksX2_byEquation_3 9 rfl rfl)
theorem dX2_byEquation_81 : decode cX2_byEquation 81 = .ok (.iconst 0, 1) := dk_3 (dk_at dksX2_byEquation_3 11 rfl rfl)
theorem dX2_byEquation_82 : decode cX2_byEquation 82 = .ok (.iload 8, 2) := dk_21 8 (dk_at dksX2_byEquation_3 12 rfl rfl)
theorem dX2_byEquation_84 : decode cX2_byEquation 84 = .ok (.iload_n 2, 1) := dk_28 (dk_at dksX2_byEquation_3 14 rfl rfl)
theorem dX2_byEquation_85 : decode cX2_byEquation 85 = .ok (.invokestatic 995, 3) := dk_184 3 227 (dk_at dksX2_byEquation_3 15 rfl rfl)
theorem dX2_byEquation_88 : decode cX2_byEquation 88 = .ok (.istore 10, 2) := dk_54 10 (dk_at dksX2_byEquation_3 18 rfl rfl)
theorem dX2_byEquation_90 : decode cX2_byEquation 90 = .ok (.iload 10, 2) := dk_21 10 (dk_at dksX2_byEquation_3 20 rfl rfl)
theorem dX2_byEquation_92 : decode cX2_byEquation 92 = .ok (.ifCond .lt 65, 3) := dk_155 0 65 (dk_at dksX2_byEquation_4 0 rfl rfl)
theorem dX2_byEquation_95 : decode cX2_byEquation 95 = .ok (.aload_n 0, 1) := dk_42 (dk_at dksX2_byEquation_4 3 rfl rfl)
theorem dX2_byEquation_96 : decode cX2_byEquation 96 = .ok (.aload_n 0, 1) := dk_42 (dk_at dksX2_byEquation_4 4 rfl rfl)
theorem dX2_byEquation_97 : decode cX2_byEquation 97 = .ok (.getfield 190, 3) := dk_180 0 190 (dk_at dksX2_byEquation_4 5 rfl rfl)
theorem dX2_byEquation_100 : decode cX2_byEquation 100 = .ok (.aload_n 0, 1) := dk_42 (dk_at dksX2_byEquation_4 8 rfl rfl)
theorem dX2_byEquation_101 : decode cX2_byEquation 101 = .ok (.getfield 235, 3) := dk_180 0 235 (dk_at dksX2_byEquation_4 9 rfl rfl)
theorem dX2_byEquation_104 : decode cX2_byEquation 104 = .ok (.iload 4, 2) := dk_21 4 (dk_at dksX2_byEquation_4 12 rfl rfl)
theorem dX2_byEquation_106 : decode cX2_byEquation 106 = .ok (.iaload, 1) := dk_46 (dk_at dksX2_byEquation_4 14 rfl rfl)
theorem dX2_byEquation_107 : decode cX2_byEquation 107 = .ok (.iaload, 1) := dk_46 (dk_at dksX2_byEquation_4 15 rfl rfl)
theorem dX2_byEquation_108 : decode cX2_byEquation 108 = .ok (.invokevirtual 998, 3) := dk_182 3 230 (dk_at dksX2_byEquation_4 16 rfl rfl)
theorem dX2_byEquation_111 : decode cX2_byEquation 111 = .ok (.aload_n 0, 1) := dk_42 (dk_at dksX2_byEquation_4 19 rfl rfl)
theorem dX2_byEquation_112 : decode cX2_byEquation 112 = .ok (.aload_n 0, 1) := dk_42 (dk_at dksX2_byEquation_4 20 rfl rfl)
theorem dX2_byEquation_113 : decode cX2_byEquation 113 = .ok (.getfield 181, 3) := dk_180 0 181 (dk_at dksX2_byEquation_4 21 rfl rfl)
theorem dX2_byEquation_116 : decode cX2_byEquation 116 = .ok (.aload_n 0, 1) := dk_42 (dk_at dksX2_byEquation_5 0 rfl rfl)
theorem dX2_byEquation_117 : decode cX2_byEquation 117 = .ok (.getfield 232, 3) := dk_180 0 232 (dk_at dksX2_byEquation_5 1 rfl rfl)
theorem dX2_byEquation_120 : decode cX2_byEquation 120 = .ok (.iload 4, 2) := dk_21 4 (dk_at dksX2_byEquation_5 4 rfl rfl)
theorem dX2_byEquation_122 : decode cX2_byEquation 122 = .ok (.iaload, 1) := dk_46 (dk_at dksX2_byEquation_5 6 rfl rfl)
theorem dX2_byEquation_123 : decode cX2_byEquation 123 = .ok (.iaload, 1) := dk_46 (dk_at dksX2_byEquation_5 7 rfl rfl)
theorem dX2_byEquation_124 : decode cX2_byEquation 124 = .ok (.aload_n 0, 1) := dk_42 (dk_at dksX2_byEquation_5 8 rfl rfl)
theorem dX2_byEquation_125 : decode cX2_byEquation 125 = .ok (.aload_n 0, 1) := dk_42 (dk_at dksX2_byEquation_5 9 rfl rfl)
theorem dX2_byEquation_126 : decode cX2_byEquation 126 = .ok (.getfield 235, 3) := dk_180 0 235 (dk_at dksX2_byEquation_5 10 rfl rfl)
theorem dX2_byEquation_129 : decode cX2_byEquation 129 = .ok (.iload 4, 2) := dk_21 4 (dk_at dksX2_byEquation_5 13 rfl rfl)
theorem dX2_byEquation_131 : decode cX2_byEquation 131 = .ok (.iaload, 1) := dk_46 (dk_at dksX2_byEquation_5 15 rfl rfl)
theorem dX2_byEquation_132 : decode cX2_byEquation 132 = .ok (.iload 10, 2) := dk_21 10 (dk_at dksX2_byEquation_5 16 rfl rfl)
theorem dX2_byEquation_134 : decode cX2_byEquation 134 = .ok (.invokevirtual 1001, 3) := dk_182 3 233 (dk_at dksX2_byEquation_5 18 rfl rfl)
theorem dX2_byEquation_137 : decode cX2_byEquation 137 = .ok (.iload 8, 2) := dk_21 8 (dk_at dksX2_byEquation_5 21 rfl rfl)
theorem dX2_byEquation_139 : decode cX2_byEquation 139 = .ok (.invokevirtual 1004, 3) := dk_182 3 236 (dk_at dksX2_byEquation_6 0 rfl rfl)
theorem dX2_byEquation_142 : decode cX2_byEquation 142 = .ok (.istore 11, 2) := dk_54 11 (dk_at dksX2_byEquation_6 3 rfl rfl)
theorem dX2_byEquation_144 : decode cX2_byEquation 144 = .ok (.aload_n 0, 1) := dk_42 (dk_at dksX2_byEquation_6 5 rfl rfl)
theorem dX2_byEquation_145 : decode cX2_byEquation 145 = .ok (.invokevirtual 1007, 3) := dk_182 3 239 (dk_at dksX2_byEquation_6 6 rfl rfl)
theorem dX2_byEquation_148 : decode cX2_byEquation 148 = .ok (.aload_n 0, 1) := dk_42 (dk_at dksX2_byEquation_6 9 rfl rfl)
theorem dX2_byEquation_149 : decode cX2_byEquation 149 = .ok (.iload 5, 2) := dk_21 5 (dk_at dksX2_byEquation_6 10 rfl rfl)
theorem dX2_byEquation_151 : decode cX2_byEquation 151 = .ok (.putfield 955, 3) := dk_181 3 187 (dk_at dksX2_byEquation_6 12 rfl rfl)
theorem dX2_byEquation_154 : decode cX2_byEquation 154 = .ok (.iload 11, 2) := dk_21 11 (dk_at dksX2_byEquation_6 15 rfl rfl)
theorem dX2_byEquation_156 : decode cX2_byEquation 156 = .ok (.ireturn, 1) := dk_172 (dk_at dksX2_byEquation_6 17 rfl rfl)
theorem dX2_byEquation_157 : decode cX2_byEquation 157 = .ok (.aload_n 0, 1) := dk_42 (dk_at dksX2_byEquation_6 18 rfl rfl)
theorem dX2_byEquation_158 : decode cX2_byEquation 158 = .ok (.iload 9, 2) := dk_21 9 (dk_at dksX2_byEquation_6 19 rfl rfl)
theorem dX2_byEquation_160 : decode cX2_byEquation 160 = .ok (.putfield 955, 3) := dk_181 3 187 (dk_at dksX2_byEquation_6 21 rfl rfl)
theorem dX2_byEquation_163 : decode cX2_byEquation 163 = .ok (.iinc 7 1, 3) := dk_132 7 1 (dk_at dksX2_byEquation_7 0 rfl rfl)
theorem dX2_byEquation_166 : decode cX2_byEquation 166 = .ok (.goto (-111), 3) := dk_167 255 145 (dk_at dksX2_byEquation_7 3 rfl rfl)
theorem dX2_byEquation_169 : decode cX2_byEquation 169 = .ok (.aload_n 0, 1) := dk_42 (dk_at dksX2_byEquation_7 6 rfl rfl)
theorem dX2_byEquation_170 : decode cX2_byEquation 170 = .ok (.iload 5, 2) := dk_21 5 (dk_at dksX2_byEquation_7 7 rfl rfl)
theorem dX2_byEquation_172 : decode cX2_byEquation 172 = .ok (.putfield 955, 3) := dk_181 3 187 (dk_at dksX2_byEquation_7 9 rfl rfl)
theorem dX2_byEquation_175 : decode cX2_byEquation 175 = .ok (.iinc 4 1, 3) := dk_132 4 1 (dk_at dksX2_byEquation_7 12 rfl rfl)
theorem dX2_byEquation_178 : decode cX2_byEquation 178 = .ok (.goto (-168), 3) := dk_167 255 88 (dk_at dksX2_byEquation_7 15 rfl rfl)
theorem dX2_byEquation_181 : decode cX2_byEquation 181 = .ok (.iinc 3 1, 3) := dk_132 3 1 (dk_at dksX2_byEquation_7 18 rfl rfl)
theorem dX2_byEquation_184 : decode cX2_byEquation 184 = .ok (.goto (-182), 3) := dk_167 255 74 (dk_at dksX2_byEquation_7 21 rfl rfl)
theorem dX2_byEquation_187 : decode cX2_byEquation 187 = .ok (.iconst (-1), 1) := dk_2 (dk_at dksX2_byEquation_8 0 rfl rfl)
theorem dX2_byEquation_188 : decode cX2_byEquation 188 = .ok (.ireturn, 1) := dk_172 (dk_at dksX2_byEquation_8 1 rfl rfl)
abbrev cX2_holds : ByteArray := prog_4_method_141_code
def yX2_holds : MethodName := ⟨RX2, "holds", "(LRewriteHouseModel;IIII)I"⟩
def dkwX2_holds_7 : List UInt8 := [167, 255, 218, 42, 21, 7, 181, 3, 187, 2, 172]
abbrev dktX2_holds_7 : List UInt8 := dkwX2_holds_7 ++ []
def dkwX2_holds_6 : List UInt8 := [16, 64, 21, 9, 104, 96, 21, 4, 184, 3, 227, 54, 10, 21, 10, 155, 0, 6, 21, 10, 172, 132, 9, 1]
abbrev dktX2_holds_6 : List UInt8 := dkwX2_holds_6 ++ dktX2_holds_7
def dkwX2_holds_5 : List UInt8 := [3, 29, 182, 3, 223, 54, 8, 3, 54, 9, 21, 9, 21, 8, 162, 0, 37, 42, 27, 28, 4, 96, 21, 7]
abbrev dktX2_holds_5 : List UInt8 := dkwX2_holds_5 ++ dktX2_holds_6
def dkwX2_holds_4 : List UInt8 := [29, 21, 4, 182, 3, 242, 54, 6, 42, 180, 3, 187, 54, 7, 42, 42, 180, 0, 238, 21, 5, 46, 21, 6]
abbrev dktX2_holds_4 : List UInt8 := dkwX2_holds_4 ++ dktX2_holds_5
def dkwX2_holds_3 : List UInt8 := [42, 180, 0, 190, 42, 180, 0, 241, 21, 5, 46, 46, 96, 182, 3, 230, 42, 42, 180, 0, 241, 21, 5, 46]
abbrev dktX2_holds_3 : List UInt8 := dkwX2_holds_3 ++ dktX2_holds_4
def dkwX2_holds_2 : List UInt8 := [29, 21, 4, 184, 3, 227, 167, 0, 4, 2, 172, 42, 42, 180, 0, 190, 42, 180, 0, 238, 21, 5, 46, 46]
abbrev dktX2_holds_2 : List UInt8 := dkwX2_holds_2 ++ dktX2_holds_3
def dkwX2_holds_1 : List UInt8 := [21, 5, 46, 4, 159, 0, 31, 42, 21, 5, 29, 21, 4, 182, 3, 245, 153, 0, 17, 42, 27, 28, 4, 96]
abbrev dktX2_holds_1 : List UInt8 := dkwX2_holds_1 ++ dktX2_holds_2
def dkwX2_holds_0 : List UInt8 := [28, 42, 180, 0, 123, 27, 46, 160, 0, 5, 29, 172, 16, 6, 27, 104, 28, 96, 54, 5, 42, 180, 0, 117]
abbrev dktX2_holds_0 : List UInt8 := dkwX2_holds_0 ++ dktX2_holds_1
theorem dksX2_holds_0 : cX2_holds.data.toList.drop 0 = dktX2_holds_0 := by decide +kernel
theorem dksX2_holds_1 : cX2_holds.data.toList.drop 24 = dktX2_holds_1 := dk_seg dksX2_holds_0 24 rfl rfl
theorem dksX2_holds_2 : cX2_holds.data.toList.drop 48 = dktX2_holds_2 := dk_seg dksX2_holds_1 24 rfl rfl
theorem dksX2_holds_3 : cX2_holds.data.toList.drop 72 = dktX2_holds_3 := dk_seg dksX2_holds_2 24 rfl rfl
theorem dksX2_holds_4 : cX2_holds.data.toList.drop 96 = dktX2_holds_4 := dk_seg dksX2_holds_3 24 rfl rfl
theorem dksX2_holds_5 : cX2_holds.data.toList.drop 120 = dktX2_holds_5 := dk_seg dksX2_holds_4 24 rfl rfl
theorem dksX2_holds_6 : cX2_holds.data.toList.drop 144 = dktX2_holds_6 := dk_seg dksX2_holds_5 24 rfl rfl
theorem dksX2_holds_7 : cX2_holds.data.toList.drop 168 = dktX2_holds_7 := dk_seg dksX2_holds_6 24 rfl rfl
theorem dX2_holds_0 : decode cX2_holds 0 = .ok (.iload_n 2, 1) := dk_28 (dk_at dksX2_holds_0 0 rfl rfl)
theorem dX2_holds_1 : decode cX2_holds 1 = .ok (.aload_n 0, 1) := dk_42 (dk_at dksX2_holds_0 1 rfl rfl)
theorem dX2_holds_2 : decode cX2_holds 2 = .ok (.getfield 123, 3) := dk_180 0 123 (dk_at dksX2_holds_0 2 rfl rfl)
theorem dX2_holds_5 : decode cX2_holds 5 = .ok (.iload_n 1, 1) := dk_27 (dk_at dksX2_holds_0 5 rfl rfl)
theorem dX2_holds_6 : decode cX2_holds 6 = .ok (.iaload, 1) := dk_46 (dk_at dksX2_holds_0 6 rfl rfl)
theorem dX2_holds_7 : decode cX2_holds 7 = .ok (.if_icmp .ne 5, 3) := dk_160 0 5 (dk_at dksX2_holds_0 7 rfl rfl)
theorem dX2_holds_10 : decode cX2_holds 10 = .ok (.iload_n 3, 1) := dk_29 (dk_at dksX2_holds_0 10 rfl rfl)
theorem dX2_holds_11 : decode cX2_holds 11 = .ok (.ireturn, 1) := dk_172 (dk_at dksX2_holds_0 11 rfl rfl)
theorem dX2_holds_12 : decode cX2_holds 12 = .ok (.bipush 6, 2) := dk_16 6 (dk_at dksX2_holds_0 12 rfl rfl)
theorem dX2_holds_14 : decode cX2_holds 14 = .ok (.iload_n 1, 1) := dk_27 (dk_at dksX2_holds_0 14 rfl rfl)
theorem dX2_holds_15 : decode cX2_holds 15 = .ok (.imul, 1) := dk_104 (dk_at dksX2_holds_0 15 rfl rfl)
theorem dX2_holds_16 : decode cX2_holds 16 = .ok (.iload_n 2, 1) := dk_28 (dk_at dksX2_holds_0 16 rfl rfl)
theorem dX2_holds_17 : decode cX2_holds 17 = .ok (.iadd, 1) := dk_96 (dk_at dksX2_holds_0 17 rfl rfl)
theorem dX2_holds_18 : decode cX2_holds 18 = .ok (.istore 5, 2) := dk_54 5 (dk_at dksX2_holds_0 18 rfl rfl)
theorem dX2_holds_20 : decode cX2_holds 20 = .ok (.aload_n 0, 1) := dk_42 (dk_at dksX2_holds_0 20 rfl rfl)
theorem dX2_holds_21 : decode cX2_holds 21 = .ok (.getfield 117, 3) := dk_180 0 117 (dk_at dksX2_holds_0 21 rfl rfl)
theorem dX2_holds_24 : decode cX2_holds 24 = .ok (.iload 5, 2) := dk_21 5 (dk_at dksX2_holds_1 0 rfl rfl)
theorem dX2_holds_26 : decode cX2_holds 26 = .ok (.iaload, 1) := dk_46 (dk_at dksX2_holds_1 2 rfl rfl)
theorem dX2_holds_27 : decode cX2_holds 27 = .ok (.iconst 1, 1) := dk_4 (dk_at dksX2_holds_1 3 rfl rfl)
theorem dX2_holds_28 : decode cX2_holds 28 = .ok (.if_icmp .eq 31, 3) := dk_159 0 31 (dk_at dksX2_holds_1 4 rfl rfl)
theorem dX2_holds_31 : decode cX2_holds 31 = .ok (.aload_n 0, 1) := dk_42 (dk_at dksX2_holds_1 7 rfl rfl)
theorem dX2_holds_32 : decode cX2_holds 32 = .ok (.iload 5, 2) := dk_21 5 (dk_at dksX2_holds_1 8 rfl rfl)
theorem dX2_holds_34 : decode cX2_holds 34 = .ok (.iload_n 3, 1) := dk_29 (dk_at dksX2_holds_1 10 rfl rfl)
theorem dX2_holds_35 : decode cX2_holds 35 = .ok (.iload 4, 2) := dk_21 4 (dk_at dksX2_holds_1 11 rfl rfl)
theorem dX2_holds_37 : decode cX2_holds 37 = .ok (.invokevirtual 1013, 3) := dk_182 3 245 (dk_at dksX2_holds_1 13 rfl rfl)
theorem dX2_holds_40 : decode cX2_holds 40 = .ok (.ifCond .eq 17, 3) := dk_153 0 17 (dk_at dksX2_holds_1 16 rfl rfl)
theorem dX2_holds_43 : decode cX2_holds 43 = .ok (.aload_n 0, 1) := dk_42 (dk_at dksX2_holds_1 19 rfl rfl)
theorem dX2_holds_44 : decode cX2_holds 44 = .ok (.iload_n 1, 1) := dk_27 (dk_at dksX2_holds_1 20 rfl rfl)
theorem dX2_holds_45 : decode cX2_holds 45 = .ok (.iload_n 2, 1) := dk_28 (dk_at dksX2_holds_1 21 rfl rfl)
theorem dX2_holds_46 : decode cX2_holds 46 = .ok (.iconst 1, 1) := dk_4 (dk_at dksX2_holds_1 22 rfl rfl)
theorem dX2_holds_47 : decode cX2_holds 47 = .ok (.iadd, 1) := dk_96 (dk_at dksX2_holds_1 23 rfl rfl)
theorem dX2_holds_48 : decode cX2_holds 48 = .ok (.iload_n 3, 1) := dk_29 (dk_at dksX2_holds_2 0 rfl rfl)
theorem dX2_holds_49 : decode cX2_holds 49 = .ok (.iload 4, 2) := dk_21 4 (dk_at dksX2_holds_2 1 rfl rfl)
theorem dX2_holds_51 : decode cX2_holds 51 = .ok (.invokestatic 995, 3) := dk_184 3 227 (dk_at dksX2_holds_2 3 rfl rfl)
theorem dX2_holds_54 : decode cX2_holds 54 = .ok (.goto 4, 3) := dk_167 0 4 (dk_at dksX2_holds_2 6 rfl rfl)
theorem dX2_holds_57 : decode cX2_holds 57 = .ok (.iconst (-1), 1) := dk_2 (dk_at dksX2_holds_2 9 rfl rfl)
theorem dX2_holds_58 : decode cX2_holds 58 = .ok (.ireturn, 1) := dk_172 (dk_at dksX2_holds_2 10 rfl rfl)
theorem dX2_holds_59 : decode cX2_holds 59 = .ok (.aload_n 0, 1) := dk_42 (dk_at dksX2_holds_2 11 rfl rfl)
theorem dX2_holds_60 : decode cX2_holds 60 = .ok (.aload_n 0, 1) := dk_42 (dk_at dksX2_holds_2 12 rfl rfl)
theorem dX2_holds_61 : decode cX2_holds 61 = .ok (.getfield 190, 3) := dk_180 0 190 (dk_at dksX2_holds_2 13 rfl rfl)
theorem dX2_holds_64 : decode cX2_holds 64 = .ok (.aload_n 0, 1) := dk_42 (dk_at dksX2_holds_2 16 rfl rfl)
theorem dX2_holds_65 : decode cX2_holds 65 = .ok (.getfield 238, 3) := dk_180 0 238 (dk_at dksX2_holds_2 17 rfl rfl)
theorem dX2_holds_68 : decode cX2_holds 68 = .ok (.iload 5, 2) := dk_21 5 (dk_at dksX2_holds_2 20 rfl rfl)
theorem dX2_holds_70 : decode cX2_holds 70 = .ok (.iaload, 1) := dk_46 (dk_at dksX2_holds_2 22 rfl rfl)
theorem dX2_holds_71 : decode cX2_holds 71 = .ok (.iaload, 1) := dk_46 (dk_at dksX2_holds_2 23 rfl rfl)
theorem dX2_holds_72 : decode cX2_holds 72 = .ok (.aload_n 0, 1) := dk_42 (dk_at dksX2_holds_3 0 rfl rfl)
theorem dX2_holds_73 : decode cX2_holds 73 = .ok (.getfield 190, 3) := dk_180 0 190 (dk_at dksX2_holds_3 1 rfl rfl)
theorem dX2_holds_76 : decode cX2_holds 76 = .ok (.aload_n 0, 1) := dk_42 (dk_at dksX2_holds_3 4 rfl rfl)
theorem dX2_holds_77 : decode cX2_holds 77 = .ok (.getfield 241, 3) := dk_180 0 241 (dk_at dksX2_holds_3 5 rfl rfl)
theorem dX2_holds_80 : decode cX2_holds 80 = .ok (.iload 5, 2) := dk_21 5 (dk_at dksX2_holds_3 8 rfl rfl)
theorem dX2_holds_82 : decode cX2_holds 82 = .ok (.iaload, 1) := dk_46 (dk_at dksX2_holds_3 10 rfl rfl)
theorem dX2_holds_83 : decode cX2_holds 83 = .ok (.iaload, 1) := dk_46 (dk_at dksX2_holds_3 11 rfl rfl)
theorem dX2_holds_84 : decode cX2_holds 84 = .ok (.iadd, 1) := dk_96 (dk_at dksX2_holds_3 12 rfl rfl)
theorem dX2_holds_85 : decode cX2_holds 85 = .ok (.invokevirtual 998, 3) := dk_182 3 230 (dk_at dksX2_holds_3 13 rfl rfl)
theorem dX2_holds_88 : decode cX2_holds 88 = .ok (.aload_n 0, 1) := dk_42 (dk_at dksX2_holds_3 16 rfl rfl)
theorem dX2_holds_89 : decode cX2_holds 89 = .ok (.aload_n 0, 1) := dk_42 (dk_at dksX2_holds_3 17 rfl rfl)
theorem dX2_holds_90 : decode cX2_holds 90 = .ok (.getfield 241, 3) := dk_180 0 241 (dk_at dksX2_holds_3 18 rfl rfl)
theorem dX2_holds_93 : decode cX2_holds 93 = .ok (.iload 5, 2) := dk_21 5 (dk_at dksX2_holds_3 21 rfl rfl)
theorem dX2_holds_95 : decode cX2_holds 95 = .ok (.iaload, 1) := dk_46 (dk_at dksX2_holds_3 23 rfl rfl)
theorem dX2_holds_96 : decode cX2_holds 96 = .ok (.iload_n 3, 1) := dk_29 (dk_at dksX2_holds_4 0 rfl rfl)
theorem dX2_holds_97 : decode cX2_holds 97 = .ok (.iload 4, 2) := dk_21 4 (dk_at dksX2_holds_4 1 rfl rfl)
theorem dX2_holds_99 : decode cX2_holds 99 = .ok (.invokevirtual 1010, 3) := dk_182 3 242 (dk_at dksX2_holds_4 3 rfl rfl)
theorem dX2_holds_102 : decode cX2_holds 102 = .ok (.istore 6, 2) := dk_54 6 (dk_at dksX2_holds_4 6 rfl rfl)
theorem dX2_holds_104 : decode cX2_holds 104 = .ok (.aload_n 0, 1) := dk_42 (dk_at dksX2_holds_4 8 rfl rfl)
theorem dX2_holds_105 : decode cX2_holds 105 = .ok (.getfield 955, 3) := dk_180 3 187 (dk_at dksX2_holds_4 9 rfl rfl)
theorem dX2_holds_108 : decode cX2_holds 108 = .ok (.istore 7, 2) := dk_54 7 (dk_at dksX2_holds_4 12 rfl rfl)
theorem dX2_holds_110 : decode cX2_holds 110 = .ok (.aload_n 0, 1) := dk_42 (dk_at dksX2_holds_4 14 rfl rfl)
theorem dX2_holds_111 : decode cX2_holds 111 = .ok (.aload_n 0, 1) := dk_42 (dk_at dksX2_holds_4 15 rfl rfl)
theorem dX2_holds_112 : decode cX2_holds 112 = .ok (.getfield 238, 3) := dk_180 0 238 (dk_at dksX2_holds_4 16 rfl rfl)
theorem dX2_holds_115 : decode cX2_holds 115 = .ok (.iload 5, 2) := dk_21 5 (dk_at dksX2_holds_4 19 rfl rfl)
theorem dX2_holds_117 : decode cX2_holds 117 = .ok (.iaload, 1) := dk_46 (dk_at dksX2_holds_4 21 rfl rfl)
theorem dX2_holds_118 : decode cX2_holds 118 = .ok (.iload 6, 2) := dk_21 6 (dk_at dksX2_holds_4 22 rfl rfl)
theorem dX2_holds_120 : decode cX2_holds 120 = .ok (.iconst 0, 1) := dk_3 (dk_at dksX2_holds_5 0 rfl rfl)
theorem dX2_holds_121 : decode cX2_holds 121 = .ok (.iload_n 3, 1) := dk_29 (dk_at dksX2_holds_5 1 rfl rfl)
theorem dX2_holds_122 : decode cX2_holds 122 = .ok (.invokevirtual 991, 3) := dk_182 3 223 (dk_at dksX2_holds_5 2 rfl rfl)
theorem dX2_holds_125 : decode cX2_holds 125 = .ok (.istore 8, 2) := dk_54 8 (dk_at dksX2_holds_5 5 rfl rfl)
theorem dX2_holds_127 : decode cX2_holds 127 = .ok (.iconst 0, 1) := dk_3 (dk_at dksX2_holds_5 7 rfl rfl)
theorem dX2_holds_128 : decode cX2_holds 128 = .ok (.istore 9, 2) := dk_54 9 (dk_at dksX2_holds_5 8 rfl rfl)
theorem dX2_holds_130 : decode cX2_holds 130 = .ok (.iload 9, 2) := dk_21 9 (dk_at dksX2_holds_5 10 rfl rfl)
theorem dX2_holds_132 : decode cX2_holds 132 = .ok (.iload 8, 2) := dk_21 8 (dk_at dksX2_holds_5 12 rfl rfl)
theorem dX2_holds_134 : decode cX2_holds 134 = .ok (.if_icmp .ge 37, 3) := dk_162 0 37 (dk_at dksX2_holds_5 14 rfl rfl)
theorem dX2_holds_137 : decode cX2_holds 137 = .ok (.aload_n 0, 1) := dk_42 (dk_at dksX2_holds_5 17 rfl rfl)
theorem dX2_holds_138 : decode cX2_holds 138 = .ok (.iload_n 1, 1) := dk_27 (dk_at dksX2_holds_5 18 rfl rfl)
theorem dX2_holds_139 : decode cX2_holds 139 = .ok (.iload_n 2, 1) := dk_28 (dk_at dksX2_holds_5 19 rfl rfl)
theorem dX2_holds_140 : decode cX2_holds 140 = .ok (.iconst 1, 1) := dk_4 (dk_at dksX2_holds_5 20 rfl rfl)
theorem dX2_holds_141 : decode cX2_holds 141 = .ok (.iadd, 1) := dk_96 (dk_at dksX2_holds_5 21 rfl rfl)
theorem dX2_holds_142 : decode cX2_holds 142 = .ok (.iload 7, 2) := dk_21 7 (dk_at dksX2_holds_5 22 rfl rfl)
theorem dX2_holds_144 : decode cX2_holds 144 = .ok (.bipush 64, 2) := dk_16 64 (dk_at dksX2_holds_6 0 rfl rfl)
theorem dX2_holds_146 : decode cX2_holds 146 = .ok (.iload 9, 2) := dk_21 9 (dk_at dksX2_holds_6 2 rfl rfl)
theorem dX2_holds_148 : decode cX2_holds 148 = .ok (.imul, 1) := dk_104 (dk_at dksX2_holds_6 4 rfl rfl)
theorem dX2_holds_149 : decode cX2_holds 149 = .ok (.iadd, 1) := dk_96 (dk_at dksX2_holds_6 5 rfl rfl)
theorem dX2_holds_150 : decode cX2_holds 150 = .ok (.iload 4, 2) := dk_21 4 (dk_at dksX2_holds_6 6 rfl rfl)
theorem dX2_holds_152 : decode cX2_holds 152 = .ok (.invokestatic 995, 3) := dk_184 3 227 (dk_at dksX2_holds_6 8 rfl rfl)
theorem dX2_holds_155 : decode cX2_holds 155 = .ok (.istore 10, 2) := dk_54 10 (dk_at dksX2_holds_6 11 rfl rfl)
theorem dX2_holds_157 : decode cX2_holds 157 = .ok (.iload 10, 2) := dk_21 10 (dk_at dksX2_holds_6 13 rfl rfl)
theorem dX2_holds_159 : decode cX2_holds 159 = .ok (.ifCond .lt 6, 3) := dk_155 0 6 (dk_at dksX2_holds_6 15 rfl rfl)
theorem dX2_holds_162 : decode cX2_holds 162 = .ok (.iload 10, 2) := dk_21 10 (dk_at dksX2_holds_6 18 rfl rfl)
theorem dX2_holds_164 : decode cX2_holds 164 = .ok (.ireturn, 1) := dk_172 (dk_at dksX2_holds_6 20 rfl rfl)
theorem dX2_holds_165 : decode cX2_holds 165 = .ok (.iinc 9 1, 3) := dk_132 9 1 (dk_at dksX2_holds_6 21 rfl rfl)
theorem dX2_holds_168 : decode cX2_holds 168 = .ok (.goto (-38), 3) := dk_167 255 218 (dk_at dksX2_holds_7 0 rfl rfl)
theorem dX2_holds_171 : decode cX2_holds 171 = .ok (.aload_n 0, 1) := dk_42 (dk_at dksX2_holds_7 3 rfl rfl)
theorem dX2_holds_172 : decode cX2_holds 172 = .ok (.iload 7, 2) := dk_21 7 (dk_at dksX2_holds_7 4 rfl rfl)
theorem dX2_holds_174 : decode cX2_holds 174 = .ok (.putfield 955, 3) := dk_181 3 187 (dk_at dksX2_holds_7 6 rfl rfl)
theorem dX2_holds_177 : decode cX2_holds 177 = .ok (.iconst (-1), 1) := dk_2 (dk_at dksX2_holds_7 9 rfl rfl)
theorem dX2_holds_178 : decode cX2_holds 178 = .ok (.ireturn, 1) := dk_172 (dk_at dksX2_holds_7 10 rfl rfl)
abbrev cX2_holdsPart : ByteArray := prog_4_method_140_code
def yX2_holdsPart : MethodName := ⟨RX2, "holdsPart", "(III)Z"⟩
def dkwX2_holdsPart_4 : List UInt8 := [180, 0, 241, 27, 46, 28, 29, 182, 3, 242, 160, 0, 7, 4, 167, 0, 4, 3, 172]
abbrev dktX2_holdsPart_4 : List UInt8 := dkwX2_holdsPart_4 ++ []
def dkwX2_holdsPart_3 : List UInt8 := [167, 0, 4, 3, 172, 42, 42, 180, 0, 190, 42, 180, 0, 241, 27, 46, 46, 182, 3, 230, 21, 4, 42, 42]
abbrev dktX2_holdsPart_3 : List UInt8 := dkwX2_holdsPart_3 ++ dktX2_holdsPart_4
def dkwX2_holdsPart_2 : List UInt8 := [155, 0, 27, 42, 42, 180, 0, 193, 21, 4, 46, 42, 180, 0, 244, 27, 46, 182, 2, 102, 153, 0, 7, 4]
abbrev dktX2_holdsPart_2 : List UInt8 := dkwX2_holdsPart_2 ++ dktX2_holdsPart_3
def dkwX2_holdsPart_1 : List UInt8 := [182, 3, 242, 54, 4, 42, 180, 0, 117, 27, 46, 5, 160, 0, 39, 42, 180, 0, 193, 21, 4, 46]
abbrev dktX2_holdsPart_1 : List UInt8 := dkwX2_holdsPart_1 ++ dktX2_holdsPart_2
def dkwX2_holdsPart_0 : List UInt8 := [42, 42, 180, 0, 190, 42, 180, 0, 238, 27, 46, 46, 182, 3, 230, 42, 42, 180, 0, 238, 27, 46, 28, 29]
abbrev dktX2_holdsPart_0 : List UInt8 := dkwX2_holdsPart_0 ++ dktX2_holdsPart_1
theorem dksX2_holdsPart_0 : cX2_holdsPart.data.toList.drop 0 = dktX2_holdsPart_0 := by decide +kernel
theorem dksX2_holdsPart_1 : cX2_holdsPart.data.toList.drop 24 = dktX2_holdsPart_1 := dk_seg dksX2_holdsPart_0 24 rfl rfl
theorem dksX2_holdsPart_2 : cX2_holdsPart.data.toList.drop 46 = dktX2_holdsPart_2 := dk_seg dksX2_holdsPart_1 22 rfl rfl
theorem dksX2_holdsPart_3 : cX2_holdsPart.data.toList.drop 70 = dktX2_holdsPart_3 := dk_seg dksX2_holdsPart_2 24 rfl rfl
theorem dksX2_holdsPart_4 : cX2_holdsPart.data.toList.drop 94 = dktX2_holdsPart_4 := dk_seg dksX2_holdsPart_3 24 rfl rfl
theorem dX2_holdsPart_0 : decode cX2_holdsPart 0 = .ok (.aload_n 0, 1) := dk_42 (dk_at dksX2_holdsPart_0 0 rfl rfl)
theorem dX2_holdsPart_1 : decode cX2_holdsPart 1 = .ok (.aload_n 0, 1) := dk_42 (dk_at dksX2_holdsPart_0 1 rfl rfl)
theorem dX2_holdsPart_2 : decode cX2_holdsPart 2 = .ok (.getfield 190, 3) := dk_180 0 190 (dk_at dksX2_holdsPart_0 2 rfl rfl)
theorem dX2_holdsPart_5 : decode cX2_holdsPart 5 = .ok (.aload_n 0, 1) := dk_42 (dk_at dksX2_holdsPart_0 5 rfl rfl)
theorem dX2_holdsPart_6 : decode cX2_holdsPart 6 = .ok (.getfield 238, 3) := dk_180 0 238 (dk_at dksX2_holdsPart_0 6 rfl rfl)
theorem dX2_holdsPart_9 : decode cX2_holdsPart 9 = .ok (.iload_n 1, 1) := dk_27 (dk_at dksX2_holdsPart_0 9 rfl rfl)
theorem dX2_holdsPart_10 : decode cX2_holdsPart 10 = .ok (.iaload, 1) := dk_46 (dk_at dksX2_holdsPart_0 10 rfl rfl)
theorem dX2_holdsPart_11 : decode cX2_holdsPart 11 = .ok (.iaload, 1) := dk_46 (dk_at dksX2_holdsPart_0 11 rfl rfl)
theorem dX2_holdsPart_12 : decode cX2_holdsPart 12 = .ok (.invokevirtual 998, 3) := dk_182 3 230 (dk_at dksX2_holdsPart_0 12 rfl rfl)
theorem dX2_holdsPart_15 : decode cX2_holdsPart 15 = .ok (.aload_n 0, 1) := dk_42 (dk_at dksX2_holdsPart_0 15 rfl rfl)
theorem dX2_holdsPart_16 : decode cX2_holdsPart 16 = .ok (.aload_n 0, 1) := dk_42 (dk_at dksX2_holdsPart_0 16 rfl rfl)
theorem dX2_holdsPart_17 : decode cX2_holdsPart 17 = .ok (.getfield 238, 3) := dk_180 0 238 (dk_at dksX2_holdsPart_0 17 rfl rfl)
theorem dX2_holdsPart_20 : decode cX2_holdsPart 20 = .ok (.iload_n 1, 1) := dk_27 (dk_at dksX2_holdsPart_0 20 rfl rfl)
theorem dX2_holdsPart_21 : decode cX2_holdsPart 21 = .ok (.iaload, 1) := dk_46 (dk_at dksX2_holdsPart_0 21 rfl rfl)
theorem dX2_holdsPart_22 : decode cX2_holdsPart 22 = .ok (.iload_n 2, 1) := dk_28 (dk_at dksX2_holdsPart_0 22 rfl rfl)
theorem dX2_holdsPart_23 : decode cX2_holdsPart 23 = .ok (.iload_n 3, 1) := dk_29 (dk_at dksX2_holdsPart_0 23 rfl rfl)
theorem dX2_holdsPart_24 : decode cX2_holdsPart 24 = .ok (.invokevirtual 1010, 3) := dk_182 3 242 (dk_at dksX2_holdsPart_1 0 rfl rfl)
theorem dX2_holdsPart_27 : decode cX2_holdsPart 27 = .ok (.istore 4, 2) := dk_54 4 (dk_at dksX2_holdsPart_1 3 rfl rfl)
theorem dX2_holdsPart_29 : decode cX2_holdsPart 29 = .ok (.aload_n 0, 1) := dk_42 (dk_at dksX2_holdsPart_1 5 rfl rfl)
theorem dX2_holdsPart_30 : decode cX2_holdsPart 30 = .ok (.getfield 117, 3) := dk_180 0 117 (dk_at dksX2_holdsPart_1 6 rfl rfl)
theorem dX2_holdsPart_33 : decode cX2_holdsPart 33 = .ok (.iload_n 1, 1) := dk_27 (dk_at dksX2_holdsPart_1 9 rfl rfl)
theorem dX2_holdsPart_34 : decode cX2_holdsPart 34 = .ok (.iaload, 1) := dk_46 (dk_at dksX2_holdsPart_1 10 rfl rfl)
theorem dX2_holdsPart_35 : decode cX2_holdsPart 35 = .ok (.iconst 2, 1) := dk_5 (dk_at dksX2_holdsPart_1 11 rfl rfl)
theorem dX2_holdsPart_36 : decode cX2_holdsPart 36 = .ok (.if_icmp .ne 39, 3) := dk_160 0 39 (dk_at dksX2_holdsPart_1 12 rfl rfl)
theorem dX2_holdsPart_39 : decode cX2_holdsPart 39 = .ok (.aload_n 0, 1) := dk_42 (dk_at dksX2_holdsPart_1 15 rfl rfl)
theorem dX2_holdsPart_40 : decode cX2_holdsPart 40 = .ok (.getfield 193, 3) := dk_180 0 193 (dk_at dksX2_holdsPart_1 16 rfl rfl)
theorem dX2_holdsPart_43 : decode cX2_holdsPart 43 = .ok (.iload 4, 2) := dk_21 4 (dk_at dksX2_holdsPart_1 19 rfl rfl)
theorem dX2_holdsPart_45 : decode cX2_holdsPart 45 = .ok (.iaload, 1) := dk_46 (dk_at dksX2_holdsPart_1 21 rfl rfl)
theorem dX2_holdsPart_46 : decode cX2_holdsPart 46 = .ok (.ifCond .lt 27, 3) := dk_155 0 27 (dk_at dksX2_holdsPart_2 0 rfl rfl)
theorem dX2_holdsPart_49 : decode cX2_holdsPart 49 = .ok (.aload_n 0, 1) := dk_42 (dk_at dksX2_holdsPart_2 3 rfl rfl)
theorem dX2_holdsPart_50 : decode cX2_holdsPart 50 = .ok (.aload_n 0, 1) := dk_42 (dk_at dksX2_holdsPart_2 4 rfl rfl)
theorem dX2_holdsPart_51 : decode cX2_holdsPart 51 = .ok (.getfield 193, 3) := dk_180 0 193 (dk_at dksX2_holdsPart_2 5 rfl rfl)
theorem dX2_holdsPart_54 : decode cX2_holdsPart 54 = .ok (.iload 4, 2) := dk_21 4 (dk_at dksX2_holdsPart_2 8 rfl rfl)
theorem dX2_holdsPart_56 : decode cX2_holdsPart 56 = .ok (.iaload, 1) := dk_46 (dk_at dksX2_holdsPart_2 10 rfl rfl)
theorem dX2_holdsPart_57 : decode cX2_holdsPart 57 = .ok (.aload_n 0, 1) := dk_42 (dk_at dksX2_holdsPart_2 11 rfl rfl)
theorem dX2_holdsPart_58 : decode cX2_holdsPart 58 = .ok (.getfield 244, 3) := dk_180 0 244 (dk_at dksX2_holdsPart_2 12 rfl rfl)
theorem dX2_holdsPart_61 : decode cX2_holdsPart 61 = .ok (.iload_n 1, 1) := dk_27 (dk_at dksX2_holdsPart_2 15 rfl rfl)
theorem dX2_holdsPart_62 : decode cX2_holdsPart 62 = .ok (.iaload, 1) := dk_46 (dk_at dksX2_holdsPart_2 16 rfl rfl)
theorem dX2_holdsPart_63 : decode cX2_holdsPart 63 = .ok (.invokevirtual 614, 3) := dk_182 2 102 (dk_at dksX2_holdsPart_2 17 rfl rfl)
theorem dX2_holdsPart_66 : decode cX2_holdsPart 66 = .ok (.ifCond .eq 7, 3) := dk_153 0 7 (dk_at dksX2_holdsPart_2 20 rfl rfl)
theorem dX2_holdsPart_69 : decode cX2_holdsPart 69 = .ok (.iconst 1, 1) := dk_4 (dk_at dksX2_holdsPart_2 23 rfl rfl)
theorem dX2_holdsPart_70 : decode cX2_holdsPart 70 = .ok (.goto 4, 3) := dk_167 0 4 (dk_at dksX2_holdsPart_3 0 rfl rfl)
theorem dX2_holdsPart_73 : decode cX2_holdsPart 73 = .ok (.iconst 0, 1) := dk_3 (dk_at dksX2_holdsPart_3 3 rfl rfl)
theorem dX2_holdsPart_74 : decode cX2_holdsPart 74 = .ok (.ireturn, 1) := dk_172 (dk_at dksX2_holdsPart_3 4 rfl rfl)
theorem dX2_holdsPart_75 : decode cX2_holdsPart 75 = .ok (.aload_n 0, 1) := dk_42 (dk_at dksX2_holdsPart_3 5 rfl rfl)
theorem dX2_holdsPart_76 : decode cX2_holdsPart 76 = .ok (.aload_n 0, 1) := dk_42 (dk_at dksX2_holdsPart_3 6 rfl rfl)
theorem dX2_holdsPart_77 : decode cX2_holdsPart 77 = .ok (.getfield 190, 3) := dk_180 0 190 (dk_at dksX2_holdsPart_3 7 rfl rfl)
theorem dX2_holdsPart_80 : decode cX2_holdsPart 80 = .ok (.aload_n 0, 1) := dk_42 (dk_at dksX2_holdsPart_3 10 rfl rfl)
theorem dX2_holdsPart_81 : decode cX2_holdsPart 81 = .ok (.getfield 241, 3) := dk_180 0 241 (dk_at dksX2_holdsPart_3 11 rfl rfl)
theorem dX2_holdsPart_84 : decode cX2_holdsPart 84 = .ok (.iload_n 1, 1) := dk_27 (dk_at dksX2_holdsPart_3 14 rfl rfl)
theorem dX2_holdsPart_85 : decode cX2_holdsPart 85 = .ok (.iaload, 1) := dk_46 (dk_at dksX2_holdsPart_3 15 rfl rfl)
theorem dX2_holdsPart_86 : decode cX2_holdsPart 86 = .ok (.iaload, 1) := dk_46 (dk_at dksX2_holdsPart_3 16 rfl rfl)
theorem dX2_holdsPart_87 : decode cX2_holdsPart 87 = .ok (.invokevirtual 998, 3) := dk_182 3 230 (dk_at dksX2_holdsPart_3 17 rfl rfl)
theorem dX2_holdsPart_90 : decode cX2_holdsPart 90 = .ok (.iload 4, 2) := dk_21 4 (dk_at dksX2_holdsPart_3 20 rfl rfl)
theorem dX2_holdsPart_92 : decode cX2_holdsPart 92 = .ok (.aload_n 0, 1) := dk_42 (dk_at dksX2_holdsPart_3 22 rfl rfl)
theorem dX2_holdsPart_93 : decode cX2_holdsPart 93 = .ok (.aload_n 0, 1) := dk_42 (dk_at dksX2_holdsPart_3 23 rfl rfl)
theorem dX2_holdsPart_94 : decode cX2_holdsPart 94 = .ok (.getfield 241, 3) := dk_180 0 241 (dk_at dksX2_holdsPart_4 0 rfl rfl)
theorem dX2_holdsPart_97 : decode cX2_holdsPart 97 = .ok (.iload_n 1, 1) := dk_27 (dk_at dksX2_holdsPart_4 3 rfl rfl)
theorem dX2_holdsPart_98 : decode cX2_holdsPart 98 = .ok (.iaload, 1) := dk_46 (dk_at dksX2_holdsPart_4 4 rfl rfl)
theorem dX2_holdsPart_99 : decode cX2_holdsPart 99 = .ok (.iload_n 2, 1) := dk_28 (dk_at dksX2_holdsPart_4 5 rfl rfl)
theorem dX2_holdsPart_100 : decode cX2_holdsPart 100 = .ok (.iload_n 3, 1) := dk_29 (dk_at dksX2_holdsPart_4 6 rfl rfl)
theorem dX2_holdsPart_101 : decode cX2_holdsPart 101 = .ok (.invokevirtual 1010, 3) := dk_182 3 242 (dk_at dksX2_holdsPart_4 7 rfl rfl)
theorem dX2_holdsPart_104 : decode cX2_holdsPart 104 = .ok (.if_icmp .ne 7, 3) := dk_160 0 7 (dk_at dksX2_holdsPart_4 10 rfl rfl)
theorem dX2_holdsPart_107 : decode cX2_holdsPart 107 = .ok (.iconst 1, 1) := dk_4 (dk_at dksX2_holdsPart_4 13 rfl rfl)
theorem dX2_holdsPart_108 : decode cX2_holdsPart 108 = .ok (.goto 4, 3) := dk_167 0 4 (dk_at dksX2_holdsPart_4 14 rfl rfl)
theorem dX2_holdsPart_111 : decode cX2_holdsPart 111 = .ok (.iconst 0, 1) := dk_3 (dk_at dksX2_holdsPart_4 17 rfl rfl)
theorem dX2_holdsPart_112 : decode cX2_holdsPart 112 = .ok (.ireturn, 1) := dk_172 (dk_at dksX2_holdsPart_4 18 rfl rfl)
abbrev cX2_fill : ByteArray := prog_4_method_129_code
def yX2_fill : MethodName := ⟨RX2, "fill", "(I)V"⟩
def dkwX2_fill_1 : List UInt8 := [182, 1, 178, 177]
abbrev dktX2_fill_1 : List UInt8 := dkwX2_fill_1 ++ []
def dkwX2_fill_0 : List UInt8 := [42, 42, 180, 3, 196, 27, 96, 181, 3, 196, 42, 180, 3, 196, 17, 15, 160, 164, 0, 10, 42, 16, 7, 3]
abbrev dktX2_fill_0 : List UInt8 := dkwX2_fill_0 ++ dktX2_fill_1
theorem dksX2_fill_0 : cX2_fill.data.toList.drop 0 = dktX2_fill_0 := by decide +kernel
theorem dksX2_fill_1 : cX2_fill.data.toList.drop 24 = dktX2_fill_1 := dk_seg dksX2_fill_0 24 rfl rfl
theorem dX2_fill_0 : decode cX2_fill 0 = .ok (.aload_n 0, 1) := dk_42 (dk_at dksX2_fill_0 0 rfl rfl)
theorem dX2_fill_1 : decode cX2_fill 1 = .ok (.aload_n 0, 1) := dk_42 (dk_at dksX2_fill_0 1 rfl rfl)
theorem dX2_fill_2 : decode cX2_fill 2 = .ok (.getfield 964, 3) := dk_180 3 196 (dk_at dksX2_fill_0 2 rfl rfl)
theorem dX2_fill_5 : decode cX2_fill 5 = .ok (.iload_n 1, 1) := dk_27 (dk_at dksX2_fill_0 5 rfl rfl)
theorem dX2_fill_6 : decode cX2_fill 6 = .ok (.iadd, 1) := dk_96 (dk_at dksX2_fill_0 6 rfl rfl)
theorem dX2_fill_7 : decode cX2_fill 7 = .ok (.putfield 964, 3) := dk_181 3 196 (dk_at dksX2_fill_0 7 rfl rfl)
theorem dX2_fill_10 : decode cX2_fill 10 = .ok (.aload_n 0, 1) := dk_42 (dk_at dksX2_fill_0 10 rfl rfl)
theorem dX2_fill_11 : decode cX2_fill 11 = .ok (.getfield 964, 3) := dk_180 3 196 (dk_at dksX2_fill_0 11 rfl rfl)
theorem dX2_fill_14 : decode cX2_fill 14 = .ok (.sipush 4000, 3) := dk_17 15 160 (dk_at dksX2_fill_0 14 rfl rfl)
theorem dX2_fill_17 : decode cX2_fill 17 = .ok (.if_icmp .le 10, 3) := dk_164 0 10 (dk_at dksX2_fill_0 17 rfl rfl)
theorem dX2_fill_20 : decode cX2_fill 20 = .ok (.aload_n 0, 1) := dk_42 (dk_at dksX2_fill_0 20 rfl rfl)
theorem dX2_fill_21 : decode cX2_fill 21 = .ok (.bipush 7, 2) := dk_16 7 (dk_at dksX2_fill_0 21 rfl rfl)
theorem dX2_fill_23 : decode cX2_fill 23 = .ok (.iconst 0, 1) := dk_3 (dk_at dksX2_fill_0 23 rfl rfl)
theorem dX2_fill_24 : decode cX2_fill 24 = .ok (.invokevirtual 434, 3) := dk_182 1 178 (dk_at dksX2_fill_1 0 rfl rfl)
theorem dX2_fill_27 : decode cX2_fill 27 = .ok (.return_, 1) := dk_177 (dk_at dksX2_fill_1 3 rfl rfl)
abbrev cX2_reducedPart : ByteArray := prog_4_method_139_code
def yX2_reducedPart : MethodName := ⟨RX2, "reducedPart", "(III)I"⟩
def dkwX2_reducedPart_0 : List UInt8 := [42, 42, 27, 28, 182, 3, 233, 29, 4, 96, 184, 3, 220, 172]
abbrev dktX2_reducedPart_0 : List UInt8 := dkwX2_reducedPart_0 ++ []
theorem dksX2_reducedPart_0 : cX2_reducedPart.data.toList.drop 0 = dktX2_reducedPart_0 := by decide +kernel
theorem dX2_reducedPart_0 : decode cX2_reducedPart 0 = .ok (.aload_n 0, 1) := dk_42 (dk_at dksX2_reducedPart_0 0 rfl rfl)
theorem dX2_reducedPart_1 : decode cX2_reducedPart 1 = .ok (.aload_n 0, 1) := dk_42 (dk_at dksX2_reducedPart_0 1 rfl rfl)
theorem dX2_reducedPart_2 : decode cX2_reducedPart 2 = .ok (.iload_n 1, 1) := dk_27 (dk_at dksX2_reducedPart_0 2 rfl rfl)
theorem dX2_reducedPart_3 : decode cX2_reducedPart 3 = .ok (.iload_n 2, 1) := dk_28 (dk_at dksX2_reducedPart_0 3 rfl rfl)
theorem dX2_reducedPart_4 : decode cX2_reducedPart 4 = .ok (.invokevirtual 1001, 3) := dk_182 3 233 (dk_at dksX2_reducedPart_0 4 rfl rfl)
theorem dX2_reducedPart_7 : decode cX2_reducedPart 7 = .ok (.iload_n 3, 1) := dk_29 (dk_at dksX2_reducedPart_0 7 rfl rfl)
theorem dX2_reducedPart_8 : decode cX2_reducedPart 8 = .ok (.iconst 1, 1) := dk_4 (dk_at dksX2_reducedPart_0 8 rfl rfl)
theorem dX2_reducedPart_9 : decode cX2_reducedPart 9 = .ok (.iadd, 1) := dk_96 (dk_at dksX2_reducedPart_0 9 rfl rfl)
theorem dX2_reducedPart_10 : decode cX2_reducedPart 10 = .ok (.invokestatic 988, 3) := dk_184 3 220 (dk_at dksX2_reducedPart_0 10 rfl rfl)
theorem dX2_reducedPart_13 : decode cX2_reducedPart 13 = .ok (.ireturn, 1) := dk_172 (dk_at dksX2_reducedPart_0 13 rfl rfl)
abbrev cX2_putIn : ByteArray := prog_4_method_131_code
def yX2_putIn : MethodName := ⟨RX2, "putIn", "(II)I"⟩
def dkwX2_putIn_1 : List UInt8 := [182, 1, 178, 29, 172]
abbrev dktX2_putIn_1 : List UInt8 := dkwX2_putIn_1 ++ []
def dkwX2_putIn_0 : List UInt8 := [42, 27, 28, 184, 3, 199, 62, 42, 180, 0, 190, 29, 46, 16, 40, 164, 0, 10, 42, 16, 6, 3]
abbrev dktX2_putIn_0 : List UInt8 := dkwX2_putIn_0 ++ dktX2_putIn_1
theorem dksX2_putIn_0 : cX2_putIn.data.toList.drop 0 = dktX2_putIn_0 := by decide +kernel
theorem dksX2_putIn_1 : cX2_putIn.data.toList.drop 22 = dktX2_putIn_1 := dk_seg dksX2_putIn_0 22 rfl rfl
theorem dX2_putIn_0 : decode cX2_putIn 0 = .ok (.aload_n 0, 1) := dk_42 (dk_at dksX2_putIn_0 0 rfl rfl)
theorem dX2_putIn_1 : decode cX2_putIn 1 = .ok (.iload_n 1, 1) := dk_27 (dk_at dksX2_putIn_0 1 rfl rfl)
theorem dX2_putIn_2 : decode cX2_putIn 2 = .ok (.iload_n 2, 1) := dk_28 (dk_at dksX2_putIn_0 2 rfl rfl)
theorem dX2_putIn_3 : decode cX2_putIn 3 = .ok (.invokestatic 967, 3) := dk_184 3 199 (dk_at dksX2_putIn_0 3 rfl rfl)
theorem dX2_putIn_6 : decode cX2_putIn 6 = .ok (.istore_n 3, 1) := dk_62 (dk_at dksX2_putIn_0 6 rfl rfl)
theorem dX2_putIn_7 : decode cX2_putIn 7 = .ok (.aload_n 0, 1) := dk_42 (dk_at dksX2_putIn_0 7 rfl rfl)
theorem dX2_putIn_8 : decode cX2_putIn 8 = .ok (.getfield 190, 3) := dk_180 0 190 (dk_at dksX2_putIn_0 8 rfl rfl)
theorem dX2_putIn_11 : decode cX2_putIn 11 = .ok (.iload_n 3, 1) := dk_29 (dk_at dksX2_putIn_0 11 rfl rfl)
theorem dX2_putIn_12 : decode cX2_putIn 12 = .ok (.iaload, 1) := dk_46 (dk_at dksX2_putIn_0 12 rfl rfl)
theorem dX2_putIn_13 : decode cX2_putIn 13 = .ok (.bipush 40, 2) := dk_16 40 (dk_at dksX2_putIn_0 13 rfl rfl)
theorem dX2_putIn_15 : decode cX2_putIn 15 = .ok (.if_icmp .le 10, 3) := dk_164 0 10 (dk_at dksX2_putIn_0 15 rfl rfl)
theorem dX2_putIn_18 : decode cX2_putIn 18 = .ok (.aload_n 0, 1) := dk_42 (dk_at dksX2_putIn_0 18 rfl rfl)
theorem dX2_putIn_19 : decode cX2_putIn 19 = .ok (.bipush 6, 2) := dk_16 6 (dk_at dksX2_putIn_0 19 rfl rfl)
theorem dX2_putIn_21 : decode cX2_putIn 21 = .ok (.iconst 0, 1) := dk_3 (dk_at dksX2_putIn_0 21 rfl rfl)
theorem dX2_putIn_22 : decode cX2_putIn 22 = .ok (.invokevirtual 434, 3) := dk_182 1 178 (dk_at dksX2_putIn_1 0 rfl rfl)
theorem dX2_putIn_25 : decode cX2_putIn 25 = .ok (.iload_n 3, 1) := dk_29 (dk_at dksX2_putIn_1 3 rfl rfl)
theorem dX2_putIn_26 : decode cX2_putIn 26 = .ok (.ireturn, 1) := dk_172 (dk_at dksX2_putIn_1 4 rfl rfl)
abbrev cX2_put : ByteArray := prog_4_method_130_code
def yX2_put : MethodName := ⟨RX2, "put", "(LRewriteHouseModel;II)I"⟩
def dkwX2_put_4 : List UInt8 := [29, 182, 2, 248, 172]
abbrev dktX2_put_4 : List UInt8 := dkwX2_put_4 ++ []
def dkwX2_put_3 : List UInt8 := [184, 3, 199, 54, 5, 42, 21, 5, 182, 2, 245, 132, 4, 1, 167, 255, 222, 42, 42, 180, 0, 181, 27, 46]
abbrev dktX2_put_3 : List UInt8 := dkwX2_put_3 ++ dktX2_put_4
def dkwX2_put_2 : List UInt8 := [62, 3, 54, 4, 21, 4, 42, 180, 0, 187, 27, 46, 162, 0, 29, 42, 42, 27, 21, 4, 182, 2, 179, 28]
abbrev dktX2_put_2 : List UInt8 := dkwX2_put_2 ++ dktX2_put_3
def dkwX2_put_1 : List UInt8 := [156, 0, 7, 27, 167, 0, 4, 29, 172, 42, 180, 0, 187, 27, 46, 154, 0, 5, 27, 172, 42, 180, 2, 195]
abbrev dktX2_put_1 : List UInt8 := dkwX2_put_1 ++ dktX2_put_2
def dkwX2_put_0 : List UInt8 := [42, 27, 182, 2, 185, 153, 0, 26, 42, 180, 1, 22, 28, 42, 27, 182, 2, 188, 96, 46, 62, 29]
abbrev dktX2_put_0 : List UInt8 := dkwX2_put_0 ++ dktX2_put_1
theorem dksX2_put_0 : cX2_put.data.toList.drop 0 = dktX2_put_0 := by decide +kernel
theorem dksX2_put_1 : cX2_put.data.toList.drop 22 = dktX2_put_1 := dk_seg dksX2_put_0 22 rfl rfl
theorem dksX2_put_2 : cX2_put.data.toList.drop 46 = dktX2_put_2 := dk_seg dksX2_put_1 24 rfl rfl
theorem dksX2_put_3 : cX2_put.data.toList.drop 70 = dktX2_put_3 := dk_seg dksX2_put_2 24 rfl rfl
theorem dksX2_put_4 : cX2_put.data.toList.drop 94 = dktX2_put_4 := dk_seg dksX2_put_3 24 rfl rfl
theorem dX2_put_0 : decode cX2_put 0 = .ok (.aload_n 0, 1) := dk_42 (dk_at dksX2_put_0 0 rfl rfl)
theorem dX2_put_1 : decode cX2_put 1 = .ok (.iload_n 1, 1) := dk_27 (dk_at dksX2_put_0 1 rfl rfl)
theorem dX2_put_2 : decode cX2_put 2 = .ok (.invokevirtual 697, 3) := dk_182 2 185 (dk_at dksX2_put_0 2 rfl rfl)
theorem dX2_put_5 : decode cX2_put 5 = .ok (.ifCond .eq 26, 3) := dk_153 0 26 (dk_at dksX2_put_0 5 rfl rfl)
theorem dX2_put_8 : decode cX2_put 8 = .ok (.aload_n 0, 1) := dk_42 (dk_at dksX2_put_0 8 rfl rfl)
theorem dX2_put_9 : decode cX2_put 9 = .ok (.getfield 278, 3) := dk_180 1 22 (dk_at dksX2_put_0 9 rfl rfl)
theorem dX2_put_12 : decode cX2_put 12 = .ok (.iload_n 2, 1) := dk_28 (dk_at dksX2_put_0 12 rfl rfl)
theorem dX2_put_13 : decode cX2_put 13 = .ok (.aload_n 0, 1) := dk_42 (dk_at dksX2_put_0 13 rfl rfl)
theorem dX2_put_14 : decode cX2_put 14 = .ok (.iload_n 1, 1) := dk_27 (dk_at dksX2_put_0 14 rfl rfl)
theorem dX2_put_15 : decode cX2_put 15 = .ok (.invokevirtual 700, 3) := dk_182 2 188 (dk_at dksX2_put_0 15 rfl rfl)
theorem dX2_put_18 : decode cX2_put 18 = .ok (.iadd, 1) := dk_96 (dk_at dksX2_put_0 18 rfl rfl)
theorem dX2_put_19 : decode cX2_put 19 = .ok (.iaload, 1) := dk_46 (dk_at dksX2_put_0 19 rfl rfl)
theorem dX2_put_20 : decode cX2_put 20 = .ok (.istore_n 3, 1) := dk_62 (dk_at dksX2_put_0 20 rfl rfl)
theorem dX2_put_21 : decode cX2_put 21 = .ok (.iload_n 3, 1) := dk_29 (dk_at dksX2_put_0 21 rfl rfl)
theorem dX2_put_22 : decode cX2_put 22 = .ok (.ifCond .ge 7, 3) := dk_156 0 7 (dk_at dksX2_put_1 0 rfl rfl)
theorem dX2_put_25 : decode cX2_put 25 = .ok (.iload_n 1, 1) := dk_27 (dk_at dksX2_put_1 3 rfl rfl)
theorem dX2_put_26 : decode cX2_put 26 = .ok (.goto 4, 3) := dk_167 0 4 (dk_at dksX2_put_1 4 rfl rfl)
theorem dX2_put_29 : decode cX2_put 29 = .ok (.iload_n 3, 1) := dk_29 (dk_at dksX2_put_1 7 rfl rfl)
theorem dX2_put_30 : decode cX2_put 30 = .ok (.ireturn, 1) := dk_172 (dk_at dksX2_put_1 8 rfl rfl)
theorem dX2_put_31 : decode cX2_put 31 = .ok (.aload_n 0, 1) := dk_42 (dk_at dksX2_put_1 9 rfl rfl)
theorem dX2_put_32 : decode cX2_put 32 = .ok (.getfield 187, 3) := dk_180 0 187 (dk_at dksX2_put_1 10 rfl rfl)
theorem dX2_put_35 : decode cX2_put 35 = .ok (.iload_n 1, 1) := dk_27 (dk_at dksX2_put_1 13 rfl rfl)
theorem dX2_put_36 : decode cX2_put 36 = .ok (.iaload, 1) := dk_46 (dk_at dksX2_put_1 14 rfl rfl)
theorem dX2_put_37 : decode cX2_put 37 = .ok (.ifCond .ne 5, 3) := dk_154 0 5 (dk_at dksX2_put_1 15 rfl rfl)
theorem dX2_put_40 : decode cX2_put 40 = .ok (.iload_n 1, 1) := dk_27 (dk_at dksX2_put_1 18 rfl rfl)
theorem dX2_put_41 : decode cX2_put 41 = .ok (.ireturn, 1) := dk_172 (dk_at dksX2_put_1 19 rfl rfl)
theorem dX2_put_42 : decode cX2_put 42 = .ok (.aload_n 0, 1) := dk_42 (dk_at dksX2_put_1 20 rfl rfl)
theorem dX2_put_43 : decode cX2_put 43 = .ok (.getfield 707, 3) := dk_180 2 195 (dk_at dksX2_put_1 21 rfl rfl)
theorem dX2_put_46 : decode cX2_put 46 = .ok (.istore_n 3, 1) := dk_62 (dk_at dksX2_put_2 0 rfl rfl)
theorem dX2_put_47 : decode cX2_put 47 = .ok (.iconst 0, 1) := dk_3 (dk_at dksX2_put_2 1 rfl rfl)
theorem dX2_put_48 : decode cX2_put 48 = .ok (.istore 4, 2) := dk_54 4 (dk_at dksX2_put_2 2 rfl rfl)
theorem dX2_put_50 : decode cX2_put 50 = .ok (.iload 4, 2) := dk_21 4 (dk_at dksX2_put_2 4 rfl rfl)
theorem dX2_put_52 : decode cX2_put 52 = .ok (.aload_n 0, 1) := dk_42 (dk_at dksX2_put_2 6 rfl rfl)
theorem dX2_put_53 : decode cX2_put 53 = .ok (.getfield 187, 3) := dk_180 0 187 (dk_at dksX2_put_2 7 rfl rfl)
theorem dX2_put_56 : decode cX2_put 56 = .ok (.iload_n 1, 1) := dk_27 (dk_at dksX2_put_2 10 rfl rfl)
theorem dX2_put_57 : decode cX2_put 57 = .ok (.iaload, 1) := dk_46 (dk_at dksX2_put_2 11 rfl rfl)
theorem dX2_put_58 : decode cX2_put 58 = .ok (.if_icmp .ge 29, 3) := dk_162 0 29 (dk_at dksX2_put_2 12 rfl rfl)
theorem dX2_put_61 : decode cX2_put 61 = .ok (.aload_n 0, 1) := dk_42 (dk_at dksX2_put_2 15 rfl rfl)
theorem dX2_put_62 : decode cX2_put 62 = .ok (.aload_n 0, 1) := dk_42 (dk_at dksX2_put_2 16 rfl rfl)
theorem dX2_put_63 : decode cX2_put 63 = .ok (.iload_n 1, 1) := dk_27 (dk_at dksX2_put_2 17 rfl rfl)
theorem dX2_put_64 : decode cX2_put 64 = .ok (.iload 4, 2) := dk_21 4 (dk_at dksX2_put_2 18 rfl rfl)
theorem dX2_put_66 : decode cX2_put 66 = .ok (.invokevirtual 691, 3) := dk_182 2 179 (dk_at dksX2_put_2 20 rfl rfl)
theorem dX2_put_69 : decode cX2_put 69 = .ok (.iload_n 2, 1) := dk_28 (dk_at dksX2_put_2 23 rfl rfl)
theorem dX2_put_70 : decode cX2_put 70 = .ok (.invokestatic 967, 3) := dk_184 3 199 (dk_at dksX2_put_3 0 rfl rfl)
theorem dX2_put_73 : decode cX2_put 73 = .ok (.istore 5, 2) := dk_54 5 (dk_at dksX2_put_3 3 rfl rfl)
theorem dX2_put_75 : decode cX2_put 75 = .ok (.aload_n 0, 1) := dk_42 (dk_at dksX2_put_3 5 rfl rfl)
theorem dX2_put_76 : decode cX2_put 76 = .ok (.iload 5, 2) := dk_21 5 (dk_at dksX2_put_3 6 rfl rfl)
theorem dX2_put_78 : decode cX2_put 78 = .ok (.invokevirtual 757, 3) := dk_182 2 245 (dk_at dksX2_put_3 8 rfl rfl)
theorem dX2_put_81 : decode cX2_put 81 = .ok (.iinc 4 1, 3) := dk_132 4 1 (dk_at dksX2_put_3 11 rfl rfl)
theorem dX2_put_84 : decode cX2_put 84 = .ok (.goto (-34), 3) := dk_167 255 222 (dk_at dksX2_put_3 14 rfl rfl)
theorem dX2_put_87 : decode cX2_put 87 = .ok (.aload_n 0, 1) := dk_42 (dk_at dksX2_put_3 17 rfl rfl)
theorem dX2_put_88 : decode cX2_put 88 = .ok (.aload_n 0, 1) := dk_42 (dk_at dksX2_put_3 18 rfl rfl)
theorem dX2_put_89 : decode cX2_put 89 = .ok (.getfield 181, 3) := dk_180 0 181 (dk_at dksX2_put_3 19 rfl rfl)
theorem dX2_put_92 : decode cX2_put 92 = .ok (.iload_n 1, 1) := dk_27 (dk_at dksX2_put_3 22 rfl rfl)
theorem dX2_put_93 : decode cX2_put 93 = .ok (.iaload, 1) := dk_46 (dk_at dksX2_put_3 23 rfl rfl)
theorem dX2_put_94 : decode cX2_put 94 = .ok (.iload_n 3, 1) := dk_29 (dk_at dksX2_put_4 0 rfl rfl)
theorem dX2_put_95 : decode cX2_put 95 = .ok (.invokevirtual 760, 3) := dk_182 2 248 (dk_at dksX2_put_4 1 rfl rfl)
theorem dX2_put_98 : decode cX2_put 98 = .ok (.ireturn, 1) := dk_172 (dk_at dksX2_put_4 4 rfl rfl)
abbrev cX2_beside : ByteArray := prog_4_method_132_code
def yX2_beside : MethodName := ⟨RX2, "beside", "(III)I"⟩
def dkwX2_beside_4 : List UInt8 := [21, 7, 172]
abbrev dktX2_beside_4 : List UInt8 := dkwX2_beside_4 ++ []
def dkwX2_beside_3 : List UInt8 := [182, 2, 248, 54, 7, 42, 180, 0, 190, 21, 7, 46, 16, 40, 164, 0, 10, 42, 16, 6, 3, 182, 1, 178]
abbrev dktX2_beside_3 : List UInt8 := dkwX2_beside_3 ++ dktX2_beside_4
def dkwX2_beside_2 : List UInt8 := [182, 2, 245, 42, 28, 182, 2, 245, 21, 5, 155, 0, 9, 42, 21, 5, 182, 2, 245, 42, 27, 21, 6]
abbrev dktX2_beside_2 : List UInt8 := dkwX2_beside_2 ++ dktX2_beside_3
def dkwX2_beside_1 : List UInt8 := [156, 0, 10, 21, 5, 156, 0, 5, 28, 172, 42, 180, 2, 195, 54, 6, 21, 4, 155, 0, 9, 42, 21, 4]
abbrev dktX2_beside_1 : List UInt8 := dkwX2_beside_1 ++ dktX2_beside_2
def dkwX2_beside_0 : List UInt8 := [42, 180, 1, 22, 29, 16, 60, 96, 46, 54, 4, 42, 180, 1, 22, 29, 16, 61, 96, 46, 54, 5, 21, 4]
abbrev dktX2_beside_0 : List UInt8 := dkwX2_beside_0 ++ dktX2_beside_1
theorem dksX2_beside_0 : cX2_beside.data.toList.drop 0 = dktX2_beside_0 := by decide +kernel
theorem dksX2_beside_1 : cX2_beside.data.toList.drop 24 = dktX2_beside_1 := dk_seg dksX2_beside_0 24 rfl rfl
theorem dksX2_beside_2 : cX2_beside.data.toList.drop 48 = dktX2_beside_2 := dk_seg dksX2_beside_1 24 rfl rfl
theorem dksX2_beside_3 : cX2_beside.data.toList.drop 71 = dktX2_beside_3 := dk_seg dksX2_beside_2 23 rfl rfl
theorem dksX2_beside_4 : cX2_beside.data.toList.drop 95 = dktX2_beside_4 := dk_seg dksX2_beside_3 24 rfl rfl
theorem dX2_beside_0 : decode cX2_beside 0 = .ok (.aload_n 0, 1) := dk_42 (dk_at dksX2_beside_0 0 rfl rfl)
theorem dX2_beside_1 : decode cX2_beside 1 = .ok (.getfield 278, 3) := dk_180 1 22 (dk_at dksX2_beside_0 1 rfl rfl)
theorem dX2_beside_4 : decode cX2_beside 4 = .ok (.iload_n 3, 1) := dk_29 (dk_at dksX2_beside_0 4 rfl rfl)
theorem dX2_beside_5 : decode cX2_beside 5 = .ok (.bipush 60, 2) := dk_16 60 (dk_at dksX2_beside_0 5 rfl rfl)
theorem dX2_beside_7 : decode cX2_beside 7 = .ok (.iadd, 1) := dk_96 (dk_at dksX2_beside_0 7 rfl rfl)
theorem dX2_beside_8 : decode cX2_beside 8 = .ok (.iaload, 1) := dk_46 (dk_at dksX2_beside_0 8 rfl rfl)
theorem dX2_beside_9 : decode cX2_beside 9 = .ok (.istore 4, 2) := dk_54 4 (dk_at dksX2_beside_0 9 rfl rfl)
theorem dX2_beside_11 : decode cX2_beside 11 = .ok (.aload_n 0, 1) := dk_42 (dk_at dksX2_beside_0 11 rfl rfl)
theorem dX2_beside_12 : decode cX2_beside 12 = .ok (.getfield 278, 3) := dk_180 1 22 (dk_at dksX2_beside_0 12 rfl rfl)
theorem dX2_beside_15 : decode cX2_beside 15 = .ok (.iload_n 3, 1) := dk_29 (dk_at dksX2_beside_0 15 rfl rfl)
theorem dX2_beside_16 : decode cX2_beside 16 = .ok (.bipush 61, 2) := dk_16 61 (dk_at dksX2_beside_0 16 rfl rfl)
theorem dX2_beside_18 : decode cX2_beside 18 = .ok (.iadd, 1) := dk_96 (dk_at dksX2_beside_0 18 rfl rfl)
theorem dX2_beside_19 : decode cX2_beside 19 = .ok (.iaload, 1) := dk_46 (dk_at dksX2_beside_0 19 rfl rfl)
theorem dX2_beside_20 : decode cX2_beside 20 = .ok (.istore 5, 2) := dk_54 5 (dk_at dksX2_beside_0 20 rfl rfl)
theorem dX2_beside_22 : decode cX2_beside 22 = .ok (.iload 4, 2) := dk_21 4 (dk_at dksX2_beside_0 22 rfl rfl)
theorem dX2_beside_24 : decode cX2_beside 24 = .ok (.ifCond .ge 10, 3) := dk_156 0 10 (dk_at dksX2_beside_1 0 rfl rfl)
theorem dX2_beside_27 : decode cX2_beside 27 = .ok (.iload 5, 2) := dk_21 5 (dk_at dksX2_beside_1 3 rfl rfl)
theorem dX2_beside_29 : decode cX2_beside 29 = .ok (.ifCond .ge 5, 3) := dk_156 0 5 (dk_at dksX2_beside_1 5 rfl rfl)
theorem dX2_beside_32 : decode cX2_beside 32 = .ok (.iload_n 2, 1) := dk_28 (dk_at dksX2_beside_1 8 rfl rfl)
theorem dX2_beside_33 : decode cX2_beside 33 = .ok (.ireturn, 1) := dk_172 (dk_at dksX2_beside_1 9 rfl rfl)
theorem dX2_beside_34 : decode cX2_beside 34 = .ok (.aload_n 0, 1) := dk_42 (dk_at dksX2_beside_1 10 rfl rfl)
theorem dX2_beside_35 : decode cX2_beside 35 = .ok (.getfield 707, 3) := dk_180 2 195 (dk_at dksX2_beside_1 11 rfl rfl)
theorem dX2_beside_38 : decode cX2_beside 38 = .ok (.istore 6, 2) := dk_54 6 (dk_at dksX2_beside_1 14 rfl rfl)
theorem dX2_beside_40 : decode cX2_beside 40 = .ok (.iload 4, 2) := dk_21 4 (dk_at dksX2_beside_1 16 rfl rfl)
theorem dX2_beside_42 : decode cX2_beside 42 = .ok (.ifCond .lt 9, 3) := dk_155 0 9 (dk_at dksX2_beside_1 18 rfl rfl)
theorem dX2_beside_45 : decode cX2_beside 45 = .ok (.aload_n 0, 1) := dk_42 (dk_at dksX2_beside_1 21 rfl rfl)
theorem dX2_beside_46 : decode cX2_beside 46 = .ok (.iload 4, 2) := dk_21 4 (dk_at dksX2_beside_1 22 rfl rfl)
theorem dX2_beside_48 : decode cX2_beside 48 = .ok (.invokevirtual 757, 3) := dk_182 2 245 (dk_at dksX2_beside_2 0 rfl rfl)
theorem dX2_beside_51 : decode cX2_beside 51 = .ok (.aload_n 0, 1) := dk_42 (dk_at dksX2_beside_2 3 rfl rfl)
theorem dX2_beside_52 : decode cX2_beside 52 = .ok (.iload_n 2, 1) := dk_28 (dk_at dksX2_beside_2 4 rfl rfl)
theorem dX2_beside_53 : decode cX2_beside 53 = .ok (.invokevirtual 757, 3) := dk_182 2 245 (dk_at dksX2_beside_2 5 rfl rfl)
theorem dX2_beside_56 : decode cX2_beside 56 = .ok (.iload 5, 2) := dk_21 5 (dk_at dksX2_beside_2 8 rfl rfl)
theorem dX2_beside_58 : decode cX2_beside 58 = .ok (.ifCond .lt 9, 3) := dk_155 0 9 (dk_at dksX2_beside_2 10 rfl rfl)
theorem dX2_beside_61 : decode cX2_beside 61 = .ok (.aload_n 0, 1) := dk_42 (dk_at dksX2_beside_2 13 rfl rfl)
theorem dX2_beside_62 : decode cX2_beside 62 = .ok (.iload 5, 2) := dk_21 5 (dk_at dksX2_beside_2 14 rfl rfl)
theorem dX2_beside_64 : decode cX2_beside 64 = .ok (.invokevirtual 757, 3) := dk_182 2 245 (dk_at dksX2_beside_2 16 rfl rfl)
theorem dX2_beside_67 : decode cX2_beside 67 = .ok (.aload_n 0, 1) := dk_42 (dk_at dksX2_beside_2 19 rfl rfl)
theorem dX2_beside_68 : decode cX2_beside 68 = .ok (.iload_n 1, 1) := dk_27 (dk_at dksX2_beside_2 20 rfl rfl)
theorem dX2_beside_69 : decode cX2_beside 69 = .ok (.iload 6, 2) := dk_21 6 (dk_at dksX2_beside_2 21 rfl rfl)
theorem dX2_beside_71 : decode cX2_beside 71 = .ok (.invokevirtual 760, 3) := dk_182 2 248 (dk_at dksX2_beside_3 0 rfl rfl)
theorem dX2_beside_74 : decode cX2_beside 74 = .ok (.istore 7, 2) := dk_54 7 (dk_at dksX2_beside_3 3 rfl rfl)
theorem dX2_beside_76 : decode cX2_beside 76 = .ok (.aload_n 0, 1) := dk_42 (dk_at dksX2_beside_3 5 rfl rfl)
theorem dX2_beside_77 : decode cX2_beside 77 = .ok (.getfield 190, 3) := dk_180 0 190 (dk_at dksX2_beside_3 6 rfl rfl)
theorem dX2_beside_80 : decode cX2_beside 80 = .ok (.iload 7, 2) := dk_21 7 (dk_at dksX2_beside_3 9 rfl rfl)
theorem dX2_beside_82 : decode cX2_beside 82 = .ok (.iaload, 1) := dk_46 (dk_at dksX2_beside_3 11 rfl rfl)
theorem dX2_beside_83 : decode cX2_beside 83 = .ok (.bipush 40, 2) := dk_16 40 (dk_at dksX2_beside_3 12 rfl rfl)
theorem dX2_beside_85 : decode cX2_beside 85 = .ok (.if_icmp .le 10, 3) := dk_164 0 10 (dk_at dksX2_beside_3 14 rfl rfl)
theorem dX2_beside_88 : decode cX2_beside 88 = .ok (.aload_n 0, 1) := dk_42 (dk_at dksX2_beside_3 17 rfl rfl)
theorem dX2_beside_89 : decode cX2_beside 89 = .ok (.bipush 6, 2) := dk_16 6 (dk_at dksX2_beside_3 18 rfl rfl)
theorem dX2_beside_91 : decode cX2_beside 91 = .ok (.iconst 0, 1) := dk_3 (dk_at dksX2_beside_3 20 rfl rfl)
theorem dX2_beside_92 : decode cX2_beside 92 = .ok (.invokevirtual 434, 3) := dk_182 1 178 (dk_at dksX2_beside_3 21 rfl rfl)
theorem dX2_beside_95 : decode cX2_beside 95 = .ok (.iload 7, 2) := dk_21 7 (dk_at dksX2_beside_4 0 rfl rfl)
theorem dX2_beside_97 : decode cX2_beside 97 = .ok (.ireturn, 1) := dk_172 (dk_at dksX2_beside_4 2 rfl rfl)
abbrev cX2_oneStep : ByteArray := prog_4_method_133_code
def yX2_oneStep : MethodName := ⟨RX2, "oneStep", "()V"⟩
def dkwX2_oneStep_1 : List UInt8 := [182, 1, 178, 177]
abbrev dktX2_oneStep_1 : List UInt8 := dkwX2_oneStep_1 ++ []
def dkwX2_oneStep_0 : List UInt8 := [42, 89, 180, 3, 202, 4, 96, 181, 3, 202, 42, 180, 3, 202, 17, 2, 88, 164, 0, 9, 42, 4, 3]
abbrev dktX2_oneStep_0 : List UInt8 := dkwX2_oneStep_0 ++ dktX2_oneStep_1
theorem dksX2_oneStep_0 : cX2_oneStep.data.toList.drop 0 = dktX2_oneStep_0 := by decide +kernel
theorem dksX2_oneStep_1 : cX2_oneStep.data.toList.drop 23 = dktX2_oneStep_1 := dk_seg dksX2_oneStep_0 23 rfl rfl
theorem dX2_oneStep_0 : decode cX2_oneStep 0 = .ok (.aload_n 0, 1) := dk_42 (dk_at dksX2_oneStep_0 0 rfl rfl)
theorem dX2_oneStep_1 : decode cX2_oneStep 1 = .ok (.dup, 1) := dk_89 (dk_at dksX2_oneStep_0 1 rfl rfl)
theorem dX2_oneStep_2 : decode cX2_oneStep 2 = .ok (.getfield 970, 3) := dk_180 3 202 (dk_at dksX2_oneStep_0 2 rfl rfl)
theorem dX2_oneStep_5 : decode cX2_oneStep 5 = .ok (.iconst 1, 1) := dk_4 (dk_at dksX2_oneStep_0 5 rfl rfl)
theorem dX2_oneStep_6 : decode cX2_oneStep 6 = .ok (.iadd, 1) := dk_96 (dk_at dksX2_oneStep_0 6 rfl rfl)
theorem dX2_oneStep_7 : decode cX2_oneStep 7 = .ok (.putfield 970, 3) := dk_181 3 202 (dk_at dksX2_oneStep_0 7 rfl rfl)
theorem dX2_oneStep_10 : decode cX2_oneStep 10 = .ok (.aload_n 0, 1) := dk_42 (dk_at dksX2_oneStep_0 10 rfl rfl)
theorem dX2_oneStep_11 : decode cX2_oneStep 11 = .ok (.getfield 970, 3) := dk_180 3 202 (dk_at dksX2_oneStep_0 11 rfl rfl)
theorem dX2_oneStep_14 : decode cX2_oneStep 14 = .ok (.sipush 600, 3) := dk_17 2 88 (dk_at dksX2_oneStep_0 14 rfl rfl)
theorem dX2_oneStep_17 : decode cX2_oneStep 17 = .ok (.if_icmp .le 9, 3) := dk_164 0 9 (dk_at dksX2_oneStep_0 17 rfl rfl)
theorem dX2_oneStep_20 : decode cX2_oneStep 20 = .ok (.aload_n 0, 1) := dk_42 (dk_at dksX2_oneStep_0 20 rfl rfl)
theorem dX2_oneStep_21 : decode cX2_oneStep 21 = .ok (.iconst 1, 1) := dk_4 (dk_at dksX2_oneStep_0 21 rfl rfl)
theorem dX2_oneStep_22 : decode cX2_oneStep 22 = .ok (.iconst 0, 1) := dk_3 (dk_at dksX2_oneStep_0 22 rfl rfl)
theorem dX2_oneStep_23 : decode cX2_oneStep 23 = .ok (.invokevirtual 434, 3) := dk_182 1 178 (dk_at dksX2_oneStep_1 0 rfl rfl)
theorem dX2_oneStep_26 : decode cX2_oneStep 26 = .ok (.return_, 1) := dk_177 (dk_at dksX2_oneStep_1 3 rfl rfl)
abbrev cX2_remember : ByteArray := prog_4_method_135_code
def yX2_remember : MethodName := ⟨RX2, "remember", "(II)V"⟩
def dkwX2_remember_0 : List UInt8 := [42, 180, 0, 202, 27, 42, 180, 1, 25, 79, 42, 180, 0, 199, 27, 28, 79, 177]
abbrev dktX2_remember_0 : List UInt8 := dkwX2_remember_0 ++ []
theorem dksX2_remember_0 : cX2_remember.data.toList.drop 0 = dktX2_remember_0 := by decide +kernel
theorem dX2_remember_0 : decode cX2_remember 0 = .ok (.aload_n 0, 1) := dk_42 (dk_at dksX2_remember_0 0 rfl rfl)
theorem dX2_remember_1 : decode cX2_remember 1 = .ok (.getfield 202, 3) := dk_180 0 202 (dk_at dksX2_remember_0 1 rfl rfl)
theorem dX2_remember_4 : decode cX2_remember 4 = .ok (.iload_n 1, 1) := dk_27 (dk_at dksX2_remember_0 4 rfl rfl)
theorem dX2_remember_5 : decode cX2_remember 5 = .ok (.aload_n 0, 1) := dk_42 (dk_at dksX2_remember_0 5 rfl rfl)
theorem dX2_remember_6 : decode cX2_remember 6 = .ok (.getfield 281, 3) := dk_180 1 25 (dk_at dksX2_remember_0 6 rfl rfl)
theorem dX2_remember_9 : decode cX2_remember 9 = .ok (.iastore, 1) := dk_79 (dk_at dksX2_remember_0 9 rfl rfl)
theorem dX2_remember_10 : decode cX2_remember 10 = .ok (.aload_n 0, 1) := dk_42 (dk_at dksX2_remember_0 10 rfl rfl)
theorem dX2_remember_11 : decode cX2_remember 11 = .ok (.getfield 199, 3) := dk_180 0 199 (dk_at dksX2_remember_0 11 rfl rfl)
theorem dX2_remember_14 : decode cX2_remember 14 = .ok (.iload_n 1, 1) := dk_27 (dk_at dksX2_remember_0 14 rfl rfl)
theorem dX2_remember_15 : decode cX2_remember 15 = .ok (.iload_n 2, 1) := dk_28 (dk_at dksX2_remember_0 15 rfl rfl)
theorem dX2_remember_16 : decode cX2_remember 16 = .ok (.iastore, 1) := dk_79 (dk_at dksX2_remember_0 16 rfl rfl)
theorem dX2_remember_17 : decode cX2_remember 17 = .ok (.return_, 1) := dk_177 (dk_at dksX2_remember_0 17 rfl rfl)
abbrev cX2_steps : ByteArray := prog_4_method_159_code
def yX2_steps : MethodName := ⟨RX2, "steps", "(I)I"⟩
def dkwX2_steps_4 : List UInt8 := [42, 5, 181, 3, 7, 29, 172, 77, 42, 42, 180, 3, 202, 181, 3, 13, 42, 182, 4, 49, 172]
abbrev dktX2_steps_4 : List UInt8 := dkwX2_steps_4 ++ []
def dkwX2_steps_3 : List UInt8 := [180, 1, 55, 21, 4, 42, 180, 1, 40, 21, 4, 46, 79, 132, 4, 1, 167, 255, 219, 42, 29, 181, 3, 4]
abbrev dktX2_steps_3 : List UInt8 := dkwX2_steps_3 ++ dktX2_steps_4
def dkwX2_steps_2 : List UInt8 := [54, 4, 21, 4, 29, 162, 0, 37, 42, 180, 1, 49, 21, 4, 42, 180, 1, 37, 21, 4, 46, 79, 42]
abbrev dktX2_steps_2 : List UInt8 := dkwX2_steps_2 ++ dktX2_steps_3
def dkwX2_steps_1 : List UInt8 := [27, 46, 3, 184, 3, 220, 61, 42, 28, 16, 254, 182, 4, 56, 62, 42, 42, 180, 3, 202, 181, 3, 13, 3]
abbrev dktX2_steps_1 : List UInt8 := dkwX2_steps_1 ++ dktX2_steps_2
def dkwX2_steps_0 : List UInt8 := [42, 3, 181, 0, 1, 42, 27, 182, 3, 83, 153, 0, 5, 2, 172, 42, 182, 4, 43, 42, 42, 180, 0, 250]
abbrev dktX2_steps_0 : List UInt8 := dkwX2_steps_0 ++ dktX2_steps_1
theorem dksX2_steps_0 : cX2_steps.data.toList.drop 0 = dktX2_steps_0 := by decide +kernel
theorem dksX2_steps_1 : cX2_steps.data.toList.drop 24 = dktX2_steps_1 := dk_seg dksX2_steps_0 24 rfl rfl
theorem dksX2_steps_2 : cX2_steps.data.toList.drop 48 = dktX2_steps_2 := dk_seg dksX2_steps_1 24 rfl rfl
theorem dksX2_steps_3 : cX2_steps.data.toList.drop 71 = dktX2_steps_3 := dk_seg dksX2_steps_2 23 rfl rfl
theorem dksX2_steps_4 : cX2_steps.data.toList.drop 95 = dktX2_steps_4 := dk_seg dksX2_steps_3 24 rfl rfl
theorem dX2_steps_0 : decode cX2_steps 0 = .ok (.aload_n 0, 1) := dk_42 (dk_at dksX2_steps_0 0 rfl rfl)
theorem dX2_steps_1 : decode cX2_steps 1 = .ok (.iconst 0, 1) := dk_3 (dk_at dksX2_steps_0 1 rfl rfl)
theorem dX2_steps_2 : decode cX2_steps 2 = .ok (.putfield 1, 3) := dk_181 0 1 (dk_at dksX2_steps_0 2 rfl rfl)
theorem dX2_steps_5 : decode cX2_steps 5 = .ok (.aload_n 0, 1) := dk_42 (dk_at dksX2_steps_0 5 rfl rfl)
theorem dX2_steps_6 : decode cX2_steps 6 = .ok (.iload_n 1, 1) := dk_27 (dk_at dksX2_steps_0 6 rfl rfl)
theorem dX2_steps_7 : decode cX2_steps 7 = .ok (.invokevirtual 851, 3) := dk_182 3 83 (dk_at dksX2_steps_0 7 rfl rfl)
theorem dX2_steps_10 : decode cX2_steps 10 = .ok (.ifCond .eq 5, 3) := dk_153 0 5 (dk_at dksX2_steps_0 10 rfl rfl)
theorem dX2_steps_13 : decode cX2_steps 13 = .ok (.iconst (-1), 1) := dk_2 (dk_at dksX2_steps_0 13 rfl rfl)
theorem dX2_steps_14 : decode cX2_steps 14 = .ok (.ireturn, 1) := dk_172 (dk_at dksX2_steps_0 14 rfl rfl)
theorem dX2_steps_15 : decode cX2_steps 15 = .ok (.aload_n 0, 1) := dk_42 (dk_at dksX2_steps_0 15 rfl rfl)
theorem dX2_steps_16 : decode cX2_steps 16 = .ok (.invokevirtual 1067, 3) := dk_182 4 43 (dk_at dksX2_steps_0 16 rfl rfl)
theorem dX2_steps_19 : decode cX2_steps 19 = .ok (.aload_n 0, 1) := dk_42 (dk_at dksX2_steps_0 19 rfl rfl)
theorem dX2_steps_20 : decode cX2_steps 20 = .ok (.aload_n 0, 1) := dk_42 (dk_at dksX2_steps_0 20 rfl rfl)
theorem dX2_steps_21 : decode cX2_steps 21 = .ok (.getfield 250, 3) := dk_180 0 250 (dk_at dksX2_steps_0 21 rfl rfl)
theorem dX2_steps_24 : decode cX2_steps 24 = .ok (.iload_n 1, 1) := dk_27 (dk_at dksX2_steps_1 0 rfl rfl)
theorem dX2_steps_25 : decode cX2_steps 25 = .ok (.iaload, 1) := dk_46 (dk_at dksX2_steps_1 1 rfl rfl)
theorem dX2_steps_26 : decode cX2_steps 26 = .ok (.iconst 0, 1) := dk_3 (dk_at dksX2_steps_1 2 rfl rfl)
theorem dX2_steps_27 : decode cX2_steps 27 = .ok (.invokestatic 988, 3) := dk_184 3 220 (dk_at dksX2_steps_1 3 rfl rfl)
theorem dX2_steps_30 : decode cX2_steps 30 = .ok (.istore_n 2, 1) := dk_61 (dk_at dksX2_steps_1 6 rfl rfl)
theorem dX2_steps_31 : decode cX2_steps 31 = .ok (.aload_n 0, 1) := dk_42 (dk_at dksX2_steps_1 7 rfl rfl)
theorem dX2_steps_32 : decode cX2_steps 32 = .ok (.iload_n 2, 1) := dk_28 (dk_at dksX2_steps_1 8 rfl rfl)
theorem dX2_steps_33 : decode cX2_steps 33 = .ok (.bipush (-2), 2) := dk_16 254 (dk_at dksX2_steps_1 9 rfl rfl)
theorem dX2_steps_35 : decode cX2_steps 35 = .ok (.invokevirtual 1080, 3) := dk_182 4 56 (dk_at dksX2_steps_1 11 rfl rfl)
theorem dX2_steps_38 : decode cX2_steps 38 = .ok (.istore_n 3, 1) := dk_62 (dk_at dksX2_steps_1 14 rfl rfl)
theorem dX2_steps_39 : decode cX2_steps 39 = .ok (.aload_n 0, 1) := dk_42 (dk_at dksX2_steps_1 15 rfl rfl)
theorem dX2_steps_40 : decode cX2_steps 40 = .ok (.aload_n 0, 1) := dk_42 (dk_at dksX2_steps_1 16 rfl rfl)
theorem dX2_steps_41 : decode cX2_steps 41 = .ok (.getfield 970, 3) := dk_180 3 202 (dk_at dksX2_steps_1 17 rfl rfl)
theorem dX2_steps_44 : decode cX2_steps 44 = .ok (.putfield 781, 3) := dk_181 3 13 (dk_at dksX2_steps_1 20 rfl rfl)
theorem dX2_steps_47 : decode cX2_steps 47 = .ok (.iconst 0, 1) := dk_3 (dk_at dksX2_steps_1 23 rfl rfl)
theorem dX2_steps_48 : decode cX2_steps 48 = .ok (.istore 4, 2) := dk_54 4 (dk_at dksX2_steps_2 0 rfl rfl)
theorem dX2_steps_50 : decode cX2_steps 50 = .ok (.iload 4, 2) := dk_21 4 (dk_at dksX2_steps_2 2 rfl rfl)
theorem dX2_steps_52 : decode cX2_steps 52 = .ok (.iload_n 3, 1) := dk_29 (dk_at dksX2_steps_2 4 rfl rfl)
theorem dX2_steps_53 : decode cX2_steps 53 = .ok (.if_icmp .ge 37, 3) := dk_162 0 37 (dk_at dksX2_steps_2 5 rfl rfl)
theorem dX2_steps_56 : decode cX2_steps 56 = .ok (.aload_n 0, 1) := dk_42 (dk_at dksX2_steps_2 8 rfl rfl)
theorem dX2_steps_57 : decode cX2_steps 57 = .ok (.getfield 305, 3) := dk_180 1 49 (dk_at dksX2_steps_2 9 rfl rfl)
theorem dX2_steps_60 : decode cX2_steps 60 = .ok (.iload 4, 2) := dk_21 4 (dk_at dksX2_steps_2 12 rfl rfl)
theorem dX2_steps_62 : decode cX2_steps 62 = .ok (.aload_n 0, 1) := dk_42 (dk_at dksX2_steps_2 14 rfl rfl)
theorem dX2_steps_63 : decode cX2_steps 63 = .ok (.getfield 293, 3) := dk_180 1 37 (dk_at dksX2_steps_2 15 rfl rfl)
theorem dX2_steps_66 : decode cX2_steps 66 = .ok (.iload 4, 2) := dk_21 4 (dk_at dksX2_steps_2 18 rfl rfl)
theorem dX2_steps_68 : decode cX2_steps 68 = .ok (.iaload, 1) := dk_46 (dk_at dksX2_steps_2 20 rfl rfl)
theorem dX2_steps_69 : decode cX2_steps 69 = .ok (.iastore, 1) := dk_79 (dk_at dksX2_steps_2 21 rfl rfl)
theorem dX2_steps_70 : decode cX2_steps 70 = .ok (.aload_n 0, 1) := dk_42 (dk_at dksX2_steps_2 22 rfl rfl)
theorem dX2_steps_71 : decode cX2_steps 71 = .ok (.getfield 311, 3) := dk_180 1 55 (dk_at dksX2_steps_3 0 rfl rfl)
theorem dX2_steps_74 : decode cX2_steps 74 = .ok (.iload 4, 2) := dk_21 4 (dk_at dksX2_steps_3 3 rfl rfl)
theorem dX2_steps_76 : decode cX2_steps 76 = .ok (.aload_n 0, 1) := dk_42 (dk_at dksX2_steps_3 5 rfl rfl)
theorem dX2_steps_77 : decode cX2_steps 77 = .ok (.getfield 296, 3) := dk_180 1 40 (dk_at dksX2_steps_3 6 rfl rfl)
theorem dX2_steps_80 : decode cX2_steps 80 = .ok (.iload 4, 2) := dk_21 4 (dk_at dksX2_steps_3 9 rfl rfl)
theorem dX2_steps_82 : decode cX2_steps 82 = .ok (.iaload, 1) := dk_46 (dk_at dksX2_steps_3 11 rfl rfl)
theorem dX2_steps_83 : decode cX2_steps 83 = .ok (.iastore, 1) := dk_79 (dk_at dksX2_steps_3 12 rfl rfl)
theorem dX2_steps_84 : decode cX2_steps 84 = .ok (.iinc 4 1, 3) := dk_132 4 1 (dk_at dksX2_steps_3 13 rfl rfl)
theorem dX2_steps_87 : decode cX2_steps 87 = .ok (.goto (-37), 3) := dk_167 255 219 (dk_at dksX2_steps_3 16 rfl rfl)
theorem dX2_steps_90 : decode cX2_steps 90 = .ok (.aload_n 0, 1) := dk_42 (dk_at dksX2_steps_3 19 rfl rfl)
theorem dX2_steps_91 : decode cX2_steps 91 = .ok (.iload_n 3, 1) := dk_29 (dk_at dksX2_steps_3 20 rfl rfl)
theorem dX2_steps_92 : decode cX2_steps 92 = .ok (.putfield 772, 3) := dk_181 3 4 (dk_at dksX2_steps_3 21 rfl rfl)
theorem dX2_steps_95 : decode cX2_steps 95 = .ok (.aload_n 0, 1) := dk_42 (dk_at dksX2_steps_4 0 rfl rfl)
theorem dX2_steps_96 : decode cX2_steps 96 = .ok (.iconst 2, 1) := dk_5 (dk_at dksX2_steps_4 1 rfl rfl)
theorem dX2_steps_97 : decode cX2_steps 97 = .ok (.putfield 775, 3) := dk_181 3 7 (dk_at dksX2_steps_4 2 rfl rfl)
theorem dX2_steps_100 : decode cX2_steps 100 = .ok (.iload_n 3, 1) := dk_29 (dk_at dksX2_steps_4 5 rfl rfl)
theorem dX2_steps_101 : decode cX2_steps 101 = .ok (.ireturn, 1) := dk_172 (dk_at dksX2_steps_4 6 rfl rfl)
theorem dX2_steps_102 : decode cX2_steps 102 = .ok (.astore_n 2, 1) := dk_77 (dk_at dksX2_steps_4 7 rfl rfl)
theorem dX2_steps_103 : decode cX2_steps 103 = .ok (.aload_n 0, 1) := dk_42 (dk_at dksX2_steps_4 8 rfl rfl)
theorem dX2_steps_104 : decode cX2_steps 104 = .ok (.aload_n 0, 1) := dk_42 (dk_at dksX2_steps_4 9 rfl rfl)
theorem dX2_steps_105 : decode cX2_steps 105 = .ok (.getfield 970, 3) := dk_180 3 202 (dk_at dksX2_steps_4 10 rfl rfl)
theorem dX2_steps_108 : decode cX2_steps 108 = .ok (.putfield 781, 3) := dk_181 3 13 (dk_at dksX2_steps_4 13 rfl rfl)
theorem dX2_steps_111 : decode cX2_steps 111 = .ok (.aload_n 0, 1) := dk_42 (dk_at dksX2_steps_4 16 rfl rfl)
theorem dX2_steps_112 : decode cX2_steps 112 = .ok (.invokevirtual 1073, 3) := dk_182 4 49 (dk_at dksX2_steps_4 17 rfl rfl)
theorem dX2_steps_115 : decode cX2_steps 115 = .ok (.ireturn, 1) := dk_172 (dk_at dksX2_steps_4 20 rfl rfl)
abbrev cX2_listSteps : ByteArray := prog_4_method_142_code
def yX2_listSteps : MethodName := ⟨RX2, "listSteps", "(II)I"⟩
def dkwX2_listSteps_1 : List UInt8 := [172]
abbrev dktX2_listSteps_1 : List UInt8 := dkwX2_listSteps_1 ++ []
def dkwX2_listSteps_0 : List UInt8 := [42, 180, 3, 248, 62, 42, 3, 181, 3, 251, 42, 27, 27, 28, 29, 184, 3, 254, 42, 180, 3, 248, 29, 100]
abbrev dktX2_listSteps_0 : List UInt8 := dkwX2_listSteps_0 ++ dktX2_listSteps_1
theorem dksX2_listSteps_0 : cX2_listSteps.data.toList.drop 0 = dktX2_listSteps_0 := by decide +kernel
theorem dksX2_listSteps_1 : cX2_listSteps.data.toList.drop 24 = dktX2_listSteps_1 := dk_seg dksX2_listSteps_0 24 rfl rfl
theorem dX2_listSteps_0 : decode cX2_listSteps 0 = .ok (.aload_n 0, 1) := dk_42 (dk_at dksX2_listSteps_0 0 rfl rfl)
theorem dX2_listSteps_1 : decode cX2_listSteps 1 = .ok (.getfield 1016, 3) := dk_180 3 248 (dk_at dksX2_listSteps_0 1 rfl rfl)
theorem dX2_listSteps_4 : decode cX2_listSteps 4 = .ok (.istore_n 3, 1) := dk_62 (dk_at dksX2_listSteps_0 4 rfl rfl)
theorem dX2_listSteps_5 : decode cX2_listSteps 5 = .ok (.aload_n 0, 1) := dk_42 (dk_at dksX2_listSteps_0 5 rfl rfl)
theorem dX2_listSteps_6 : decode cX2_listSteps 6 = .ok (.iconst 0, 1) := dk_3 (dk_at dksX2_listSteps_0 6 rfl rfl)
theorem dX2_listSteps_7 : decode cX2_listSteps 7 = .ok (.putfield 1019, 3) := dk_181 3 251 (dk_at dksX2_listSteps_0 7 rfl rfl)
theorem dX2_listSteps_10 : decode cX2_listSteps 10 = .ok (.aload_n 0, 1) := dk_42 (dk_at dksX2_listSteps_0 10 rfl rfl)
theorem dX2_listSteps_11 : decode cX2_listSteps 11 = .ok (.iload_n 1, 1) := dk_27 (dk_at dksX2_listSteps_0 11 rfl rfl)
theorem dX2_listSteps_12 : decode cX2_listSteps 12 = .ok (.iload_n 1, 1) := dk_27 (dk_at dksX2_listSteps_0 12 rfl rfl)
theorem dX2_listSteps_13 : decode cX2_listSteps 13 = .ok (.iload_n 2, 1) := dk_28 (dk_at dksX2_listSteps_0 13 rfl rfl)
theorem dX2_listSteps_14 : decode cX2_listSteps 14 = .ok (.iload_n 3, 1) := dk_29 (dk_at dksX2_listSteps_0 14 rfl rfl)
theorem dX2_listSteps_15 : decode cX2_listSteps 15 = .ok (.invokestatic 1022, 3) := dk_184 3 254 (dk_at dksX2_listSteps_0 15 rfl rfl)
theorem dX2_listSteps_18 : decode cX2_listSteps 18 = .ok (.aload_n 0, 1) := dk_42 (dk_at dksX2_listSteps_0 18 rfl rfl)
theorem dX2_listSteps_19 : decode cX2_listSteps 19 = .ok (.getfield 1016, 3) := dk_180 3 248 (dk_at dksX2_listSteps_0 19 rfl rfl)
theorem dX2_listSteps_22 : decode cX2_listSteps 22 = .ok (.iload_n 3, 1) := dk_29 (dk_at dksX2_listSteps_0 22 rfl rfl)
theorem dX2_listSteps_23 : decode cX2_listSteps 23 = .ok (.isub, 1) := dk_100 (dk_at dksX2_listSteps_0 23 rfl rfl)
theorem dX2_listSteps_24 : decode cX2_listSteps 24 = .ok (.ireturn, 1) := dk_172 (dk_at dksX2_listSteps_1 0 rfl rfl)
abbrev cX2_stepAt : ByteArray := prog_4_method_143_code
def yX2_stepAt : MethodName := ⟨RX2, "stepAt", "(LRewriteHouseModel;IIII)V"⟩
def dkwX2_stepAt_5 : List UInt8 := [184, 3, 254, 42, 89, 180, 3, 251, 4, 100, 181, 3, 251, 132, 6, 1, 167, 255, 188, 177]
abbrev dktX2_stepAt_5 : List UInt8 := dkwX2_stepAt_5 ++ []
def dkwX2_stepAt_4 : List UInt8 := [79, 42, 89, 180, 3, 251, 4, 96, 181, 3, 251, 42, 27, 42, 28, 21, 6, 182, 2, 179, 29, 21, 4]
abbrev dktX2_stepAt_4 : List UInt8 := dkwX2_stepAt_4 ++ dktX2_stepAt_5
def dkwX2_stepAt_3 : List UInt8 := [154, 0, 66, 21, 6, 42, 180, 0, 187, 28, 46, 162, 0, 55, 42, 180, 1, 43, 42, 180, 3, 251, 21, 6]
abbrev dktX2_stepAt_3 : List UInt8 := dkwX2_stepAt_3 ++ dktX2_stepAt_4
def dkwX2_stepAt_2 : List UInt8 := [21, 5, 21, 4, 184, 4, 2, 132, 5, 1, 132, 6, 1, 167, 255, 203, 3, 54, 6, 42, 28, 182, 2, 185]
abbrev dktX2_stepAt_2 : List UInt8 := dkwX2_stepAt_2 ++ dktX2_stepAt_3
def dkwX2_stepAt_1 : List UInt8 := [160, 0, 33, 29, 155, 0, 14, 42, 180, 0, 247, 21, 6, 46, 29, 160, 0, 15, 42, 27, 28, 21, 6]
abbrev dktX2_stepAt_1 : List UInt8 := dkwX2_stepAt_1 ++ dktX2_stepAt_2
def dkwX2_stepAt_0 : List UInt8 := [3, 54, 5, 3, 54, 6, 21, 6, 42, 180, 2, 3, 162, 0, 50, 42, 180, 0, 105, 21, 6, 46, 5]
abbrev dktX2_stepAt_0 : List UInt8 := dkwX2_stepAt_0 ++ dktX2_stepAt_1
theorem dksX2_stepAt_0 : cX2_stepAt.data.toList.drop 0 = dktX2_stepAt_0 := by decide +kernel
theorem dksX2_stepAt_1 : cX2_stepAt.data.toList.drop 23 = dktX2_stepAt_1 := dk_seg dksX2_stepAt_0 23 rfl rfl
theorem dksX2_stepAt_2 : cX2_stepAt.data.toList.drop 46 = dktX2_stepAt_2 := dk_seg dksX2_stepAt_1 23 rfl rfl
theorem dksX2_stepAt_3 : cX2_stepAt.data.toList.drop 70 = dktX2_stepAt_3 := dk_seg dksX2_stepAt_2 24 rfl rfl
theorem dksX2_stepAt_4 : cX2_stepAt.data.toList.drop 94 = dktX2_stepAt_4 := dk_seg dksX2_stepAt_3 24 rfl rfl
theorem dksX2_stepAt_5 : cX2_stepAt.data.toList.drop 117 = dktX2_stepAt_5 := dk_seg dksX2_stepAt_4 23 rfl rfl
theorem dX2_stepAt_0 : decode cX2_stepAt 0 = .ok (.iconst 0, 1) := dk_3 (dk_at dksX2_stepAt_0 0 rfl rfl)
theorem dX2_stepAt_1 : decode cX2_stepAt 1 = .ok (.istore 5, 2) := dk_54 5 (dk_at dksX2_stepAt_0 1 rfl rfl)
theorem dX2_stepAt_3 : decode cX2_stepAt 3 = .ok (.iconst 0, 1) := dk_3 (dk_at dksX2_stepAt_0 3 rfl rfl)
theorem dX2_stepAt_4 : decode cX2_stepAt 4 = .ok (.istore 6, 2) := dk_54 6 (dk_at dksX2_stepAt_0 4 rfl rfl)
theorem dX2_stepAt_6 : decode cX2_stepAt 6 = .ok (.iload 6, 2) := dk_21 6 (dk_at dksX2_stepAt_0 6 rfl rfl)
theorem dX2_stepAt_8 : decode cX2_stepAt 8 = .ok (.aload_n 0, 1) := dk_42 (dk_at dksX2_stepAt_0 8 rfl rfl)
theorem dX2_stepAt_9 : decode cX2_stepAt 9 = .ok (.getfield 515, 3) := dk_180 2 3 (dk_at dksX2_stepAt_0 9 rfl rfl)
theorem dX2_stepAt_12 : decode cX2_stepAt 12 = .ok (.if_icmp .ge 50, 3) := dk_162 0 50 (dk_at dksX2_stepAt_0 12 rfl rfl)
theorem dX2_stepAt_15 : decode cX2_stepAt 15 = .ok (.aload_n 0, 1) := dk_42 (dk_at dksX2_stepAt_0 15 rfl rfl)
theorem dX2_stepAt_16 : decode cX2_stepAt 16 = .ok (.getfield 105, 3) := dk_180 0 105 (dk_at dksX2_stepAt_0 16 rfl rfl)
theorem dX2_stepAt_19 : decode cX2_stepAt 19 = .ok (.iload 6, 2) := dk_21 6 (dk_at dksX2_stepAt_0 19 rfl rfl)
theorem dX2_stepAt_21 : decode cX2_stepAt 21 = .ok (.iaload, 1) := dk_46 (dk_at dksX2_stepAt_0 21 rfl rfl)
theorem dX2_stepAt_22 : decode cX2_stepAt 22 = .ok (.iconst 2, 1) := dk_5 (dk_at dksX2_stepAt_0 22 rfl rfl)
theorem dX2_stepAt_23 : decode cX2_stepAt 23 = .ok (.if_icmp .ne 33, 3) := dk_160 0 33 (dk_at dksX2_stepAt_1 0 rfl rfl)
theorem dX2_stepAt_26 : decode cX2_stepAt 26 = .ok (.iload_n 3, 1) := dk_29 (dk_at dksX2_stepAt_1 3 rfl rfl)
theorem dX2_stepAt_27 : decode cX2_stepAt 27 = .ok (.ifCond .lt 14, 3) := dk_155 0 14 (dk_at dksX2_stepAt_1 4 rfl rfl)
theorem dX2_stepAt_30 : decode cX2_stepAt 30 = .ok (.aload_n 0, 1) := dk_42 (dk_at dksX2_stepAt_1 7 rfl rfl)
theorem dX2_stepAt_31 : decode cX2_stepAt 31 = .ok (.getfield 247, 3) := dk_180 0 247 (dk_at dksX2_stepAt_1 8 rfl rfl)
theorem dX2_stepAt_34 : decode cX2_stepAt 34 = .ok (.iload 6, 2) := dk_21 6 (dk_at dksX2_stepAt_1 11 rfl rfl)
theorem dX2_stepAt_36 : decode cX2_stepAt 36 = .ok (.iaload, 1) := dk_46 (dk_at dksX2_stepAt_1 13 rfl rfl)
theorem dX2_stepAt_37 : decode cX2_stepAt 37 = .ok (.iload_n 3, 1) := dk_29 (dk_at dksX2_stepAt_1 14 rfl rfl)
theorem dX2_stepAt_38 : decode cX2_stepAt 38 = .ok (.if_icmp .ne 15, 3) := dk_160 0 15 (dk_at dksX2_stepAt_1 15 rfl rfl)
theorem dX2_stepAt_41 : decode cX2_stepAt 41 = .ok (.aload_n 0, 1) := dk_42 (dk_at dksX2_stepAt_1 18 rfl rfl)
theorem dX2_stepAt_42 : decode cX2_stepAt 42 = .ok (.iload_n 1, 1) := dk_27 (dk_at dksX2_stepAt_1 19 rfl rfl)
theorem dX2_stepAt_43 : decode cX2_stepAt 43 = .ok (.iload_n 2, 1) := dk_28 (dk_at dksX2_stepAt_1 20 rfl rfl)
theorem dX2_stepAt_44 : decode cX2_stepAt 44 = .ok (.iload 6, 2) := dk_21 6 (dk_at dksX2_stepAt_1 21 rfl rfl)
theorem dX2_stepAt_46 : decode cX2_stepAt 46 = .ok (.iload 5, 2) := dk_21 5 (dk_at dksX2_stepAt_2 0 rfl rfl)
theorem dX2_stepAt_48 : decode cX2_stepAt 48 = .ok (.iload 4, 2) := dk_21 4 (dk_at dksX2_stepAt_2 2 rfl rfl)
theorem dX2_stepAt_50 : decode cX2_stepAt 50 = .ok (.invokestatic 1026, 3) := dk_184 4 2 (dk_at dksX2_stepAt_2 4 rfl rfl)
theorem dX2_stepAt_53 : decode cX2_stepAt 53 = .ok (.iinc 5 1, 3) := dk_132 5 1 (dk_at dksX2_stepAt_2 7 rfl rfl)
theorem dX2_stepAt_56 : decode cX2_stepAt 56 = .ok (.iinc 6 1, 3) := dk_132 6 1 (dk_at dksX2_stepAt_2 10 rfl rfl)
theorem dX2_stepAt_59 : decode cX2_stepAt 59 = .ok (.goto (-53), 3) := dk_167 255 203 (dk_at dksX2_stepAt_2 13 rfl rfl)
theorem dX2_stepAt_62 : decode cX2_stepAt 62 = .ok (.iconst 0, 1) := dk_3 (dk_at dksX2_stepAt_2 16 rfl rfl)
theorem dX2_stepAt_63 : decode cX2_stepAt 63 = .ok (.istore 6, 2) := dk_54 6 (dk_at dksX2_stepAt_2 17 rfl rfl)
theorem dX2_stepAt_65 : decode cX2_stepAt 65 = .ok (.aload_n 0, 1) := dk_42 (dk_at dksX2_stepAt_2 19 rfl rfl)
theorem dX2_stepAt_66 : decode cX2_stepAt 66 = .ok (.iload_n 2, 1) := dk_28 (dk_at dksX2_stepAt_2 20 rfl rfl)
theorem dX2_stepAt_67 : decode cX2_stepAt 67 = .ok (.invokevirtual 697, 3) := dk_182 2 185 (dk_at dksX2_stepAt_2 21 rfl rfl)
theorem dX2_stepAt_70 : decode cX2_stepAt 70 = .ok (.ifCond .ne 66, 3) := dk_154 0 66 (dk_at dksX2_stepAt_3 0 rfl rfl)
theorem dX2_stepAt_73 : decode cX2_stepAt 73 = .ok (.iload 6, 2) := dk_21 6 (dk_at dksX2_stepAt_3 3 rfl rfl)
theorem dX2_stepAt_75 : decode cX2_stepAt 75 = .ok (.aload_n 0, 1) := dk_42 (dk_at dksX2_stepAt_3 5 rfl rfl)
theorem dX2_stepAt_76 : decode cX2_stepAt 76 = .ok (.getfield 187, 3) := dk_180 0 187 (dk_at dksX2_stepAt_3 6 rfl rfl)
theorem dX2_stepAt_79 : decode cX2_stepAt 79 = .ok (.iload_n 2, 1) := dk_28 (dk_at dksX2_stepAt_3 9 rfl rfl)
theorem dX2_stepAt_80 : decode cX2_stepAt 80 = .ok (.iaload, 1) := dk_46 (dk_at dksX2_stepAt_3 10 rfl rfl)
theorem dX2_stepAt_81 : decode cX2_stepAt 81 = .ok (.if_icmp .ge 55, 3) := dk_162 0 55 (dk_at dksX2_stepAt_3 11 rfl rfl)
theorem dX2_stepAt_84 : decode cX2_stepAt 84 = .ok (.aload_n 0, 1) := dk_42 (dk_at dksX2_stepAt_3 14 rfl rfl)
theorem dX2_stepAt_85 : decode cX2_stepAt 85 = .ok (.getfield 299, 3) := dk_180 1 43 (dk_at dksX2_stepAt_3 15 rfl rfl)
theorem dX2_stepAt_88 : decode cX2_stepAt 88 = .ok (.aload_n 0, 1) := dk_42 (dk_at dksX2_stepAt_3 18 rfl rfl)
theorem dX2_stepAt_89 : decode cX2_stepAt 89 = .ok (.getfield 1019, 3) := dk_180 3 251 (dk_at dksX2_stepAt_3 19 rfl rfl)
theorem dX2_stepAt_92 : decode cX2_stepAt 92 = .ok (.iload 6, 2) := dk_21 6 (dk_at dksX2_stepAt_3 22 rfl rfl)
theorem dX2_stepAt_94 : decode cX2_stepAt 94 = .ok (.iastore, 1) := dk_79 (dk_at dksX2_stepAt_4 0 rfl rfl)
theorem dX2_stepAt_95 : decode cX2_stepAt 95 = .ok (.aload_n 0, 1) := dk_42 (dk_at dksX2_stepAt_4 1 rfl rfl)
theorem dX2_stepAt_96 : decode cX2_stepAt 96 = .ok (.dup, 1) := dk_89 (dk_at dksX2_stepAt_4 2 rfl rfl)
theorem dX2_stepAt_97 : decode cX2_stepAt 97 = .ok (.getfield 1019, 3) := dk_180 3 251 (dk_at dksX2_stepAt_4 3 rfl rfl)
theorem dX2_stepAt_100 : decode cX2_stepAt 100 = .ok (.iconst 1, 1) := dk_4 (dk_at dksX2_stepAt_4 6 rfl rfl)
theorem dX2_stepAt_101 : decode cX2_stepAt 101 = .ok (.iadd, 1) := dk_96 (dk_at dksX2_stepAt_4 7 rfl rfl)
theorem dX2_stepAt_102 : decode cX2_stepAt 102 = .ok (.putfield 1019, 3) := dk_181 3 251 (dk_at dksX2_stepAt_4 8 rfl rfl)
theorem dX2_stepAt_105 : decode cX2_stepAt 105 = .ok (.aload_n 0, 1) := dk_42 (dk_at dksX2_stepAt_4 11 rfl rfl)
theorem dX2_stepAt_106 : decode cX2_stepAt 106 = .ok (.iload_n 1, 1) := dk_27 (dk_at dksX2_stepAt_4 12 rfl rfl)
theorem dX2_stepAt_107 : decode cX2_stepAt 107 = .ok (.aload_n 0, 1) := dk_42 (dk_at dksX2_stepAt_4 13 rfl rfl)
theorem dX2_stepAt_108 : decode cX2_stepAt 108 = .ok (.iload_n 2, 1) := dk_28 (dk_at dksX2_stepAt_4 14 rfl rfl)
theorem dX2_stepAt_109 : decode cX2_stepAt 109 = .ok (.iload 6, 2) := dk_21 6 (dk_at dksX2_stepAt_4 15 rfl rfl)
theorem dX2_stepAt_111 : decode cX2_stepAt 111 = .ok (.invokevirtual 691, 3) := dk_182 2 179 (dk_at dksX2_stepAt_4 17 rfl rfl)
theorem dX2_stepAt_114 : decode cX2_stepAt 114 = .ok (.iload_n 3, 1) := dk_29 (dk_at dksX2_stepAt_4 20 rfl rfl)
theorem dX2_stepAt_115 : decode cX2_stepAt 115 = .ok (.iload 4, 2) := dk_21 4 (dk_at dksX2_stepAt_4 21 rfl rfl)
theorem dX2_stepAt_117 : decode cX2_stepAt 117 = .ok (.invokestatic 1022, 3) := dk_184 3 254 (dk_at dksX2_stepAt_5 0 rfl rfl)
theorem dX2_stepAt_120 : decode cX2_stepAt 120 = .ok (.aload_n 0, 1) := dk_42 (dk_at dksX2_stepAt_5 3 rfl rfl)
theorem dX2_stepAt_121 : decode cX2_stepAt 121 = .ok (.dup, 1) := dk_89 (dk_at dksX2_stepAt_5 4 rfl rfl)
theorem dX2_stepAt_122 : decode cX2_stepAt 122 = .ok (.getfield 1019, 3) := dk_180 3 251 (dk_at dksX2_stepAt_5 5 rfl rfl)
theorem dX2_stepAt_125 : decode cX2_stepAt 125 = .ok (.iconst 1, 1) := dk_4 (dk_at dksX2_stepAt_5 8 rfl rfl)
theorem dX2_stepAt_126 : decode cX2_stepAt 126 = .ok (.isub, 1) := dk_100 (dk_at dksX2_stepAt_5 9 rfl rfl)
theorem dX2_stepAt_127 : decode cX2_stepAt 127 = .ok (.putfield 1019, 3) := dk_181 3 251 (dk_at dksX2_stepAt_5 10 rfl rfl)
theorem dX2_stepAt_130 : decode cX2_stepAt 130 = .ok (.iinc 6 1, 3) := dk_132 6 1 (dk_at dksX2_stepAt_5 13 rfl rfl)
theorem dX2_stepAt_133 : decode cX2_stepAt 133 = .ok (.goto (-68), 3) := dk_167 255 188 (dk_at dksX2_stepAt_5 16 rfl rfl)
theorem dX2_stepAt_136 : decode cX2_stepAt 136 = .ok (.return_, 1) := dk_177 (dk_at dksX2_stepAt_5 19 rfl rfl)
abbrev cX2_stepBy : ByteArray := prog_4_method_144_code
def yX2_stepBy : MethodName := ⟨RX2, "stepBy", "(LRewriteHouseModel;IIIII)V"⟩
def dkwX2_stepBy_3 : List UInt8 := [132, 8, 1, 167, 255, 207, 42, 21, 6, 181, 3, 187, 177]
abbrev dktX2_stepBy_3 : List UInt8 := dkwX2_stepBy_3 ++ []
def dkwX2_stepBy_2 : List UInt8 := [21, 8, 104, 96, 21, 6, 16, 64, 21, 8, 104, 96, 21, 5, 184, 4, 6, 42, 21, 9, 181, 3, 187]
abbrev dktX2_stepBy_2 : List UInt8 := dkwX2_stepBy_2 ++ dktX2_stepBy_3
def dkwX2_stepBy_1 : List UInt8 := [21, 8, 21, 7, 162, 0, 48, 42, 180, 3, 187, 54, 9, 42, 27, 29, 21, 4, 3, 21, 6, 16, 64]
abbrev dktX2_stepBy_1 : List UInt8 := dkwX2_stepBy_1 ++ dktX2_stepBy_2
def dkwX2_stepBy_0 : List UInt8 := [42, 180, 3, 187, 54, 6, 42, 42, 180, 0, 232, 29, 46, 28, 4, 2, 182, 3, 223, 54, 7, 3, 54, 8]
abbrev dktX2_stepBy_0 : List UInt8 := dkwX2_stepBy_0 ++ dktX2_stepBy_1
theorem dksX2_stepBy_0 : cX2_stepBy.data.toList.drop 0 = dktX2_stepBy_0 := by decide +kernel
theorem dksX2_stepBy_1 : cX2_stepBy.data.toList.drop 24 = dktX2_stepBy_1 := dk_seg dksX2_stepBy_0 24 rfl rfl
theorem dksX2_stepBy_2 : cX2_stepBy.data.toList.drop 47 = dktX2_stepBy_2 := dk_seg dksX2_stepBy_1 23 rfl rfl
theorem dksX2_stepBy_3 : cX2_stepBy.data.toList.drop 70 = dktX2_stepBy_3 := dk_seg dksX2_stepBy_2 23 rfl rfl
theorem dX2_stepBy_0 : decode cX2_stepBy 0 = .ok (.aload_n 0, 1) := dk_42 (dk_at dksX2_stepBy_0 0 rfl rfl)
theorem dX2_stepBy_1 : decode cX2_stepBy 1 = .ok (.getfield 955, 3) := dk_180 3 187 (dk_at dksX2_stepBy_0 1 rfl rfl)
theorem dX2_stepBy_4 : decode cX2_stepBy 4 = .ok (.istore 6, 2) := dk_54 6 (dk_at dksX2_stepBy_0 4 rfl rfl)
theorem dX2_stepBy_6 : decode cX2_stepBy 6 = .ok (.aload_n 0, 1) := dk_42 (dk_at dksX2_stepBy_0 6 rfl rfl)
theorem dX2_stepBy_7 : decode cX2_stepBy 7 = .ok (.aload_n 0, 1) := dk_42 (dk_at dksX2_stepBy_0 7 rfl rfl)
theorem dX2_stepBy_8 : decode cX2_stepBy 8 = .ok (.getfield 232, 3) := dk_180 0 232 (dk_at dksX2_stepBy_0 8 rfl rfl)
theorem dX2_stepBy_11 : decode cX2_stepBy 11 = .ok (.iload_n 3, 1) := dk_29 (dk_at dksX2_stepBy_0 11 rfl rfl)
theorem dX2_stepBy_12 : decode cX2_stepBy 12 = .ok (.iaload, 1) := dk_46 (dk_at dksX2_stepBy_0 12 rfl rfl)
theorem dX2_stepBy_13 : decode cX2_stepBy 13 = .ok (.iload_n 2, 1) := dk_28 (dk_at dksX2_stepBy_0 13 rfl rfl)
theorem dX2_stepBy_14 : decode cX2_stepBy 14 = .ok (.iconst 1, 1) := dk_4 (dk_at dksX2_stepBy_0 14 rfl rfl)
theorem dX2_stepBy_15 : decode cX2_stepBy 15 = .ok (.iconst (-1), 1) := dk_2 (dk_at dksX2_stepBy_0 15 rfl rfl)
theorem dX2_stepBy_16 : decode cX2_stepBy 16 = .ok (.invokevirtual 991, 3) := dk_182 3 223 (dk_at dksX2_stepBy_0 16 rfl rfl)
theorem dX2_stepBy_19 : decode cX2_stepBy 19 = .ok (.istore 7, 2) := dk_54 7 (dk_at dksX2_stepBy_0 19 rfl rfl)
theorem dX2_stepBy_21 : decode cX2_stepBy 21 = .ok (.iconst 0, 1) := dk_3 (dk_at dksX2_stepBy_0 21 rfl rfl)
theorem dX2_stepBy_22 : decode cX2_stepBy 22 = .ok (.istore 8, 2) := dk_54 8 (dk_at dksX2_stepBy_0 22 rfl rfl)
theorem dX2_stepBy_24 : decode cX2_stepBy 24 = .ok (.iload 8, 2) := dk_21 8 (dk_at dksX2_stepBy_1 0 rfl rfl)
theorem dX2_stepBy_26 : decode cX2_stepBy 26 = .ok (.iload 7, 2) := dk_21 7 (dk_at dksX2_stepBy_1 2 rfl rfl)
theorem dX2_stepBy_28 : decode cX2_stepBy 28 = .ok (.if_icmp .ge 48, 3) := dk_162 0 48 (dk_at dksX2_stepBy_1 4 rfl rfl)
theorem dX2_stepBy_31 : decode cX2_stepBy 31 = .ok (.aload_n 0, 1) := dk_42 (dk_at dksX2_stepBy_1 7 rfl rfl)
theorem dX2_stepBy_32 : decode cX2_stepBy 32 = .ok (.getfield 955, 3) := dk_180 3 187 (dk_at dksX2_stepBy_1 8 rfl rfl)
theorem dX2_stepBy_35 : decode cX2_stepBy 35 = .ok (.istore 9, 2) := dk_54 9 (dk_at dksX2_stepBy_1 11 rfl rfl)
theorem dX2_stepBy_37 : decode cX2_stepBy 37 = .ok (.aload_n 0, 1) := dk_42 (dk_at dksX2_stepBy_1 13 rfl rfl)
theorem dX2_stepBy_38 : decode cX2_stepBy 38 = .ok (.iload_n 1, 1) := dk_27 (dk_at dksX2_stepBy_1 14 rfl rfl)
theorem dX2_stepBy_39 : decode cX2_stepBy 39 = .ok (.iload_n 3, 1) := dk_29 (dk_at dksX2_stepBy_1 15 rfl rfl)
theorem dX2_stepBy_40 : decode cX2_stepBy 40 = .ok (.iload 4, 2) := dk_21 4 (dk_at dksX2_stepBy_1 16 rfl rfl)
theorem dX2_stepBy_42 : decode cX2_stepBy 42 = .ok (.iconst 0, 1) := dk_3 (dk_at dksX2_stepBy_1 18 rfl rfl)
theorem dX2_stepBy_43 : decode cX2_stepBy 43 = .ok (.iload 6, 2) := dk_21 6 (dk_at dksX2_stepBy_1 19 rfl rfl)
theorem dX2_stepBy_45 : decode cX2_stepBy 45 = .ok (.bipush 64, 2) := dk_16 64 (dk_at dksX2_stepBy_1 21 rfl rfl)
theorem dX2_stepBy_47 : decode cX2_stepBy 47 = .ok (.iload 8, 2) := dk_21 8 (dk_at dksX2_stepBy_2 0 rfl rfl)
theorem dX2_stepBy_49 : decode cX2_stepBy 49 = .ok (.imul, 1) := dk_104 (dk_at dksX2_stepBy_2 2 rfl rfl)
theorem dX2_stepBy_50 : decode cX2_stepBy 50 = .ok (.iadd, 1) := dk_96 (dk_at dksX2_stepBy_2 3 rfl rfl)
theorem dX2_stepBy_51 : decode cX2_stepBy 51 = .ok (.iload 6, 2) := dk_21 6 (dk_at dksX2_stepBy_2 4 rfl rfl)
theorem dX2_stepBy_53 : decode cX2_stepBy 53 = .ok (.bipush 64, 2) := dk_16 64 (dk_at dksX2_stepBy_2 6 rfl rfl)
theorem dX2_stepBy_55 : decode cX2_stepBy 55 = .ok (.iload 8, 2) := dk_21 8 (dk_at dksX2_stepBy_2 8 rfl rfl)
theorem dX2_stepBy_57 : decode cX2_stepBy 57 = .ok (.imul, 1) := dk_104 (dk_at dksX2_stepBy_2 10 rfl rfl)
theorem dX2_stepBy_58 : decode cX2_stepBy 58 = .ok (.iadd, 1) := dk_96 (dk_at dksX2_stepBy_2 11 rfl rfl)
theorem dX2_stepBy_59 : decode cX2_stepBy 59 = .ok (.iload 5, 2) := dk_21 5 (dk_at dksX2_stepBy_2 12 rfl rfl)
theorem dX2_stepBy_61 : decode cX2_stepBy 61 = .ok (.invokestatic 1030, 3) := dk_184 4 6 (dk_at dksX2_stepBy_2 14 rfl rfl)
theorem dX2_stepBy_64 : decode cX2_stepBy 64 = .ok (.aload_n 0, 1) := dk_42 (dk_at dksX2_stepBy_2 17 rfl rfl)
theorem dX2_stepBy_65 : decode cX2_stepBy 65 = .ok (.iload 9, 2) := dk_21 9 (dk_at dksX2_stepBy_2 18 rfl rfl)
theorem dX2_stepBy_67 : decode cX2_stepBy 67 = .ok (.putfield 955, 3) := dk_181 3 187 (dk_at dksX2_stepBy_2 20 rfl rfl)
theorem dX2_stepBy_70 : decode cX2_stepBy 70 = .ok (.iinc 8 1, 3) := dk_132 8 1 (dk_at dksX2_stepBy_3 0 rfl rfl)
theorem dX2_stepBy_73 : decode cX2_stepBy 73 = .ok (.goto (-49), 3) := dk_167 255 207 (dk_at dksX2_stepBy_3 3 rfl rfl)
theorem dX2_stepBy_76 : decode cX2_stepBy 76 = .ok (.aload_n 0, 1) := dk_42 (dk_at dksX2_stepBy_3 6 rfl rfl)
theorem dX2_stepBy_77 : decode cX2_stepBy 77 = .ok (.iload 6, 2) := dk_21 6 (dk_at dksX2_stepBy_3 7 rfl rfl)
theorem dX2_stepBy_79 : decode cX2_stepBy 79 = .ok (.putfield 955, 3) := dk_181 3 187 (dk_at dksX2_stepBy_3 9 rfl rfl)
theorem dX2_stepBy_82 : decode cX2_stepBy 82 = .ok (.return_, 1) := dk_177 (dk_at dksX2_stepBy_3 12 rfl rfl)
abbrev cX2_allWays : ByteArray := prog_4_method_145_code
def yX2_allWays : MethodName := ⟨RX2, "allWays", "(LRewriteHouseModel;IIIIIII)V"⟩
def dkwX2_allWays_10 : List UInt8 := [167, 255, 211, 42, 21, 10, 181, 3, 187, 177]
abbrev dktX2_allWays_10 : List UInt8 := dkwX2_allWays_10 ++ []
def dkwX2_allWays_9 : List UInt8 := [21, 10, 16, 64, 21, 12, 104, 96, 21, 6, 21, 7, 184, 4, 6, 42, 21, 13, 181, 3, 187, 132, 12, 1]
abbrev dktX2_allWays_9 : List UInt8 := dkwX2_allWays_9 ++ dktX2_allWays_10
def dkwX2_allWays_8 : List UInt8 := [54, 12, 21, 12, 21, 11, 162, 0, 44, 42, 180, 3, 187, 54, 13, 42, 27, 28, 29, 21, 4, 4, 96]
abbrev dktX2_allWays_8 : List UInt8 := dkwX2_allWays_8 ++ dktX2_allWays_9
def dkwX2_allWays_7 : List UInt8 := [180, 3, 187, 54, 10, 42, 42, 180, 0, 238, 21, 8, 46, 21, 9, 3, 21, 5, 182, 3, 223, 54, 11, 3]
abbrev dktX2_allWays_7 : List UInt8 := dkwX2_allWays_7 ++ dktX2_allWays_8
def dkwX2_allWays_6 : List UInt8 := [46, 96, 182, 3, 230, 42, 42, 180, 0, 241, 21, 8, 46, 21, 5, 3, 182, 3, 242, 54, 9, 42]
abbrev dktX2_allWays_6 : List UInt8 := dkwX2_allWays_6 ++ dktX2_allWays_7
def dkwX2_allWays_5 : List UInt8 := [42, 42, 180, 0, 190, 42, 180, 0, 238, 21, 8, 46, 46, 42, 180, 0, 190, 42, 180, 0, 241, 21, 8, 46]
abbrev dktX2_allWays_5 : List UInt8 := dkwX2_allWays_5 ++ dktX2_allWays_6
def dkwX2_allWays_4 : List UInt8 := [182, 3, 245, 153, 0, 20, 42, 27, 28, 29, 21, 4, 4, 96, 21, 5, 21, 6, 21, 7, 184, 4, 6, 177]
abbrev dktX2_allWays_4 : List UInt8 := dkwX2_allWays_4 ++ dktX2_allWays_5
def dkwX2_allWays_3 : List UInt8 := [104, 21, 4, 96, 54, 8, 42, 180, 0, 117, 21, 8, 46, 4, 159, 0, 33, 42, 21, 8, 21, 5, 3]
abbrev dktX2_allWays_3 : List UInt8 := dkwX2_allWays_3 ++ dktX2_allWays_4
def dkwX2_allWays_2 : List UInt8 := [182, 3, 233, 21, 6, 182, 3, 236, 54, 8, 42, 27, 21, 8, 29, 21, 7, 182, 4, 10, 177, 16, 6, 28]
abbrev dktX2_allWays_2 : List UInt8 := dkwX2_allWays_2 ++ dktX2_allWays_3
def dkwX2_allWays_1 : List UInt8 := [182, 3, 230, 42, 42, 180, 0, 181, 42, 180, 0, 232, 28, 46, 46, 42, 42, 180, 0, 235, 28, 46, 21, 5]
abbrev dktX2_allWays_1 : List UInt8 := dkwX2_allWays_1 ++ dktX2_allWays_2
def dkwX2_allWays_0 : List UInt8 := [21, 4, 42, 180, 0, 123, 28, 46, 160, 0, 60, 42, 42, 180, 0, 190, 42, 180, 0, 235, 28, 46, 46]
abbrev dktX2_allWays_0 : List UInt8 := dkwX2_allWays_0 ++ dktX2_allWays_1
theorem dksX2_allWays_0 : cX2_allWays.data.toList.drop 0 = dktX2_allWays_0 := by decide +kernel
theorem dksX2_allWays_1 : cX2_allWays.data.toList.drop 23 = dktX2_allWays_1 := dk_seg dksX2_allWays_0 23 rfl rfl
theorem dksX2_allWays_2 : cX2_allWays.data.toList.drop 47 = dktX2_allWays_2 := dk_seg dksX2_allWays_1 24 rfl rfl
theorem dksX2_allWays_3 : cX2_allWays.data.toList.drop 71 = dktX2_allWays_3 := dk_seg dksX2_allWays_2 24 rfl rfl
theorem dksX2_allWays_4 : cX2_allWays.data.toList.drop 94 = dktX2_allWays_4 := dk_seg dksX2_allWays_3 23 rfl rfl
theorem dksX2_allWays_5 : cX2_allWays.data.toList.drop 118 = dktX2_allWays_5 := dk_seg dksX2_allWays_4 24 rfl rfl
theorem dksX2_allWays_6 : cX2_allWays.data.toList.drop 142 = dktX2_allWays_6 := dk_seg dksX2_allWays_5 24 rfl rfl
theorem dksX2_allWays_7 : cX2_allWays.data.toList.drop 164 = dktX2_allWays_7 := dk_seg dksX2_allWays_6 22 rfl rfl
theorem dksX2_allWays_8 : cX2_allWays.data.toList.drop 188 = dktX2_allWays_8 := dk_seg dksX2_allWays_7 24 rfl rfl
theorem dksX2_allWays_9 : cX2_allWays.data.toList.drop 211 = dktX2_allWays_9 := dk_seg dksX2_allWays_8 23 rfl rfl
theorem dksX2_allWays_10 : cX2_allWays.data.toList.drop 235 = dktX2_allWays_10 := dk_seg dksX2_allWays_9 24 rfl rfl
theorem dX2_allWays_0 : decode cX2_allWays 0 = .ok (.iload 4, 2) := dk_21 4 (dk_at dksX2_allWays_0 0 rfl rfl)
theorem dX2_allWays_2 : decode cX2_allWays 2 = .ok (.aload_n 0, 1) := dk_42 (dk_at dksX2_allWays_0 2 rfl rfl)
theorem dX2_allWays_3 : decode cX2_allWays 3 = .ok (.getfield 123, 3) := dk_180 0 123 (dk_at dksX2_allWays_0 3 rfl rfl)
theorem dX2_allWays_6 : decode cX2_allWays 6 = .ok (.iload_n 2, 1) := dk_28 (dk_at dksX2_allWays_0 6 rfl rfl)
theorem dX2_allWays_7 : decode cX2_allWays 7 = .ok (.iaload, 1) := dk_46 (dk_at dksX2_allWays_0 7 rfl rfl)
theorem dX2_allWays_8 : decode cX2_allWays 8 = .ok (.if_icmp .ne 60, 3) := dk_160 0 60 (dk_at dksX2_allWays_0 8 rfl rfl)
theorem dX2_allWays_11 : decode cX2_allWays 11 = .ok (.aload_n 0, 1) := dk_42 (dk_at dksX2_allWays_0 11 rfl rfl)
theorem dX2_allWays_12 : decode cX2_allWays 12 = .ok (.aload_n 0, 1) := dk_42 (dk_at dksX2_allWays_0 12 rfl rfl)
theorem dX2_allWays_13 : decode cX2_allWays 13 = .ok (.getfield 190, 3) := dk_180 0 190 (dk_at dksX2_allWays_0 13 rfl rfl)
theorem dX2_allWays_16 : decode cX2_allWays 16 = .ok (.aload_n 0, 1) := dk_42 (dk_at dksX2_allWays_0 16 rfl rfl)
theorem dX2_allWays_17 : decode cX2_allWays 17 = .ok (.getfield 235, 3) := dk_180 0 235 (dk_at dksX2_allWays_0 17 rfl rfl)
theorem dX2_allWays_20 : decode cX2_allWays 20 = .ok (.iload_n 2, 1) := dk_28 (dk_at dksX2_allWays_0 20 rfl rfl)
theorem dX2_allWays_21 : decode cX2_allWays 21 = .ok (.iaload, 1) := dk_46 (dk_at dksX2_allWays_0 21 rfl rfl)
theorem dX2_allWays_22 : decode cX2_allWays 22 = .ok (.iaload, 1) := dk_46 (dk_at dksX2_allWays_0 22 rfl rfl)
theorem dX2_allWays_23 : decode cX2_allWays 23 = .ok (.invokevirtual 998, 3) := dk_182 3 230 (dk_at dksX2_allWays_1 0 rfl rfl)
theorem dX2_allWays_26 : decode cX2_allWays 26 = .ok (.aload_n 0, 1) := dk_42 (dk_at dksX2_allWays_1 3 rfl rfl)
theorem dX2_allWays_27 : decode cX2_allWays 27 = .ok (.aload_n 0, 1) := dk_42 (dk_at dksX2_allWays_1 4 rfl rfl)
theorem dX2_allWays_28 : decode cX2_allWays 28 = .ok (.getfield 181, 3) := dk_180 0 181 (dk_at dksX2_allWays_1 5 rfl rfl)
theorem dX2_allWays_31 : decode cX2_allWays 31 = .ok (.aload_n 0, 1) := dk_42 (dk_at dksX2_allWays_1 8 rfl rfl)
theorem dX2_allWays_32 : decode cX2_allWays 32 = .ok (.getfield 232, 3) := dk_180 0 232 (dk_at dksX2_allWays_1 9 rfl rfl)
theorem dX2_allWays_35 : decode cX2_allWays 35 = .ok (.iload_n 2, 1) := dk_28 (dk_at dksX2_allWays_1 12 rfl rfl)
theorem dX2_allWays_36 : decode cX2_allWays 36 = .ok (.iaload, 1) := dk_46 (dk_at dksX2_allWays_1 13 rfl rfl)
theorem dX2_allWays_37 : decode cX2_allWays 37 = .ok (.iaload, 1) := dk_46 (dk_at dksX2_allWays_1 14 rfl rfl)
theorem dX2_allWays_38 : decode cX2_allWays 38 = .ok (.aload_n 0, 1) := dk_42 (dk_at dksX2_allWays_1 15 rfl rfl)
theorem dX2_allWays_39 : decode cX2_allWays 39 = .ok (.aload_n 0, 1) := dk_42 (dk_at dksX2_allWays_1 16 rfl rfl)
theorem dX2_allWays_40 : decode cX2_allWays 40 = .ok (.getfield 235, 3) := dk_180 0 235 (dk_at dksX2_allWays_1 17 rfl rfl)
theorem dX2_allWays_43 : decode cX2_allWays 43 = .ok (.iload_n 2, 1) := dk_28 (dk_at dksX2_allWays_1 20 rfl rfl)
theorem dX2_allWays_44 : decode cX2_allWays 44 = .ok (.iaload, 1) := dk_46 (dk_at dksX2_allWays_1 21 rfl rfl)
theorem dX2_allWays_45 : decode cX2_allWays 45 = .ok (.iload 5, 2) := dk_21 5 (dk_at dksX2_allWays_1 22 rfl rfl)
theorem dX2_allWays_47 : decode cX2_allWays 47 = .ok (.invokevirtual 1001, 3) := dk_182 3 233 (dk_at dksX2_allWays_2 0 rfl rfl)
theorem dX2_allWays_50 : decode cX2_allWays 50 = .ok (.iload 6, 2) := dk_21 6 (dk_at dksX2_allWays_2 3 rfl rfl)
theorem dX2_allWays_52 : decode cX2_allWays 52 = .ok (.invokevirtual 1004, 3) := dk_182 3 236 (dk_at dksX2_allWays_2 5 rfl rfl)
theorem dX2_allWays_55 : decode cX2_allWays 55 = .ok (.istore 8, 2) := dk_54 8 (dk_at dksX2_allWays_2 8 rfl rfl)
theorem dX2_allWays_57 : decode cX2_allWays 57 = .ok (.aload_n 0, 1) := dk_42 (dk_at dksX2_allWays_2 10 rfl rfl)
theorem dX2_allWays_58 : decode cX2_allWays 58 = .ok (.iload_n 1, 1) := dk_27 (dk_at dksX2_allWays_2 11 rfl rfl)
theorem dX2_allWays_59 : decode cX2_allWays 59 = .ok (.iload 8, 2) := dk_21 8 (dk_at dksX2_allWays_2 12 rfl rfl)
theorem dX2_allWays_61 : decode cX2_allWays 61 = .ok (.iload_n 3, 1) := dk_29 (dk_at dksX2_allWays_2 14 rfl rfl)
theorem dX2_allWays_62 : decode cX2_allWays 62 = .ok (.iload 7, 2) := dk_21 7 (dk_at dksX2_allWays_2 15 rfl rfl)
theorem dX2_allWays_64 : decode cX2_allWays 64 = .ok (.invokevirtual 1034, 3) := dk_182 4 10 (dk_at dksX2_allWays_2 17 rfl rfl)
theorem dX2_allWays_67 : decode cX2_allWays 67 = .ok (.return_, 1) := dk_177 (dk_at dksX2_allWays_2 20 rfl rfl)
theorem dX2_allWays_68 : decode cX2_allWays 68 = .ok (.bipush 6, 2) := dk_16 6 (dk_at dksX2_allWays_2 21 rfl rfl)
theorem dX2_allWays_70 : decode cX2_allWays 70 = .ok (.iload_n 2, 1) := dk_28 (dk_at dksX2_allWays_2 23 rfl rfl)
theorem dX2_allWays_71 : decode cX2_allWays 71 = .ok (.imul, 1) := dk_104 (dk_at dksX2_allWays_3 0 rfl rfl)
theorem dX2_allWays_72 : decode cX2_allWays 72 = .ok (.iload 4, 2) := dk_21 4 (dk_at dksX2_allWays_3 1 rfl rfl)
theorem dX2_allWays_74 : decode cX2_allWays 74 = .ok (.iadd, 1) := dk_96 (dk_at dksX2_allWays_3 3 rfl rfl)
theorem dX2_allWays_75 : decode cX2_allWays 75 = .ok (.istore 8, 2) := dk_54 8 (dk_at dksX2_allWays_3 4 rfl rfl)
theorem dX2_allWays_77 : decode cX2_allWays 77 = .ok (.aload_n 0, 1) := dk_42 (dk_at dksX2_allWays_3 6 rfl rfl)
theorem dX2_allWays_78 : decode cX2_allWays 78 = .ok (.getfield 117, 3) := dk_180 0 117 (dk_at dksX2_allWays_3 7 rfl rfl)
theorem dX2_allWays_81 : decode cX2_allWays 81 = .ok (.iload 8, 2) := dk_21 8 (dk_at dksX2_allWays_3 10 rfl rfl)
theorem dX2_allWays_83 : decode cX2_allWays 83 = .ok (.iaload, 1) := dk_46 (dk_at dksX2_allWays_3 12 rfl rfl)
theorem dX2_allWays_84 : decode cX2_allWays 84 = .ok (.iconst 1, 1) := dk_4 (dk_at dksX2_allWays_3 13 rfl rfl)
theorem dX2_allWays_85 : decode cX2_allWays 85 = .ok (.if_icmp .eq 33, 3) := dk_159 0 33 (dk_at dksX2_allWays_3 14 rfl rfl)
theorem dX2_allWays_88 : decode cX2_allWays 88 = .ok (.aload_n 0, 1) := dk_42 (dk_at dksX2_allWays_3 17 rfl rfl)
theorem dX2_allWays_89 : decode cX2_allWays 89 = .ok (.iload 8, 2) := dk_21 8 (dk_at dksX2_allWays_3 18 rfl rfl)
theorem dX2_allWays_91 : decode cX2_allWays 91 = .ok (.iload 5, 2) := dk_21 5 (dk_at dksX2_allWays_3 20 rfl rfl)
theorem dX2_allWays_93 : decode cX2_allWays 93 = .ok (.iconst 0, 1) := dk_3 (dk_at dksX2_allWays_3 22 rfl rfl)
theorem dX2_allWays_94 : decode cX2_allWays 94 = .ok (.invokevirtual 1013, 3) := dk_182 3 245 (dk_at dksX2_allWays_4 0 rfl rfl)
theorem dX2_allWays_97 : decode cX2_allWays 97 = .ok (.ifCond .eq 20, 3) := dk_153 0 20 (dk_at dksX2_allWays_4 3 rfl rfl)
theorem dX2_allWays_100 : decode cX2_allWays 100 = .ok (.aload_n 0, 1) := dk_42 (dk_at dksX2_allWays_4 6 rfl rfl)
theorem dX2_allWays_101 : decode cX2_allWays 101 = .ok (.iload_n 1, 1) := dk_27 (dk_at dksX2_allWays_4 7 rfl rfl)
theorem dX2_allWays_102 : decode cX2_allWays 102 = .ok (.iload_n 2, 1) := dk_28 (dk_at dksX2_allWays_4 8 rfl rfl)
theorem dX2_allWays_103 : decode cX2_allWays 103 = .ok (.iload_n 3, 1) := dk_29 (dk_at dksX2_allWays_4 9 rfl rfl)
theorem dX2_allWays_104 : decode cX2_allWays 104 = .ok (.iload 4, 2) := dk_21 4 (dk_at dksX2_allWays_4 10 rfl rfl)
theorem dX2_allWays_106 : decode cX2_allWays 106 = .ok (.iconst 1, 1) := dk_4 (dk_at dksX2_allWays_4 12 rfl rfl)
theorem dX2_allWays_107 : decode cX2_allWays 107 = .ok (.iadd, 1) := dk_96 (dk_at dksX2_allWays_4 13 rfl rfl)
theorem dX2_allWays_108 : decode cX2_allWays 108 = .ok (.iload 5, 2) := dk_21 5 (dk_at dksX2_allWays_4 14 rfl rfl)
theorem dX2_allWays_110 : decode cX2_allWays 110 = .ok (.iload 6, 2) := dk_21 6 (dk_at dksX2_allWays_4 16 rfl rfl)
theorem dX2_allWays_112 : decode cX2_allWays 112 = .ok (.iload 7, 2) := dk_21 7 (dk_at dksX2_allWays_4 18 rfl rfl)
theorem dX2_allWays_114 : decode cX2_allWays 114 = .ok (.invokestatic 1030, 3) := dk_184 4 6 (dk_at dksX2_allWays_4 20 rfl rfl)
theorem dX2_allWays_117 : decode cX2_allWays 117 = .ok (.return_, 1) := dk_177 (dk_at dksX2_allWays_4 23 rfl rfl)
theorem dX2_allWays_118 : decode cX2_allWays 118 = .ok (.aload_n 0, 1) := dk_42 (dk_at dksX2_allWays_5 0 rfl rfl)
theorem dX2_allWays_119 : decode cX2_allWays 119 = .ok (.aload_n 0, 1) := dk_42 (dk_at dksX2_allWays_5 1 rfl rfl)
theorem dX2_allWays_120 : decode cX2_allWays 120 = .ok (.getfield 190, 3) := dk_180 0 190 (dk_at dksX2_allWays_5 2 rfl rfl)
theorem dX2_allWays_123 : decode cX2_allWays 123 = .ok (.aload_n 0, 1) := dk_42 (dk_at dksX2_allWays_5 5 rfl rfl)
theorem dX2_allWays_124 : decode cX2_allWays 124 = .ok (.getfield 238, 3) := dk_180 0 238 (dk_at dksX2_allWays_5 6 rfl rfl)
theorem dX2_allWays_127 : decode cX2_allWays 127 = .ok (.iload 8, 2) := dk_21 8 (dk_at dksX2_allWays_5 9 rfl rfl)
theorem dX2_allWays_129 : decode cX2_allWays 129 = .ok (.iaload, 1) := dk_46 (dk_at dksX2_allWays_5 11 rfl rfl)
theorem dX2_allWays_130 : decode cX2_allWays 130 = .ok (.iaload, 1) := dk_46 (dk_at dksX2_allWays_5 12 rfl rfl)
theorem dX2_allWays_131 : decode cX2_allWays 131 = .ok (.aload_n 0, 1) := dk_42 (dk_at dksX2_allWays_5 13 rfl rfl)
theorem dX2_allWays_132 : decode cX2_allWays 132 = .ok (.getfield 190, 3) := dk_180 0 190 (dk_at dksX2_allWays_5 14 rfl rfl)
theorem dX2_allWays_135 : decode cX2_allWays 135 = .ok (.aload_n 0, 1) := dk_42 (dk_at dksX2_allWays_5 17 rfl rfl)
theorem dX2_allWays_136 : decode cX2_allWays 136 = .ok (.getfield 241, 3) := dk_180 0 241 (dk_at dksX2_allWays_5 18 rfl rfl)
theorem dX2_allWays_139 : decode cX2_allWays 139 = .ok (.iload 8, 2) := dk_21 8 (dk_at dksX2_allWays_5 21 rfl rfl)
theorem dX2_allWays_141 : decode cX2_allWays 141 = .ok (.iaload, 1) := dk_46 (dk_at dksX2_allWays_5 23 rfl rfl)
theorem dX2_allWays_142 : decode cX2_allWays 142 = .ok (.iaload, 1) := dk_46 (dk_at dksX2_allWays_6 0 rfl rfl)
theorem dX2_allWays_143 : decode cX2_allWays 143 = .ok (.iadd, 1) := dk_96 (dk_at dksX2_allWays_6 1 rfl rfl)
theorem dX2_allWays_144 : decode cX2_allWays 144 = .ok (.invokevirtual 998, 3) := dk_182 3 230 (dk_at dksX2_allWays_6 2 rfl rfl)
theorem dX2_allWays_147 : decode cX2_allWays 147 = .ok (.aload_n 0, 1) := dk_42 (dk_at dksX2_allWays_6 5 rfl rfl)
theorem dX2_allWays_148 : decode cX2_allWays 148 = .ok (.aload_n 0, 1) := dk_42 (dk_at dksX2_allWays_6 6 rfl rfl)
theorem dX2_allWays_149 : decode cX2_allWays 149 = .ok (.getfield 241, 3) := dk_180 0 241 (dk_at dksX2_allWays_6 7 rfl rfl)
theorem dX2_allWays_152 : decode cX2_allWays 152 = .ok (.iload 8, 2) := dk_21 8 (dk_at dksX2_allWays_6 10 rfl rfl)
theorem dX2_allWays_154 : decode cX2_allWays 154 = .ok (.iaload, 1) := dk_46 (dk_at dksX2_allWays_6 12 rfl rfl)
theorem dX2_allWays_155 : decode cX2_allWays 155 = .ok (.iload 5, 2) := dk_21 5 (dk_at dksX2_allWays_6 13 rfl rfl)
theorem dX2_allWays_157 : decode cX2_allWays 157 = .ok (.iconst 0, 1) := dk_3 (dk_at dksX2_allWays_6 15 rfl rfl)
theorem dX2_allWays_158 : decode cX2_allWays 158 = .ok (.invokevirtual 1010, 3) := dk_182 3 242 (dk_at dksX2_allWays_6 16 rfl rfl)
theorem dX2_allWays_161 : decode cX2_allWays 161 = .ok (.istore 9, 2) := dk_54 9 (dk_at dksX2_allWays_6 19 rfl rfl)
theorem dX2_allWays_163 : decode cX2_allWays 163 = .ok (.aload_n 0, 1) := dk_42 (dk_at dksX2_allWays_6 21 rfl rfl)
theorem dX2_allWays_164 : decode cX2_allWays 164 = .ok (.getfield 955, 3) := dk_180 3 187 (dk_at dksX2_allWays_7 0 rfl rfl)
theorem dX2_allWays_167 : decode cX2_allWays 167 = .ok (.istore 10, 2) := dk_54 10 (dk_at dksX2_allWays_7 3 rfl rfl)
theorem dX2_allWays_169 : decode cX2_allWays 169 = .ok (.aload_n 0, 1) := dk_42 (dk_at dksX2_allWays_7 5 rfl rfl)
theorem dX2_allWays_170 : decode cX2_allWays 170 = .ok (.aload_n 0, 1) := dk_42 (dk_at dksX2_allWays_7 6 rfl rfl)
theorem dX2_allWays_171 : decode cX2_allWays 171 = .ok (.getfield 238, 3) := dk_180 0 238 (dk_at dksX2_allWays_7 7 rfl rfl)
theorem dX2_allWays_174 : decode cX2_allWays 174 = .ok (.iload 8, 2) := dk_21 8 (dk_at dksX2_allWays_7 10 rfl rfl)
theorem dX2_allWays_176 : decode cX2_allWays 176 = .ok (.iaload, 1) := dk_46 (dk_at dksX2_allWays_7 12 rfl rfl)
theorem dX2_allWays_177 : decode cX2_allWays 177 = .ok (.iload 9, 2) := dk_21 9 (dk_at dksX2_allWays_7 13 rfl rfl)
theorem dX2_allWays_179 : decode cX2_allWays 179 = .ok (.iconst 0, 1) := dk_3 (dk_at dksX2_allWays_7 15 rfl rfl)
theorem dX2_allWays_180 : decode cX2_allWays 180 = .ok (.iload 5, 2) := dk_21 5 (dk_at dksX2_allWays_7 16 rfl rfl)
theorem dX2_allWays_182 : decode cX2_allWays 182 = .ok (.invokevirtual 991, 3) := dk_182 3 223 (dk_at dksX2_allWays_7 18 rfl rfl)
theorem dX2_allWays_185 : decode cX2_allWays 185 = .ok (.istore 11, 2) := dk_54 11 (dk_at dksX2_allWays_7 21 rfl rfl)
theorem dX2_allWays_187 : decode cX2_allWays 187 = .ok (.iconst 0, 1) := dk_3 (dk_at dksX2_allWays_7 23 rfl rfl)
theorem dX2_allWays_188 : decode cX2_allWays 188 = .ok (.istore 12, 2) := dk_54 12 (dk_at dksX2_allWays_8 0 rfl rfl)
theorem dX2_allWays_190 : decode cX2_allWays 190 = .ok (.iload 12, 2) := dk_21 12 (dk_at dksX2_allWays_8 2 rfl rfl)
theorem dX2_allWays_192 : decode cX2_allWays 192 = .ok (.iload 11, 2) := dk_21 11 (dk_at dksX2_allWays_8 4 rfl rfl)
theorem dX2_allWays_194 : decode cX2_allWays 194 = .ok (.if_icmp .ge 44, 3) := dk_162 0 44 (dk_at dksX2_allWays_8 6 rfl rfl)
theorem dX2_allWays_197 : decode cX2_allWays 197 = .ok (.aload_n 0, 1) := dk_42 (dk_at dksX2_allWays_8 9 rfl rfl)
theorem dX2_allWays_198 : decode cX2_allWays 198 = .ok (.getfield 955, 3) := dk_180 3 187 (dk_at dksX2_allWays_8 10 rfl rfl)
theorem dX2_allWays_201 : decode cX2_allWays 201 = .ok (.istore 13, 2) := dk_54 13 (dk_at dksX2_allWays_8 13 rfl rfl)
theorem dX2_allWays_203 : decode cX2_allWays 203 = .ok (.aload_n 0, 1) := dk_42 (dk_at dksX2_allWays_8 15 rfl rfl)
theorem dX2_allWays_204 : decode cX2_allWays 204 = .ok (.iload_n 1, 1) := dk_27 (dk_at dksX2_allWays_8 16 rfl rfl)
theorem dX2_allWays_205 : decode cX2_allWays 205 = .ok (.iload_n 2, 1) := dk_28 (dk_at dksX2_allWays_8 17 rfl rfl)
theorem dX2_allWays_206 : decode cX2_allWays 206 = .ok (.iload_n 3, 1) := dk_29 (dk_at dksX2_allWays_8 18 rfl rfl)
theorem dX2_allWays_207 : decode cX2_allWays 207 = .ok (.iload 4, 2) := dk_21 4 (dk_at dksX2_allWays_8 19 rfl rfl)
theorem dX2_allWays_209 : decode cX2_allWays 209 = .ok (.iconst 1, 1) := dk_4 (dk_at dksX2_allWays_8 21 rfl rfl)
theorem dX2_allWays_210 : decode cX2_allWays 210 = .ok (.iadd, 1) := dk_96 (dk_at dksX2_allWays_8 22 rfl rfl)
theorem dX2_allWays_211 : decode cX2_allWays 211 = .ok (.iload 10, 2) := dk_21 10 (dk_at dksX2_allWays_9 0 rfl rfl)
theorem dX2_allWays_213 : decode cX2_allWays 213 = .ok (.bipush 64, 2) := dk_16 64 (dk_at dksX2_allWays_9 2 rfl rfl)
theorem dX2_allWays_215 : decode cX2_allWays 215 = .ok (.iload 12, 2) := dk_21 12 (dk_at dksX2_allWays_9 4 rfl rfl)
theorem dX2_allWays_217 : decode cX2_allWays 217 = .ok (.imul, 1) := dk_104 (dk_at dksX2_allWays_9 6 rfl rfl)
theorem dX2_allWays_218 : decode cX2_allWays 218 = .ok (.iadd, 1) := dk_96 (dk_at dksX2_allWays_9 7 rfl rfl)
theorem dX2_allWays_219 : decode cX2_allWays 219 = .ok (.iload 6, 2) := dk_21 6 (dk_at dksX2_allWays_9 8 rfl rfl)
theorem dX2_allWays_221 : decode cX2_allWays 221 = .ok (.iload 7, 2) := dk_21 7 (dk_at dksX2_allWays_9 10 rfl rfl)
theorem dX2_allWays_223 : decode cX2_allWays 223 = .ok (.invokestatic 1030, 3) := dk_184 4 6 (dk_at dksX2_allWays_9 12 rfl rfl)
theorem dX2_allWays_226 : decode cX2_allWays 226 = .ok (.aload_n 0, 1) := dk_42 (dk_at dksX2_allWays_9 15 rfl rfl)
theorem dX2_allWays_227 : decode cX2_allWays 227 = .ok (.iload 13, 2) := dk_21 13 (dk_at dksX2_allWays_9 16 rfl rfl)
theorem dX2_allWays_229 : decode cX2_allWays 229 = .ok (.putfield 955, 3) := dk_181 3 187 (dk_at dksX2_allWays_9 18 rfl rfl)
theorem dX2_allWays_232 : decode cX2_allWays 232 = .ok (.iinc 12 1, 3) := dk_132 12 1 (dk_at dksX2_allWays_9 21 rfl rfl)
theorem dX2_allWays_235 : decode cX2_allWays 235 = .ok (.goto (-45), 3) := dk_167 255 211 (dk_at dksX2_allWays_10 0 rfl rfl)
theorem dX2_allWays_238 : decode cX2_allWays 238 = .ok (.aload_n 0, 1) := dk_42 (dk_at dksX2_allWays_10 3 rfl rfl)
theorem dX2_allWays_239 : decode cX2_allWays 239 = .ok (.iload 10, 2) := dk_21 10 (dk_at dksX2_allWays_10 4 rfl rfl)
theorem dX2_allWays_241 : decode cX2_allWays 241 = .ok (.putfield 955, 3) := dk_181 3 187 (dk_at dksX2_allWays_10 6 rfl rfl)
theorem dX2_allWays_244 : decode cX2_allWays 244 = .ok (.return_, 1) := dk_177 (dk_at dksX2_allWays_10 9 rfl rfl)
abbrev cX2_addStep : ByteArray := prog_4_method_147_code
def yX2_addStep : MethodName := ⟨RX2, "addStep", "(IIII)V"⟩
def dkwX2_addStep_1 : List UInt8 := [184, 3, 220, 54, 6, 42, 182, 3, 239, 42, 21, 6, 29, 21, 4, 182, 4, 17, 177]
abbrev dktX2_addStep_1 : List UInt8 := dkwX2_addStep_1 ++ []
def dkwX2_addStep_0 : List UInt8 := [42, 27, 28, 182, 4, 14, 54, 5, 42, 42, 180, 0, 190, 21, 5, 46, 182, 3, 230, 42, 21, 5, 3]
abbrev dktX2_addStep_0 : List UInt8 := dkwX2_addStep_0 ++ dktX2_addStep_1
theorem dksX2_addStep_0 : cX2_addStep.data.toList.drop 0 = dktX2_addStep_0 := by decide +kernel
theorem dksX2_addStep_1 : cX2_addStep.data.toList.drop 23 = dktX2_addStep_1 := dk_seg dksX2_addStep_0 23 rfl rfl
theorem dX2_addStep_0 : decode cX2_addStep 0 = .ok (.aload_n 0, 1) := dk_42 (dk_at dksX2_addStep_0 0 rfl rfl)
theorem dX2_addStep_1 : decode cX2_addStep 1 = .ok (.iload_n 1, 1) := dk_27 (dk_at dksX2_addStep_0 1 rfl rfl)
theorem dX2_addStep_2 : decode cX2_addStep 2 = .ok (.iload_n 2, 1) := dk_28 (dk_at dksX2_addStep_0 2 rfl rfl)
theorem dX2_addStep_3 : decode cX2_addStep 3 = .ok (.invokevirtual 1038, 3) := dk_182 4 14 (dk_at dksX2_addStep_0 3 rfl rfl)
theorem dX2_addStep_6 : decode cX2_addStep 6 = .ok (.istore 5, 2) := dk_54 5 (dk_at dksX2_addStep_0 6 rfl rfl)
theorem dX2_addStep_8 : decode cX2_addStep 8 = .ok (.aload_n 0, 1) := dk_42 (dk_at dksX2_addStep_0 8 rfl rfl)
theorem dX2_addStep_9 : decode cX2_addStep 9 = .ok (.aload_n 0, 1) := dk_42 (dk_at dksX2_addStep_0 9 rfl rfl)
theorem dX2_addStep_10 : decode cX2_addStep 10 = .ok (.getfield 190, 3) := dk_180 0 190 (dk_at dksX2_addStep_0 10 rfl rfl)
theorem dX2_addStep_13 : decode cX2_addStep 13 = .ok (.iload 5, 2) := dk_21 5 (dk_at dksX2_addStep_0 13 rfl rfl)
theorem dX2_addStep_15 : decode cX2_addStep 15 = .ok (.iaload, 1) := dk_46 (dk_at dksX2_addStep_0 15 rfl rfl)
theorem dX2_addStep_16 : decode cX2_addStep 16 = .ok (.invokevirtual 998, 3) := dk_182 3 230 (dk_at dksX2_addStep_0 16 rfl rfl)
theorem dX2_addStep_19 : decode cX2_addStep 19 = .ok (.aload_n 0, 1) := dk_42 (dk_at dksX2_addStep_0 19 rfl rfl)
theorem dX2_addStep_20 : decode cX2_addStep 20 = .ok (.iload 5, 2) := dk_21 5 (dk_at dksX2_addStep_0 20 rfl rfl)
theorem dX2_addStep_22 : decode cX2_addStep 22 = .ok (.iconst 0, 1) := dk_3 (dk_at dksX2_addStep_0 22 rfl rfl)
theorem dX2_addStep_23 : decode cX2_addStep 23 = .ok (.invokestatic 988, 3) := dk_184 3 220 (dk_at dksX2_addStep_1 0 rfl rfl)
theorem dX2_addStep_26 : decode cX2_addStep 26 = .ok (.istore 6, 2) := dk_54 6 (dk_at dksX2_addStep_1 3 rfl rfl)
theorem dX2_addStep_28 : decode cX2_addStep 28 = .ok (.aload_n 0, 1) := dk_42 (dk_at dksX2_addStep_1 5 rfl rfl)
theorem dX2_addStep_29 : decode cX2_addStep 29 = .ok (.invokevirtual 1007, 3) := dk_182 3 239 (dk_at dksX2_addStep_1 6 rfl rfl)
theorem dX2_addStep_32 : decode cX2_addStep 32 = .ok (.aload_n 0, 1) := dk_42 (dk_at dksX2_addStep_1 9 rfl rfl)
theorem dX2_addStep_33 : decode cX2_addStep 33 = .ok (.iload 6, 2) := dk_21 6 (dk_at dksX2_addStep_1 10 rfl rfl)
theorem dX2_addStep_35 : decode cX2_addStep 35 = .ok (.iload_n 3, 1) := dk_29 (dk_at dksX2_addStep_1 12 rfl rfl)
theorem dX2_addStep_36 : decode cX2_addStep 36 = .ok (.iload 4, 2) := dk_21 4 (dk_at dksX2_addStep_1 13 rfl rfl)
theorem dX2_addStep_38 : decode cX2_addStep 38 = .ok (.invokevirtual 1041, 3) := dk_182 4 17 (dk_at dksX2_addStep_1 15 rfl rfl)
theorem dX2_addStep_41 : decode cX2_addStep 41 = .ok (.return_, 1) := dk_177 (dk_at dksX2_addStep_1 18 rfl rfl)
abbrev cX2_replaced : ByteArray := prog_4_method_146_code
def yX2_replaced : MethodName := ⟨RX2, "replaced", "(II)I"⟩
def dkwX2_replaced_7 : List UInt8 := [3, 182, 1, 178, 29, 172]
abbrev dktX2_replaced_7 : List UInt8 := dkwX2_replaced_7 ++ []
def dkwX2_replaced_6 : List UInt8 := [182, 2, 248, 62, 132, 4, 255, 167, 255, 164, 42, 180, 0, 190, 29, 46, 16, 40, 164, 0, 10, 42, 16, 6]
abbrev dktX2_replaced_6 : List UInt8 := dkwX2_replaced_6 ++ dktX2_replaced_7
def dkwX2_replaced_5 : List UInt8 := [182, 2, 245, 132, 6, 1, 167, 255, 203, 42, 42, 180, 0, 181, 42, 180, 1, 46, 21, 4, 46, 46, 21, 5]
abbrev dktX2_replaced_5 : List UInt8 := dkwX2_replaced_5 ++ dktX2_replaced_6
def dkwX2_replaced_4 : List UInt8 := [21, 4, 46, 160, 0, 7, 29, 167, 0, 16, 42, 42, 180, 1, 46, 21, 4, 46, 21, 6, 182, 2, 179]
abbrev dktX2_replaced_4 : List UInt8 := dkwX2_replaced_4 ++ dktX2_replaced_5
def dkwX2_replaced_3 : List UInt8 := [21, 6, 42, 180, 0, 187, 42, 180, 1, 46, 21, 4, 46, 46, 162, 0, 42, 42, 21, 6, 42, 180, 1, 43]
abbrev dktX2_replaced_3 : List UInt8 := dkwX2_replaced_3 ++ dktX2_replaced_4
def dkwX2_replaced_2 : List UInt8 := [62, 42, 180, 3, 251, 4, 100, 54, 4, 21, 4, 155, 0, 93, 42, 180, 2, 195, 54, 5, 3, 54, 6]
abbrev dktX2_replaced_2 : List UInt8 := dkwX2_replaced_2 ++ dktX2_replaced_3
def dkwX2_replaced_1 : List UInt8 := [42, 42, 180, 1, 46, 29, 46, 42, 180, 1, 43, 29, 46, 182, 2, 179, 79, 132, 3, 1, 167, 255, 221, 28]
abbrev dktX2_replaced_1 : List UInt8 := dkwX2_replaced_1 ++ dktX2_replaced_2
def dkwX2_replaced_0 : List UInt8 := [42, 180, 1, 46, 3, 27, 79, 3, 62, 29, 42, 180, 3, 251, 162, 0, 33, 42, 180, 1, 46, 29, 4, 96]
abbrev dktX2_replaced_0 : List UInt8 := dkwX2_replaced_0 ++ dktX2_replaced_1
theorem dksX2_replaced_0 : cX2_replaced.data.toList.drop 0 = dktX2_replaced_0 := by decide +kernel
theorem dksX2_replaced_1 : cX2_replaced.data.toList.drop 24 = dktX2_replaced_1 := dk_seg dksX2_replaced_0 24 rfl rfl
theorem dksX2_replaced_2 : cX2_replaced.data.toList.drop 48 = dktX2_replaced_2 := dk_seg dksX2_replaced_1 24 rfl rfl
theorem dksX2_replaced_3 : cX2_replaced.data.toList.drop 71 = dktX2_replaced_3 := dk_seg dksX2_replaced_2 23 rfl rfl
theorem dksX2_replaced_4 : cX2_replaced.data.toList.drop 95 = dktX2_replaced_4 := dk_seg dksX2_replaced_3 24 rfl rfl
theorem dksX2_replaced_5 : cX2_replaced.data.toList.drop 118 = dktX2_replaced_5 := dk_seg dksX2_replaced_4 23 rfl rfl
theorem dksX2_replaced_6 : cX2_replaced.data.toList.drop 142 = dktX2_replaced_6 := dk_seg dksX2_replaced_5 24 rfl rfl
theorem dksX2_replaced_7 : cX2_replaced.data.toList.drop 166 = dktX2_replaced_7 := dk_seg dksX2_replaced_6 24 rfl rfl
theorem dX2_replaced_0 : decode cX2_replaced 0 = .ok (.aload_n 0, 1) := dk_42 (dk_at dksX2_replaced_0 0 rfl rfl)
theorem dX2_replaced_1 : decode cX2_replaced 1 = .ok (.getfield 302, 3) := dk_180 1 46 (dk_at dksX2_replaced_0 1 rfl rfl)
theorem dX2_replaced_4 : decode cX2_replaced 4 = .ok (.iconst 0, 1) := dk_3 (dk_at dksX2_replaced_0 4 rfl rfl)
theorem dX2_replaced_5 : decode cX2_replaced 5 = .ok (.iload_n 1, 1) := dk_27 (dk_at dksX2_replaced_0 5 rfl rfl)
theorem dX2_replaced_6 : decode cX2_replaced 6 = .ok (.iastore, 1) := dk_79 (dk_at dksX2_replaced_0 6 rfl rfl)
theorem dX2_replaced_7 : decode cX2_replaced 7 = .ok (.iconst 0, 1) := dk_3 (dk_at dksX2_replaced_0 7 rfl rfl)
theorem dX2_replaced_8 : decode cX2_replaced 8 = .ok (.istore_n 3, 1) := dk_62 (dk_at dksX2_replaced_0 8 rfl rfl)
theorem dX2_replaced_9 : decode cX2_replaced 9 = .ok (.iload_n 3, 1) := dk_29 (dk_at dksX2_replaced_0 9 rfl rfl)
theorem dX2_replaced_10 : decode cX2_replaced 10 = .ok (.aload_n 0, 1) := dk_42 (dk_at dksX2_replaced_0 10 rfl rfl)
theorem dX2_replaced_11 : decode cX2_replaced 11 = .ok (.getfield 1019, 3) := dk_180 3 251 (dk_at dksX2_replaced_0 11 rfl rfl)
theorem dX2_replaced_14 : decode cX2_replaced 14 = .ok (.if_icmp .ge 33, 3) := dk_162 0 33 (dk_at dksX2_replaced_0 14 rfl rfl)
theorem dX2_replaced_17 : decode cX2_replaced 17 = .ok (.aload_n 0, 1) := dk_42 (dk_at dksX2_replaced_0 17 rfl rfl)
theorem dX2_replaced_18 : decode cX2_replaced 18 = .ok (.getfield 302, 3) := dk_180 1 46 (dk_at dksX2_replaced_0 18 rfl rfl)
theorem dX2_replaced_21 : decode cX2_replaced 21 = .ok (.iload_n 3, 1) := dk_29 (dk_at dksX2_replaced_0 21 rfl rfl)
theorem dX2_replaced_22 : decode cX2_replaced 22 = .ok (.iconst 1, 1) := dk_4 (dk_at dksX2_replaced_0 22 rfl rfl)
theorem dX2_replaced_23 : decode cX2_replaced 23 = .ok (.iadd, 1) := dk_96 (dk_at dksX2_replaced_0 23 rfl rfl)
theorem dX2_replaced_24 : decode cX2_replaced 24 = .ok (.aload_n 0, 1) := dk_42 (dk_at dksX2_replaced_1 0 rfl rfl)
theorem dX2_replaced_25 : decode cX2_replaced 25 = .ok (.aload_n 0, 1) := dk_42 (dk_at dksX2_replaced_1 1 rfl rfl)
theorem dX2_replaced_26 : decode cX2_replaced 26 = .ok (.getfield 302, 3) := dk_180 1 46 (dk_at dksX2_replaced_1 2 rfl rfl)
theorem dX2_replaced_29 : decode cX2_replaced 29 = .ok (.iload_n 3, 1) := dk_29 (dk_at dksX2_replaced_1 5 rfl rfl)
theorem dX2_replaced_30 : decode cX2_replaced 30 = .ok (.iaload, 1) := dk_46 (dk_at dksX2_replaced_1 6 rfl rfl)
theorem dX2_replaced_31 : decode cX2_replaced 31 = .ok (.aload_n 0, 1) := dk_42 (dk_at dksX2_replaced_1 7 rfl rfl)
theorem dX2_replaced_32 : decode cX2_replaced 32 = .ok (.getfield 299, 3) := dk_180 1 43 (dk_at dksX2_replaced_1 8 rfl rfl)
theorem dX2_replaced_35 : decode cX2_replaced 35 = .ok (.iload_n 3, 1) := dk_29 (dk_at dksX2_replaced_1 11 rfl rfl)
theorem dX2_replaced_36 : decode cX2_replaced 36 = .ok (.iaload, 1) := dk_46 (dk_at dksX2_replaced_1 12 rfl rfl)
theorem dX2_replaced_37 : decode cX2_replaced 37 = .ok (.invokevirtual 691, 3) := dk_182 2 179 (dk_at dksX2_replaced_1 13 rfl rfl)
theorem dX2_replaced_40 : decode cX2_replaced 40 = .ok (.iastore, 1) := dk_79 (dk_at dksX2_replaced_1 16 rfl rfl)
theorem dX2_replaced_41 : decode cX2_replaced 41 = .ok (.iinc 3 1, 3) := dk_132 3 1 (dk_at dksX2_replaced_1 17 rfl rfl)
theorem dX2_replaced_44 : decode cX2_replaced 44 = .ok (.goto (-35), 3) := dk_167 255 221 (dk_at dksX2_replaced_1 20 rfl rfl)
theorem dX2_replaced_47 : decode cX2_replaced 47 = .ok (.iload_n 2, 1) := dk_28 (dk_at dksX2_replaced_1 23 rfl rfl)
theorem dX2_replaced_48 : decode cX2_replaced 48 = .ok (.istore_n 3, 1) := dk_62 (dk_at dksX2_replaced_2 0 rfl rfl)
theorem dX2_replaced_49 : decode cX2_replaced 49 = .ok (.aload_n 0, 1) := dk_42 (dk_at dksX2_replaced_2 1 rfl rfl)
theorem dX2_replaced_50 : decode cX2_replaced 50 = .ok (.getfield 1019, 3) := dk_180 3 251 (dk_at dksX2_replaced_2 2 rfl rfl)
theorem dX2_replaced_53 : decode cX2_replaced 53 = .ok (.iconst 1, 1) := dk_4 (dk_at dksX2_replaced_2 5 rfl rfl)
theorem dX2_replaced_54 : decode cX2_replaced 54 = .ok (.isub, 1) := dk_100 (dk_at dksX2_replaced_2 6 rfl rfl)
theorem dX2_replaced_55 : decode cX2_replaced 55 = .ok (.istore 4, 2) := dk_54 4 (dk_at dksX2_replaced_2 7 rfl rfl)
theorem dX2_replaced_57 : decode cX2_replaced 57 = .ok (.iload 4, 2) := dk_21 4 (dk_at dksX2_replaced_2 9 rfl rfl)
theorem dX2_replaced_59 : decode cX2_replaced 59 = .ok (.ifCond .lt 93, 3) := dk_155 0 93 (dk_at dksX2_replaced_2 11 rfl rfl)
theorem dX2_replaced_62 : decode cX2_replaced 62 = .ok (.aload_n 0, 1) := dk_42 (dk_at dksX2_replaced_2 14 rfl rfl)
theorem dX2_replaced_63 : decode cX2_replaced 63 = .ok (.getfield 707, 3) := dk_180 2 195 (dk_at dksX2_replaced_2 15 rfl rfl)
theorem dX2_replaced_66 : decode cX2_replaced 66 = .ok (.istore 5, 2) := dk_54 5 (dk_at dksX2_replaced_2 18 rfl rfl)
theorem dX2_replaced_68 : decode cX2_replaced 68 = .ok (.iconst 0, 1) := dk_3 (dk_at dksX2_replaced_2 20 rfl rfl)
theorem dX2_replaced_69 : decode cX2_replaced 69 = .ok (.istore 6, 2) := dk_54 6 (dk_at dksX2_replaced_2 21 rfl rfl)
theorem dX2_replaced_71 : decode cX2_replaced 71 = .ok (.iload 6, 2) := dk_21 6 (dk_at dksX2_replaced_3 0 rfl rfl)
theorem dX2_replaced_73 : decode cX2_replaced 73 = .ok (.aload_n 0, 1) := dk_42 (dk_at dksX2_replaced_3 2 rfl rfl)
theorem dX2_replaced_74 : decode cX2_replaced 74 = .ok (.getfield 187, 3) := dk_180 0 187 (dk_at dksX2_replaced_3 3 rfl rfl)
theorem dX2_replaced_77 : decode cX2_replaced 77 = .ok (.aload_n 0, 1) := dk_42 (dk_at dksX2_replaced_3 6 rfl rfl)
theorem dX2_replaced_78 : decode cX2_replaced 78 = .ok (.getfield 302, 3) := dk_180 1 46 (dk_at dksX2_replaced_3 7 rfl rfl)
theorem dX2_replaced_81 : decode cX2_replaced 81 = .ok (.iload 4, 2) := dk_21 4 (dk_at dksX2_replaced_3 10 rfl rfl)
theorem dX2_replaced_83 : decode cX2_replaced 83 = .ok (.iaload, 1) := dk_46 (dk_at dksX2_replaced_3 12 rfl rfl)
theorem dX2_replaced_84 : decode cX2_replaced 84 = .ok (.iaload, 1) := dk_46 (dk_at dksX2_replaced_3 13 rfl rfl)
theorem dX2_replaced_85 : decode cX2_replaced 85 = .ok (.if_icmp .ge 42, 3) := dk_162 0 42 (dk_at dksX2_replaced_3 14 rfl rfl)
theorem dX2_replaced_88 : decode cX2_replaced 88 = .ok (.aload_n 0, 1) := dk_42 (dk_at dksX2_replaced_3 17 rfl rfl)
theorem dX2_replaced_89 : decode cX2_replaced 89 = .ok (.iload 6, 2) := dk_21 6 (dk_at dksX2_replaced_3 18 rfl rfl)
theorem dX2_replaced_91 : decode cX2_replaced 91 = .ok (.aload_n 0, 1) := dk_42 (dk_at dksX2_replaced_3 20 rfl rfl)
theorem dX2_replaced_92 : decode cX2_replaced 92 = .ok (.getfield 299, 3) := dk_180 1 43 (dk_at dksX2_replaced_3 21 rfl rfl)
theorem dX2_replaced_95 : decode cX2_replaced 95 = .ok (.iload 4, 2) := dk_21 4 (dk_at dksX2_replaced_4 0 rfl rfl)
theorem dX2_replaced_97 : decode cX2_replaced 97 = .ok (.iaload, 1) := dk_46 (dk_at dksX2_replaced_4 2 rfl rfl)
theorem dX2_replaced_98 : decode cX2_replaced 98 = .ok (.if_icmp .ne 7, 3) := dk_160 0 7 (dk_at dksX2_replaced_4 3 rfl rfl)
theorem dX2_replaced_101 : decode cX2_replaced 101 = .ok (.iload_n 3, 1) := dk_29 (dk_at dksX2_replaced_4 6 rfl rfl)
theorem dX2_replaced_102 : decode cX2_replaced 102 = .ok (.goto 16, 3) := dk_167 0 16 (dk_at dksX2_replaced_4 7 rfl rfl)
theorem dX2_replaced_105 : decode cX2_replaced 105 = .ok (.aload_n 0, 1) := dk_42 (dk_at dksX2_replaced_4 10 rfl rfl)
theorem dX2_replaced_106 : decode cX2_replaced 106 = .ok (.aload_n 0, 1) := dk_42 (dk_at dksX2_replaced_4 11 rfl rfl)
theorem dX2_replaced_107 : decode cX2_replaced 107 = .ok (.getfield 302, 3) := dk_180 1 46 (dk_at dksX2_replaced_4 12 rfl rfl)
theorem dX2_replaced_110 : decode cX2_replaced 110 = .ok (.iload 4, 2) := dk_21 4 (dk_at dksX2_replaced_4 15 rfl rfl)
theorem dX2_replaced_112 : decode cX2_replaced 112 = .ok (.iaload, 1) := dk_46 (dk_at dksX2_replaced_4 17 rfl rfl)
theorem dX2_replaced_113 : decode cX2_replaced 113 = .ok (.iload 6, 2) := dk_21 6 (dk_at dksX2_replaced_4 18 rfl rfl)
theorem dX2_replaced_115 : decode cX2_replaced 115 = .ok (.invokevirtual 691, 3) := dk_182 2 179 (dk_at dksX2_replaced_4 20 rfl rfl)
theorem dX2_replaced_118 : decode cX2_replaced 118 = .ok (.invokevirtual 757, 3) := dk_182 2 245 (dk_at dksX2_replaced_5 0 rfl rfl)
theorem dX2_replaced_121 : decode cX2_replaced 121 = .ok (.iinc 6 1, 3) := dk_132 6 1 (dk_at dksX2_replaced_5 3 rfl rfl)
theorem dX2_replaced_124 : decode cX2_replaced 124 = .ok (.goto (-53), 3) := dk_167 255 203 (dk_at dksX2_replaced_5 6 rfl rfl)
theorem dX2_replaced_127 : decode cX2_replaced 127 = .ok (.aload_n 0, 1) := dk_42 (dk_at dksX2_replaced_5 9 rfl rfl)
theorem dX2_replaced_128 : decode cX2_replaced 128 = .ok (.aload_n 0, 1) := dk_42 (dk_at dksX2_replaced_5 10 rfl rfl)
theorem dX2_replaced_129 : decode cX2_replaced 129 = .ok (.getfield 181, 3) := dk_180 0 181 (dk_at dksX2_replaced_5 11 rfl rfl)
theorem dX2_replaced_132 : decode cX2_replaced 132 = .ok (.aload_n 0, 1) := dk_42 (dk_at dksX2_replaced_5 14 rfl rfl)
theorem dX2_replaced_133 : decode cX2_replaced 133 = .ok (.getfield 302, 3) := dk_180 1 46 (dk_at dksX2_replaced_5 15 rfl rfl)
theorem dX2_replaced_136 : decode cX2_replaced 136 = .ok (.iload 4, 2) := dk_21 4 (dk_at dksX2_replaced_5 18 rfl rfl)
theorem dX2_replaced_138 : decode cX2_replaced 138 = .ok (.iaload, 1) := dk_46 (dk_at dksX2_replaced_5 20 rfl rfl)
theorem dX2_replaced_139 : decode cX2_replaced 139 = .ok (.iaload, 1) := dk_46 (dk_at dksX2_replaced_5 21 rfl rfl)
theorem dX2_replaced_140 : decode cX2_replaced 140 = .ok (.iload 5, 2) := dk_21 5 (dk_at dksX2_replaced_5 22 rfl rfl)
theorem dX2_replaced_142 : decode cX2_replaced 142 = .ok (.invokevirtual 760, 3) := dk_182 2 248 (dk_at dksX2_replaced_6 0 rfl rfl)
theorem dX2_replaced_145 : decode cX2_replaced 145 = .ok (.istore_n 3, 1) := dk_62 (dk_at dksX2_replaced_6 3 rfl rfl)
theorem dX2_replaced_146 : decode cX2_replaced 146 = .ok (.iinc 4 (-1), 3) := dk_132 4 255 (dk_at dksX2_replaced_6 4 rfl rfl)
theorem dX2_replaced_149 : decode cX2_replaced 149 = .ok (.goto (-92), 3) := dk_167 255 164 (dk_at dksX2_replaced_6 7 rfl rfl)
theorem dX2_replaced_152 : decode cX2_replaced 152 = .ok (.aload_n 0, 1) := dk_42 (dk_at dksX2_replaced_6 10 rfl rfl)
theorem dX2_replaced_153 : decode cX2_replaced 153 = .ok (.getfield 190, 3) := dk_180 0 190 (dk_at dksX2_replaced_6 11 rfl rfl)
theorem dX2_replaced_156 : decode cX2_replaced 156 = .ok (.iload_n 3, 1) := dk_29 (dk_at dksX2_replaced_6 14 rfl rfl)
theorem dX2_replaced_157 : decode cX2_replaced 157 = .ok (.iaload, 1) := dk_46 (dk_at dksX2_replaced_6 15 rfl rfl)
theorem dX2_replaced_158 : decode cX2_replaced 158 = .ok (.bipush 40, 2) := dk_16 40 (dk_at dksX2_replaced_6 16 rfl rfl)
theorem dX2_replaced_160 : decode cX2_replaced 160 = .ok (.if_icmp .le 10, 3) := dk_164 0 10 (dk_at dksX2_replaced_6 18 rfl rfl)
theorem dX2_replaced_163 : decode cX2_replaced 163 = .ok (.aload_n 0, 1) := dk_42 (dk_at dksX2_replaced_6 21 rfl rfl)
theorem dX2_replaced_164 : decode cX2_replaced 164 = .ok (.bipush 6, 2) := dk_16 6 (dk_at dksX2_replaced_6 22 rfl rfl)
theorem dX2_replaced_166 : decode cX2_replaced 166 = .ok (.iconst 0, 1) := dk_3 (dk_at dksX2_replaced_7 0 rfl rfl)
theorem dX2_replaced_167 : decode cX2_replaced 167 = .ok (.invokevirtual 434, 3) := dk_182 1 178 (dk_at dksX2_replaced_7 1 rfl rfl)
theorem dX2_replaced_170 : decode cX2_replaced 170 = .ok (.iload_n 3, 1) := dk_29 (dk_at dksX2_replaced_7 4 rfl rfl)
theorem dX2_replaced_171 : decode cX2_replaced 171 = .ok (.ireturn, 1) := dk_172 (dk_at dksX2_replaced_7 5 rfl rfl)
abbrev cX2_addTerm : ByteArray := prog_4_method_148_code
def yX2_addTerm : MethodName := ⟨RX2, "addTerm", "(III)V"⟩
def dkwX2_addTerm_3 : List UInt8 := [4, 96, 181, 3, 248, 177]
abbrev dktX2_addTerm_3 : List UInt8 := dkwX2_addTerm_3 ++ []
def dkwX2_addTerm_2 : List UInt8 := [180, 1, 37, 42, 180, 3, 248, 27, 79, 42, 180, 1, 40, 42, 180, 3, 248, 28, 79, 42, 89, 180, 3, 248]
abbrev dktX2_addTerm_2 : List UInt8 := dkwX2_addTerm_2 ++ dktX2_addTerm_3
def dkwX2_addTerm_1 : List UInt8 := [132, 4, 1, 167, 255, 232, 42, 180, 3, 248, 29, 100, 16, 60, 160, 0, 9, 42, 5, 3, 182, 1, 178, 42]
abbrev dktX2_addTerm_1 : List UInt8 := dkwX2_addTerm_1 ++ dktX2_addTerm_2
def dkwX2_addTerm_0 : List UInt8 := [29, 54, 4, 21, 4, 42, 180, 3, 248, 162, 0, 21, 42, 180, 1, 37, 21, 4, 46, 27, 160, 0, 4, 177]
abbrev dktX2_addTerm_0 : List UInt8 := dkwX2_addTerm_0 ++ dktX2_addTerm_1
theorem dksX2_addTerm_0 : cX2_addTerm.data.toList.drop 0 = dktX2_addTerm_0 := by decide +kernel
theorem dksX2_addTerm_1 : cX2_addTerm.data.toList.drop 24 = dktX2_addTerm_1 := dk_seg dksX2_addTerm_0 24 rfl rfl
theorem dksX2_addTerm_2 : cX2_addTerm.data.toList.drop 48 = dktX2_addTerm_2 := dk_seg dksX2_addTerm_1 24 rfl rfl
theorem dksX2_addTerm_3 : cX2_addTerm.data.toList.drop 72 = dktX2_addTerm_3 := dk_seg dksX2_addTerm_2 24 rfl rfl
theorem dX2_addTerm_0 : decode cX2_addTerm 0 = .ok (.iload_n 3, 1) := dk_29 (dk_at dksX2_addTerm_0 0 rfl rfl)
theorem dX2_addTerm_1 : decode cX2_addTerm 1 = .ok (.istore 4, 2) := dk_54 4 (dk_at dksX2_addTerm_0 1 rfl rfl)
theorem dX2_addTerm_3 : decode cX2_addTerm 3 = .ok (.iload 4, 2) := dk_21 4 (dk_at dksX2_addTerm_0 3 rfl rfl)
theorem dX2_addTerm_5 : decode cX2_addTerm 5 = .ok (.aload_n 0, 1) := dk_42 (dk_at dksX2_addTerm_0 5 rfl rfl)
theorem dX2_addTerm_6 : decode cX2_addTerm 6 = .ok (.getfield 1016, 3) := dk_180 3 248 (dk_at dksX2_addTerm_0 6 rfl rfl)
theorem dX2_addTerm_9 : decode cX2_addTerm 9 = .ok (.if_icmp .ge 21, 3) := dk_162 0 21 (dk_at dksX2_addTerm_0 9 rfl rfl)
theorem dX2_addTerm_12 : decode cX2_addTerm 12 = .ok (.aload_n 0, 1) := dk_42 (dk_at dksX2_addTerm_0 12 rfl rfl)
theorem dX2_addTerm_13 : decode cX2_addTerm 13 = .ok (.getfield 293, 3) := dk_180 1 37 (dk_at dksX2_addTerm_0 13 rfl rfl)
theorem dX2_addTerm_16 : decode cX2_addTerm 16 = .ok (.iload 4, 2) := dk_21 4 (dk_at dksX2_addTerm_0 16 rfl rfl)
theorem dX2_addTerm_18 : decode cX2_addTerm 18 = .ok (.iaload, 1) := dk_46 (dk_at dksX2_addTerm_0 18 rfl rfl)
theorem dX2_addTerm_19 : decode cX2_addTerm 19 = .ok (.iload_n 1, 1) := dk_27 (dk_at dksX2_addTerm_0 19 rfl rfl)
theorem dX2_addTerm_20 : decode cX2_addTerm 20 = .ok (.if_icmp .ne 4, 3) := dk_160 0 4 (dk_at dksX2_addTerm_0 20 rfl rfl)
theorem dX2_addTerm_23 : decode cX2_addTerm 23 = .ok (.return_, 1) := dk_177 (dk_at dksX2_addTerm_0 23 rfl rfl)
theorem dX2_addTerm_24 : decode cX2_addTerm 24 = .ok (.iinc 4 1, 3) := dk_132 4 1 (dk_at dksX2_addTerm_1 0 rfl rfl)
theorem dX2_addTerm_27 : decode cX2_addTerm 27 = .ok (.goto (-24), 3) := dk_167 255 232 (dk_at dksX2_addTerm_1 3 rfl rfl)
theorem dX2_addTerm_30 : decode cX2_addTerm 30 = .ok (.aload_n 0, 1) := dk_42 (dk_at dksX2_addTerm_1 6 rfl rfl)
theorem dX2_addTerm_31 : decode cX2_addTerm 31 = .ok (.getfield 1016, 3) := dk_180 3 248 (dk_at dksX2_addTerm_1 7 rfl rfl)
theorem dX2_addTerm_34 : decode cX2_addTerm 34 = .ok (.iload_n 3, 1) := dk_29 (dk_at dksX2_addTerm_1 10 rfl rfl)
theorem dX2_addTerm_35 : decode cX2_addTerm 35 = .ok (.isub, 1) := dk_100 (dk_at dksX2_addTerm_1 11 rfl rfl)
theorem dX2_addTerm_36 : decode cX2_addTerm 36 = .ok (.bipush 60, 2) := dk_16 60 (dk_at dksX2_addTerm_1 12 rfl rfl)
theorem dX2_addTerm_38 : decode cX2_addTerm 38 = .ok (.if_icmp .ne 9, 3) := dk_160 0 9 (dk_at dksX2_addTerm_1 14 rfl rfl)
theorem dX2_addTerm_41 : decode cX2_addTerm 41 = .ok (.aload_n 0, 1) := dk_42 (dk_at dksX2_addTerm_1 17 rfl rfl)
theorem dX2_addTerm_42 : decode cX2_addTerm 42 = .ok (.iconst 2, 1) := dk_5 (dk_at dksX2_addTerm_1 18 rfl rfl)
theorem dX2_addTerm_43 : decode cX2_addTerm 43 = .ok (.iconst 0, 1) := dk_3 (dk_at dksX2_addTerm_1 19 rfl rfl)
theorem dX2_addTerm_44 : decode cX2_addTerm 44 = .ok (.invokevirtual 434, 3) := dk_182 1 178 (dk_at dksX2_addTerm_1 20 rfl rfl)
theorem dX2_addTerm_47 : decode cX2_addTerm 47 = .ok (.aload_n 0, 1) := dk_42 (dk_at dksX2_addTerm_1 23 rfl rfl)
theorem dX2_addTerm_48 : decode cX2_addTerm 48 = .ok (.getfield 293, 3) := dk_180 1 37 (dk_at dksX2_addTerm_2 0 rfl rfl)
theorem dX2_addTerm_51 : decode cX2_addTerm 51 = .ok (.aload_n 0, 1) := dk_42 (dk_at dksX2_addTerm_2 3 rfl rfl)
theorem dX2_addTerm_52 : decode cX2_addTerm 52 = .ok (.getfield 1016, 3) := dk_180 3 248 (dk_at dksX2_addTerm_2 4 rfl rfl)
theorem dX2_addTerm_55 : decode cX2_addTerm 55 = .ok (.iload_n 1, 1) := dk_27 (dk_at dksX2_addTerm_2 7 rfl rfl)
theorem dX2_addTerm_56 : decode cX2_addTerm 56 = .ok (.iastore, 1) := dk_79 (dk_at dksX2_addTerm_2 8 rfl rfl)
theorem dX2_addTerm_57 : decode cX2_addTerm 57 = .ok (.aload_n 0, 1) := dk_42 (dk_at dksX2_addTerm_2 9 rfl rfl)
theorem dX2_addTerm_58 : decode cX2_addTerm 58 = .ok (.getfield 296, 3) := dk_180 1 40 (dk_at dksX2_addTerm_2 10 rfl rfl)
theorem dX2_addTerm_61 : decode cX2_addTerm 61 = .ok (.aload_n 0, 1) := dk_42 (dk_at dksX2_addTerm_2 13 rfl rfl)
theorem dX2_addTerm_62 : decode cX2_addTerm 62 = .ok (.getfield 1016, 3) := dk_180 3 248 (dk_at dksX2_addTerm_2 14 rfl rfl)
theorem dX2_addTerm_65 : decode cX2_addTerm 65 = .ok (.iload_n 2, 1) := dk_28 (dk_at dksX2_addTerm_2 17 rfl rfl)
theorem dX2_addTerm_66 : decode cX2_addTerm 66 = .ok (.iastore, 1) := dk_79 (dk_at dksX2_addTerm_2 18 rfl rfl)
theorem dX2_addTerm_67 : decode cX2_addTerm 67 = .ok (.aload_n 0, 1) := dk_42 (dk_at dksX2_addTerm_2 19 rfl rfl)
theorem dX2_addTerm_68 : decode cX2_addTerm 68 = .ok (.dup, 1) := dk_89 (dk_at dksX2_addTerm_2 20 rfl rfl)
theorem dX2_addTerm_69 : decode cX2_addTerm 69 = .ok (.getfield 1016, 3) := dk_180 3 248 (dk_at dksX2_addTerm_2 21 rfl rfl)
theorem dX2_addTerm_72 : decode cX2_addTerm 72 = .ok (.iconst 1, 1) := dk_4 (dk_at dksX2_addTerm_3 0 rfl rfl)
theorem dX2_addTerm_73 : decode cX2_addTerm 73 = .ok (.iadd, 1) := dk_96 (dk_at dksX2_addTerm_3 1 rfl rfl)
theorem dX2_addTerm_74 : decode cX2_addTerm 74 = .ok (.putfield 1016, 3) := dk_181 3 248 (dk_at dksX2_addTerm_3 2 rfl rfl)
theorem dX2_addTerm_77 : decode cX2_addTerm 77 = .ok (.return_, 1) := dk_177 (dk_at dksX2_addTerm_3 5 rfl rfl)
abbrev cX2_result : ByteArray := prog_4_method_160_code
def yX2_result : MethodName := ⟨RX2, "result", "(I)I"⟩
def dkwX2_result_2 : List UInt8 := [16, 253, 167, 0, 13, 42, 42, 180, 1, 49, 27, 46, 182, 3, 80, 172]
abbrev dktX2_result_2 : List UInt8 := dkwX2_result_2 ++ []
def dkwX2_result_1 : List UInt8 := [180, 3, 4, 4, 100, 133, 184, 1, 147, 154, 0, 5, 2, 172, 42, 180, 3, 1, 17, 0, 200, 160, 0, 8]
abbrev dktX2_result_1 : List UInt8 := dkwX2_result_1 ++ dktX2_result_2
def dkwX2_result_0 : List UInt8 := [42, 3, 181, 0, 1, 42, 180, 3, 7, 153, 0, 27, 42, 180, 3, 7, 4, 159, 0, 19, 27, 133, 9, 42]
abbrev dktX2_result_0 : List UInt8 := dkwX2_result_0 ++ dktX2_result_1
theorem dksX2_result_0 : cX2_result.data.toList.drop 0 = dktX2_result_0 := by decide +kernel
theorem dksX2_result_1 : cX2_result.data.toList.drop 24 = dktX2_result_1 := dk_seg dksX2_result_0 24 rfl rfl
theorem dksX2_result_2 : cX2_result.data.toList.drop 48 = dktX2_result_2 := dk_seg dksX2_result_1 24 rfl rfl
theorem dX2_result_0 : decode cX2_result 0 = .ok (.aload_n 0, 1) := dk_42 (dk_at dksX2_result_0 0 rfl rfl)
theorem dX2_result_1 : decode cX2_result 1 = .ok (.iconst 0, 1) := dk_3 (dk_at dksX2_result_0 1 rfl rfl)
theorem dX2_result_2 : decode cX2_result 2 = .ok (.putfield 1, 3) := dk_181 0 1 (dk_at dksX2_result_0 2 rfl rfl)
theorem dX2_result_5 : decode cX2_result 5 = .ok (.aload_n 0, 1) := dk_42 (dk_at dksX2_result_0 5 rfl rfl)
theorem dX2_result_6 : decode cX2_result 6 = .ok (.getfield 775, 3) := dk_180 3 7 (dk_at dksX2_result_0 6 rfl rfl)
theorem dX2_result_9 : decode cX2_result 9 = .ok (.ifCond .eq 27, 3) := dk_153 0 27 (dk_at dksX2_result_0 9 rfl rfl)
theorem dX2_result_12 : decode cX2_result 12 = .ok (.aload_n 0, 1) := dk_42 (dk_at dksX2_result_0 12 rfl rfl)
theorem dX2_result_13 : decode cX2_result 13 = .ok (.getfield 775, 3) := dk_180 3 7 (dk_at dksX2_result_0 13 rfl rfl)
theorem dX2_result_16 : decode cX2_result 16 = .ok (.iconst 1, 1) := dk_4 (dk_at dksX2_result_0 16 rfl rfl)
theorem dX2_result_17 : decode cX2_result 17 = .ok (.if_icmp .eq 19, 3) := dk_159 0 19 (dk_at dksX2_result_0 17 rfl rfl)
theorem dX2_result_20 : decode cX2_result 20 = .ok (.iload_n 1, 1) := dk_27 (dk_at dksX2_result_0 20 rfl rfl)
theorem dX2_result_21 : decode cX2_result 21 = .ok (.i2l, 1) := dk_133 (dk_at dksX2_result_0 21 rfl rfl)
theorem dX2_result_22 : decode cX2_result 22 = .ok (.lconst 0, 1) := dk_9 (dk_at dksX2_result_0 22 rfl rfl)
theorem dX2_result_23 : decode cX2_result 23 = .ok (.aload_n 0, 1) := dk_42 (dk_at dksX2_result_0 23 rfl rfl)
theorem dX2_result_24 : decode cX2_result 24 = .ok (.getfield 772, 3) := dk_180 3 4 (dk_at dksX2_result_1 0 rfl rfl)
theorem dX2_result_27 : decode cX2_result 27 = .ok (.iconst 1, 1) := dk_4 (dk_at dksX2_result_1 3 rfl rfl)
theorem dX2_result_28 : decode cX2_result 28 = .ok (.isub, 1) := dk_100 (dk_at dksX2_result_1 4 rfl rfl)
theorem dX2_result_29 : decode cX2_result 29 = .ok (.i2l, 1) := dk_133 (dk_at dksX2_result_1 5 rfl rfl)
theorem dX2_result_30 : decode cX2_result 30 = .ok (.invokestatic 403, 3) := dk_184 1 147 (dk_at dksX2_result_1 6 rfl rfl)
theorem dX2_result_33 : decode cX2_result 33 = .ok (.ifCond .ne 5, 3) := dk_154 0 5 (dk_at dksX2_result_1 9 rfl rfl)
theorem dX2_result_36 : decode cX2_result 36 = .ok (.iconst (-1), 1) := dk_2 (dk_at dksX2_result_1 12 rfl rfl)
theorem dX2_result_37 : decode cX2_result 37 = .ok (.ireturn, 1) := dk_172 (dk_at dksX2_result_1 13 rfl rfl)
theorem dX2_result_38 : decode cX2_result 38 = .ok (.aload_n 0, 1) := dk_42 (dk_at dksX2_result_1 14 rfl rfl)
theorem dX2_result_39 : decode cX2_result 39 = .ok (.getfield 769, 3) := dk_180 3 1 (dk_at dksX2_result_1 15 rfl rfl)
theorem dX2_result_42 : decode cX2_result 42 = .ok (.sipush 200, 3) := dk_17 0 200 (dk_at dksX2_result_1 18 rfl rfl)
theorem dX2_result_45 : decode cX2_result 45 = .ok (.if_icmp .ne 8, 3) := dk_160 0 8 (dk_at dksX2_result_1 21 rfl rfl)
theorem dX2_result_48 : decode cX2_result 48 = .ok (.bipush (-3), 2) := dk_16 253 (dk_at dksX2_result_2 0 rfl rfl)
theorem dX2_result_50 : decode cX2_result 50 = .ok (.goto 13, 3) := dk_167 0 13 (dk_at dksX2_result_2 2 rfl rfl)
theorem dX2_result_53 : decode cX2_result 53 = .ok (.aload_n 0, 1) := dk_42 (dk_at dksX2_result_2 5 rfl rfl)
theorem dX2_result_54 : decode cX2_result 54 = .ok (.aload_n 0, 1) := dk_42 (dk_at dksX2_result_2 6 rfl rfl)
theorem dX2_result_55 : decode cX2_result 55 = .ok (.getfield 305, 3) := dk_180 1 49 (dk_at dksX2_result_2 7 rfl rfl)
theorem dX2_result_58 : decode cX2_result 58 = .ok (.iload_n 1, 1) := dk_27 (dk_at dksX2_result_2 10 rfl rfl)
theorem dX2_result_59 : decode cX2_result 59 = .ok (.iaload, 1) := dk_46 (dk_at dksX2_result_2 11 rfl rfl)
theorem dX2_result_60 : decode cX2_result 60 = .ok (.invokevirtual 848, 3) := dk_182 3 80 (dk_at dksX2_result_2 12 rfl rfl)
theorem dX2_result_63 : decode cX2_result 63 = .ok (.ireturn, 1) := dk_172 (dk_at dksX2_result_2 15 rfl rfl)
abbrev cX2_way : ByteArray := prog_4_method_161_code
def yX2_way : MethodName := ⟨RX2, "way", "(II)I"⟩
def dkwX2_way_5 : List UInt8 := [180, 1, 64, 27, 4, 96, 46, 42, 180, 1, 64, 27, 46, 100, 172, 2, 172]
abbrev dktX2_way_5 : List UInt8 := dkwX2_way_5 ++ []
def dkwX2_way_4 : List UInt8 := [42, 180, 1, 58, 27, 46, 172, 42, 180, 1, 55, 27, 46, 172, 42, 180, 1, 61, 27, 46, 172, 42]
abbrev dktX2_way_4 : List UInt8 := dkwX2_way_4 ++ dktX2_way_5
def dkwX2_way_3 : List UInt8 := [170, 0, 0, 0, 66, 0, 0, 0, 0, 0, 0, 0, 3, 0, 0, 0, 29, 0, 0, 0, 36, 0, 0, 0, 43, 0, 0, 0, 50]
abbrev dktX2_way_3 : List UInt8 := dkwX2_way_3 ++ dktX2_way_4
def dkwX2_way_2 : List UInt8 := [154, 0, 12, 42, 180, 1, 55, 27, 46, 167, 0, 4, 2, 172, 28]
abbrev dktX2_way_2 : List UInt8 := dkwX2_way_2 ++ dktX2_way_3
def dkwX2_way_1 : List UInt8 := [42, 180, 3, 4, 4, 100, 133, 184, 1, 147, 154, 0, 5, 2, 172, 42, 180, 3, 7, 5, 160, 0, 18, 28]
abbrev dktX2_way_1 : List UInt8 := dkwX2_way_1 ++ dktX2_way_2
def dkwX2_way_0 : List UInt8 := [42, 3, 181, 0, 1, 42, 180, 3, 7, 5, 159, 0, 11, 42, 180, 3, 7, 6, 160, 0, 19, 27, 133, 9]
abbrev dktX2_way_0 : List UInt8 := dkwX2_way_0 ++ dktX2_way_1
theorem dksX2_way_0 : cX2_way.data.toList.drop 0 = dktX2_way_0 := by decide +kernel
theorem dksX2_way_1 : cX2_way.data.toList.drop 24 = dktX2_way_1 := dk_seg dksX2_way_0 24 rfl rfl
theorem dksX2_way_2 : cX2_way.data.toList.drop 48 = dktX2_way_2 := dk_seg dksX2_way_1 24 rfl rfl
theorem dksX2_way_3 : cX2_way.data.toList.drop 63 = dktX2_way_3 := dk_seg dksX2_way_2 15 rfl rfl
theorem dksX2_way_4 : cX2_way.data.toList.drop 92 = dktX2_way_4 := dk_seg dksX2_way_3 29 rfl rfl
theorem dksX2_way_5 : cX2_way.data.toList.drop 114 = dktX2_way_5 := dk_seg dksX2_way_4 22 rfl rfl
theorem dX2_way_0 : decode cX2_way 0 = .ok (.aload_n 0, 1) := dk_42 (dk_at dksX2_way_0 0 rfl rfl)
theorem dX2_way_1 : decode cX2_way 1 = .ok (.iconst 0, 1) := dk_3 (dk_at dksX2_way_0 1 rfl rfl)
theorem dX2_way_2 : decode cX2_way 2 = .ok (.putfield 1, 3) := dk_181 0 1 (dk_at dksX2_way_0 2 rfl rfl)
theorem dX2_way_5 : decode cX2_way 5 = .ok (.aload_n 0, 1) := dk_42 (dk_at dksX2_way_0 5 rfl rfl)
theorem dX2_way_6 : decode cX2_way 6 = .ok (.getfield 775, 3) := dk_180 3 7 (dk_at dksX2_way_0 6 rfl rfl)
theorem dX2_way_9 : decode cX2_way 9 = .ok (.iconst 2, 1) := dk_5 (dk_at dksX2_way_0 9 rfl rfl)
theorem dX2_way_10 : decode cX2_way 10 = .ok (.if_icmp .eq 11, 3) := dk_159 0 11 (dk_at dksX2_way_0 10 rfl rfl)
theorem dX2_way_13 : decode cX2_way 13 = .ok (.aload_n 0, 1) := dk_42 (dk_at dksX2_way_0 13 rfl rfl)
theorem dX2_way_14 : decode cX2_way 14 = .ok (.getfield 775, 3) := dk_180 3 7 (dk_at dksX2_way_0 14 rfl rfl)
theorem dX2_way_17 : decode cX2_way 17 = .ok (.iconst 3, 1) := dk_6 (dk_at dksX2_way_0 17 rfl rfl)
theorem dX2_way_18 : decode cX2_way 18 = .ok (.if_icmp .ne 19, 3) := dk_160 0 19 (dk_at dksX2_way_0 18 rfl rfl)
theorem dX2_way_21 : decode cX2_way 21 = .ok (.iload_n 1, 1) := dk_27 (dk_at dksX2_way_0 21 rfl rfl)
theorem dX2_way_22 : decode cX2_way 22 = .ok (.i2l, 1) := dk_133 (dk_at dksX2_way_0 22 rfl rfl)
theorem dX2_way_23 : decode cX2_way 23 = .ok (.lconst 0, 1) := dk_9 (dk_at dksX2_way_0 23 rfl rfl)
theorem dX2_way_24 : decode cX2_way 24 = .ok (.aload_n 0, 1) := dk_42 (dk_at dksX2_way_1 0 rfl rfl)
theorem dX2_way_25 : decode cX2_way 25 = .ok (.getfield 772, 3) := dk_180 3 4 (dk_at dksX2_way_1 1 rfl rfl)
theorem dX2_way_28 : decode cX2_way 28 = .ok (.iconst 1, 1) := dk_4 (dk_at dksX2_way_1 4 rfl rfl)
theorem dX2_way_29 : decode cX2_way 29 = .ok (.isub, 1) := dk_100 (dk_at dksX2_way_1 5 rfl rfl)
theorem dX2_way_30 : decode cX2_way 30 = .ok (.i2l, 1) := dk_133 (dk_at dksX2_way_1 6 rfl rfl)
theorem dX2_way_31 : decode cX2_way 31 = .ok (.invokestatic 403, 3) := dk_184 1 147 (dk_at dksX2_way_1 7 rfl rfl)
theorem dX2_way_34 : decode cX2_way 34 = .ok (.ifCond .ne 5, 3) := dk_154 0 5 (dk_at dksX2_way_1 10 rfl rfl)
theorem dX2_way_37 : decode cX2_way 37 = .ok (.iconst (-1), 1) := dk_2 (dk_at dksX2_way_1 13 rfl rfl)
theorem dX2_way_38 : decode cX2_way 38 = .ok (.ireturn, 1) := dk_172 (dk_at dksX2_way_1 14 rfl rfl)
theorem dX2_way_39 : decode cX2_way 39 = .ok (.aload_n 0, 1) := dk_42 (dk_at dksX2_way_1 15 rfl rfl)
theorem dX2_way_40 : decode cX2_way 40 = .ok (.getfield 775, 3) := dk_180 3 7 (dk_at dksX2_way_1 16 rfl rfl)
theorem dX2_way_43 : decode cX2_way 43 = .ok (.iconst 2, 1) := dk_5 (dk_at dksX2_way_1 19 rfl rfl)
theorem dX2_way_44 : decode cX2_way 44 = .ok (.if_icmp .ne 18, 3) := dk_160 0 18 (dk_at dksX2_way_1 20 rfl rfl)
theorem dX2_way_47 : decode cX2_way 47 = .ok (.iload_n 2, 1) := dk_28 (dk_at dksX2_way_1 23 rfl rfl)
theorem dX2_way_48 : decode cX2_way 48 = .ok (.ifCond .ne 12, 3) := dk_154 0 12 (dk_at dksX2_way_2 0 rfl rfl)
theorem dX2_way_51 : decode cX2_way 51 = .ok (.aload_n 0, 1) := dk_42 (dk_at dksX2_way_2 3 rfl rfl)
theorem dX2_way_52 : decode cX2_way 52 = .ok (.getfield 311, 3) := dk_180 1 55 (dk_at dksX2_way_2 4 rfl rfl)
theorem dX2_way_55 : decode cX2_way 55 = .ok (.iload_n 1, 1) := dk_27 (dk_at dksX2_way_2 7 rfl rfl)
theorem dX2_way_56 : decode cX2_way 56 = .ok (.iaload, 1) := dk_46 (dk_at dksX2_way_2 8 rfl rfl)
theorem dX2_way_57 : decode cX2_way 57 = .ok (.goto 4, 3) := dk_167 0 4 (dk_at dksX2_way_2 9 rfl rfl)
theorem dX2_way_60 : decode cX2_way 60 = .ok (.iconst (-1), 1) := dk_2 (dk_at dksX2_way_2 12 rfl rfl)
theorem dX2_way_61 : decode cX2_way 61 = .ok (.ireturn, 1) := dk_172 (dk_at dksX2_way_2 13 rfl rfl)
theorem dX2_way_62 : decode cX2_way 62 = .ok (.iload_n 2, 1) := dk_28 (dk_at dksX2_way_2 14 rfl rfl)
theorem dX2_way_63 : decode cX2_way 63 = .ok (.tableswitch 66 0 3 #[29, 36, 43, 50], 29) := by decide +kernel
theorem dX2_way_92 : decode cX2_way 92 = .ok (.aload_n 0, 1) := dk_42 (dk_at dksX2_way_4 0 rfl rfl)
theorem dX2_way_93 : decode cX2_way 93 = .ok (.getfield 314, 3) := dk_180 1 58 (dk_at dksX2_way_4 1 rfl rfl)
theorem dX2_way_96 : decode cX2_way 96 = .ok (.iload_n 1, 1) := dk_27 (dk_at dksX2_way_4 4 rfl rfl)
theorem dX2_way_97 : decode cX2_way 97 = .ok (.iaload, 1) := dk_46 (dk_at dksX2_way_4 5 rfl rfl)
theorem dX2_way_98 : decode cX2_way 98 = .ok (.ireturn, 1) := dk_172 (dk_at dksX2_way_4 6 rfl rfl)
theorem dX2_way_99 : decode cX2_way 99 = .ok (.aload_n 0, 1) := dk_42 (dk_at dksX2_way_4 7 rfl rfl)
theorem dX2_way_100 : decode cX2_way 100 = .ok (.getfield 311, 3) := dk_180 1 55 (dk_at dksX2_way_4 8 rfl rfl)
theorem dX2_way_103 : decode cX2_way 103 = .ok (.iload_n 1, 1) := dk_27 (dk_at dksX2_way_4 11 rfl rfl)
theorem dX2_way_104 : decode cX2_way 104 = .ok (.iaload, 1) := dk_46 (dk_at dksX2_way_4 12 rfl rfl)
theorem dX2_way_105 : decode cX2_way 105 = .ok (.ireturn, 1) := dk_172 (dk_at dksX2_way_4 13 rfl rfl)
theorem dX2_way_106 : decode cX2_way 106 = .ok (.aload_n 0, 1) := dk_42 (dk_at dksX2_way_4 14 rfl rfl)
theorem dX2_way_107 : decode cX2_way 107 = .ok (.getfield 317, 3) := dk_180 1 61 (dk_at dksX2_way_4 15 rfl rfl)
theorem dX2_way_110 : decode cX2_way 110 = .ok (.iload_n 1, 1) := dk_27 (dk_at dksX2_way_4 18 rfl rfl)
theorem dX2_way_111 : decode cX2_way 111 = .ok (.iaload, 1) := dk_46 (dk_at dksX2_way_4 19 rfl rfl)
theorem dX2_way_112 : decode cX2_way 112 = .ok (.ireturn, 1) := dk_172 (dk_at dksX2_way_4 20 rfl rfl)
theorem dX2_way_113 : decode cX2_way 113 = .ok (.aload_n 0, 1) := dk_42 (dk_at dksX2_way_4 21 rfl rfl)
theorem dX2_way_114 : decode cX2_way 114 = .ok (.getfield 320, 3) := dk_180 1 64 (dk_at dksX2_way_5 0 rfl rfl)
theorem dX2_way_117 : decode cX2_way 117 = .ok (.iload_n 1, 1) := dk_27 (dk_at dksX2_way_5 3 rfl rfl)
theorem dX2_way_118 : decode cX2_way 118 = .ok (.iconst 1, 1) := dk_4 (dk_at dksX2_way_5 4 rfl rfl)
theorem dX2_way_119 : decode cX2_way 119 = .ok (.iadd, 1) := dk_96 (dk_at dksX2_way_5 5 rfl rfl)
theorem dX2_way_120 : decode cX2_way 120 = .ok (.iaload, 1) := dk_46 (dk_at dksX2_way_5 6 rfl rfl)
theorem dX2_way_121 : decode cX2_way 121 = .ok (.aload_n 0, 1) := dk_42 (dk_at dksX2_way_5 7 rfl rfl)
theorem dX2_way_122 : decode cX2_way 122 = .ok (.getfield 320, 3) := dk_180 1 64 (dk_at dksX2_way_5 8 rfl rfl)
theorem dX2_way_125 : decode cX2_way 125 = .ok (.iload_n 1, 1) := dk_27 (dk_at dksX2_way_5 11 rfl rfl)
theorem dX2_way_126 : decode cX2_way 126 = .ok (.iaload, 1) := dk_46 (dk_at dksX2_way_5 12 rfl rfl)
theorem dX2_way_127 : decode cX2_way 127 = .ok (.isub, 1) := dk_100 (dk_at dksX2_way_5 13 rfl rfl)
theorem dX2_way_128 : decode cX2_way 128 = .ok (.ireturn, 1) := dk_172 (dk_at dksX2_way_5 14 rfl rfl)
theorem dX2_way_129 : decode cX2_way 129 = .ok (.iconst (-1), 1) := dk_2 (dk_at dksX2_way_5 15 rfl rfl)
theorem dX2_way_130 : decode cX2_way 130 = .ok (.ireturn, 1) := dk_172 (dk_at dksX2_way_5 16 rfl rfl)
abbrev cX2_states : ByteArray := prog_4_method_162_code
def yX2_states : MethodName := ⟨RX2, "states", "(I)I"⟩
def dkwX2_states_16 : List UInt8 := [42, 6, 181, 3, 7, 28, 172, 77, 42, 42, 180, 3, 202, 181, 3, 13, 42, 182, 4, 49, 172]
abbrev dktX2_states_16 : List UInt8 := dkwX2_states_16 ++ []
def dkwX2_states_15 : List UInt8 := [180, 1, 67, 21, 4, 42, 180, 1, 88, 21, 4, 46, 79, 132, 4, 1, 167, 255, 233, 42, 28, 181, 3, 4]
abbrev dktX2_states_15 : List UInt8 := dkwX2_states_15 ++ dktX2_states_16
def dkwX2_states_14 : List UInt8 := [132, 4, 1, 167, 255, 177, 42, 180, 1, 64, 28, 29, 79, 3, 54, 4, 21, 4, 29, 162, 0, 23, 42]
abbrev dktX2_states_14 : List UInt8 := dkwX2_states_14 ++ dktX2_states_15
def dkwX2_states_13 : List UInt8 := [42, 180, 1, 82, 21, 4, 46, 79, 42, 180, 1, 64, 21, 4, 42, 180, 1, 85, 21, 4, 46, 79]
abbrev dktX2_states_13 : List UInt8 := dkwX2_states_13 ++ dktX2_states_14
def dkwX2_states_12 : List UInt8 := [21, 4, 46, 79, 42, 180, 1, 58, 21, 4, 42, 180, 1, 79, 21, 4, 46, 79, 42, 180, 1, 61, 21, 4]
abbrev dktX2_states_12 : List UInt8 := dkwX2_states_12 ++ dktX2_states_13
def dkwX2_states_11 : List UInt8 := [180, 1, 49, 21, 4, 42, 180, 1, 73, 21, 4, 46, 79, 42, 180, 1, 55, 21, 4, 42, 180, 1, 76]
abbrev dktX2_states_11 : List UInt8 := dkwX2_states_11 ++ dktX2_states_12
def dkwX2_states_10 : List UInt8 := [180, 1, 85, 28, 29, 79, 42, 42, 180, 3, 202, 181, 3, 13, 3, 54, 4, 21, 4, 28, 162, 0, 79, 42]
abbrev dktX2_states_10 : List UInt8 := dkwX2_states_10 ++ dktX2_states_11
def dkwX2_states_9 : List UInt8 := [180, 1, 88, 29, 21, 7, 79, 132, 3, 1, 132, 6, 1, 167, 255, 133, 132, 4, 1, 167, 255, 90, 42]
abbrev dktX2_states_9 : List UInt8 := dkwX2_states_9 ++ dktX2_states_10
def dkwX2_states_8 : List UInt8 := [28, 21, 4, 79, 42, 180, 1, 82, 28, 42, 180, 1, 82, 21, 4, 46, 4, 96, 79, 132, 2, 1, 42]
abbrev dktX2_states_8 : List UInt8 := dkwX2_states_8 ++ dktX2_states_9
def dkwX2_states_7 : List UInt8 := [180, 1, 37, 21, 6, 46, 79, 42, 180, 1, 76, 28, 42, 180, 1, 40, 21, 6, 46, 79, 42, 180, 1, 79]
abbrev dktX2_states_7 : List UInt8 := dkwX2_states_7 ++ dktX2_states_8
def dkwX2_states_6 : List UInt8 := [21, 7, 28, 160, 0, 67, 28, 16, 120, 160, 0, 9, 42, 5, 3, 182, 1, 178, 42, 180, 1, 73, 28, 42]
abbrev dktX2_states_6 : List UInt8 := dkwX2_states_6 ++ dktX2_states_7
def dkwX2_states_5 : List UInt8 := [42, 180, 1, 73, 21, 7, 46, 42, 180, 1, 37, 21, 6, 46, 159, 0, 9, 132, 7, 1, 167, 255, 230]
abbrev dktX2_states_5 : List UInt8 := dkwX2_states_5 ++ dktX2_states_6
def dkwX2_states_4 : List UInt8 := [182, 4, 56, 54, 5, 3, 54, 6, 21, 6, 21, 5, 162, 0, 122, 3, 54, 7, 21, 7, 28, 162, 0, 26]
abbrev dktX2_states_4 : List UInt8 := dkwX2_states_4 ++ dktX2_states_5
def dkwX2_states_3 : List UInt8 := [42, 180, 1, 85, 21, 4, 29, 79, 42, 3, 181, 3, 248, 42, 42, 180, 1, 73, 21, 4, 46, 16, 254]
abbrev dktX2_states_3 : List UInt8 := dkwX2_states_3 ++ dktX2_states_4
def dkwX2_states_2 : List UInt8 := [42, 180, 1, 79, 3, 16, 254, 79, 42, 180, 1, 82, 3, 3, 79, 3, 54, 4, 21, 4, 28, 162, 0, 166]
abbrev dktX2_states_2 : List UInt8 := dkwX2_states_2 ++ dktX2_states_3
def dkwX2_states_1 : List UInt8 := [180, 1, 73, 3, 42, 42, 180, 0, 250, 27, 46, 3, 184, 3, 220, 79, 42, 180, 1, 76, 3, 16, 254, 79]
abbrev dktX2_states_1 : List UInt8 := dkwX2_states_1 ++ dktX2_states_2
def dkwX2_states_0 : List UInt8 := [42, 3, 181, 0, 1, 42, 27, 182, 3, 83, 153, 0, 5, 2, 172, 42, 182, 4, 43, 4, 61, 3, 62, 42]
abbrev dktX2_states_0 : List UInt8 := dkwX2_states_0 ++ dktX2_states_1
theorem dksX2_states_0 : cX2_states.data.toList.drop 0 = dktX2_states_0 := by decide +kernel
theorem dksX2_states_1 : cX2_states.data.toList.drop 24 = dktX2_states_1 := dk_seg dksX2_states_0 24 rfl rfl
theorem dksX2_states_2 : cX2_states.data.toList.drop 48 = dktX2_states_2 := dk_seg dksX2_states_1 24 rfl rfl
theorem dksX2_states_3 : cX2_states.data.toList.drop 72 = dktX2_states_3 := dk_seg dksX2_states_2 24 rfl rfl
theorem dksX2_states_4 : cX2_states.data.toList.drop 95 = dktX2_states_4 := dk_seg dksX2_states_3 23 rfl rfl
theorem dksX2_states_5 : cX2_states.data.toList.drop 119 = dktX2_states_5 := dk_seg dksX2_states_4 24 rfl rfl
theorem dksX2_states_6 : cX2_states.data.toList.drop 142 = dktX2_states_6 := dk_seg dksX2_states_5 23 rfl rfl
theorem dksX2_states_7 : cX2_states.data.toList.drop 166 = dktX2_states_7 := dk_seg dksX2_states_6 24 rfl rfl
theorem dksX2_states_8 : cX2_states.data.toList.drop 190 = dktX2_states_8 := dk_seg dksX2_states_7 24 rfl rfl
theorem dksX2_states_9 : cX2_states.data.toList.drop 213 = dktX2_states_9 := dk_seg dksX2_states_8 23 rfl rfl
theorem dksX2_states_10 : cX2_states.data.toList.drop 236 = dktX2_states_10 := dk_seg dksX2_states_9 23 rfl rfl
theorem dksX2_states_11 : cX2_states.data.toList.drop 260 = dktX2_states_11 := dk_seg dksX2_states_10 24 rfl rfl
theorem dksX2_states_12 : cX2_states.data.toList.drop 283 = dktX2_states_12 := dk_seg dksX2_states_11 23 rfl rfl
theorem dksX2_states_13 : cX2_states.data.toList.drop 307 = dktX2_states_13 := dk_seg dksX2_states_12 24 rfl rfl
theorem dksX2_states_14 : cX2_states.data.toList.drop 329 = dktX2_states_14 := dk_seg dksX2_states_13 22 rfl rfl
theorem dksX2_states_15 : cX2_states.data.toList.drop 352 = dktX2_states_15 := dk_seg dksX2_states_14 23 rfl rfl
theorem dksX2_states_16 : cX2_states.data.toList.drop 376 = dktX2_states_16 := dk_seg dksX2_states_15 24 rfl rfl
theorem dX2_states_0 : decode cX2_states 0 = .ok (.aload_n 0, 1) := dk_42 (dk_at dksX2_states_0 0 rfl rfl)
theorem dX2_states_1 : decode cX2_states 1 = .ok (.iconst 0, 1) := dk_3 (dk_at dksX2_states_0 1 rfl rfl)
theorem dX2_states_2 : decode cX2_states 2 = .ok (.putfield 1, 3) := dk_181 0 1 (dk_at dksX2_states_0 2 rfl rfl)
theorem dX2_states_5 : decode cX2_states 5 = .ok (.aload_n 0, 1) := dk_42 (dk_at dksX2_states_0 5 rfl rfl)
theorem dX2_states_6 : decode cX2_states 6 = .ok (.iload_n 1, 1) := dk_27 (dk_at dksX2_states_0 6 rfl rfl)
theorem dX2_states_7 : decode cX2_states 7 = .ok (.invokevirtual 851, 3) := dk_182 3 83 (dk_at dksX2_states_0 7 rfl rfl)
theorem dX2_states_10 : decode cX2_states 10 = .ok (.ifCond .eq 5, 3) := dk_153 0 5 (dk_at dksX2_states_0 10 rfl rfl)
theorem dX2_states_13 : decode cX2_states 13 = .ok (.iconst (-1), 1) := dk_2 (dk_at dksX2_states_0 13 rfl rfl)
theorem dX2_states_14 : decode cX2_states 14 = .ok (.ireturn, 1) := dk_172 (dk_at dksX2_states_0 14 rfl rfl)
theorem dX2_states_15 : decode cX2_states 15 = .ok (.aload_n 0, 1) := dk_42 (dk_at dksX2_states_0 15 rfl rfl)
theorem dX2_states_16 : decode cX2_states 16 = .ok (.invokevirtual 1067, 3) := dk_182 4 43 (dk_at dksX2_states_0 16 rfl rfl)
theorem dX2_states_19 : decode cX2_states 19 = .ok (.iconst 1, 1) := dk_4 (dk_at dksX2_states_0 19 rfl rfl)
theorem dX2_states_20 : decode cX2_states 20 = .ok (.istore_n 2, 1) := dk_61 (dk_at dksX2_states_0 20 rfl rfl)
theorem dX2_states_21 : decode cX2_states 21 = .ok (.iconst 0, 1) := dk_3 (dk_at dksX2_states_0 21 rfl rfl)
theorem dX2_states_22 : decode cX2_states 22 = .ok (.istore_n 3, 1) := dk_62 (dk_at dksX2_states_0 22 rfl rfl)
theorem dX2_states_23 : decode cX2_states 23 = .ok (.aload_n 0, 1) := dk_42 (dk_at dksX2_states_0 23 rfl rfl)
theorem dX2_states_24 : decode cX2_states 24 = .ok (.getfield 329, 3) := dk_180 1 73 (dk_at dksX2_states_1 0 rfl rfl)
theorem dX2_states_27 : decode cX2_states 27 = .ok (.iconst 0, 1) := dk_3 (dk_at dksX2_states_1 3 rfl rfl)
theorem dX2_states_28 : decode cX2_states 28 = .ok (.aload_n 0, 1) := dk_42 (dk_at dksX2_states_1 4 rfl rfl)
theorem dX2_states_29 : decode cX2_states 29 = .ok (.aload_n 0, 1) := dk_42 (dk_at dksX2_states_1 5 rfl rfl)
theorem dX2_states_30 : decode cX2_states 30 = .ok (.getfield 250, 3) := dk_180 0 250 (dk_at dksX2_states_1 6 rfl rfl)
theorem dX2_states_33 : decode cX2_states 33 = .ok (.iload_n 1, 1) := dk_27 (dk_at dksX2_states_1 9 rfl rfl)
theorem dX2_states_34 : decode cX2_states 34 = .ok (.iaload, 1) := dk_46 (dk_at dksX2_states_1 10 rfl rfl)
theorem dX2_states_35 : decode cX2_states 35 = .ok (.iconst 0, 1) := dk_3 (dk_at dksX2_states_1 11 rfl rfl)
theorem dX2_states_36 : decode cX2_states 36 = .ok (.invokestatic 988, 3) := dk_184 3 220 (dk_at dksX2_states_1 12 rfl rfl)
theorem dX2_states_39 : decode cX2_states 39 = .ok (.iastore, 1) := dk_79 (dk_at dksX2_states_1 15 rfl rfl)
theorem dX2_states_40 : decode cX2_states 40 = .ok (.aload_n 0, 1) := dk_42 (dk_at dksX2_states_1 16 rfl rfl)
theorem dX2_states_41 : decode cX2_states 41 = .ok (.getfield 332, 3) := dk_180 1 76 (dk_at dksX2_states_1 17 rfl rfl)
theorem dX2_states_44 : decode cX2_states 44 = .ok (.iconst 0, 1) := dk_3 (dk_at dksX2_states_1 20 rfl rfl)
theorem dX2_states_45 : decode cX2_states 45 = .ok (.bipush (-2), 2) := dk_16 254 (dk_at dksX2_states_1 21 rfl rfl)
theorem dX2_states_47 : decode cX2_states 47 = .ok (.iastore, 1) := dk_79 (dk_at dksX2_states_1 23 rfl rfl)
theorem dX2_states_48 : decode cX2_states 48 = .ok (.aload_n 0, 1) := dk_42 (dk_at dksX2_states_2 0 rfl rfl)
theorem dX2_states_49 : decode cX2_states 49 = .ok (.getfield 335, 3) := dk_180 1 79 (dk_at dksX2_states_2 1 rfl rfl)
theorem dX2_states_52 : decode cX2_states 52 = .ok (.iconst 0, 1) := dk_3 (dk_at dksX2_states_2 4 rfl rfl)
theorem dX2_states_53 : decode cX2_states 53 = .ok (.bipush (-2), 2) := dk_16 254 (dk_at dksX2_states_2 5 rfl rfl)
theorem dX2_states_55 : decode cX2_states 55 = .ok (.iastore, 1) := dk_79 (dk_at dksX2_states_2 7 rfl rfl)
theorem dX2_states_56 : decode cX2_states 56 = .ok (.aload_n 0, 1) := dk_42 (dk_at dksX2_states_2 8 rfl rfl)
theorem dX2_states_57 : decode cX2_states 57 = .ok (.getfield 338, 3) := dk_180 1 82 (dk_at dksX2_states_2 9 rfl rfl)
theorem dX2_states_60 : decode cX2_states 60 = .ok (.iconst 0, 1) := dk_3 (dk_at dksX2_states_2 12 rfl rfl)
theorem dX2_states_61 : decode cX2_states 61 = .ok (.iconst 0, 1) := dk_3 (dk_at dksX2_states_2 13 rfl rfl)
theorem dX2_states_62 : decode cX2_states 62 = .ok (.iastore, 1) := dk_79 (dk_at dksX2_states_2 14 rfl rfl)
theorem dX2_states_63 : decode cX2_states 63 = .ok (.iconst 0, 1) := dk_3 (dk_at dksX2_states_2 15 rfl rfl)
theorem dX2_states_64 : decode cX2_states 64 = .ok (.istore 4, 2) := dk_54 4 (dk_at dksX2_states_2 16 rfl rfl)
theorem dX2_states_66 : decode cX2_states 66 = .ok (.iload 4, 2) := dk_21 4 (dk_at dksX2_states_2 18 rfl rfl)
theorem dX2_states_68 : decode cX2_states 68 = .ok (.iload_n 2, 1) := dk_28 (dk_at dksX2_states_2 20 rfl rfl)
theorem dX2_states_69 : decode cX2_states 69 = .ok (.if_icmp .ge 166, 3) := dk_162 0 166 (dk_at dksX2_states_2 21 rfl rfl)
theorem dX2_states_72 : decode cX2_states 72 = .ok (.aload_n 0, 1) := dk_42 (dk_at dksX2_states_3 0 rfl rfl)
theorem dX2_states_73 : decode cX2_states 73 = .ok (.getfield 341, 3) := dk_180 1 85 (dk_at dksX2_states_3 1 rfl rfl)
theorem dX2_states_76 : decode cX2_states 76 = .ok (.iload 4, 2) := dk_21 4 (dk_at dksX2_states_3 4 rfl rfl)
theorem dX2_states_78 : decode cX2_states 78 = .ok (.iload_n 3, 1) := dk_29 (dk_at dksX2_states_3 6 rfl rfl)
theorem dX2_states_79 : decode cX2_states 79 = .ok (.iastore, 1) := dk_79 (dk_at dksX2_states_3 7 rfl rfl)
theorem dX2_states_80 : decode cX2_states 80 = .ok (.aload_n 0, 1) := dk_42 (dk_at dksX2_states_3 8 rfl rfl)
theorem dX2_states_81 : decode cX2_states 81 = .ok (.iconst 0, 1) := dk_3 (dk_at dksX2_states_3 9 rfl rfl)
theorem dX2_states_82 : decode cX2_states 82 = .ok (.putfield 1016, 3) := dk_181 3 248 (dk_at dksX2_states_3 10 rfl rfl)
theorem dX2_states_85 : decode cX2_states 85 = .ok (.aload_n 0, 1) := dk_42 (dk_at dksX2_states_3 13 rfl rfl)
theorem dX2_states_86 : decode cX2_states 86 = .ok (.aload_n 0, 1) := dk_42 (dk_at dksX2_states_3 14 rfl rfl)
theorem dX2_states_87 : decode cX2_states 87 = .ok (.getfield 329, 3) := dk_180 1 73 (dk_at dksX2_states_3 15 rfl rfl)
theorem dX2_states_90 : decode cX2_states 90 = .ok (.iload 4, 2) := dk_21 4 (dk_at dksX2_states_3 18 rfl rfl)
theorem dX2_states_92 : decode cX2_states 92 = .ok (.iaload, 1) := dk_46 (dk_at dksX2_states_3 20 rfl rfl)
theorem dX2_states_93 : decode cX2_states 93 = .ok (.bipush (-2), 2) := dk_16 254 (dk_at dksX2_states_3 21 rfl rfl)
theorem dX2_states_95 : decode cX2_states 95 = .ok (.invokevirtual 1080, 3) := dk_182 4 56 (dk_at dksX2_states_4 0 rfl rfl)
theorem dX2_states_98 : decode cX2_states 98 = .ok (.istore 5, 2) := dk_54 5 (dk_at dksX2_states_4 3 rfl rfl)
theorem dX2_states_100 : decode cX2_states 100 = .ok (.iconst 0, 1) := dk_3 (dk_at dksX2_states_4 5 rfl rfl)
theorem dX2_states_101 : decode cX2_states 101 = .ok (.istore 6, 2) := dk_54 6 (dk_at dksX2_states_4 6 rfl rfl)
theorem dX2_states_103 : decode cX2_states 103 = .ok (.iload 6, 2) := dk_21 6 (dk_at dksX2_states_4 8 rfl rfl)
theorem dX2_states_105 : decode cX2_states 105 = .ok (.iload 5, 2) := dk_21 5 (dk_at dksX2_states_4 10 rfl rfl)
theorem dX2_states_107 : decode cX2_states 107 = .ok (.if_icmp .ge 122, 3) := dk_162 0 122 (dk_at dksX2_states_4 12 rfl rfl)
theorem dX2_states_110 : decode cX2_states 110 = .ok (.iconst 0, 1) := dk_3 (dk_at dksX2_states_4 15 rfl rfl)
theorem dX2_states_111 : decode cX2_states 111 = .ok (.istore 7, 2) := dk_54 7 (dk_at dksX2_states_4 16 rfl rfl)
theorem dX2_states_113 : decode cX2_states 113 = .ok (.iload 7, 2) := dk_21 7 (dk_at dksX2_states_4 18 rfl rfl)
theorem dX2_states_115 : decode cX2_states 115 = .ok (.iload_n 2, 1) := dk_28 (dk_at dksX2_states_4 20 rfl rfl)
theorem dX2_states_116 : decode cX2_states 116 = .ok (.if_icmp .ge 26, 3) := dk_162 0 26 (dk_at dksX2_states_4 21 rfl rfl)
theorem dX2_states_119 : decode cX2_states 119 = .ok (.aload_n 0, 1) := dk_42 (dk_at dksX2_states_5 0 rfl rfl)
theorem dX2_states_120 : decode cX2_states 120 = .ok (.getfield 329, 3) := dk_180 1 73 (dk_at dksX2_states_5 1 rfl rfl)
theorem dX2_states_123 : decode cX2_states 123 = .ok (.iload 7, 2) := dk_21 7 (dk_at dksX2_states_5 4 rfl rfl)
theorem dX2_states_125 : decode cX2_states 125 = .ok (.iaload, 1) := dk_46 (dk_at dksX2_states_5 6 rfl rfl)
theorem dX2_states_126 : decode cX2_states 126 = .ok (.aload_n 0, 1) := dk_42 (dk_at dksX2_states_5 7 rfl rfl)
theorem dX2_states_127 : decode cX2_states 127 = .ok (.getfield 293, 3) := dk_180 1 37 (dk_at dksX2_states_5 8 rfl rfl)
theorem dX2_states_130 : decode cX2_states 130 = .ok (.iload 6, 2) := dk_21 6 (dk_at dksX2_states_5 11 rfl rfl)
theorem dX2_states_132 : decode cX2_states 132 = .ok (.iaload, 1) := dk_46 (dk_at dksX2_states_5 13 rfl rfl)
theorem dX2_states_133 : decode cX2_states 133 = .ok (.if_icmp .eq 9, 3) := dk_159 0 9 (dk_at dksX2_states_5 14 rfl rfl)
theorem dX2_states_136 : decode cX2_states 136 = .ok (.iinc 7 1, 3) := dk_132 7 1 (dk_at dksX2_states_5 17 rfl rfl)
theorem dX2_states_139 : decode cX2_states 139 = .ok (.goto (-26), 3) := dk_167 255 230 (dk_at dksX2_states_5 20 rfl rfl)
theorem dX2_states_142 : decode cX2_states 142 = .ok (.iload 7, 2) := dk_21 7 (dk_at dksX2_states_6 0 rfl rfl)
theorem dX2_states_144 : decode cX2_states 144 = .ok (.iload_n 2, 1) := dk_28 (dk_at dksX2_states_6 2 rfl rfl)
theorem dX2_states_145 : decode cX2_states 145 = .ok (.if_icmp .ne 67, 3) := dk_160 0 67 (dk_at dksX2_states_6 3 rfl rfl)
theorem dX2_states_148 : decode cX2_states 148 = .ok (.iload_n 2, 1) := dk_28 (dk_at dksX2_states_6 6 rfl rfl)
theorem dX2_states_149 : decode cX2_states 149 = .ok (.bipush 120, 2) := dk_16 120 (dk_at dksX2_states_6 7 rfl rfl)
theorem dX2_states_151 : decode cX2_states 151 = .ok (.if_icmp .ne 9, 3) := dk_160 0 9 (dk_at dksX2_states_6 9 rfl rfl)
theorem dX2_states_154 : decode cX2_states 154 = .ok (.aload_n 0, 1) := dk_42 (dk_at dksX2_states_6 12 rfl rfl)
theorem dX2_states_155 : decode cX2_states 155 = .ok (.iconst 2, 1) := dk_5 (dk_at dksX2_states_6 13 rfl rfl)
theorem dX2_states_156 : decode cX2_states 156 = .ok (.iconst 0, 1) := dk_3 (dk_at dksX2_states_6 14 rfl rfl)
theorem dX2_states_157 : decode cX2_states 157 = .ok (.invokevirtual 434, 3) := dk_182 1 178 (dk_at dksX2_states_6 15 rfl rfl)
theorem dX2_states_160 : decode cX2_states 160 = .ok (.aload_n 0, 1) := dk_42 (dk_at dksX2_states_6 18 rfl rfl)
theorem dX2_states_161 : decode cX2_states 161 = .ok (.getfield 329, 3) := dk_180 1 73 (dk_at dksX2_states_6 19 rfl rfl)
theorem dX2_states_164 : decode cX2_states 164 = .ok (.iload_n 2, 1) := dk_28 (dk_at dksX2_states_6 22 rfl rfl)
theorem dX2_states_165 : decode cX2_states 165 = .ok (.aload_n 0, 1) := dk_42 (dk_at dksX2_states_6 23 rfl rfl)
theorem dX2_states_166 : decode cX2_states 166 = .ok (.getfield 293, 3) := dk_180 1 37 (dk_at dksX2_states_7 0 rfl rfl)
theorem dX2_states_169 : decode cX2_states 169 = .ok (.iload 6, 2) := dk_21 6 (dk_at dksX2_states_7 3 rfl rfl)
theorem dX2_states_171 : decode cX2_states 171 = .ok (.iaload, 1) := dk_46 (dk_at dksX2_states_7 5 rfl rfl)
theorem dX2_states_172 : decode cX2_states 172 = .ok (.iastore, 1) := dk_79 (dk_at dksX2_states_7 6 rfl rfl)
theorem dX2_states_173 : decode cX2_states 173 = .ok (.aload_n 0, 1) := dk_42 (dk_at dksX2_states_7 7 rfl rfl)
theorem dX2_states_174 : decode cX2_states 174 = .ok (.getfield 332, 3) := dk_180 1 76 (dk_at dksX2_states_7 8 rfl rfl)
theorem dX2_states_177 : decode cX2_states 177 = .ok (.iload_n 2, 1) := dk_28 (dk_at dksX2_states_7 11 rfl rfl)
theorem dX2_states_178 : decode cX2_states 178 = .ok (.aload_n 0, 1) := dk_42 (dk_at dksX2_states_7 12 rfl rfl)
theorem dX2_states_179 : decode cX2_states 179 = .ok (.getfield 296, 3) := dk_180 1 40 (dk_at dksX2_states_7 13 rfl rfl)
theorem dX2_states_182 : decode cX2_states 182 = .ok (.iload 6, 2) := dk_21 6 (dk_at dksX2_states_7 16 rfl rfl)
theorem dX2_states_184 : decode cX2_states 184 = .ok (.iaload, 1) := dk_46 (dk_at dksX2_states_7 18 rfl rfl)
theorem dX2_states_185 : decode cX2_states 185 = .ok (.iastore, 1) := dk_79 (dk_at dksX2_states_7 19 rfl rfl)
theorem dX2_states_186 : decode cX2_states 186 = .ok (.aload_n 0, 1) := dk_42 (dk_at dksX2_states_7 20 rfl rfl)
theorem dX2_states_187 : decode cX2_states 187 = .ok (.getfield 335, 3) := dk_180 1 79 (dk_at dksX2_states_7 21 rfl rfl)
theorem dX2_states_190 : decode cX2_states 190 = .ok (.iload_n 2, 1) := dk_28 (dk_at dksX2_states_8 0 rfl rfl)
theorem dX2_states_191 : decode cX2_states 191 = .ok (.iload 4, 2) := dk_21 4 (dk_at dksX2_states_8 1 rfl rfl)
theorem dX2_states_193 : decode cX2_states 193 = .ok (.iastore, 1) := dk_79 (dk_at dksX2_states_8 3 rfl rfl)
theorem dX2_states_194 : decode cX2_states 194 = .ok (.aload_n 0, 1) := dk_42 (dk_at dksX2_states_8 4 rfl rfl)
theorem dX2_states_195 : decode cX2_states 195 = .ok (.getfield 338, 3) := dk_180 1 82 (dk_at dksX2_states_8 5 rfl rfl)
theorem dX2_states_198 : decode cX2_states 198 = .ok (.iload_n 2, 1) := dk_28 (dk_at dksX2_states_8 8 rfl rfl)
theorem dX2_states_199 : decode cX2_states 199 = .ok (.aload_n 0, 1) := dk_42 (dk_at dksX2_states_8 9 rfl rfl)
theorem dX2_states_200 : decode cX2_states 200 = .ok (.getfield 338, 3) := dk_180 1 82 (dk_at dksX2_states_8 10 rfl rfl)
theorem dX2_states_203 : decode cX2_states 203 = .ok (.iload 4, 2) := dk_21 4 (dk_at dksX2_states_8 13 rfl rfl)
theorem dX2_states_205 : decode cX2_states 205 = .ok (.iaload, 1) := dk_46 (dk_at dksX2_states_8 15 rfl rfl)
theorem dX2_states_206 : decode cX2_states 206 = .ok (.iconst 1, 1) := dk_4 (dk_at dksX2_states_8 16 rfl rfl)
theorem dX2_states_207 : decode cX2_states 207 = .ok (.iadd, 1) := dk_96 (dk_at dksX2_states_8 17 rfl rfl)
theorem dX2_states_208 : decode cX2_states 208 = .ok (.iastore, 1) := dk_79 (dk_at dksX2_states_8 18 rfl rfl)
theorem dX2_states_209 : decode cX2_states 209 = .ok (.iinc 2 1, 3) := dk_132 2 1 (dk_at dksX2_states_8 19 rfl rfl)
theorem dX2_states_212 : decode cX2_states 212 = .ok (.aload_n 0, 1) := dk_42 (dk_at dksX2_states_8 22 rfl rfl)
theorem dX2_states_213 : decode cX2_states 213 = .ok (.getfield 344, 3) := dk_180 1 88 (dk_at dksX2_states_9 0 rfl rfl)
theorem dX2_states_216 : decode cX2_states 216 = .ok (.iload_n 3, 1) := dk_29 (dk_at dksX2_states_9 3 rfl rfl)
theorem dX2_states_217 : decode cX2_states 217 = .ok (.iload 7, 2) := dk_21 7 (dk_at dksX2_states_9 4 rfl rfl)
theorem dX2_states_219 : decode cX2_states 219 = .ok (.iastore, 1) := dk_79 (dk_at dksX2_states_9 6 rfl rfl)
theorem dX2_states_220 : decode cX2_states 220 = .ok (.iinc 3 1, 3) := dk_132 3 1 (dk_at dksX2_states_9 7 rfl rfl)
theorem dX2_states_223 : decode cX2_states 223 = .ok (.iinc 6 1, 3) := dk_132 6 1 (dk_at dksX2_states_9 10 rfl rfl)
theorem dX2_states_226 : decode cX2_states 226 = .ok (.goto (-123), 3) := dk_167 255 133 (dk_at dksX2_states_9 13 rfl rfl)
theorem dX2_states_229 : decode cX2_states 229 = .ok (.iinc 4 1, 3) := dk_132 4 1 (dk_at dksX2_states_9 16 rfl rfl)
theorem dX2_states_232 : decode cX2_states 232 = .ok (.goto (-166), 3) := dk_167 255 90 (dk_at dksX2_states_9 19 rfl rfl)
theorem dX2_states_235 : decode cX2_states 235 = .ok (.aload_n 0, 1) := dk_42 (dk_at dksX2_states_9 22 rfl rfl)
theorem dX2_states_236 : decode cX2_states 236 = .ok (.getfield 341, 3) := dk_180 1 85 (dk_at dksX2_states_10 0 rfl rfl)
theorem dX2_states_239 : decode cX2_states 239 = .ok (.iload_n 2, 1) := dk_28 (dk_at dksX2_states_10 3 rfl rfl)
theorem dX2_states_240 : decode cX2_states 240 = .ok (.iload_n 3, 1) := dk_29 (dk_at dksX2_states_10 4 rfl rfl)
theorem dX2_states_241 : decode cX2_states 241 = .ok (.iastore, 1) := dk_79 (dk_at dksX2_states_10 5 rfl rfl)
theorem dX2_states_242 : decode cX2_states 242 = .ok (.aload_n 0, 1) := dk_42 (dk_at dksX2_states_10 6 rfl rfl)
theorem dX2_states_243 : decode cX2_states 243 = .ok (.aload_n 0, 1) := dk_42 (dk_at dksX2_states_10 7 rfl rfl)
theorem dX2_states_244 : decode cX2_states 244 = .ok (.getfield 970, 3) := dk_180 3 202 (dk_at dksX2_states_10 8 rfl rfl)
theorem dX2_states_247 : decode cX2_states 247 = .ok (.putfield 781, 3) := dk_181 3 13 (dk_at dksX2_states_10 11 rfl rfl)
theorem dX2_states_250 : decode cX2_states 250 = .ok (.iconst 0, 1) := dk_3 (dk_at dksX2_states_10 14 rfl rfl)
theorem dX2_states_251 : decode cX2_states 251 = .ok (.istore 4, 2) := dk_54 4 (dk_at dksX2_states_10 15 rfl rfl)
theorem dX2_states_253 : decode cX2_states 253 = .ok (.iload 4, 2) := dk_21 4 (dk_at dksX2_states_10 17 rfl rfl)
theorem dX2_states_255 : decode cX2_states 255 = .ok (.iload_n 2, 1) := dk_28 (dk_at dksX2_states_10 19 rfl rfl)
theorem dX2_states_256 : decode cX2_states 256 = .ok (.if_icmp .ge 79, 3) := dk_162 0 79 (dk_at dksX2_states_10 20 rfl rfl)
theorem dX2_states_259 : decode cX2_states 259 = .ok (.aload_n 0, 1) := dk_42 (dk_at dksX2_states_10 23 rfl rfl)
theorem dX2_states_260 : decode cX2_states 260 = .ok (.getfield 305, 3) := dk_180 1 49 (dk_at dksX2_states_11 0 rfl rfl)
theorem dX2_states_263 : decode cX2_states 263 = .ok (.iload 4, 2) := dk_21 4 (dk_at dksX2_states_11 3 rfl rfl)
theorem dX2_states_265 : decode cX2_states 265 = .ok (.aload_n 0, 1) := dk_42 (dk_at dksX2_states_11 5 rfl rfl)
theorem dX2_states_266 : decode cX2_states 266 = .ok (.getfield 329, 3) := dk_180 1 73 (dk_at dksX2_states_11 6 rfl rfl)
theorem dX2_states_269 : decode cX2_states 269 = .ok (.iload 4, 2) := dk_21 4 (dk_at dksX2_states_11 9 rfl rfl)
theorem dX2_states_271 : decode cX2_states 271 = .ok (.iaload, 1) := dk_46 (dk_at dksX2_states_11 11 rfl rfl)
theorem dX2_states_272 : decode cX2_states 272 = .ok (.iastore, 1) := dk_79 (dk_at dksX2_states_11 12 rfl rfl)
theorem dX2_states_273 : decode cX2_states 273 = .ok (.aload_n 0, 1) := dk_42 (dk_at dksX2_states_11 13 rfl rfl)
theorem dX2_states_274 : decode cX2_states 274 = .ok (.getfield 311, 3) := dk_180 1 55 (dk_at dksX2_states_11 14 rfl rfl)
theorem dX2_states_277 : decode cX2_states 277 = .ok (.iload 4, 2) := dk_21 4 (dk_at dksX2_states_11 17 rfl rfl)
theorem dX2_states_279 : decode cX2_states 279 = .ok (.aload_n 0, 1) := dk_42 (dk_at dksX2_states_11 19 rfl rfl)
theorem dX2_states_280 : decode cX2_states 280 = .ok (.getfield 332, 3) := dk_180 1 76 (dk_at dksX2_states_11 20 rfl rfl)
theorem dX2_states_283 : decode cX2_states 283 = .ok (.iload 4, 2) := dk_21 4 (dk_at dksX2_states_12 0 rfl rfl)
theorem dX2_states_285 : decode cX2_states 285 = .ok (.iaload, 1) := dk_46 (dk_at dksX2_states_12 2 rfl rfl)
theorem dX2_states_286 : decode cX2_states 286 = .ok (.iastore, 1) := dk_79 (dk_at dksX2_states_12 3 rfl rfl)
theorem dX2_states_287 : decode cX2_states 287 = .ok (.aload_n 0, 1) := dk_42 (dk_at dksX2_states_12 4 rfl rfl)
theorem dX2_states_288 : decode cX2_states 288 = .ok (.getfield 314, 3) := dk_180 1 58 (dk_at dksX2_states_12 5 rfl rfl)
theorem dX2_states_291 : decode cX2_states 291 = .ok (.iload 4, 2) := dk_21 4 (dk_at dksX2_states_12 8 rfl rfl)
theorem dX2_states_293 : decode cX2_states 293 = .ok (.aload_n 0, 1) := dk_42 (dk_at dksX2_states_12 10 rfl rfl)
theorem dX2_states_294 : decode cX2_states 294 = .ok (.getfield 335, 3) := dk_180 1 79 (dk_at dksX2_states_12 11 rfl rfl)
theorem dX2_states_297 : decode cX2_states 297 = .ok (.iload 4, 2) := dk_21 4 (dk_at dksX2_states_12 14 rfl rfl)
theorem dX2_states_299 : decode cX2_states 299 = .ok (.iaload, 1) := dk_46 (dk_at dksX2_states_12 16 rfl rfl)
theorem dX2_states_300 : decode cX2_states 300 = .ok (.iastore, 1) := dk_79 (dk_at dksX2_states_12 17 rfl rfl)
theorem dX2_states_301 : decode cX2_states 301 = .ok (.aload_n 0, 1) := dk_42 (dk_at dksX2_states_12 18 rfl rfl)
theorem dX2_states_302 : decode cX2_states 302 = .ok (.getfield 317, 3) := dk_180 1 61 (dk_at dksX2_states_12 19 rfl rfl)
theorem dX2_states_305 : decode cX2_states 305 = .ok (.iload 4, 2) := dk_21 4 (dk_at dksX2_states_12 22 rfl rfl)
theorem dX2_states_307 : decode cX2_states 307 = .ok (.aload_n 0, 1) := dk_42 (dk_at dksX2_states_13 0 rfl rfl)
theorem dX2_states_308 : decode cX2_states 308 = .ok (.getfield 338, 3) := dk_180 1 82 (dk_at dksX2_states_13 1 rfl rfl)
theorem dX2_states_311 : decode cX2_states 311 = .ok (.iload 4, 2) := dk_21 4 (dk_at dksX2_states_13 4 rfl rfl)
theorem dX2_states_313 : decode cX2_states 313 = .ok (.iaload, 1) := dk_46 (dk_at dksX2_states_13 6 rfl rfl)
theorem dX2_states_314 : decode cX2_states 314 = .ok (.iastore, 1) := dk_79 (dk_at dksX2_states_13 7 rfl rfl)
theorem dX2_states_315 : decode cX2_states 315 = .ok (.aload_n 0, 1) := dk_42 (dk_at dksX2_states_13 8 rfl rfl)
theorem dX2_states_316 : decode cX2_states 316 = .ok (.getfield 320, 3) := dk_180 1 64 (dk_at dksX2_states_13 9 rfl rfl)
theorem dX2_states_319 : decode cX2_states 319 = .ok (.iload 4, 2) := dk_21 4 (dk_at dksX2_states_13 12 rfl rfl)
theorem dX2_states_321 : decode cX2_states 321 = .ok (.aload_n 0, 1) := dk_42 (dk_at dksX2_states_13 14 rfl rfl)
theorem dX2_states_322 : decode cX2_states 322 = .ok (.getfield 341, 3) := dk_180 1 85 (dk_at dksX2_states_13 15 rfl rfl)
theorem dX2_states_325 : decode cX2_states 325 = .ok (.iload 4, 2) := dk_21 4 (dk_at dksX2_states_13 18 rfl rfl)
theorem dX2_states_327 : decode cX2_states 327 = .ok (.iaload, 1) := dk_46 (dk_at dksX2_states_13 20 rfl rfl)
theorem dX2_states_328 : decode cX2_states 328 = .ok (.iastore, 1) := dk_79 (dk_at dksX2_states_13 21 rfl rfl)
theorem dX2_states_329 : decode cX2_states 329 = .ok (.iinc 4 1, 3) := dk_132 4 1 (dk_at dksX2_states_14 0 rfl rfl)
theorem dX2_states_332 : decode cX2_states 332 = .ok (.goto (-79), 3) := dk_167 255 177 (dk_at dksX2_states_14 3 rfl rfl)
theorem dX2_states_335 : decode cX2_states 335 = .ok (.aload_n 0, 1) := dk_42 (dk_at dksX2_states_14 6 rfl rfl)
theorem dX2_states_336 : decode cX2_states 336 = .ok (.getfield 320, 3) := dk_180 1 64 (dk_at dksX2_states_14 7 rfl rfl)
theorem dX2_states_339 : decode cX2_states 339 = .ok (.iload_n 2, 1) := dk_28 (dk_at dksX2_states_14 10 rfl rfl)
theorem dX2_states_340 : decode cX2_states 340 = .ok (.iload_n 3, 1) := dk_29 (dk_at dksX2_states_14 11 rfl rfl)
theorem dX2_states_341 : decode cX2_states 341 = .ok (.iastore, 1) := dk_79 (dk_at dksX2_states_14 12 rfl rfl)
theorem dX2_states_342 : decode cX2_states 342 = .ok (.iconst 0, 1) := dk_3 (dk_at dksX2_states_14 13 rfl rfl)
theorem dX2_states_343 : decode cX2_states 343 = .ok (.istore 4, 2) := dk_54 4 (dk_at dksX2_states_14 14 rfl rfl)
theorem dX2_states_345 : decode cX2_states 345 = .ok (.iload 4, 2) := dk_21 4 (dk_at dksX2_states_14 16 rfl rfl)
theorem dX2_states_347 : decode cX2_states 347 = .ok (.iload_n 3, 1) := dk_29 (dk_at dksX2_states_14 18 rfl rfl)
theorem dX2_states_348 : decode cX2_states 348 = .ok (.if_icmp .ge 23, 3) := dk_162 0 23 (dk_at dksX2_states_14 19 rfl rfl)
theorem dX2_states_351 : decode cX2_states 351 = .ok (.aload_n 0, 1) := dk_42 (dk_at dksX2_states_14 22 rfl rfl)
theorem dX2_states_352 : decode cX2_states 352 = .ok (.getfield 323, 3) := dk_180 1 67 (dk_at dksX2_states_15 0 rfl rfl)
theorem dX2_states_355 : decode cX2_states 355 = .ok (.iload 4, 2) := dk_21 4 (dk_at dksX2_states_15 3 rfl rfl)
theorem dX2_states_357 : decode cX2_states 357 = .ok (.aload_n 0, 1) := dk_42 (dk_at dksX2_states_15 5 rfl rfl)
theorem dX2_states_358 : decode cX2_states 358 = .ok (.getfield 344, 3) := dk_180 1 88 (dk_at dksX2_states_15 6 rfl rfl)
theorem dX2_states_361 : decode cX2_states 361 = .ok (.iload 4, 2) := dk_21 4 (dk_at dksX2_states_15 9 rfl rfl)
theorem dX2_states_363 : decode cX2_states 363 = .ok (.iaload, 1) := dk_46 (dk_at dksX2_states_15 11 rfl rfl)
theorem dX2_states_364 : decode cX2_states 364 = .ok (.iastore, 1) := dk_79 (dk_at dksX2_states_15 12 rfl rfl)
theorem dX2_states_365 : decode cX2_states 365 = .ok (.iinc 4 1, 3) := dk_132 4 1 (dk_at dksX2_states_15 13 rfl rfl)
theorem dX2_states_368 : decode cX2_states 368 = .ok (.goto (-23), 3) := dk_167 255 233 (dk_at dksX2_states_15 16 rfl rfl)
theorem dX2_states_371 : decode cX2_states 371 = .ok (.aload_n 0, 1) := dk_42 (dk_at dksX2_states_15 19 rfl rfl)
theorem dX2_states_372 : decode cX2_states 372 = .ok (.iload_n 2, 1) := dk_28 (dk_at dksX2_states_15 20 rfl rfl)
theorem dX2_states_373 : decode cX2_states 373 = .ok (.putfield 772, 3) := dk_181 3 4 (dk_at dksX2_states_15 21 rfl rfl)
theorem dX2_states_376 : decode cX2_states 376 = .ok (.aload_n 0, 1) := dk_42 (dk_at dksX2_states_16 0 rfl rfl)
theorem dX2_states_377 : decode cX2_states 377 = .ok (.iconst 3, 1) := dk_6 (dk_at dksX2_states_16 1 rfl rfl)
theorem dX2_states_378 : decode cX2_states 378 = .ok (.putfield 775, 3) := dk_181 3 7 (dk_at dksX2_states_16 2 rfl rfl)
theorem dX2_states_381 : decode cX2_states 381 = .ok (.iload_n 2, 1) := dk_28 (dk_at dksX2_states_16 5 rfl rfl)
theorem dX2_states_382 : decode cX2_states 382 = .ok (.ireturn, 1) := dk_172 (dk_at dksX2_states_16 6 rfl rfl)
theorem dX2_states_383 : decode cX2_states 383 = .ok (.astore_n 2, 1) := dk_77 (dk_at dksX2_states_16 7 rfl rfl)
theorem dX2_states_384 : decode cX2_states 384 = .ok (.aload_n 0, 1) := dk_42 (dk_at dksX2_states_16 8 rfl rfl)
theorem dX2_states_385 : decode cX2_states 385 = .ok (.aload_n 0, 1) := dk_42 (dk_at dksX2_states_16 9 rfl rfl)
theorem dX2_states_386 : decode cX2_states 386 = .ok (.getfield 970, 3) := dk_180 3 202 (dk_at dksX2_states_16 10 rfl rfl)
theorem dX2_states_389 : decode cX2_states 389 = .ok (.putfield 781, 3) := dk_181 3 13 (dk_at dksX2_states_16 13 rfl rfl)
theorem dX2_states_392 : decode cX2_states 392 = .ok (.aload_n 0, 1) := dk_42 (dk_at dksX2_states_16 16 rfl rfl)
theorem dX2_states_393 : decode cX2_states 393 = .ok (.invokevirtual 1073, 3) := dk_182 4 49 (dk_at dksX2_states_16 17 rfl rfl)
theorem dX2_states_396 : decode cX2_states 396 = .ok (.ireturn, 1) := dk_172 (dk_at dksX2_states_16 20 rfl rfl)
abbrev cX2_search : ByteArray := prog_4_method_164_code
def yX2_search : MethodName := ⟨RX2, "search", "(II)I"⟩
def dkwX2_search_3 : List UInt8 := [153, 0, 5, 29, 172, 132, 3, 1, 167, 255, 224, 16, 254, 172, 78, 42, 182, 4, 49, 172]
abbrev dktX2_search_3 : List UInt8 := dkwX2_search_3 ++ []
def dkwX2_search_2 : List UInt8 := [180, 3, 4, 162, 0, 30, 42, 42, 180, 0, 250, 27, 46, 42, 180, 1, 49, 29, 46, 182, 4, 59]
abbrev dktX2_search_2 : List UInt8 := dkwX2_search_2 ++ dktX2_search_3
def dkwX2_search_1 : List UInt8 := [42, 180, 3, 4, 4, 100, 133, 184, 1, 147, 154, 0, 5, 2, 172, 42, 182, 4, 43, 28, 62, 29, 42]
abbrev dktX2_search_1 : List UInt8 := dkwX2_search_1 ++ dktX2_search_2
def dkwX2_search_0 : List UInt8 := [42, 3, 181, 0, 1, 42, 180, 3, 7, 6, 160, 0, 27, 42, 27, 182, 3, 83, 154, 0, 19, 28, 133, 9]
abbrev dktX2_search_0 : List UInt8 := dkwX2_search_0 ++ dktX2_search_1
theorem dksX2_search_0 : cX2_search.data.toList.drop 0 = dktX2_search_0 := by decide +kernel
theorem dksX2_search_1 : cX2_search.data.toList.drop 24 = dktX2_search_1 := dk_seg dksX2_search_0 24 rfl rfl
theorem dksX2_search_2 : cX2_search.data.toList.drop 47 = dktX2_search_2 := dk_seg dksX2_search_1 23 rfl rfl
theorem dksX2_search_3 : cX2_search.data.toList.drop 69 = dktX2_search_3 := dk_seg dksX2_search_2 22 rfl rfl
theorem dX2_search_0 : decode cX2_search 0 = .ok (.aload_n 0, 1) := dk_42 (dk_at dksX2_search_0 0 rfl rfl)
theorem dX2_search_1 : decode cX2_search 1 = .ok (.iconst 0, 1) := dk_3 (dk_at dksX2_search_0 1 rfl rfl)
theorem dX2_search_2 : decode cX2_search 2 = .ok (.putfield 1, 3) := dk_181 0 1 (dk_at dksX2_search_0 2 rfl rfl)
theorem dX2_search_5 : decode cX2_search 5 = .ok (.aload_n 0, 1) := dk_42 (dk_at dksX2_search_0 5 rfl rfl)
theorem dX2_search_6 : decode cX2_search 6 = .ok (.getfield 775, 3) := dk_180 3 7 (dk_at dksX2_search_0 6 rfl rfl)
theorem dX2_search_9 : decode cX2_search 9 = .ok (.iconst 3, 1) := dk_6 (dk_at dksX2_search_0 9 rfl rfl)
theorem dX2_search_10 : decode cX2_search 10 = .ok (.if_icmp .ne 27, 3) := dk_160 0 27 (dk_at dksX2_search_0 10 rfl rfl)
theorem dX2_search_13 : decode cX2_search 13 = .ok (.aload_n 0, 1) := dk_42 (dk_at dksX2_search_0 13 rfl rfl)
theorem dX2_search_14 : decode cX2_search 14 = .ok (.iload_n 1, 1) := dk_27 (dk_at dksX2_search_0 14 rfl rfl)
theorem dX2_search_15 : decode cX2_search 15 = .ok (.invokevirtual 851, 3) := dk_182 3 83 (dk_at dksX2_search_0 15 rfl rfl)
theorem dX2_search_18 : decode cX2_search 18 = .ok (.ifCond .ne 19, 3) := dk_154 0 19 (dk_at dksX2_search_0 18 rfl rfl)
theorem dX2_search_21 : decode cX2_search 21 = .ok (.iload_n 2, 1) := dk_28 (dk_at dksX2_search_0 21 rfl rfl)
theorem dX2_search_22 : decode cX2_search 22 = .ok (.i2l, 1) := dk_133 (dk_at dksX2_search_0 22 rfl rfl)
theorem dX2_search_23 : decode cX2_search 23 = .ok (.lconst 0, 1) := dk_9 (dk_at dksX2_search_0 23 rfl rfl)
theorem dX2_search_24 : decode cX2_search 24 = .ok (.aload_n 0, 1) := dk_42 (dk_at dksX2_search_1 0 rfl rfl)
theorem dX2_search_25 : decode cX2_search 25 = .ok (.getfield 772, 3) := dk_180 3 4 (dk_at dksX2_search_1 1 rfl rfl)
theorem dX2_search_28 : decode cX2_search 28 = .ok (.iconst 1, 1) := dk_4 (dk_at dksX2_search_1 4 rfl rfl)
theorem dX2_search_29 : decode cX2_search 29 = .ok (.isub, 1) := dk_100 (dk_at dksX2_search_1 5 rfl rfl)
theorem dX2_search_30 : decode cX2_search 30 = .ok (.i2l, 1) := dk_133 (dk_at dksX2_search_1 6 rfl rfl)
theorem dX2_search_31 : decode cX2_search 31 = .ok (.invokestatic 403, 3) := dk_184 1 147 (dk_at dksX2_search_1 7 rfl rfl)
theorem dX2_search_34 : decode cX2_search 34 = .ok (.ifCond .ne 5, 3) := dk_154 0 5 (dk_at dksX2_search_1 10 rfl rfl)
theorem dX2_search_37 : decode cX2_search 37 = .ok (.iconst (-1), 1) := dk_2 (dk_at dksX2_search_1 13 rfl rfl)
theorem dX2_search_38 : decode cX2_search 38 = .ok (.ireturn, 1) := dk_172 (dk_at dksX2_search_1 14 rfl rfl)
theorem dX2_search_39 : decode cX2_search 39 = .ok (.aload_n 0, 1) := dk_42 (dk_at dksX2_search_1 15 rfl rfl)
theorem dX2_search_40 : decode cX2_search 40 = .ok (.invokevirtual 1067, 3) := dk_182 4 43 (dk_at dksX2_search_1 16 rfl rfl)
theorem dX2_search_43 : decode cX2_search 43 = .ok (.iload_n 2, 1) := dk_28 (dk_at dksX2_search_1 19 rfl rfl)
theorem dX2_search_44 : decode cX2_search 44 = .ok (.istore_n 3, 1) := dk_62 (dk_at dksX2_search_1 20 rfl rfl)
theorem dX2_search_45 : decode cX2_search 45 = .ok (.iload_n 3, 1) := dk_29 (dk_at dksX2_search_1 21 rfl rfl)
theorem dX2_search_46 : decode cX2_search 46 = .ok (.aload_n 0, 1) := dk_42 (dk_at dksX2_search_1 22 rfl rfl)
theorem dX2_search_47 : decode cX2_search 47 = .ok (.getfield 772, 3) := dk_180 3 4 (dk_at dksX2_search_2 0 rfl rfl)
theorem dX2_search_50 : decode cX2_search 50 = .ok (.if_icmp .ge 30, 3) := dk_162 0 30 (dk_at dksX2_search_2 3 rfl rfl)
theorem dX2_search_53 : decode cX2_search 53 = .ok (.aload_n 0, 1) := dk_42 (dk_at dksX2_search_2 6 rfl rfl)
theorem dX2_search_54 : decode cX2_search 54 = .ok (.aload_n 0, 1) := dk_42 (dk_at dksX2_search_2 7 rfl rfl)
theorem dX2_search_55 : decode cX2_search 55 = .ok (.getfield 250, 3) := dk_180 0 250 (dk_at dksX2_search_2 8 rfl rfl)
theorem dX2_search_58 : decode cX2_search 58 = .ok (.iload_n 1, 1) := dk_27 (dk_at dksX2_search_2 11 rfl rfl)
theorem dX2_search_59 : decode cX2_search 59 = .ok (.iaload, 1) := dk_46 (dk_at dksX2_search_2 12 rfl rfl)
theorem dX2_search_60 : decode cX2_search 60 = .ok (.aload_n 0, 1) := dk_42 (dk_at dksX2_search_2 13 rfl rfl)
theorem dX2_search_61 : decode cX2_search 61 = .ok (.getfield 305, 3) := dk_180 1 49 (dk_at dksX2_search_2 14 rfl rfl)
theorem dX2_search_64 : decode cX2_search 64 = .ok (.iload_n 3, 1) := dk_29 (dk_at dksX2_search_2 17 rfl rfl)
theorem dX2_search_65 : decode cX2_search 65 = .ok (.iaload, 1) := dk_46 (dk_at dksX2_search_2 18 rfl rfl)
theorem dX2_search_66 : decode cX2_search 66 = .ok (.invokevirtual 1083, 3) := dk_182 4 59 (dk_at dksX2_search_2 19 rfl rfl)
theorem dX2_search_69 : decode cX2_search 69 = .ok (.ifCond .eq 5, 3) := dk_153 0 5 (dk_at dksX2_search_3 0 rfl rfl)
theorem dX2_search_72 : decode cX2_search 72 = .ok (.iload_n 3, 1) := dk_29 (dk_at dksX2_search_3 3 rfl rfl)
theorem dX2_search_73 : decode cX2_search 73 = .ok (.ireturn, 1) := dk_172 (dk_at dksX2_search_3 4 rfl rfl)
theorem dX2_search_74 : decode cX2_search 74 = .ok (.iinc 3 1, 3) := dk_132 3 1 (dk_at dksX2_search_3 5 rfl rfl)
theorem dX2_search_77 : decode cX2_search 77 = .ok (.goto (-32), 3) := dk_167 255 224 (dk_at dksX2_search_3 8 rfl rfl)
theorem dX2_search_80 : decode cX2_search 80 = .ok (.bipush (-2), 2) := dk_16 254 (dk_at dksX2_search_3 11 rfl rfl)
theorem dX2_search_82 : decode cX2_search 82 = .ok (.ireturn, 1) := dk_172 (dk_at dksX2_search_3 13 rfl rfl)
theorem dX2_search_83 : decode cX2_search 83 = .ok (.astore_n 3, 1) := dk_78 (dk_at dksX2_search_3 14 rfl rfl)
theorem dX2_search_84 : decode cX2_search 84 = .ok (.aload_n 0, 1) := dk_42 (dk_at dksX2_search_3 15 rfl rfl)
theorem dX2_search_85 : decode cX2_search 85 = .ok (.invokevirtual 1073, 3) := dk_182 4 49 (dk_at dksX2_search_3 16 rfl rfl)
theorem dX2_search_88 : decode cX2_search 88 = .ok (.ireturn, 1) := dk_172 (dk_at dksX2_search_3 19 rfl rfl)
abbrev cX2_isPattern : ByteArray := prog_4_method_163_code
def yX2_isPattern : MethodName := ⟨RX2, "isPattern", "(II)Z"⟩
def dkwX2_isPattern_1 : List UInt8 := [182, 3, 223, 158, 0, 7, 4, 167, 0, 4, 3, 54, 4, 42, 29, 181, 3, 187, 21, 4, 172]
abbrev dktX2_isPattern_1 : List UInt8 := dkwX2_isPattern_1 ++ []
def dkwX2_isPattern_0 : List UInt8 := [42, 180, 3, 187, 62, 42, 27, 182, 3, 38, 42, 28, 182, 3, 38, 160, 0, 18, 42, 27, 28, 3, 2]
abbrev dktX2_isPattern_0 : List UInt8 := dkwX2_isPattern_0 ++ dktX2_isPattern_1
theorem dksX2_isPattern_0 : cX2_isPattern.data.toList.drop 0 = dktX2_isPattern_0 := by decide +kernel
theorem dksX2_isPattern_1 : cX2_isPattern.data.toList.drop 23 = dktX2_isPattern_1 := dk_seg dksX2_isPattern_0 23 rfl rfl
theorem dX2_isPattern_0 : decode cX2_isPattern 0 = .ok (.aload_n 0, 1) := dk_42 (dk_at dksX2_isPattern_0 0 rfl rfl)
theorem dX2_isPattern_1 : decode cX2_isPattern 1 = .ok (.getfield 955, 3) := dk_180 3 187 (dk_at dksX2_isPattern_0 1 rfl rfl)
theorem dX2_isPattern_4 : decode cX2_isPattern 4 = .ok (.istore_n 3, 1) := dk_62 (dk_at dksX2_isPattern_0 4 rfl rfl)
theorem dX2_isPattern_5 : decode cX2_isPattern 5 = .ok (.aload_n 0, 1) := dk_42 (dk_at dksX2_isPattern_0 5 rfl rfl)
theorem dX2_isPattern_6 : decode cX2_isPattern 6 = .ok (.iload_n 1, 1) := dk_27 (dk_at dksX2_isPattern_0 6 rfl rfl)
theorem dX2_isPattern_7 : decode cX2_isPattern 7 = .ok (.invokevirtual 806, 3) := dk_182 3 38 (dk_at dksX2_isPattern_0 7 rfl rfl)
theorem dX2_isPattern_10 : decode cX2_isPattern 10 = .ok (.aload_n 0, 1) := dk_42 (dk_at dksX2_isPattern_0 10 rfl rfl)
theorem dX2_isPattern_11 : decode cX2_isPattern 11 = .ok (.iload_n 2, 1) := dk_28 (dk_at dksX2_isPattern_0 11 rfl rfl)
theorem dX2_isPattern_12 : decode cX2_isPattern 12 = .ok (.invokevirtual 806, 3) := dk_182 3 38 (dk_at dksX2_isPattern_0 12 rfl rfl)
theorem dX2_isPattern_15 : decode cX2_isPattern 15 = .ok (.if_icmp .ne 18, 3) := dk_160 0 18 (dk_at dksX2_isPattern_0 15 rfl rfl)
theorem dX2_isPattern_18 : decode cX2_isPattern 18 = .ok (.aload_n 0, 1) := dk_42 (dk_at dksX2_isPattern_0 18 rfl rfl)
theorem dX2_isPattern_19 : decode cX2_isPattern 19 = .ok (.iload_n 1, 1) := dk_27 (dk_at dksX2_isPattern_0 19 rfl rfl)
theorem dX2_isPattern_20 : decode cX2_isPattern 20 = .ok (.iload_n 2, 1) := dk_28 (dk_at dksX2_isPattern_0 20 rfl rfl)
theorem dX2_isPattern_21 : decode cX2_isPattern 21 = .ok (.iconst 0, 1) := dk_3 (dk_at dksX2_isPattern_0 21 rfl rfl)
theorem dX2_isPattern_22 : decode cX2_isPattern 22 = .ok (.iconst (-1), 1) := dk_2 (dk_at dksX2_isPattern_0 22 rfl rfl)
theorem dX2_isPattern_23 : decode cX2_isPattern 23 = .ok (.invokevirtual 991, 3) := dk_182 3 223 (dk_at dksX2_isPattern_1 0 rfl rfl)
theorem dX2_isPattern_26 : decode cX2_isPattern 26 = .ok (.ifCond .le 7, 3) := dk_158 0 7 (dk_at dksX2_isPattern_1 3 rfl rfl)
theorem dX2_isPattern_29 : decode cX2_isPattern 29 = .ok (.iconst 1, 1) := dk_4 (dk_at dksX2_isPattern_1 6 rfl rfl)
theorem dX2_isPattern_30 : decode cX2_isPattern 30 = .ok (.goto 4, 3) := dk_167 0 4 (dk_at dksX2_isPattern_1 7 rfl rfl)
theorem dX2_isPattern_33 : decode cX2_isPattern 33 = .ok (.iconst 0, 1) := dk_3 (dk_at dksX2_isPattern_1 10 rfl rfl)
theorem dX2_isPattern_34 : decode cX2_isPattern 34 = .ok (.istore 4, 2) := dk_54 4 (dk_at dksX2_isPattern_1 11 rfl rfl)
theorem dX2_isPattern_36 : decode cX2_isPattern 36 = .ok (.aload_n 0, 1) := dk_42 (dk_at dksX2_isPattern_1 13 rfl rfl)
theorem dX2_isPattern_37 : decode cX2_isPattern 37 = .ok (.iload_n 3, 1) := dk_29 (dk_at dksX2_isPattern_1 14 rfl rfl)
theorem dX2_isPattern_38 : decode cX2_isPattern 38 = .ok (.putfield 955, 3) := dk_181 3 187 (dk_at dksX2_isPattern_1 15 rfl rfl)
theorem dX2_isPattern_41 : decode cX2_isPattern 41 = .ok (.iload 4, 2) := dk_21 4 (dk_at dksX2_isPattern_1 18 rfl rfl)
theorem dX2_isPattern_43 : decode cX2_isPattern 43 = .ok (.ireturn, 1) := dk_172 (dk_at dksX2_isPattern_1 20 rfl rfl)
abbrev cX2_law : ByteArray := prog_4_method_166_code
def yX2_law : MethodName := ⟨RX2, "law", "(III)I"⟩
def dkwX2_law_13 : List UInt8 := [21, 4, 100, 172, 132, 4, 1, 167, 255, 141, 4, 172]
abbrev dktX2_law_13 : List UInt8 := dkwX2_law_13 ++ []
def dkwX2_law_12 : List UInt8 := [42, 180, 1, 97, 21, 4, 51, 153, 0, 7, 4, 167, 0, 4, 3, 54, 5, 21, 5, 153, 0, 9, 16, 246]
abbrev dktX2_law_12 : List UInt8 := dkwX2_law_12 ++ dktX2_law_13
def dkwX2_law_11 : List UInt8 := [21, 4, 51, 153, 0, 7, 4, 167, 0, 32, 3, 167, 0, 28, 42, 180, 1, 91, 21, 4, 51, 153, 0, 17]
abbrev dktX2_law_11 : List UInt8 := dkwX2_law_11 ++ dktX2_law_12
def dkwX2_law_10 : List UInt8 := [180, 1, 91, 21, 4, 51, 167, 0, 56, 27, 5, 160, 0, 26, 21, 4, 154, 0, 17, 42, 180, 1, 97]
abbrev dktX2_law_10 : List UInt8 := dkwX2_law_10 ++ dktX2_law_11
def dkwX2_law_9 : List UInt8 := [180, 1, 91, 21, 4, 51, 154, 0, 7, 4, 167, 0, 75, 3, 167, 0, 71, 27, 4, 160, 0, 13, 42]
abbrev dktX2_law_9 : List UInt8 := dkwX2_law_9 ++ dktX2_law_10
def dkwX2_law_8 : List UInt8 := [180, 1, 94, 182, 4, 64, 3, 54, 4, 21, 4, 42, 180, 3, 4, 162, 0, 112, 27, 154, 0, 21, 42]
abbrev dktX2_law_8 : List UInt8 := dkwX2_law_8 ++ dktX2_law_9
def dkwX2_law_7 : List UInt8 := [180, 0, 11, 100, 172, 27, 4, 164, 0, 23, 42, 27, 5, 160, 0, 10, 42, 180, 1, 91, 167, 0, 7, 42]
abbrev dktX2_law_7 : List UInt8 := dkwX2_law_7 ++ dktX2_law_8
def dkwX2_law_6 : List UInt8 := [167, 0, 28, 58, 4, 42, 42, 180, 0, 7, 180, 0, 11, 181, 3, 10, 17, 252, 24, 42, 180, 0, 7]
abbrev dktX2_law_6 : List UInt8 := dkwX2_law_6 ++ dktX2_law_7
def dkwX2_law_5 : List UInt8 := [42, 180, 0, 250, 29, 46, 42, 180, 1, 49, 21, 4, 46, 182, 4, 59, 84, 132, 4, 1, 167, 255, 215]
abbrev dktX2_law_5 : List UInt8 := dkwX2_law_5 ++ dktX2_law_6
def dkwX2_law_4 : List UInt8 := [3, 54, 4, 21, 4, 42, 180, 3, 4, 162, 0, 38, 27, 6, 160, 0, 33, 42, 180, 1, 94, 21, 4, 42]
abbrev dktX2_law_4 : List UInt8 := dkwX2_law_4 ++ dktX2_law_5
def dkwX2_law_3 : List UInt8 := [42, 42, 180, 0, 250, 28, 46, 42, 180, 1, 49, 21, 4, 46, 182, 4, 59, 84, 132, 4, 1, 167, 255, 220]
abbrev dktX2_law_3 : List UInt8 := dkwX2_law_3 ++ dktX2_law_4
def dkwX2_law_2 : List UInt8 := [2, 172, 42, 182, 4, 43, 3, 54, 4, 21, 4, 42, 180, 3, 4, 162, 0, 33, 42, 180, 1, 91, 21, 4]
abbrev dktX2_law_2 : List UInt8 := dkwX2_law_2 ++ dktX2_law_3
def dkwX2_law_1 : List UInt8 := [153, 0, 24, 42, 28, 182, 3, 83, 154, 0, 16, 27, 6, 160, 0, 13, 42, 29, 182, 3, 83, 153, 0, 5]
abbrev dktX2_law_1 : List UInt8 := dkwX2_law_1 ++ dktX2_law_2
def dkwX2_law_0 : List UInt8 := [42, 3, 181, 0, 1, 42, 180, 3, 7, 6, 160, 0, 36, 27, 133, 9, 20, 4, 62, 184, 1, 147]
abbrev dktX2_law_0 : List UInt8 := dkwX2_law_0 ++ dktX2_law_1
theorem dksX2_law_0 : cX2_law.data.toList.drop 0 = dktX2_law_0 := by decide +kernel
theorem dksX2_law_1 : cX2_law.data.toList.drop 22 = dktX2_law_1 := dk_seg dksX2_law_0 22 rfl rfl
theorem dksX2_law_2 : cX2_law.data.toList.drop 46 = dktX2_law_2 := dk_seg dksX2_law_1 24 rfl rfl
theorem dksX2_law_3 : cX2_law.data.toList.drop 70 = dktX2_law_3 := dk_seg dksX2_law_2 24 rfl rfl
theorem dksX2_law_4 : cX2_law.data.toList.drop 94 = dktX2_law_4 := dk_seg dksX2_law_3 24 rfl rfl
theorem dksX2_law_5 : cX2_law.data.toList.drop 118 = dktX2_law_5 := dk_seg dksX2_law_4 24 rfl rfl
theorem dksX2_law_6 : cX2_law.data.toList.drop 141 = dktX2_law_6 := dk_seg dksX2_law_5 23 rfl rfl
theorem dksX2_law_7 : cX2_law.data.toList.drop 164 = dktX2_law_7 := dk_seg dksX2_law_6 23 rfl rfl
theorem dksX2_law_8 : cX2_law.data.toList.drop 188 = dktX2_law_8 := dk_seg dksX2_law_7 24 rfl rfl
theorem dksX2_law_9 : cX2_law.data.toList.drop 211 = dktX2_law_9 := dk_seg dksX2_law_8 23 rfl rfl
theorem dksX2_law_10 : cX2_law.data.toList.drop 234 = dktX2_law_10 := dk_seg dksX2_law_9 23 rfl rfl
theorem dksX2_law_11 : cX2_law.data.toList.drop 257 = dktX2_law_11 := dk_seg dksX2_law_10 23 rfl rfl
theorem dksX2_law_12 : cX2_law.data.toList.drop 281 = dktX2_law_12 := dk_seg dksX2_law_11 24 rfl rfl
theorem dksX2_law_13 : cX2_law.data.toList.drop 305 = dktX2_law_13 := dk_seg dksX2_law_12 24 rfl rfl
theorem dX2_law_0 : decode cX2_law 0 = .ok (.aload_n 0, 1) := dk_42 (dk_at dksX2_law_0 0 rfl rfl)
theorem dX2_law_1 : decode cX2_law 1 = .ok (.iconst 0, 1) := dk_3 (dk_at dksX2_law_0 1 rfl rfl)
theorem dX2_law_2 : decode cX2_law 2 = .ok (.putfield 1, 3) := dk_181 0 1 (dk_at dksX2_law_0 2 rfl rfl)
theorem dX2_law_5 : decode cX2_law 5 = .ok (.aload_n 0, 1) := dk_42 (dk_at dksX2_law_0 5 rfl rfl)
theorem dX2_law_6 : decode cX2_law 6 = .ok (.getfield 775, 3) := dk_180 3 7 (dk_at dksX2_law_0 6 rfl rfl)
theorem dX2_law_9 : decode cX2_law 9 = .ok (.iconst 3, 1) := dk_6 (dk_at dksX2_law_0 9 rfl rfl)
theorem dX2_law_10 : decode cX2_law 10 = .ok (.if_icmp .ne 36, 3) := dk_160 0 36 (dk_at dksX2_law_0 10 rfl rfl)
theorem dX2_law_13 : decode cX2_law 13 = .ok (.iload_n 1, 1) := dk_27 (dk_at dksX2_law_0 13 rfl rfl)
theorem dX2_law_14 : decode cX2_law 14 = .ok (.i2l, 1) := dk_133 (dk_at dksX2_law_0 14 rfl rfl)
theorem dX2_law_15 : decode cX2_law 15 = .ok (.lconst 0, 1) := dk_9 (dk_at dksX2_law_0 15 rfl rfl)
theorem dX2_law_16 : decode cX2_law 16 = .ok (.ldc2_w 1086, 3) := dk_20 4 62 (dk_at dksX2_law_0 16 rfl rfl)
theorem dX2_law_19 : decode cX2_law 19 = .ok (.invokestatic 403, 3) := dk_184 1 147 (dk_at dksX2_law_0 19 rfl rfl)
theorem dX2_law_22 : decode cX2_law 22 = .ok (.ifCond .eq 24, 3) := dk_153 0 24 (dk_at dksX2_law_1 0 rfl rfl)
theorem dX2_law_25 : decode cX2_law 25 = .ok (.aload_n 0, 1) := dk_42 (dk_at dksX2_law_1 3 rfl rfl)
theorem dX2_law_26 : decode cX2_law 26 = .ok (.iload_n 2, 1) := dk_28 (dk_at dksX2_law_1 4 rfl rfl)
theorem dX2_law_27 : decode cX2_law 27 = .ok (.invokevirtual 851, 3) := dk_182 3 83 (dk_at dksX2_law_1 5 rfl rfl)
theorem dX2_law_30 : decode cX2_law 30 = .ok (.ifCond .ne 16, 3) := dk_154 0 16 (dk_at dksX2_law_1 8 rfl rfl)
theorem dX2_law_33 : decode cX2_law 33 = .ok (.iload_n 1, 1) := dk_27 (dk_at dksX2_law_1 11 rfl rfl)
theorem dX2_law_34 : decode cX2_law 34 = .ok (.iconst 3, 1) := dk_6 (dk_at dksX2_law_1 12 rfl rfl)
theorem dX2_law_35 : decode cX2_law 35 = .ok (.if_icmp .ne 13, 3) := dk_160 0 13 (dk_at dksX2_law_1 13 rfl rfl)
theorem dX2_law_38 : decode cX2_law 38 = .ok (.aload_n 0, 1) := dk_42 (dk_at dksX2_law_1 16 rfl rfl)
theorem dX2_law_39 : decode cX2_law 39 = .ok (.iload_n 3, 1) := dk_29 (dk_at dksX2_law_1 17 rfl rfl)
theorem dX2_law_40 : decode cX2_law 40 = .ok (.invokevirtual 851, 3) := dk_182 3 83 (dk_at dksX2_law_1 18 rfl rfl)
theorem dX2_law_43 : decode cX2_law 43 = .ok (.ifCond .eq 5, 3) := dk_153 0 5 (dk_at dksX2_law_1 21 rfl rfl)
theorem dX2_law_46 : decode cX2_law 46 = .ok (.iconst (-1), 1) := dk_2 (dk_at dksX2_law_2 0 rfl rfl)
theorem dX2_law_47 : decode cX2_law 47 = .ok (.ireturn, 1) := dk_172 (dk_at dksX2_law_2 1 rfl rfl)
theorem dX2_law_48 : decode cX2_law 48 = .ok (.aload_n 0, 1) := dk_42 (dk_at dksX2_law_2 2 rfl rfl)
theorem dX2_law_49 : decode cX2_law 49 = .ok (.invokevirtual 1067, 3) := dk_182 4 43 (dk_at dksX2_law_2 3 rfl rfl)
theorem dX2_law_52 : decode cX2_law 52 = .ok (.iconst 0, 1) := dk_3 (dk_at dksX2_law_2 6 rfl rfl)
theorem dX2_law_53 : decode cX2_law 53 = .ok (.istore 4, 2) := dk_54 4 (dk_at dksX2_law_2 7 rfl rfl)
theorem dX2_law_55 : decode cX2_law 55 = .ok (.iload 4, 2) := dk_21 4 (dk_at dksX2_law_2 9 rfl rfl)
theorem dX2_law_57 : decode cX2_law 57 = .ok (.aload_n 0, 1) := dk_42 (dk_at dksX2_law_2 11 rfl rfl)
theorem dX2_law_58 : decode cX2_law 58 = .ok (.getfield 772, 3) := dk_180 3 4 (dk_at dksX2_law_2 12 rfl rfl)
theorem dX2_law_61 : decode cX2_law 61 = .ok (.if_icmp .ge 33, 3) := dk_162 0 33 (dk_at dksX2_law_2 15 rfl rfl)
theorem dX2_law_64 : decode cX2_law 64 = .ok (.aload_n 0, 1) := dk_42 (dk_at dksX2_law_2 18 rfl rfl)
theorem dX2_law_65 : decode cX2_law 65 = .ok (.getfield 347, 3) := dk_180 1 91 (dk_at dksX2_law_2 19 rfl rfl)
theorem dX2_law_68 : decode cX2_law 68 = .ok (.iload 4, 2) := dk_21 4 (dk_at dksX2_law_2 22 rfl rfl)
theorem dX2_law_70 : decode cX2_law 70 = .ok (.aload_n 0, 1) := dk_42 (dk_at dksX2_law_3 0 rfl rfl)
theorem dX2_law_71 : decode cX2_law 71 = .ok (.aload_n 0, 1) := dk_42 (dk_at dksX2_law_3 1 rfl rfl)
theorem dX2_law_72 : decode cX2_law 72 = .ok (.getfield 250, 3) := dk_180 0 250 (dk_at dksX2_law_3 2 rfl rfl)
theorem dX2_law_75 : decode cX2_law 75 = .ok (.iload_n 2, 1) := dk_28 (dk_at dksX2_law_3 5 rfl rfl)
theorem dX2_law_76 : decode cX2_law 76 = .ok (.iaload, 1) := dk_46 (dk_at dksX2_law_3 6 rfl rfl)
theorem dX2_law_77 : decode cX2_law 77 = .ok (.aload_n 0, 1) := dk_42 (dk_at dksX2_law_3 7 rfl rfl)
theorem dX2_law_78 : decode cX2_law 78 = .ok (.getfield 305, 3) := dk_180 1 49 (dk_at dksX2_law_3 8 rfl rfl)
theorem dX2_law_81 : decode cX2_law 81 = .ok (.iload 4, 2) := dk_21 4 (dk_at dksX2_law_3 11 rfl rfl)
theorem dX2_law_83 : decode cX2_law 83 = .ok (.iaload, 1) := dk_46 (dk_at dksX2_law_3 13 rfl rfl)
theorem dX2_law_84 : decode cX2_law 84 = .ok (.invokevirtual 1083, 3) := dk_182 4 59 (dk_at dksX2_law_3 14 rfl rfl)
theorem dX2_law_87 : decode cX2_law 87 = .ok (.bastore, 1) := dk_84 (dk_at dksX2_law_3 17 rfl rfl)
theorem dX2_law_88 : decode cX2_law 88 = .ok (.iinc 4 1, 3) := dk_132 4 1 (dk_at dksX2_law_3 18 rfl rfl)
theorem dX2_law_91 : decode cX2_law 91 = .ok (.goto (-36), 3) := dk_167 255 220 (dk_at dksX2_law_3 21 rfl rfl)
theorem dX2_law_94 : decode cX2_law 94 = .ok (.iconst 0, 1) := dk_3 (dk_at dksX2_law_4 0 rfl rfl)
theorem dX2_law_95 : decode cX2_law 95 = .ok (.istore 4, 2) := dk_54 4 (dk_at dksX2_law_4 1 rfl rfl)
theorem dX2_law_97 : decode cX2_law 97 = .ok (.iload 4, 2) := dk_21 4 (dk_at dksX2_law_4 3 rfl rfl)
theorem dX2_law_99 : decode cX2_law 99 = .ok (.aload_n 0, 1) := dk_42 (dk_at dksX2_law_4 5 rfl rfl)
theorem dX2_law_100 : decode cX2_law 100 = .ok (.getfield 772, 3) := dk_180 3 4 (dk_at dksX2_law_4 6 rfl rfl)
theorem dX2_law_103 : decode cX2_law 103 = .ok (.if_icmp .ge 38, 3) := dk_162 0 38 (dk_at dksX2_law_4 9 rfl rfl)
theorem dX2_law_106 : decode cX2_law 106 = .ok (.iload_n 1, 1) := dk_27 (dk_at dksX2_law_4 12 rfl rfl)
theorem dX2_law_107 : decode cX2_law 107 = .ok (.iconst 3, 1) := dk_6 (dk_at dksX2_law_4 13 rfl rfl)
theorem dX2_law_108 : decode cX2_law 108 = .ok (.if_icmp .ne 33, 3) := dk_160 0 33 (dk_at dksX2_law_4 14 rfl rfl)
theorem dX2_law_111 : decode cX2_law 111 = .ok (.aload_n 0, 1) := dk_42 (dk_at dksX2_law_4 17 rfl rfl)
theorem dX2_law_112 : decode cX2_law 112 = .ok (.getfield 350, 3) := dk_180 1 94 (dk_at dksX2_law_4 18 rfl rfl)
theorem dX2_law_115 : decode cX2_law 115 = .ok (.iload 4, 2) := dk_21 4 (dk_at dksX2_law_4 21 rfl rfl)
theorem dX2_law_117 : decode cX2_law 117 = .ok (.aload_n 0, 1) := dk_42 (dk_at dksX2_law_4 23 rfl rfl)
theorem dX2_law_118 : decode cX2_law 118 = .ok (.aload_n 0, 1) := dk_42 (dk_at dksX2_law_5 0 rfl rfl)
theorem dX2_law_119 : decode cX2_law 119 = .ok (.getfield 250, 3) := dk_180 0 250 (dk_at dksX2_law_5 1 rfl rfl)
theorem dX2_law_122 : decode cX2_law 122 = .ok (.iload_n 3, 1) := dk_29 (dk_at dksX2_law_5 4 rfl rfl)
theorem dX2_law_123 : decode cX2_law 123 = .ok (.iaload, 1) := dk_46 (dk_at dksX2_law_5 5 rfl rfl)
theorem dX2_law_124 : decode cX2_law 124 = .ok (.aload_n 0, 1) := dk_42 (dk_at dksX2_law_5 6 rfl rfl)
theorem dX2_law_125 : decode cX2_law 125 = .ok (.getfield 305, 3) := dk_180 1 49 (dk_at dksX2_law_5 7 rfl rfl)
theorem dX2_law_128 : decode cX2_law 128 = .ok (.iload 4, 2) := dk_21 4 (dk_at dksX2_law_5 10 rfl rfl)
theorem dX2_law_130 : decode cX2_law 130 = .ok (.iaload, 1) := dk_46 (dk_at dksX2_law_5 12 rfl rfl)
theorem dX2_law_131 : decode cX2_law 131 = .ok (.invokevirtual 1083, 3) := dk_182 4 59 (dk_at dksX2_law_5 13 rfl rfl)
theorem dX2_law_134 : decode cX2_law 134 = .ok (.bastore, 1) := dk_84 (dk_at dksX2_law_5 16 rfl rfl)
theorem dX2_law_135 : decode cX2_law 135 = .ok (.iinc 4 1, 3) := dk_132 4 1 (dk_at dksX2_law_5 17 rfl rfl)
theorem dX2_law_138 : decode cX2_law 138 = .ok (.goto (-41), 3) := dk_167 255 215 (dk_at dksX2_law_5 20 rfl rfl)
theorem dX2_law_141 : decode cX2_law 141 = .ok (.goto 28, 3) := dk_167 0 28 (dk_at dksX2_law_6 0 rfl rfl)
theorem dX2_law_144 : decode cX2_law 144 = .ok (.astore 4, 2) := dk_58 4 (dk_at dksX2_law_6 3 rfl rfl)
theorem dX2_law_146 : decode cX2_law 146 = .ok (.aload_n 0, 1) := dk_42 (dk_at dksX2_law_6 5 rfl rfl)
theorem dX2_law_147 : decode cX2_law 147 = .ok (.aload_n 0, 1) := dk_42 (dk_at dksX2_law_6 6 rfl rfl)
theorem dX2_law_148 : decode cX2_law 148 = .ok (.getfield 7, 3) := dk_180 0 7 (dk_at dksX2_law_6 7 rfl rfl)
theorem dX2_law_151 : decode cX2_law 151 = .ok (.getfield 11, 3) := dk_180 0 11 (dk_at dksX2_law_6 10 rfl rfl)
theorem dX2_law_154 : decode cX2_law 154 = .ok (.putfield 778, 3) := dk_181 3 10 (dk_at dksX2_law_6 13 rfl rfl)
theorem dX2_law_157 : decode cX2_law 157 = .ok (.sipush (-1000), 3) := dk_17 252 24 (dk_at dksX2_law_6 16 rfl rfl)
theorem dX2_law_160 : decode cX2_law 160 = .ok (.aload_n 0, 1) := dk_42 (dk_at dksX2_law_6 19 rfl rfl)
theorem dX2_law_161 : decode cX2_law 161 = .ok (.getfield 7, 3) := dk_180 0 7 (dk_at dksX2_law_6 20 rfl rfl)
theorem dX2_law_164 : decode cX2_law 164 = .ok (.getfield 11, 3) := dk_180 0 11 (dk_at dksX2_law_7 0 rfl rfl)
theorem dX2_law_167 : decode cX2_law 167 = .ok (.isub, 1) := dk_100 (dk_at dksX2_law_7 3 rfl rfl)
theorem dX2_law_168 : decode cX2_law 168 = .ok (.ireturn, 1) := dk_172 (dk_at dksX2_law_7 4 rfl rfl)
theorem dX2_law_169 : decode cX2_law 169 = .ok (.iload_n 1, 1) := dk_27 (dk_at dksX2_law_7 5 rfl rfl)
theorem dX2_law_170 : decode cX2_law 170 = .ok (.iconst 1, 1) := dk_4 (dk_at dksX2_law_7 6 rfl rfl)
theorem dX2_law_171 : decode cX2_law 171 = .ok (.if_icmp .le 23, 3) := dk_164 0 23 (dk_at dksX2_law_7 7 rfl rfl)
theorem dX2_law_174 : decode cX2_law 174 = .ok (.aload_n 0, 1) := dk_42 (dk_at dksX2_law_7 10 rfl rfl)
theorem dX2_law_175 : decode cX2_law 175 = .ok (.iload_n 1, 1) := dk_27 (dk_at dksX2_law_7 11 rfl rfl)
theorem dX2_law_176 : decode cX2_law 176 = .ok (.iconst 2, 1) := dk_5 (dk_at dksX2_law_7 12 rfl rfl)
theorem dX2_law_177 : decode cX2_law 177 = .ok (.if_icmp .ne 10, 3) := dk_160 0 10 (dk_at dksX2_law_7 13 rfl rfl)
theorem dX2_law_180 : decode cX2_law 180 = .ok (.aload_n 0, 1) := dk_42 (dk_at dksX2_law_7 16 rfl rfl)
theorem dX2_law_181 : decode cX2_law 181 = .ok (.getfield 347, 3) := dk_180 1 91 (dk_at dksX2_law_7 17 rfl rfl)
theorem dX2_law_184 : decode cX2_law 184 = .ok (.goto 7, 3) := dk_167 0 7 (dk_at dksX2_law_7 20 rfl rfl)
theorem dX2_law_187 : decode cX2_law 187 = .ok (.aload_n 0, 1) := dk_42 (dk_at dksX2_law_7 23 rfl rfl)
theorem dX2_law_188 : decode cX2_law 188 = .ok (.getfield 350, 3) := dk_180 1 94 (dk_at dksX2_law_8 0 rfl rfl)
theorem dX2_law_191 : decode cX2_law 191 = .ok (.invokevirtual 1088, 3) := dk_182 4 64 (dk_at dksX2_law_8 3 rfl rfl)
theorem dX2_law_194 : decode cX2_law 194 = .ok (.iconst 0, 1) := dk_3 (dk_at dksX2_law_8 6 rfl rfl)
theorem dX2_law_195 : decode cX2_law 195 = .ok (.istore 4, 2) := dk_54 4 (dk_at dksX2_law_8 7 rfl rfl)
theorem dX2_law_197 : decode cX2_law 197 = .ok (.iload 4, 2) := dk_21 4 (dk_at dksX2_law_8 9 rfl rfl)
theorem dX2_law_199 : decode cX2_law 199 = .ok (.aload_n 0, 1) := dk_42 (dk_at dksX2_law_8 11 rfl rfl)
theorem dX2_law_200 : decode cX2_law 200 = .ok (.getfield 772, 3) := dk_180 3 4 (dk_at dksX2_law_8 12 rfl rfl)
theorem dX2_law_203 : decode cX2_law 203 = .ok (.if_icmp .ge 112, 3) := dk_162 0 112 (dk_at dksX2_law_8 15 rfl rfl)
theorem dX2_law_206 : decode cX2_law 206 = .ok (.iload_n 1, 1) := dk_27 (dk_at dksX2_law_8 18 rfl rfl)
theorem dX2_law_207 : decode cX2_law 207 = .ok (.ifCond .ne 21, 3) := dk_154 0 21 (dk_at dksX2_law_8 19 rfl rfl)
theorem dX2_law_210 : decode cX2_law 210 = .ok (.aload_n 0, 1) := dk_42 (dk_at dksX2_law_8 22 rfl rfl)
theorem dX2_law_211 : decode cX2_law 211 = .ok (.getfield 347, 3) := dk_180 1 91 (dk_at dksX2_law_9 0 rfl rfl)
theorem dX2_law_214 : decode cX2_law 214 = .ok (.iload 4, 2) := dk_21 4 (dk_at dksX2_law_9 3 rfl rfl)
theorem dX2_law_216 : decode cX2_law 216 = .ok (.baload, 1) := dk_51 (dk_at dksX2_law_9 5 rfl rfl)
theorem dX2_law_217 : decode cX2_law 217 = .ok (.ifCond .ne 7, 3) := dk_154 0 7 (dk_at dksX2_law_9 6 rfl rfl)
theorem dX2_law_220 : decode cX2_law 220 = .ok (.iconst 1, 1) := dk_4 (dk_at dksX2_law_9 9 rfl rfl)
theorem dX2_law_221 : decode cX2_law 221 = .ok (.goto 75, 3) := dk_167 0 75 (dk_at dksX2_law_9 10 rfl rfl)
theorem dX2_law_224 : decode cX2_law 224 = .ok (.iconst 0, 1) := dk_3 (dk_at dksX2_law_9 13 rfl rfl)
theorem dX2_law_225 : decode cX2_law 225 = .ok (.goto 71, 3) := dk_167 0 71 (dk_at dksX2_law_9 14 rfl rfl)
theorem dX2_law_228 : decode cX2_law 228 = .ok (.iload_n 1, 1) := dk_27 (dk_at dksX2_law_9 17 rfl rfl)
theorem dX2_law_229 : decode cX2_law 229 = .ok (.iconst 1, 1) := dk_4 (dk_at dksX2_law_9 18 rfl rfl)
theorem dX2_law_230 : decode cX2_law 230 = .ok (.if_icmp .ne 13, 3) := dk_160 0 13 (dk_at dksX2_law_9 19 rfl rfl)
theorem dX2_law_233 : decode cX2_law 233 = .ok (.aload_n 0, 1) := dk_42 (dk_at dksX2_law_9 22 rfl rfl)
theorem dX2_law_234 : decode cX2_law 234 = .ok (.getfield 347, 3) := dk_180 1 91 (dk_at dksX2_law_10 0 rfl rfl)
theorem dX2_law_237 : decode cX2_law 237 = .ok (.iload 4, 2) := dk_21 4 (dk_at dksX2_law_10 3 rfl rfl)
theorem dX2_law_239 : decode cX2_law 239 = .ok (.baload, 1) := dk_51 (dk_at dksX2_law_10 5 rfl rfl)
theorem dX2_law_240 : decode cX2_law 240 = .ok (.goto 56, 3) := dk_167 0 56 (dk_at dksX2_law_10 6 rfl rfl)
theorem dX2_law_243 : decode cX2_law 243 = .ok (.iload_n 1, 1) := dk_27 (dk_at dksX2_law_10 9 rfl rfl)
theorem dX2_law_244 : decode cX2_law 244 = .ok (.iconst 2, 1) := dk_5 (dk_at dksX2_law_10 10 rfl rfl)
theorem dX2_law_245 : decode cX2_law 245 = .ok (.if_icmp .ne 26, 3) := dk_160 0 26 (dk_at dksX2_law_10 11 rfl rfl)
theorem dX2_law_248 : decode cX2_law 248 = .ok (.iload 4, 2) := dk_21 4 (dk_at dksX2_law_10 14 rfl rfl)
theorem dX2_law_250 : decode cX2_law 250 = .ok (.ifCond .ne 17, 3) := dk_154 0 17 (dk_at dksX2_law_10 16 rfl rfl)
theorem dX2_law_253 : decode cX2_law 253 = .ok (.aload_n 0, 1) := dk_42 (dk_at dksX2_law_10 19 rfl rfl)
theorem dX2_law_254 : decode cX2_law 254 = .ok (.getfield 353, 3) := dk_180 1 97 (dk_at dksX2_law_10 20 rfl rfl)
theorem dX2_law_257 : decode cX2_law 257 = .ok (.iload 4, 2) := dk_21 4 (dk_at dksX2_law_11 0 rfl rfl)
theorem dX2_law_259 : decode cX2_law 259 = .ok (.baload, 1) := dk_51 (dk_at dksX2_law_11 2 rfl rfl)
theorem dX2_law_260 : decode cX2_law 260 = .ok (.ifCond .eq 7, 3) := dk_153 0 7 (dk_at dksX2_law_11 3 rfl rfl)
theorem dX2_law_263 : decode cX2_law 263 = .ok (.iconst 1, 1) := dk_4 (dk_at dksX2_law_11 6 rfl rfl)
theorem dX2_law_264 : decode cX2_law 264 = .ok (.goto 32, 3) := dk_167 0 32 (dk_at dksX2_law_11 7 rfl rfl)
theorem dX2_law_267 : decode cX2_law 267 = .ok (.iconst 0, 1) := dk_3 (dk_at dksX2_law_11 10 rfl rfl)
theorem dX2_law_268 : decode cX2_law 268 = .ok (.goto 28, 3) := dk_167 0 28 (dk_at dksX2_law_11 11 rfl rfl)
theorem dX2_law_271 : decode cX2_law 271 = .ok (.aload_n 0, 1) := dk_42 (dk_at dksX2_law_11 14 rfl rfl)
theorem dX2_law_272 : decode cX2_law 272 = .ok (.getfield 347, 3) := dk_180 1 91 (dk_at dksX2_law_11 15 rfl rfl)
theorem dX2_law_275 : decode cX2_law 275 = .ok (.iload 4, 2) := dk_21 4 (dk_at dksX2_law_11 18 rfl rfl)
theorem dX2_law_277 : decode cX2_law 277 = .ok (.baload, 1) := dk_51 (dk_at dksX2_law_11 20 rfl rfl)
theorem dX2_law_278 : decode cX2_law 278 = .ok (.ifCond .eq 17, 3) := dk_153 0 17 (dk_at dksX2_law_11 21 rfl rfl)
theorem dX2_law_281 : decode cX2_law 281 = .ok (.aload_n 0, 1) := dk_42 (dk_at dksX2_law_12 0 rfl rfl)
theorem dX2_law_282 : decode cX2_law 282 = .ok (.getfield 353, 3) := dk_180 1 97 (dk_at dksX2_law_12 1 rfl rfl)
theorem dX2_law_285 : decode cX2_law 285 = .ok (.iload 4, 2) := dk_21 4 (dk_at dksX2_law_12 4 rfl rfl)
theorem dX2_law_287 : decode cX2_law 287 = .ok (.baload, 1) := dk_51 (dk_at dksX2_law_12 6 rfl rfl)
theorem dX2_law_288 : decode cX2_law 288 = .ok (.ifCond .eq 7, 3) := dk_153 0 7 (dk_at dksX2_law_12 7 rfl rfl)
theorem dX2_law_291 : decode cX2_law 291 = .ok (.iconst 1, 1) := dk_4 (dk_at dksX2_law_12 10 rfl rfl)
theorem dX2_law_292 : decode cX2_law 292 = .ok (.goto 4, 3) := dk_167 0 4 (dk_at dksX2_law_12 11 rfl rfl)
theorem dX2_law_295 : decode cX2_law 295 = .ok (.iconst 0, 1) := dk_3 (dk_at dksX2_law_12 14 rfl rfl)
theorem dX2_law_296 : decode cX2_law 296 = .ok (.istore 5, 2) := dk_54 5 (dk_at dksX2_law_12 15 rfl rfl)
theorem dX2_law_298 : decode cX2_law 298 = .ok (.iload 5, 2) := dk_21 5 (dk_at dksX2_law_12 17 rfl rfl)
theorem dX2_law_300 : decode cX2_law 300 = .ok (.ifCond .eq 9, 3) := dk_153 0 9 (dk_at dksX2_law_12 19 rfl rfl)
theorem dX2_law_303 : decode cX2_law 303 = .ok (.bipush (-10), 2) := dk_16 246 (dk_at dksX2_law_12 22 rfl rfl)
theorem dX2_law_305 : decode cX2_law 305 = .ok (.iload 4, 2) := dk_21 4 (dk_at dksX2_law_13 0 rfl rfl)
theorem dX2_law_307 : decode cX2_law 307 = .ok (.isub, 1) := dk_100 (dk_at dksX2_law_13 2 rfl rfl)
theorem dX2_law_308 : decode cX2_law 308 = .ok (.ireturn, 1) := dk_172 (dk_at dksX2_law_13 3 rfl rfl)
theorem dX2_law_309 : decode cX2_law 309 = .ok (.iinc 4 1, 3) := dk_132 4 1 (dk_at dksX2_law_13 4 rfl rfl)
theorem dX2_law_312 : decode cX2_law 312 = .ok (.goto (-115), 3) := dk_167 255 141 (dk_at dksX2_law_13 7 rfl rfl)
theorem dX2_law_315 : decode cX2_law 315 = .ok (.iconst 1, 1) := dk_4 (dk_at dksX2_law_13 10 rfl rfl)
theorem dX2_law_316 : decode cX2_law 316 = .ok (.ireturn, 1) := dk_172 (dk_at dksX2_law_13 11 rfl rfl)
abbrev cX2_findRows : ByteArray := prog_4_method_165_code
def yX2_findRows : MethodName := ⟨RX2, "findRows", "([Z)V"⟩
def dkwX2_findRows_6 : List UInt8 := [154, 0, 12, 42, 180, 1, 97, 29, 3, 84, 4, 61, 132, 3, 1, 167, 255, 144, 167, 255, 133, 177]
abbrev dktX2_findRows_6 : List UInt8 := dkwX2_findRows_6 ++ []
def dkwX2_findRows_5 : List UInt8 := [167, 0, 4, 3, 54, 4, 132, 5, 1, 167, 255, 213, 42, 180, 1, 97, 29, 51, 153, 0, 17, 21, 4]
abbrev dktX2_findRows_5 : List UInt8 := dkwX2_findRows_5 ++ dktX2_findRows_6
def dkwX2_findRows_4 : List UInt8 := [162, 0, 36, 21, 4, 154, 0, 18, 42, 180, 1, 97, 42, 180, 1, 67, 21, 5, 46, 51, 153, 0, 7, 4]
abbrev dktX2_findRows_4 : List UInt8 := dkwX2_findRows_4 ++ dktX2_findRows_5
def dkwX2_findRows_3 : List UInt8 := [167, 0, 4, 3, 54, 4, 42, 180, 1, 64, 29, 46, 54, 5, 21, 5, 42, 180, 1, 64, 29, 4, 96, 46]
abbrev dktX2_findRows_3 : List UInt8 := dkwX2_findRows_3 ++ dktX2_findRows_4
def dkwX2_findRows_2 : List UInt8 := [180, 3, 4, 162, 0, 110, 42, 180, 1, 64, 29, 46, 42, 180, 1, 64, 29, 4, 96, 46, 160, 0, 7, 4]
abbrev dktX2_findRows_2 : List UInt8 := dkwX2_findRows_2 ++ dktX2_findRows_3
def dkwX2_findRows_1 : List UInt8 := [167, 0, 4, 3, 84, 132, 2, 1, 167, 255, 228, 4, 61, 28, 153, 0, 125, 3, 61, 3, 62, 29, 42]
abbrev dktX2_findRows_1 : List UInt8 := dkwX2_findRows_1 ++ dktX2_findRows_2
def dkwX2_findRows_0 : List UInt8 := [3, 61, 28, 42, 180, 3, 4, 162, 0, 26, 42, 180, 1, 97, 28, 43, 28, 51, 154, 0, 7, 4]
abbrev dktX2_findRows_0 : List UInt8 := dkwX2_findRows_0 ++ dktX2_findRows_1
theorem dksX2_findRows_0 : cX2_findRows.data.toList.drop 0 = dktX2_findRows_0 := by decide +kernel
theorem dksX2_findRows_1 : cX2_findRows.data.toList.drop 22 = dktX2_findRows_1 := dk_seg dksX2_findRows_0 22 rfl rfl
theorem dksX2_findRows_2 : cX2_findRows.data.toList.drop 45 = dktX2_findRows_2 := dk_seg dksX2_findRows_1 23 rfl rfl
theorem dksX2_findRows_3 : cX2_findRows.data.toList.drop 69 = dktX2_findRows_3 := dk_seg dksX2_findRows_2 24 rfl rfl
theorem dksX2_findRows_4 : cX2_findRows.data.toList.drop 93 = dktX2_findRows_4 := dk_seg dksX2_findRows_3 24 rfl rfl
theorem dksX2_findRows_5 : cX2_findRows.data.toList.drop 117 = dktX2_findRows_5 := dk_seg dksX2_findRows_4 24 rfl rfl
theorem dksX2_findRows_6 : cX2_findRows.data.toList.drop 140 = dktX2_findRows_6 := dk_seg dksX2_findRows_5 23 rfl rfl
theorem dX2_findRows_0 : decode cX2_findRows 0 = .ok (.iconst 0, 1) := dk_3 (dk_at dksX2_findRows_0 0 rfl rfl)
theorem dX2_findRows_1 : decode cX2_findRows 1 = .ok (.istore_n 2, 1) := dk_61 (dk_at dksX2_findRows_0 1 rfl rfl)
theorem dX2_findRows_2 : decode cX2_findRows 2 = .ok (.iload_n 2, 1) := dk_28 (dk_at dksX2_findRows_0 2 rfl rfl)
theorem dX2_findRows_3 : decode cX2_findRows 3 = .ok (.aload_n 0, 1) := dk_42 (dk_at dksX2_findRows_0 3 rfl rfl)
theorem dX2_findRows_4 : decode cX2_findRows 4 = .ok (.getfield 772, 3) := dk_180 3 4 (dk_at dksX2_findRows_0 4 rfl rfl)
theorem dX2_findRows_7 : decode cX2_findRows 7 = .ok (.if_icmp .ge 26, 3) := dk_162 0 26 (dk_at dksX2_findRows_0 7 rfl rfl)
theorem dX2_findRows_10 : decode cX2_findRows 10 = .ok (.aload_n 0, 1) := dk_42 (dk_at dksX2_findRows_0 10 rfl rfl)
theorem dX2_findRows_11 : decode cX2_findRows 11 = .ok (.getfield 353, 3) := dk_180 1 97 (dk_at dksX2_findRows_0 11 rfl rfl)
theorem dX2_findRows_14 : decode cX2_findRows 14 = .ok (.iload_n 2, 1) := dk_28 (dk_at dksX2_findRows_0 14 rfl rfl)
theorem dX2_findRows_15 : decode cX2_findRows 15 = .ok (.aload_n 1, 1) := dk_43 (dk_at dksX2_findRows_0 15 rfl rfl)
theorem dX2_findRows_16 : decode cX2_findRows 16 = .ok (.iload_n 2, 1) := dk_28 (dk_at dksX2_findRows_0 16 rfl rfl)
theorem dX2_findRows_17 : decode cX2_findRows 17 = .ok (.baload, 1) := dk_51 (dk_at dksX2_findRows_0 17 rfl rfl)
theorem dX2_findRows_18 : decode cX2_findRows 18 = .ok (.ifCond .ne 7, 3) := dk_154 0 7 (dk_at dksX2_findRows_0 18 rfl rfl)
theorem dX2_findRows_21 : decode cX2_findRows 21 = .ok (.iconst 1, 1) := dk_4 (dk_at dksX2_findRows_0 21 rfl rfl)
theorem dX2_findRows_22 : decode cX2_findRows 22 = .ok (.goto 4, 3) := dk_167 0 4 (dk_at dksX2_findRows_1 0 rfl rfl)
theorem dX2_findRows_25 : decode cX2_findRows 25 = .ok (.iconst 0, 1) := dk_3 (dk_at dksX2_findRows_1 3 rfl rfl)
theorem dX2_findRows_26 : decode cX2_findRows 26 = .ok (.bastore, 1) := dk_84 (dk_at dksX2_findRows_1 4 rfl rfl)
theorem dX2_findRows_27 : decode cX2_findRows 27 = .ok (.iinc 2 1, 3) := dk_132 2 1 (dk_at dksX2_findRows_1 5 rfl rfl)
theorem dX2_findRows_30 : decode cX2_findRows 30 = .ok (.goto (-28), 3) := dk_167 255 228 (dk_at dksX2_findRows_1 8 rfl rfl)
theorem dX2_findRows_33 : decode cX2_findRows 33 = .ok (.iconst 1, 1) := dk_4 (dk_at dksX2_findRows_1 11 rfl rfl)
theorem dX2_findRows_34 : decode cX2_findRows 34 = .ok (.istore_n 2, 1) := dk_61 (dk_at dksX2_findRows_1 12 rfl rfl)
theorem dX2_findRows_35 : decode cX2_findRows 35 = .ok (.iload_n 2, 1) := dk_28 (dk_at dksX2_findRows_1 13 rfl rfl)
theorem dX2_findRows_36 : decode cX2_findRows 36 = .ok (.ifCond .eq 125, 3) := dk_153 0 125 (dk_at dksX2_findRows_1 14 rfl rfl)
theorem dX2_findRows_39 : decode cX2_findRows 39 = .ok (.iconst 0, 1) := dk_3 (dk_at dksX2_findRows_1 17 rfl rfl)
theorem dX2_findRows_40 : decode cX2_findRows 40 = .ok (.istore_n 2, 1) := dk_61 (dk_at dksX2_findRows_1 18 rfl rfl)
theorem dX2_findRows_41 : decode cX2_findRows 41 = .ok (.iconst 0, 1) := dk_3 (dk_at dksX2_findRows_1 19 rfl rfl)
theorem dX2_findRows_42 : decode cX2_findRows 42 = .ok (.istore_n 3, 1) := dk_62 (dk_at dksX2_findRows_1 20 rfl rfl)
theorem dX2_findRows_43 : decode cX2_findRows 43 = .ok (.iload_n 3, 1) := dk_29 (dk_at dksX2_findRows_1 21 rfl rfl)
theorem dX2_findRows_44 : decode cX2_findRows 44 = .ok (.aload_n 0, 1) := dk_42 (dk_at dksX2_findRows_1 22 rfl rfl)
theorem dX2_findRows_45 : decode cX2_findRows 45 = .ok (.getfield 772, 3) := dk_180 3 4 (dk_at dksX2_findRows_2 0 rfl rfl)
theorem dX2_findRows_48 : decode cX2_findRows 48 = .ok (.if_icmp .ge 110, 3) := dk_162 0 110 (dk_at dksX2_findRows_2 3 rfl rfl)
theorem dX2_findRows_51 : decode cX2_findRows 51 = .ok (.aload_n 0, 1) := dk_42 (dk_at dksX2_findRows_2 6 rfl rfl)
theorem dX2_findRows_52 : decode cX2_findRows 52 = .ok (.getfield 320, 3) := dk_180 1 64 (dk_at dksX2_findRows_2 7 rfl rfl)
theorem dX2_findRows_55 : decode cX2_findRows 55 = .ok (.iload_n 3, 1) := dk_29 (dk_at dksX2_findRows_2 10 rfl rfl)
theorem dX2_findRows_56 : decode cX2_findRows 56 = .ok (.iaload, 1) := dk_46 (dk_at dksX2_findRows_2 11 rfl rfl)
theorem dX2_findRows_57 : decode cX2_findRows 57 = .ok (.aload_n 0, 1) := dk_42 (dk_at dksX2_findRows_2 12 rfl rfl)
theorem dX2_findRows_58 : decode cX2_findRows 58 = .ok (.getfield 320, 3) := dk_180 1 64 (dk_at dksX2_findRows_2 13 rfl rfl)
theorem dX2_findRows_61 : decode cX2_findRows 61 = .ok (.iload_n 3, 1) := dk_29 (dk_at dksX2_findRows_2 16 rfl rfl)
theorem dX2_findRows_62 : decode cX2_findRows 62 = .ok (.iconst 1, 1) := dk_4 (dk_at dksX2_findRows_2 17 rfl rfl)
theorem dX2_findRows_63 : decode cX2_findRows 63 = .ok (.iadd, 1) := dk_96 (dk_at dksX2_findRows_2 18 rfl rfl)
theorem dX2_findRows_64 : decode cX2_findRows 64 = .ok (.iaload, 1) := dk_46 (dk_at dksX2_findRows_2 19 rfl rfl)
theorem dX2_findRows_65 : decode cX2_findRows 65 = .ok (.if_icmp .ne 7, 3) := dk_160 0 7 (dk_at dksX2_findRows_2 20 rfl rfl)
theorem dX2_findRows_68 : decode cX2_findRows 68 = .ok (.iconst 1, 1) := dk_4 (dk_at dksX2_findRows_2 23 rfl rfl)
theorem dX2_findRows_69 : decode cX2_findRows 69 = .ok (.goto 4, 3) := dk_167 0 4 (dk_at dksX2_findRows_3 0 rfl rfl)
theorem dX2_findRows_72 : decode cX2_findRows 72 = .ok (.iconst 0, 1) := dk_3 (dk_at dksX2_findRows_3 3 rfl rfl)
theorem dX2_findRows_73 : decode cX2_findRows 73 = .ok (.istore 4, 2) := dk_54 4 (dk_at dksX2_findRows_3 4 rfl rfl)
theorem dX2_findRows_75 : decode cX2_findRows 75 = .ok (.aload_n 0, 1) := dk_42 (dk_at dksX2_findRows_3 6 rfl rfl)
theorem dX2_findRows_76 : decode cX2_findRows 76 = .ok (.getfield 320, 3) := dk_180 1 64 (dk_at dksX2_findRows_3 7 rfl rfl)
theorem dX2_findRows_79 : decode cX2_findRows 79 = .ok (.iload_n 3, 1) := dk_29 (dk_at dksX2_findRows_3 10 rfl rfl)
theorem dX2_findRows_80 : decode cX2_findRows 80 = .ok (.iaload, 1) := dk_46 (dk_at dksX2_findRows_3 11 rfl rfl)
theorem dX2_findRows_81 : decode cX2_findRows 81 = .ok (.istore 5, 2) := dk_54 5 (dk_at dksX2_findRows_3 12 rfl rfl)
theorem dX2_findRows_83 : decode cX2_findRows 83 = .ok (.iload 5, 2) := dk_21 5 (dk_at dksX2_findRows_3 14 rfl rfl)
theorem dX2_findRows_85 : decode cX2_findRows 85 = .ok (.aload_n 0, 1) := dk_42 (dk_at dksX2_findRows_3 16 rfl rfl)
theorem dX2_findRows_86 : decode cX2_findRows 86 = .ok (.getfield 320, 3) := dk_180 1 64 (dk_at dksX2_findRows_3 17 rfl rfl)
theorem dX2_findRows_89 : decode cX2_findRows 89 = .ok (.iload_n 3, 1) := dk_29 (dk_at dksX2_findRows_3 20 rfl rfl)
theorem dX2_findRows_90 : decode cX2_findRows 90 = .ok (.iconst 1, 1) := dk_4 (dk_at dksX2_findRows_3 21 rfl rfl)
theorem dX2_findRows_91 : decode cX2_findRows 91 = .ok (.iadd, 1) := dk_96 (dk_at dksX2_findRows_3 22 rfl rfl)
theorem dX2_findRows_92 : decode cX2_findRows 92 = .ok (.iaload, 1) := dk_46 (dk_at dksX2_findRows_3 23 rfl rfl)
theorem dX2_findRows_93 : decode cX2_findRows 93 = .ok (.if_icmp .ge 36, 3) := dk_162 0 36 (dk_at dksX2_findRows_4 0 rfl rfl)
theorem dX2_findRows_96 : decode cX2_findRows 96 = .ok (.iload 4, 2) := dk_21 4 (dk_at dksX2_findRows_4 3 rfl rfl)
theorem dX2_findRows_98 : decode cX2_findRows 98 = .ok (.ifCond .ne 18, 3) := dk_154 0 18 (dk_at dksX2_findRows_4 5 rfl rfl)
theorem dX2_findRows_101 : decode cX2_findRows 101 = .ok (.aload_n 0, 1) := dk_42 (dk_at dksX2_findRows_4 8 rfl rfl)
theorem dX2_findRows_102 : decode cX2_findRows 102 = .ok (.getfield 353, 3) := dk_180 1 97 (dk_at dksX2_findRows_4 9 rfl rfl)
theorem dX2_findRows_105 : decode cX2_findRows 105 = .ok (.aload_n 0, 1) := dk_42 (dk_at dksX2_findRows_4 12 rfl rfl)
theorem dX2_findRows_106 : decode cX2_findRows 106 = .ok (.getfield 323, 3) := dk_180 1 67 (dk_at dksX2_findRows_4 13 rfl rfl)
theorem dX2_findRows_109 : decode cX2_findRows 109 = .ok (.iload 5, 2) := dk_21 5 (dk_at dksX2_findRows_4 16 rfl rfl)
theorem dX2_findRows_111 : decode cX2_findRows 111 = .ok (.iaload, 1) := dk_46 (dk_at dksX2_findRows_4 18 rfl rfl)
theorem dX2_findRows_112 : decode cX2_findRows 112 = .ok (.baload, 1) := dk_51 (dk_at dksX2_findRows_4 19 rfl rfl)
theorem dX2_findRows_113 : decode cX2_findRows 113 = .ok (.ifCond .eq 7, 3) := dk_153 0 7 (dk_at dksX2_findRows_4 20 rfl rfl)
theorem dX2_findRows_116 : decode cX2_findRows 116 = .ok (.iconst 1, 1) := dk_4 (dk_at dksX2_findRows_4 23 rfl rfl)
theorem dX2_findRows_117 : decode cX2_findRows 117 = .ok (.goto 4, 3) := dk_167 0 4 (dk_at dksX2_findRows_5 0 rfl rfl)
theorem dX2_findRows_120 : decode cX2_findRows 120 = .ok (.iconst 0, 1) := dk_3 (dk_at dksX2_findRows_5 3 rfl rfl)
theorem dX2_findRows_121 : decode cX2_findRows 121 = .ok (.istore 4, 2) := dk_54 4 (dk_at dksX2_findRows_5 4 rfl rfl)
theorem dX2_findRows_123 : decode cX2_findRows 123 = .ok (.iinc 5 1, 3) := dk_132 5 1 (dk_at dksX2_findRows_5 6 rfl rfl)
theorem dX2_findRows_126 : decode cX2_findRows 126 = .ok (.goto (-43), 3) := dk_167 255 213 (dk_at dksX2_findRows_5 9 rfl rfl)
theorem dX2_findRows_129 : decode cX2_findRows 129 = .ok (.aload_n 0, 1) := dk_42 (dk_at dksX2_findRows_5 12 rfl rfl)
theorem dX2_findRows_130 : decode cX2_findRows 130 = .ok (.getfield 353, 3) := dk_180 1 97 (dk_at dksX2_findRows_5 13 rfl rfl)
theorem dX2_findRows_133 : decode cX2_findRows 133 = .ok (.iload_n 3, 1) := dk_29 (dk_at dksX2_findRows_5 16 rfl rfl)
theorem dX2_findRows_134 : decode cX2_findRows 134 = .ok (.baload, 1) := dk_51 (dk_at dksX2_findRows_5 17 rfl rfl)
theorem dX2_findRows_135 : decode cX2_findRows 135 = .ok (.ifCond .eq 17, 3) := dk_153 0 17 (dk_at dksX2_findRows_5 18 rfl rfl)
theorem dX2_findRows_138 : decode cX2_findRows 138 = .ok (.iload 4, 2) := dk_21 4 (dk_at dksX2_findRows_5 21 rfl rfl)
theorem dX2_findRows_140 : decode cX2_findRows 140 = .ok (.ifCond .ne 12, 3) := dk_154 0 12 (dk_at dksX2_findRows_6 0 rfl rfl)
theorem dX2_findRows_143 : decode cX2_findRows 143 = .ok (.aload_n 0, 1) := dk_42 (dk_at dksX2_findRows_6 3 rfl rfl)
theorem dX2_findRows_144 : decode cX2_findRows 144 = .ok (.getfield 353, 3) := dk_180 1 97 (dk_at dksX2_findRows_6 4 rfl rfl)
theorem dX2_findRows_147 : decode cX2_findRows 147 = .ok (.iload_n 3, 1) := dk_29 (dk_at dksX2_findRows_6 7 rfl rfl)
theorem dX2_findRows_148 : decode cX2_findRows 148 = .ok (.iconst 0, 1) := dk_3 (dk_at dksX2_findRows_6 8 rfl rfl)
theorem dX2_findRows_149 : decode cX2_findRows 149 = .ok (.bastore, 1) := dk_84 (dk_at dksX2_findRows_6 9 rfl rfl)
theorem dX2_findRows_150 : decode cX2_findRows 150 = .ok (.iconst 1, 1) := dk_4 (dk_at dksX2_findRows_6 10 rfl rfl)
theorem dX2_findRows_151 : decode cX2_findRows 151 = .ok (.istore_n 2, 1) := dk_61 (dk_at dksX2_findRows_6 11 rfl rfl)
theorem dX2_findRows_152 : decode cX2_findRows 152 = .ok (.iinc 3 1, 3) := dk_132 3 1 (dk_at dksX2_findRows_6 12 rfl rfl)
theorem dX2_findRows_155 : decode cX2_findRows 155 = .ok (.goto (-112), 3) := dk_167 255 144 (dk_at dksX2_findRows_6 15 rfl rfl)
theorem dX2_findRows_158 : decode cX2_findRows 158 = .ok (.goto (-123), 3) := dk_167 255 133 (dk_at dksX2_findRows_6 18 rfl rfl)
theorem dX2_findRows_161 : decode cX2_findRows 161 = .ok (.return_, 1) := dk_177 (dk_at dksX2_findRows_6 21 rfl rfl)
abbrev cX2_strategy : ByteArray := prog_4_method_176_code
def yX2_strategy : MethodName := ⟨RX2, "strategy", "(I)I"⟩
def dkwX2_strategy_6 : List UInt8 := [78, 42, 42, 180, 3, 202, 181, 3, 13, 42, 182, 4, 49, 172]
abbrev dktX2_strategy_6 : List UInt8 := dkwX2_strategy_6 ++ []
def dkwX2_strategy_5 : List UInt8 := [21, 5, 46, 79, 132, 5, 1, 167, 255, 232, 42, 21, 4, 181, 3, 4, 42, 7, 181, 3, 7, 21, 4, 172]
abbrev dktX2_strategy_5 : List UInt8 := dkwX2_strategy_5 ++ dktX2_strategy_6
def dkwX2_strategy_4 : List UInt8 := [181, 3, 13, 3, 54, 5, 21, 5, 21, 4, 162, 0, 23, 42, 180, 1, 49, 21, 5, 42, 180, 1, 37]
abbrev dktX2_strategy_4 : List UInt8 := dkwX2_strategy_4 ++ dktX2_strategy_5
def dkwX2_strategy_3 : List UInt8 := [180, 0, 250, 27, 46, 3, 184, 3, 220, 62, 42, 28, 29, 184, 4, 108, 54, 4, 42, 42, 180, 3, 202]
abbrev dktX2_strategy_3 : List UInt8 := dkwX2_strategy_3 ++ dktX2_strategy_4
def dkwX2_strategy_2 : List UInt8 := [42, 4, 42, 182, 1, 219, 182, 1, 178, 167, 0, 9, 78, 42, 182, 3, 74, 172, 42, 182, 4, 43, 42, 42]
abbrev dktX2_strategy_2 : List UInt8 := dkwX2_strategy_2 ++ dktX2_strategy_3
def dkwX2_strategy_1 : List UInt8 := [3, 181, 4, 68, 3, 61, 42, 16, 60, 181, 1, 216, 42, 184, 4, 94, 61, 42, 182, 1, 192, 154, 0, 12]
abbrev dktX2_strategy_1 : List UInt8 := dkwX2_strategy_1 ++ dktX2_strategy_2
def dkwX2_strategy_0 : List UInt8 := [42, 3, 181, 0, 1, 42, 27, 182, 3, 83, 153, 0, 5, 2, 172, 42, 182, 3, 65, 42, 182, 3, 68, 42]
abbrev dktX2_strategy_0 : List UInt8 := dkwX2_strategy_0 ++ dktX2_strategy_1
theorem dksX2_strategy_0 : cX2_strategy.data.toList.drop 0 = dktX2_strategy_0 := by decide +kernel
theorem dksX2_strategy_1 : cX2_strategy.data.toList.drop 24 = dktX2_strategy_1 := dk_seg dksX2_strategy_0 24 rfl rfl
theorem dksX2_strategy_2 : cX2_strategy.data.toList.drop 48 = dktX2_strategy_2 := dk_seg dksX2_strategy_1 24 rfl rfl
theorem dksX2_strategy_3 : cX2_strategy.data.toList.drop 72 = dktX2_strategy_3 := dk_seg dksX2_strategy_2 24 rfl rfl
theorem dksX2_strategy_4 : cX2_strategy.data.toList.drop 95 = dktX2_strategy_4 := dk_seg dksX2_strategy_3 23 rfl rfl
theorem dksX2_strategy_5 : cX2_strategy.data.toList.drop 118 = dktX2_strategy_5 := dk_seg dksX2_strategy_4 23 rfl rfl
theorem dksX2_strategy_6 : cX2_strategy.data.toList.drop 142 = dktX2_strategy_6 := dk_seg dksX2_strategy_5 24 rfl rfl
theorem dX2_strategy_0 : decode cX2_strategy 0 = .ok (.aload_n 0, 1) := dk_42 (dk_at dksX2_strategy_0 0 rfl rfl)
theorem dX2_strategy_1 : decode cX2_strategy 1 = .ok (.iconst 0, 1) := dk_3 (dk_at dksX2_strategy_0 1 rfl rfl)
theorem dX2_strategy_2 : decode cX2_strategy 2 = .ok (.putfield 1, 3) := dk_181 0 1 (dk_at dksX2_strategy_0 2 rfl rfl)
theorem dX2_strategy_5 : decode cX2_strategy 5 = .ok (.aload_n 0, 1) := dk_42 (dk_at dksX2_strategy_0 5 rfl rfl)
theorem dX2_strategy_6 : decode cX2_strategy 6 = .ok (.iload_n 1, 1) := dk_27 (dk_at dksX2_strategy_0 6 rfl rfl)
theorem dX2_strategy_7 : decode cX2_strategy 7 = .ok (.invokevirtual 851, 3) := dk_182 3 83 (dk_at dksX2_strategy_0 7 rfl rfl)
theorem dX2_strategy_10 : decode cX2_strategy 10 = .ok (.ifCond .eq 5, 3) := dk_153 0 5 (dk_at dksX2_strategy_0 10 rfl rfl)
theorem dX2_strategy_13 : decode cX2_strategy 13 = .ok (.iconst (-1), 1) := dk_2 (dk_at dksX2_strategy_0 13 rfl rfl)
theorem dX2_strategy_14 : decode cX2_strategy 14 = .ok (.ireturn, 1) := dk_172 (dk_at dksX2_strategy_0 14 rfl rfl)
theorem dX2_strategy_15 : decode cX2_strategy 15 = .ok (.aload_n 0, 1) := dk_42 (dk_at dksX2_strategy_0 15 rfl rfl)
theorem dX2_strategy_16 : decode cX2_strategy 16 = .ok (.invokevirtual 833, 3) := dk_182 3 65 (dk_at dksX2_strategy_0 16 rfl rfl)
theorem dX2_strategy_19 : decode cX2_strategy 19 = .ok (.aload_n 0, 1) := dk_42 (dk_at dksX2_strategy_0 19 rfl rfl)
theorem dX2_strategy_20 : decode cX2_strategy 20 = .ok (.invokevirtual 836, 3) := dk_182 3 68 (dk_at dksX2_strategy_0 20 rfl rfl)
theorem dX2_strategy_23 : decode cX2_strategy 23 = .ok (.aload_n 0, 1) := dk_42 (dk_at dksX2_strategy_0 23 rfl rfl)
theorem dX2_strategy_24 : decode cX2_strategy 24 = .ok (.iconst 0, 1) := dk_3 (dk_at dksX2_strategy_1 0 rfl rfl)
theorem dX2_strategy_25 : decode cX2_strategy 25 = .ok (.putfield 1092, 3) := dk_181 4 68 (dk_at dksX2_strategy_1 1 rfl rfl)
theorem dX2_strategy_28 : decode cX2_strategy 28 = .ok (.iconst 0, 1) := dk_3 (dk_at dksX2_strategy_1 4 rfl rfl)
theorem dX2_strategy_29 : decode cX2_strategy 29 = .ok (.istore_n 2, 1) := dk_61 (dk_at dksX2_strategy_1 5 rfl rfl)
theorem dX2_strategy_30 : decode cX2_strategy 30 = .ok (.aload_n 0, 1) := dk_42 (dk_at dksX2_strategy_1 6 rfl rfl)
theorem dX2_strategy_31 : decode cX2_strategy 31 = .ok (.bipush 60, 2) := dk_16 60 (dk_at dksX2_strategy_1 7 rfl rfl)
theorem dX2_strategy_33 : decode cX2_strategy 33 = .ok (.putfield 472, 3) := dk_181 1 216 (dk_at dksX2_strategy_1 9 rfl rfl)
theorem dX2_strategy_36 : decode cX2_strategy 36 = .ok (.aload_n 0, 1) := dk_42 (dk_at dksX2_strategy_1 12 rfl rfl)
theorem dX2_strategy_37 : decode cX2_strategy 37 = .ok (.invokestatic 1118, 3) := dk_184 4 94 (dk_at dksX2_strategy_1 13 rfl rfl)
theorem dX2_strategy_40 : decode cX2_strategy 40 = .ok (.istore_n 2, 1) := dk_61 (dk_at dksX2_strategy_1 16 rfl rfl)
theorem dX2_strategy_41 : decode cX2_strategy 41 = .ok (.aload_n 0, 1) := dk_42 (dk_at dksX2_strategy_1 17 rfl rfl)
theorem dX2_strategy_42 : decode cX2_strategy 42 = .ok (.invokevirtual 448, 3) := dk_182 1 192 (dk_at dksX2_strategy_1 18 rfl rfl)
theorem dX2_strategy_45 : decode cX2_strategy 45 = .ok (.ifCond .ne 12, 3) := dk_154 0 12 (dk_at dksX2_strategy_1 21 rfl rfl)
theorem dX2_strategy_48 : decode cX2_strategy 48 = .ok (.aload_n 0, 1) := dk_42 (dk_at dksX2_strategy_2 0 rfl rfl)
theorem dX2_strategy_49 : decode cX2_strategy 49 = .ok (.iconst 1, 1) := dk_4 (dk_at dksX2_strategy_2 1 rfl rfl)
theorem dX2_strategy_50 : decode cX2_strategy 50 = .ok (.aload_n 0, 1) := dk_42 (dk_at dksX2_strategy_2 2 rfl rfl)
theorem dX2_strategy_51 : decode cX2_strategy 51 = .ok (.invokevirtual 475, 3) := dk_182 1 219 (dk_at dksX2_strategy_2 3 rfl rfl)
theorem dX2_strategy_54 : decode cX2_strategy 54 = .ok (.invokevirtual 434, 3) := dk_182 1 178 (dk_at dksX2_strategy_2 6 rfl rfl)
theorem dX2_strategy_57 : decode cX2_strategy 57 = .ok (.goto 9, 3) := dk_167 0 9 (dk_at dksX2_strategy_2 9 rfl rfl)
theorem dX2_strategy_60 : decode cX2_strategy 60 = .ok (.astore_n 3, 1) := dk_78 (dk_at dksX2_strategy_2 12 rfl rfl)
theorem dX2_strategy_61 : decode cX2_strategy 61 = .ok (.aload_n 0, 1) := dk_42 (dk_at dksX2_strategy_2 13 rfl rfl)
theorem dX2_strategy_62 : decode cX2_strategy 62 = .ok (.invokevirtual 842, 3) := dk_182 3 74 (dk_at dksX2_strategy_2 14 rfl rfl)
theorem dX2_strategy_65 : decode cX2_strategy 65 = .ok (.ireturn, 1) := dk_172 (dk_at dksX2_strategy_2 17 rfl rfl)
theorem dX2_strategy_66 : decode cX2_strategy 66 = .ok (.aload_n 0, 1) := dk_42 (dk_at dksX2_strategy_2 18 rfl rfl)
theorem dX2_strategy_67 : decode cX2_strategy 67 = .ok (.invokevirtual 1067, 3) := dk_182 4 43 (dk_at dksX2_strategy_2 19 rfl rfl)
theorem dX2_strategy_70 : decode cX2_strategy 70 = .ok (.aload_n 0, 1) := dk_42 (dk_at dksX2_strategy_2 22 rfl rfl)
theorem dX2_strategy_71 : decode cX2_strategy 71 = .ok (.aload_n 0, 1) := dk_42 (dk_at dksX2_strategy_2 23 rfl rfl)
theorem dX2_strategy_72 : decode cX2_strategy 72 = .ok (.getfield 250, 3) := dk_180 0 250 (dk_at dksX2_strategy_3 0 rfl rfl)
theorem dX2_strategy_75 : decode cX2_strategy 75 = .ok (.iload_n 1, 1) := dk_27 (dk_at dksX2_strategy_3 3 rfl rfl)
theorem dX2_strategy_76 : decode cX2_strategy 76 = .ok (.iaload, 1) := dk_46 (dk_at dksX2_strategy_3 4 rfl rfl)
theorem dX2_strategy_77 : decode cX2_strategy 77 = .ok (.iconst 0, 1) := dk_3 (dk_at dksX2_strategy_3 5 rfl rfl)
theorem dX2_strategy_78 : decode cX2_strategy 78 = .ok (.invokestatic 988, 3) := dk_184 3 220 (dk_at dksX2_strategy_3 6 rfl rfl)
theorem dX2_strategy_81 : decode cX2_strategy 81 = .ok (.istore_n 3, 1) := dk_62 (dk_at dksX2_strategy_3 9 rfl rfl)
theorem dX2_strategy_82 : decode cX2_strategy 82 = .ok (.aload_n 0, 1) := dk_42 (dk_at dksX2_strategy_3 10 rfl rfl)
theorem dX2_strategy_83 : decode cX2_strategy 83 = .ok (.iload_n 2, 1) := dk_28 (dk_at dksX2_strategy_3 11 rfl rfl)
theorem dX2_strategy_84 : decode cX2_strategy 84 = .ok (.iload_n 3, 1) := dk_29 (dk_at dksX2_strategy_3 12 rfl rfl)
theorem dX2_strategy_85 : decode cX2_strategy 85 = .ok (.invokestatic 1132, 3) := dk_184 4 108 (dk_at dksX2_strategy_3 13 rfl rfl)
theorem dX2_strategy_88 : decode cX2_strategy 88 = .ok (.istore 4, 2) := dk_54 4 (dk_at dksX2_strategy_3 16 rfl rfl)
theorem dX2_strategy_90 : decode cX2_strategy 90 = .ok (.aload_n 0, 1) := dk_42 (dk_at dksX2_strategy_3 18 rfl rfl)
theorem dX2_strategy_91 : decode cX2_strategy 91 = .ok (.aload_n 0, 1) := dk_42 (dk_at dksX2_strategy_3 19 rfl rfl)
theorem dX2_strategy_92 : decode cX2_strategy 92 = .ok (.getfield 970, 3) := dk_180 3 202 (dk_at dksX2_strategy_3 20 rfl rfl)
theorem dX2_strategy_95 : decode cX2_strategy 95 = .ok (.putfield 781, 3) := dk_181 3 13 (dk_at dksX2_strategy_4 0 rfl rfl)
theorem dX2_strategy_98 : decode cX2_strategy 98 = .ok (.iconst 0, 1) := dk_3 (dk_at dksX2_strategy_4 3 rfl rfl)
theorem dX2_strategy_99 : decode cX2_strategy 99 = .ok (.istore 5, 2) := dk_54 5 (dk_at dksX2_strategy_4 4 rfl rfl)
theorem dX2_strategy_101 : decode cX2_strategy 101 = .ok (.iload 5, 2) := dk_21 5 (dk_at dksX2_strategy_4 6 rfl rfl)
theorem dX2_strategy_103 : decode cX2_strategy 103 = .ok (.iload 4, 2) := dk_21 4 (dk_at dksX2_strategy_4 8 rfl rfl)
theorem dX2_strategy_105 : decode cX2_strategy 105 = .ok (.if_icmp .ge 23, 3) := dk_162 0 23 (dk_at dksX2_strategy_4 10 rfl rfl)
theorem dX2_strategy_108 : decode cX2_strategy 108 = .ok (.aload_n 0, 1) := dk_42 (dk_at dksX2_strategy_4 13 rfl rfl)
theorem dX2_strategy_109 : decode cX2_strategy 109 = .ok (.getfield 305, 3) := dk_180 1 49 (dk_at dksX2_strategy_4 14 rfl rfl)
theorem dX2_strategy_112 : decode cX2_strategy 112 = .ok (.iload 5, 2) := dk_21 5 (dk_at dksX2_strategy_4 17 rfl rfl)
theorem dX2_strategy_114 : decode cX2_strategy 114 = .ok (.aload_n 0, 1) := dk_42 (dk_at dksX2_strategy_4 19 rfl rfl)
theorem dX2_strategy_115 : decode cX2_strategy 115 = .ok (.getfield 293, 3) := dk_180 1 37 (dk_at dksX2_strategy_4 20 rfl rfl)
theorem dX2_strategy_118 : decode cX2_strategy 118 = .ok (.iload 5, 2) := dk_21 5 (dk_at dksX2_strategy_5 0 rfl rfl)
theorem dX2_strategy_120 : decode cX2_strategy 120 = .ok (.iaload, 1) := dk_46 (dk_at dksX2_strategy_5 2 rfl rfl)
theorem dX2_strategy_121 : decode cX2_strategy 121 = .ok (.iastore, 1) := dk_79 (dk_at dksX2_strategy_5 3 rfl rfl)
theorem dX2_strategy_122 : decode cX2_strategy 122 = .ok (.iinc 5 1, 3) := dk_132 5 1 (dk_at dksX2_strategy_5 4 rfl rfl)
theorem dX2_strategy_125 : decode cX2_strategy 125 = .ok (.goto (-24), 3) := dk_167 255 232 (dk_at dksX2_strategy_5 7 rfl rfl)
theorem dX2_strategy_128 : decode cX2_strategy 128 = .ok (.aload_n 0, 1) := dk_42 (dk_at dksX2_strategy_5 10 rfl rfl)
theorem dX2_strategy_129 : decode cX2_strategy 129 = .ok (.iload 4, 2) := dk_21 4 (dk_at dksX2_strategy_5 11 rfl rfl)
theorem dX2_strategy_131 : decode cX2_strategy 131 = .ok (.putfield 772, 3) := dk_181 3 4 (dk_at dksX2_strategy_5 13 rfl rfl)
theorem dX2_strategy_134 : decode cX2_strategy 134 = .ok (.aload_n 0, 1) := dk_42 (dk_at dksX2_strategy_5 16 rfl rfl)
theorem dX2_strategy_135 : decode cX2_strategy 135 = .ok (.iconst 4, 1) := dk_7 (dk_at dksX2_strategy_5 17 rfl rfl)
theorem dX2_strategy_136 : decode cX2_strategy 136 = .ok (.putfield 775, 3) := dk_181 3 7 (dk_at dksX2_strategy_5 18 rfl rfl)
theorem dX2_strategy_139 : decode cX2_strategy 139 = .ok (.iload 4, 2) := dk_21 4 (dk_at dksX2_strategy_5 21 rfl rfl)
theorem dX2_strategy_141 : decode cX2_strategy 141 = .ok (.ireturn, 1) := dk_172 (dk_at dksX2_strategy_5 23 rfl rfl)
theorem dX2_strategy_142 : decode cX2_strategy 142 = .ok (.astore_n 3, 1) := dk_78 (dk_at dksX2_strategy_6 0 rfl rfl)
theorem dX2_strategy_143 : decode cX2_strategy 143 = .ok (.aload_n 0, 1) := dk_42 (dk_at dksX2_strategy_6 1 rfl rfl)
theorem dX2_strategy_144 : decode cX2_strategy 144 = .ok (.aload_n 0, 1) := dk_42 (dk_at dksX2_strategy_6 2 rfl rfl)
theorem dX2_strategy_145 : decode cX2_strategy 145 = .ok (.getfield 970, 3) := dk_180 3 202 (dk_at dksX2_strategy_6 3 rfl rfl)
theorem dX2_strategy_148 : decode cX2_strategy 148 = .ok (.putfield 781, 3) := dk_181 3 13 (dk_at dksX2_strategy_6 6 rfl rfl)
theorem dX2_strategy_151 : decode cX2_strategy 151 = .ok (.aload_n 0, 1) := dk_42 (dk_at dksX2_strategy_6 9 rfl rfl)
theorem dX2_strategy_152 : decode cX2_strategy 152 = .ok (.invokevirtual 1073, 3) := dk_182 4 49 (dk_at dksX2_strategy_6 10 rfl rfl)
theorem dX2_strategy_155 : decode cX2_strategy 155 = .ok (.ireturn, 1) := dk_172 (dk_at dksX2_strategy_6 13 rfl rfl)
abbrev cX2_readOr : ByteArray := prog_4_method_168_code
def yX2_readOr : MethodName := ⟨RX2, "readOr", "(LRewriteHouseModel;)I"⟩
def dkwX2_readOr_1 : List UInt8 := [184, 4, 71, 182, 4, 77, 60, 167, 255, 231, 27, 172]
abbrev dktX2_readOr_1 : List UInt8 := dkwX2_readOr_1 ++ []
def dkwX2_readOr_0 : List UInt8 := [42, 184, 4, 71, 60, 42, 19, 4, 75, 182, 1, 222, 153, 0, 21, 42, 182, 1, 226, 42, 7, 27, 42]
abbrev dktX2_readOr_0 : List UInt8 := dkwX2_readOr_0 ++ dktX2_readOr_1
theorem dksX2_readOr_0 : cX2_readOr.data.toList.drop 0 = dktX2_readOr_0 := by decide +kernel
theorem dksX2_readOr_1 : cX2_readOr.data.toList.drop 23 = dktX2_readOr_1 := dk_seg dksX2_readOr_0 23 rfl rfl
theorem dX2_readOr_0 : decode cX2_readOr 0 = .ok (.aload_n 0, 1) := dk_42 (dk_at dksX2_readOr_0 0 rfl rfl)
theorem dX2_readOr_1 : decode cX2_readOr 1 = .ok (.invokestatic 1095, 3) := dk_184 4 71 (dk_at dksX2_readOr_0 1 rfl rfl)
theorem dX2_readOr_4 : decode cX2_readOr 4 = .ok (.istore_n 1, 1) := dk_60 (dk_at dksX2_readOr_0 4 rfl rfl)
theorem dX2_readOr_5 : decode cX2_readOr 5 = .ok (.aload_n 0, 1) := dk_42 (dk_at dksX2_readOr_0 5 rfl rfl)
theorem dX2_readOr_6 : decode cX2_readOr 6 = .ok (.ldc_w 1099, 3) := dk_19 4 75 (dk_at dksX2_readOr_0 6 rfl rfl)
theorem dX2_readOr_9 : decode cX2_readOr 9 = .ok (.invokevirtual 478, 3) := dk_182 1 222 (dk_at dksX2_readOr_0 9 rfl rfl)
theorem dX2_readOr_12 : decode cX2_readOr 12 = .ok (.ifCond .eq 21, 3) := dk_153 0 21 (dk_at dksX2_readOr_0 12 rfl rfl)
theorem dX2_readOr_15 : decode cX2_readOr 15 = .ok (.aload_n 0, 1) := dk_42 (dk_at dksX2_readOr_0 15 rfl rfl)
theorem dX2_readOr_16 : decode cX2_readOr 16 = .ok (.invokevirtual 482, 3) := dk_182 1 226 (dk_at dksX2_readOr_0 16 rfl rfl)
theorem dX2_readOr_19 : decode cX2_readOr 19 = .ok (.aload_n 0, 1) := dk_42 (dk_at dksX2_readOr_0 19 rfl rfl)
theorem dX2_readOr_20 : decode cX2_readOr 20 = .ok (.iconst 4, 1) := dk_7 (dk_at dksX2_readOr_0 20 rfl rfl)
theorem dX2_readOr_21 : decode cX2_readOr 21 = .ok (.iload_n 1, 1) := dk_27 (dk_at dksX2_readOr_0 21 rfl rfl)
theorem dX2_readOr_22 : decode cX2_readOr 22 = .ok (.aload_n 0, 1) := dk_42 (dk_at dksX2_readOr_0 22 rfl rfl)
theorem dX2_readOr_23 : decode cX2_readOr 23 = .ok (.invokestatic 1095, 3) := dk_184 4 71 (dk_at dksX2_readOr_1 0 rfl rfl)
theorem dX2_readOr_26 : decode cX2_readOr 26 = .ok (.invokevirtual 1101, 3) := dk_182 4 77 (dk_at dksX2_readOr_1 3 rfl rfl)
theorem dX2_readOr_29 : decode cX2_readOr 29 = .ok (.istore_n 1, 1) := dk_60 (dk_at dksX2_readOr_1 6 rfl rfl)
theorem dX2_readOr_30 : decode cX2_readOr 30 = .ok (.goto (-25), 3) := dk_167 255 231 (dk_at dksX2_readOr_1 7 rfl rfl)
theorem dX2_readOr_33 : decode cX2_readOr 33 = .ok (.iload_n 1, 1) := dk_27 (dk_at dksX2_readOr_1 10 rfl rfl)
theorem dX2_readOr_34 : decode cX2_readOr 34 = .ok (.ireturn, 1) := dk_172 (dk_at dksX2_readOr_1 11 rfl rfl)
abbrev cX2_readThen : ByteArray := prog_4_method_169_code
def yX2_readThen : MethodName := ⟨RX2, "readThen", "(LRewriteHouseModel;)I"⟩
def dkwX2_readThen_1 : List UInt8 := [184, 4, 80, 182, 4, 77, 60, 167, 255, 231, 27, 172]
abbrev dktX2_readThen_1 : List UInt8 := dkwX2_readThen_1 ++ []
def dkwX2_readThen_0 : List UInt8 := [42, 184, 4, 80, 60, 42, 19, 4, 83, 182, 1, 222, 153, 0, 21, 42, 182, 1, 226, 42, 8, 27, 42]
abbrev dktX2_readThen_0 : List UInt8 := dkwX2_readThen_0 ++ dktX2_readThen_1
theorem dksX2_readThen_0 : cX2_readThen.data.toList.drop 0 = dktX2_readThen_0 := by decide +kernel
theorem dksX2_readThen_1 : cX2_readThen.data.toList.drop 23 = dktX2_readThen_1 := dk_seg dksX2_readThen_0 23 rfl rfl
theorem dX2_readThen_0 : decode cX2_readThen 0 = .ok (.aload_n 0, 1) := dk_42 (dk_at dksX2_readThen_0 0 rfl rfl)
theorem dX2_readThen_1 : decode cX2_readThen 1 = .ok (.invokestatic 1104, 3) := dk_184 4 80 (dk_at dksX2_readThen_0 1 rfl rfl)
theorem dX2_readThen_4 : decode cX2_readThen 4 = .ok (.istore_n 1, 1) := dk_60 (dk_at dksX2_readThen_0 4 rfl rfl)
theorem dX2_readThen_5 : decode cX2_readThen 5 = .ok (.aload_n 0, 1) := dk_42 (dk_at dksX2_readThen_0 5 rfl rfl)
theorem dX2_readThen_6 : decode cX2_readThen 6 = .ok (.ldc_w 1107, 3) := dk_19 4 83 (dk_at dksX2_readThen_0 6 rfl rfl)
theorem dX2_readThen_9 : decode cX2_readThen 9 = .ok (.invokevirtual 478, 3) := dk_182 1 222 (dk_at dksX2_readThen_0 9 rfl rfl)
theorem dX2_readThen_12 : decode cX2_readThen 12 = .ok (.ifCond .eq 21, 3) := dk_153 0 21 (dk_at dksX2_readThen_0 12 rfl rfl)
theorem dX2_readThen_15 : decode cX2_readThen 15 = .ok (.aload_n 0, 1) := dk_42 (dk_at dksX2_readThen_0 15 rfl rfl)
theorem dX2_readThen_16 : decode cX2_readThen 16 = .ok (.invokevirtual 482, 3) := dk_182 1 226 (dk_at dksX2_readThen_0 16 rfl rfl)
theorem dX2_readThen_19 : decode cX2_readThen 19 = .ok (.aload_n 0, 1) := dk_42 (dk_at dksX2_readThen_0 19 rfl rfl)
theorem dX2_readThen_20 : decode cX2_readThen 20 = .ok (.iconst 5, 1) := dk_8 (dk_at dksX2_readThen_0 20 rfl rfl)
theorem dX2_readThen_21 : decode cX2_readThen 21 = .ok (.iload_n 1, 1) := dk_27 (dk_at dksX2_readThen_0 21 rfl rfl)
theorem dX2_readThen_22 : decode cX2_readThen 22 = .ok (.aload_n 0, 1) := dk_42 (dk_at dksX2_readThen_0 22 rfl rfl)
theorem dX2_readThen_23 : decode cX2_readThen 23 = .ok (.invokestatic 1104, 3) := dk_184 4 80 (dk_at dksX2_readThen_1 0 rfl rfl)
theorem dX2_readThen_26 : decode cX2_readThen 26 = .ok (.invokevirtual 1101, 3) := dk_182 4 77 (dk_at dksX2_readThen_1 3 rfl rfl)
theorem dX2_readThen_29 : decode cX2_readThen 29 = .ok (.istore_n 1, 1) := dk_60 (dk_at dksX2_readThen_1 6 rfl rfl)
theorem dX2_readThen_30 : decode cX2_readThen 30 = .ok (.goto (-25), 3) := dk_167 255 231 (dk_at dksX2_readThen_1 7 rfl rfl)
theorem dX2_readThen_33 : decode cX2_readThen 33 = .ok (.iload_n 1, 1) := dk_27 (dk_at dksX2_readThen_1 10 rfl rfl)
theorem dX2_readThen_34 : decode cX2_readThen 34 = .ok (.ireturn, 1) := dk_172 (dk_at dksX2_readThen_1 11 rfl rfl)
abbrev cX2_readMany : ByteArray := prog_4_method_170_code
def yX2_readMany : MethodName := ⟨RX2, "readMany", "(LRewriteHouseModel;)I"⟩
def dkwX2_readMany_2 : List UInt8 := [182, 4, 77, 60, 42, 182, 1, 226, 167, 255, 208, 27, 172]
abbrev dktX2_readMany_2 : List UInt8 := dkwX2_readMany_2 ++ []
def dkwX2_readMany_1 : List UInt8 := [153, 0, 34, 42, 42, 19, 4, 88, 182, 1, 222, 153, 0, 8, 16, 6, 167, 0, 5, 16, 7, 27, 3]
abbrev dktX2_readMany_1 : List UInt8 := dkwX2_readMany_1 ++ dktX2_readMany_2
def dkwX2_readMany_0 : List UInt8 := [42, 184, 4, 85, 60, 42, 19, 4, 88, 182, 1, 222, 154, 0, 13, 42, 19, 4, 90, 182, 1, 222]
abbrev dktX2_readMany_0 : List UInt8 := dkwX2_readMany_0 ++ dktX2_readMany_1
theorem dksX2_readMany_0 : cX2_readMany.data.toList.drop 0 = dktX2_readMany_0 := by decide +kernel
theorem dksX2_readMany_1 : cX2_readMany.data.toList.drop 22 = dktX2_readMany_1 := dk_seg dksX2_readMany_0 22 rfl rfl
theorem dksX2_readMany_2 : cX2_readMany.data.toList.drop 45 = dktX2_readMany_2 := dk_seg dksX2_readMany_1 23 rfl rfl
theorem dX2_readMany_0 : decode cX2_readMany 0 = .ok (.aload_n 0, 1) := dk_42 (dk_at dksX2_readMany_0 0 rfl rfl)
theorem dX2_readMany_1 : decode cX2_readMany 1 = .ok (.invokestatic 1109, 3) := dk_184 4 85 (dk_at dksX2_readMany_0 1 rfl rfl)
theorem dX2_readMany_4 : decode cX2_readMany 4 = .ok (.istore_n 1, 1) := dk_60 (dk_at dksX2_readMany_0 4 rfl rfl)
theorem dX2_readMany_5 : decode cX2_readMany 5 = .ok (.aload_n 0, 1) := dk_42 (dk_at dksX2_readMany_0 5 rfl rfl)
theorem dX2_readMany_6 : decode cX2_readMany 6 = .ok (.ldc_w 1112, 3) := dk_19 4 88 (dk_at dksX2_readMany_0 6 rfl rfl)
theorem dX2_readMany_9 : decode cX2_readMany 9 = .ok (.invokevirtual 478, 3) := dk_182 1 222 (dk_at dksX2_readMany_0 9 rfl rfl)
theorem dX2_readMany_12 : decode cX2_readMany 12 = .ok (.ifCond .ne 13, 3) := dk_154 0 13 (dk_at dksX2_readMany_0 12 rfl rfl)
theorem dX2_readMany_15 : decode cX2_readMany 15 = .ok (.aload_n 0, 1) := dk_42 (dk_at dksX2_readMany_0 15 rfl rfl)
theorem dX2_readMany_16 : decode cX2_readMany 16 = .ok (.ldc_w 1114, 3) := dk_19 4 90 (dk_at dksX2_readMany_0 16 rfl rfl)
theorem dX2_readMany_19 : decode cX2_readMany 19 = .ok (.invokevirtual 478, 3) := dk_182 1 222 (dk_at dksX2_readMany_0 19 rfl rfl)
theorem dX2_readMany_22 : decode cX2_readMany 22 = .ok (.ifCond .eq 34, 3) := dk_153 0 34 (dk_at dksX2_readMany_1 0 rfl rfl)
theorem dX2_readMany_25 : decode cX2_readMany 25 = .ok (.aload_n 0, 1) := dk_42 (dk_at dksX2_readMany_1 3 rfl rfl)
theorem dX2_readMany_26 : decode cX2_readMany 26 = .ok (.aload_n 0, 1) := dk_42 (dk_at dksX2_readMany_1 4 rfl rfl)
theorem dX2_readMany_27 : decode cX2_readMany 27 = .ok (.ldc_w 1112, 3) := dk_19 4 88 (dk_at dksX2_readMany_1 5 rfl rfl)
theorem dX2_readMany_30 : decode cX2_readMany 30 = .ok (.invokevirtual 478, 3) := dk_182 1 222 (dk_at dksX2_readMany_1 8 rfl rfl)
theorem dX2_readMany_33 : decode cX2_readMany 33 = .ok (.ifCond .eq 8, 3) := dk_153 0 8 (dk_at dksX2_readMany_1 11 rfl rfl)
theorem dX2_readMany_36 : decode cX2_readMany 36 = .ok (.bipush 6, 2) := dk_16 6 (dk_at dksX2_readMany_1 14 rfl rfl)
theorem dX2_readMany_38 : decode cX2_readMany 38 = .ok (.goto 5, 3) := dk_167 0 5 (dk_at dksX2_readMany_1 16 rfl rfl)
theorem dX2_readMany_41 : decode cX2_readMany 41 = .ok (.bipush 7, 2) := dk_16 7 (dk_at dksX2_readMany_1 19 rfl rfl)
theorem dX2_readMany_43 : decode cX2_readMany 43 = .ok (.iload_n 1, 1) := dk_27 (dk_at dksX2_readMany_1 21 rfl rfl)
theorem dX2_readMany_44 : decode cX2_readMany 44 = .ok (.iconst 0, 1) := dk_3 (dk_at dksX2_readMany_1 22 rfl rfl)
theorem dX2_readMany_45 : decode cX2_readMany 45 = .ok (.invokevirtual 1101, 3) := dk_182 4 77 (dk_at dksX2_readMany_2 0 rfl rfl)
theorem dX2_readMany_48 : decode cX2_readMany 48 = .ok (.istore_n 1, 1) := dk_60 (dk_at dksX2_readMany_2 3 rfl rfl)
theorem dX2_readMany_49 : decode cX2_readMany 49 = .ok (.aload_n 0, 1) := dk_42 (dk_at dksX2_readMany_2 4 rfl rfl)
theorem dX2_readMany_50 : decode cX2_readMany 50 = .ok (.invokevirtual 482, 3) := dk_182 1 226 (dk_at dksX2_readMany_2 5 rfl rfl)
theorem dX2_readMany_53 : decode cX2_readMany 53 = .ok (.goto (-48), 3) := dk_167 255 208 (dk_at dksX2_readMany_2 8 rfl rfl)
theorem dX2_readMany_56 : decode cX2_readMany 56 = .ok (.iload_n 1, 1) := dk_27 (dk_at dksX2_readMany_2 11 rfl rfl)
theorem dX2_readMany_57 : decode cX2_readMany 57 = .ok (.ireturn, 1) := dk_172 (dk_at dksX2_readMany_2 12 rfl rfl)
abbrev cX2_readOne : ByteArray := prog_4_method_171_code
def yX2_readOne : MethodName := ⟨RX2, "readOne", "(LRewriteHouseModel;)I"⟩
def dkwX2_readOne_11 : List UInt8 := [182, 1, 219, 182, 1, 178, 42, 182, 1, 226, 42, 6, 27, 3, 182, 4, 77, 172]
abbrev dktX2_readOne_11 : List UInt8 := dkwX2_readOne_11 ++ []
def dkwX2_readOne_10 : List UInt8 := [27, 160, 0, 7, 4, 167, 0, 4, 3, 61, 132, 3, 1, 167, 255, 221, 28, 154, 0, 12, 42, 4, 42]
abbrev dktX2_readOne_10 : List UInt8 := dkwX2_readOne_10 ++ dktX2_readOne_11
def dkwX2_readOne_9 : List UInt8 := [3, 62, 29, 42, 180, 2, 3, 162, 0, 33, 28, 154, 0, 17, 27, 155, 0, 17, 42, 180, 0, 247, 29, 46]
abbrev dktX2_readOne_9 : List UInt8 := dkwX2_readOne_9 ++ dktX2_readOne_10
def dkwX2_readOne_8 : List UInt8 := [42, 180, 0, 33, 42, 180, 1, 160, 46, 42, 180, 0, 37, 42, 180, 1, 160, 46, 182, 1, 235, 60, 3, 61]
abbrev dktX2_readOne_8 : List UInt8 := dkwX2_readOne_8 ++ dktX2_readOne_9
def dkwX2_readOne_7 : List UInt8 := [27, 3, 3, 182, 4, 77, 172, 42, 182, 1, 192, 153, 0, 12, 42, 4, 42, 182, 1, 219, 182, 1, 178, 42]
abbrev dktX2_readOne_7 : List UInt8 := dkwX2_readOne_7 ++ dktX2_readOne_8
def dkwX2_readOne_6 : List UInt8 := [167, 0, 18, 42, 19, 4, 105, 182, 1, 222, 153, 0, 7, 4, 167, 0, 4, 5, 60, 42, 182, 1, 226, 42]
abbrev dktX2_readOne_6 : List UInt8 := dkwX2_readOne_6 ++ dktX2_readOne_7
def dkwX2_readOne_5 : List UInt8 := [154, 0, 13, 42, 19, 4, 106, 182, 1, 222, 153, 0, 45, 42, 19, 4, 103, 182, 1, 222, 153, 0, 7, 3]
abbrev dktX2_readOne_5 : List UInt8 := dkwX2_readOne_5 ++ dktX2_readOne_6
def dkwX2_readOne_4 : List UInt8 := [28, 3, 182, 4, 77, 172, 42, 19, 4, 103, 182, 1, 222, 154, 0, 23, 42, 19, 4, 105, 182, 1, 222]
abbrev dktX2_readOne_4 : List UInt8 := dkwX2_readOne_4 ++ dktX2_readOne_5
def dkwX2_readOne_3 : List UInt8 := [182, 1, 226, 42, 19, 4, 92, 182, 1, 246, 42, 184, 4, 94, 61, 42, 19, 4, 97, 182, 1, 246, 42, 27]
abbrev dktX2_readOne_3 : List UInt8 := dkwX2_readOne_3 ++ dktX2_readOne_4
def dkwX2_readOne_2 : List UInt8 := [153, 0, 52, 42, 19, 4, 99, 182, 1, 222, 153, 0, 8, 16, 8, 167, 0, 5, 16, 9, 60, 42]
abbrev dktX2_readOne_2 : List UInt8 := dkwX2_readOne_2 ++ dktX2_readOne_3
def dkwX2_readOne_1 : List UInt8 := [182, 1, 246, 27, 172, 42, 19, 4, 99, 182, 1, 222, 154, 0, 13, 42, 19, 4, 101, 182, 1, 222]
abbrev dktX2_readOne_1 : List UInt8 := dkwX2_readOne_1 ++ dktX2_readOne_2
def dkwX2_readOne_0 : List UInt8 := [42, 19, 4, 92, 182, 1, 222, 153, 0, 21, 42, 182, 1, 226, 42, 184, 4, 94, 60, 42, 19, 4, 97]
abbrev dktX2_readOne_0 : List UInt8 := dkwX2_readOne_0 ++ dktX2_readOne_1
theorem dksX2_readOne_0 : cX2_readOne.data.toList.drop 0 = dktX2_readOne_0 := by decide +kernel
theorem dksX2_readOne_1 : cX2_readOne.data.toList.drop 23 = dktX2_readOne_1 := dk_seg dksX2_readOne_0 23 rfl rfl
theorem dksX2_readOne_2 : cX2_readOne.data.toList.drop 45 = dktX2_readOne_2 := dk_seg dksX2_readOne_1 22 rfl rfl
theorem dksX2_readOne_3 : cX2_readOne.data.toList.drop 67 = dktX2_readOne_3 := dk_seg dksX2_readOne_2 22 rfl rfl
theorem dksX2_readOne_4 : cX2_readOne.data.toList.drop 91 = dktX2_readOne_4 := dk_seg dksX2_readOne_3 24 rfl rfl
theorem dksX2_readOne_5 : cX2_readOne.data.toList.drop 114 = dktX2_readOne_5 := dk_seg dksX2_readOne_4 23 rfl rfl
theorem dksX2_readOne_6 : cX2_readOne.data.toList.drop 138 = dktX2_readOne_6 := dk_seg dksX2_readOne_5 24 rfl rfl
theorem dksX2_readOne_7 : cX2_readOne.data.toList.drop 162 = dktX2_readOne_7 := dk_seg dksX2_readOne_6 24 rfl rfl
theorem dksX2_readOne_8 : cX2_readOne.data.toList.drop 186 = dktX2_readOne_8 := dk_seg dksX2_readOne_7 24 rfl rfl
theorem dksX2_readOne_9 : cX2_readOne.data.toList.drop 210 = dktX2_readOne_9 := dk_seg dksX2_readOne_8 24 rfl rfl
theorem dksX2_readOne_10 : cX2_readOne.data.toList.drop 234 = dktX2_readOne_10 := dk_seg dksX2_readOne_9 24 rfl rfl
theorem dksX2_readOne_11 : cX2_readOne.data.toList.drop 257 = dktX2_readOne_11 := dk_seg dksX2_readOne_10 23 rfl rfl
theorem dX2_readOne_0 : decode cX2_readOne 0 = .ok (.aload_n 0, 1) := dk_42 (dk_at dksX2_readOne_0 0 rfl rfl)
theorem dX2_readOne_1 : decode cX2_readOne 1 = .ok (.ldc_w 1116, 3) := dk_19 4 92 (dk_at dksX2_readOne_0 1 rfl rfl)
theorem dX2_readOne_4 : decode cX2_readOne 4 = .ok (.invokevirtual 478, 3) := dk_182 1 222 (dk_at dksX2_readOne_0 4 rfl rfl)
theorem dX2_readOne_7 : decode cX2_readOne 7 = .ok (.ifCond .eq 21, 3) := dk_153 0 21 (dk_at dksX2_readOne_0 7 rfl rfl)
theorem dX2_readOne_10 : decode cX2_readOne 10 = .ok (.aload_n 0, 1) := dk_42 (dk_at dksX2_readOne_0 10 rfl rfl)
theorem dX2_readOne_11 : decode cX2_readOne 11 = .ok (.invokevirtual 482, 3) := dk_182 1 226 (dk_at dksX2_readOne_0 11 rfl rfl)
theorem dX2_readOne_14 : decode cX2_readOne 14 = .ok (.aload_n 0, 1) := dk_42 (dk_at dksX2_readOne_0 14 rfl rfl)
theorem dX2_readOne_15 : decode cX2_readOne 15 = .ok (.invokestatic 1118, 3) := dk_184 4 94 (dk_at dksX2_readOne_0 15 rfl rfl)
theorem dX2_readOne_18 : decode cX2_readOne 18 = .ok (.istore_n 1, 1) := dk_60 (dk_at dksX2_readOne_0 18 rfl rfl)
theorem dX2_readOne_19 : decode cX2_readOne 19 = .ok (.aload_n 0, 1) := dk_42 (dk_at dksX2_readOne_0 19 rfl rfl)
theorem dX2_readOne_20 : decode cX2_readOne 20 = .ok (.ldc_w 1121, 3) := dk_19 4 97 (dk_at dksX2_readOne_0 20 rfl rfl)
theorem dX2_readOne_23 : decode cX2_readOne 23 = .ok (.invokevirtual 502, 3) := dk_182 1 246 (dk_at dksX2_readOne_1 0 rfl rfl)
theorem dX2_readOne_26 : decode cX2_readOne 26 = .ok (.iload_n 1, 1) := dk_27 (dk_at dksX2_readOne_1 3 rfl rfl)
theorem dX2_readOne_27 : decode cX2_readOne 27 = .ok (.ireturn, 1) := dk_172 (dk_at dksX2_readOne_1 4 rfl rfl)
theorem dX2_readOne_28 : decode cX2_readOne 28 = .ok (.aload_n 0, 1) := dk_42 (dk_at dksX2_readOne_1 5 rfl rfl)
theorem dX2_readOne_29 : decode cX2_readOne 29 = .ok (.ldc_w 1123, 3) := dk_19 4 99 (dk_at dksX2_readOne_1 6 rfl rfl)
theorem dX2_readOne_32 : decode cX2_readOne 32 = .ok (.invokevirtual 478, 3) := dk_182 1 222 (dk_at dksX2_readOne_1 9 rfl rfl)
theorem dX2_readOne_35 : decode cX2_readOne 35 = .ok (.ifCond .ne 13, 3) := dk_154 0 13 (dk_at dksX2_readOne_1 12 rfl rfl)
theorem dX2_readOne_38 : decode cX2_readOne 38 = .ok (.aload_n 0, 1) := dk_42 (dk_at dksX2_readOne_1 15 rfl rfl)
theorem dX2_readOne_39 : decode cX2_readOne 39 = .ok (.ldc_w 1125, 3) := dk_19 4 101 (dk_at dksX2_readOne_1 16 rfl rfl)
theorem dX2_readOne_42 : decode cX2_readOne 42 = .ok (.invokevirtual 478, 3) := dk_182 1 222 (dk_at dksX2_readOne_1 19 rfl rfl)
theorem dX2_readOne_45 : decode cX2_readOne 45 = .ok (.ifCond .eq 52, 3) := dk_153 0 52 (dk_at dksX2_readOne_2 0 rfl rfl)
theorem dX2_readOne_48 : decode cX2_readOne 48 = .ok (.aload_n 0, 1) := dk_42 (dk_at dksX2_readOne_2 3 rfl rfl)
theorem dX2_readOne_49 : decode cX2_readOne 49 = .ok (.ldc_w 1123, 3) := dk_19 4 99 (dk_at dksX2_readOne_2 4 rfl rfl)
theorem dX2_readOne_52 : decode cX2_readOne 52 = .ok (.invokevirtual 478, 3) := dk_182 1 222 (dk_at dksX2_readOne_2 7 rfl rfl)
theorem dX2_readOne_55 : decode cX2_readOne 55 = .ok (.ifCond .eq 8, 3) := dk_153 0 8 (dk_at dksX2_readOne_2 10 rfl rfl)
theorem dX2_readOne_58 : decode cX2_readOne 58 = .ok (.bipush 8, 2) := dk_16 8 (dk_at dksX2_readOne_2 13 rfl rfl)
theorem dX2_readOne_60 : decode cX2_readOne 60 = .ok (.goto 5, 3) := dk_167 0 5 (dk_at dksX2_readOne_2 15 rfl rfl)
theorem dX2_readOne_63 : decode cX2_readOne 63 = .ok (.bipush 9, 2) := dk_16 9 (dk_at dksX2_readOne_2 18 rfl rfl)
theorem dX2_readOne_65 : decode cX2_readOne 65 = .ok (.istore_n 1, 1) := dk_60 (dk_at dksX2_readOne_2 20 rfl rfl)
theorem dX2_readOne_66 : decode cX2_readOne 66 = .ok (.aload_n 0, 1) := dk_42 (dk_at dksX2_readOne_2 21 rfl rfl)
theorem dX2_readOne_67 : decode cX2_readOne 67 = .ok (.invokevirtual 482, 3) := dk_182 1 226 (dk_at dksX2_readOne_3 0 rfl rfl)
theorem dX2_readOne_70 : decode cX2_readOne 70 = .ok (.aload_n 0, 1) := dk_42 (dk_at dksX2_readOne_3 3 rfl rfl)
theorem dX2_readOne_71 : decode cX2_readOne 71 = .ok (.ldc_w 1116, 3) := dk_19 4 92 (dk_at dksX2_readOne_3 4 rfl rfl)
theorem dX2_readOne_74 : decode cX2_readOne 74 = .ok (.invokevirtual 502, 3) := dk_182 1 246 (dk_at dksX2_readOne_3 7 rfl rfl)
theorem dX2_readOne_77 : decode cX2_readOne 77 = .ok (.aload_n 0, 1) := dk_42 (dk_at dksX2_readOne_3 10 rfl rfl)
theorem dX2_readOne_78 : decode cX2_readOne 78 = .ok (.invokestatic 1118, 3) := dk_184 4 94 (dk_at dksX2_readOne_3 11 rfl rfl)
theorem dX2_readOne_81 : decode cX2_readOne 81 = .ok (.istore_n 2, 1) := dk_61 (dk_at dksX2_readOne_3 14 rfl rfl)
theorem dX2_readOne_82 : decode cX2_readOne 82 = .ok (.aload_n 0, 1) := dk_42 (dk_at dksX2_readOne_3 15 rfl rfl)
theorem dX2_readOne_83 : decode cX2_readOne 83 = .ok (.ldc_w 1121, 3) := dk_19 4 97 (dk_at dksX2_readOne_3 16 rfl rfl)
theorem dX2_readOne_86 : decode cX2_readOne 86 = .ok (.invokevirtual 502, 3) := dk_182 1 246 (dk_at dksX2_readOne_3 19 rfl rfl)
theorem dX2_readOne_89 : decode cX2_readOne 89 = .ok (.aload_n 0, 1) := dk_42 (dk_at dksX2_readOne_3 22 rfl rfl)
theorem dX2_readOne_90 : decode cX2_readOne 90 = .ok (.iload_n 1, 1) := dk_27 (dk_at dksX2_readOne_3 23 rfl rfl)
theorem dX2_readOne_91 : decode cX2_readOne 91 = .ok (.iload_n 2, 1) := dk_28 (dk_at dksX2_readOne_4 0 rfl rfl)
theorem dX2_readOne_92 : decode cX2_readOne 92 = .ok (.iconst 0, 1) := dk_3 (dk_at dksX2_readOne_4 1 rfl rfl)
theorem dX2_readOne_93 : decode cX2_readOne 93 = .ok (.invokevirtual 1101, 3) := dk_182 4 77 (dk_at dksX2_readOne_4 2 rfl rfl)
theorem dX2_readOne_96 : decode cX2_readOne 96 = .ok (.ireturn, 1) := dk_172 (dk_at dksX2_readOne_4 5 rfl rfl)
theorem dX2_readOne_97 : decode cX2_readOne 97 = .ok (.aload_n 0, 1) := dk_42 (dk_at dksX2_readOne_4 6 rfl rfl)
theorem dX2_readOne_98 : decode cX2_readOne 98 = .ok (.ldc_w 1127, 3) := dk_19 4 103 (dk_at dksX2_readOne_4 7 rfl rfl)
theorem dX2_readOne_101 : decode cX2_readOne 101 = .ok (.invokevirtual 478, 3) := dk_182 1 222 (dk_at dksX2_readOne_4 10 rfl rfl)
theorem dX2_readOne_104 : decode cX2_readOne 104 = .ok (.ifCond .ne 23, 3) := dk_154 0 23 (dk_at dksX2_readOne_4 13 rfl rfl)
theorem dX2_readOne_107 : decode cX2_readOne 107 = .ok (.aload_n 0, 1) := dk_42 (dk_at dksX2_readOne_4 16 rfl rfl)
theorem dX2_readOne_108 : decode cX2_readOne 108 = .ok (.ldc_w 1129, 3) := dk_19 4 105 (dk_at dksX2_readOne_4 17 rfl rfl)
theorem dX2_readOne_111 : decode cX2_readOne 111 = .ok (.invokevirtual 478, 3) := dk_182 1 222 (dk_at dksX2_readOne_4 20 rfl rfl)
theorem dX2_readOne_114 : decode cX2_readOne 114 = .ok (.ifCond .ne 13, 3) := dk_154 0 13 (dk_at dksX2_readOne_5 0 rfl rfl)
theorem dX2_readOne_117 : decode cX2_readOne 117 = .ok (.aload_n 0, 1) := dk_42 (dk_at dksX2_readOne_5 3 rfl rfl)
theorem dX2_readOne_118 : decode cX2_readOne 118 = .ok (.ldc_w 1130, 3) := dk_19 4 106 (dk_at dksX2_readOne_5 4 rfl rfl)
theorem dX2_readOne_121 : decode cX2_readOne 121 = .ok (.invokevirtual 478, 3) := dk_182 1 222 (dk_at dksX2_readOne_5 7 rfl rfl)
theorem dX2_readOne_124 : decode cX2_readOne 124 = .ok (.ifCond .eq 45, 3) := dk_153 0 45 (dk_at dksX2_readOne_5 10 rfl rfl)
theorem dX2_readOne_127 : decode cX2_readOne 127 = .ok (.aload_n 0, 1) := dk_42 (dk_at dksX2_readOne_5 13 rfl rfl)
theorem dX2_readOne_128 : decode cX2_readOne 128 = .ok (.ldc_w 1127, 3) := dk_19 4 103 (dk_at dksX2_readOne_5 14 rfl rfl)
theorem dX2_readOne_131 : decode cX2_readOne 131 = .ok (.invokevirtual 478, 3) := dk_182 1 222 (dk_at dksX2_readOne_5 17 rfl rfl)
theorem dX2_readOne_134 : decode cX2_readOne 134 = .ok (.ifCond .eq 7, 3) := dk_153 0 7 (dk_at dksX2_readOne_5 20 rfl rfl)
theorem dX2_readOne_137 : decode cX2_readOne 137 = .ok (.iconst 0, 1) := dk_3 (dk_at dksX2_readOne_5 23 rfl rfl)
theorem dX2_readOne_138 : decode cX2_readOne 138 = .ok (.goto 18, 3) := dk_167 0 18 (dk_at dksX2_readOne_6 0 rfl rfl)
theorem dX2_readOne_141 : decode cX2_readOne 141 = .ok (.aload_n 0, 1) := dk_42 (dk_at dksX2_readOne_6 3 rfl rfl)
theorem dX2_readOne_142 : decode cX2_readOne 142 = .ok (.ldc_w 1129, 3) := dk_19 4 105 (dk_at dksX2_readOne_6 4 rfl rfl)
theorem dX2_readOne_145 : decode cX2_readOne 145 = .ok (.invokevirtual 478, 3) := dk_182 1 222 (dk_at dksX2_readOne_6 7 rfl rfl)
theorem dX2_readOne_148 : decode cX2_readOne 148 = .ok (.ifCond .eq 7, 3) := dk_153 0 7 (dk_at dksX2_readOne_6 10 rfl rfl)
theorem dX2_readOne_151 : decode cX2_readOne 151 = .ok (.iconst 1, 1) := dk_4 (dk_at dksX2_readOne_6 13 rfl rfl)
theorem dX2_readOne_152 : decode cX2_readOne 152 = .ok (.goto 4, 3) := dk_167 0 4 (dk_at dksX2_readOne_6 14 rfl rfl)
theorem dX2_readOne_155 : decode cX2_readOne 155 = .ok (.iconst 2, 1) := dk_5 (dk_at dksX2_readOne_6 17 rfl rfl)
theorem dX2_readOne_156 : decode cX2_readOne 156 = .ok (.istore_n 1, 1) := dk_60 (dk_at dksX2_readOne_6 18 rfl rfl)
theorem dX2_readOne_157 : decode cX2_readOne 157 = .ok (.aload_n 0, 1) := dk_42 (dk_at dksX2_readOne_6 19 rfl rfl)
theorem dX2_readOne_158 : decode cX2_readOne 158 = .ok (.invokevirtual 482, 3) := dk_182 1 226 (dk_at dksX2_readOne_6 20 rfl rfl)
theorem dX2_readOne_161 : decode cX2_readOne 161 = .ok (.aload_n 0, 1) := dk_42 (dk_at dksX2_readOne_6 23 rfl rfl)
theorem dX2_readOne_162 : decode cX2_readOne 162 = .ok (.iload_n 1, 1) := dk_27 (dk_at dksX2_readOne_7 0 rfl rfl)
theorem dX2_readOne_163 : decode cX2_readOne 163 = .ok (.iconst 0, 1) := dk_3 (dk_at dksX2_readOne_7 1 rfl rfl)
theorem dX2_readOne_164 : decode cX2_readOne 164 = .ok (.iconst 0, 1) := dk_3 (dk_at dksX2_readOne_7 2 rfl rfl)
theorem dX2_readOne_165 : decode cX2_readOne 165 = .ok (.invokevirtual 1101, 3) := dk_182 4 77 (dk_at dksX2_readOne_7 3 rfl rfl)
theorem dX2_readOne_168 : decode cX2_readOne 168 = .ok (.ireturn, 1) := dk_172 (dk_at dksX2_readOne_7 6 rfl rfl)
theorem dX2_readOne_169 : decode cX2_readOne 169 = .ok (.aload_n 0, 1) := dk_42 (dk_at dksX2_readOne_7 7 rfl rfl)
theorem dX2_readOne_170 : decode cX2_readOne 170 = .ok (.invokevirtual 448, 3) := dk_182 1 192 (dk_at dksX2_readOne_7 8 rfl rfl)
theorem dX2_readOne_173 : decode cX2_readOne 173 = .ok (.ifCond .eq 12, 3) := dk_153 0 12 (dk_at dksX2_readOne_7 11 rfl rfl)
theorem dX2_readOne_176 : decode cX2_readOne 176 = .ok (.aload_n 0, 1) := dk_42 (dk_at dksX2_readOne_7 14 rfl rfl)
theorem dX2_readOne_177 : decode cX2_readOne 177 = .ok (.iconst 1, 1) := dk_4 (dk_at dksX2_readOne_7 15 rfl rfl)
theorem dX2_readOne_178 : decode cX2_readOne 178 = .ok (.aload_n 0, 1) := dk_42 (dk_at dksX2_readOne_7 16 rfl rfl)
theorem dX2_readOne_179 : decode cX2_readOne 179 = .ok (.invokevirtual 475, 3) := dk_182 1 219 (dk_at dksX2_readOne_7 17 rfl rfl)
theorem dX2_readOne_182 : decode cX2_readOne 182 = .ok (.invokevirtual 434, 3) := dk_182 1 178 (dk_at dksX2_readOne_7 20 rfl rfl)
theorem dX2_readOne_185 : decode cX2_readOne 185 = .ok (.aload_n 0, 1) := dk_42 (dk_at dksX2_readOne_7 23 rfl rfl)
theorem dX2_readOne_186 : decode cX2_readOne 186 = .ok (.aload_n 0, 1) := dk_42 (dk_at dksX2_readOne_8 0 rfl rfl)
theorem dX2_readOne_187 : decode cX2_readOne 187 = .ok (.getfield 33, 3) := dk_180 0 33 (dk_at dksX2_readOne_8 1 rfl rfl)
theorem dX2_readOne_190 : decode cX2_readOne 190 = .ok (.aload_n 0, 1) := dk_42 (dk_at dksX2_readOne_8 4 rfl rfl)
theorem dX2_readOne_191 : decode cX2_readOne 191 = .ok (.getfield 416, 3) := dk_180 1 160 (dk_at dksX2_readOne_8 5 rfl rfl)
theorem dX2_readOne_194 : decode cX2_readOne 194 = .ok (.iaload, 1) := dk_46 (dk_at dksX2_readOne_8 8 rfl rfl)
theorem dX2_readOne_195 : decode cX2_readOne 195 = .ok (.aload_n 0, 1) := dk_42 (dk_at dksX2_readOne_8 9 rfl rfl)
theorem dX2_readOne_196 : decode cX2_readOne 196 = .ok (.getfield 37, 3) := dk_180 0 37 (dk_at dksX2_readOne_8 10 rfl rfl)
theorem dX2_readOne_199 : decode cX2_readOne 199 = .ok (.aload_n 0, 1) := dk_42 (dk_at dksX2_readOne_8 13 rfl rfl)
theorem dX2_readOne_200 : decode cX2_readOne 200 = .ok (.getfield 416, 3) := dk_180 1 160 (dk_at dksX2_readOne_8 14 rfl rfl)
theorem dX2_readOne_203 : decode cX2_readOne 203 = .ok (.iaload, 1) := dk_46 (dk_at dksX2_readOne_8 17 rfl rfl)
theorem dX2_readOne_204 : decode cX2_readOne 204 = .ok (.invokevirtual 491, 3) := dk_182 1 235 (dk_at dksX2_readOne_8 18 rfl rfl)
theorem dX2_readOne_207 : decode cX2_readOne 207 = .ok (.istore_n 1, 1) := dk_60 (dk_at dksX2_readOne_8 21 rfl rfl)
theorem dX2_readOne_208 : decode cX2_readOne 208 = .ok (.iconst 0, 1) := dk_3 (dk_at dksX2_readOne_8 22 rfl rfl)
theorem dX2_readOne_209 : decode cX2_readOne 209 = .ok (.istore_n 2, 1) := dk_61 (dk_at dksX2_readOne_8 23 rfl rfl)
theorem dX2_readOne_210 : decode cX2_readOne 210 = .ok (.iconst 0, 1) := dk_3 (dk_at dksX2_readOne_9 0 rfl rfl)
theorem dX2_readOne_211 : decode cX2_readOne 211 = .ok (.istore_n 3, 1) := dk_62 (dk_at dksX2_readOne_9 1 rfl rfl)
theorem dX2_readOne_212 : decode cX2_readOne 212 = .ok (.iload_n 3, 1) := dk_29 (dk_at dksX2_readOne_9 2 rfl rfl)
theorem dX2_readOne_213 : decode cX2_readOne 213 = .ok (.aload_n 0, 1) := dk_42 (dk_at dksX2_readOne_9 3 rfl rfl)
theorem dX2_readOne_214 : decode cX2_readOne 214 = .ok (.getfield 515, 3) := dk_180 2 3 (dk_at dksX2_readOne_9 4 rfl rfl)
theorem dX2_readOne_217 : decode cX2_readOne 217 = .ok (.if_icmp .ge 33, 3) := dk_162 0 33 (dk_at dksX2_readOne_9 7 rfl rfl)
theorem dX2_readOne_220 : decode cX2_readOne 220 = .ok (.iload_n 2, 1) := dk_28 (dk_at dksX2_readOne_9 10 rfl rfl)
theorem dX2_readOne_221 : decode cX2_readOne 221 = .ok (.ifCond .ne 17, 3) := dk_154 0 17 (dk_at dksX2_readOne_9 11 rfl rfl)
theorem dX2_readOne_224 : decode cX2_readOne 224 = .ok (.iload_n 1, 1) := dk_27 (dk_at dksX2_readOne_9 14 rfl rfl)
theorem dX2_readOne_225 : decode cX2_readOne 225 = .ok (.ifCond .lt 17, 3) := dk_155 0 17 (dk_at dksX2_readOne_9 15 rfl rfl)
theorem dX2_readOne_228 : decode cX2_readOne 228 = .ok (.aload_n 0, 1) := dk_42 (dk_at dksX2_readOne_9 18 rfl rfl)
theorem dX2_readOne_229 : decode cX2_readOne 229 = .ok (.getfield 247, 3) := dk_180 0 247 (dk_at dksX2_readOne_9 19 rfl rfl)
theorem dX2_readOne_232 : decode cX2_readOne 232 = .ok (.iload_n 3, 1) := dk_29 (dk_at dksX2_readOne_9 22 rfl rfl)
theorem dX2_readOne_233 : decode cX2_readOne 233 = .ok (.iaload, 1) := dk_46 (dk_at dksX2_readOne_9 23 rfl rfl)
theorem dX2_readOne_234 : decode cX2_readOne 234 = .ok (.iload_n 1, 1) := dk_27 (dk_at dksX2_readOne_10 0 rfl rfl)
theorem dX2_readOne_235 : decode cX2_readOne 235 = .ok (.if_icmp .ne 7, 3) := dk_160 0 7 (dk_at dksX2_readOne_10 1 rfl rfl)
theorem dX2_readOne_238 : decode cX2_readOne 238 = .ok (.iconst 1, 1) := dk_4 (dk_at dksX2_readOne_10 4 rfl rfl)
theorem dX2_readOne_239 : decode cX2_readOne 239 = .ok (.goto 4, 3) := dk_167 0 4 (dk_at dksX2_readOne_10 5 rfl rfl)
theorem dX2_readOne_242 : decode cX2_readOne 242 = .ok (.iconst 0, 1) := dk_3 (dk_at dksX2_readOne_10 8 rfl rfl)
theorem dX2_readOne_243 : decode cX2_readOne 243 = .ok (.istore_n 2, 1) := dk_61 (dk_at dksX2_readOne_10 9 rfl rfl)
theorem dX2_readOne_244 : decode cX2_readOne 244 = .ok (.iinc 3 1, 3) := dk_132 3 1 (dk_at dksX2_readOne_10 10 rfl rfl)
theorem dX2_readOne_247 : decode cX2_readOne 247 = .ok (.goto (-35), 3) := dk_167 255 221 (dk_at dksX2_readOne_10 13 rfl rfl)
theorem dX2_readOne_250 : decode cX2_readOne 250 = .ok (.iload_n 2, 1) := dk_28 (dk_at dksX2_readOne_10 16 rfl rfl)
theorem dX2_readOne_251 : decode cX2_readOne 251 = .ok (.ifCond .ne 12, 3) := dk_154 0 12 (dk_at dksX2_readOne_10 17 rfl rfl)
theorem dX2_readOne_254 : decode cX2_readOne 254 = .ok (.aload_n 0, 1) := dk_42 (dk_at dksX2_readOne_10 20 rfl rfl)
theorem dX2_readOne_255 : decode cX2_readOne 255 = .ok (.iconst 1, 1) := dk_4 (dk_at dksX2_readOne_10 21 rfl rfl)
theorem dX2_readOne_256 : decode cX2_readOne 256 = .ok (.aload_n 0, 1) := dk_42 (dk_at dksX2_readOne_10 22 rfl rfl)
theorem dX2_readOne_257 : decode cX2_readOne 257 = .ok (.invokevirtual 475, 3) := dk_182 1 219 (dk_at dksX2_readOne_11 0 rfl rfl)
theorem dX2_readOne_260 : decode cX2_readOne 260 = .ok (.invokevirtual 434, 3) := dk_182 1 178 (dk_at dksX2_readOne_11 3 rfl rfl)
theorem dX2_readOne_263 : decode cX2_readOne 263 = .ok (.aload_n 0, 1) := dk_42 (dk_at dksX2_readOne_11 6 rfl rfl)
theorem dX2_readOne_264 : decode cX2_readOne 264 = .ok (.invokevirtual 482, 3) := dk_182 1 226 (dk_at dksX2_readOne_11 7 rfl rfl)
theorem dX2_readOne_267 : decode cX2_readOne 267 = .ok (.aload_n 0, 1) := dk_42 (dk_at dksX2_readOne_11 10 rfl rfl)
theorem dX2_readOne_268 : decode cX2_readOne 268 = .ok (.iconst 3, 1) := dk_6 (dk_at dksX2_readOne_11 11 rfl rfl)
theorem dX2_readOne_269 : decode cX2_readOne 269 = .ok (.iload_n 1, 1) := dk_27 (dk_at dksX2_readOne_11 12 rfl rfl)
theorem dX2_readOne_270 : decode cX2_readOne 270 = .ok (.iconst 0, 1) := dk_3 (dk_at dksX2_readOne_11 13 rfl rfl)
theorem dX2_readOne_271 : decode cX2_readOne 271 = .ok (.invokevirtual 1101, 3) := dk_182 4 77 (dk_at dksX2_readOne_11 14 rfl rfl)
theorem dX2_readOne_274 : decode cX2_readOne 274 = .ok (.ireturn, 1) := dk_172 (dk_at dksX2_readOne_11 17 rfl rfl)
abbrev cX2_plan : ByteArray := prog_4_method_167_code
def yX2_plan : MethodName := ⟨RX2, "plan", "(III)I"⟩
def dkwX2_plan_1 : List UInt8 := [42, 180, 4, 68, 29, 79, 42, 89, 180, 4, 68, 4, 96, 181, 4, 68, 42, 180, 4, 68, 4, 100, 172]
abbrev dktX2_plan_1 : List UInt8 := dkwX2_plan_1 ++ []
def dkwX2_plan_0 : List UInt8 := [42, 180, 1, 100, 42, 180, 4, 68, 27, 79, 42, 180, 1, 103, 42, 180, 4, 68, 28, 79, 42, 180, 1, 106]
abbrev dktX2_plan_0 : List UInt8 := dkwX2_plan_0 ++ dktX2_plan_1
theorem dksX2_plan_0 : cX2_plan.data.toList.drop 0 = dktX2_plan_0 := by decide +kernel
theorem dksX2_plan_1 : cX2_plan.data.toList.drop 24 = dktX2_plan_1 := dk_seg dksX2_plan_0 24 rfl rfl
theorem dX2_plan_0 : decode cX2_plan 0 = .ok (.aload_n 0, 1) := dk_42 (dk_at dksX2_plan_0 0 rfl rfl)
theorem dX2_plan_1 : decode cX2_plan 1 = .ok (.getfield 356, 3) := dk_180 1 100 (dk_at dksX2_plan_0 1 rfl rfl)
theorem dX2_plan_4 : decode cX2_plan 4 = .ok (.aload_n 0, 1) := dk_42 (dk_at dksX2_plan_0 4 rfl rfl)
theorem dX2_plan_5 : decode cX2_plan 5 = .ok (.getfield 1092, 3) := dk_180 4 68 (dk_at dksX2_plan_0 5 rfl rfl)
theorem dX2_plan_8 : decode cX2_plan 8 = .ok (.iload_n 1, 1) := dk_27 (dk_at dksX2_plan_0 8 rfl rfl)
theorem dX2_plan_9 : decode cX2_plan 9 = .ok (.iastore, 1) := dk_79 (dk_at dksX2_plan_0 9 rfl rfl)
theorem dX2_plan_10 : decode cX2_plan 10 = .ok (.aload_n 0, 1) := dk_42 (dk_at dksX2_plan_0 10 rfl rfl)
theorem dX2_plan_11 : decode cX2_plan 11 = .ok (.getfield 359, 3) := dk_180 1 103 (dk_at dksX2_plan_0 11 rfl rfl)
theorem dX2_plan_14 : decode cX2_plan 14 = .ok (.aload_n 0, 1) := dk_42 (dk_at dksX2_plan_0 14 rfl rfl)
theorem dX2_plan_15 : decode cX2_plan 15 = .ok (.getfield 1092, 3) := dk_180 4 68 (dk_at dksX2_plan_0 15 rfl rfl)
theorem dX2_plan_18 : decode cX2_plan 18 = .ok (.iload_n 2, 1) := dk_28 (dk_at dksX2_plan_0 18 rfl rfl)
theorem dX2_plan_19 : decode cX2_plan 19 = .ok (.iastore, 1) := dk_79 (dk_at dksX2_plan_0 19 rfl rfl)
theorem dX2_plan_20 : decode cX2_plan 20 = .ok (.aload_n 0, 1) := dk_42 (dk_at dksX2_plan_0 20 rfl rfl)
theorem dX2_plan_21 : decode cX2_plan 21 = .ok (.getfield 362, 3) := dk_180 1 106 (dk_at dksX2_plan_0 21 rfl rfl)
theorem dX2_plan_24 : decode cX2_plan 24 = .ok (.aload_n 0, 1) := dk_42 (dk_at dksX2_plan_1 0 rfl rfl)
theorem dX2_plan_25 : decode cX2_plan 25 = .ok (.getfield 1092, 3) := dk_180 4 68 (dk_at dksX2_plan_1 1 rfl rfl)
theorem dX2_plan_28 : decode cX2_plan 28 = .ok (.iload_n 3, 1) := dk_29 (dk_at dksX2_plan_1 4 rfl rfl)
theorem dX2_plan_29 : decode cX2_plan 29 = .ok (.iastore, 1) := dk_79 (dk_at dksX2_plan_1 5 rfl rfl)
theorem dX2_plan_30 : decode cX2_plan 30 = .ok (.aload_n 0, 1) := dk_42 (dk_at dksX2_plan_1 6 rfl rfl)
theorem dX2_plan_31 : decode cX2_plan 31 = .ok (.dup, 1) := dk_89 (dk_at dksX2_plan_1 7 rfl rfl)
theorem dX2_plan_32 : decode cX2_plan 32 = .ok (.getfield 1092, 3) := dk_180 4 68 (dk_at dksX2_plan_1 8 rfl rfl)
theorem dX2_plan_35 : decode cX2_plan 35 = .ok (.iconst 1, 1) := dk_4 (dk_at dksX2_plan_1 11 rfl rfl)
theorem dX2_plan_36 : decode cX2_plan 36 = .ok (.iadd, 1) := dk_96 (dk_at dksX2_plan_1 12 rfl rfl)
theorem dX2_plan_37 : decode cX2_plan 37 = .ok (.putfield 1092, 3) := dk_181 4 68 (dk_at dksX2_plan_1 13 rfl rfl)
theorem dX2_plan_40 : decode cX2_plan 40 = .ok (.aload_n 0, 1) := dk_42 (dk_at dksX2_plan_1 16 rfl rfl)
theorem dX2_plan_41 : decode cX2_plan 41 = .ok (.getfield 1092, 3) := dk_180 4 68 (dk_at dksX2_plan_1 17 rfl rfl)
theorem dX2_plan_44 : decode cX2_plan 44 = .ok (.iconst 1, 1) := dk_4 (dk_at dksX2_plan_1 20 rfl rfl)
theorem dX2_plan_45 : decode cX2_plan 45 = .ok (.isub, 1) := dk_100 (dk_at dksX2_plan_1 21 rfl rfl)
theorem dX2_plan_46 : decode cX2_plan 46 = .ok (.ireturn, 1) := dk_172 (dk_at dksX2_plan_1 22 rfl rfl)
abbrev cX2_answers : ByteArray := prog_4_method_172_code
def yX2_answers : MethodName := ⟨RX2, "answers", "(LRewriteHouseModel;II)I"⟩
def dkwX2_answers_10 : List UInt8 := [180, 3, 248, 29, 100, 172]
abbrev dktX2_answers_10 : List UInt8 := dkwX2_answers_10 ++ []
def dkwX2_answers_9 : List UInt8 := [184, 4, 108, 54, 7, 42, 29, 21, 7, 158, 0, 7, 4, 167, 0, 4, 3, 96, 181, 3, 248, 42]
abbrev dktX2_answers_9 : List UInt8 := dkwX2_answers_9 ++ dktX2_answers_10
def dkwX2_answers_8 : List UInt8 := [29, 181, 3, 248, 21, 6, 154, 0, 38, 42, 28, 3, 29, 182, 4, 17, 167, 0, 28, 42, 21, 4, 28]
abbrev dktX2_answers_8 : List UInt8 := dkwX2_answers_8 ++ dktX2_answers_9
def dkwX2_answers_7 : List UInt8 := [167, 0, 68, 42, 21, 4, 28, 29, 184, 4, 118, 167, 0, 57, 42, 21, 4, 28, 184, 4, 108, 54, 6, 42]
abbrev dktX2_answers_7 : List UInt8 := dkwX2_answers_7 ++ dktX2_answers_8
def dkwX2_answers_6 : List UInt8 := [162, 0, 24, 42, 21, 4, 42, 180, 1, 37, 21, 6, 46, 29, 184, 4, 111, 87, 132, 6, 1, 167, 255, 229]
abbrev dktX2_answers_6 : List UInt8 := dkwX2_answers_6 ++ dktX2_answers_7
def dkwX2_answers_5 : List UInt8 := [29, 184, 4, 115, 167, 0, 111, 42, 28, 3, 29, 182, 4, 17, 29, 54, 6, 21, 6, 42, 180, 3, 248]
abbrev dktX2_answers_5 : List UInt8 := dkwX2_answers_5 ++ dktX2_answers_6
def dkwX2_answers_4 : List UInt8 := [180, 1, 106, 27, 46, 28, 29, 184, 4, 111, 87, 167, 0, 128, 42, 21, 4, 42, 180, 1, 106, 27, 46, 28]
abbrev dktX2_answers_4 : List UInt8 := dkwX2_answers_4 ++ dktX2_answers_5
def dkwX2_answers_3 : List UInt8 := [42, 28, 21, 4, 182, 4, 56, 87, 167, 0, 153, 42, 21, 4, 28, 184, 4, 108, 54, 5, 42, 42]
abbrev dktX2_answers_3 : List UInt8 := dkwX2_answers_3 ++ dktX2_answers_4
def dkwX2_answers_2 : List UInt8 := [42, 28, 3, 29, 182, 4, 17, 167, 0, 178, 167, 0, 175, 42, 28, 16, 254, 182, 4, 56, 87, 167, 0, 164]
abbrev dktX2_answers_2 : List UInt8 := dkwX2_answers_2 ++ dktX2_answers_3
def dkwX2_answers_1 : List UInt8 := [170, 0, 0, 0, 209, 0, 0, 0, 0, 0, 0, 0, 8, 0, 0, 0, 49, 0, 0, 0, 59, 0, 0, 0, 62, 0, 0, 0, 73, 0, 0, 0, 84, 0, 0, 0, 109, 0, 0, 0, 126, 0, 0, 0, 169, 0, 0, 0, 180]
abbrev dktX2_answers_1 : List UInt8 := dkwX2_answers_1 ++ dktX2_answers_2
def dkwX2_answers_0 : List UInt8 := [42, 180, 3, 248, 62, 42, 180, 1, 103, 27, 46, 54, 4, 42, 180, 1, 100, 27, 46]
abbrev dktX2_answers_0 : List UInt8 := dkwX2_answers_0 ++ dktX2_answers_1
theorem dksX2_answers_0 : cX2_answers.data.toList.drop 0 = dktX2_answers_0 := by decide +kernel
theorem dksX2_answers_1 : cX2_answers.data.toList.drop 19 = dktX2_answers_1 := dk_seg dksX2_answers_0 19 rfl rfl
theorem dksX2_answers_2 : cX2_answers.data.toList.drop 68 = dktX2_answers_2 := dk_seg dksX2_answers_1 49 rfl rfl
theorem dksX2_answers_3 : cX2_answers.data.toList.drop 92 = dktX2_answers_3 := dk_seg dksX2_answers_2 24 rfl rfl
theorem dksX2_answers_4 : cX2_answers.data.toList.drop 114 = dktX2_answers_4 := dk_seg dksX2_answers_3 22 rfl rfl
theorem dksX2_answers_5 : cX2_answers.data.toList.drop 138 = dktX2_answers_5 := dk_seg dksX2_answers_4 24 rfl rfl
theorem dksX2_answers_6 : cX2_answers.data.toList.drop 161 = dktX2_answers_6 := dk_seg dksX2_answers_5 23 rfl rfl
theorem dksX2_answers_7 : cX2_answers.data.toList.drop 185 = dktX2_answers_7 := dk_seg dksX2_answers_6 24 rfl rfl
theorem dksX2_answers_8 : cX2_answers.data.toList.drop 209 = dktX2_answers_8 := dk_seg dksX2_answers_7 24 rfl rfl
theorem dksX2_answers_9 : cX2_answers.data.toList.drop 232 = dktX2_answers_9 := dk_seg dksX2_answers_8 23 rfl rfl
theorem dksX2_answers_10 : cX2_answers.data.toList.drop 254 = dktX2_answers_10 := dk_seg dksX2_answers_9 22 rfl rfl
theorem dX2_answers_0 : decode cX2_answers 0 = .ok (.aload_n 0, 1) := dk_42 (dk_at dksX2_answers_0 0 rfl rfl)
theorem dX2_answers_1 : decode cX2_answers 1 = .ok (.getfield 1016, 3) := dk_180 3 248 (dk_at dksX2_answers_0 1 rfl rfl)
theorem dX2_answers_4 : decode cX2_answers 4 = .ok (.istore_n 3, 1) := dk_62 (dk_at dksX2_answers_0 4 rfl rfl)
theorem dX2_answers_5 : decode cX2_answers 5 = .ok (.aload_n 0, 1) := dk_42 (dk_at dksX2_answers_0 5 rfl rfl)
theorem dX2_answers_6 : decode cX2_answers 6 = .ok (.getfield 359, 3) := dk_180 1 103 (dk_at dksX2_answers_0 6 rfl rfl)
theorem dX2_answers_9 : decode cX2_answers 9 = .ok (.iload_n 1, 1) := dk_27 (dk_at dksX2_answers_0 9 rfl rfl)
theorem dX2_answers_10 : decode cX2_answers 10 = .ok (.iaload, 1) := dk_46 (dk_at dksX2_answers_0 10 rfl rfl)
theorem dX2_answers_11 : decode cX2_answers 11 = .ok (.istore 4, 2) := dk_54 4 (dk_at dksX2_answers_0 11 rfl rfl)
theorem dX2_answers_13 : decode cX2_answers 13 = .ok (.aload_n 0, 1) := dk_42 (dk_at dksX2_answers_0 13 rfl rfl)
theorem dX2_answers_14 : decode cX2_answers 14 = .ok (.getfield 356, 3) := dk_180 1 100 (dk_at dksX2_answers_0 14 rfl rfl)
theorem dX2_answers_17 : decode cX2_answers 17 = .ok (.iload_n 1, 1) := dk_27 (dk_at dksX2_answers_0 17 rfl rfl)
theorem dX2_answers_18 : decode cX2_answers 18 = .ok (.iaload, 1) := dk_46 (dk_at dksX2_answers_0 18 rfl rfl)
theorem dX2_answers_19 : decode cX2_answers 19 = .ok (.tableswitch 209 0 8 #[49, 59, 62, 73, 84, 109, 126, 169, 180], 49) := by decide +kernel
theorem dX2_answers_68 : decode cX2_answers 68 = .ok (.aload_n 0, 1) := dk_42 (dk_at dksX2_answers_2 0 rfl rfl)
theorem dX2_answers_69 : decode cX2_answers 69 = .ok (.iload_n 2, 1) := dk_28 (dk_at dksX2_answers_2 1 rfl rfl)
theorem dX2_answers_70 : decode cX2_answers 70 = .ok (.iconst 0, 1) := dk_3 (dk_at dksX2_answers_2 2 rfl rfl)
theorem dX2_answers_71 : decode cX2_answers 71 = .ok (.iload_n 3, 1) := dk_29 (dk_at dksX2_answers_2 3 rfl rfl)
theorem dX2_answers_72 : decode cX2_answers 72 = .ok (.invokevirtual 1041, 3) := dk_182 4 17 (dk_at dksX2_answers_2 4 rfl rfl)
theorem dX2_answers_75 : decode cX2_answers 75 = .ok (.goto 178, 3) := dk_167 0 178 (dk_at dksX2_answers_2 7 rfl rfl)
theorem dX2_answers_78 : decode cX2_answers 78 = .ok (.goto 175, 3) := dk_167 0 175 (dk_at dksX2_answers_2 10 rfl rfl)
theorem dX2_answers_81 : decode cX2_answers 81 = .ok (.aload_n 0, 1) := dk_42 (dk_at dksX2_answers_2 13 rfl rfl)
theorem dX2_answers_82 : decode cX2_answers 82 = .ok (.iload_n 2, 1) := dk_28 (dk_at dksX2_answers_2 14 rfl rfl)
theorem dX2_answers_83 : decode cX2_answers 83 = .ok (.bipush (-2), 2) := dk_16 254 (dk_at dksX2_answers_2 15 rfl rfl)
theorem dX2_answers_85 : decode cX2_answers 85 = .ok (.invokevirtual 1080, 3) := dk_182 4 56 (dk_at dksX2_answers_2 17 rfl rfl)
theorem dX2_answers_88 : decode cX2_answers 88 = .ok (.pop, 1) := dk_87 (dk_at dksX2_answers_2 20 rfl rfl)
theorem dX2_answers_89 : decode cX2_answers 89 = .ok (.goto 164, 3) := dk_167 0 164 (dk_at dksX2_answers_2 21 rfl rfl)
theorem dX2_answers_92 : decode cX2_answers 92 = .ok (.aload_n 0, 1) := dk_42 (dk_at dksX2_answers_3 0 rfl rfl)
theorem dX2_answers_93 : decode cX2_answers 93 = .ok (.iload_n 2, 1) := dk_28 (dk_at dksX2_answers_3 1 rfl rfl)
theorem dX2_answers_94 : decode cX2_answers 94 = .ok (.iload 4, 2) := dk_21 4 (dk_at dksX2_answers_3 2 rfl rfl)
theorem dX2_answers_96 : decode cX2_answers 96 = .ok (.invokevirtual 1080, 3) := dk_182 4 56 (dk_at dksX2_answers_3 4 rfl rfl)
theorem dX2_answers_99 : decode cX2_answers 99 = .ok (.pop, 1) := dk_87 (dk_at dksX2_answers_3 7 rfl rfl)
theorem dX2_answers_100 : decode cX2_answers 100 = .ok (.goto 153, 3) := dk_167 0 153 (dk_at dksX2_answers_3 8 rfl rfl)
theorem dX2_answers_103 : decode cX2_answers 103 = .ok (.aload_n 0, 1) := dk_42 (dk_at dksX2_answers_3 11 rfl rfl)
theorem dX2_answers_104 : decode cX2_answers 104 = .ok (.iload 4, 2) := dk_21 4 (dk_at dksX2_answers_3 12 rfl rfl)
theorem dX2_answers_106 : decode cX2_answers 106 = .ok (.iload_n 2, 1) := dk_28 (dk_at dksX2_answers_3 14 rfl rfl)
theorem dX2_answers_107 : decode cX2_answers 107 = .ok (.invokestatic 1132, 3) := dk_184 4 108 (dk_at dksX2_answers_3 15 rfl rfl)
theorem dX2_answers_110 : decode cX2_answers 110 = .ok (.istore 5, 2) := dk_54 5 (dk_at dksX2_answers_3 18 rfl rfl)
theorem dX2_answers_112 : decode cX2_answers 112 = .ok (.aload_n 0, 1) := dk_42 (dk_at dksX2_answers_3 20 rfl rfl)
theorem dX2_answers_113 : decode cX2_answers 113 = .ok (.aload_n 0, 1) := dk_42 (dk_at dksX2_answers_3 21 rfl rfl)
theorem dX2_answers_114 : decode cX2_answers 114 = .ok (.getfield 362, 3) := dk_180 1 106 (dk_at dksX2_answers_4 0 rfl rfl)
theorem dX2_answers_117 : decode cX2_answers 117 = .ok (.iload_n 1, 1) := dk_27 (dk_at dksX2_answers_4 3 rfl rfl)
theorem dX2_answers_118 : decode cX2_answers 118 = .ok (.iaload, 1) := dk_46 (dk_at dksX2_answers_4 4 rfl rfl)
theorem dX2_answers_119 : decode cX2_answers 119 = .ok (.iload_n 2, 1) := dk_28 (dk_at dksX2_answers_4 5 rfl rfl)
theorem dX2_answers_120 : decode cX2_answers 120 = .ok (.iload_n 3, 1) := dk_29 (dk_at dksX2_answers_4 6 rfl rfl)
theorem dX2_answers_121 : decode cX2_answers 121 = .ok (.invokestatic 1135, 3) := dk_184 4 111 (dk_at dksX2_answers_4 7 rfl rfl)
theorem dX2_answers_124 : decode cX2_answers 124 = .ok (.pop, 1) := dk_87 (dk_at dksX2_answers_4 10 rfl rfl)
theorem dX2_answers_125 : decode cX2_answers 125 = .ok (.goto 128, 3) := dk_167 0 128 (dk_at dksX2_answers_4 11 rfl rfl)
theorem dX2_answers_128 : decode cX2_answers 128 = .ok (.aload_n 0, 1) := dk_42 (dk_at dksX2_answers_4 14 rfl rfl)
theorem dX2_answers_129 : decode cX2_answers 129 = .ok (.iload 4, 2) := dk_21 4 (dk_at dksX2_answers_4 15 rfl rfl)
theorem dX2_answers_131 : decode cX2_answers 131 = .ok (.aload_n 0, 1) := dk_42 (dk_at dksX2_answers_4 17 rfl rfl)
theorem dX2_answers_132 : decode cX2_answers 132 = .ok (.getfield 362, 3) := dk_180 1 106 (dk_at dksX2_answers_4 18 rfl rfl)
theorem dX2_answers_135 : decode cX2_answers 135 = .ok (.iload_n 1, 1) := dk_27 (dk_at dksX2_answers_4 21 rfl rfl)
theorem dX2_answers_136 : decode cX2_answers 136 = .ok (.iaload, 1) := dk_46 (dk_at dksX2_answers_4 22 rfl rfl)
theorem dX2_answers_137 : decode cX2_answers 137 = .ok (.iload_n 2, 1) := dk_28 (dk_at dksX2_answers_4 23 rfl rfl)
theorem dX2_answers_138 : decode cX2_answers 138 = .ok (.iload_n 3, 1) := dk_29 (dk_at dksX2_answers_5 0 rfl rfl)
theorem dX2_answers_139 : decode cX2_answers 139 = .ok (.invokestatic 1139, 3) := dk_184 4 115 (dk_at dksX2_answers_5 1 rfl rfl)
theorem dX2_answers_142 : decode cX2_answers 142 = .ok (.goto 111, 3) := dk_167 0 111 (dk_at dksX2_answers_5 4 rfl rfl)
theorem dX2_answers_145 : decode cX2_answers 145 = .ok (.aload_n 0, 1) := dk_42 (dk_at dksX2_answers_5 7 rfl rfl)
theorem dX2_answers_146 : decode cX2_answers 146 = .ok (.iload_n 2, 1) := dk_28 (dk_at dksX2_answers_5 8 rfl rfl)
theorem dX2_answers_147 : decode cX2_answers 147 = .ok (.iconst 0, 1) := dk_3 (dk_at dksX2_answers_5 9 rfl rfl)
theorem dX2_answers_148 : decode cX2_answers 148 = .ok (.iload_n 3, 1) := dk_29 (dk_at dksX2_answers_5 10 rfl rfl)
theorem dX2_answers_149 : decode cX2_answers 149 = .ok (.invokevirtual 1041, 3) := dk_182 4 17 (dk_at dksX2_answers_5 11 rfl rfl)
theorem dX2_answers_152 : decode cX2_answers 152 = .ok (.iload_n 3, 1) := dk_29 (dk_at dksX2_answers_5 14 rfl rfl)
theorem dX2_answers_153 : decode cX2_answers 153 = .ok (.istore 6, 2) := dk_54 6 (dk_at dksX2_answers_5 15 rfl rfl)
theorem dX2_answers_155 : decode cX2_answers 155 = .ok (.iload 6, 2) := dk_21 6 (dk_at dksX2_answers_5 17 rfl rfl)
theorem dX2_answers_157 : decode cX2_answers 157 = .ok (.aload_n 0, 1) := dk_42 (dk_at dksX2_answers_5 19 rfl rfl)
theorem dX2_answers_158 : decode cX2_answers 158 = .ok (.getfield 1016, 3) := dk_180 3 248 (dk_at dksX2_answers_5 20 rfl rfl)
theorem dX2_answers_161 : decode cX2_answers 161 = .ok (.if_icmp .ge 24, 3) := dk_162 0 24 (dk_at dksX2_answers_6 0 rfl rfl)
theorem dX2_answers_164 : decode cX2_answers 164 = .ok (.aload_n 0, 1) := dk_42 (dk_at dksX2_answers_6 3 rfl rfl)
theorem dX2_answers_165 : decode cX2_answers 165 = .ok (.iload 4, 2) := dk_21 4 (dk_at dksX2_answers_6 4 rfl rfl)
theorem dX2_answers_167 : decode cX2_answers 167 = .ok (.aload_n 0, 1) := dk_42 (dk_at dksX2_answers_6 6 rfl rfl)
theorem dX2_answers_168 : decode cX2_answers 168 = .ok (.getfield 293, 3) := dk_180 1 37 (dk_at dksX2_answers_6 7 rfl rfl)
theorem dX2_answers_171 : decode cX2_answers 171 = .ok (.iload 6, 2) := dk_21 6 (dk_at dksX2_answers_6 10 rfl rfl)
theorem dX2_answers_173 : decode cX2_answers 173 = .ok (.iaload, 1) := dk_46 (dk_at dksX2_answers_6 12 rfl rfl)
theorem dX2_answers_174 : decode cX2_answers 174 = .ok (.iload_n 3, 1) := dk_29 (dk_at dksX2_answers_6 13 rfl rfl)
theorem dX2_answers_175 : decode cX2_answers 175 = .ok (.invokestatic 1135, 3) := dk_184 4 111 (dk_at dksX2_answers_6 14 rfl rfl)
theorem dX2_answers_178 : decode cX2_answers 178 = .ok (.pop, 1) := dk_87 (dk_at dksX2_answers_6 17 rfl rfl)
theorem dX2_answers_179 : decode cX2_answers 179 = .ok (.iinc 6 1, 3) := dk_132 6 1 (dk_at dksX2_answers_6 18 rfl rfl)
theorem dX2_answers_182 : decode cX2_answers 182 = .ok (.goto (-27), 3) := dk_167 255 229 (dk_at dksX2_answers_6 21 rfl rfl)
theorem dX2_answers_185 : decode cX2_answers 185 = .ok (.goto 68, 3) := dk_167 0 68 (dk_at dksX2_answers_7 0 rfl rfl)
theorem dX2_answers_188 : decode cX2_answers 188 = .ok (.aload_n 0, 1) := dk_42 (dk_at dksX2_answers_7 3 rfl rfl)
theorem dX2_answers_189 : decode cX2_answers 189 = .ok (.iload 4, 2) := dk_21 4 (dk_at dksX2_answers_7 4 rfl rfl)
theorem dX2_answers_191 : decode cX2_answers 191 = .ok (.iload_n 2, 1) := dk_28 (dk_at dksX2_answers_7 6 rfl rfl)
theorem dX2_answers_192 : decode cX2_answers 192 = .ok (.iload_n 3, 1) := dk_29 (dk_at dksX2_answers_7 7 rfl rfl)
theorem dX2_answers_193 : decode cX2_answers 193 = .ok (.invokestatic 1142, 3) := dk_184 4 118 (dk_at dksX2_answers_7 8 rfl rfl)
theorem dX2_answers_196 : decode cX2_answers 196 = .ok (.goto 57, 3) := dk_167 0 57 (dk_at dksX2_answers_7 11 rfl rfl)
theorem dX2_answers_199 : decode cX2_answers 199 = .ok (.aload_n 0, 1) := dk_42 (dk_at dksX2_answers_7 14 rfl rfl)
theorem dX2_answers_200 : decode cX2_answers 200 = .ok (.iload 4, 2) := dk_21 4 (dk_at dksX2_answers_7 15 rfl rfl)
theorem dX2_answers_202 : decode cX2_answers 202 = .ok (.iload_n 2, 1) := dk_28 (dk_at dksX2_answers_7 17 rfl rfl)
theorem dX2_answers_203 : decode cX2_answers 203 = .ok (.invokestatic 1132, 3) := dk_184 4 108 (dk_at dksX2_answers_7 18 rfl rfl)
theorem dX2_answers_206 : decode cX2_answers 206 = .ok (.istore 6, 2) := dk_54 6 (dk_at dksX2_answers_7 21 rfl rfl)
theorem dX2_answers_208 : decode cX2_answers 208 = .ok (.aload_n 0, 1) := dk_42 (dk_at dksX2_answers_7 23 rfl rfl)
theorem dX2_answers_209 : decode cX2_answers 209 = .ok (.iload_n 3, 1) := dk_29 (dk_at dksX2_answers_8 0 rfl rfl)
theorem dX2_answers_210 : decode cX2_answers 210 = .ok (.putfield 1016, 3) := dk_181 3 248 (dk_at dksX2_answers_8 1 rfl rfl)
theorem dX2_answers_213 : decode cX2_answers 213 = .ok (.iload 6, 2) := dk_21 6 (dk_at dksX2_answers_8 4 rfl rfl)
theorem dX2_answers_215 : decode cX2_answers 215 = .ok (.ifCond .ne 38, 3) := dk_154 0 38 (dk_at dksX2_answers_8 6 rfl rfl)
theorem dX2_answers_218 : decode cX2_answers 218 = .ok (.aload_n 0, 1) := dk_42 (dk_at dksX2_answers_8 9 rfl rfl)
theorem dX2_answers_219 : decode cX2_answers 219 = .ok (.iload_n 2, 1) := dk_28 (dk_at dksX2_answers_8 10 rfl rfl)
theorem dX2_answers_220 : decode cX2_answers 220 = .ok (.iconst 0, 1) := dk_3 (dk_at dksX2_answers_8 11 rfl rfl)
theorem dX2_answers_221 : decode cX2_answers 221 = .ok (.iload_n 3, 1) := dk_29 (dk_at dksX2_answers_8 12 rfl rfl)
theorem dX2_answers_222 : decode cX2_answers 222 = .ok (.invokevirtual 1041, 3) := dk_182 4 17 (dk_at dksX2_answers_8 13 rfl rfl)
theorem dX2_answers_225 : decode cX2_answers 225 = .ok (.goto 28, 3) := dk_167 0 28 (dk_at dksX2_answers_8 16 rfl rfl)
theorem dX2_answers_228 : decode cX2_answers 228 = .ok (.aload_n 0, 1) := dk_42 (dk_at dksX2_answers_8 19 rfl rfl)
theorem dX2_answers_229 : decode cX2_answers 229 = .ok (.iload 4, 2) := dk_21 4 (dk_at dksX2_answers_8 20 rfl rfl)
theorem dX2_answers_231 : decode cX2_answers 231 = .ok (.iload_n 2, 1) := dk_28 (dk_at dksX2_answers_8 22 rfl rfl)
theorem dX2_answers_232 : decode cX2_answers 232 = .ok (.invokestatic 1132, 3) := dk_184 4 108 (dk_at dksX2_answers_9 0 rfl rfl)
theorem dX2_answers_235 : decode cX2_answers 235 = .ok (.istore 7, 2) := dk_54 7 (dk_at dksX2_answers_9 3 rfl rfl)
theorem dX2_answers_237 : decode cX2_answers 237 = .ok (.aload_n 0, 1) := dk_42 (dk_at dksX2_answers_9 5 rfl rfl)
theorem dX2_answers_238 : decode cX2_answers 238 = .ok (.iload_n 3, 1) := dk_29 (dk_at dksX2_answers_9 6 rfl rfl)
theorem dX2_answers_239 : decode cX2_answers 239 = .ok (.iload 7, 2) := dk_21 7 (dk_at dksX2_answers_9 7 rfl rfl)
theorem dX2_answers_241 : decode cX2_answers 241 = .ok (.ifCond .le 7, 3) := dk_158 0 7 (dk_at dksX2_answers_9 9 rfl rfl)
theorem dX2_answers_244 : decode cX2_answers 244 = .ok (.iconst 1, 1) := dk_4 (dk_at dksX2_answers_9 12 rfl rfl)
theorem dX2_answers_245 : decode cX2_answers 245 = .ok (.goto 4, 3) := dk_167 0 4 (dk_at dksX2_answers_9 13 rfl rfl)
theorem dX2_answers_248 : decode cX2_answers 248 = .ok (.iconst 0, 1) := dk_3 (dk_at dksX2_answers_9 16 rfl rfl)
theorem dX2_answers_249 : decode cX2_answers 249 = .ok (.iadd, 1) := dk_96 (dk_at dksX2_answers_9 17 rfl rfl)
theorem dX2_answers_250 : decode cX2_answers 250 = .ok (.putfield 1016, 3) := dk_181 3 248 (dk_at dksX2_answers_9 18 rfl rfl)
theorem dX2_answers_253 : decode cX2_answers 253 = .ok (.aload_n 0, 1) := dk_42 (dk_at dksX2_answers_9 21 rfl rfl)
theorem dX2_answers_254 : decode cX2_answers 254 = .ok (.getfield 1016, 3) := dk_180 3 248 (dk_at dksX2_answers_10 0 rfl rfl)
theorem dX2_answers_257 : decode cX2_answers 257 = .ok (.iload_n 3, 1) := dk_29 (dk_at dksX2_answers_10 3 rfl rfl)
theorem dX2_answers_258 : decode cX2_answers 258 = .ok (.isub, 1) := dk_100 (dk_at dksX2_answers_10 4 rfl rfl)
theorem dX2_answers_259 : decode cX2_answers 259 = .ok (.ireturn, 1) := dk_172 (dk_at dksX2_answers_10 5 rfl rfl)
abbrev cX2_addAll : ByteArray := prog_4_method_173_code
def yX2_addAll : MethodName := ⟨RX2, "addAll", "(LRewriteHouseModel;III)I"⟩
def dkwX2_addAll_2 : List UInt8 := [132, 6, 1, 167, 255, 230, 21, 5, 172]
abbrev dktX2_addAll_2 : List UInt8 := dkwX2_addAll_2 ++ []
def dkwX2_addAll_1 : List UInt8 := [21, 6, 21, 5, 162, 0, 25, 42, 42, 180, 1, 37, 21, 4, 21, 6, 96, 46, 3, 29, 182, 4, 17]
abbrev dktX2_addAll_1 : List UInt8 := dkwX2_addAll_1 ++ dktX2_addAll_2
def dkwX2_addAll_0 : List UInt8 := [42, 180, 3, 248, 54, 4, 42, 27, 28, 184, 4, 108, 54, 5, 42, 21, 4, 181, 3, 248, 3, 54, 6]
abbrev dktX2_addAll_0 : List UInt8 := dkwX2_addAll_0 ++ dktX2_addAll_1
theorem dksX2_addAll_0 : cX2_addAll.data.toList.drop 0 = dktX2_addAll_0 := by decide +kernel
theorem dksX2_addAll_1 : cX2_addAll.data.toList.drop 23 = dktX2_addAll_1 := dk_seg dksX2_addAll_0 23 rfl rfl
theorem dksX2_addAll_2 : cX2_addAll.data.toList.drop 46 = dktX2_addAll_2 := dk_seg dksX2_addAll_1 23 rfl rfl
theorem dX2_addAll_0 : decode cX2_addAll 0 = .ok (.aload_n 0, 1) := dk_42 (dk_at dksX2_addAll_0 0 rfl rfl)
theorem dX2_addAll_1 : decode cX2_addAll 1 = .ok (.getfield 1016, 3) := dk_180 3 248 (dk_at dksX2_addAll_0 1 rfl rfl)
theorem dX2_addAll_4 : decode cX2_addAll 4 = .ok (.istore 4, 2) := dk_54 4 (dk_at dksX2_addAll_0 4 rfl rfl)
theorem dX2_addAll_6 : decode cX2_addAll 6 = .ok (.aload_n 0, 1) := dk_42 (dk_at dksX2_addAll_0 6 rfl rfl)
theorem dX2_addAll_7 : decode cX2_addAll 7 = .ok (.iload_n 1, 1) := dk_27 (dk_at dksX2_addAll_0 7 rfl rfl)
theorem dX2_addAll_8 : decode cX2_addAll 8 = .ok (.iload_n 2, 1) := dk_28 (dk_at dksX2_addAll_0 8 rfl rfl)
theorem dX2_addAll_9 : decode cX2_addAll 9 = .ok (.invokestatic 1132, 3) := dk_184 4 108 (dk_at dksX2_addAll_0 9 rfl rfl)
theorem dX2_addAll_12 : decode cX2_addAll 12 = .ok (.istore 5, 2) := dk_54 5 (dk_at dksX2_addAll_0 12 rfl rfl)
theorem dX2_addAll_14 : decode cX2_addAll 14 = .ok (.aload_n 0, 1) := dk_42 (dk_at dksX2_addAll_0 14 rfl rfl)
theorem dX2_addAll_15 : decode cX2_addAll 15 = .ok (.iload 4, 2) := dk_21 4 (dk_at dksX2_addAll_0 15 rfl rfl)
theorem dX2_addAll_17 : decode cX2_addAll 17 = .ok (.putfield 1016, 3) := dk_181 3 248 (dk_at dksX2_addAll_0 17 rfl rfl)
theorem dX2_addAll_20 : decode cX2_addAll 20 = .ok (.iconst 0, 1) := dk_3 (dk_at dksX2_addAll_0 20 rfl rfl)
theorem dX2_addAll_21 : decode cX2_addAll 21 = .ok (.istore 6, 2) := dk_54 6 (dk_at dksX2_addAll_0 21 rfl rfl)
theorem dX2_addAll_23 : decode cX2_addAll 23 = .ok (.iload 6, 2) := dk_21 6 (dk_at dksX2_addAll_1 0 rfl rfl)
theorem dX2_addAll_25 : decode cX2_addAll 25 = .ok (.iload 5, 2) := dk_21 5 (dk_at dksX2_addAll_1 2 rfl rfl)
theorem dX2_addAll_27 : decode cX2_addAll 27 = .ok (.if_icmp .ge 25, 3) := dk_162 0 25 (dk_at dksX2_addAll_1 4 rfl rfl)
theorem dX2_addAll_30 : decode cX2_addAll 30 = .ok (.aload_n 0, 1) := dk_42 (dk_at dksX2_addAll_1 7 rfl rfl)
theorem dX2_addAll_31 : decode cX2_addAll 31 = .ok (.aload_n 0, 1) := dk_42 (dk_at dksX2_addAll_1 8 rfl rfl)
theorem dX2_addAll_32 : decode cX2_addAll 32 = .ok (.getfield 293, 3) := dk_180 1 37 (dk_at dksX2_addAll_1 9 rfl rfl)
theorem dX2_addAll_35 : decode cX2_addAll 35 = .ok (.iload 4, 2) := dk_21 4 (dk_at dksX2_addAll_1 12 rfl rfl)
theorem dX2_addAll_37 : decode cX2_addAll 37 = .ok (.iload 6, 2) := dk_21 6 (dk_at dksX2_addAll_1 14 rfl rfl)
theorem dX2_addAll_39 : decode cX2_addAll 39 = .ok (.iadd, 1) := dk_96 (dk_at dksX2_addAll_1 16 rfl rfl)
theorem dX2_addAll_40 : decode cX2_addAll 40 = .ok (.iaload, 1) := dk_46 (dk_at dksX2_addAll_1 17 rfl rfl)
theorem dX2_addAll_41 : decode cX2_addAll 41 = .ok (.iconst 0, 1) := dk_3 (dk_at dksX2_addAll_1 18 rfl rfl)
theorem dX2_addAll_42 : decode cX2_addAll 42 = .ok (.iload_n 3, 1) := dk_29 (dk_at dksX2_addAll_1 19 rfl rfl)
theorem dX2_addAll_43 : decode cX2_addAll 43 = .ok (.invokevirtual 1041, 3) := dk_182 4 17 (dk_at dksX2_addAll_1 20 rfl rfl)
theorem dX2_addAll_46 : decode cX2_addAll 46 = .ok (.iinc 6 1, 3) := dk_132 6 1 (dk_at dksX2_addAll_2 0 rfl rfl)
theorem dX2_addAll_49 : decode cX2_addAll 49 = .ok (.goto (-26), 3) := dk_167 255 230 (dk_at dksX2_addAll_2 3 rfl rfl)
theorem dX2_addAll_52 : decode cX2_addAll 52 = .ok (.iload 5, 2) := dk_21 5 (dk_at dksX2_addAll_2 6 rfl rfl)
theorem dX2_addAll_54 : decode cX2_addAll 54 = .ok (.ireturn, 1) := dk_172 (dk_at dksX2_addAll_2 8 rfl rfl)
abbrev cX2_thenAll : ByteArray := prog_4_method_174_code
def yX2_thenAll : MethodName := ⟨RX2, "thenAll", "(LRewriteHouseModel;IIII)V"⟩
def dkwX2_thenAll_4 : List UInt8 := [132, 8, 1, 167, 255, 226, 42, 21, 4, 21, 7, 96, 181, 3, 248, 177]
abbrev dktX2_thenAll_4 : List UInt8 := dkwX2_thenAll_4 ++ []
def dkwX2_thenAll_3 : List UInt8 := [162, 0, 29, 42, 180, 1, 37, 21, 4, 21, 8, 96, 42, 180, 1, 37, 21, 6, 21, 8, 96, 46, 79]
abbrev dktX2_thenAll_3 : List UInt8 := dkwX2_thenAll_3 ++ dktX2_thenAll_4
def dkwX2_thenAll_2 : List UInt8 := [87, 132, 7, 1, 167, 255, 228, 42, 180, 3, 248, 21, 6, 100, 54, 7, 3, 54, 8, 21, 8, 21, 7]
abbrev dktX2_thenAll_2 : List UInt8 := dkwX2_thenAll_2 ++ dktX2_thenAll_3
def dkwX2_thenAll_1 : List UInt8 := [21, 7, 21, 5, 162, 0, 27, 42, 28, 42, 180, 1, 37, 21, 4, 21, 7, 96, 46, 21, 6, 184, 4, 111]
abbrev dktX2_thenAll_1 : List UInt8 := dkwX2_thenAll_1 ++ dktX2_thenAll_2
def dkwX2_thenAll_0 : List UInt8 := [42, 27, 29, 184, 4, 108, 54, 5, 21, 4, 21, 5, 96, 54, 6, 42, 21, 6, 181, 3, 248, 3, 54, 7]
abbrev dktX2_thenAll_0 : List UInt8 := dkwX2_thenAll_0 ++ dktX2_thenAll_1
theorem dksX2_thenAll_0 : cX2_thenAll.data.toList.drop 0 = dktX2_thenAll_0 := by decide +kernel
theorem dksX2_thenAll_1 : cX2_thenAll.data.toList.drop 24 = dktX2_thenAll_1 := dk_seg dksX2_thenAll_0 24 rfl rfl
theorem dksX2_thenAll_2 : cX2_thenAll.data.toList.drop 48 = dktX2_thenAll_2 := dk_seg dksX2_thenAll_1 24 rfl rfl
theorem dksX2_thenAll_3 : cX2_thenAll.data.toList.drop 71 = dktX2_thenAll_3 := dk_seg dksX2_thenAll_2 23 rfl rfl
theorem dksX2_thenAll_4 : cX2_thenAll.data.toList.drop 94 = dktX2_thenAll_4 := dk_seg dksX2_thenAll_3 23 rfl rfl
theorem dX2_thenAll_0 : decode cX2_thenAll 0 = .ok (.aload_n 0, 1) := dk_42 (dk_at dksX2_thenAll_0 0 rfl rfl)
theorem dX2_thenAll_1 : decode cX2_thenAll 1 = .ok (.iload_n 1, 1) := dk_27 (dk_at dksX2_thenAll_0 1 rfl rfl)
theorem dX2_thenAll_2 : decode cX2_thenAll 2 = .ok (.iload_n 3, 1) := dk_29 (dk_at dksX2_thenAll_0 2 rfl rfl)
theorem dX2_thenAll_3 : decode cX2_thenAll 3 = .ok (.invokestatic 1132, 3) := dk_184 4 108 (dk_at dksX2_thenAll_0 3 rfl rfl)
theorem dX2_thenAll_6 : decode cX2_thenAll 6 = .ok (.istore 5, 2) := dk_54 5 (dk_at dksX2_thenAll_0 6 rfl rfl)
theorem dX2_thenAll_8 : decode cX2_thenAll 8 = .ok (.iload 4, 2) := dk_21 4 (dk_at dksX2_thenAll_0 8 rfl rfl)
theorem dX2_thenAll_10 : decode cX2_thenAll 10 = .ok (.iload 5, 2) := dk_21 5 (dk_at dksX2_thenAll_0 10 rfl rfl)
theorem dX2_thenAll_12 : decode cX2_thenAll 12 = .ok (.iadd, 1) := dk_96 (dk_at dksX2_thenAll_0 12 rfl rfl)
theorem dX2_thenAll_13 : decode cX2_thenAll 13 = .ok (.istore 6, 2) := dk_54 6 (dk_at dksX2_thenAll_0 13 rfl rfl)
theorem dX2_thenAll_15 : decode cX2_thenAll 15 = .ok (.aload_n 0, 1) := dk_42 (dk_at dksX2_thenAll_0 15 rfl rfl)
theorem dX2_thenAll_16 : decode cX2_thenAll 16 = .ok (.iload 6, 2) := dk_21 6 (dk_at dksX2_thenAll_0 16 rfl rfl)
theorem dX2_thenAll_18 : decode cX2_thenAll 18 = .ok (.putfield 1016, 3) := dk_181 3 248 (dk_at dksX2_thenAll_0 18 rfl rfl)
theorem dX2_thenAll_21 : decode cX2_thenAll 21 = .ok (.iconst 0, 1) := dk_3 (dk_at dksX2_thenAll_0 21 rfl rfl)
theorem dX2_thenAll_22 : decode cX2_thenAll 22 = .ok (.istore 7, 2) := dk_54 7 (dk_at dksX2_thenAll_0 22 rfl rfl)
theorem dX2_thenAll_24 : decode cX2_thenAll 24 = .ok (.iload 7, 2) := dk_21 7 (dk_at dksX2_thenAll_1 0 rfl rfl)
theorem dX2_thenAll_26 : decode cX2_thenAll 26 = .ok (.iload 5, 2) := dk_21 5 (dk_at dksX2_thenAll_1 2 rfl rfl)
theorem dX2_thenAll_28 : decode cX2_thenAll 28 = .ok (.if_icmp .ge 27, 3) := dk_162 0 27 (dk_at dksX2_thenAll_1 4 rfl rfl)
theorem dX2_thenAll_31 : decode cX2_thenAll 31 = .ok (.aload_n 0, 1) := dk_42 (dk_at dksX2_thenAll_1 7 rfl rfl)
theorem dX2_thenAll_32 : decode cX2_thenAll 32 = .ok (.iload_n 2, 1) := dk_28 (dk_at dksX2_thenAll_1 8 rfl rfl)
theorem dX2_thenAll_33 : decode cX2_thenAll 33 = .ok (.aload_n 0, 1) := dk_42 (dk_at dksX2_thenAll_1 9 rfl rfl)
theorem dX2_thenAll_34 : decode cX2_thenAll 34 = .ok (.getfield 293, 3) := dk_180 1 37 (dk_at dksX2_thenAll_1 10 rfl rfl)
theorem dX2_thenAll_37 : decode cX2_thenAll 37 = .ok (.iload 4, 2) := dk_21 4 (dk_at dksX2_thenAll_1 13 rfl rfl)
theorem dX2_thenAll_39 : decode cX2_thenAll 39 = .ok (.iload 7, 2) := dk_21 7 (dk_at dksX2_thenAll_1 15 rfl rfl)
theorem dX2_thenAll_41 : decode cX2_thenAll 41 = .ok (.iadd, 1) := dk_96 (dk_at dksX2_thenAll_1 17 rfl rfl)
theorem dX2_thenAll_42 : decode cX2_thenAll 42 = .ok (.iaload, 1) := dk_46 (dk_at dksX2_thenAll_1 18 rfl rfl)
theorem dX2_thenAll_43 : decode cX2_thenAll 43 = .ok (.iload 6, 2) := dk_21 6 (dk_at dksX2_thenAll_1 19 rfl rfl)
theorem dX2_thenAll_45 : decode cX2_thenAll 45 = .ok (.invokestatic 1135, 3) := dk_184 4 111 (dk_at dksX2_thenAll_1 21 rfl rfl)
theorem dX2_thenAll_48 : decode cX2_thenAll 48 = .ok (.pop, 1) := dk_87 (dk_at dksX2_thenAll_2 0 rfl rfl)
theorem dX2_thenAll_49 : decode cX2_thenAll 49 = .ok (.iinc 7 1, 3) := dk_132 7 1 (dk_at dksX2_thenAll_2 1 rfl rfl)
theorem dX2_thenAll_52 : decode cX2_thenAll 52 = .ok (.goto (-28), 3) := dk_167 255 228 (dk_at dksX2_thenAll_2 4 rfl rfl)
theorem dX2_thenAll_55 : decode cX2_thenAll 55 = .ok (.aload_n 0, 1) := dk_42 (dk_at dksX2_thenAll_2 7 rfl rfl)
theorem dX2_thenAll_56 : decode cX2_thenAll 56 = .ok (.getfield 1016, 3) := dk_180 3 248 (dk_at dksX2_thenAll_2 8 rfl rfl)
theorem dX2_thenAll_59 : decode cX2_thenAll 59 = .ok (.iload 6, 2) := dk_21 6 (dk_at dksX2_thenAll_2 11 rfl rfl)
theorem dX2_thenAll_61 : decode cX2_thenAll 61 = .ok (.isub, 1) := dk_100 (dk_at dksX2_thenAll_2 13 rfl rfl)
theorem dX2_thenAll_62 : decode cX2_thenAll 62 = .ok (.istore 7, 2) := dk_54 7 (dk_at dksX2_thenAll_2 14 rfl rfl)
theorem dX2_thenAll_64 : decode cX2_thenAll 64 = .ok (.iconst 0, 1) := dk_3 (dk_at dksX2_thenAll_2 16 rfl rfl)
theorem dX2_thenAll_65 : decode cX2_thenAll 65 = .ok (.istore 8, 2) := dk_54 8 (dk_at dksX2_thenAll_2 17 rfl rfl)
theorem dX2_thenAll_67 : decode cX2_thenAll 67 = .ok (.iload 8, 2) := dk_21 8 (dk_at dksX2_thenAll_2 19 rfl rfl)
theorem dX2_thenAll_69 : decode cX2_thenAll 69 = .ok (.iload 7, 2) := dk_21 7 (dk_at dksX2_thenAll_2 21 rfl rfl)
theorem dX2_thenAll_71 : decode cX2_thenAll 71 = .ok (.if_icmp .ge 29, 3) := dk_162 0 29 (dk_at dksX2_thenAll_3 0 rfl rfl)
theorem dX2_thenAll_74 : decode cX2_thenAll 74 = .ok (.aload_n 0, 1) := dk_42 (dk_at dksX2_thenAll_3 3 rfl rfl)
theorem dX2_thenAll_75 : decode cX2_thenAll 75 = .ok (.getfield 293, 3) := dk_180 1 37 (dk_at dksX2_thenAll_3 4 rfl rfl)
theorem dX2_thenAll_78 : decode cX2_thenAll 78 = .ok (.iload 4, 2) := dk_21 4 (dk_at dksX2_thenAll_3 7 rfl rfl)
theorem dX2_thenAll_80 : decode cX2_thenAll 80 = .ok (.iload 8, 2) := dk_21 8 (dk_at dksX2_thenAll_3 9 rfl rfl)
theorem dX2_thenAll_82 : decode cX2_thenAll 82 = .ok (.iadd, 1) := dk_96 (dk_at dksX2_thenAll_3 11 rfl rfl)
theorem dX2_thenAll_83 : decode cX2_thenAll 83 = .ok (.aload_n 0, 1) := dk_42 (dk_at dksX2_thenAll_3 12 rfl rfl)
theorem dX2_thenAll_84 : decode cX2_thenAll 84 = .ok (.getfield 293, 3) := dk_180 1 37 (dk_at dksX2_thenAll_3 13 rfl rfl)
theorem dX2_thenAll_87 : decode cX2_thenAll 87 = .ok (.iload 6, 2) := dk_21 6 (dk_at dksX2_thenAll_3 16 rfl rfl)
theorem dX2_thenAll_89 : decode cX2_thenAll 89 = .ok (.iload 8, 2) := dk_21 8 (dk_at dksX2_thenAll_3 18 rfl rfl)
theorem dX2_thenAll_91 : decode cX2_thenAll 91 = .ok (.iadd, 1) := dk_96 (dk_at dksX2_thenAll_3 20 rfl rfl)
theorem dX2_thenAll_92 : decode cX2_thenAll 92 = .ok (.iaload, 1) := dk_46 (dk_at dksX2_thenAll_3 21 rfl rfl)
theorem dX2_thenAll_93 : decode cX2_thenAll 93 = .ok (.iastore, 1) := dk_79 (dk_at dksX2_thenAll_3 22 rfl rfl)
theorem dX2_thenAll_94 : decode cX2_thenAll 94 = .ok (.iinc 8 1, 3) := dk_132 8 1 (dk_at dksX2_thenAll_4 0 rfl rfl)
theorem dX2_thenAll_97 : decode cX2_thenAll 97 = .ok (.goto (-30), 3) := dk_167 255 226 (dk_at dksX2_thenAll_4 3 rfl rfl)
theorem dX2_thenAll_100 : decode cX2_thenAll 100 = .ok (.aload_n 0, 1) := dk_42 (dk_at dksX2_thenAll_4 6 rfl rfl)
theorem dX2_thenAll_101 : decode cX2_thenAll 101 = .ok (.iload 4, 2) := dk_21 4 (dk_at dksX2_thenAll_4 7 rfl rfl)
theorem dX2_thenAll_103 : decode cX2_thenAll 103 = .ok (.iload 7, 2) := dk_21 7 (dk_at dksX2_thenAll_4 9 rfl rfl)
theorem dX2_thenAll_105 : decode cX2_thenAll 105 = .ok (.iadd, 1) := dk_96 (dk_at dksX2_thenAll_4 11 rfl rfl)
theorem dX2_thenAll_106 : decode cX2_thenAll 106 = .ok (.putfield 1016, 3) := dk_181 3 248 (dk_at dksX2_thenAll_4 12 rfl rfl)
theorem dX2_thenAll_109 : decode cX2_thenAll 109 = .ok (.return_, 1) := dk_177 (dk_at dksX2_thenAll_4 15 rfl rfl)
abbrev cX2_ends : ByteArray := prog_4_method_175_code
def yX2_ends : MethodName := ⟨RX2, "ends", "(LRewriteHouseModel;III)V"⟩
def dkwX2_ends_4 : List UInt8 := [167, 255, 217, 42, 21, 4, 181, 3, 248, 177]
abbrev dktX2_ends_4 : List UInt8 := dkwX2_ends_4 ++ []
def dkwX2_ends_3 : List UInt8 := [46, 154, 0, 20, 42, 180, 1, 37, 21, 4, 42, 180, 1, 37, 21, 5, 46, 79, 132, 4, 1, 132, 5, 1]
abbrev dktX2_ends_3 : List UInt8 := dkwX2_ends_3 ++ dktX2_ends_4
def dkwX2_ends_2 : List UInt8 := [132, 5, 1, 167, 255, 220, 29, 54, 5, 21, 5, 42, 180, 3, 248, 162, 0, 36, 42, 180, 1, 40, 21, 5]
abbrev dktX2_ends_2 : List UInt8 := dkwX2_ends_2 ++ dktX2_ends_3
def dkwX2_ends_1 : List UInt8 := [42, 180, 1, 37, 21, 5, 46, 29, 184, 4, 111, 54, 6, 42, 180, 1, 40, 21, 5, 21, 6, 79]
abbrev dktX2_ends_1 : List UInt8 := dkwX2_ends_1 ++ dktX2_ends_2
def dkwX2_ends_0 : List UInt8 := [42, 28, 3, 29, 182, 4, 17, 29, 54, 4, 29, 54, 5, 21, 5, 42, 180, 3, 248, 162, 0, 33, 42, 27]
abbrev dktX2_ends_0 : List UInt8 := dkwX2_ends_0 ++ dktX2_ends_1
theorem dksX2_ends_0 : cX2_ends.data.toList.drop 0 = dktX2_ends_0 := by decide +kernel
theorem dksX2_ends_1 : cX2_ends.data.toList.drop 24 = dktX2_ends_1 := dk_seg dksX2_ends_0 24 rfl rfl
theorem dksX2_ends_2 : cX2_ends.data.toList.drop 46 = dktX2_ends_2 := dk_seg dksX2_ends_1 22 rfl rfl
theorem dksX2_ends_3 : cX2_ends.data.toList.drop 70 = dktX2_ends_3 := dk_seg dksX2_ends_2 24 rfl rfl
theorem dksX2_ends_4 : cX2_ends.data.toList.drop 94 = dktX2_ends_4 := dk_seg dksX2_ends_3 24 rfl rfl
theorem dX2_ends_0 : decode cX2_ends 0 = .ok (.aload_n 0, 1) := dk_42 (dk_at dksX2_ends_0 0 rfl rfl)
theorem dX2_ends_1 : decode cX2_ends 1 = .ok (.iload_n 2, 1) := dk_28 (dk_at dksX2_ends_0 1 rfl rfl)
theorem dX2_ends_2 : decode cX2_ends 2 = .ok (.iconst 0, 1) := dk_3 (dk_at dksX2_ends_0 2 rfl rfl)
theorem dX2_ends_3 : decode cX2_ends 3 = .ok (.iload_n 3, 1) := dk_29 (dk_at dksX2_ends_0 3 rfl rfl)
theorem dX2_ends_4 : decode cX2_ends 4 = .ok (.invokevirtual 1041, 3) := dk_182 4 17 (dk_at dksX2_ends_0 4 rfl rfl)
theorem dX2_ends_7 : decode cX2_ends 7 = .ok (.iload_n 3, 1) := dk_29 (dk_at dksX2_ends_0 7 rfl rfl)
theorem dX2_ends_8 : decode cX2_ends 8 = .ok (.istore 4, 2) := dk_54 4 (dk_at dksX2_ends_0 8 rfl rfl)
theorem dX2_ends_10 : decode cX2_ends 10 = .ok (.iload_n 3, 1) := dk_29 (dk_at dksX2_ends_0 10 rfl rfl)
theorem dX2_ends_11 : decode cX2_ends 11 = .ok (.istore 5, 2) := dk_54 5 (dk_at dksX2_ends_0 11 rfl rfl)
theorem dX2_ends_13 : decode cX2_ends 13 = .ok (.iload 5, 2) := dk_21 5 (dk_at dksX2_ends_0 13 rfl rfl)
theorem dX2_ends_15 : decode cX2_ends 15 = .ok (.aload_n 0, 1) := dk_42 (dk_at dksX2_ends_0 15 rfl rfl)
theorem dX2_ends_16 : decode cX2_ends 16 = .ok (.getfield 1016, 3) := dk_180 3 248 (dk_at dksX2_ends_0 16 rfl rfl)
theorem dX2_ends_19 : decode cX2_ends 19 = .ok (.if_icmp .ge 33, 3) := dk_162 0 33 (dk_at dksX2_ends_0 19 rfl rfl)
theorem dX2_ends_22 : decode cX2_ends 22 = .ok (.aload_n 0, 1) := dk_42 (dk_at dksX2_ends_0 22 rfl rfl)
theorem dX2_ends_23 : decode cX2_ends 23 = .ok (.iload_n 1, 1) := dk_27 (dk_at dksX2_ends_0 23 rfl rfl)
theorem dX2_ends_24 : decode cX2_ends 24 = .ok (.aload_n 0, 1) := dk_42 (dk_at dksX2_ends_1 0 rfl rfl)
theorem dX2_ends_25 : decode cX2_ends 25 = .ok (.getfield 293, 3) := dk_180 1 37 (dk_at dksX2_ends_1 1 rfl rfl)
theorem dX2_ends_28 : decode cX2_ends 28 = .ok (.iload 5, 2) := dk_21 5 (dk_at dksX2_ends_1 4 rfl rfl)
theorem dX2_ends_30 : decode cX2_ends 30 = .ok (.iaload, 1) := dk_46 (dk_at dksX2_ends_1 6 rfl rfl)
theorem dX2_ends_31 : decode cX2_ends 31 = .ok (.iload_n 3, 1) := dk_29 (dk_at dksX2_ends_1 7 rfl rfl)
theorem dX2_ends_32 : decode cX2_ends 32 = .ok (.invokestatic 1135, 3) := dk_184 4 111 (dk_at dksX2_ends_1 8 rfl rfl)
theorem dX2_ends_35 : decode cX2_ends 35 = .ok (.istore 6, 2) := dk_54 6 (dk_at dksX2_ends_1 11 rfl rfl)
theorem dX2_ends_37 : decode cX2_ends 37 = .ok (.aload_n 0, 1) := dk_42 (dk_at dksX2_ends_1 13 rfl rfl)
theorem dX2_ends_38 : decode cX2_ends 38 = .ok (.getfield 296, 3) := dk_180 1 40 (dk_at dksX2_ends_1 14 rfl rfl)
theorem dX2_ends_41 : decode cX2_ends 41 = .ok (.iload 5, 2) := dk_21 5 (dk_at dksX2_ends_1 17 rfl rfl)
theorem dX2_ends_43 : decode cX2_ends 43 = .ok (.iload 6, 2) := dk_21 6 (dk_at dksX2_ends_1 19 rfl rfl)
theorem dX2_ends_45 : decode cX2_ends 45 = .ok (.iastore, 1) := dk_79 (dk_at dksX2_ends_1 21 rfl rfl)
theorem dX2_ends_46 : decode cX2_ends 46 = .ok (.iinc 5 1, 3) := dk_132 5 1 (dk_at dksX2_ends_2 0 rfl rfl)
theorem dX2_ends_49 : decode cX2_ends 49 = .ok (.goto (-36), 3) := dk_167 255 220 (dk_at dksX2_ends_2 3 rfl rfl)
theorem dX2_ends_52 : decode cX2_ends 52 = .ok (.iload_n 3, 1) := dk_29 (dk_at dksX2_ends_2 6 rfl rfl)
theorem dX2_ends_53 : decode cX2_ends 53 = .ok (.istore 5, 2) := dk_54 5 (dk_at dksX2_ends_2 7 rfl rfl)
theorem dX2_ends_55 : decode cX2_ends 55 = .ok (.iload 5, 2) := dk_21 5 (dk_at dksX2_ends_2 9 rfl rfl)
theorem dX2_ends_57 : decode cX2_ends 57 = .ok (.aload_n 0, 1) := dk_42 (dk_at dksX2_ends_2 11 rfl rfl)
theorem dX2_ends_58 : decode cX2_ends 58 = .ok (.getfield 1016, 3) := dk_180 3 248 (dk_at dksX2_ends_2 12 rfl rfl)
theorem dX2_ends_61 : decode cX2_ends 61 = .ok (.if_icmp .ge 36, 3) := dk_162 0 36 (dk_at dksX2_ends_2 15 rfl rfl)
theorem dX2_ends_64 : decode cX2_ends 64 = .ok (.aload_n 0, 1) := dk_42 (dk_at dksX2_ends_2 18 rfl rfl)
theorem dX2_ends_65 : decode cX2_ends 65 = .ok (.getfield 296, 3) := dk_180 1 40 (dk_at dksX2_ends_2 19 rfl rfl)
theorem dX2_ends_68 : decode cX2_ends 68 = .ok (.iload 5, 2) := dk_21 5 (dk_at dksX2_ends_2 22 rfl rfl)
theorem dX2_ends_70 : decode cX2_ends 70 = .ok (.iaload, 1) := dk_46 (dk_at dksX2_ends_3 0 rfl rfl)
theorem dX2_ends_71 : decode cX2_ends 71 = .ok (.ifCond .ne 20, 3) := dk_154 0 20 (dk_at dksX2_ends_3 1 rfl rfl)
theorem dX2_ends_74 : decode cX2_ends 74 = .ok (.aload_n 0, 1) := dk_42 (dk_at dksX2_ends_3 4 rfl rfl)
theorem dX2_ends_75 : decode cX2_ends 75 = .ok (.getfield 293, 3) := dk_180 1 37 (dk_at dksX2_ends_3 5 rfl rfl)
theorem dX2_ends_78 : decode cX2_ends 78 = .ok (.iload 4, 2) := dk_21 4 (dk_at dksX2_ends_3 8 rfl rfl)
theorem dX2_ends_80 : decode cX2_ends 80 = .ok (.aload_n 0, 1) := dk_42 (dk_at dksX2_ends_3 10 rfl rfl)
theorem dX2_ends_81 : decode cX2_ends 81 = .ok (.getfield 293, 3) := dk_180 1 37 (dk_at dksX2_ends_3 11 rfl rfl)
theorem dX2_ends_84 : decode cX2_ends 84 = .ok (.iload 5, 2) := dk_21 5 (dk_at dksX2_ends_3 14 rfl rfl)
theorem dX2_ends_86 : decode cX2_ends 86 = .ok (.iaload, 1) := dk_46 (dk_at dksX2_ends_3 16 rfl rfl)
theorem dX2_ends_87 : decode cX2_ends 87 = .ok (.iastore, 1) := dk_79 (dk_at dksX2_ends_3 17 rfl rfl)
theorem dX2_ends_88 : decode cX2_ends 88 = .ok (.iinc 4 1, 3) := dk_132 4 1 (dk_at dksX2_ends_3 18 rfl rfl)
theorem dX2_ends_91 : decode cX2_ends 91 = .ok (.iinc 5 1, 3) := dk_132 5 1 (dk_at dksX2_ends_3 21 rfl rfl)
theorem dX2_ends_94 : decode cX2_ends 94 = .ok (.goto (-39), 3) := dk_167 255 217 (dk_at dksX2_ends_4 0 rfl rfl)
theorem dX2_ends_97 : decode cX2_ends 97 = .ok (.aload_n 0, 1) := dk_42 (dk_at dksX2_ends_4 3 rfl rfl)
theorem dX2_ends_98 : decode cX2_ends 98 = .ok (.iload 4, 2) := dk_21 4 (dk_at dksX2_ends_4 4 rfl rfl)
theorem dX2_ends_100 : decode cX2_ends 100 = .ok (.putfield 1016, 3) := dk_181 3 248 (dk_at dksX2_ends_4 6 rfl rfl)
theorem dX2_ends_103 : decode cX2_ends 103 = .ok (.return_, 1) := dk_177 (dk_at dksX2_ends_4 9 rfl rfl)
abbrev cX2_check : ByteArray := prog_4_method_189_code
def yX2_check : MethodName := ⟨RX2, "check", "(I)I"⟩
def dkwX2_check_2 : List UInt8 := [167, 0, 4, 3, 172]
abbrev dktX2_check_2 : List UInt8 := dkwX2_check_2 ++ []
def dkwX2_check_1 : List UInt8 := [182, 4, 162, 153, 0, 7, 4, 167, 0, 19, 3, 167, 0, 15, 42, 182, 4, 165, 156, 0, 7, 4]
abbrev dktX2_check_1 : List UInt8 := dkwX2_check_1 ++ dktX2_check_2
def dkwX2_check_0 : List UInt8 := [42, 3, 181, 0, 1, 27, 133, 9, 10, 184, 1, 147, 154, 0, 5, 2, 172, 27, 154, 0, 18, 42]
abbrev dktX2_check_0 : List UInt8 := dkwX2_check_0 ++ dktX2_check_1
theorem dksX2_check_0 : cX2_check.data.toList.drop 0 = dktX2_check_0 := by decide +kernel
theorem dksX2_check_1 : cX2_check.data.toList.drop 22 = dktX2_check_1 := dk_seg dksX2_check_0 22 rfl rfl
theorem dksX2_check_2 : cX2_check.data.toList.drop 44 = dktX2_check_2 := dk_seg dksX2_check_1 22 rfl rfl
theorem dX2_check_0 : decode cX2_check 0 = .ok (.aload_n 0, 1) := dk_42 (dk_at dksX2_check_0 0 rfl rfl)
theorem dX2_check_1 : decode cX2_check 1 = .ok (.iconst 0, 1) := dk_3 (dk_at dksX2_check_0 1 rfl rfl)
theorem dX2_check_2 : decode cX2_check 2 = .ok (.putfield 1, 3) := dk_181 0 1 (dk_at dksX2_check_0 2 rfl rfl)
theorem dX2_check_5 : decode cX2_check 5 = .ok (.iload_n 1, 1) := dk_27 (dk_at dksX2_check_0 5 rfl rfl)
theorem dX2_check_6 : decode cX2_check 6 = .ok (.i2l, 1) := dk_133 (dk_at dksX2_check_0 6 rfl rfl)
theorem dX2_check_7 : decode cX2_check 7 = .ok (.lconst 0, 1) := dk_9 (dk_at dksX2_check_0 7 rfl rfl)
theorem dX2_check_8 : decode cX2_check 8 = .ok (.lconst 1, 1) := dk_10 (dk_at dksX2_check_0 8 rfl rfl)
theorem dX2_check_9 : decode cX2_check 9 = .ok (.invokestatic 403, 3) := dk_184 1 147 (dk_at dksX2_check_0 9 rfl rfl)
theorem dX2_check_12 : decode cX2_check 12 = .ok (.ifCond .ne 5, 3) := dk_154 0 5 (dk_at dksX2_check_0 12 rfl rfl)
theorem dX2_check_15 : decode cX2_check 15 = .ok (.iconst (-1), 1) := dk_2 (dk_at dksX2_check_0 15 rfl rfl)
theorem dX2_check_16 : decode cX2_check 16 = .ok (.ireturn, 1) := dk_172 (dk_at dksX2_check_0 16 rfl rfl)
theorem dX2_check_17 : decode cX2_check 17 = .ok (.iload_n 1, 1) := dk_27 (dk_at dksX2_check_0 17 rfl rfl)
theorem dX2_check_18 : decode cX2_check 18 = .ok (.ifCond .ne 18, 3) := dk_154 0 18 (dk_at dksX2_check_0 18 rfl rfl)
theorem dX2_check_21 : decode cX2_check 21 = .ok (.aload_n 0, 1) := dk_42 (dk_at dksX2_check_0 21 rfl rfl)
theorem dX2_check_22 : decode cX2_check 22 = .ok (.invokevirtual 1186, 3) := dk_182 4 162 (dk_at dksX2_check_1 0 rfl rfl)
theorem dX2_check_25 : decode cX2_check 25 = .ok (.ifCond .eq 7, 3) := dk_153 0 7 (dk_at dksX2_check_1 3 rfl rfl)
theorem dX2_check_28 : decode cX2_check 28 = .ok (.iconst 1, 1) := dk_4 (dk_at dksX2_check_1 6 rfl rfl)
theorem dX2_check_29 : decode cX2_check 29 = .ok (.goto 19, 3) := dk_167 0 19 (dk_at dksX2_check_1 7 rfl rfl)
theorem dX2_check_32 : decode cX2_check 32 = .ok (.iconst 0, 1) := dk_3 (dk_at dksX2_check_1 10 rfl rfl)
theorem dX2_check_33 : decode cX2_check 33 = .ok (.goto 15, 3) := dk_167 0 15 (dk_at dksX2_check_1 11 rfl rfl)
theorem dX2_check_36 : decode cX2_check 36 = .ok (.aload_n 0, 1) := dk_42 (dk_at dksX2_check_1 14 rfl rfl)
theorem dX2_check_37 : decode cX2_check 37 = .ok (.invokevirtual 1189, 3) := dk_182 4 165 (dk_at dksX2_check_1 15 rfl rfl)
theorem dX2_check_40 : decode cX2_check 40 = .ok (.ifCond .ge 7, 3) := dk_156 0 7 (dk_at dksX2_check_1 18 rfl rfl)
theorem dX2_check_43 : decode cX2_check 43 = .ok (.iconst 1, 1) := dk_4 (dk_at dksX2_check_1 21 rfl rfl)
theorem dX2_check_44 : decode cX2_check 44 = .ok (.goto 4, 3) := dk_167 0 4 (dk_at dksX2_check_2 0 rfl rfl)
theorem dX2_check_47 : decode cX2_check 47 = .ok (.iconst 0, 1) := dk_3 (dk_at dksX2_check_2 3 rfl rfl)
theorem dX2_check_48 : decode cX2_check 48 = .ok (.ireturn, 1) := dk_172 (dk_at dksX2_check_2 4 rfl rfl)
abbrev cX2_isOneLeast : ByteArray := prog_4_method_182_code
def yX2_isOneLeast : MethodName := ⟨RX2, "isOneLeast", "()Z"⟩
def dkwX2_isOneLeast_7 : List UInt8 := [6, 182, 4, 136, 62, 167, 255, 176, 132, 1, 1, 167, 255, 83, 4, 172]
abbrev dktX2_isOneLeast_7 : List UInt8 := dkwX2_isOneLeast_7 ++ []
def dkwX2_isOneLeast_6 : List UInt8 := [180, 1, 109, 5, 46, 182, 4, 139, 182, 4, 139, 54, 5, 21, 4, 21, 5, 159, 0, 5, 3, 172, 42, 27]
abbrev dktX2_isOneLeast_6 : List UInt8 := dkwX2_isOneLeast_6 ++ dktX2_isOneLeast_7
def dkwX2_isOneLeast_5 : List UInt8 := [182, 4, 139, 54, 4, 42, 27, 42, 180, 1, 109, 3, 46, 42, 27, 42, 180, 1, 109, 4, 46, 42]
abbrev dktX2_isOneLeast_5 : List UInt8 := dkwX2_isOneLeast_5 ++ dktX2_isOneLeast_6
def dkwX2_isOneLeast_4 : List UInt8 := [42, 27, 42, 180, 1, 109, 3, 46, 42, 180, 1, 109, 4, 46, 182, 4, 139, 42, 180, 1, 109, 5, 46]
abbrev dktX2_isOneLeast_4 : List UInt8 := dkwX2_isOneLeast_4 ++ dktX2_isOneLeast_5
def dkwX2_isOneLeast_3 : List UInt8 := [27, 51, 153, 0, 99, 42, 6, 181, 4, 127, 42, 27, 6, 182, 4, 130, 4, 62, 29, 153, 0, 82, 42, 27]
abbrev dktX2_isOneLeast_3 : List UInt8 := dkwX2_isOneLeast_3 ++ dktX2_isOneLeast_4
def dkwX2_isOneLeast_2 : List UInt8 := [182, 4, 133, 16, 254, 160, 0, 5, 3, 172, 42, 27, 28, 182, 4, 136, 62, 167, 255, 232, 42, 180, 0, 168]
abbrev dktX2_isOneLeast_2 : List UInt8 := dkwX2_isOneLeast_2 ++ dktX2_isOneLeast_3
def dkwX2_isOneLeast_1 : List UInt8 := [181, 4, 124, 42, 28, 181, 4, 127, 42, 27, 28, 182, 4, 130, 4, 62, 29, 153, 0, 26, 42, 27, 28]
abbrev dktX2_isOneLeast_1 : List UInt8 := dkwX2_isOneLeast_1 ++ dktX2_isOneLeast_2
def dkwX2_isOneLeast_0 : List UInt8 := [3, 60, 27, 42, 180, 2, 131, 162, 0, 171, 42, 180, 0, 147, 42, 180, 0, 159, 27, 46, 46, 61, 42, 27]
abbrev dktX2_isOneLeast_0 : List UInt8 := dkwX2_isOneLeast_0 ++ dktX2_isOneLeast_1
theorem dksX2_isOneLeast_0 : cX2_isOneLeast.data.toList.drop 0 = dktX2_isOneLeast_0 := by decide +kernel
theorem dksX2_isOneLeast_1 : cX2_isOneLeast.data.toList.drop 24 = dktX2_isOneLeast_1 := dk_seg dksX2_isOneLeast_0 24 rfl rfl
theorem dksX2_isOneLeast_2 : cX2_isOneLeast.data.toList.drop 47 = dktX2_isOneLeast_2 := dk_seg dksX2_isOneLeast_1 23 rfl rfl
theorem dksX2_isOneLeast_3 : cX2_isOneLeast.data.toList.drop 71 = dktX2_isOneLeast_3 := dk_seg dksX2_isOneLeast_2 24 rfl rfl
theorem dksX2_isOneLeast_4 : cX2_isOneLeast.data.toList.drop 95 = dktX2_isOneLeast_4 := dk_seg dksX2_isOneLeast_3 24 rfl rfl
theorem dksX2_isOneLeast_5 : cX2_isOneLeast.data.toList.drop 118 = dktX2_isOneLeast_5 := dk_seg dksX2_isOneLeast_4 23 rfl rfl
theorem dksX2_isOneLeast_6 : cX2_isOneLeast.data.toList.drop 140 = dktX2_isOneLeast_6 := dk_seg dksX2_isOneLeast_5 22 rfl rfl
theorem dksX2_isOneLeast_7 : cX2_isOneLeast.data.toList.drop 164 = dktX2_isOneLeast_7 := dk_seg dksX2_isOneLeast_6 24 rfl rfl
theorem dX2_isOneLeast_0 : decode cX2_isOneLeast 0 = .ok (.iconst 0, 1) := dk_3 (dk_at dksX2_isOneLeast_0 0 rfl rfl)
theorem dX2_isOneLeast_1 : decode cX2_isOneLeast 1 = .ok (.istore_n 1, 1) := dk_60 (dk_at dksX2_isOneLeast_0 1 rfl rfl)
theorem dX2_isOneLeast_2 : decode cX2_isOneLeast 2 = .ok (.iload_n 1, 1) := dk_27 (dk_at dksX2_isOneLeast_0 2 rfl rfl)
theorem dX2_isOneLeast_3 : decode cX2_isOneLeast 3 = .ok (.aload_n 0, 1) := dk_42 (dk_at dksX2_isOneLeast_0 3 rfl rfl)
theorem dX2_isOneLeast_4 : decode cX2_isOneLeast 4 = .ok (.getfield 643, 3) := dk_180 2 131 (dk_at dksX2_isOneLeast_0 4 rfl rfl)
theorem dX2_isOneLeast_7 : decode cX2_isOneLeast 7 = .ok (.if_icmp .ge 171, 3) := dk_162 0 171 (dk_at dksX2_isOneLeast_0 7 rfl rfl)
theorem dX2_isOneLeast_10 : decode cX2_isOneLeast 10 = .ok (.aload_n 0, 1) := dk_42 (dk_at dksX2_isOneLeast_0 10 rfl rfl)
theorem dX2_isOneLeast_11 : decode cX2_isOneLeast 11 = .ok (.getfield 147, 3) := dk_180 0 147 (dk_at dksX2_isOneLeast_0 11 rfl rfl)
theorem dX2_isOneLeast_14 : decode cX2_isOneLeast 14 = .ok (.aload_n 0, 1) := dk_42 (dk_at dksX2_isOneLeast_0 14 rfl rfl)
theorem dX2_isOneLeast_15 : decode cX2_isOneLeast 15 = .ok (.getfield 159, 3) := dk_180 0 159 (dk_at dksX2_isOneLeast_0 15 rfl rfl)
theorem dX2_isOneLeast_18 : decode cX2_isOneLeast 18 = .ok (.iload_n 1, 1) := dk_27 (dk_at dksX2_isOneLeast_0 18 rfl rfl)
theorem dX2_isOneLeast_19 : decode cX2_isOneLeast 19 = .ok (.iaload, 1) := dk_46 (dk_at dksX2_isOneLeast_0 19 rfl rfl)
theorem dX2_isOneLeast_20 : decode cX2_isOneLeast 20 = .ok (.iaload, 1) := dk_46 (dk_at dksX2_isOneLeast_0 20 rfl rfl)
theorem dX2_isOneLeast_21 : decode cX2_isOneLeast 21 = .ok (.istore_n 2, 1) := dk_61 (dk_at dksX2_isOneLeast_0 21 rfl rfl)
theorem dX2_isOneLeast_22 : decode cX2_isOneLeast 22 = .ok (.aload_n 0, 1) := dk_42 (dk_at dksX2_isOneLeast_0 22 rfl rfl)
theorem dX2_isOneLeast_23 : decode cX2_isOneLeast 23 = .ok (.iload_n 1, 1) := dk_27 (dk_at dksX2_isOneLeast_0 23 rfl rfl)
theorem dX2_isOneLeast_24 : decode cX2_isOneLeast 24 = .ok (.putfield 1148, 3) := dk_181 4 124 (dk_at dksX2_isOneLeast_1 0 rfl rfl)
theorem dX2_isOneLeast_27 : decode cX2_isOneLeast 27 = .ok (.aload_n 0, 1) := dk_42 (dk_at dksX2_isOneLeast_1 3 rfl rfl)
theorem dX2_isOneLeast_28 : decode cX2_isOneLeast 28 = .ok (.iload_n 2, 1) := dk_28 (dk_at dksX2_isOneLeast_1 4 rfl rfl)
theorem dX2_isOneLeast_29 : decode cX2_isOneLeast 29 = .ok (.putfield 1151, 3) := dk_181 4 127 (dk_at dksX2_isOneLeast_1 5 rfl rfl)
theorem dX2_isOneLeast_32 : decode cX2_isOneLeast 32 = .ok (.aload_n 0, 1) := dk_42 (dk_at dksX2_isOneLeast_1 8 rfl rfl)
theorem dX2_isOneLeast_33 : decode cX2_isOneLeast 33 = .ok (.iload_n 1, 1) := dk_27 (dk_at dksX2_isOneLeast_1 9 rfl rfl)
theorem dX2_isOneLeast_34 : decode cX2_isOneLeast 34 = .ok (.iload_n 2, 1) := dk_28 (dk_at dksX2_isOneLeast_1 10 rfl rfl)
theorem dX2_isOneLeast_35 : decode cX2_isOneLeast 35 = .ok (.invokevirtual 1154, 3) := dk_182 4 130 (dk_at dksX2_isOneLeast_1 11 rfl rfl)
theorem dX2_isOneLeast_38 : decode cX2_isOneLeast 38 = .ok (.iconst 1, 1) := dk_4 (dk_at dksX2_isOneLeast_1 14 rfl rfl)
theorem dX2_isOneLeast_39 : decode cX2_isOneLeast 39 = .ok (.istore_n 3, 1) := dk_62 (dk_at dksX2_isOneLeast_1 15 rfl rfl)
theorem dX2_isOneLeast_40 : decode cX2_isOneLeast 40 = .ok (.iload_n 3, 1) := dk_29 (dk_at dksX2_isOneLeast_1 16 rfl rfl)
theorem dX2_isOneLeast_41 : decode cX2_isOneLeast 41 = .ok (.ifCond .eq 26, 3) := dk_153 0 26 (dk_at dksX2_isOneLeast_1 17 rfl rfl)
theorem dX2_isOneLeast_44 : decode cX2_isOneLeast 44 = .ok (.aload_n 0, 1) := dk_42 (dk_at dksX2_isOneLeast_1 20 rfl rfl)
theorem dX2_isOneLeast_45 : decode cX2_isOneLeast 45 = .ok (.iload_n 1, 1) := dk_27 (dk_at dksX2_isOneLeast_1 21 rfl rfl)
theorem dX2_isOneLeast_46 : decode cX2_isOneLeast 46 = .ok (.iload_n 2, 1) := dk_28 (dk_at dksX2_isOneLeast_1 22 rfl rfl)
theorem dX2_isOneLeast_47 : decode cX2_isOneLeast 47 = .ok (.invokevirtual 1157, 3) := dk_182 4 133 (dk_at dksX2_isOneLeast_2 0 rfl rfl)
theorem dX2_isOneLeast_50 : decode cX2_isOneLeast 50 = .ok (.bipush (-2), 2) := dk_16 254 (dk_at dksX2_isOneLeast_2 3 rfl rfl)
theorem dX2_isOneLeast_52 : decode cX2_isOneLeast 52 = .ok (.if_icmp .ne 5, 3) := dk_160 0 5 (dk_at dksX2_isOneLeast_2 5 rfl rfl)
theorem dX2_isOneLeast_55 : decode cX2_isOneLeast 55 = .ok (.iconst 0, 1) := dk_3 (dk_at dksX2_isOneLeast_2 8 rfl rfl)
theorem dX2_isOneLeast_56 : decode cX2_isOneLeast 56 = .ok (.ireturn, 1) := dk_172 (dk_at dksX2_isOneLeast_2 9 rfl rfl)
theorem dX2_isOneLeast_57 : decode cX2_isOneLeast 57 = .ok (.aload_n 0, 1) := dk_42 (dk_at dksX2_isOneLeast_2 10 rfl rfl)
theorem dX2_isOneLeast_58 : decode cX2_isOneLeast 58 = .ok (.iload_n 1, 1) := dk_27 (dk_at dksX2_isOneLeast_2 11 rfl rfl)
theorem dX2_isOneLeast_59 : decode cX2_isOneLeast 59 = .ok (.iload_n 2, 1) := dk_28 (dk_at dksX2_isOneLeast_2 12 rfl rfl)
theorem dX2_isOneLeast_60 : decode cX2_isOneLeast 60 = .ok (.invokevirtual 1160, 3) := dk_182 4 136 (dk_at dksX2_isOneLeast_2 13 rfl rfl)
theorem dX2_isOneLeast_63 : decode cX2_isOneLeast 63 = .ok (.istore_n 3, 1) := dk_62 (dk_at dksX2_isOneLeast_2 16 rfl rfl)
theorem dX2_isOneLeast_64 : decode cX2_isOneLeast 64 = .ok (.goto (-24), 3) := dk_167 255 232 (dk_at dksX2_isOneLeast_2 17 rfl rfl)
theorem dX2_isOneLeast_67 : decode cX2_isOneLeast 67 = .ok (.aload_n 0, 1) := dk_42 (dk_at dksX2_isOneLeast_2 20 rfl rfl)
theorem dX2_isOneLeast_68 : decode cX2_isOneLeast 68 = .ok (.getfield 168, 3) := dk_180 0 168 (dk_at dksX2_isOneLeast_2 21 rfl rfl)
theorem dX2_isOneLeast_71 : decode cX2_isOneLeast 71 = .ok (.iload_n 1, 1) := dk_27 (dk_at dksX2_isOneLeast_3 0 rfl rfl)
theorem dX2_isOneLeast_72 : decode cX2_isOneLeast 72 = .ok (.baload, 1) := dk_51 (dk_at dksX2_isOneLeast_3 1 rfl rfl)
theorem dX2_isOneLeast_73 : decode cX2_isOneLeast 73 = .ok (.ifCond .eq 99, 3) := dk_153 0 99 (dk_at dksX2_isOneLeast_3 2 rfl rfl)
theorem dX2_isOneLeast_76 : decode cX2_isOneLeast 76 = .ok (.aload_n 0, 1) := dk_42 (dk_at dksX2_isOneLeast_3 5 rfl rfl)
theorem dX2_isOneLeast_77 : decode cX2_isOneLeast 77 = .ok (.iconst 3, 1) := dk_6 (dk_at dksX2_isOneLeast_3 6 rfl rfl)
theorem dX2_isOneLeast_78 : decode cX2_isOneLeast 78 = .ok (.putfield 1151, 3) := dk_181 4 127 (dk_at dksX2_isOneLeast_3 7 rfl rfl)
theorem dX2_isOneLeast_81 : decode cX2_isOneLeast 81 = .ok (.aload_n 0, 1) := dk_42 (dk_at dksX2_isOneLeast_3 10 rfl rfl)
theorem dX2_isOneLeast_82 : decode cX2_isOneLeast 82 = .ok (.iload_n 1, 1) := dk_27 (dk_at dksX2_isOneLeast_3 11 rfl rfl)
theorem dX2_isOneLeast_83 : decode cX2_isOneLeast 83 = .ok (.iconst 3, 1) := dk_6 (dk_at dksX2_isOneLeast_3 12 rfl rfl)
theorem dX2_isOneLeast_84 : decode cX2_isOneLeast 84 = .ok (.invokevirtual 1154, 3) := dk_182 4 130 (dk_at dksX2_isOneLeast_3 13 rfl rfl)
theorem dX2_isOneLeast_87 : decode cX2_isOneLeast 87 = .ok (.iconst 1, 1) := dk_4 (dk_at dksX2_isOneLeast_3 16 rfl rfl)
theorem dX2_isOneLeast_88 : decode cX2_isOneLeast 88 = .ok (.istore_n 3, 1) := dk_62 (dk_at dksX2_isOneLeast_3 17 rfl rfl)
theorem dX2_isOneLeast_89 : decode cX2_isOneLeast 89 = .ok (.iload_n 3, 1) := dk_29 (dk_at dksX2_isOneLeast_3 18 rfl rfl)
theorem dX2_isOneLeast_90 : decode cX2_isOneLeast 90 = .ok (.ifCond .eq 82, 3) := dk_153 0 82 (dk_at dksX2_isOneLeast_3 19 rfl rfl)
theorem dX2_isOneLeast_93 : decode cX2_isOneLeast 93 = .ok (.aload_n 0, 1) := dk_42 (dk_at dksX2_isOneLeast_3 22 rfl rfl)
theorem dX2_isOneLeast_94 : decode cX2_isOneLeast 94 = .ok (.iload_n 1, 1) := dk_27 (dk_at dksX2_isOneLeast_3 23 rfl rfl)
theorem dX2_isOneLeast_95 : decode cX2_isOneLeast 95 = .ok (.aload_n 0, 1) := dk_42 (dk_at dksX2_isOneLeast_4 0 rfl rfl)
theorem dX2_isOneLeast_96 : decode cX2_isOneLeast 96 = .ok (.iload_n 1, 1) := dk_27 (dk_at dksX2_isOneLeast_4 1 rfl rfl)
theorem dX2_isOneLeast_97 : decode cX2_isOneLeast 97 = .ok (.aload_n 0, 1) := dk_42 (dk_at dksX2_isOneLeast_4 2 rfl rfl)
theorem dX2_isOneLeast_98 : decode cX2_isOneLeast 98 = .ok (.getfield 365, 3) := dk_180 1 109 (dk_at dksX2_isOneLeast_4 3 rfl rfl)
theorem dX2_isOneLeast_101 : decode cX2_isOneLeast 101 = .ok (.iconst 0, 1) := dk_3 (dk_at dksX2_isOneLeast_4 6 rfl rfl)
theorem dX2_isOneLeast_102 : decode cX2_isOneLeast 102 = .ok (.iaload, 1) := dk_46 (dk_at dksX2_isOneLeast_4 7 rfl rfl)
theorem dX2_isOneLeast_103 : decode cX2_isOneLeast 103 = .ok (.aload_n 0, 1) := dk_42 (dk_at dksX2_isOneLeast_4 8 rfl rfl)
theorem dX2_isOneLeast_104 : decode cX2_isOneLeast 104 = .ok (.getfield 365, 3) := dk_180 1 109 (dk_at dksX2_isOneLeast_4 9 rfl rfl)
theorem dX2_isOneLeast_107 : decode cX2_isOneLeast 107 = .ok (.iconst 1, 1) := dk_4 (dk_at dksX2_isOneLeast_4 12 rfl rfl)
theorem dX2_isOneLeast_108 : decode cX2_isOneLeast 108 = .ok (.iaload, 1) := dk_46 (dk_at dksX2_isOneLeast_4 13 rfl rfl)
theorem dX2_isOneLeast_109 : decode cX2_isOneLeast 109 = .ok (.invokevirtual 1163, 3) := dk_182 4 139 (dk_at dksX2_isOneLeast_4 14 rfl rfl)
theorem dX2_isOneLeast_112 : decode cX2_isOneLeast 112 = .ok (.aload_n 0, 1) := dk_42 (dk_at dksX2_isOneLeast_4 17 rfl rfl)
theorem dX2_isOneLeast_113 : decode cX2_isOneLeast 113 = .ok (.getfield 365, 3) := dk_180 1 109 (dk_at dksX2_isOneLeast_4 18 rfl rfl)
theorem dX2_isOneLeast_116 : decode cX2_isOneLeast 116 = .ok (.iconst 2, 1) := dk_5 (dk_at dksX2_isOneLeast_4 21 rfl rfl)
theorem dX2_isOneLeast_117 : decode cX2_isOneLeast 117 = .ok (.iaload, 1) := dk_46 (dk_at dksX2_isOneLeast_4 22 rfl rfl)
theorem dX2_isOneLeast_118 : decode cX2_isOneLeast 118 = .ok (.invokevirtual 1163, 3) := dk_182 4 139 (dk_at dksX2_isOneLeast_5 0 rfl rfl)
theorem dX2_isOneLeast_121 : decode cX2_isOneLeast 121 = .ok (.istore 4, 2) := dk_54 4 (dk_at dksX2_isOneLeast_5 3 rfl rfl)
theorem dX2_isOneLeast_123 : decode cX2_isOneLeast 123 = .ok (.aload_n 0, 1) := dk_42 (dk_at dksX2_isOneLeast_5 5 rfl rfl)
theorem dX2_isOneLeast_124 : decode cX2_isOneLeast 124 = .ok (.iload_n 1, 1) := dk_27 (dk_at dksX2_isOneLeast_5 6 rfl rfl)
theorem dX2_isOneLeast_125 : decode cX2_isOneLeast 125 = .ok (.aload_n 0, 1) := dk_42 (dk_at dksX2_isOneLeast_5 7 rfl rfl)
theorem dX2_isOneLeast_126 : decode cX2_isOneLeast 126 = .ok (.getfield 365, 3) := dk_180 1 109 (dk_at dksX2_isOneLeast_5 8 rfl rfl)
theorem dX2_isOneLeast_129 : decode cX2_isOneLeast 129 = .ok (.iconst 0, 1) := dk_3 (dk_at dksX2_isOneLeast_5 11 rfl rfl)
theorem dX2_isOneLeast_130 : decode cX2_isOneLeast 130 = .ok (.iaload, 1) := dk_46 (dk_at dksX2_isOneLeast_5 12 rfl rfl)
theorem dX2_isOneLeast_131 : decode cX2_isOneLeast 131 = .ok (.aload_n 0, 1) := dk_42 (dk_at dksX2_isOneLeast_5 13 rfl rfl)
theorem dX2_isOneLeast_132 : decode cX2_isOneLeast 132 = .ok (.iload_n 1, 1) := dk_27 (dk_at dksX2_isOneLeast_5 14 rfl rfl)
theorem dX2_isOneLeast_133 : decode cX2_isOneLeast 133 = .ok (.aload_n 0, 1) := dk_42 (dk_at dksX2_isOneLeast_5 15 rfl rfl)
theorem dX2_isOneLeast_134 : decode cX2_isOneLeast 134 = .ok (.getfield 365, 3) := dk_180 1 109 (dk_at dksX2_isOneLeast_5 16 rfl rfl)
theorem dX2_isOneLeast_137 : decode cX2_isOneLeast 137 = .ok (.iconst 1, 1) := dk_4 (dk_at dksX2_isOneLeast_5 19 rfl rfl)
theorem dX2_isOneLeast_138 : decode cX2_isOneLeast 138 = .ok (.iaload, 1) := dk_46 (dk_at dksX2_isOneLeast_5 20 rfl rfl)
theorem dX2_isOneLeast_139 : decode cX2_isOneLeast 139 = .ok (.aload_n 0, 1) := dk_42 (dk_at dksX2_isOneLeast_5 21 rfl rfl)
theorem dX2_isOneLeast_140 : decode cX2_isOneLeast 140 = .ok (.getfield 365, 3) := dk_180 1 109 (dk_at dksX2_isOneLeast_6 0 rfl rfl)
theorem dX2_isOneLeast_143 : decode cX2_isOneLeast 143 = .ok (.iconst 2, 1) := dk_5 (dk_at dksX2_isOneLeast_6 3 rfl rfl)
theorem dX2_isOneLeast_144 : decode cX2_isOneLeast 144 = .ok (.iaload, 1) := dk_46 (dk_at dksX2_isOneLeast_6 4 rfl rfl)
theorem dX2_isOneLeast_145 : decode cX2_isOneLeast 145 = .ok (.invokevirtual 1163, 3) := dk_182 4 139 (dk_at dksX2_isOneLeast_6 5 rfl rfl)
theorem dX2_isOneLeast_148 : decode cX2_isOneLeast 148 = .ok (.invokevirtual 1163, 3) := dk_182 4 139 (dk_at dksX2_isOneLeast_6 8 rfl rfl)
theorem dX2_isOneLeast_151 : decode cX2_isOneLeast 151 = .ok (.istore 5, 2) := dk_54 5 (dk_at dksX2_isOneLeast_6 11 rfl rfl)
theorem dX2_isOneLeast_153 : decode cX2_isOneLeast 153 = .ok (.iload 4, 2) := dk_21 4 (dk_at dksX2_isOneLeast_6 13 rfl rfl)
theorem dX2_isOneLeast_155 : decode cX2_isOneLeast 155 = .ok (.iload 5, 2) := dk_21 5 (dk_at dksX2_isOneLeast_6 15 rfl rfl)
theorem dX2_isOneLeast_157 : decode cX2_isOneLeast 157 = .ok (.if_icmp .eq 5, 3) := dk_159 0 5 (dk_at dksX2_isOneLeast_6 17 rfl rfl)
theorem dX2_isOneLeast_160 : decode cX2_isOneLeast 160 = .ok (.iconst 0, 1) := dk_3 (dk_at dksX2_isOneLeast_6 20 rfl rfl)
theorem dX2_isOneLeast_161 : decode cX2_isOneLeast 161 = .ok (.ireturn, 1) := dk_172 (dk_at dksX2_isOneLeast_6 21 rfl rfl)
theorem dX2_isOneLeast_162 : decode cX2_isOneLeast 162 = .ok (.aload_n 0, 1) := dk_42 (dk_at dksX2_isOneLeast_6 22 rfl rfl)
theorem dX2_isOneLeast_163 : decode cX2_isOneLeast 163 = .ok (.iload_n 1, 1) := dk_27 (dk_at dksX2_isOneLeast_6 23 rfl rfl)
theorem dX2_isOneLeast_164 : decode cX2_isOneLeast 164 = .ok (.iconst 3, 1) := dk_6 (dk_at dksX2_isOneLeast_7 0 rfl rfl)
theorem dX2_isOneLeast_165 : decode cX2_isOneLeast 165 = .ok (.invokevirtual 1160, 3) := dk_182 4 136 (dk_at dksX2_isOneLeast_7 1 rfl rfl)
theorem dX2_isOneLeast_168 : decode cX2_isOneLeast 168 = .ok (.istore_n 3, 1) := dk_62 (dk_at dksX2_isOneLeast_7 4 rfl rfl)
theorem dX2_isOneLeast_169 : decode cX2_isOneLeast 169 = .ok (.goto (-80), 3) := dk_167 255 176 (dk_at dksX2_isOneLeast_7 5 rfl rfl)
theorem dX2_isOneLeast_172 : decode cX2_isOneLeast 172 = .ok (.iinc 1 1, 3) := dk_132 1 1 (dk_at dksX2_isOneLeast_7 8 rfl rfl)
theorem dX2_isOneLeast_175 : decode cX2_isOneLeast 175 = .ok (.goto (-173), 3) := dk_167 255 83 (dk_at dksX2_isOneLeast_7 11 rfl rfl)
theorem dX2_isOneLeast_178 : decode cX2_isOneLeast 178 = .ok (.iconst 1, 1) := dk_4 (dk_at dksX2_isOneLeast_7 14 rfl rfl)
theorem dX2_isOneLeast_179 : decode cX2_isOneLeast 179 = .ok (.ireturn, 1) := dk_172 (dk_at dksX2_isOneLeast_7 15 rfl rfl)
abbrev cX2_firstTuple : ByteArray := prog_4_method_180_code
def yX2_firstTuple : MethodName := ⟨RX2, "firstTuple", "(II)V"⟩
def dkwX2_firstTuple_2 : List UInt8 := [182, 2, 140, 182, 4, 121, 79, 132, 4, 1, 167, 255, 210, 177]
abbrev dktX2_firstTuple_2 : List UInt8 := dkwX2_firstTuple_2 ++ []
def dkwX2_firstTuple_1 : List UInt8 := [29, 21, 4, 5, 161, 0, 12, 42, 180, 0, 168, 27, 51, 154, 0, 8, 21, 4, 167, 0, 4, 3]
abbrev dktX2_firstTuple_1 : List UInt8 := dkwX2_firstTuple_1 ++ dktX2_firstTuple_2
def dkwX2_firstTuple_0 : List UInt8 := [42, 180, 0, 159, 27, 46, 62, 3, 54, 4, 21, 4, 28, 162, 0, 46, 42, 180, 1, 109, 21, 4, 42, 42]
abbrev dktX2_firstTuple_0 : List UInt8 := dkwX2_firstTuple_0 ++ dktX2_firstTuple_1
theorem dksX2_firstTuple_0 : cX2_firstTuple.data.toList.drop 0 = dktX2_firstTuple_0 := by decide +kernel
theorem dksX2_firstTuple_1 : cX2_firstTuple.data.toList.drop 24 = dktX2_firstTuple_1 := dk_seg dksX2_firstTuple_0 24 rfl rfl
theorem dksX2_firstTuple_2 : cX2_firstTuple.data.toList.drop 46 = dktX2_firstTuple_2 := dk_seg dksX2_firstTuple_1 22 rfl rfl
theorem dX2_firstTuple_0 : decode cX2_firstTuple 0 = .ok (.aload_n 0, 1) := dk_42 (dk_at dksX2_firstTuple_0 0 rfl rfl)
theorem dX2_firstTuple_1 : decode cX2_firstTuple 1 = .ok (.getfield 159, 3) := dk_180 0 159 (dk_at dksX2_firstTuple_0 1 rfl rfl)
theorem dX2_firstTuple_4 : decode cX2_firstTuple 4 = .ok (.iload_n 1, 1) := dk_27 (dk_at dksX2_firstTuple_0 4 rfl rfl)
theorem dX2_firstTuple_5 : decode cX2_firstTuple 5 = .ok (.iaload, 1) := dk_46 (dk_at dksX2_firstTuple_0 5 rfl rfl)
theorem dX2_firstTuple_6 : decode cX2_firstTuple 6 = .ok (.istore_n 3, 1) := dk_62 (dk_at dksX2_firstTuple_0 6 rfl rfl)
theorem dX2_firstTuple_7 : decode cX2_firstTuple 7 = .ok (.iconst 0, 1) := dk_3 (dk_at dksX2_firstTuple_0 7 rfl rfl)
theorem dX2_firstTuple_8 : decode cX2_firstTuple 8 = .ok (.istore 4, 2) := dk_54 4 (dk_at dksX2_firstTuple_0 8 rfl rfl)
theorem dX2_firstTuple_10 : decode cX2_firstTuple 10 = .ok (.iload 4, 2) := dk_21 4 (dk_at dksX2_firstTuple_0 10 rfl rfl)
theorem dX2_firstTuple_12 : decode cX2_firstTuple 12 = .ok (.iload_n 2, 1) := dk_28 (dk_at dksX2_firstTuple_0 12 rfl rfl)
theorem dX2_firstTuple_13 : decode cX2_firstTuple 13 = .ok (.if_icmp .ge 46, 3) := dk_162 0 46 (dk_at dksX2_firstTuple_0 13 rfl rfl)
theorem dX2_firstTuple_16 : decode cX2_firstTuple 16 = .ok (.aload_n 0, 1) := dk_42 (dk_at dksX2_firstTuple_0 16 rfl rfl)
theorem dX2_firstTuple_17 : decode cX2_firstTuple 17 = .ok (.getfield 365, 3) := dk_180 1 109 (dk_at dksX2_firstTuple_0 17 rfl rfl)
theorem dX2_firstTuple_20 : decode cX2_firstTuple 20 = .ok (.iload 4, 2) := dk_21 4 (dk_at dksX2_firstTuple_0 20 rfl rfl)
theorem dX2_firstTuple_22 : decode cX2_firstTuple 22 = .ok (.aload_n 0, 1) := dk_42 (dk_at dksX2_firstTuple_0 22 rfl rfl)
theorem dX2_firstTuple_23 : decode cX2_firstTuple 23 = .ok (.aload_n 0, 1) := dk_42 (dk_at dksX2_firstTuple_0 23 rfl rfl)
theorem dX2_firstTuple_24 : decode cX2_firstTuple 24 = .ok (.iload_n 3, 1) := dk_29 (dk_at dksX2_firstTuple_1 0 rfl rfl)
theorem dX2_firstTuple_25 : decode cX2_firstTuple 25 = .ok (.iload 4, 2) := dk_21 4 (dk_at dksX2_firstTuple_1 1 rfl rfl)
theorem dX2_firstTuple_27 : decode cX2_firstTuple 27 = .ok (.iconst 2, 1) := dk_5 (dk_at dksX2_firstTuple_1 3 rfl rfl)
theorem dX2_firstTuple_28 : decode cX2_firstTuple 28 = .ok (.if_icmp .lt 12, 3) := dk_161 0 12 (dk_at dksX2_firstTuple_1 4 rfl rfl)
theorem dX2_firstTuple_31 : decode cX2_firstTuple 31 = .ok (.aload_n 0, 1) := dk_42 (dk_at dksX2_firstTuple_1 7 rfl rfl)
theorem dX2_firstTuple_32 : decode cX2_firstTuple 32 = .ok (.getfield 168, 3) := dk_180 0 168 (dk_at dksX2_firstTuple_1 8 rfl rfl)
theorem dX2_firstTuple_35 : decode cX2_firstTuple 35 = .ok (.iload_n 1, 1) := dk_27 (dk_at dksX2_firstTuple_1 11 rfl rfl)
theorem dX2_firstTuple_36 : decode cX2_firstTuple 36 = .ok (.baload, 1) := dk_51 (dk_at dksX2_firstTuple_1 12 rfl rfl)
theorem dX2_firstTuple_37 : decode cX2_firstTuple 37 = .ok (.ifCond .ne 8, 3) := dk_154 0 8 (dk_at dksX2_firstTuple_1 13 rfl rfl)
theorem dX2_firstTuple_40 : decode cX2_firstTuple 40 = .ok (.iload 4, 2) := dk_21 4 (dk_at dksX2_firstTuple_1 16 rfl rfl)
theorem dX2_firstTuple_42 : decode cX2_firstTuple 42 = .ok (.goto 4, 3) := dk_167 0 4 (dk_at dksX2_firstTuple_1 18 rfl rfl)
theorem dX2_firstTuple_45 : decode cX2_firstTuple 45 = .ok (.iconst 0, 1) := dk_3 (dk_at dksX2_firstTuple_1 21 rfl rfl)
theorem dX2_firstTuple_46 : decode cX2_firstTuple 46 = .ok (.invokevirtual 652, 3) := dk_182 2 140 (dk_at dksX2_firstTuple_2 0 rfl rfl)
theorem dX2_firstTuple_49 : decode cX2_firstTuple 49 = .ok (.invokevirtual 1145, 3) := dk_182 4 121 (dk_at dksX2_firstTuple_2 3 rfl rfl)
theorem dX2_firstTuple_52 : decode cX2_firstTuple 52 = .ok (.iastore, 1) := dk_79 (dk_at dksX2_firstTuple_2 6 rfl rfl)
theorem dX2_firstTuple_53 : decode cX2_firstTuple 53 = .ok (.iinc 4 1, 3) := dk_132 4 1 (dk_at dksX2_firstTuple_2 7 rfl rfl)
theorem dX2_firstTuple_56 : decode cX2_firstTuple 56 = .ok (.goto (-46), 3) := dk_167 255 210 (dk_at dksX2_firstTuple_2 10 rfl rfl)
theorem dX2_firstTuple_59 : decode cX2_firstTuple 59 = .ok (.return_, 1) := dk_177 (dk_at dksX2_firstTuple_2 13 rfl rfl)
abbrev cX2_firstOfKind : ByteArray := prog_4_method_179_code
def yX2_firstOfKind : MethodName := ⟨RX2, "firstOfKind", "(I)I"⟩
def dkwX2_firstOfKind_0 : List UInt8 := [3, 61, 42, 180, 0, 132, 28, 46, 27, 159, 0, 9, 132, 2, 1, 167, 255, 243, 28, 172]
abbrev dktX2_firstOfKind_0 : List UInt8 := dkwX2_firstOfKind_0 ++ []
theorem dksX2_firstOfKind_0 : cX2_firstOfKind.data.toList.drop 0 = dktX2_firstOfKind_0 := by decide +kernel
theorem dX2_firstOfKind_0 : decode cX2_firstOfKind 0 = .ok (.iconst 0, 1) := dk_3 (dk_at dksX2_firstOfKind_0 0 rfl rfl)
theorem dX2_firstOfKind_1 : decode cX2_firstOfKind 1 = .ok (.istore_n 2, 1) := dk_61 (dk_at dksX2_firstOfKind_0 1 rfl rfl)
theorem dX2_firstOfKind_2 : decode cX2_firstOfKind 2 = .ok (.aload_n 0, 1) := dk_42 (dk_at dksX2_firstOfKind_0 2 rfl rfl)
theorem dX2_firstOfKind_3 : decode cX2_firstOfKind 3 = .ok (.getfield 132, 3) := dk_180 0 132 (dk_at dksX2_firstOfKind_0 3 rfl rfl)
theorem dX2_firstOfKind_6 : decode cX2_firstOfKind 6 = .ok (.iload_n 2, 1) := dk_28 (dk_at dksX2_firstOfKind_0 6 rfl rfl)
theorem dX2_firstOfKind_7 : decode cX2_firstOfKind 7 = .ok (.iaload, 1) := dk_46 (dk_at dksX2_firstOfKind_0 7 rfl rfl)
theorem dX2_firstOfKind_8 : decode cX2_firstOfKind 8 = .ok (.iload_n 1, 1) := dk_27 (dk_at dksX2_firstOfKind_0 8 rfl rfl)
theorem dX2_firstOfKind_9 : decode cX2_firstOfKind 9 = .ok (.if_icmp .eq 9, 3) := dk_159 0 9 (dk_at dksX2_firstOfKind_0 9 rfl rfl)
theorem dX2_firstOfKind_12 : decode cX2_firstOfKind 12 = .ok (.iinc 2 1, 3) := dk_132 2 1 (dk_at dksX2_firstOfKind_0 12 rfl rfl)
theorem dX2_firstOfKind_15 : decode cX2_firstOfKind 15 = .ok (.goto (-13), 3) := dk_167 255 243 (dk_at dksX2_firstOfKind_0 15 rfl rfl)
theorem dX2_firstOfKind_18 : decode cX2_firstOfKind 18 = .ok (.iload_n 2, 1) := dk_28 (dk_at dksX2_firstOfKind_0 18 rfl rfl)
theorem dX2_firstOfKind_19 : decode cX2_firstOfKind 19 = .ok (.ireturn, 1) := dk_172 (dk_at dksX2_firstOfKind_0 19 rfl rfl)
abbrev cX2_leastOf : ByteArray := prog_4_method_177_code
def yX2_leastOf : MethodName := ⟨RX2, "leastOf", "(II)I"⟩
def dkwX2_leastOf_6 : List UInt8 := [54, 4, 29, 154, 0, 7, 2, 167, 0, 15, 21, 4, 156, 0, 8, 16, 254, 167, 0, 5, 21, 4, 172]
abbrev dktX2_leastOf_6 : List UInt8 := dkwX2_leastOf_6 ++ []
def dkwX2_leastOf_5 : List UInt8 := [180, 0, 153, 21, 4, 46, 120, 128, 167, 0, 4, 29, 62, 132, 4, 1, 167, 255, 127, 42, 29, 182, 2, 173]
abbrev dktX2_leastOf_5 : List UInt8 := dkwX2_leastOf_5 ++ dktX2_leastOf_6
def dkwX2_leastOf_4 : List UInt8 := [104, 21, 6, 96, 46, 182, 2, 102, 54, 5, 132, 6, 1, 167, 255, 217, 21, 5, 153, 0, 17, 29, 4, 42]
abbrev dktX2_leastOf_4 : List UInt8 := dkwX2_leastOf_4 ++ dktX2_leastOf_5
def dkwX2_leastOf_3 : List UInt8 := [28, 162, 0, 39, 21, 5, 153, 0, 34, 42, 42, 180, 1, 109, 21, 6, 46, 42, 180, 0, 150, 8, 21, 4]
abbrev dktX2_leastOf_3 : List UInt8 := dkwX2_leastOf_3 ++ dktX2_leastOf_4
def dkwX2_leastOf_2 : List UInt8 := [180, 1, 109, 3, 46, 42, 180, 1, 109, 4, 46, 182, 2, 169, 54, 5, 167, 0, 48, 3, 54, 6, 21, 6]
abbrev dktX2_leastOf_2 : List UInt8 := dkwX2_leastOf_2 ++ dktX2_leastOf_3
def dkwX2_leastOf_1 : List UInt8 := [160, 0, 7, 4, 167, 0, 4, 3, 54, 5, 21, 5, 153, 0, 31, 28, 5, 160, 0, 26, 42, 21, 4, 42]
abbrev dktX2_leastOf_1 : List UInt8 := dkwX2_leastOf_1 ++ dktX2_leastOf_2
def dkwX2_leastOf_0 : List UInt8 := [3, 62, 3, 54, 4, 21, 4, 42, 180, 2, 26, 162, 0, 126, 42, 180, 0, 156, 21, 4, 46, 27]
abbrev dktX2_leastOf_0 : List UInt8 := dkwX2_leastOf_0 ++ dktX2_leastOf_1
theorem dksX2_leastOf_0 : cX2_leastOf.data.toList.drop 0 = dktX2_leastOf_0 := by decide +kernel
theorem dksX2_leastOf_1 : cX2_leastOf.data.toList.drop 22 = dktX2_leastOf_1 := dk_seg dksX2_leastOf_0 22 rfl rfl
theorem dksX2_leastOf_2 : cX2_leastOf.data.toList.drop 46 = dktX2_leastOf_2 := dk_seg dksX2_leastOf_1 24 rfl rfl
theorem dksX2_leastOf_3 : cX2_leastOf.data.toList.drop 70 = dktX2_leastOf_3 := dk_seg dksX2_leastOf_2 24 rfl rfl
theorem dksX2_leastOf_4 : cX2_leastOf.data.toList.drop 94 = dktX2_leastOf_4 := dk_seg dksX2_leastOf_3 24 rfl rfl
theorem dksX2_leastOf_5 : cX2_leastOf.data.toList.drop 118 = dktX2_leastOf_5 := dk_seg dksX2_leastOf_4 24 rfl rfl
theorem dksX2_leastOf_6 : cX2_leastOf.data.toList.drop 142 = dktX2_leastOf_6 := dk_seg dksX2_leastOf_5 24 rfl rfl
theorem dX2_leastOf_0 : decode cX2_leastOf 0 = .ok (.iconst 0, 1) := dk_3 (dk_at dksX2_leastOf_0 0 rfl rfl)
theorem dX2_leastOf_1 : decode cX2_leastOf 1 = .ok (.istore_n 3, 1) := dk_62 (dk_at dksX2_leastOf_0 1 rfl rfl)
theorem dX2_leastOf_2 : decode cX2_leastOf 2 = .ok (.iconst 0, 1) := dk_3 (dk_at dksX2_leastOf_0 2 rfl rfl)
theorem dX2_leastOf_3 : decode cX2_leastOf 3 = .ok (.istore 4, 2) := dk_54 4 (dk_at dksX2_leastOf_0 3 rfl rfl)
theorem dX2_leastOf_5 : decode cX2_leastOf 5 = .ok (.iload 4, 2) := dk_21 4 (dk_at dksX2_leastOf_0 5 rfl rfl)
theorem dX2_leastOf_7 : decode cX2_leastOf 7 = .ok (.aload_n 0, 1) := dk_42 (dk_at dksX2_leastOf_0 7 rfl rfl)
theorem dX2_leastOf_8 : decode cX2_leastOf 8 = .ok (.getfield 538, 3) := dk_180 2 26 (dk_at dksX2_leastOf_0 8 rfl rfl)
theorem dX2_leastOf_11 : decode cX2_leastOf 11 = .ok (.if_icmp .ge 126, 3) := dk_162 0 126 (dk_at dksX2_leastOf_0 11 rfl rfl)
theorem dX2_leastOf_14 : decode cX2_leastOf 14 = .ok (.aload_n 0, 1) := dk_42 (dk_at dksX2_leastOf_0 14 rfl rfl)
theorem dX2_leastOf_15 : decode cX2_leastOf 15 = .ok (.getfield 156, 3) := dk_180 0 156 (dk_at dksX2_leastOf_0 15 rfl rfl)
theorem dX2_leastOf_18 : decode cX2_leastOf 18 = .ok (.iload 4, 2) := dk_21 4 (dk_at dksX2_leastOf_0 18 rfl rfl)
theorem dX2_leastOf_20 : decode cX2_leastOf 20 = .ok (.iaload, 1) := dk_46 (dk_at dksX2_leastOf_0 20 rfl rfl)
theorem dX2_leastOf_21 : decode cX2_leastOf 21 = .ok (.iload_n 1, 1) := dk_27 (dk_at dksX2_leastOf_0 21 rfl rfl)
theorem dX2_leastOf_22 : decode cX2_leastOf 22 = .ok (.if_icmp .ne 7, 3) := dk_160 0 7 (dk_at dksX2_leastOf_1 0 rfl rfl)
theorem dX2_leastOf_25 : decode cX2_leastOf 25 = .ok (.iconst 1, 1) := dk_4 (dk_at dksX2_leastOf_1 3 rfl rfl)
theorem dX2_leastOf_26 : decode cX2_leastOf 26 = .ok (.goto 4, 3) := dk_167 0 4 (dk_at dksX2_leastOf_1 4 rfl rfl)
theorem dX2_leastOf_29 : decode cX2_leastOf 29 = .ok (.iconst 0, 1) := dk_3 (dk_at dksX2_leastOf_1 7 rfl rfl)
theorem dX2_leastOf_30 : decode cX2_leastOf 30 = .ok (.istore 5, 2) := dk_54 5 (dk_at dksX2_leastOf_1 8 rfl rfl)
theorem dX2_leastOf_32 : decode cX2_leastOf 32 = .ok (.iload 5, 2) := dk_21 5 (dk_at dksX2_leastOf_1 10 rfl rfl)
theorem dX2_leastOf_34 : decode cX2_leastOf 34 = .ok (.ifCond .eq 31, 3) := dk_153 0 31 (dk_at dksX2_leastOf_1 12 rfl rfl)
theorem dX2_leastOf_37 : decode cX2_leastOf 37 = .ok (.iload_n 2, 1) := dk_28 (dk_at dksX2_leastOf_1 15 rfl rfl)
theorem dX2_leastOf_38 : decode cX2_leastOf 38 = .ok (.iconst 2, 1) := dk_5 (dk_at dksX2_leastOf_1 16 rfl rfl)
theorem dX2_leastOf_39 : decode cX2_leastOf 39 = .ok (.if_icmp .ne 26, 3) := dk_160 0 26 (dk_at dksX2_leastOf_1 17 rfl rfl)
theorem dX2_leastOf_42 : decode cX2_leastOf 42 = .ok (.aload_n 0, 1) := dk_42 (dk_at dksX2_leastOf_1 20 rfl rfl)
theorem dX2_leastOf_43 : decode cX2_leastOf 43 = .ok (.iload 4, 2) := dk_21 4 (dk_at dksX2_leastOf_1 21 rfl rfl)
theorem dX2_leastOf_45 : decode cX2_leastOf 45 = .ok (.aload_n 0, 1) := dk_42 (dk_at dksX2_leastOf_1 23 rfl rfl)
theorem dX2_leastOf_46 : decode cX2_leastOf 46 = .ok (.getfield 365, 3) := dk_180 1 109 (dk_at dksX2_leastOf_2 0 rfl rfl)
theorem dX2_leastOf_49 : decode cX2_leastOf 49 = .ok (.iconst 0, 1) := dk_3 (dk_at dksX2_leastOf_2 3 rfl rfl)
theorem dX2_leastOf_50 : decode cX2_leastOf 50 = .ok (.iaload, 1) := dk_46 (dk_at dksX2_leastOf_2 4 rfl rfl)
theorem dX2_leastOf_51 : decode cX2_leastOf 51 = .ok (.aload_n 0, 1) := dk_42 (dk_at dksX2_leastOf_2 5 rfl rfl)
theorem dX2_leastOf_52 : decode cX2_leastOf 52 = .ok (.getfield 365, 3) := dk_180 1 109 (dk_at dksX2_leastOf_2 6 rfl rfl)
theorem dX2_leastOf_55 : decode cX2_leastOf 55 = .ok (.iconst 1, 1) := dk_4 (dk_at dksX2_leastOf_2 9 rfl rfl)
theorem dX2_leastOf_56 : decode cX2_leastOf 56 = .ok (.iaload, 1) := dk_46 (dk_at dksX2_leastOf_2 10 rfl rfl)
theorem dX2_leastOf_57 : decode cX2_leastOf 57 = .ok (.invokevirtual 681, 3) := dk_182 2 169 (dk_at dksX2_leastOf_2 11 rfl rfl)
theorem dX2_leastOf_60 : decode cX2_leastOf 60 = .ok (.istore 5, 2) := dk_54 5 (dk_at dksX2_leastOf_2 14 rfl rfl)
theorem dX2_leastOf_62 : decode cX2_leastOf 62 = .ok (.goto 48, 3) := dk_167 0 48 (dk_at dksX2_leastOf_2 16 rfl rfl)
theorem dX2_leastOf_65 : decode cX2_leastOf 65 = .ok (.iconst 0, 1) := dk_3 (dk_at dksX2_leastOf_2 19 rfl rfl)
theorem dX2_leastOf_66 : decode cX2_leastOf 66 = .ok (.istore 6, 2) := dk_54 6 (dk_at dksX2_leastOf_2 20 rfl rfl)
theorem dX2_leastOf_68 : decode cX2_leastOf 68 = .ok (.iload 6, 2) := dk_21 6 (dk_at dksX2_leastOf_2 22 rfl rfl)
theorem dX2_leastOf_70 : decode cX2_leastOf 70 = .ok (.iload_n 2, 1) := dk_28 (dk_at dksX2_leastOf_3 0 rfl rfl)
theorem dX2_leastOf_71 : decode cX2_leastOf 71 = .ok (.if_icmp .ge 39, 3) := dk_162 0 39 (dk_at dksX2_leastOf_3 1 rfl rfl)
theorem dX2_leastOf_74 : decode cX2_leastOf 74 = .ok (.iload 5, 2) := dk_21 5 (dk_at dksX2_leastOf_3 4 rfl rfl)
theorem dX2_leastOf_76 : decode cX2_leastOf 76 = .ok (.ifCond .eq 34, 3) := dk_153 0 34 (dk_at dksX2_leastOf_3 6 rfl rfl)
theorem dX2_leastOf_79 : decode cX2_leastOf 79 = .ok (.aload_n 0, 1) := dk_42 (dk_at dksX2_leastOf_3 9 rfl rfl)
theorem dX2_leastOf_80 : decode cX2_leastOf 80 = .ok (.aload_n 0, 1) := dk_42 (dk_at dksX2_leastOf_3 10 rfl rfl)
theorem dX2_leastOf_81 : decode cX2_leastOf 81 = .ok (.getfield 365, 3) := dk_180 1 109 (dk_at dksX2_leastOf_3 11 rfl rfl)
theorem dX2_leastOf_84 : decode cX2_leastOf 84 = .ok (.iload 6, 2) := dk_21 6 (dk_at dksX2_leastOf_3 14 rfl rfl)
theorem dX2_leastOf_86 : decode cX2_leastOf 86 = .ok (.iaload, 1) := dk_46 (dk_at dksX2_leastOf_3 16 rfl rfl)
theorem dX2_leastOf_87 : decode cX2_leastOf 87 = .ok (.aload_n 0, 1) := dk_42 (dk_at dksX2_leastOf_3 17 rfl rfl)
theorem dX2_leastOf_88 : decode cX2_leastOf 88 = .ok (.getfield 150, 3) := dk_180 0 150 (dk_at dksX2_leastOf_3 18 rfl rfl)
theorem dX2_leastOf_91 : decode cX2_leastOf 91 = .ok (.iconst 5, 1) := dk_8 (dk_at dksX2_leastOf_3 21 rfl rfl)
theorem dX2_leastOf_92 : decode cX2_leastOf 92 = .ok (.iload 4, 2) := dk_21 4 (dk_at dksX2_leastOf_3 22 rfl rfl)
theorem dX2_leastOf_94 : decode cX2_leastOf 94 = .ok (.imul, 1) := dk_104 (dk_at dksX2_leastOf_4 0 rfl rfl)
theorem dX2_leastOf_95 : decode cX2_leastOf 95 = .ok (.iload 6, 2) := dk_21 6 (dk_at dksX2_leastOf_4 1 rfl rfl)
theorem dX2_leastOf_97 : decode cX2_leastOf 97 = .ok (.iadd, 1) := dk_96 (dk_at dksX2_leastOf_4 3 rfl rfl)
theorem dX2_leastOf_98 : decode cX2_leastOf 98 = .ok (.iaload, 1) := dk_46 (dk_at dksX2_leastOf_4 4 rfl rfl)
theorem dX2_leastOf_99 : decode cX2_leastOf 99 = .ok (.invokevirtual 614, 3) := dk_182 2 102 (dk_at dksX2_leastOf_4 5 rfl rfl)
theorem dX2_leastOf_102 : decode cX2_leastOf 102 = .ok (.istore 5, 2) := dk_54 5 (dk_at dksX2_leastOf_4 8 rfl rfl)
theorem dX2_leastOf_104 : decode cX2_leastOf 104 = .ok (.iinc 6 1, 3) := dk_132 6 1 (dk_at dksX2_leastOf_4 10 rfl rfl)
theorem dX2_leastOf_107 : decode cX2_leastOf 107 = .ok (.goto (-39), 3) := dk_167 255 217 (dk_at dksX2_leastOf_4 13 rfl rfl)
theorem dX2_leastOf_110 : decode cX2_leastOf 110 = .ok (.iload 5, 2) := dk_21 5 (dk_at dksX2_leastOf_4 16 rfl rfl)
theorem dX2_leastOf_112 : decode cX2_leastOf 112 = .ok (.ifCond .eq 17, 3) := dk_153 0 17 (dk_at dksX2_leastOf_4 18 rfl rfl)
theorem dX2_leastOf_115 : decode cX2_leastOf 115 = .ok (.iload_n 3, 1) := dk_29 (dk_at dksX2_leastOf_4 21 rfl rfl)
theorem dX2_leastOf_116 : decode cX2_leastOf 116 = .ok (.iconst 1, 1) := dk_4 (dk_at dksX2_leastOf_4 22 rfl rfl)
theorem dX2_leastOf_117 : decode cX2_leastOf 117 = .ok (.aload_n 0, 1) := dk_42 (dk_at dksX2_leastOf_4 23 rfl rfl)
theorem dX2_leastOf_118 : decode cX2_leastOf 118 = .ok (.getfield 153, 3) := dk_180 0 153 (dk_at dksX2_leastOf_5 0 rfl rfl)
theorem dX2_leastOf_121 : decode cX2_leastOf 121 = .ok (.iload 4, 2) := dk_21 4 (dk_at dksX2_leastOf_5 3 rfl rfl)
theorem dX2_leastOf_123 : decode cX2_leastOf 123 = .ok (.iaload, 1) := dk_46 (dk_at dksX2_leastOf_5 5 rfl rfl)
theorem dX2_leastOf_124 : decode cX2_leastOf 124 = .ok (.ishl, 1) := dk_120 (dk_at dksX2_leastOf_5 6 rfl rfl)
theorem dX2_leastOf_125 : decode cX2_leastOf 125 = .ok (.ior, 1) := dk_128 (dk_at dksX2_leastOf_5 7 rfl rfl)
theorem dX2_leastOf_126 : decode cX2_leastOf 126 = .ok (.goto 4, 3) := dk_167 0 4 (dk_at dksX2_leastOf_5 8 rfl rfl)
theorem dX2_leastOf_129 : decode cX2_leastOf 129 = .ok (.iload_n 3, 1) := dk_29 (dk_at dksX2_leastOf_5 11 rfl rfl)
theorem dX2_leastOf_130 : decode cX2_leastOf 130 = .ok (.istore_n 3, 1) := dk_62 (dk_at dksX2_leastOf_5 12 rfl rfl)
theorem dX2_leastOf_131 : decode cX2_leastOf 131 = .ok (.iinc 4 1, 3) := dk_132 4 1 (dk_at dksX2_leastOf_5 13 rfl rfl)
theorem dX2_leastOf_134 : decode cX2_leastOf 134 = .ok (.goto (-129), 3) := dk_167 255 127 (dk_at dksX2_leastOf_5 16 rfl rfl)
theorem dX2_leastOf_137 : decode cX2_leastOf 137 = .ok (.aload_n 0, 1) := dk_42 (dk_at dksX2_leastOf_5 19 rfl rfl)
theorem dX2_leastOf_138 : decode cX2_leastOf 138 = .ok (.iload_n 3, 1) := dk_29 (dk_at dksX2_leastOf_5 20 rfl rfl)
theorem dX2_leastOf_139 : decode cX2_leastOf 139 = .ok (.invokevirtual 685, 3) := dk_182 2 173 (dk_at dksX2_leastOf_5 21 rfl rfl)
theorem dX2_leastOf_142 : decode cX2_leastOf 142 = .ok (.istore 4, 2) := dk_54 4 (dk_at dksX2_leastOf_6 0 rfl rfl)
theorem dX2_leastOf_144 : decode cX2_leastOf 144 = .ok (.iload_n 3, 1) := dk_29 (dk_at dksX2_leastOf_6 2 rfl rfl)
theorem dX2_leastOf_145 : decode cX2_leastOf 145 = .ok (.ifCond .ne 7, 3) := dk_154 0 7 (dk_at dksX2_leastOf_6 3 rfl rfl)
theorem dX2_leastOf_148 : decode cX2_leastOf 148 = .ok (.iconst (-1), 1) := dk_2 (dk_at dksX2_leastOf_6 6 rfl rfl)
theorem dX2_leastOf_149 : decode cX2_leastOf 149 = .ok (.goto 15, 3) := dk_167 0 15 (dk_at dksX2_leastOf_6 7 rfl rfl)
theorem dX2_leastOf_152 : decode cX2_leastOf 152 = .ok (.iload 4, 2) := dk_21 4 (dk_at dksX2_leastOf_6 10 rfl rfl)
theorem dX2_leastOf_154 : decode cX2_leastOf 154 = .ok (.ifCond .ge 8, 3) := dk_156 0 8 (dk_at dksX2_leastOf_6 12 rfl rfl)
theorem dX2_leastOf_157 : decode cX2_leastOf 157 = .ok (.bipush (-2), 2) := dk_16 254 (dk_at dksX2_leastOf_6 15 rfl rfl)
theorem dX2_leastOf_159 : decode cX2_leastOf 159 = .ok (.goto 5, 3) := dk_167 0 5 (dk_at dksX2_leastOf_6 17 rfl rfl)
theorem dX2_leastOf_162 : decode cX2_leastOf 162 = .ok (.iload 4, 2) := dk_21 4 (dk_at dksX2_leastOf_6 20 rfl rfl)
theorem dX2_leastOf_164 : decode cX2_leastOf 164 = .ok (.ireturn, 1) := dk_172 (dk_at dksX2_leastOf_6 22 rfl rfl)
abbrev cX2_nextTuple : ByteArray := prog_4_method_178_code
def yX2_nextTuple : MethodName := ⟨RX2, "nextTuple", "(II)Z"⟩
def dkwX2_nextTuple_5 : List UInt8 := [132, 4, 255, 167, 255, 149, 3, 172]
abbrev dktX2_nextTuple_5 : List UInt8 := dkwX2_nextTuple_5 ++ []
def dkwX2_nextTuple_4 : List UInt8 := [180, 1, 109, 21, 4, 21, 6, 79, 4, 172, 42, 180, 1, 109, 21, 4, 42, 21, 5, 182, 4, 121, 79]
abbrev dktX2_nextTuple_4 : List UInt8 := dkwX2_nextTuple_4 ++ dktX2_nextTuple_5
def dkwX2_nextTuple_3 : List UInt8 := [21, 6, 46, 21, 5, 159, 0, 9, 132, 6, 1, 167, 255, 232, 21, 6, 42, 180, 2, 9, 162, 0, 14, 42]
abbrev dktX2_nextTuple_3 : List UInt8 := dkwX2_nextTuple_3 ++ dktX2_nextTuple_4
def dkwX2_nextTuple_2 : List UInt8 := [180, 1, 109, 21, 4, 46, 4, 96, 54, 6, 21, 6, 42, 180, 2, 9, 162, 0, 21, 42, 180, 0, 132]
abbrev dktX2_nextTuple_2 : List UInt8 := dkwX2_nextTuple_2 ++ dktX2_nextTuple_3
def dkwX2_nextTuple_1 : List UInt8 := [161, 0, 12, 42, 180, 0, 168, 27, 51, 154, 0, 8, 21, 4, 167, 0, 4, 3, 182, 2, 140, 54, 5, 42]
abbrev dktX2_nextTuple_1 : List UInt8 := dkwX2_nextTuple_1 ++ dktX2_nextTuple_2
def dkwX2_nextTuple_0 : List UInt8 := [42, 180, 0, 159, 27, 46, 62, 28, 4, 100, 54, 4, 21, 4, 155, 0, 108, 42, 29, 21, 4, 5]
abbrev dktX2_nextTuple_0 : List UInt8 := dkwX2_nextTuple_0 ++ dktX2_nextTuple_1
theorem dksX2_nextTuple_0 : cX2_nextTuple.data.toList.drop 0 = dktX2_nextTuple_0 := by decide +kernel
theorem dksX2_nextTuple_1 : cX2_nextTuple.data.toList.drop 22 = dktX2_nextTuple_1 := dk_seg dksX2_nextTuple_0 22 rfl rfl
theorem dksX2_nextTuple_2 : cX2_nextTuple.data.toList.drop 46 = dktX2_nextTuple_2 := dk_seg dksX2_nextTuple_1 24 rfl rfl
theorem dksX2_nextTuple_3 : cX2_nextTuple.data.toList.drop 69 = dktX2_nextTuple_3 := dk_seg dksX2_nextTuple_2 23 rfl rfl
theorem dksX2_nextTuple_4 : cX2_nextTuple.data.toList.drop 93 = dktX2_nextTuple_4 := dk_seg dksX2_nextTuple_3 24 rfl rfl
theorem dksX2_nextTuple_5 : cX2_nextTuple.data.toList.drop 116 = dktX2_nextTuple_5 := dk_seg dksX2_nextTuple_4 23 rfl rfl
theorem dX2_nextTuple_0 : decode cX2_nextTuple 0 = .ok (.aload_n 0, 1) := dk_42 (dk_at dksX2_nextTuple_0 0 rfl rfl)
theorem dX2_nextTuple_1 : decode cX2_nextTuple 1 = .ok (.getfield 159, 3) := dk_180 0 159 (dk_at dksX2_nextTuple_0 1 rfl rfl)
theorem dX2_nextTuple_4 : decode cX2_nextTuple 4 = .ok (.iload_n 1, 1) := dk_27 (dk_at dksX2_nextTuple_0 4 rfl rfl)
theorem dX2_nextTuple_5 : decode cX2_nextTuple 5 = .ok (.iaload, 1) := dk_46 (dk_at dksX2_nextTuple_0 5 rfl rfl)
theorem dX2_nextTuple_6 : decode cX2_nextTuple 6 = .ok (.istore_n 3, 1) := dk_62 (dk_at dksX2_nextTuple_0 6 rfl rfl)
theorem dX2_nextTuple_7 : decode cX2_nextTuple 7 = .ok (.iload_n 2, 1) := dk_28 (dk_at dksX2_nextTuple_0 7 rfl rfl)
theorem dX2_nextTuple_8 : decode cX2_nextTuple 8 = .ok (.iconst 1, 1) := dk_4 (dk_at dksX2_nextTuple_0 8 rfl rfl)
theorem dX2_nextTuple_9 : decode cX2_nextTuple 9 = .ok (.isub, 1) := dk_100 (dk_at dksX2_nextTuple_0 9 rfl rfl)
theorem dX2_nextTuple_10 : decode cX2_nextTuple 10 = .ok (.istore 4, 2) := dk_54 4 (dk_at dksX2_nextTuple_0 10 rfl rfl)
theorem dX2_nextTuple_12 : decode cX2_nextTuple 12 = .ok (.iload 4, 2) := dk_21 4 (dk_at dksX2_nextTuple_0 12 rfl rfl)
theorem dX2_nextTuple_14 : decode cX2_nextTuple 14 = .ok (.ifCond .lt 108, 3) := dk_155 0 108 (dk_at dksX2_nextTuple_0 14 rfl rfl)
theorem dX2_nextTuple_17 : decode cX2_nextTuple 17 = .ok (.aload_n 0, 1) := dk_42 (dk_at dksX2_nextTuple_0 17 rfl rfl)
theorem dX2_nextTuple_18 : decode cX2_nextTuple 18 = .ok (.iload_n 3, 1) := dk_29 (dk_at dksX2_nextTuple_0 18 rfl rfl)
theorem dX2_nextTuple_19 : decode cX2_nextTuple 19 = .ok (.iload 4, 2) := dk_21 4 (dk_at dksX2_nextTuple_0 19 rfl rfl)
theorem dX2_nextTuple_21 : decode cX2_nextTuple 21 = .ok (.iconst 2, 1) := dk_5 (dk_at dksX2_nextTuple_0 21 rfl rfl)
theorem dX2_nextTuple_22 : decode cX2_nextTuple 22 = .ok (.if_icmp .lt 12, 3) := dk_161 0 12 (dk_at dksX2_nextTuple_1 0 rfl rfl)
theorem dX2_nextTuple_25 : decode cX2_nextTuple 25 = .ok (.aload_n 0, 1) := dk_42 (dk_at dksX2_nextTuple_1 3 rfl rfl)
theorem dX2_nextTuple_26 : decode cX2_nextTuple 26 = .ok (.getfield 168, 3) := dk_180 0 168 (dk_at dksX2_nextTuple_1 4 rfl rfl)
theorem dX2_nextTuple_29 : decode cX2_nextTuple 29 = .ok (.iload_n 1, 1) := dk_27 (dk_at dksX2_nextTuple_1 7 rfl rfl)
theorem dX2_nextTuple_30 : decode cX2_nextTuple 30 = .ok (.baload, 1) := dk_51 (dk_at dksX2_nextTuple_1 8 rfl rfl)
theorem dX2_nextTuple_31 : decode cX2_nextTuple 31 = .ok (.ifCond .ne 8, 3) := dk_154 0 8 (dk_at dksX2_nextTuple_1 9 rfl rfl)
theorem dX2_nextTuple_34 : decode cX2_nextTuple 34 = .ok (.iload 4, 2) := dk_21 4 (dk_at dksX2_nextTuple_1 12 rfl rfl)
theorem dX2_nextTuple_36 : decode cX2_nextTuple 36 = .ok (.goto 4, 3) := dk_167 0 4 (dk_at dksX2_nextTuple_1 14 rfl rfl)
theorem dX2_nextTuple_39 : decode cX2_nextTuple 39 = .ok (.iconst 0, 1) := dk_3 (dk_at dksX2_nextTuple_1 17 rfl rfl)
theorem dX2_nextTuple_40 : decode cX2_nextTuple 40 = .ok (.invokevirtual 652, 3) := dk_182 2 140 (dk_at dksX2_nextTuple_1 18 rfl rfl)
theorem dX2_nextTuple_43 : decode cX2_nextTuple 43 = .ok (.istore 5, 2) := dk_54 5 (dk_at dksX2_nextTuple_1 21 rfl rfl)
theorem dX2_nextTuple_45 : decode cX2_nextTuple 45 = .ok (.aload_n 0, 1) := dk_42 (dk_at dksX2_nextTuple_1 23 rfl rfl)
theorem dX2_nextTuple_46 : decode cX2_nextTuple 46 = .ok (.getfield 365, 3) := dk_180 1 109 (dk_at dksX2_nextTuple_2 0 rfl rfl)
theorem dX2_nextTuple_49 : decode cX2_nextTuple 49 = .ok (.iload 4, 2) := dk_21 4 (dk_at dksX2_nextTuple_2 3 rfl rfl)
theorem dX2_nextTuple_51 : decode cX2_nextTuple 51 = .ok (.iaload, 1) := dk_46 (dk_at dksX2_nextTuple_2 5 rfl rfl)
theorem dX2_nextTuple_52 : decode cX2_nextTuple 52 = .ok (.iconst 1, 1) := dk_4 (dk_at dksX2_nextTuple_2 6 rfl rfl)
theorem dX2_nextTuple_53 : decode cX2_nextTuple 53 = .ok (.iadd, 1) := dk_96 (dk_at dksX2_nextTuple_2 7 rfl rfl)
theorem dX2_nextTuple_54 : decode cX2_nextTuple 54 = .ok (.istore 6, 2) := dk_54 6 (dk_at dksX2_nextTuple_2 8 rfl rfl)
theorem dX2_nextTuple_56 : decode cX2_nextTuple 56 = .ok (.iload 6, 2) := dk_21 6 (dk_at dksX2_nextTuple_2 10 rfl rfl)
theorem dX2_nextTuple_58 : decode cX2_nextTuple 58 = .ok (.aload_n 0, 1) := dk_42 (dk_at dksX2_nextTuple_2 12 rfl rfl)
theorem dX2_nextTuple_59 : decode cX2_nextTuple 59 = .ok (.getfield 521, 3) := dk_180 2 9 (dk_at dksX2_nextTuple_2 13 rfl rfl)
theorem dX2_nextTuple_62 : decode cX2_nextTuple 62 = .ok (.if_icmp .ge 21, 3) := dk_162 0 21 (dk_at dksX2_nextTuple_2 16 rfl rfl)
theorem dX2_nextTuple_65 : decode cX2_nextTuple 65 = .ok (.aload_n 0, 1) := dk_42 (dk_at dksX2_nextTuple_2 19 rfl rfl)
theorem dX2_nextTuple_66 : decode cX2_nextTuple 66 = .ok (.getfield 132, 3) := dk_180 0 132 (dk_at dksX2_nextTuple_2 20 rfl rfl)
theorem dX2_nextTuple_69 : decode cX2_nextTuple 69 = .ok (.iload 6, 2) := dk_21 6 (dk_at dksX2_nextTuple_3 0 rfl rfl)
theorem dX2_nextTuple_71 : decode cX2_nextTuple 71 = .ok (.iaload, 1) := dk_46 (dk_at dksX2_nextTuple_3 2 rfl rfl)
theorem dX2_nextTuple_72 : decode cX2_nextTuple 72 = .ok (.iload 5, 2) := dk_21 5 (dk_at dksX2_nextTuple_3 3 rfl rfl)
theorem dX2_nextTuple_74 : decode cX2_nextTuple 74 = .ok (.if_icmp .eq 9, 3) := dk_159 0 9 (dk_at dksX2_nextTuple_3 5 rfl rfl)
theorem dX2_nextTuple_77 : decode cX2_nextTuple 77 = .ok (.iinc 6 1, 3) := dk_132 6 1 (dk_at dksX2_nextTuple_3 8 rfl rfl)
theorem dX2_nextTuple_80 : decode cX2_nextTuple 80 = .ok (.goto (-24), 3) := dk_167 255 232 (dk_at dksX2_nextTuple_3 11 rfl rfl)
theorem dX2_nextTuple_83 : decode cX2_nextTuple 83 = .ok (.iload 6, 2) := dk_21 6 (dk_at dksX2_nextTuple_3 14 rfl rfl)
theorem dX2_nextTuple_85 : decode cX2_nextTuple 85 = .ok (.aload_n 0, 1) := dk_42 (dk_at dksX2_nextTuple_3 16 rfl rfl)
theorem dX2_nextTuple_86 : decode cX2_nextTuple 86 = .ok (.getfield 521, 3) := dk_180 2 9 (dk_at dksX2_nextTuple_3 17 rfl rfl)
theorem dX2_nextTuple_89 : decode cX2_nextTuple 89 = .ok (.if_icmp .ge 14, 3) := dk_162 0 14 (dk_at dksX2_nextTuple_3 20 rfl rfl)
theorem dX2_nextTuple_92 : decode cX2_nextTuple 92 = .ok (.aload_n 0, 1) := dk_42 (dk_at dksX2_nextTuple_3 23 rfl rfl)
theorem dX2_nextTuple_93 : decode cX2_nextTuple 93 = .ok (.getfield 365, 3) := dk_180 1 109 (dk_at dksX2_nextTuple_4 0 rfl rfl)
theorem dX2_nextTuple_96 : decode cX2_nextTuple 96 = .ok (.iload 4, 2) := dk_21 4 (dk_at dksX2_nextTuple_4 3 rfl rfl)
theorem dX2_nextTuple_98 : decode cX2_nextTuple 98 = .ok (.iload 6, 2) := dk_21 6 (dk_at dksX2_nextTuple_4 5 rfl rfl)
theorem dX2_nextTuple_100 : decode cX2_nextTuple 100 = .ok (.iastore, 1) := dk_79 (dk_at dksX2_nextTuple_4 7 rfl rfl)
theorem dX2_nextTuple_101 : decode cX2_nextTuple 101 = .ok (.iconst 1, 1) := dk_4 (dk_at dksX2_nextTuple_4 8 rfl rfl)
theorem dX2_nextTuple_102 : decode cX2_nextTuple 102 = .ok (.ireturn, 1) := dk_172 (dk_at dksX2_nextTuple_4 9 rfl rfl)
theorem dX2_nextTuple_103 : decode cX2_nextTuple 103 = .ok (.aload_n 0, 1) := dk_42 (dk_at dksX2_nextTuple_4 10 rfl rfl)
theorem dX2_nextTuple_104 : decode cX2_nextTuple 104 = .ok (.getfield 365, 3) := dk_180 1 109 (dk_at dksX2_nextTuple_4 11 rfl rfl)
theorem dX2_nextTuple_107 : decode cX2_nextTuple 107 = .ok (.iload 4, 2) := dk_21 4 (dk_at dksX2_nextTuple_4 14 rfl rfl)
theorem dX2_nextTuple_109 : decode cX2_nextTuple 109 = .ok (.aload_n 0, 1) := dk_42 (dk_at dksX2_nextTuple_4 16 rfl rfl)
theorem dX2_nextTuple_110 : decode cX2_nextTuple 110 = .ok (.iload 5, 2) := dk_21 5 (dk_at dksX2_nextTuple_4 17 rfl rfl)
theorem dX2_nextTuple_112 : decode cX2_nextTuple 112 = .ok (.invokevirtual 1145, 3) := dk_182 4 121 (dk_at dksX2_nextTuple_4 19 rfl rfl)
theorem dX2_nextTuple_115 : decode cX2_nextTuple 115 = .ok (.iastore, 1) := dk_79 (dk_at dksX2_nextTuple_4 22 rfl rfl)
theorem dX2_nextTuple_116 : decode cX2_nextTuple 116 = .ok (.iinc 4 (-1), 3) := dk_132 4 255 (dk_at dksX2_nextTuple_5 0 rfl rfl)
theorem dX2_nextTuple_119 : decode cX2_nextTuple 119 = .ok (.goto (-107), 3) := dk_167 255 149 (dk_at dksX2_nextTuple_5 3 rfl rfl)
theorem dX2_nextTuple_122 : decode cX2_nextTuple 122 = .ok (.iconst 0, 1) := dk_3 (dk_at dksX2_nextTuple_5 6 rfl rfl)
theorem dX2_nextTuple_123 : decode cX2_nextTuple 123 = .ok (.ireturn, 1) := dk_172 (dk_at dksX2_nextTuple_5 7 rfl rfl)
abbrev cX2_joined : ByteArray := prog_4_method_181_code
def yX2_joined : MethodName := ⟨RX2, "joined", "(III)I"⟩
def dkwX2_joined_0 : List UInt8 := [42, 27, 28, 29, 182, 2, 182, 172]
abbrev dktX2_joined_0 : List UInt8 := dkwX2_joined_0 ++ []
theorem dksX2_joined_0 : cX2_joined.data.toList.drop 0 = dktX2_joined_0 := by decide +kernel
theorem dX2_joined_0 : decode cX2_joined 0 = .ok (.aload_n 0, 1) := dk_42 (dk_at dksX2_joined_0 0 rfl rfl)
theorem dX2_joined_1 : decode cX2_joined 1 = .ok (.iload_n 1, 1) := dk_27 (dk_at dksX2_joined_0 1 rfl rfl)
theorem dX2_joined_2 : decode cX2_joined 2 = .ok (.iload_n 2, 1) := dk_28 (dk_at dksX2_joined_0 2 rfl rfl)
theorem dX2_joined_3 : decode cX2_joined 3 = .ok (.iload_n 3, 1) := dk_29 (dk_at dksX2_joined_0 3 rfl rfl)
theorem dX2_joined_4 : decode cX2_joined 4 = .ok (.invokevirtual 694, 3) := dk_182 2 182 (dk_at dksX2_joined_0 4 rfl rfl)
theorem dX2_joined_7 : decode cX2_joined 7 = .ok (.ireturn, 1) := dk_172 (dk_at dksX2_joined_0 7 rfl rfl)
abbrev cX2_notFalling : ByteArray := prog_4_method_188_code
def yX2_notFalling : MethodName := ⟨RX2, "notFalling", "()I"⟩
def dkwX2_notFalling_6 : List UInt8 := [132, 4, 1, 167, 255, 163, 29, 154, 0, 5, 27, 172, 132, 1, 1, 132, 2, 1, 167, 255, 100, 16, 254, 172]
abbrev dktX2_notFalling_6 : List UInt8 := dkwX2_notFalling_6 ++ []
def dkwX2_notFalling_5 : List UInt8 := [180, 0, 232, 28, 46, 42, 180, 0, 241, 21, 5, 46, 184, 4, 150, 153, 0, 7, 4, 167, 0, 4, 3, 62]
abbrev dktX2_notFalling_5 : List UInt8 := dkwX2_notFalling_5 ++ dktX2_notFalling_6
def dkwX2_notFalling_4 : List UInt8 := [180, 0, 238, 21, 5, 46, 184, 4, 150, 153, 0, 37, 42, 180, 0, 241, 21, 5, 46, 155, 0, 23, 42, 42]
abbrev dktX2_notFalling_4 : List UInt8 := dkwX2_notFalling_4 ++ dktX2_notFalling_5
def dkwX2_notFalling_3 : List UInt8 := [21, 4, 96, 54, 5, 42, 89, 180, 4, 143, 4, 96, 181, 4, 143, 42, 42, 180, 0, 232, 28, 46, 42]
abbrev dktX2_notFalling_3 : List UInt8 := dkwX2_notFalling_3 ++ dktX2_notFalling_4
def dkwX2_notFalling_2 : List UInt8 := [62, 3, 54, 4, 21, 4, 42, 180, 0, 123, 28, 46, 162, 0, 88, 29, 153, 0, 84, 16, 6, 28, 104]
abbrev dktX2_notFalling_2 : List UInt8 := dkwX2_notFalling_2 ++ dktX2_notFalling_3
def dkwX2_notFalling_1 : List UInt8 := [180, 4, 143, 4, 96, 181, 4, 143, 42, 42, 180, 0, 232, 28, 46, 42, 180, 0, 235, 28, 46, 184, 4, 150]
abbrev dktX2_notFalling_1 : List UInt8 := dkwX2_notFalling_1 ++ dktX2_notFalling_2
def dkwX2_notFalling_0 : List UInt8 := [3, 60, 3, 61, 28, 42, 180, 2, 3, 162, 0, 154, 42, 180, 0, 105, 28, 46, 5, 162, 0, 138, 42, 89]
abbrev dktX2_notFalling_0 : List UInt8 := dkwX2_notFalling_0 ++ dktX2_notFalling_1
theorem dksX2_notFalling_0 : cX2_notFalling.data.toList.drop 0 = dktX2_notFalling_0 := by decide +kernel
theorem dksX2_notFalling_1 : cX2_notFalling.data.toList.drop 24 = dktX2_notFalling_1 := dk_seg dksX2_notFalling_0 24 rfl rfl
theorem dksX2_notFalling_2 : cX2_notFalling.data.toList.drop 48 = dktX2_notFalling_2 := dk_seg dksX2_notFalling_1 24 rfl rfl
theorem dksX2_notFalling_3 : cX2_notFalling.data.toList.drop 71 = dktX2_notFalling_3 := dk_seg dksX2_notFalling_2 23 rfl rfl
theorem dksX2_notFalling_4 : cX2_notFalling.data.toList.drop 94 = dktX2_notFalling_4 := dk_seg dksX2_notFalling_3 23 rfl rfl
theorem dksX2_notFalling_5 : cX2_notFalling.data.toList.drop 118 = dktX2_notFalling_5 := dk_seg dksX2_notFalling_4 24 rfl rfl
theorem dksX2_notFalling_6 : cX2_notFalling.data.toList.drop 142 = dktX2_notFalling_6 := dk_seg dksX2_notFalling_5 24 rfl rfl
theorem dX2_notFalling_0 : decode cX2_notFalling 0 = .ok (.iconst 0, 1) := dk_3 (dk_at dksX2_notFalling_0 0 rfl rfl)
theorem dX2_notFalling_1 : decode cX2_notFalling 1 = .ok (.istore_n 1, 1) := dk_60 (dk_at dksX2_notFalling_0 1 rfl rfl)
theorem dX2_notFalling_2 : decode cX2_notFalling 2 = .ok (.iconst 0, 1) := dk_3 (dk_at dksX2_notFalling_0 2 rfl rfl)
theorem dX2_notFalling_3 : decode cX2_notFalling 3 = .ok (.istore_n 2, 1) := dk_61 (dk_at dksX2_notFalling_0 3 rfl rfl)
theorem dX2_notFalling_4 : decode cX2_notFalling 4 = .ok (.iload_n 2, 1) := dk_28 (dk_at dksX2_notFalling_0 4 rfl rfl)
theorem dX2_notFalling_5 : decode cX2_notFalling 5 = .ok (.aload_n 0, 1) := dk_42 (dk_at dksX2_notFalling_0 5 rfl rfl)
theorem dX2_notFalling_6 : decode cX2_notFalling 6 = .ok (.getfield 515, 3) := dk_180 2 3 (dk_at dksX2_notFalling_0 6 rfl rfl)
theorem dX2_notFalling_9 : decode cX2_notFalling 9 = .ok (.if_icmp .ge 154, 3) := dk_162 0 154 (dk_at dksX2_notFalling_0 9 rfl rfl)
theorem dX2_notFalling_12 : decode cX2_notFalling 12 = .ok (.aload_n 0, 1) := dk_42 (dk_at dksX2_notFalling_0 12 rfl rfl)
theorem dX2_notFalling_13 : decode cX2_notFalling 13 = .ok (.getfield 105, 3) := dk_180 0 105 (dk_at dksX2_notFalling_0 13 rfl rfl)
theorem dX2_notFalling_16 : decode cX2_notFalling 16 = .ok (.iload_n 2, 1) := dk_28 (dk_at dksX2_notFalling_0 16 rfl rfl)
theorem dX2_notFalling_17 : decode cX2_notFalling 17 = .ok (.iaload, 1) := dk_46 (dk_at dksX2_notFalling_0 17 rfl rfl)
theorem dX2_notFalling_18 : decode cX2_notFalling 18 = .ok (.iconst 2, 1) := dk_5 (dk_at dksX2_notFalling_0 18 rfl rfl)
theorem dX2_notFalling_19 : decode cX2_notFalling 19 = .ok (.if_icmp .ge 138, 3) := dk_162 0 138 (dk_at dksX2_notFalling_0 19 rfl rfl)
theorem dX2_notFalling_22 : decode cX2_notFalling 22 = .ok (.aload_n 0, 1) := dk_42 (dk_at dksX2_notFalling_0 22 rfl rfl)
theorem dX2_notFalling_23 : decode cX2_notFalling 23 = .ok (.dup, 1) := dk_89 (dk_at dksX2_notFalling_0 23 rfl rfl)
theorem dX2_notFalling_24 : decode cX2_notFalling 24 = .ok (.getfield 1167, 3) := dk_180 4 143 (dk_at dksX2_notFalling_1 0 rfl rfl)
theorem dX2_notFalling_27 : decode cX2_notFalling 27 = .ok (.iconst 1, 1) := dk_4 (dk_at dksX2_notFalling_1 3 rfl rfl)
theorem dX2_notFalling_28 : decode cX2_notFalling 28 = .ok (.iadd, 1) := dk_96 (dk_at dksX2_notFalling_1 4 rfl rfl)
theorem dX2_notFalling_29 : decode cX2_notFalling 29 = .ok (.putfield 1167, 3) := dk_181 4 143 (dk_at dksX2_notFalling_1 5 rfl rfl)
theorem dX2_notFalling_32 : decode cX2_notFalling 32 = .ok (.aload_n 0, 1) := dk_42 (dk_at dksX2_notFalling_1 8 rfl rfl)
theorem dX2_notFalling_33 : decode cX2_notFalling 33 = .ok (.aload_n 0, 1) := dk_42 (dk_at dksX2_notFalling_1 9 rfl rfl)
theorem dX2_notFalling_34 : decode cX2_notFalling 34 = .ok (.getfield 232, 3) := dk_180 0 232 (dk_at dksX2_notFalling_1 10 rfl rfl)
theorem dX2_notFalling_37 : decode cX2_notFalling 37 = .ok (.iload_n 2, 1) := dk_28 (dk_at dksX2_notFalling_1 13 rfl rfl)
theorem dX2_notFalling_38 : decode cX2_notFalling 38 = .ok (.iaload, 1) := dk_46 (dk_at dksX2_notFalling_1 14 rfl rfl)
theorem dX2_notFalling_39 : decode cX2_notFalling 39 = .ok (.aload_n 0, 1) := dk_42 (dk_at dksX2_notFalling_1 15 rfl rfl)
theorem dX2_notFalling_40 : decode cX2_notFalling 40 = .ok (.getfield 235, 3) := dk_180 0 235 (dk_at dksX2_notFalling_1 16 rfl rfl)
theorem dX2_notFalling_43 : decode cX2_notFalling 43 = .ok (.iload_n 2, 1) := dk_28 (dk_at dksX2_notFalling_1 19 rfl rfl)
theorem dX2_notFalling_44 : decode cX2_notFalling 44 = .ok (.iaload, 1) := dk_46 (dk_at dksX2_notFalling_1 20 rfl rfl)
theorem dX2_notFalling_45 : decode cX2_notFalling 45 = .ok (.invokestatic 1174, 3) := dk_184 4 150 (dk_at dksX2_notFalling_1 21 rfl rfl)
theorem dX2_notFalling_48 : decode cX2_notFalling 48 = .ok (.istore_n 3, 1) := dk_62 (dk_at dksX2_notFalling_2 0 rfl rfl)
theorem dX2_notFalling_49 : decode cX2_notFalling 49 = .ok (.iconst 0, 1) := dk_3 (dk_at dksX2_notFalling_2 1 rfl rfl)
theorem dX2_notFalling_50 : decode cX2_notFalling 50 = .ok (.istore 4, 2) := dk_54 4 (dk_at dksX2_notFalling_2 2 rfl rfl)
theorem dX2_notFalling_52 : decode cX2_notFalling 52 = .ok (.iload 4, 2) := dk_21 4 (dk_at dksX2_notFalling_2 4 rfl rfl)
theorem dX2_notFalling_54 : decode cX2_notFalling 54 = .ok (.aload_n 0, 1) := dk_42 (dk_at dksX2_notFalling_2 6 rfl rfl)
theorem dX2_notFalling_55 : decode cX2_notFalling 55 = .ok (.getfield 123, 3) := dk_180 0 123 (dk_at dksX2_notFalling_2 7 rfl rfl)
theorem dX2_notFalling_58 : decode cX2_notFalling 58 = .ok (.iload_n 2, 1) := dk_28 (dk_at dksX2_notFalling_2 10 rfl rfl)
theorem dX2_notFalling_59 : decode cX2_notFalling 59 = .ok (.iaload, 1) := dk_46 (dk_at dksX2_notFalling_2 11 rfl rfl)
theorem dX2_notFalling_60 : decode cX2_notFalling 60 = .ok (.if_icmp .ge 88, 3) := dk_162 0 88 (dk_at dksX2_notFalling_2 12 rfl rfl)
theorem dX2_notFalling_63 : decode cX2_notFalling 63 = .ok (.iload_n 3, 1) := dk_29 (dk_at dksX2_notFalling_2 15 rfl rfl)
theorem dX2_notFalling_64 : decode cX2_notFalling 64 = .ok (.ifCond .eq 84, 3) := dk_153 0 84 (dk_at dksX2_notFalling_2 16 rfl rfl)
theorem dX2_notFalling_67 : decode cX2_notFalling 67 = .ok (.bipush 6, 2) := dk_16 6 (dk_at dksX2_notFalling_2 19 rfl rfl)
theorem dX2_notFalling_69 : decode cX2_notFalling 69 = .ok (.iload_n 2, 1) := dk_28 (dk_at dksX2_notFalling_2 21 rfl rfl)
theorem dX2_notFalling_70 : decode cX2_notFalling 70 = .ok (.imul, 1) := dk_104 (dk_at dksX2_notFalling_2 22 rfl rfl)
theorem dX2_notFalling_71 : decode cX2_notFalling 71 = .ok (.iload 4, 2) := dk_21 4 (dk_at dksX2_notFalling_3 0 rfl rfl)
theorem dX2_notFalling_73 : decode cX2_notFalling 73 = .ok (.iadd, 1) := dk_96 (dk_at dksX2_notFalling_3 2 rfl rfl)
theorem dX2_notFalling_74 : decode cX2_notFalling 74 = .ok (.istore 5, 2) := dk_54 5 (dk_at dksX2_notFalling_3 3 rfl rfl)
theorem dX2_notFalling_76 : decode cX2_notFalling 76 = .ok (.aload_n 0, 1) := dk_42 (dk_at dksX2_notFalling_3 5 rfl rfl)
theorem dX2_notFalling_77 : decode cX2_notFalling 77 = .ok (.dup, 1) := dk_89 (dk_at dksX2_notFalling_3 6 rfl rfl)
theorem dX2_notFalling_78 : decode cX2_notFalling 78 = .ok (.getfield 1167, 3) := dk_180 4 143 (dk_at dksX2_notFalling_3 7 rfl rfl)
theorem dX2_notFalling_81 : decode cX2_notFalling 81 = .ok (.iconst 1, 1) := dk_4 (dk_at dksX2_notFalling_3 10 rfl rfl)
theorem dX2_notFalling_82 : decode cX2_notFalling 82 = .ok (.iadd, 1) := dk_96 (dk_at dksX2_notFalling_3 11 rfl rfl)
theorem dX2_notFalling_83 : decode cX2_notFalling 83 = .ok (.putfield 1167, 3) := dk_181 4 143 (dk_at dksX2_notFalling_3 12 rfl rfl)
theorem dX2_notFalling_86 : decode cX2_notFalling 86 = .ok (.aload_n 0, 1) := dk_42 (dk_at dksX2_notFalling_3 15 rfl rfl)
theorem dX2_notFalling_87 : decode cX2_notFalling 87 = .ok (.aload_n 0, 1) := dk_42 (dk_at dksX2_notFalling_3 16 rfl rfl)
theorem dX2_notFalling_88 : decode cX2_notFalling 88 = .ok (.getfield 232, 3) := dk_180 0 232 (dk_at dksX2_notFalling_3 17 rfl rfl)
theorem dX2_notFalling_91 : decode cX2_notFalling 91 = .ok (.iload_n 2, 1) := dk_28 (dk_at dksX2_notFalling_3 20 rfl rfl)
theorem dX2_notFalling_92 : decode cX2_notFalling 92 = .ok (.iaload, 1) := dk_46 (dk_at dksX2_notFalling_3 21 rfl rfl)
theorem dX2_notFalling_93 : decode cX2_notFalling 93 = .ok (.aload_n 0, 1) := dk_42 (dk_at dksX2_notFalling_3 22 rfl rfl)
theorem dX2_notFalling_94 : decode cX2_notFalling 94 = .ok (.getfield 238, 3) := dk_180 0 238 (dk_at dksX2_notFalling_4 0 rfl rfl)
theorem dX2_notFalling_97 : decode cX2_notFalling 97 = .ok (.iload 5, 2) := dk_21 5 (dk_at dksX2_notFalling_4 3 rfl rfl)
theorem dX2_notFalling_99 : decode cX2_notFalling 99 = .ok (.iaload, 1) := dk_46 (dk_at dksX2_notFalling_4 5 rfl rfl)
theorem dX2_notFalling_100 : decode cX2_notFalling 100 = .ok (.invokestatic 1174, 3) := dk_184 4 150 (dk_at dksX2_notFalling_4 6 rfl rfl)
theorem dX2_notFalling_103 : decode cX2_notFalling 103 = .ok (.ifCond .eq 37, 3) := dk_153 0 37 (dk_at dksX2_notFalling_4 9 rfl rfl)
theorem dX2_notFalling_106 : decode cX2_notFalling 106 = .ok (.aload_n 0, 1) := dk_42 (dk_at dksX2_notFalling_4 12 rfl rfl)
theorem dX2_notFalling_107 : decode cX2_notFalling 107 = .ok (.getfield 241, 3) := dk_180 0 241 (dk_at dksX2_notFalling_4 13 rfl rfl)
theorem dX2_notFalling_110 : decode cX2_notFalling 110 = .ok (.iload 5, 2) := dk_21 5 (dk_at dksX2_notFalling_4 16 rfl rfl)
theorem dX2_notFalling_112 : decode cX2_notFalling 112 = .ok (.iaload, 1) := dk_46 (dk_at dksX2_notFalling_4 18 rfl rfl)
theorem dX2_notFalling_113 : decode cX2_notFalling 113 = .ok (.ifCond .lt 23, 3) := dk_155 0 23 (dk_at dksX2_notFalling_4 19 rfl rfl)
theorem dX2_notFalling_116 : decode cX2_notFalling 116 = .ok (.aload_n 0, 1) := dk_42 (dk_at dksX2_notFalling_4 22 rfl rfl)
theorem dX2_notFalling_117 : decode cX2_notFalling 117 = .ok (.aload_n 0, 1) := dk_42 (dk_at dksX2_notFalling_4 23 rfl rfl)
theorem dX2_notFalling_118 : decode cX2_notFalling 118 = .ok (.getfield 232, 3) := dk_180 0 232 (dk_at dksX2_notFalling_5 0 rfl rfl)
theorem dX2_notFalling_121 : decode cX2_notFalling 121 = .ok (.iload_n 2, 1) := dk_28 (dk_at dksX2_notFalling_5 3 rfl rfl)
theorem dX2_notFalling_122 : decode cX2_notFalling 122 = .ok (.iaload, 1) := dk_46 (dk_at dksX2_notFalling_5 4 rfl rfl)
theorem dX2_notFalling_123 : decode cX2_notFalling 123 = .ok (.aload_n 0, 1) := dk_42 (dk_at dksX2_notFalling_5 5 rfl rfl)
theorem dX2_notFalling_124 : decode cX2_notFalling 124 = .ok (.getfield 241, 3) := dk_180 0 241 (dk_at dksX2_notFalling_5 6 rfl rfl)
theorem dX2_notFalling_127 : decode cX2_notFalling 127 = .ok (.iload 5, 2) := dk_21 5 (dk_at dksX2_notFalling_5 9 rfl rfl)
theorem dX2_notFalling_129 : decode cX2_notFalling 129 = .ok (.iaload, 1) := dk_46 (dk_at dksX2_notFalling_5 11 rfl rfl)
theorem dX2_notFalling_130 : decode cX2_notFalling 130 = .ok (.invokestatic 1174, 3) := dk_184 4 150 (dk_at dksX2_notFalling_5 12 rfl rfl)
theorem dX2_notFalling_133 : decode cX2_notFalling 133 = .ok (.ifCond .eq 7, 3) := dk_153 0 7 (dk_at dksX2_notFalling_5 15 rfl rfl)
theorem dX2_notFalling_136 : decode cX2_notFalling 136 = .ok (.iconst 1, 1) := dk_4 (dk_at dksX2_notFalling_5 18 rfl rfl)
theorem dX2_notFalling_137 : decode cX2_notFalling 137 = .ok (.goto 4, 3) := dk_167 0 4 (dk_at dksX2_notFalling_5 19 rfl rfl)
theorem dX2_notFalling_140 : decode cX2_notFalling 140 = .ok (.iconst 0, 1) := dk_3 (dk_at dksX2_notFalling_5 22 rfl rfl)
theorem dX2_notFalling_141 : decode cX2_notFalling 141 = .ok (.istore_n 3, 1) := dk_62 (dk_at dksX2_notFalling_5 23 rfl rfl)
theorem dX2_notFalling_142 : decode cX2_notFalling 142 = .ok (.iinc 4 1, 3) := dk_132 4 1 (dk_at dksX2_notFalling_6 0 rfl rfl)
theorem dX2_notFalling_145 : decode cX2_notFalling 145 = .ok (.goto (-93), 3) := dk_167 255 163 (dk_at dksX2_notFalling_6 3 rfl rfl)
theorem dX2_notFalling_148 : decode cX2_notFalling 148 = .ok (.iload_n 3, 1) := dk_29 (dk_at dksX2_notFalling_6 6 rfl rfl)
theorem dX2_notFalling_149 : decode cX2_notFalling 149 = .ok (.ifCond .ne 5, 3) := dk_154 0 5 (dk_at dksX2_notFalling_6 7 rfl rfl)
theorem dX2_notFalling_152 : decode cX2_notFalling 152 = .ok (.iload_n 1, 1) := dk_27 (dk_at dksX2_notFalling_6 10 rfl rfl)
theorem dX2_notFalling_153 : decode cX2_notFalling 153 = .ok (.ireturn, 1) := dk_172 (dk_at dksX2_notFalling_6 11 rfl rfl)
theorem dX2_notFalling_154 : decode cX2_notFalling 154 = .ok (.iinc 1 1, 3) := dk_132 1 1 (dk_at dksX2_notFalling_6 12 rfl rfl)
theorem dX2_notFalling_157 : decode cX2_notFalling 157 = .ok (.iinc 2 1, 3) := dk_132 2 1 (dk_at dksX2_notFalling_6 15 rfl rfl)
theorem dX2_notFalling_160 : decode cX2_notFalling 160 = .ok (.goto (-156), 3) := dk_167 255 100 (dk_at dksX2_notFalling_6 18 rfl rfl)
theorem dX2_notFalling_163 : decode cX2_notFalling 163 = .ok (.bipush (-2), 2) := dk_16 254 (dk_at dksX2_notFalling_6 21 rfl rfl)
theorem dX2_notFalling_165 : decode cX2_notFalling 165 = .ok (.ireturn, 1) := dk_172 (dk_at dksX2_notFalling_6 23 rfl rfl)
abbrev cX2_isAbove : ByteArray := prog_4_method_183_code
def yX2_isAbove : MethodName := ⟨RX2, "isAbove", "(LRewriteHouseModel;II)Z"⟩
def dkwX2_isAbove_7 : List UInt8 := [21, 4, 153, 0, 7, 4, 167, 0, 4, 3, 79, 21, 4, 172]
abbrev dktX2_isAbove_7 : List UInt8 := dkwX2_isAbove_7 ++ []
def dkwX2_isAbove_6 : List UInt8 := [42, 180, 4, 143, 79, 42, 180, 1, 112, 29, 27, 79, 42, 180, 1, 115, 29, 28, 79, 42, 180, 1, 118, 29]
abbrev dktX2_isAbove_6 : List UInt8 := dkwX2_isAbove_6 ++ dktX2_isAbove_7
def dkwX2_isAbove_5 : List UInt8 := [46, 42, 180, 4, 143, 160, 0, 14, 29, 4, 96, 17, 31, 255, 126, 62, 167, 255, 235, 42, 180, 1, 121, 29]
abbrev dktX2_isAbove_5 : List UInt8 := dkwX2_isAbove_5 ++ dktX2_isAbove_6
def dkwX2_isAbove_4 : List UInt8 := [54, 4, 27, 16, 31, 104, 28, 96, 19, 4, 142, 104, 7, 124, 17, 31, 255, 126, 62, 42, 180, 1, 121, 29]
abbrev dktX2_isAbove_4 : List UInt8 := dkwX2_isAbove_4 ++ dktX2_isAbove_5
def dkwX2_isAbove_3 : List UInt8 := [4, 167, 0, 4, 3, 172, 29, 4, 96, 17, 31, 255, 126, 62, 167, 255, 199, 42, 27, 28, 184, 4, 146]
abbrev dktX2_isAbove_3 : List UInt8 := dkwX2_isAbove_3 ++ dktX2_isAbove_4
def dkwX2_isAbove_2 : List UInt8 := [27, 160, 0, 29, 42, 180, 1, 115, 29, 46, 28, 160, 0, 19, 42, 180, 1, 118, 29, 46, 4, 160, 0, 7]
abbrev dktX2_isAbove_2 : List UInt8 := dkwX2_isAbove_2 ++ dktX2_isAbove_3
def dkwX2_isAbove_1 : List UInt8 := [17, 31, 255, 126, 62, 42, 180, 1, 121, 29, 46, 42, 180, 4, 143, 160, 0, 50, 42, 180, 1, 112, 29, 46]
abbrev dktX2_isAbove_1 : List UInt8 := dkwX2_isAbove_1 ++ dktX2_isAbove_2
def dkwX2_isAbove_0 : List UInt8 := [42, 27, 182, 2, 185, 153, 0, 5, 3, 172, 27, 16, 31, 104, 28, 96, 19, 4, 142, 104, 7, 124]
abbrev dktX2_isAbove_0 : List UInt8 := dkwX2_isAbove_0 ++ dktX2_isAbove_1
theorem dksX2_isAbove_0 : cX2_isAbove.data.toList.drop 0 = dktX2_isAbove_0 := by decide +kernel
theorem dksX2_isAbove_1 : cX2_isAbove.data.toList.drop 22 = dktX2_isAbove_1 := dk_seg dksX2_isAbove_0 22 rfl rfl
theorem dksX2_isAbove_2 : cX2_isAbove.data.toList.drop 46 = dktX2_isAbove_2 := dk_seg dksX2_isAbove_1 24 rfl rfl
theorem dksX2_isAbove_3 : cX2_isAbove.data.toList.drop 70 = dktX2_isAbove_3 := dk_seg dksX2_isAbove_2 24 rfl rfl
theorem dksX2_isAbove_4 : cX2_isAbove.data.toList.drop 93 = dktX2_isAbove_4 := dk_seg dksX2_isAbove_3 23 rfl rfl
theorem dksX2_isAbove_5 : cX2_isAbove.data.toList.drop 117 = dktX2_isAbove_5 := dk_seg dksX2_isAbove_4 24 rfl rfl
theorem dksX2_isAbove_6 : cX2_isAbove.data.toList.drop 141 = dktX2_isAbove_6 := dk_seg dksX2_isAbove_5 24 rfl rfl
theorem dksX2_isAbove_7 : cX2_isAbove.data.toList.drop 165 = dktX2_isAbove_7 := dk_seg dksX2_isAbove_6 24 rfl rfl
theorem dX2_isAbove_0 : decode cX2_isAbove 0 = .ok (.aload_n 0, 1) := dk_42 (dk_at dksX2_isAbove_0 0 rfl rfl)
theorem dX2_isAbove_1 : decode cX2_isAbove 1 = .ok (.iload_n 1, 1) := dk_27 (dk_at dksX2_isAbove_0 1 rfl rfl)
theorem dX2_isAbove_2 : decode cX2_isAbove 2 = .ok (.invokevirtual 697, 3) := dk_182 2 185 (dk_at dksX2_isAbove_0 2 rfl rfl)
theorem dX2_isAbove_5 : decode cX2_isAbove 5 = .ok (.ifCond .eq 5, 3) := dk_153 0 5 (dk_at dksX2_isAbove_0 5 rfl rfl)
theorem dX2_isAbove_8 : decode cX2_isAbove 8 = .ok (.iconst 0, 1) := dk_3 (dk_at dksX2_isAbove_0 8 rfl rfl)
theorem dX2_isAbove_9 : decode cX2_isAbove 9 = .ok (.ireturn, 1) := dk_172 (dk_at dksX2_isAbove_0 9 rfl rfl)
theorem dX2_isAbove_10 : decode cX2_isAbove 10 = .ok (.iload_n 1, 1) := dk_27 (dk_at dksX2_isAbove_0 10 rfl rfl)
theorem dX2_isAbove_11 : decode cX2_isAbove 11 = .ok (.bipush 31, 2) := dk_16 31 (dk_at dksX2_isAbove_0 11 rfl rfl)
theorem dX2_isAbove_13 : decode cX2_isAbove 13 = .ok (.imul, 1) := dk_104 (dk_at dksX2_isAbove_0 13 rfl rfl)
theorem dX2_isAbove_14 : decode cX2_isAbove 14 = .ok (.iload_n 2, 1) := dk_28 (dk_at dksX2_isAbove_0 14 rfl rfl)
theorem dX2_isAbove_15 : decode cX2_isAbove 15 = .ok (.iadd, 1) := dk_96 (dk_at dksX2_isAbove_0 15 rfl rfl)
theorem dX2_isAbove_16 : decode cX2_isAbove 16 = .ok (.ldc_w 1166, 3) := dk_19 4 142 (dk_at dksX2_isAbove_0 16 rfl rfl)
theorem dX2_isAbove_19 : decode cX2_isAbove 19 = .ok (.imul, 1) := dk_104 (dk_at dksX2_isAbove_0 19 rfl rfl)
theorem dX2_isAbove_20 : decode cX2_isAbove 20 = .ok (.iconst 4, 1) := dk_7 (dk_at dksX2_isAbove_0 20 rfl rfl)
theorem dX2_isAbove_21 : decode cX2_isAbove 21 = .ok (.iushr, 1) := dk_124 (dk_at dksX2_isAbove_0 21 rfl rfl)
theorem dX2_isAbove_22 : decode cX2_isAbove 22 = .ok (.sipush 8191, 3) := dk_17 31 255 (dk_at dksX2_isAbove_1 0 rfl rfl)
theorem dX2_isAbove_25 : decode cX2_isAbove 25 = .ok (.iand, 1) := dk_126 (dk_at dksX2_isAbove_1 3 rfl rfl)
theorem dX2_isAbove_26 : decode cX2_isAbove 26 = .ok (.istore_n 3, 1) := dk_62 (dk_at dksX2_isAbove_1 4 rfl rfl)
theorem dX2_isAbove_27 : decode cX2_isAbove 27 = .ok (.aload_n 0, 1) := dk_42 (dk_at dksX2_isAbove_1 5 rfl rfl)
theorem dX2_isAbove_28 : decode cX2_isAbove 28 = .ok (.getfield 377, 3) := dk_180 1 121 (dk_at dksX2_isAbove_1 6 rfl rfl)
theorem dX2_isAbove_31 : decode cX2_isAbove 31 = .ok (.iload_n 3, 1) := dk_29 (dk_at dksX2_isAbove_1 9 rfl rfl)
theorem dX2_isAbove_32 : decode cX2_isAbove 32 = .ok (.iaload, 1) := dk_46 (dk_at dksX2_isAbove_1 10 rfl rfl)
theorem dX2_isAbove_33 : decode cX2_isAbove 33 = .ok (.aload_n 0, 1) := dk_42 (dk_at dksX2_isAbove_1 11 rfl rfl)
theorem dX2_isAbove_34 : decode cX2_isAbove 34 = .ok (.getfield 1167, 3) := dk_180 4 143 (dk_at dksX2_isAbove_1 12 rfl rfl)
theorem dX2_isAbove_37 : decode cX2_isAbove 37 = .ok (.if_icmp .ne 50, 3) := dk_160 0 50 (dk_at dksX2_isAbove_1 15 rfl rfl)
theorem dX2_isAbove_40 : decode cX2_isAbove 40 = .ok (.aload_n 0, 1) := dk_42 (dk_at dksX2_isAbove_1 18 rfl rfl)
theorem dX2_isAbove_41 : decode cX2_isAbove 41 = .ok (.getfield 368, 3) := dk_180 1 112 (dk_at dksX2_isAbove_1 19 rfl rfl)
theorem dX2_isAbove_44 : decode cX2_isAbove 44 = .ok (.iload_n 3, 1) := dk_29 (dk_at dksX2_isAbove_1 22 rfl rfl)
theorem dX2_isAbove_45 : decode cX2_isAbove 45 = .ok (.iaload, 1) := dk_46 (dk_at dksX2_isAbove_1 23 rfl rfl)
theorem dX2_isAbove_46 : decode cX2_isAbove 46 = .ok (.iload_n 1, 1) := dk_27 (dk_at dksX2_isAbove_2 0 rfl rfl)
theorem dX2_isAbove_47 : decode cX2_isAbove 47 = .ok (.if_icmp .ne 29, 3) := dk_160 0 29 (dk_at dksX2_isAbove_2 1 rfl rfl)
theorem dX2_isAbove_50 : decode cX2_isAbove 50 = .ok (.aload_n 0, 1) := dk_42 (dk_at dksX2_isAbove_2 4 rfl rfl)
theorem dX2_isAbove_51 : decode cX2_isAbove 51 = .ok (.getfield 371, 3) := dk_180 1 115 (dk_at dksX2_isAbove_2 5 rfl rfl)
theorem dX2_isAbove_54 : decode cX2_isAbove 54 = .ok (.iload_n 3, 1) := dk_29 (dk_at dksX2_isAbove_2 8 rfl rfl)
theorem dX2_isAbove_55 : decode cX2_isAbove 55 = .ok (.iaload, 1) := dk_46 (dk_at dksX2_isAbove_2 9 rfl rfl)
theorem dX2_isAbove_56 : decode cX2_isAbove 56 = .ok (.iload_n 2, 1) := dk_28 (dk_at dksX2_isAbove_2 10 rfl rfl)
theorem dX2_isAbove_57 : decode cX2_isAbove 57 = .ok (.if_icmp .ne 19, 3) := dk_160 0 19 (dk_at dksX2_isAbove_2 11 rfl rfl)
theorem dX2_isAbove_60 : decode cX2_isAbove 60 = .ok (.aload_n 0, 1) := dk_42 (dk_at dksX2_isAbove_2 14 rfl rfl)
theorem dX2_isAbove_61 : decode cX2_isAbove 61 = .ok (.getfield 374, 3) := dk_180 1 118 (dk_at dksX2_isAbove_2 15 rfl rfl)
theorem dX2_isAbove_64 : decode cX2_isAbove 64 = .ok (.iload_n 3, 1) := dk_29 (dk_at dksX2_isAbove_2 18 rfl rfl)
theorem dX2_isAbove_65 : decode cX2_isAbove 65 = .ok (.iaload, 1) := dk_46 (dk_at dksX2_isAbove_2 19 rfl rfl)
theorem dX2_isAbove_66 : decode cX2_isAbove 66 = .ok (.iconst 1, 1) := dk_4 (dk_at dksX2_isAbove_2 20 rfl rfl)
theorem dX2_isAbove_67 : decode cX2_isAbove 67 = .ok (.if_icmp .ne 7, 3) := dk_160 0 7 (dk_at dksX2_isAbove_2 21 rfl rfl)
theorem dX2_isAbove_70 : decode cX2_isAbove 70 = .ok (.iconst 1, 1) := dk_4 (dk_at dksX2_isAbove_3 0 rfl rfl)
theorem dX2_isAbove_71 : decode cX2_isAbove 71 = .ok (.goto 4, 3) := dk_167 0 4 (dk_at dksX2_isAbove_3 1 rfl rfl)
theorem dX2_isAbove_74 : decode cX2_isAbove 74 = .ok (.iconst 0, 1) := dk_3 (dk_at dksX2_isAbove_3 4 rfl rfl)
theorem dX2_isAbove_75 : decode cX2_isAbove 75 = .ok (.ireturn, 1) := dk_172 (dk_at dksX2_isAbove_3 5 rfl rfl)
theorem dX2_isAbove_76 : decode cX2_isAbove 76 = .ok (.iload_n 3, 1) := dk_29 (dk_at dksX2_isAbove_3 6 rfl rfl)
theorem dX2_isAbove_77 : decode cX2_isAbove 77 = .ok (.iconst 1, 1) := dk_4 (dk_at dksX2_isAbove_3 7 rfl rfl)
theorem dX2_isAbove_78 : decode cX2_isAbove 78 = .ok (.iadd, 1) := dk_96 (dk_at dksX2_isAbove_3 8 rfl rfl)
theorem dX2_isAbove_79 : decode cX2_isAbove 79 = .ok (.sipush 8191, 3) := dk_17 31 255 (dk_at dksX2_isAbove_3 9 rfl rfl)
theorem dX2_isAbove_82 : decode cX2_isAbove 82 = .ok (.iand, 1) := dk_126 (dk_at dksX2_isAbove_3 12 rfl rfl)
theorem dX2_isAbove_83 : decode cX2_isAbove 83 = .ok (.istore_n 3, 1) := dk_62 (dk_at dksX2_isAbove_3 13 rfl rfl)
theorem dX2_isAbove_84 : decode cX2_isAbove 84 = .ok (.goto (-57), 3) := dk_167 255 199 (dk_at dksX2_isAbove_3 14 rfl rfl)
theorem dX2_isAbove_87 : decode cX2_isAbove 87 = .ok (.aload_n 0, 1) := dk_42 (dk_at dksX2_isAbove_3 17 rfl rfl)
theorem dX2_isAbove_88 : decode cX2_isAbove 88 = .ok (.iload_n 1, 1) := dk_27 (dk_at dksX2_isAbove_3 18 rfl rfl)
theorem dX2_isAbove_89 : decode cX2_isAbove 89 = .ok (.iload_n 2, 1) := dk_28 (dk_at dksX2_isAbove_3 19 rfl rfl)
theorem dX2_isAbove_90 : decode cX2_isAbove 90 = .ok (.invokestatic 1170, 3) := dk_184 4 146 (dk_at dksX2_isAbove_3 20 rfl rfl)
theorem dX2_isAbove_93 : decode cX2_isAbove 93 = .ok (.istore 4, 2) := dk_54 4 (dk_at dksX2_isAbove_4 0 rfl rfl)
theorem dX2_isAbove_95 : decode cX2_isAbove 95 = .ok (.iload_n 1, 1) := dk_27 (dk_at dksX2_isAbove_4 2 rfl rfl)
theorem dX2_isAbove_96 : decode cX2_isAbove 96 = .ok (.bipush 31, 2) := dk_16 31 (dk_at dksX2_isAbove_4 3 rfl rfl)
theorem dX2_isAbove_98 : decode cX2_isAbove 98 = .ok (.imul, 1) := dk_104 (dk_at dksX2_isAbove_4 5 rfl rfl)
theorem dX2_isAbove_99 : decode cX2_isAbove 99 = .ok (.iload_n 2, 1) := dk_28 (dk_at dksX2_isAbove_4 6 rfl rfl)
theorem dX2_isAbove_100 : decode cX2_isAbove 100 = .ok (.iadd, 1) := dk_96 (dk_at dksX2_isAbove_4 7 rfl rfl)
theorem dX2_isAbove_101 : decode cX2_isAbove 101 = .ok (.ldc_w 1166, 3) := dk_19 4 142 (dk_at dksX2_isAbove_4 8 rfl rfl)
theorem dX2_isAbove_104 : decode cX2_isAbove 104 = .ok (.imul, 1) := dk_104 (dk_at dksX2_isAbove_4 11 rfl rfl)
theorem dX2_isAbove_105 : decode cX2_isAbove 105 = .ok (.iconst 4, 1) := dk_7 (dk_at dksX2_isAbove_4 12 rfl rfl)
theorem dX2_isAbove_106 : decode cX2_isAbove 106 = .ok (.iushr, 1) := dk_124 (dk_at dksX2_isAbove_4 13 rfl rfl)
theorem dX2_isAbove_107 : decode cX2_isAbove 107 = .ok (.sipush 8191, 3) := dk_17 31 255 (dk_at dksX2_isAbove_4 14 rfl rfl)
theorem dX2_isAbove_110 : decode cX2_isAbove 110 = .ok (.iand, 1) := dk_126 (dk_at dksX2_isAbove_4 17 rfl rfl)
theorem dX2_isAbove_111 : decode cX2_isAbove 111 = .ok (.istore_n 3, 1) := dk_62 (dk_at dksX2_isAbove_4 18 rfl rfl)
theorem dX2_isAbove_112 : decode cX2_isAbove 112 = .ok (.aload_n 0, 1) := dk_42 (dk_at dksX2_isAbove_4 19 rfl rfl)
theorem dX2_isAbove_113 : decode cX2_isAbove 113 = .ok (.getfield 377, 3) := dk_180 1 121 (dk_at dksX2_isAbove_4 20 rfl rfl)
theorem dX2_isAbove_116 : decode cX2_isAbove 116 = .ok (.iload_n 3, 1) := dk_29 (dk_at dksX2_isAbove_4 23 rfl rfl)
theorem dX2_isAbove_117 : decode cX2_isAbove 117 = .ok (.iaload, 1) := dk_46 (dk_at dksX2_isAbove_5 0 rfl rfl)
theorem dX2_isAbove_118 : decode cX2_isAbove 118 = .ok (.aload_n 0, 1) := dk_42 (dk_at dksX2_isAbove_5 1 rfl rfl)
theorem dX2_isAbove_119 : decode cX2_isAbove 119 = .ok (.getfield 1167, 3) := dk_180 4 143 (dk_at dksX2_isAbove_5 2 rfl rfl)
theorem dX2_isAbove_122 : decode cX2_isAbove 122 = .ok (.if_icmp .ne 14, 3) := dk_160 0 14 (dk_at dksX2_isAbove_5 5 rfl rfl)
theorem dX2_isAbove_125 : decode cX2_isAbove 125 = .ok (.iload_n 3, 1) := dk_29 (dk_at dksX2_isAbove_5 8 rfl rfl)
theorem dX2_isAbove_126 : decode cX2_isAbove 126 = .ok (.iconst 1, 1) := dk_4 (dk_at dksX2_isAbove_5 9 rfl rfl)
theorem dX2_isAbove_127 : decode cX2_isAbove 127 = .ok (.iadd, 1) := dk_96 (dk_at dksX2_isAbove_5 10 rfl rfl)
theorem dX2_isAbove_128 : decode cX2_isAbove 128 = .ok (.sipush 8191, 3) := dk_17 31 255 (dk_at dksX2_isAbove_5 11 rfl rfl)
theorem dX2_isAbove_131 : decode cX2_isAbove 131 = .ok (.iand, 1) := dk_126 (dk_at dksX2_isAbove_5 14 rfl rfl)
theorem dX2_isAbove_132 : decode cX2_isAbove 132 = .ok (.istore_n 3, 1) := dk_62 (dk_at dksX2_isAbove_5 15 rfl rfl)
theorem dX2_isAbove_133 : decode cX2_isAbove 133 = .ok (.goto (-21), 3) := dk_167 255 235 (dk_at dksX2_isAbove_5 16 rfl rfl)
theorem dX2_isAbove_136 : decode cX2_isAbove 136 = .ok (.aload_n 0, 1) := dk_42 (dk_at dksX2_isAbove_5 19 rfl rfl)
theorem dX2_isAbove_137 : decode cX2_isAbove 137 = .ok (.getfield 377, 3) := dk_180 1 121 (dk_at dksX2_isAbove_5 20 rfl rfl)
theorem dX2_isAbove_140 : decode cX2_isAbove 140 = .ok (.iload_n 3, 1) := dk_29 (dk_at dksX2_isAbove_5 23 rfl rfl)
theorem dX2_isAbove_141 : decode cX2_isAbove 141 = .ok (.aload_n 0, 1) := dk_42 (dk_at dksX2_isAbove_6 0 rfl rfl)
theorem dX2_isAbove_142 : decode cX2_isAbove 142 = .ok (.getfield 1167, 3) := dk_180 4 143 (dk_at dksX2_isAbove_6 1 rfl rfl)
theorem dX2_isAbove_145 : decode cX2_isAbove 145 = .ok (.iastore, 1) := dk_79 (dk_at dksX2_isAbove_6 4 rfl rfl)
theorem dX2_isAbove_146 : decode cX2_isAbove 146 = .ok (.aload_n 0, 1) := dk_42 (dk_at dksX2_isAbove_6 5 rfl rfl)
theorem dX2_isAbove_147 : decode cX2_isAbove 147 = .ok (.getfield 368, 3) := dk_180 1 112 (dk_at dksX2_isAbove_6 6 rfl rfl)
theorem dX2_isAbove_150 : decode cX2_isAbove 150 = .ok (.iload_n 3, 1) := dk_29 (dk_at dksX2_isAbove_6 9 rfl rfl)
theorem dX2_isAbove_151 : decode cX2_isAbove 151 = .ok (.iload_n 1, 1) := dk_27 (dk_at dksX2_isAbove_6 10 rfl rfl)
theorem dX2_isAbove_152 : decode cX2_isAbove 152 = .ok (.iastore, 1) := dk_79 (dk_at dksX2_isAbove_6 11 rfl rfl)
theorem dX2_isAbove_153 : decode cX2_isAbove 153 = .ok (.aload_n 0, 1) := dk_42 (dk_at dksX2_isAbove_6 12 rfl rfl)
theorem dX2_isAbove_154 : decode cX2_isAbove 154 = .ok (.getfield 371, 3) := dk_180 1 115 (dk_at dksX2_isAbove_6 13 rfl rfl)
theorem dX2_isAbove_157 : decode cX2_isAbove 157 = .ok (.iload_n 3, 1) := dk_29 (dk_at dksX2_isAbove_6 16 rfl rfl)
theorem dX2_isAbove_158 : decode cX2_isAbove 158 = .ok (.iload_n 2, 1) := dk_28 (dk_at dksX2_isAbove_6 17 rfl rfl)
theorem dX2_isAbove_159 : decode cX2_isAbove 159 = .ok (.iastore, 1) := dk_79 (dk_at dksX2_isAbove_6 18 rfl rfl)
theorem dX2_isAbove_160 : decode cX2_isAbove 160 = .ok (.aload_n 0, 1) := dk_42 (dk_at dksX2_isAbove_6 19 rfl rfl)
theorem dX2_isAbove_161 : decode cX2_isAbove 161 = .ok (.getfield 374, 3) := dk_180 1 118 (dk_at dksX2_isAbove_6 20 rfl rfl)
theorem dX2_isAbove_164 : decode cX2_isAbove 164 = .ok (.iload_n 3, 1) := dk_29 (dk_at dksX2_isAbove_6 23 rfl rfl)
theorem dX2_isAbove_165 : decode cX2_isAbove 165 = .ok (.iload 4, 2) := dk_21 4 (dk_at dksX2_isAbove_7 0 rfl rfl)
theorem dX2_isAbove_167 : decode cX2_isAbove 167 = .ok (.ifCond .eq 7, 3) := dk_153 0 7 (dk_at dksX2_isAbove_7 2 rfl rfl)
theorem dX2_isAbove_170 : decode cX2_isAbove 170 = .ok (.iconst 1, 1) := dk_4 (dk_at dksX2_isAbove_7 5 rfl rfl)
theorem dX2_isAbove_171 : decode cX2_isAbove 171 = .ok (.goto 4, 3) := dk_167 0 4 (dk_at dksX2_isAbove_7 6 rfl rfl)
theorem dX2_isAbove_174 : decode cX2_isAbove 174 = .ok (.iconst 0, 1) := dk_3 (dk_at dksX2_isAbove_7 9 rfl rfl)
theorem dX2_isAbove_175 : decode cX2_isAbove 175 = .ok (.iastore, 1) := dk_79 (dk_at dksX2_isAbove_7 10 rfl rfl)
theorem dX2_isAbove_176 : decode cX2_isAbove 176 = .ok (.iload 4, 2) := dk_21 4 (dk_at dksX2_isAbove_7 11 rfl rfl)
theorem dX2_isAbove_178 : decode cX2_isAbove 178 = .ok (.ireturn, 1) := dk_172 (dk_at dksX2_isAbove_7 13 rfl rfl)
abbrev cX2_isAboveBy : ByteArray := prog_4_method_184_code
def yX2_isAboveBy : MethodName := ⟨RX2, "isAboveBy", "(LRewriteHouseModel;II)Z"⟩
def dkwX2_isAboveBy_8 : List UInt8 := [21, 4, 182, 2, 179, 184, 4, 150, 172, 132, 4, 1, 167, 255, 206, 3, 172]
abbrev dktX2_isAboveBy_8 : List UInt8 := dkwX2_isAboveBy_8 ++ []
def dkwX2_isAboveBy_7 : List UInt8 := [182, 2, 179, 42, 28, 21, 4, 182, 2, 179, 159, 0, 22, 42, 42, 27, 21, 4, 182, 2, 179, 42, 28]
abbrev dktX2_isAboveBy_7 : List UInt8 := dkwX2_isAboveBy_7 ++ dktX2_isAboveBy_8
def dkwX2_isAboveBy_6 : List UInt8 := [27, 28, 184, 4, 153, 172, 3, 54, 4, 21, 4, 42, 180, 0, 187, 27, 46, 162, 0, 45, 42, 27, 21, 4]
abbrev dktX2_isAboveBy_6 : List UInt8 := dkwX2_isAboveBy_6 ++ dktX2_isAboveBy_7
def dkwX2_isAboveBy_5 : List UInt8 := [167, 0, 4, 3, 172, 42, 180, 0, 168, 29, 51, 154, 0, 12, 42, 180, 0, 171, 29, 51, 153, 0, 10, 42]
abbrev dktX2_isAboveBy_5 : List UInt8 := dkwX2_isAboveBy_5 ++ dktX2_isAboveBy_6
def dkwX2_isAboveBy_4 : List UInt8 := [62, 29, 42, 180, 0, 181, 28, 46, 159, 0, 19, 29, 42, 180, 0, 181, 28, 46, 164, 0, 7, 4]
abbrev dktX2_isAboveBy_4 : List UInt8 := dkwX2_isAboveBy_4 ++ dktX2_isAboveBy_5
def dkwX2_isAboveBy_3 : List UInt8 := [29, 182, 2, 179, 184, 4, 150, 154, 0, 5, 3, 172, 132, 3, 1, 167, 255, 227, 42, 180, 0, 181, 27, 46]
abbrev dktX2_isAboveBy_3 : List UInt8 := dkwX2_isAboveBy_3 ++ dktX2_isAboveBy_4
def dkwX2_isAboveBy_2 : List UInt8 := [182, 2, 185, 153, 0, 5, 3, 172, 3, 62, 29, 42, 180, 0, 187, 28, 46, 162, 0, 25, 42, 27, 42, 28]
abbrev dktX2_isAboveBy_2 : List UInt8 := dkwX2_isAboveBy_2 ++ dktX2_isAboveBy_3
def dkwX2_isAboveBy_1 : List UInt8 := [27, 29, 182, 2, 179, 28, 184, 4, 150, 153, 0, 5, 4, 172, 132, 3, 1, 167, 255, 217, 42, 28]
abbrev dktX2_isAboveBy_1 : List UInt8 := dkwX2_isAboveBy_1 ++ dktX2_isAboveBy_2
def dkwX2_isAboveBy_0 : List UInt8 := [3, 62, 29, 42, 180, 0, 187, 27, 46, 162, 0, 35, 42, 27, 29, 182, 2, 179, 28, 159, 0, 17, 42, 42]
abbrev dktX2_isAboveBy_0 : List UInt8 := dkwX2_isAboveBy_0 ++ dktX2_isAboveBy_1
theorem dksX2_isAboveBy_0 : cX2_isAboveBy.data.toList.drop 0 = dktX2_isAboveBy_0 := by decide +kernel
theorem dksX2_isAboveBy_1 : cX2_isAboveBy.data.toList.drop 24 = dktX2_isAboveBy_1 := dk_seg dksX2_isAboveBy_0 24 rfl rfl
theorem dksX2_isAboveBy_2 : cX2_isAboveBy.data.toList.drop 46 = dktX2_isAboveBy_2 := dk_seg dksX2_isAboveBy_1 22 rfl rfl
theorem dksX2_isAboveBy_3 : cX2_isAboveBy.data.toList.drop 70 = dktX2_isAboveBy_3 := dk_seg dksX2_isAboveBy_2 24 rfl rfl
theorem dksX2_isAboveBy_4 : cX2_isAboveBy.data.toList.drop 94 = dktX2_isAboveBy_4 := dk_seg dksX2_isAboveBy_3 24 rfl rfl
theorem dksX2_isAboveBy_5 : cX2_isAboveBy.data.toList.drop 116 = dktX2_isAboveBy_5 := dk_seg dksX2_isAboveBy_4 22 rfl rfl
theorem dksX2_isAboveBy_6 : cX2_isAboveBy.data.toList.drop 140 = dktX2_isAboveBy_6 := dk_seg dksX2_isAboveBy_5 24 rfl rfl
theorem dksX2_isAboveBy_7 : cX2_isAboveBy.data.toList.drop 164 = dktX2_isAboveBy_7 := dk_seg dksX2_isAboveBy_6 24 rfl rfl
theorem dksX2_isAboveBy_8 : cX2_isAboveBy.data.toList.drop 187 = dktX2_isAboveBy_8 := dk_seg dksX2_isAboveBy_7 23 rfl rfl
theorem dX2_isAboveBy_0 : decode cX2_isAboveBy 0 = .ok (.iconst 0, 1) := dk_3 (dk_at dksX2_isAboveBy_0 0 rfl rfl)
theorem dX2_isAboveBy_1 : decode cX2_isAboveBy 1 = .ok (.istore_n 3, 1) := dk_62 (dk_at dksX2_isAboveBy_0 1 rfl rfl)
theorem dX2_isAboveBy_2 : decode cX2_isAboveBy 2 = .ok (.iload_n 3, 1) := dk_29 (dk_at dksX2_isAboveBy_0 2 rfl rfl)
theorem dX2_isAboveBy_3 : decode cX2_isAboveBy 3 = .ok (.aload_n 0, 1) := dk_42 (dk_at dksX2_isAboveBy_0 3 rfl rfl)
theorem dX2_isAboveBy_4 : decode cX2_isAboveBy 4 = .ok (.getfield 187, 3) := dk_180 0 187 (dk_at dksX2_isAboveBy_0 4 rfl rfl)
theorem dX2_isAboveBy_7 : decode cX2_isAboveBy 7 = .ok (.iload_n 1, 1) := dk_27 (dk_at dksX2_isAboveBy_0 7 rfl rfl)
theorem dX2_isAboveBy_8 : decode cX2_isAboveBy 8 = .ok (.iaload, 1) := dk_46 (dk_at dksX2_isAboveBy_0 8 rfl rfl)
theorem dX2_isAboveBy_9 : decode cX2_isAboveBy 9 = .ok (.if_icmp .ge 35, 3) := dk_162 0 35 (dk_at dksX2_isAboveBy_0 9 rfl rfl)
theorem dX2_isAboveBy_12 : decode cX2_isAboveBy 12 = .ok (.aload_n 0, 1) := dk_42 (dk_at dksX2_isAboveBy_0 12 rfl rfl)
theorem dX2_isAboveBy_13 : decode cX2_isAboveBy 13 = .ok (.iload_n 1, 1) := dk_27 (dk_at dksX2_isAboveBy_0 13 rfl rfl)
theorem dX2_isAboveBy_14 : decode cX2_isAboveBy 14 = .ok (.iload_n 3, 1) := dk_29 (dk_at dksX2_isAboveBy_0 14 rfl rfl)
theorem dX2_isAboveBy_15 : decode cX2_isAboveBy 15 = .ok (.invokevirtual 691, 3) := dk_182 2 179 (dk_at dksX2_isAboveBy_0 15 rfl rfl)
theorem dX2_isAboveBy_18 : decode cX2_isAboveBy 18 = .ok (.iload_n 2, 1) := dk_28 (dk_at dksX2_isAboveBy_0 18 rfl rfl)
theorem dX2_isAboveBy_19 : decode cX2_isAboveBy 19 = .ok (.if_icmp .eq 17, 3) := dk_159 0 17 (dk_at dksX2_isAboveBy_0 19 rfl rfl)
theorem dX2_isAboveBy_22 : decode cX2_isAboveBy 22 = .ok (.aload_n 0, 1) := dk_42 (dk_at dksX2_isAboveBy_0 22 rfl rfl)
theorem dX2_isAboveBy_23 : decode cX2_isAboveBy 23 = .ok (.aload_n 0, 1) := dk_42 (dk_at dksX2_isAboveBy_0 23 rfl rfl)
theorem dX2_isAboveBy_24 : decode cX2_isAboveBy 24 = .ok (.iload_n 1, 1) := dk_27 (dk_at dksX2_isAboveBy_1 0 rfl rfl)
theorem dX2_isAboveBy_25 : decode cX2_isAboveBy 25 = .ok (.iload_n 3, 1) := dk_29 (dk_at dksX2_isAboveBy_1 1 rfl rfl)
theorem dX2_isAboveBy_26 : decode cX2_isAboveBy 26 = .ok (.invokevirtual 691, 3) := dk_182 2 179 (dk_at dksX2_isAboveBy_1 2 rfl rfl)
theorem dX2_isAboveBy_29 : decode cX2_isAboveBy 29 = .ok (.iload_n 2, 1) := dk_28 (dk_at dksX2_isAboveBy_1 5 rfl rfl)
theorem dX2_isAboveBy_30 : decode cX2_isAboveBy 30 = .ok (.invokestatic 1174, 3) := dk_184 4 150 (dk_at dksX2_isAboveBy_1 6 rfl rfl)
theorem dX2_isAboveBy_33 : decode cX2_isAboveBy 33 = .ok (.ifCond .eq 5, 3) := dk_153 0 5 (dk_at dksX2_isAboveBy_1 9 rfl rfl)
theorem dX2_isAboveBy_36 : decode cX2_isAboveBy 36 = .ok (.iconst 1, 1) := dk_4 (dk_at dksX2_isAboveBy_1 12 rfl rfl)
theorem dX2_isAboveBy_37 : decode cX2_isAboveBy 37 = .ok (.ireturn, 1) := dk_172 (dk_at dksX2_isAboveBy_1 13 rfl rfl)
theorem dX2_isAboveBy_38 : decode cX2_isAboveBy 38 = .ok (.iinc 3 1, 3) := dk_132 3 1 (dk_at dksX2_isAboveBy_1 14 rfl rfl)
theorem dX2_isAboveBy_41 : decode cX2_isAboveBy 41 = .ok (.goto (-39), 3) := dk_167 255 217 (dk_at dksX2_isAboveBy_1 17 rfl rfl)
theorem dX2_isAboveBy_44 : decode cX2_isAboveBy 44 = .ok (.aload_n 0, 1) := dk_42 (dk_at dksX2_isAboveBy_1 20 rfl rfl)
theorem dX2_isAboveBy_45 : decode cX2_isAboveBy 45 = .ok (.iload_n 2, 1) := dk_28 (dk_at dksX2_isAboveBy_1 21 rfl rfl)
theorem dX2_isAboveBy_46 : decode cX2_isAboveBy 46 = .ok (.invokevirtual 697, 3) := dk_182 2 185 (dk_at dksX2_isAboveBy_2 0 rfl rfl)
theorem dX2_isAboveBy_49 : decode cX2_isAboveBy 49 = .ok (.ifCond .eq 5, 3) := dk_153 0 5 (dk_at dksX2_isAboveBy_2 3 rfl rfl)
theorem dX2_isAboveBy_52 : decode cX2_isAboveBy 52 = .ok (.iconst 0, 1) := dk_3 (dk_at dksX2_isAboveBy_2 6 rfl rfl)
theorem dX2_isAboveBy_53 : decode cX2_isAboveBy 53 = .ok (.ireturn, 1) := dk_172 (dk_at dksX2_isAboveBy_2 7 rfl rfl)
theorem dX2_isAboveBy_54 : decode cX2_isAboveBy 54 = .ok (.iconst 0, 1) := dk_3 (dk_at dksX2_isAboveBy_2 8 rfl rfl)
theorem dX2_isAboveBy_55 : decode cX2_isAboveBy 55 = .ok (.istore_n 3, 1) := dk_62 (dk_at dksX2_isAboveBy_2 9 rfl rfl)
theorem dX2_isAboveBy_56 : decode cX2_isAboveBy 56 = .ok (.iload_n 3, 1) := dk_29 (dk_at dksX2_isAboveBy_2 10 rfl rfl)
theorem dX2_isAboveBy_57 : decode cX2_isAboveBy 57 = .ok (.aload_n 0, 1) := dk_42 (dk_at dksX2_isAboveBy_2 11 rfl rfl)
theorem dX2_isAboveBy_58 : decode cX2_isAboveBy 58 = .ok (.getfield 187, 3) := dk_180 0 187 (dk_at dksX2_isAboveBy_2 12 rfl rfl)
theorem dX2_isAboveBy_61 : decode cX2_isAboveBy 61 = .ok (.iload_n 2, 1) := dk_28 (dk_at dksX2_isAboveBy_2 15 rfl rfl)
theorem dX2_isAboveBy_62 : decode cX2_isAboveBy 62 = .ok (.iaload, 1) := dk_46 (dk_at dksX2_isAboveBy_2 16 rfl rfl)
theorem dX2_isAboveBy_63 : decode cX2_isAboveBy 63 = .ok (.if_icmp .ge 25, 3) := dk_162 0 25 (dk_at dksX2_isAboveBy_2 17 rfl rfl)
theorem dX2_isAboveBy_66 : decode cX2_isAboveBy 66 = .ok (.aload_n 0, 1) := dk_42 (dk_at dksX2_isAboveBy_2 20 rfl rfl)
theorem dX2_isAboveBy_67 : decode cX2_isAboveBy 67 = .ok (.iload_n 1, 1) := dk_27 (dk_at dksX2_isAboveBy_2 21 rfl rfl)
theorem dX2_isAboveBy_68 : decode cX2_isAboveBy 68 = .ok (.aload_n 0, 1) := dk_42 (dk_at dksX2_isAboveBy_2 22 rfl rfl)
theorem dX2_isAboveBy_69 : decode cX2_isAboveBy 69 = .ok (.iload_n 2, 1) := dk_28 (dk_at dksX2_isAboveBy_2 23 rfl rfl)
theorem dX2_isAboveBy_70 : decode cX2_isAboveBy 70 = .ok (.iload_n 3, 1) := dk_29 (dk_at dksX2_isAboveBy_3 0 rfl rfl)
theorem dX2_isAboveBy_71 : decode cX2_isAboveBy 71 = .ok (.invokevirtual 691, 3) := dk_182 2 179 (dk_at dksX2_isAboveBy_3 1 rfl rfl)
theorem dX2_isAboveBy_74 : decode cX2_isAboveBy 74 = .ok (.invokestatic 1174, 3) := dk_184 4 150 (dk_at dksX2_isAboveBy_3 4 rfl rfl)
theorem dX2_isAboveBy_77 : decode cX2_isAboveBy 77 = .ok (.ifCond .ne 5, 3) := dk_154 0 5 (dk_at dksX2_isAboveBy_3 7 rfl rfl)
theorem dX2_isAboveBy_80 : decode cX2_isAboveBy 80 = .ok (.iconst 0, 1) := dk_3 (dk_at dksX2_isAboveBy_3 10 rfl rfl)
theorem dX2_isAboveBy_81 : decode cX2_isAboveBy 81 = .ok (.ireturn, 1) := dk_172 (dk_at dksX2_isAboveBy_3 11 rfl rfl)
theorem dX2_isAboveBy_82 : decode cX2_isAboveBy 82 = .ok (.iinc 3 1, 3) := dk_132 3 1 (dk_at dksX2_isAboveBy_3 12 rfl rfl)
theorem dX2_isAboveBy_85 : decode cX2_isAboveBy 85 = .ok (.goto (-29), 3) := dk_167 255 227 (dk_at dksX2_isAboveBy_3 15 rfl rfl)
theorem dX2_isAboveBy_88 : decode cX2_isAboveBy 88 = .ok (.aload_n 0, 1) := dk_42 (dk_at dksX2_isAboveBy_3 18 rfl rfl)
theorem dX2_isAboveBy_89 : decode cX2_isAboveBy 89 = .ok (.getfield 181, 3) := dk_180 0 181 (dk_at dksX2_isAboveBy_3 19 rfl rfl)
theorem dX2_isAboveBy_92 : decode cX2_isAboveBy 92 = .ok (.iload_n 1, 1) := dk_27 (dk_at dksX2_isAboveBy_3 22 rfl rfl)
theorem dX2_isAboveBy_93 : decode cX2_isAboveBy 93 = .ok (.iaload, 1) := dk_46 (dk_at dksX2_isAboveBy_3 23 rfl rfl)
theorem dX2_isAboveBy_94 : decode cX2_isAboveBy 94 = .ok (.istore_n 3, 1) := dk_62 (dk_at dksX2_isAboveBy_4 0 rfl rfl)
theorem dX2_isAboveBy_95 : decode cX2_isAboveBy 95 = .ok (.iload_n 3, 1) := dk_29 (dk_at dksX2_isAboveBy_4 1 rfl rfl)
theorem dX2_isAboveBy_96 : decode cX2_isAboveBy 96 = .ok (.aload_n 0, 1) := dk_42 (dk_at dksX2_isAboveBy_4 2 rfl rfl)
theorem dX2_isAboveBy_97 : decode cX2_isAboveBy 97 = .ok (.getfield 181, 3) := dk_180 0 181 (dk_at dksX2_isAboveBy_4 3 rfl rfl)
theorem dX2_isAboveBy_100 : decode cX2_isAboveBy 100 = .ok (.iload_n 2, 1) := dk_28 (dk_at dksX2_isAboveBy_4 6 rfl rfl)
theorem dX2_isAboveBy_101 : decode cX2_isAboveBy 101 = .ok (.iaload, 1) := dk_46 (dk_at dksX2_isAboveBy_4 7 rfl rfl)
theorem dX2_isAboveBy_102 : decode cX2_isAboveBy 102 = .ok (.if_icmp .eq 19, 3) := dk_159 0 19 (dk_at dksX2_isAboveBy_4 8 rfl rfl)
theorem dX2_isAboveBy_105 : decode cX2_isAboveBy 105 = .ok (.iload_n 3, 1) := dk_29 (dk_at dksX2_isAboveBy_4 11 rfl rfl)
theorem dX2_isAboveBy_106 : decode cX2_isAboveBy 106 = .ok (.aload_n 0, 1) := dk_42 (dk_at dksX2_isAboveBy_4 12 rfl rfl)
theorem dX2_isAboveBy_107 : decode cX2_isAboveBy 107 = .ok (.getfield 181, 3) := dk_180 0 181 (dk_at dksX2_isAboveBy_4 13 rfl rfl)
theorem dX2_isAboveBy_110 : decode cX2_isAboveBy 110 = .ok (.iload_n 2, 1) := dk_28 (dk_at dksX2_isAboveBy_4 16 rfl rfl)
theorem dX2_isAboveBy_111 : decode cX2_isAboveBy 111 = .ok (.iaload, 1) := dk_46 (dk_at dksX2_isAboveBy_4 17 rfl rfl)
theorem dX2_isAboveBy_112 : decode cX2_isAboveBy 112 = .ok (.if_icmp .le 7, 3) := dk_164 0 7 (dk_at dksX2_isAboveBy_4 18 rfl rfl)
theorem dX2_isAboveBy_115 : decode cX2_isAboveBy 115 = .ok (.iconst 1, 1) := dk_4 (dk_at dksX2_isAboveBy_4 21 rfl rfl)
theorem dX2_isAboveBy_116 : decode cX2_isAboveBy 116 = .ok (.goto 4, 3) := dk_167 0 4 (dk_at dksX2_isAboveBy_5 0 rfl rfl)
theorem dX2_isAboveBy_119 : decode cX2_isAboveBy 119 = .ok (.iconst 0, 1) := dk_3 (dk_at dksX2_isAboveBy_5 3 rfl rfl)
theorem dX2_isAboveBy_120 : decode cX2_isAboveBy 120 = .ok (.ireturn, 1) := dk_172 (dk_at dksX2_isAboveBy_5 4 rfl rfl)
theorem dX2_isAboveBy_121 : decode cX2_isAboveBy 121 = .ok (.aload_n 0, 1) := dk_42 (dk_at dksX2_isAboveBy_5 5 rfl rfl)
theorem dX2_isAboveBy_122 : decode cX2_isAboveBy 122 = .ok (.getfield 168, 3) := dk_180 0 168 (dk_at dksX2_isAboveBy_5 6 rfl rfl)
theorem dX2_isAboveBy_125 : decode cX2_isAboveBy 125 = .ok (.iload_n 3, 1) := dk_29 (dk_at dksX2_isAboveBy_5 9 rfl rfl)
theorem dX2_isAboveBy_126 : decode cX2_isAboveBy 126 = .ok (.baload, 1) := dk_51 (dk_at dksX2_isAboveBy_5 10 rfl rfl)
theorem dX2_isAboveBy_127 : decode cX2_isAboveBy 127 = .ok (.ifCond .ne 12, 3) := dk_154 0 12 (dk_at dksX2_isAboveBy_5 11 rfl rfl)
theorem dX2_isAboveBy_130 : decode cX2_isAboveBy 130 = .ok (.aload_n 0, 1) := dk_42 (dk_at dksX2_isAboveBy_5 14 rfl rfl)
theorem dX2_isAboveBy_131 : decode cX2_isAboveBy 131 = .ok (.getfield 171, 3) := dk_180 0 171 (dk_at dksX2_isAboveBy_5 15 rfl rfl)
theorem dX2_isAboveBy_134 : decode cX2_isAboveBy 134 = .ok (.iload_n 3, 1) := dk_29 (dk_at dksX2_isAboveBy_5 18 rfl rfl)
theorem dX2_isAboveBy_135 : decode cX2_isAboveBy 135 = .ok (.baload, 1) := dk_51 (dk_at dksX2_isAboveBy_5 19 rfl rfl)
theorem dX2_isAboveBy_136 : decode cX2_isAboveBy 136 = .ok (.ifCond .eq 10, 3) := dk_153 0 10 (dk_at dksX2_isAboveBy_5 20 rfl rfl)
theorem dX2_isAboveBy_139 : decode cX2_isAboveBy 139 = .ok (.aload_n 0, 1) := dk_42 (dk_at dksX2_isAboveBy_5 23 rfl rfl)
theorem dX2_isAboveBy_140 : decode cX2_isAboveBy 140 = .ok (.iload_n 1, 1) := dk_27 (dk_at dksX2_isAboveBy_6 0 rfl rfl)
theorem dX2_isAboveBy_141 : decode cX2_isAboveBy 141 = .ok (.iload_n 2, 1) := dk_28 (dk_at dksX2_isAboveBy_6 1 rfl rfl)
theorem dX2_isAboveBy_142 : decode cX2_isAboveBy 142 = .ok (.invokestatic 1177, 3) := dk_184 4 153 (dk_at dksX2_isAboveBy_6 2 rfl rfl)
theorem dX2_isAboveBy_145 : decode cX2_isAboveBy 145 = .ok (.ireturn, 1) := dk_172 (dk_at dksX2_isAboveBy_6 5 rfl rfl)
theorem dX2_isAboveBy_146 : decode cX2_isAboveBy 146 = .ok (.iconst 0, 1) := dk_3 (dk_at dksX2_isAboveBy_6 6 rfl rfl)
theorem dX2_isAboveBy_147 : decode cX2_isAboveBy 147 = .ok (.istore 4, 2) := dk_54 4 (dk_at dksX2_isAboveBy_6 7 rfl rfl)
theorem dX2_isAboveBy_149 : decode cX2_isAboveBy 149 = .ok (.iload 4, 2) := dk_21 4 (dk_at dksX2_isAboveBy_6 9 rfl rfl)
theorem dX2_isAboveBy_151 : decode cX2_isAboveBy 151 = .ok (.aload_n 0, 1) := dk_42 (dk_at dksX2_isAboveBy_6 11 rfl rfl)
theorem dX2_isAboveBy_152 : decode cX2_isAboveBy 152 = .ok (.getfield 187, 3) := dk_180 0 187 (dk_at dksX2_isAboveBy_6 12 rfl rfl)
theorem dX2_isAboveBy_155 : decode cX2_isAboveBy 155 = .ok (.iload_n 1, 1) := dk_27 (dk_at dksX2_isAboveBy_6 15 rfl rfl)
theorem dX2_isAboveBy_156 : decode cX2_isAboveBy 156 = .ok (.iaload, 1) := dk_46 (dk_at dksX2_isAboveBy_6 16 rfl rfl)
theorem dX2_isAboveBy_157 : decode cX2_isAboveBy 157 = .ok (.if_icmp .ge 45, 3) := dk_162 0 45 (dk_at dksX2_isAboveBy_6 17 rfl rfl)
theorem dX2_isAboveBy_160 : decode cX2_isAboveBy 160 = .ok (.aload_n 0, 1) := dk_42 (dk_at dksX2_isAboveBy_6 20 rfl rfl)
theorem dX2_isAboveBy_161 : decode cX2_isAboveBy 161 = .ok (.iload_n 1, 1) := dk_27 (dk_at dksX2_isAboveBy_6 21 rfl rfl)
theorem dX2_isAboveBy_162 : decode cX2_isAboveBy 162 = .ok (.iload 4, 2) := dk_21 4 (dk_at dksX2_isAboveBy_6 22 rfl rfl)
theorem dX2_isAboveBy_164 : decode cX2_isAboveBy 164 = .ok (.invokevirtual 691, 3) := dk_182 2 179 (dk_at dksX2_isAboveBy_7 0 rfl rfl)
theorem dX2_isAboveBy_167 : decode cX2_isAboveBy 167 = .ok (.aload_n 0, 1) := dk_42 (dk_at dksX2_isAboveBy_7 3 rfl rfl)
theorem dX2_isAboveBy_168 : decode cX2_isAboveBy 168 = .ok (.iload_n 2, 1) := dk_28 (dk_at dksX2_isAboveBy_7 4 rfl rfl)
theorem dX2_isAboveBy_169 : decode cX2_isAboveBy 169 = .ok (.iload 4, 2) := dk_21 4 (dk_at dksX2_isAboveBy_7 5 rfl rfl)
theorem dX2_isAboveBy_171 : decode cX2_isAboveBy 171 = .ok (.invokevirtual 691, 3) := dk_182 2 179 (dk_at dksX2_isAboveBy_7 7 rfl rfl)
theorem dX2_isAboveBy_174 : decode cX2_isAboveBy 174 = .ok (.if_icmp .eq 22, 3) := dk_159 0 22 (dk_at dksX2_isAboveBy_7 10 rfl rfl)
theorem dX2_isAboveBy_177 : decode cX2_isAboveBy 177 = .ok (.aload_n 0, 1) := dk_42 (dk_at dksX2_isAboveBy_7 13 rfl rfl)
theorem dX2_isAboveBy_178 : decode cX2_isAboveBy 178 = .ok (.aload_n 0, 1) := dk_42 (dk_at dksX2_isAboveBy_7 14 rfl rfl)
theorem dX2_isAboveBy_179 : decode cX2_isAboveBy 179 = .ok (.iload_n 1, 1) := dk_27 (dk_at dksX2_isAboveBy_7 15 rfl rfl)
theorem dX2_isAboveBy_180 : decode cX2_isAboveBy 180 = .ok (.iload 4, 2) := dk_21 4 (dk_at dksX2_isAboveBy_7 16 rfl rfl)
theorem dX2_isAboveBy_182 : decode cX2_isAboveBy 182 = .ok (.invokevirtual 691, 3) := dk_182 2 179 (dk_at dksX2_isAboveBy_7 18 rfl rfl)
theorem dX2_isAboveBy_185 : decode cX2_isAboveBy 185 = .ok (.aload_n 0, 1) := dk_42 (dk_at dksX2_isAboveBy_7 21 rfl rfl)
theorem dX2_isAboveBy_186 : decode cX2_isAboveBy 186 = .ok (.iload_n 2, 1) := dk_28 (dk_at dksX2_isAboveBy_7 22 rfl rfl)
theorem dX2_isAboveBy_187 : decode cX2_isAboveBy 187 = .ok (.iload 4, 2) := dk_21 4 (dk_at dksX2_isAboveBy_8 0 rfl rfl)
theorem dX2_isAboveBy_189 : decode cX2_isAboveBy 189 = .ok (.invokevirtual 691, 3) := dk_182 2 179 (dk_at dksX2_isAboveBy_8 2 rfl rfl)
theorem dX2_isAboveBy_192 : decode cX2_isAboveBy 192 = .ok (.invokestatic 1174, 3) := dk_184 4 150 (dk_at dksX2_isAboveBy_8 5 rfl rfl)
theorem dX2_isAboveBy_195 : decode cX2_isAboveBy 195 = .ok (.ireturn, 1) := dk_172 (dk_at dksX2_isAboveBy_8 8 rfl rfl)
theorem dX2_isAboveBy_196 : decode cX2_isAboveBy 196 = .ok (.iinc 4 1, 3) := dk_132 4 1 (dk_at dksX2_isAboveBy_8 9 rfl rfl)
theorem dX2_isAboveBy_199 : decode cX2_isAboveBy 199 = .ok (.goto (-50), 3) := dk_167 255 206 (dk_at dksX2_isAboveBy_8 12 rfl rfl)
theorem dX2_isAboveBy_202 : decode cX2_isAboveBy 202 = .ok (.iconst 0, 1) := dk_3 (dk_at dksX2_isAboveBy_8 15 rfl rfl)
theorem dX2_isAboveBy_203 : decode cX2_isAboveBy 203 = .ok (.ireturn, 1) := dk_172 (dk_at dksX2_isAboveBy_8 16 rfl rfl)
abbrev cX2_areAbove : ByteArray := prog_4_method_187_code
def yX2_areAbove : MethodName := ⟨RX2, "areAbove", "(LRewriteHouseModel;II)Z"⟩
def dkwX2_areAbove_6 : List UInt8 := [132, 4, 1, 167, 255, 157, 29, 172]
abbrev dktX2_areAbove_6 : List UInt8 := dkwX2_areAbove_6 ++ []
def dkwX2_areAbove_5 : List UInt8 := [153, 0, 7, 4, 167, 0, 4, 3, 54, 5, 132, 6, 1, 167, 255, 198, 21, 5, 154, 0, 5, 3, 172]
abbrev dktX2_areAbove_5 : List UInt8 := dkwX2_areAbove_5 ++ dktX2_areAbove_6
def dkwX2_areAbove_4 : List UInt8 := [182, 4, 159, 153, 0, 28, 42, 42, 27, 21, 6, 182, 2, 179, 42, 28, 21, 4, 182, 2, 179, 184, 4, 150]
abbrev dktX2_areAbove_4 : List UInt8 := dkwX2_areAbove_4 ++ dktX2_areAbove_5
def dkwX2_areAbove_3 : List UInt8 := [54, 6, 21, 6, 42, 180, 0, 187, 27, 46, 162, 0, 53, 21, 5, 154, 0, 48, 42, 27, 21, 6, 28]
abbrev dktX2_areAbove_3 : List UInt8 := dkwX2_areAbove_3 ++ dktX2_areAbove_4
def dkwX2_areAbove_2 : List UInt8 := [42, 180, 0, 187, 28, 46, 162, 0, 94, 42, 28, 21, 4, 27, 182, 4, 159, 153, 0, 77, 3, 54, 5, 3]
abbrev dktX2_areAbove_2 : List UInt8 := dkwX2_areAbove_2 ++ dktX2_areAbove_3
def dkwX2_areAbove_1 : List UInt8 := [28, 182, 4, 159, 153, 0, 7, 4, 167, 0, 4, 3, 62, 132, 4, 1, 167, 255, 221, 3, 54, 4, 21, 4]
abbrev dktX2_areAbove_1 : List UInt8 := dkwX2_areAbove_1 ++ dktX2_areAbove_2
def dkwX2_areAbove_0 : List UInt8 := [3, 62, 3, 54, 4, 21, 4, 42, 180, 0, 187, 27, 46, 162, 0, 30, 29, 154, 0, 14, 42, 27, 21, 4]
abbrev dktX2_areAbove_0 : List UInt8 := dkwX2_areAbove_0 ++ dktX2_areAbove_1
theorem dksX2_areAbove_0 : cX2_areAbove.data.toList.drop 0 = dktX2_areAbove_0 := by decide +kernel
theorem dksX2_areAbove_1 : cX2_areAbove.data.toList.drop 24 = dktX2_areAbove_1 := dk_seg dksX2_areAbove_0 24 rfl rfl
theorem dksX2_areAbove_2 : cX2_areAbove.data.toList.drop 48 = dktX2_areAbove_2 := dk_seg dksX2_areAbove_1 24 rfl rfl
theorem dksX2_areAbove_3 : cX2_areAbove.data.toList.drop 72 = dktX2_areAbove_3 := dk_seg dksX2_areAbove_2 24 rfl rfl
theorem dksX2_areAbove_4 : cX2_areAbove.data.toList.drop 95 = dktX2_areAbove_4 := dk_seg dksX2_areAbove_3 23 rfl rfl
theorem dksX2_areAbove_5 : cX2_areAbove.data.toList.drop 119 = dktX2_areAbove_5 := dk_seg dksX2_areAbove_4 24 rfl rfl
theorem dksX2_areAbove_6 : cX2_areAbove.data.toList.drop 142 = dktX2_areAbove_6 := dk_seg dksX2_areAbove_5 23 rfl rfl
theorem dX2_areAbove_0 : decode cX2_areAbove 0 = .ok (.iconst 0, 1) := dk_3 (dk_at dksX2_areAbove_0 0 rfl rfl)
theorem dX2_areAbove_1 : decode cX2_areAbove 1 = .ok (.istore_n 3, 1) := dk_62 (dk_at dksX2_areAbove_0 1 rfl rfl)
theorem dX2_areAbove_2 : decode cX2_areAbove 2 = .ok (.iconst 0, 1) := dk_3 (dk_at dksX2_areAbove_0 2 rfl rfl)
theorem dX2_areAbove_3 : decode cX2_areAbove 3 = .ok (.istore 4, 2) := dk_54 4 (dk_at dksX2_areAbove_0 3 rfl rfl)
theorem dX2_areAbove_5 : decode cX2_areAbove 5 = .ok (.iload 4, 2) := dk_21 4 (dk_at dksX2_areAbove_0 5 rfl rfl)
theorem dX2_areAbove_7 : decode cX2_areAbove 7 = .ok (.aload_n 0, 1) := dk_42 (dk_at dksX2_areAbove_0 7 rfl rfl)
theorem dX2_areAbove_8 : decode cX2_areAbove 8 = .ok (.getfield 187, 3) := dk_180 0 187 (dk_at dksX2_areAbove_0 8 rfl rfl)
theorem dX2_areAbove_11 : decode cX2_areAbove 11 = .ok (.iload_n 1, 1) := dk_27 (dk_at dksX2_areAbove_0 11 rfl rfl)
theorem dX2_areAbove_12 : decode cX2_areAbove 12 = .ok (.iaload, 1) := dk_46 (dk_at dksX2_areAbove_0 12 rfl rfl)
theorem dX2_areAbove_13 : decode cX2_areAbove 13 = .ok (.if_icmp .ge 30, 3) := dk_162 0 30 (dk_at dksX2_areAbove_0 13 rfl rfl)
theorem dX2_areAbove_16 : decode cX2_areAbove 16 = .ok (.iload_n 3, 1) := dk_29 (dk_at dksX2_areAbove_0 16 rfl rfl)
theorem dX2_areAbove_17 : decode cX2_areAbove 17 = .ok (.ifCond .ne 14, 3) := dk_154 0 14 (dk_at dksX2_areAbove_0 17 rfl rfl)
theorem dX2_areAbove_20 : decode cX2_areAbove 20 = .ok (.aload_n 0, 1) := dk_42 (dk_at dksX2_areAbove_0 20 rfl rfl)
theorem dX2_areAbove_21 : decode cX2_areAbove 21 = .ok (.iload_n 1, 1) := dk_27 (dk_at dksX2_areAbove_0 21 rfl rfl)
theorem dX2_areAbove_22 : decode cX2_areAbove 22 = .ok (.iload 4, 2) := dk_21 4 (dk_at dksX2_areAbove_0 22 rfl rfl)
theorem dX2_areAbove_24 : decode cX2_areAbove 24 = .ok (.iload_n 2, 1) := dk_28 (dk_at dksX2_areAbove_1 0 rfl rfl)
theorem dX2_areAbove_25 : decode cX2_areAbove 25 = .ok (.invokevirtual 1183, 3) := dk_182 4 159 (dk_at dksX2_areAbove_1 1 rfl rfl)
theorem dX2_areAbove_28 : decode cX2_areAbove 28 = .ok (.ifCond .eq 7, 3) := dk_153 0 7 (dk_at dksX2_areAbove_1 4 rfl rfl)
theorem dX2_areAbove_31 : decode cX2_areAbove 31 = .ok (.iconst 1, 1) := dk_4 (dk_at dksX2_areAbove_1 7 rfl rfl)
theorem dX2_areAbove_32 : decode cX2_areAbove 32 = .ok (.goto 4, 3) := dk_167 0 4 (dk_at dksX2_areAbove_1 8 rfl rfl)
theorem dX2_areAbove_35 : decode cX2_areAbove 35 = .ok (.iconst 0, 1) := dk_3 (dk_at dksX2_areAbove_1 11 rfl rfl)
theorem dX2_areAbove_36 : decode cX2_areAbove 36 = .ok (.istore_n 3, 1) := dk_62 (dk_at dksX2_areAbove_1 12 rfl rfl)
theorem dX2_areAbove_37 : decode cX2_areAbove 37 = .ok (.iinc 4 1, 3) := dk_132 4 1 (dk_at dksX2_areAbove_1 13 rfl rfl)
theorem dX2_areAbove_40 : decode cX2_areAbove 40 = .ok (.goto (-35), 3) := dk_167 255 221 (dk_at dksX2_areAbove_1 16 rfl rfl)
theorem dX2_areAbove_43 : decode cX2_areAbove 43 = .ok (.iconst 0, 1) := dk_3 (dk_at dksX2_areAbove_1 19 rfl rfl)
theorem dX2_areAbove_44 : decode cX2_areAbove 44 = .ok (.istore 4, 2) := dk_54 4 (dk_at dksX2_areAbove_1 20 rfl rfl)
theorem dX2_areAbove_46 : decode cX2_areAbove 46 = .ok (.iload 4, 2) := dk_21 4 (dk_at dksX2_areAbove_1 22 rfl rfl)
theorem dX2_areAbove_48 : decode cX2_areAbove 48 = .ok (.aload_n 0, 1) := dk_42 (dk_at dksX2_areAbove_2 0 rfl rfl)
theorem dX2_areAbove_49 : decode cX2_areAbove 49 = .ok (.getfield 187, 3) := dk_180 0 187 (dk_at dksX2_areAbove_2 1 rfl rfl)
theorem dX2_areAbove_52 : decode cX2_areAbove 52 = .ok (.iload_n 2, 1) := dk_28 (dk_at dksX2_areAbove_2 4 rfl rfl)
theorem dX2_areAbove_53 : decode cX2_areAbove 53 = .ok (.iaload, 1) := dk_46 (dk_at dksX2_areAbove_2 5 rfl rfl)
theorem dX2_areAbove_54 : decode cX2_areAbove 54 = .ok (.if_icmp .ge 94, 3) := dk_162 0 94 (dk_at dksX2_areAbove_2 6 rfl rfl)
theorem dX2_areAbove_57 : decode cX2_areAbove 57 = .ok (.aload_n 0, 1) := dk_42 (dk_at dksX2_areAbove_2 9 rfl rfl)
theorem dX2_areAbove_58 : decode cX2_areAbove 58 = .ok (.iload_n 2, 1) := dk_28 (dk_at dksX2_areAbove_2 10 rfl rfl)
theorem dX2_areAbove_59 : decode cX2_areAbove 59 = .ok (.iload 4, 2) := dk_21 4 (dk_at dksX2_areAbove_2 11 rfl rfl)
theorem dX2_areAbove_61 : decode cX2_areAbove 61 = .ok (.iload_n 1, 1) := dk_27 (dk_at dksX2_areAbove_2 13 rfl rfl)
theorem dX2_areAbove_62 : decode cX2_areAbove 62 = .ok (.invokevirtual 1183, 3) := dk_182 4 159 (dk_at dksX2_areAbove_2 14 rfl rfl)
theorem dX2_areAbove_65 : decode cX2_areAbove 65 = .ok (.ifCond .eq 77, 3) := dk_153 0 77 (dk_at dksX2_areAbove_2 17 rfl rfl)
theorem dX2_areAbove_68 : decode cX2_areAbove 68 = .ok (.iconst 0, 1) := dk_3 (dk_at dksX2_areAbove_2 20 rfl rfl)
theorem dX2_areAbove_69 : decode cX2_areAbove 69 = .ok (.istore 5, 2) := dk_54 5 (dk_at dksX2_areAbove_2 21 rfl rfl)
theorem dX2_areAbove_71 : decode cX2_areAbove 71 = .ok (.iconst 0, 1) := dk_3 (dk_at dksX2_areAbove_2 23 rfl rfl)
theorem dX2_areAbove_72 : decode cX2_areAbove 72 = .ok (.istore 6, 2) := dk_54 6 (dk_at dksX2_areAbove_3 0 rfl rfl)
theorem dX2_areAbove_74 : decode cX2_areAbove 74 = .ok (.iload 6, 2) := dk_21 6 (dk_at dksX2_areAbove_3 2 rfl rfl)
theorem dX2_areAbove_76 : decode cX2_areAbove 76 = .ok (.aload_n 0, 1) := dk_42 (dk_at dksX2_areAbove_3 4 rfl rfl)
theorem dX2_areAbove_77 : decode cX2_areAbove 77 = .ok (.getfield 187, 3) := dk_180 0 187 (dk_at dksX2_areAbove_3 5 rfl rfl)
theorem dX2_areAbove_80 : decode cX2_areAbove 80 = .ok (.iload_n 1, 1) := dk_27 (dk_at dksX2_areAbove_3 8 rfl rfl)
theorem dX2_areAbove_81 : decode cX2_areAbove 81 = .ok (.iaload, 1) := dk_46 (dk_at dksX2_areAbove_3 9 rfl rfl)
theorem dX2_areAbove_82 : decode cX2_areAbove 82 = .ok (.if_icmp .ge 53, 3) := dk_162 0 53 (dk_at dksX2_areAbove_3 10 rfl rfl)
theorem dX2_areAbove_85 : decode cX2_areAbove 85 = .ok (.iload 5, 2) := dk_21 5 (dk_at dksX2_areAbove_3 13 rfl rfl)
theorem dX2_areAbove_87 : decode cX2_areAbove 87 = .ok (.ifCond .ne 48, 3) := dk_154 0 48 (dk_at dksX2_areAbove_3 15 rfl rfl)
theorem dX2_areAbove_90 : decode cX2_areAbove 90 = .ok (.aload_n 0, 1) := dk_42 (dk_at dksX2_areAbove_3 18 rfl rfl)
theorem dX2_areAbove_91 : decode cX2_areAbove 91 = .ok (.iload_n 1, 1) := dk_27 (dk_at dksX2_areAbove_3 19 rfl rfl)
theorem dX2_areAbove_92 : decode cX2_areAbove 92 = .ok (.iload 6, 2) := dk_21 6 (dk_at dksX2_areAbove_3 20 rfl rfl)
theorem dX2_areAbove_94 : decode cX2_areAbove 94 = .ok (.iload_n 2, 1) := dk_28 (dk_at dksX2_areAbove_3 22 rfl rfl)
theorem dX2_areAbove_95 : decode cX2_areAbove 95 = .ok (.invokevirtual 1183, 3) := dk_182 4 159 (dk_at dksX2_areAbove_4 0 rfl rfl)
theorem dX2_areAbove_98 : decode cX2_areAbove 98 = .ok (.ifCond .eq 28, 3) := dk_153 0 28 (dk_at dksX2_areAbove_4 3 rfl rfl)
theorem dX2_areAbove_101 : decode cX2_areAbove 101 = .ok (.aload_n 0, 1) := dk_42 (dk_at dksX2_areAbove_4 6 rfl rfl)
theorem dX2_areAbove_102 : decode cX2_areAbove 102 = .ok (.aload_n 0, 1) := dk_42 (dk_at dksX2_areAbove_4 7 rfl rfl)
theorem dX2_areAbove_103 : decode cX2_areAbove 103 = .ok (.iload_n 1, 1) := dk_27 (dk_at dksX2_areAbove_4 8 rfl rfl)
theorem dX2_areAbove_104 : decode cX2_areAbove 104 = .ok (.iload 6, 2) := dk_21 6 (dk_at dksX2_areAbove_4 9 rfl rfl)
theorem dX2_areAbove_106 : decode cX2_areAbove 106 = .ok (.invokevirtual 691, 3) := dk_182 2 179 (dk_at dksX2_areAbove_4 11 rfl rfl)
theorem dX2_areAbove_109 : decode cX2_areAbove 109 = .ok (.aload_n 0, 1) := dk_42 (dk_at dksX2_areAbove_4 14 rfl rfl)
theorem dX2_areAbove_110 : decode cX2_areAbove 110 = .ok (.iload_n 2, 1) := dk_28 (dk_at dksX2_areAbove_4 15 rfl rfl)
theorem dX2_areAbove_111 : decode cX2_areAbove 111 = .ok (.iload 4, 2) := dk_21 4 (dk_at dksX2_areAbove_4 16 rfl rfl)
theorem dX2_areAbove_113 : decode cX2_areAbove 113 = .ok (.invokevirtual 691, 3) := dk_182 2 179 (dk_at dksX2_areAbove_4 18 rfl rfl)
theorem dX2_areAbove_116 : decode cX2_areAbove 116 = .ok (.invokestatic 1174, 3) := dk_184 4 150 (dk_at dksX2_areAbove_4 21 rfl rfl)
theorem dX2_areAbove_119 : decode cX2_areAbove 119 = .ok (.ifCond .eq 7, 3) := dk_153 0 7 (dk_at dksX2_areAbove_5 0 rfl rfl)
theorem dX2_areAbove_122 : decode cX2_areAbove 122 = .ok (.iconst 1, 1) := dk_4 (dk_at dksX2_areAbove_5 3 rfl rfl)
theorem dX2_areAbove_123 : decode cX2_areAbove 123 = .ok (.goto 4, 3) := dk_167 0 4 (dk_at dksX2_areAbove_5 4 rfl rfl)
theorem dX2_areAbove_126 : decode cX2_areAbove 126 = .ok (.iconst 0, 1) := dk_3 (dk_at dksX2_areAbove_5 7 rfl rfl)
theorem dX2_areAbove_127 : decode cX2_areAbove 127 = .ok (.istore 5, 2) := dk_54 5 (dk_at dksX2_areAbove_5 8 rfl rfl)
theorem dX2_areAbove_129 : decode cX2_areAbove 129 = .ok (.iinc 6 1, 3) := dk_132 6 1 (dk_at dksX2_areAbove_5 10 rfl rfl)
theorem dX2_areAbove_132 : decode cX2_areAbove 132 = .ok (.goto (-58), 3) := dk_167 255 198 (dk_at dksX2_areAbove_5 13 rfl rfl)
theorem dX2_areAbove_135 : decode cX2_areAbove 135 = .ok (.iload 5, 2) := dk_21 5 (dk_at dksX2_areAbove_5 16 rfl rfl)
theorem dX2_areAbove_137 : decode cX2_areAbove 137 = .ok (.ifCond .ne 5, 3) := dk_154 0 5 (dk_at dksX2_areAbove_5 18 rfl rfl)
theorem dX2_areAbove_140 : decode cX2_areAbove 140 = .ok (.iconst 0, 1) := dk_3 (dk_at dksX2_areAbove_5 21 rfl rfl)
theorem dX2_areAbove_141 : decode cX2_areAbove 141 = .ok (.ireturn, 1) := dk_172 (dk_at dksX2_areAbove_5 22 rfl rfl)
theorem dX2_areAbove_142 : decode cX2_areAbove 142 = .ok (.iinc 4 1, 3) := dk_132 4 1 (dk_at dksX2_areAbove_6 0 rfl rfl)
theorem dX2_areAbove_145 : decode cX2_areAbove 145 = .ok (.goto (-99), 3) := dk_167 255 157 (dk_at dksX2_areAbove_6 3 rfl rfl)
theorem dX2_areAbove_148 : decode cX2_areAbove 148 = .ok (.iload_n 3, 1) := dk_29 (dk_at dksX2_areAbove_6 6 rfl rfl)
theorem dX2_areAbove_149 : decode cX2_areAbove 149 = .ok (.ireturn, 1) := dk_172 (dk_at dksX2_areAbove_6 7 rfl rfl)
abbrev cX2_isLeft : ByteArray := prog_4_method_186_code
def yX2_isLeft : MethodName := ⟨RX2, "isLeft", "(III)Z"⟩
def dkwX2_isLeft_1 : List UInt8 := [180, 0, 187, 29, 46, 182, 4, 156, 164, 0, 7, 4, 167, 0, 4, 3, 172]
abbrev dktX2_isLeft_1 : List UInt8 := dkwX2_isLeft_1 ++ []
def dkwX2_isLeft_0 : List UInt8 := [42, 27, 28, 182, 2, 179, 54, 4, 42, 27, 21, 4, 28, 4, 96, 182, 4, 156, 42, 29, 21, 4, 42]
abbrev dktX2_isLeft_0 : List UInt8 := dkwX2_isLeft_0 ++ dktX2_isLeft_1
theorem dksX2_isLeft_0 : cX2_isLeft.data.toList.drop 0 = dktX2_isLeft_0 := by decide +kernel
theorem dksX2_isLeft_1 : cX2_isLeft.data.toList.drop 23 = dktX2_isLeft_1 := dk_seg dksX2_isLeft_0 23 rfl rfl
theorem dX2_isLeft_0 : decode cX2_isLeft 0 = .ok (.aload_n 0, 1) := dk_42 (dk_at dksX2_isLeft_0 0 rfl rfl)
theorem dX2_isLeft_1 : decode cX2_isLeft 1 = .ok (.iload_n 1, 1) := dk_27 (dk_at dksX2_isLeft_0 1 rfl rfl)
theorem dX2_isLeft_2 : decode cX2_isLeft 2 = .ok (.iload_n 2, 1) := dk_28 (dk_at dksX2_isLeft_0 2 rfl rfl)
theorem dX2_isLeft_3 : decode cX2_isLeft 3 = .ok (.invokevirtual 691, 3) := dk_182 2 179 (dk_at dksX2_isLeft_0 3 rfl rfl)
theorem dX2_isLeft_6 : decode cX2_isLeft 6 = .ok (.istore 4, 2) := dk_54 4 (dk_at dksX2_isLeft_0 6 rfl rfl)
theorem dX2_isLeft_8 : decode cX2_isLeft 8 = .ok (.aload_n 0, 1) := dk_42 (dk_at dksX2_isLeft_0 8 rfl rfl)
theorem dX2_isLeft_9 : decode cX2_isLeft 9 = .ok (.iload_n 1, 1) := dk_27 (dk_at dksX2_isLeft_0 9 rfl rfl)
theorem dX2_isLeft_10 : decode cX2_isLeft 10 = .ok (.iload 4, 2) := dk_21 4 (dk_at dksX2_isLeft_0 10 rfl rfl)
theorem dX2_isLeft_12 : decode cX2_isLeft 12 = .ok (.iload_n 2, 1) := dk_28 (dk_at dksX2_isLeft_0 12 rfl rfl)
theorem dX2_isLeft_13 : decode cX2_isLeft 13 = .ok (.iconst 1, 1) := dk_4 (dk_at dksX2_isLeft_0 13 rfl rfl)
theorem dX2_isLeft_14 : decode cX2_isLeft 14 = .ok (.iadd, 1) := dk_96 (dk_at dksX2_isLeft_0 14 rfl rfl)
theorem dX2_isLeft_15 : decode cX2_isLeft 15 = .ok (.invokevirtual 1180, 3) := dk_182 4 156 (dk_at dksX2_isLeft_0 15 rfl rfl)
theorem dX2_isLeft_18 : decode cX2_isLeft 18 = .ok (.aload_n 0, 1) := dk_42 (dk_at dksX2_isLeft_0 18 rfl rfl)
theorem dX2_isLeft_19 : decode cX2_isLeft 19 = .ok (.iload_n 3, 1) := dk_29 (dk_at dksX2_isLeft_0 19 rfl rfl)
theorem dX2_isLeft_20 : decode cX2_isLeft 20 = .ok (.iload 4, 2) := dk_21 4 (dk_at dksX2_isLeft_0 20 rfl rfl)
theorem dX2_isLeft_22 : decode cX2_isLeft 22 = .ok (.aload_n 0, 1) := dk_42 (dk_at dksX2_isLeft_0 22 rfl rfl)
theorem dX2_isLeft_23 : decode cX2_isLeft 23 = .ok (.getfield 187, 3) := dk_180 0 187 (dk_at dksX2_isLeft_1 0 rfl rfl)
theorem dX2_isLeft_26 : decode cX2_isLeft 26 = .ok (.iload_n 3, 1) := dk_29 (dk_at dksX2_isLeft_1 3 rfl rfl)
theorem dX2_isLeft_27 : decode cX2_isLeft 27 = .ok (.iaload, 1) := dk_46 (dk_at dksX2_isLeft_1 4 rfl rfl)
theorem dX2_isLeft_28 : decode cX2_isLeft 28 = .ok (.invokevirtual 1180, 3) := dk_182 4 156 (dk_at dksX2_isLeft_1 5 rfl rfl)
theorem dX2_isLeft_31 : decode cX2_isLeft 31 = .ok (.if_icmp .le 7, 3) := dk_164 0 7 (dk_at dksX2_isLeft_1 8 rfl rfl)
theorem dX2_isLeft_34 : decode cX2_isLeft 34 = .ok (.iconst 1, 1) := dk_4 (dk_at dksX2_isLeft_1 11 rfl rfl)
theorem dX2_isLeft_35 : decode cX2_isLeft 35 = .ok (.goto 4, 3) := dk_167 0 4 (dk_at dksX2_isLeft_1 12 rfl rfl)
theorem dX2_isLeft_38 : decode cX2_isLeft 38 = .ok (.iconst 0, 1) := dk_3 (dk_at dksX2_isLeft_1 15 rfl rfl)
theorem dX2_isLeft_39 : decode cX2_isLeft 39 = .ok (.ireturn, 1) := dk_172 (dk_at dksX2_isLeft_1 16 rfl rfl)
abbrev cX2_timesIn : ByteArray := prog_4_method_185_code
def yX2_timesIn : MethodName := ⟨RX2, "timesIn", "(III)I"⟩
def dkwX2_timesIn_1 : List UInt8 := [160, 0, 7, 4, 167, 0, 4, 3, 96, 54, 4, 132, 5, 1, 167, 255, 226, 21, 4, 172]
abbrev dktX2_timesIn_1 : List UInt8 := dkwX2_timesIn_1 ++ []
def dkwX2_timesIn_0 : List UInt8 := [3, 54, 4, 3, 54, 5, 21, 5, 29, 162, 0, 30, 21, 4, 42, 27, 21, 5, 182, 2, 179, 28]
abbrev dktX2_timesIn_0 : List UInt8 := dkwX2_timesIn_0 ++ dktX2_timesIn_1
theorem dksX2_timesIn_0 : cX2_timesIn.data.toList.drop 0 = dktX2_timesIn_0 := by decide +kernel
theorem dksX2_timesIn_1 : cX2_timesIn.data.toList.drop 22 = dktX2_timesIn_1 := dk_seg dksX2_timesIn_0 22 rfl rfl
theorem dX2_timesIn_0 : decode cX2_timesIn 0 = .ok (.iconst 0, 1) := dk_3 (dk_at dksX2_timesIn_0 0 rfl rfl)
theorem dX2_timesIn_1 : decode cX2_timesIn 1 = .ok (.istore 4, 2) := dk_54 4 (dk_at dksX2_timesIn_0 1 rfl rfl)
theorem dX2_timesIn_3 : decode cX2_timesIn 3 = .ok (.iconst 0, 1) := dk_3 (dk_at dksX2_timesIn_0 3 rfl rfl)
theorem dX2_timesIn_4 : decode cX2_timesIn 4 = .ok (.istore 5, 2) := dk_54 5 (dk_at dksX2_timesIn_0 4 rfl rfl)
theorem dX2_timesIn_6 : decode cX2_timesIn 6 = .ok (.iload 5, 2) := dk_21 5 (dk_at dksX2_timesIn_0 6 rfl rfl)
theorem dX2_timesIn_8 : decode cX2_timesIn 8 = .ok (.iload_n 3, 1) := dk_29 (dk_at dksX2_timesIn_0 8 rfl rfl)
theorem dX2_timesIn_9 : decode cX2_timesIn 9 = .ok (.if_icmp .ge 30, 3) := dk_162 0 30 (dk_at dksX2_timesIn_0 9 rfl rfl)
theorem dX2_timesIn_12 : decode cX2_timesIn 12 = .ok (.iload 4, 2) := dk_21 4 (dk_at dksX2_timesIn_0 12 rfl rfl)
theorem dX2_timesIn_14 : decode cX2_timesIn 14 = .ok (.aload_n 0, 1) := dk_42 (dk_at dksX2_timesIn_0 14 rfl rfl)
theorem dX2_timesIn_15 : decode cX2_timesIn 15 = .ok (.iload_n 1, 1) := dk_27 (dk_at dksX2_timesIn_0 15 rfl rfl)
theorem dX2_timesIn_16 : decode cX2_timesIn 16 = .ok (.iload 5, 2) := dk_21 5 (dk_at dksX2_timesIn_0 16 rfl rfl)
theorem dX2_timesIn_18 : decode cX2_timesIn 18 = .ok (.invokevirtual 691, 3) := dk_182 2 179 (dk_at dksX2_timesIn_0 18 rfl rfl)
theorem dX2_timesIn_21 : decode cX2_timesIn 21 = .ok (.iload_n 2, 1) := dk_28 (dk_at dksX2_timesIn_0 21 rfl rfl)
theorem dX2_timesIn_22 : decode cX2_timesIn 22 = .ok (.if_icmp .ne 7, 3) := dk_160 0 7 (dk_at dksX2_timesIn_1 0 rfl rfl)
theorem dX2_timesIn_25 : decode cX2_timesIn 25 = .ok (.iconst 1, 1) := dk_4 (dk_at dksX2_timesIn_1 3 rfl rfl)
theorem dX2_timesIn_26 : decode cX2_timesIn 26 = .ok (.goto 4, 3) := dk_167 0 4 (dk_at dksX2_timesIn_1 4 rfl rfl)
theorem dX2_timesIn_29 : decode cX2_timesIn 29 = .ok (.iconst 0, 1) := dk_3 (dk_at dksX2_timesIn_1 7 rfl rfl)
theorem dX2_timesIn_30 : decode cX2_timesIn 30 = .ok (.iadd, 1) := dk_96 (dk_at dksX2_timesIn_1 8 rfl rfl)
theorem dX2_timesIn_31 : decode cX2_timesIn 31 = .ok (.istore 4, 2) := dk_54 4 (dk_at dksX2_timesIn_1 9 rfl rfl)
theorem dX2_timesIn_33 : decode cX2_timesIn 33 = .ok (.iinc 5 1, 3) := dk_132 5 1 (dk_at dksX2_timesIn_1 11 rfl rfl)
theorem dX2_timesIn_36 : decode cX2_timesIn 36 = .ok (.goto (-30), 3) := dk_167 255 226 (dk_at dksX2_timesIn_1 14 rfl rfl)
theorem dX2_timesIn_39 : decode cX2_timesIn 39 = .ok (.iload 4, 2) := dk_21 4 (dk_at dksX2_timesIn_1 17 rfl rfl)
theorem dX2_timesIn_41 : decode cX2_timesIn 41 = .ok (.ireturn, 1) := dk_172 (dk_at dksX2_timesIn_1 19 rfl rfl)
abbrev cX2_witness : ByteArray := prog_4_method_190_code
def yX2_witness : MethodName := ⟨RX2, "witness", "(II)I"⟩
def dkwX2_witness_3 : List UInt8 := [180, 1, 109, 28, 4, 100, 46, 167, 0, 4, 2, 172]
abbrev dktX2_witness_3 : List UInt8 := dkwX2_witness_3 ++ []
def dkwX2_witness_2 : List UInt8 := [16, 254, 172, 28, 154, 0, 10, 42, 180, 4, 124, 167, 0, 23, 28, 42, 180, 4, 127, 163, 0, 14, 42]
abbrev dktX2_witness_2 : List UInt8 := dkwX2_witness_2 ++ dktX2_witness_3
def dkwX2_witness_1 : List UInt8 := [28, 158, 0, 5, 2, 172, 27, 4, 160, 0, 8, 42, 182, 4, 165, 172, 42, 182, 4, 162, 153, 0, 6]
abbrev dktX2_witness_1 : List UInt8 := dkwX2_witness_1 ++ dktX2_witness_2
def dkwX2_witness_0 : List UInt8 := [42, 3, 181, 0, 1, 27, 133, 9, 10, 184, 1, 147, 153, 0, 16, 28, 155, 0, 12, 27, 4, 160, 0, 9]
abbrev dktX2_witness_0 : List UInt8 := dkwX2_witness_0 ++ dktX2_witness_1
theorem dksX2_witness_0 : cX2_witness.data.toList.drop 0 = dktX2_witness_0 := by decide +kernel
theorem dksX2_witness_1 : cX2_witness.data.toList.drop 24 = dktX2_witness_1 := dk_seg dksX2_witness_0 24 rfl rfl
theorem dksX2_witness_2 : cX2_witness.data.toList.drop 47 = dktX2_witness_2 := dk_seg dksX2_witness_1 23 rfl rfl
theorem dksX2_witness_3 : cX2_witness.data.toList.drop 70 = dktX2_witness_3 := dk_seg dksX2_witness_2 23 rfl rfl
theorem dX2_witness_0 : decode cX2_witness 0 = .ok (.aload_n 0, 1) := dk_42 (dk_at dksX2_witness_0 0 rfl rfl)
theorem dX2_witness_1 : decode cX2_witness 1 = .ok (.iconst 0, 1) := dk_3 (dk_at dksX2_witness_0 1 rfl rfl)
theorem dX2_witness_2 : decode cX2_witness 2 = .ok (.putfield 1, 3) := dk_181 0 1 (dk_at dksX2_witness_0 2 rfl rfl)
theorem dX2_witness_5 : decode cX2_witness 5 = .ok (.iload_n 1, 1) := dk_27 (dk_at dksX2_witness_0 5 rfl rfl)
theorem dX2_witness_6 : decode cX2_witness 6 = .ok (.i2l, 1) := dk_133 (dk_at dksX2_witness_0 6 rfl rfl)
theorem dX2_witness_7 : decode cX2_witness 7 = .ok (.lconst 0, 1) := dk_9 (dk_at dksX2_witness_0 7 rfl rfl)
theorem dX2_witness_8 : decode cX2_witness 8 = .ok (.lconst 1, 1) := dk_10 (dk_at dksX2_witness_0 8 rfl rfl)
theorem dX2_witness_9 : decode cX2_witness 9 = .ok (.invokestatic 403, 3) := dk_184 1 147 (dk_at dksX2_witness_0 9 rfl rfl)
theorem dX2_witness_12 : decode cX2_witness 12 = .ok (.ifCond .eq 16, 3) := dk_153 0 16 (dk_at dksX2_witness_0 12 rfl rfl)
theorem dX2_witness_15 : decode cX2_witness 15 = .ok (.iload_n 2, 1) := dk_28 (dk_at dksX2_witness_0 15 rfl rfl)
theorem dX2_witness_16 : decode cX2_witness 16 = .ok (.ifCond .lt 12, 3) := dk_155 0 12 (dk_at dksX2_witness_0 16 rfl rfl)
theorem dX2_witness_19 : decode cX2_witness 19 = .ok (.iload_n 1, 1) := dk_27 (dk_at dksX2_witness_0 19 rfl rfl)
theorem dX2_witness_20 : decode cX2_witness 20 = .ok (.iconst 1, 1) := dk_4 (dk_at dksX2_witness_0 20 rfl rfl)
theorem dX2_witness_21 : decode cX2_witness 21 = .ok (.if_icmp .ne 9, 3) := dk_160 0 9 (dk_at dksX2_witness_0 21 rfl rfl)
theorem dX2_witness_24 : decode cX2_witness 24 = .ok (.iload_n 2, 1) := dk_28 (dk_at dksX2_witness_1 0 rfl rfl)
theorem dX2_witness_25 : decode cX2_witness 25 = .ok (.ifCond .le 5, 3) := dk_158 0 5 (dk_at dksX2_witness_1 1 rfl rfl)
theorem dX2_witness_28 : decode cX2_witness 28 = .ok (.iconst (-1), 1) := dk_2 (dk_at dksX2_witness_1 4 rfl rfl)
theorem dX2_witness_29 : decode cX2_witness 29 = .ok (.ireturn, 1) := dk_172 (dk_at dksX2_witness_1 5 rfl rfl)
theorem dX2_witness_30 : decode cX2_witness 30 = .ok (.iload_n 1, 1) := dk_27 (dk_at dksX2_witness_1 6 rfl rfl)
theorem dX2_witness_31 : decode cX2_witness 31 = .ok (.iconst 1, 1) := dk_4 (dk_at dksX2_witness_1 7 rfl rfl)
theorem dX2_witness_32 : decode cX2_witness 32 = .ok (.if_icmp .ne 8, 3) := dk_160 0 8 (dk_at dksX2_witness_1 8 rfl rfl)
theorem dX2_witness_35 : decode cX2_witness 35 = .ok (.aload_n 0, 1) := dk_42 (dk_at dksX2_witness_1 11 rfl rfl)
theorem dX2_witness_36 : decode cX2_witness 36 = .ok (.invokevirtual 1189, 3) := dk_182 4 165 (dk_at dksX2_witness_1 12 rfl rfl)
theorem dX2_witness_39 : decode cX2_witness 39 = .ok (.ireturn, 1) := dk_172 (dk_at dksX2_witness_1 15 rfl rfl)
theorem dX2_witness_40 : decode cX2_witness 40 = .ok (.aload_n 0, 1) := dk_42 (dk_at dksX2_witness_1 16 rfl rfl)
theorem dX2_witness_41 : decode cX2_witness 41 = .ok (.invokevirtual 1186, 3) := dk_182 4 162 (dk_at dksX2_witness_1 17 rfl rfl)
theorem dX2_witness_44 : decode cX2_witness 44 = .ok (.ifCond .eq 6, 3) := dk_153 0 6 (dk_at dksX2_witness_1 20 rfl rfl)
theorem dX2_witness_47 : decode cX2_witness 47 = .ok (.bipush (-2), 2) := dk_16 254 (dk_at dksX2_witness_2 0 rfl rfl)
theorem dX2_witness_49 : decode cX2_witness 49 = .ok (.ireturn, 1) := dk_172 (dk_at dksX2_witness_2 2 rfl rfl)
theorem dX2_witness_50 : decode cX2_witness 50 = .ok (.iload_n 2, 1) := dk_28 (dk_at dksX2_witness_2 3 rfl rfl)
theorem dX2_witness_51 : decode cX2_witness 51 = .ok (.ifCond .ne 10, 3) := dk_154 0 10 (dk_at dksX2_witness_2 4 rfl rfl)
theorem dX2_witness_54 : decode cX2_witness 54 = .ok (.aload_n 0, 1) := dk_42 (dk_at dksX2_witness_2 7 rfl rfl)
theorem dX2_witness_55 : decode cX2_witness 55 = .ok (.getfield 1148, 3) := dk_180 4 124 (dk_at dksX2_witness_2 8 rfl rfl)
theorem dX2_witness_58 : decode cX2_witness 58 = .ok (.goto 23, 3) := dk_167 0 23 (dk_at dksX2_witness_2 11 rfl rfl)
theorem dX2_witness_61 : decode cX2_witness 61 = .ok (.iload_n 2, 1) := dk_28 (dk_at dksX2_witness_2 14 rfl rfl)
theorem dX2_witness_62 : decode cX2_witness 62 = .ok (.aload_n 0, 1) := dk_42 (dk_at dksX2_witness_2 15 rfl rfl)
theorem dX2_witness_63 : decode cX2_witness 63 = .ok (.getfield 1151, 3) := dk_180 4 127 (dk_at dksX2_witness_2 16 rfl rfl)
theorem dX2_witness_66 : decode cX2_witness 66 = .ok (.if_icmp .gt 14, 3) := dk_163 0 14 (dk_at dksX2_witness_2 19 rfl rfl)
theorem dX2_witness_69 : decode cX2_witness 69 = .ok (.aload_n 0, 1) := dk_42 (dk_at dksX2_witness_2 22 rfl rfl)
theorem dX2_witness_70 : decode cX2_witness 70 = .ok (.getfield 365, 3) := dk_180 1 109 (dk_at dksX2_witness_3 0 rfl rfl)
theorem dX2_witness_73 : decode cX2_witness 73 = .ok (.iload_n 2, 1) := dk_28 (dk_at dksX2_witness_3 3 rfl rfl)
theorem dX2_witness_74 : decode cX2_witness 74 = .ok (.iconst 1, 1) := dk_4 (dk_at dksX2_witness_3 4 rfl rfl)
theorem dX2_witness_75 : decode cX2_witness 75 = .ok (.isub, 1) := dk_100 (dk_at dksX2_witness_3 5 rfl rfl)
theorem dX2_witness_76 : decode cX2_witness 76 = .ok (.iaload, 1) := dk_46 (dk_at dksX2_witness_3 6 rfl rfl)
theorem dX2_witness_77 : decode cX2_witness 77 = .ok (.goto 4, 3) := dk_167 0 4 (dk_at dksX2_witness_3 7 rfl rfl)
theorem dX2_witness_80 : decode cX2_witness 80 = .ok (.iconst (-1), 1) := dk_2 (dk_at dksX2_witness_3 10 rfl rfl)
theorem dX2_witness_81 : decode cX2_witness 81 = .ok (.ireturn, 1) := dk_172 (dk_at dksX2_witness_3 11 rfl rfl)
abbrev cX2_pairs : ByteArray := prog_4_method_211_code
def yX2_pairs : MethodName := ⟨RX2, "pairs", "(I)I"⟩
def dkwX2_pairs_2 : List UInt8 := [160, 0, 10, 42, 180, 4, 235, 167, 0, 7, 42, 180, 4, 214, 172, 77, 42, 182, 4, 49, 172]
abbrev dktX2_pairs_2 : List UInt8 := dkwX2_pairs_2 ++ []
def dkwX2_pairs_1 : List UInt8 := [154, 0, 6, 16, 254, 172, 42, 2, 182, 5, 18, 27, 154, 0, 10, 42, 180, 4, 220, 167, 0, 19, 27, 4]
abbrev dktX2_pairs_1 : List UInt8 := dkwX2_pairs_1 ++ dktX2_pairs_2
def dkwX2_pairs_0 : List UInt8 := [42, 3, 181, 0, 1, 27, 133, 9, 20, 2, 55, 184, 1, 147, 154, 0, 5, 2, 172, 42, 182, 5, 15]
abbrev dktX2_pairs_0 : List UInt8 := dkwX2_pairs_0 ++ dktX2_pairs_1
theorem dksX2_pairs_0 : cX2_pairs.data.toList.drop 0 = dktX2_pairs_0 := by decide +kernel
theorem dksX2_pairs_1 : cX2_pairs.data.toList.drop 23 = dktX2_pairs_1 := dk_seg dksX2_pairs_0 23 rfl rfl
theorem dksX2_pairs_2 : cX2_pairs.data.toList.drop 47 = dktX2_pairs_2 := dk_seg dksX2_pairs_1 24 rfl rfl
theorem dX2_pairs_0 : decode cX2_pairs 0 = .ok (.aload_n 0, 1) := dk_42 (dk_at dksX2_pairs_0 0 rfl rfl)
theorem dX2_pairs_1 : decode cX2_pairs 1 = .ok (.iconst 0, 1) := dk_3 (dk_at dksX2_pairs_0 1 rfl rfl)
theorem dX2_pairs_2 : decode cX2_pairs 2 = .ok (.putfield 1, 3) := dk_181 0 1 (dk_at dksX2_pairs_0 2 rfl rfl)
theorem dX2_pairs_5 : decode cX2_pairs 5 = .ok (.iload_n 1, 1) := dk_27 (dk_at dksX2_pairs_0 5 rfl rfl)
theorem dX2_pairs_6 : decode cX2_pairs 6 = .ok (.i2l, 1) := dk_133 (dk_at dksX2_pairs_0 6 rfl rfl)
theorem dX2_pairs_7 : decode cX2_pairs 7 = .ok (.lconst 0, 1) := dk_9 (dk_at dksX2_pairs_0 7 rfl rfl)
theorem dX2_pairs_8 : decode cX2_pairs 8 = .ok (.ldc2_w 567, 3) := dk_20 2 55 (dk_at dksX2_pairs_0 8 rfl rfl)
theorem dX2_pairs_11 : decode cX2_pairs 11 = .ok (.invokestatic 403, 3) := dk_184 1 147 (dk_at dksX2_pairs_0 11 rfl rfl)
theorem dX2_pairs_14 : decode cX2_pairs 14 = .ok (.ifCond .ne 5, 3) := dk_154 0 5 (dk_at dksX2_pairs_0 14 rfl rfl)
theorem dX2_pairs_17 : decode cX2_pairs 17 = .ok (.iconst (-1), 1) := dk_2 (dk_at dksX2_pairs_0 17 rfl rfl)
theorem dX2_pairs_18 : decode cX2_pairs 18 = .ok (.ireturn, 1) := dk_172 (dk_at dksX2_pairs_0 18 rfl rfl)
theorem dX2_pairs_19 : decode cX2_pairs 19 = .ok (.aload_n 0, 1) := dk_42 (dk_at dksX2_pairs_0 19 rfl rfl)
theorem dX2_pairs_20 : decode cX2_pairs 20 = .ok (.invokevirtual 1295, 3) := dk_182 5 15 (dk_at dksX2_pairs_0 20 rfl rfl)
theorem dX2_pairs_23 : decode cX2_pairs 23 = .ok (.ifCond .ne 6, 3) := dk_154 0 6 (dk_at dksX2_pairs_1 0 rfl rfl)
theorem dX2_pairs_26 : decode cX2_pairs 26 = .ok (.bipush (-2), 2) := dk_16 254 (dk_at dksX2_pairs_1 3 rfl rfl)
theorem dX2_pairs_28 : decode cX2_pairs 28 = .ok (.ireturn, 1) := dk_172 (dk_at dksX2_pairs_1 5 rfl rfl)
theorem dX2_pairs_29 : decode cX2_pairs 29 = .ok (.aload_n 0, 1) := dk_42 (dk_at dksX2_pairs_1 6 rfl rfl)
theorem dX2_pairs_30 : decode cX2_pairs 30 = .ok (.iconst (-1), 1) := dk_2 (dk_at dksX2_pairs_1 7 rfl rfl)
theorem dX2_pairs_31 : decode cX2_pairs 31 = .ok (.invokevirtual 1298, 3) := dk_182 5 18 (dk_at dksX2_pairs_1 8 rfl rfl)
theorem dX2_pairs_34 : decode cX2_pairs 34 = .ok (.iload_n 1, 1) := dk_27 (dk_at dksX2_pairs_1 11 rfl rfl)
theorem dX2_pairs_35 : decode cX2_pairs 35 = .ok (.ifCond .ne 10, 3) := dk_154 0 10 (dk_at dksX2_pairs_1 12 rfl rfl)
theorem dX2_pairs_38 : decode cX2_pairs 38 = .ok (.aload_n 0, 1) := dk_42 (dk_at dksX2_pairs_1 15 rfl rfl)
theorem dX2_pairs_39 : decode cX2_pairs 39 = .ok (.getfield 1244, 3) := dk_180 4 220 (dk_at dksX2_pairs_1 16 rfl rfl)
theorem dX2_pairs_42 : decode cX2_pairs 42 = .ok (.goto 19, 3) := dk_167 0 19 (dk_at dksX2_pairs_1 19 rfl rfl)
theorem dX2_pairs_45 : decode cX2_pairs 45 = .ok (.iload_n 1, 1) := dk_27 (dk_at dksX2_pairs_1 22 rfl rfl)
theorem dX2_pairs_46 : decode cX2_pairs 46 = .ok (.iconst 1, 1) := dk_4 (dk_at dksX2_pairs_1 23 rfl rfl)
theorem dX2_pairs_47 : decode cX2_pairs 47 = .ok (.if_icmp .ne 10, 3) := dk_160 0 10 (dk_at dksX2_pairs_2 0 rfl rfl)
theorem dX2_pairs_50 : decode cX2_pairs 50 = .ok (.aload_n 0, 1) := dk_42 (dk_at dksX2_pairs_2 3 rfl rfl)
theorem dX2_pairs_51 : decode cX2_pairs 51 = .ok (.getfield 1259, 3) := dk_180 4 235 (dk_at dksX2_pairs_2 4 rfl rfl)
theorem dX2_pairs_54 : decode cX2_pairs 54 = .ok (.goto 7, 3) := dk_167 0 7 (dk_at dksX2_pairs_2 7 rfl rfl)
theorem dX2_pairs_57 : decode cX2_pairs 57 = .ok (.aload_n 0, 1) := dk_42 (dk_at dksX2_pairs_2 10 rfl rfl)
theorem dX2_pairs_58 : decode cX2_pairs 58 = .ok (.getfield 1238, 3) := dk_180 4 214 (dk_at dksX2_pairs_2 11 rfl rfl)
theorem dX2_pairs_61 : decode cX2_pairs 61 = .ok (.ireturn, 1) := dk_172 (dk_at dksX2_pairs_2 14 rfl rfl)
theorem dX2_pairs_62 : decode cX2_pairs 62 = .ok (.astore_n 2, 1) := dk_77 (dk_at dksX2_pairs_2 15 rfl rfl)
theorem dX2_pairs_63 : decode cX2_pairs 63 = .ok (.aload_n 0, 1) := dk_42 (dk_at dksX2_pairs_2 16 rfl rfl)
theorem dX2_pairs_64 : decode cX2_pairs 64 = .ok (.invokevirtual 1073, 3) := dk_182 4 49 (dk_at dksX2_pairs_2 17 rfl rfl)
theorem dX2_pairs_67 : decode cX2_pairs 67 = .ok (.ireturn, 1) := dk_172 (dk_at dksX2_pairs_2 20 rfl rfl)
abbrev cX2_arePlain : ByteArray := prog_4_method_205_code
def yX2_arePlain : MethodName := ⟨RX2, "arePlain", "()Z"⟩
def dkwX2_arePlain_3 : List UInt8 := [167, 255, 188, 4, 172]
abbrev dktX2_arePlain_3 : List UInt8 := dkwX2_arePlain_3 ++ []
def dkwX2_arePlain_2 : List UInt8 := [184, 5, 0, 153, 0, 16, 42, 42, 180, 0, 235, 27, 46, 184, 5, 0, 154, 0, 5, 3, 172, 132, 1, 1]
abbrev dktX2_arePlain_2 : List UInt8 := dkwX2_arePlain_2 ++ dktX2_arePlain_3
def dkwX2_arePlain_1 : List UInt8 := [27, 46, 4, 159, 0, 38, 42, 180, 0, 123, 27, 46, 157, 0, 29, 42, 42, 180, 0, 232, 27, 46]
abbrev dktX2_arePlain_1 : List UInt8 := dkwX2_arePlain_1 ++ dktX2_arePlain_2
def dkwX2_arePlain_0 : List UInt8 := [3, 60, 27, 42, 180, 2, 3, 162, 0, 66, 42, 180, 0, 105, 27, 46, 5, 162, 0, 50, 42, 180, 0, 105]
abbrev dktX2_arePlain_0 : List UInt8 := dkwX2_arePlain_0 ++ dktX2_arePlain_1
theorem dksX2_arePlain_0 : cX2_arePlain.data.toList.drop 0 = dktX2_arePlain_0 := by decide +kernel
theorem dksX2_arePlain_1 : cX2_arePlain.data.toList.drop 24 = dktX2_arePlain_1 := dk_seg dksX2_arePlain_0 24 rfl rfl
theorem dksX2_arePlain_2 : cX2_arePlain.data.toList.drop 46 = dktX2_arePlain_2 := dk_seg dksX2_arePlain_1 22 rfl rfl
theorem dksX2_arePlain_3 : cX2_arePlain.data.toList.drop 70 = dktX2_arePlain_3 := dk_seg dksX2_arePlain_2 24 rfl rfl
theorem dX2_arePlain_0 : decode cX2_arePlain 0 = .ok (.iconst 0, 1) := dk_3 (dk_at dksX2_arePlain_0 0 rfl rfl)
theorem dX2_arePlain_1 : decode cX2_arePlain 1 = .ok (.istore_n 1, 1) := dk_60 (dk_at dksX2_arePlain_0 1 rfl rfl)
theorem dX2_arePlain_2 : decode cX2_arePlain 2 = .ok (.iload_n 1, 1) := dk_27 (dk_at dksX2_arePlain_0 2 rfl rfl)
theorem dX2_arePlain_3 : decode cX2_arePlain 3 = .ok (.aload_n 0, 1) := dk_42 (dk_at dksX2_arePlain_0 3 rfl rfl)
theorem dX2_arePlain_4 : decode cX2_arePlain 4 = .ok (.getfield 515, 3) := dk_180 2 3 (dk_at dksX2_arePlain_0 4 rfl rfl)
theorem dX2_arePlain_7 : decode cX2_arePlain 7 = .ok (.if_icmp .ge 66, 3) := dk_162 0 66 (dk_at dksX2_arePlain_0 7 rfl rfl)
theorem dX2_arePlain_10 : decode cX2_arePlain 10 = .ok (.aload_n 0, 1) := dk_42 (dk_at dksX2_arePlain_0 10 rfl rfl)
theorem dX2_arePlain_11 : decode cX2_arePlain 11 = .ok (.getfield 105, 3) := dk_180 0 105 (dk_at dksX2_arePlain_0 11 rfl rfl)
theorem dX2_arePlain_14 : decode cX2_arePlain 14 = .ok (.iload_n 1, 1) := dk_27 (dk_at dksX2_arePlain_0 14 rfl rfl)
theorem dX2_arePlain_15 : decode cX2_arePlain 15 = .ok (.iaload, 1) := dk_46 (dk_at dksX2_arePlain_0 15 rfl rfl)
theorem dX2_arePlain_16 : decode cX2_arePlain 16 = .ok (.iconst 2, 1) := dk_5 (dk_at dksX2_arePlain_0 16 rfl rfl)
theorem dX2_arePlain_17 : decode cX2_arePlain 17 = .ok (.if_icmp .ge 50, 3) := dk_162 0 50 (dk_at dksX2_arePlain_0 17 rfl rfl)
theorem dX2_arePlain_20 : decode cX2_arePlain 20 = .ok (.aload_n 0, 1) := dk_42 (dk_at dksX2_arePlain_0 20 rfl rfl)
theorem dX2_arePlain_21 : decode cX2_arePlain 21 = .ok (.getfield 105, 3) := dk_180 0 105 (dk_at dksX2_arePlain_0 21 rfl rfl)
theorem dX2_arePlain_24 : decode cX2_arePlain 24 = .ok (.iload_n 1, 1) := dk_27 (dk_at dksX2_arePlain_1 0 rfl rfl)
theorem dX2_arePlain_25 : decode cX2_arePlain 25 = .ok (.iaload, 1) := dk_46 (dk_at dksX2_arePlain_1 1 rfl rfl)
theorem dX2_arePlain_26 : decode cX2_arePlain 26 = .ok (.iconst 1, 1) := dk_4 (dk_at dksX2_arePlain_1 2 rfl rfl)
theorem dX2_arePlain_27 : decode cX2_arePlain 27 = .ok (.if_icmp .eq 38, 3) := dk_159 0 38 (dk_at dksX2_arePlain_1 3 rfl rfl)
theorem dX2_arePlain_30 : decode cX2_arePlain 30 = .ok (.aload_n 0, 1) := dk_42 (dk_at dksX2_arePlain_1 6 rfl rfl)
theorem dX2_arePlain_31 : decode cX2_arePlain 31 = .ok (.getfield 123, 3) := dk_180 0 123 (dk_at dksX2_arePlain_1 7 rfl rfl)
theorem dX2_arePlain_34 : decode cX2_arePlain 34 = .ok (.iload_n 1, 1) := dk_27 (dk_at dksX2_arePlain_1 10 rfl rfl)
theorem dX2_arePlain_35 : decode cX2_arePlain 35 = .ok (.iaload, 1) := dk_46 (dk_at dksX2_arePlain_1 11 rfl rfl)
theorem dX2_arePlain_36 : decode cX2_arePlain 36 = .ok (.ifCond .gt 29, 3) := dk_157 0 29 (dk_at dksX2_arePlain_1 12 rfl rfl)
theorem dX2_arePlain_39 : decode cX2_arePlain 39 = .ok (.aload_n 0, 1) := dk_42 (dk_at dksX2_arePlain_1 15 rfl rfl)
theorem dX2_arePlain_40 : decode cX2_arePlain 40 = .ok (.aload_n 0, 1) := dk_42 (dk_at dksX2_arePlain_1 16 rfl rfl)
theorem dX2_arePlain_41 : decode cX2_arePlain 41 = .ok (.getfield 232, 3) := dk_180 0 232 (dk_at dksX2_arePlain_1 17 rfl rfl)
theorem dX2_arePlain_44 : decode cX2_arePlain 44 = .ok (.iload_n 1, 1) := dk_27 (dk_at dksX2_arePlain_1 20 rfl rfl)
theorem dX2_arePlain_45 : decode cX2_arePlain 45 = .ok (.iaload, 1) := dk_46 (dk_at dksX2_arePlain_1 21 rfl rfl)
theorem dX2_arePlain_46 : decode cX2_arePlain 46 = .ok (.invokestatic 1280, 3) := dk_184 5 0 (dk_at dksX2_arePlain_2 0 rfl rfl)
theorem dX2_arePlain_49 : decode cX2_arePlain 49 = .ok (.ifCond .eq 16, 3) := dk_153 0 16 (dk_at dksX2_arePlain_2 3 rfl rfl)
theorem dX2_arePlain_52 : decode cX2_arePlain 52 = .ok (.aload_n 0, 1) := dk_42 (dk_at dksX2_arePlain_2 6 rfl rfl)
theorem dX2_arePlain_53 : decode cX2_arePlain 53 = .ok (.aload_n 0, 1) := dk_42 (dk_at dksX2_arePlain_2 7 rfl rfl)
theorem dX2_arePlain_54 : decode cX2_arePlain 54 = .ok (.getfield 235, 3) := dk_180 0 235 (dk_at dksX2_arePlain_2 8 rfl rfl)
theorem dX2_arePlain_57 : decode cX2_arePlain 57 = .ok (.iload_n 1, 1) := dk_27 (dk_at dksX2_arePlain_2 11 rfl rfl)
theorem dX2_arePlain_58 : decode cX2_arePlain 58 = .ok (.iaload, 1) := dk_46 (dk_at dksX2_arePlain_2 12 rfl rfl)
theorem dX2_arePlain_59 : decode cX2_arePlain 59 = .ok (.invokestatic 1280, 3) := dk_184 5 0 (dk_at dksX2_arePlain_2 13 rfl rfl)
theorem dX2_arePlain_62 : decode cX2_arePlain 62 = .ok (.ifCond .ne 5, 3) := dk_154 0 5 (dk_at dksX2_arePlain_2 16 rfl rfl)
theorem dX2_arePlain_65 : decode cX2_arePlain 65 = .ok (.iconst 0, 1) := dk_3 (dk_at dksX2_arePlain_2 19 rfl rfl)
theorem dX2_arePlain_66 : decode cX2_arePlain 66 = .ok (.ireturn, 1) := dk_172 (dk_at dksX2_arePlain_2 20 rfl rfl)
theorem dX2_arePlain_67 : decode cX2_arePlain 67 = .ok (.iinc 1 1, 3) := dk_132 1 1 (dk_at dksX2_arePlain_2 21 rfl rfl)
theorem dX2_arePlain_70 : decode cX2_arePlain 70 = .ok (.goto (-68), 3) := dk_167 255 188 (dk_at dksX2_arePlain_3 0 rfl rfl)
theorem dX2_arePlain_73 : decode cX2_arePlain 73 = .ok (.iconst 1, 1) := dk_4 (dk_at dksX2_arePlain_3 3 rfl rfl)
theorem dX2_arePlain_74 : decode cX2_arePlain 74 = .ok (.ireturn, 1) := dk_172 (dk_at dksX2_arePlain_3 4 rfl rfl)
abbrev cX2_isPlainTerm : ByteArray := prog_4_method_206_code
def yX2_isPlainTerm : MethodName := ⟨RX2, "isPlainTerm", "(LRewriteHouseModel;I)Z"⟩
def dkwX2_isPlainTerm_3 : List UInt8 := [132, 3, 1, 167, 255, 228, 28, 172]
abbrev dktX2_isPlainTerm_3 : List UInt8 := dkwX2_isPlainTerm_3 ++ []
def dkwX2_isPlainTerm_2 : List UInt8 := [180, 0, 187, 27, 46, 162, 0, 24, 28, 153, 0, 20, 42, 42, 27, 29, 182, 2, 179, 184, 5, 0, 61]
abbrev dktX2_isPlainTerm_2 : List UInt8 := dkwX2_isPlainTerm_2 ++ dktX2_isPlainTerm_3
def dkwX2_isPlainTerm_1 : List UInt8 := [42, 180, 0, 174, 42, 180, 0, 181, 27, 46, 46, 156, 0, 7, 4, 167, 0, 4, 3, 61, 3, 62, 29, 42]
abbrev dktX2_isPlainTerm_1 : List UInt8 := dkwX2_isPlainTerm_1 ++ dktX2_isPlainTerm_2
def dkwX2_isPlainTerm_0 : List UInt8 := [42, 27, 182, 2, 185, 153, 0, 5, 4, 172, 42, 180, 0, 168, 42, 180, 0, 181, 27, 46, 51, 154, 0, 21]
abbrev dktX2_isPlainTerm_0 : List UInt8 := dkwX2_isPlainTerm_0 ++ dktX2_isPlainTerm_1
theorem dksX2_isPlainTerm_0 : cX2_isPlainTerm.data.toList.drop 0 = dktX2_isPlainTerm_0 := by decide +kernel
theorem dksX2_isPlainTerm_1 : cX2_isPlainTerm.data.toList.drop 24 = dktX2_isPlainTerm_1 := dk_seg dksX2_isPlainTerm_0 24 rfl rfl
theorem dksX2_isPlainTerm_2 : cX2_isPlainTerm.data.toList.drop 48 = dktX2_isPlainTerm_2 := dk_seg dksX2_isPlainTerm_1 24 rfl rfl
theorem dksX2_isPlainTerm_3 : cX2_isPlainTerm.data.toList.drop 71 = dktX2_isPlainTerm_3 := dk_seg dksX2_isPlainTerm_2 23 rfl rfl
theorem dX2_isPlainTerm_0 : decode cX2_isPlainTerm 0 = .ok (.aload_n 0, 1) := dk_42 (dk_at dksX2_isPlainTerm_0 0 rfl rfl)
theorem dX2_isPlainTerm_1 : decode cX2_isPlainTerm 1 = .ok (.iload_n 1, 1) := dk_27 (dk_at dksX2_isPlainTerm_0 1 rfl rfl)
theorem dX2_isPlainTerm_2 : decode cX2_isPlainTerm 2 = .ok (.invokevirtual 697, 3) := dk_182 2 185 (dk_at dksX2_isPlainTerm_0 2 rfl rfl)
theorem dX2_isPlainTerm_5 : decode cX2_isPlainTerm 5 = .ok (.ifCond .eq 5, 3) := dk_153 0 5 (dk_at dksX2_isPlainTerm_0 5 rfl rfl)
theorem dX2_isPlainTerm_8 : decode cX2_isPlainTerm 8 = .ok (.iconst 1, 1) := dk_4 (dk_at dksX2_isPlainTerm_0 8 rfl rfl)
theorem dX2_isPlainTerm_9 : decode cX2_isPlainTerm 9 = .ok (.ireturn, 1) := dk_172 (dk_at dksX2_isPlainTerm_0 9 rfl rfl)
theorem dX2_isPlainTerm_10 : decode cX2_isPlainTerm 10 = .ok (.aload_n 0, 1) := dk_42 (dk_at dksX2_isPlainTerm_0 10 rfl rfl)
theorem dX2_isPlainTerm_11 : decode cX2_isPlainTerm 11 = .ok (.getfield 168, 3) := dk_180 0 168 (dk_at dksX2_isPlainTerm_0 11 rfl rfl)
theorem dX2_isPlainTerm_14 : decode cX2_isPlainTerm 14 = .ok (.aload_n 0, 1) := dk_42 (dk_at dksX2_isPlainTerm_0 14 rfl rfl)
theorem dX2_isPlainTerm_15 : decode cX2_isPlainTerm 15 = .ok (.getfield 181, 3) := dk_180 0 181 (dk_at dksX2_isPlainTerm_0 15 rfl rfl)
theorem dX2_isPlainTerm_18 : decode cX2_isPlainTerm 18 = .ok (.iload_n 1, 1) := dk_27 (dk_at dksX2_isPlainTerm_0 18 rfl rfl)
theorem dX2_isPlainTerm_19 : decode cX2_isPlainTerm 19 = .ok (.iaload, 1) := dk_46 (dk_at dksX2_isPlainTerm_0 19 rfl rfl)
theorem dX2_isPlainTerm_20 : decode cX2_isPlainTerm 20 = .ok (.baload, 1) := dk_51 (dk_at dksX2_isPlainTerm_0 20 rfl rfl)
theorem dX2_isPlainTerm_21 : decode cX2_isPlainTerm 21 = .ok (.ifCond .ne 21, 3) := dk_154 0 21 (dk_at dksX2_isPlainTerm_0 21 rfl rfl)
theorem dX2_isPlainTerm_24 : decode cX2_isPlainTerm 24 = .ok (.aload_n 0, 1) := dk_42 (dk_at dksX2_isPlainTerm_1 0 rfl rfl)
theorem dX2_isPlainTerm_25 : decode cX2_isPlainTerm 25 = .ok (.getfield 174, 3) := dk_180 0 174 (dk_at dksX2_isPlainTerm_1 1 rfl rfl)
theorem dX2_isPlainTerm_28 : decode cX2_isPlainTerm 28 = .ok (.aload_n 0, 1) := dk_42 (dk_at dksX2_isPlainTerm_1 4 rfl rfl)
theorem dX2_isPlainTerm_29 : decode cX2_isPlainTerm 29 = .ok (.getfield 181, 3) := dk_180 0 181 (dk_at dksX2_isPlainTerm_1 5 rfl rfl)
theorem dX2_isPlainTerm_32 : decode cX2_isPlainTerm 32 = .ok (.iload_n 1, 1) := dk_27 (dk_at dksX2_isPlainTerm_1 8 rfl rfl)
theorem dX2_isPlainTerm_33 : decode cX2_isPlainTerm 33 = .ok (.iaload, 1) := dk_46 (dk_at dksX2_isPlainTerm_1 9 rfl rfl)
theorem dX2_isPlainTerm_34 : decode cX2_isPlainTerm 34 = .ok (.iaload, 1) := dk_46 (dk_at dksX2_isPlainTerm_1 10 rfl rfl)
theorem dX2_isPlainTerm_35 : decode cX2_isPlainTerm 35 = .ok (.ifCond .ge 7, 3) := dk_156 0 7 (dk_at dksX2_isPlainTerm_1 11 rfl rfl)
theorem dX2_isPlainTerm_38 : decode cX2_isPlainTerm 38 = .ok (.iconst 1, 1) := dk_4 (dk_at dksX2_isPlainTerm_1 14 rfl rfl)
theorem dX2_isPlainTerm_39 : decode cX2_isPlainTerm 39 = .ok (.goto 4, 3) := dk_167 0 4 (dk_at dksX2_isPlainTerm_1 15 rfl rfl)
theorem dX2_isPlainTerm_42 : decode cX2_isPlainTerm 42 = .ok (.iconst 0, 1) := dk_3 (dk_at dksX2_isPlainTerm_1 18 rfl rfl)
theorem dX2_isPlainTerm_43 : decode cX2_isPlainTerm 43 = .ok (.istore_n 2, 1) := dk_61 (dk_at dksX2_isPlainTerm_1 19 rfl rfl)
theorem dX2_isPlainTerm_44 : decode cX2_isPlainTerm 44 = .ok (.iconst 0, 1) := dk_3 (dk_at dksX2_isPlainTerm_1 20 rfl rfl)
theorem dX2_isPlainTerm_45 : decode cX2_isPlainTerm 45 = .ok (.istore_n 3, 1) := dk_62 (dk_at dksX2_isPlainTerm_1 21 rfl rfl)
theorem dX2_isPlainTerm_46 : decode cX2_isPlainTerm 46 = .ok (.iload_n 3, 1) := dk_29 (dk_at dksX2_isPlainTerm_1 22 rfl rfl)
theorem dX2_isPlainTerm_47 : decode cX2_isPlainTerm 47 = .ok (.aload_n 0, 1) := dk_42 (dk_at dksX2_isPlainTerm_1 23 rfl rfl)
theorem dX2_isPlainTerm_48 : decode cX2_isPlainTerm 48 = .ok (.getfield 187, 3) := dk_180 0 187 (dk_at dksX2_isPlainTerm_2 0 rfl rfl)
theorem dX2_isPlainTerm_51 : decode cX2_isPlainTerm 51 = .ok (.iload_n 1, 1) := dk_27 (dk_at dksX2_isPlainTerm_2 3 rfl rfl)
theorem dX2_isPlainTerm_52 : decode cX2_isPlainTerm 52 = .ok (.iaload, 1) := dk_46 (dk_at dksX2_isPlainTerm_2 4 rfl rfl)
theorem dX2_isPlainTerm_53 : decode cX2_isPlainTerm 53 = .ok (.if_icmp .ge 24, 3) := dk_162 0 24 (dk_at dksX2_isPlainTerm_2 5 rfl rfl)
theorem dX2_isPlainTerm_56 : decode cX2_isPlainTerm 56 = .ok (.iload_n 2, 1) := dk_28 (dk_at dksX2_isPlainTerm_2 8 rfl rfl)
theorem dX2_isPlainTerm_57 : decode cX2_isPlainTerm 57 = .ok (.ifCond .eq 20, 3) := dk_153 0 20 (dk_at dksX2_isPlainTerm_2 9 rfl rfl)
theorem dX2_isPlainTerm_60 : decode cX2_isPlainTerm 60 = .ok (.aload_n 0, 1) := dk_42 (dk_at dksX2_isPlainTerm_2 12 rfl rfl)
theorem dX2_isPlainTerm_61 : decode cX2_isPlainTerm 61 = .ok (.aload_n 0, 1) := dk_42 (dk_at dksX2_isPlainTerm_2 13 rfl rfl)
theorem dX2_isPlainTerm_62 : decode cX2_isPlainTerm 62 = .ok (.iload_n 1, 1) := dk_27 (dk_at dksX2_isPlainTerm_2 14 rfl rfl)
theorem dX2_isPlainTerm_63 : decode cX2_isPlainTerm 63 = .ok (.iload_n 3, 1) := dk_29 (dk_at dksX2_isPlainTerm_2 15 rfl rfl)
theorem dX2_isPlainTerm_64 : decode cX2_isPlainTerm 64 = .ok (.invokevirtual 691, 3) := dk_182 2 179 (dk_at dksX2_isPlainTerm_2 16 rfl rfl)
theorem dX2_isPlainTerm_67 : decode cX2_isPlainTerm 67 = .ok (.invokestatic 1280, 3) := dk_184 5 0 (dk_at dksX2_isPlainTerm_2 19 rfl rfl)
theorem dX2_isPlainTerm_70 : decode cX2_isPlainTerm 70 = .ok (.istore_n 2, 1) := dk_61 (dk_at dksX2_isPlainTerm_2 22 rfl rfl)
theorem dX2_isPlainTerm_71 : decode cX2_isPlainTerm 71 = .ok (.iinc 3 1, 3) := dk_132 3 1 (dk_at dksX2_isPlainTerm_3 0 rfl rfl)
theorem dX2_isPlainTerm_74 : decode cX2_isPlainTerm 74 = .ok (.goto (-28), 3) := dk_167 255 228 (dk_at dksX2_isPlainTerm_3 3 rfl rfl)
theorem dX2_isPlainTerm_77 : decode cX2_isPlainTerm 77 = .ok (.iload_n 2, 1) := dk_28 (dk_at dksX2_isPlainTerm_3 6 rfl rfl)
theorem dX2_isPlainTerm_78 : decode cX2_isPlainTerm 78 = .ok (.ireturn, 1) := dk_172 (dk_at dksX2_isPlainTerm_3 7 rfl rfl)
abbrev cX2_findPairs : ByteArray := prog_4_method_209_code
def yX2_findPairs : MethodName := ⟨RX2, "findPairs", "(I)V"⟩
def dkwX2_findPairs_8 : List UInt8 := [167, 255, 138, 42, 89, 180, 4, 241, 4, 96, 181, 4, 241, 132, 2, 1, 167, 255, 97, 177]
abbrev dktX2_findPairs_8 : List UInt8 := dkwX2_findPairs_8 ++ []
def dkwX2_findPairs_7 : List UInt8 := [180, 0, 232, 29, 46, 21, 4, 184, 5, 7, 42, 89, 180, 4, 247, 4, 96, 181, 4, 247, 132, 3, 1]
abbrev dktX2_findPairs_7 : List UInt8 := dkwX2_findPairs_7 ++ dktX2_findPairs_8
def dkwX2_findPairs_6 : List UInt8 := [29, 46, 181, 4, 229, 42, 42, 180, 0, 235, 29, 46, 181, 4, 226, 42, 3, 181, 3, 251, 42, 42]
abbrev dktX2_findPairs_6 : List UInt8 := dkwX2_findPairs_6 ++ dktX2_findPairs_7
def dkwX2_findPairs_5 : List UInt8 := [184, 4, 168, 54, 4, 42, 42, 42, 180, 0, 235, 28, 46, 184, 4, 168, 181, 4, 232, 42, 42, 180, 0, 232]
abbrev dktX2_findPairs_5 : List UInt8 := dkwX2_findPairs_5 ++ dktX2_findPairs_6
def dkwX2_findPairs_4 : List UInt8 := [163, 0, 13, 42, 180, 2, 155, 19, 4, 20, 164, 0, 7, 42, 182, 5, 12, 42, 42, 180, 0, 232, 28, 46]
abbrev dktX2_findPairs_4 : List UInt8 := dkwX2_findPairs_4 ++ dktX2_findPairs_5
def dkwX2_findPairs_3 : List UInt8 := [42, 180, 2, 3, 162, 0, 116, 42, 180, 0, 105, 29, 46, 5, 162, 0, 100, 42, 180, 2, 152, 17, 78, 32]
abbrev dktX2_findPairs_3 : List UInt8 := dkwX2_findPairs_3 ++ dktX2_findPairs_4
def dkwX2_findPairs_2 : List UInt8 := [180, 2, 3, 162, 0, 157, 42, 180, 0, 105, 28, 46, 5, 162, 0, 141, 42, 3, 181, 4, 247, 3, 62, 29]
abbrev dktX2_findPairs_2 : List UInt8 := dkwX2_findPairs_2 ++ dktX2_findPairs_3
def dkwX2_findPairs_1 : List UInt8 := [181, 4, 235, 42, 3, 181, 4, 214, 42, 27, 181, 4, 238, 42, 3, 181, 4, 241, 3, 61, 28, 42]
abbrev dktX2_findPairs_1 : List UInt8 := dkwX2_findPairs_1 ++ dktX2_findPairs_2
def dkwX2_findPairs_0 : List UInt8 := [42, 182, 4, 43, 42, 19, 5, 11, 181, 1, 29, 42, 3, 181, 4, 253, 42, 3, 181, 4, 220, 42, 3]
abbrev dktX2_findPairs_0 : List UInt8 := dkwX2_findPairs_0 ++ dktX2_findPairs_1
theorem dksX2_findPairs_0 : cX2_findPairs.data.toList.drop 0 = dktX2_findPairs_0 := by decide +kernel
theorem dksX2_findPairs_1 : cX2_findPairs.data.toList.drop 23 = dktX2_findPairs_1 := dk_seg dksX2_findPairs_0 23 rfl rfl
theorem dksX2_findPairs_2 : cX2_findPairs.data.toList.drop 45 = dktX2_findPairs_2 := dk_seg dksX2_findPairs_1 22 rfl rfl
theorem dksX2_findPairs_3 : cX2_findPairs.data.toList.drop 69 = dktX2_findPairs_3 := dk_seg dksX2_findPairs_2 24 rfl rfl
theorem dksX2_findPairs_4 : cX2_findPairs.data.toList.drop 93 = dktX2_findPairs_4 := dk_seg dksX2_findPairs_3 24 rfl rfl
theorem dksX2_findPairs_5 : cX2_findPairs.data.toList.drop 117 = dktX2_findPairs_5 := dk_seg dksX2_findPairs_4 24 rfl rfl
theorem dksX2_findPairs_6 : cX2_findPairs.data.toList.drop 141 = dktX2_findPairs_6 := dk_seg dksX2_findPairs_5 24 rfl rfl
theorem dksX2_findPairs_7 : cX2_findPairs.data.toList.drop 163 = dktX2_findPairs_7 := dk_seg dksX2_findPairs_6 22 rfl rfl
theorem dksX2_findPairs_8 : cX2_findPairs.data.toList.drop 186 = dktX2_findPairs_8 := dk_seg dksX2_findPairs_7 23 rfl rfl
theorem dX2_findPairs_0 : decode cX2_findPairs 0 = .ok (.aload_n 0, 1) := dk_42 (dk_at dksX2_findPairs_0 0 rfl rfl)
theorem dX2_findPairs_1 : decode cX2_findPairs 1 = .ok (.invokevirtual 1067, 3) := dk_182 4 43 (dk_at dksX2_findPairs_0 1 rfl rfl)
theorem dX2_findPairs_4 : decode cX2_findPairs 4 = .ok (.aload_n 0, 1) := dk_42 (dk_at dksX2_findPairs_0 4 rfl rfl)
theorem dX2_findPairs_5 : decode cX2_findPairs 5 = .ok (.ldc_w 1291, 3) := dk_19 5 11 (dk_at dksX2_findPairs_0 5 rfl rfl)
theorem dX2_findPairs_8 : decode cX2_findPairs 8 = .ok (.putfield 285, 3) := dk_181 1 29 (dk_at dksX2_findPairs_0 8 rfl rfl)
theorem dX2_findPairs_11 : decode cX2_findPairs 11 = .ok (.aload_n 0, 1) := dk_42 (dk_at dksX2_findPairs_0 11 rfl rfl)
theorem dX2_findPairs_12 : decode cX2_findPairs 12 = .ok (.iconst 0, 1) := dk_3 (dk_at dksX2_findPairs_0 12 rfl rfl)
theorem dX2_findPairs_13 : decode cX2_findPairs 13 = .ok (.putfield 1277, 3) := dk_181 4 253 (dk_at dksX2_findPairs_0 13 rfl rfl)
theorem dX2_findPairs_16 : decode cX2_findPairs 16 = .ok (.aload_n 0, 1) := dk_42 (dk_at dksX2_findPairs_0 16 rfl rfl)
theorem dX2_findPairs_17 : decode cX2_findPairs 17 = .ok (.iconst 0, 1) := dk_3 (dk_at dksX2_findPairs_0 17 rfl rfl)
theorem dX2_findPairs_18 : decode cX2_findPairs 18 = .ok (.putfield 1244, 3) := dk_181 4 220 (dk_at dksX2_findPairs_0 18 rfl rfl)
theorem dX2_findPairs_21 : decode cX2_findPairs 21 = .ok (.aload_n 0, 1) := dk_42 (dk_at dksX2_findPairs_0 21 rfl rfl)
theorem dX2_findPairs_22 : decode cX2_findPairs 22 = .ok (.iconst 0, 1) := dk_3 (dk_at dksX2_findPairs_0 22 rfl rfl)
theorem dX2_findPairs_23 : decode cX2_findPairs 23 = .ok (.putfield 1259, 3) := dk_181 4 235 (dk_at dksX2_findPairs_1 0 rfl rfl)
theorem dX2_findPairs_26 : decode cX2_findPairs 26 = .ok (.aload_n 0, 1) := dk_42 (dk_at dksX2_findPairs_1 3 rfl rfl)
theorem dX2_findPairs_27 : decode cX2_findPairs 27 = .ok (.iconst 0, 1) := dk_3 (dk_at dksX2_findPairs_1 4 rfl rfl)
theorem dX2_findPairs_28 : decode cX2_findPairs 28 = .ok (.putfield 1238, 3) := dk_181 4 214 (dk_at dksX2_findPairs_1 5 rfl rfl)
theorem dX2_findPairs_31 : decode cX2_findPairs 31 = .ok (.aload_n 0, 1) := dk_42 (dk_at dksX2_findPairs_1 8 rfl rfl)
theorem dX2_findPairs_32 : decode cX2_findPairs 32 = .ok (.iload_n 1, 1) := dk_27 (dk_at dksX2_findPairs_1 9 rfl rfl)
theorem dX2_findPairs_33 : decode cX2_findPairs 33 = .ok (.putfield 1262, 3) := dk_181 4 238 (dk_at dksX2_findPairs_1 10 rfl rfl)
theorem dX2_findPairs_36 : decode cX2_findPairs 36 = .ok (.aload_n 0, 1) := dk_42 (dk_at dksX2_findPairs_1 13 rfl rfl)
theorem dX2_findPairs_37 : decode cX2_findPairs 37 = .ok (.iconst 0, 1) := dk_3 (dk_at dksX2_findPairs_1 14 rfl rfl)
theorem dX2_findPairs_38 : decode cX2_findPairs 38 = .ok (.putfield 1265, 3) := dk_181 4 241 (dk_at dksX2_findPairs_1 15 rfl rfl)
theorem dX2_findPairs_41 : decode cX2_findPairs 41 = .ok (.iconst 0, 1) := dk_3 (dk_at dksX2_findPairs_1 18 rfl rfl)
theorem dX2_findPairs_42 : decode cX2_findPairs 42 = .ok (.istore_n 2, 1) := dk_61 (dk_at dksX2_findPairs_1 19 rfl rfl)
theorem dX2_findPairs_43 : decode cX2_findPairs 43 = .ok (.iload_n 2, 1) := dk_28 (dk_at dksX2_findPairs_1 20 rfl rfl)
theorem dX2_findPairs_44 : decode cX2_findPairs 44 = .ok (.aload_n 0, 1) := dk_42 (dk_at dksX2_findPairs_1 21 rfl rfl)
theorem dX2_findPairs_45 : decode cX2_findPairs 45 = .ok (.getfield 515, 3) := dk_180 2 3 (dk_at dksX2_findPairs_2 0 rfl rfl)
theorem dX2_findPairs_48 : decode cX2_findPairs 48 = .ok (.if_icmp .ge 157, 3) := dk_162 0 157 (dk_at dksX2_findPairs_2 3 rfl rfl)
theorem dX2_findPairs_51 : decode cX2_findPairs 51 = .ok (.aload_n 0, 1) := dk_42 (dk_at dksX2_findPairs_2 6 rfl rfl)
theorem dX2_findPairs_52 : decode cX2_findPairs 52 = .ok (.getfield 105, 3) := dk_180 0 105 (dk_at dksX2_findPairs_2 7 rfl rfl)
theorem dX2_findPairs_55 : decode cX2_findPairs 55 = .ok (.iload_n 2, 1) := dk_28 (dk_at dksX2_findPairs_2 10 rfl rfl)
theorem dX2_findPairs_56 : decode cX2_findPairs 56 = .ok (.iaload, 1) := dk_46 (dk_at dksX2_findPairs_2 11 rfl rfl)
theorem dX2_findPairs_57 : decode cX2_findPairs 57 = .ok (.iconst 2, 1) := dk_5 (dk_at dksX2_findPairs_2 12 rfl rfl)
theorem dX2_findPairs_58 : decode cX2_findPairs 58 = .ok (.if_icmp .ge 141, 3) := dk_162 0 141 (dk_at dksX2_findPairs_2 13 rfl rfl)
theorem dX2_findPairs_61 : decode cX2_findPairs 61 = .ok (.aload_n 0, 1) := dk_42 (dk_at dksX2_findPairs_2 16 rfl rfl)
theorem dX2_findPairs_62 : decode cX2_findPairs 62 = .ok (.iconst 0, 1) := dk_3 (dk_at dksX2_findPairs_2 17 rfl rfl)
theorem dX2_findPairs_63 : decode cX2_findPairs 63 = .ok (.putfield 1271, 3) := dk_181 4 247 (dk_at dksX2_findPairs_2 18 rfl rfl)
theorem dX2_findPairs_66 : decode cX2_findPairs 66 = .ok (.iconst 0, 1) := dk_3 (dk_at dksX2_findPairs_2 21 rfl rfl)
theorem dX2_findPairs_67 : decode cX2_findPairs 67 = .ok (.istore_n 3, 1) := dk_62 (dk_at dksX2_findPairs_2 22 rfl rfl)
theorem dX2_findPairs_68 : decode cX2_findPairs 68 = .ok (.iload_n 3, 1) := dk_29 (dk_at dksX2_findPairs_2 23 rfl rfl)
theorem dX2_findPairs_69 : decode cX2_findPairs 69 = .ok (.aload_n 0, 1) := dk_42 (dk_at dksX2_findPairs_3 0 rfl rfl)
theorem dX2_findPairs_70 : decode cX2_findPairs 70 = .ok (.getfield 515, 3) := dk_180 2 3 (dk_at dksX2_findPairs_3 1 rfl rfl)
theorem dX2_findPairs_73 : decode cX2_findPairs 73 = .ok (.if_icmp .ge 116, 3) := dk_162 0 116 (dk_at dksX2_findPairs_3 4 rfl rfl)
theorem dX2_findPairs_76 : decode cX2_findPairs 76 = .ok (.aload_n 0, 1) := dk_42 (dk_at dksX2_findPairs_3 7 rfl rfl)
theorem dX2_findPairs_77 : decode cX2_findPairs 77 = .ok (.getfield 105, 3) := dk_180 0 105 (dk_at dksX2_findPairs_3 8 rfl rfl)
theorem dX2_findPairs_80 : decode cX2_findPairs 80 = .ok (.iload_n 3, 1) := dk_29 (dk_at dksX2_findPairs_3 11 rfl rfl)
theorem dX2_findPairs_81 : decode cX2_findPairs 81 = .ok (.iaload, 1) := dk_46 (dk_at dksX2_findPairs_3 12 rfl rfl)
theorem dX2_findPairs_82 : decode cX2_findPairs 82 = .ok (.iconst 2, 1) := dk_5 (dk_at dksX2_findPairs_3 13 rfl rfl)
theorem dX2_findPairs_83 : decode cX2_findPairs 83 = .ok (.if_icmp .ge 100, 3) := dk_162 0 100 (dk_at dksX2_findPairs_3 14 rfl rfl)
theorem dX2_findPairs_86 : decode cX2_findPairs 86 = .ok (.aload_n 0, 1) := dk_42 (dk_at dksX2_findPairs_3 17 rfl rfl)
theorem dX2_findPairs_87 : decode cX2_findPairs 87 = .ok (.getfield 664, 3) := dk_180 2 152 (dk_at dksX2_findPairs_3 18 rfl rfl)
theorem dX2_findPairs_90 : decode cX2_findPairs 90 = .ok (.sipush 20000, 3) := dk_17 78 32 (dk_at dksX2_findPairs_3 21 rfl rfl)
theorem dX2_findPairs_93 : decode cX2_findPairs 93 = .ok (.if_icmp .gt 13, 3) := dk_163 0 13 (dk_at dksX2_findPairs_4 0 rfl rfl)
theorem dX2_findPairs_96 : decode cX2_findPairs 96 = .ok (.aload_n 0, 1) := dk_42 (dk_at dksX2_findPairs_4 3 rfl rfl)
theorem dX2_findPairs_97 : decode cX2_findPairs 97 = .ok (.getfield 667, 3) := dk_180 2 155 (dk_at dksX2_findPairs_4 4 rfl rfl)
theorem dX2_findPairs_100 : decode cX2_findPairs 100 = .ok (.ldc_w 1044, 3) := dk_19 4 20 (dk_at dksX2_findPairs_4 7 rfl rfl)
theorem dX2_findPairs_103 : decode cX2_findPairs 103 = .ok (.if_icmp .le 7, 3) := dk_164 0 7 (dk_at dksX2_findPairs_4 10 rfl rfl)
theorem dX2_findPairs_106 : decode cX2_findPairs 106 = .ok (.aload_n 0, 1) := dk_42 (dk_at dksX2_findPairs_4 13 rfl rfl)
theorem dX2_findPairs_107 : decode cX2_findPairs 107 = .ok (.invokevirtual 1292, 3) := dk_182 5 12 (dk_at dksX2_findPairs_4 14 rfl rfl)
theorem dX2_findPairs_110 : decode cX2_findPairs 110 = .ok (.aload_n 0, 1) := dk_42 (dk_at dksX2_findPairs_4 17 rfl rfl)
theorem dX2_findPairs_111 : decode cX2_findPairs 111 = .ok (.aload_n 0, 1) := dk_42 (dk_at dksX2_findPairs_4 18 rfl rfl)
theorem dX2_findPairs_112 : decode cX2_findPairs 112 = .ok (.getfield 232, 3) := dk_180 0 232 (dk_at dksX2_findPairs_4 19 rfl rfl)
theorem dX2_findPairs_115 : decode cX2_findPairs 115 = .ok (.iload_n 2, 1) := dk_28 (dk_at dksX2_findPairs_4 22 rfl rfl)
theorem dX2_findPairs_116 : decode cX2_findPairs 116 = .ok (.iaload, 1) := dk_46 (dk_at dksX2_findPairs_4 23 rfl rfl)
theorem dX2_findPairs_117 : decode cX2_findPairs 117 = .ok (.invokestatic 1192, 3) := dk_184 4 168 (dk_at dksX2_findPairs_5 0 rfl rfl)
theorem dX2_findPairs_120 : decode cX2_findPairs 120 = .ok (.istore 4, 2) := dk_54 4 (dk_at dksX2_findPairs_5 3 rfl rfl)
theorem dX2_findPairs_122 : decode cX2_findPairs 122 = .ok (.aload_n 0, 1) := dk_42 (dk_at dksX2_findPairs_5 5 rfl rfl)
theorem dX2_findPairs_123 : decode cX2_findPairs 123 = .ok (.aload_n 0, 1) := dk_42 (dk_at dksX2_findPairs_5 6 rfl rfl)
theorem dX2_findPairs_124 : decode cX2_findPairs 124 = .ok (.aload_n 0, 1) := dk_42 (dk_at dksX2_findPairs_5 7 rfl rfl)
theorem dX2_findPairs_125 : decode cX2_findPairs 125 = .ok (.getfield 235, 3) := dk_180 0 235 (dk_at dksX2_findPairs_5 8 rfl rfl)
theorem dX2_findPairs_128 : decode cX2_findPairs 128 = .ok (.iload_n 2, 1) := dk_28 (dk_at dksX2_findPairs_5 11 rfl rfl)
theorem dX2_findPairs_129 : decode cX2_findPairs 129 = .ok (.iaload, 1) := dk_46 (dk_at dksX2_findPairs_5 12 rfl rfl)
theorem dX2_findPairs_130 : decode cX2_findPairs 130 = .ok (.invokestatic 1192, 3) := dk_184 4 168 (dk_at dksX2_findPairs_5 13 rfl rfl)
theorem dX2_findPairs_133 : decode cX2_findPairs 133 = .ok (.putfield 1256, 3) := dk_181 4 232 (dk_at dksX2_findPairs_5 16 rfl rfl)
theorem dX2_findPairs_136 : decode cX2_findPairs 136 = .ok (.aload_n 0, 1) := dk_42 (dk_at dksX2_findPairs_5 19 rfl rfl)
theorem dX2_findPairs_137 : decode cX2_findPairs 137 = .ok (.aload_n 0, 1) := dk_42 (dk_at dksX2_findPairs_5 20 rfl rfl)
theorem dX2_findPairs_138 : decode cX2_findPairs 138 = .ok (.getfield 232, 3) := dk_180 0 232 (dk_at dksX2_findPairs_5 21 rfl rfl)
theorem dX2_findPairs_141 : decode cX2_findPairs 141 = .ok (.iload_n 3, 1) := dk_29 (dk_at dksX2_findPairs_6 0 rfl rfl)
theorem dX2_findPairs_142 : decode cX2_findPairs 142 = .ok (.iaload, 1) := dk_46 (dk_at dksX2_findPairs_6 1 rfl rfl)
theorem dX2_findPairs_143 : decode cX2_findPairs 143 = .ok (.putfield 1253, 3) := dk_181 4 229 (dk_at dksX2_findPairs_6 2 rfl rfl)
theorem dX2_findPairs_146 : decode cX2_findPairs 146 = .ok (.aload_n 0, 1) := dk_42 (dk_at dksX2_findPairs_6 5 rfl rfl)
theorem dX2_findPairs_147 : decode cX2_findPairs 147 = .ok (.aload_n 0, 1) := dk_42 (dk_at dksX2_findPairs_6 6 rfl rfl)
theorem dX2_findPairs_148 : decode cX2_findPairs 148 = .ok (.getfield 235, 3) := dk_180 0 235 (dk_at dksX2_findPairs_6 7 rfl rfl)
theorem dX2_findPairs_151 : decode cX2_findPairs 151 = .ok (.iload_n 3, 1) := dk_29 (dk_at dksX2_findPairs_6 10 rfl rfl)
theorem dX2_findPairs_152 : decode cX2_findPairs 152 = .ok (.iaload, 1) := dk_46 (dk_at dksX2_findPairs_6 11 rfl rfl)
theorem dX2_findPairs_153 : decode cX2_findPairs 153 = .ok (.putfield 1250, 3) := dk_181 4 226 (dk_at dksX2_findPairs_6 12 rfl rfl)
theorem dX2_findPairs_156 : decode cX2_findPairs 156 = .ok (.aload_n 0, 1) := dk_42 (dk_at dksX2_findPairs_6 15 rfl rfl)
theorem dX2_findPairs_157 : decode cX2_findPairs 157 = .ok (.iconst 0, 1) := dk_3 (dk_at dksX2_findPairs_6 16 rfl rfl)
theorem dX2_findPairs_158 : decode cX2_findPairs 158 = .ok (.putfield 1019, 3) := dk_181 3 251 (dk_at dksX2_findPairs_6 17 rfl rfl)
theorem dX2_findPairs_161 : decode cX2_findPairs 161 = .ok (.aload_n 0, 1) := dk_42 (dk_at dksX2_findPairs_6 20 rfl rfl)
theorem dX2_findPairs_162 : decode cX2_findPairs 162 = .ok (.aload_n 0, 1) := dk_42 (dk_at dksX2_findPairs_6 21 rfl rfl)
theorem dX2_findPairs_163 : decode cX2_findPairs 163 = .ok (.getfield 232, 3) := dk_180 0 232 (dk_at dksX2_findPairs_7 0 rfl rfl)
theorem dX2_findPairs_166 : decode cX2_findPairs 166 = .ok (.iload_n 3, 1) := dk_29 (dk_at dksX2_findPairs_7 3 rfl rfl)
theorem dX2_findPairs_167 : decode cX2_findPairs 167 = .ok (.iaload, 1) := dk_46 (dk_at dksX2_findPairs_7 4 rfl rfl)
theorem dX2_findPairs_168 : decode cX2_findPairs 168 = .ok (.iload 4, 2) := dk_21 4 (dk_at dksX2_findPairs_7 5 rfl rfl)
theorem dX2_findPairs_170 : decode cX2_findPairs 170 = .ok (.invokestatic 1287, 3) := dk_184 5 7 (dk_at dksX2_findPairs_7 7 rfl rfl)
theorem dX2_findPairs_173 : decode cX2_findPairs 173 = .ok (.aload_n 0, 1) := dk_42 (dk_at dksX2_findPairs_7 10 rfl rfl)
theorem dX2_findPairs_174 : decode cX2_findPairs 174 = .ok (.dup, 1) := dk_89 (dk_at dksX2_findPairs_7 11 rfl rfl)
theorem dX2_findPairs_175 : decode cX2_findPairs 175 = .ok (.getfield 1271, 3) := dk_180 4 247 (dk_at dksX2_findPairs_7 12 rfl rfl)
theorem dX2_findPairs_178 : decode cX2_findPairs 178 = .ok (.iconst 1, 1) := dk_4 (dk_at dksX2_findPairs_7 15 rfl rfl)
theorem dX2_findPairs_179 : decode cX2_findPairs 179 = .ok (.iadd, 1) := dk_96 (dk_at dksX2_findPairs_7 16 rfl rfl)
theorem dX2_findPairs_180 : decode cX2_findPairs 180 = .ok (.putfield 1271, 3) := dk_181 4 247 (dk_at dksX2_findPairs_7 17 rfl rfl)
theorem dX2_findPairs_183 : decode cX2_findPairs 183 = .ok (.iinc 3 1, 3) := dk_132 3 1 (dk_at dksX2_findPairs_7 20 rfl rfl)
theorem dX2_findPairs_186 : decode cX2_findPairs 186 = .ok (.goto (-118), 3) := dk_167 255 138 (dk_at dksX2_findPairs_8 0 rfl rfl)
theorem dX2_findPairs_189 : decode cX2_findPairs 189 = .ok (.aload_n 0, 1) := dk_42 (dk_at dksX2_findPairs_8 3 rfl rfl)
theorem dX2_findPairs_190 : decode cX2_findPairs 190 = .ok (.dup, 1) := dk_89 (dk_at dksX2_findPairs_8 4 rfl rfl)
theorem dX2_findPairs_191 : decode cX2_findPairs 191 = .ok (.getfield 1265, 3) := dk_180 4 241 (dk_at dksX2_findPairs_8 5 rfl rfl)
theorem dX2_findPairs_194 : decode cX2_findPairs 194 = .ok (.iconst 1, 1) := dk_4 (dk_at dksX2_findPairs_8 8 rfl rfl)
theorem dX2_findPairs_195 : decode cX2_findPairs 195 = .ok (.iadd, 1) := dk_96 (dk_at dksX2_findPairs_8 9 rfl rfl)
theorem dX2_findPairs_196 : decode cX2_findPairs 196 = .ok (.putfield 1265, 3) := dk_181 4 241 (dk_at dksX2_findPairs_8 10 rfl rfl)
theorem dX2_findPairs_199 : decode cX2_findPairs 199 = .ok (.iinc 2 1, 3) := dk_132 2 1 (dk_at dksX2_findPairs_8 13 rfl rfl)
theorem dX2_findPairs_202 : decode cX2_findPairs 202 = .ok (.goto (-159), 3) := dk_167 255 97 (dk_at dksX2_findPairs_8 16 rfl rfl)
theorem dX2_findPairs_205 : decode cX2_findPairs 205 = .ok (.return_, 1) := dk_177 (dk_at dksX2_findPairs_8 19 rfl rfl)
abbrev cX2_compactPairs : ByteArray := prog_4_method_210_code
def yX2_compactPairs : MethodName := ⟨RX2, "compactPairs", "()V"⟩
def dkwX2_compactPairs_1 : List UInt8 := [181, 4, 30, 42, 182, 4, 21, 42, 3, 181, 4, 30, 42, 42, 180, 2, 152, 181, 4, 253, 177]
abbrev dktX2_compactPairs_1 : List UInt8 := dkwX2_compactPairs_1 ++ []
def dkwX2_compactPairs_0 : List UInt8 := [42, 42, 180, 4, 235, 42, 180, 4, 238, 164, 0, 14, 42, 180, 4, 238, 155, 0, 7, 4, 167, 0, 4, 3]
abbrev dktX2_compactPairs_0 : List UInt8 := dkwX2_compactPairs_0 ++ dktX2_compactPairs_1
theorem dksX2_compactPairs_0 : cX2_compactPairs.data.toList.drop 0 = dktX2_compactPairs_0 := by decide +kernel
theorem dksX2_compactPairs_1 : cX2_compactPairs.data.toList.drop 24 = dktX2_compactPairs_1 := dk_seg dksX2_compactPairs_0 24 rfl rfl
theorem dX2_compactPairs_0 : decode cX2_compactPairs 0 = .ok (.aload_n 0, 1) := dk_42 (dk_at dksX2_compactPairs_0 0 rfl rfl)
theorem dX2_compactPairs_1 : decode cX2_compactPairs 1 = .ok (.aload_n 0, 1) := dk_42 (dk_at dksX2_compactPairs_0 1 rfl rfl)
theorem dX2_compactPairs_2 : decode cX2_compactPairs 2 = .ok (.getfield 1259, 3) := dk_180 4 235 (dk_at dksX2_compactPairs_0 2 rfl rfl)
theorem dX2_compactPairs_5 : decode cX2_compactPairs 5 = .ok (.aload_n 0, 1) := dk_42 (dk_at dksX2_compactPairs_0 5 rfl rfl)
theorem dX2_compactPairs_6 : decode cX2_compactPairs 6 = .ok (.getfield 1262, 3) := dk_180 4 238 (dk_at dksX2_compactPairs_0 6 rfl rfl)
theorem dX2_compactPairs_9 : decode cX2_compactPairs 9 = .ok (.if_icmp .le 14, 3) := dk_164 0 14 (dk_at dksX2_compactPairs_0 9 rfl rfl)
theorem dX2_compactPairs_12 : decode cX2_compactPairs 12 = .ok (.aload_n 0, 1) := dk_42 (dk_at dksX2_compactPairs_0 12 rfl rfl)
theorem dX2_compactPairs_13 : decode cX2_compactPairs 13 = .ok (.getfield 1262, 3) := dk_180 4 238 (dk_at dksX2_compactPairs_0 13 rfl rfl)
theorem dX2_compactPairs_16 : decode cX2_compactPairs 16 = .ok (.ifCond .lt 7, 3) := dk_155 0 7 (dk_at dksX2_compactPairs_0 16 rfl rfl)
theorem dX2_compactPairs_19 : decode cX2_compactPairs 19 = .ok (.iconst 1, 1) := dk_4 (dk_at dksX2_compactPairs_0 19 rfl rfl)
theorem dX2_compactPairs_20 : decode cX2_compactPairs 20 = .ok (.goto 4, 3) := dk_167 0 4 (dk_at dksX2_compactPairs_0 20 rfl rfl)
theorem dX2_compactPairs_23 : decode cX2_compactPairs 23 = .ok (.iconst 0, 1) := dk_3 (dk_at dksX2_compactPairs_0 23 rfl rfl)
theorem dX2_compactPairs_24 : decode cX2_compactPairs 24 = .ok (.putfield 1054, 3) := dk_181 4 30 (dk_at dksX2_compactPairs_1 0 rfl rfl)
theorem dX2_compactPairs_27 : decode cX2_compactPairs 27 = .ok (.aload_n 0, 1) := dk_42 (dk_at dksX2_compactPairs_1 3 rfl rfl)
theorem dX2_compactPairs_28 : decode cX2_compactPairs 28 = .ok (.invokevirtual 1045, 3) := dk_182 4 21 (dk_at dksX2_compactPairs_1 4 rfl rfl)
theorem dX2_compactPairs_31 : decode cX2_compactPairs 31 = .ok (.aload_n 0, 1) := dk_42 (dk_at dksX2_compactPairs_1 7 rfl rfl)
theorem dX2_compactPairs_32 : decode cX2_compactPairs 32 = .ok (.iconst 0, 1) := dk_3 (dk_at dksX2_compactPairs_1 8 rfl rfl)
theorem dX2_compactPairs_33 : decode cX2_compactPairs 33 = .ok (.putfield 1054, 3) := dk_181 4 30 (dk_at dksX2_compactPairs_1 9 rfl rfl)
theorem dX2_compactPairs_36 : decode cX2_compactPairs 36 = .ok (.aload_n 0, 1) := dk_42 (dk_at dksX2_compactPairs_1 12 rfl rfl)
theorem dX2_compactPairs_37 : decode cX2_compactPairs 37 = .ok (.aload_n 0, 1) := dk_42 (dk_at dksX2_compactPairs_1 13 rfl rfl)
theorem dX2_compactPairs_38 : decode cX2_compactPairs 38 = .ok (.getfield 664, 3) := dk_180 2 152 (dk_at dksX2_compactPairs_1 14 rfl rfl)
theorem dX2_compactPairs_41 : decode cX2_compactPairs 41 = .ok (.putfield 1277, 3) := dk_181 4 253 (dk_at dksX2_compactPairs_1 17 rfl rfl)
theorem dX2_compactPairs_44 : decode cX2_compactPairs 44 = .ok (.return_, 1) := dk_177 (dk_at dksX2_compactPairs_1 20 rfl rfl)
abbrev cX2_apart : ByteArray := prog_4_method_191_code
def yX2_apart : MethodName := ⟨RX2, "apart", "(LRewriteHouseModel;I)I"⟩
def dkwX2_apart_3 : List UInt8 := [167, 255, 225, 42, 42, 180, 0, 181, 27, 46, 28, 182, 2, 248, 172]
abbrev dktX2_apart_3 : List UInt8 := dkwX2_apart_3 ++ []
def dkwX2_apart_2 : List UInt8 := [162, 0, 27, 42, 42, 27, 29, 182, 2, 179, 184, 4, 168, 54, 4, 42, 21, 4, 182, 2, 245, 132, 3, 1]
abbrev dktX2_apart_2 : List UInt8 := dkwX2_apart_2 ++ dktX2_apart_3
def dkwX2_apart_1 : List UInt8 := [180, 0, 187, 27, 46, 154, 0, 5, 27, 172, 42, 180, 2, 195, 61, 3, 62, 29, 42, 180, 0, 187, 27, 46]
abbrev dktX2_apart_1 : List UInt8 := dkwX2_apart_1 ++ dktX2_apart_2
def dkwX2_apart_0 : List UInt8 := [42, 27, 182, 2, 185, 153, 0, 16, 42, 42, 27, 182, 2, 188, 16, 30, 96, 182, 2, 238, 172, 42]
abbrev dktX2_apart_0 : List UInt8 := dkwX2_apart_0 ++ dktX2_apart_1
theorem dksX2_apart_0 : cX2_apart.data.toList.drop 0 = dktX2_apart_0 := by decide +kernel
theorem dksX2_apart_1 : cX2_apart.data.toList.drop 22 = dktX2_apart_1 := dk_seg dksX2_apart_0 22 rfl rfl
theorem dksX2_apart_2 : cX2_apart.data.toList.drop 46 = dktX2_apart_2 := dk_seg dksX2_apart_1 24 rfl rfl
theorem dksX2_apart_3 : cX2_apart.data.toList.drop 70 = dktX2_apart_3 := dk_seg dksX2_apart_2 24 rfl rfl
theorem dX2_apart_0 : decode cX2_apart 0 = .ok (.aload_n 0, 1) := dk_42 (dk_at dksX2_apart_0 0 rfl rfl)
theorem dX2_apart_1 : decode cX2_apart 1 = .ok (.iload_n 1, 1) := dk_27 (dk_at dksX2_apart_0 1 rfl rfl)
theorem dX2_apart_2 : decode cX2_apart 2 = .ok (.invokevirtual 697, 3) := dk_182 2 185 (dk_at dksX2_apart_0 2 rfl rfl)
theorem dX2_apart_5 : decode cX2_apart 5 = .ok (.ifCond .eq 16, 3) := dk_153 0 16 (dk_at dksX2_apart_0 5 rfl rfl)
theorem dX2_apart_8 : decode cX2_apart 8 = .ok (.aload_n 0, 1) := dk_42 (dk_at dksX2_apart_0 8 rfl rfl)
theorem dX2_apart_9 : decode cX2_apart 9 = .ok (.aload_n 0, 1) := dk_42 (dk_at dksX2_apart_0 9 rfl rfl)
theorem dX2_apart_10 : decode cX2_apart 10 = .ok (.iload_n 1, 1) := dk_27 (dk_at dksX2_apart_0 10 rfl rfl)
theorem dX2_apart_11 : decode cX2_apart 11 = .ok (.invokevirtual 700, 3) := dk_182 2 188 (dk_at dksX2_apart_0 11 rfl rfl)
theorem dX2_apart_14 : decode cX2_apart 14 = .ok (.bipush 30, 2) := dk_16 30 (dk_at dksX2_apart_0 14 rfl rfl)
theorem dX2_apart_16 : decode cX2_apart 16 = .ok (.iadd, 1) := dk_96 (dk_at dksX2_apart_0 16 rfl rfl)
theorem dX2_apart_17 : decode cX2_apart 17 = .ok (.invokevirtual 750, 3) := dk_182 2 238 (dk_at dksX2_apart_0 17 rfl rfl)
theorem dX2_apart_20 : decode cX2_apart 20 = .ok (.ireturn, 1) := dk_172 (dk_at dksX2_apart_0 20 rfl rfl)
theorem dX2_apart_21 : decode cX2_apart 21 = .ok (.aload_n 0, 1) := dk_42 (dk_at dksX2_apart_0 21 rfl rfl)
theorem dX2_apart_22 : decode cX2_apart 22 = .ok (.getfield 187, 3) := dk_180 0 187 (dk_at dksX2_apart_1 0 rfl rfl)
theorem dX2_apart_25 : decode cX2_apart 25 = .ok (.iload_n 1, 1) := dk_27 (dk_at dksX2_apart_1 3 rfl rfl)
theorem dX2_apart_26 : decode cX2_apart 26 = .ok (.iaload, 1) := dk_46 (dk_at dksX2_apart_1 4 rfl rfl)
theorem dX2_apart_27 : decode cX2_apart 27 = .ok (.ifCond .ne 5, 3) := dk_154 0 5 (dk_at dksX2_apart_1 5 rfl rfl)
theorem dX2_apart_30 : decode cX2_apart 30 = .ok (.iload_n 1, 1) := dk_27 (dk_at dksX2_apart_1 8 rfl rfl)
theorem dX2_apart_31 : decode cX2_apart 31 = .ok (.ireturn, 1) := dk_172 (dk_at dksX2_apart_1 9 rfl rfl)
theorem dX2_apart_32 : decode cX2_apart 32 = .ok (.aload_n 0, 1) := dk_42 (dk_at dksX2_apart_1 10 rfl rfl)
theorem dX2_apart_33 : decode cX2_apart 33 = .ok (.getfield 707, 3) := dk_180 2 195 (dk_at dksX2_apart_1 11 rfl rfl)
theorem dX2_apart_36 : decode cX2_apart 36 = .ok (.istore_n 2, 1) := dk_61 (dk_at dksX2_apart_1 14 rfl rfl)
theorem dX2_apart_37 : decode cX2_apart 37 = .ok (.iconst 0, 1) := dk_3 (dk_at dksX2_apart_1 15 rfl rfl)
theorem dX2_apart_38 : decode cX2_apart 38 = .ok (.istore_n 3, 1) := dk_62 (dk_at dksX2_apart_1 16 rfl rfl)
theorem dX2_apart_39 : decode cX2_apart 39 = .ok (.iload_n 3, 1) := dk_29 (dk_at dksX2_apart_1 17 rfl rfl)
theorem dX2_apart_40 : decode cX2_apart 40 = .ok (.aload_n 0, 1) := dk_42 (dk_at dksX2_apart_1 18 rfl rfl)
theorem dX2_apart_41 : decode cX2_apart 41 = .ok (.getfield 187, 3) := dk_180 0 187 (dk_at dksX2_apart_1 19 rfl rfl)
theorem dX2_apart_44 : decode cX2_apart 44 = .ok (.iload_n 1, 1) := dk_27 (dk_at dksX2_apart_1 22 rfl rfl)
theorem dX2_apart_45 : decode cX2_apart 45 = .ok (.iaload, 1) := dk_46 (dk_at dksX2_apart_1 23 rfl rfl)
theorem dX2_apart_46 : decode cX2_apart 46 = .ok (.if_icmp .ge 27, 3) := dk_162 0 27 (dk_at dksX2_apart_2 0 rfl rfl)
theorem dX2_apart_49 : decode cX2_apart 49 = .ok (.aload_n 0, 1) := dk_42 (dk_at dksX2_apart_2 3 rfl rfl)
theorem dX2_apart_50 : decode cX2_apart 50 = .ok (.aload_n 0, 1) := dk_42 (dk_at dksX2_apart_2 4 rfl rfl)
theorem dX2_apart_51 : decode cX2_apart 51 = .ok (.iload_n 1, 1) := dk_27 (dk_at dksX2_apart_2 5 rfl rfl)
theorem dX2_apart_52 : decode cX2_apart 52 = .ok (.iload_n 3, 1) := dk_29 (dk_at dksX2_apart_2 6 rfl rfl)
theorem dX2_apart_53 : decode cX2_apart 53 = .ok (.invokevirtual 691, 3) := dk_182 2 179 (dk_at dksX2_apart_2 7 rfl rfl)
theorem dX2_apart_56 : decode cX2_apart 56 = .ok (.invokestatic 1192, 3) := dk_184 4 168 (dk_at dksX2_apart_2 10 rfl rfl)
theorem dX2_apart_59 : decode cX2_apart 59 = .ok (.istore 4, 2) := dk_54 4 (dk_at dksX2_apart_2 13 rfl rfl)
theorem dX2_apart_61 : decode cX2_apart 61 = .ok (.aload_n 0, 1) := dk_42 (dk_at dksX2_apart_2 15 rfl rfl)
theorem dX2_apart_62 : decode cX2_apart 62 = .ok (.iload 4, 2) := dk_21 4 (dk_at dksX2_apart_2 16 rfl rfl)
theorem dX2_apart_64 : decode cX2_apart 64 = .ok (.invokevirtual 757, 3) := dk_182 2 245 (dk_at dksX2_apart_2 18 rfl rfl)
theorem dX2_apart_67 : decode cX2_apart 67 = .ok (.iinc 3 1, 3) := dk_132 3 1 (dk_at dksX2_apart_2 21 rfl rfl)
theorem dX2_apart_70 : decode cX2_apart 70 = .ok (.goto (-31), 3) := dk_167 255 225 (dk_at dksX2_apart_3 0 rfl rfl)
theorem dX2_apart_73 : decode cX2_apart 73 = .ok (.aload_n 0, 1) := dk_42 (dk_at dksX2_apart_3 3 rfl rfl)
theorem dX2_apart_74 : decode cX2_apart 74 = .ok (.aload_n 0, 1) := dk_42 (dk_at dksX2_apart_3 4 rfl rfl)
theorem dX2_apart_75 : decode cX2_apart 75 = .ok (.getfield 181, 3) := dk_180 0 181 (dk_at dksX2_apart_3 5 rfl rfl)
theorem dX2_apart_78 : decode cX2_apart 78 = .ok (.iload_n 1, 1) := dk_27 (dk_at dksX2_apart_3 8 rfl rfl)
theorem dX2_apart_79 : decode cX2_apart 79 = .ok (.iaload, 1) := dk_46 (dk_at dksX2_apart_3 9 rfl rfl)
theorem dX2_apart_80 : decode cX2_apart 80 = .ok (.iload_n 2, 1) := dk_28 (dk_at dksX2_apart_3 10 rfl rfl)
theorem dX2_apart_81 : decode cX2_apart 81 = .ok (.invokevirtual 760, 3) := dk_182 2 248 (dk_at dksX2_apart_3 11 rfl rfl)
theorem dX2_apart_84 : decode cX2_apart 84 = .ok (.ireturn, 1) := dk_172 (dk_at dksX2_apart_3 14 rfl rfl)
abbrev cX2_overAt : ByteArray := prog_4_method_208_code
def yX2_overAt : MethodName := ⟨RX2, "overAt", "(LRewriteHouseModel;II)V"⟩
def dkwX2_overAt_6 : List UInt8 := [180, 3, 251, 4, 100, 181, 3, 251, 132, 3, 1, 167, 255, 202, 177]
abbrev dktX2_overAt_6 : List UInt8 := dkwX2_overAt_6 ++ []
def dkwX2_overAt_5 : List UInt8 := [79, 42, 89, 180, 3, 251, 4, 96, 181, 3, 251, 42, 42, 27, 29, 182, 2, 179, 28, 184, 5, 7, 42, 89]
abbrev dktX2_overAt_5 : List UInt8 := dkwX2_overAt_5 ++ dktX2_overAt_6
def dkwX2_overAt_4 : List UInt8 := [184, 4, 193, 3, 62, 29, 42, 180, 0, 187, 27, 46, 162, 0, 50, 42, 180, 1, 43, 42, 180, 3, 251, 29]
abbrev dktX2_overAt_4 : List UInt8 := dkwX2_overAt_4 ++ dktX2_overAt_5
def dkwX2_overAt_3 : List UInt8 := [162, 0, 16, 42, 180, 1, 136, 29, 2, 79, 132, 3, 1, 167, 255, 240, 42, 42, 28, 27, 2, 182, 4, 202]
abbrev dktX2_overAt_3 : List UInt8 := dkwX2_overAt_3 ++ dktX2_overAt_4
def dkwX2_overAt_2 : List UInt8 := [153, 0, 50, 42, 3, 181, 4, 181, 42, 3, 181, 4, 175, 42, 3, 181, 4, 187, 3, 62, 29, 16, 60]
abbrev dktX2_overAt_2 : List UInt8 := dkwX2_overAt_2 ++ dktX2_overAt_3
def dkwX2_overAt_1 : List UInt8 := [161, 0, 25, 42, 180, 4, 241, 42, 180, 4, 247, 160, 0, 61, 42, 42, 180, 4, 229, 184, 5, 4]
abbrev dktX2_overAt_1 : List UInt8 := dkwX2_overAt_1 ++ dktX2_overAt_2
def dkwX2_overAt_0 : List UInt8 := [42, 27, 182, 2, 185, 153, 0, 4, 177, 42, 180, 3, 251, 157, 0, 36, 42, 180, 4, 241, 42, 180, 4, 247]
abbrev dktX2_overAt_0 : List UInt8 := dkwX2_overAt_0 ++ dktX2_overAt_1
theorem dksX2_overAt_0 : cX2_overAt.data.toList.drop 0 = dktX2_overAt_0 := by decide +kernel
theorem dksX2_overAt_1 : cX2_overAt.data.toList.drop 24 = dktX2_overAt_1 := dk_seg dksX2_overAt_0 24 rfl rfl
theorem dksX2_overAt_2 : cX2_overAt.data.toList.drop 46 = dktX2_overAt_2 := dk_seg dksX2_overAt_1 22 rfl rfl
theorem dksX2_overAt_3 : cX2_overAt.data.toList.drop 69 = dktX2_overAt_3 := dk_seg dksX2_overAt_2 23 rfl rfl
theorem dksX2_overAt_4 : cX2_overAt.data.toList.drop 93 = dktX2_overAt_4 := dk_seg dksX2_overAt_3 24 rfl rfl
theorem dksX2_overAt_5 : cX2_overAt.data.toList.drop 117 = dktX2_overAt_5 := dk_seg dksX2_overAt_4 24 rfl rfl
theorem dksX2_overAt_6 : cX2_overAt.data.toList.drop 141 = dktX2_overAt_6 := dk_seg dksX2_overAt_5 24 rfl rfl
theorem dX2_overAt_0 : decode cX2_overAt 0 = .ok (.aload_n 0, 1) := dk_42 (dk_at dksX2_overAt_0 0 rfl rfl)
theorem dX2_overAt_1 : decode cX2_overAt 1 = .ok (.iload_n 1, 1) := dk_27 (dk_at dksX2_overAt_0 1 rfl rfl)
theorem dX2_overAt_2 : decode cX2_overAt 2 = .ok (.invokevirtual 697, 3) := dk_182 2 185 (dk_at dksX2_overAt_0 2 rfl rfl)
theorem dX2_overAt_5 : decode cX2_overAt 5 = .ok (.ifCond .eq 4, 3) := dk_153 0 4 (dk_at dksX2_overAt_0 5 rfl rfl)
theorem dX2_overAt_8 : decode cX2_overAt 8 = .ok (.return_, 1) := dk_177 (dk_at dksX2_overAt_0 8 rfl rfl)
theorem dX2_overAt_9 : decode cX2_overAt 9 = .ok (.aload_n 0, 1) := dk_42 (dk_at dksX2_overAt_0 9 rfl rfl)
theorem dX2_overAt_10 : decode cX2_overAt 10 = .ok (.getfield 1019, 3) := dk_180 3 251 (dk_at dksX2_overAt_0 10 rfl rfl)
theorem dX2_overAt_13 : decode cX2_overAt 13 = .ok (.ifCond .gt 36, 3) := dk_157 0 36 (dk_at dksX2_overAt_0 13 rfl rfl)
theorem dX2_overAt_16 : decode cX2_overAt 16 = .ok (.aload_n 0, 1) := dk_42 (dk_at dksX2_overAt_0 16 rfl rfl)
theorem dX2_overAt_17 : decode cX2_overAt 17 = .ok (.getfield 1265, 3) := dk_180 4 241 (dk_at dksX2_overAt_0 17 rfl rfl)
theorem dX2_overAt_20 : decode cX2_overAt 20 = .ok (.aload_n 0, 1) := dk_42 (dk_at dksX2_overAt_0 20 rfl rfl)
theorem dX2_overAt_21 : decode cX2_overAt 21 = .ok (.getfield 1271, 3) := dk_180 4 247 (dk_at dksX2_overAt_0 21 rfl rfl)
theorem dX2_overAt_24 : decode cX2_overAt 24 = .ok (.if_icmp .lt 25, 3) := dk_161 0 25 (dk_at dksX2_overAt_1 0 rfl rfl)
theorem dX2_overAt_27 : decode cX2_overAt 27 = .ok (.aload_n 0, 1) := dk_42 (dk_at dksX2_overAt_1 3 rfl rfl)
theorem dX2_overAt_28 : decode cX2_overAt 28 = .ok (.getfield 1265, 3) := dk_180 4 241 (dk_at dksX2_overAt_1 4 rfl rfl)
theorem dX2_overAt_31 : decode cX2_overAt 31 = .ok (.aload_n 0, 1) := dk_42 (dk_at dksX2_overAt_1 7 rfl rfl)
theorem dX2_overAt_32 : decode cX2_overAt 32 = .ok (.getfield 1271, 3) := dk_180 4 247 (dk_at dksX2_overAt_1 8 rfl rfl)
theorem dX2_overAt_35 : decode cX2_overAt 35 = .ok (.if_icmp .ne 61, 3) := dk_160 0 61 (dk_at dksX2_overAt_1 11 rfl rfl)
theorem dX2_overAt_38 : decode cX2_overAt 38 = .ok (.aload_n 0, 1) := dk_42 (dk_at dksX2_overAt_1 14 rfl rfl)
theorem dX2_overAt_39 : decode cX2_overAt 39 = .ok (.aload_n 0, 1) := dk_42 (dk_at dksX2_overAt_1 15 rfl rfl)
theorem dX2_overAt_40 : decode cX2_overAt 40 = .ok (.getfield 1253, 3) := dk_180 4 229 (dk_at dksX2_overAt_1 16 rfl rfl)
theorem dX2_overAt_43 : decode cX2_overAt 43 = .ok (.invokestatic 1284, 3) := dk_184 5 4 (dk_at dksX2_overAt_1 19 rfl rfl)
theorem dX2_overAt_46 : decode cX2_overAt 46 = .ok (.ifCond .eq 50, 3) := dk_153 0 50 (dk_at dksX2_overAt_2 0 rfl rfl)
theorem dX2_overAt_49 : decode cX2_overAt 49 = .ok (.aload_n 0, 1) := dk_42 (dk_at dksX2_overAt_2 3 rfl rfl)
theorem dX2_overAt_50 : decode cX2_overAt 50 = .ok (.iconst 0, 1) := dk_3 (dk_at dksX2_overAt_2 4 rfl rfl)
theorem dX2_overAt_51 : decode cX2_overAt 51 = .ok (.putfield 1205, 3) := dk_181 4 181 (dk_at dksX2_overAt_2 5 rfl rfl)
theorem dX2_overAt_54 : decode cX2_overAt 54 = .ok (.aload_n 0, 1) := dk_42 (dk_at dksX2_overAt_2 8 rfl rfl)
theorem dX2_overAt_55 : decode cX2_overAt 55 = .ok (.iconst 0, 1) := dk_3 (dk_at dksX2_overAt_2 9 rfl rfl)
theorem dX2_overAt_56 : decode cX2_overAt 56 = .ok (.putfield 1199, 3) := dk_181 4 175 (dk_at dksX2_overAt_2 10 rfl rfl)
theorem dX2_overAt_59 : decode cX2_overAt 59 = .ok (.aload_n 0, 1) := dk_42 (dk_at dksX2_overAt_2 13 rfl rfl)
theorem dX2_overAt_60 : decode cX2_overAt 60 = .ok (.iconst 0, 1) := dk_3 (dk_at dksX2_overAt_2 14 rfl rfl)
theorem dX2_overAt_61 : decode cX2_overAt 61 = .ok (.putfield 1211, 3) := dk_181 4 187 (dk_at dksX2_overAt_2 15 rfl rfl)
theorem dX2_overAt_64 : decode cX2_overAt 64 = .ok (.iconst 0, 1) := dk_3 (dk_at dksX2_overAt_2 18 rfl rfl)
theorem dX2_overAt_65 : decode cX2_overAt 65 = .ok (.istore_n 3, 1) := dk_62 (dk_at dksX2_overAt_2 19 rfl rfl)
theorem dX2_overAt_66 : decode cX2_overAt 66 = .ok (.iload_n 3, 1) := dk_29 (dk_at dksX2_overAt_2 20 rfl rfl)
theorem dX2_overAt_67 : decode cX2_overAt 67 = .ok (.bipush 60, 2) := dk_16 60 (dk_at dksX2_overAt_2 21 rfl rfl)
theorem dX2_overAt_69 : decode cX2_overAt 69 = .ok (.if_icmp .ge 16, 3) := dk_162 0 16 (dk_at dksX2_overAt_3 0 rfl rfl)
theorem dX2_overAt_72 : decode cX2_overAt 72 = .ok (.aload_n 0, 1) := dk_42 (dk_at dksX2_overAt_3 3 rfl rfl)
theorem dX2_overAt_73 : decode cX2_overAt 73 = .ok (.getfield 392, 3) := dk_180 1 136 (dk_at dksX2_overAt_3 4 rfl rfl)
theorem dX2_overAt_76 : decode cX2_overAt 76 = .ok (.iload_n 3, 1) := dk_29 (dk_at dksX2_overAt_3 7 rfl rfl)
theorem dX2_overAt_77 : decode cX2_overAt 77 = .ok (.iconst (-1), 1) := dk_2 (dk_at dksX2_overAt_3 8 rfl rfl)
theorem dX2_overAt_78 : decode cX2_overAt 78 = .ok (.iastore, 1) := dk_79 (dk_at dksX2_overAt_3 9 rfl rfl)
theorem dX2_overAt_79 : decode cX2_overAt 79 = .ok (.iinc 3 1, 3) := dk_132 3 1 (dk_at dksX2_overAt_3 10 rfl rfl)
theorem dX2_overAt_82 : decode cX2_overAt 82 = .ok (.goto (-16), 3) := dk_167 255 240 (dk_at dksX2_overAt_3 13 rfl rfl)
theorem dX2_overAt_85 : decode cX2_overAt 85 = .ok (.aload_n 0, 1) := dk_42 (dk_at dksX2_overAt_3 16 rfl rfl)
theorem dX2_overAt_86 : decode cX2_overAt 86 = .ok (.aload_n 0, 1) := dk_42 (dk_at dksX2_overAt_3 17 rfl rfl)
theorem dX2_overAt_87 : decode cX2_overAt 87 = .ok (.iload_n 2, 1) := dk_28 (dk_at dksX2_overAt_3 18 rfl rfl)
theorem dX2_overAt_88 : decode cX2_overAt 88 = .ok (.iload_n 1, 1) := dk_27 (dk_at dksX2_overAt_3 19 rfl rfl)
theorem dX2_overAt_89 : decode cX2_overAt 89 = .ok (.iconst (-1), 1) := dk_2 (dk_at dksX2_overAt_3 20 rfl rfl)
theorem dX2_overAt_90 : decode cX2_overAt 90 = .ok (.invokevirtual 1226, 3) := dk_182 4 202 (dk_at dksX2_overAt_3 21 rfl rfl)
theorem dX2_overAt_93 : decode cX2_overAt 93 = .ok (.invokestatic 1217, 3) := dk_184 4 193 (dk_at dksX2_overAt_4 0 rfl rfl)
theorem dX2_overAt_96 : decode cX2_overAt 96 = .ok (.iconst 0, 1) := dk_3 (dk_at dksX2_overAt_4 3 rfl rfl)
theorem dX2_overAt_97 : decode cX2_overAt 97 = .ok (.istore_n 3, 1) := dk_62 (dk_at dksX2_overAt_4 4 rfl rfl)
theorem dX2_overAt_98 : decode cX2_overAt 98 = .ok (.iload_n 3, 1) := dk_29 (dk_at dksX2_overAt_4 5 rfl rfl)
theorem dX2_overAt_99 : decode cX2_overAt 99 = .ok (.aload_n 0, 1) := dk_42 (dk_at dksX2_overAt_4 6 rfl rfl)
theorem dX2_overAt_100 : decode cX2_overAt 100 = .ok (.getfield 187, 3) := dk_180 0 187 (dk_at dksX2_overAt_4 7 rfl rfl)
theorem dX2_overAt_103 : decode cX2_overAt 103 = .ok (.iload_n 1, 1) := dk_27 (dk_at dksX2_overAt_4 10 rfl rfl)
theorem dX2_overAt_104 : decode cX2_overAt 104 = .ok (.iaload, 1) := dk_46 (dk_at dksX2_overAt_4 11 rfl rfl)
theorem dX2_overAt_105 : decode cX2_overAt 105 = .ok (.if_icmp .ge 50, 3) := dk_162 0 50 (dk_at dksX2_overAt_4 12 rfl rfl)
theorem dX2_overAt_108 : decode cX2_overAt 108 = .ok (.aload_n 0, 1) := dk_42 (dk_at dksX2_overAt_4 15 rfl rfl)
theorem dX2_overAt_109 : decode cX2_overAt 109 = .ok (.getfield 299, 3) := dk_180 1 43 (dk_at dksX2_overAt_4 16 rfl rfl)
theorem dX2_overAt_112 : decode cX2_overAt 112 = .ok (.aload_n 0, 1) := dk_42 (dk_at dksX2_overAt_4 19 rfl rfl)
theorem dX2_overAt_113 : decode cX2_overAt 113 = .ok (.getfield 1019, 3) := dk_180 3 251 (dk_at dksX2_overAt_4 20 rfl rfl)
theorem dX2_overAt_116 : decode cX2_overAt 116 = .ok (.iload_n 3, 1) := dk_29 (dk_at dksX2_overAt_4 23 rfl rfl)
theorem dX2_overAt_117 : decode cX2_overAt 117 = .ok (.iastore, 1) := dk_79 (dk_at dksX2_overAt_5 0 rfl rfl)
theorem dX2_overAt_118 : decode cX2_overAt 118 = .ok (.aload_n 0, 1) := dk_42 (dk_at dksX2_overAt_5 1 rfl rfl)
theorem dX2_overAt_119 : decode cX2_overAt 119 = .ok (.dup, 1) := dk_89 (dk_at dksX2_overAt_5 2 rfl rfl)
theorem dX2_overAt_120 : decode cX2_overAt 120 = .ok (.getfield 1019, 3) := dk_180 3 251 (dk_at dksX2_overAt_5 3 rfl rfl)
theorem dX2_overAt_123 : decode cX2_overAt 123 = .ok (.iconst 1, 1) := dk_4 (dk_at dksX2_overAt_5 6 rfl rfl)
theorem dX2_overAt_124 : decode cX2_overAt 124 = .ok (.iadd, 1) := dk_96 (dk_at dksX2_overAt_5 7 rfl rfl)
theorem dX2_overAt_125 : decode cX2_overAt 125 = .ok (.putfield 1019, 3) := dk_181 3 251 (dk_at dksX2_overAt_5 8 rfl rfl)
theorem dX2_overAt_128 : decode cX2_overAt 128 = .ok (.aload_n 0, 1) := dk_42 (dk_at dksX2_overAt_5 11 rfl rfl)
theorem dX2_overAt_129 : decode cX2_overAt 129 = .ok (.aload_n 0, 1) := dk_42 (dk_at dksX2_overAt_5 12 rfl rfl)
theorem dX2_overAt_130 : decode cX2_overAt 130 = .ok (.iload_n 1, 1) := dk_27 (dk_at dksX2_overAt_5 13 rfl rfl)
theorem dX2_overAt_131 : decode cX2_overAt 131 = .ok (.iload_n 3, 1) := dk_29 (dk_at dksX2_overAt_5 14 rfl rfl)
theorem dX2_overAt_132 : decode cX2_overAt 132 = .ok (.invokevirtual 691, 3) := dk_182 2 179 (dk_at dksX2_overAt_5 15 rfl rfl)
theorem dX2_overAt_135 : decode cX2_overAt 135 = .ok (.iload_n 2, 1) := dk_28 (dk_at dksX2_overAt_5 18 rfl rfl)
theorem dX2_overAt_136 : decode cX2_overAt 136 = .ok (.invokestatic 1287, 3) := dk_184 5 7 (dk_at dksX2_overAt_5 19 rfl rfl)
theorem dX2_overAt_139 : decode cX2_overAt 139 = .ok (.aload_n 0, 1) := dk_42 (dk_at dksX2_overAt_5 22 rfl rfl)
theorem dX2_overAt_140 : decode cX2_overAt 140 = .ok (.dup, 1) := dk_89 (dk_at dksX2_overAt_5 23 rfl rfl)
theorem dX2_overAt_141 : decode cX2_overAt 141 = .ok (.getfield 1019, 3) := dk_180 3 251 (dk_at dksX2_overAt_6 0 rfl rfl)
theorem dX2_overAt_144 : decode cX2_overAt 144 = .ok (.iconst 1, 1) := dk_4 (dk_at dksX2_overAt_6 3 rfl rfl)
theorem dX2_overAt_145 : decode cX2_overAt 145 = .ok (.isub, 1) := dk_100 (dk_at dksX2_overAt_6 4 rfl rfl)
theorem dX2_overAt_146 : decode cX2_overAt 146 = .ok (.putfield 1019, 3) := dk_181 3 251 (dk_at dksX2_overAt_6 5 rfl rfl)
theorem dX2_overAt_149 : decode cX2_overAt 149 = .ok (.iinc 3 1, 3) := dk_132 3 1 (dk_at dksX2_overAt_6 8 rfl rfl)
theorem dX2_overAt_152 : decode cX2_overAt 152 = .ok (.goto (-54), 3) := dk_167 255 202 (dk_at dksX2_overAt_6 11 rfl rfl)
theorem dX2_overAt_155 : decode cX2_overAt 155 = .ok (.return_, 1) := dk_177 (dk_at dksX2_overAt_6 14 rfl rfl)
abbrev cX2_hasComm : ByteArray := prog_4_method_207_code
def yX2_hasComm : MethodName := ⟨RX2, "hasComm", "(LRewriteHouseModel;I)Z"⟩
def dkwX2_hasComm_2 : List UInt8 := [61, 132, 3, 1, 167, 255, 228, 28, 172]
abbrev dktX2_hasComm_2 : List UInt8 := dkwX2_hasComm_2 ++ []
def dkwX2_hasComm_1 : List UInt8 := [29, 42, 180, 0, 187, 27, 46, 162, 0, 24, 28, 154, 0, 20, 42, 42, 27, 29, 182, 2, 179, 184, 5, 4]
abbrev dktX2_hasComm_1 : List UInt8 := dkwX2_hasComm_1 ++ dktX2_hasComm_2
def dkwX2_hasComm_0 : List UInt8 := [42, 27, 182, 2, 185, 153, 0, 5, 3, 172, 42, 180, 0, 171, 42, 180, 0, 181, 27, 46, 51, 61, 3, 62]
abbrev dktX2_hasComm_0 : List UInt8 := dkwX2_hasComm_0 ++ dktX2_hasComm_1
theorem dksX2_hasComm_0 : cX2_hasComm.data.toList.drop 0 = dktX2_hasComm_0 := by decide +kernel
theorem dksX2_hasComm_1 : cX2_hasComm.data.toList.drop 24 = dktX2_hasComm_1 := dk_seg dksX2_hasComm_0 24 rfl rfl
theorem dksX2_hasComm_2 : cX2_hasComm.data.toList.drop 48 = dktX2_hasComm_2 := dk_seg dksX2_hasComm_1 24 rfl rfl
theorem dX2_hasComm_0 : decode cX2_hasComm 0 = .ok (.aload_n 0, 1) := dk_42 (dk_at dksX2_hasComm_0 0 rfl rfl)
theorem dX2_hasComm_1 : decode cX2_hasComm 1 = .ok (.iload_n 1, 1) := dk_27 (dk_at dksX2_hasComm_0 1 rfl rfl)
theorem dX2_hasComm_2 : decode cX2_hasComm 2 = .ok (.invokevirtual 697, 3) := dk_182 2 185 (dk_at dksX2_hasComm_0 2 rfl rfl)
theorem dX2_hasComm_5 : decode cX2_hasComm 5 = .ok (.ifCond .eq 5, 3) := dk_153 0 5 (dk_at dksX2_hasComm_0 5 rfl rfl)
theorem dX2_hasComm_8 : decode cX2_hasComm 8 = .ok (.iconst 0, 1) := dk_3 (dk_at dksX2_hasComm_0 8 rfl rfl)
theorem dX2_hasComm_9 : decode cX2_hasComm 9 = .ok (.ireturn, 1) := dk_172 (dk_at dksX2_hasComm_0 9 rfl rfl)
theorem dX2_hasComm_10 : decode cX2_hasComm 10 = .ok (.aload_n 0, 1) := dk_42 (dk_at dksX2_hasComm_0 10 rfl rfl)
theorem dX2_hasComm_11 : decode cX2_hasComm 11 = .ok (.getfield 171, 3) := dk_180 0 171 (dk_at dksX2_hasComm_0 11 rfl rfl)
theorem dX2_hasComm_14 : decode cX2_hasComm 14 = .ok (.aload_n 0, 1) := dk_42 (dk_at dksX2_hasComm_0 14 rfl rfl)
theorem dX2_hasComm_15 : decode cX2_hasComm 15 = .ok (.getfield 181, 3) := dk_180 0 181 (dk_at dksX2_hasComm_0 15 rfl rfl)
theorem dX2_hasComm_18 : decode cX2_hasComm 18 = .ok (.iload_n 1, 1) := dk_27 (dk_at dksX2_hasComm_0 18 rfl rfl)
theorem dX2_hasComm_19 : decode cX2_hasComm 19 = .ok (.iaload, 1) := dk_46 (dk_at dksX2_hasComm_0 19 rfl rfl)
theorem dX2_hasComm_20 : decode cX2_hasComm 20 = .ok (.baload, 1) := dk_51 (dk_at dksX2_hasComm_0 20 rfl rfl)
theorem dX2_hasComm_21 : decode cX2_hasComm 21 = .ok (.istore_n 2, 1) := dk_61 (dk_at dksX2_hasComm_0 21 rfl rfl)
theorem dX2_hasComm_22 : decode cX2_hasComm 22 = .ok (.iconst 0, 1) := dk_3 (dk_at dksX2_hasComm_0 22 rfl rfl)
theorem dX2_hasComm_23 : decode cX2_hasComm 23 = .ok (.istore_n 3, 1) := dk_62 (dk_at dksX2_hasComm_0 23 rfl rfl)
theorem dX2_hasComm_24 : decode cX2_hasComm 24 = .ok (.iload_n 3, 1) := dk_29 (dk_at dksX2_hasComm_1 0 rfl rfl)
theorem dX2_hasComm_25 : decode cX2_hasComm 25 = .ok (.aload_n 0, 1) := dk_42 (dk_at dksX2_hasComm_1 1 rfl rfl)
theorem dX2_hasComm_26 : decode cX2_hasComm 26 = .ok (.getfield 187, 3) := dk_180 0 187 (dk_at dksX2_hasComm_1 2 rfl rfl)
theorem dX2_hasComm_29 : decode cX2_hasComm 29 = .ok (.iload_n 1, 1) := dk_27 (dk_at dksX2_hasComm_1 5 rfl rfl)
theorem dX2_hasComm_30 : decode cX2_hasComm 30 = .ok (.iaload, 1) := dk_46 (dk_at dksX2_hasComm_1 6 rfl rfl)
theorem dX2_hasComm_31 : decode cX2_hasComm 31 = .ok (.if_icmp .ge 24, 3) := dk_162 0 24 (dk_at dksX2_hasComm_1 7 rfl rfl)
theorem dX2_hasComm_34 : decode cX2_hasComm 34 = .ok (.iload_n 2, 1) := dk_28 (dk_at dksX2_hasComm_1 10 rfl rfl)
theorem dX2_hasComm_35 : decode cX2_hasComm 35 = .ok (.ifCond .ne 20, 3) := dk_154 0 20 (dk_at dksX2_hasComm_1 11 rfl rfl)
theorem dX2_hasComm_38 : decode cX2_hasComm 38 = .ok (.aload_n 0, 1) := dk_42 (dk_at dksX2_hasComm_1 14 rfl rfl)
theorem dX2_hasComm_39 : decode cX2_hasComm 39 = .ok (.aload_n 0, 1) := dk_42 (dk_at dksX2_hasComm_1 15 rfl rfl)
theorem dX2_hasComm_40 : decode cX2_hasComm 40 = .ok (.iload_n 1, 1) := dk_27 (dk_at dksX2_hasComm_1 16 rfl rfl)
theorem dX2_hasComm_41 : decode cX2_hasComm 41 = .ok (.iload_n 3, 1) := dk_29 (dk_at dksX2_hasComm_1 17 rfl rfl)
theorem dX2_hasComm_42 : decode cX2_hasComm 42 = .ok (.invokevirtual 691, 3) := dk_182 2 179 (dk_at dksX2_hasComm_1 18 rfl rfl)
theorem dX2_hasComm_45 : decode cX2_hasComm 45 = .ok (.invokestatic 1284, 3) := dk_184 5 4 (dk_at dksX2_hasComm_1 21 rfl rfl)
theorem dX2_hasComm_48 : decode cX2_hasComm 48 = .ok (.istore_n 2, 1) := dk_61 (dk_at dksX2_hasComm_2 0 rfl rfl)
theorem dX2_hasComm_49 : decode cX2_hasComm 49 = .ok (.iinc 3 1, 3) := dk_132 3 1 (dk_at dksX2_hasComm_2 1 rfl rfl)
theorem dX2_hasComm_52 : decode cX2_hasComm 52 = .ok (.goto (-28), 3) := dk_167 255 228 (dk_at dksX2_hasComm_2 4 rfl rfl)
theorem dX2_hasComm_55 : decode cX2_hasComm 55 = .ok (.iload_n 2, 1) := dk_28 (dk_at dksX2_hasComm_2 7 rfl rfl)
theorem dX2_hasComm_56 : decode cX2_hasComm 56 = .ok (.ireturn, 1) := dk_172 (dk_at dksX2_hasComm_2 8 rfl rfl)
abbrev cX2_pairGoal : ByteArray := prog_4_method_196_code
def yX2_pairGoal : MethodName := ⟨RX2, "pairGoal", "(III)I"⟩
def dkwX2_pairGoal_1 : List UInt8 := [42, 180, 4, 181, 29, 79, 42, 89, 180, 4, 181, 4, 96, 181, 4, 181, 42, 180, 4, 181, 4, 100, 172]
abbrev dktX2_pairGoal_1 : List UInt8 := dkwX2_pairGoal_1 ++ []
def dkwX2_pairGoal_0 : List UInt8 := [42, 180, 1, 127, 42, 180, 4, 181, 27, 79, 42, 180, 1, 130, 42, 180, 4, 181, 28, 79, 42, 180, 1, 133]
abbrev dktX2_pairGoal_0 : List UInt8 := dkwX2_pairGoal_0 ++ dktX2_pairGoal_1
theorem dksX2_pairGoal_0 : cX2_pairGoal.data.toList.drop 0 = dktX2_pairGoal_0 := by decide +kernel
theorem dksX2_pairGoal_1 : cX2_pairGoal.data.toList.drop 24 = dktX2_pairGoal_1 := dk_seg dksX2_pairGoal_0 24 rfl rfl
theorem dX2_pairGoal_0 : decode cX2_pairGoal 0 = .ok (.aload_n 0, 1) := dk_42 (dk_at dksX2_pairGoal_0 0 rfl rfl)
theorem dX2_pairGoal_1 : decode cX2_pairGoal 1 = .ok (.getfield 383, 3) := dk_180 1 127 (dk_at dksX2_pairGoal_0 1 rfl rfl)
theorem dX2_pairGoal_4 : decode cX2_pairGoal 4 = .ok (.aload_n 0, 1) := dk_42 (dk_at dksX2_pairGoal_0 4 rfl rfl)
theorem dX2_pairGoal_5 : decode cX2_pairGoal 5 = .ok (.getfield 1205, 3) := dk_180 4 181 (dk_at dksX2_pairGoal_0 5 rfl rfl)
theorem dX2_pairGoal_8 : decode cX2_pairGoal 8 = .ok (.iload_n 1, 1) := dk_27 (dk_at dksX2_pairGoal_0 8 rfl rfl)
theorem dX2_pairGoal_9 : decode cX2_pairGoal 9 = .ok (.iastore, 1) := dk_79 (dk_at dksX2_pairGoal_0 9 rfl rfl)
theorem dX2_pairGoal_10 : decode cX2_pairGoal 10 = .ok (.aload_n 0, 1) := dk_42 (dk_at dksX2_pairGoal_0 10 rfl rfl)
theorem dX2_pairGoal_11 : decode cX2_pairGoal 11 = .ok (.getfield 386, 3) := dk_180 1 130 (dk_at dksX2_pairGoal_0 11 rfl rfl)
theorem dX2_pairGoal_14 : decode cX2_pairGoal 14 = .ok (.aload_n 0, 1) := dk_42 (dk_at dksX2_pairGoal_0 14 rfl rfl)
theorem dX2_pairGoal_15 : decode cX2_pairGoal 15 = .ok (.getfield 1205, 3) := dk_180 4 181 (dk_at dksX2_pairGoal_0 15 rfl rfl)
theorem dX2_pairGoal_18 : decode cX2_pairGoal 18 = .ok (.iload_n 2, 1) := dk_28 (dk_at dksX2_pairGoal_0 18 rfl rfl)
theorem dX2_pairGoal_19 : decode cX2_pairGoal 19 = .ok (.iastore, 1) := dk_79 (dk_at dksX2_pairGoal_0 19 rfl rfl)
theorem dX2_pairGoal_20 : decode cX2_pairGoal 20 = .ok (.aload_n 0, 1) := dk_42 (dk_at dksX2_pairGoal_0 20 rfl rfl)
theorem dX2_pairGoal_21 : decode cX2_pairGoal 21 = .ok (.getfield 389, 3) := dk_180 1 133 (dk_at dksX2_pairGoal_0 21 rfl rfl)
theorem dX2_pairGoal_24 : decode cX2_pairGoal 24 = .ok (.aload_n 0, 1) := dk_42 (dk_at dksX2_pairGoal_1 0 rfl rfl)
theorem dX2_pairGoal_25 : decode cX2_pairGoal 25 = .ok (.getfield 1205, 3) := dk_180 4 181 (dk_at dksX2_pairGoal_1 1 rfl rfl)
theorem dX2_pairGoal_28 : decode cX2_pairGoal 28 = .ok (.iload_n 3, 1) := dk_29 (dk_at dksX2_pairGoal_1 4 rfl rfl)
theorem dX2_pairGoal_29 : decode cX2_pairGoal 29 = .ok (.iastore, 1) := dk_79 (dk_at dksX2_pairGoal_1 5 rfl rfl)
theorem dX2_pairGoal_30 : decode cX2_pairGoal 30 = .ok (.aload_n 0, 1) := dk_42 (dk_at dksX2_pairGoal_1 6 rfl rfl)
theorem dX2_pairGoal_31 : decode cX2_pairGoal 31 = .ok (.dup, 1) := dk_89 (dk_at dksX2_pairGoal_1 7 rfl rfl)
theorem dX2_pairGoal_32 : decode cX2_pairGoal 32 = .ok (.getfield 1205, 3) := dk_180 4 181 (dk_at dksX2_pairGoal_1 8 rfl rfl)
theorem dX2_pairGoal_35 : decode cX2_pairGoal 35 = .ok (.iconst 1, 1) := dk_4 (dk_at dksX2_pairGoal_1 11 rfl rfl)
theorem dX2_pairGoal_36 : decode cX2_pairGoal 36 = .ok (.iadd, 1) := dk_96 (dk_at dksX2_pairGoal_1 12 rfl rfl)
theorem dX2_pairGoal_37 : decode cX2_pairGoal 37 = .ok (.putfield 1205, 3) := dk_181 4 181 (dk_at dksX2_pairGoal_1 13 rfl rfl)
theorem dX2_pairGoal_40 : decode cX2_pairGoal 40 = .ok (.aload_n 0, 1) := dk_42 (dk_at dksX2_pairGoal_1 16 rfl rfl)
theorem dX2_pairGoal_41 : decode cX2_pairGoal 41 = .ok (.getfield 1205, 3) := dk_180 4 181 (dk_at dksX2_pairGoal_1 17 rfl rfl)
theorem dX2_pairGoal_44 : decode cX2_pairGoal 44 = .ok (.iconst 1, 1) := dk_4 (dk_at dksX2_pairGoal_1 20 rfl rfl)
theorem dX2_pairGoal_45 : decode cX2_pairGoal 45 = .ok (.isub, 1) := dk_100 (dk_at dksX2_pairGoal_1 21 rfl rfl)
theorem dX2_pairGoal_46 : decode cX2_pairGoal 46 = .ok (.ireturn, 1) := dk_172 (dk_at dksX2_pairGoal_1 22 rfl rfl)
abbrev cX2_unify : ByteArray := prog_4_method_197_code
def yX2_unify : MethodName := ⟨RX2, "unify", "(LRewriteHouseModel;I)V"⟩
def dkwX2_unify_16 : List UInt8 := [42, 21, 4, 182, 4, 208, 42, 89, 180, 4, 187, 4, 100, 181, 4, 187, 177]
abbrev dktX2_unify_16 : List UInt8 := dkwX2_unify_16 ++ []
def dkwX2_unify_15 : List UInt8 := [21, 6, 4, 182, 2, 179, 21, 9, 182, 4, 202, 184, 4, 193, 42, 29, 182, 4, 205, 42, 28, 181, 4, 181]
abbrev dktX2_unify_15 : List UInt8 := dkwX2_unify_15 ++ dktX2_unify_16
def dkwX2_unify_14 : List UInt8 := [21, 6, 3, 182, 2, 179, 21, 7, 182, 4, 202, 54, 9, 42, 42, 42, 21, 5, 3, 182, 2, 179, 42]
abbrev dktX2_unify_14 : List UInt8 := dkwX2_unify_14 ++ dktX2_unify_15
def dkwX2_unify_13 : List UInt8 := [180, 0, 171, 42, 180, 0, 181, 21, 5, 46, 51, 153, 0, 49, 42, 42, 21, 5, 4, 182, 2, 179, 42]
abbrev dktX2_unify_13 : List UInt8 := dkwX2_unify_13 ++ dktX2_unify_14
def dkwX2_unify_12 : List UInt8 := [182, 4, 202, 54, 8, 132, 9, 255, 167, 255, 224, 42, 21, 8, 184, 4, 193, 42, 29, 182, 4, 205, 42]
abbrev dktX2_unify_12 : List UInt8 := dkwX2_unify_12 ++ dktX2_unify_13
def dkwX2_unify_11 : List UInt8 := [21, 9, 155, 0, 33, 42, 42, 21, 5, 21, 9, 182, 2, 179, 42, 21, 6, 21, 9, 182, 2, 179, 21, 8]
abbrev dktX2_unify_11 : List UInt8 := dkwX2_unify_11 ++ dktX2_unify_12
def dkwX2_unify_10 : List UInt8 := [180, 0, 187, 21, 6, 46, 160, 0, 125, 21, 7, 54, 8, 42, 180, 0, 187, 21, 5, 46, 4, 100, 54, 9]
abbrev dktX2_unify_10 : List UInt8 := dkwX2_unify_10 ++ dktX2_unify_11
def dkwX2_unify_9 : List UInt8 := [180, 0, 181, 21, 5, 46, 42, 180, 0, 181, 21, 6, 46, 160, 0, 142, 42, 180, 0, 187, 21, 5, 46, 42]
abbrev dktX2_unify_9 : List UInt8 := dkwX2_unify_9 ++ dktX2_unify_10
def dkwX2_unify_8 : List UInt8 := [182, 2, 185, 153, 0, 8, 21, 6, 167, 0, 5, 21, 5, 21, 7, 184, 4, 199, 167, 0, 159, 42]
abbrev dktX2_unify_8 : List UInt8 := dkwX2_unify_8 ++ dktX2_unify_9
def dkwX2_unify_7 : List UInt8 := [42, 42, 42, 21, 5, 182, 2, 185, 153, 0, 8, 21, 5, 167, 0, 5, 21, 6, 182, 2, 188, 42, 21, 5]
abbrev dktX2_unify_7 : List UInt8 := dkwX2_unify_7 ++ dktX2_unify_8
def dkwX2_unify_6 : List UInt8 := [184, 4, 196, 167, 0, 222, 42, 21, 5, 182, 2, 185, 154, 0, 12, 42, 21, 6, 182, 2, 185, 153, 0, 48]
abbrev dktX2_unify_6 : List UInt8 := dkwX2_unify_6 ++ dktX2_unify_7
def dkwX2_unify_5 : List UInt8 := [21, 6, 182, 2, 185, 153, 0, 24, 42, 42, 21, 5, 182, 2, 188, 42, 21, 6, 182, 2, 188, 21, 7]
abbrev dktX2_unify_5 : List UInt8 := dkwX2_unify_5 ++ dktX2_unify_6
def dkwX2_unify_4 : List UInt8 := [21, 6, 160, 0, 12, 42, 21, 7, 184, 4, 193, 167, 1, 5, 42, 21, 5, 182, 2, 185, 153, 0, 33, 42]
abbrev dktX2_unify_4 : List UInt8 := dkwX2_unify_4 ++ dktX2_unify_5
def dkwX2_unify_3 : List UInt8 := [180, 1, 130, 27, 46, 184, 4, 172, 182, 4, 190, 54, 6, 42, 180, 1, 133, 27, 46, 54, 7, 21, 5]
abbrev dktX2_unify_3 : List UInt8 := dkwX2_unify_3 ++ dktX2_unify_4
def dkwX2_unify_2 : List UInt8 := [180, 2, 152, 54, 4, 42, 42, 42, 180, 1, 127, 27, 46, 184, 4, 172, 182, 4, 190, 54, 5, 42, 42, 42]
abbrev dktX2_unify_2 : List UInt8 := dkwX2_unify_2 ++ dktX2_unify_3
def dkwX2_unify_1 : List UInt8 := [182, 1, 178, 42, 89, 180, 4, 187, 4, 96, 181, 4, 187, 42, 180, 4, 181, 61, 42, 180, 4, 175, 62, 42]
abbrev dktX2_unify_1 : List UInt8 := dkwX2_unify_1 ++ dktX2_unify_2
def dkwX2_unify_0 : List UInt8 := [27, 156, 0, 8, 42, 182, 4, 184, 177, 42, 180, 4, 187, 17, 0, 150, 160, 0, 9, 42, 8, 3]
abbrev dktX2_unify_0 : List UInt8 := dkwX2_unify_0 ++ dktX2_unify_1
theorem dksX2_unify_0 : cX2_unify.data.toList.drop 0 = dktX2_unify_0 := by decide +kernel
theorem dksX2_unify_1 : cX2_unify.data.toList.drop 22 = dktX2_unify_1 := dk_seg dksX2_unify_0 22 rfl rfl
theorem dksX2_unify_2 : cX2_unify.data.toList.drop 46 = dktX2_unify_2 := dk_seg dksX2_unify_1 24 rfl rfl
theorem dksX2_unify_3 : cX2_unify.data.toList.drop 70 = dktX2_unify_3 := dk_seg dksX2_unify_2 24 rfl rfl
theorem dksX2_unify_4 : cX2_unify.data.toList.drop 93 = dktX2_unify_4 := dk_seg dksX2_unify_3 23 rfl rfl
theorem dksX2_unify_5 : cX2_unify.data.toList.drop 117 = dktX2_unify_5 := dk_seg dksX2_unify_4 24 rfl rfl
theorem dksX2_unify_6 : cX2_unify.data.toList.drop 140 = dktX2_unify_6 := dk_seg dksX2_unify_5 23 rfl rfl
theorem dksX2_unify_7 : cX2_unify.data.toList.drop 164 = dktX2_unify_7 := dk_seg dksX2_unify_6 24 rfl rfl
theorem dksX2_unify_8 : cX2_unify.data.toList.drop 188 = dktX2_unify_8 := dk_seg dksX2_unify_7 24 rfl rfl
theorem dksX2_unify_9 : cX2_unify.data.toList.drop 210 = dktX2_unify_9 := dk_seg dksX2_unify_8 22 rfl rfl
theorem dksX2_unify_10 : cX2_unify.data.toList.drop 234 = dktX2_unify_10 := dk_seg dksX2_unify_9 24 rfl rfl
theorem dksX2_unify_11 : cX2_unify.data.toList.drop 258 = dktX2_unify_11 := dk_seg dksX2_unify_10 24 rfl rfl
theorem dksX2_unify_12 : cX2_unify.data.toList.drop 282 = dktX2_unify_12 := dk_seg dksX2_unify_11 24 rfl rfl
theorem dksX2_unify_13 : cX2_unify.data.toList.drop 305 = dktX2_unify_13 := dk_seg dksX2_unify_12 23 rfl rfl
theorem dksX2_unify_14 : cX2_unify.data.toList.drop 328 = dktX2_unify_14 := dk_seg dksX2_unify_13 23 rfl rfl
theorem dksX2_unify_15 : cX2_unify.data.toList.drop 351 = dktX2_unify_15 := dk_seg dksX2_unify_14 23 rfl rfl
theorem dksX2_unify_16 : cX2_unify.data.toList.drop 375 = dktX2_unify_16 := dk_seg dksX2_unify_15 24 rfl rfl
theorem dX2_unify_0 : decode cX2_unify 0 = .ok (.iload_n 1, 1) := dk_27 (dk_at dksX2_unify_0 0 rfl rfl)
theorem dX2_unify_1 : decode cX2_unify 1 = .ok (.ifCond .ge 8, 3) := dk_156 0 8 (dk_at dksX2_unify_0 1 rfl rfl)
theorem dX2_unify_4 : decode cX2_unify 4 = .ok (.aload_n 0, 1) := dk_42 (dk_at dksX2_unify_0 4 rfl rfl)
theorem dX2_unify_5 : decode cX2_unify 5 = .ok (.invokevirtual 1208, 3) := dk_182 4 184 (dk_at dksX2_unify_0 5 rfl rfl)
theorem dX2_unify_8 : decode cX2_unify 8 = .ok (.return_, 1) := dk_177 (dk_at dksX2_unify_0 8 rfl rfl)
theorem dX2_unify_9 : decode cX2_unify 9 = .ok (.aload_n 0, 1) := dk_42 (dk_at dksX2_unify_0 9 rfl rfl)
theorem dX2_unify_10 : decode cX2_unify 10 = .ok (.getfield 1211, 3) := dk_180 4 187 (dk_at dksX2_unify_0 10 rfl rfl)
theorem dX2_unify_13 : decode cX2_unify 13 = .ok (.sipush 150, 3) := dk_17 0 150 (dk_at dksX2_unify_0 13 rfl rfl)
theorem dX2_unify_16 : decode cX2_unify 16 = .ok (.if_icmp .ne 9, 3) := dk_160 0 9 (dk_at dksX2_unify_0 16 rfl rfl)
theorem dX2_unify_19 : decode cX2_unify 19 = .ok (.aload_n 0, 1) := dk_42 (dk_at dksX2_unify_0 19 rfl rfl)
theorem dX2_unify_20 : decode cX2_unify 20 = .ok (.iconst 5, 1) := dk_8 (dk_at dksX2_unify_0 20 rfl rfl)
theorem dX2_unify_21 : decode cX2_unify 21 = .ok (.iconst 0, 1) := dk_3 (dk_at dksX2_unify_0 21 rfl rfl)
theorem dX2_unify_22 : decode cX2_unify 22 = .ok (.invokevirtual 434, 3) := dk_182 1 178 (dk_at dksX2_unify_1 0 rfl rfl)
theorem dX2_unify_25 : decode cX2_unify 25 = .ok (.aload_n 0, 1) := dk_42 (dk_at dksX2_unify_1 3 rfl rfl)
theorem dX2_unify_26 : decode cX2_unify 26 = .ok (.dup, 1) := dk_89 (dk_at dksX2_unify_1 4 rfl rfl)
theorem dX2_unify_27 : decode cX2_unify 27 = .ok (.getfield 1211, 3) := dk_180 4 187 (dk_at dksX2_unify_1 5 rfl rfl)
theorem dX2_unify_30 : decode cX2_unify 30 = .ok (.iconst 1, 1) := dk_4 (dk_at dksX2_unify_1 8 rfl rfl)
theorem dX2_unify_31 : decode cX2_unify 31 = .ok (.iadd, 1) := dk_96 (dk_at dksX2_unify_1 9 rfl rfl)
theorem dX2_unify_32 : decode cX2_unify 32 = .ok (.putfield 1211, 3) := dk_181 4 187 (dk_at dksX2_unify_1 10 rfl rfl)
theorem dX2_unify_35 : decode cX2_unify 35 = .ok (.aload_n 0, 1) := dk_42 (dk_at dksX2_unify_1 13 rfl rfl)
theorem dX2_unify_36 : decode cX2_unify 36 = .ok (.getfield 1205, 3) := dk_180 4 181 (dk_at dksX2_unify_1 14 rfl rfl)
theorem dX2_unify_39 : decode cX2_unify 39 = .ok (.istore_n 2, 1) := dk_61 (dk_at dksX2_unify_1 17 rfl rfl)
theorem dX2_unify_40 : decode cX2_unify 40 = .ok (.aload_n 0, 1) := dk_42 (dk_at dksX2_unify_1 18 rfl rfl)
theorem dX2_unify_41 : decode cX2_unify 41 = .ok (.getfield 1199, 3) := dk_180 4 175 (dk_at dksX2_unify_1 19 rfl rfl)
theorem dX2_unify_44 : decode cX2_unify 44 = .ok (.istore_n 3, 1) := dk_62 (dk_at dksX2_unify_1 22 rfl rfl)
theorem dX2_unify_45 : decode cX2_unify 45 = .ok (.aload_n 0, 1) := dk_42 (dk_at dksX2_unify_1 23 rfl rfl)
theorem dX2_unify_46 : decode cX2_unify 46 = .ok (.getfield 664, 3) := dk_180 2 152 (dk_at dksX2_unify_2 0 rfl rfl)
theorem dX2_unify_49 : decode cX2_unify 49 = .ok (.istore 4, 2) := dk_54 4 (dk_at dksX2_unify_2 3 rfl rfl)
theorem dX2_unify_51 : decode cX2_unify 51 = .ok (.aload_n 0, 1) := dk_42 (dk_at dksX2_unify_2 5 rfl rfl)
theorem dX2_unify_52 : decode cX2_unify 52 = .ok (.aload_n 0, 1) := dk_42 (dk_at dksX2_unify_2 6 rfl rfl)
theorem dX2_unify_53 : decode cX2_unify 53 = .ok (.aload_n 0, 1) := dk_42 (dk_at dksX2_unify_2 7 rfl rfl)
theorem dX2_unify_54 : decode cX2_unify 54 = .ok (.getfield 383, 3) := dk_180 1 127 (dk_at dksX2_unify_2 8 rfl rfl)
theorem dX2_unify_57 : decode cX2_unify 57 = .ok (.iload_n 1, 1) := dk_27 (dk_at dksX2_unify_2 11 rfl rfl)
theorem dX2_unify_58 : decode cX2_unify 58 = .ok (.iaload, 1) := dk_46 (dk_at dksX2_unify_2 12 rfl rfl)
theorem dX2_unify_59 : decode cX2_unify 59 = .ok (.invokestatic 1196, 3) := dk_184 4 172 (dk_at dksX2_unify_2 13 rfl rfl)
theorem dX2_unify_62 : decode cX2_unify 62 = .ok (.invokevirtual 1214, 3) := dk_182 4 190 (dk_at dksX2_unify_2 16 rfl rfl)
theorem dX2_unify_65 : decode cX2_unify 65 = .ok (.istore 5, 2) := dk_54 5 (dk_at dksX2_unify_2 19 rfl rfl)
theorem dX2_unify_67 : decode cX2_unify 67 = .ok (.aload_n 0, 1) := dk_42 (dk_at dksX2_unify_2 21 rfl rfl)
theorem dX2_unify_68 : decode cX2_unify 68 = .ok (.aload_n 0, 1) := dk_42 (dk_at dksX2_unify_2 22 rfl rfl)
theorem dX2_unify_69 : decode cX2_unify 69 = .ok (.aload_n 0, 1) := dk_42 (dk_at dksX2_unify_2 23 rfl rfl)
theorem dX2_unify_70 : decode cX2_unify 70 = .ok (.getfield 386, 3) := dk_180 1 130 (dk_at dksX2_unify_3 0 rfl rfl)
theorem dX2_unify_73 : decode cX2_unify 73 = .ok (.iload_n 1, 1) := dk_27 (dk_at dksX2_unify_3 3 rfl rfl)
theorem dX2_unify_74 : decode cX2_unify 74 = .ok (.iaload, 1) := dk_46 (dk_at dksX2_unify_3 4 rfl rfl)
theorem dX2_unify_75 : decode cX2_unify 75 = .ok (.invokestatic 1196, 3) := dk_184 4 172 (dk_at dksX2_unify_3 5 rfl rfl)
theorem dX2_unify_78 : decode cX2_unify 78 = .ok (.invokevirtual 1214, 3) := dk_182 4 190 (dk_at dksX2_unify_3 8 rfl rfl)
theorem dX2_unify_81 : decode cX2_unify 81 = .ok (.istore 6, 2) := dk_54 6 (dk_at dksX2_unify_3 11 rfl rfl)
theorem dX2_unify_83 : decode cX2_unify 83 = .ok (.aload_n 0, 1) := dk_42 (dk_at dksX2_unify_3 13 rfl rfl)
theorem dX2_unify_84 : decode cX2_unify 84 = .ok (.getfield 389, 3) := dk_180 1 133 (dk_at dksX2_unify_3 14 rfl rfl)
theorem dX2_unify_87 : decode cX2_unify 87 = .ok (.iload_n 1, 1) := dk_27 (dk_at dksX2_unify_3 17 rfl rfl)
theorem dX2_unify_88 : decode cX2_unify 88 = .ok (.iaload, 1) := dk_46 (dk_at dksX2_unify_3 18 rfl rfl)
theorem dX2_unify_89 : decode cX2_unify 89 = .ok (.istore 7, 2) := dk_54 7 (dk_at dksX2_unify_3 19 rfl rfl)
theorem dX2_unify_91 : decode cX2_unify 91 = .ok (.iload 5, 2) := dk_21 5 (dk_at dksX2_unify_3 21 rfl rfl)
theorem dX2_unify_93 : decode cX2_unify 93 = .ok (.iload 6, 2) := dk_21 6 (dk_at dksX2_unify_4 0 rfl rfl)
theorem dX2_unify_95 : decode cX2_unify 95 = .ok (.if_icmp .ne 12, 3) := dk_160 0 12 (dk_at dksX2_unify_4 2 rfl rfl)
theorem dX2_unify_98 : decode cX2_unify 98 = .ok (.aload_n 0, 1) := dk_42 (dk_at dksX2_unify_4 5 rfl rfl)
theorem dX2_unify_99 : decode cX2_unify 99 = .ok (.iload 7, 2) := dk_21 7 (dk_at dksX2_unify_4 6 rfl rfl)
theorem dX2_unify_101 : decode cX2_unify 101 = .ok (.invokestatic 1217, 3) := dk_184 4 193 (dk_at dksX2_unify_4 8 rfl rfl)
theorem dX2_unify_104 : decode cX2_unify 104 = .ok (.goto 261, 3) := dk_167 1 5 (dk_at dksX2_unify_4 11 rfl rfl)
theorem dX2_unify_107 : decode cX2_unify 107 = .ok (.aload_n 0, 1) := dk_42 (dk_at dksX2_unify_4 14 rfl rfl)
theorem dX2_unify_108 : decode cX2_unify 108 = .ok (.iload 5, 2) := dk_21 5 (dk_at dksX2_unify_4 15 rfl rfl)
theorem dX2_unify_110 : decode cX2_unify 110 = .ok (.invokevirtual 697, 3) := dk_182 2 185 (dk_at dksX2_unify_4 17 rfl rfl)
theorem dX2_unify_113 : decode cX2_unify 113 = .ok (.ifCond .eq 33, 3) := dk_153 0 33 (dk_at dksX2_unify_4 20 rfl rfl)
theorem dX2_unify_116 : decode cX2_unify 116 = .ok (.aload_n 0, 1) := dk_42 (dk_at dksX2_unify_4 23 rfl rfl)
theorem dX2_unify_117 : decode cX2_unify 117 = .ok (.iload 6, 2) := dk_21 6 (dk_at dksX2_unify_5 0 rfl rfl)
theorem dX2_unify_119 : decode cX2_unify 119 = .ok (.invokevirtual 697, 3) := dk_182 2 185 (dk_at dksX2_unify_5 2 rfl rfl)
theorem dX2_unify_122 : decode cX2_unify 122 = .ok (.ifCond .eq 24, 3) := dk_153 0 24 (dk_at dksX2_unify_5 5 rfl rfl)
theorem dX2_unify_125 : decode cX2_unify 125 = .ok (.aload_n 0, 1) := dk_42 (dk_at dksX2_unify_5 8 rfl rfl)
theorem dX2_unify_126 : decode cX2_unify 126 = .ok (.aload_n 0, 1) := dk_42 (dk_at dksX2_unify_5 9 rfl rfl)
theorem dX2_unify_127 : decode cX2_unify 127 = .ok (.iload 5, 2) := dk_21 5 (dk_at dksX2_unify_5 10 rfl rfl)
theorem dX2_unify_129 : decode cX2_unify 129 = .ok (.invokevirtual 700, 3) := dk_182 2 188 (dk_at dksX2_unify_5 12 rfl rfl)
theorem dX2_unify_132 : decode cX2_unify 132 = .ok (.aload_n 0, 1) := dk_42 (dk_at dksX2_unify_5 15 rfl rfl)
theorem dX2_unify_133 : decode cX2_unify 133 = .ok (.iload 6, 2) := dk_21 6 (dk_at dksX2_unify_5 16 rfl rfl)
theorem dX2_unify_135 : decode cX2_unify 135 = .ok (.invokevirtual 700, 3) := dk_182 2 188 (dk_at dksX2_unify_5 18 rfl rfl)
theorem dX2_unify_138 : decode cX2_unify 138 = .ok (.iload 7, 2) := dk_21 7 (dk_at dksX2_unify_5 21 rfl rfl)
theorem dX2_unify_140 : decode cX2_unify 140 = .ok (.invokestatic 1220, 3) := dk_184 4 196 (dk_at dksX2_unify_6 0 rfl rfl)
theorem dX2_unify_143 : decode cX2_unify 143 = .ok (.goto 222, 3) := dk_167 0 222 (dk_at dksX2_unify_6 3 rfl rfl)
theorem dX2_unify_146 : decode cX2_unify 146 = .ok (.aload_n 0, 1) := dk_42 (dk_at dksX2_unify_6 6 rfl rfl)
theorem dX2_unify_147 : decode cX2_unify 147 = .ok (.iload 5, 2) := dk_21 5 (dk_at dksX2_unify_6 7 rfl rfl)
theorem dX2_unify_149 : decode cX2_unify 149 = .ok (.invokevirtual 697, 3) := dk_182 2 185 (dk_at dksX2_unify_6 9 rfl rfl)
theorem dX2_unify_152 : decode cX2_unify 152 = .ok (.ifCond .ne 12, 3) := dk_154 0 12 (dk_at dksX2_unify_6 12 rfl rfl)
theorem dX2_unify_155 : decode cX2_unify 155 = .ok (.aload_n 0, 1) := dk_42 (dk_at dksX2_unify_6 15 rfl rfl)
theorem dX2_unify_156 : decode cX2_unify 156 = .ok (.iload 6, 2) := dk_21 6 (dk_at dksX2_unify_6 16 rfl rfl)
theorem dX2_unify_158 : decode cX2_unify 158 = .ok (.invokevirtual 697, 3) := dk_182 2 185 (dk_at dksX2_unify_6 18 rfl rfl)
theorem dX2_unify_161 : decode cX2_unify 161 = .ok (.ifCond .eq 48, 3) := dk_153 0 48 (dk_at dksX2_unify_6 21 rfl rfl)
theorem dX2_unify_164 : decode cX2_unify 164 = .ok (.aload_n 0, 1) := dk_42 (dk_at dksX2_unify_7 0 rfl rfl)
theorem dX2_unify_165 : decode cX2_unify 165 = .ok (.aload_n 0, 1) := dk_42 (dk_at dksX2_unify_7 1 rfl rfl)
theorem dX2_unify_166 : decode cX2_unify 166 = .ok (.aload_n 0, 1) := dk_42 (dk_at dksX2_unify_7 2 rfl rfl)
theorem dX2_unify_167 : decode cX2_unify 167 = .ok (.iload 5, 2) := dk_21 5 (dk_at dksX2_unify_7 3 rfl rfl)
theorem dX2_unify_169 : decode cX2_unify 169 = .ok (.invokevirtual 697, 3) := dk_182 2 185 (dk_at dksX2_unify_7 5 rfl rfl)
theorem dX2_unify_172 : decode cX2_unify 172 = .ok (.ifCond .eq 8, 3) := dk_153 0 8 (dk_at dksX2_unify_7 8 rfl rfl)
theorem dX2_unify_175 : decode cX2_unify 175 = .ok (.iload 5, 2) := dk_21 5 (dk_at dksX2_unify_7 11 rfl rfl)
theorem dX2_unify_177 : decode cX2_unify 177 = .ok (.goto 5, 3) := dk_167 0 5 (dk_at dksX2_unify_7 13 rfl rfl)
theorem dX2_unify_180 : decode cX2_unify 180 = .ok (.iload 6, 2) := dk_21 6 (dk_at dksX2_unify_7 16 rfl rfl)
theorem dX2_unify_182 : decode cX2_unify 182 = .ok (.invokevirtual 700, 3) := dk_182 2 188 (dk_at dksX2_unify_7 18 rfl rfl)
theorem dX2_unify_185 : decode cX2_unify 185 = .ok (.aload_n 0, 1) := dk_42 (dk_at dksX2_unify_7 21 rfl rfl)
theorem dX2_unify_186 : decode cX2_unify 186 = .ok (.iload 5, 2) := dk_21 5 (dk_at dksX2_unify_7 22 rfl rfl)
theorem dX2_unify_188 : decode cX2_unify 188 = .ok (.invokevirtual 697, 3) := dk_182 2 185 (dk_at dksX2_unify_8 0 rfl rfl)
theorem dX2_unify_191 : decode cX2_unify 191 = .ok (.ifCond .eq 8, 3) := dk_153 0 8 (dk_at dksX2_unify_8 3 rfl rfl)
theorem dX2_unify_194 : decode cX2_unify 194 = .ok (.iload 6, 2) := dk_21 6 (dk_at dksX2_unify_8 6 rfl rfl)
theorem dX2_unify_196 : decode cX2_unify 196 = .ok (.goto 5, 3) := dk_167 0 5 (dk_at dksX2_unify_8 8 rfl rfl)
theorem dX2_unify_199 : decode cX2_unify 199 = .ok (.iload 5, 2) := dk_21 5 (dk_at dksX2_unify_8 11 rfl rfl)
theorem dX2_unify_201 : decode cX2_unify 201 = .ok (.iload 7, 2) := dk_21 7 (dk_at dksX2_unify_8 13 rfl rfl)
theorem dX2_unify_203 : decode cX2_unify 203 = .ok (.invokestatic 1223, 3) := dk_184 4 199 (dk_at dksX2_unify_8 15 rfl rfl)
theorem dX2_unify_206 : decode cX2_unify 206 = .ok (.goto 159, 3) := dk_167 0 159 (dk_at dksX2_unify_8 18 rfl rfl)
theorem dX2_unify_209 : decode cX2_unify 209 = .ok (.aload_n 0, 1) := dk_42 (dk_at dksX2_unify_8 21 rfl rfl)
theorem dX2_unify_210 : decode cX2_unify 210 = .ok (.getfield 181, 3) := dk_180 0 181 (dk_at dksX2_unify_9 0 rfl rfl)
theorem dX2_unify_213 : decode cX2_unify 213 = .ok (.iload 5, 2) := dk_21 5 (dk_at dksX2_unify_9 3 rfl rfl)
theorem dX2_unify_215 : decode cX2_unify 215 = .ok (.iaload, 1) := dk_46 (dk_at dksX2_unify_9 5 rfl rfl)
theorem dX2_unify_216 : decode cX2_unify 216 = .ok (.aload_n 0, 1) := dk_42 (dk_at dksX2_unify_9 6 rfl rfl)
theorem dX2_unify_217 : decode cX2_unify 217 = .ok (.getfield 181, 3) := dk_180 0 181 (dk_at dksX2_unify_9 7 rfl rfl)
theorem dX2_unify_220 : decode cX2_unify 220 = .ok (.iload 6, 2) := dk_21 6 (dk_at dksX2_unify_9 10 rfl rfl)
theorem dX2_unify_222 : decode cX2_unify 222 = .ok (.iaload, 1) := dk_46 (dk_at dksX2_unify_9 12 rfl rfl)
theorem dX2_unify_223 : decode cX2_unify 223 = .ok (.if_icmp .ne 142, 3) := dk_160 0 142 (dk_at dksX2_unify_9 13 rfl rfl)
theorem dX2_unify_226 : decode cX2_unify 226 = .ok (.aload_n 0, 1) := dk_42 (dk_at dksX2_unify_9 16 rfl rfl)
theorem dX2_unify_227 : decode cX2_unify 227 = .ok (.getfield 187, 3) := dk_180 0 187 (dk_at dksX2_unify_9 17 rfl rfl)
theorem dX2_unify_230 : decode cX2_unify 230 = .ok (.iload 5, 2) := dk_21 5 (dk_at dksX2_unify_9 20 rfl rfl)
theorem dX2_unify_232 : decode cX2_unify 232 = .ok (.iaload, 1) := dk_46 (dk_at dksX2_unify_9 22 rfl rfl)
theorem dX2_unify_233 : decode cX2_unify 233 = .ok (.aload_n 0, 1) := dk_42 (dk_at dksX2_unify_9 23 rfl rfl)
theorem dX2_unify_234 : decode cX2_unify 234 = .ok (.getfield 187, 3) := dk_180 0 187 (dk_at dksX2_unify_10 0 rfl rfl)
theorem dX2_unify_237 : decode cX2_unify 237 = .ok (.iload 6, 2) := dk_21 6 (dk_at dksX2_unify_10 3 rfl rfl)
theorem dX2_unify_239 : decode cX2_unify 239 = .ok (.iaload, 1) := dk_46 (dk_at dksX2_unify_10 5 rfl rfl)
theorem dX2_unify_240 : decode cX2_unify 240 = .ok (.if_icmp .ne 125, 3) := dk_160 0 125 (dk_at dksX2_unify_10 6 rfl rfl)
theorem dX2_unify_243 : decode cX2_unify 243 = .ok (.iload 7, 2) := dk_21 7 (dk_at dksX2_unify_10 9 rfl rfl)
theorem dX2_unify_245 : decode cX2_unify 245 = .ok (.istore 8, 2) := dk_54 8 (dk_at dksX2_unify_10 11 rfl rfl)
theorem dX2_unify_247 : decode cX2_unify 247 = .ok (.aload_n 0, 1) := dk_42 (dk_at dksX2_unify_10 13 rfl rfl)
theorem dX2_unify_248 : decode cX2_unify 248 = .ok (.getfield 187, 3) := dk_180 0 187 (dk_at dksX2_unify_10 14 rfl rfl)
theorem dX2_unify_251 : decode cX2_unify 251 = .ok (.iload 5, 2) := dk_21 5 (dk_at dksX2_unify_10 17 rfl rfl)
theorem dX2_unify_253 : decode cX2_unify 253 = .ok (.iaload, 1) := dk_46 (dk_at dksX2_unify_10 19 rfl rfl)
theorem dX2_unify_254 : decode cX2_unify 254 = .ok (.iconst 1, 1) := dk_4 (dk_at dksX2_unify_10 20 rfl rfl)
theorem dX2_unify_255 : decode cX2_unify 255 = .ok (.isub, 1) := dk_100 (dk_at dksX2_unify_10 21 rfl rfl)
theorem dX2_unify_256 : decode cX2_unify 256 = .ok (.istore 9, 2) := dk_54 9 (dk_at dksX2_unify_10 22 rfl rfl)
theorem dX2_unify_258 : decode cX2_unify 258 = .ok (.iload 9, 2) := dk_21 9 (dk_at dksX2_unify_11 0 rfl rfl)
theorem dX2_unify_260 : decode cX2_unify 260 = .ok (.ifCond .lt 33, 3) := dk_155 0 33 (dk_at dksX2_unify_11 2 rfl rfl)
theorem dX2_unify_263 : decode cX2_unify 263 = .ok (.aload_n 0, 1) := dk_42 (dk_at dksX2_unify_11 5 rfl rfl)
theorem dX2_unify_264 : decode cX2_unify 264 = .ok (.aload_n 0, 1) := dk_42 (dk_at dksX2_unify_11 6 rfl rfl)
theorem dX2_unify_265 : decode cX2_unify 265 = .ok (.iload 5, 2) := dk_21 5 (dk_at dksX2_unify_11 7 rfl rfl)
theorem dX2_unify_267 : decode cX2_unify 267 = .ok (.iload 9, 2) := dk_21 9 (dk_at dksX2_unify_11 9 rfl rfl)
theorem dX2_unify_269 : decode cX2_unify 269 = .ok (.invokevirtual 691, 3) := dk_182 2 179 (dk_at dksX2_unify_11 11 rfl rfl)
theorem dX2_unify_272 : decode cX2_unify 272 = .ok (.aload_n 0, 1) := dk_42 (dk_at dksX2_unify_11 14 rfl rfl)
theorem dX2_unify_273 : decode cX2_unify 273 = .ok (.iload 6, 2) := dk_21 6 (dk_at dksX2_unify_11 15 rfl rfl)
theorem dX2_unify_275 : decode cX2_unify 275 = .ok (.iload 9, 2) := dk_21 9 (dk_at dksX2_unify_11 17 rfl rfl)
theorem dX2_unify_277 : decode cX2_unify 277 = .ok (.invokevirtual 691, 3) := dk_182 2 179 (dk_at dksX2_unify_11 19 rfl rfl)
theorem dX2_unify_280 : decode cX2_unify 280 = .ok (.iload 8, 2) := dk_21 8 (dk_at dksX2_unify_11 22 rfl rfl)
theorem dX2_unify_282 : decode cX2_unify 282 = .ok (.invokevirtual 1226, 3) := dk_182 4 202 (dk_at dksX2_unify_12 0 rfl rfl)
theorem dX2_unify_285 : decode cX2_unify 285 = .ok (.istore 8, 2) := dk_54 8 (dk_at dksX2_unify_12 3 rfl rfl)
theorem dX2_unify_287 : decode cX2_unify 287 = .ok (.iinc 9 (-1), 3) := dk_132 9 255 (dk_at dksX2_unify_12 5 rfl rfl)
theorem dX2_unify_290 : decode cX2_unify 290 = .ok (.goto (-32), 3) := dk_167 255 224 (dk_at dksX2_unify_12 8 rfl rfl)
theorem dX2_unify_293 : decode cX2_unify 293 = .ok (.aload_n 0, 1) := dk_42 (dk_at dksX2_unify_12 11 rfl rfl)
theorem dX2_unify_294 : decode cX2_unify 294 = .ok (.iload 8, 2) := dk_21 8 (dk_at dksX2_unify_12 12 rfl rfl)
theorem dX2_unify_296 : decode cX2_unify 296 = .ok (.invokestatic 1217, 3) := dk_184 4 193 (dk_at dksX2_unify_12 14 rfl rfl)
theorem dX2_unify_299 : decode cX2_unify 299 = .ok (.aload_n 0, 1) := dk_42 (dk_at dksX2_unify_12 17 rfl rfl)
theorem dX2_unify_300 : decode cX2_unify 300 = .ok (.iload_n 3, 1) := dk_29 (dk_at dksX2_unify_12 18 rfl rfl)
theorem dX2_unify_301 : decode cX2_unify 301 = .ok (.invokevirtual 1229, 3) := dk_182 4 205 (dk_at dksX2_unify_12 19 rfl rfl)
theorem dX2_unify_304 : decode cX2_unify 304 = .ok (.aload_n 0, 1) := dk_42 (dk_at dksX2_unify_12 22 rfl rfl)
theorem dX2_unify_305 : decode cX2_unify 305 = .ok (.getfield 171, 3) := dk_180 0 171 (dk_at dksX2_unify_13 0 rfl rfl)
theorem dX2_unify_308 : decode cX2_unify 308 = .ok (.aload_n 0, 1) := dk_42 (dk_at dksX2_unify_13 3 rfl rfl)
theorem dX2_unify_309 : decode cX2_unify 309 = .ok (.getfield 181, 3) := dk_180 0 181 (dk_at dksX2_unify_13 4 rfl rfl)
theorem dX2_unify_312 : decode cX2_unify 312 = .ok (.iload 5, 2) := dk_21 5 (dk_at dksX2_unify_13 7 rfl rfl)
theorem dX2_unify_314 : decode cX2_unify 314 = .ok (.iaload, 1) := dk_46 (dk_at dksX2_unify_13 9 rfl rfl)
theorem dX2_unify_315 : decode cX2_unify 315 = .ok (.baload, 1) := dk_51 (dk_at dksX2_unify_13 10 rfl rfl)
theorem dX2_unify_316 : decode cX2_unify 316 = .ok (.ifCond .eq 49, 3) := dk_153 0 49 (dk_at dksX2_unify_13 11 rfl rfl)
theorem dX2_unify_319 : decode cX2_unify 319 = .ok (.aload_n 0, 1) := dk_42 (dk_at dksX2_unify_13 14 rfl rfl)
theorem dX2_unify_320 : decode cX2_unify 320 = .ok (.aload_n 0, 1) := dk_42 (dk_at dksX2_unify_13 15 rfl rfl)
theorem dX2_unify_321 : decode cX2_unify 321 = .ok (.iload 5, 2) := dk_21 5 (dk_at dksX2_unify_13 16 rfl rfl)
theorem dX2_unify_323 : decode cX2_unify 323 = .ok (.iconst 1, 1) := dk_4 (dk_at dksX2_unify_13 18 rfl rfl)
theorem dX2_unify_324 : decode cX2_unify 324 = .ok (.invokevirtual 691, 3) := dk_182 2 179 (dk_at dksX2_unify_13 19 rfl rfl)
theorem dX2_unify_327 : decode cX2_unify 327 = .ok (.aload_n 0, 1) := dk_42 (dk_at dksX2_unify_13 22 rfl rfl)
theorem dX2_unify_328 : decode cX2_unify 328 = .ok (.iload 6, 2) := dk_21 6 (dk_at dksX2_unify_14 0 rfl rfl)
theorem dX2_unify_330 : decode cX2_unify 330 = .ok (.iconst 0, 1) := dk_3 (dk_at dksX2_unify_14 2 rfl rfl)
theorem dX2_unify_331 : decode cX2_unify 331 = .ok (.invokevirtual 691, 3) := dk_182 2 179 (dk_at dksX2_unify_14 3 rfl rfl)
theorem dX2_unify_334 : decode cX2_unify 334 = .ok (.iload 7, 2) := dk_21 7 (dk_at dksX2_unify_14 6 rfl rfl)
theorem dX2_unify_336 : decode cX2_unify 336 = .ok (.invokevirtual 1226, 3) := dk_182 4 202 (dk_at dksX2_unify_14 8 rfl rfl)
theorem dX2_unify_339 : decode cX2_unify 339 = .ok (.istore 9, 2) := dk_54 9 (dk_at dksX2_unify_14 11 rfl rfl)
theorem dX2_unify_341 : decode cX2_unify 341 = .ok (.aload_n 0, 1) := dk_42 (dk_at dksX2_unify_14 13 rfl rfl)
theorem dX2_unify_342 : decode cX2_unify 342 = .ok (.aload_n 0, 1) := dk_42 (dk_at dksX2_unify_14 14 rfl rfl)
theorem dX2_unify_343 : decode cX2_unify 343 = .ok (.aload_n 0, 1) := dk_42 (dk_at dksX2_unify_14 15 rfl rfl)
theorem dX2_unify_344 : decode cX2_unify 344 = .ok (.iload 5, 2) := dk_21 5 (dk_at dksX2_unify_14 16 rfl rfl)
theorem dX2_unify_346 : decode cX2_unify 346 = .ok (.iconst 0, 1) := dk_3 (dk_at dksX2_unify_14 18 rfl rfl)
theorem dX2_unify_347 : decode cX2_unify 347 = .ok (.invokevirtual 691, 3) := dk_182 2 179 (dk_at dksX2_unify_14 19 rfl rfl)
theorem dX2_unify_350 : decode cX2_unify 350 = .ok (.aload_n 0, 1) := dk_42 (dk_at dksX2_unify_14 22 rfl rfl)
theorem dX2_unify_351 : decode cX2_unify 351 = .ok (.iload 6, 2) := dk_21 6 (dk_at dksX2_unify_15 0 rfl rfl)
theorem dX2_unify_353 : decode cX2_unify 353 = .ok (.iconst 1, 1) := dk_4 (dk_at dksX2_unify_15 2 rfl rfl)
theorem dX2_unify_354 : decode cX2_unify 354 = .ok (.invokevirtual 691, 3) := dk_182 2 179 (dk_at dksX2_unify_15 3 rfl rfl)
theorem dX2_unify_357 : decode cX2_unify 357 = .ok (.iload 9, 2) := dk_21 9 (dk_at dksX2_unify_15 6 rfl rfl)
theorem dX2_unify_359 : decode cX2_unify 359 = .ok (.invokevirtual 1226, 3) := dk_182 4 202 (dk_at dksX2_unify_15 8 rfl rfl)
theorem dX2_unify_362 : decode cX2_unify 362 = .ok (.invokestatic 1217, 3) := dk_184 4 193 (dk_at dksX2_unify_15 11 rfl rfl)
theorem dX2_unify_365 : decode cX2_unify 365 = .ok (.aload_n 0, 1) := dk_42 (dk_at dksX2_unify_15 14 rfl rfl)
theorem dX2_unify_366 : decode cX2_unify 366 = .ok (.iload_n 3, 1) := dk_29 (dk_at dksX2_unify_15 15 rfl rfl)
theorem dX2_unify_367 : decode cX2_unify 367 = .ok (.invokevirtual 1229, 3) := dk_182 4 205 (dk_at dksX2_unify_15 16 rfl rfl)
theorem dX2_unify_370 : decode cX2_unify 370 = .ok (.aload_n 0, 1) := dk_42 (dk_at dksX2_unify_15 19 rfl rfl)
theorem dX2_unify_371 : decode cX2_unify 371 = .ok (.iload_n 2, 1) := dk_28 (dk_at dksX2_unify_15 20 rfl rfl)
theorem dX2_unify_372 : decode cX2_unify 372 = .ok (.putfield 1205, 3) := dk_181 4 181 (dk_at dksX2_unify_15 21 rfl rfl)
theorem dX2_unify_375 : decode cX2_unify 375 = .ok (.aload_n 0, 1) := dk_42 (dk_at dksX2_unify_16 0 rfl rfl)
theorem dX2_unify_376 : decode cX2_unify 376 = .ok (.iload 4, 2) := dk_21 4 (dk_at dksX2_unify_16 1 rfl rfl)
theorem dX2_unify_378 : decode cX2_unify 378 = .ok (.invokevirtual 1232, 3) := dk_182 4 208 (dk_at dksX2_unify_16 3 rfl rfl)
theorem dX2_unify_381 : decode cX2_unify 381 = .ok (.aload_n 0, 1) := dk_42 (dk_at dksX2_unify_16 6 rfl rfl)
theorem dX2_unify_382 : decode cX2_unify 382 = .ok (.dup, 1) := dk_89 (dk_at dksX2_unify_16 7 rfl rfl)
theorem dX2_unify_383 : decode cX2_unify 383 = .ok (.getfield 1211, 3) := dk_180 4 187 (dk_at dksX2_unify_16 8 rfl rfl)
theorem dX2_unify_386 : decode cX2_unify 386 = .ok (.iconst 1, 1) := dk_4 (dk_at dksX2_unify_16 11 rfl rfl)
theorem dX2_unify_387 : decode cX2_unify 387 = .ok (.isub, 1) := dk_100 (dk_at dksX2_unify_16 12 rfl rfl)
theorem dX2_unify_388 : decode cX2_unify 388 = .ok (.putfield 1211, 3) := dk_181 4 187 (dk_at dksX2_unify_16 13 rfl rfl)
theorem dX2_unify_391 : decode cX2_unify 391 = .ok (.return_, 1) := dk_177 (dk_at dksX2_unify_16 16 rfl rfl)
