set_option maxRecDepth 100000
abbrev cX2_statementTerm : ByteArray := prog_4_method_86_code
def yX2_statementTerm : MethodName := ⟨RX2, "statementTerm", "(II)I"⟩
def dkwX2_statementTerm_1 : List UInt8 := [158, 0, 22, 42, 42, 180, 2, 254, 42, 180, 0, 33, 42, 180, 0, 111, 27, 46, 46, 182, 1, 178, 29, 172]
abbrev dktX2_statementTerm_1 : List UInt8 := dkwX2_statementTerm_1 ++ []
def dkwX2_statementTerm_0 : List UInt8 := [42, 42, 180, 0, 111, 27, 46, 42, 180, 0, 114, 27, 46, 28, 182, 3, 23, 62, 42, 180, 2, 254]
abbrev dktX2_statementTerm_0 : List UInt8 := dkwX2_statementTerm_0 ++ dktX2_statementTerm_1
theorem dksX2_statementTerm_0 : cX2_statementTerm.data.toList.drop 0 = dktX2_statementTerm_0 := by decide +kernel
theorem dksX2_statementTerm_1 : cX2_statementTerm.data.toList.drop 22 = dktX2_statementTerm_1 := dk_seg dksX2_statementTerm_0 22 rfl rfl
theorem dX2_statementTerm_0 : decode cX2_statementTerm 0 = .ok (.aload_n 0, 1) := dk_42 (dk_at dksX2_statementTerm_0 0 rfl rfl)
theorem dX2_statementTerm_1 : decode cX2_statementTerm 1 = .ok (.aload_n 0, 1) := dk_42 (dk_at dksX2_statementTerm_0 1 rfl rfl)
theorem dX2_statementTerm_2 : decode cX2_statementTerm 2 = .ok (.getfield 111, 3) := dk_180 0 111 (dk_at dksX2_statementTerm_0 2 rfl rfl)
theorem dX2_statementTerm_5 : decode cX2_statementTerm 5 = .ok (.iload_n 1, 1) := dk_27 (dk_at dksX2_statementTerm_0 5 rfl rfl)
theorem dX2_statementTerm_6 : decode cX2_statementTerm 6 = .ok (.iaload, 1) := dk_46 (dk_at dksX2_statementTerm_0 6 rfl rfl)
theorem dX2_statementTerm_7 : decode cX2_statementTerm 7 = .ok (.aload_n 0, 1) := dk_42 (dk_at dksX2_statementTerm_0 7 rfl rfl)
theorem dX2_statementTerm_8 : decode cX2_statementTerm 8 = .ok (.getfield 114, 3) := dk_180 0 114 (dk_at dksX2_statementTerm_0 8 rfl rfl)
theorem dX2_statementTerm_11 : decode cX2_statementTerm 11 = .ok (.iload_n 1, 1) := dk_27 (dk_at dksX2_statementTerm_0 11 rfl rfl)
theorem dX2_statementTerm_12 : decode cX2_statementTerm 12 = .ok (.iaload, 1) := dk_46 (dk_at dksX2_statementTerm_0 12 rfl rfl)
theorem dX2_statementTerm_13 : decode cX2_statementTerm 13 = .ok (.iload_n 2, 1) := dk_28 (dk_at dksX2_statementTerm_0 13 rfl rfl)
theorem dX2_statementTerm_14 : decode cX2_statementTerm 14 = .ok (.invokevirtual 791, 3) := dk_182 3 23 (dk_at dksX2_statementTerm_0 14 rfl rfl)
theorem dX2_statementTerm_17 : decode cX2_statementTerm 17 = .ok (.istore_n 3, 1) := dk_62 (dk_at dksX2_statementTerm_0 17 rfl rfl)
theorem dX2_statementTerm_18 : decode cX2_statementTerm 18 = .ok (.aload_n 0, 1) := dk_42 (dk_at dksX2_statementTerm_0 18 rfl rfl)
theorem dX2_statementTerm_19 : decode cX2_statementTerm 19 = .ok (.getfield 766, 3) := dk_180 2 254 (dk_at dksX2_statementTerm_0 19 rfl rfl)
theorem dX2_statementTerm_22 : decode cX2_statementTerm 22 = .ok (.ifCond .le 22, 3) := dk_158 0 22 (dk_at dksX2_statementTerm_1 0 rfl rfl)
theorem dX2_statementTerm_25 : decode cX2_statementTerm 25 = .ok (.aload_n 0, 1) := dk_42 (dk_at dksX2_statementTerm_1 3 rfl rfl)
theorem dX2_statementTerm_26 : decode cX2_statementTerm 26 = .ok (.aload_n 0, 1) := dk_42 (dk_at dksX2_statementTerm_1 4 rfl rfl)
theorem dX2_statementTerm_27 : decode cX2_statementTerm 27 = .ok (.getfield 766, 3) := dk_180 2 254 (dk_at dksX2_statementTerm_1 5 rfl rfl)
theorem dX2_statementTerm_30 : decode cX2_statementTerm 30 = .ok (.aload_n 0, 1) := dk_42 (dk_at dksX2_statementTerm_1 8 rfl rfl)
theorem dX2_statementTerm_31 : decode cX2_statementTerm 31 = .ok (.getfield 33, 3) := dk_180 0 33 (dk_at dksX2_statementTerm_1 9 rfl rfl)
theorem dX2_statementTerm_34 : decode cX2_statementTerm 34 = .ok (.aload_n 0, 1) := dk_42 (dk_at dksX2_statementTerm_1 12 rfl rfl)
theorem dX2_statementTerm_35 : decode cX2_statementTerm 35 = .ok (.getfield 111, 3) := dk_180 0 111 (dk_at dksX2_statementTerm_1 13 rfl rfl)
theorem dX2_statementTerm_38 : decode cX2_statementTerm 38 = .ok (.iload_n 1, 1) := dk_27 (dk_at dksX2_statementTerm_1 16 rfl rfl)
theorem dX2_statementTerm_39 : decode cX2_statementTerm 39 = .ok (.iaload, 1) := dk_46 (dk_at dksX2_statementTerm_1 17 rfl rfl)
theorem dX2_statementTerm_40 : decode cX2_statementTerm 40 = .ok (.iaload, 1) := dk_46 (dk_at dksX2_statementTerm_1 18 rfl rfl)
theorem dX2_statementTerm_41 : decode cX2_statementTerm 41 = .ok (.invokevirtual 434, 3) := dk_182 1 178 (dk_at dksX2_statementTerm_1 19 rfl rfl)
theorem dX2_statementTerm_44 : decode cX2_statementTerm 44 = .ok (.iload_n 3, 1) := dk_29 (dk_at dksX2_statementTerm_1 22 rfl rfl)
theorem dX2_statementTerm_45 : decode cX2_statementTerm 45 = .ok (.ireturn, 1) := dk_172 (dk_at dksX2_statementTerm_1 23 rfl rfl)
abbrev cX2_readTerm : ByteArray := prog_4_method_83_code
def yX2_readTerm : MethodName := ⟨RX2, "readTerm", "(III)I"⟩
def dkwX2_readTerm_6 : List UInt8 := [167, 0, 4, 3, 181, 2, 254, 21, 6, 172]
abbrev dktX2_readTerm_6 : List UInt8 := dkwX2_readTerm_6 ++ []
def dkwX2_readTerm_5 : List UInt8 := [17, 3, 232, 184, 2, 241, 54, 6, 42, 42, 180, 0, 190, 21, 6, 46, 16, 40, 164, 0, 8, 16, 6]
abbrev dktX2_readTerm_5 : List UInt8 := dkwX2_readTerm_5 ++ dktX2_readTerm_6
def dkwX2_readTerm_4 : List UInt8 := [167, 0, 4, 3, 181, 2, 254, 42, 180, 2, 254, 158, 0, 6, 16, 254, 172, 42, 3, 28, 21, 5]
abbrev dktX2_readTerm_4 : List UInt8 := dkwX2_readTerm_4 ++ dktX2_readTerm_5
def dkwX2_readTerm_3 : List UInt8 := [167, 255, 200, 42, 21, 4, 154, 0, 8, 16, 6, 167, 0, 15, 21, 4, 4, 164, 0, 8, 16, 7]
abbrev dktX2_readTerm_3 : List UInt8 := dkwX2_readTerm_3 ++ dktX2_readTerm_4
def dkwX2_readTerm_2 : List UInt8 := [21, 4, 21, 7, 96, 54, 4, 21, 7, 158, 0, 8, 21, 6, 167, 0, 5, 21, 5, 54, 5, 132, 6, 1]
abbrev dktX2_readTerm_2 : List UInt8 := dkwX2_readTerm_2 ++ dktX2_readTerm_3
def dkwX2_readTerm_1 : List UInt8 := [29, 155, 0, 9, 21, 6, 29, 160, 0, 37, 42, 3, 28, 21, 6, 17, 3, 232, 182, 2, 213, 54, 7]
abbrev dktX2_readTerm_1 : List UInt8 := dkwX2_readTerm_1 ++ dktX2_readTerm_2
def dkwX2_readTerm_0 : List UInt8 := [42, 27, 28, 182, 2, 251, 3, 54, 4, 2, 54, 5, 3, 54, 6, 21, 6, 42, 180, 2, 119, 162, 0, 53]
abbrev dktX2_readTerm_0 : List UInt8 := dkwX2_readTerm_0 ++ dktX2_readTerm_1
theorem dksX2_readTerm_0 : cX2_readTerm.data.toList.drop 0 = dktX2_readTerm_0 := by decide +kernel
theorem dksX2_readTerm_1 : cX2_readTerm.data.toList.drop 24 = dktX2_readTerm_1 := dk_seg dksX2_readTerm_0 24 rfl rfl
theorem dksX2_readTerm_2 : cX2_readTerm.data.toList.drop 47 = dktX2_readTerm_2 := dk_seg dksX2_readTerm_1 23 rfl rfl
theorem dksX2_readTerm_3 : cX2_readTerm.data.toList.drop 71 = dktX2_readTerm_3 := dk_seg dksX2_readTerm_2 24 rfl rfl
theorem dksX2_readTerm_4 : cX2_readTerm.data.toList.drop 93 = dktX2_readTerm_4 := dk_seg dksX2_readTerm_3 22 rfl rfl
theorem dksX2_readTerm_5 : cX2_readTerm.data.toList.drop 115 = dktX2_readTerm_5 := dk_seg dksX2_readTerm_4 22 rfl rfl
theorem dksX2_readTerm_6 : cX2_readTerm.data.toList.drop 138 = dktX2_readTerm_6 := dk_seg dksX2_readTerm_5 23 rfl rfl
theorem dX2_readTerm_0 : decode cX2_readTerm 0 = .ok (.aload_n 0, 1) := dk_42 (dk_at dksX2_readTerm_0 0 rfl rfl)
theorem dX2_readTerm_1 : decode cX2_readTerm 1 = .ok (.iload_n 1, 1) := dk_27 (dk_at dksX2_readTerm_0 1 rfl rfl)
theorem dX2_readTerm_2 : decode cX2_readTerm 2 = .ok (.iload_n 2, 1) := dk_28 (dk_at dksX2_readTerm_0 2 rfl rfl)
theorem dX2_readTerm_3 : decode cX2_readTerm 3 = .ok (.invokevirtual 763, 3) := dk_182 2 251 (dk_at dksX2_readTerm_0 3 rfl rfl)
theorem dX2_readTerm_6 : decode cX2_readTerm 6 = .ok (.iconst 0, 1) := dk_3 (dk_at dksX2_readTerm_0 6 rfl rfl)
theorem dX2_readTerm_7 : decode cX2_readTerm 7 = .ok (.istore 4, 2) := dk_54 4 (dk_at dksX2_readTerm_0 7 rfl rfl)
theorem dX2_readTerm_9 : decode cX2_readTerm 9 = .ok (.iconst (-1), 1) := dk_2 (dk_at dksX2_readTerm_0 9 rfl rfl)
theorem dX2_readTerm_10 : decode cX2_readTerm 10 = .ok (.istore 5, 2) := dk_54 5 (dk_at dksX2_readTerm_0 10 rfl rfl)
theorem dX2_readTerm_12 : decode cX2_readTerm 12 = .ok (.iconst 0, 1) := dk_3 (dk_at dksX2_readTerm_0 12 rfl rfl)
theorem dX2_readTerm_13 : decode cX2_readTerm 13 = .ok (.istore 6, 2) := dk_54 6 (dk_at dksX2_readTerm_0 13 rfl rfl)
theorem dX2_readTerm_15 : decode cX2_readTerm 15 = .ok (.iload 6, 2) := dk_21 6 (dk_at dksX2_readTerm_0 15 rfl rfl)
theorem dX2_readTerm_17 : decode cX2_readTerm 17 = .ok (.aload_n 0, 1) := dk_42 (dk_at dksX2_readTerm_0 17 rfl rfl)
theorem dX2_readTerm_18 : decode cX2_readTerm 18 = .ok (.getfield 631, 3) := dk_180 2 119 (dk_at dksX2_readTerm_0 18 rfl rfl)
theorem dX2_readTerm_21 : decode cX2_readTerm 21 = .ok (.if_icmp .ge 53, 3) := dk_162 0 53 (dk_at dksX2_readTerm_0 21 rfl rfl)
theorem dX2_readTerm_24 : decode cX2_readTerm 24 = .ok (.iload_n 3, 1) := dk_29 (dk_at dksX2_readTerm_1 0 rfl rfl)
theorem dX2_readTerm_25 : decode cX2_readTerm 25 = .ok (.ifCond .lt 9, 3) := dk_155 0 9 (dk_at dksX2_readTerm_1 1 rfl rfl)
theorem dX2_readTerm_28 : decode cX2_readTerm 28 = .ok (.iload 6, 2) := dk_21 6 (dk_at dksX2_readTerm_1 4 rfl rfl)
theorem dX2_readTerm_30 : decode cX2_readTerm 30 = .ok (.iload_n 3, 1) := dk_29 (dk_at dksX2_readTerm_1 6 rfl rfl)
theorem dX2_readTerm_31 : decode cX2_readTerm 31 = .ok (.if_icmp .ne 37, 3) := dk_160 0 37 (dk_at dksX2_readTerm_1 7 rfl rfl)
theorem dX2_readTerm_34 : decode cX2_readTerm 34 = .ok (.aload_n 0, 1) := dk_42 (dk_at dksX2_readTerm_1 10 rfl rfl)
theorem dX2_readTerm_35 : decode cX2_readTerm 35 = .ok (.iconst 0, 1) := dk_3 (dk_at dksX2_readTerm_1 11 rfl rfl)
theorem dX2_readTerm_36 : decode cX2_readTerm 36 = .ok (.iload_n 2, 1) := dk_28 (dk_at dksX2_readTerm_1 12 rfl rfl)
theorem dX2_readTerm_37 : decode cX2_readTerm 37 = .ok (.iload 6, 2) := dk_21 6 (dk_at dksX2_readTerm_1 13 rfl rfl)
theorem dX2_readTerm_39 : decode cX2_readTerm 39 = .ok (.sipush 1000, 3) := dk_17 3 232 (dk_at dksX2_readTerm_1 15 rfl rfl)
theorem dX2_readTerm_42 : decode cX2_readTerm 42 = .ok (.invokevirtual 725, 3) := dk_182 2 213 (dk_at dksX2_readTerm_1 18 rfl rfl)
theorem dX2_readTerm_45 : decode cX2_readTerm 45 = .ok (.istore 7, 2) := dk_54 7 (dk_at dksX2_readTerm_1 21 rfl rfl)
theorem dX2_readTerm_47 : decode cX2_readTerm 47 = .ok (.iload 4, 2) := dk_21 4 (dk_at dksX2_readTerm_2 0 rfl rfl)
theorem dX2_readTerm_49 : decode cX2_readTerm 49 = .ok (.iload 7, 2) := dk_21 7 (dk_at dksX2_readTerm_2 2 rfl rfl)
theorem dX2_readTerm_51 : decode cX2_readTerm 51 = .ok (.iadd, 1) := dk_96 (dk_at dksX2_readTerm_2 4 rfl rfl)
theorem dX2_readTerm_52 : decode cX2_readTerm 52 = .ok (.istore 4, 2) := dk_54 4 (dk_at dksX2_readTerm_2 5 rfl rfl)
theorem dX2_readTerm_54 : decode cX2_readTerm 54 = .ok (.iload 7, 2) := dk_21 7 (dk_at dksX2_readTerm_2 7 rfl rfl)
theorem dX2_readTerm_56 : decode cX2_readTerm 56 = .ok (.ifCond .le 8, 3) := dk_158 0 8 (dk_at dksX2_readTerm_2 9 rfl rfl)
theorem dX2_readTerm_59 : decode cX2_readTerm 59 = .ok (.iload 6, 2) := dk_21 6 (dk_at dksX2_readTerm_2 12 rfl rfl)
theorem dX2_readTerm_61 : decode cX2_readTerm 61 = .ok (.goto 5, 3) := dk_167 0 5 (dk_at dksX2_readTerm_2 14 rfl rfl)
theorem dX2_readTerm_64 : decode cX2_readTerm 64 = .ok (.iload 5, 2) := dk_21 5 (dk_at dksX2_readTerm_2 17 rfl rfl)
theorem dX2_readTerm_66 : decode cX2_readTerm 66 = .ok (.istore 5, 2) := dk_54 5 (dk_at dksX2_readTerm_2 19 rfl rfl)
theorem dX2_readTerm_68 : decode cX2_readTerm 68 = .ok (.iinc 6 1, 3) := dk_132 6 1 (dk_at dksX2_readTerm_2 21 rfl rfl)
theorem dX2_readTerm_71 : decode cX2_readTerm 71 = .ok (.goto (-56), 3) := dk_167 255 200 (dk_at dksX2_readTerm_3 0 rfl rfl)
theorem dX2_readTerm_74 : decode cX2_readTerm 74 = .ok (.aload_n 0, 1) := dk_42 (dk_at dksX2_readTerm_3 3 rfl rfl)
theorem dX2_readTerm_75 : decode cX2_readTerm 75 = .ok (.iload 4, 2) := dk_21 4 (dk_at dksX2_readTerm_3 4 rfl rfl)
theorem dX2_readTerm_77 : decode cX2_readTerm 77 = .ok (.ifCond .ne 8, 3) := dk_154 0 8 (dk_at dksX2_readTerm_3 6 rfl rfl)
theorem dX2_readTerm_80 : decode cX2_readTerm 80 = .ok (.bipush 6, 2) := dk_16 6 (dk_at dksX2_readTerm_3 9 rfl rfl)
theorem dX2_readTerm_82 : decode cX2_readTerm 82 = .ok (.goto 15, 3) := dk_167 0 15 (dk_at dksX2_readTerm_3 11 rfl rfl)
theorem dX2_readTerm_85 : decode cX2_readTerm 85 = .ok (.iload 4, 2) := dk_21 4 (dk_at dksX2_readTerm_3 14 rfl rfl)
theorem dX2_readTerm_87 : decode cX2_readTerm 87 = .ok (.iconst 1, 1) := dk_4 (dk_at dksX2_readTerm_3 16 rfl rfl)
theorem dX2_readTerm_88 : decode cX2_readTerm 88 = .ok (.if_icmp .le 8, 3) := dk_164 0 8 (dk_at dksX2_readTerm_3 17 rfl rfl)
theorem dX2_readTerm_91 : decode cX2_readTerm 91 = .ok (.bipush 7, 2) := dk_16 7 (dk_at dksX2_readTerm_3 20 rfl rfl)
theorem dX2_readTerm_93 : decode cX2_readTerm 93 = .ok (.goto 4, 3) := dk_167 0 4 (dk_at dksX2_readTerm_4 0 rfl rfl)
theorem dX2_readTerm_96 : decode cX2_readTerm 96 = .ok (.iconst 0, 1) := dk_3 (dk_at dksX2_readTerm_4 3 rfl rfl)
theorem dX2_readTerm_97 : decode cX2_readTerm 97 = .ok (.putfield 766, 3) := dk_181 2 254 (dk_at dksX2_readTerm_4 4 rfl rfl)
theorem dX2_readTerm_100 : decode cX2_readTerm 100 = .ok (.aload_n 0, 1) := dk_42 (dk_at dksX2_readTerm_4 7 rfl rfl)
theorem dX2_readTerm_101 : decode cX2_readTerm 101 = .ok (.getfield 766, 3) := dk_180 2 254 (dk_at dksX2_readTerm_4 8 rfl rfl)
theorem dX2_readTerm_104 : decode cX2_readTerm 104 = .ok (.ifCond .le 6, 3) := dk_158 0 6 (dk_at dksX2_readTerm_4 11 rfl rfl)
theorem dX2_readTerm_107 : decode cX2_readTerm 107 = .ok (.bipush (-2), 2) := dk_16 254 (dk_at dksX2_readTerm_4 14 rfl rfl)
theorem dX2_readTerm_109 : decode cX2_readTerm 109 = .ok (.ireturn, 1) := dk_172 (dk_at dksX2_readTerm_4 16 rfl rfl)
theorem dX2_readTerm_110 : decode cX2_readTerm 110 = .ok (.aload_n 0, 1) := dk_42 (dk_at dksX2_readTerm_4 17 rfl rfl)
theorem dX2_readTerm_111 : decode cX2_readTerm 111 = .ok (.iconst 0, 1) := dk_3 (dk_at dksX2_readTerm_4 18 rfl rfl)
theorem dX2_readTerm_112 : decode cX2_readTerm 112 = .ok (.iload_n 2, 1) := dk_28 (dk_at dksX2_readTerm_4 19 rfl rfl)
theorem dX2_readTerm_113 : decode cX2_readTerm 113 = .ok (.iload 5, 2) := dk_21 5 (dk_at dksX2_readTerm_4 20 rfl rfl)
theorem dX2_readTerm_115 : decode cX2_readTerm 115 = .ok (.sipush 1000, 3) := dk_17 3 232 (dk_at dksX2_readTerm_5 0 rfl rfl)
theorem dX2_readTerm_118 : decode cX2_readTerm 118 = .ok (.invokestatic 753, 3) := dk_184 2 241 (dk_at dksX2_readTerm_5 3 rfl rfl)
theorem dX2_readTerm_121 : decode cX2_readTerm 121 = .ok (.istore 6, 2) := dk_54 6 (dk_at dksX2_readTerm_5 6 rfl rfl)
theorem dX2_readTerm_123 : decode cX2_readTerm 123 = .ok (.aload_n 0, 1) := dk_42 (dk_at dksX2_readTerm_5 8 rfl rfl)
theorem dX2_readTerm_124 : decode cX2_readTerm 124 = .ok (.aload_n 0, 1) := dk_42 (dk_at dksX2_readTerm_5 9 rfl rfl)
theorem dX2_readTerm_125 : decode cX2_readTerm 125 = .ok (.getfield 190, 3) := dk_180 0 190 (dk_at dksX2_readTerm_5 10 rfl rfl)
theorem dX2_readTerm_128 : decode cX2_readTerm 128 = .ok (.iload 6, 2) := dk_21 6 (dk_at dksX2_readTerm_5 13 rfl rfl)
theorem dX2_readTerm_130 : decode cX2_readTerm 130 = .ok (.iaload, 1) := dk_46 (dk_at dksX2_readTerm_5 15 rfl rfl)
theorem dX2_readTerm_131 : decode cX2_readTerm 131 = .ok (.bipush 40, 2) := dk_16 40 (dk_at dksX2_readTerm_5 16 rfl rfl)
theorem dX2_readTerm_133 : decode cX2_readTerm 133 = .ok (.if_icmp .le 8, 3) := dk_164 0 8 (dk_at dksX2_readTerm_5 18 rfl rfl)
theorem dX2_readTerm_136 : decode cX2_readTerm 136 = .ok (.bipush 6, 2) := dk_16 6 (dk_at dksX2_readTerm_5 21 rfl rfl)
theorem dX2_readTerm_138 : decode cX2_readTerm 138 = .ok (.goto 4, 3) := dk_167 0 4 (dk_at dksX2_readTerm_6 0 rfl rfl)
theorem dX2_readTerm_141 : decode cX2_readTerm 141 = .ok (.iconst 0, 1) := dk_3 (dk_at dksX2_readTerm_6 3 rfl rfl)
theorem dX2_readTerm_142 : decode cX2_readTerm 142 = .ok (.putfield 766, 3) := dk_181 2 254 (dk_at dksX2_readTerm_6 4 rfl rfl)
theorem dX2_readTerm_145 : decode cX2_readTerm 145 = .ok (.iload 6, 2) := dk_21 6 (dk_at dksX2_readTerm_6 7 rfl rfl)
theorem dX2_readTerm_147 : decode cX2_readTerm 147 = .ok (.ireturn, 1) := dk_172 (dk_at dksX2_readTerm_6 9 rfl rfl)
abbrev cX2_takeWords : ByteArray := prog_4_method_79_code
def yX2_takeWords : MethodName := ⟨RX2, "takeWords", "(II)V"⟩
def dkwX2_takeWords_7 : List UInt8 := [42, 21, 4, 21, 4, 29, 96, 182, 2, 235, 132, 4, 1, 167, 255, 235, 132, 3, 1, 167, 255, 221, 177]
abbrev dktX2_takeWords_7 : List UInt8 := dkwX2_takeWords_7 ++ []
def dkwX2_takeWords_6 : List UInt8 := [132, 3, 1, 167, 255, 142, 4, 62, 29, 28, 163, 0, 36, 3, 54, 4, 21, 4, 29, 96, 28, 163, 0, 19]
abbrev dktX2_takeWords_6 : List UInt8 := dkwX2_takeWords_6 ++ dktX2_takeWords_7
def dkwX2_takeWords_5 : List UInt8 := [21, 5, 160, 0, 8, 21, 6, 167, 0, 9, 42, 180, 0, 219, 29, 46, 79, 132, 6, 1, 167, 255, 210]
abbrev dktX2_takeWords_5 : List UInt8 := dkwX2_takeWords_5 ++ dktX2_takeWords_6
def dkwX2_takeWords_4 : List UInt8 := [180, 2, 23, 162, 0, 43, 21, 5, 155, 0, 38, 42, 180, 0, 219, 29, 42, 180, 0, 135, 21, 6, 46]
abbrev dktX2_takeWords_4 : List UInt8 := dkwX2_takeWords_4 ++ dktX2_takeWords_5
def dkwX2_takeWords_3 : List UInt8 := [182, 2, 232, 167, 0, 5, 21, 5, 79, 42, 180, 0, 219, 29, 2, 79, 3, 54, 6, 21, 6, 42]
abbrev dktX2_takeWords_3 : List UInt8 := dkwX2_takeWords_3 ++ dktX2_takeWords_4
def dkwX2_takeWords_2 : List UInt8 := [180, 0, 37, 21, 4, 46, 182, 1, 235, 54, 5, 42, 180, 0, 216, 29, 21, 5, 156, 0, 12, 42, 21, 4]
abbrev dktX2_takeWords_2 : List UInt8 := dkwX2_takeWords_2 ++ dktX2_takeWords_3
def dkwX2_takeWords_1 : List UInt8 := [181, 2, 229, 3, 62, 29, 28, 162, 0, 115, 27, 29, 96, 54, 4, 42, 42, 180, 0, 33, 21, 4, 46, 42]
abbrev dktX2_takeWords_1 : List UInt8 := dkwX2_takeWords_1 ++ dktX2_takeWords_2
def dkwX2_takeWords_0 : List UInt8 := [42, 42, 16, 40, 182, 2, 226, 181, 2, 217, 42, 42, 16, 41, 182, 2, 226, 181, 2, 220, 42, 28]
abbrev dktX2_takeWords_0 : List UInt8 := dkwX2_takeWords_0 ++ dktX2_takeWords_1
theorem dksX2_takeWords_0 : cX2_takeWords.data.toList.drop 0 = dktX2_takeWords_0 := by decide +kernel
theorem dksX2_takeWords_1 : cX2_takeWords.data.toList.drop 22 = dktX2_takeWords_1 := dk_seg dksX2_takeWords_0 22 rfl rfl
theorem dksX2_takeWords_2 : cX2_takeWords.data.toList.drop 46 = dktX2_takeWords_2 := dk_seg dksX2_takeWords_1 24 rfl rfl
theorem dksX2_takeWords_3 : cX2_takeWords.data.toList.drop 70 = dktX2_takeWords_3 := dk_seg dksX2_takeWords_2 24 rfl rfl
theorem dksX2_takeWords_4 : cX2_takeWords.data.toList.drop 92 = dktX2_takeWords_4 := dk_seg dksX2_takeWords_3 22 rfl rfl
theorem dksX2_takeWords_5 : cX2_takeWords.data.toList.drop 115 = dktX2_takeWords_5 := dk_seg dksX2_takeWords_4 23 rfl rfl
theorem dksX2_takeWords_6 : cX2_takeWords.data.toList.drop 138 = dktX2_takeWords_6 := dk_seg dksX2_takeWords_5 23 rfl rfl
theorem dksX2_takeWords_7 : cX2_takeWords.data.toList.drop 162 = dktX2_takeWords_7 := dk_seg dksX2_takeWords_6 24 rfl rfl
theorem dX2_takeWords_0 : decode cX2_takeWords 0 = .ok (.aload_n 0, 1) := dk_42 (dk_at dksX2_takeWords_0 0 rfl rfl)
theorem dX2_takeWords_1 : decode cX2_takeWords 1 = .ok (.aload_n 0, 1) := dk_42 (dk_at dksX2_takeWords_0 1 rfl rfl)
theorem dX2_takeWords_2 : decode cX2_takeWords 2 = .ok (.bipush 40, 2) := dk_16 40 (dk_at dksX2_takeWords_0 2 rfl rfl)
theorem dX2_takeWords_4 : decode cX2_takeWords 4 = .ok (.invokevirtual 738, 3) := dk_182 2 226 (dk_at dksX2_takeWords_0 4 rfl rfl)
theorem dX2_takeWords_7 : decode cX2_takeWords 7 = .ok (.putfield 729, 3) := dk_181 2 217 (dk_at dksX2_takeWords_0 7 rfl rfl)
theorem dX2_takeWords_10 : decode cX2_takeWords 10 = .ok (.aload_n 0, 1) := dk_42 (dk_at dksX2_takeWords_0 10 rfl rfl)
theorem dX2_takeWords_11 : decode cX2_takeWords 11 = .ok (.aload_n 0, 1) := dk_42 (dk_at dksX2_takeWords_0 11 rfl rfl)
theorem dX2_takeWords_12 : decode cX2_takeWords 12 = .ok (.bipush 41, 2) := dk_16 41 (dk_at dksX2_takeWords_0 12 rfl rfl)
theorem dX2_takeWords_14 : decode cX2_takeWords 14 = .ok (.invokevirtual 738, 3) := dk_182 2 226 (dk_at dksX2_takeWords_0 14 rfl rfl)
theorem dX2_takeWords_17 : decode cX2_takeWords 17 = .ok (.putfield 732, 3) := dk_181 2 220 (dk_at dksX2_takeWords_0 17 rfl rfl)
theorem dX2_takeWords_20 : decode cX2_takeWords 20 = .ok (.aload_n 0, 1) := dk_42 (dk_at dksX2_takeWords_0 20 rfl rfl)
theorem dX2_takeWords_21 : decode cX2_takeWords 21 = .ok (.iload_n 2, 1) := dk_28 (dk_at dksX2_takeWords_0 21 rfl rfl)
theorem dX2_takeWords_22 : decode cX2_takeWords 22 = .ok (.putfield 741, 3) := dk_181 2 229 (dk_at dksX2_takeWords_1 0 rfl rfl)
theorem dX2_takeWords_25 : decode cX2_takeWords 25 = .ok (.iconst 0, 1) := dk_3 (dk_at dksX2_takeWords_1 3 rfl rfl)
theorem dX2_takeWords_26 : decode cX2_takeWords 26 = .ok (.istore_n 3, 1) := dk_62 (dk_at dksX2_takeWords_1 4 rfl rfl)
theorem dX2_takeWords_27 : decode cX2_takeWords 27 = .ok (.iload_n 3, 1) := dk_29 (dk_at dksX2_takeWords_1 5 rfl rfl)
theorem dX2_takeWords_28 : decode cX2_takeWords 28 = .ok (.iload_n 2, 1) := dk_28 (dk_at dksX2_takeWords_1 6 rfl rfl)
theorem dX2_takeWords_29 : decode cX2_takeWords 29 = .ok (.if_icmp .ge 115, 3) := dk_162 0 115 (dk_at dksX2_takeWords_1 7 rfl rfl)
theorem dX2_takeWords_32 : decode cX2_takeWords 32 = .ok (.iload_n 1, 1) := dk_27 (dk_at dksX2_takeWords_1 10 rfl rfl)
theorem dX2_takeWords_33 : decode cX2_takeWords 33 = .ok (.iload_n 3, 1) := dk_29 (dk_at dksX2_takeWords_1 11 rfl rfl)
theorem dX2_takeWords_34 : decode cX2_takeWords 34 = .ok (.iadd, 1) := dk_96 (dk_at dksX2_takeWords_1 12 rfl rfl)
theorem dX2_takeWords_35 : decode cX2_takeWords 35 = .ok (.istore 4, 2) := dk_54 4 (dk_at dksX2_takeWords_1 13 rfl rfl)
theorem dX2_takeWords_37 : decode cX2_takeWords 37 = .ok (.aload_n 0, 1) := dk_42 (dk_at dksX2_takeWords_1 15 rfl rfl)
theorem dX2_takeWords_38 : decode cX2_takeWords 38 = .ok (.aload_n 0, 1) := dk_42 (dk_at dksX2_takeWords_1 16 rfl rfl)
theorem dX2_takeWords_39 : decode cX2_takeWords 39 = .ok (.getfield 33, 3) := dk_180 0 33 (dk_at dksX2_takeWords_1 17 rfl rfl)
theorem dX2_takeWords_42 : decode cX2_takeWords 42 = .ok (.iload 4, 2) := dk_21 4 (dk_at dksX2_takeWords_1 20 rfl rfl)
theorem dX2_takeWords_44 : decode cX2_takeWords 44 = .ok (.iaload, 1) := dk_46 (dk_at dksX2_takeWords_1 22 rfl rfl)
theorem dX2_takeWords_45 : decode cX2_takeWords 45 = .ok (.aload_n 0, 1) := dk_42 (dk_at dksX2_takeWords_1 23 rfl rfl)
theorem dX2_takeWords_46 : decode cX2_takeWords 46 = .ok (.getfield 37, 3) := dk_180 0 37 (dk_at dksX2_takeWords_2 0 rfl rfl)
theorem dX2_takeWords_49 : decode cX2_takeWords 49 = .ok (.iload 4, 2) := dk_21 4 (dk_at dksX2_takeWords_2 3 rfl rfl)
theorem dX2_takeWords_51 : decode cX2_takeWords 51 = .ok (.iaload, 1) := dk_46 (dk_at dksX2_takeWords_2 5 rfl rfl)
theorem dX2_takeWords_52 : decode cX2_takeWords 52 = .ok (.invokevirtual 491, 3) := dk_182 1 235 (dk_at dksX2_takeWords_2 6 rfl rfl)
theorem dX2_takeWords_55 : decode cX2_takeWords 55 = .ok (.istore 5, 2) := dk_54 5 (dk_at dksX2_takeWords_2 9 rfl rfl)
theorem dX2_takeWords_57 : decode cX2_takeWords 57 = .ok (.aload_n 0, 1) := dk_42 (dk_at dksX2_takeWords_2 11 rfl rfl)
theorem dX2_takeWords_58 : decode cX2_takeWords 58 = .ok (.getfield 216, 3) := dk_180 0 216 (dk_at dksX2_takeWords_2 12 rfl rfl)
theorem dX2_takeWords_61 : decode cX2_takeWords 61 = .ok (.iload_n 3, 1) := dk_29 (dk_at dksX2_takeWords_2 15 rfl rfl)
theorem dX2_takeWords_62 : decode cX2_takeWords 62 = .ok (.iload 5, 2) := dk_21 5 (dk_at dksX2_takeWords_2 16 rfl rfl)
theorem dX2_takeWords_64 : decode cX2_takeWords 64 = .ok (.ifCond .ge 12, 3) := dk_156 0 12 (dk_at dksX2_takeWords_2 18 rfl rfl)
theorem dX2_takeWords_67 : decode cX2_takeWords 67 = .ok (.aload_n 0, 1) := dk_42 (dk_at dksX2_takeWords_2 21 rfl rfl)
theorem dX2_takeWords_68 : decode cX2_takeWords 68 = .ok (.iload 4, 2) := dk_21 4 (dk_at dksX2_takeWords_2 22 rfl rfl)
theorem dX2_takeWords_70 : decode cX2_takeWords 70 = .ok (.invokevirtual 744, 3) := dk_182 2 232 (dk_at dksX2_takeWords_3 0 rfl rfl)
theorem dX2_takeWords_73 : decode cX2_takeWords 73 = .ok (.goto 5, 3) := dk_167 0 5 (dk_at dksX2_takeWords_3 3 rfl rfl)
theorem dX2_takeWords_76 : decode cX2_takeWords 76 = .ok (.iload 5, 2) := dk_21 5 (dk_at dksX2_takeWords_3 6 rfl rfl)
theorem dX2_takeWords_78 : decode cX2_takeWords 78 = .ok (.iastore, 1) := dk_79 (dk_at dksX2_takeWords_3 8 rfl rfl)
theorem dX2_takeWords_79 : decode cX2_takeWords 79 = .ok (.aload_n 0, 1) := dk_42 (dk_at dksX2_takeWords_3 9 rfl rfl)
theorem dX2_takeWords_80 : decode cX2_takeWords 80 = .ok (.getfield 219, 3) := dk_180 0 219 (dk_at dksX2_takeWords_3 10 rfl rfl)
theorem dX2_takeWords_83 : decode cX2_takeWords 83 = .ok (.iload_n 3, 1) := dk_29 (dk_at dksX2_takeWords_3 13 rfl rfl)
theorem dX2_takeWords_84 : decode cX2_takeWords 84 = .ok (.iconst (-1), 1) := dk_2 (dk_at dksX2_takeWords_3 14 rfl rfl)
theorem dX2_takeWords_85 : decode cX2_takeWords 85 = .ok (.iastore, 1) := dk_79 (dk_at dksX2_takeWords_3 15 rfl rfl)
theorem dX2_takeWords_86 : decode cX2_takeWords 86 = .ok (.iconst 0, 1) := dk_3 (dk_at dksX2_takeWords_3 16 rfl rfl)
theorem dX2_takeWords_87 : decode cX2_takeWords 87 = .ok (.istore 6, 2) := dk_54 6 (dk_at dksX2_takeWords_3 17 rfl rfl)
theorem dX2_takeWords_89 : decode cX2_takeWords 89 = .ok (.iload 6, 2) := dk_21 6 (dk_at dksX2_takeWords_3 19 rfl rfl)
theorem dX2_takeWords_91 : decode cX2_takeWords 91 = .ok (.aload_n 0, 1) := dk_42 (dk_at dksX2_takeWords_3 21 rfl rfl)
theorem dX2_takeWords_92 : decode cX2_takeWords 92 = .ok (.getfield 535, 3) := dk_180 2 23 (dk_at dksX2_takeWords_4 0 rfl rfl)
theorem dX2_takeWords_95 : decode cX2_takeWords 95 = .ok (.if_icmp .ge 43, 3) := dk_162 0 43 (dk_at dksX2_takeWords_4 3 rfl rfl)
theorem dX2_takeWords_98 : decode cX2_takeWords 98 = .ok (.iload 5, 2) := dk_21 5 (dk_at dksX2_takeWords_4 6 rfl rfl)
theorem dX2_takeWords_100 : decode cX2_takeWords 100 = .ok (.ifCond .lt 38, 3) := dk_155 0 38 (dk_at dksX2_takeWords_4 8 rfl rfl)
theorem dX2_takeWords_103 : decode cX2_takeWords 103 = .ok (.aload_n 0, 1) := dk_42 (dk_at dksX2_takeWords_4 11 rfl rfl)
theorem dX2_takeWords_104 : decode cX2_takeWords 104 = .ok (.getfield 219, 3) := dk_180 0 219 (dk_at dksX2_takeWords_4 12 rfl rfl)
theorem dX2_takeWords_107 : decode cX2_takeWords 107 = .ok (.iload_n 3, 1) := dk_29 (dk_at dksX2_takeWords_4 15 rfl rfl)
theorem dX2_takeWords_108 : decode cX2_takeWords 108 = .ok (.aload_n 0, 1) := dk_42 (dk_at dksX2_takeWords_4 16 rfl rfl)
theorem dX2_takeWords_109 : decode cX2_takeWords 109 = .ok (.getfield 135, 3) := dk_180 0 135 (dk_at dksX2_takeWords_4 17 rfl rfl)
theorem dX2_takeWords_112 : decode cX2_takeWords 112 = .ok (.iload 6, 2) := dk_21 6 (dk_at dksX2_takeWords_4 20 rfl rfl)
theorem dX2_takeWords_114 : decode cX2_takeWords 114 = .ok (.iaload, 1) := dk_46 (dk_at dksX2_takeWords_4 22 rfl rfl)
theorem dX2_takeWords_115 : decode cX2_takeWords 115 = .ok (.iload 5, 2) := dk_21 5 (dk_at dksX2_takeWords_5 0 rfl rfl)
theorem dX2_takeWords_117 : decode cX2_takeWords 117 = .ok (.if_icmp .ne 8, 3) := dk_160 0 8 (dk_at dksX2_takeWords_5 2 rfl rfl)
theorem dX2_takeWords_120 : decode cX2_takeWords 120 = .ok (.iload 6, 2) := dk_21 6 (dk_at dksX2_takeWords_5 5 rfl rfl)
theorem dX2_takeWords_122 : decode cX2_takeWords 122 = .ok (.goto 9, 3) := dk_167 0 9 (dk_at dksX2_takeWords_5 7 rfl rfl)
theorem dX2_takeWords_125 : decode cX2_takeWords 125 = .ok (.aload_n 0, 1) := dk_42 (dk_at dksX2_takeWords_5 10 rfl rfl)
theorem dX2_takeWords_126 : decode cX2_takeWords 126 = .ok (.getfield 219, 3) := dk_180 0 219 (dk_at dksX2_takeWords_5 11 rfl rfl)
theorem dX2_takeWords_129 : decode cX2_takeWords 129 = .ok (.iload_n 3, 1) := dk_29 (dk_at dksX2_takeWords_5 14 rfl rfl)
theorem dX2_takeWords_130 : decode cX2_takeWords 130 = .ok (.iaload, 1) := dk_46 (dk_at dksX2_takeWords_5 15 rfl rfl)
theorem dX2_takeWords_131 : decode cX2_takeWords 131 = .ok (.iastore, 1) := dk_79 (dk_at dksX2_takeWords_5 16 rfl rfl)
theorem dX2_takeWords_132 : decode cX2_takeWords 132 = .ok (.iinc 6 1, 3) := dk_132 6 1 (dk_at dksX2_takeWords_5 17 rfl rfl)
theorem dX2_takeWords_135 : decode cX2_takeWords 135 = .ok (.goto (-46), 3) := dk_167 255 210 (dk_at dksX2_takeWords_5 20 rfl rfl)
theorem dX2_takeWords_138 : decode cX2_takeWords 138 = .ok (.iinc 3 1, 3) := dk_132 3 1 (dk_at dksX2_takeWords_6 0 rfl rfl)
theorem dX2_takeWords_141 : decode cX2_takeWords 141 = .ok (.goto (-114), 3) := dk_167 255 142 (dk_at dksX2_takeWords_6 3 rfl rfl)
theorem dX2_takeWords_144 : decode cX2_takeWords 144 = .ok (.iconst 1, 1) := dk_4 (dk_at dksX2_takeWords_6 6 rfl rfl)
theorem dX2_takeWords_145 : decode cX2_takeWords 145 = .ok (.istore_n 3, 1) := dk_62 (dk_at dksX2_takeWords_6 7 rfl rfl)
theorem dX2_takeWords_146 : decode cX2_takeWords 146 = .ok (.iload_n 3, 1) := dk_29 (dk_at dksX2_takeWords_6 8 rfl rfl)
theorem dX2_takeWords_147 : decode cX2_takeWords 147 = .ok (.iload_n 2, 1) := dk_28 (dk_at dksX2_takeWords_6 9 rfl rfl)
theorem dX2_takeWords_148 : decode cX2_takeWords 148 = .ok (.if_icmp .gt 36, 3) := dk_163 0 36 (dk_at dksX2_takeWords_6 10 rfl rfl)
theorem dX2_takeWords_151 : decode cX2_takeWords 151 = .ok (.iconst 0, 1) := dk_3 (dk_at dksX2_takeWords_6 13 rfl rfl)
theorem dX2_takeWords_152 : decode cX2_takeWords 152 = .ok (.istore 4, 2) := dk_54 4 (dk_at dksX2_takeWords_6 14 rfl rfl)
theorem dX2_takeWords_154 : decode cX2_takeWords 154 = .ok (.iload 4, 2) := dk_21 4 (dk_at dksX2_takeWords_6 16 rfl rfl)
theorem dX2_takeWords_156 : decode cX2_takeWords 156 = .ok (.iload_n 3, 1) := dk_29 (dk_at dksX2_takeWords_6 18 rfl rfl)
theorem dX2_takeWords_157 : decode cX2_takeWords 157 = .ok (.iadd, 1) := dk_96 (dk_at dksX2_takeWords_6 19 rfl rfl)
theorem dX2_takeWords_158 : decode cX2_takeWords 158 = .ok (.iload_n 2, 1) := dk_28 (dk_at dksX2_takeWords_6 20 rfl rfl)
theorem dX2_takeWords_159 : decode cX2_takeWords 159 = .ok (.if_icmp .gt 19, 3) := dk_163 0 19 (dk_at dksX2_takeWords_6 21 rfl rfl)
theorem dX2_takeWords_162 : decode cX2_takeWords 162 = .ok (.aload_n 0, 1) := dk_42 (dk_at dksX2_takeWords_7 0 rfl rfl)
theorem dX2_takeWords_163 : decode cX2_takeWords 163 = .ok (.iload 4, 2) := dk_21 4 (dk_at dksX2_takeWords_7 1 rfl rfl)
theorem dX2_takeWords_165 : decode cX2_takeWords 165 = .ok (.iload 4, 2) := dk_21 4 (dk_at dksX2_takeWords_7 3 rfl rfl)
theorem dX2_takeWords_167 : decode cX2_takeWords 167 = .ok (.iload_n 3, 1) := dk_29 (dk_at dksX2_takeWords_7 5 rfl rfl)
theorem dX2_takeWords_168 : decode cX2_takeWords 168 = .ok (.iadd, 1) := dk_96 (dk_at dksX2_takeWords_7 6 rfl rfl)
theorem dX2_takeWords_169 : decode cX2_takeWords 169 = .ok (.invokevirtual 747, 3) := dk_182 2 235 (dk_at dksX2_takeWords_7 7 rfl rfl)
theorem dX2_takeWords_172 : decode cX2_takeWords 172 = .ok (.iinc 4 1, 3) := dk_132 4 1 (dk_at dksX2_takeWords_7 10 rfl rfl)
theorem dX2_takeWords_175 : decode cX2_takeWords 175 = .ok (.goto (-21), 3) := dk_167 255 235 (dk_at dksX2_takeWords_7 13 rfl rfl)
theorem dX2_takeWords_178 : decode cX2_takeWords 178 = .ok (.iinc 3 1, 3) := dk_132 3 1 (dk_at dksX2_takeWords_7 16 rfl rfl)
theorem dX2_takeWords_181 : decode cX2_takeWords 181 = .ok (.goto (-35), 3) := dk_167 255 221 (dk_at dksX2_takeWords_7 19 rfl rfl)
theorem dX2_takeWords_184 : decode cX2_takeWords 184 = .ok (.return_, 1) := dk_177 (dk_at dksX2_takeWords_7 22 rfl rfl)
abbrev cX2_signNameHere : ByteArray := prog_4_method_80_code
def yX2_signNameHere : MethodName := ⟨RX2, "signNameHere", "(I)I"⟩
def dkwX2_signNameHere_2 : List UInt8 := [16, 156, 167, 0, 5, 16, 155, 172]
abbrev dktX2_signNameHere_2 : List UInt8 := dkwX2_signNameHere_2 ++ []
def dkwX2_signNameHere_1 : List UInt8 := [16, 16, 28, 104, 51, 27, 160, 0, 5, 28, 172, 132, 2, 1, 167, 255, 220, 27, 16, 40, 160, 0, 8]
abbrev dktX2_signNameHere_1 : List UInt8 := dkwX2_signNameHere_1 ++ dktX2_signNameHere_2
def dkwX2_signNameHere_0 : List UInt8 := [3, 61, 28, 42, 180, 1, 232, 162, 0, 34, 42, 180, 0, 50, 28, 46, 4, 160, 0, 18, 42, 180, 0, 47]
abbrev dktX2_signNameHere_0 : List UInt8 := dkwX2_signNameHere_0 ++ dktX2_signNameHere_1
theorem dksX2_signNameHere_0 : cX2_signNameHere.data.toList.drop 0 = dktX2_signNameHere_0 := by decide +kernel
theorem dksX2_signNameHere_1 : cX2_signNameHere.data.toList.drop 24 = dktX2_signNameHere_1 := dk_seg dksX2_signNameHere_0 24 rfl rfl
theorem dksX2_signNameHere_2 : cX2_signNameHere.data.toList.drop 47 = dktX2_signNameHere_2 := dk_seg dksX2_signNameHere_1 23 rfl rfl
theorem dX2_signNameHere_0 : decode cX2_signNameHere 0 = .ok (.iconst 0, 1) := dk_3 (dk_at dksX2_signNameHere_0 0 rfl rfl)
theorem dX2_signNameHere_1 : decode cX2_signNameHere 1 = .ok (.istore_n 2, 1) := dk_61 (dk_at dksX2_signNameHere_0 1 rfl rfl)
theorem dX2_signNameHere_2 : decode cX2_signNameHere 2 = .ok (.iload_n 2, 1) := dk_28 (dk_at dksX2_signNameHere_0 2 rfl rfl)
theorem dX2_signNameHere_3 : decode cX2_signNameHere 3 = .ok (.aload_n 0, 1) := dk_42 (dk_at dksX2_signNameHere_0 3 rfl rfl)
theorem dX2_signNameHere_4 : decode cX2_signNameHere 4 = .ok (.getfield 488, 3) := dk_180 1 232 (dk_at dksX2_signNameHere_0 4 rfl rfl)
theorem dX2_signNameHere_7 : decode cX2_signNameHere 7 = .ok (.if_icmp .ge 34, 3) := dk_162 0 34 (dk_at dksX2_signNameHere_0 7 rfl rfl)
theorem dX2_signNameHere_10 : decode cX2_signNameHere 10 = .ok (.aload_n 0, 1) := dk_42 (dk_at dksX2_signNameHere_0 10 rfl rfl)
theorem dX2_signNameHere_11 : decode cX2_signNameHere 11 = .ok (.getfield 50, 3) := dk_180 0 50 (dk_at dksX2_signNameHere_0 11 rfl rfl)
theorem dX2_signNameHere_14 : decode cX2_signNameHere 14 = .ok (.iload_n 2, 1) := dk_28 (dk_at dksX2_signNameHere_0 14 rfl rfl)
theorem dX2_signNameHere_15 : decode cX2_signNameHere 15 = .ok (.iaload, 1) := dk_46 (dk_at dksX2_signNameHere_0 15 rfl rfl)
theorem dX2_signNameHere_16 : decode cX2_signNameHere 16 = .ok (.iconst 1, 1) := dk_4 (dk_at dksX2_signNameHere_0 16 rfl rfl)
theorem dX2_signNameHere_17 : decode cX2_signNameHere 17 = .ok (.if_icmp .ne 18, 3) := dk_160 0 18 (dk_at dksX2_signNameHere_0 17 rfl rfl)
theorem dX2_signNameHere_20 : decode cX2_signNameHere 20 = .ok (.aload_n 0, 1) := dk_42 (dk_at dksX2_signNameHere_0 20 rfl rfl)
theorem dX2_signNameHere_21 : decode cX2_signNameHere 21 = .ok (.getfield 47, 3) := dk_180 0 47 (dk_at dksX2_signNameHere_0 21 rfl rfl)
theorem dX2_signNameHere_24 : decode cX2_signNameHere 24 = .ok (.bipush 16, 2) := dk_16 16 (dk_at dksX2_signNameHere_1 0 rfl rfl)
theorem dX2_signNameHere_26 : decode cX2_signNameHere 26 = .ok (.iload_n 2, 1) := dk_28 (dk_at dksX2_signNameHere_1 2 rfl rfl)
theorem dX2_signNameHere_27 : decode cX2_signNameHere 27 = .ok (.imul, 1) := dk_104 (dk_at dksX2_signNameHere_1 3 rfl rfl)
theorem dX2_signNameHere_28 : decode cX2_signNameHere 28 = .ok (.baload, 1) := dk_51 (dk_at dksX2_signNameHere_1 4 rfl rfl)
theorem dX2_signNameHere_29 : decode cX2_signNameHere 29 = .ok (.iload_n 1, 1) := dk_27 (dk_at dksX2_signNameHere_1 5 rfl rfl)
theorem dX2_signNameHere_30 : decode cX2_signNameHere 30 = .ok (.if_icmp .ne 5, 3) := dk_160 0 5 (dk_at dksX2_signNameHere_1 6 rfl rfl)
theorem dX2_signNameHere_33 : decode cX2_signNameHere 33 = .ok (.iload_n 2, 1) := dk_28 (dk_at dksX2_signNameHere_1 9 rfl rfl)
theorem dX2_signNameHere_34 : decode cX2_signNameHere 34 = .ok (.ireturn, 1) := dk_172 (dk_at dksX2_signNameHere_1 10 rfl rfl)
theorem dX2_signNameHere_35 : decode cX2_signNameHere 35 = .ok (.iinc 2 1, 3) := dk_132 2 1 (dk_at dksX2_signNameHere_1 11 rfl rfl)
theorem dX2_signNameHere_38 : decode cX2_signNameHere 38 = .ok (.goto (-36), 3) := dk_167 255 220 (dk_at dksX2_signNameHere_1 14 rfl rfl)
theorem dX2_signNameHere_41 : decode cX2_signNameHere 41 = .ok (.iload_n 1, 1) := dk_27 (dk_at dksX2_signNameHere_1 17 rfl rfl)
theorem dX2_signNameHere_42 : decode cX2_signNameHere 42 = .ok (.bipush 40, 2) := dk_16 40 (dk_at dksX2_signNameHere_1 18 rfl rfl)
theorem dX2_signNameHere_44 : decode cX2_signNameHere 44 = .ok (.if_icmp .ne 8, 3) := dk_160 0 8 (dk_at dksX2_signNameHere_1 20 rfl rfl)
theorem dX2_signNameHere_47 : decode cX2_signNameHere 47 = .ok (.bipush (-100), 2) := dk_16 156 (dk_at dksX2_signNameHere_2 0 rfl rfl)
theorem dX2_signNameHere_49 : decode cX2_signNameHere 49 = .ok (.goto 5, 3) := dk_167 0 5 (dk_at dksX2_signNameHere_2 2 rfl rfl)
theorem dX2_signNameHere_52 : decode cX2_signNameHere 52 = .ok (.bipush (-101), 2) := dk_16 155 (dk_at dksX2_signNameHere_2 5 rfl rfl)
theorem dX2_signNameHere_54 : decode cX2_signNameHere 54 = .ok (.ireturn, 1) := dk_172 (dk_at dksX2_signNameHere_2 7 rfl rfl)
abbrev cX2_unknownName : ByteArray := prog_4_method_81_code
def yX2_unknownName : MethodName := ⟨RX2, "unknownName", "(I)I"⟩
def dkwX2_unknownName_2 : List UInt8 := [167, 0, 6, 17, 255, 56, 172]
abbrev dktX2_unknownName_2 : List UInt8 := dkwX2_unknownName_2 ++ []
def dkwX2_unknownName_1 : List UInt8 := [61, 28, 16, 40, 160, 0, 10, 42, 180, 2, 217, 167, 0, 19, 28, 16, 41, 160, 0, 10, 42, 180, 2, 220]
abbrev dktX2_unknownName_1 : List UInt8 := dkwX2_unknownName_1 ++ dktX2_unknownName_2
def dkwX2_unknownName_0 : List UInt8 := [42, 180, 0, 37, 27, 46, 4, 160, 0, 16, 42, 42, 180, 0, 33, 27, 46, 182, 1, 163, 167, 0, 4, 3]
abbrev dktX2_unknownName_0 : List UInt8 := dkwX2_unknownName_0 ++ dktX2_unknownName_1
theorem dksX2_unknownName_0 : cX2_unknownName.data.toList.drop 0 = dktX2_unknownName_0 := by decide +kernel
theorem dksX2_unknownName_1 : cX2_unknownName.data.toList.drop 24 = dktX2_unknownName_1 := dk_seg dksX2_unknownName_0 24 rfl rfl
theorem dksX2_unknownName_2 : cX2_unknownName.data.toList.drop 48 = dktX2_unknownName_2 := dk_seg dksX2_unknownName_1 24 rfl rfl
theorem dX2_unknownName_0 : decode cX2_unknownName 0 = .ok (.aload_n 0, 1) := dk_42 (dk_at dksX2_unknownName_0 0 rfl rfl)
theorem dX2_unknownName_1 : decode cX2_unknownName 1 = .ok (.getfield 37, 3) := dk_180 0 37 (dk_at dksX2_unknownName_0 1 rfl rfl)
theorem dX2_unknownName_4 : decode cX2_unknownName 4 = .ok (.iload_n 1, 1) := dk_27 (dk_at dksX2_unknownName_0 4 rfl rfl)
theorem dX2_unknownName_5 : decode cX2_unknownName 5 = .ok (.iaload, 1) := dk_46 (dk_at dksX2_unknownName_0 5 rfl rfl)
theorem dX2_unknownName_6 : decode cX2_unknownName 6 = .ok (.iconst 1, 1) := dk_4 (dk_at dksX2_unknownName_0 6 rfl rfl)
theorem dX2_unknownName_7 : decode cX2_unknownName 7 = .ok (.if_icmp .ne 16, 3) := dk_160 0 16 (dk_at dksX2_unknownName_0 7 rfl rfl)
theorem dX2_unknownName_10 : decode cX2_unknownName 10 = .ok (.aload_n 0, 1) := dk_42 (dk_at dksX2_unknownName_0 10 rfl rfl)
theorem dX2_unknownName_11 : decode cX2_unknownName 11 = .ok (.aload_n 0, 1) := dk_42 (dk_at dksX2_unknownName_0 11 rfl rfl)
theorem dX2_unknownName_12 : decode cX2_unknownName 12 = .ok (.getfield 33, 3) := dk_180 0 33 (dk_at dksX2_unknownName_0 12 rfl rfl)
theorem dX2_unknownName_15 : decode cX2_unknownName 15 = .ok (.iload_n 1, 1) := dk_27 (dk_at dksX2_unknownName_0 15 rfl rfl)
theorem dX2_unknownName_16 : decode cX2_unknownName 16 = .ok (.iaload, 1) := dk_46 (dk_at dksX2_unknownName_0 16 rfl rfl)
theorem dX2_unknownName_17 : decode cX2_unknownName 17 = .ok (.invokevirtual 419, 3) := dk_182 1 163 (dk_at dksX2_unknownName_0 17 rfl rfl)
theorem dX2_unknownName_20 : decode cX2_unknownName 20 = .ok (.goto 4, 3) := dk_167 0 4 (dk_at dksX2_unknownName_0 20 rfl rfl)
theorem dX2_unknownName_23 : decode cX2_unknownName 23 = .ok (.iconst 0, 1) := dk_3 (dk_at dksX2_unknownName_0 23 rfl rfl)
theorem dX2_unknownName_24 : decode cX2_unknownName 24 = .ok (.istore_n 2, 1) := dk_61 (dk_at dksX2_unknownName_1 0 rfl rfl)
theorem dX2_unknownName_25 : decode cX2_unknownName 25 = .ok (.iload_n 2, 1) := dk_28 (dk_at dksX2_unknownName_1 1 rfl rfl)
theorem dX2_unknownName_26 : decode cX2_unknownName 26 = .ok (.bipush 40, 2) := dk_16 40 (dk_at dksX2_unknownName_1 2 rfl rfl)
theorem dX2_unknownName_28 : decode cX2_unknownName 28 = .ok (.if_icmp .ne 10, 3) := dk_160 0 10 (dk_at dksX2_unknownName_1 4 rfl rfl)
theorem dX2_unknownName_31 : decode cX2_unknownName 31 = .ok (.aload_n 0, 1) := dk_42 (dk_at dksX2_unknownName_1 7 rfl rfl)
theorem dX2_unknownName_32 : decode cX2_unknownName 32 = .ok (.getfield 729, 3) := dk_180 2 217 (dk_at dksX2_unknownName_1 8 rfl rfl)
theorem dX2_unknownName_35 : decode cX2_unknownName 35 = .ok (.goto 19, 3) := dk_167 0 19 (dk_at dksX2_unknownName_1 11 rfl rfl)
theorem dX2_unknownName_38 : decode cX2_unknownName 38 = .ok (.iload_n 2, 1) := dk_28 (dk_at dksX2_unknownName_1 14 rfl rfl)
theorem dX2_unknownName_39 : decode cX2_unknownName 39 = .ok (.bipush 41, 2) := dk_16 41 (dk_at dksX2_unknownName_1 15 rfl rfl)
theorem dX2_unknownName_41 : decode cX2_unknownName 41 = .ok (.if_icmp .ne 10, 3) := dk_160 0 10 (dk_at dksX2_unknownName_1 17 rfl rfl)
theorem dX2_unknownName_44 : decode cX2_unknownName 44 = .ok (.aload_n 0, 1) := dk_42 (dk_at dksX2_unknownName_1 20 rfl rfl)
theorem dX2_unknownName_45 : decode cX2_unknownName 45 = .ok (.getfield 732, 3) := dk_180 2 220 (dk_at dksX2_unknownName_1 21 rfl rfl)
theorem dX2_unknownName_48 : decode cX2_unknownName 48 = .ok (.goto 6, 3) := dk_167 0 6 (dk_at dksX2_unknownName_2 0 rfl rfl)
theorem dX2_unknownName_51 : decode cX2_unknownName 51 = .ok (.sipush (-200), 3) := dk_17 255 56 (dk_at dksX2_unknownName_2 3 rfl rfl)
theorem dX2_unknownName_54 : decode cX2_unknownName 54 = .ok (.ireturn, 1) := dk_172 (dk_at dksX2_unknownName_2 6 rfl rfl)
abbrev cX2_readSpan : ByteArray := prog_4_method_78_code
def yX2_readSpan : MethodName := ⟨RX2, "readSpan", "(II)V"⟩
def dkwX2_readSpan_10 : List UInt8 := [29, 104, 21, 4, 96, 42, 180, 0, 229, 27, 51, 84, 132, 4, 1, 167, 255, 187, 177]
abbrev dktX2_readSpan_10 : List UInt8 := dkwX2_readSpan_10 ++ []
def dkwX2_readSpan_9 : List UInt8 := [21, 4, 46, 46, 28, 27, 100, 163, 0, 29, 42, 21, 4, 27, 28, 182, 2, 223, 42, 180, 0, 223, 16, 50]
abbrev dktX2_readSpan_9 : List UInt8 := dkwX2_readSpan_9 ++ dktX2_readSpan_10
def dkwX2_readSpan_8 : List UInt8 := [162, 0, 66, 42, 180, 0, 223, 16, 50, 29, 104, 21, 4, 96, 3, 84, 42, 180, 0, 144, 42, 180, 0, 159]
abbrev dktX2_readSpan_8 : List UInt8 := dkwX2_readSpan_8 ++ dktX2_readSpan_9
def dkwX2_readSpan_7 : List UInt8 := [182, 2, 213, 96, 182, 2, 204, 145, 84, 132, 4, 1, 167, 255, 199, 3, 54, 4, 21, 4, 42, 180, 2, 131]
abbrev dktX2_readSpan_7 : List UInt8 := dkwX2_readSpan_7 ++ dktX2_readSpan_8
def dkwX2_readSpan_6 : List UInt8 := [180, 0, 226, 16, 20, 29, 104, 21, 4, 96, 51, 42, 27, 4, 96, 28, 4, 100, 21, 4, 17, 3, 232]
abbrev dktX2_readSpan_6 : List UInt8 := dkwX2_readSpan_6 ++ dktX2_readSpan_7
def dkwX2_readSpan_5 : List UInt8 := [54, 4, 21, 4, 42, 180, 2, 119, 162, 0, 54, 42, 180, 0, 226, 16, 20, 29, 104, 21, 4, 96, 42, 42]
abbrev dktX2_readSpan_5 : List UInt8 := dkwX2_readSpan_5 ++ dktX2_readSpan_6
def dkwX2_readSpan_4 : List UInt8 := [42, 180, 2, 217, 160, 0, 81, 42, 180, 0, 216, 28, 4, 100, 46, 42, 180, 2, 220, 160, 0, 66, 3]
abbrev dktX2_readSpan_4 : List UInt8 := dkwX2_readSpan_4 ++ dktX2_readSpan_5
def dkwX2_readSpan_3 : List UInt8 := [42, 180, 0, 219, 27, 46, 46, 46, 96, 4, 84, 28, 27, 100, 5, 164, 0, 94, 42, 180, 0, 216, 27, 46]
abbrev dktX2_readSpan_3 : List UInt8 := dkwX2_readSpan_3 ++ dktX2_readSpan_4
def dkwX2_readSpan_2 : List UInt8 := [180, 0, 219, 27, 46, 155, 0, 30, 42, 180, 0, 226, 16, 20, 29, 104, 42, 180, 0, 132, 42, 180, 0, 138]
abbrev dktX2_readSpan_2 : List UInt8 := dkwX2_readSpan_2 ++ dktX2_readSpan_3
def dkwX2_readSpan_1 : List UInt8 := [16, 20, 29, 104, 21, 4, 96, 3, 84, 132, 4, 1, 167, 255, 231, 28, 27, 100, 4, 160, 0, 39, 42]
abbrev dktX2_readSpan_1 : List UInt8 := dkwX2_readSpan_1 ++ dktX2_readSpan_2
def dkwX2_readSpan_0 : List UInt8 := [42, 27, 28, 182, 2, 201, 62, 3, 54, 4, 21, 4, 42, 180, 2, 119, 162, 0, 22, 42, 180, 0, 226]
abbrev dktX2_readSpan_0 : List UInt8 := dkwX2_readSpan_0 ++ dktX2_readSpan_1
theorem dksX2_readSpan_0 : cX2_readSpan.data.toList.drop 0 = dktX2_readSpan_0 := by decide +kernel
theorem dksX2_readSpan_1 : cX2_readSpan.data.toList.drop 23 = dktX2_readSpan_1 := dk_seg dksX2_readSpan_0 23 rfl rfl
theorem dksX2_readSpan_2 : cX2_readSpan.data.toList.drop 46 = dktX2_readSpan_2 := dk_seg dksX2_readSpan_1 23 rfl rfl
theorem dksX2_readSpan_3 : cX2_readSpan.data.toList.drop 70 = dktX2_readSpan_3 := dk_seg dksX2_readSpan_2 24 rfl rfl
theorem dksX2_readSpan_4 : cX2_readSpan.data.toList.drop 94 = dktX2_readSpan_4 := dk_seg dksX2_readSpan_3 24 rfl rfl
theorem dksX2_readSpan_5 : cX2_readSpan.data.toList.drop 117 = dktX2_readSpan_5 := dk_seg dksX2_readSpan_4 23 rfl rfl
theorem dksX2_readSpan_6 : cX2_readSpan.data.toList.drop 141 = dktX2_readSpan_6 := dk_seg dksX2_readSpan_5 24 rfl rfl
theorem dksX2_readSpan_7 : cX2_readSpan.data.toList.drop 164 = dktX2_readSpan_7 := dk_seg dksX2_readSpan_6 23 rfl rfl
theorem dksX2_readSpan_8 : cX2_readSpan.data.toList.drop 188 = dktX2_readSpan_8 := dk_seg dksX2_readSpan_7 24 rfl rfl
theorem dksX2_readSpan_9 : cX2_readSpan.data.toList.drop 212 = dktX2_readSpan_9 := dk_seg dksX2_readSpan_8 24 rfl rfl
theorem dksX2_readSpan_10 : cX2_readSpan.data.toList.drop 236 = dktX2_readSpan_10 := dk_seg dksX2_readSpan_9 24 rfl rfl
theorem dX2_readSpan_0 : decode cX2_readSpan 0 = .ok (.aload_n 0, 1) := dk_42 (dk_at dksX2_readSpan_0 0 rfl rfl)
theorem dX2_readSpan_1 : decode cX2_readSpan 1 = .ok (.iload_n 1, 1) := dk_27 (dk_at dksX2_readSpan_0 1 rfl rfl)
theorem dX2_readSpan_2 : decode cX2_readSpan 2 = .ok (.iload_n 2, 1) := dk_28 (dk_at dksX2_readSpan_0 2 rfl rfl)
theorem dX2_readSpan_3 : decode cX2_readSpan 3 = .ok (.invokevirtual 713, 3) := dk_182 2 201 (dk_at dksX2_readSpan_0 3 rfl rfl)
theorem dX2_readSpan_6 : decode cX2_readSpan 6 = .ok (.istore_n 3, 1) := dk_62 (dk_at dksX2_readSpan_0 6 rfl rfl)
theorem dX2_readSpan_7 : decode cX2_readSpan 7 = .ok (.iconst 0, 1) := dk_3 (dk_at dksX2_readSpan_0 7 rfl rfl)
theorem dX2_readSpan_8 : decode cX2_readSpan 8 = .ok (.istore 4, 2) := dk_54 4 (dk_at dksX2_readSpan_0 8 rfl rfl)
theorem dX2_readSpan_10 : decode cX2_readSpan 10 = .ok (.iload 4, 2) := dk_21 4 (dk_at dksX2_readSpan_0 10 rfl rfl)
theorem dX2_readSpan_12 : decode cX2_readSpan 12 = .ok (.aload_n 0, 1) := dk_42 (dk_at dksX2_readSpan_0 12 rfl rfl)
theorem dX2_readSpan_13 : decode cX2_readSpan 13 = .ok (.getfield 631, 3) := dk_180 2 119 (dk_at dksX2_readSpan_0 13 rfl rfl)
theorem dX2_readSpan_16 : decode cX2_readSpan 16 = .ok (.if_icmp .ge 22, 3) := dk_162 0 22 (dk_at dksX2_readSpan_0 16 rfl rfl)
theorem dX2_readSpan_19 : decode cX2_readSpan 19 = .ok (.aload_n 0, 1) := dk_42 (dk_at dksX2_readSpan_0 19 rfl rfl)
theorem dX2_readSpan_20 : decode cX2_readSpan 20 = .ok (.getfield 226, 3) := dk_180 0 226 (dk_at dksX2_readSpan_0 20 rfl rfl)
theorem dX2_readSpan_23 : decode cX2_readSpan 23 = .ok (.bipush 20, 2) := dk_16 20 (dk_at dksX2_readSpan_1 0 rfl rfl)
theorem dX2_readSpan_25 : decode cX2_readSpan 25 = .ok (.iload_n 3, 1) := dk_29 (dk_at dksX2_readSpan_1 2 rfl rfl)
theorem dX2_readSpan_26 : decode cX2_readSpan 26 = .ok (.imul, 1) := dk_104 (dk_at dksX2_readSpan_1 3 rfl rfl)
theorem dX2_readSpan_27 : decode cX2_readSpan 27 = .ok (.iload 4, 2) := dk_21 4 (dk_at dksX2_readSpan_1 4 rfl rfl)
theorem dX2_readSpan_29 : decode cX2_readSpan 29 = .ok (.iadd, 1) := dk_96 (dk_at dksX2_readSpan_1 6 rfl rfl)
theorem dX2_readSpan_30 : decode cX2_readSpan 30 = .ok (.iconst 0, 1) := dk_3 (dk_at dksX2_readSpan_1 7 rfl rfl)
theorem dX2_readSpan_31 : decode cX2_readSpan 31 = .ok (.bastore, 1) := dk_84 (dk_at dksX2_readSpan_1 8 rfl rfl)
theorem dX2_readSpan_32 : decode cX2_readSpan 32 = .ok (.iinc 4 1, 3) := dk_132 4 1 (dk_at dksX2_readSpan_1 9 rfl rfl)
theorem dX2_readSpan_35 : decode cX2_readSpan 35 = .ok (.goto (-25), 3) := dk_167 255 231 (dk_at dksX2_readSpan_1 12 rfl rfl)
theorem dX2_readSpan_38 : decode cX2_readSpan 38 = .ok (.iload_n 2, 1) := dk_28 (dk_at dksX2_readSpan_1 15 rfl rfl)
theorem dX2_readSpan_39 : decode cX2_readSpan 39 = .ok (.iload_n 1, 1) := dk_27 (dk_at dksX2_readSpan_1 16 rfl rfl)
theorem dX2_readSpan_40 : decode cX2_readSpan 40 = .ok (.isub, 1) := dk_100 (dk_at dksX2_readSpan_1 17 rfl rfl)
theorem dX2_readSpan_41 : decode cX2_readSpan 41 = .ok (.iconst 1, 1) := dk_4 (dk_at dksX2_readSpan_1 18 rfl rfl)
theorem dX2_readSpan_42 : decode cX2_readSpan 42 = .ok (.if_icmp .ne 39, 3) := dk_160 0 39 (dk_at dksX2_readSpan_1 19 rfl rfl)
theorem dX2_readSpan_45 : decode cX2_readSpan 45 = .ok (.aload_n 0, 1) := dk_42 (dk_at dksX2_readSpan_1 22 rfl rfl)
theorem dX2_readSpan_46 : decode cX2_readSpan 46 = .ok (.getfield 219, 3) := dk_180 0 219 (dk_at dksX2_readSpan_2 0 rfl rfl)
theorem dX2_readSpan_49 : decode cX2_readSpan 49 = .ok (.iload_n 1, 1) := dk_27 (dk_at dksX2_readSpan_2 3 rfl rfl)
theorem dX2_readSpan_50 : decode cX2_readSpan 50 = .ok (.iaload, 1) := dk_46 (dk_at dksX2_readSpan_2 4 rfl rfl)
theorem dX2_readSpan_51 : decode cX2_readSpan 51 = .ok (.ifCond .lt 30, 3) := dk_155 0 30 (dk_at dksX2_readSpan_2 5 rfl rfl)
theorem dX2_readSpan_54 : decode cX2_readSpan 54 = .ok (.aload_n 0, 1) := dk_42 (dk_at dksX2_readSpan_2 8 rfl rfl)
theorem dX2_readSpan_55 : decode cX2_readSpan 55 = .ok (.getfield 226, 3) := dk_180 0 226 (dk_at dksX2_readSpan_2 9 rfl rfl)
theorem dX2_readSpan_58 : decode cX2_readSpan 58 = .ok (.bipush 20, 2) := dk_16 20 (dk_at dksX2_readSpan_2 12 rfl rfl)
theorem dX2_readSpan_60 : decode cX2_readSpan 60 = .ok (.iload_n 3, 1) := dk_29 (dk_at dksX2_readSpan_2 14 rfl rfl)
theorem dX2_readSpan_61 : decode cX2_readSpan 61 = .ok (.imul, 1) := dk_104 (dk_at dksX2_readSpan_2 15 rfl rfl)
theorem dX2_readSpan_62 : decode cX2_readSpan 62 = .ok (.aload_n 0, 1) := dk_42 (dk_at dksX2_readSpan_2 16 rfl rfl)
theorem dX2_readSpan_63 : decode cX2_readSpan 63 = .ok (.getfield 132, 3) := dk_180 0 132 (dk_at dksX2_readSpan_2 17 rfl rfl)
theorem dX2_readSpan_66 : decode cX2_readSpan 66 = .ok (.aload_n 0, 1) := dk_42 (dk_at dksX2_readSpan_2 20 rfl rfl)
theorem dX2_readSpan_67 : decode cX2_readSpan 67 = .ok (.getfield 138, 3) := dk_180 0 138 (dk_at dksX2_readSpan_2 21 rfl rfl)
theorem dX2_readSpan_70 : decode cX2_readSpan 70 = .ok (.aload_n 0, 1) := dk_42 (dk_at dksX2_readSpan_3 0 rfl rfl)
theorem dX2_readSpan_71 : decode cX2_readSpan 71 = .ok (.getfield 219, 3) := dk_180 0 219 (dk_at dksX2_readSpan_3 1 rfl rfl)
theorem dX2_readSpan_74 : decode cX2_readSpan 74 = .ok (.iload_n 1, 1) := dk_27 (dk_at dksX2_readSpan_3 4 rfl rfl)
theorem dX2_readSpan_75 : decode cX2_readSpan 75 = .ok (.iaload, 1) := dk_46 (dk_at dksX2_readSpan_3 5 rfl rfl)
theorem dX2_readSpan_76 : decode cX2_readSpan 76 = .ok (.iaload, 1) := dk_46 (dk_at dksX2_readSpan_3 6 rfl rfl)
theorem dX2_readSpan_77 : decode cX2_readSpan 77 = .ok (.iaload, 1) := dk_46 (dk_at dksX2_readSpan_3 7 rfl rfl)
theorem dX2_readSpan_78 : decode cX2_readSpan 78 = .ok (.iadd, 1) := dk_96 (dk_at dksX2_readSpan_3 8 rfl rfl)
theorem dX2_readSpan_79 : decode cX2_readSpan 79 = .ok (.iconst 1, 1) := dk_4 (dk_at dksX2_readSpan_3 9 rfl rfl)
theorem dX2_readSpan_80 : decode cX2_readSpan 80 = .ok (.bastore, 1) := dk_84 (dk_at dksX2_readSpan_3 10 rfl rfl)
theorem dX2_readSpan_81 : decode cX2_readSpan 81 = .ok (.iload_n 2, 1) := dk_28 (dk_at dksX2_readSpan_3 11 rfl rfl)
theorem dX2_readSpan_82 : decode cX2_readSpan 82 = .ok (.iload_n 1, 1) := dk_27 (dk_at dksX2_readSpan_3 12 rfl rfl)
theorem dX2_readSpan_83 : decode cX2_readSpan 83 = .ok (.isub, 1) := dk_100 (dk_at dksX2_readSpan_3 13 rfl rfl)
theorem dX2_readSpan_84 : decode cX2_readSpan 84 = .ok (.iconst 2, 1) := dk_5 (dk_at dksX2_readSpan_3 14 rfl rfl)
theorem dX2_readSpan_85 : decode cX2_readSpan 85 = .ok (.if_icmp .le 94, 3) := dk_164 0 94 (dk_at dksX2_readSpan_3 15 rfl rfl)
theorem dX2_readSpan_88 : decode cX2_readSpan 88 = .ok (.aload_n 0, 1) := dk_42 (dk_at dksX2_readSpan_3 18 rfl rfl)
theorem dX2_readSpan_89 : decode cX2_readSpan 89 = .ok (.getfield 216, 3) := dk_180 0 216 (dk_at dksX2_readSpan_3 19 rfl rfl)
theorem dX2_readSpan_92 : decode cX2_readSpan 92 = .ok (.iload_n 1, 1) := dk_27 (dk_at dksX2_readSpan_3 22 rfl rfl)
theorem dX2_readSpan_93 : decode cX2_readSpan 93 = .ok (.iaload, 1) := dk_46 (dk_at dksX2_readSpan_3 23 rfl rfl)
theorem dX2_readSpan_94 : decode cX2_readSpan 94 = .ok (.aload_n 0, 1) := dk_42 (dk_at dksX2_readSpan_4 0 rfl rfl)
theorem dX2_readSpan_95 : decode cX2_readSpan 95 = .ok (.getfield 729, 3) := dk_180 2 217 (dk_at dksX2_readSpan_4 1 rfl rfl)
theorem dX2_readSpan_98 : decode cX2_readSpan 98 = .ok (.if_icmp .ne 81, 3) := dk_160 0 81 (dk_at dksX2_readSpan_4 4 rfl rfl)
theorem dX2_readSpan_101 : decode cX2_readSpan 101 = .ok (.aload_n 0, 1) := dk_42 (dk_at dksX2_readSpan_4 7 rfl rfl)
theorem dX2_readSpan_102 : decode cX2_readSpan 102 = .ok (.getfield 216, 3) := dk_180 0 216 (dk_at dksX2_readSpan_4 8 rfl rfl)
theorem dX2_readSpan_105 : decode cX2_readSpan 105 = .ok (.iload_n 2, 1) := dk_28 (dk_at dksX2_readSpan_4 11 rfl rfl)
theorem dX2_readSpan_106 : decode cX2_readSpan 106 = .ok (.iconst 1, 1) := dk_4 (dk_at dksX2_readSpan_4 12 rfl rfl)
theorem dX2_readSpan_107 : decode cX2_readSpan 107 = .ok (.isub, 1) := dk_100 (dk_at dksX2_readSpan_4 13 rfl rfl)
theorem dX2_readSpan_108 : decode cX2_readSpan 108 = .ok (.iaload, 1) := dk_46 (dk_at dksX2_readSpan_4 14 rfl rfl)
theorem dX2_readSpan_109 : decode cX2_readSpan 109 = .ok (.aload_n 0, 1) := dk_42 (dk_at dksX2_readSpan_4 15 rfl rfl)
theorem dX2_readSpan_110 : decode cX2_readSpan 110 = .ok (.getfield 732, 3) := dk_180 2 220 (dk_at dksX2_readSpan_4 16 rfl rfl)
theorem dX2_readSpan_113 : decode cX2_readSpan 113 = .ok (.if_icmp .ne 66, 3) := dk_160 0 66 (dk_at dksX2_readSpan_4 19 rfl rfl)
theorem dX2_readSpan_116 : decode cX2_readSpan 116 = .ok (.iconst 0, 1) := dk_3 (dk_at dksX2_readSpan_4 22 rfl rfl)
theorem dX2_readSpan_117 : decode cX2_readSpan 117 = .ok (.istore 4, 2) := dk_54 4 (dk_at dksX2_readSpan_5 0 rfl rfl)
theorem dX2_readSpan_119 : decode cX2_readSpan 119 = .ok (.iload 4, 2) := dk_21 4 (dk_at dksX2_readSpan_5 2 rfl rfl)
theorem dX2_readSpan_121 : decode cX2_readSpan 121 = .ok (.aload_n 0, 1) := dk_42 (dk_at dksX2_readSpan_5 4 rfl rfl)
theorem dX2_readSpan_122 : decode cX2_readSpan 122 = .ok (.getfield 631, 3) := dk_180 2 119 (dk_at dksX2_readSpan_5 5 rfl rfl)
theorem dX2_readSpan_125 : decode cX2_readSpan 125 = .ok (.if_icmp .ge 54, 3) := dk_162 0 54 (dk_at dksX2_readSpan_5 8 rfl rfl)
theorem dX2_readSpan_128 : decode cX2_readSpan 128 = .ok (.aload_n 0, 1) := dk_42 (dk_at dksX2_readSpan_5 11 rfl rfl)
theorem dX2_readSpan_129 : decode cX2_readSpan 129 = .ok (.getfield 226, 3) := dk_180 0 226 (dk_at dksX2_readSpan_5 12 rfl rfl)
theorem dX2_readSpan_132 : decode cX2_readSpan 132 = .ok (.bipush 20, 2) := dk_16 20 (dk_at dksX2_readSpan_5 15 rfl rfl)
theorem dX2_readSpan_134 : decode cX2_readSpan 134 = .ok (.iload_n 3, 1) := dk_29 (dk_at dksX2_readSpan_5 17 rfl rfl)
theorem dX2_readSpan_135 : decode cX2_readSpan 135 = .ok (.imul, 1) := dk_104 (dk_at dksX2_readSpan_5 18 rfl rfl)
theorem dX2_readSpan_136 : decode cX2_readSpan 136 = .ok (.iload 4, 2) := dk_21 4 (dk_at dksX2_readSpan_5 19 rfl rfl)
theorem dX2_readSpan_138 : decode cX2_readSpan 138 = .ok (.iadd, 1) := dk_96 (dk_at dksX2_readSpan_5 21 rfl rfl)
theorem dX2_readSpan_139 : decode cX2_readSpan 139 = .ok (.aload_n 0, 1) := dk_42 (dk_at dksX2_readSpan_5 22 rfl rfl)
theorem dX2_readSpan_140 : decode cX2_readSpan 140 = .ok (.aload_n 0, 1) := dk_42 (dk_at dksX2_readSpan_5 23 rfl rfl)
theorem dX2_readSpan_141 : decode cX2_readSpan 141 = .ok (.getfield 226, 3) := dk_180 0 226 (dk_at dksX2_readSpan_6 0 rfl rfl)
theorem dX2_readSpan_144 : decode cX2_readSpan 144 = .ok (.bipush 20, 2) := dk_16 20 (dk_at dksX2_readSpan_6 3 rfl rfl)
theorem dX2_readSpan_146 : decode cX2_readSpan 146 = .ok (.iload_n 3, 1) := dk_29 (dk_at dksX2_readSpan_6 5 rfl rfl)
theorem dX2_readSpan_147 : decode cX2_readSpan 147 = .ok (.imul, 1) := dk_104 (dk_at dksX2_readSpan_6 6 rfl rfl)
theorem dX2_readSpan_148 : decode cX2_readSpan 148 = .ok (.iload 4, 2) := dk_21 4 (dk_at dksX2_readSpan_6 7 rfl rfl)
theorem dX2_readSpan_150 : decode cX2_readSpan 150 = .ok (.iadd, 1) := dk_96 (dk_at dksX2_readSpan_6 9 rfl rfl)
theorem dX2_readSpan_151 : decode cX2_readSpan 151 = .ok (.baload, 1) := dk_51 (dk_at dksX2_readSpan_6 10 rfl rfl)
theorem dX2_readSpan_152 : decode cX2_readSpan 152 = .ok (.aload_n 0, 1) := dk_42 (dk_at dksX2_readSpan_6 11 rfl rfl)
theorem dX2_readSpan_153 : decode cX2_readSpan 153 = .ok (.iload_n 1, 1) := dk_27 (dk_at dksX2_readSpan_6 12 rfl rfl)
theorem dX2_readSpan_154 : decode cX2_readSpan 154 = .ok (.iconst 1, 1) := dk_4 (dk_at dksX2_readSpan_6 13 rfl rfl)
theorem dX2_readSpan_155 : decode cX2_readSpan 155 = .ok (.iadd, 1) := dk_96 (dk_at dksX2_readSpan_6 14 rfl rfl)
theorem dX2_readSpan_156 : decode cX2_readSpan 156 = .ok (.iload_n 2, 1) := dk_28 (dk_at dksX2_readSpan_6 15 rfl rfl)
theorem dX2_readSpan_157 : decode cX2_readSpan 157 = .ok (.iconst 1, 1) := dk_4 (dk_at dksX2_readSpan_6 16 rfl rfl)
theorem dX2_readSpan_158 : decode cX2_readSpan 158 = .ok (.isub, 1) := dk_100 (dk_at dksX2_readSpan_6 17 rfl rfl)
theorem dX2_readSpan_159 : decode cX2_readSpan 159 = .ok (.iload 4, 2) := dk_21 4 (dk_at dksX2_readSpan_6 18 rfl rfl)
theorem dX2_readSpan_161 : decode cX2_readSpan 161 = .ok (.sipush 1000, 3) := dk_17 3 232 (dk_at dksX2_readSpan_6 20 rfl rfl)
theorem dX2_readSpan_164 : decode cX2_readSpan 164 = .ok (.invokevirtual 725, 3) := dk_182 2 213 (dk_at dksX2_readSpan_7 0 rfl rfl)
theorem dX2_readSpan_167 : decode cX2_readSpan 167 = .ok (.iadd, 1) := dk_96 (dk_at dksX2_readSpan_7 3 rfl rfl)
theorem dX2_readSpan_168 : decode cX2_readSpan 168 = .ok (.invokevirtual 716, 3) := dk_182 2 204 (dk_at dksX2_readSpan_7 4 rfl rfl)
theorem dX2_readSpan_171 : decode cX2_readSpan 171 = .ok (.i2b, 1) := dk_145 (dk_at dksX2_readSpan_7 7 rfl rfl)
theorem dX2_readSpan_172 : decode cX2_readSpan 172 = .ok (.bastore, 1) := dk_84 (dk_at dksX2_readSpan_7 8 rfl rfl)
theorem dX2_readSpan_173 : decode cX2_readSpan 173 = .ok (.iinc 4 1, 3) := dk_132 4 1 (dk_at dksX2_readSpan_7 9 rfl rfl)
theorem dX2_readSpan_176 : decode cX2_readSpan 176 = .ok (.goto (-57), 3) := dk_167 255 199 (dk_at dksX2_readSpan_7 12 rfl rfl)
theorem dX2_readSpan_179 : decode cX2_readSpan 179 = .ok (.iconst 0, 1) := dk_3 (dk_at dksX2_readSpan_7 15 rfl rfl)
theorem dX2_readSpan_180 : decode cX2_readSpan 180 = .ok (.istore 4, 2) := dk_54 4 (dk_at dksX2_readSpan_7 16 rfl rfl)
theorem dX2_readSpan_182 : decode cX2_readSpan 182 = .ok (.iload 4, 2) := dk_21 4 (dk_at dksX2_readSpan_7 18 rfl rfl)
theorem dX2_readSpan_184 : decode cX2_readSpan 184 = .ok (.aload_n 0, 1) := dk_42 (dk_at dksX2_readSpan_7 20 rfl rfl)
theorem dX2_readSpan_185 : decode cX2_readSpan 185 = .ok (.getfield 643, 3) := dk_180 2 131 (dk_at dksX2_readSpan_7 21 rfl rfl)
theorem dX2_readSpan_188 : decode cX2_readSpan 188 = .ok (.if_icmp .ge 66, 3) := dk_162 0 66 (dk_at dksX2_readSpan_8 0 rfl rfl)
theorem dX2_readSpan_191 : decode cX2_readSpan 191 = .ok (.aload_n 0, 1) := dk_42 (dk_at dksX2_readSpan_8 3 rfl rfl)
theorem dX2_readSpan_192 : decode cX2_readSpan 192 = .ok (.getfield 223, 3) := dk_180 0 223 (dk_at dksX2_readSpan_8 4 rfl rfl)
theorem dX2_readSpan_195 : decode cX2_readSpan 195 = .ok (.bipush 50, 2) := dk_16 50 (dk_at dksX2_readSpan_8 7 rfl rfl)
theorem dX2_readSpan_197 : decode cX2_readSpan 197 = .ok (.iload_n 3, 1) := dk_29 (dk_at dksX2_readSpan_8 9 rfl rfl)
theorem dX2_readSpan_198 : decode cX2_readSpan 198 = .ok (.imul, 1) := dk_104 (dk_at dksX2_readSpan_8 10 rfl rfl)
theorem dX2_readSpan_199 : decode cX2_readSpan 199 = .ok (.iload 4, 2) := dk_21 4 (dk_at dksX2_readSpan_8 11 rfl rfl)
theorem dX2_readSpan_201 : decode cX2_readSpan 201 = .ok (.iadd, 1) := dk_96 (dk_at dksX2_readSpan_8 13 rfl rfl)
theorem dX2_readSpan_202 : decode cX2_readSpan 202 = .ok (.iconst 0, 1) := dk_3 (dk_at dksX2_readSpan_8 14 rfl rfl)
theorem dX2_readSpan_203 : decode cX2_readSpan 203 = .ok (.bastore, 1) := dk_84 (dk_at dksX2_readSpan_8 15 rfl rfl)
theorem dX2_readSpan_204 : decode cX2_readSpan 204 = .ok (.aload_n 0, 1) := dk_42 (dk_at dksX2_readSpan_8 16 rfl rfl)
theorem dX2_readSpan_205 : decode cX2_readSpan 205 = .ok (.getfield 144, 3) := dk_180 0 144 (dk_at dksX2_readSpan_8 17 rfl rfl)
theorem dX2_readSpan_208 : decode cX2_readSpan 208 = .ok (.aload_n 0, 1) := dk_42 (dk_at dksX2_readSpan_8 20 rfl rfl)
theorem dX2_readSpan_209 : decode cX2_readSpan 209 = .ok (.getfield 159, 3) := dk_180 0 159 (dk_at dksX2_readSpan_8 21 rfl rfl)
theorem dX2_readSpan_212 : decode cX2_readSpan 212 = .ok (.iload 4, 2) := dk_21 4 (dk_at dksX2_readSpan_9 0 rfl rfl)
theorem dX2_readSpan_214 : decode cX2_readSpan 214 = .ok (.iaload, 1) := dk_46 (dk_at dksX2_readSpan_9 2 rfl rfl)
theorem dX2_readSpan_215 : decode cX2_readSpan 215 = .ok (.iaload, 1) := dk_46 (dk_at dksX2_readSpan_9 3 rfl rfl)
theorem dX2_readSpan_216 : decode cX2_readSpan 216 = .ok (.iload_n 2, 1) := dk_28 (dk_at dksX2_readSpan_9 4 rfl rfl)
theorem dX2_readSpan_217 : decode cX2_readSpan 217 = .ok (.iload_n 1, 1) := dk_27 (dk_at dksX2_readSpan_9 5 rfl rfl)
theorem dX2_readSpan_218 : decode cX2_readSpan 218 = .ok (.isub, 1) := dk_100 (dk_at dksX2_readSpan_9 6 rfl rfl)
theorem dX2_readSpan_219 : decode cX2_readSpan 219 = .ok (.if_icmp .gt 29, 3) := dk_163 0 29 (dk_at dksX2_readSpan_9 7 rfl rfl)
theorem dX2_readSpan_222 : decode cX2_readSpan 222 = .ok (.aload_n 0, 1) := dk_42 (dk_at dksX2_readSpan_9 10 rfl rfl)
theorem dX2_readSpan_223 : decode cX2_readSpan 223 = .ok (.iload 4, 2) := dk_21 4 (dk_at dksX2_readSpan_9 11 rfl rfl)
theorem dX2_readSpan_225 : decode cX2_readSpan 225 = .ok (.iload_n 1, 1) := dk_27 (dk_at dksX2_readSpan_9 13 rfl rfl)
theorem dX2_readSpan_226 : decode cX2_readSpan 226 = .ok (.iload_n 2, 1) := dk_28 (dk_at dksX2_readSpan_9 14 rfl rfl)
theorem dX2_readSpan_227 : decode cX2_readSpan 227 = .ok (.invokevirtual 735, 3) := dk_182 2 223 (dk_at dksX2_readSpan_9 15 rfl rfl)
theorem dX2_readSpan_230 : decode cX2_readSpan 230 = .ok (.aload_n 0, 1) := dk_42 (dk_at dksX2_readSpan_9 18 rfl rfl)
theorem dX2_readSpan_231 : decode cX2_readSpan 231 = .ok (.getfield 223, 3) := dk_180 0 223 (dk_at dksX2_readSpan_9 19 rfl rfl)
theorem dX2_readSpan_234 : decode cX2_readSpan 234 = .ok (.bipush 50, 2) := dk_16 50 (dk_at dksX2_readSpan_9 22 rfl rfl)
theorem dX2_readSpan_236 : decode cX2_readSpan 236 = .ok (.iload_n 3, 1) := dk_29 (dk_at dksX2_readSpan_10 0 rfl rfl)
theorem dX2_readSpan_237 : decode cX2_readSpan 237 = .ok (.imul, 1) := dk_104 (dk_at dksX2_readSpan_10 1 rfl rfl)
theorem dX2_readSpan_238 : decode cX2_readSpan 238 = .ok (.iload 4, 2) := dk_21 4 (dk_at dksX2_readSpan_10 2 rfl rfl)
theorem dX2_readSpan_240 : decode cX2_readSpan 240 = .ok (.iadd, 1) := dk_96 (dk_at dksX2_readSpan_10 4 rfl rfl)
theorem dX2_readSpan_241 : decode cX2_readSpan 241 = .ok (.aload_n 0, 1) := dk_42 (dk_at dksX2_readSpan_10 5 rfl rfl)
theorem dX2_readSpan_242 : decode cX2_readSpan 242 = .ok (.getfield 229, 3) := dk_180 0 229 (dk_at dksX2_readSpan_10 6 rfl rfl)
theorem dX2_readSpan_245 : decode cX2_readSpan 245 = .ok (.iload_n 1, 1) := dk_27 (dk_at dksX2_readSpan_10 9 rfl rfl)
theorem dX2_readSpan_246 : decode cX2_readSpan 246 = .ok (.baload, 1) := dk_51 (dk_at dksX2_readSpan_10 10 rfl rfl)
theorem dX2_readSpan_247 : decode cX2_readSpan 247 = .ok (.bastore, 1) := dk_84 (dk_at dksX2_readSpan_10 11 rfl rfl)
theorem dX2_readSpan_248 : decode cX2_readSpan 248 = .ok (.iinc 4 1, 3) := dk_132 4 1 (dk_at dksX2_readSpan_10 12 rfl rfl)
theorem dX2_readSpan_251 : decode cX2_readSpan 251 = .ok (.goto (-69), 3) := dk_167 255 187 (dk_at dksX2_readSpan_10 15 rfl rfl)
theorem dX2_readSpan_254 : decode cX2_readSpan 254 = .ok (.return_, 1) := dk_177 (dk_at dksX2_readSpan_10 18 rfl rfl)
abbrev cX2_span : ByteArray := prog_4_method_73_code
def yX2_span : MethodName := ⟨RX2, "span", "(II)I"⟩
def dkwX2_span_0 : List UInt8 := [16, 33, 27, 104, 28, 96, 172]
abbrev dktX2_span_0 : List UInt8 := dkwX2_span_0 ++ []
theorem dksX2_span_0 : cX2_span.data.toList.drop 0 = dktX2_span_0 := by decide +kernel
theorem dX2_span_0 : decode cX2_span 0 = .ok (.bipush 33, 2) := dk_16 33 (dk_at dksX2_span_0 0 rfl rfl)
theorem dX2_span_2 : decode cX2_span 2 = .ok (.iload_n 1, 1) := dk_27 (dk_at dksX2_span_0 2 rfl rfl)
theorem dX2_span_3 : decode cX2_span 3 = .ok (.imul, 1) := dk_104 (dk_at dksX2_span_0 3 rfl rfl)
theorem dX2_span_4 : decode cX2_span 4 = .ok (.iload_n 2, 1) := dk_28 (dk_at dksX2_span_0 4 rfl rfl)
theorem dX2_span_5 : decode cX2_span 5 = .ok (.iadd, 1) := dk_96 (dk_at dksX2_span_0 5 rfl rfl)
theorem dX2_span_6 : decode cX2_span 6 = .ok (.ireturn, 1) := dk_172 (dk_at dksX2_span_0 6 rfl rfl)
abbrev cX2_readings : ByteArray := prog_4_method_75_code
def yX2_readings : MethodName := ⟨RX2, "readings", "(IIII)I"⟩
def dkwX2_readings_4 : List UInt8 := [167, 255, 193, 42, 21, 5, 182, 2, 204, 172]
abbrev dktX2_readings_4 : List UInt8 := dkwX2_readings_4 ++ []
def dkwX2_readings_3 : List UInt8 := [42, 180, 0, 223, 16, 50, 42, 27, 28, 182, 2, 201, 104, 21, 6, 96, 51, 96, 54, 5, 132, 6, 1]
abbrev dktX2_readings_3 : List UInt8 := dkwX2_readings_3 ++ dktX2_readings_4
def dkwX2_readings_2 : List UInt8 := [180, 0, 162, 21, 6, 46, 29, 160, 0, 37, 42, 180, 0, 165, 21, 6, 46, 21, 4, 163, 0, 25, 21, 5]
abbrev dktX2_readings_2 : List UInt8 := dkwX2_readings_2 ++ dktX2_readings_3
def dkwX2_readings_1 : List UInt8 := [3, 54, 5, 3, 54, 6, 21, 6, 42, 180, 2, 131, 162, 0, 60, 21, 5, 5, 162, 0, 54, 42]
abbrev dktX2_readings_1 : List UInt8 := dkwX2_readings_1 ++ dktX2_readings_2
def dkwX2_readings_0 : List UInt8 := [21, 4, 155, 0, 22, 42, 180, 0, 226, 16, 20, 42, 27, 28, 182, 2, 201, 104, 29, 96, 51, 167, 0, 4]
abbrev dktX2_readings_0 : List UInt8 := dkwX2_readings_0 ++ dktX2_readings_1
theorem dksX2_readings_0 : cX2_readings.data.toList.drop 0 = dktX2_readings_0 := by decide +kernel
theorem dksX2_readings_1 : cX2_readings.data.toList.drop 24 = dktX2_readings_1 := dk_seg dksX2_readings_0 24 rfl rfl
theorem dksX2_readings_2 : cX2_readings.data.toList.drop 46 = dktX2_readings_2 := dk_seg dksX2_readings_1 22 rfl rfl
theorem dksX2_readings_3 : cX2_readings.data.toList.drop 70 = dktX2_readings_3 := dk_seg dksX2_readings_2 24 rfl rfl
theorem dksX2_readings_4 : cX2_readings.data.toList.drop 93 = dktX2_readings_4 := dk_seg dksX2_readings_3 23 rfl rfl
theorem dX2_readings_0 : decode cX2_readings 0 = .ok (.iload 4, 2) := dk_21 4 (dk_at dksX2_readings_0 0 rfl rfl)
theorem dX2_readings_2 : decode cX2_readings 2 = .ok (.ifCond .lt 22, 3) := dk_155 0 22 (dk_at dksX2_readings_0 2 rfl rfl)
theorem dX2_readings_5 : decode cX2_readings 5 = .ok (.aload_n 0, 1) := dk_42 (dk_at dksX2_readings_0 5 rfl rfl)
theorem dX2_readings_6 : decode cX2_readings 6 = .ok (.getfield 226, 3) := dk_180 0 226 (dk_at dksX2_readings_0 6 rfl rfl)
theorem dX2_readings_9 : decode cX2_readings 9 = .ok (.bipush 20, 2) := dk_16 20 (dk_at dksX2_readings_0 9 rfl rfl)
theorem dX2_readings_11 : decode cX2_readings 11 = .ok (.aload_n 0, 1) := dk_42 (dk_at dksX2_readings_0 11 rfl rfl)
theorem dX2_readings_12 : decode cX2_readings 12 = .ok (.iload_n 1, 1) := dk_27 (dk_at dksX2_readings_0 12 rfl rfl)
theorem dX2_readings_13 : decode cX2_readings 13 = .ok (.iload_n 2, 1) := dk_28 (dk_at dksX2_readings_0 13 rfl rfl)
theorem dX2_readings_14 : decode cX2_readings 14 = .ok (.invokevirtual 713, 3) := dk_182 2 201 (dk_at dksX2_readings_0 14 rfl rfl)
theorem dX2_readings_17 : decode cX2_readings 17 = .ok (.imul, 1) := dk_104 (dk_at dksX2_readings_0 17 rfl rfl)
theorem dX2_readings_18 : decode cX2_readings 18 = .ok (.iload_n 3, 1) := dk_29 (dk_at dksX2_readings_0 18 rfl rfl)
theorem dX2_readings_19 : decode cX2_readings 19 = .ok (.iadd, 1) := dk_96 (dk_at dksX2_readings_0 19 rfl rfl)
theorem dX2_readings_20 : decode cX2_readings 20 = .ok (.baload, 1) := dk_51 (dk_at dksX2_readings_0 20 rfl rfl)
theorem dX2_readings_21 : decode cX2_readings 21 = .ok (.goto 4, 3) := dk_167 0 4 (dk_at dksX2_readings_0 21 rfl rfl)
theorem dX2_readings_24 : decode cX2_readings 24 = .ok (.iconst 0, 1) := dk_3 (dk_at dksX2_readings_1 0 rfl rfl)
theorem dX2_readings_25 : decode cX2_readings 25 = .ok (.istore 5, 2) := dk_54 5 (dk_at dksX2_readings_1 1 rfl rfl)
theorem dX2_readings_27 : decode cX2_readings 27 = .ok (.iconst 0, 1) := dk_3 (dk_at dksX2_readings_1 3 rfl rfl)
theorem dX2_readings_28 : decode cX2_readings 28 = .ok (.istore 6, 2) := dk_54 6 (dk_at dksX2_readings_1 4 rfl rfl)
theorem dX2_readings_30 : decode cX2_readings 30 = .ok (.iload 6, 2) := dk_21 6 (dk_at dksX2_readings_1 6 rfl rfl)
theorem dX2_readings_32 : decode cX2_readings 32 = .ok (.aload_n 0, 1) := dk_42 (dk_at dksX2_readings_1 8 rfl rfl)
theorem dX2_readings_33 : decode cX2_readings 33 = .ok (.getfield 643, 3) := dk_180 2 131 (dk_at dksX2_readings_1 9 rfl rfl)
theorem dX2_readings_36 : decode cX2_readings 36 = .ok (.if_icmp .ge 60, 3) := dk_162 0 60 (dk_at dksX2_readings_1 12 rfl rfl)
theorem dX2_readings_39 : decode cX2_readings 39 = .ok (.iload 5, 2) := dk_21 5 (dk_at dksX2_readings_1 15 rfl rfl)
theorem dX2_readings_41 : decode cX2_readings 41 = .ok (.iconst 2, 1) := dk_5 (dk_at dksX2_readings_1 17 rfl rfl)
theorem dX2_readings_42 : decode cX2_readings 42 = .ok (.if_icmp .ge 54, 3) := dk_162 0 54 (dk_at dksX2_readings_1 18 rfl rfl)
theorem dX2_readings_45 : decode cX2_readings 45 = .ok (.aload_n 0, 1) := dk_42 (dk_at dksX2_readings_1 21 rfl rfl)
theorem dX2_readings_46 : decode cX2_readings 46 = .ok (.getfield 162, 3) := dk_180 0 162 (dk_at dksX2_readings_2 0 rfl rfl)
theorem dX2_readings_49 : decode cX2_readings 49 = .ok (.iload 6, 2) := dk_21 6 (dk_at dksX2_readings_2 3 rfl rfl)
theorem dX2_readings_51 : decode cX2_readings 51 = .ok (.iaload, 1) := dk_46 (dk_at dksX2_readings_2 5 rfl rfl)
theorem dX2_readings_52 : decode cX2_readings 52 = .ok (.iload_n 3, 1) := dk_29 (dk_at dksX2_readings_2 6 rfl rfl)
theorem dX2_readings_53 : decode cX2_readings 53 = .ok (.if_icmp .ne 37, 3) := dk_160 0 37 (dk_at dksX2_readings_2 7 rfl rfl)
theorem dX2_readings_56 : decode cX2_readings 56 = .ok (.aload_n 0, 1) := dk_42 (dk_at dksX2_readings_2 10 rfl rfl)
theorem dX2_readings_57 : decode cX2_readings 57 = .ok (.getfield 165, 3) := dk_180 0 165 (dk_at dksX2_readings_2 11 rfl rfl)
theorem dX2_readings_60 : decode cX2_readings 60 = .ok (.iload 6, 2) := dk_21 6 (dk_at dksX2_readings_2 14 rfl rfl)
theorem dX2_readings_62 : decode cX2_readings 62 = .ok (.iaload, 1) := dk_46 (dk_at dksX2_readings_2 16 rfl rfl)
theorem dX2_readings_63 : decode cX2_readings 63 = .ok (.iload 4, 2) := dk_21 4 (dk_at dksX2_readings_2 17 rfl rfl)
theorem dX2_readings_65 : decode cX2_readings 65 = .ok (.if_icmp .gt 25, 3) := dk_163 0 25 (dk_at dksX2_readings_2 19 rfl rfl)
theorem dX2_readings_68 : decode cX2_readings 68 = .ok (.iload 5, 2) := dk_21 5 (dk_at dksX2_readings_2 22 rfl rfl)
theorem dX2_readings_70 : decode cX2_readings 70 = .ok (.aload_n 0, 1) := dk_42 (dk_at dksX2_readings_3 0 rfl rfl)
theorem dX2_readings_71 : decode cX2_readings 71 = .ok (.getfield 223, 3) := dk_180 0 223 (dk_at dksX2_readings_3 1 rfl rfl)
theorem dX2_readings_74 : decode cX2_readings 74 = .ok (.bipush 50, 2) := dk_16 50 (dk_at dksX2_readings_3 4 rfl rfl)
theorem dX2_readings_76 : decode cX2_readings 76 = .ok (.aload_n 0, 1) := dk_42 (dk_at dksX2_readings_3 6 rfl rfl)
theorem dX2_readings_77 : decode cX2_readings 77 = .ok (.iload_n 1, 1) := dk_27 (dk_at dksX2_readings_3 7 rfl rfl)
theorem dX2_readings_78 : decode cX2_readings 78 = .ok (.iload_n 2, 1) := dk_28 (dk_at dksX2_readings_3 8 rfl rfl)
theorem dX2_readings_79 : decode cX2_readings 79 = .ok (.invokevirtual 713, 3) := dk_182 2 201 (dk_at dksX2_readings_3 9 rfl rfl)
theorem dX2_readings_82 : decode cX2_readings 82 = .ok (.imul, 1) := dk_104 (dk_at dksX2_readings_3 12 rfl rfl)
theorem dX2_readings_83 : decode cX2_readings 83 = .ok (.iload 6, 2) := dk_21 6 (dk_at dksX2_readings_3 13 rfl rfl)
theorem dX2_readings_85 : decode cX2_readings 85 = .ok (.iadd, 1) := dk_96 (dk_at dksX2_readings_3 15 rfl rfl)
theorem dX2_readings_86 : decode cX2_readings 86 = .ok (.baload, 1) := dk_51 (dk_at dksX2_readings_3 16 rfl rfl)
theorem dX2_readings_87 : decode cX2_readings 87 = .ok (.iadd, 1) := dk_96 (dk_at dksX2_readings_3 17 rfl rfl)
theorem dX2_readings_88 : decode cX2_readings 88 = .ok (.istore 5, 2) := dk_54 5 (dk_at dksX2_readings_3 18 rfl rfl)
theorem dX2_readings_90 : decode cX2_readings 90 = .ok (.iinc 6 1, 3) := dk_132 6 1 (dk_at dksX2_readings_3 20 rfl rfl)
theorem dX2_readings_93 : decode cX2_readings 93 = .ok (.goto (-63), 3) := dk_167 255 193 (dk_at dksX2_readings_4 0 rfl rfl)
theorem dX2_readings_96 : decode cX2_readings 96 = .ok (.aload_n 0, 1) := dk_42 (dk_at dksX2_readings_4 3 rfl rfl)
theorem dX2_readings_97 : decode cX2_readings 97 = .ok (.iload 5, 2) := dk_21 5 (dk_at dksX2_readings_4 4 rfl rfl)
theorem dX2_readings_99 : decode cX2_readings 99 = .ok (.invokevirtual 716, 3) := dk_182 2 204 (dk_at dksX2_readings_4 6 rfl rfl)
theorem dX2_readings_102 : decode cX2_readings 102 = .ok (.ireturn, 1) := dk_172 (dk_at dksX2_readings_4 9 rfl rfl)
abbrev cX2_capped : ByteArray := prog_4_method_74_code
def yX2_capped : MethodName := ⟨RX2, "capped", "(I)I"⟩
def dkwX2_capped_0 : List UInt8 := [27, 5, 164, 0, 7, 5, 167, 0, 4, 27, 172]
abbrev dktX2_capped_0 : List UInt8 := dkwX2_capped_0 ++ []
theorem dksX2_capped_0 : cX2_capped.data.toList.drop 0 = dktX2_capped_0 := by decide +kernel
theorem dX2_capped_0 : decode cX2_capped 0 = .ok (.iload_n 1, 1) := dk_27 (dk_at dksX2_capped_0 0 rfl rfl)
theorem dX2_capped_1 : decode cX2_capped 1 = .ok (.iconst 2, 1) := dk_5 (dk_at dksX2_capped_0 1 rfl rfl)
theorem dX2_capped_2 : decode cX2_capped 2 = .ok (.if_icmp .le 7, 3) := dk_164 0 7 (dk_at dksX2_capped_0 2 rfl rfl)
theorem dX2_capped_5 : decode cX2_capped 5 = .ok (.iconst 2, 1) := dk_5 (dk_at dksX2_capped_0 5 rfl rfl)
theorem dX2_capped_6 : decode cX2_capped 6 = .ok (.goto 4, 3) := dk_167 0 4 (dk_at dksX2_capped_0 6 rfl rfl)
theorem dX2_capped_9 : decode cX2_capped 9 = .ok (.iload_n 1, 1) := dk_27 (dk_at dksX2_capped_0 9 rfl rfl)
theorem dX2_capped_10 : decode cX2_capped 10 = .ok (.ireturn, 1) := dk_172 (dk_at dksX2_capped_0 10 rfl rfl)
abbrev cX2_fit : ByteArray := prog_4_method_77_code
def yX2_fit : MethodName := ⟨RX2, "fit", "(III)V"⟩
def dkwX2_fit_13 : List UInt8 := [167, 255, 58, 132, 6, 255, 167, 255, 13, 177]
abbrev dktX2_fit_13 : List UInt8 := dkwX2_fit_13 ++ []
def dkwX2_fit_12 : List UInt8 := [180, 0, 229, 16, 33, 21, 6, 104, 21, 8, 96, 42, 21, 9, 182, 2, 204, 145, 84, 132, 8, 1]
abbrev dktX2_fit_12 : List UInt8 := dkwX2_fit_12 ++ dktX2_fit_13
def dkwX2_fit_11 : List UInt8 := [182, 2, 140, 42, 27, 21, 7, 182, 2, 210, 182, 2, 213, 104, 96, 54, 9, 132, 10, 1, 167, 255, 176, 42]
abbrev dktX2_fit_11 : List UInt8 := dkwX2_fit_11 ++ dktX2_fit_12
def dkwX2_fit_10 : List UInt8 := [160, 0, 9, 21, 10, 29, 159, 0, 34, 21, 9, 21, 11, 42, 21, 8, 21, 10, 42, 21, 4, 21, 7]
abbrev dktX2_fit_10 : List UInt8 := dkwX2_fit_10 ++ dktX2_fit_11
def dkwX2_fit_9 : List UInt8 := [180, 0, 229, 16, 33, 21, 6, 4, 96, 104, 21, 10, 96, 51, 54, 11, 21, 11, 158, 0, 46, 21, 8, 28]
abbrev dktX2_fit_9 : List UInt8 := dkwX2_fit_9 ++ dktX2_fit_10
def dkwX2_fit_8 : List UInt8 := [159, 0, 92, 21, 8, 4, 96, 54, 10, 21, 10, 29, 163, 0, 80, 21, 9, 5, 162, 0, 74, 42]
abbrev dktX2_fit_8 : List UInt8 := dkwX2_fit_8 ++ dktX2_fit_9
def dkwX2_fit_7 : List UInt8 := [167, 0, 4, 3, 54, 9, 167, 0, 109, 21, 8, 28, 160, 0, 14, 21, 6, 154, 0, 9, 21, 5, 4]
abbrev dktX2_fit_7 : List UInt8 := dkwX2_fit_7 ++ dktX2_fit_8
def dkwX2_fit_6 : List UInt8 := [96, 46, 160, 0, 23, 42, 180, 0, 229, 16, 33, 21, 6, 4, 96, 104, 21, 8, 96, 4, 96, 51]
abbrev dktX2_fit_6 : List UInt8 := dkwX2_fit_6 ++ dktX2_fit_7
def dkwX2_fit_5 : List UInt8 := [21, 8, 29, 162, 0, 46, 42, 180, 0, 216, 21, 8, 46, 42, 180, 0, 141, 16, 13, 21, 4, 104, 21, 6]
abbrev dktX2_fit_5 : List UInt8 := dkwX2_fit_5 ++ dktX2_fit_6
def dkwX2_fit_4 : List UInt8 := [167, 0, 4, 2, 54, 7, 28, 54, 8, 21, 8, 29, 163, 0, 198, 3, 54, 9, 21, 7, 156, 0, 58]
abbrev dktX2_fit_4 : List UInt8 := dkwX2_fit_4 ++ dktX2_fit_5
def dkwX2_fit_3 : List UInt8 := [180, 0, 141, 16, 13, 21, 4, 104, 21, 6, 96, 46, 2, 160, 0, 14, 42, 21, 4, 21, 6, 182, 2, 207]
abbrev dktX2_fit_3 : List UInt8 := dkwX2_fit_3 ++ dktX2_fit_4
def dkwX2_fit_2 : List UInt8 := [167, 0, 4, 3, 145, 84, 132, 6, 1, 167, 255, 222, 21, 5, 4, 100, 54, 6, 21, 6, 155, 0, 244, 42]
abbrev dktX2_fit_2 : List UInt8 := dkwX2_fit_2 ++ dktX2_fit_3
def dkwX2_fit_1 : List UInt8 := [163, 0, 34, 42, 180, 0, 229, 16, 33, 21, 5, 104, 21, 6, 96, 21, 6, 29, 160, 0, 7, 4]
abbrev dktX2_fit_1 : List UInt8 := dkwX2_fit_1 ++ dktX2_fit_2
def dkwX2_fit_0 : List UInt8 := [42, 180, 0, 159, 27, 46, 54, 4, 42, 180, 0, 144, 21, 4, 46, 54, 5, 28, 54, 6, 21, 6, 29]
abbrev dktX2_fit_0 : List UInt8 := dkwX2_fit_0 ++ dktX2_fit_1
theorem dksX2_fit_0 : cX2_fit.data.toList.drop 0 = dktX2_fit_0 := by decide +kernel
theorem dksX2_fit_1 : cX2_fit.data.toList.drop 23 = dktX2_fit_1 := dk_seg dksX2_fit_0 23 rfl rfl
theorem dksX2_fit_2 : cX2_fit.data.toList.drop 45 = dktX2_fit_2 := dk_seg dksX2_fit_1 22 rfl rfl
theorem dksX2_fit_3 : cX2_fit.data.toList.drop 69 = dktX2_fit_3 := dk_seg dksX2_fit_2 24 rfl rfl
theorem dksX2_fit_4 : cX2_fit.data.toList.drop 93 = dktX2_fit_4 := dk_seg dksX2_fit_3 24 rfl rfl
theorem dksX2_fit_5 : cX2_fit.data.toList.drop 116 = dktX2_fit_5 := dk_seg dksX2_fit_4 23 rfl rfl
theorem dksX2_fit_6 : cX2_fit.data.toList.drop 140 = dktX2_fit_6 := dk_seg dksX2_fit_5 24 rfl rfl
theorem dksX2_fit_7 : cX2_fit.data.toList.drop 162 = dktX2_fit_7 := dk_seg dksX2_fit_6 22 rfl rfl
theorem dksX2_fit_8 : cX2_fit.data.toList.drop 185 = dktX2_fit_8 := dk_seg dksX2_fit_7 23 rfl rfl
theorem dksX2_fit_9 : cX2_fit.data.toList.drop 207 = dktX2_fit_9 := dk_seg dksX2_fit_8 22 rfl rfl
theorem dksX2_fit_10 : cX2_fit.data.toList.drop 231 = dktX2_fit_10 := dk_seg dksX2_fit_9 24 rfl rfl
theorem dksX2_fit_11 : cX2_fit.data.toList.drop 254 = dktX2_fit_11 := dk_seg dksX2_fit_10 23 rfl rfl
theorem dksX2_fit_12 : cX2_fit.data.toList.drop 278 = dktX2_fit_12 := dk_seg dksX2_fit_11 24 rfl rfl
theorem dksX2_fit_13 : cX2_fit.data.toList.drop 300 = dktX2_fit_13 := dk_seg dksX2_fit_12 22 rfl rfl
theorem dX2_fit_0 : decode cX2_fit 0 = .ok (.aload_n 0, 1) := dk_42 (dk_at dksX2_fit_0 0 rfl rfl)
theorem dX2_fit_1 : decode cX2_fit 1 = .ok (.getfield 159, 3) := dk_180 0 159 (dk_at dksX2_fit_0 1 rfl rfl)
theorem dX2_fit_4 : decode cX2_fit 4 = .ok (.iload_n 1, 1) := dk_27 (dk_at dksX2_fit_0 4 rfl rfl)
theorem dX2_fit_5 : decode cX2_fit 5 = .ok (.iaload, 1) := dk_46 (dk_at dksX2_fit_0 5 rfl rfl)
theorem dX2_fit_6 : decode cX2_fit 6 = .ok (.istore 4, 2) := dk_54 4 (dk_at dksX2_fit_0 6 rfl rfl)
theorem dX2_fit_8 : decode cX2_fit 8 = .ok (.aload_n 0, 1) := dk_42 (dk_at dksX2_fit_0 8 rfl rfl)
theorem dX2_fit_9 : decode cX2_fit 9 = .ok (.getfield 144, 3) := dk_180 0 144 (dk_at dksX2_fit_0 9 rfl rfl)
theorem dX2_fit_12 : decode cX2_fit 12 = .ok (.iload 4, 2) := dk_21 4 (dk_at dksX2_fit_0 12 rfl rfl)
theorem dX2_fit_14 : decode cX2_fit 14 = .ok (.iaload, 1) := dk_46 (dk_at dksX2_fit_0 14 rfl rfl)
theorem dX2_fit_15 : decode cX2_fit 15 = .ok (.istore 5, 2) := dk_54 5 (dk_at dksX2_fit_0 15 rfl rfl)
theorem dX2_fit_17 : decode cX2_fit 17 = .ok (.iload_n 2, 1) := dk_28 (dk_at dksX2_fit_0 17 rfl rfl)
theorem dX2_fit_18 : decode cX2_fit 18 = .ok (.istore 6, 2) := dk_54 6 (dk_at dksX2_fit_0 18 rfl rfl)
theorem dX2_fit_20 : decode cX2_fit 20 = .ok (.iload 6, 2) := dk_21 6 (dk_at dksX2_fit_0 20 rfl rfl)
theorem dX2_fit_22 : decode cX2_fit 22 = .ok (.iload_n 3, 1) := dk_29 (dk_at dksX2_fit_0 22 rfl rfl)
theorem dX2_fit_23 : decode cX2_fit 23 = .ok (.if_icmp .gt 34, 3) := dk_163 0 34 (dk_at dksX2_fit_1 0 rfl rfl)
theorem dX2_fit_26 : decode cX2_fit 26 = .ok (.aload_n 0, 1) := dk_42 (dk_at dksX2_fit_1 3 rfl rfl)
theorem dX2_fit_27 : decode cX2_fit 27 = .ok (.getfield 229, 3) := dk_180 0 229 (dk_at dksX2_fit_1 4 rfl rfl)
theorem dX2_fit_30 : decode cX2_fit 30 = .ok (.bipush 33, 2) := dk_16 33 (dk_at dksX2_fit_1 7 rfl rfl)
theorem dX2_fit_32 : decode cX2_fit 32 = .ok (.iload 5, 2) := dk_21 5 (dk_at dksX2_fit_1 9 rfl rfl)
theorem dX2_fit_34 : decode cX2_fit 34 = .ok (.imul, 1) := dk_104 (dk_at dksX2_fit_1 11 rfl rfl)
theorem dX2_fit_35 : decode cX2_fit 35 = .ok (.iload 6, 2) := dk_21 6 (dk_at dksX2_fit_1 12 rfl rfl)
theorem dX2_fit_37 : decode cX2_fit 37 = .ok (.iadd, 1) := dk_96 (dk_at dksX2_fit_1 14 rfl rfl)
theorem dX2_fit_38 : decode cX2_fit 38 = .ok (.iload 6, 2) := dk_21 6 (dk_at dksX2_fit_1 15 rfl rfl)
theorem dX2_fit_40 : decode cX2_fit 40 = .ok (.iload_n 3, 1) := dk_29 (dk_at dksX2_fit_1 17 rfl rfl)
theorem dX2_fit_41 : decode cX2_fit 41 = .ok (.if_icmp .ne 7, 3) := dk_160 0 7 (dk_at dksX2_fit_1 18 rfl rfl)
theorem dX2_fit_44 : decode cX2_fit 44 = .ok (.iconst 1, 1) := dk_4 (dk_at dksX2_fit_1 21 rfl rfl)
theorem dX2_fit_45 : decode cX2_fit 45 = .ok (.goto 4, 3) := dk_167 0 4 (dk_at dksX2_fit_2 0 rfl rfl)
theorem dX2_fit_48 : decode cX2_fit 48 = .ok (.iconst 0, 1) := dk_3 (dk_at dksX2_fit_2 3 rfl rfl)
theorem dX2_fit_49 : decode cX2_fit 49 = .ok (.i2b, 1) := dk_145 (dk_at dksX2_fit_2 4 rfl rfl)
theorem dX2_fit_50 : decode cX2_fit 50 = .ok (.bastore, 1) := dk_84 (dk_at dksX2_fit_2 5 rfl rfl)
theorem dX2_fit_51 : decode cX2_fit 51 = .ok (.iinc 6 1, 3) := dk_132 6 1 (dk_at dksX2_fit_2 6 rfl rfl)
theorem dX2_fit_54 : decode cX2_fit 54 = .ok (.goto (-34), 3) := dk_167 255 222 (dk_at dksX2_fit_2 9 rfl rfl)
theorem dX2_fit_57 : decode cX2_fit 57 = .ok (.iload 5, 2) := dk_21 5 (dk_at dksX2_fit_2 12 rfl rfl)
theorem dX2_fit_59 : decode cX2_fit 59 = .ok (.iconst 1, 1) := dk_4 (dk_at dksX2_fit_2 14 rfl rfl)
theorem dX2_fit_60 : decode cX2_fit 60 = .ok (.isub, 1) := dk_100 (dk_at dksX2_fit_2 15 rfl rfl)
theorem dX2_fit_61 : decode cX2_fit 61 = .ok (.istore 6, 2) := dk_54 6 (dk_at dksX2_fit_2 16 rfl rfl)
theorem dX2_fit_63 : decode cX2_fit 63 = .ok (.iload 6, 2) := dk_21 6 (dk_at dksX2_fit_2 18 rfl rfl)
theorem dX2_fit_65 : decode cX2_fit 65 = .ok (.ifCond .lt 244, 3) := dk_155 0 244 (dk_at dksX2_fit_2 20 rfl rfl)
theorem dX2_fit_68 : decode cX2_fit 68 = .ok (.aload_n 0, 1) := dk_42 (dk_at dksX2_fit_2 23 rfl rfl)
theorem dX2_fit_69 : decode cX2_fit 69 = .ok (.getfield 141, 3) := dk_180 0 141 (dk_at dksX2_fit_3 0 rfl rfl)
theorem dX2_fit_72 : decode cX2_fit 72 = .ok (.bipush 13, 2) := dk_16 13 (dk_at dksX2_fit_3 3 rfl rfl)
theorem dX2_fit_74 : decode cX2_fit 74 = .ok (.iload 4, 2) := dk_21 4 (dk_at dksX2_fit_3 5 rfl rfl)
theorem dX2_fit_76 : decode cX2_fit 76 = .ok (.imul, 1) := dk_104 (dk_at dksX2_fit_3 7 rfl rfl)
theorem dX2_fit_77 : decode cX2_fit 77 = .ok (.iload 6, 2) := dk_21 6 (dk_at dksX2_fit_3 8 rfl rfl)
theorem dX2_fit_79 : decode cX2_fit 79 = .ok (.iadd, 1) := dk_96 (dk_at dksX2_fit_3 10 rfl rfl)
theorem dX2_fit_80 : decode cX2_fit 80 = .ok (.iaload, 1) := dk_46 (dk_at dksX2_fit_3 11 rfl rfl)
theorem dX2_fit_81 : decode cX2_fit 81 = .ok (.iconst (-1), 1) := dk_2 (dk_at dksX2_fit_3 12 rfl rfl)
theorem dX2_fit_82 : decode cX2_fit 82 = .ok (.if_icmp .ne 14, 3) := dk_160 0 14 (dk_at dksX2_fit_3 13 rfl rfl)
theorem dX2_fit_85 : decode cX2_fit 85 = .ok (.aload_n 0, 1) := dk_42 (dk_at dksX2_fit_3 16 rfl rfl)
theorem dX2_fit_86 : decode cX2_fit 86 = .ok (.iload 4, 2) := dk_21 4 (dk_at dksX2_fit_3 17 rfl rfl)
theorem dX2_fit_88 : decode cX2_fit 88 = .ok (.iload 6, 2) := dk_21 6 (dk_at dksX2_fit_3 19 rfl rfl)
theorem dX2_fit_90 : decode cX2_fit 90 = .ok (.invokevirtual 719, 3) := dk_182 2 207 (dk_at dksX2_fit_3 21 rfl rfl)
theorem dX2_fit_93 : decode cX2_fit 93 = .ok (.goto 4, 3) := dk_167 0 4 (dk_at dksX2_fit_4 0 rfl rfl)
theorem dX2_fit_96 : decode cX2_fit 96 = .ok (.iconst (-1), 1) := dk_2 (dk_at dksX2_fit_4 3 rfl rfl)
theorem dX2_fit_97 : decode cX2_fit 97 = .ok (.istore 7, 2) := dk_54 7 (dk_at dksX2_fit_4 4 rfl rfl)
theorem dX2_fit_99 : decode cX2_fit 99 = .ok (.iload_n 2, 1) := dk_28 (dk_at dksX2_fit_4 6 rfl rfl)
theorem dX2_fit_100 : decode cX2_fit 100 = .ok (.istore 8, 2) := dk_54 8 (dk_at dksX2_fit_4 7 rfl rfl)
theorem dX2_fit_102 : decode cX2_fit 102 = .ok (.iload 8, 2) := dk_21 8 (dk_at dksX2_fit_4 9 rfl rfl)
theorem dX2_fit_104 : decode cX2_fit 104 = .ok (.iload_n 3, 1) := dk_29 (dk_at dksX2_fit_4 11 rfl rfl)
theorem dX2_fit_105 : decode cX2_fit 105 = .ok (.if_icmp .gt 198, 3) := dk_163 0 198 (dk_at dksX2_fit_4 12 rfl rfl)
theorem dX2_fit_108 : decode cX2_fit 108 = .ok (.iconst 0, 1) := dk_3 (dk_at dksX2_fit_4 15 rfl rfl)
theorem dX2_fit_109 : decode cX2_fit 109 = .ok (.istore 9, 2) := dk_54 9 (dk_at dksX2_fit_4 16 rfl rfl)
theorem dX2_fit_111 : decode cX2_fit 111 = .ok (.iload 7, 2) := dk_21 7 (dk_at dksX2_fit_4 18 rfl rfl)
theorem dX2_fit_113 : decode cX2_fit 113 = .ok (.ifCond .ge 58, 3) := dk_156 0 58 (dk_at dksX2_fit_4 20 rfl rfl)
theorem dX2_fit_116 : decode cX2_fit 116 = .ok (.iload 8, 2) := dk_21 8 (dk_at dksX2_fit_5 0 rfl rfl)
theorem dX2_fit_118 : decode cX2_fit 118 = .ok (.iload_n 3, 1) := dk_29 (dk_at dksX2_fit_5 2 rfl rfl)
theorem dX2_fit_119 : decode cX2_fit 119 = .ok (.if_icmp .ge 46, 3) := dk_162 0 46 (dk_at dksX2_fit_5 3 rfl rfl)
theorem dX2_fit_122 : decode cX2_fit 122 = .ok (.aload_n 0, 1) := dk_42 (dk_at dksX2_fit_5 6 rfl rfl)
theorem dX2_fit_123 : decode cX2_fit 123 = .ok (.getfield 216, 3) := dk_180 0 216 (dk_at dksX2_fit_5 7 rfl rfl)
theorem dX2_fit_126 : decode cX2_fit 126 = .ok (.iload 8, 2) := dk_21 8 (dk_at dksX2_fit_5 10 rfl rfl)
theorem dX2_fit_128 : decode cX2_fit 128 = .ok (.iaload, 1) := dk_46 (dk_at dksX2_fit_5 12 rfl rfl)
theorem dX2_fit_129 : decode cX2_fit 129 = .ok (.aload_n 0, 1) := dk_42 (dk_at dksX2_fit_5 13 rfl rfl)
theorem dX2_fit_130 : decode cX2_fit 130 = .ok (.getfield 141, 3) := dk_180 0 141 (dk_at dksX2_fit_5 14 rfl rfl)
theorem dX2_fit_133 : decode cX2_fit 133 = .ok (.bipush 13, 2) := dk_16 13 (dk_at dksX2_fit_5 17 rfl rfl)
theorem dX2_fit_135 : decode cX2_fit 135 = .ok (.iload 4, 2) := dk_21 4 (dk_at dksX2_fit_5 19 rfl rfl)
theorem dX2_fit_137 : decode cX2_fit 137 = .ok (.imul, 1) := dk_104 (dk_at dksX2_fit_5 21 rfl rfl)
theorem dX2_fit_138 : decode cX2_fit 138 = .ok (.iload 6, 2) := dk_21 6 (dk_at dksX2_fit_5 22 rfl rfl)
theorem dX2_fit_140 : decode cX2_fit 140 = .ok (.iadd, 1) := dk_96 (dk_at dksX2_fit_6 0 rfl rfl)
theorem dX2_fit_141 : decode cX2_fit 141 = .ok (.iaload, 1) := dk_46 (dk_at dksX2_fit_6 1 rfl rfl)
theorem dX2_fit_142 : decode cX2_fit 142 = .ok (.if_icmp .ne 23, 3) := dk_160 0 23 (dk_at dksX2_fit_6 2 rfl rfl)
theorem dX2_fit_145 : decode cX2_fit 145 = .ok (.aload_n 0, 1) := dk_42 (dk_at dksX2_fit_6 5 rfl rfl)
theorem dX2_fit_146 : decode cX2_fit 146 = .ok (.getfield 229, 3) := dk_180 0 229 (dk_at dksX2_fit_6 6 rfl rfl)
theorem dX2_fit_149 : decode cX2_fit 149 = .ok (.bipush 33, 2) := dk_16 33 (dk_at dksX2_fit_6 9 rfl rfl)
theorem dX2_fit_151 : decode cX2_fit 151 = .ok (.iload 6, 2) := dk_21 6 (dk_at dksX2_fit_6 11 rfl rfl)
theorem dX2_fit_153 : decode cX2_fit 153 = .ok (.iconst 1, 1) := dk_4 (dk_at dksX2_fit_6 13 rfl rfl)
theorem dX2_fit_154 : decode cX2_fit 154 = .ok (.iadd, 1) := dk_96 (dk_at dksX2_fit_6 14 rfl rfl)
theorem dX2_fit_155 : decode cX2_fit 155 = .ok (.imul, 1) := dk_104 (dk_at dksX2_fit_6 15 rfl rfl)
theorem dX2_fit_156 : decode cX2_fit 156 = .ok (.iload 8, 2) := dk_21 8 (dk_at dksX2_fit_6 16 rfl rfl)
theorem dX2_fit_158 : decode cX2_fit 158 = .ok (.iadd, 1) := dk_96 (dk_at dksX2_fit_6 18 rfl rfl)
theorem dX2_fit_159 : decode cX2_fit 159 = .ok (.iconst 1, 1) := dk_4 (dk_at dksX2_fit_6 19 rfl rfl)
theorem dX2_fit_160 : decode cX2_fit 160 = .ok (.iadd, 1) := dk_96 (dk_at dksX2_fit_6 20 rfl rfl)
theorem dX2_fit_161 : decode cX2_fit 161 = .ok (.baload, 1) := dk_51 (dk_at dksX2_fit_6 21 rfl rfl)
theorem dX2_fit_162 : decode cX2_fit 162 = .ok (.goto 4, 3) := dk_167 0 4 (dk_at dksX2_fit_7 0 rfl rfl)
theorem dX2_fit_165 : decode cX2_fit 165 = .ok (.iconst 0, 1) := dk_3 (dk_at dksX2_fit_7 3 rfl rfl)
theorem dX2_fit_166 : decode cX2_fit 166 = .ok (.istore 9, 2) := dk_54 9 (dk_at dksX2_fit_7 4 rfl rfl)
theorem dX2_fit_168 : decode cX2_fit 168 = .ok (.goto 109, 3) := dk_167 0 109 (dk_at dksX2_fit_7 6 rfl rfl)
theorem dX2_fit_171 : decode cX2_fit 171 = .ok (.iload 8, 2) := dk_21 8 (dk_at dksX2_fit_7 9 rfl rfl)
theorem dX2_fit_173 : decode cX2_fit 173 = .ok (.iload_n 2, 1) := dk_28 (dk_at dksX2_fit_7 11 rfl rfl)
theorem dX2_fit_174 : decode cX2_fit 174 = .ok (.if_icmp .ne 14, 3) := dk_160 0 14 (dk_at dksX2_fit_7 12 rfl rfl)
theorem dX2_fit_177 : decode cX2_fit 177 = .ok (.iload 6, 2) := dk_21 6 (dk_at dksX2_fit_7 15 rfl rfl)
theorem dX2_fit_179 : decode cX2_fit 179 = .ok (.ifCond .ne 9, 3) := dk_154 0 9 (dk_at dksX2_fit_7 17 rfl rfl)
theorem dX2_fit_182 : decode cX2_fit 182 = .ok (.iload 5, 2) := dk_21 5 (dk_at dksX2_fit_7 20 rfl rfl)
theorem dX2_fit_184 : decode cX2_fit 184 = .ok (.iconst 1, 1) := dk_4 (dk_at dksX2_fit_7 22 rfl rfl)
theorem dX2_fit_185 : decode cX2_fit 185 = .ok (.if_icmp .eq 92, 3) := dk_159 0 92 (dk_at dksX2_fit_8 0 rfl rfl)
theorem dX2_fit_188 : decode cX2_fit 188 = .ok (.iload 8, 2) := dk_21 8 (dk_at dksX2_fit_8 3 rfl rfl)
theorem dX2_fit_190 : decode cX2_fit 190 = .ok (.iconst 1, 1) := dk_4 (dk_at dksX2_fit_8 5 rfl rfl)
theorem dX2_fit_191 : decode cX2_fit 191 = .ok (.iadd, 1) := dk_96 (dk_at dksX2_fit_8 6 rfl rfl)
theorem dX2_fit_192 : decode cX2_fit 192 = .ok (.istore 10, 2) := dk_54 10 (dk_at dksX2_fit_8 7 rfl rfl)
theorem dX2_fit_194 : decode cX2_fit 194 = .ok (.iload 10, 2) := dk_21 10 (dk_at dksX2_fit_8 9 rfl rfl)
theorem dX2_fit_196 : decode cX2_fit 196 = .ok (.iload_n 3, 1) := dk_29 (dk_at dksX2_fit_8 11 rfl rfl)
theorem dX2_fit_197 : decode cX2_fit 197 = .ok (.if_icmp .gt 80, 3) := dk_163 0 80 (dk_at dksX2_fit_8 12 rfl rfl)
theorem dX2_fit_200 : decode cX2_fit 200 = .ok (.iload 9, 2) := dk_21 9 (dk_at dksX2_fit_8 15 rfl rfl)
theorem dX2_fit_202 : decode cX2_fit 202 = .ok (.iconst 2, 1) := dk_5 (dk_at dksX2_fit_8 17 rfl rfl)
theorem dX2_fit_203 : decode cX2_fit 203 = .ok (.if_icmp .ge 74, 3) := dk_162 0 74 (dk_at dksX2_fit_8 18 rfl rfl)
theorem dX2_fit_206 : decode cX2_fit 206 = .ok (.aload_n 0, 1) := dk_42 (dk_at dksX2_fit_8 21 rfl rfl)
theorem dX2_fit_207 : decode cX2_fit 207 = .ok (.getfield 229, 3) := dk_180 0 229 (dk_at dksX2_fit_9 0 rfl rfl)
theorem dX2_fit_210 : decode cX2_fit 210 = .ok (.bipush 33, 2) := dk_16 33 (dk_at dksX2_fit_9 3 rfl rfl)
theorem dX2_fit_212 : decode cX2_fit 212 = .ok (.iload 6, 2) := dk_21 6 (dk_at dksX2_fit_9 5 rfl rfl)
theorem dX2_fit_214 : decode cX2_fit 214 = .ok (.iconst 1, 1) := dk_4 (dk_at dksX2_fit_9 7 rfl rfl)
theorem dX2_fit_215 : decode cX2_fit 215 = .ok (.iadd, 1) := dk_96 (dk_at dksX2_fit_9 8 rfl rfl)
theorem dX2_fit_216 : decode cX2_fit 216 = .ok (.imul, 1) := dk_104 (dk_at dksX2_fit_9 9 rfl rfl)
theorem dX2_fit_217 : decode cX2_fit 217 = .ok (.iload 10, 2) := dk_21 10 (dk_at dksX2_fit_9 10 rfl rfl)
theorem dX2_fit_219 : decode cX2_fit 219 = .ok (.iadd, 1) := dk_96 (dk_at dksX2_fit_9 12 rfl rfl)
theorem dX2_fit_220 : decode cX2_fit 220 = .ok (.baload, 1) := dk_51 (dk_at dksX2_fit_9 13 rfl rfl)
theorem dX2_fit_221 : decode cX2_fit 221 = .ok (.istore 11, 2) := dk_54 11 (dk_at dksX2_fit_9 14 rfl rfl)
theorem dX2_fit_223 : decode cX2_fit 223 = .ok (.iload 11, 2) := dk_21 11 (dk_at dksX2_fit_9 16 rfl rfl)
theorem dX2_fit_225 : decode cX2_fit 225 = .ok (.ifCond .le 46, 3) := dk_158 0 46 (dk_at dksX2_fit_9 18 rfl rfl)
theorem dX2_fit_228 : decode cX2_fit 228 = .ok (.iload 8, 2) := dk_21 8 (dk_at dksX2_fit_9 21 rfl rfl)
theorem dX2_fit_230 : decode cX2_fit 230 = .ok (.iload_n 2, 1) := dk_28 (dk_at dksX2_fit_9 23 rfl rfl)
theorem dX2_fit_231 : decode cX2_fit 231 = .ok (.if_icmp .ne 9, 3) := dk_160 0 9 (dk_at dksX2_fit_10 0 rfl rfl)
theorem dX2_fit_234 : decode cX2_fit 234 = .ok (.iload 10, 2) := dk_21 10 (dk_at dksX2_fit_10 3 rfl rfl)
theorem dX2_fit_236 : decode cX2_fit 236 = .ok (.iload_n 3, 1) := dk_29 (dk_at dksX2_fit_10 5 rfl rfl)
theorem dX2_fit_237 : decode cX2_fit 237 = .ok (.if_icmp .eq 34, 3) := dk_159 0 34 (dk_at dksX2_fit_10 6 rfl rfl)
theorem dX2_fit_240 : decode cX2_fit 240 = .ok (.iload 9, 2) := dk_21 9 (dk_at dksX2_fit_10 9 rfl rfl)
theorem dX2_fit_242 : decode cX2_fit 242 = .ok (.iload 11, 2) := dk_21 11 (dk_at dksX2_fit_10 11 rfl rfl)
theorem dX2_fit_244 : decode cX2_fit 244 = .ok (.aload_n 0, 1) := dk_42 (dk_at dksX2_fit_10 13 rfl rfl)
theorem dX2_fit_245 : decode cX2_fit 245 = .ok (.iload 8, 2) := dk_21 8 (dk_at dksX2_fit_10 14 rfl rfl)
theorem dX2_fit_247 : decode cX2_fit 247 = .ok (.iload 10, 2) := dk_21 10 (dk_at dksX2_fit_10 16 rfl rfl)
theorem dX2_fit_249 : decode cX2_fit 249 = .ok (.aload_n 0, 1) := dk_42 (dk_at dksX2_fit_10 18 rfl rfl)
theorem dX2_fit_250 : decode cX2_fit 250 = .ok (.iload 4, 2) := dk_21 4 (dk_at dksX2_fit_10 19 rfl rfl)
theorem dX2_fit_252 : decode cX2_fit 252 = .ok (.iload 7, 2) := dk_21 7 (dk_at dksX2_fit_10 21 rfl rfl)
theorem dX2_fit_254 : decode cX2_fit 254 = .ok (.invokevirtual 652, 3) := dk_182 2 140 (dk_at dksX2_fit_11 0 rfl rfl)
theorem dX2_fit_257 : decode cX2_fit 257 = .ok (.aload_n 0, 1) := dk_42 (dk_at dksX2_fit_11 3 rfl rfl)
theorem dX2_fit_258 : decode cX2_fit 258 = .ok (.iload_n 1, 1) := dk_27 (dk_at dksX2_fit_11 4 rfl rfl)
theorem dX2_fit_259 : decode cX2_fit 259 = .ok (.iload 7, 2) := dk_21 7 (dk_at dksX2_fit_11 5 rfl rfl)
theorem dX2_fit_261 : decode cX2_fit 261 = .ok (.invokevirtual 722, 3) := dk_182 2 210 (dk_at dksX2_fit_11 7 rfl rfl)
theorem dX2_fit_264 : decode cX2_fit 264 = .ok (.invokevirtual 725, 3) := dk_182 2 213 (dk_at dksX2_fit_11 10 rfl rfl)
theorem dX2_fit_267 : decode cX2_fit 267 = .ok (.imul, 1) := dk_104 (dk_at dksX2_fit_11 13 rfl rfl)
theorem dX2_fit_268 : decode cX2_fit 268 = .ok (.iadd, 1) := dk_96 (dk_at dksX2_fit_11 14 rfl rfl)
theorem dX2_fit_269 : decode cX2_fit 269 = .ok (.istore 9, 2) := dk_54 9 (dk_at dksX2_fit_11 15 rfl rfl)
theorem dX2_fit_271 : decode cX2_fit 271 = .ok (.iinc 10 1, 3) := dk_132 10 1 (dk_at dksX2_fit_11 17 rfl rfl)
theorem dX2_fit_274 : decode cX2_fit 274 = .ok (.goto (-80), 3) := dk_167 255 176 (dk_at dksX2_fit_11 20 rfl rfl)
theorem dX2_fit_277 : decode cX2_fit 277 = .ok (.aload_n 0, 1) := dk_42 (dk_at dksX2_fit_11 23 rfl rfl)
theorem dX2_fit_278 : decode cX2_fit 278 = .ok (.getfield 229, 3) := dk_180 0 229 (dk_at dksX2_fit_12 0 rfl rfl)
theorem dX2_fit_281 : decode cX2_fit 281 = .ok (.bipush 33, 2) := dk_16 33 (dk_at dksX2_fit_12 3 rfl rfl)
theorem dX2_fit_283 : decode cX2_fit 283 = .ok (.iload 6, 2) := dk_21 6 (dk_at dksX2_fit_12 5 rfl rfl)
theorem dX2_fit_285 : decode cX2_fit 285 = .ok (.imul, 1) := dk_104 (dk_at dksX2_fit_12 7 rfl rfl)
theorem dX2_fit_286 : decode cX2_fit 286 = .ok (.iload 8, 2) := dk_21 8 (dk_at dksX2_fit_12 8 rfl rfl)
theorem dX2_fit_288 : decode cX2_fit 288 = .ok (.iadd, 1) := dk_96 (dk_at dksX2_fit_12 10 rfl rfl)
theorem dX2_fit_289 : decode cX2_fit 289 = .ok (.aload_n 0, 1) := dk_42 (dk_at dksX2_fit_12 11 rfl rfl)
theorem dX2_fit_290 : decode cX2_fit 290 = .ok (.iload 9, 2) := dk_21 9 (dk_at dksX2_fit_12 12 rfl rfl)
theorem dX2_fit_292 : decode cX2_fit 292 = .ok (.invokevirtual 716, 3) := dk_182 2 204 (dk_at dksX2_fit_12 14 rfl rfl)
theorem dX2_fit_295 : decode cX2_fit 295 = .ok (.i2b, 1) := dk_145 (dk_at dksX2_fit_12 17 rfl rfl)
theorem dX2_fit_296 : decode cX2_fit 296 = .ok (.bastore, 1) := dk_84 (dk_at dksX2_fit_12 18 rfl rfl)
theorem dX2_fit_297 : decode cX2_fit 297 = .ok (.iinc 8 1, 3) := dk_132 8 1 (dk_at dksX2_fit_12 19 rfl rfl)
theorem dX2_fit_300 : decode cX2_fit 300 = .ok (.goto (-198), 3) := dk_167 255 58 (dk_at dksX2_fit_13 0 rfl rfl)
theorem dX2_fit_303 : decode cX2_fit 303 = .ok (.iinc 6 (-1), 3) := dk_132 6 255 (dk_at dksX2_fit_13 3 rfl rfl)
theorem dX2_fit_306 : decode cX2_fit 306 = .ok (.goto (-243), 3) := dk_167 255 13 (dk_at dksX2_fit_13 6 rfl rfl)
theorem dX2_fit_309 : decode cX2_fit 309 = .ok (.return_, 1) := dk_177 (dk_at dksX2_fit_13 9 rfl rfl)
abbrev cX2_holeNumber : ByteArray := prog_4_method_76_code
def yX2_holeNumber : MethodName := ⟨RX2, "holeNumber", "(II)I"⟩
def dkwX2_holeNumber_1 : List UInt8 := [2, 160, 0, 7, 4, 167, 0, 4, 3, 96, 62, 132, 4, 1, 167, 255, 223, 29, 172]
abbrev dktX2_holeNumber_1 : List UInt8 := dkwX2_holeNumber_1 ++ []
def dkwX2_holeNumber_0 : List UInt8 := [3, 62, 3, 54, 4, 21, 4, 28, 162, 0, 33, 29, 42, 180, 0, 141, 16, 13, 27, 104, 21, 4, 96, 46]
abbrev dktX2_holeNumber_0 : List UInt8 := dkwX2_holeNumber_0 ++ dktX2_holeNumber_1
theorem dksX2_holeNumber_0 : cX2_holeNumber.data.toList.drop 0 = dktX2_holeNumber_0 := by decide +kernel
theorem dksX2_holeNumber_1 : cX2_holeNumber.data.toList.drop 24 = dktX2_holeNumber_1 := dk_seg dksX2_holeNumber_0 24 rfl rfl
theorem dX2_holeNumber_0 : decode cX2_holeNumber 0 = .ok (.iconst 0, 1) := dk_3 (dk_at dksX2_holeNumber_0 0 rfl rfl)
theorem dX2_holeNumber_1 : decode cX2_holeNumber 1 = .ok (.istore_n 3, 1) := dk_62 (dk_at dksX2_holeNumber_0 1 rfl rfl)
theorem dX2_holeNumber_2 : decode cX2_holeNumber 2 = .ok (.iconst 0, 1) := dk_3 (dk_at dksX2_holeNumber_0 2 rfl rfl)
theorem dX2_holeNumber_3 : decode cX2_holeNumber 3 = .ok (.istore 4, 2) := dk_54 4 (dk_at dksX2_holeNumber_0 3 rfl rfl)
theorem dX2_holeNumber_5 : decode cX2_holeNumber 5 = .ok (.iload 4, 2) := dk_21 4 (dk_at dksX2_holeNumber_0 5 rfl rfl)
theorem dX2_holeNumber_7 : decode cX2_holeNumber 7 = .ok (.iload_n 2, 1) := dk_28 (dk_at dksX2_holeNumber_0 7 rfl rfl)
theorem dX2_holeNumber_8 : decode cX2_holeNumber 8 = .ok (.if_icmp .ge 33, 3) := dk_162 0 33 (dk_at dksX2_holeNumber_0 8 rfl rfl)
theorem dX2_holeNumber_11 : decode cX2_holeNumber 11 = .ok (.iload_n 3, 1) := dk_29 (dk_at dksX2_holeNumber_0 11 rfl rfl)
theorem dX2_holeNumber_12 : decode cX2_holeNumber 12 = .ok (.aload_n 0, 1) := dk_42 (dk_at dksX2_holeNumber_0 12 rfl rfl)
theorem dX2_holeNumber_13 : decode cX2_holeNumber 13 = .ok (.getfield 141, 3) := dk_180 0 141 (dk_at dksX2_holeNumber_0 13 rfl rfl)
theorem dX2_holeNumber_16 : decode cX2_holeNumber 16 = .ok (.bipush 13, 2) := dk_16 13 (dk_at dksX2_holeNumber_0 16 rfl rfl)
theorem dX2_holeNumber_18 : decode cX2_holeNumber 18 = .ok (.iload_n 1, 1) := dk_27 (dk_at dksX2_holeNumber_0 18 rfl rfl)
theorem dX2_holeNumber_19 : decode cX2_holeNumber 19 = .ok (.imul, 1) := dk_104 (dk_at dksX2_holeNumber_0 19 rfl rfl)
theorem dX2_holeNumber_20 : decode cX2_holeNumber 20 = .ok (.iload 4, 2) := dk_21 4 (dk_at dksX2_holeNumber_0 20 rfl rfl)
theorem dX2_holeNumber_22 : decode cX2_holeNumber 22 = .ok (.iadd, 1) := dk_96 (dk_at dksX2_holeNumber_0 22 rfl rfl)
theorem dX2_holeNumber_23 : decode cX2_holeNumber 23 = .ok (.iaload, 1) := dk_46 (dk_at dksX2_holeNumber_0 23 rfl rfl)
theorem dX2_holeNumber_24 : decode cX2_holeNumber 24 = .ok (.iconst (-1), 1) := dk_2 (dk_at dksX2_holeNumber_1 0 rfl rfl)
theorem dX2_holeNumber_25 : decode cX2_holeNumber 25 = .ok (.if_icmp .ne 7, 3) := dk_160 0 7 (dk_at dksX2_holeNumber_1 1 rfl rfl)
theorem dX2_holeNumber_28 : decode cX2_holeNumber 28 = .ok (.iconst 1, 1) := dk_4 (dk_at dksX2_holeNumber_1 4 rfl rfl)
theorem dX2_holeNumber_29 : decode cX2_holeNumber 29 = .ok (.goto 4, 3) := dk_167 0 4 (dk_at dksX2_holeNumber_1 5 rfl rfl)
theorem dX2_holeNumber_32 : decode cX2_holeNumber 32 = .ok (.iconst 0, 1) := dk_3 (dk_at dksX2_holeNumber_1 8 rfl rfl)
theorem dX2_holeNumber_33 : decode cX2_holeNumber 33 = .ok (.iadd, 1) := dk_96 (dk_at dksX2_holeNumber_1 9 rfl rfl)
theorem dX2_holeNumber_34 : decode cX2_holeNumber 34 = .ok (.istore_n 3, 1) := dk_62 (dk_at dksX2_holeNumber_1 10 rfl rfl)
theorem dX2_holeNumber_35 : decode cX2_holeNumber 35 = .ok (.iinc 4 1, 3) := dk_132 4 1 (dk_at dksX2_holeNumber_1 11 rfl rfl)
theorem dX2_holeNumber_38 : decode cX2_holeNumber 38 = .ok (.goto (-33), 3) := dk_167 255 223 (dk_at dksX2_holeNumber_1 14 rfl rfl)
theorem dX2_holeNumber_41 : decode cX2_holeNumber 41 = .ok (.iload_n 3, 1) := dk_29 (dk_at dksX2_holeNumber_1 17 rfl rfl)
theorem dX2_holeNumber_42 : decode cX2_holeNumber 42 = .ok (.ireturn, 1) := dk_172 (dk_at dksX2_holeNumber_1 18 rfl rfl)
abbrev cX2_takes : ByteArray := prog_4_method_55_code
def yX2_takes : MethodName := ⟨RX2, "takes", "(II)I"⟩
def dkwX2_takes_7 : List UInt8 := [46, 4, 100, 172]
abbrev dktX2_takes_7 : List UInt8 := dkwX2_takes_7 ++ []
def dkwX2_takes_6 : List UInt8 := [167, 0, 27, 21, 4, 16, 101, 160, 0, 12, 42, 180, 0, 165, 27, 46, 167, 0, 11, 42, 180, 0, 165, 27]
abbrev dktX2_takes_6 : List UInt8 := dkwX2_takes_6 ++ dktX2_takes_7
def dkwX2_takes_5 : List UInt8 := [21, 5, 153, 0, 8, 16, 69, 167, 0, 5, 16, 101, 54, 4, 21, 4, 16, 38, 160, 0, 9, 17, 3, 232]
abbrev dktX2_takes_5 : List UInt8 := dkwX2_takes_5 ++ dktX2_takes_6
def dkwX2_takes_4 : List UInt8 := [16, 101, 54, 4, 167, 0, 34, 28, 42, 180, 0, 147, 29, 46, 4, 100, 160, 0, 22, 21, 6, 153, 0, 17]
abbrev dktX2_takes_4 : List UInt8 := dkwX2_takes_4 ++ dktX2_takes_5
def dkwX2_takes_3 : List UInt8 := [180, 0, 99, 16, 20, 29, 104, 28, 96, 46, 54, 4, 167, 0, 50, 28, 154, 0, 15, 21, 5, 153, 0, 10]
abbrev dktX2_takes_3 : List UInt8 := dkwX2_takes_3 ++ dktX2_takes_4
def dkwX2_takes_2 : List UInt8 := [46, 2, 160, 0, 7, 4, 167, 0, 4, 3, 54, 6, 42, 180, 0, 96, 29, 46, 155, 0, 19, 42]
abbrev dktX2_takes_2 : List UInt8 := dkwX2_takes_2 ++ dktX2_takes_3
def dkwX2_takes_1 : List UInt8 := [4, 167, 0, 4, 3, 54, 5, 42, 180, 0, 141, 16, 13, 29, 104, 42, 180, 0, 144, 29, 46, 96, 4, 100]
abbrev dktX2_takes_1 : List UInt8 := dkwX2_takes_1 ++ dktX2_takes_2
def dkwX2_takes_0 : List UInt8 := [42, 180, 0, 159, 27, 46, 62, 16, 38, 54, 4, 42, 180, 0, 141, 16, 13, 29, 104, 46, 2, 160, 0, 7]
abbrev dktX2_takes_0 : List UInt8 := dkwX2_takes_0 ++ dktX2_takes_1
theorem dksX2_takes_0 : cX2_takes.data.toList.drop 0 = dktX2_takes_0 := by decide +kernel
theorem dksX2_takes_1 : cX2_takes.data.toList.drop 24 = dktX2_takes_1 := dk_seg dksX2_takes_0 24 rfl rfl
theorem dksX2_takes_2 : cX2_takes.data.toList.drop 48 = dktX2_takes_2 := dk_seg dksX2_takes_1 24 rfl rfl
theorem dksX2_takes_3 : cX2_takes.data.toList.drop 70 = dktX2_takes_3 := dk_seg dksX2_takes_2 22 rfl rfl
theorem dksX2_takes_4 : cX2_takes.data.toList.drop 94 = dktX2_takes_4 := dk_seg dksX2_takes_3 24 rfl rfl
theorem dksX2_takes_5 : cX2_takes.data.toList.drop 118 = dktX2_takes_5 := dk_seg dksX2_takes_4 24 rfl rfl
theorem dksX2_takes_6 : cX2_takes.data.toList.drop 142 = dktX2_takes_6 := dk_seg dksX2_takes_5 24 rfl rfl
theorem dksX2_takes_7 : cX2_takes.data.toList.drop 166 = dktX2_takes_7 := dk_seg dksX2_takes_6 24 rfl rfl
theorem dX2_takes_0 : decode cX2_takes 0 = .ok (.aload_n 0, 1) := dk_42 (dk_at dksX2_takes_0 0 rfl rfl)
theorem dX2_takes_1 : decode cX2_takes 1 = .ok (.getfield 159, 3) := dk_180 0 159 (dk_at dksX2_takes_0 1 rfl rfl)
theorem dX2_takes_4 : decode cX2_takes 4 = .ok (.iload_n 1, 1) := dk_27 (dk_at dksX2_takes_0 4 rfl rfl)
theorem dX2_takes_5 : decode cX2_takes 5 = .ok (.iaload, 1) := dk_46 (dk_at dksX2_takes_0 5 rfl rfl)
theorem dX2_takes_6 : decode cX2_takes 6 = .ok (.istore_n 3, 1) := dk_62 (dk_at dksX2_takes_0 6 rfl rfl)
theorem dX2_takes_7 : decode cX2_takes 7 = .ok (.bipush 38, 2) := dk_16 38 (dk_at dksX2_takes_0 7 rfl rfl)
theorem dX2_takes_9 : decode cX2_takes 9 = .ok (.istore 4, 2) := dk_54 4 (dk_at dksX2_takes_0 9 rfl rfl)
theorem dX2_takes_11 : decode cX2_takes 11 = .ok (.aload_n 0, 1) := dk_42 (dk_at dksX2_takes_0 11 rfl rfl)
theorem dX2_takes_12 : decode cX2_takes 12 = .ok (.getfield 141, 3) := dk_180 0 141 (dk_at dksX2_takes_0 12 rfl rfl)
theorem dX2_takes_15 : decode cX2_takes 15 = .ok (.bipush 13, 2) := dk_16 13 (dk_at dksX2_takes_0 15 rfl rfl)
theorem dX2_takes_17 : decode cX2_takes 17 = .ok (.iload_n 3, 1) := dk_29 (dk_at dksX2_takes_0 17 rfl rfl)
theorem dX2_takes_18 : decode cX2_takes 18 = .ok (.imul, 1) := dk_104 (dk_at dksX2_takes_0 18 rfl rfl)
theorem dX2_takes_19 : decode cX2_takes 19 = .ok (.iaload, 1) := dk_46 (dk_at dksX2_takes_0 19 rfl rfl)
theorem dX2_takes_20 : decode cX2_takes 20 = .ok (.iconst (-1), 1) := dk_2 (dk_at dksX2_takes_0 20 rfl rfl)
theorem dX2_takes_21 : decode cX2_takes 21 = .ok (.if_icmp .ne 7, 3) := dk_160 0 7 (dk_at dksX2_takes_0 21 rfl rfl)
theorem dX2_takes_24 : decode cX2_takes 24 = .ok (.iconst 1, 1) := dk_4 (dk_at dksX2_takes_1 0 rfl rfl)
theorem dX2_takes_25 : decode cX2_takes 25 = .ok (.goto 4, 3) := dk_167 0 4 (dk_at dksX2_takes_1 1 rfl rfl)
theorem dX2_takes_28 : decode cX2_takes 28 = .ok (.iconst 0, 1) := dk_3 (dk_at dksX2_takes_1 4 rfl rfl)
theorem dX2_takes_29 : decode cX2_takes 29 = .ok (.istore 5, 2) := dk_54 5 (dk_at dksX2_takes_1 5 rfl rfl)
theorem dX2_takes_31 : decode cX2_takes 31 = .ok (.aload_n 0, 1) := dk_42 (dk_at dksX2_takes_1 7 rfl rfl)
theorem dX2_takes_32 : decode cX2_takes 32 = .ok (.getfield 141, 3) := dk_180 0 141 (dk_at dksX2_takes_1 8 rfl rfl)
theorem dX2_takes_35 : decode cX2_takes 35 = .ok (.bipush 13, 2) := dk_16 13 (dk_at dksX2_takes_1 11 rfl rfl)
theorem dX2_takes_37 : decode cX2_takes 37 = .ok (.iload_n 3, 1) := dk_29 (dk_at dksX2_takes_1 13 rfl rfl)
theorem dX2_takes_38 : decode cX2_takes 38 = .ok (.imul, 1) := dk_104 (dk_at dksX2_takes_1 14 rfl rfl)
theorem dX2_takes_39 : decode cX2_takes 39 = .ok (.aload_n 0, 1) := dk_42 (dk_at dksX2_takes_1 15 rfl rfl)
theorem dX2_takes_40 : decode cX2_takes 40 = .ok (.getfield 144, 3) := dk_180 0 144 (dk_at dksX2_takes_1 16 rfl rfl)
theorem dX2_takes_43 : decode cX2_takes 43 = .ok (.iload_n 3, 1) := dk_29 (dk_at dksX2_takes_1 19 rfl rfl)
theorem dX2_takes_44 : decode cX2_takes 44 = .ok (.iaload, 1) := dk_46 (dk_at dksX2_takes_1 20 rfl rfl)
theorem dX2_takes_45 : decode cX2_takes 45 = .ok (.iadd, 1) := dk_96 (dk_at dksX2_takes_1 21 rfl rfl)
theorem dX2_takes_46 : decode cX2_takes 46 = .ok (.iconst 1, 1) := dk_4 (dk_at dksX2_takes_1 22 rfl rfl)
theorem dX2_takes_47 : decode cX2_takes 47 = .ok (.isub, 1) := dk_100 (dk_at dksX2_takes_1 23 rfl rfl)
theorem dX2_takes_48 : decode cX2_takes 48 = .ok (.iaload, 1) := dk_46 (dk_at dksX2_takes_2 0 rfl rfl)
theorem dX2_takes_49 : decode cX2_takes 49 = .ok (.iconst (-1), 1) := dk_2 (dk_at dksX2_takes_2 1 rfl rfl)
theorem dX2_takes_50 : decode cX2_takes 50 = .ok (.if_icmp .ne 7, 3) := dk_160 0 7 (dk_at dksX2_takes_2 2 rfl rfl)
theorem dX2_takes_53 : decode cX2_takes 53 = .ok (.iconst 1, 1) := dk_4 (dk_at dksX2_takes_2 5 rfl rfl)
theorem dX2_takes_54 : decode cX2_takes 54 = .ok (.goto 4, 3) := dk_167 0 4 (dk_at dksX2_takes_2 6 rfl rfl)
theorem dX2_takes_57 : decode cX2_takes 57 = .ok (.iconst 0, 1) := dk_3 (dk_at dksX2_takes_2 9 rfl rfl)
theorem dX2_takes_58 : decode cX2_takes 58 = .ok (.istore 6, 2) := dk_54 6 (dk_at dksX2_takes_2 10 rfl rfl)
theorem dX2_takes_60 : decode cX2_takes 60 = .ok (.aload_n 0, 1) := dk_42 (dk_at dksX2_takes_2 12 rfl rfl)
theorem dX2_takes_61 : decode cX2_takes 61 = .ok (.getfield 96, 3) := dk_180 0 96 (dk_at dksX2_takes_2 13 rfl rfl)
theorem dX2_takes_64 : decode cX2_takes 64 = .ok (.iload_n 3, 1) := dk_29 (dk_at dksX2_takes_2 16 rfl rfl)
theorem dX2_takes_65 : decode cX2_takes 65 = .ok (.iaload, 1) := dk_46 (dk_at dksX2_takes_2 17 rfl rfl)
theorem dX2_takes_66 : decode cX2_takes 66 = .ok (.ifCond .lt 19, 3) := dk_155 0 19 (dk_at dksX2_takes_2 18 rfl rfl)
theorem dX2_takes_69 : decode cX2_takes 69 = .ok (.aload_n 0, 1) := dk_42 (dk_at dksX2_takes_2 21 rfl rfl)
theorem dX2_takes_70 : decode cX2_takes 70 = .ok (.getfield 99, 3) := dk_180 0 99 (dk_at dksX2_takes_3 0 rfl rfl)
theorem dX2_takes_73 : decode cX2_takes 73 = .ok (.bipush 20, 2) := dk_16 20 (dk_at dksX2_takes_3 3 rfl rfl)
theorem dX2_takes_75 : decode cX2_takes 75 = .ok (.iload_n 3, 1) := dk_29 (dk_at dksX2_takes_3 5 rfl rfl)
theorem dX2_takes_76 : decode cX2_takes 76 = .ok (.imul, 1) := dk_104 (dk_at dksX2_takes_3 6 rfl rfl)
theorem dX2_takes_77 : decode cX2_takes 77 = .ok (.iload_n 2, 1) := dk_28 (dk_at dksX2_takes_3 7 rfl rfl)
theorem dX2_takes_78 : decode cX2_takes 78 = .ok (.iadd, 1) := dk_96 (dk_at dksX2_takes_3 8 rfl rfl)
theorem dX2_takes_79 : decode cX2_takes 79 = .ok (.iaload, 1) := dk_46 (dk_at dksX2_takes_3 9 rfl rfl)
theorem dX2_takes_80 : decode cX2_takes 80 = .ok (.istore 4, 2) := dk_54 4 (dk_at dksX2_takes_3 10 rfl rfl)
theorem dX2_takes_82 : decode cX2_takes 82 = .ok (.goto 50, 3) := dk_167 0 50 (dk_at dksX2_takes_3 12 rfl rfl)
theorem dX2_takes_85 : decode cX2_takes 85 = .ok (.iload_n 2, 1) := dk_28 (dk_at dksX2_takes_3 15 rfl rfl)
theorem dX2_takes_86 : decode cX2_takes 86 = .ok (.ifCond .ne 15, 3) := dk_154 0 15 (dk_at dksX2_takes_3 16 rfl rfl)
theorem dX2_takes_89 : decode cX2_takes 89 = .ok (.iload 5, 2) := dk_21 5 (dk_at dksX2_takes_3 19 rfl rfl)
theorem dX2_takes_91 : decode cX2_takes 91 = .ok (.ifCond .eq 10, 3) := dk_153 0 10 (dk_at dksX2_takes_3 21 rfl rfl)
theorem dX2_takes_94 : decode cX2_takes 94 = .ok (.bipush 101, 2) := dk_16 101 (dk_at dksX2_takes_4 0 rfl rfl)
theorem dX2_takes_96 : decode cX2_takes 96 = .ok (.istore 4, 2) := dk_54 4 (dk_at dksX2_takes_4 2 rfl rfl)
theorem dX2_takes_98 : decode cX2_takes 98 = .ok (.goto 34, 3) := dk_167 0 34 (dk_at dksX2_takes_4 4 rfl rfl)
theorem dX2_takes_101 : decode cX2_takes 101 = .ok (.iload_n 2, 1) := dk_28 (dk_at dksX2_takes_4 7 rfl rfl)
theorem dX2_takes_102 : decode cX2_takes 102 = .ok (.aload_n 0, 1) := dk_42 (dk_at dksX2_takes_4 8 rfl rfl)
theorem dX2_takes_103 : decode cX2_takes 103 = .ok (.getfield 147, 3) := dk_180 0 147 (dk_at dksX2_takes_4 9 rfl rfl)
theorem dX2_takes_106 : decode cX2_takes 106 = .ok (.iload_n 3, 1) := dk_29 (dk_at dksX2_takes_4 12 rfl rfl)
theorem dX2_takes_107 : decode cX2_takes 107 = .ok (.iaload, 1) := dk_46 (dk_at dksX2_takes_4 13 rfl rfl)
theorem dX2_takes_108 : decode cX2_takes 108 = .ok (.iconst 1, 1) := dk_4 (dk_at dksX2_takes_4 14 rfl rfl)
theorem dX2_takes_109 : decode cX2_takes 109 = .ok (.isub, 1) := dk_100 (dk_at dksX2_takes_4 15 rfl rfl)
theorem dX2_takes_110 : decode cX2_takes 110 = .ok (.if_icmp .ne 22, 3) := dk_160 0 22 (dk_at dksX2_takes_4 16 rfl rfl)
theorem dX2_takes_113 : decode cX2_takes 113 = .ok (.iload 6, 2) := dk_21 6 (dk_at dksX2_takes_4 19 rfl rfl)
theorem dX2_takes_115 : decode cX2_takes 115 = .ok (.ifCond .eq 17, 3) := dk_153 0 17 (dk_at dksX2_takes_4 21 rfl rfl)
theorem dX2_takes_118 : decode cX2_takes 118 = .ok (.iload 5, 2) := dk_21 5 (dk_at dksX2_takes_5 0 rfl rfl)
theorem dX2_takes_120 : decode cX2_takes 120 = .ok (.ifCond .eq 8, 3) := dk_153 0 8 (dk_at dksX2_takes_5 2 rfl rfl)
theorem dX2_takes_123 : decode cX2_takes 123 = .ok (.bipush 69, 2) := dk_16 69 (dk_at dksX2_takes_5 5 rfl rfl)
theorem dX2_takes_125 : decode cX2_takes 125 = .ok (.goto 5, 3) := dk_167 0 5 (dk_at dksX2_takes_5 7 rfl rfl)
theorem dX2_takes_128 : decode cX2_takes 128 = .ok (.bipush 101, 2) := dk_16 101 (dk_at dksX2_takes_5 10 rfl rfl)
theorem dX2_takes_130 : decode cX2_takes 130 = .ok (.istore 4, 2) := dk_54 4 (dk_at dksX2_takes_5 12 rfl rfl)
theorem dX2_takes_132 : decode cX2_takes 132 = .ok (.iload 4, 2) := dk_21 4 (dk_at dksX2_takes_5 14 rfl rfl)
theorem dX2_takes_134 : decode cX2_takes 134 = .ok (.bipush 38, 2) := dk_16 38 (dk_at dksX2_takes_5 16 rfl rfl)
theorem dX2_takes_136 : decode cX2_takes 136 = .ok (.if_icmp .ne 9, 3) := dk_160 0 9 (dk_at dksX2_takes_5 18 rfl rfl)
theorem dX2_takes_139 : decode cX2_takes 139 = .ok (.sipush 1000, 3) := dk_17 3 232 (dk_at dksX2_takes_5 21 rfl rfl)
theorem dX2_takes_142 : decode cX2_takes 142 = .ok (.goto 27, 3) := dk_167 0 27 (dk_at dksX2_takes_6 0 rfl rfl)
theorem dX2_takes_145 : decode cX2_takes 145 = .ok (.iload 4, 2) := dk_21 4 (dk_at dksX2_takes_6 3 rfl rfl)
theorem dX2_takes_147 : decode cX2_takes 147 = .ok (.bipush 101, 2) := dk_16 101 (dk_at dksX2_takes_6 5 rfl rfl)
theorem dX2_takes_149 : decode cX2_takes 149 = .ok (.if_icmp .ne 12, 3) := dk_160 0 12 (dk_at dksX2_takes_6 7 rfl rfl)
theorem dX2_takes_152 : decode cX2_takes 152 = .ok (.aload_n 0, 1) := dk_42 (dk_at dksX2_takes_6 10 rfl rfl)
theorem dX2_takes_153 : decode cX2_takes 153 = .ok (.getfield 165, 3) := dk_180 0 165 (dk_at dksX2_takes_6 11 rfl rfl)
theorem dX2_takes_156 : decode cX2_takes 156 = .ok (.iload_n 1, 1) := dk_27 (dk_at dksX2_takes_6 14 rfl rfl)
theorem dX2_takes_157 : decode cX2_takes 157 = .ok (.iaload, 1) := dk_46 (dk_at dksX2_takes_6 15 rfl rfl)
theorem dX2_takes_158 : decode cX2_takes 158 = .ok (.goto 11, 3) := dk_167 0 11 (dk_at dksX2_takes_6 16 rfl rfl)
theorem dX2_takes_161 : decode cX2_takes 161 = .ok (.aload_n 0, 1) := dk_42 (dk_at dksX2_takes_6 19 rfl rfl)
theorem dX2_takes_162 : decode cX2_takes 162 = .ok (.getfield 165, 3) := dk_180 0 165 (dk_at dksX2_takes_6 20 rfl rfl)
theorem dX2_takes_165 : decode cX2_takes 165 = .ok (.iload_n 1, 1) := dk_27 (dk_at dksX2_takes_6 23 rfl rfl)
theorem dX2_takes_166 : decode cX2_takes 166 = .ok (.iaload, 1) := dk_46 (dk_at dksX2_takes_7 0 rfl rfl)
theorem dX2_takes_167 : decode cX2_takes 167 = .ok (.iconst 1, 1) := dk_4 (dk_at dksX2_takes_7 1 rfl rfl)
theorem dX2_takes_168 : decode cX2_takes 168 = .ok (.isub, 1) := dk_100 (dk_at dksX2_takes_7 2 rfl rfl)
theorem dX2_takes_169 : decode cX2_takes 169 = .ok (.ireturn, 1) := dk_172 (dk_at dksX2_takes_7 3 rfl rfl)
abbrev cX2_build : ByteArray := prog_4_method_82_code
def yX2_build : MethodName := ⟨RX2, "build", "(LRewriteHouseModel;IIII)I"⟩
def dkwX2_build_12 : List UInt8 := [21, 11, 54, 8, 132, 9, 1, 167, 255, 95, 42, 21, 5, 21, 7, 182, 2, 248, 172]
abbrev dktX2_build_12 : List UInt8 := dkwX2_build_12 ++ []
def dkwX2_build_11 : List UInt8 := [21, 10, 182, 2, 140, 42, 21, 5, 21, 10, 182, 2, 210, 184, 2, 241, 54, 12, 42, 21, 12, 182, 2, 245]
abbrev dktX2_build_11 : List UInt8 := dkwX2_build_11 ++ dktX2_build_12
def dkwX2_build_10 : List UInt8 := [182, 2, 210, 182, 2, 213, 154, 0, 9, 132, 11, 1, 167, 255, 196, 42, 21, 8, 21, 11, 42, 21, 6]
abbrev dktX2_build_10 : List UInt8 := dkwX2_build_10 ++ dktX2_build_11
def dkwX2_build_9 : List UInt8 := [21, 11, 28, 159, 0, 30, 42, 21, 8, 21, 11, 42, 21, 6, 21, 10, 182, 2, 140, 42, 21, 5, 21, 10]
abbrev dktX2_build_9 : List UInt8 := dkwX2_build_9 ++ dktX2_build_10
def dkwX2_build_8 : List UInt8 := [180, 0, 229, 16, 33, 21, 9, 4, 96, 104, 21, 11, 96, 51, 153, 0, 42, 21, 8, 27, 160, 0, 9]
abbrev dktX2_build_8 : List UInt8 := dkwX2_build_8 ++ dktX2_build_9
def dkwX2_build_7 : List UInt8 := [21, 5, 27, 28, 182, 2, 223, 42, 21, 6, 21, 9, 182, 2, 207, 54, 10, 21, 8, 4, 96, 54, 11, 42]
abbrev dktX2_build_7 : List UInt8 := dkwX2_build_7 ++ dktX2_build_8
def dkwX2_build_6 : List UInt8 := [180, 0, 141, 16, 13, 21, 6, 104, 21, 9, 96, 46, 2, 159, 0, 9, 132, 8, 1, 167, 0, 126, 42]
abbrev dktX2_build_6 : List UInt8 := dkwX2_build_6 ++ dktX2_build_7
def dkwX2_build_5 : List UInt8 := [180, 2, 195, 54, 7, 27, 54, 8, 3, 54, 9, 21, 9, 42, 180, 0, 144, 21, 6, 46, 162, 0, 155, 42]
abbrev dktX2_build_5 : List UInt8 := dkwX2_build_5 ++ dktX2_build_6
def dkwX2_build_4 : List UInt8 := [21, 5, 96, 51, 154, 0, 9, 132, 5, 1, 167, 255, 210, 42, 180, 0, 159, 21, 5, 46, 54, 6, 42]
abbrev dktX2_build_4 : List UInt8 := dkwX2_build_4 ++ dktX2_build_5
def dkwX2_build_3 : List UInt8 := [180, 0, 165, 21, 5, 46, 21, 4, 163, 0, 23, 42, 180, 0, 223, 16, 50, 42, 27, 28, 182, 2, 201, 104]
abbrev dktX2_build_3 : List UInt8 := dkwX2_build_3 ++ dktX2_build_4
def dkwX2_build_2 : List UInt8 := [17, 3, 232, 184, 2, 241, 172, 3, 54, 5, 42, 180, 0, 162, 21, 5, 46, 29, 160, 0, 35, 42]
abbrev dktX2_build_2 : List UInt8 := dkwX2_build_2 ++ dktX2_build_3
def dkwX2_build_1 : List UInt8 := [160, 0, 14, 42, 42, 180, 0, 219, 27, 46, 182, 2, 238, 172, 42, 27, 4, 96, 28, 4, 100, 29]
abbrev dktX2_build_1 : List UInt8 := dkwX2_build_1 ++ dktX2_build_2
def dkwX2_build_0 : List UInt8 := [42, 180, 0, 226, 16, 20, 42, 27, 28, 182, 2, 201, 104, 29, 96, 51, 158, 0, 36, 28, 27, 100, 4]
abbrev dktX2_build_0 : List UInt8 := dkwX2_build_0 ++ dktX2_build_1
theorem dksX2_build_0 : cX2_build.data.toList.drop 0 = dktX2_build_0 := by decide +kernel
theorem dksX2_build_1 : cX2_build.data.toList.drop 23 = dktX2_build_1 := dk_seg dksX2_build_0 23 rfl rfl
theorem dksX2_build_2 : cX2_build.data.toList.drop 45 = dktX2_build_2 := dk_seg dksX2_build_1 22 rfl rfl
theorem dksX2_build_3 : cX2_build.data.toList.drop 67 = dktX2_build_3 := dk_seg dksX2_build_2 22 rfl rfl
theorem dksX2_build_4 : cX2_build.data.toList.drop 91 = dktX2_build_4 := dk_seg dksX2_build_3 24 rfl rfl
theorem dksX2_build_5 : cX2_build.data.toList.drop 114 = dktX2_build_5 := dk_seg dksX2_build_4 23 rfl rfl
theorem dksX2_build_6 : cX2_build.data.toList.drop 138 = dktX2_build_6 := dk_seg dksX2_build_5 24 rfl rfl
theorem dksX2_build_7 : cX2_build.data.toList.drop 161 = dktX2_build_7 := dk_seg dksX2_build_6 23 rfl rfl
theorem dksX2_build_8 : cX2_build.data.toList.drop 185 = dktX2_build_8 := dk_seg dksX2_build_7 24 rfl rfl
theorem dksX2_build_9 : cX2_build.data.toList.drop 208 = dktX2_build_9 := dk_seg dksX2_build_8 23 rfl rfl
theorem dksX2_build_10 : cX2_build.data.toList.drop 232 = dktX2_build_10 := dk_seg dksX2_build_9 24 rfl rfl
theorem dksX2_build_11 : cX2_build.data.toList.drop 255 = dktX2_build_11 := dk_seg dksX2_build_10 23 rfl rfl
theorem dksX2_build_12 : cX2_build.data.toList.drop 279 = dktX2_build_12 := dk_seg dksX2_build_11 24 rfl rfl
theorem dX2_build_0 : decode cX2_build 0 = .ok (.aload_n 0, 1) := dk_42 (dk_at dksX2_build_0 0 rfl rfl)
theorem dX2_build_1 : decode cX2_build 1 = .ok (.getfield 226, 3) := dk_180 0 226 (dk_at dksX2_build_0 1 rfl rfl)
theorem dX2_build_4 : decode cX2_build 4 = .ok (.bipush 20, 2) := dk_16 20 (dk_at dksX2_build_0 4 rfl rfl)
theorem dX2_build_6 : decode cX2_build 6 = .ok (.aload_n 0, 1) := dk_42 (dk_at dksX2_build_0 6 rfl rfl)
theorem dX2_build_7 : decode cX2_build 7 = .ok (.iload_n 1, 1) := dk_27 (dk_at dksX2_build_0 7 rfl rfl)
theorem dX2_build_8 : decode cX2_build 8 = .ok (.iload_n 2, 1) := dk_28 (dk_at dksX2_build_0 8 rfl rfl)
theorem dX2_build_9 : decode cX2_build 9 = .ok (.invokevirtual 713, 3) := dk_182 2 201 (dk_at dksX2_build_0 9 rfl rfl)
theorem dX2_build_12 : decode cX2_build 12 = .ok (.imul, 1) := dk_104 (dk_at dksX2_build_0 12 rfl rfl)
theorem dX2_build_13 : decode cX2_build 13 = .ok (.iload_n 3, 1) := dk_29 (dk_at dksX2_build_0 13 rfl rfl)
theorem dX2_build_14 : decode cX2_build 14 = .ok (.iadd, 1) := dk_96 (dk_at dksX2_build_0 14 rfl rfl)
theorem dX2_build_15 : decode cX2_build 15 = .ok (.baload, 1) := dk_51 (dk_at dksX2_build_0 15 rfl rfl)
theorem dX2_build_16 : decode cX2_build 16 = .ok (.ifCond .le 36, 3) := dk_158 0 36 (dk_at dksX2_build_0 16 rfl rfl)
theorem dX2_build_19 : decode cX2_build 19 = .ok (.iload_n 2, 1) := dk_28 (dk_at dksX2_build_0 19 rfl rfl)
theorem dX2_build_20 : decode cX2_build 20 = .ok (.iload_n 1, 1) := dk_27 (dk_at dksX2_build_0 20 rfl rfl)
theorem dX2_build_21 : decode cX2_build 21 = .ok (.isub, 1) := dk_100 (dk_at dksX2_build_0 21 rfl rfl)
theorem dX2_build_22 : decode cX2_build 22 = .ok (.iconst 1, 1) := dk_4 (dk_at dksX2_build_0 22 rfl rfl)
theorem dX2_build_23 : decode cX2_build 23 = .ok (.if_icmp .ne 14, 3) := dk_160 0 14 (dk_at dksX2_build_1 0 rfl rfl)
theorem dX2_build_26 : decode cX2_build 26 = .ok (.aload_n 0, 1) := dk_42 (dk_at dksX2_build_1 3 rfl rfl)
theorem dX2_build_27 : decode cX2_build 27 = .ok (.aload_n 0, 1) := dk_42 (dk_at dksX2_build_1 4 rfl rfl)
theorem dX2_build_28 : decode cX2_build 28 = .ok (.getfield 219, 3) := dk_180 0 219 (dk_at dksX2_build_1 5 rfl rfl)
theorem dX2_build_31 : decode cX2_build 31 = .ok (.iload_n 1, 1) := dk_27 (dk_at dksX2_build_1 8 rfl rfl)
theorem dX2_build_32 : decode cX2_build 32 = .ok (.iaload, 1) := dk_46 (dk_at dksX2_build_1 9 rfl rfl)
theorem dX2_build_33 : decode cX2_build 33 = .ok (.invokevirtual 750, 3) := dk_182 2 238 (dk_at dksX2_build_1 10 rfl rfl)
theorem dX2_build_36 : decode cX2_build 36 = .ok (.ireturn, 1) := dk_172 (dk_at dksX2_build_1 13 rfl rfl)
theorem dX2_build_37 : decode cX2_build 37 = .ok (.aload_n 0, 1) := dk_42 (dk_at dksX2_build_1 14 rfl rfl)
theorem dX2_build_38 : decode cX2_build 38 = .ok (.iload_n 1, 1) := dk_27 (dk_at dksX2_build_1 15 rfl rfl)
theorem dX2_build_39 : decode cX2_build 39 = .ok (.iconst 1, 1) := dk_4 (dk_at dksX2_build_1 16 rfl rfl)
theorem dX2_build_40 : decode cX2_build 40 = .ok (.iadd, 1) := dk_96 (dk_at dksX2_build_1 17 rfl rfl)
theorem dX2_build_41 : decode cX2_build 41 = .ok (.iload_n 2, 1) := dk_28 (dk_at dksX2_build_1 18 rfl rfl)
theorem dX2_build_42 : decode cX2_build 42 = .ok (.iconst 1, 1) := dk_4 (dk_at dksX2_build_1 19 rfl rfl)
theorem dX2_build_43 : decode cX2_build 43 = .ok (.isub, 1) := dk_100 (dk_at dksX2_build_1 20 rfl rfl)
theorem dX2_build_44 : decode cX2_build 44 = .ok (.iload_n 3, 1) := dk_29 (dk_at dksX2_build_1 21 rfl rfl)
theorem dX2_build_45 : decode cX2_build 45 = .ok (.sipush 1000, 3) := dk_17 3 232 (dk_at dksX2_build_2 0 rfl rfl)
theorem dX2_build_48 : decode cX2_build 48 = .ok (.invokestatic 753, 3) := dk_184 2 241 (dk_at dksX2_build_2 3 rfl rfl)
theorem dX2_build_51 : decode cX2_build 51 = .ok (.ireturn, 1) := dk_172 (dk_at dksX2_build_2 6 rfl rfl)
theorem dX2_build_52 : decode cX2_build 52 = .ok (.iconst 0, 1) := dk_3 (dk_at dksX2_build_2 7 rfl rfl)
theorem dX2_build_53 : decode cX2_build 53 = .ok (.istore 5, 2) := dk_54 5 (dk_at dksX2_build_2 8 rfl rfl)
theorem dX2_build_55 : decode cX2_build 55 = .ok (.aload_n 0, 1) := dk_42 (dk_at dksX2_build_2 10 rfl rfl)
theorem dX2_build_56 : decode cX2_build 56 = .ok (.getfield 162, 3) := dk_180 0 162 (dk_at dksX2_build_2 11 rfl rfl)
theorem dX2_build_59 : decode cX2_build 59 = .ok (.iload 5, 2) := dk_21 5 (dk_at dksX2_build_2 14 rfl rfl)
theorem dX2_build_61 : decode cX2_build 61 = .ok (.iaload, 1) := dk_46 (dk_at dksX2_build_2 16 rfl rfl)
theorem dX2_build_62 : decode cX2_build 62 = .ok (.iload_n 3, 1) := dk_29 (dk_at dksX2_build_2 17 rfl rfl)
theorem dX2_build_63 : decode cX2_build 63 = .ok (.if_icmp .ne 35, 3) := dk_160 0 35 (dk_at dksX2_build_2 18 rfl rfl)
theorem dX2_build_66 : decode cX2_build 66 = .ok (.aload_n 0, 1) := dk_42 (dk_at dksX2_build_2 21 rfl rfl)
theorem dX2_build_67 : decode cX2_build 67 = .ok (.getfield 165, 3) := dk_180 0 165 (dk_at dksX2_build_3 0 rfl rfl)
theorem dX2_build_70 : decode cX2_build 70 = .ok (.iload 5, 2) := dk_21 5 (dk_at dksX2_build_3 3 rfl rfl)
theorem dX2_build_72 : decode cX2_build 72 = .ok (.iaload, 1) := dk_46 (dk_at dksX2_build_3 5 rfl rfl)
theorem dX2_build_73 : decode cX2_build 73 = .ok (.iload 4, 2) := dk_21 4 (dk_at dksX2_build_3 6 rfl rfl)
theorem dX2_build_75 : decode cX2_build 75 = .ok (.if_icmp .gt 23, 3) := dk_163 0 23 (dk_at dksX2_build_3 8 rfl rfl)
theorem dX2_build_78 : decode cX2_build 78 = .ok (.aload_n 0, 1) := dk_42 (dk_at dksX2_build_3 11 rfl rfl)
theorem dX2_build_79 : decode cX2_build 79 = .ok (.getfield 223, 3) := dk_180 0 223 (dk_at dksX2_build_3 12 rfl rfl)
theorem dX2_build_82 : decode cX2_build 82 = .ok (.bipush 50, 2) := dk_16 50 (dk_at dksX2_build_3 15 rfl rfl)
theorem dX2_build_84 : decode cX2_build 84 = .ok (.aload_n 0, 1) := dk_42 (dk_at dksX2_build_3 17 rfl rfl)
theorem dX2_build_85 : decode cX2_build 85 = .ok (.iload_n 1, 1) := dk_27 (dk_at dksX2_build_3 18 rfl rfl)
theorem dX2_build_86 : decode cX2_build 86 = .ok (.iload_n 2, 1) := dk_28 (dk_at dksX2_build_3 19 rfl rfl)
theorem dX2_build_87 : decode cX2_build 87 = .ok (.invokevirtual 713, 3) := dk_182 2 201 (dk_at dksX2_build_3 20 rfl rfl)
theorem dX2_build_90 : decode cX2_build 90 = .ok (.imul, 1) := dk_104 (dk_at dksX2_build_3 23 rfl rfl)
theorem dX2_build_91 : decode cX2_build 91 = .ok (.iload 5, 2) := dk_21 5 (dk_at dksX2_build_4 0 rfl rfl)
theorem dX2_build_93 : decode cX2_build 93 = .ok (.iadd, 1) := dk_96 (dk_at dksX2_build_4 2 rfl rfl)
theorem dX2_build_94 : decode cX2_build 94 = .ok (.baload, 1) := dk_51 (dk_at dksX2_build_4 3 rfl rfl)
theorem dX2_build_95 : decode cX2_build 95 = .ok (.ifCond .ne 9, 3) := dk_154 0 9 (dk_at dksX2_build_4 4 rfl rfl)
theorem dX2_build_98 : decode cX2_build 98 = .ok (.iinc 5 1, 3) := dk_132 5 1 (dk_at dksX2_build_4 7 rfl rfl)
theorem dX2_build_101 : decode cX2_build 101 = .ok (.goto (-46), 3) := dk_167 255 210 (dk_at dksX2_build_4 10 rfl rfl)
theorem dX2_build_104 : decode cX2_build 104 = .ok (.aload_n 0, 1) := dk_42 (dk_at dksX2_build_4 13 rfl rfl)
theorem dX2_build_105 : decode cX2_build 105 = .ok (.getfield 159, 3) := dk_180 0 159 (dk_at dksX2_build_4 14 rfl rfl)
theorem dX2_build_108 : decode cX2_build 108 = .ok (.iload 5, 2) := dk_21 5 (dk_at dksX2_build_4 17 rfl rfl)
theorem dX2_build_110 : decode cX2_build 110 = .ok (.iaload, 1) := dk_46 (dk_at dksX2_build_4 19 rfl rfl)
theorem dX2_build_111 : decode cX2_build 111 = .ok (.istore 6, 2) := dk_54 6 (dk_at dksX2_build_4 20 rfl rfl)
theorem dX2_build_113 : decode cX2_build 113 = .ok (.aload_n 0, 1) := dk_42 (dk_at dksX2_build_4 22 rfl rfl)
theorem dX2_build_114 : decode cX2_build 114 = .ok (.getfield 707, 3) := dk_180 2 195 (dk_at dksX2_build_5 0 rfl rfl)
theorem dX2_build_117 : decode cX2_build 117 = .ok (.istore 7, 2) := dk_54 7 (dk_at dksX2_build_5 3 rfl rfl)
theorem dX2_build_119 : decode cX2_build 119 = .ok (.iload_n 1, 1) := dk_27 (dk_at dksX2_build_5 5 rfl rfl)
theorem dX2_build_120 : decode cX2_build 120 = .ok (.istore 8, 2) := dk_54 8 (dk_at dksX2_build_5 6 rfl rfl)
theorem dX2_build_122 : decode cX2_build 122 = .ok (.iconst 0, 1) := dk_3 (dk_at dksX2_build_5 8 rfl rfl)
theorem dX2_build_123 : decode cX2_build 123 = .ok (.istore 9, 2) := dk_54 9 (dk_at dksX2_build_5 9 rfl rfl)
theorem dX2_build_125 : decode cX2_build 125 = .ok (.iload 9, 2) := dk_21 9 (dk_at dksX2_build_5 11 rfl rfl)
theorem dX2_build_127 : decode cX2_build 127 = .ok (.aload_n 0, 1) := dk_42 (dk_at dksX2_build_5 13 rfl rfl)
theorem dX2_build_128 : decode cX2_build 128 = .ok (.getfield 144, 3) := dk_180 0 144 (dk_at dksX2_build_5 14 rfl rfl)
theorem dX2_build_131 : decode cX2_build 131 = .ok (.iload 6, 2) := dk_21 6 (dk_at dksX2_build_5 17 rfl rfl)
theorem dX2_build_133 : decode cX2_build 133 = .ok (.iaload, 1) := dk_46 (dk_at dksX2_build_5 19 rfl rfl)
theorem dX2_build_134 : decode cX2_build 134 = .ok (.if_icmp .ge 155, 3) := dk_162 0 155 (dk_at dksX2_build_5 20 rfl rfl)
theorem dX2_build_137 : decode cX2_build 137 = .ok (.aload_n 0, 1) := dk_42 (dk_at dksX2_build_5 23 rfl rfl)
theorem dX2_build_138 : decode cX2_build 138 = .ok (.getfield 141, 3) := dk_180 0 141 (dk_at dksX2_build_6 0 rfl rfl)
theorem dX2_build_141 : decode cX2_build 141 = .ok (.bipush 13, 2) := dk_16 13 (dk_at dksX2_build_6 3 rfl rfl)
theorem dX2_build_143 : decode cX2_build 143 = .ok (.iload 6, 2) := dk_21 6 (dk_at dksX2_build_6 5 rfl rfl)
theorem dX2_build_145 : decode cX2_build 145 = .ok (.imul, 1) := dk_104 (dk_at dksX2_build_6 7 rfl rfl)
theorem dX2_build_146 : decode cX2_build 146 = .ok (.iload 9, 2) := dk_21 9 (dk_at dksX2_build_6 8 rfl rfl)
theorem dX2_build_148 : decode cX2_build 148 = .ok (.iadd, 1) := dk_96 (dk_at dksX2_build_6 10 rfl rfl)
theorem dX2_build_149 : decode cX2_build 149 = .ok (.iaload, 1) := dk_46 (dk_at dksX2_build_6 11 rfl rfl)
theorem dX2_build_150 : decode cX2_build 150 = .ok (.iconst (-1), 1) := dk_2 (dk_at dksX2_build_6 12 rfl rfl)
theorem dX2_build_151 : decode cX2_build 151 = .ok (.if_icmp .eq 9, 3) := dk_159 0 9 (dk_at dksX2_build_6 13 rfl rfl)
theorem dX2_build_154 : decode cX2_build 154 = .ok (.iinc 8 1, 3) := dk_132 8 1 (dk_at dksX2_build_6 16 rfl rfl)
theorem dX2_build_157 : decode cX2_build 157 = .ok (.goto 126, 3) := dk_167 0 126 (dk_at dksX2_build_6 19 rfl rfl)
theorem dX2_build_160 : decode cX2_build 160 = .ok (.aload_n 0, 1) := dk_42 (dk_at dksX2_build_6 22 rfl rfl)
theorem dX2_build_161 : decode cX2_build 161 = .ok (.iload 5, 2) := dk_21 5 (dk_at dksX2_build_7 0 rfl rfl)
theorem dX2_build_163 : decode cX2_build 163 = .ok (.iload_n 1, 1) := dk_27 (dk_at dksX2_build_7 2 rfl rfl)
theorem dX2_build_164 : decode cX2_build 164 = .ok (.iload_n 2, 1) := dk_28 (dk_at dksX2_build_7 3 rfl rfl)
theorem dX2_build_165 : decode cX2_build 165 = .ok (.invokevirtual 735, 3) := dk_182 2 223 (dk_at dksX2_build_7 4 rfl rfl)
theorem dX2_build_168 : decode cX2_build 168 = .ok (.aload_n 0, 1) := dk_42 (dk_at dksX2_build_7 7 rfl rfl)
theorem dX2_build_169 : decode cX2_build 169 = .ok (.iload 6, 2) := dk_21 6 (dk_at dksX2_build_7 8 rfl rfl)
theorem dX2_build_171 : decode cX2_build 171 = .ok (.iload 9, 2) := dk_21 9 (dk_at dksX2_build_7 10 rfl rfl)
theorem dX2_build_173 : decode cX2_build 173 = .ok (.invokevirtual 719, 3) := dk_182 2 207 (dk_at dksX2_build_7 12 rfl rfl)
theorem dX2_build_176 : decode cX2_build 176 = .ok (.istore 10, 2) := dk_54 10 (dk_at dksX2_build_7 15 rfl rfl)
theorem dX2_build_178 : decode cX2_build 178 = .ok (.iload 8, 2) := dk_21 8 (dk_at dksX2_build_7 17 rfl rfl)
theorem dX2_build_180 : decode cX2_build 180 = .ok (.iconst 1, 1) := dk_4 (dk_at dksX2_build_7 19 rfl rfl)
theorem dX2_build_181 : decode cX2_build 181 = .ok (.iadd, 1) := dk_96 (dk_at dksX2_build_7 20 rfl rfl)
theorem dX2_build_182 : decode cX2_build 182 = .ok (.istore 11, 2) := dk_54 11 (dk_at dksX2_build_7 21 rfl rfl)
theorem dX2_build_184 : decode cX2_build 184 = .ok (.aload_n 0, 1) := dk_42 (dk_at dksX2_build_7 23 rfl rfl)
theorem dX2_build_185 : decode cX2_build 185 = .ok (.getfield 229, 3) := dk_180 0 229 (dk_at dksX2_build_8 0 rfl rfl)
theorem dX2_build_188 : decode cX2_build 188 = .ok (.bipush 33, 2) := dk_16 33 (dk_at dksX2_build_8 3 rfl rfl)
theorem dX2_build_190 : decode cX2_build 190 = .ok (.iload 9, 2) := dk_21 9 (dk_at dksX2_build_8 5 rfl rfl)
theorem dX2_build_192 : decode cX2_build 192 = .ok (.iconst 1, 1) := dk_4 (dk_at dksX2_build_8 7 rfl rfl)
theorem dX2_build_193 : decode cX2_build 193 = .ok (.iadd, 1) := dk_96 (dk_at dksX2_build_8 8 rfl rfl)
theorem dX2_build_194 : decode cX2_build 194 = .ok (.imul, 1) := dk_104 (dk_at dksX2_build_8 9 rfl rfl)
theorem dX2_build_195 : decode cX2_build 195 = .ok (.iload 11, 2) := dk_21 11 (dk_at dksX2_build_8 10 rfl rfl)
theorem dX2_build_197 : decode cX2_build 197 = .ok (.iadd, 1) := dk_96 (dk_at dksX2_build_8 12 rfl rfl)
theorem dX2_build_198 : decode cX2_build 198 = .ok (.baload, 1) := dk_51 (dk_at dksX2_build_8 13 rfl rfl)
theorem dX2_build_199 : decode cX2_build 199 = .ok (.ifCond .eq 42, 3) := dk_153 0 42 (dk_at dksX2_build_8 14 rfl rfl)
theorem dX2_build_202 : decode cX2_build 202 = .ok (.iload 8, 2) := dk_21 8 (dk_at dksX2_build_8 17 rfl rfl)
theorem dX2_build_204 : decode cX2_build 204 = .ok (.iload_n 1, 1) := dk_27 (dk_at dksX2_build_8 19 rfl rfl)
theorem dX2_build_205 : decode cX2_build 205 = .ok (.if_icmp .ne 9, 3) := dk_160 0 9 (dk_at dksX2_build_8 20 rfl rfl)
theorem dX2_build_208 : decode cX2_build 208 = .ok (.iload 11, 2) := dk_21 11 (dk_at dksX2_build_9 0 rfl rfl)
theorem dX2_build_210 : decode cX2_build 210 = .ok (.iload_n 2, 1) := dk_28 (dk_at dksX2_build_9 2 rfl rfl)
theorem dX2_build_211 : decode cX2_build 211 = .ok (.if_icmp .eq 30, 3) := dk_159 0 30 (dk_at dksX2_build_9 3 rfl rfl)
theorem dX2_build_214 : decode cX2_build 214 = .ok (.aload_n 0, 1) := dk_42 (dk_at dksX2_build_9 6 rfl rfl)
theorem dX2_build_215 : decode cX2_build 215 = .ok (.iload 8, 2) := dk_21 8 (dk_at dksX2_build_9 7 rfl rfl)
theorem dX2_build_217 : decode cX2_build 217 = .ok (.iload 11, 2) := dk_21 11 (dk_at dksX2_build_9 9 rfl rfl)
theorem dX2_build_219 : decode cX2_build 219 = .ok (.aload_n 0, 1) := dk_42 (dk_at dksX2_build_9 11 rfl rfl)
theorem dX2_build_220 : decode cX2_build 220 = .ok (.iload 6, 2) := dk_21 6 (dk_at dksX2_build_9 12 rfl rfl)
theorem dX2_build_222 : decode cX2_build 222 = .ok (.iload 10, 2) := dk_21 10 (dk_at dksX2_build_9 14 rfl rfl)
theorem dX2_build_224 : decode cX2_build 224 = .ok (.invokevirtual 652, 3) := dk_182 2 140 (dk_at dksX2_build_9 16 rfl rfl)
theorem dX2_build_227 : decode cX2_build 227 = .ok (.aload_n 0, 1) := dk_42 (dk_at dksX2_build_9 19 rfl rfl)
theorem dX2_build_228 : decode cX2_build 228 = .ok (.iload 5, 2) := dk_21 5 (dk_at dksX2_build_9 20 rfl rfl)
theorem dX2_build_230 : decode cX2_build 230 = .ok (.iload 10, 2) := dk_21 10 (dk_at dksX2_build_9 22 rfl rfl)
theorem dX2_build_232 : decode cX2_build 232 = .ok (.invokevirtual 722, 3) := dk_182 2 210 (dk_at dksX2_build_10 0 rfl rfl)
theorem dX2_build_235 : decode cX2_build 235 = .ok (.invokevirtual 725, 3) := dk_182 2 213 (dk_at dksX2_build_10 3 rfl rfl)
theorem dX2_build_238 : decode cX2_build 238 = .ok (.ifCond .ne 9, 3) := dk_154 0 9 (dk_at dksX2_build_10 6 rfl rfl)
theorem dX2_build_241 : decode cX2_build 241 = .ok (.iinc 11 1, 3) := dk_132 11 1 (dk_at dksX2_build_10 9 rfl rfl)
theorem dX2_build_244 : decode cX2_build 244 = .ok (.goto (-60), 3) := dk_167 255 196 (dk_at dksX2_build_10 12 rfl rfl)
theorem dX2_build_247 : decode cX2_build 247 = .ok (.aload_n 0, 1) := dk_42 (dk_at dksX2_build_10 15 rfl rfl)
theorem dX2_build_248 : decode cX2_build 248 = .ok (.iload 8, 2) := dk_21 8 (dk_at dksX2_build_10 16 rfl rfl)
theorem dX2_build_250 : decode cX2_build 250 = .ok (.iload 11, 2) := dk_21 11 (dk_at dksX2_build_10 18 rfl rfl)
theorem dX2_build_252 : decode cX2_build 252 = .ok (.aload_n 0, 1) := dk_42 (dk_at dksX2_build_10 20 rfl rfl)
theorem dX2_build_253 : decode cX2_build 253 = .ok (.iload 6, 2) := dk_21 6 (dk_at dksX2_build_10 21 rfl rfl)
theorem dX2_build_255 : decode cX2_build 255 = .ok (.iload 10, 2) := dk_21 10 (dk_at dksX2_build_11 0 rfl rfl)
theorem dX2_build_257 : decode cX2_build 257 = .ok (.invokevirtual 652, 3) := dk_182 2 140 (dk_at dksX2_build_11 2 rfl rfl)
theorem dX2_build_260 : decode cX2_build 260 = .ok (.aload_n 0, 1) := dk_42 (dk_at dksX2_build_11 5 rfl rfl)
theorem dX2_build_261 : decode cX2_build 261 = .ok (.iload 5, 2) := dk_21 5 (dk_at dksX2_build_11 6 rfl rfl)
theorem dX2_build_263 : decode cX2_build 263 = .ok (.iload 10, 2) := dk_21 10 (dk_at dksX2_build_11 8 rfl rfl)
theorem dX2_build_265 : decode cX2_build 265 = .ok (.invokevirtual 722, 3) := dk_182 2 210 (dk_at dksX2_build_11 10 rfl rfl)
theorem dX2_build_268 : decode cX2_build 268 = .ok (.invokestatic 753, 3) := dk_184 2 241 (dk_at dksX2_build_11 13 rfl rfl)
theorem dX2_build_271 : decode cX2_build 271 = .ok (.istore 12, 2) := dk_54 12 (dk_at dksX2_build_11 16 rfl rfl)
theorem dX2_build_273 : decode cX2_build 273 = .ok (.aload_n 0, 1) := dk_42 (dk_at dksX2_build_11 18 rfl rfl)
theorem dX2_build_274 : decode cX2_build 274 = .ok (.iload 12, 2) := dk_21 12 (dk_at dksX2_build_11 19 rfl rfl)
theorem dX2_build_276 : decode cX2_build 276 = .ok (.invokevirtual 757, 3) := dk_182 2 245 (dk_at dksX2_build_11 21 rfl rfl)
theorem dX2_build_279 : decode cX2_build 279 = .ok (.iload 11, 2) := dk_21 11 (dk_at dksX2_build_12 0 rfl rfl)
theorem dX2_build_281 : decode cX2_build 281 = .ok (.istore 8, 2) := dk_54 8 (dk_at dksX2_build_12 2 rfl rfl)
theorem dX2_build_283 : decode cX2_build 283 = .ok (.iinc 9 1, 3) := dk_132 9 1 (dk_at dksX2_build_12 4 rfl rfl)
theorem dX2_build_286 : decode cX2_build 286 = .ok (.goto (-161), 3) := dk_167 255 95 (dk_at dksX2_build_12 7 rfl rfl)
theorem dX2_build_289 : decode cX2_build 289 = .ok (.aload_n 0, 1) := dk_42 (dk_at dksX2_build_12 10 rfl rfl)
theorem dX2_build_290 : decode cX2_build 290 = .ok (.iload 5, 2) := dk_21 5 (dk_at dksX2_build_12 11 rfl rfl)
theorem dX2_build_292 : decode cX2_build 292 = .ok (.iload 7, 2) := dk_21 7 (dk_at dksX2_build_12 13 rfl rfl)
theorem dX2_build_294 : decode cX2_build 294 = .ok (.invokevirtual 760, 3) := dk_182 2 248 (dk_at dksX2_build_12 15 rfl rfl)
theorem dX2_build_297 : decode cX2_build 297 = .ok (.ireturn, 1) := dk_172 (dk_at dksX2_build_12 18 rfl rfl)
abbrev cX2_variable : ByteArray := prog_4_method_59_code
def yX2_variable : MethodName := ⟨RX2, "variable", "(I)I"⟩
def dkwX2_variable_0 : List UInt8 := [42, 2, 27, 100, 3, 182, 2, 166, 172]
abbrev dktX2_variable_0 : List UInt8 := dkwX2_variable_0 ++ []
theorem dksX2_variable_0 : cX2_variable.data.toList.drop 0 = dktX2_variable_0 := by decide +kernel
theorem dX2_variable_0 : decode cX2_variable 0 = .ok (.aload_n 0, 1) := dk_42 (dk_at dksX2_variable_0 0 rfl rfl)
theorem dX2_variable_1 : decode cX2_variable 1 = .ok (.iconst (-1), 1) := dk_2 (dk_at dksX2_variable_0 1 rfl rfl)
theorem dX2_variable_2 : decode cX2_variable 2 = .ok (.iload_n 1, 1) := dk_27 (dk_at dksX2_variable_0 2 rfl rfl)
theorem dX2_variable_3 : decode cX2_variable 3 = .ok (.isub, 1) := dk_100 (dk_at dksX2_variable_0 3 rfl rfl)
theorem dX2_variable_4 : decode cX2_variable 4 = .ok (.iconst 0, 1) := dk_3 (dk_at dksX2_variable_0 4 rfl rfl)
theorem dX2_variable_5 : decode cX2_variable 5 = .ok (.invokevirtual 678, 3) := dk_182 2 166 (dk_at dksX2_variable_0 5 rfl rfl)
theorem dX2_variable_8 : decode cX2_variable 8 = .ok (.ireturn, 1) := dk_172 (dk_at dksX2_variable_0 8 rfl rfl)
abbrev cX2_node : ByteArray := prog_4_method_58_code
def yX2_node : MethodName := ⟨RX2, "node", "(II)I"⟩
def dkwX2_node_11 : List UInt8 := [42, 180, 0, 193, 21, 4, 42, 21, 4, 182, 2, 163, 79, 21, 4, 172]
abbrev dktX2_node_11 : List UInt8 := dkwX2_node_11 ++ []
def dkwX2_node_10 : List UInt8 := [21, 4, 3, 79, 42, 89, 180, 2, 152, 4, 96, 181, 2, 152, 42, 42, 180, 2, 155, 28, 96, 181, 2, 155]
abbrev dktX2_node_10 : List UInt8 := dkwX2_node_10 ++ dktX2_node_11
def dkwX2_node_9 : List UInt8 := [180, 0, 196, 21, 4, 42, 180, 0, 210, 29, 46, 79, 42, 180, 0, 210, 29, 21, 4, 79, 42, 180, 0, 202]
abbrev dktX2_node_9 : List UInt8 := dkwX2_node_9 ++ dktX2_node_10
def dkwX2_node_8 : List UInt8 := [42, 180, 2, 155, 79, 42, 180, 0, 187, 21, 4, 28, 79, 42, 180, 0, 190, 21, 4, 21, 5, 79, 42]
abbrev dktX2_node_8 : List UInt8 := dkwX2_node_8 ++ dktX2_node_9
def dkwX2_node_7 : List UInt8 := [46, 96, 54, 5, 132, 6, 1, 167, 255, 225, 42, 180, 0, 181, 21, 4, 27, 79, 42, 180, 0, 184, 21, 4]
abbrev dktX2_node_7 : List UInt8 := dkwX2_node_7 ++ dktX2_node_8
def dkwX2_node_6 : List UInt8 := [21, 6, 28, 162, 0, 31, 21, 5, 42, 180, 0, 190, 42, 180, 0, 206, 42, 180, 2, 155, 21, 6, 96, 46]
abbrev dktX2_node_6 : List UInt8 := dkwX2_node_6 ++ dktX2_node_7
def dkwX2_node_5 : List UInt8 := [42, 180, 0, 196, 21, 4, 46, 54, 4, 167, 255, 148, 42, 180, 2, 152, 54, 4, 4, 54, 5, 3, 54, 6]
abbrev dktX2_node_5 : List UInt8 := dkwX2_node_5 ++ dktX2_node_6
def dkwX2_node_4 : List UInt8 := [160, 0, 7, 4, 167, 0, 4, 3, 54, 5, 132, 6, 1, 167, 255, 205, 21, 5, 153, 0, 6, 21, 4, 172]
abbrev dktX2_node_4 : List UInt8 := dkwX2_node_4 ++ dktX2_node_5
def dkwX2_node_3 : List UInt8 := [42, 180, 0, 184, 21, 4, 46, 21, 6, 96, 46, 42, 180, 0, 206, 42, 180, 2, 155, 21, 6, 96, 46]
abbrev dktX2_node_3 : List UInt8 := dkwX2_node_3 ++ dktX2_node_4
def dkwX2_node_2 : List UInt8 := [167, 0, 4, 3, 54, 5, 3, 54, 6, 21, 6, 28, 162, 0, 51, 21, 5, 153, 0, 46, 42, 180, 0, 206]
abbrev dktX2_node_2 : List UInt8 := dkwX2_node_2 ++ dktX2_node_3
def dkwX2_node_1 : List UInt8 := [42, 180, 0, 181, 21, 4, 46, 27, 160, 0, 18, 42, 180, 0, 187, 21, 4, 46, 28, 160, 0, 7, 4]
abbrev dktX2_node_1 : List UInt8 := dkwX2_node_1 ++ dktX2_node_2
def dkwX2_node_0 : List UInt8 := [42, 27, 42, 180, 2, 155, 28, 182, 2, 159, 62, 42, 180, 0, 210, 29, 46, 54, 4, 21, 4, 155, 0, 109]
abbrev dktX2_node_0 : List UInt8 := dkwX2_node_0 ++ dktX2_node_1
theorem dksX2_node_0 : cX2_node.data.toList.drop 0 = dktX2_node_0 := by decide +kernel
theorem dksX2_node_1 : cX2_node.data.toList.drop 24 = dktX2_node_1 := dk_seg dksX2_node_0 24 rfl rfl
theorem dksX2_node_2 : cX2_node.data.toList.drop 47 = dktX2_node_2 := dk_seg dksX2_node_1 23 rfl rfl
theorem dksX2_node_3 : cX2_node.data.toList.drop 71 = dktX2_node_3 := dk_seg dksX2_node_2 24 rfl rfl
theorem dksX2_node_4 : cX2_node.data.toList.drop 94 = dktX2_node_4 := dk_seg dksX2_node_3 23 rfl rfl
theorem dksX2_node_5 : cX2_node.data.toList.drop 118 = dktX2_node_5 := dk_seg dksX2_node_4 24 rfl rfl
theorem dksX2_node_6 : cX2_node.data.toList.drop 142 = dktX2_node_6 := dk_seg dksX2_node_5 24 rfl rfl
theorem dksX2_node_7 : cX2_node.data.toList.drop 166 = dktX2_node_7 := dk_seg dksX2_node_6 24 rfl rfl
theorem dksX2_node_8 : cX2_node.data.toList.drop 190 = dktX2_node_8 := dk_seg dksX2_node_7 24 rfl rfl
theorem dksX2_node_9 : cX2_node.data.toList.drop 213 = dktX2_node_9 := dk_seg dksX2_node_8 23 rfl rfl
theorem dksX2_node_10 : cX2_node.data.toList.drop 237 = dktX2_node_10 := dk_seg dksX2_node_9 24 rfl rfl
theorem dksX2_node_11 : cX2_node.data.toList.drop 261 = dktX2_node_11 := dk_seg dksX2_node_10 24 rfl rfl
theorem dX2_node_0 : decode cX2_node 0 = .ok (.aload_n 0, 1) := dk_42 (dk_at dksX2_node_0 0 rfl rfl)
theorem dX2_node_1 : decode cX2_node 1 = .ok (.iload_n 1, 1) := dk_27 (dk_at dksX2_node_0 1 rfl rfl)
theorem dX2_node_2 : decode cX2_node 2 = .ok (.aload_n 0, 1) := dk_42 (dk_at dksX2_node_0 2 rfl rfl)
theorem dX2_node_3 : decode cX2_node 3 = .ok (.getfield 667, 3) := dk_180 2 155 (dk_at dksX2_node_0 3 rfl rfl)
theorem dX2_node_6 : decode cX2_node 6 = .ok (.iload_n 2, 1) := dk_28 (dk_at dksX2_node_0 6 rfl rfl)
theorem dX2_node_7 : decode cX2_node 7 = .ok (.invokevirtual 671, 3) := dk_182 2 159 (dk_at dksX2_node_0 7 rfl rfl)
theorem dX2_node_10 : decode cX2_node 10 = .ok (.istore_n 3, 1) := dk_62 (dk_at dksX2_node_0 10 rfl rfl)
theorem dX2_node_11 : decode cX2_node 11 = .ok (.aload_n 0, 1) := dk_42 (dk_at dksX2_node_0 11 rfl rfl)
theorem dX2_node_12 : decode cX2_node 12 = .ok (.getfield 210, 3) := dk_180 0 210 (dk_at dksX2_node_0 12 rfl rfl)
theorem dX2_node_15 : decode cX2_node 15 = .ok (.iload_n 3, 1) := dk_29 (dk_at dksX2_node_0 15 rfl rfl)
theorem dX2_node_16 : decode cX2_node 16 = .ok (.iaload, 1) := dk_46 (dk_at dksX2_node_0 16 rfl rfl)
theorem dX2_node_17 : decode cX2_node 17 = .ok (.istore 4, 2) := dk_54 4 (dk_at dksX2_node_0 17 rfl rfl)
theorem dX2_node_19 : decode cX2_node 19 = .ok (.iload 4, 2) := dk_21 4 (dk_at dksX2_node_0 19 rfl rfl)
theorem dX2_node_21 : decode cX2_node 21 = .ok (.ifCond .lt 109, 3) := dk_155 0 109 (dk_at dksX2_node_0 21 rfl rfl)
theorem dX2_node_24 : decode cX2_node 24 = .ok (.aload_n 0, 1) := dk_42 (dk_at dksX2_node_1 0 rfl rfl)
theorem dX2_node_25 : decode cX2_node 25 = .ok (.getfield 181, 3) := dk_180 0 181 (dk_at dksX2_node_1 1 rfl rfl)
theorem dX2_node_28 : decode cX2_node 28 = .ok (.iload 4, 2) := dk_21 4 (dk_at dksX2_node_1 4 rfl rfl)
theorem dX2_node_30 : decode cX2_node 30 = .ok (.iaload, 1) := dk_46 (dk_at dksX2_node_1 6 rfl rfl)
theorem dX2_node_31 : decode cX2_node 31 = .ok (.iload_n 1, 1) := dk_27 (dk_at dksX2_node_1 7 rfl rfl)
theorem dX2_node_32 : decode cX2_node 32 = .ok (.if_icmp .ne 18, 3) := dk_160 0 18 (dk_at dksX2_node_1 8 rfl rfl)
theorem dX2_node_35 : decode cX2_node 35 = .ok (.aload_n 0, 1) := dk_42 (dk_at dksX2_node_1 11 rfl rfl)
theorem dX2_node_36 : decode cX2_node 36 = .ok (.getfield 187, 3) := dk_180 0 187 (dk_at dksX2_node_1 12 rfl rfl)
theorem dX2_node_39 : decode cX2_node 39 = .ok (.iload 4, 2) := dk_21 4 (dk_at dksX2_node_1 15 rfl rfl)
theorem dX2_node_41 : decode cX2_node 41 = .ok (.iaload, 1) := dk_46 (dk_at dksX2_node_1 17 rfl rfl)
theorem dX2_node_42 : decode cX2_node 42 = .ok (.iload_n 2, 1) := dk_28 (dk_at dksX2_node_1 18 rfl rfl)
theorem dX2_node_43 : decode cX2_node 43 = .ok (.if_icmp .ne 7, 3) := dk_160 0 7 (dk_at dksX2_node_1 19 rfl rfl)
theorem dX2_node_46 : decode cX2_node 46 = .ok (.iconst 1, 1) := dk_4 (dk_at dksX2_node_1 22 rfl rfl)
theorem dX2_node_47 : decode cX2_node 47 = .ok (.goto 4, 3) := dk_167 0 4 (dk_at dksX2_node_2 0 rfl rfl)
theorem dX2_node_50 : decode cX2_node 50 = .ok (.iconst 0, 1) := dk_3 (dk_at dksX2_node_2 3 rfl rfl)
theorem dX2_node_51 : decode cX2_node 51 = .ok (.istore 5, 2) := dk_54 5 (dk_at dksX2_node_2 4 rfl rfl)
theorem dX2_node_53 : decode cX2_node 53 = .ok (.iconst 0, 1) := dk_3 (dk_at dksX2_node_2 6 rfl rfl)
theorem dX2_node_54 : decode cX2_node 54 = .ok (.istore 6, 2) := dk_54 6 (dk_at dksX2_node_2 7 rfl rfl)
theorem dX2_node_56 : decode cX2_node 56 = .ok (.iload 6, 2) := dk_21 6 (dk_at dksX2_node_2 9 rfl rfl)
theorem dX2_node_58 : decode cX2_node 58 = .ok (.iload_n 2, 1) := dk_28 (dk_at dksX2_node_2 11 rfl rfl)
theorem dX2_node_59 : decode cX2_node 59 = .ok (.if_icmp .ge 51, 3) := dk_162 0 51 (dk_at dksX2_node_2 12 rfl rfl)
theorem dX2_node_62 : decode cX2_node 62 = .ok (.iload 5, 2) := dk_21 5 (dk_at dksX2_node_2 15 rfl rfl)
theorem dX2_node_64 : decode cX2_node 64 = .ok (.ifCond .eq 46, 3) := dk_153 0 46 (dk_at dksX2_node_2 17 rfl rfl)
theorem dX2_node_67 : decode cX2_node 67 = .ok (.aload_n 0, 1) := dk_42 (dk_at dksX2_node_2 20 rfl rfl)
theorem dX2_node_68 : decode cX2_node 68 = .ok (.getfield 206, 3) := dk_180 0 206 (dk_at dksX2_node_2 21 rfl rfl)
theorem dX2_node_71 : decode cX2_node 71 = .ok (.aload_n 0, 1) := dk_42 (dk_at dksX2_node_3 0 rfl rfl)
theorem dX2_node_72 : decode cX2_node 72 = .ok (.getfield 184, 3) := dk_180 0 184 (dk_at dksX2_node_3 1 rfl rfl)
theorem dX2_node_75 : decode cX2_node 75 = .ok (.iload 4, 2) := dk_21 4 (dk_at dksX2_node_3 4 rfl rfl)
theorem dX2_node_77 : decode cX2_node 77 = .ok (.iaload, 1) := dk_46 (dk_at dksX2_node_3 6 rfl rfl)
theorem dX2_node_78 : decode cX2_node 78 = .ok (.iload 6, 2) := dk_21 6 (dk_at dksX2_node_3 7 rfl rfl)
theorem dX2_node_80 : decode cX2_node 80 = .ok (.iadd, 1) := dk_96 (dk_at dksX2_node_3 9 rfl rfl)
theorem dX2_node_81 : decode cX2_node 81 = .ok (.iaload, 1) := dk_46 (dk_at dksX2_node_3 10 rfl rfl)
theorem dX2_node_82 : decode cX2_node 82 = .ok (.aload_n 0, 1) := dk_42 (dk_at dksX2_node_3 11 rfl rfl)
theorem dX2_node_83 : decode cX2_node 83 = .ok (.getfield 206, 3) := dk_180 0 206 (dk_at dksX2_node_3 12 rfl rfl)
theorem dX2_node_86 : decode cX2_node 86 = .ok (.aload_n 0, 1) := dk_42 (dk_at dksX2_node_3 15 rfl rfl)
theorem dX2_node_87 : decode cX2_node 87 = .ok (.getfield 667, 3) := dk_180 2 155 (dk_at dksX2_node_3 16 rfl rfl)
theorem dX2_node_90 : decode cX2_node 90 = .ok (.iload 6, 2) := dk_21 6 (dk_at dksX2_node_3 19 rfl rfl)
theorem dX2_node_92 : decode cX2_node 92 = .ok (.iadd, 1) := dk_96 (dk_at dksX2_node_3 21 rfl rfl)
theorem dX2_node_93 : decode cX2_node 93 = .ok (.iaload, 1) := dk_46 (dk_at dksX2_node_3 22 rfl rfl)
theorem dX2_node_94 : decode cX2_node 94 = .ok (.if_icmp .ne 7, 3) := dk_160 0 7 (dk_at dksX2_node_4 0 rfl rfl)
theorem dX2_node_97 : decode cX2_node 97 = .ok (.iconst 1, 1) := dk_4 (dk_at dksX2_node_4 3 rfl rfl)
theorem dX2_node_98 : decode cX2_node 98 = .ok (.goto 4, 3) := dk_167 0 4 (dk_at dksX2_node_4 4 rfl rfl)
theorem dX2_node_101 : decode cX2_node 101 = .ok (.iconst 0, 1) := dk_3 (dk_at dksX2_node_4 7 rfl rfl)
theorem dX2_node_102 : decode cX2_node 102 = .ok (.istore 5, 2) := dk_54 5 (dk_at dksX2_node_4 8 rfl rfl)
theorem dX2_node_104 : decode cX2_node 104 = .ok (.iinc 6 1, 3) := dk_132 6 1 (dk_at dksX2_node_4 10 rfl rfl)
theorem dX2_node_107 : decode cX2_node 107 = .ok (.goto (-51), 3) := dk_167 255 205 (dk_at dksX2_node_4 13 rfl rfl)
theorem dX2_node_110 : decode cX2_node 110 = .ok (.iload 5, 2) := dk_21 5 (dk_at dksX2_node_4 16 rfl rfl)
theorem dX2_node_112 : decode cX2_node 112 = .ok (.ifCond .eq 6, 3) := dk_153 0 6 (dk_at dksX2_node_4 18 rfl rfl)
theorem dX2_node_115 : decode cX2_node 115 = .ok (.iload 4, 2) := dk_21 4 (dk_at dksX2_node_4 21 rfl rfl)
theorem dX2_node_117 : decode cX2_node 117 = .ok (.ireturn, 1) := dk_172 (dk_at dksX2_node_4 23 rfl rfl)
theorem dX2_node_118 : decode cX2_node 118 = .ok (.aload_n 0, 1) := dk_42 (dk_at dksX2_node_5 0 rfl rfl)
theorem dX2_node_119 : decode cX2_node 119 = .ok (.getfield 196, 3) := dk_180 0 196 (dk_at dksX2_node_5 1 rfl rfl)
theorem dX2_node_122 : decode cX2_node 122 = .ok (.iload 4, 2) := dk_21 4 (dk_at dksX2_node_5 4 rfl rfl)
theorem dX2_node_124 : decode cX2_node 124 = .ok (.iaload, 1) := dk_46 (dk_at dksX2_node_5 6 rfl rfl)
theorem dX2_node_125 : decode cX2_node 125 = .ok (.istore 4, 2) := dk_54 4 (dk_at dksX2_node_5 7 rfl rfl)
theorem dX2_node_127 : decode cX2_node 127 = .ok (.goto (-108), 3) := dk_167 255 148 (dk_at dksX2_node_5 9 rfl rfl)
theorem dX2_node_130 : decode cX2_node 130 = .ok (.aload_n 0, 1) := dk_42 (dk_at dksX2_node_5 12 rfl rfl)
theorem dX2_node_131 : decode cX2_node 131 = .ok (.getfield 664, 3) := dk_180 2 152 (dk_at dksX2_node_5 13 rfl rfl)
theorem dX2_node_134 : decode cX2_node 134 = .ok (.istore 4, 2) := dk_54 4 (dk_at dksX2_node_5 16 rfl rfl)
theorem dX2_node_136 : decode cX2_node 136 = .ok (.iconst 1, 1) := dk_4 (dk_at dksX2_node_5 18 rfl rfl)
theorem dX2_node_137 : decode cX2_node 137 = .ok (.istore 5, 2) := dk_54 5 (dk_at dksX2_node_5 19 rfl rfl)
theorem dX2_node_139 : decode cX2_node 139 = .ok (.iconst 0, 1) := dk_3 (dk_at dksX2_node_5 21 rfl rfl)
theorem dX2_node_140 : decode cX2_node 140 = .ok (.istore 6, 2) := dk_54 6 (dk_at dksX2_node_5 22 rfl rfl)
theorem dX2_node_142 : decode cX2_node 142 = .ok (.iload 6, 2) := dk_21 6 (dk_at dksX2_node_6 0 rfl rfl)
theorem dX2_node_144 : decode cX2_node 144 = .ok (.iload_n 2, 1) := dk_28 (dk_at dksX2_node_6 2 rfl rfl)
theorem dX2_node_145 : decode cX2_node 145 = .ok (.if_icmp .ge 31, 3) := dk_162 0 31 (dk_at dksX2_node_6 3 rfl rfl)
theorem dX2_node_148 : decode cX2_node 148 = .ok (.iload 5, 2) := dk_21 5 (dk_at dksX2_node_6 6 rfl rfl)
theorem dX2_node_150 : decode cX2_node 150 = .ok (.aload_n 0, 1) := dk_42 (dk_at dksX2_node_6 8 rfl rfl)
theorem dX2_node_151 : decode cX2_node 151 = .ok (.getfield 190, 3) := dk_180 0 190 (dk_at dksX2_node_6 9 rfl rfl)
theorem dX2_node_154 : decode cX2_node 154 = .ok (.aload_n 0, 1) := dk_42 (dk_at dksX2_node_6 12 rfl rfl)
theorem dX2_node_155 : decode cX2_node 155 = .ok (.getfield 206, 3) := dk_180 0 206 (dk_at dksX2_node_6 13 rfl rfl)
theorem dX2_node_158 : decode cX2_node 158 = .ok (.aload_n 0, 1) := dk_42 (dk_at dksX2_node_6 16 rfl rfl)
theorem dX2_node_159 : decode cX2_node 159 = .ok (.getfield 667, 3) := dk_180 2 155 (dk_at dksX2_node_6 17 rfl rfl)
theorem dX2_node_162 : decode cX2_node 162 = .ok (.iload 6, 2) := dk_21 6 (dk_at dksX2_node_6 20 rfl rfl)
theorem dX2_node_164 : decode cX2_node 164 = .ok (.iadd, 1) := dk_96 (dk_at dksX2_node_6 22 rfl rfl)
theorem dX2_node_165 : decode cX2_node 165 = .ok (.iaload, 1) := dk_46 (dk_at dksX2_node_6 23 rfl rfl)
theorem dX2_node_166 : decode cX2_node 166 = .ok (.iaload, 1) := dk_46 (dk_at dksX2_node_7 0 rfl rfl)
theorem dX2_node_167 : decode cX2_node 167 = .ok (.iadd, 1) := dk_96 (dk_at dksX2_node_7 1 rfl rfl)
theorem dX2_node_168 : decode cX2_node 168 = .ok (.istore 5, 2) := dk_54 5 (dk_at dksX2_node_7 2 rfl rfl)
theorem dX2_node_170 : decode cX2_node 170 = .ok (.iinc 6 1, 3) := dk_132 6 1 (dk_at dksX2_node_7 4 rfl rfl)
theorem dX2_node_173 : decode cX2_node 173 = .ok (.goto (-31), 3) := dk_167 255 225 (dk_at dksX2_node_7 7 rfl rfl)
theorem dX2_node_176 : decode cX2_node 176 = .ok (.aload_n 0, 1) := dk_42 (dk_at dksX2_node_7 10 rfl rfl)
theorem dX2_node_177 : decode cX2_node 177 = .ok (.getfield 181, 3) := dk_180 0 181 (dk_at dksX2_node_7 11 rfl rfl)
theorem dX2_node_180 : decode cX2_node 180 = .ok (.iload 4, 2) := dk_21 4 (dk_at dksX2_node_7 14 rfl rfl)
theorem dX2_node_182 : decode cX2_node 182 = .ok (.iload_n 1, 1) := dk_27 (dk_at dksX2_node_7 16 rfl rfl)
theorem dX2_node_183 : decode cX2_node 183 = .ok (.iastore, 1) := dk_79 (dk_at dksX2_node_7 17 rfl rfl)
theorem dX2_node_184 : decode cX2_node 184 = .ok (.aload_n 0, 1) := dk_42 (dk_at dksX2_node_7 18 rfl rfl)
theorem dX2_node_185 : decode cX2_node 185 = .ok (.getfield 184, 3) := dk_180 0 184 (dk_at dksX2_node_7 19 rfl rfl)
theorem dX2_node_188 : decode cX2_node 188 = .ok (.iload 4, 2) := dk_21 4 (dk_at dksX2_node_7 22 rfl rfl)
theorem dX2_node_190 : decode cX2_node 190 = .ok (.aload_n 0, 1) := dk_42 (dk_at dksX2_node_8 0 rfl rfl)
theorem dX2_node_191 : decode cX2_node 191 = .ok (.getfield 667, 3) := dk_180 2 155 (dk_at dksX2_node_8 1 rfl rfl)
theorem dX2_node_194 : decode cX2_node 194 = .ok (.iastore, 1) := dk_79 (dk_at dksX2_node_8 4 rfl rfl)
theorem dX2_node_195 : decode cX2_node 195 = .ok (.aload_n 0, 1) := dk_42 (dk_at dksX2_node_8 5 rfl rfl)
theorem dX2_node_196 : decode cX2_node 196 = .ok (.getfield 187, 3) := dk_180 0 187 (dk_at dksX2_node_8 6 rfl rfl)
theorem dX2_node_199 : decode cX2_node 199 = .ok (.iload 4, 2) := dk_21 4 (dk_at dksX2_node_8 9 rfl rfl)
theorem dX2_node_201 : decode cX2_node 201 = .ok (.iload_n 2, 1) := dk_28 (dk_at dksX2_node_8 11 rfl rfl)
theorem dX2_node_202 : decode cX2_node 202 = .ok (.iastore, 1) := dk_79 (dk_at dksX2_node_8 12 rfl rfl)
theorem dX2_node_203 : decode cX2_node 203 = .ok (.aload_n 0, 1) := dk_42 (dk_at dksX2_node_8 13 rfl rfl)
theorem dX2_node_204 : decode cX2_node 204 = .ok (.getfield 190, 3) := dk_180 0 190 (dk_at dksX2_node_8 14 rfl rfl)
theorem dX2_node_207 : decode cX2_node 207 = .ok (.iload 4, 2) := dk_21 4 (dk_at dksX2_node_8 17 rfl rfl)
theorem dX2_node_209 : decode cX2_node 209 = .ok (.iload 5, 2) := dk_21 5 (dk_at dksX2_node_8 19 rfl rfl)
theorem dX2_node_211 : decode cX2_node 211 = .ok (.iastore, 1) := dk_79 (dk_at dksX2_node_8 21 rfl rfl)
theorem dX2_node_212 : decode cX2_node 212 = .ok (.aload_n 0, 1) := dk_42 (dk_at dksX2_node_8 22 rfl rfl)
theorem dX2_node_213 : decode cX2_node 213 = .ok (.getfield 196, 3) := dk_180 0 196 (dk_at dksX2_node_9 0 rfl rfl)
theorem dX2_node_216 : decode cX2_node 216 = .ok (.iload 4, 2) := dk_21 4 (dk_at dksX2_node_9 3 rfl rfl)
theorem dX2_node_218 : decode cX2_node 218 = .ok (.aload_n 0, 1) := dk_42 (dk_at dksX2_node_9 5 rfl rfl)
theorem dX2_node_219 : decode cX2_node 219 = .ok (.getfield 210, 3) := dk_180 0 210 (dk_at dksX2_node_9 6 rfl rfl)
theorem dX2_node_222 : decode cX2_node 222 = .ok (.iload_n 3, 1) := dk_29 (dk_at dksX2_node_9 9 rfl rfl)
theorem dX2_node_223 : decode cX2_node 223 = .ok (.iaload, 1) := dk_46 (dk_at dksX2_node_9 10 rfl rfl)
theorem dX2_node_224 : decode cX2_node 224 = .ok (.iastore, 1) := dk_79 (dk_at dksX2_node_9 11 rfl rfl)
theorem dX2_node_225 : decode cX2_node 225 = .ok (.aload_n 0, 1) := dk_42 (dk_at dksX2_node_9 12 rfl rfl)
theorem dX2_node_226 : decode cX2_node 226 = .ok (.getfield 210, 3) := dk_180 0 210 (dk_at dksX2_node_9 13 rfl rfl)
theorem dX2_node_229 : decode cX2_node 229 = .ok (.iload_n 3, 1) := dk_29 (dk_at dksX2_node_9 16 rfl rfl)
theorem dX2_node_230 : decode cX2_node 230 = .ok (.iload 4, 2) := dk_21 4 (dk_at dksX2_node_9 17 rfl rfl)
theorem dX2_node_232 : decode cX2_node 232 = .ok (.iastore, 1) := dk_79 (dk_at dksX2_node_9 19 rfl rfl)
theorem dX2_node_233 : decode cX2_node 233 = .ok (.aload_n 0, 1) := dk_42 (dk_at dksX2_node_9 20 rfl rfl)
theorem dX2_node_234 : decode cX2_node 234 = .ok (.getfield 202, 3) := dk_180 0 202 (dk_at dksX2_node_9 21 rfl rfl)
theorem dX2_node_237 : decode cX2_node 237 = .ok (.iload 4, 2) := dk_21 4 (dk_at dksX2_node_10 0 rfl rfl)
theorem dX2_node_239 : decode cX2_node 239 = .ok (.iconst 0, 1) := dk_3 (dk_at dksX2_node_10 2 rfl rfl)
theorem dX2_node_240 : decode cX2_node 240 = .ok (.iastore, 1) := dk_79 (dk_at dksX2_node_10 3 rfl rfl)
theorem dX2_node_241 : decode cX2_node 241 = .ok (.aload_n 0, 1) := dk_42 (dk_at dksX2_node_10 4 rfl rfl)
theorem dX2_node_242 : decode cX2_node 242 = .ok (.dup, 1) := dk_89 (dk_at dksX2_node_10 5 rfl rfl)
theorem dX2_node_243 : decode cX2_node 243 = .ok (.getfield 664, 3) := dk_180 2 152 (dk_at dksX2_node_10 6 rfl rfl)
theorem dX2_node_246 : decode cX2_node 246 = .ok (.iconst 1, 1) := dk_4 (dk_at dksX2_node_10 9 rfl rfl)
theorem dX2_node_247 : decode cX2_node 247 = .ok (.iadd, 1) := dk_96 (dk_at dksX2_node_10 10 rfl rfl)
theorem dX2_node_248 : decode cX2_node 248 = .ok (.putfield 664, 3) := dk_181 2 152 (dk_at dksX2_node_10 11 rfl rfl)
theorem dX2_node_251 : decode cX2_node 251 = .ok (.aload_n 0, 1) := dk_42 (dk_at dksX2_node_10 14 rfl rfl)
theorem dX2_node_252 : decode cX2_node 252 = .ok (.aload_n 0, 1) := dk_42 (dk_at dksX2_node_10 15 rfl rfl)
theorem dX2_node_253 : decode cX2_node 253 = .ok (.getfield 667, 3) := dk_180 2 155 (dk_at dksX2_node_10 16 rfl rfl)
theorem dX2_node_256 : decode cX2_node 256 = .ok (.iload_n 2, 1) := dk_28 (dk_at dksX2_node_10 19 rfl rfl)
theorem dX2_node_257 : decode cX2_node 257 = .ok (.iadd, 1) := dk_96 (dk_at dksX2_node_10 20 rfl rfl)
theorem dX2_node_258 : decode cX2_node 258 = .ok (.putfield 667, 3) := dk_181 2 155 (dk_at dksX2_node_10 21 rfl rfl)
theorem dX2_node_261 : decode cX2_node 261 = .ok (.aload_n 0, 1) := dk_42 (dk_at dksX2_node_11 0 rfl rfl)
theorem dX2_node_262 : decode cX2_node 262 = .ok (.getfield 193, 3) := dk_180 0 193 (dk_at dksX2_node_11 1 rfl rfl)
theorem dX2_node_265 : decode cX2_node 265 = .ok (.iload 4, 2) := dk_21 4 (dk_at dksX2_node_11 4 rfl rfl)
theorem dX2_node_267 : decode cX2_node 267 = .ok (.aload_n 0, 1) := dk_42 (dk_at dksX2_node_11 6 rfl rfl)
theorem dX2_node_268 : decode cX2_node 268 = .ok (.iload 4, 2) := dk_21 4 (dk_at dksX2_node_11 7 rfl rfl)
theorem dX2_node_270 : decode cX2_node 270 = .ok (.invokevirtual 675, 3) := dk_182 2 163 (dk_at dksX2_node_11 9 rfl rfl)
theorem dX2_node_273 : decode cX2_node 273 = .ok (.iastore, 1) := dk_79 (dk_at dksX2_node_11 12 rfl rfl)
theorem dX2_node_274 : decode cX2_node 274 = .ok (.iload 4, 2) := dk_21 4 (dk_at dksX2_node_11 13 rfl rfl)
theorem dX2_node_276 : decode cX2_node 276 = .ok (.ireturn, 1) := dk_172 (dk_at dksX2_node_11 15 rfl rfl)
abbrev cX2_hashOf : ByteArray := prog_4_method_57_code
def yX2_hashOf : MethodName := ⟨RX2, "hashOf", "(III)I"⟩
def dkwX2_hashOf_2 : List UInt8 := [167, 255, 220, 21, 4, 21, 4, 16, 16, 124, 130, 19, 2, 158, 126, 172]
abbrev dktX2_hashOf_2 : List UInt8 := dkwX2_hashOf_2 ++ []
def dkwX2_hashOf_1 : List UInt8 := [180, 0, 206, 28, 21, 5, 96, 46, 96, 54, 4, 21, 4, 21, 4, 16, 13, 124, 130, 54, 4, 132, 5, 1]
abbrev dktX2_hashOf_1 : List UInt8 := dkwX2_hashOf_1 ++ dktX2_hashOf_2
def dkwX2_hashOf_0 : List UInt8 := [27, 16, 31, 104, 29, 96, 54, 4, 3, 54, 5, 21, 5, 29, 162, 0, 36, 21, 4, 16, 31, 104, 42]
abbrev dktX2_hashOf_0 : List UInt8 := dkwX2_hashOf_0 ++ dktX2_hashOf_1
theorem dksX2_hashOf_0 : cX2_hashOf.data.toList.drop 0 = dktX2_hashOf_0 := by decide +kernel
theorem dksX2_hashOf_1 : cX2_hashOf.data.toList.drop 23 = dktX2_hashOf_1 := dk_seg dksX2_hashOf_0 23 rfl rfl
theorem dksX2_hashOf_2 : cX2_hashOf.data.toList.drop 47 = dktX2_hashOf_2 := dk_seg dksX2_hashOf_1 24 rfl rfl
theorem dX2_hashOf_0 : decode cX2_hashOf 0 = .ok (.iload_n 1, 1) := dk_27 (dk_at dksX2_hashOf_0 0 rfl rfl)
theorem dX2_hashOf_1 : decode cX2_hashOf 1 = .ok (.bipush 31, 2) := dk_16 31 (dk_at dksX2_hashOf_0 1 rfl rfl)
theorem dX2_hashOf_3 : decode cX2_hashOf 3 = .ok (.imul, 1) := dk_104 (dk_at dksX2_hashOf_0 3 rfl rfl)
theorem dX2_hashOf_4 : decode cX2_hashOf 4 = .ok (.iload_n 3, 1) := dk_29 (dk_at dksX2_hashOf_0 4 rfl rfl)
theorem dX2_hashOf_5 : decode cX2_hashOf 5 = .ok (.iadd, 1) := dk_96 (dk_at dksX2_hashOf_0 5 rfl rfl)
theorem dX2_hashOf_6 : decode cX2_hashOf 6 = .ok (.istore 4, 2) := dk_54 4 (dk_at dksX2_hashOf_0 6 rfl rfl)
theorem dX2_hashOf_8 : decode cX2_hashOf 8 = .ok (.iconst 0, 1) := dk_3 (dk_at dksX2_hashOf_0 8 rfl rfl)
theorem dX2_hashOf_9 : decode cX2_hashOf 9 = .ok (.istore 5, 2) := dk_54 5 (dk_at dksX2_hashOf_0 9 rfl rfl)
theorem dX2_hashOf_11 : decode cX2_hashOf 11 = .ok (.iload 5, 2) := dk_21 5 (dk_at dksX2_hashOf_0 11 rfl rfl)
theorem dX2_hashOf_13 : decode cX2_hashOf 13 = .ok (.iload_n 3, 1) := dk_29 (dk_at dksX2_hashOf_0 13 rfl rfl)
theorem dX2_hashOf_14 : decode cX2_hashOf 14 = .ok (.if_icmp .ge 36, 3) := dk_162 0 36 (dk_at dksX2_hashOf_0 14 rfl rfl)
theorem dX2_hashOf_17 : decode cX2_hashOf 17 = .ok (.iload 4, 2) := dk_21 4 (dk_at dksX2_hashOf_0 17 rfl rfl)
theorem dX2_hashOf_19 : decode cX2_hashOf 19 = .ok (.bipush 31, 2) := dk_16 31 (dk_at dksX2_hashOf_0 19 rfl rfl)
theorem dX2_hashOf_21 : decode cX2_hashOf 21 = .ok (.imul, 1) := dk_104 (dk_at dksX2_hashOf_0 21 rfl rfl)
theorem dX2_hashOf_22 : decode cX2_hashOf 22 = .ok (.aload_n 0, 1) := dk_42 (dk_at dksX2_hashOf_0 22 rfl rfl)
theorem dX2_hashOf_23 : decode cX2_hashOf 23 = .ok (.getfield 206, 3) := dk_180 0 206 (dk_at dksX2_hashOf_1 0 rfl rfl)
theorem dX2_hashOf_26 : decode cX2_hashOf 26 = .ok (.iload_n 2, 1) := dk_28 (dk_at dksX2_hashOf_1 3 rfl rfl)
theorem dX2_hashOf_27 : decode cX2_hashOf 27 = .ok (.iload 5, 2) := dk_21 5 (dk_at dksX2_hashOf_1 4 rfl rfl)
theorem dX2_hashOf_29 : decode cX2_hashOf 29 = .ok (.iadd, 1) := dk_96 (dk_at dksX2_hashOf_1 6 rfl rfl)
theorem dX2_hashOf_30 : decode cX2_hashOf 30 = .ok (.iaload, 1) := dk_46 (dk_at dksX2_hashOf_1 7 rfl rfl)
theorem dX2_hashOf_31 : decode cX2_hashOf 31 = .ok (.iadd, 1) := dk_96 (dk_at dksX2_hashOf_1 8 rfl rfl)
theorem dX2_hashOf_32 : decode cX2_hashOf 32 = .ok (.istore 4, 2) := dk_54 4 (dk_at dksX2_hashOf_1 9 rfl rfl)
theorem dX2_hashOf_34 : decode cX2_hashOf 34 = .ok (.iload 4, 2) := dk_21 4 (dk_at dksX2_hashOf_1 11 rfl rfl)
theorem dX2_hashOf_36 : decode cX2_hashOf 36 = .ok (.iload 4, 2) := dk_21 4 (dk_at dksX2_hashOf_1 13 rfl rfl)
theorem dX2_hashOf_38 : decode cX2_hashOf 38 = .ok (.bipush 13, 2) := dk_16 13 (dk_at dksX2_hashOf_1 15 rfl rfl)
theorem dX2_hashOf_40 : decode cX2_hashOf 40 = .ok (.iushr, 1) := dk_124 (dk_at dksX2_hashOf_1 17 rfl rfl)
theorem dX2_hashOf_41 : decode cX2_hashOf 41 = .ok (.ixor, 1) := dk_130 (dk_at dksX2_hashOf_1 18 rfl rfl)
theorem dX2_hashOf_42 : decode cX2_hashOf 42 = .ok (.istore 4, 2) := dk_54 4 (dk_at dksX2_hashOf_1 19 rfl rfl)
theorem dX2_hashOf_44 : decode cX2_hashOf 44 = .ok (.iinc 5 1, 3) := dk_132 5 1 (dk_at dksX2_hashOf_1 21 rfl rfl)
theorem dX2_hashOf_47 : decode cX2_hashOf 47 = .ok (.goto (-36), 3) := dk_167 255 220 (dk_at dksX2_hashOf_2 0 rfl rfl)
theorem dX2_hashOf_50 : decode cX2_hashOf 50 = .ok (.iload 4, 2) := dk_21 4 (dk_at dksX2_hashOf_2 3 rfl rfl)
theorem dX2_hashOf_52 : decode cX2_hashOf 52 = .ok (.iload 4, 2) := dk_21 4 (dk_at dksX2_hashOf_2 5 rfl rfl)
theorem dX2_hashOf_54 : decode cX2_hashOf 54 = .ok (.bipush 16, 2) := dk_16 16 (dk_at dksX2_hashOf_2 7 rfl rfl)
theorem dX2_hashOf_56 : decode cX2_hashOf 56 = .ok (.iushr, 1) := dk_124 (dk_at dksX2_hashOf_2 9 rfl rfl)
theorem dX2_hashOf_57 : decode cX2_hashOf 57 = .ok (.ixor, 1) := dk_130 (dk_at dksX2_hashOf_2 10 rfl rfl)
theorem dX2_hashOf_58 : decode cX2_hashOf 58 = .ok (.ldc_w 670, 3) := dk_19 2 158 (dk_at dksX2_hashOf_2 11 rfl rfl)
theorem dX2_hashOf_61 : decode cX2_hashOf 61 = .ok (.iand, 1) := dk_126 (dk_at dksX2_hashOf_2 14 rfl rfl)
theorem dX2_hashOf_62 : decode cX2_hashOf 62 = .ok (.ireturn, 1) := dk_172 (dk_at dksX2_hashOf_2 15 rfl rfl)
abbrev cX2_leastSort : ByteArray := prog_4_method_67_code
def yX2_leastSort : MethodName := ⟨RX2, "leastSort", "(I)I"⟩
def dkwX2_leastSort_9 : List UInt8 := [128, 167, 0, 5, 21, 4, 54, 4, 132, 5, 1, 167, 255, 129, 42, 21, 4, 182, 2, 173, 172]
abbrev dktX2_leastSort_9 : List UInt8 := dkwX2_leastSort_9 ++ []
def dkwX2_leastSort_8 : List UInt8 := [54, 6, 132, 7, 1, 167, 255, 189, 21, 6, 153, 0, 18, 21, 4, 4, 42, 180, 0, 153, 21, 5, 46, 120]
abbrev dktX2_leastSort_8 : List UInt8 := dkwX2_leastSort_8 ++ dktX2_leastSort_9
def dkwX2_leastSort_7 : List UInt8 := [42, 180, 0, 150, 8, 21, 5, 104, 21, 7, 96, 46, 182, 2, 102, 153, 0, 7, 4, 167, 0, 4, 3]
abbrev dktX2_leastSort_7 : List UInt8 := dkwX2_leastSort_7 ++ dktX2_leastSort_8
def dkwX2_leastSort_6 : List UInt8 := [42, 27, 21, 7, 182, 2, 179, 46, 155, 0, 38, 42, 42, 180, 0, 193, 42, 27, 21, 7, 182, 2, 179, 46]
abbrev dktX2_leastSort_6 : List UInt8 := dkwX2_leastSort_6 ++ dktX2_leastSort_7
def dkwX2_leastSort_5 : List UInt8 := [167, 0, 4, 3, 54, 6, 3, 54, 7, 21, 7, 29, 162, 0, 67, 21, 6, 153, 0, 62, 42, 180, 0, 193]
abbrev dktX2_leastSort_5 : List UInt8 := dkwX2_leastSort_5 ++ dktX2_leastSort_6
def dkwX2_leastSort_4 : List UInt8 := [3, 54, 5, 21, 5, 42, 180, 2, 26, 162, 0, 124, 42, 180, 0, 156, 21, 5, 46, 28, 160, 0, 7, 4]
abbrev dktX2_leastSort_4 : List UInt8 := dkwX2_leastSort_4 ++ dktX2_leastSort_5
def dkwX2_leastSort_3 : List UInt8 := [27, 21, 5, 182, 2, 179, 46, 182, 2, 182, 54, 4, 132, 5, 1, 167, 255, 226, 21, 4, 172, 3, 54, 4]
abbrev dktX2_leastSort_3 : List UInt8 := dkwX2_leastSort_3 ++ dktX2_leastSort_4
def dkwX2_leastSort_2 : List UInt8 := [182, 2, 179, 46, 54, 4, 4, 54, 5, 21, 5, 29, 162, 0, 30, 42, 28, 21, 4, 42, 180, 0, 193, 42]
abbrev dktX2_leastSort_2 : List UInt8 := dkwX2_leastSort_2 ++ dktX2_leastSort_3
def dkwX2_leastSort_1 : List UInt8 := [46, 62, 29, 5, 159, 0, 12, 42, 180, 0, 168, 28, 51, 153, 0, 55, 42, 180, 0, 193, 42, 27, 3]
abbrev dktX2_leastSort_1 : List UInt8 := dkwX2_leastSort_1 ++ dktX2_leastSort_2
def dkwX2_leastSort_0 : List UInt8 := [42, 180, 0, 181, 27, 46, 61, 28, 156, 0, 11, 42, 2, 28, 100, 182, 2, 176, 172, 42, 180, 0, 187, 27]
abbrev dktX2_leastSort_0 : List UInt8 := dkwX2_leastSort_0 ++ dktX2_leastSort_1
theorem dksX2_leastSort_0 : cX2_leastSort.data.toList.drop 0 = dktX2_leastSort_0 := by decide +kernel
theorem dksX2_leastSort_1 : cX2_leastSort.data.toList.drop 24 = dktX2_leastSort_1 := dk_seg dksX2_leastSort_0 24 rfl rfl
theorem dksX2_leastSort_2 : cX2_leastSort.data.toList.drop 47 = dktX2_leastSort_2 := dk_seg dksX2_leastSort_1 23 rfl rfl
theorem dksX2_leastSort_3 : cX2_leastSort.data.toList.drop 71 = dktX2_leastSort_3 := dk_seg dksX2_leastSort_2 24 rfl rfl
theorem dksX2_leastSort_4 : cX2_leastSort.data.toList.drop 95 = dktX2_leastSort_4 := dk_seg dksX2_leastSort_3 24 rfl rfl
theorem dksX2_leastSort_5 : cX2_leastSort.data.toList.drop 119 = dktX2_leastSort_5 := dk_seg dksX2_leastSort_4 24 rfl rfl
theorem dksX2_leastSort_6 : cX2_leastSort.data.toList.drop 143 = dktX2_leastSort_6 := dk_seg dksX2_leastSort_5 24 rfl rfl
theorem dksX2_leastSort_7 : cX2_leastSort.data.toList.drop 167 = dktX2_leastSort_7 := dk_seg dksX2_leastSort_6 24 rfl rfl
theorem dksX2_leastSort_8 : cX2_leastSort.data.toList.drop 190 = dktX2_leastSort_8 := dk_seg dksX2_leastSort_7 23 rfl rfl
theorem dksX2_leastSort_9 : cX2_leastSort.data.toList.drop 214 = dktX2_leastSort_9 := dk_seg dksX2_leastSort_8 24 rfl rfl
theorem dX2_leastSort_0 : decode cX2_leastSort 0 = .ok (.aload_n 0, 1) := dk_42 (dk_at dksX2_leastSort_0 0 rfl rfl)
theorem dX2_leastSort_1 : decode cX2_leastSort 1 = .ok (.getfield 181, 3) := dk_180 0 181 (dk_at dksX2_leastSort_0 1 rfl rfl)
theorem dX2_leastSort_4 : decode cX2_leastSort 4 = .ok (.iload_n 1, 1) := dk_27 (dk_at dksX2_leastSort_0 4 rfl rfl)
theorem dX2_leastSort_5 : decode cX2_leastSort 5 = .ok (.iaload, 1) := dk_46 (dk_at dksX2_leastSort_0 5 rfl rfl)
theorem dX2_leastSort_6 : decode cX2_leastSort 6 = .ok (.istore_n 2, 1) := dk_61 (dk_at dksX2_leastSort_0 6 rfl rfl)
theorem dX2_leastSort_7 : decode cX2_leastSort 7 = .ok (.iload_n 2, 1) := dk_28 (dk_at dksX2_leastSort_0 7 rfl rfl)
theorem dX2_leastSort_8 : decode cX2_leastSort 8 = .ok (.ifCond .ge 11, 3) := dk_156 0 11 (dk_at dksX2_leastSort_0 8 rfl rfl)
theorem dX2_leastSort_11 : decode cX2_leastSort 11 = .ok (.aload_n 0, 1) := dk_42 (dk_at dksX2_leastSort_0 11 rfl rfl)
theorem dX2_leastSort_12 : decode cX2_leastSort 12 = .ok (.iconst (-1), 1) := dk_2 (dk_at dksX2_leastSort_0 12 rfl rfl)
theorem dX2_leastSort_13 : decode cX2_leastSort 13 = .ok (.iload_n 2, 1) := dk_28 (dk_at dksX2_leastSort_0 13 rfl rfl)
theorem dX2_leastSort_14 : decode cX2_leastSort 14 = .ok (.isub, 1) := dk_100 (dk_at dksX2_leastSort_0 14 rfl rfl)
theorem dX2_leastSort_15 : decode cX2_leastSort 15 = .ok (.invokevirtual 688, 3) := dk_182 2 176 (dk_at dksX2_leastSort_0 15 rfl rfl)
theorem dX2_leastSort_18 : decode cX2_leastSort 18 = .ok (.ireturn, 1) := dk_172 (dk_at dksX2_leastSort_0 18 rfl rfl)
theorem dX2_leastSort_19 : decode cX2_leastSort 19 = .ok (.aload_n 0, 1) := dk_42 (dk_at dksX2_leastSort_0 19 rfl rfl)
theorem dX2_leastSort_20 : decode cX2_leastSort 20 = .ok (.getfield 187, 3) := dk_180 0 187 (dk_at dksX2_leastSort_0 20 rfl rfl)
theorem dX2_leastSort_23 : decode cX2_leastSort 23 = .ok (.iload_n 1, 1) := dk_27 (dk_at dksX2_leastSort_0 23 rfl rfl)
theorem dX2_leastSort_24 : decode cX2_leastSort 24 = .ok (.iaload, 1) := dk_46 (dk_at dksX2_leastSort_1 0 rfl rfl)
theorem dX2_leastSort_25 : decode cX2_leastSort 25 = .ok (.istore_n 3, 1) := dk_62 (dk_at dksX2_leastSort_1 1 rfl rfl)
theorem dX2_leastSort_26 : decode cX2_leastSort 26 = .ok (.iload_n 3, 1) := dk_29 (dk_at dksX2_leastSort_1 2 rfl rfl)
theorem dX2_leastSort_27 : decode cX2_leastSort 27 = .ok (.iconst 2, 1) := dk_5 (dk_at dksX2_leastSort_1 3 rfl rfl)
theorem dX2_leastSort_28 : decode cX2_leastSort 28 = .ok (.if_icmp .eq 12, 3) := dk_159 0 12 (dk_at dksX2_leastSort_1 4 rfl rfl)
theorem dX2_leastSort_31 : decode cX2_leastSort 31 = .ok (.aload_n 0, 1) := dk_42 (dk_at dksX2_leastSort_1 7 rfl rfl)
theorem dX2_leastSort_32 : decode cX2_leastSort 32 = .ok (.getfield 168, 3) := dk_180 0 168 (dk_at dksX2_leastSort_1 8 rfl rfl)
theorem dX2_leastSort_35 : decode cX2_leastSort 35 = .ok (.iload_n 2, 1) := dk_28 (dk_at dksX2_leastSort_1 11 rfl rfl)
theorem dX2_leastSort_36 : decode cX2_leastSort 36 = .ok (.baload, 1) := dk_51 (dk_at dksX2_leastSort_1 12 rfl rfl)
theorem dX2_leastSort_37 : decode cX2_leastSort 37 = .ok (.ifCond .eq 55, 3) := dk_153 0 55 (dk_at dksX2_leastSort_1 13 rfl rfl)
theorem dX2_leastSort_40 : decode cX2_leastSort 40 = .ok (.aload_n 0, 1) := dk_42 (dk_at dksX2_leastSort_1 16 rfl rfl)
theorem dX2_leastSort_41 : decode cX2_leastSort 41 = .ok (.getfield 193, 3) := dk_180 0 193 (dk_at dksX2_leastSort_1 17 rfl rfl)
theorem dX2_leastSort_44 : decode cX2_leastSort 44 = .ok (.aload_n 0, 1) := dk_42 (dk_at dksX2_leastSort_1 20 rfl rfl)
theorem dX2_leastSort_45 : decode cX2_leastSort 45 = .ok (.iload_n 1, 1) := dk_27 (dk_at dksX2_leastSort_1 21 rfl rfl)
theorem dX2_leastSort_46 : decode cX2_leastSort 46 = .ok (.iconst 0, 1) := dk_3 (dk_at dksX2_leastSort_1 22 rfl rfl)
theorem dX2_leastSort_47 : decode cX2_leastSort 47 = .ok (.invokevirtual 691, 3) := dk_182 2 179 (dk_at dksX2_leastSort_2 0 rfl rfl)
theorem dX2_leastSort_50 : decode cX2_leastSort 50 = .ok (.iaload, 1) := dk_46 (dk_at dksX2_leastSort_2 3 rfl rfl)
theorem dX2_leastSort_51 : decode cX2_leastSort 51 = .ok (.istore 4, 2) := dk_54 4 (dk_at dksX2_leastSort_2 4 rfl rfl)
theorem dX2_leastSort_53 : decode cX2_leastSort 53 = .ok (.iconst 1, 1) := dk_4 (dk_at dksX2_leastSort_2 6 rfl rfl)
theorem dX2_leastSort_54 : decode cX2_leastSort 54 = .ok (.istore 5, 2) := dk_54 5 (dk_at dksX2_leastSort_2 7 rfl rfl)
theorem dX2_leastSort_56 : decode cX2_leastSort 56 = .ok (.iload 5, 2) := dk_21 5 (dk_at dksX2_leastSort_2 9 rfl rfl)
theorem dX2_leastSort_58 : decode cX2_leastSort 58 = .ok (.iload_n 3, 1) := dk_29 (dk_at dksX2_leastSort_2 11 rfl rfl)
theorem dX2_leastSort_59 : decode cX2_leastSort 59 = .ok (.if_icmp .ge 30, 3) := dk_162 0 30 (dk_at dksX2_leastSort_2 12 rfl rfl)
theorem dX2_leastSort_62 : decode cX2_leastSort 62 = .ok (.aload_n 0, 1) := dk_42 (dk_at dksX2_leastSort_2 15 rfl rfl)
theorem dX2_leastSort_63 : decode cX2_leastSort 63 = .ok (.iload_n 2, 1) := dk_28 (dk_at dksX2_leastSort_2 16 rfl rfl)
theorem dX2_leastSort_64 : decode cX2_leastSort 64 = .ok (.iload 4, 2) := dk_21 4 (dk_at dksX2_leastSort_2 17 rfl rfl)
theorem dX2_leastSort_66 : decode cX2_leastSort 66 = .ok (.aload_n 0, 1) := dk_42 (dk_at dksX2_leastSort_2 19 rfl rfl)
theorem dX2_leastSort_67 : decode cX2_leastSort 67 = .ok (.getfield 193, 3) := dk_180 0 193 (dk_at dksX2_leastSort_2 20 rfl rfl)
theorem dX2_leastSort_70 : decode cX2_leastSort 70 = .ok (.aload_n 0, 1) := dk_42 (dk_at dksX2_leastSort_2 23 rfl rfl)
theorem dX2_leastSort_71 : decode cX2_leastSort 71 = .ok (.iload_n 1, 1) := dk_27 (dk_at dksX2_leastSort_3 0 rfl rfl)
theorem dX2_leastSort_72 : decode cX2_leastSort 72 = .ok (.iload 5, 2) := dk_21 5 (dk_at dksX2_leastSort_3 1 rfl rfl)
theorem dX2_leastSort_74 : decode cX2_leastSort 74 = .ok (.invokevirtual 691, 3) := dk_182 2 179 (dk_at dksX2_leastSort_3 3 rfl rfl)
theorem dX2_leastSort_77 : decode cX2_leastSort 77 = .ok (.iaload, 1) := dk_46 (dk_at dksX2_leastSort_3 6 rfl rfl)
theorem dX2_leastSort_78 : decode cX2_leastSort 78 = .ok (.invokevirtual 694, 3) := dk_182 2 182 (dk_at dksX2_leastSort_3 7 rfl rfl)
theorem dX2_leastSort_81 : decode cX2_leastSort 81 = .ok (.istore 4, 2) := dk_54 4 (dk_at dksX2_leastSort_3 10 rfl rfl)
theorem dX2_leastSort_83 : decode cX2_leastSort 83 = .ok (.iinc 5 1, 3) := dk_132 5 1 (dk_at dksX2_leastSort_3 12 rfl rfl)
theorem dX2_leastSort_86 : decode cX2_leastSort 86 = .ok (.goto (-30), 3) := dk_167 255 226 (dk_at dksX2_leastSort_3 15 rfl rfl)
theorem dX2_leastSort_89 : decode cX2_leastSort 89 = .ok (.iload 4, 2) := dk_21 4 (dk_at dksX2_leastSort_3 18 rfl rfl)
theorem dX2_leastSort_91 : decode cX2_leastSort 91 = .ok (.ireturn, 1) := dk_172 (dk_at dksX2_leastSort_3 20 rfl rfl)
theorem dX2_leastSort_92 : decode cX2_leastSort 92 = .ok (.iconst 0, 1) := dk_3 (dk_at dksX2_leastSort_3 21 rfl rfl)
theorem dX2_leastSort_93 : decode cX2_leastSort 93 = .ok (.istore 4, 2) := dk_54 4 (dk_at dksX2_leastSort_3 22 rfl rfl)
theorem dX2_leastSort_95 : decode cX2_leastSort 95 = .ok (.iconst 0, 1) := dk_3 (dk_at dksX2_leastSort_4 0 rfl rfl)
theorem dX2_leastSort_96 : decode cX2_leastSort 96 = .ok (.istore 5, 2) := dk_54 5 (dk_at dksX2_leastSort_4 1 rfl rfl)
theorem dX2_leastSort_98 : decode cX2_leastSort 98 = .ok (.iload 5, 2) := dk_21 5 (dk_at dksX2_leastSort_4 3 rfl rfl)
theorem dX2_leastSort_100 : decode cX2_leastSort 100 = .ok (.aload_n 0, 1) := dk_42 (dk_at dksX2_leastSort_4 5 rfl rfl)
theorem dX2_leastSort_101 : decode cX2_leastSort 101 = .ok (.getfield 538, 3) := dk_180 2 26 (dk_at dksX2_leastSort_4 6 rfl rfl)
theorem dX2_leastSort_104 : decode cX2_leastSort 104 = .ok (.if_icmp .ge 124, 3) := dk_162 0 124 (dk_at dksX2_leastSort_4 9 rfl rfl)
theorem dX2_leastSort_107 : decode cX2_leastSort 107 = .ok (.aload_n 0, 1) := dk_42 (dk_at dksX2_leastSort_4 12 rfl rfl)
theorem dX2_leastSort_108 : decode cX2_leastSort 108 = .ok (.getfield 156, 3) := dk_180 0 156 (dk_at dksX2_leastSort_4 13 rfl rfl)
theorem dX2_leastSort_111 : decode cX2_leastSort 111 = .ok (.iload 5, 2) := dk_21 5 (dk_at dksX2_leastSort_4 16 rfl rfl)
theorem dX2_leastSort_113 : decode cX2_leastSort 113 = .ok (.iaload, 1) := dk_46 (dk_at dksX2_leastSort_4 18 rfl rfl)
theorem dX2_leastSort_114 : decode cX2_leastSort 114 = .ok (.iload_n 2, 1) := dk_28 (dk_at dksX2_leastSort_4 19 rfl rfl)
theorem dX2_leastSort_115 : decode cX2_leastSort 115 = .ok (.if_icmp .ne 7, 3) := dk_160 0 7 (dk_at dksX2_leastSort_4 20 rfl rfl)
theorem dX2_leastSort_118 : decode cX2_leastSort 118 = .ok (.iconst 1, 1) := dk_4 (dk_at dksX2_leastSort_4 23 rfl rfl)
theorem dX2_leastSort_119 : decode cX2_leastSort 119 = .ok (.goto 4, 3) := dk_167 0 4 (dk_at dksX2_leastSort_5 0 rfl rfl)
theorem dX2_leastSort_122 : decode cX2_leastSort 122 = .ok (.iconst 0, 1) := dk_3 (dk_at dksX2_leastSort_5 3 rfl rfl)
theorem dX2_leastSort_123 : decode cX2_leastSort 123 = .ok (.istore 6, 2) := dk_54 6 (dk_at dksX2_leastSort_5 4 rfl rfl)
theorem dX2_leastSort_125 : decode cX2_leastSort 125 = .ok (.iconst 0, 1) := dk_3 (dk_at dksX2_leastSort_5 6 rfl rfl)
theorem dX2_leastSort_126 : decode cX2_leastSort 126 = .ok (.istore 7, 2) := dk_54 7 (dk_at dksX2_leastSort_5 7 rfl rfl)
theorem dX2_leastSort_128 : decode cX2_leastSort 128 = .ok (.iload 7, 2) := dk_21 7 (dk_at dksX2_leastSort_5 9 rfl rfl)
theorem dX2_leastSort_130 : decode cX2_leastSort 130 = .ok (.iload_n 3, 1) := dk_29 (dk_at dksX2_leastSort_5 11 rfl rfl)
theorem dX2_leastSort_131 : decode cX2_leastSort 131 = .ok (.if_icmp .ge 67, 3) := dk_162 0 67 (dk_at dksX2_leastSort_5 12 rfl rfl)
theorem dX2_leastSort_134 : decode cX2_leastSort 134 = .ok (.iload 6, 2) := dk_21 6 (dk_at dksX2_leastSort_5 15 rfl rfl)
theorem dX2_leastSort_136 : decode cX2_leastSort 136 = .ok (.ifCond .eq 62, 3) := dk_153 0 62 (dk_at dksX2_leastSort_5 17 rfl rfl)
theorem dX2_leastSort_139 : decode cX2_leastSort 139 = .ok (.aload_n 0, 1) := dk_42 (dk_at dksX2_leastSort_5 20 rfl rfl)
theorem dX2_leastSort_140 : decode cX2_leastSort 140 = .ok (.getfield 193, 3) := dk_180 0 193 (dk_at dksX2_leastSort_5 21 rfl rfl)
theorem dX2_leastSort_143 : decode cX2_leastSort 143 = .ok (.aload_n 0, 1) := dk_42 (dk_at dksX2_leastSort_6 0 rfl rfl)
theorem dX2_leastSort_144 : decode cX2_leastSort 144 = .ok (.iload_n 1, 1) := dk_27 (dk_at dksX2_leastSort_6 1 rfl rfl)
theorem dX2_leastSort_145 : decode cX2_leastSort 145 = .ok (.iload 7, 2) := dk_21 7 (dk_at dksX2_leastSort_6 2 rfl rfl)
theorem dX2_leastSort_147 : decode cX2_leastSort 147 = .ok (.invokevirtual 691, 3) := dk_182 2 179 (dk_at dksX2_leastSort_6 4 rfl rfl)
theorem dX2_leastSort_150 : decode cX2_leastSort 150 = .ok (.iaload, 1) := dk_46 (dk_at dksX2_leastSort_6 7 rfl rfl)
theorem dX2_leastSort_151 : decode cX2_leastSort 151 = .ok (.ifCond .lt 38, 3) := dk_155 0 38 (dk_at dksX2_leastSort_6 8 rfl rfl)
theorem dX2_leastSort_154 : decode cX2_leastSort 154 = .ok (.aload_n 0, 1) := dk_42 (dk_at dksX2_leastSort_6 11 rfl rfl)
theorem dX2_leastSort_155 : decode cX2_leastSort 155 = .ok (.aload_n 0, 1) := dk_42 (dk_at dksX2_leastSort_6 12 rfl rfl)
theorem dX2_leastSort_156 : decode cX2_leastSort 156 = .ok (.getfield 193, 3) := dk_180 0 193 (dk_at dksX2_leastSort_6 13 rfl rfl)
theorem dX2_leastSort_159 : decode cX2_leastSort 159 = .ok (.aload_n 0, 1) := dk_42 (dk_at dksX2_leastSort_6 16 rfl rfl)
theorem dX2_leastSort_160 : decode cX2_leastSort 160 = .ok (.iload_n 1, 1) := dk_27 (dk_at dksX2_leastSort_6 17 rfl rfl)
theorem dX2_leastSort_161 : decode cX2_leastSort 161 = .ok (.iload 7, 2) := dk_21 7 (dk_at dksX2_leastSort_6 18 rfl rfl)
theorem dX2_leastSort_163 : decode cX2_leastSort 163 = .ok (.invokevirtual 691, 3) := dk_182 2 179 (dk_at dksX2_leastSort_6 20 rfl rfl)
theorem dX2_leastSort_166 : decode cX2_leastSort 166 = .ok (.iaload, 1) := dk_46 (dk_at dksX2_leastSort_6 23 rfl rfl)
theorem dX2_leastSort_167 : decode cX2_leastSort 167 = .ok (.aload_n 0, 1) := dk_42 (dk_at dksX2_leastSort_7 0 rfl rfl)
theorem dX2_leastSort_168 : decode cX2_leastSort 168 = .ok (.getfield 150, 3) := dk_180 0 150 (dk_at dksX2_leastSort_7 1 rfl rfl)
theorem dX2_leastSort_171 : decode cX2_leastSort 171 = .ok (.iconst 5, 1) := dk_8 (dk_at dksX2_leastSort_7 4 rfl rfl)
theorem dX2_leastSort_172 : decode cX2_leastSort 172 = .ok (.iload 5, 2) := dk_21 5 (dk_at dksX2_leastSort_7 5 rfl rfl)
theorem dX2_leastSort_174 : decode cX2_leastSort 174 = .ok (.imul, 1) := dk_104 (dk_at dksX2_leastSort_7 7 rfl rfl)
theorem dX2_leastSort_175 : decode cX2_leastSort 175 = .ok (.iload 7, 2) := dk_21 7 (dk_at dksX2_leastSort_7 8 rfl rfl)
theorem dX2_leastSort_177 : decode cX2_leastSort 177 = .ok (.iadd, 1) := dk_96 (dk_at dksX2_leastSort_7 10 rfl rfl)
theorem dX2_leastSort_178 : decode cX2_leastSort 178 = .ok (.iaload, 1) := dk_46 (dk_at dksX2_leastSort_7 11 rfl rfl)
theorem dX2_leastSort_179 : decode cX2_leastSort 179 = .ok (.invokevirtual 614, 3) := dk_182 2 102 (dk_at dksX2_leastSort_7 12 rfl rfl)
theorem dX2_leastSort_182 : decode cX2_leastSort 182 = .ok (.ifCond .eq 7, 3) := dk_153 0 7 (dk_at dksX2_leastSort_7 15 rfl rfl)
theorem dX2_leastSort_185 : decode cX2_leastSort 185 = .ok (.iconst 1, 1) := dk_4 (dk_at dksX2_leastSort_7 18 rfl rfl)
theorem dX2_leastSort_186 : decode cX2_leastSort 186 = .ok (.goto 4, 3) := dk_167 0 4 (dk_at dksX2_leastSort_7 19 rfl rfl)
theorem dX2_leastSort_189 : decode cX2_leastSort 189 = .ok (.iconst 0, 1) := dk_3 (dk_at dksX2_leastSort_7 22 rfl rfl)
theorem dX2_leastSort_190 : decode cX2_leastSort 190 = .ok (.istore 6, 2) := dk_54 6 (dk_at dksX2_leastSort_8 0 rfl rfl)
theorem dX2_leastSort_192 : decode cX2_leastSort 192 = .ok (.iinc 7 1, 3) := dk_132 7 1 (dk_at dksX2_leastSort_8 2 rfl rfl)
theorem dX2_leastSort_195 : decode cX2_leastSort 195 = .ok (.goto (-67), 3) := dk_167 255 189 (dk_at dksX2_leastSort_8 5 rfl rfl)
theorem dX2_leastSort_198 : decode cX2_leastSort 198 = .ok (.iload 6, 2) := dk_21 6 (dk_at dksX2_leastSort_8 8 rfl rfl)
theorem dX2_leastSort_200 : decode cX2_leastSort 200 = .ok (.ifCond .eq 18, 3) := dk_153 0 18 (dk_at dksX2_leastSort_8 10 rfl rfl)
theorem dX2_leastSort_203 : decode cX2_leastSort 203 = .ok (.iload 4, 2) := dk_21 4 (dk_at dksX2_leastSort_8 13 rfl rfl)
theorem dX2_leastSort_205 : decode cX2_leastSort 205 = .ok (.iconst 1, 1) := dk_4 (dk_at dksX2_leastSort_8 15 rfl rfl)
theorem dX2_leastSort_206 : decode cX2_leastSort 206 = .ok (.aload_n 0, 1) := dk_42 (dk_at dksX2_leastSort_8 16 rfl rfl)
theorem dX2_leastSort_207 : decode cX2_leastSort 207 = .ok (.getfield 153, 3) := dk_180 0 153 (dk_at dksX2_leastSort_8 17 rfl rfl)
theorem dX2_leastSort_210 : decode cX2_leastSort 210 = .ok (.iload 5, 2) := dk_21 5 (dk_at dksX2_leastSort_8 20 rfl rfl)
theorem dX2_leastSort_212 : decode cX2_leastSort 212 = .ok (.iaload, 1) := dk_46 (dk_at dksX2_leastSort_8 22 rfl rfl)
theorem dX2_leastSort_213 : decode cX2_leastSort 213 = .ok (.ishl, 1) := dk_120 (dk_at dksX2_leastSort_8 23 rfl rfl)
theorem dX2_leastSort_214 : decode cX2_leastSort 214 = .ok (.ior, 1) := dk_128 (dk_at dksX2_leastSort_9 0 rfl rfl)
theorem dX2_leastSort_215 : decode cX2_leastSort 215 = .ok (.goto 5, 3) := dk_167 0 5 (dk_at dksX2_leastSort_9 1 rfl rfl)
theorem dX2_leastSort_218 : decode cX2_leastSort 218 = .ok (.iload 4, 2) := dk_21 4 (dk_at dksX2_leastSort_9 4 rfl rfl)
theorem dX2_leastSort_220 : decode cX2_leastSort 220 = .ok (.istore 4, 2) := dk_54 4 (dk_at dksX2_leastSort_9 6 rfl rfl)
theorem dX2_leastSort_222 : decode cX2_leastSort 222 = .ok (.iinc 5 1, 3) := dk_132 5 1 (dk_at dksX2_leastSort_9 8 rfl rfl)
theorem dX2_leastSort_225 : decode cX2_leastSort 225 = .ok (.goto (-127), 3) := dk_167 255 129 (dk_at dksX2_leastSort_9 11 rfl rfl)
theorem dX2_leastSort_228 : decode cX2_leastSort 228 = .ok (.aload_n 0, 1) := dk_42 (dk_at dksX2_leastSort_9 14 rfl rfl)
theorem dX2_leastSort_229 : decode cX2_leastSort 229 = .ok (.iload 4, 2) := dk_21 4 (dk_at dksX2_leastSort_9 15 rfl rfl)
theorem dX2_leastSort_231 : decode cX2_leastSort 231 = .ok (.invokevirtual 685, 3) := dk_182 2 173 (dk_at dksX2_leastSort_9 17 rfl rfl)
theorem dX2_leastSort_234 : decode cX2_leastSort 234 = .ok (.ireturn, 1) := dk_172 (dk_at dksX2_leastSort_9 20 rfl rfl)
abbrev cX2_sortOfVar : ByteArray := prog_4_method_63_code
def yX2_sortOfVar : MethodName := ⟨RX2, "sortOfVar", "(I)I"⟩
def dkwX2_sortOfVar_0 : List UInt8 := [42, 180, 0, 138, 27, 16, 30, 161, 0, 10, 27, 16, 30, 100, 167, 0, 4, 27, 46, 172]
abbrev dktX2_sortOfVar_0 : List UInt8 := dkwX2_sortOfVar_0 ++ []
theorem dksX2_sortOfVar_0 : cX2_sortOfVar.data.toList.drop 0 = dktX2_sortOfVar_0 := by decide +kernel
theorem dX2_sortOfVar_0 : decode cX2_sortOfVar 0 = .ok (.aload_n 0, 1) := dk_42 (dk_at dksX2_sortOfVar_0 0 rfl rfl)
theorem dX2_sortOfVar_1 : decode cX2_sortOfVar 1 = .ok (.getfield 138, 3) := dk_180 0 138 (dk_at dksX2_sortOfVar_0 1 rfl rfl)
theorem dX2_sortOfVar_4 : decode cX2_sortOfVar 4 = .ok (.iload_n 1, 1) := dk_27 (dk_at dksX2_sortOfVar_0 4 rfl rfl)
theorem dX2_sortOfVar_5 : decode cX2_sortOfVar 5 = .ok (.bipush 30, 2) := dk_16 30 (dk_at dksX2_sortOfVar_0 5 rfl rfl)
theorem dX2_sortOfVar_7 : decode cX2_sortOfVar 7 = .ok (.if_icmp .lt 10, 3) := dk_161 0 10 (dk_at dksX2_sortOfVar_0 7 rfl rfl)
theorem dX2_sortOfVar_10 : decode cX2_sortOfVar 10 = .ok (.iload_n 1, 1) := dk_27 (dk_at dksX2_sortOfVar_0 10 rfl rfl)
theorem dX2_sortOfVar_11 : decode cX2_sortOfVar 11 = .ok (.bipush 30, 2) := dk_16 30 (dk_at dksX2_sortOfVar_0 11 rfl rfl)
theorem dX2_sortOfVar_13 : decode cX2_sortOfVar 13 = .ok (.isub, 1) := dk_100 (dk_at dksX2_sortOfVar_0 13 rfl rfl)
theorem dX2_sortOfVar_14 : decode cX2_sortOfVar 14 = .ok (.goto 4, 3) := dk_167 0 4 (dk_at dksX2_sortOfVar_0 14 rfl rfl)
theorem dX2_sortOfVar_17 : decode cX2_sortOfVar 17 = .ok (.iload_n 1, 1) := dk_27 (dk_at dksX2_sortOfVar_0 17 rfl rfl)
theorem dX2_sortOfVar_18 : decode cX2_sortOfVar 18 = .ok (.iaload, 1) := dk_46 (dk_at dksX2_sortOfVar_0 18 rfl rfl)
theorem dX2_sortOfVar_19 : decode cX2_sortOfVar 19 = .ok (.ireturn, 1) := dk_172 (dk_at dksX2_sortOfVar_0 19 rfl rfl)
abbrev cX2_arg : ByteArray := prog_4_method_62_code
def yX2_arg : MethodName := ⟨RX2, "arg", "(II)I"⟩
def dkwX2_arg_0 : List UInt8 := [42, 180, 0, 206, 42, 180, 0, 184, 27, 46, 28, 96, 46, 172]
abbrev dktX2_arg_0 : List UInt8 := dkwX2_arg_0 ++ []
theorem dksX2_arg_0 : cX2_arg.data.toList.drop 0 = dktX2_arg_0 := by decide +kernel
theorem dX2_arg_0 : decode cX2_arg 0 = .ok (.aload_n 0, 1) := dk_42 (dk_at dksX2_arg_0 0 rfl rfl)
theorem dX2_arg_1 : decode cX2_arg 1 = .ok (.getfield 206, 3) := dk_180 0 206 (dk_at dksX2_arg_0 1 rfl rfl)
theorem dX2_arg_4 : decode cX2_arg 4 = .ok (.aload_n 0, 1) := dk_42 (dk_at dksX2_arg_0 4 rfl rfl)
theorem dX2_arg_5 : decode cX2_arg 5 = .ok (.getfield 184, 3) := dk_180 0 184 (dk_at dksX2_arg_0 5 rfl rfl)
theorem dX2_arg_8 : decode cX2_arg 8 = .ok (.iload_n 1, 1) := dk_27 (dk_at dksX2_arg_0 8 rfl rfl)
theorem dX2_arg_9 : decode cX2_arg 9 = .ok (.iaload, 1) := dk_46 (dk_at dksX2_arg_0 9 rfl rfl)
theorem dX2_arg_10 : decode cX2_arg 10 = .ok (.iload_n 2, 1) := dk_28 (dk_at dksX2_arg_0 10 rfl rfl)
theorem dX2_arg_11 : decode cX2_arg 11 = .ok (.iadd, 1) := dk_96 (dk_at dksX2_arg_0 11 rfl rfl)
theorem dX2_arg_12 : decode cX2_arg 12 = .ok (.iaload, 1) := dk_46 (dk_at dksX2_arg_0 12 rfl rfl)
theorem dX2_arg_13 : decode cX2_arg 13 = .ok (.ireturn, 1) := dk_172 (dk_at dksX2_arg_0 13 rfl rfl)
abbrev cX2_sortOfTwo : ByteArray := prog_4_method_66_code
def yX2_sortOfTwo : MethodName := ⟨RX2, "sortOfTwo", "(III)I"⟩
def dkwX2_sortOfTwo_3 : List UInt8 := [21, 4, 182, 2, 173, 172]
abbrev dktX2_sortOfTwo_3 : List UInt8 := dkwX2_sortOfTwo_3 ++ []
def dkwX2_sortOfTwo_2 : List UInt8 := [153, 0, 17, 21, 4, 4, 42, 180, 0, 153, 21, 5, 46, 120, 128, 54, 4, 132, 5, 1, 167, 255, 208, 42]
abbrev dktX2_sortOfTwo_2 : List UInt8 := dkwX2_sortOfTwo_2 ++ dktX2_sortOfTwo_3
def dkwX2_sortOfTwo_1 : List UInt8 := [162, 0, 45, 42, 180, 0, 156, 21, 5, 46, 27, 160, 0, 28, 42, 21, 5, 28, 29, 182, 2, 169]
abbrev dktX2_sortOfTwo_1 : List UInt8 := dkwX2_sortOfTwo_1 ++ dktX2_sortOfTwo_2
def dkwX2_sortOfTwo_0 : List UInt8 := [28, 155, 0, 7, 29, 156, 0, 6, 16, 254, 172, 3, 54, 4, 3, 54, 5, 21, 5, 42, 180, 2, 26]
abbrev dktX2_sortOfTwo_0 : List UInt8 := dkwX2_sortOfTwo_0 ++ dktX2_sortOfTwo_1
theorem dksX2_sortOfTwo_0 : cX2_sortOfTwo.data.toList.drop 0 = dktX2_sortOfTwo_0 := by decide +kernel
theorem dksX2_sortOfTwo_1 : cX2_sortOfTwo.data.toList.drop 23 = dktX2_sortOfTwo_1 := dk_seg dksX2_sortOfTwo_0 23 rfl rfl
theorem dksX2_sortOfTwo_2 : cX2_sortOfTwo.data.toList.drop 45 = dktX2_sortOfTwo_2 := dk_seg dksX2_sortOfTwo_1 22 rfl rfl
theorem dksX2_sortOfTwo_3 : cX2_sortOfTwo.data.toList.drop 69 = dktX2_sortOfTwo_3 := dk_seg dksX2_sortOfTwo_2 24 rfl rfl
theorem dX2_sortOfTwo_0 : decode cX2_sortOfTwo 0 = .ok (.iload_n 2, 1) := dk_28 (dk_at dksX2_sortOfTwo_0 0 rfl rfl)
theorem dX2_sortOfTwo_1 : decode cX2_sortOfTwo 1 = .ok (.ifCond .lt 7, 3) := dk_155 0 7 (dk_at dksX2_sortOfTwo_0 1 rfl rfl)
theorem dX2_sortOfTwo_4 : decode cX2_sortOfTwo 4 = .ok (.iload_n 3, 1) := dk_29 (dk_at dksX2_sortOfTwo_0 4 rfl rfl)
theorem dX2_sortOfTwo_5 : decode cX2_sortOfTwo 5 = .ok (.ifCond .ge 6, 3) := dk_156 0 6 (dk_at dksX2_sortOfTwo_0 5 rfl rfl)
theorem dX2_sortOfTwo_8 : decode cX2_sortOfTwo 8 = .ok (.bipush (-2), 2) := dk_16 254 (dk_at dksX2_sortOfTwo_0 8 rfl rfl)
theorem dX2_sortOfTwo_10 : decode cX2_sortOfTwo 10 = .ok (.ireturn, 1) := dk_172 (dk_at dksX2_sortOfTwo_0 10 rfl rfl)
theorem dX2_sortOfTwo_11 : decode cX2_sortOfTwo 11 = .ok (.iconst 0, 1) := dk_3 (dk_at dksX2_sortOfTwo_0 11 rfl rfl)
theorem dX2_sortOfTwo_12 : decode cX2_sortOfTwo 12 = .ok (.istore 4, 2) := dk_54 4 (dk_at dksX2_sortOfTwo_0 12 rfl rfl)
theorem dX2_sortOfTwo_14 : decode cX2_sortOfTwo 14 = .ok (.iconst 0, 1) := dk_3 (dk_at dksX2_sortOfTwo_0 14 rfl rfl)
theorem dX2_sortOfTwo_15 : decode cX2_sortOfTwo 15 = .ok (.istore 5, 2) := dk_54 5 (dk_at dksX2_sortOfTwo_0 15 rfl rfl)
theorem dX2_sortOfTwo_17 : decode cX2_sortOfTwo 17 = .ok (.iload 5, 2) := dk_21 5 (dk_at dksX2_sortOfTwo_0 17 rfl rfl)
theorem dX2_sortOfTwo_19 : decode cX2_sortOfTwo 19 = .ok (.aload_n 0, 1) := dk_42 (dk_at dksX2_sortOfTwo_0 19 rfl rfl)
theorem dX2_sortOfTwo_20 : decode cX2_sortOfTwo 20 = .ok (.getfield 538, 3) := dk_180 2 26 (dk_at dksX2_sortOfTwo_0 20 rfl rfl)
theorem dX2_sortOfTwo_23 : decode cX2_sortOfTwo 23 = .ok (.if_icmp .ge 45, 3) := dk_162 0 45 (dk_at dksX2_sortOfTwo_1 0 rfl rfl)
theorem dX2_sortOfTwo_26 : decode cX2_sortOfTwo 26 = .ok (.aload_n 0, 1) := dk_42 (dk_at dksX2_sortOfTwo_1 3 rfl rfl)
theorem dX2_sortOfTwo_27 : decode cX2_sortOfTwo 27 = .ok (.getfield 156, 3) := dk_180 0 156 (dk_at dksX2_sortOfTwo_1 4 rfl rfl)
theorem dX2_sortOfTwo_30 : decode cX2_sortOfTwo 30 = .ok (.iload 5, 2) := dk_21 5 (dk_at dksX2_sortOfTwo_1 7 rfl rfl)
theorem dX2_sortOfTwo_32 : decode cX2_sortOfTwo 32 = .ok (.iaload, 1) := dk_46 (dk_at dksX2_sortOfTwo_1 9 rfl rfl)
theorem dX2_sortOfTwo_33 : decode cX2_sortOfTwo 33 = .ok (.iload_n 1, 1) := dk_27 (dk_at dksX2_sortOfTwo_1 10 rfl rfl)
theorem dX2_sortOfTwo_34 : decode cX2_sortOfTwo 34 = .ok (.if_icmp .ne 28, 3) := dk_160 0 28 (dk_at dksX2_sortOfTwo_1 11 rfl rfl)
theorem dX2_sortOfTwo_37 : decode cX2_sortOfTwo 37 = .ok (.aload_n 0, 1) := dk_42 (dk_at dksX2_sortOfTwo_1 14 rfl rfl)
theorem dX2_sortOfTwo_38 : decode cX2_sortOfTwo 38 = .ok (.iload 5, 2) := dk_21 5 (dk_at dksX2_sortOfTwo_1 15 rfl rfl)
theorem dX2_sortOfTwo_40 : decode cX2_sortOfTwo 40 = .ok (.iload_n 2, 1) := dk_28 (dk_at dksX2_sortOfTwo_1 17 rfl rfl)
theorem dX2_sortOfTwo_41 : decode cX2_sortOfTwo 41 = .ok (.iload_n 3, 1) := dk_29 (dk_at dksX2_sortOfTwo_1 18 rfl rfl)
theorem dX2_sortOfTwo_42 : decode cX2_sortOfTwo 42 = .ok (.invokevirtual 681, 3) := dk_182 2 169 (dk_at dksX2_sortOfTwo_1 19 rfl rfl)
theorem dX2_sortOfTwo_45 : decode cX2_sortOfTwo 45 = .ok (.ifCond .eq 17, 3) := dk_153 0 17 (dk_at dksX2_sortOfTwo_2 0 rfl rfl)
theorem dX2_sortOfTwo_48 : decode cX2_sortOfTwo 48 = .ok (.iload 4, 2) := dk_21 4 (dk_at dksX2_sortOfTwo_2 3 rfl rfl)
theorem dX2_sortOfTwo_50 : decode cX2_sortOfTwo 50 = .ok (.iconst 1, 1) := dk_4 (dk_at dksX2_sortOfTwo_2 5 rfl rfl)
theorem dX2_sortOfTwo_51 : decode cX2_sortOfTwo 51 = .ok (.aload_n 0, 1) := dk_42 (dk_at dksX2_sortOfTwo_2 6 rfl rfl)
theorem dX2_sortOfTwo_52 : decode cX2_sortOfTwo 52 = .ok (.getfield 153, 3) := dk_180 0 153 (dk_at dksX2_sortOfTwo_2 7 rfl rfl)
theorem dX2_sortOfTwo_55 : decode cX2_sortOfTwo 55 = .ok (.iload 5, 2) := dk_21 5 (dk_at dksX2_sortOfTwo_2 10 rfl rfl)
theorem dX2_sortOfTwo_57 : decode cX2_sortOfTwo 57 = .ok (.iaload, 1) := dk_46 (dk_at dksX2_sortOfTwo_2 12 rfl rfl)
theorem dX2_sortOfTwo_58 : decode cX2_sortOfTwo 58 = .ok (.ishl, 1) := dk_120 (dk_at dksX2_sortOfTwo_2 13 rfl rfl)
theorem dX2_sortOfTwo_59 : decode cX2_sortOfTwo 59 = .ok (.ior, 1) := dk_128 (dk_at dksX2_sortOfTwo_2 14 rfl rfl)
theorem dX2_sortOfTwo_60 : decode cX2_sortOfTwo 60 = .ok (.istore 4, 2) := dk_54 4 (dk_at dksX2_sortOfTwo_2 15 rfl rfl)
theorem dX2_sortOfTwo_62 : decode cX2_sortOfTwo 62 = .ok (.iinc 5 1, 3) := dk_132 5 1 (dk_at dksX2_sortOfTwo_2 17 rfl rfl)
theorem dX2_sortOfTwo_65 : decode cX2_sortOfTwo 65 = .ok (.goto (-48), 3) := dk_167 255 208 (dk_at dksX2_sortOfTwo_2 20 rfl rfl)
theorem dX2_sortOfTwo_68 : decode cX2_sortOfTwo 68 = .ok (.aload_n 0, 1) := dk_42 (dk_at dksX2_sortOfTwo_2 23 rfl rfl)
theorem dX2_sortOfTwo_69 : decode cX2_sortOfTwo 69 = .ok (.iload 4, 2) := dk_21 4 (dk_at dksX2_sortOfTwo_3 0 rfl rfl)
theorem dX2_sortOfTwo_71 : decode cX2_sortOfTwo 71 = .ok (.invokevirtual 685, 3) := dk_182 2 173 (dk_at dksX2_sortOfTwo_3 2 rfl rfl)
theorem dX2_sortOfTwo_74 : decode cX2_sortOfTwo 74 = .ok (.ireturn, 1) := dk_172 (dk_at dksX2_sortOfTwo_3 5 rfl rfl)
abbrev cX2_isRowAbove : ByteArray := prog_4_method_64_code
def yX2_isRowAbove : MethodName := ⟨RX2, "isRowAbove", "(III)Z"⟩
def dkwX2_isRowAbove_3 : List UInt8 := [21, 4, 182, 2, 102, 153, 0, 17, 42, 28, 21, 5, 182, 2, 102, 153, 0, 7, 4, 167, 0, 4, 3, 172]
abbrev dktX2_isRowAbove_3 : List UInt8 := dkwX2_isRowAbove_3 ++ []
def dkwX2_isRowAbove_2 : List UInt8 := [54, 6, 21, 6, 154, 0, 37, 42, 180, 0, 171, 42, 180, 0, 156, 27, 46, 51, 153, 0, 27, 42, 29]
abbrev dktX2_isRowAbove_2 : List UInt8 := dkwX2_isRowAbove_2 ++ dktX2_isRowAbove_3
def dkwX2_isRowAbove_1 : List UInt8 := [21, 4, 182, 2, 102, 153, 0, 17, 42, 29, 21, 5, 182, 2, 102, 153, 0, 7, 4, 167, 0, 4, 3]
abbrev dktX2_isRowAbove_1 : List UInt8 := dkwX2_isRowAbove_1 ++ dktX2_isRowAbove_2
def dkwX2_isRowAbove_0 : List UInt8 := [42, 180, 0, 150, 8, 27, 104, 46, 54, 4, 42, 180, 0, 150, 8, 27, 104, 4, 96, 46, 54, 5, 42, 28]
abbrev dktX2_isRowAbove_0 : List UInt8 := dkwX2_isRowAbove_0 ++ dktX2_isRowAbove_1
theorem dksX2_isRowAbove_0 : cX2_isRowAbove.data.toList.drop 0 = dktX2_isRowAbove_0 := by decide +kernel
theorem dksX2_isRowAbove_1 : cX2_isRowAbove.data.toList.drop 24 = dktX2_isRowAbove_1 := dk_seg dksX2_isRowAbove_0 24 rfl rfl
theorem dksX2_isRowAbove_2 : cX2_isRowAbove.data.toList.drop 47 = dktX2_isRowAbove_2 := dk_seg dksX2_isRowAbove_1 23 rfl rfl
theorem dksX2_isRowAbove_3 : cX2_isRowAbove.data.toList.drop 70 = dktX2_isRowAbove_3 := dk_seg dksX2_isRowAbove_2 23 rfl rfl
theorem dX2_isRowAbove_0 : decode cX2_isRowAbove 0 = .ok (.aload_n 0, 1) := dk_42 (dk_at dksX2_isRowAbove_0 0 rfl rfl)
theorem dX2_isRowAbove_1 : decode cX2_isRowAbove 1 = .ok (.getfield 150, 3) := dk_180 0 150 (dk_at dksX2_isRowAbove_0 1 rfl rfl)
theorem dX2_isRowAbove_4 : decode cX2_isRowAbove 4 = .ok (.iconst 5, 1) := dk_8 (dk_at dksX2_isRowAbove_0 4 rfl rfl)
theorem dX2_isRowAbove_5 : decode cX2_isRowAbove 5 = .ok (.iload_n 1, 1) := dk_27 (dk_at dksX2_isRowAbove_0 5 rfl rfl)
theorem dX2_isRowAbove_6 : decode cX2_isRowAbove 6 = .ok (.imul, 1) := dk_104 (dk_at dksX2_isRowAbove_0 6 rfl rfl)
theorem dX2_isRowAbove_7 : decode cX2_isRowAbove 7 = .ok (.iaload, 1) := dk_46 (dk_at dksX2_isRowAbove_0 7 rfl rfl)
theorem dX2_isRowAbove_8 : decode cX2_isRowAbove 8 = .ok (.istore 4, 2) := dk_54 4 (dk_at dksX2_isRowAbove_0 8 rfl rfl)
theorem dX2_isRowAbove_10 : decode cX2_isRowAbove 10 = .ok (.aload_n 0, 1) := dk_42 (dk_at dksX2_isRowAbove_0 10 rfl rfl)
theorem dX2_isRowAbove_11 : decode cX2_isRowAbove 11 = .ok (.getfield 150, 3) := dk_180 0 150 (dk_at dksX2_isRowAbove_0 11 rfl rfl)
theorem dX2_isRowAbove_14 : decode cX2_isRowAbove 14 = .ok (.iconst 5, 1) := dk_8 (dk_at dksX2_isRowAbove_0 14 rfl rfl)
theorem dX2_isRowAbove_15 : decode cX2_isRowAbove 15 = .ok (.iload_n 1, 1) := dk_27 (dk_at dksX2_isRowAbove_0 15 rfl rfl)
theorem dX2_isRowAbove_16 : decode cX2_isRowAbove 16 = .ok (.imul, 1) := dk_104 (dk_at dksX2_isRowAbove_0 16 rfl rfl)
theorem dX2_isRowAbove_17 : decode cX2_isRowAbove 17 = .ok (.iconst 1, 1) := dk_4 (dk_at dksX2_isRowAbove_0 17 rfl rfl)
theorem dX2_isRowAbove_18 : decode cX2_isRowAbove 18 = .ok (.iadd, 1) := dk_96 (dk_at dksX2_isRowAbove_0 18 rfl rfl)
theorem dX2_isRowAbove_19 : decode cX2_isRowAbove 19 = .ok (.iaload, 1) := dk_46 (dk_at dksX2_isRowAbove_0 19 rfl rfl)
theorem dX2_isRowAbove_20 : decode cX2_isRowAbove 20 = .ok (.istore 5, 2) := dk_54 5 (dk_at dksX2_isRowAbove_0 20 rfl rfl)
theorem dX2_isRowAbove_22 : decode cX2_isRowAbove 22 = .ok (.aload_n 0, 1) := dk_42 (dk_at dksX2_isRowAbove_0 22 rfl rfl)
theorem dX2_isRowAbove_23 : decode cX2_isRowAbove 23 = .ok (.iload_n 2, 1) := dk_28 (dk_at dksX2_isRowAbove_0 23 rfl rfl)
theorem dX2_isRowAbove_24 : decode cX2_isRowAbove 24 = .ok (.iload 4, 2) := dk_21 4 (dk_at dksX2_isRowAbove_1 0 rfl rfl)
theorem dX2_isRowAbove_26 : decode cX2_isRowAbove 26 = .ok (.invokevirtual 614, 3) := dk_182 2 102 (dk_at dksX2_isRowAbove_1 2 rfl rfl)
theorem dX2_isRowAbove_29 : decode cX2_isRowAbove 29 = .ok (.ifCond .eq 17, 3) := dk_153 0 17 (dk_at dksX2_isRowAbove_1 5 rfl rfl)
theorem dX2_isRowAbove_32 : decode cX2_isRowAbove 32 = .ok (.aload_n 0, 1) := dk_42 (dk_at dksX2_isRowAbove_1 8 rfl rfl)
theorem dX2_isRowAbove_33 : decode cX2_isRowAbove 33 = .ok (.iload_n 3, 1) := dk_29 (dk_at dksX2_isRowAbove_1 9 rfl rfl)
theorem dX2_isRowAbove_34 : decode cX2_isRowAbove 34 = .ok (.iload 5, 2) := dk_21 5 (dk_at dksX2_isRowAbove_1 10 rfl rfl)
theorem dX2_isRowAbove_36 : decode cX2_isRowAbove 36 = .ok (.invokevirtual 614, 3) := dk_182 2 102 (dk_at dksX2_isRowAbove_1 12 rfl rfl)
theorem dX2_isRowAbove_39 : decode cX2_isRowAbove 39 = .ok (.ifCond .eq 7, 3) := dk_153 0 7 (dk_at dksX2_isRowAbove_1 15 rfl rfl)
theorem dX2_isRowAbove_42 : decode cX2_isRowAbove 42 = .ok (.iconst 1, 1) := dk_4 (dk_at dksX2_isRowAbove_1 18 rfl rfl)
theorem dX2_isRowAbove_43 : decode cX2_isRowAbove 43 = .ok (.goto 4, 3) := dk_167 0 4 (dk_at dksX2_isRowAbove_1 19 rfl rfl)
theorem dX2_isRowAbove_46 : decode cX2_isRowAbove 46 = .ok (.iconst 0, 1) := dk_3 (dk_at dksX2_isRowAbove_1 22 rfl rfl)
theorem dX2_isRowAbove_47 : decode cX2_isRowAbove 47 = .ok (.istore 6, 2) := dk_54 6 (dk_at dksX2_isRowAbove_2 0 rfl rfl)
theorem dX2_isRowAbove_49 : decode cX2_isRowAbove 49 = .ok (.iload 6, 2) := dk_21 6 (dk_at dksX2_isRowAbove_2 2 rfl rfl)
theorem dX2_isRowAbove_51 : decode cX2_isRowAbove 51 = .ok (.ifCond .ne 37, 3) := dk_154 0 37 (dk_at dksX2_isRowAbove_2 4 rfl rfl)
theorem dX2_isRowAbove_54 : decode cX2_isRowAbove 54 = .ok (.aload_n 0, 1) := dk_42 (dk_at dksX2_isRowAbove_2 7 rfl rfl)
theorem dX2_isRowAbove_55 : decode cX2_isRowAbove 55 = .ok (.getfield 171, 3) := dk_180 0 171 (dk_at dksX2_isRowAbove_2 8 rfl rfl)
theorem dX2_isRowAbove_58 : decode cX2_isRowAbove 58 = .ok (.aload_n 0, 1) := dk_42 (dk_at dksX2_isRowAbove_2 11 rfl rfl)
theorem dX2_isRowAbove_59 : decode cX2_isRowAbove 59 = .ok (.getfield 156, 3) := dk_180 0 156 (dk_at dksX2_isRowAbove_2 12 rfl rfl)
theorem dX2_isRowAbove_62 : decode cX2_isRowAbove 62 = .ok (.iload_n 1, 1) := dk_27 (dk_at dksX2_isRowAbove_2 15 rfl rfl)
theorem dX2_isRowAbove_63 : decode cX2_isRowAbove 63 = .ok (.iaload, 1) := dk_46 (dk_at dksX2_isRowAbove_2 16 rfl rfl)
theorem dX2_isRowAbove_64 : decode cX2_isRowAbove 64 = .ok (.baload, 1) := dk_51 (dk_at dksX2_isRowAbove_2 17 rfl rfl)
theorem dX2_isRowAbove_65 : decode cX2_isRowAbove 65 = .ok (.ifCond .eq 27, 3) := dk_153 0 27 (dk_at dksX2_isRowAbove_2 18 rfl rfl)
theorem dX2_isRowAbove_68 : decode cX2_isRowAbove 68 = .ok (.aload_n 0, 1) := dk_42 (dk_at dksX2_isRowAbove_2 21 rfl rfl)
theorem dX2_isRowAbove_69 : decode cX2_isRowAbove 69 = .ok (.iload_n 3, 1) := dk_29 (dk_at dksX2_isRowAbove_2 22 rfl rfl)
theorem dX2_isRowAbove_70 : decode cX2_isRowAbove 70 = .ok (.iload 4, 2) := dk_21 4 (dk_at dksX2_isRowAbove_3 0 rfl rfl)
theorem dX2_isRowAbove_72 : decode cX2_isRowAbove 72 = .ok (.invokevirtual 614, 3) := dk_182 2 102 (dk_at dksX2_isRowAbove_3 2 rfl rfl)
theorem dX2_isRowAbove_75 : decode cX2_isRowAbove 75 = .ok (.ifCond .eq 17, 3) := dk_153 0 17 (dk_at dksX2_isRowAbove_3 5 rfl rfl)
theorem dX2_isRowAbove_78 : decode cX2_isRowAbove 78 = .ok (.aload_n 0, 1) := dk_42 (dk_at dksX2_isRowAbove_3 8 rfl rfl)
theorem dX2_isRowAbove_79 : decode cX2_isRowAbove 79 = .ok (.iload_n 2, 1) := dk_28 (dk_at dksX2_isRowAbove_3 9 rfl rfl)
theorem dX2_isRowAbove_80 : decode cX2_isRowAbove 80 = .ok (.iload 5, 2) := dk_21 5 (dk_at dksX2_isRowAbove_3 10 rfl rfl)
theorem dX2_isRowAbove_82 : decode cX2_isRowAbove 82 = .ok (.invokevirtual 614, 3) := dk_182 2 102 (dk_at dksX2_isRowAbove_3 12 rfl rfl)
theorem dX2_isRowAbove_85 : decode cX2_isRowAbove 85 = .ok (.ifCond .eq 7, 3) := dk_153 0 7 (dk_at dksX2_isRowAbove_3 15 rfl rfl)
theorem dX2_isRowAbove_88 : decode cX2_isRowAbove 88 = .ok (.iconst 1, 1) := dk_4 (dk_at dksX2_isRowAbove_3 18 rfl rfl)
theorem dX2_isRowAbove_89 : decode cX2_isRowAbove 89 = .ok (.goto 4, 3) := dk_167 0 4 (dk_at dksX2_isRowAbove_3 19 rfl rfl)
theorem dX2_isRowAbove_92 : decode cX2_isRowAbove 92 = .ok (.iconst 0, 1) := dk_3 (dk_at dksX2_isRowAbove_3 22 rfl rfl)
theorem dX2_isRowAbove_93 : decode cX2_isRowAbove 93 = .ok (.ireturn, 1) := dk_172 (dk_at dksX2_isRowAbove_3 23 rfl rfl)
abbrev cX2_lowest : ByteArray := prog_4_method_65_code
def yX2_lowest : MethodName := ⟨RX2, "lowest", "(I)I"⟩
def dkwX2_lowest_1 : List UInt8 := [28, 46, 2, 130, 126, 154, 0, 5, 28, 172, 132, 2, 1, 167, 255, 221, 16, 254, 172]
abbrev dktX2_lowest_1 : List UInt8 := dkwX2_lowest_1 ++ []
def dkwX2_lowest_0 : List UInt8 := [3, 61, 28, 42, 180, 2, 9, 162, 0, 33, 27, 28, 122, 4, 126, 4, 160, 0, 18, 27, 42, 180, 0, 129]
abbrev dktX2_lowest_0 : List UInt8 := dkwX2_lowest_0 ++ dktX2_lowest_1
theorem dksX2_lowest_0 : cX2_lowest.data.toList.drop 0 = dktX2_lowest_0 := by decide +kernel
theorem dksX2_lowest_1 : cX2_lowest.data.toList.drop 24 = dktX2_lowest_1 := dk_seg dksX2_lowest_0 24 rfl rfl
theorem dX2_lowest_0 : decode cX2_lowest 0 = .ok (.iconst 0, 1) := dk_3 (dk_at dksX2_lowest_0 0 rfl rfl)
theorem dX2_lowest_1 : decode cX2_lowest 1 = .ok (.istore_n 2, 1) := dk_61 (dk_at dksX2_lowest_0 1 rfl rfl)
theorem dX2_lowest_2 : decode cX2_lowest 2 = .ok (.iload_n 2, 1) := dk_28 (dk_at dksX2_lowest_0 2 rfl rfl)
theorem dX2_lowest_3 : decode cX2_lowest 3 = .ok (.aload_n 0, 1) := dk_42 (dk_at dksX2_lowest_0 3 rfl rfl)
theorem dX2_lowest_4 : decode cX2_lowest 4 = .ok (.getfield 521, 3) := dk_180 2 9 (dk_at dksX2_lowest_0 4 rfl rfl)
theorem dX2_lowest_7 : decode cX2_lowest 7 = .ok (.if_icmp .ge 33, 3) := dk_162 0 33 (dk_at dksX2_lowest_0 7 rfl rfl)
theorem dX2_lowest_10 : decode cX2_lowest 10 = .ok (.iload_n 1, 1) := dk_27 (dk_at dksX2_lowest_0 10 rfl rfl)
theorem dX2_lowest_11 : decode cX2_lowest 11 = .ok (.iload_n 2, 1) := dk_28 (dk_at dksX2_lowest_0 11 rfl rfl)
theorem dX2_lowest_12 : decode cX2_lowest 12 = .ok (.ishr, 1) := dk_122 (dk_at dksX2_lowest_0 12 rfl rfl)
theorem dX2_lowest_13 : decode cX2_lowest 13 = .ok (.iconst 1, 1) := dk_4 (dk_at dksX2_lowest_0 13 rfl rfl)
theorem dX2_lowest_14 : decode cX2_lowest 14 = .ok (.iand, 1) := dk_126 (dk_at dksX2_lowest_0 14 rfl rfl)
theorem dX2_lowest_15 : decode cX2_lowest 15 = .ok (.iconst 1, 1) := dk_4 (dk_at dksX2_lowest_0 15 rfl rfl)
theorem dX2_lowest_16 : decode cX2_lowest 16 = .ok (.if_icmp .ne 18, 3) := dk_160 0 18 (dk_at dksX2_lowest_0 16 rfl rfl)
theorem dX2_lowest_19 : decode cX2_lowest 19 = .ok (.iload_n 1, 1) := dk_27 (dk_at dksX2_lowest_0 19 rfl rfl)
theorem dX2_lowest_20 : decode cX2_lowest 20 = .ok (.aload_n 0, 1) := dk_42 (dk_at dksX2_lowest_0 20 rfl rfl)
theorem dX2_lowest_21 : decode cX2_lowest 21 = .ok (.getfield 129, 3) := dk_180 0 129 (dk_at dksX2_lowest_0 21 rfl rfl)
theorem dX2_lowest_24 : decode cX2_lowest 24 = .ok (.iload_n 2, 1) := dk_28 (dk_at dksX2_lowest_1 0 rfl rfl)
theorem dX2_lowest_25 : decode cX2_lowest 25 = .ok (.iaload, 1) := dk_46 (dk_at dksX2_lowest_1 1 rfl rfl)
theorem dX2_lowest_26 : decode cX2_lowest 26 = .ok (.iconst (-1), 1) := dk_2 (dk_at dksX2_lowest_1 2 rfl rfl)
theorem dX2_lowest_27 : decode cX2_lowest 27 = .ok (.ixor, 1) := dk_130 (dk_at dksX2_lowest_1 3 rfl rfl)
theorem dX2_lowest_28 : decode cX2_lowest 28 = .ok (.iand, 1) := dk_126 (dk_at dksX2_lowest_1 4 rfl rfl)
theorem dX2_lowest_29 : decode cX2_lowest 29 = .ok (.ifCond .ne 5, 3) := dk_154 0 5 (dk_at dksX2_lowest_1 5 rfl rfl)
theorem dX2_lowest_32 : decode cX2_lowest 32 = .ok (.iload_n 2, 1) := dk_28 (dk_at dksX2_lowest_1 8 rfl rfl)
theorem dX2_lowest_33 : decode cX2_lowest 33 = .ok (.ireturn, 1) := dk_172 (dk_at dksX2_lowest_1 9 rfl rfl)
theorem dX2_lowest_34 : decode cX2_lowest 34 = .ok (.iinc 2 1, 3) := dk_132 2 1 (dk_at dksX2_lowest_1 10 rfl rfl)
theorem dX2_lowest_37 : decode cX2_lowest 37 = .ok (.goto (-35), 3) := dk_167 255 221 (dk_at dksX2_lowest_1 13 rfl rfl)
theorem dX2_lowest_40 : decode cX2_lowest 40 = .ok (.bipush (-2), 2) := dk_16 254 (dk_at dksX2_lowest_1 16 rfl rfl)
theorem dX2_lowest_42 : decode cX2_lowest 42 = .ok (.ireturn, 1) := dk_172 (dk_at dksX2_lowest_1 18 rfl rfl)
abbrev cX2_push : ByteArray := prog_4_method_72_code
def yX2_push : MethodName := ⟨RX2, "push", "(I)V"⟩
def dkwX2_push_0 : List UInt8 := [42, 180, 0, 213, 42, 180, 2, 195, 27, 79, 42, 89, 180, 2, 195, 4, 96, 181, 2, 195, 177]
abbrev dktX2_push_0 : List UInt8 := dkwX2_push_0 ++ []
theorem dksX2_push_0 : cX2_push.data.toList.drop 0 = dktX2_push_0 := by decide +kernel
theorem dX2_push_0 : decode cX2_push 0 = .ok (.aload_n 0, 1) := dk_42 (dk_at dksX2_push_0 0 rfl rfl)
theorem dX2_push_1 : decode cX2_push 1 = .ok (.getfield 213, 3) := dk_180 0 213 (dk_at dksX2_push_0 1 rfl rfl)
theorem dX2_push_4 : decode cX2_push 4 = .ok (.aload_n 0, 1) := dk_42 (dk_at dksX2_push_0 4 rfl rfl)
theorem dX2_push_5 : decode cX2_push 5 = .ok (.getfield 707, 3) := dk_180 2 195 (dk_at dksX2_push_0 5 rfl rfl)
theorem dX2_push_8 : decode cX2_push 8 = .ok (.iload_n 1, 1) := dk_27 (dk_at dksX2_push_0 8 rfl rfl)
theorem dX2_push_9 : decode cX2_push 9 = .ok (.iastore, 1) := dk_79 (dk_at dksX2_push_0 9 rfl rfl)
theorem dX2_push_10 : decode cX2_push 10 = .ok (.aload_n 0, 1) := dk_42 (dk_at dksX2_push_0 10 rfl rfl)
theorem dX2_push_11 : decode cX2_push 11 = .ok (.dup, 1) := dk_89 (dk_at dksX2_push_0 11 rfl rfl)
theorem dX2_push_12 : decode cX2_push 12 = .ok (.getfield 707, 3) := dk_180 2 195 (dk_at dksX2_push_0 12 rfl rfl)
theorem dX2_push_15 : decode cX2_push 15 = .ok (.iconst 1, 1) := dk_4 (dk_at dksX2_push_0 15 rfl rfl)
theorem dX2_push_16 : decode cX2_push 16 = .ok (.iadd, 1) := dk_96 (dk_at dksX2_push_0 16 rfl rfl)
theorem dX2_push_17 : decode cX2_push 17 = .ok (.putfield 707, 3) := dk_181 2 195 (dk_at dksX2_push_0 17 rfl rfl)
theorem dX2_push_20 : decode cX2_push 20 = .ok (.return_, 1) := dk_177 (dk_at dksX2_push_0 20 rfl rfl)
abbrev cX2_make : ByteArray := prog_4_method_71_code
def yX2_make : MethodName := ⟨RX2, "make", "(II)I"⟩
def dkwX2_make_15 : List UInt8 := [27, 21, 6, 182, 2, 166, 172]
abbrev dktX2_make_15 : List UInt8 := dkwX2_make_15 ++ []
def dkwX2_make_14 : List UInt8 := [167, 255, 199, 42, 180, 0, 206, 42, 180, 2, 155, 21, 9, 96, 21, 8, 79, 132, 7, 1, 167, 255, 145, 42]
abbrev dktX2_make_14 : List UInt8 := dkwX2_make_14 ++ dktX2_make_15
def dkwX2_make_13 : List UInt8 := [180, 2, 155, 21, 9, 96, 42, 180, 0, 206, 42, 180, 2, 155, 21, 9, 96, 4, 100, 46, 79, 132, 9, 255]
abbrev dktX2_make_13 : List UInt8 := dkwX2_make_13 ++ dktX2_make_14
def dkwX2_make_12 : List UInt8 := [180, 2, 155, 21, 9, 96, 4, 100, 46, 21, 8, 184, 2, 191, 158, 0, 35, 42, 180, 0, 206, 42]
abbrev dktX2_make_12 : List UInt8 := dkwX2_make_12 ++ dktX2_make_13
def dkwX2_make_11 : List UInt8 := [180, 2, 155, 21, 7, 96, 46, 54, 8, 21, 7, 54, 9, 21, 9, 158, 0, 58, 42, 42, 180, 0, 206, 42]
abbrev dktX2_make_11 : List UInt8 := dkwX2_make_11 ++ dktX2_make_12
def dkwX2_make_10 : List UInt8 := [4, 54, 7, 21, 7, 21, 6, 162, 0, 110, 42, 180, 0, 171, 27, 51, 153, 0, 101, 42, 180, 0, 206, 42]
abbrev dktX2_make_10 : List UInt8 := dkwX2_make_10 ++ dktX2_make_11
def dkwX2_make_9 : List UInt8 := [21, 6, 154, 0, 6, 21, 4, 172, 21, 6, 4, 160, 0, 13, 42, 180, 0, 206, 42, 180, 2, 155, 46, 172]
abbrev dktX2_make_9 : List UInt8 := dkwX2_make_9 ++ dktX2_make_10
def dkwX2_make_8 : List UInt8 := [180, 2, 155, 21, 6, 96, 21, 8, 79, 132, 6, 1, 132, 7, 1, 167, 255, 149, 42, 28, 181, 2, 195]
abbrev dktX2_make_8 : List UInt8 := dkwX2_make_8 ++ dktX2_make_9
def dkwX2_make_7 : List UInt8 := [132, 6, 1, 132, 9, 1, 167, 255, 218, 167, 0, 27, 21, 8, 21, 4, 159, 0, 20, 42, 180, 0, 206, 42]
abbrev dktX2_make_7 : List UInt8 := dkwX2_make_7 ++ dktX2_make_8
def dkwX2_make_6 : List UInt8 := [162, 0, 32, 42, 180, 0, 206, 42, 180, 2, 155, 21, 6, 96, 42, 21, 8, 21, 9, 182, 2, 179, 79]
abbrev dktX2_make_6 : List UInt8 := dkwX2_make_6 ++ dktX2_make_7
def dkwX2_make_5 : List UInt8 := [180, 0, 181, 21, 8, 46, 27, 160, 0, 50, 3, 54, 9, 21, 9, 42, 180, 0, 187, 21, 8, 46]
abbrev dktX2_make_5 : List UInt8 := dkwX2_make_5 ++ dktX2_make_6
def dkwX2_make_4 : List UInt8 := [21, 7, 29, 162, 0, 107, 42, 180, 0, 213, 28, 21, 7, 96, 46, 54, 8, 21, 5, 153, 0, 61, 42]
abbrev dktX2_make_4 : List UInt8 := dkwX2_make_4 ++ dktX2_make_5
def dkwX2_make_3 : List UInt8 := [132, 6, 1, 167, 255, 226, 42, 28, 181, 2, 195, 42, 27, 29, 182, 2, 166, 172, 3, 54, 6, 3, 54, 7]
abbrev dktX2_make_3 : List UInt8 := dkwX2_make_3 ++ dktX2_make_4
def dkwX2_make_2 : List UInt8 := [162, 0, 30, 42, 180, 0, 206, 42, 180, 2, 155, 21, 6, 96, 42, 180, 0, 213, 28, 21, 6, 96, 46, 79]
abbrev dktX2_make_2 : List UInt8 := dkwX2_make_2 ++ dktX2_make_3
def dkwX2_make_1 : List UInt8 := [154, 0, 65, 21, 4, 156, 0, 60, 42, 180, 0, 171, 27, 51, 154, 0, 51, 3, 54, 6, 21, 6, 29]
abbrev dktX2_make_1 : List UInt8 := dkwX2_make_1 ++ dktX2_make_2
def dkwX2_make_0 : List UInt8 := [42, 180, 2, 195, 28, 100, 62, 42, 27, 182, 2, 198, 54, 4, 42, 180, 0, 168, 27, 51, 54, 5, 21, 5]
abbrev dktX2_make_0 : List UInt8 := dkwX2_make_0 ++ dktX2_make_1
theorem dksX2_make_0 : cX2_make.data.toList.drop 0 = dktX2_make_0 := by decide +kernel
theorem dksX2_make_1 : cX2_make.data.toList.drop 24 = dktX2_make_1 := dk_seg dksX2_make_0 24 rfl rfl
theorem dksX2_make_2 : cX2_make.data.toList.drop 47 = dktX2_make_2 := dk_seg dksX2_make_1 23 rfl rfl
theorem dksX2_make_3 : cX2_make.data.toList.drop 71 = dktX2_make_3 := dk_seg dksX2_make_2 24 rfl rfl
theorem dksX2_make_4 : cX2_make.data.toList.drop 95 = dktX2_make_4 := dk_seg dksX2_make_3 24 rfl rfl
theorem dksX2_make_5 : cX2_make.data.toList.drop 118 = dktX2_make_5 := dk_seg dksX2_make_4 23 rfl rfl
theorem dksX2_make_6 : cX2_make.data.toList.drop 140 = dktX2_make_6 := dk_seg dksX2_make_5 22 rfl rfl
theorem dksX2_make_7 : cX2_make.data.toList.drop 163 = dktX2_make_7 := dk_seg dksX2_make_6 23 rfl rfl
theorem dksX2_make_8 : cX2_make.data.toList.drop 187 = dktX2_make_8 := dk_seg dksX2_make_7 24 rfl rfl
theorem dksX2_make_9 : cX2_make.data.toList.drop 210 = dktX2_make_9 := dk_seg dksX2_make_8 23 rfl rfl
theorem dksX2_make_10 : cX2_make.data.toList.drop 234 = dktX2_make_10 := dk_seg dksX2_make_9 24 rfl rfl
theorem dksX2_make_11 : cX2_make.data.toList.drop 258 = dktX2_make_11 := dk_seg dksX2_make_10 24 rfl rfl
theorem dksX2_make_12 : cX2_make.data.toList.drop 282 = dktX2_make_12 := dk_seg dksX2_make_11 24 rfl rfl
theorem dksX2_make_13 : cX2_make.data.toList.drop 304 = dktX2_make_13 := dk_seg dksX2_make_12 22 rfl rfl
theorem dksX2_make_14 : cX2_make.data.toList.drop 328 = dktX2_make_14 := dk_seg dksX2_make_13 24 rfl rfl
theorem dksX2_make_15 : cX2_make.data.toList.drop 352 = dktX2_make_15 := dk_seg dksX2_make_14 24 rfl rfl
theorem dX2_make_0 : decode cX2_make 0 = .ok (.aload_n 0, 1) := dk_42 (dk_at dksX2_make_0 0 rfl rfl)
theorem dX2_make_1 : decode cX2_make 1 = .ok (.getfield 707, 3) := dk_180 2 195 (dk_at dksX2_make_0 1 rfl rfl)
theorem dX2_make_4 : decode cX2_make 4 = .ok (.iload_n 2, 1) := dk_28 (dk_at dksX2_make_0 4 rfl rfl)
theorem dX2_make_5 : decode cX2_make 5 = .ok (.isub, 1) := dk_100 (dk_at dksX2_make_0 5 rfl rfl)
theorem dX2_make_6 : decode cX2_make 6 = .ok (.istore_n 3, 1) := dk_62 (dk_at dksX2_make_0 6 rfl rfl)
theorem dX2_make_7 : decode cX2_make 7 = .ok (.aload_n 0, 1) := dk_42 (dk_at dksX2_make_0 7 rfl rfl)
theorem dX2_make_8 : decode cX2_make 8 = .ok (.iload_n 1, 1) := dk_27 (dk_at dksX2_make_0 8 rfl rfl)
theorem dX2_make_9 : decode cX2_make 9 = .ok (.invokevirtual 710, 3) := dk_182 2 198 (dk_at dksX2_make_0 9 rfl rfl)
theorem dX2_make_12 : decode cX2_make 12 = .ok (.istore 4, 2) := dk_54 4 (dk_at dksX2_make_0 12 rfl rfl)
theorem dX2_make_14 : decode cX2_make 14 = .ok (.aload_n 0, 1) := dk_42 (dk_at dksX2_make_0 14 rfl rfl)
theorem dX2_make_15 : decode cX2_make 15 = .ok (.getfield 168, 3) := dk_180 0 168 (dk_at dksX2_make_0 15 rfl rfl)
theorem dX2_make_18 : decode cX2_make 18 = .ok (.iload_n 1, 1) := dk_27 (dk_at dksX2_make_0 18 rfl rfl)
theorem dX2_make_19 : decode cX2_make 19 = .ok (.baload, 1) := dk_51 (dk_at dksX2_make_0 19 rfl rfl)
theorem dX2_make_20 : decode cX2_make 20 = .ok (.istore 5, 2) := dk_54 5 (dk_at dksX2_make_0 20 rfl rfl)
theorem dX2_make_22 : decode cX2_make 22 = .ok (.iload 5, 2) := dk_21 5 (dk_at dksX2_make_0 22 rfl rfl)
theorem dX2_make_24 : decode cX2_make 24 = .ok (.ifCond .ne 65, 3) := dk_154 0 65 (dk_at dksX2_make_1 0 rfl rfl)
theorem dX2_make_27 : decode cX2_make 27 = .ok (.iload 4, 2) := dk_21 4 (dk_at dksX2_make_1 3 rfl rfl)
theorem dX2_make_29 : decode cX2_make 29 = .ok (.ifCond .ge 60, 3) := dk_156 0 60 (dk_at dksX2_make_1 5 rfl rfl)
theorem dX2_make_32 : decode cX2_make 32 = .ok (.aload_n 0, 1) := dk_42 (dk_at dksX2_make_1 8 rfl rfl)
theorem dX2_make_33 : decode cX2_make 33 = .ok (.getfield 171, 3) := dk_180 0 171 (dk_at dksX2_make_1 9 rfl rfl)
theorem dX2_make_36 : decode cX2_make 36 = .ok (.iload_n 1, 1) := dk_27 (dk_at dksX2_make_1 12 rfl rfl)
theorem dX2_make_37 : decode cX2_make 37 = .ok (.baload, 1) := dk_51 (dk_at dksX2_make_1 13 rfl rfl)
theorem dX2_make_38 : decode cX2_make 38 = .ok (.ifCond .ne 51, 3) := dk_154 0 51 (dk_at dksX2_make_1 14 rfl rfl)
theorem dX2_make_41 : decode cX2_make 41 = .ok (.iconst 0, 1) := dk_3 (dk_at dksX2_make_1 17 rfl rfl)
theorem dX2_make_42 : decode cX2_make 42 = .ok (.istore 6, 2) := dk_54 6 (dk_at dksX2_make_1 18 rfl rfl)
theorem dX2_make_44 : decode cX2_make 44 = .ok (.iload 6, 2) := dk_21 6 (dk_at dksX2_make_1 20 rfl rfl)
theorem dX2_make_46 : decode cX2_make 46 = .ok (.iload_n 3, 1) := dk_29 (dk_at dksX2_make_1 22 rfl rfl)
theorem dX2_make_47 : decode cX2_make 47 = .ok (.if_icmp .ge 30, 3) := dk_162 0 30 (dk_at dksX2_make_2 0 rfl rfl)
theorem dX2_make_50 : decode cX2_make 50 = .ok (.aload_n 0, 1) := dk_42 (dk_at dksX2_make_2 3 rfl rfl)
theorem dX2_make_51 : decode cX2_make 51 = .ok (.getfield 206, 3) := dk_180 0 206 (dk_at dksX2_make_2 4 rfl rfl)
theorem dX2_make_54 : decode cX2_make 54 = .ok (.aload_n 0, 1) := dk_42 (dk_at dksX2_make_2 7 rfl rfl)
theorem dX2_make_55 : decode cX2_make 55 = .ok (.getfield 667, 3) := dk_180 2 155 (dk_at dksX2_make_2 8 rfl rfl)
theorem dX2_make_58 : decode cX2_make 58 = .ok (.iload 6, 2) := dk_21 6 (dk_at dksX2_make_2 11 rfl rfl)
theorem dX2_make_60 : decode cX2_make 60 = .ok (.iadd, 1) := dk_96 (dk_at dksX2_make_2 13 rfl rfl)
theorem dX2_make_61 : decode cX2_make 61 = .ok (.aload_n 0, 1) := dk_42 (dk_at dksX2_make_2 14 rfl rfl)
theorem dX2_make_62 : decode cX2_make 62 = .ok (.getfield 213, 3) := dk_180 0 213 (dk_at dksX2_make_2 15 rfl rfl)
theorem dX2_make_65 : decode cX2_make 65 = .ok (.iload_n 2, 1) := dk_28 (dk_at dksX2_make_2 18 rfl rfl)
theorem dX2_make_66 : decode cX2_make 66 = .ok (.iload 6, 2) := dk_21 6 (dk_at dksX2_make_2 19 rfl rfl)
theorem dX2_make_68 : decode cX2_make 68 = .ok (.iadd, 1) := dk_96 (dk_at dksX2_make_2 21 rfl rfl)
theorem dX2_make_69 : decode cX2_make 69 = .ok (.iaload, 1) := dk_46 (dk_at dksX2_make_2 22 rfl rfl)
theorem dX2_make_70 : decode cX2_make 70 = .ok (.iastore, 1) := dk_79 (dk_at dksX2_make_2 23 rfl rfl)
theorem dX2_make_71 : decode cX2_make 71 = .ok (.iinc 6 1, 3) := dk_132 6 1 (dk_at dksX2_make_3 0 rfl rfl)
theorem dX2_make_74 : decode cX2_make 74 = .ok (.goto (-30), 3) := dk_167 255 226 (dk_at dksX2_make_3 3 rfl rfl)
theorem dX2_make_77 : decode cX2_make 77 = .ok (.aload_n 0, 1) := dk_42 (dk_at dksX2_make_3 6 rfl rfl)
theorem dX2_make_78 : decode cX2_make 78 = .ok (.iload_n 2, 1) := dk_28 (dk_at dksX2_make_3 7 rfl rfl)
theorem dX2_make_79 : decode cX2_make 79 = .ok (.putfield 707, 3) := dk_181 2 195 (dk_at dksX2_make_3 8 rfl rfl)
theorem dX2_make_82 : decode cX2_make 82 = .ok (.aload_n 0, 1) := dk_42 (dk_at dksX2_make_3 11 rfl rfl)
theorem dX2_make_83 : decode cX2_make 83 = .ok (.iload_n 1, 1) := dk_27 (dk_at dksX2_make_3 12 rfl rfl)
theorem dX2_make_84 : decode cX2_make 84 = .ok (.iload_n 3, 1) := dk_29 (dk_at dksX2_make_3 13 rfl rfl)
theorem dX2_make_85 : decode cX2_make 85 = .ok (.invokevirtual 678, 3) := dk_182 2 166 (dk_at dksX2_make_3 14 rfl rfl)
theorem dX2_make_88 : decode cX2_make 88 = .ok (.ireturn, 1) := dk_172 (dk_at dksX2_make_3 17 rfl rfl)
theorem dX2_make_89 : decode cX2_make 89 = .ok (.iconst 0, 1) := dk_3 (dk_at dksX2_make_3 18 rfl rfl)
theorem dX2_make_90 : decode cX2_make 90 = .ok (.istore 6, 2) := dk_54 6 (dk_at dksX2_make_3 19 rfl rfl)
theorem dX2_make_92 : decode cX2_make 92 = .ok (.iconst 0, 1) := dk_3 (dk_at dksX2_make_3 21 rfl rfl)
theorem dX2_make_93 : decode cX2_make 93 = .ok (.istore 7, 2) := dk_54 7 (dk_at dksX2_make_3 22 rfl rfl)
theorem dX2_make_95 : decode cX2_make 95 = .ok (.iload 7, 2) := dk_21 7 (dk_at dksX2_make_4 0 rfl rfl)
theorem dX2_make_97 : decode cX2_make 97 = .ok (.iload_n 3, 1) := dk_29 (dk_at dksX2_make_4 2 rfl rfl)
theorem dX2_make_98 : decode cX2_make 98 = .ok (.if_icmp .ge 107, 3) := dk_162 0 107 (dk_at dksX2_make_4 3 rfl rfl)
theorem dX2_make_101 : decode cX2_make 101 = .ok (.aload_n 0, 1) := dk_42 (dk_at dksX2_make_4 6 rfl rfl)
theorem dX2_make_102 : decode cX2_make 102 = .ok (.getfield 213, 3) := dk_180 0 213 (dk_at dksX2_make_4 7 rfl rfl)
theorem dX2_make_105 : decode cX2_make 105 = .ok (.iload_n 2, 1) := dk_28 (dk_at dksX2_make_4 10 rfl rfl)
theorem dX2_make_106 : decode cX2_make 106 = .ok (.iload 7, 2) := dk_21 7 (dk_at dksX2_make_4 11 rfl rfl)
theorem dX2_make_108 : decode cX2_make 108 = .ok (.iadd, 1) := dk_96 (dk_at dksX2_make_4 13 rfl rfl)
theorem dX2_make_109 : decode cX2_make 109 = .ok (.iaload, 1) := dk_46 (dk_at dksX2_make_4 14 rfl rfl)
theorem dX2_make_110 : decode cX2_make 110 = .ok (.istore 8, 2) := dk_54 8 (dk_at dksX2_make_4 15 rfl rfl)
theorem dX2_make_112 : decode cX2_make 112 = .ok (.iload 5, 2) := dk_21 5 (dk_at dksX2_make_4 17 rfl rfl)
theorem dX2_make_114 : decode cX2_make 114 = .ok (.ifCond .eq 61, 3) := dk_153 0 61 (dk_at dksX2_make_4 19 rfl rfl)
theorem dX2_make_117 : decode cX2_make 117 = .ok (.aload_n 0, 1) := dk_42 (dk_at dksX2_make_4 22 rfl rfl)
theorem dX2_make_118 : decode cX2_make 118 = .ok (.getfield 181, 3) := dk_180 0 181 (dk_at dksX2_make_5 0 rfl rfl)
theorem dX2_make_121 : decode cX2_make 121 = .ok (.iload 8, 2) := dk_21 8 (dk_at dksX2_make_5 3 rfl rfl)
theorem dX2_make_123 : decode cX2_make 123 = .ok (.iaload, 1) := dk_46 (dk_at dksX2_make_5 5 rfl rfl)
theorem dX2_make_124 : decode cX2_make 124 = .ok (.iload_n 1, 1) := dk_27 (dk_at dksX2_make_5 6 rfl rfl)
theorem dX2_make_125 : decode cX2_make 125 = .ok (.if_icmp .ne 50, 3) := dk_160 0 50 (dk_at dksX2_make_5 7 rfl rfl)
theorem dX2_make_128 : decode cX2_make 128 = .ok (.iconst 0, 1) := dk_3 (dk_at dksX2_make_5 10 rfl rfl)
theorem dX2_make_129 : decode cX2_make 129 = .ok (.istore 9, 2) := dk_54 9 (dk_at dksX2_make_5 11 rfl rfl)
theorem dX2_make_131 : decode cX2_make 131 = .ok (.iload 9, 2) := dk_21 9 (dk_at dksX2_make_5 13 rfl rfl)
theorem dX2_make_133 : decode cX2_make 133 = .ok (.aload_n 0, 1) := dk_42 (dk_at dksX2_make_5 15 rfl rfl)
theorem dX2_make_134 : decode cX2_make 134 = .ok (.getfield 187, 3) := dk_180 0 187 (dk_at dksX2_make_5 16 rfl rfl)
theorem dX2_make_137 : decode cX2_make 137 = .ok (.iload 8, 2) := dk_21 8 (dk_at dksX2_make_5 19 rfl rfl)
theorem dX2_make_139 : decode cX2_make 139 = .ok (.iaload, 1) := dk_46 (dk_at dksX2_make_5 21 rfl rfl)
theorem dX2_make_140 : decode cX2_make 140 = .ok (.if_icmp .ge 32, 3) := dk_162 0 32 (dk_at dksX2_make_6 0 rfl rfl)
theorem dX2_make_143 : decode cX2_make 143 = .ok (.aload_n 0, 1) := dk_42 (dk_at dksX2_make_6 3 rfl rfl)
theorem dX2_make_144 : decode cX2_make 144 = .ok (.getfield 206, 3) := dk_180 0 206 (dk_at dksX2_make_6 4 rfl rfl)
theorem dX2_make_147 : decode cX2_make 147 = .ok (.aload_n 0, 1) := dk_42 (dk_at dksX2_make_6 7 rfl rfl)
theorem dX2_make_148 : decode cX2_make 148 = .ok (.getfield 667, 3) := dk_180 2 155 (dk_at dksX2_make_6 8 rfl rfl)
theorem dX2_make_151 : decode cX2_make 151 = .ok (.iload 6, 2) := dk_21 6 (dk_at dksX2_make_6 11 rfl rfl)
theorem dX2_make_153 : decode cX2_make 153 = .ok (.iadd, 1) := dk_96 (dk_at dksX2_make_6 13 rfl rfl)
theorem dX2_make_154 : decode cX2_make 154 = .ok (.aload_n 0, 1) := dk_42 (dk_at dksX2_make_6 14 rfl rfl)
theorem dX2_make_155 : decode cX2_make 155 = .ok (.iload 8, 2) := dk_21 8 (dk_at dksX2_make_6 15 rfl rfl)
theorem dX2_make_157 : decode cX2_make 157 = .ok (.iload 9, 2) := dk_21 9 (dk_at dksX2_make_6 17 rfl rfl)
theorem dX2_make_159 : decode cX2_make 159 = .ok (.invokevirtual 691, 3) := dk_182 2 179 (dk_at dksX2_make_6 19 rfl rfl)
theorem dX2_make_162 : decode cX2_make 162 = .ok (.iastore, 1) := dk_79 (dk_at dksX2_make_6 22 rfl rfl)
theorem dX2_make_163 : decode cX2_make 163 = .ok (.iinc 6 1, 3) := dk_132 6 1 (dk_at dksX2_make_7 0 rfl rfl)
theorem dX2_make_166 : decode cX2_make 166 = .ok (.iinc 9 1, 3) := dk_132 9 1 (dk_at dksX2_make_7 3 rfl rfl)
theorem dX2_make_169 : decode cX2_make 169 = .ok (.goto (-38), 3) := dk_167 255 218 (dk_at dksX2_make_7 6 rfl rfl)
theorem dX2_make_172 : decode cX2_make 172 = .ok (.goto 27, 3) := dk_167 0 27 (dk_at dksX2_make_7 9 rfl rfl)
theorem dX2_make_175 : decode cX2_make 175 = .ok (.iload 8, 2) := dk_21 8 (dk_at dksX2_make_7 12 rfl rfl)
theorem dX2_make_177 : decode cX2_make 177 = .ok (.iload 4, 2) := dk_21 4 (dk_at dksX2_make_7 14 rfl rfl)
theorem dX2_make_179 : decode cX2_make 179 = .ok (.if_icmp .eq 20, 3) := dk_159 0 20 (dk_at dksX2_make_7 16 rfl rfl)
theorem dX2_make_182 : decode cX2_make 182 = .ok (.aload_n 0, 1) := dk_42 (dk_at dksX2_make_7 19 rfl rfl)
theorem dX2_make_183 : decode cX2_make 183 = .ok (.getfield 206, 3) := dk_180 0 206 (dk_at dksX2_make_7 20 rfl rfl)
theorem dX2_make_186 : decode cX2_make 186 = .ok (.aload_n 0, 1) := dk_42 (dk_at dksX2_make_7 23 rfl rfl)
theorem dX2_make_187 : decode cX2_make 187 = .ok (.getfield 667, 3) := dk_180 2 155 (dk_at dksX2_make_8 0 rfl rfl)
theorem dX2_make_190 : decode cX2_make 190 = .ok (.iload 6, 2) := dk_21 6 (dk_at dksX2_make_8 3 rfl rfl)
theorem dX2_make_192 : decode cX2_make 192 = .ok (.iadd, 1) := dk_96 (dk_at dksX2_make_8 5 rfl rfl)
theorem dX2_make_193 : decode cX2_make 193 = .ok (.iload 8, 2) := dk_21 8 (dk_at dksX2_make_8 6 rfl rfl)
theorem dX2_make_195 : decode cX2_make 195 = .ok (.iastore, 1) := dk_79 (dk_at dksX2_make_8 8 rfl rfl)
theorem dX2_make_196 : decode cX2_make 196 = .ok (.iinc 6 1, 3) := dk_132 6 1 (dk_at dksX2_make_8 9 rfl rfl)
theorem dX2_make_199 : decode cX2_make 199 = .ok (.iinc 7 1, 3) := dk_132 7 1 (dk_at dksX2_make_8 12 rfl rfl)
theorem dX2_make_202 : decode cX2_make 202 = .ok (.goto (-107), 3) := dk_167 255 149 (dk_at dksX2_make_8 15 rfl rfl)
theorem dX2_make_205 : decode cX2_make 205 = .ok (.aload_n 0, 1) := dk_42 (dk_at dksX2_make_8 18 rfl rfl)
theorem dX2_make_206 : decode cX2_make 206 = .ok (.iload_n 2, 1) := dk_28 (dk_at dksX2_make_8 19 rfl rfl)
theorem dX2_make_207 : decode cX2_make 207 = .ok (.putfield 707, 3) := dk_181 2 195 (dk_at dksX2_make_8 20 rfl rfl)
theorem dX2_make_210 : decode cX2_make 210 = .ok (.iload 6, 2) := dk_21 6 (dk_at dksX2_make_9 0 rfl rfl)
theorem dX2_make_212 : decode cX2_make 212 = .ok (.ifCond .ne 6, 3) := dk_154 0 6 (dk_at dksX2_make_9 2 rfl rfl)
theorem dX2_make_215 : decode cX2_make 215 = .ok (.iload 4, 2) := dk_21 4 (dk_at dksX2_make_9 5 rfl rfl)
theorem dX2_make_217 : decode cX2_make 217 = .ok (.ireturn, 1) := dk_172 (dk_at dksX2_make_9 7 rfl rfl)
theorem dX2_make_218 : decode cX2_make 218 = .ok (.iload 6, 2) := dk_21 6 (dk_at dksX2_make_9 8 rfl rfl)
theorem dX2_make_220 : decode cX2_make 220 = .ok (.iconst 1, 1) := dk_4 (dk_at dksX2_make_9 10 rfl rfl)
theorem dX2_make_221 : decode cX2_make 221 = .ok (.if_icmp .ne 13, 3) := dk_160 0 13 (dk_at dksX2_make_9 11 rfl rfl)
theorem dX2_make_224 : decode cX2_make 224 = .ok (.aload_n 0, 1) := dk_42 (dk_at dksX2_make_9 14 rfl rfl)
theorem dX2_make_225 : decode cX2_make 225 = .ok (.getfield 206, 3) := dk_180 0 206 (dk_at dksX2_make_9 15 rfl rfl)
theorem dX2_make_228 : decode cX2_make 228 = .ok (.aload_n 0, 1) := dk_42 (dk_at dksX2_make_9 18 rfl rfl)
theorem dX2_make_229 : decode cX2_make 229 = .ok (.getfield 667, 3) := dk_180 2 155 (dk_at dksX2_make_9 19 rfl rfl)
theorem dX2_make_232 : decode cX2_make 232 = .ok (.iaload, 1) := dk_46 (dk_at dksX2_make_9 22 rfl rfl)
theorem dX2_make_233 : decode cX2_make 233 = .ok (.ireturn, 1) := dk_172 (dk_at dksX2_make_9 23 rfl rfl)
theorem dX2_make_234 : decode cX2_make 234 = .ok (.iconst 1, 1) := dk_4 (dk_at dksX2_make_10 0 rfl rfl)
theorem dX2_make_235 : decode cX2_make 235 = .ok (.istore 7, 2) := dk_54 7 (dk_at dksX2_make_10 1 rfl rfl)
theorem dX2_make_237 : decode cX2_make 237 = .ok (.iload 7, 2) := dk_21 7 (dk_at dksX2_make_10 3 rfl rfl)
theorem dX2_make_239 : decode cX2_make 239 = .ok (.iload 6, 2) := dk_21 6 (dk_at dksX2_make_10 5 rfl rfl)
theorem dX2_make_241 : decode cX2_make 241 = .ok (.if_icmp .ge 110, 3) := dk_162 0 110 (dk_at dksX2_make_10 7 rfl rfl)
theorem dX2_make_244 : decode cX2_make 244 = .ok (.aload_n 0, 1) := dk_42 (dk_at dksX2_make_10 10 rfl rfl)
theorem dX2_make_245 : decode cX2_make 245 = .ok (.getfield 171, 3) := dk_180 0 171 (dk_at dksX2_make_10 11 rfl rfl)
theorem dX2_make_248 : decode cX2_make 248 = .ok (.iload_n 1, 1) := dk_27 (dk_at dksX2_make_10 14 rfl rfl)
theorem dX2_make_249 : decode cX2_make 249 = .ok (.baload, 1) := dk_51 (dk_at dksX2_make_10 15 rfl rfl)
theorem dX2_make_250 : decode cX2_make 250 = .ok (.ifCond .eq 101, 3) := dk_153 0 101 (dk_at dksX2_make_10 16 rfl rfl)
theorem dX2_make_253 : decode cX2_make 253 = .ok (.aload_n 0, 1) := dk_42 (dk_at dksX2_make_10 19 rfl rfl)
theorem dX2_make_254 : decode cX2_make 254 = .ok (.getfield 206, 3) := dk_180 0 206 (dk_at dksX2_make_10 20 rfl rfl)
theorem dX2_make_257 : decode cX2_make 257 = .ok (.aload_n 0, 1) := dk_42 (dk_at dksX2_make_10 23 rfl rfl)
theorem dX2_make_258 : decode cX2_make 258 = .ok (.getfield 667, 3) := dk_180 2 155 (dk_at dksX2_make_11 0 rfl rfl)
theorem dX2_make_261 : decode cX2_make 261 = .ok (.iload 7, 2) := dk_21 7 (dk_at dksX2_make_11 3 rfl rfl)
theorem dX2_make_263 : decode cX2_make 263 = .ok (.iadd, 1) := dk_96 (dk_at dksX2_make_11 5 rfl rfl)
theorem dX2_make_264 : decode cX2_make 264 = .ok (.iaload, 1) := dk_46 (dk_at dksX2_make_11 6 rfl rfl)
theorem dX2_make_265 : decode cX2_make 265 = .ok (.istore 8, 2) := dk_54 8 (dk_at dksX2_make_11 7 rfl rfl)
theorem dX2_make_267 : decode cX2_make 267 = .ok (.iload 7, 2) := dk_21 7 (dk_at dksX2_make_11 9 rfl rfl)
theorem dX2_make_269 : decode cX2_make 269 = .ok (.istore 9, 2) := dk_54 9 (dk_at dksX2_make_11 11 rfl rfl)
theorem dX2_make_271 : decode cX2_make 271 = .ok (.iload 9, 2) := dk_21 9 (dk_at dksX2_make_11 13 rfl rfl)
theorem dX2_make_273 : decode cX2_make 273 = .ok (.ifCond .le 58, 3) := dk_158 0 58 (dk_at dksX2_make_11 15 rfl rfl)
theorem dX2_make_276 : decode cX2_make 276 = .ok (.aload_n 0, 1) := dk_42 (dk_at dksX2_make_11 18 rfl rfl)
theorem dX2_make_277 : decode cX2_make 277 = .ok (.aload_n 0, 1) := dk_42 (dk_at dksX2_make_11 19 rfl rfl)
theorem dX2_make_278 : decode cX2_make 278 = .ok (.getfield 206, 3) := dk_180 0 206 (dk_at dksX2_make_11 20 rfl rfl)
theorem dX2_make_281 : decode cX2_make 281 = .ok (.aload_n 0, 1) := dk_42 (dk_at dksX2_make_11 23 rfl rfl)
theorem dX2_make_282 : decode cX2_make 282 = .ok (.getfield 667, 3) := dk_180 2 155 (dk_at dksX2_make_12 0 rfl rfl)
theorem dX2_make_285 : decode cX2_make 285 = .ok (.iload 9, 2) := dk_21 9 (dk_at dksX2_make_12 3 rfl rfl)
theorem dX2_make_287 : decode cX2_make 287 = .ok (.iadd, 1) := dk_96 (dk_at dksX2_make_12 5 rfl rfl)
theorem dX2_make_288 : decode cX2_make 288 = .ok (.iconst 1, 1) := dk_4 (dk_at dksX2_make_12 6 rfl rfl)
theorem dX2_make_289 : decode cX2_make 289 = .ok (.isub, 1) := dk_100 (dk_at dksX2_make_12 7 rfl rfl)
theorem dX2_make_290 : decode cX2_make 290 = .ok (.iaload, 1) := dk_46 (dk_at dksX2_make_12 8 rfl rfl)
theorem dX2_make_291 : decode cX2_make 291 = .ok (.iload 8, 2) := dk_21 8 (dk_at dksX2_make_12 9 rfl rfl)
theorem dX2_make_293 : decode cX2_make 293 = .ok (.invokestatic 703, 3) := dk_184 2 191 (dk_at dksX2_make_12 11 rfl rfl)
theorem dX2_make_296 : decode cX2_make 296 = .ok (.ifCond .le 35, 3) := dk_158 0 35 (dk_at dksX2_make_12 14 rfl rfl)
theorem dX2_make_299 : decode cX2_make 299 = .ok (.aload_n 0, 1) := dk_42 (dk_at dksX2_make_12 17 rfl rfl)
theorem dX2_make_300 : decode cX2_make 300 = .ok (.getfield 206, 3) := dk_180 0 206 (dk_at dksX2_make_12 18 rfl rfl)
theorem dX2_make_303 : decode cX2_make 303 = .ok (.aload_n 0, 1) := dk_42 (dk_at dksX2_make_12 21 rfl rfl)
theorem dX2_make_304 : decode cX2_make 304 = .ok (.getfield 667, 3) := dk_180 2 155 (dk_at dksX2_make_13 0 rfl rfl)
theorem dX2_make_307 : decode cX2_make 307 = .ok (.iload 9, 2) := dk_21 9 (dk_at dksX2_make_13 3 rfl rfl)
theorem dX2_make_309 : decode cX2_make 309 = .ok (.iadd, 1) := dk_96 (dk_at dksX2_make_13 5 rfl rfl)
theorem dX2_make_310 : decode cX2_make 310 = .ok (.aload_n 0, 1) := dk_42 (dk_at dksX2_make_13 6 rfl rfl)
theorem dX2_make_311 : decode cX2_make 311 = .ok (.getfield 206, 3) := dk_180 0 206 (dk_at dksX2_make_13 7 rfl rfl)
theorem dX2_make_314 : decode cX2_make 314 = .ok (.aload_n 0, 1) := dk_42 (dk_at dksX2_make_13 10 rfl rfl)
theorem dX2_make_315 : decode cX2_make 315 = .ok (.getfield 667, 3) := dk_180 2 155 (dk_at dksX2_make_13 11 rfl rfl)
theorem dX2_make_318 : decode cX2_make 318 = .ok (.iload 9, 2) := dk_21 9 (dk_at dksX2_make_13 14 rfl rfl)
theorem dX2_make_320 : decode cX2_make 320 = .ok (.iadd, 1) := dk_96 (dk_at dksX2_make_13 16 rfl rfl)
theorem dX2_make_321 : decode cX2_make 321 = .ok (.iconst 1, 1) := dk_4 (dk_at dksX2_make_13 17 rfl rfl)
theorem dX2_make_322 : decode cX2_make 322 = .ok (.isub, 1) := dk_100 (dk_at dksX2_make_13 18 rfl rfl)
theorem dX2_make_323 : decode cX2_make 323 = .ok (.iaload, 1) := dk_46 (dk_at dksX2_make_13 19 rfl rfl)
theorem dX2_make_324 : decode cX2_make 324 = .ok (.iastore, 1) := dk_79 (dk_at dksX2_make_13 20 rfl rfl)
theorem dX2_make_325 : decode cX2_make 325 = .ok (.iinc 9 (-1), 3) := dk_132 9 255 (dk_at dksX2_make_13 21 rfl rfl)
theorem dX2_make_328 : decode cX2_make 328 = .ok (.goto (-57), 3) := dk_167 255 199 (dk_at dksX2_make_14 0 rfl rfl)
theorem dX2_make_331 : decode cX2_make 331 = .ok (.aload_n 0, 1) := dk_42 (dk_at dksX2_make_14 3 rfl rfl)
theorem dX2_make_332 : decode cX2_make 332 = .ok (.getfield 206, 3) := dk_180 0 206 (dk_at dksX2_make_14 4 rfl rfl)
theorem dX2_make_335 : decode cX2_make 335 = .ok (.aload_n 0, 1) := dk_42 (dk_at dksX2_make_14 7 rfl rfl)
theorem dX2_make_336 : decode cX2_make 336 = .ok (.getfield 667, 3) := dk_180 2 155 (dk_at dksX2_make_14 8 rfl rfl)
theorem dX2_make_339 : decode cX2_make 339 = .ok (.iload 9, 2) := dk_21 9 (dk_at dksX2_make_14 11 rfl rfl)
theorem dX2_make_341 : decode cX2_make 341 = .ok (.iadd, 1) := dk_96 (dk_at dksX2_make_14 13 rfl rfl)
theorem dX2_make_342 : decode cX2_make 342 = .ok (.iload 8, 2) := dk_21 8 (dk_at dksX2_make_14 14 rfl rfl)
theorem dX2_make_344 : decode cX2_make 344 = .ok (.iastore, 1) := dk_79 (dk_at dksX2_make_14 16 rfl rfl)
theorem dX2_make_345 : decode cX2_make 345 = .ok (.iinc 7 1, 3) := dk_132 7 1 (dk_at dksX2_make_14 17 rfl rfl)
theorem dX2_make_348 : decode cX2_make 348 = .ok (.goto (-111), 3) := dk_167 255 145 (dk_at dksX2_make_14 20 rfl rfl)
theorem dX2_make_351 : decode cX2_make 351 = .ok (.aload_n 0, 1) := dk_42 (dk_at dksX2_make_14 23 rfl rfl)
theorem dX2_make_352 : decode cX2_make 352 = .ok (.iload_n 1, 1) := dk_27 (dk_at dksX2_make_15 0 rfl rfl)
theorem dX2_make_353 : decode cX2_make 353 = .ok (.iload 6, 2) := dk_21 6 (dk_at dksX2_make_15 1 rfl rfl)
theorem dX2_make_355 : decode cX2_make 355 = .ok (.invokevirtual 678, 3) := dk_182 2 166 (dk_at dksX2_make_15 3 rfl rfl)
theorem dX2_make_358 : decode cX2_make 358 = .ok (.ireturn, 1) := dk_172 (dk_at dksX2_make_15 6 rfl rfl)
abbrev cX2_idTerm : ByteArray := prog_4_method_70_code
def yX2_idTerm : MethodName := ⟨RX2, "idTerm", "(I)I"⟩
def dkwX2_idTerm_1 : List UInt8 := [182, 2, 166, 172]
abbrev dktX2_idTerm_1 : List UInt8 := dkwX2_idTerm_1 ++ []
def dkwX2_idTerm_0 : List UInt8 := [42, 180, 0, 174, 27, 46, 156, 0, 8, 16, 254, 167, 0, 14, 42, 42, 180, 0, 174, 27, 46, 3]
abbrev dktX2_idTerm_0 : List UInt8 := dkwX2_idTerm_0 ++ dktX2_idTerm_1
theorem dksX2_idTerm_0 : cX2_idTerm.data.toList.drop 0 = dktX2_idTerm_0 := by decide +kernel
theorem dksX2_idTerm_1 : cX2_idTerm.data.toList.drop 22 = dktX2_idTerm_1 := dk_seg dksX2_idTerm_0 22 rfl rfl
theorem dX2_idTerm_0 : decode cX2_idTerm 0 = .ok (.aload_n 0, 1) := dk_42 (dk_at dksX2_idTerm_0 0 rfl rfl)
theorem dX2_idTerm_1 : decode cX2_idTerm 1 = .ok (.getfield 174, 3) := dk_180 0 174 (dk_at dksX2_idTerm_0 1 rfl rfl)
theorem dX2_idTerm_4 : decode cX2_idTerm 4 = .ok (.iload_n 1, 1) := dk_27 (dk_at dksX2_idTerm_0 4 rfl rfl)
theorem dX2_idTerm_5 : decode cX2_idTerm 5 = .ok (.iaload, 1) := dk_46 (dk_at dksX2_idTerm_0 5 rfl rfl)
theorem dX2_idTerm_6 : decode cX2_idTerm 6 = .ok (.ifCond .ge 8, 3) := dk_156 0 8 (dk_at dksX2_idTerm_0 6 rfl rfl)
theorem dX2_idTerm_9 : decode cX2_idTerm 9 = .ok (.bipush (-2), 2) := dk_16 254 (dk_at dksX2_idTerm_0 9 rfl rfl)
theorem dX2_idTerm_11 : decode cX2_idTerm 11 = .ok (.goto 14, 3) := dk_167 0 14 (dk_at dksX2_idTerm_0 11 rfl rfl)
theorem dX2_idTerm_14 : decode cX2_idTerm 14 = .ok (.aload_n 0, 1) := dk_42 (dk_at dksX2_idTerm_0 14 rfl rfl)
theorem dX2_idTerm_15 : decode cX2_idTerm 15 = .ok (.aload_n 0, 1) := dk_42 (dk_at dksX2_idTerm_0 15 rfl rfl)
theorem dX2_idTerm_16 : decode cX2_idTerm 16 = .ok (.getfield 174, 3) := dk_180 0 174 (dk_at dksX2_idTerm_0 16 rfl rfl)
theorem dX2_idTerm_19 : decode cX2_idTerm 19 = .ok (.iload_n 1, 1) := dk_27 (dk_at dksX2_idTerm_0 19 rfl rfl)
theorem dX2_idTerm_20 : decode cX2_idTerm 20 = .ok (.iaload, 1) := dk_46 (dk_at dksX2_idTerm_0 20 rfl rfl)
theorem dX2_idTerm_21 : decode cX2_idTerm 21 = .ok (.iconst 0, 1) := dk_3 (dk_at dksX2_idTerm_0 21 rfl rfl)
theorem dX2_idTerm_22 : decode cX2_idTerm 22 = .ok (.invokevirtual 678, 3) := dk_182 2 166 (dk_at dksX2_idTerm_1 0 rfl rfl)
theorem dX2_idTerm_25 : decode cX2_idTerm 25 = .ok (.ireturn, 1) := dk_172 (dk_at dksX2_idTerm_1 3 rfl rfl)
abbrev cX2_orderOf : ByteArray := prog_4_method_69_code
def yX2_orderOf : MethodName := ⟨RX2, "orderOf", "(LRewriteHouseModel;II)I"⟩
def dkwX2_orderOf_6 : List UInt8 := [167, 255, 214, 3, 172]
abbrev dktX2_orderOf_6 : List UInt8 := dkwX2_orderOf_6 ++ []
def dkwX2_orderOf_5 : List UInt8 := [42, 28, 21, 5, 182, 2, 179, 184, 2, 191, 54, 6, 21, 6, 153, 0, 6, 21, 6, 172, 132, 5, 1]
abbrev dktX2_orderOf_5 : List UInt8 := dkwX2_orderOf_5 ++ dktX2_orderOf_6
def dkwX2_orderOf_4 : List UInt8 := [4, 172, 3, 54, 5, 21, 5, 42, 180, 0, 187, 27, 46, 162, 0, 37, 42, 42, 27, 21, 5, 182, 2, 179]
abbrev dktX2_orderOf_4 : List UInt8 := dkwX2_orderOf_4 ++ dktX2_orderOf_5
def dkwX2_orderOf_3 : List UInt8 := [28, 46, 159, 0, 24, 42, 180, 0, 187, 27, 46, 42, 180, 0, 187, 28, 46, 162, 0, 7, 2, 167, 0, 4]
abbrev dktX2_orderOf_3 : List UInt8 := dkwX2_orderOf_3 ++ dktX2_orderOf_4
def dkwX2_orderOf_2 : List UInt8 := [4, 172, 29, 21, 4, 162, 0, 7, 2, 167, 0, 4, 4, 172, 42, 180, 0, 187, 27, 46, 42, 180, 0, 187]
abbrev dktX2_orderOf_2 : List UInt8 := dkwX2_orderOf_2 ++ dktX2_orderOf_3
def dkwX2_orderOf_1 : List UInt8 := [21, 4, 159, 0, 36, 29, 156, 0, 20, 21, 4, 156, 0, 15, 29, 21, 4, 164, 0, 7, 2, 167, 0, 4]
abbrev dktX2_orderOf_1 : List UInt8 := dkwX2_orderOf_1 ++ dktX2_orderOf_2
def dkwX2_orderOf_0 : List UInt8 := [27, 28, 160, 0, 5, 3, 172, 42, 180, 0, 181, 27, 46, 62, 42, 180, 0, 181, 28, 46, 54, 4, 29]
abbrev dktX2_orderOf_0 : List UInt8 := dkwX2_orderOf_0 ++ dktX2_orderOf_1
theorem dksX2_orderOf_0 : cX2_orderOf.data.toList.drop 0 = dktX2_orderOf_0 := by decide +kernel
theorem dksX2_orderOf_1 : cX2_orderOf.data.toList.drop 23 = dktX2_orderOf_1 := dk_seg dksX2_orderOf_0 23 rfl rfl
theorem dksX2_orderOf_2 : cX2_orderOf.data.toList.drop 47 = dktX2_orderOf_2 := dk_seg dksX2_orderOf_1 24 rfl rfl
theorem dksX2_orderOf_3 : cX2_orderOf.data.toList.drop 71 = dktX2_orderOf_3 := dk_seg dksX2_orderOf_2 24 rfl rfl
theorem dksX2_orderOf_4 : cX2_orderOf.data.toList.drop 95 = dktX2_orderOf_4 := dk_seg dksX2_orderOf_3 24 rfl rfl
theorem dksX2_orderOf_5 : cX2_orderOf.data.toList.drop 119 = dktX2_orderOf_5 := dk_seg dksX2_orderOf_4 24 rfl rfl
theorem dksX2_orderOf_6 : cX2_orderOf.data.toList.drop 142 = dktX2_orderOf_6 := dk_seg dksX2_orderOf_5 23 rfl rfl
theorem dX2_orderOf_0 : decode cX2_orderOf 0 = .ok (.iload_n 1, 1) := dk_27 (dk_at dksX2_orderOf_0 0 rfl rfl)
theorem dX2_orderOf_1 : decode cX2_orderOf 1 = .ok (.iload_n 2, 1) := dk_28 (dk_at dksX2_orderOf_0 1 rfl rfl)
theorem dX2_orderOf_2 : decode cX2_orderOf 2 = .ok (.if_icmp .ne 5, 3) := dk_160 0 5 (dk_at dksX2_orderOf_0 2 rfl rfl)
theorem dX2_orderOf_5 : decode cX2_orderOf 5 = .ok (.iconst 0, 1) := dk_3 (dk_at dksX2_orderOf_0 5 rfl rfl)
theorem dX2_orderOf_6 : decode cX2_orderOf 6 = .ok (.ireturn, 1) := dk_172 (dk_at dksX2_orderOf_0 6 rfl rfl)
theorem dX2_orderOf_7 : decode cX2_orderOf 7 = .ok (.aload_n 0, 1) := dk_42 (dk_at dksX2_orderOf_0 7 rfl rfl)
theorem dX2_orderOf_8 : decode cX2_orderOf 8 = .ok (.getfield 181, 3) := dk_180 0 181 (dk_at dksX2_orderOf_0 8 rfl rfl)
theorem dX2_orderOf_11 : decode cX2_orderOf 11 = .ok (.iload_n 1, 1) := dk_27 (dk_at dksX2_orderOf_0 11 rfl rfl)
theorem dX2_orderOf_12 : decode cX2_orderOf 12 = .ok (.iaload, 1) := dk_46 (dk_at dksX2_orderOf_0 12 rfl rfl)
theorem dX2_orderOf_13 : decode cX2_orderOf 13 = .ok (.istore_n 3, 1) := dk_62 (dk_at dksX2_orderOf_0 13 rfl rfl)
theorem dX2_orderOf_14 : decode cX2_orderOf 14 = .ok (.aload_n 0, 1) := dk_42 (dk_at dksX2_orderOf_0 14 rfl rfl)
theorem dX2_orderOf_15 : decode cX2_orderOf 15 = .ok (.getfield 181, 3) := dk_180 0 181 (dk_at dksX2_orderOf_0 15 rfl rfl)
theorem dX2_orderOf_18 : decode cX2_orderOf 18 = .ok (.iload_n 2, 1) := dk_28 (dk_at dksX2_orderOf_0 18 rfl rfl)
theorem dX2_orderOf_19 : decode cX2_orderOf 19 = .ok (.iaload, 1) := dk_46 (dk_at dksX2_orderOf_0 19 rfl rfl)
theorem dX2_orderOf_20 : decode cX2_orderOf 20 = .ok (.istore 4, 2) := dk_54 4 (dk_at dksX2_orderOf_0 20 rfl rfl)
theorem dX2_orderOf_22 : decode cX2_orderOf 22 = .ok (.iload_n 3, 1) := dk_29 (dk_at dksX2_orderOf_0 22 rfl rfl)
theorem dX2_orderOf_23 : decode cX2_orderOf 23 = .ok (.iload 4, 2) := dk_21 4 (dk_at dksX2_orderOf_1 0 rfl rfl)
theorem dX2_orderOf_25 : decode cX2_orderOf 25 = .ok (.if_icmp .eq 36, 3) := dk_159 0 36 (dk_at dksX2_orderOf_1 2 rfl rfl)
theorem dX2_orderOf_28 : decode cX2_orderOf 28 = .ok (.iload_n 3, 1) := dk_29 (dk_at dksX2_orderOf_1 5 rfl rfl)
theorem dX2_orderOf_29 : decode cX2_orderOf 29 = .ok (.ifCond .ge 20, 3) := dk_156 0 20 (dk_at dksX2_orderOf_1 6 rfl rfl)
theorem dX2_orderOf_32 : decode cX2_orderOf 32 = .ok (.iload 4, 2) := dk_21 4 (dk_at dksX2_orderOf_1 9 rfl rfl)
theorem dX2_orderOf_34 : decode cX2_orderOf 34 = .ok (.ifCond .ge 15, 3) := dk_156 0 15 (dk_at dksX2_orderOf_1 11 rfl rfl)
theorem dX2_orderOf_37 : decode cX2_orderOf 37 = .ok (.iload_n 3, 1) := dk_29 (dk_at dksX2_orderOf_1 14 rfl rfl)
theorem dX2_orderOf_38 : decode cX2_orderOf 38 = .ok (.iload 4, 2) := dk_21 4 (dk_at dksX2_orderOf_1 15 rfl rfl)
theorem dX2_orderOf_40 : decode cX2_orderOf 40 = .ok (.if_icmp .le 7, 3) := dk_164 0 7 (dk_at dksX2_orderOf_1 17 rfl rfl)
theorem dX2_orderOf_43 : decode cX2_orderOf 43 = .ok (.iconst (-1), 1) := dk_2 (dk_at dksX2_orderOf_1 20 rfl rfl)
theorem dX2_orderOf_44 : decode cX2_orderOf 44 = .ok (.goto 4, 3) := dk_167 0 4 (dk_at dksX2_orderOf_1 21 rfl rfl)
theorem dX2_orderOf_47 : decode cX2_orderOf 47 = .ok (.iconst 1, 1) := dk_4 (dk_at dksX2_orderOf_2 0 rfl rfl)
theorem dX2_orderOf_48 : decode cX2_orderOf 48 = .ok (.ireturn, 1) := dk_172 (dk_at dksX2_orderOf_2 1 rfl rfl)
theorem dX2_orderOf_49 : decode cX2_orderOf 49 = .ok (.iload_n 3, 1) := dk_29 (dk_at dksX2_orderOf_2 2 rfl rfl)
theorem dX2_orderOf_50 : decode cX2_orderOf 50 = .ok (.iload 4, 2) := dk_21 4 (dk_at dksX2_orderOf_2 3 rfl rfl)
theorem dX2_orderOf_52 : decode cX2_orderOf 52 = .ok (.if_icmp .ge 7, 3) := dk_162 0 7 (dk_at dksX2_orderOf_2 5 rfl rfl)
theorem dX2_orderOf_55 : decode cX2_orderOf 55 = .ok (.iconst (-1), 1) := dk_2 (dk_at dksX2_orderOf_2 8 rfl rfl)
theorem dX2_orderOf_56 : decode cX2_orderOf 56 = .ok (.goto 4, 3) := dk_167 0 4 (dk_at dksX2_orderOf_2 9 rfl rfl)
theorem dX2_orderOf_59 : decode cX2_orderOf 59 = .ok (.iconst 1, 1) := dk_4 (dk_at dksX2_orderOf_2 12 rfl rfl)
theorem dX2_orderOf_60 : decode cX2_orderOf 60 = .ok (.ireturn, 1) := dk_172 (dk_at dksX2_orderOf_2 13 rfl rfl)
theorem dX2_orderOf_61 : decode cX2_orderOf 61 = .ok (.aload_n 0, 1) := dk_42 (dk_at dksX2_orderOf_2 14 rfl rfl)
theorem dX2_orderOf_62 : decode cX2_orderOf 62 = .ok (.getfield 187, 3) := dk_180 0 187 (dk_at dksX2_orderOf_2 15 rfl rfl)
theorem dX2_orderOf_65 : decode cX2_orderOf 65 = .ok (.iload_n 1, 1) := dk_27 (dk_at dksX2_orderOf_2 18 rfl rfl)
theorem dX2_orderOf_66 : decode cX2_orderOf 66 = .ok (.iaload, 1) := dk_46 (dk_at dksX2_orderOf_2 19 rfl rfl)
theorem dX2_orderOf_67 : decode cX2_orderOf 67 = .ok (.aload_n 0, 1) := dk_42 (dk_at dksX2_orderOf_2 20 rfl rfl)
theorem dX2_orderOf_68 : decode cX2_orderOf 68 = .ok (.getfield 187, 3) := dk_180 0 187 (dk_at dksX2_orderOf_2 21 rfl rfl)
theorem dX2_orderOf_71 : decode cX2_orderOf 71 = .ok (.iload_n 2, 1) := dk_28 (dk_at dksX2_orderOf_3 0 rfl rfl)
theorem dX2_orderOf_72 : decode cX2_orderOf 72 = .ok (.iaload, 1) := dk_46 (dk_at dksX2_orderOf_3 1 rfl rfl)
theorem dX2_orderOf_73 : decode cX2_orderOf 73 = .ok (.if_icmp .eq 24, 3) := dk_159 0 24 (dk_at dksX2_orderOf_3 2 rfl rfl)
theorem dX2_orderOf_76 : decode cX2_orderOf 76 = .ok (.aload_n 0, 1) := dk_42 (dk_at dksX2_orderOf_3 5 rfl rfl)
theorem dX2_orderOf_77 : decode cX2_orderOf 77 = .ok (.getfield 187, 3) := dk_180 0 187 (dk_at dksX2_orderOf_3 6 rfl rfl)
theorem dX2_orderOf_80 : decode cX2_orderOf 80 = .ok (.iload_n 1, 1) := dk_27 (dk_at dksX2_orderOf_3 9 rfl rfl)
theorem dX2_orderOf_81 : decode cX2_orderOf 81 = .ok (.iaload, 1) := dk_46 (dk_at dksX2_orderOf_3 10 rfl rfl)
theorem dX2_orderOf_82 : decode cX2_orderOf 82 = .ok (.aload_n 0, 1) := dk_42 (dk_at dksX2_orderOf_3 11 rfl rfl)
theorem dX2_orderOf_83 : decode cX2_orderOf 83 = .ok (.getfield 187, 3) := dk_180 0 187 (dk_at dksX2_orderOf_3 12 rfl rfl)
theorem dX2_orderOf_86 : decode cX2_orderOf 86 = .ok (.iload_n 2, 1) := dk_28 (dk_at dksX2_orderOf_3 15 rfl rfl)
theorem dX2_orderOf_87 : decode cX2_orderOf 87 = .ok (.iaload, 1) := dk_46 (dk_at dksX2_orderOf_3 16 rfl rfl)
theorem dX2_orderOf_88 : decode cX2_orderOf 88 = .ok (.if_icmp .ge 7, 3) := dk_162 0 7 (dk_at dksX2_orderOf_3 17 rfl rfl)
theorem dX2_orderOf_91 : decode cX2_orderOf 91 = .ok (.iconst (-1), 1) := dk_2 (dk_at dksX2_orderOf_3 20 rfl rfl)
theorem dX2_orderOf_92 : decode cX2_orderOf 92 = .ok (.goto 4, 3) := dk_167 0 4 (dk_at dksX2_orderOf_3 21 rfl rfl)
theorem dX2_orderOf_95 : decode cX2_orderOf 95 = .ok (.iconst 1, 1) := dk_4 (dk_at dksX2_orderOf_4 0 rfl rfl)
theorem dX2_orderOf_96 : decode cX2_orderOf 96 = .ok (.ireturn, 1) := dk_172 (dk_at dksX2_orderOf_4 1 rfl rfl)
theorem dX2_orderOf_97 : decode cX2_orderOf 97 = .ok (.iconst 0, 1) := dk_3 (dk_at dksX2_orderOf_4 2 rfl rfl)
theorem dX2_orderOf_98 : decode cX2_orderOf 98 = .ok (.istore 5, 2) := dk_54 5 (dk_at dksX2_orderOf_4 3 rfl rfl)
theorem dX2_orderOf_100 : decode cX2_orderOf 100 = .ok (.iload 5, 2) := dk_21 5 (dk_at dksX2_orderOf_4 5 rfl rfl)
theorem dX2_orderOf_102 : decode cX2_orderOf 102 = .ok (.aload_n 0, 1) := dk_42 (dk_at dksX2_orderOf_4 7 rfl rfl)
theorem dX2_orderOf_103 : decode cX2_orderOf 103 = .ok (.getfield 187, 3) := dk_180 0 187 (dk_at dksX2_orderOf_4 8 rfl rfl)
theorem dX2_orderOf_106 : decode cX2_orderOf 106 = .ok (.iload_n 1, 1) := dk_27 (dk_at dksX2_orderOf_4 11 rfl rfl)
theorem dX2_orderOf_107 : decode cX2_orderOf 107 = .ok (.iaload, 1) := dk_46 (dk_at dksX2_orderOf_4 12 rfl rfl)
theorem dX2_orderOf_108 : decode cX2_orderOf 108 = .ok (.if_icmp .ge 37, 3) := dk_162 0 37 (dk_at dksX2_orderOf_4 13 rfl rfl)
theorem dX2_orderOf_111 : decode cX2_orderOf 111 = .ok (.aload_n 0, 1) := dk_42 (dk_at dksX2_orderOf_4 16 rfl rfl)
theorem dX2_orderOf_112 : decode cX2_orderOf 112 = .ok (.aload_n 0, 1) := dk_42 (dk_at dksX2_orderOf_4 17 rfl rfl)
theorem dX2_orderOf_113 : decode cX2_orderOf 113 = .ok (.iload_n 1, 1) := dk_27 (dk_at dksX2_orderOf_4 18 rfl rfl)
theorem dX2_orderOf_114 : decode cX2_orderOf 114 = .ok (.iload 5, 2) := dk_21 5 (dk_at dksX2_orderOf_4 19 rfl rfl)
theorem dX2_orderOf_116 : decode cX2_orderOf 116 = .ok (.invokevirtual 691, 3) := dk_182 2 179 (dk_at dksX2_orderOf_4 21 rfl rfl)
theorem dX2_orderOf_119 : decode cX2_orderOf 119 = .ok (.aload_n 0, 1) := dk_42 (dk_at dksX2_orderOf_5 0 rfl rfl)
theorem dX2_orderOf_120 : decode cX2_orderOf 120 = .ok (.iload_n 2, 1) := dk_28 (dk_at dksX2_orderOf_5 1 rfl rfl)
theorem dX2_orderOf_121 : decode cX2_orderOf 121 = .ok (.iload 5, 2) := dk_21 5 (dk_at dksX2_orderOf_5 2 rfl rfl)
theorem dX2_orderOf_123 : decode cX2_orderOf 123 = .ok (.invokevirtual 691, 3) := dk_182 2 179 (dk_at dksX2_orderOf_5 4 rfl rfl)
theorem dX2_orderOf_126 : decode cX2_orderOf 126 = .ok (.invokestatic 703, 3) := dk_184 2 191 (dk_at dksX2_orderOf_5 7 rfl rfl)
theorem dX2_orderOf_129 : decode cX2_orderOf 129 = .ok (.istore 6, 2) := dk_54 6 (dk_at dksX2_orderOf_5 10 rfl rfl)
theorem dX2_orderOf_131 : decode cX2_orderOf 131 = .ok (.iload 6, 2) := dk_21 6 (dk_at dksX2_orderOf_5 12 rfl rfl)
theorem dX2_orderOf_133 : decode cX2_orderOf 133 = .ok (.ifCond .eq 6, 3) := dk_153 0 6 (dk_at dksX2_orderOf_5 14 rfl rfl)
theorem dX2_orderOf_136 : decode cX2_orderOf 136 = .ok (.iload 6, 2) := dk_21 6 (dk_at dksX2_orderOf_5 17 rfl rfl)
theorem dX2_orderOf_138 : decode cX2_orderOf 138 = .ok (.ireturn, 1) := dk_172 (dk_at dksX2_orderOf_5 19 rfl rfl)
theorem dX2_orderOf_139 : decode cX2_orderOf 139 = .ok (.iinc 5 1, 3) := dk_132 5 1 (dk_at dksX2_orderOf_5 20 rfl rfl)
theorem dX2_orderOf_142 : decode cX2_orderOf 142 = .ok (.goto (-42), 3) := dk_167 255 214 (dk_at dksX2_orderOf_6 0 rfl rfl)
theorem dX2_orderOf_145 : decode cX2_orderOf 145 = .ok (.iconst 0, 1) := dk_3 (dk_at dksX2_orderOf_6 3 rfl rfl)
theorem dX2_orderOf_146 : decode cX2_orderOf 146 = .ok (.ireturn, 1) := dk_172 (dk_at dksX2_orderOf_6 4 rfl rfl)
abbrev cX2_isVar : ByteArray := prog_4_method_60_code
def yX2_isVar : MethodName := ⟨RX2, "isVar", "(I)Z"⟩
def dkwX2_isVar_0 : List UInt8 := [42, 180, 0, 181, 27, 46, 156, 0, 7, 4, 167, 0, 4, 3, 172]
abbrev dktX2_isVar_0 : List UInt8 := dkwX2_isVar_0 ++ []
theorem dksX2_isVar_0 : cX2_isVar.data.toList.drop 0 = dktX2_isVar_0 := by decide +kernel
theorem dX2_isVar_0 : decode cX2_isVar 0 = .ok (.aload_n 0, 1) := dk_42 (dk_at dksX2_isVar_0 0 rfl rfl)
theorem dX2_isVar_1 : decode cX2_isVar 1 = .ok (.getfield 181, 3) := dk_180 0 181 (dk_at dksX2_isVar_0 1 rfl rfl)
theorem dX2_isVar_4 : decode cX2_isVar 4 = .ok (.iload_n 1, 1) := dk_27 (dk_at dksX2_isVar_0 4 rfl rfl)
theorem dX2_isVar_5 : decode cX2_isVar 5 = .ok (.iaload, 1) := dk_46 (dk_at dksX2_isVar_0 5 rfl rfl)
theorem dX2_isVar_6 : decode cX2_isVar 6 = .ok (.ifCond .ge 7, 3) := dk_156 0 7 (dk_at dksX2_isVar_0 6 rfl rfl)
theorem dX2_isVar_9 : decode cX2_isVar 9 = .ok (.iconst 1, 1) := dk_4 (dk_at dksX2_isVar_0 9 rfl rfl)
theorem dX2_isVar_10 : decode cX2_isVar 10 = .ok (.goto 4, 3) := dk_167 0 4 (dk_at dksX2_isVar_0 10 rfl rfl)
theorem dX2_isVar_13 : decode cX2_isVar 13 = .ok (.iconst 0, 1) := dk_3 (dk_at dksX2_isVar_0 13 rfl rfl)
theorem dX2_isVar_14 : decode cX2_isVar 14 = .ok (.ireturn, 1) := dk_172 (dk_at dksX2_isVar_0 14 rfl rfl)
abbrev cX2_varsOf : ByteArray := prog_4_method_85_code
def yX2_varsOf : MethodName := ⟨RX2, "varsOf", "(LRewriteHouseModel;I)J"⟩
def dkwX2_varsOf_2 : List UInt8 := [132, 4, 1, 167, 255, 228, 32, 173]
abbrev dktX2_varsOf_2 : List UInt8 := dkwX2_varsOf_2 ++ []
def dkwX2_varsOf_1 : List UInt8 := [180, 0, 187, 27, 46, 162, 0, 23, 32, 42, 42, 27, 21, 4, 182, 2, 179, 184, 3, 19, 129, 65]
abbrev dktX2_varsOf_1 : List UInt8 := dkwX2_varsOf_1 ++ dktX2_varsOf_2
def dkwX2_varsOf_0 : List UInt8 := [42, 27, 182, 2, 185, 153, 0, 11, 10, 42, 27, 182, 2, 188, 121, 173, 9, 65, 3, 54, 4, 21, 4, 42]
abbrev dktX2_varsOf_0 : List UInt8 := dkwX2_varsOf_0 ++ dktX2_varsOf_1
theorem dksX2_varsOf_0 : cX2_varsOf.data.toList.drop 0 = dktX2_varsOf_0 := by decide +kernel
theorem dksX2_varsOf_1 : cX2_varsOf.data.toList.drop 24 = dktX2_varsOf_1 := dk_seg dksX2_varsOf_0 24 rfl rfl
theorem dksX2_varsOf_2 : cX2_varsOf.data.toList.drop 46 = dktX2_varsOf_2 := dk_seg dksX2_varsOf_1 22 rfl rfl
theorem dX2_varsOf_0 : decode cX2_varsOf 0 = .ok (.aload_n 0, 1) := dk_42 (dk_at dksX2_varsOf_0 0 rfl rfl)
theorem dX2_varsOf_1 : decode cX2_varsOf 1 = .ok (.iload_n 1, 1) := dk_27 (dk_at dksX2_varsOf_0 1 rfl rfl)
theorem dX2_varsOf_2 : decode cX2_varsOf 2 = .ok (.invokevirtual 697, 3) := dk_182 2 185 (dk_at dksX2_varsOf_0 2 rfl rfl)
theorem dX2_varsOf_5 : decode cX2_varsOf 5 = .ok (.ifCond .eq 11, 3) := dk_153 0 11 (dk_at dksX2_varsOf_0 5 rfl rfl)
theorem dX2_varsOf_8 : decode cX2_varsOf 8 = .ok (.lconst 1, 1) := dk_10 (dk_at dksX2_varsOf_0 8 rfl rfl)
theorem dX2_varsOf_9 : decode cX2_varsOf 9 = .ok (.aload_n 0, 1) := dk_42 (dk_at dksX2_varsOf_0 9 rfl rfl)
theorem dX2_varsOf_10 : decode cX2_varsOf 10 = .ok (.iload_n 1, 1) := dk_27 (dk_at dksX2_varsOf_0 10 rfl rfl)
theorem dX2_varsOf_11 : decode cX2_varsOf 11 = .ok (.invokevirtual 700, 3) := dk_182 2 188 (dk_at dksX2_varsOf_0 11 rfl rfl)
theorem dX2_varsOf_14 : decode cX2_varsOf 14 = .ok (.lshl, 1) := dk_121 (dk_at dksX2_varsOf_0 14 rfl rfl)
theorem dX2_varsOf_15 : decode cX2_varsOf 15 = .ok (.lreturn, 1) := dk_173 (dk_at dksX2_varsOf_0 15 rfl rfl)
theorem dX2_varsOf_16 : decode cX2_varsOf 16 = .ok (.lconst 0, 1) := dk_9 (dk_at dksX2_varsOf_0 16 rfl rfl)
theorem dX2_varsOf_17 : decode cX2_varsOf 17 = .ok (.lstore_n 2, 1) := dk_65 (dk_at dksX2_varsOf_0 17 rfl rfl)
theorem dX2_varsOf_18 : decode cX2_varsOf 18 = .ok (.iconst 0, 1) := dk_3 (dk_at dksX2_varsOf_0 18 rfl rfl)
theorem dX2_varsOf_19 : decode cX2_varsOf 19 = .ok (.istore 4, 2) := dk_54 4 (dk_at dksX2_varsOf_0 19 rfl rfl)
theorem dX2_varsOf_21 : decode cX2_varsOf 21 = .ok (.iload 4, 2) := dk_21 4 (dk_at dksX2_varsOf_0 21 rfl rfl)
theorem dX2_varsOf_23 : decode cX2_varsOf 23 = .ok (.aload_n 0, 1) := dk_42 (dk_at dksX2_varsOf_0 23 rfl rfl)
theorem dX2_varsOf_24 : decode cX2_varsOf 24 = .ok (.getfield 187, 3) := dk_180 0 187 (dk_at dksX2_varsOf_1 0 rfl rfl)
theorem dX2_varsOf_27 : decode cX2_varsOf 27 = .ok (.iload_n 1, 1) := dk_27 (dk_at dksX2_varsOf_1 3 rfl rfl)
theorem dX2_varsOf_28 : decode cX2_varsOf 28 = .ok (.iaload, 1) := dk_46 (dk_at dksX2_varsOf_1 4 rfl rfl)
theorem dX2_varsOf_29 : decode cX2_varsOf 29 = .ok (.if_icmp .ge 23, 3) := dk_162 0 23 (dk_at dksX2_varsOf_1 5 rfl rfl)
theorem dX2_varsOf_32 : decode cX2_varsOf 32 = .ok (.lload_n 2, 1) := dk_32 (dk_at dksX2_varsOf_1 8 rfl rfl)
theorem dX2_varsOf_33 : decode cX2_varsOf 33 = .ok (.aload_n 0, 1) := dk_42 (dk_at dksX2_varsOf_1 9 rfl rfl)
theorem dX2_varsOf_34 : decode cX2_varsOf 34 = .ok (.aload_n 0, 1) := dk_42 (dk_at dksX2_varsOf_1 10 rfl rfl)
theorem dX2_varsOf_35 : decode cX2_varsOf 35 = .ok (.iload_n 1, 1) := dk_27 (dk_at dksX2_varsOf_1 11 rfl rfl)
theorem dX2_varsOf_36 : decode cX2_varsOf 36 = .ok (.iload 4, 2) := dk_21 4 (dk_at dksX2_varsOf_1 12 rfl rfl)
theorem dX2_varsOf_38 : decode cX2_varsOf 38 = .ok (.invokevirtual 691, 3) := dk_182 2 179 (dk_at dksX2_varsOf_1 14 rfl rfl)
theorem dX2_varsOf_41 : decode cX2_varsOf 41 = .ok (.invokestatic 787, 3) := dk_184 3 19 (dk_at dksX2_varsOf_1 17 rfl rfl)
theorem dX2_varsOf_44 : decode cX2_varsOf 44 = .ok (.lor, 1) := dk_129 (dk_at dksX2_varsOf_1 20 rfl rfl)
theorem dX2_varsOf_45 : decode cX2_varsOf 45 = .ok (.lstore_n 2, 1) := dk_65 (dk_at dksX2_varsOf_1 21 rfl rfl)
theorem dX2_varsOf_46 : decode cX2_varsOf 46 = .ok (.iinc 4 1, 3) := dk_132 4 1 (dk_at dksX2_varsOf_2 0 rfl rfl)
theorem dX2_varsOf_49 : decode cX2_varsOf 49 = .ok (.goto (-28), 3) := dk_167 255 228 (dk_at dksX2_varsOf_2 3 rfl rfl)
theorem dX2_varsOf_52 : decode cX2_varsOf 52 = .ok (.lload_n 2, 1) := dk_32 (dk_at dksX2_varsOf_2 6 rfl rfl)
theorem dX2_varsOf_53 : decode cX2_varsOf 53 = .ok (.lreturn, 1) := dk_173 (dk_at dksX2_varsOf_2 7 rfl rfl)
abbrev cX2_varOf : ByteArray := prog_4_method_61_code
def yX2_varOf : MethodName := ⟨RX2, "varOf", "(I)I"⟩
def dkwX2_varOf_0 : List UInt8 := [2, 42, 180, 0, 181, 27, 46, 100, 172]
abbrev dktX2_varOf_0 : List UInt8 := dkwX2_varOf_0 ++ []
theorem dksX2_varOf_0 : cX2_varOf.data.toList.drop 0 = dktX2_varOf_0 := by decide +kernel
theorem dX2_varOf_0 : decode cX2_varOf 0 = .ok (.iconst (-1), 1) := dk_2 (dk_at dksX2_varOf_0 0 rfl rfl)
theorem dX2_varOf_1 : decode cX2_varOf 1 = .ok (.aload_n 0, 1) := dk_42 (dk_at dksX2_varOf_0 1 rfl rfl)
theorem dX2_varOf_2 : decode cX2_varOf 2 = .ok (.getfield 181, 3) := dk_180 0 181 (dk_at dksX2_varOf_0 2 rfl rfl)
theorem dX2_varOf_5 : decode cX2_varOf 5 = .ok (.iload_n 1, 1) := dk_27 (dk_at dksX2_varOf_0 5 rfl rfl)
theorem dX2_varOf_6 : decode cX2_varOf 6 = .ok (.iaload, 1) := dk_46 (dk_at dksX2_varOf_0 6 rfl rfl)
theorem dX2_varOf_7 : decode cX2_varOf 7 = .ok (.isub, 1) := dk_100 (dk_at dksX2_varOf_0 7 rfl rfl)
theorem dX2_varOf_8 : decode cX2_varOf 8 = .ok (.ireturn, 1) := dk_172 (dk_at dksX2_varOf_0 8 rfl rfl)
abbrev cX2_mustKnow : ByteArray := prog_4_method_87_code
def yX2_mustKnow : MethodName := ⟨RX2, "mustKnow", "(II)V"⟩
def dkwX2_mustKnow_1 : List UInt8 := [180, 0, 33, 42, 180, 0, 111, 28, 46, 46, 182, 1, 178, 177]
abbrev dktX2_mustKnow_1 : List UInt8 := dkwX2_mustKnow_1 ++ []
def dkwX2_mustKnow_0 : List UInt8 := [42, 27, 184, 3, 19, 42, 180, 3, 26, 20, 3, 30, 131, 127, 9, 148, 153, 0, 20, 42, 16, 8, 42]
abbrev dktX2_mustKnow_0 : List UInt8 := dkwX2_mustKnow_0 ++ dktX2_mustKnow_1
theorem dksX2_mustKnow_0 : cX2_mustKnow.data.toList.drop 0 = dktX2_mustKnow_0 := by decide +kernel
theorem dksX2_mustKnow_1 : cX2_mustKnow.data.toList.drop 23 = dktX2_mustKnow_1 := dk_seg dksX2_mustKnow_0 23 rfl rfl
theorem dX2_mustKnow_0 : decode cX2_mustKnow 0 = .ok (.aload_n 0, 1) := dk_42 (dk_at dksX2_mustKnow_0 0 rfl rfl)
theorem dX2_mustKnow_1 : decode cX2_mustKnow 1 = .ok (.iload_n 1, 1) := dk_27 (dk_at dksX2_mustKnow_0 1 rfl rfl)
theorem dX2_mustKnow_2 : decode cX2_mustKnow 2 = .ok (.invokestatic 787, 3) := dk_184 3 19 (dk_at dksX2_mustKnow_0 2 rfl rfl)
theorem dX2_mustKnow_5 : decode cX2_mustKnow 5 = .ok (.aload_n 0, 1) := dk_42 (dk_at dksX2_mustKnow_0 5 rfl rfl)
theorem dX2_mustKnow_6 : decode cX2_mustKnow 6 = .ok (.getfield 794, 3) := dk_180 3 26 (dk_at dksX2_mustKnow_0 6 rfl rfl)
theorem dX2_mustKnow_9 : decode cX2_mustKnow 9 = .ok (.ldc2_w 798, 3) := dk_20 3 30 (dk_at dksX2_mustKnow_0 9 rfl rfl)
theorem dX2_mustKnow_12 : decode cX2_mustKnow 12 = .ok (.lxor, 1) := dk_131 (dk_at dksX2_mustKnow_0 12 rfl rfl)
theorem dX2_mustKnow_13 : decode cX2_mustKnow 13 = .ok (.land, 1) := dk_127 (dk_at dksX2_mustKnow_0 13 rfl rfl)
theorem dX2_mustKnow_14 : decode cX2_mustKnow 14 = .ok (.lconst 0, 1) := dk_9 (dk_at dksX2_mustKnow_0 14 rfl rfl)
theorem dX2_mustKnow_15 : decode cX2_mustKnow 15 = .ok (.lcmp, 1) := dk_148 (dk_at dksX2_mustKnow_0 15 rfl rfl)
theorem dX2_mustKnow_16 : decode cX2_mustKnow 16 = .ok (.ifCond .eq 20, 3) := dk_153 0 20 (dk_at dksX2_mustKnow_0 16 rfl rfl)
theorem dX2_mustKnow_19 : decode cX2_mustKnow 19 = .ok (.aload_n 0, 1) := dk_42 (dk_at dksX2_mustKnow_0 19 rfl rfl)
theorem dX2_mustKnow_20 : decode cX2_mustKnow 20 = .ok (.bipush 8, 2) := dk_16 8 (dk_at dksX2_mustKnow_0 20 rfl rfl)
theorem dX2_mustKnow_22 : decode cX2_mustKnow 22 = .ok (.aload_n 0, 1) := dk_42 (dk_at dksX2_mustKnow_0 22 rfl rfl)
theorem dX2_mustKnow_23 : decode cX2_mustKnow 23 = .ok (.getfield 33, 3) := dk_180 0 33 (dk_at dksX2_mustKnow_1 0 rfl rfl)
theorem dX2_mustKnow_26 : decode cX2_mustKnow 26 = .ok (.aload_n 0, 1) := dk_42 (dk_at dksX2_mustKnow_1 3 rfl rfl)
theorem dX2_mustKnow_27 : decode cX2_mustKnow 27 = .ok (.getfield 111, 3) := dk_180 0 111 (dk_at dksX2_mustKnow_1 4 rfl rfl)
theorem dX2_mustKnow_30 : decode cX2_mustKnow 30 = .ok (.iload_n 2, 1) := dk_28 (dk_at dksX2_mustKnow_1 7 rfl rfl)
theorem dX2_mustKnow_31 : decode cX2_mustKnow 31 = .ok (.iaload, 1) := dk_46 (dk_at dksX2_mustKnow_1 8 rfl rfl)
theorem dX2_mustKnow_32 : decode cX2_mustKnow 32 = .ok (.iaload, 1) := dk_46 (dk_at dksX2_mustKnow_1 9 rfl rfl)
theorem dX2_mustKnow_33 : decode cX2_mustKnow 33 = .ok (.invokevirtual 434, 3) := dk_182 1 178 (dk_at dksX2_mustKnow_1 10 rfl rfl)
theorem dX2_mustKnow_36 : decode cX2_mustKnow 36 = .ok (.return_, 1) := dk_177 (dk_at dksX2_mustKnow_1 13 rfl rfl)
abbrev cX2_kindOfTerm : ByteArray := prog_4_method_68_code
def yX2_kindOfTerm : MethodName := ⟨RX2, "kindOfTerm", "(I)I"⟩
def dkwX2_kindOfTerm_1 : List UInt8 := [167, 0, 14, 42, 180, 0, 162, 42, 180, 0, 181, 27, 46, 46, 172]
abbrev dktX2_kindOfTerm_1 : List UInt8 := dkwX2_kindOfTerm_1 ++ []
def dkwX2_kindOfTerm_0 : List UInt8 := [42, 27, 182, 2, 185, 153, 0, 20, 42, 180, 0, 132, 42, 42, 27, 182, 2, 188, 182, 2, 176, 46]
abbrev dktX2_kindOfTerm_0 : List UInt8 := dkwX2_kindOfTerm_0 ++ dktX2_kindOfTerm_1
theorem dksX2_kindOfTerm_0 : cX2_kindOfTerm.data.toList.drop 0 = dktX2_kindOfTerm_0 := by decide +kernel
theorem dksX2_kindOfTerm_1 : cX2_kindOfTerm.data.toList.drop 22 = dktX2_kindOfTerm_1 := dk_seg dksX2_kindOfTerm_0 22 rfl rfl
theorem dX2_kindOfTerm_0 : decode cX2_kindOfTerm 0 = .ok (.aload_n 0, 1) := dk_42 (dk_at dksX2_kindOfTerm_0 0 rfl rfl)
theorem dX2_kindOfTerm_1 : decode cX2_kindOfTerm 1 = .ok (.iload_n 1, 1) := dk_27 (dk_at dksX2_kindOfTerm_0 1 rfl rfl)
theorem dX2_kindOfTerm_2 : decode cX2_kindOfTerm 2 = .ok (.invokevirtual 697, 3) := dk_182 2 185 (dk_at dksX2_kindOfTerm_0 2 rfl rfl)
theorem dX2_kindOfTerm_5 : decode cX2_kindOfTerm 5 = .ok (.ifCond .eq 20, 3) := dk_153 0 20 (dk_at dksX2_kindOfTerm_0 5 rfl rfl)
theorem dX2_kindOfTerm_8 : decode cX2_kindOfTerm 8 = .ok (.aload_n 0, 1) := dk_42 (dk_at dksX2_kindOfTerm_0 8 rfl rfl)
theorem dX2_kindOfTerm_9 : decode cX2_kindOfTerm 9 = .ok (.getfield 132, 3) := dk_180 0 132 (dk_at dksX2_kindOfTerm_0 9 rfl rfl)
theorem dX2_kindOfTerm_12 : decode cX2_kindOfTerm 12 = .ok (.aload_n 0, 1) := dk_42 (dk_at dksX2_kindOfTerm_0 12 rfl rfl)
theorem dX2_kindOfTerm_13 : decode cX2_kindOfTerm 13 = .ok (.aload_n 0, 1) := dk_42 (dk_at dksX2_kindOfTerm_0 13 rfl rfl)
theorem dX2_kindOfTerm_14 : decode cX2_kindOfTerm 14 = .ok (.iload_n 1, 1) := dk_27 (dk_at dksX2_kindOfTerm_0 14 rfl rfl)
theorem dX2_kindOfTerm_15 : decode cX2_kindOfTerm 15 = .ok (.invokevirtual 700, 3) := dk_182 2 188 (dk_at dksX2_kindOfTerm_0 15 rfl rfl)
theorem dX2_kindOfTerm_18 : decode cX2_kindOfTerm 18 = .ok (.invokevirtual 688, 3) := dk_182 2 176 (dk_at dksX2_kindOfTerm_0 18 rfl rfl)
theorem dX2_kindOfTerm_21 : decode cX2_kindOfTerm 21 = .ok (.iaload, 1) := dk_46 (dk_at dksX2_kindOfTerm_0 21 rfl rfl)
theorem dX2_kindOfTerm_22 : decode cX2_kindOfTerm 22 = .ok (.goto 14, 3) := dk_167 0 14 (dk_at dksX2_kindOfTerm_1 0 rfl rfl)
theorem dX2_kindOfTerm_25 : decode cX2_kindOfTerm 25 = .ok (.aload_n 0, 1) := dk_42 (dk_at dksX2_kindOfTerm_1 3 rfl rfl)
theorem dX2_kindOfTerm_26 : decode cX2_kindOfTerm 26 = .ok (.getfield 162, 3) := dk_180 0 162 (dk_at dksX2_kindOfTerm_1 4 rfl rfl)
theorem dX2_kindOfTerm_29 : decode cX2_kindOfTerm 29 = .ok (.aload_n 0, 1) := dk_42 (dk_at dksX2_kindOfTerm_1 7 rfl rfl)
theorem dX2_kindOfTerm_30 : decode cX2_kindOfTerm 30 = .ok (.getfield 181, 3) := dk_180 0 181 (dk_at dksX2_kindOfTerm_1 8 rfl rfl)
theorem dX2_kindOfTerm_33 : decode cX2_kindOfTerm 33 = .ok (.iload_n 1, 1) := dk_27 (dk_at dksX2_kindOfTerm_1 11 rfl rfl)
theorem dX2_kindOfTerm_34 : decode cX2_kindOfTerm 34 = .ok (.iaload, 1) := dk_46 (dk_at dksX2_kindOfTerm_1 12 rfl rfl)
theorem dX2_kindOfTerm_35 : decode cX2_kindOfTerm 35 = .ok (.iaload, 1) := dk_46 (dk_at dksX2_kindOfTerm_1 13 rfl rfl)
theorem dX2_kindOfTerm_36 : decode cX2_kindOfTerm 36 = .ok (.ireturn, 1) := dk_172 (dk_at dksX2_kindOfTerm_1 14 rfl rfl)
abbrev cX2_faultTold : ByteArray := prog_4_method_91_code
def yX2_faultTold : MethodName := ⟨RX2, "faultTold", "()I"⟩
def dkwX2_faultTold_3 : List UInt8 := [180, 0, 7, 180, 0, 11, 100, 172]
abbrev dktX2_faultTold_3 : List UInt8 := dkwX2_faultTold_3 ++ []
def dkwX2_faultTold_2 : List UInt8 := [51, 16, 10, 160, 0, 7, 4, 167, 0, 4, 3, 96, 181, 0, 43, 132, 1, 1, 167, 255, 209, 16, 246, 42]
abbrev dktX2_faultTold_2 : List UInt8 := dkwX2_faultTold_2 ++ dktX2_faultTold_3
def dkwX2_faultTold_1 : List UInt8 := [180, 0, 16, 162, 0, 42, 27, 42, 180, 1, 151, 162, 0, 34, 42, 42, 180, 0, 43, 42, 180, 0, 30, 27]
abbrev dktX2_faultTold_1 : List UInt8 := dkwX2_faultTold_1 ++ dktX2_faultTold_2
def dkwX2_faultTold_0 : List UInt8 := [42, 42, 180, 0, 7, 180, 0, 16, 181, 0, 40, 42, 4, 181, 0, 43, 3, 60, 27, 42, 180, 0, 7]
abbrev dktX2_faultTold_0 : List UInt8 := dkwX2_faultTold_0 ++ dktX2_faultTold_1
theorem dksX2_faultTold_0 : cX2_faultTold.data.toList.drop 0 = dktX2_faultTold_0 := by decide +kernel
theorem dksX2_faultTold_1 : cX2_faultTold.data.toList.drop 23 = dktX2_faultTold_1 := dk_seg dksX2_faultTold_0 23 rfl rfl
theorem dksX2_faultTold_2 : cX2_faultTold.data.toList.drop 47 = dktX2_faultTold_2 := dk_seg dksX2_faultTold_1 24 rfl rfl
theorem dksX2_faultTold_3 : cX2_faultTold.data.toList.drop 71 = dktX2_faultTold_3 := dk_seg dksX2_faultTold_2 24 rfl rfl
theorem dX2_faultTold_0 : decode cX2_faultTold 0 = .ok (.aload_n 0, 1) := dk_42 (dk_at dksX2_faultTold_0 0 rfl rfl)
theorem dX2_faultTold_1 : decode cX2_faultTold 1 = .ok (.aload_n 0, 1) := dk_42 (dk_at dksX2_faultTold_0 1 rfl rfl)
theorem dX2_faultTold_2 : decode cX2_faultTold 2 = .ok (.getfield 7, 3) := dk_180 0 7 (dk_at dksX2_faultTold_0 2 rfl rfl)
theorem dX2_faultTold_5 : decode cX2_faultTold 5 = .ok (.getfield 16, 3) := dk_180 0 16 (dk_at dksX2_faultTold_0 5 rfl rfl)
theorem dX2_faultTold_8 : decode cX2_faultTold 8 = .ok (.putfield 40, 3) := dk_181 0 40 (dk_at dksX2_faultTold_0 8 rfl rfl)
theorem dX2_faultTold_11 : decode cX2_faultTold 11 = .ok (.aload_n 0, 1) := dk_42 (dk_at dksX2_faultTold_0 11 rfl rfl)
theorem dX2_faultTold_12 : decode cX2_faultTold 12 = .ok (.iconst 1, 1) := dk_4 (dk_at dksX2_faultTold_0 12 rfl rfl)
theorem dX2_faultTold_13 : decode cX2_faultTold 13 = .ok (.putfield 43, 3) := dk_181 0 43 (dk_at dksX2_faultTold_0 13 rfl rfl)
theorem dX2_faultTold_16 : decode cX2_faultTold 16 = .ok (.iconst 0, 1) := dk_3 (dk_at dksX2_faultTold_0 16 rfl rfl)
theorem dX2_faultTold_17 : decode cX2_faultTold 17 = .ok (.istore_n 1, 1) := dk_60 (dk_at dksX2_faultTold_0 17 rfl rfl)
theorem dX2_faultTold_18 : decode cX2_faultTold 18 = .ok (.iload_n 1, 1) := dk_27 (dk_at dksX2_faultTold_0 18 rfl rfl)
theorem dX2_faultTold_19 : decode cX2_faultTold 19 = .ok (.aload_n 0, 1) := dk_42 (dk_at dksX2_faultTold_0 19 rfl rfl)
theorem dX2_faultTold_20 : decode cX2_faultTold 20 = .ok (.getfield 7, 3) := dk_180 0 7 (dk_at dksX2_faultTold_0 20 rfl rfl)
theorem dX2_faultTold_23 : decode cX2_faultTold 23 = .ok (.getfield 16, 3) := dk_180 0 16 (dk_at dksX2_faultTold_1 0 rfl rfl)
theorem dX2_faultTold_26 : decode cX2_faultTold 26 = .ok (.if_icmp .ge 42, 3) := dk_162 0 42 (dk_at dksX2_faultTold_1 3 rfl rfl)
theorem dX2_faultTold_29 : decode cX2_faultTold 29 = .ok (.iload_n 1, 1) := dk_27 (dk_at dksX2_faultTold_1 6 rfl rfl)
theorem dX2_faultTold_30 : decode cX2_faultTold 30 = .ok (.aload_n 0, 1) := dk_42 (dk_at dksX2_faultTold_1 7 rfl rfl)
theorem dX2_faultTold_31 : decode cX2_faultTold 31 = .ok (.getfield 407, 3) := dk_180 1 151 (dk_at dksX2_faultTold_1 8 rfl rfl)
theorem dX2_faultTold_34 : decode cX2_faultTold 34 = .ok (.if_icmp .ge 34, 3) := dk_162 0 34 (dk_at dksX2_faultTold_1 11 rfl rfl)
theorem dX2_faultTold_37 : decode cX2_faultTold 37 = .ok (.aload_n 0, 1) := dk_42 (dk_at dksX2_faultTold_1 14 rfl rfl)
theorem dX2_faultTold_38 : decode cX2_faultTold 38 = .ok (.aload_n 0, 1) := dk_42 (dk_at dksX2_faultTold_1 15 rfl rfl)
theorem dX2_faultTold_39 : decode cX2_faultTold 39 = .ok (.getfield 43, 3) := dk_180 0 43 (dk_at dksX2_faultTold_1 16 rfl rfl)
theorem dX2_faultTold_42 : decode cX2_faultTold 42 = .ok (.aload_n 0, 1) := dk_42 (dk_at dksX2_faultTold_1 19 rfl rfl)
theorem dX2_faultTold_43 : decode cX2_faultTold 43 = .ok (.getfield 30, 3) := dk_180 0 30 (dk_at dksX2_faultTold_1 20 rfl rfl)
theorem dX2_faultTold_46 : decode cX2_faultTold 46 = .ok (.iload_n 1, 1) := dk_27 (dk_at dksX2_faultTold_1 23 rfl rfl)
theorem dX2_faultTold_47 : decode cX2_faultTold 47 = .ok (.baload, 1) := dk_51 (dk_at dksX2_faultTold_2 0 rfl rfl)
theorem dX2_faultTold_48 : decode cX2_faultTold 48 = .ok (.bipush 10, 2) := dk_16 10 (dk_at dksX2_faultTold_2 1 rfl rfl)
theorem dX2_faultTold_50 : decode cX2_faultTold 50 = .ok (.if_icmp .ne 7, 3) := dk_160 0 7 (dk_at dksX2_faultTold_2 3 rfl rfl)
theorem dX2_faultTold_53 : decode cX2_faultTold 53 = .ok (.iconst 1, 1) := dk_4 (dk_at dksX2_faultTold_2 6 rfl rfl)
theorem dX2_faultTold_54 : decode cX2_faultTold 54 = .ok (.goto 4, 3) := dk_167 0 4 (dk_at dksX2_faultTold_2 7 rfl rfl)
theorem dX2_faultTold_57 : decode cX2_faultTold 57 = .ok (.iconst 0, 1) := dk_3 (dk_at dksX2_faultTold_2 10 rfl rfl)
theorem dX2_faultTold_58 : decode cX2_faultTold 58 = .ok (.iadd, 1) := dk_96 (dk_at dksX2_faultTold_2 11 rfl rfl)
theorem dX2_faultTold_59 : decode cX2_faultTold 59 = .ok (.putfield 43, 3) := dk_181 0 43 (dk_at dksX2_faultTold_2 12 rfl rfl)
theorem dX2_faultTold_62 : decode cX2_faultTold 62 = .ok (.iinc 1 1, 3) := dk_132 1 1 (dk_at dksX2_faultTold_2 15 rfl rfl)
theorem dX2_faultTold_65 : decode cX2_faultTold 65 = .ok (.goto (-47), 3) := dk_167 255 209 (dk_at dksX2_faultTold_2 18 rfl rfl)
theorem dX2_faultTold_68 : decode cX2_faultTold 68 = .ok (.bipush (-10), 2) := dk_16 246 (dk_at dksX2_faultTold_2 21 rfl rfl)
theorem dX2_faultTold_70 : decode cX2_faultTold 70 = .ok (.aload_n 0, 1) := dk_42 (dk_at dksX2_faultTold_2 23 rfl rfl)
theorem dX2_faultTold_71 : decode cX2_faultTold 71 = .ok (.getfield 7, 3) := dk_180 0 7 (dk_at dksX2_faultTold_3 0 rfl rfl)
theorem dX2_faultTold_74 : decode cX2_faultTold 74 = .ok (.getfield 11, 3) := dk_180 0 11 (dk_at dksX2_faultTold_3 3 rfl rfl)
theorem dX2_faultTold_77 : decode cX2_faultTold 77 = .ok (.isub, 1) := dk_100 (dk_at dksX2_faultTold_3 6 rfl rfl)
theorem dX2_faultTold_78 : decode cX2_faultTold 78 = .ok (.ireturn, 1) := dk_172 (dk_at dksX2_faultTold_3 7 rfl rfl)
abbrev cX2_fault : ByteArray := prog_4_method_93_code
def yX2_fault : MethodName := ⟨RX2, "fault", "(I)I"⟩
def dkwX2_fault_1 : List UInt8 := [180, 0, 43, 167, 0, 4, 2, 172]
abbrev dktX2_fault_1 : List UInt8 := dkwX2_fault_1 ++ []
def dkwX2_fault_0 : List UInt8 := [42, 3, 181, 0, 1, 27, 154, 0, 10, 42, 180, 0, 40, 167, 0, 16, 27, 4, 160, 0, 10, 42]
abbrev dktX2_fault_0 : List UInt8 := dkwX2_fault_0 ++ dktX2_fault_1
theorem dksX2_fault_0 : cX2_fault.data.toList.drop 0 = dktX2_fault_0 := by decide +kernel
theorem dksX2_fault_1 : cX2_fault.data.toList.drop 22 = dktX2_fault_1 := dk_seg dksX2_fault_0 22 rfl rfl
theorem dX2_fault_0 : decode cX2_fault 0 = .ok (.aload_n 0, 1) := dk_42 (dk_at dksX2_fault_0 0 rfl rfl)
theorem dX2_fault_1 : decode cX2_fault 1 = .ok (.iconst 0, 1) := dk_3 (dk_at dksX2_fault_0 1 rfl rfl)
theorem dX2_fault_2 : decode cX2_fault 2 = .ok (.putfield 1, 3) := dk_181 0 1 (dk_at dksX2_fault_0 2 rfl rfl)
theorem dX2_fault_5 : decode cX2_fault 5 = .ok (.iload_n 1, 1) := dk_27 (dk_at dksX2_fault_0 5 rfl rfl)
theorem dX2_fault_6 : decode cX2_fault 6 = .ok (.ifCond .ne 10, 3) := dk_154 0 10 (dk_at dksX2_fault_0 6 rfl rfl)
theorem dX2_fault_9 : decode cX2_fault 9 = .ok (.aload_n 0, 1) := dk_42 (dk_at dksX2_fault_0 9 rfl rfl)
theorem dX2_fault_10 : decode cX2_fault 10 = .ok (.getfield 40, 3) := dk_180 0 40 (dk_at dksX2_fault_0 10 rfl rfl)
theorem dX2_fault_13 : decode cX2_fault 13 = .ok (.goto 16, 3) := dk_167 0 16 (dk_at dksX2_fault_0 13 rfl rfl)
theorem dX2_fault_16 : decode cX2_fault 16 = .ok (.iload_n 1, 1) := dk_27 (dk_at dksX2_fault_0 16 rfl rfl)
theorem dX2_fault_17 : decode cX2_fault 17 = .ok (.iconst 1, 1) := dk_4 (dk_at dksX2_fault_0 17 rfl rfl)
theorem dX2_fault_18 : decode cX2_fault 18 = .ok (.if_icmp .ne 10, 3) := dk_160 0 10 (dk_at dksX2_fault_0 18 rfl rfl)
theorem dX2_fault_21 : decode cX2_fault 21 = .ok (.aload_n 0, 1) := dk_42 (dk_at dksX2_fault_0 21 rfl rfl)
theorem dX2_fault_22 : decode cX2_fault 22 = .ok (.getfield 43, 3) := dk_180 0 43 (dk_at dksX2_fault_1 0 rfl rfl)
theorem dX2_fault_25 : decode cX2_fault 25 = .ok (.goto 4, 3) := dk_167 0 4 (dk_at dksX2_fault_1 3 rfl rfl)
theorem dX2_fault_28 : decode cX2_fault 28 = .ok (.iconst (-1), 1) := dk_2 (dk_at dksX2_fault_1 6 rfl rfl)
theorem dX2_fault_29 : decode cX2_fault 29 = .ok (.ireturn, 1) := dk_172 (dk_at dksX2_fault_1 7 rfl rfl)
abbrev cX2_count : ByteArray := prog_4_method_94_code
def yX2_count : MethodName := ⟨RX2, "count", "(I)I"⟩
def dkwX2_count_4 : List UInt8 := [180, 3, 10, 172, 42, 180, 3, 13, 172, 2, 172]
abbrev dktX2_count_4 : List UInt8 := dkwX2_count_4 ++ []
def dkwX2_count_3 : List UInt8 := [172, 42, 180, 1, 253, 172, 42, 180, 2, 0, 172, 42, 180, 3, 1, 172, 42, 180, 3, 4, 172, 42]
abbrev dktX2_count_3 : List UInt8 := dkwX2_count_3 ++ dktX2_count_4
def dkwX2_count_2 : List UInt8 := [42, 180, 2, 9, 172, 42, 180, 2, 119, 172, 42, 180, 2, 131, 172, 42, 180, 2, 26, 172, 42, 180, 2, 23]
abbrev dktX2_count_2 : List UInt8 := dkwX2_count_2 ++ dktX2_count_3
def dkwX2_count_1 : List UInt8 := [170, 0, 0, 0, 0, 113, 0, 0, 0, 0, 0, 0, 0, 10, 0, 0, 0, 58, 0, 0, 0, 63, 0, 0, 0, 68, 0, 0, 0, 73, 0, 0, 0, 78, 0, 0, 0, 83, 0, 0, 0, 88, 0, 0, 0, 93, 0, 0, 0, 98, 0, 0, 0, 103, 0, 0, 0, 108]
abbrev dktX2_count_1 : List UInt8 := dkwX2_count_1 ++ dktX2_count_2
def dkwX2_count_0 : List UInt8 := [42, 3, 181, 0, 1, 27]
abbrev dktX2_count_0 : List UInt8 := dkwX2_count_0 ++ dktX2_count_1
theorem dksX2_count_0 : cX2_count.data.toList.drop 0 = dktX2_count_0 := by decide +kernel
theorem dksX2_count_1 : cX2_count.data.toList.drop 6 = dktX2_count_1 := dk_seg dksX2_count_0 6 rfl rfl
theorem dksX2_count_2 : cX2_count.data.toList.drop 64 = dktX2_count_2 := dk_seg dksX2_count_1 58 rfl rfl
theorem dksX2_count_3 : cX2_count.data.toList.drop 88 = dktX2_count_3 := dk_seg dksX2_count_2 24 rfl rfl
theorem dksX2_count_4 : cX2_count.data.toList.drop 110 = dktX2_count_4 := dk_seg dksX2_count_3 22 rfl rfl
theorem dX2_count_0 : decode cX2_count 0 = .ok (.aload_n 0, 1) := dk_42 (dk_at dksX2_count_0 0 rfl rfl)
theorem dX2_count_1 : decode cX2_count 1 = .ok (.iconst 0, 1) := dk_3 (dk_at dksX2_count_0 1 rfl rfl)
theorem dX2_count_2 : decode cX2_count 2 = .ok (.putfield 1, 3) := dk_181 0 1 (dk_at dksX2_count_0 2 rfl rfl)
theorem dX2_count_5 : decode cX2_count 5 = .ok (.iload_n 1, 1) := dk_27 (dk_at dksX2_count_0 5 rfl rfl)
theorem dX2_count_6 : decode cX2_count 6 = .ok (.tableswitch 113 0 10 #[58, 63, 68, 73, 78, 83, 88, 93, 98, 103, 108], 58) := by decide +kernel
theorem dX2_count_64 : decode cX2_count 64 = .ok (.aload_n 0, 1) := dk_42 (dk_at dksX2_count_2 0 rfl rfl)
theorem dX2_count_65 : decode cX2_count 65 = .ok (.getfield 521, 3) := dk_180 2 9 (dk_at dksX2_count_2 1 rfl rfl)
theorem dX2_count_68 : decode cX2_count 68 = .ok (.ireturn, 1) := dk_172 (dk_at dksX2_count_2 4 rfl rfl)
theorem dX2_count_69 : decode cX2_count 69 = .ok (.aload_n 0, 1) := dk_42 (dk_at dksX2_count_2 5 rfl rfl)
theorem dX2_count_70 : decode cX2_count 70 = .ok (.getfield 631, 3) := dk_180 2 119 (dk_at dksX2_count_2 6 rfl rfl)
theorem dX2_count_73 : decode cX2_count 73 = .ok (.ireturn, 1) := dk_172 (dk_at dksX2_count_2 9 rfl rfl)
theorem dX2_count_74 : decode cX2_count 74 = .ok (.aload_n 0, 1) := dk_42 (dk_at dksX2_count_2 10 rfl rfl)
theorem dX2_count_75 : decode cX2_count 75 = .ok (.getfield 643, 3) := dk_180 2 131 (dk_at dksX2_count_2 11 rfl rfl)
theorem dX2_count_78 : decode cX2_count 78 = .ok (.ireturn, 1) := dk_172 (dk_at dksX2_count_2 14 rfl rfl)
theorem dX2_count_79 : decode cX2_count 79 = .ok (.aload_n 0, 1) := dk_42 (dk_at dksX2_count_2 15 rfl rfl)
theorem dX2_count_80 : decode cX2_count 80 = .ok (.getfield 538, 3) := dk_180 2 26 (dk_at dksX2_count_2 16 rfl rfl)
theorem dX2_count_83 : decode cX2_count 83 = .ok (.ireturn, 1) := dk_172 (dk_at dksX2_count_2 19 rfl rfl)
theorem dX2_count_84 : decode cX2_count 84 = .ok (.aload_n 0, 1) := dk_42 (dk_at dksX2_count_2 20 rfl rfl)
theorem dX2_count_85 : decode cX2_count 85 = .ok (.getfield 535, 3) := dk_180 2 23 (dk_at dksX2_count_2 21 rfl rfl)
theorem dX2_count_88 : decode cX2_count 88 = .ok (.ireturn, 1) := dk_172 (dk_at dksX2_count_3 0 rfl rfl)
theorem dX2_count_89 : decode cX2_count 89 = .ok (.aload_n 0, 1) := dk_42 (dk_at dksX2_count_3 1 rfl rfl)
theorem dX2_count_90 : decode cX2_count 90 = .ok (.getfield 509, 3) := dk_180 1 253 (dk_at dksX2_count_3 2 rfl rfl)
theorem dX2_count_93 : decode cX2_count 93 = .ok (.ireturn, 1) := dk_172 (dk_at dksX2_count_3 5 rfl rfl)
theorem dX2_count_94 : decode cX2_count 94 = .ok (.aload_n 0, 1) := dk_42 (dk_at dksX2_count_3 6 rfl rfl)
theorem dX2_count_95 : decode cX2_count 95 = .ok (.getfield 512, 3) := dk_180 2 0 (dk_at dksX2_count_3 7 rfl rfl)
theorem dX2_count_98 : decode cX2_count 98 = .ok (.ireturn, 1) := dk_172 (dk_at dksX2_count_3 10 rfl rfl)
theorem dX2_count_99 : decode cX2_count 99 = .ok (.aload_n 0, 1) := dk_42 (dk_at dksX2_count_3 11 rfl rfl)
theorem dX2_count_100 : decode cX2_count 100 = .ok (.getfield 769, 3) := dk_180 3 1 (dk_at dksX2_count_3 12 rfl rfl)
theorem dX2_count_103 : decode cX2_count 103 = .ok (.ireturn, 1) := dk_172 (dk_at dksX2_count_3 15 rfl rfl)
theorem dX2_count_104 : decode cX2_count 104 = .ok (.aload_n 0, 1) := dk_42 (dk_at dksX2_count_3 16 rfl rfl)
theorem dX2_count_105 : decode cX2_count 105 = .ok (.getfield 772, 3) := dk_180 3 4 (dk_at dksX2_count_3 17 rfl rfl)
theorem dX2_count_108 : decode cX2_count 108 = .ok (.ireturn, 1) := dk_172 (dk_at dksX2_count_3 20 rfl rfl)
theorem dX2_count_109 : decode cX2_count 109 = .ok (.aload_n 0, 1) := dk_42 (dk_at dksX2_count_3 21 rfl rfl)
theorem dX2_count_110 : decode cX2_count 110 = .ok (.getfield 778, 3) := dk_180 3 10 (dk_at dksX2_count_4 0 rfl rfl)
theorem dX2_count_113 : decode cX2_count 113 = .ok (.ireturn, 1) := dk_172 (dk_at dksX2_count_4 3 rfl rfl)
theorem dX2_count_114 : decode cX2_count 114 = .ok (.aload_n 0, 1) := dk_42 (dk_at dksX2_count_4 4 rfl rfl)
theorem dX2_count_115 : decode cX2_count 115 = .ok (.getfield 781, 3) := dk_180 3 13 (dk_at dksX2_count_4 5 rfl rfl)
theorem dX2_count_118 : decode cX2_count 118 = .ok (.ireturn, 1) := dk_172 (dk_at dksX2_count_4 8 rfl rfl)
theorem dX2_count_119 : decode cX2_count 119 = .ok (.iconst (-1), 1) := dk_2 (dk_at dksX2_count_4 9 rfl rfl)
theorem dX2_count_120 : decode cX2_count 120 = .ok (.ireturn, 1) := dk_172 (dk_at dksX2_count_4 10 rfl rfl)
abbrev cX2_term : ByteArray := prog_4_method_97_code
def yX2_term : MethodName := ⟨RX2, "term", "()I"⟩
def dkwX2_term_5 : List UInt8 := [160, 0, 6, 16, 253, 172, 42, 28, 182, 3, 80, 172, 76, 42, 182, 3, 74, 172]
abbrev dktX2_term_5 : List UInt8 := dkwX2_term_5 ++ []
def dkwX2_term_4 : List UInt8 := [160, 0, 15, 42, 16, 6, 42, 180, 0, 33, 27, 46, 182, 1, 178, 42, 180, 3, 1, 17, 0, 200]
abbrev dktX2_term_4 : List UInt8 := dkwX2_term_4 ++ dktX2_term_5
def dkwX2_term_3 : List UInt8 := [182, 3, 23, 61, 42, 180, 2, 254, 16, 7, 160, 0, 6, 16, 252, 172, 42, 180, 2, 254, 16, 6]
abbrev dktX2_term_3 : List UInt8 := dkwX2_term_3 ++ dktX2_term_4
def dkwX2_term_2 : List UInt8 := [42, 182, 3, 77, 42, 42, 180, 0, 111, 17, 4, 96, 46, 42, 180, 0, 114, 17, 4, 96, 46, 2]
abbrev dktX2_term_2 : List UInt8 := dkwX2_term_2 ++ dktX2_term_3
def dkwX2_term_1 : List UInt8 := [60, 42, 17, 4, 96, 182, 1, 242, 42, 182, 1, 192, 154, 0, 12, 42, 4, 42, 182, 1, 219, 182, 1, 178]
abbrev dktX2_term_1 : List UInt8 := dkwX2_term_1 ++ dktX2_term_2
def dkwX2_term_0 : List UInt8 := [42, 3, 181, 0, 1, 42, 182, 3, 65, 42, 182, 3, 68, 42, 17, 3, 132, 181, 1, 216, 42, 180, 1, 160]
abbrev dktX2_term_0 : List UInt8 := dkwX2_term_0 ++ dktX2_term_1
theorem dksX2_term_0 : cX2_term.data.toList.drop 0 = dktX2_term_0 := by decide +kernel
theorem dksX2_term_1 : cX2_term.data.toList.drop 24 = dktX2_term_1 := dk_seg dksX2_term_0 24 rfl rfl
theorem dksX2_term_2 : cX2_term.data.toList.drop 48 = dktX2_term_2 := dk_seg dksX2_term_1 24 rfl rfl
theorem dksX2_term_3 : cX2_term.data.toList.drop 70 = dktX2_term_3 := dk_seg dksX2_term_2 22 rfl rfl
theorem dksX2_term_4 : cX2_term.data.toList.drop 92 = dktX2_term_4 := dk_seg dksX2_term_3 22 rfl rfl
theorem dksX2_term_5 : cX2_term.data.toList.drop 114 = dktX2_term_5 := dk_seg dksX2_term_4 22 rfl rfl
theorem dX2_term_0 : decode cX2_term 0 = .ok (.aload_n 0, 1) := dk_42 (dk_at dksX2_term_0 0 rfl rfl)
theorem dX2_term_1 : decode cX2_term 1 = .ok (.iconst 0, 1) := dk_3 (dk_at dksX2_term_0 1 rfl rfl)
theorem dX2_term_2 : decode cX2_term 2 = .ok (.putfield 1, 3) := dk_181 0 1 (dk_at dksX2_term_0 2 rfl rfl)
theorem dX2_term_5 : decode cX2_term 5 = .ok (.aload_n 0, 1) := dk_42 (dk_at dksX2_term_0 5 rfl rfl)
theorem dX2_term_6 : decode cX2_term 6 = .ok (.invokevirtual 833, 3) := dk_182 3 65 (dk_at dksX2_term_0 6 rfl rfl)
theorem dX2_term_9 : decode cX2_term 9 = .ok (.aload_n 0, 1) := dk_42 (dk_at dksX2_term_0 9 rfl rfl)
theorem dX2_term_10 : decode cX2_term 10 = .ok (.invokevirtual 836, 3) := dk_182 3 68 (dk_at dksX2_term_0 10 rfl rfl)
theorem dX2_term_13 : decode cX2_term 13 = .ok (.aload_n 0, 1) := dk_42 (dk_at dksX2_term_0 13 rfl rfl)
theorem dX2_term_14 : decode cX2_term 14 = .ok (.sipush 900, 3) := dk_17 3 132 (dk_at dksX2_term_0 14 rfl rfl)
theorem dX2_term_17 : decode cX2_term 17 = .ok (.putfield 472, 3) := dk_181 1 216 (dk_at dksX2_term_0 17 rfl rfl)
theorem dX2_term_20 : decode cX2_term 20 = .ok (.aload_n 0, 1) := dk_42 (dk_at dksX2_term_0 20 rfl rfl)
theorem dX2_term_21 : decode cX2_term 21 = .ok (.getfield 416, 3) := dk_180 1 160 (dk_at dksX2_term_0 21 rfl rfl)
theorem dX2_term_24 : decode cX2_term 24 = .ok (.istore_n 1, 1) := dk_60 (dk_at dksX2_term_1 0 rfl rfl)
theorem dX2_term_25 : decode cX2_term 25 = .ok (.aload_n 0, 1) := dk_42 (dk_at dksX2_term_1 1 rfl rfl)
theorem dX2_term_26 : decode cX2_term 26 = .ok (.sipush 1120, 3) := dk_17 4 96 (dk_at dksX2_term_1 2 rfl rfl)
theorem dX2_term_29 : decode cX2_term 29 = .ok (.invokevirtual 498, 3) := dk_182 1 242 (dk_at dksX2_term_1 5 rfl rfl)
theorem dX2_term_32 : decode cX2_term 32 = .ok (.aload_n 0, 1) := dk_42 (dk_at dksX2_term_1 8 rfl rfl)
theorem dX2_term_33 : decode cX2_term 33 = .ok (.invokevirtual 448, 3) := dk_182 1 192 (dk_at dksX2_term_1 9 rfl rfl)
theorem dX2_term_36 : decode cX2_term 36 = .ok (.ifCond .ne 12, 3) := dk_154 0 12 (dk_at dksX2_term_1 12 rfl rfl)
theorem dX2_term_39 : decode cX2_term 39 = .ok (.aload_n 0, 1) := dk_42 (dk_at dksX2_term_1 15 rfl rfl)
theorem dX2_term_40 : decode cX2_term 40 = .ok (.iconst 1, 1) := dk_4 (dk_at dksX2_term_1 16 rfl rfl)
theorem dX2_term_41 : decode cX2_term 41 = .ok (.aload_n 0, 1) := dk_42 (dk_at dksX2_term_1 17 rfl rfl)
theorem dX2_term_42 : decode cX2_term 42 = .ok (.invokevirtual 475, 3) := dk_182 1 219 (dk_at dksX2_term_1 18 rfl rfl)
theorem dX2_term_45 : decode cX2_term 45 = .ok (.invokevirtual 434, 3) := dk_182 1 178 (dk_at dksX2_term_1 21 rfl rfl)
theorem dX2_term_48 : decode cX2_term 48 = .ok (.aload_n 0, 1) := dk_42 (dk_at dksX2_term_2 0 rfl rfl)
theorem dX2_term_49 : decode cX2_term 49 = .ok (.invokevirtual 845, 3) := dk_182 3 77 (dk_at dksX2_term_2 1 rfl rfl)
theorem dX2_term_52 : decode cX2_term 52 = .ok (.aload_n 0, 1) := dk_42 (dk_at dksX2_term_2 4 rfl rfl)
theorem dX2_term_53 : decode cX2_term 53 = .ok (.aload_n 0, 1) := dk_42 (dk_at dksX2_term_2 5 rfl rfl)
theorem dX2_term_54 : decode cX2_term 54 = .ok (.getfield 111, 3) := dk_180 0 111 (dk_at dksX2_term_2 6 rfl rfl)
theorem dX2_term_57 : decode cX2_term 57 = .ok (.sipush 1120, 3) := dk_17 4 96 (dk_at dksX2_term_2 9 rfl rfl)
theorem dX2_term_60 : decode cX2_term 60 = .ok (.iaload, 1) := dk_46 (dk_at dksX2_term_2 12 rfl rfl)
theorem dX2_term_61 : decode cX2_term 61 = .ok (.aload_n 0, 1) := dk_42 (dk_at dksX2_term_2 13 rfl rfl)
theorem dX2_term_62 : decode cX2_term 62 = .ok (.getfield 114, 3) := dk_180 0 114 (dk_at dksX2_term_2 14 rfl rfl)
theorem dX2_term_65 : decode cX2_term 65 = .ok (.sipush 1120, 3) := dk_17 4 96 (dk_at dksX2_term_2 17 rfl rfl)
theorem dX2_term_68 : decode cX2_term 68 = .ok (.iaload, 1) := dk_46 (dk_at dksX2_term_2 20 rfl rfl)
theorem dX2_term_69 : decode cX2_term 69 = .ok (.iconst (-1), 1) := dk_2 (dk_at dksX2_term_2 21 rfl rfl)
theorem dX2_term_70 : decode cX2_term 70 = .ok (.invokevirtual 791, 3) := dk_182 3 23 (dk_at dksX2_term_3 0 rfl rfl)
theorem dX2_term_73 : decode cX2_term 73 = .ok (.istore_n 2, 1) := dk_61 (dk_at dksX2_term_3 3 rfl rfl)
theorem dX2_term_74 : decode cX2_term 74 = .ok (.aload_n 0, 1) := dk_42 (dk_at dksX2_term_3 4 rfl rfl)
theorem dX2_term_75 : decode cX2_term 75 = .ok (.getfield 766, 3) := dk_180 2 254 (dk_at dksX2_term_3 5 rfl rfl)
theorem dX2_term_78 : decode cX2_term 78 = .ok (.bipush 7, 2) := dk_16 7 (dk_at dksX2_term_3 8 rfl rfl)
theorem dX2_term_80 : decode cX2_term 80 = .ok (.if_icmp .ne 6, 3) := dk_160 0 6 (dk_at dksX2_term_3 10 rfl rfl)
theorem dX2_term_83 : decode cX2_term 83 = .ok (.bipush (-4), 2) := dk_16 252 (dk_at dksX2_term_3 13 rfl rfl)
theorem dX2_term_85 : decode cX2_term 85 = .ok (.ireturn, 1) := dk_172 (dk_at dksX2_term_3 15 rfl rfl)
theorem dX2_term_86 : decode cX2_term 86 = .ok (.aload_n 0, 1) := dk_42 (dk_at dksX2_term_3 16 rfl rfl)
theorem dX2_term_87 : decode cX2_term 87 = .ok (.getfield 766, 3) := dk_180 2 254 (dk_at dksX2_term_3 17 rfl rfl)
theorem dX2_term_90 : decode cX2_term 90 = .ok (.bipush 6, 2) := dk_16 6 (dk_at dksX2_term_3 20 rfl rfl)
theorem dX2_term_92 : decode cX2_term 92 = .ok (.if_icmp .ne 15, 3) := dk_160 0 15 (dk_at dksX2_term_4 0 rfl rfl)
theorem dX2_term_95 : decode cX2_term 95 = .ok (.aload_n 0, 1) := dk_42 (dk_at dksX2_term_4 3 rfl rfl)
theorem dX2_term_96 : decode cX2_term 96 = .ok (.bipush 6, 2) := dk_16 6 (dk_at dksX2_term_4 4 rfl rfl)
theorem dX2_term_98 : decode cX2_term 98 = .ok (.aload_n 0, 1) := dk_42 (dk_at dksX2_term_4 6 rfl rfl)
theorem dX2_term_99 : decode cX2_term 99 = .ok (.getfield 33, 3) := dk_180 0 33 (dk_at dksX2_term_4 7 rfl rfl)
theorem dX2_term_102 : decode cX2_term 102 = .ok (.iload_n 1, 1) := dk_27 (dk_at dksX2_term_4 10 rfl rfl)
theorem dX2_term_103 : decode cX2_term 103 = .ok (.iaload, 1) := dk_46 (dk_at dksX2_term_4 11 rfl rfl)
theorem dX2_term_104 : decode cX2_term 104 = .ok (.invokevirtual 434, 3) := dk_182 1 178 (dk_at dksX2_term_4 12 rfl rfl)
theorem dX2_term_107 : decode cX2_term 107 = .ok (.aload_n 0, 1) := dk_42 (dk_at dksX2_term_4 15 rfl rfl)
theorem dX2_term_108 : decode cX2_term 108 = .ok (.getfield 769, 3) := dk_180 3 1 (dk_at dksX2_term_4 16 rfl rfl)
theorem dX2_term_111 : decode cX2_term 111 = .ok (.sipush 200, 3) := dk_17 0 200 (dk_at dksX2_term_4 19 rfl rfl)
theorem dX2_term_114 : decode cX2_term 114 = .ok (.if_icmp .ne 6, 3) := dk_160 0 6 (dk_at dksX2_term_5 0 rfl rfl)
theorem dX2_term_117 : decode cX2_term 117 = .ok (.bipush (-3), 2) := dk_16 253 (dk_at dksX2_term_5 3 rfl rfl)
theorem dX2_term_119 : decode cX2_term 119 = .ok (.ireturn, 1) := dk_172 (dk_at dksX2_term_5 5 rfl rfl)
theorem dX2_term_120 : decode cX2_term 120 = .ok (.aload_n 0, 1) := dk_42 (dk_at dksX2_term_5 6 rfl rfl)
theorem dX2_term_121 : decode cX2_term 121 = .ok (.iload_n 2, 1) := dk_28 (dk_at dksX2_term_5 7 rfl rfl)
theorem dX2_term_122 : decode cX2_term 122 = .ok (.invokevirtual 848, 3) := dk_182 3 80 (dk_at dksX2_term_5 8 rfl rfl)
theorem dX2_term_125 : decode cX2_term 125 = .ok (.ireturn, 1) := dk_172 (dk_at dksX2_term_5 11 rfl rfl)
theorem dX2_term_126 : decode cX2_term 126 = .ok (.astore_n 1, 1) := dk_76 (dk_at dksX2_term_5 12 rfl rfl)
theorem dX2_term_127 : decode cX2_term 127 = .ok (.aload_n 0, 1) := dk_42 (dk_at dksX2_term_5 13 rfl rfl)
theorem dX2_term_128 : decode cX2_term 128 = .ok (.invokevirtual 842, 3) := dk_182 3 74 (dk_at dksX2_term_5 14 rfl rfl)
theorem dX2_term_131 : decode cX2_term 131 = .ok (.ireturn, 1) := dk_172 (dk_at dksX2_term_5 17 rfl rfl)
abbrev cX2_makeRoom : ByteArray := prog_4_method_149_code
def yX2_makeRoom : MethodName := ⟨RX2, "makeRoom", "()V"⟩
def dkwX2_makeRoom_1 : List UInt8 := [177]
abbrev dktX2_makeRoom_1 : List UInt8 := dkwX2_makeRoom_1 ++ []
def dkwX2_makeRoom_0 : List UInt8 := [42, 180, 2, 152, 17, 78, 32, 163, 0, 13, 42, 180, 2, 155, 19, 4, 20, 164, 0, 7, 42, 182, 4, 21]
abbrev dktX2_makeRoom_0 : List UInt8 := dkwX2_makeRoom_0 ++ dktX2_makeRoom_1
theorem dksX2_makeRoom_0 : cX2_makeRoom.data.toList.drop 0 = dktX2_makeRoom_0 := by decide +kernel
theorem dksX2_makeRoom_1 : cX2_makeRoom.data.toList.drop 24 = dktX2_makeRoom_1 := dk_seg dksX2_makeRoom_0 24 rfl rfl
theorem dX2_makeRoom_0 : decode cX2_makeRoom 0 = .ok (.aload_n 0, 1) := dk_42 (dk_at dksX2_makeRoom_0 0 rfl rfl)
theorem dX2_makeRoom_1 : decode cX2_makeRoom 1 = .ok (.getfield 664, 3) := dk_180 2 152 (dk_at dksX2_makeRoom_0 1 rfl rfl)
theorem dX2_makeRoom_4 : decode cX2_makeRoom 4 = .ok (.sipush 20000, 3) := dk_17 78 32 (dk_at dksX2_makeRoom_0 4 rfl rfl)
theorem dX2_makeRoom_7 : decode cX2_makeRoom 7 = .ok (.if_icmp .gt 13, 3) := dk_163 0 13 (dk_at dksX2_makeRoom_0 7 rfl rfl)
theorem dX2_makeRoom_10 : decode cX2_makeRoom 10 = .ok (.aload_n 0, 1) := dk_42 (dk_at dksX2_makeRoom_0 10 rfl rfl)
theorem dX2_makeRoom_11 : decode cX2_makeRoom 11 = .ok (.getfield 667, 3) := dk_180 2 155 (dk_at dksX2_makeRoom_0 11 rfl rfl)
theorem dX2_makeRoom_14 : decode cX2_makeRoom 14 = .ok (.ldc_w 1044, 3) := dk_19 4 20 (dk_at dksX2_makeRoom_0 14 rfl rfl)
theorem dX2_makeRoom_17 : decode cX2_makeRoom 17 = .ok (.if_icmp .le 7, 3) := dk_164 0 7 (dk_at dksX2_makeRoom_0 17 rfl rfl)
theorem dX2_makeRoom_20 : decode cX2_makeRoom 20 = .ok (.aload_n 0, 1) := dk_42 (dk_at dksX2_makeRoom_0 20 rfl rfl)
theorem dX2_makeRoom_21 : decode cX2_makeRoom 21 = .ok (.invokevirtual 1045, 3) := dk_182 4 21 (dk_at dksX2_makeRoom_0 21 rfl rfl)
theorem dX2_makeRoom_24 : decode cX2_makeRoom 24 = .ok (.return_, 1) := dk_177 (dk_at dksX2_makeRoom_1 0 rfl rfl)
abbrev cX2_compact : ByteArray := prog_4_method_154_code
def yX2_compact : MethodName := ⟨RX2, "compact", "()V"⟩
def dkwX2_compact_25 : List UInt8 := [46, 79, 132, 2, 1, 167, 255, 202, 132, 1, 1, 167, 255, 161, 177]
abbrev dktX2_compact_25 : List UInt8 := dkwX2_compact_25 ++ []
def dkwX2_compact_24 : List UInt8 := [62, 42, 180, 1, 52, 16, 64, 27, 104, 28, 96, 29, 156, 0, 7, 29, 167, 0, 9, 42, 180, 1, 70, 29]
abbrev dktX2_compact_24 : List UInt8 := dkwX2_compact_24 ++ dktX2_compact_25
def dkwX2_compact_23 : List UInt8 := [16, 62, 162, 0, 54, 42, 180, 3, 7, 4, 160, 0, 46, 42, 180, 1, 52, 16, 64, 27, 104, 28, 96, 46]
abbrev dktX2_compact_23 : List UInt8 := dkwX2_compact_23 ++ dktX2_compact_24
def dkwX2_compact_22 : List UInt8 := [159, 0, 20, 42, 180, 1, 49, 27, 42, 180, 1, 70, 42, 180, 1, 49, 27, 46, 46, 79, 3, 61, 28]
abbrev dktX2_compact_22 : List UInt8 := dkwX2_compact_22 ++ dktX2_compact_23
def dkwX2_compact_21 : List UInt8 := [180, 4, 37, 46, 181, 4, 37, 3, 60, 27, 42, 180, 3, 4, 162, 0, 93, 42, 180, 3, 7, 4]
abbrev dktX2_compact_21 : List UInt8 := dkwX2_compact_21 ++ dktX2_compact_22
def dkwX2_compact_20 : List UInt8 := [153, 0, 29, 42, 42, 180, 1, 70, 42, 180, 4, 34, 46, 181, 4, 34, 42, 42, 180, 1, 70, 42]
abbrev dktX2_compact_20 : List UInt8 := dkwX2_compact_20 ++ dktX2_compact_21
def dkwX2_compact_19 : List UInt8 := [42, 180, 1, 70, 42, 180, 0, 250, 27, 46, 46, 79, 132, 1, 1, 167, 255, 228, 42, 180, 4, 30]
abbrev dktX2_compact_19 : List UInt8 := dkwX2_compact_19 ++ dktX2_compact_20
def dkwX2_compact_18 : List UInt8 := [167, 255, 170, 132, 1, 1, 167, 255, 120, 3, 60, 27, 42, 180, 3, 1, 162, 0, 26, 42, 180, 0, 250, 27]
abbrev dktX2_compact_18 : List UInt8 := dkwX2_compact_18 ++ dktX2_compact_19
def dkwX2_compact_17 : List UInt8 := [167, 0, 19, 42, 180, 1, 70, 42, 180, 0, 241, 16, 6, 27, 104, 28, 96, 46, 46, 79, 132, 2, 1]
abbrev dktX2_compact_17 : List UInt8 := dkwX2_compact_17 ++ dktX2_compact_18
def dkwX2_compact_16 : List UInt8 := [16, 6, 27, 104, 28, 96, 42, 180, 0, 241, 16, 6, 27, 104, 28, 96, 46, 156, 0, 8, 16, 254]
abbrev dktX2_compact_16 : List UInt8 := dkwX2_compact_16 ++ dktX2_compact_17
def dkwX2_compact_15 : List UInt8 := [28, 96, 42, 180, 1, 70, 42, 180, 0, 238, 16, 6, 27, 104, 28, 96, 46, 46, 79, 42, 180, 0, 241]
abbrev dktX2_compact_15 : List UInt8 := dkwX2_compact_15 ++ dktX2_compact_16
def dkwX2_compact_14 : List UInt8 := [27, 46, 46, 79, 3, 61, 28, 42, 180, 0, 123, 27, 46, 162, 0, 82, 42, 180, 0, 238, 16, 6, 27, 104]
abbrev dktX2_compact_14 : List UInt8 := dkwX2_compact_14 ++ dktX2_compact_15
def dkwX2_compact_13 : List UInt8 := [180, 1, 70, 42, 180, 0, 232, 27, 46, 46, 79, 42, 180, 0, 235, 27, 42, 180, 1, 70, 42, 180, 0, 235]
abbrev dktX2_compact_13 : List UInt8 := dkwX2_compact_13 ++ dktX2_compact_14
def dkwX2_compact_12 : List UInt8 := [167, 255, 209, 42, 182, 4, 40, 3, 60, 27, 42, 180, 2, 3, 162, 0, 134, 42, 180, 0, 232, 27, 42]
abbrev dktX2_compact_12 : List UInt8 := dkwX2_compact_12 ++ dktX2_compact_13
def dkwX2_compact_11 : List UInt8 := [160, 0, 21, 42, 180, 1, 70, 42, 27, 28, 182, 2, 179, 4, 79, 132, 2, 1, 167, 255, 221, 132, 1, 255]
abbrev dktX2_compact_11 : List UInt8 := dkwX2_compact_11 ++ dktX2_compact_12
def dkwX2_compact_10 : List UInt8 := [155, 0, 49, 3, 61, 28, 42, 180, 0, 187, 27, 46, 162, 0, 31, 42, 180, 1, 70, 27, 46, 4]
abbrev dktX2_compact_10 : List UInt8 := dkwX2_compact_10 ++ dktX2_compact_11
def dkwX2_compact_9 : List UInt8 := [182, 4, 27, 132, 2, 1, 167, 255, 224, 132, 1, 1, 167, 255, 190, 42, 180, 2, 152, 4, 100, 60, 27]
abbrev dktX2_compact_9 : List UInt8 := dkwX2_compact_9 ++ dktX2_compact_10
def dkwX2_compact_8 : List UInt8 := [162, 0, 32, 42, 180, 3, 7, 4, 160, 0, 24, 42, 42, 180, 1, 52, 16, 64, 27, 104, 28, 96, 46]
abbrev dktX2_compact_8 : List UInt8 := dkwX2_compact_8 ++ dktX2_compact_9
def dkwX2_compact_7 : List UInt8 := [42, 180, 3, 7, 4, 159, 0, 13, 42, 42, 180, 1, 49, 27, 46, 182, 4, 27, 3, 61, 28, 16, 62]
abbrev dktX2_compact_7 : List UInt8 := dkwX2_compact_7 ++ dktX2_compact_8
def dkwX2_compact_6 : List UInt8 := [180, 4, 34, 182, 4, 27, 42, 42, 180, 4, 37, 182, 4, 27, 3, 60, 27, 42, 180, 3, 4, 162, 0, 64]
abbrev dktX2_compact_6 : List UInt8 := dkwX2_compact_6 ++ dktX2_compact_7
def dkwX2_compact_5 : List UInt8 := [180, 0, 250, 27, 46, 182, 4, 27, 132, 1, 1, 167, 255, 235, 42, 180, 4, 30, 153, 0, 19, 42, 42]
abbrev dktX2_compact_5 : List UInt8 := dkwX2_compact_5 ++ dktX2_compact_6
def dkwX2_compact_4 : List UInt8 := [132, 2, 1, 167, 255, 213, 132, 1, 1, 167, 255, 177, 3, 60, 27, 42, 180, 3, 1, 162, 0, 19, 42, 42]
abbrev dktX2_compact_4 : List UInt8 := dkwX2_compact_4 ++ dktX2_compact_5
def dkwX2_compact_3 : List UInt8 := [27, 104, 28, 96, 46, 182, 4, 27, 42, 42, 180, 0, 241, 16, 6, 27, 104, 28, 96, 46, 182, 4, 27]
abbrev dktX2_compact_3 : List UInt8 := dkwX2_compact_3 ++ dktX2_compact_4
def dkwX2_compact_2 : List UInt8 := [27, 46, 182, 4, 27, 3, 61, 28, 42, 180, 0, 123, 27, 46, 162, 0, 39, 42, 42, 180, 0, 238, 16, 6]
abbrev dktX2_compact_2 : List UInt8 := dkwX2_compact_2 ++ dktX2_compact_3
def dkwX2_compact_1 : List UInt8 := [60, 27, 42, 180, 2, 3, 162, 0, 77, 42, 42, 180, 0, 232, 27, 46, 182, 4, 27, 42, 42, 180, 0, 235]
abbrev dktX2_compact_1 : List UInt8 := dkwX2_compact_1 ++ dktX2_compact_2
def dkwX2_compact_0 : List UInt8 := [3, 60, 27, 42, 180, 2, 152, 162, 0, 16, 42, 180, 1, 70, 27, 3, 79, 132, 1, 1, 167, 255, 238, 3]
abbrev dktX2_compact_0 : List UInt8 := dkwX2_compact_0 ++ dktX2_compact_1
theorem dksX2_compact_0 : cX2_compact.data.toList.drop 0 = dktX2_compact_0 := by decide +kernel
theorem dksX2_compact_1 : cX2_compact.data.toList.drop 24 = dktX2_compact_1 := dk_seg dksX2_compact_0 24 rfl rfl
theorem dksX2_compact_2 : cX2_compact.data.toList.drop 48 = dktX2_compact_2 := dk_seg dksX2_compact_1 24 rfl rfl
theorem dksX2_compact_3 : cX2_compact.data.toList.drop 72 = dktX2_compact_3 := dk_seg dksX2_compact_2 24 rfl rfl
theorem dksX2_compact_4 : cX2_compact.data.toList.drop 95 = dktX2_compact_4 := dk_seg dksX2_compact_3 23 rfl rfl
theorem dksX2_compact_5 : cX2_compact.data.toList.drop 119 = dktX2_compact_5 := dk_seg dksX2_compact_4 24 rfl rfl
theorem dksX2_compact_6 : cX2_compact.data.toList.drop 142 = dktX2_compact_6 := dk_seg dksX2_compact_5 23 rfl rfl
theorem dksX2_compact_7 : cX2_compact.data.toList.drop 166 = dktX2_compact_7 := dk_seg dksX2_compact_6 24 rfl rfl
theorem dksX2_compact_8 : cX2_compact.data.toList.drop 189 = dktX2_compact_8 := dk_seg dksX2_compact_7 23 rfl rfl
theorem dksX2_compact_9 : cX2_compact.data.toList.drop 212 = dktX2_compact_9 := dk_seg dksX2_compact_8 23 rfl rfl
theorem dksX2_compact_10 : cX2_compact.data.toList.drop 235 = dktX2_compact_10 := dk_seg dksX2_compact_9 23 rfl rfl
theorem dksX2_compact_11 : cX2_compact.data.toList.drop 257 = dktX2_compact_11 := dk_seg dksX2_compact_10 22 rfl rfl
theorem dksX2_compact_12 : cX2_compact.data.toList.drop 281 = dktX2_compact_12 := dk_seg dksX2_compact_11 24 rfl rfl
theorem dksX2_compact_13 : cX2_compact.data.toList.drop 304 = dktX2_compact_13 := dk_seg dksX2_compact_12 23 rfl rfl
theorem dksX2_compact_14 : cX2_compact.data.toList.drop 328 = dktX2_compact_14 := dk_seg dksX2_compact_13 24 rfl rfl
theorem dksX2_compact_15 : cX2_compact.data.toList.drop 352 = dktX2_compact_15 := dk_seg dksX2_compact_14 24 rfl rfl
theorem dksX2_compact_16 : cX2_compact.data.toList.drop 375 = dktX2_compact_16 := dk_seg dksX2_compact_15 23 rfl rfl
theorem dksX2_compact_17 : cX2_compact.data.toList.drop 397 = dktX2_compact_17 := dk_seg dksX2_compact_16 22 rfl rfl
theorem dksX2_compact_18 : cX2_compact.data.toList.drop 420 = dktX2_compact_18 := dk_seg dksX2_compact_17 23 rfl rfl
theorem dksX2_compact_19 : cX2_compact.data.toList.drop 444 = dktX2_compact_19 := dk_seg dksX2_compact_18 24 rfl rfl
theorem dksX2_compact_20 : cX2_compact.data.toList.drop 466 = dktX2_compact_20 := dk_seg dksX2_compact_19 22 rfl rfl
theorem dksX2_compact_21 : cX2_compact.data.toList.drop 488 = dktX2_compact_21 := dk_seg dksX2_compact_20 22 rfl rfl
theorem dksX2_compact_22 : cX2_compact.data.toList.drop 510 = dktX2_compact_22 := dk_seg dksX2_compact_21 22 rfl rfl
theorem dksX2_compact_23 : cX2_compact.data.toList.drop 533 = dktX2_compact_23 := dk_seg dksX2_compact_22 23 rfl rfl
theorem dksX2_compact_24 : cX2_compact.data.toList.drop 557 = dktX2_compact_24 := dk_seg dksX2_compact_23 24 rfl rfl
theorem dksX2_compact_25 : cX2_compact.data.toList.drop 581 = dktX2_compact_25 := dk_seg dksX2_compact_24 24 rfl rfl
theorem dX2_compact_0 : decode cX2_compact 0 = .ok (.iconst 0, 1) := dk_3 (dk_at dksX2_compact_0 0 rfl rfl)
theorem dX2_compact_1 : decode cX2_compact 1 = .ok (.istore_n 1, 1) := dk_60 (dk_at dksX2_compact_0 1 rfl rfl)
theorem dX2_compact_2 : decode cX2_compact 2 = .ok (.iload_n 1, 1) := dk_27 (dk_at dksX2_compact_0 2 rfl rfl)
theorem dX2_compact_3 : decode cX2_compact 3 = .ok (.aload_n 0, 1) := dk_42 (dk_at dksX2_compact_0 3 rfl rfl)
theorem dX2_compact_4 : decode cX2_compact 4 = .ok (.getfield 664, 3) := dk_180 2 152 (dk_at dksX2_compact_0 4 rfl rfl)
theorem dX2_compact_7 : decode cX2_compact 7 = .ok (.if_icmp .ge 16, 3) := dk_162 0 16 (dk_at dksX2_compact_0 7 rfl rfl)
theorem dX2_compact_10 : decode cX2_compact 10 = .ok (.aload_n 0, 1) := dk_42 (dk_at dksX2_compact_0 10 rfl rfl)
theorem dX2_compact_11 : decode cX2_compact 11 = .ok (.getfield 326, 3) := dk_180 1 70 (dk_at dksX2_compact_0 11 rfl rfl)
theorem dX2_compact_14 : decode cX2_compact 14 = .ok (.iload_n 1, 1) := dk_27 (dk_at dksX2_compact_0 14 rfl rfl)
theorem dX2_compact_15 : decode cX2_compact 15 = .ok (.iconst 0, 1) := dk_3 (dk_at dksX2_compact_0 15 rfl rfl)
theorem dX2_compact_16 : decode cX2_compact 16 = .ok (.iastore, 1) := dk_79 (dk_at dksX2_compact_0 16 rfl rfl)
theorem dX2_compact_17 : decode cX2_compact 17 = .ok (.iinc 1 1, 3) := dk_132 1 1 (dk_at dksX2_compact_0 17 rfl rfl)
theorem dX2_compact_20 : decode cX2_compact 20 = .ok (.goto (-18), 3) := dk_167 255 238 (dk_at dksX2_compact_0 20 rfl rfl)
theorem dX2_compact_23 : decode cX2_compact 23 = .ok (.iconst 0, 1) := dk_3 (dk_at dksX2_compact_0 23 rfl rfl)
theorem dX2_compact_24 : decode cX2_compact 24 = .ok (.istore_n 1, 1) := dk_60 (dk_at dksX2_compact_1 0 rfl rfl)
theorem dX2_compact_25 : decode cX2_compact 25 = .ok (.iload_n 1, 1) := dk_27 (dk_at dksX2_compact_1 1 rfl rfl)
theorem dX2_compact_26 : decode cX2_compact 26 = .ok (.aload_n 0, 1) := dk_42 (dk_at dksX2_compact_1 2 rfl rfl)
theorem dX2_compact_27 : decode cX2_compact 27 = .ok (.getfield 515, 3) := dk_180 2 3 (dk_at dksX2_compact_1 3 rfl rfl)
theorem dX2_compact_30 : decode cX2_compact 30 = .ok (.if_icmp .ge 77, 3) := dk_162 0 77 (dk_at dksX2_compact_1 6 rfl rfl)
theorem dX2_compact_33 : decode cX2_compact 33 = .ok (.aload_n 0, 1) := dk_42 (dk_at dksX2_compact_1 9 rfl rfl)
theorem dX2_compact_34 : decode cX2_compact 34 = .ok (.aload_n 0, 1) := dk_42 (dk_at dksX2_compact_1 10 rfl rfl)
theorem dX2_compact_35 : decode cX2_compact 35 = .ok (.getfield 232, 3) := dk_180 0 232 (dk_at dksX2_compact_1 11 rfl rfl)
theorem dX2_compact_38 : decode cX2_compact 38 = .ok (.iload_n 1, 1) := dk_27 (dk_at dksX2_compact_1 14 rfl rfl)
theorem dX2_compact_39 : decode cX2_compact 39 = .ok (.iaload, 1) := dk_46 (dk_at dksX2_compact_1 15 rfl rfl)
theorem dX2_compact_40 : decode cX2_compact 40 = .ok (.invokevirtual 1051, 3) := dk_182 4 27 (dk_at dksX2_compact_1 16 rfl rfl)
theorem dX2_compact_43 : decode cX2_compact 43 = .ok (.aload_n 0, 1) := dk_42 (dk_at dksX2_compact_1 19 rfl rfl)
theorem dX2_compact_44 : decode cX2_compact 44 = .ok (.aload_n 0, 1) := dk_42 (dk_at dksX2_compact_1 20 rfl rfl)
theorem dX2_compact_45 : decode cX2_compact 45 = .ok (.getfield 235, 3) := dk_180 0 235 (dk_at dksX2_compact_1 21 rfl rfl)
theorem dX2_compact_48 : decode cX2_compact 48 = .ok (.iload_n 1, 1) := dk_27 (dk_at dksX2_compact_2 0 rfl rfl)
theorem dX2_compact_49 : decode cX2_compact 49 = .ok (.iaload, 1) := dk_46 (dk_at dksX2_compact_2 1 rfl rfl)
theorem dX2_compact_50 : decode cX2_compact 50 = .ok (.invokevirtual 1051, 3) := dk_182 4 27 (dk_at dksX2_compact_2 2 rfl rfl)
theorem dX2_compact_53 : decode cX2_compact 53 = .ok (.iconst 0, 1) := dk_3 (dk_at dksX2_compact_2 5 rfl rfl)
theorem dX2_compact_54 : decode cX2_compact 54 = .ok (.istore_n 2, 1) := dk_61 (dk_at dksX2_compact_2 6 rfl rfl)
theorem dX2_compact_55 : decode cX2_compact 55 = .ok (.iload_n 2, 1) := dk_28 (dk_at dksX2_compact_2 7 rfl rfl)
theorem dX2_compact_56 : decode cX2_compact 56 = .ok (.aload_n 0, 1) := dk_42 (dk_at dksX2_compact_2 8 rfl rfl)
theorem dX2_compact_57 : decode cX2_compact 57 = .ok (.getfield 123, 3) := dk_180 0 123 (dk_at dksX2_compact_2 9 rfl rfl)
theorem dX2_compact_60 : decode cX2_compact 60 = .ok (.iload_n 1, 1) := dk_27 (dk_at dksX2_compact_2 12 rfl rfl)
theorem dX2_compact_61 : decode cX2_compact 61 = .ok (.iaload, 1) := dk_46 (dk_at dksX2_compact_2 13 rfl rfl)
theorem dX2_compact_62 : decode cX2_compact 62 = .ok (.if_icmp .ge 39, 3) := dk_162 0 39 (dk_at dksX2_compact_2 14 rfl rfl)
theorem dX2_compact_65 : decode cX2_compact 65 = .ok (.aload_n 0, 1) := dk_42 (dk_at dksX2_compact_2 17 rfl rfl)
theorem dX2_compact_66 : decode cX2_compact 66 = .ok (.aload_n 0, 1) := dk_42 (dk_at dksX2_compact_2 18 rfl rfl)
theorem dX2_compact_67 : decode cX2_compact 67 = .ok (.getfield 238, 3) := dk_180 0 238 (dk_at dksX2_compact_2 19 rfl rfl)
theorem dX2_compact_70 : decode cX2_compact 70 = .ok (.bipush 6, 2) := dk_16 6 (dk_at dksX2_compact_2 22 rfl rfl)
theorem dX2_compact_72 : decode cX2_compact 72 = .ok (.iload_n 1, 1) := dk_27 (dk_at dksX2_compact_3 0 rfl rfl)
theorem dX2_compact_73 : decode cX2_compact 73 = .ok (.imul, 1) := dk_104 (dk_at dksX2_compact_3 1 rfl rfl)
theorem dX2_compact_74 : decode cX2_compact 74 = .ok (.iload_n 2, 1) := dk_28 (dk_at dksX2_compact_3 2 rfl rfl)
theorem dX2_compact_75 : decode cX2_compact 75 = .ok (.iadd, 1) := dk_96 (dk_at dksX2_compact_3 3 rfl rfl)
theorem dX2_compact_76 : decode cX2_compact 76 = .ok (.iaload, 1) := dk_46 (dk_at dksX2_compact_3 4 rfl rfl)
theorem dX2_compact_77 : decode cX2_compact 77 = .ok (.invokevirtual 1051, 3) := dk_182 4 27 (dk_at dksX2_compact_3 5 rfl rfl)
theorem dX2_compact_80 : decode cX2_compact 80 = .ok (.aload_n 0, 1) := dk_42 (dk_at dksX2_compact_3 8 rfl rfl)
theorem dX2_compact_81 : decode cX2_compact 81 = .ok (.aload_n 0, 1) := dk_42 (dk_at dksX2_compact_3 9 rfl rfl)
theorem dX2_compact_82 : decode cX2_compact 82 = .ok (.getfield 241, 3) := dk_180 0 241 (dk_at dksX2_compact_3 10 rfl rfl)
theorem dX2_compact_85 : decode cX2_compact 85 = .ok (.bipush 6, 2) := dk_16 6 (dk_at dksX2_compact_3 13 rfl rfl)
theorem dX2_compact_87 : decode cX2_compact 87 = .ok (.iload_n 1, 1) := dk_27 (dk_at dksX2_compact_3 15 rfl rfl)
theorem dX2_compact_88 : decode cX2_compact 88 = .ok (.imul, 1) := dk_104 (dk_at dksX2_compact_3 16 rfl rfl)
theorem dX2_compact_89 : decode cX2_compact 89 = .ok (.iload_n 2, 1) := dk_28 (dk_at dksX2_compact_3 17 rfl rfl)
theorem dX2_compact_90 : decode cX2_compact 90 = .ok (.iadd, 1) := dk_96 (dk_at dksX2_compact_3 18 rfl rfl)
theorem dX2_compact_91 : decode cX2_compact 91 = .ok (.iaload, 1) := dk_46 (dk_at dksX2_compact_3 19 rfl rfl)
theorem dX2_compact_92 : decode cX2_compact 92 = .ok (.invokevirtual 1051, 3) := dk_182 4 27 (dk_at dksX2_compact_3 20 rfl rfl)
theorem dX2_compact_95 : decode cX2_compact 95 = .ok (.iinc 2 1, 3) := dk_132 2 1 (dk_at dksX2_compact_4 0 rfl rfl)
theorem dX2_compact_98 : decode cX2_compact 98 = .ok (.goto (-43), 3) := dk_167 255 213 (dk_at dksX2_compact_4 3 rfl rfl)
theorem dX2_compact_101 : decode cX2_compact 101 = .ok (.iinc 1 1, 3) := dk_132 1 1 (dk_at dksX2_compact_4 6 rfl rfl)
theorem dX2_compact_104 : decode cX2_compact 104 = .ok (.goto (-79), 3) := dk_167 255 177 (dk_at dksX2_compact_4 9 rfl rfl)
theorem dX2_compact_107 : decode cX2_compact 107 = .ok (.iconst 0, 1) := dk_3 (dk_at dksX2_compact_4 12 rfl rfl)
theorem dX2_compact_108 : decode cX2_compact 108 = .ok (.istore_n 1, 1) := dk_60 (dk_at dksX2_compact_4 13 rfl rfl)
theorem dX2_compact_109 : decode cX2_compact 109 = .ok (.iload_n 1, 1) := dk_27 (dk_at dksX2_compact_4 14 rfl rfl)
theorem dX2_compact_110 : decode cX2_compact 110 = .ok (.aload_n 0, 1) := dk_42 (dk_at dksX2_compact_4 15 rfl rfl)
theorem dX2_compact_111 : decode cX2_compact 111 = .ok (.getfield 769, 3) := dk_180 3 1 (dk_at dksX2_compact_4 16 rfl rfl)
theorem dX2_compact_114 : decode cX2_compact 114 = .ok (.if_icmp .ge 19, 3) := dk_162 0 19 (dk_at dksX2_compact_4 19 rfl rfl)
theorem dX2_compact_117 : decode cX2_compact 117 = .ok (.aload_n 0, 1) := dk_42 (dk_at dksX2_compact_4 22 rfl rfl)
theorem dX2_compact_118 : decode cX2_compact 118 = .ok (.aload_n 0, 1) := dk_42 (dk_at dksX2_compact_4 23 rfl rfl)
theorem dX2_compact_119 : decode cX2_compact 119 = .ok (.getfield 250, 3) := dk_180 0 250 (dk_at dksX2_compact_5 0 rfl rfl)
theorem dX2_compact_122 : decode cX2_compact 122 = .ok (.iload_n 1, 1) := dk_27 (dk_at dksX2_compact_5 3 rfl rfl)
theorem dX2_compact_123 : decode cX2_compact 123 = .ok (.iaload, 1) := dk_46 (dk_at dksX2_compact_5 4 rfl rfl)
theorem dX2_compact_124 : decode cX2_compact 124 = .ok (.invokevirtual 1051, 3) := dk_182 4 27 (dk_at dksX2_compact_5 5 rfl rfl)
theorem dX2_compact_127 : decode cX2_compact 127 = .ok (.iinc 1 1, 3) := dk_132 1 1 (dk_at dksX2_compact_5 8 rfl rfl)
theorem dX2_compact_130 : decode cX2_compact 130 = .ok (.goto (-21), 3) := dk_167 255 235 (dk_at dksX2_compact_5 11 rfl rfl)
theorem dX2_compact_133 : decode cX2_compact 133 = .ok (.aload_n 0, 1) := dk_42 (dk_at dksX2_compact_5 14 rfl rfl)
theorem dX2_compact_134 : decode cX2_compact 134 = .ok (.getfield 1054, 3) := dk_180 4 30 (dk_at dksX2_compact_5 15 rfl rfl)
theorem dX2_compact_137 : decode cX2_compact 137 = .ok (.ifCond .eq 19, 3) := dk_153 0 19 (dk_at dksX2_compact_5 18 rfl rfl)
theorem dX2_compact_140 : decode cX2_compact 140 = .ok (.aload_n 0, 1) := dk_42 (dk_at dksX2_compact_5 21 rfl rfl)
theorem dX2_compact_141 : decode cX2_compact 141 = .ok (.aload_n 0, 1) := dk_42 (dk_at dksX2_compact_5 22 rfl rfl)
theorem dX2_compact_142 : decode cX2_compact 142 = .ok (.getfield 1058, 3) := dk_180 4 34 (dk_at dksX2_compact_6 0 rfl rfl)
theorem dX2_compact_145 : decode cX2_compact 145 = .ok (.invokevirtual 1051, 3) := dk_182 4 27 (dk_at dksX2_compact_6 3 rfl rfl)
theorem dX2_compact_148 : decode cX2_compact 148 = .ok (.aload_n 0, 1) := dk_42 (dk_at dksX2_compact_6 6 rfl rfl)
theorem dX2_compact_149 : decode cX2_compact 149 = .ok (.aload_n 0, 1) := dk_42 (dk_at dksX2_compact_6 7 rfl rfl)
theorem dX2_compact_150 : decode cX2_compact 150 = .ok (.getfield 1061, 3) := dk_180 4 37 (dk_at dksX2_compact_6 8 rfl rfl)
theorem dX2_compact_153 : decode cX2_compact 153 = .ok (.invokevirtual 1051, 3) := dk_182 4 27 (dk_at dksX2_compact_6 11 rfl rfl)
theorem dX2_compact_156 : decode cX2_compact 156 = .ok (.iconst 0, 1) := dk_3 (dk_at dksX2_compact_6 14 rfl rfl)
theorem dX2_compact_157 : decode cX2_compact 157 = .ok (.istore_n 1, 1) := dk_60 (dk_at dksX2_compact_6 15 rfl rfl)
theorem dX2_compact_158 : decode cX2_compact 158 = .ok (.iload_n 1, 1) := dk_27 (dk_at dksX2_compact_6 16 rfl rfl)
theorem dX2_compact_159 : decode cX2_compact 159 = .ok (.aload_n 0, 1) := dk_42 (dk_at dksX2_compact_6 17 rfl rfl)
theorem dX2_compact_160 : decode cX2_compact 160 = .ok (.getfield 772, 3) := dk_180 3 4 (dk_at dksX2_compact_6 18 rfl rfl)
theorem dX2_compact_163 : decode cX2_compact 163 = .ok (.if_icmp .ge 64, 3) := dk_162 0 64 (dk_at dksX2_compact_6 21 rfl rfl)
theorem dX2_compact_166 : decode cX2_compact 166 = .ok (.aload_n 0, 1) := dk_42 (dk_at dksX2_compact_7 0 rfl rfl)
theorem dX2_compact_167 : decode cX2_compact 167 = .ok (.getfield 775, 3) := dk_180 3 7 (dk_at dksX2_compact_7 1 rfl rfl)
theorem dX2_compact_170 : decode cX2_compact 170 = .ok (.iconst 1, 1) := dk_4 (dk_at dksX2_compact_7 4 rfl rfl)
theorem dX2_compact_171 : decode cX2_compact 171 = .ok (.if_icmp .eq 13, 3) := dk_159 0 13 (dk_at dksX2_compact_7 5 rfl rfl)
theorem dX2_compact_174 : decode cX2_compact 174 = .ok (.aload_n 0, 1) := dk_42 (dk_at dksX2_compact_7 8 rfl rfl)
theorem dX2_compact_175 : decode cX2_compact 175 = .ok (.aload_n 0, 1) := dk_42 (dk_at dksX2_compact_7 9 rfl rfl)
theorem dX2_compact_176 : decode cX2_compact 176 = .ok (.getfield 305, 3) := dk_180 1 49 (dk_at dksX2_compact_7 10 rfl rfl)
theorem dX2_compact_179 : decode cX2_compact 179 = .ok (.iload_n 1, 1) := dk_27 (dk_at dksX2_compact_7 13 rfl rfl)
theorem dX2_compact_180 : decode cX2_compact 180 = .ok (.iaload, 1) := dk_46 (dk_at dksX2_compact_7 14 rfl rfl)
theorem dX2_compact_181 : decode cX2_compact 181 = .ok (.invokevirtual 1051, 3) := dk_182 4 27 (dk_at dksX2_compact_7 15 rfl rfl)
theorem dX2_compact_184 : decode cX2_compact 184 = .ok (.iconst 0, 1) := dk_3 (dk_at dksX2_compact_7 18 rfl rfl)
theorem dX2_compact_185 : decode cX2_compact 185 = .ok (.istore_n 2, 1) := dk_61 (dk_at dksX2_compact_7 19 rfl rfl)
theorem dX2_compact_186 : decode cX2_compact 186 = .ok (.iload_n 2, 1) := dk_28 (dk_at dksX2_compact_7 20 rfl rfl)
theorem dX2_compact_187 : decode cX2_compact 187 = .ok (.bipush 62, 2) := dk_16 62 (dk_at dksX2_compact_7 21 rfl rfl)
theorem dX2_compact_189 : decode cX2_compact 189 = .ok (.if_icmp .ge 32, 3) := dk_162 0 32 (dk_at dksX2_compact_8 0 rfl rfl)
theorem dX2_compact_192 : decode cX2_compact 192 = .ok (.aload_n 0, 1) := dk_42 (dk_at dksX2_compact_8 3 rfl rfl)
theorem dX2_compact_193 : decode cX2_compact 193 = .ok (.getfield 775, 3) := dk_180 3 7 (dk_at dksX2_compact_8 4 rfl rfl)
theorem dX2_compact_196 : decode cX2_compact 196 = .ok (.iconst 1, 1) := dk_4 (dk_at dksX2_compact_8 7 rfl rfl)
theorem dX2_compact_197 : decode cX2_compact 197 = .ok (.if_icmp .ne 24, 3) := dk_160 0 24 (dk_at dksX2_compact_8 8 rfl rfl)
theorem dX2_compact_200 : decode cX2_compact 200 = .ok (.aload_n 0, 1) := dk_42 (dk_at dksX2_compact_8 11 rfl rfl)
theorem dX2_compact_201 : decode cX2_compact 201 = .ok (.aload_n 0, 1) := dk_42 (dk_at dksX2_compact_8 12 rfl rfl)
theorem dX2_compact_202 : decode cX2_compact 202 = .ok (.getfield 308, 3) := dk_180 1 52 (dk_at dksX2_compact_8 13 rfl rfl)
theorem dX2_compact_205 : decode cX2_compact 205 = .ok (.bipush 64, 2) := dk_16 64 (dk_at dksX2_compact_8 16 rfl rfl)
theorem dX2_compact_207 : decode cX2_compact 207 = .ok (.iload_n 1, 1) := dk_27 (dk_at dksX2_compact_8 18 rfl rfl)
theorem dX2_compact_208 : decode cX2_compact 208 = .ok (.imul, 1) := dk_104 (dk_at dksX2_compact_8 19 rfl rfl)
theorem dX2_compact_209 : decode cX2_compact 209 = .ok (.iload_n 2, 1) := dk_28 (dk_at dksX2_compact_8 20 rfl rfl)
theorem dX2_compact_210 : decode cX2_compact 210 = .ok (.iadd, 1) := dk_96 (dk_at dksX2_compact_8 21 rfl rfl)
theorem dX2_compact_211 : decode cX2_compact 211 = .ok (.iaload, 1) := dk_46 (dk_at dksX2_compact_8 22 rfl rfl)
theorem dX2_compact_212 : decode cX2_compact 212 = .ok (.invokevirtual 1051, 3) := dk_182 4 27 (dk_at dksX2_compact_9 0 rfl rfl)
theorem dX2_compact_215 : decode cX2_compact 215 = .ok (.iinc 2 1, 3) := dk_132 2 1 (dk_at dksX2_compact_9 3 rfl rfl)
theorem dX2_compact_218 : decode cX2_compact 218 = .ok (.goto (-32), 3) := dk_167 255 224 (dk_at dksX2_compact_9 6 rfl rfl)
theorem dX2_compact_221 : decode cX2_compact 221 = .ok (.iinc 1 1, 3) := dk_132 1 1 (dk_at dksX2_compact_9 9 rfl rfl)
theorem dX2_compact_224 : decode cX2_compact 224 = .ok (.goto (-66), 3) := dk_167 255 190 (dk_at dksX2_compact_9 12 rfl rfl)
theorem dX2_compact_227 : decode cX2_compact 227 = .ok (.aload_n 0, 1) := dk_42 (dk_at dksX2_compact_9 15 rfl rfl)
theorem dX2_compact_228 : decode cX2_compact 228 = .ok (.getfield 664, 3) := dk_180 2 152 (dk_at dksX2_compact_9 16 rfl rfl)
theorem dX2_compact_231 : decode cX2_compact 231 = .ok (.iconst 1, 1) := dk_4 (dk_at dksX2_compact_9 19 rfl rfl)
theorem dX2_compact_232 : decode cX2_compact 232 = .ok (.isub, 1) := dk_100 (dk_at dksX2_compact_9 20 rfl rfl)
theorem dX2_compact_233 : decode cX2_compact 233 = .ok (.istore_n 1, 1) := dk_60 (dk_at dksX2_compact_9 21 rfl rfl)
theorem dX2_compact_234 : decode cX2_compact 234 = .ok (.iload_n 1, 1) := dk_27 (dk_at dksX2_compact_9 22 rfl rfl)
theorem dX2_compact_235 : decode cX2_compact 235 = .ok (.ifCond .lt 49, 3) := dk_155 0 49 (dk_at dksX2_compact_10 0 rfl rfl)
theorem dX2_compact_238 : decode cX2_compact 238 = .ok (.iconst 0, 1) := dk_3 (dk_at dksX2_compact_10 3 rfl rfl)
theorem dX2_compact_239 : decode cX2_compact 239 = .ok (.istore_n 2, 1) := dk_61 (dk_at dksX2_compact_10 4 rfl rfl)
theorem dX2_compact_240 : decode cX2_compact 240 = .ok (.iload_n 2, 1) := dk_28 (dk_at dksX2_compact_10 5 rfl rfl)
theorem dX2_compact_241 : decode cX2_compact 241 = .ok (.aload_n 0, 1) := dk_42 (dk_at dksX2_compact_10 6 rfl rfl)
theorem dX2_compact_242 : decode cX2_compact 242 = .ok (.getfield 187, 3) := dk_180 0 187 (dk_at dksX2_compact_10 7 rfl rfl)
theorem dX2_compact_245 : decode cX2_compact 245 = .ok (.iload_n 1, 1) := dk_27 (dk_at dksX2_compact_10 10 rfl rfl)
theorem dX2_compact_246 : decode cX2_compact 246 = .ok (.iaload, 1) := dk_46 (dk_at dksX2_compact_10 11 rfl rfl)
theorem dX2_compact_247 : decode cX2_compact 247 = .ok (.if_icmp .ge 31, 3) := dk_162 0 31 (dk_at dksX2_compact_10 12 rfl rfl)
theorem dX2_compact_250 : decode cX2_compact 250 = .ok (.aload_n 0, 1) := dk_42 (dk_at dksX2_compact_10 15 rfl rfl)
theorem dX2_compact_251 : decode cX2_compact 251 = .ok (.getfield 326, 3) := dk_180 1 70 (dk_at dksX2_compact_10 16 rfl rfl)
theorem dX2_compact_254 : decode cX2_compact 254 = .ok (.iload_n 1, 1) := dk_27 (dk_at dksX2_compact_10 19 rfl rfl)
theorem dX2_compact_255 : decode cX2_compact 255 = .ok (.iaload, 1) := dk_46 (dk_at dksX2_compact_10 20 rfl rfl)
theorem dX2_compact_256 : decode cX2_compact 256 = .ok (.iconst 1, 1) := dk_4 (dk_at dksX2_compact_10 21 rfl rfl)
theorem dX2_compact_257 : decode cX2_compact 257 = .ok (.if_icmp .ne 21, 3) := dk_160 0 21 (dk_at dksX2_compact_11 0 rfl rfl)
theorem dX2_compact_260 : decode cX2_compact 260 = .ok (.aload_n 0, 1) := dk_42 (dk_at dksX2_compact_11 3 rfl rfl)
theorem dX2_compact_261 : decode cX2_compact 261 = .ok (.getfield 326, 3) := dk_180 1 70 (dk_at dksX2_compact_11 4 rfl rfl)
theorem dX2_compact_264 : decode cX2_compact 264 = .ok (.aload_n 0, 1) := dk_42 (dk_at dksX2_compact_11 7 rfl rfl)
theorem dX2_compact_265 : decode cX2_compact 265 = .ok (.iload_n 1, 1) := dk_27 (dk_at dksX2_compact_11 8 rfl rfl)
theorem dX2_compact_266 : decode cX2_compact 266 = .ok (.iload_n 2, 1) := dk_28 (dk_at dksX2_compact_11 9 rfl rfl)
theorem dX2_compact_267 : decode cX2_compact 267 = .ok (.invokevirtual 691, 3) := dk_182 2 179 (dk_at dksX2_compact_11 10 rfl rfl)
theorem dX2_compact_270 : decode cX2_compact 270 = .ok (.iconst 1, 1) := dk_4 (dk_at dksX2_compact_11 13 rfl rfl)
theorem dX2_compact_271 : decode cX2_compact 271 = .ok (.iastore, 1) := dk_79 (dk_at dksX2_compact_11 14 rfl rfl)
theorem dX2_compact_272 : decode cX2_compact 272 = .ok (.iinc 2 1, 3) := dk_132 2 1 (dk_at dksX2_compact_11 15 rfl rfl)
theorem dX2_compact_275 : decode cX2_compact 275 = .ok (.goto (-35), 3) := dk_167 255 221 (dk_at dksX2_compact_11 18 rfl rfl)
theorem dX2_compact_278 : decode cX2_compact 278 = .ok (.iinc 1 (-1), 3) := dk_132 1 255 (dk_at dksX2_compact_11 21 rfl rfl)
theorem dX2_compact_281 : decode cX2_compact 281 = .ok (.goto (-47), 3) := dk_167 255 209 (dk_at dksX2_compact_12 0 rfl rfl)
theorem dX2_compact_284 : decode cX2_compact 284 = .ok (.aload_n 0, 1) := dk_42 (dk_at dksX2_compact_12 3 rfl rfl)
theorem dX2_compact_285 : decode cX2_compact 285 = .ok (.invokevirtual 1064, 3) := dk_182 4 40 (dk_at dksX2_compact_12 4 rfl rfl)
theorem dX2_compact_288 : decode cX2_compact 288 = .ok (.iconst 0, 1) := dk_3 (dk_at dksX2_compact_12 7 rfl rfl)
theorem dX2_compact_289 : decode cX2_compact 289 = .ok (.istore_n 1, 1) := dk_60 (dk_at dksX2_compact_12 8 rfl rfl)
theorem dX2_compact_290 : decode cX2_compact 290 = .ok (.iload_n 1, 1) := dk_27 (dk_at dksX2_compact_12 9 rfl rfl)
theorem dX2_compact_291 : decode cX2_compact 291 = .ok (.aload_n 0, 1) := dk_42 (dk_at dksX2_compact_12 10 rfl rfl)
theorem dX2_compact_292 : decode cX2_compact 292 = .ok (.getfield 515, 3) := dk_180 2 3 (dk_at dksX2_compact_12 11 rfl rfl)
theorem dX2_compact_295 : decode cX2_compact 295 = .ok (.if_icmp .ge 134, 3) := dk_162 0 134 (dk_at dksX2_compact_12 14 rfl rfl)
theorem dX2_compact_298 : decode cX2_compact 298 = .ok (.aload_n 0, 1) := dk_42 (dk_at dksX2_compact_12 17 rfl rfl)
theorem dX2_compact_299 : decode cX2_compact 299 = .ok (.getfield 232, 3) := dk_180 0 232 (dk_at dksX2_compact_12 18 rfl rfl)
theorem dX2_compact_302 : decode cX2_compact 302 = .ok (.iload_n 1, 1) := dk_27 (dk_at dksX2_compact_12 21 rfl rfl)
theorem dX2_compact_303 : decode cX2_compact 303 = .ok (.aload_n 0, 1) := dk_42 (dk_at dksX2_compact_12 22 rfl rfl)
theorem dX2_compact_304 : decode cX2_compact 304 = .ok (.getfield 326, 3) := dk_180 1 70 (dk_at dksX2_compact_13 0 rfl rfl)
theorem dX2_compact_307 : decode cX2_compact 307 = .ok (.aload_n 0, 1) := dk_42 (dk_at dksX2_compact_13 3 rfl rfl)
theorem dX2_compact_308 : decode cX2_compact 308 = .ok (.getfield 232, 3) := dk_180 0 232 (dk_at dksX2_compact_13 4 rfl rfl)
theorem dX2_compact_311 : decode cX2_compact 311 = .ok (.iload_n 1, 1) := dk_27 (dk_at dksX2_compact_13 7 rfl rfl)
theorem dX2_compact_312 : decode cX2_compact 312 = .ok (.iaload, 1) := dk_46 (dk_at dksX2_compact_13 8 rfl rfl)
theorem dX2_compact_313 : decode cX2_compact 313 = .ok (.iaload, 1) := dk_46 (dk_at dksX2_compact_13 9 rfl rfl)
theorem dX2_compact_314 : decode cX2_compact 314 = .ok (.iastore, 1) := dk_79 (dk_at dksX2_compact_13 10 rfl rfl)
theorem dX2_compact_315 : decode cX2_compact 315 = .ok (.aload_n 0, 1) := dk_42 (dk_at dksX2_compact_13 11 rfl rfl)
theorem dX2_compact_316 : decode cX2_compact 316 = .ok (.getfield 235, 3) := dk_180 0 235 (dk_at dksX2_compact_13 12 rfl rfl)
theorem dX2_compact_319 : decode cX2_compact 319 = .ok (.iload_n 1, 1) := dk_27 (dk_at dksX2_compact_13 15 rfl rfl)
theorem dX2_compact_320 : decode cX2_compact 320 = .ok (.aload_n 0, 1) := dk_42 (dk_at dksX2_compact_13 16 rfl rfl)
theorem dX2_compact_321 : decode cX2_compact 321 = .ok (.getfield 326, 3) := dk_180 1 70 (dk_at dksX2_compact_13 17 rfl rfl)
theorem dX2_compact_324 : decode cX2_compact 324 = .ok (.aload_n 0, 1) := dk_42 (dk_at dksX2_compact_13 20 rfl rfl)
theorem dX2_compact_325 : decode cX2_compact 325 = .ok (.getfield 235, 3) := dk_180 0 235 (dk_at dksX2_compact_13 21 rfl rfl)
theorem dX2_compact_328 : decode cX2_compact 328 = .ok (.iload_n 1, 1) := dk_27 (dk_at dksX2_compact_14 0 rfl rfl)
theorem dX2_compact_329 : decode cX2_compact 329 = .ok (.iaload, 1) := dk_46 (dk_at dksX2_compact_14 1 rfl rfl)
theorem dX2_compact_330 : decode cX2_compact 330 = .ok (.iaload, 1) := dk_46 (dk_at dksX2_compact_14 2 rfl rfl)
theorem dX2_compact_331 : decode cX2_compact 331 = .ok (.iastore, 1) := dk_79 (dk_at dksX2_compact_14 3 rfl rfl)
theorem dX2_compact_332 : decode cX2_compact 332 = .ok (.iconst 0, 1) := dk_3 (dk_at dksX2_compact_14 4 rfl rfl)
theorem dX2_compact_333 : decode cX2_compact 333 = .ok (.istore_n 2, 1) := dk_61 (dk_at dksX2_compact_14 5 rfl rfl)
theorem dX2_compact_334 : decode cX2_compact 334 = .ok (.iload_n 2, 1) := dk_28 (dk_at dksX2_compact_14 6 rfl rfl)
theorem dX2_compact_335 : decode cX2_compact 335 = .ok (.aload_n 0, 1) := dk_42 (dk_at dksX2_compact_14 7 rfl rfl)
theorem dX2_compact_336 : decode cX2_compact 336 = .ok (.getfield 123, 3) := dk_180 0 123 (dk_at dksX2_compact_14 8 rfl rfl)
theorem dX2_compact_339 : decode cX2_compact 339 = .ok (.iload_n 1, 1) := dk_27 (dk_at dksX2_compact_14 11 rfl rfl)
theorem dX2_compact_340 : decode cX2_compact 340 = .ok (.iaload, 1) := dk_46 (dk_at dksX2_compact_14 12 rfl rfl)
theorem dX2_compact_341 : decode cX2_compact 341 = .ok (.if_icmp .ge 82, 3) := dk_162 0 82 (dk_at dksX2_compact_14 13 rfl rfl)
theorem dX2_compact_344 : decode cX2_compact 344 = .ok (.aload_n 0, 1) := dk_42 (dk_at dksX2_compact_14 16 rfl rfl)
theorem dX2_compact_345 : decode cX2_compact 345 = .ok (.getfield 238, 3) := dk_180 0 238 (dk_at dksX2_compact_14 17 rfl rfl)
theorem dX2_compact_348 : decode cX2_compact 348 = .ok (.bipush 6, 2) := dk_16 6 (dk_at dksX2_compact_14 20 rfl rfl)
theorem dX2_compact_350 : decode cX2_compact 350 = .ok (.iload_n 1, 1) := dk_27 (dk_at dksX2_compact_14 22 rfl rfl)
theorem dX2_compact_351 : decode cX2_compact 351 = .ok (.imul, 1) := dk_104 (dk_at dksX2_compact_14 23 rfl rfl)
theorem dX2_compact_352 : decode cX2_compact 352 = .ok (.iload_n 2, 1) := dk_28 (dk_at dksX2_compact_15 0 rfl rfl)
theorem dX2_compact_353 : decode cX2_compact 353 = .ok (.iadd, 1) := dk_96 (dk_at dksX2_compact_15 1 rfl rfl)
theorem dX2_compact_354 : decode cX2_compact 354 = .ok (.aload_n 0, 1) := dk_42 (dk_at dksX2_compact_15 2 rfl rfl)
theorem dX2_compact_355 : decode cX2_compact 355 = .ok (.getfield 326, 3) := dk_180 1 70 (dk_at dksX2_compact_15 3 rfl rfl)
theorem dX2_compact_358 : decode cX2_compact 358 = .ok (.aload_n 0, 1) := dk_42 (dk_at dksX2_compact_15 6 rfl rfl)
theorem dX2_compact_359 : decode cX2_compact 359 = .ok (.getfield 238, 3) := dk_180 0 238 (dk_at dksX2_compact_15 7 rfl rfl)
theorem dX2_compact_362 : decode cX2_compact 362 = .ok (.bipush 6, 2) := dk_16 6 (dk_at dksX2_compact_15 10 rfl rfl)
theorem dX2_compact_364 : decode cX2_compact 364 = .ok (.iload_n 1, 1) := dk_27 (dk_at dksX2_compact_15 12 rfl rfl)
theorem dX2_compact_365 : decode cX2_compact 365 = .ok (.imul, 1) := dk_104 (dk_at dksX2_compact_15 13 rfl rfl)
theorem dX2_compact_366 : decode cX2_compact 366 = .ok (.iload_n 2, 1) := dk_28 (dk_at dksX2_compact_15 14 rfl rfl)
theorem dX2_compact_367 : decode cX2_compact 367 = .ok (.iadd, 1) := dk_96 (dk_at dksX2_compact_15 15 rfl rfl)
theorem dX2_compact_368 : decode cX2_compact 368 = .ok (.iaload, 1) := dk_46 (dk_at dksX2_compact_15 16 rfl rfl)
theorem dX2_compact_369 : decode cX2_compact 369 = .ok (.iaload, 1) := dk_46 (dk_at dksX2_compact_15 17 rfl rfl)
theorem dX2_compact_370 : decode cX2_compact 370 = .ok (.iastore, 1) := dk_79 (dk_at dksX2_compact_15 18 rfl rfl)
theorem dX2_compact_371 : decode cX2_compact 371 = .ok (.aload_n 0, 1) := dk_42 (dk_at dksX2_compact_15 19 rfl rfl)
theorem dX2_compact_372 : decode cX2_compact 372 = .ok (.getfield 241, 3) := dk_180 0 241 (dk_at dksX2_compact_15 20 rfl rfl)
theorem dX2_compact_375 : decode cX2_compact 375 = .ok (.bipush 6, 2) := dk_16 6 (dk_at dksX2_compact_16 0 rfl rfl)
theorem dX2_compact_377 : decode cX2_compact 377 = .ok (.iload_n 1, 1) := dk_27 (dk_at dksX2_compact_16 2 rfl rfl)
theorem dX2_compact_378 : decode cX2_compact 378 = .ok (.imul, 1) := dk_104 (dk_at dksX2_compact_16 3 rfl rfl)
theorem dX2_compact_379 : decode cX2_compact 379 = .ok (.iload_n 2, 1) := dk_28 (dk_at dksX2_compact_16 4 rfl rfl)
theorem dX2_compact_380 : decode cX2_compact 380 = .ok (.iadd, 1) := dk_96 (dk_at dksX2_compact_16 5 rfl rfl)
theorem dX2_compact_381 : decode cX2_compact 381 = .ok (.aload_n 0, 1) := dk_42 (dk_at dksX2_compact_16 6 rfl rfl)
theorem dX2_compact_382 : decode cX2_compact 382 = .ok (.getfield 241, 3) := dk_180 0 241 (dk_at dksX2_compact_16 7 rfl rfl)
theorem dX2_compact_385 : decode cX2_compact 385 = .ok (.bipush 6, 2) := dk_16 6 (dk_at dksX2_compact_16 10 rfl rfl)
theorem dX2_compact_387 : decode cX2_compact 387 = .ok (.iload_n 1, 1) := dk_27 (dk_at dksX2_compact_16 12 rfl rfl)
theorem dX2_compact_388 : decode cX2_compact 388 = .ok (.imul, 1) := dk_104 (dk_at dksX2_compact_16 13 rfl rfl)
theorem dX2_compact_389 : decode cX2_compact 389 = .ok (.iload_n 2, 1) := dk_28 (dk_at dksX2_compact_16 14 rfl rfl)
theorem dX2_compact_390 : decode cX2_compact 390 = .ok (.iadd, 1) := dk_96 (dk_at dksX2_compact_16 15 rfl rfl)
theorem dX2_compact_391 : decode cX2_compact 391 = .ok (.iaload, 1) := dk_46 (dk_at dksX2_compact_16 16 rfl rfl)
theorem dX2_compact_392 : decode cX2_compact 392 = .ok (.ifCond .ge 8, 3) := dk_156 0 8 (dk_at dksX2_compact_16 17 rfl rfl)
theorem dX2_compact_395 : decode cX2_compact 395 = .ok (.bipush (-2), 2) := dk_16 254 (dk_at dksX2_compact_16 20 rfl rfl)
theorem dX2_compact_397 : decode cX2_compact 397 = .ok (.goto 19, 3) := dk_167 0 19 (dk_at dksX2_compact_17 0 rfl rfl)
theorem dX2_compact_400 : decode cX2_compact 400 = .ok (.aload_n 0, 1) := dk_42 (dk_at dksX2_compact_17 3 rfl rfl)
theorem dX2_compact_401 : decode cX2_compact 401 = .ok (.getfield 326, 3) := dk_180 1 70 (dk_at dksX2_compact_17 4 rfl rfl)
theorem dX2_compact_404 : decode cX2_compact 404 = .ok (.aload_n 0, 1) := dk_42 (dk_at dksX2_compact_17 7 rfl rfl)
theorem dX2_compact_405 : decode cX2_compact 405 = .ok (.getfield 241, 3) := dk_180 0 241 (dk_at dksX2_compact_17 8 rfl rfl)
theorem dX2_compact_408 : decode cX2_compact 408 = .ok (.bipush 6, 2) := dk_16 6 (dk_at dksX2_compact_17 11 rfl rfl)
theorem dX2_compact_410 : decode cX2_compact 410 = .ok (.iload_n 1, 1) := dk_27 (dk_at dksX2_compact_17 13 rfl rfl)
theorem dX2_compact_411 : decode cX2_compact 411 = .ok (.imul, 1) := dk_104 (dk_at dksX2_compact_17 14 rfl rfl)
theorem dX2_compact_412 : decode cX2_compact 412 = .ok (.iload_n 2, 1) := dk_28 (dk_at dksX2_compact_17 15 rfl rfl)
theorem dX2_compact_413 : decode cX2_compact 413 = .ok (.iadd, 1) := dk_96 (dk_at dksX2_compact_17 16 rfl rfl)
theorem dX2_compact_414 : decode cX2_compact 414 = .ok (.iaload, 1) := dk_46 (dk_at dksX2_compact_17 17 rfl rfl)
theorem dX2_compact_415 : decode cX2_compact 415 = .ok (.iaload, 1) := dk_46 (dk_at dksX2_compact_17 18 rfl rfl)
theorem dX2_compact_416 : decode cX2_compact 416 = .ok (.iastore, 1) := dk_79 (dk_at dksX2_compact_17 19 rfl rfl)
theorem dX2_compact_417 : decode cX2_compact 417 = .ok (.iinc 2 1, 3) := dk_132 2 1 (dk_at dksX2_compact_17 20 rfl rfl)
theorem dX2_compact_420 : decode cX2_compact 420 = .ok (.goto (-86), 3) := dk_167 255 170 (dk_at dksX2_compact_18 0 rfl rfl)
theorem dX2_compact_423 : decode cX2_compact 423 = .ok (.iinc 1 1, 3) := dk_132 1 1 (dk_at dksX2_compact_18 3 rfl rfl)
theorem dX2_compact_426 : decode cX2_compact 426 = .ok (.goto (-136), 3) := dk_167 255 120 (dk_at dksX2_compact_18 6 rfl rfl)
theorem dX2_compact_429 : decode cX2_compact 429 = .ok (.iconst 0, 1) := dk_3 (dk_at dksX2_compact_18 9 rfl rfl)
theorem dX2_compact_430 : decode cX2_compact 430 = .ok (.istore_n 1, 1) := dk_60 (dk_at dksX2_compact_18 10 rfl rfl)
theorem dX2_compact_431 : decode cX2_compact 431 = .ok (.iload_n 1, 1) := dk_27 (dk_at dksX2_compact_18 11 rfl rfl)
theorem dX2_compact_432 : decode cX2_compact 432 = .ok (.aload_n 0, 1) := dk_42 (dk_at dksX2_compact_18 12 rfl rfl)
theorem dX2_compact_433 : decode cX2_compact 433 = .ok (.getfield 769, 3) := dk_180 3 1 (dk_at dksX2_compact_18 13 rfl rfl)
theorem dX2_compact_436 : decode cX2_compact 436 = .ok (.if_icmp .ge 26, 3) := dk_162 0 26 (dk_at dksX2_compact_18 16 rfl rfl)
theorem dX2_compact_439 : decode cX2_compact 439 = .ok (.aload_n 0, 1) := dk_42 (dk_at dksX2_compact_18 19 rfl rfl)
theorem dX2_compact_440 : decode cX2_compact 440 = .ok (.getfield 250, 3) := dk_180 0 250 (dk_at dksX2_compact_18 20 rfl rfl)
theorem dX2_compact_443 : decode cX2_compact 443 = .ok (.iload_n 1, 1) := dk_27 (dk_at dksX2_compact_18 23 rfl rfl)
theorem dX2_compact_444 : decode cX2_compact 444 = .ok (.aload_n 0, 1) := dk_42 (dk_at dksX2_compact_19 0 rfl rfl)
theorem dX2_compact_445 : decode cX2_compact 445 = .ok (.getfield 326, 3) := dk_180 1 70 (dk_at dksX2_compact_19 1 rfl rfl)
theorem dX2_compact_448 : decode cX2_compact 448 = .ok (.aload_n 0, 1) := dk_42 (dk_at dksX2_compact_19 4 rfl rfl)
theorem dX2_compact_449 : decode cX2_compact 449 = .ok (.getfield 250, 3) := dk_180 0 250 (dk_at dksX2_compact_19 5 rfl rfl)
theorem dX2_compact_452 : decode cX2_compact 452 = .ok (.iload_n 1, 1) := dk_27 (dk_at dksX2_compact_19 8 rfl rfl)
theorem dX2_compact_453 : decode cX2_compact 453 = .ok (.iaload, 1) := dk_46 (dk_at dksX2_compact_19 9 rfl rfl)
theorem dX2_compact_454 : decode cX2_compact 454 = .ok (.iaload, 1) := dk_46 (dk_at dksX2_compact_19 10 rfl rfl)
theorem dX2_compact_455 : decode cX2_compact 455 = .ok (.iastore, 1) := dk_79 (dk_at dksX2_compact_19 11 rfl rfl)
theorem dX2_compact_456 : decode cX2_compact 456 = .ok (.iinc 1 1, 3) := dk_132 1 1 (dk_at dksX2_compact_19 12 rfl rfl)
theorem dX2_compact_459 : decode cX2_compact 459 = .ok (.goto (-28), 3) := dk_167 255 228 (dk_at dksX2_compact_19 15 rfl rfl)
theorem dX2_compact_462 : decode cX2_compact 462 = .ok (.aload_n 0, 1) := dk_42 (dk_at dksX2_compact_19 18 rfl rfl)
theorem dX2_compact_463 : decode cX2_compact 463 = .ok (.getfield 1054, 3) := dk_180 4 30 (dk_at dksX2_compact_19 19 rfl rfl)
theorem dX2_compact_466 : decode cX2_compact 466 = .ok (.ifCond .eq 29, 3) := dk_153 0 29 (dk_at dksX2_compact_20 0 rfl rfl)
theorem dX2_compact_469 : decode cX2_compact 469 = .ok (.aload_n 0, 1) := dk_42 (dk_at dksX2_compact_20 3 rfl rfl)
theorem dX2_compact_470 : decode cX2_compact 470 = .ok (.aload_n 0, 1) := dk_42 (dk_at dksX2_compact_20 4 rfl rfl)
theorem dX2_compact_471 : decode cX2_compact 471 = .ok (.getfield 326, 3) := dk_180 1 70 (dk_at dksX2_compact_20 5 rfl rfl)
theorem dX2_compact_474 : decode cX2_compact 474 = .ok (.aload_n 0, 1) := dk_42 (dk_at dksX2_compact_20 8 rfl rfl)
theorem dX2_compact_475 : decode cX2_compact 475 = .ok (.getfield 1058, 3) := dk_180 4 34 (dk_at dksX2_compact_20 9 rfl rfl)
theorem dX2_compact_478 : decode cX2_compact 478 = .ok (.iaload, 1) := dk_46 (dk_at dksX2_compact_20 12 rfl rfl)
theorem dX2_compact_479 : decode cX2_compact 479 = .ok (.putfield 1058, 3) := dk_181 4 34 (dk_at dksX2_compact_20 13 rfl rfl)
theorem dX2_compact_482 : decode cX2_compact 482 = .ok (.aload_n 0, 1) := dk_42 (dk_at dksX2_compact_20 16 rfl rfl)
theorem dX2_compact_483 : decode cX2_compact 483 = .ok (.aload_n 0, 1) := dk_42 (dk_at dksX2_compact_20 17 rfl rfl)
theorem dX2_compact_484 : decode cX2_compact 484 = .ok (.getfield 326, 3) := dk_180 1 70 (dk_at dksX2_compact_20 18 rfl rfl)
theorem dX2_compact_487 : decode cX2_compact 487 = .ok (.aload_n 0, 1) := dk_42 (dk_at dksX2_compact_20 21 rfl rfl)
theorem dX2_compact_488 : decode cX2_compact 488 = .ok (.getfield 1061, 3) := dk_180 4 37 (dk_at dksX2_compact_21 0 rfl rfl)
theorem dX2_compact_491 : decode cX2_compact 491 = .ok (.iaload, 1) := dk_46 (dk_at dksX2_compact_21 3 rfl rfl)
theorem dX2_compact_492 : decode cX2_compact 492 = .ok (.putfield 1061, 3) := dk_181 4 37 (dk_at dksX2_compact_21 4 rfl rfl)
theorem dX2_compact_495 : decode cX2_compact 495 = .ok (.iconst 0, 1) := dk_3 (dk_at dksX2_compact_21 7 rfl rfl)
theorem dX2_compact_496 : decode cX2_compact 496 = .ok (.istore_n 1, 1) := dk_60 (dk_at dksX2_compact_21 8 rfl rfl)
theorem dX2_compact_497 : decode cX2_compact 497 = .ok (.iload_n 1, 1) := dk_27 (dk_at dksX2_compact_21 9 rfl rfl)
theorem dX2_compact_498 : decode cX2_compact 498 = .ok (.aload_n 0, 1) := dk_42 (dk_at dksX2_compact_21 10 rfl rfl)
theorem dX2_compact_499 : decode cX2_compact 499 = .ok (.getfield 772, 3) := dk_180 3 4 (dk_at dksX2_compact_21 11 rfl rfl)
theorem dX2_compact_502 : decode cX2_compact 502 = .ok (.if_icmp .ge 93, 3) := dk_162 0 93 (dk_at dksX2_compact_21 14 rfl rfl)
theorem dX2_compact_505 : decode cX2_compact 505 = .ok (.aload_n 0, 1) := dk_42 (dk_at dksX2_compact_21 17 rfl rfl)
theorem dX2_compact_506 : decode cX2_compact 506 = .ok (.getfield 775, 3) := dk_180 3 7 (dk_at dksX2_compact_21 18 rfl rfl)
theorem dX2_compact_509 : decode cX2_compact 509 = .ok (.iconst 1, 1) := dk_4 (dk_at dksX2_compact_21 21 rfl rfl)
theorem dX2_compact_510 : decode cX2_compact 510 = .ok (.if_icmp .eq 20, 3) := dk_159 0 20 (dk_at dksX2_compact_22 0 rfl rfl)
theorem dX2_compact_513 : decode cX2_compact 513 = .ok (.aload_n 0, 1) := dk_42 (dk_at dksX2_compact_22 3 rfl rfl)
theorem dX2_compact_514 : decode cX2_compact 514 = .ok (.getfield 305, 3) := dk_180 1 49 (dk_at dksX2_compact_22 4 rfl rfl)
theorem dX2_compact_517 : decode cX2_compact 517 = .ok (.iload_n 1, 1) := dk_27 (dk_at dksX2_compact_22 7 rfl rfl)
theorem dX2_compact_518 : decode cX2_compact 518 = .ok (.aload_n 0, 1) := dk_42 (dk_at dksX2_compact_22 8 rfl rfl)
theorem dX2_compact_519 : decode cX2_compact 519 = .ok (.getfield 326, 3) := dk_180 1 70 (dk_at dksX2_compact_22 9 rfl rfl)
theorem dX2_compact_522 : decode cX2_compact 522 = .ok (.aload_n 0, 1) := dk_42 (dk_at dksX2_compact_22 12 rfl rfl)
theorem dX2_compact_523 : decode cX2_compact 523 = .ok (.getfield 305, 3) := dk_180 1 49 (dk_at dksX2_compact_22 13 rfl rfl)
theorem dX2_compact_526 : decode cX2_compact 526 = .ok (.iload_n 1, 1) := dk_27 (dk_at dksX2_compact_22 16 rfl rfl)
theorem dX2_compact_527 : decode cX2_compact 527 = .ok (.iaload, 1) := dk_46 (dk_at dksX2_compact_22 17 rfl rfl)
theorem dX2_compact_528 : decode cX2_compact 528 = .ok (.iaload, 1) := dk_46 (dk_at dksX2_compact_22 18 rfl rfl)
theorem dX2_compact_529 : decode cX2_compact 529 = .ok (.iastore, 1) := dk_79 (dk_at dksX2_compact_22 19 rfl rfl)
theorem dX2_compact_530 : decode cX2_compact 530 = .ok (.iconst 0, 1) := dk_3 (dk_at dksX2_compact_22 20 rfl rfl)
theorem dX2_compact_531 : decode cX2_compact 531 = .ok (.istore_n 2, 1) := dk_61 (dk_at dksX2_compact_22 21 rfl rfl)
theorem dX2_compact_532 : decode cX2_compact 532 = .ok (.iload_n 2, 1) := dk_28 (dk_at dksX2_compact_22 22 rfl rfl)
theorem dX2_compact_533 : decode cX2_compact 533 = .ok (.bipush 62, 2) := dk_16 62 (dk_at dksX2_compact_23 0 rfl rfl)
theorem dX2_compact_535 : decode cX2_compact 535 = .ok (.if_icmp .ge 54, 3) := dk_162 0 54 (dk_at dksX2_compact_23 2 rfl rfl)
theorem dX2_compact_538 : decode cX2_compact 538 = .ok (.aload_n 0, 1) := dk_42 (dk_at dksX2_compact_23 5 rfl rfl)
theorem dX2_compact_539 : decode cX2_compact 539 = .ok (.getfield 775, 3) := dk_180 3 7 (dk_at dksX2_compact_23 6 rfl rfl)
theorem dX2_compact_542 : decode cX2_compact 542 = .ok (.iconst 1, 1) := dk_4 (dk_at dksX2_compact_23 9 rfl rfl)
theorem dX2_compact_543 : decode cX2_compact 543 = .ok (.if_icmp .ne 46, 3) := dk_160 0 46 (dk_at dksX2_compact_23 10 rfl rfl)
theorem dX2_compact_546 : decode cX2_compact 546 = .ok (.aload_n 0, 1) := dk_42 (dk_at dksX2_compact_23 13 rfl rfl)
theorem dX2_compact_547 : decode cX2_compact 547 = .ok (.getfield 308, 3) := dk_180 1 52 (dk_at dksX2_compact_23 14 rfl rfl)
theorem dX2_compact_550 : decode cX2_compact 550 = .ok (.bipush 64, 2) := dk_16 64 (dk_at dksX2_compact_23 17 rfl rfl)
theorem dX2_compact_552 : decode cX2_compact 552 = .ok (.iload_n 1, 1) := dk_27 (dk_at dksX2_compact_23 19 rfl rfl)
theorem dX2_compact_553 : decode cX2_compact 553 = .ok (.imul, 1) := dk_104 (dk_at dksX2_compact_23 20 rfl rfl)
theorem dX2_compact_554 : decode cX2_compact 554 = .ok (.iload_n 2, 1) := dk_28 (dk_at dksX2_compact_23 21 rfl rfl)
theorem dX2_compact_555 : decode cX2_compact 555 = .ok (.iadd, 1) := dk_96 (dk_at dksX2_compact_23 22 rfl rfl)
theorem dX2_compact_556 : decode cX2_compact 556 = .ok (.iaload, 1) := dk_46 (dk_at dksX2_compact_23 23 rfl rfl)
theorem dX2_compact_557 : decode cX2_compact 557 = .ok (.istore_n 3, 1) := dk_62 (dk_at dksX2_compact_24 0 rfl rfl)
theorem dX2_compact_558 : decode cX2_compact 558 = .ok (.aload_n 0, 1) := dk_42 (dk_at dksX2_compact_24 1 rfl rfl)
theorem dX2_compact_559 : decode cX2_compact 559 = .ok (.getfield 308, 3) := dk_180 1 52 (dk_at dksX2_compact_24 2 rfl rfl)
theorem dX2_compact_562 : decode cX2_compact 562 = .ok (.bipush 64, 2) := dk_16 64 (dk_at dksX2_compact_24 5 rfl rfl)
theorem dX2_compact_564 : decode cX2_compact 564 = .ok (.iload_n 1, 1) := dk_27 (dk_at dksX2_compact_24 7 rfl rfl)
theorem dX2_compact_565 : decode cX2_compact 565 = .ok (.imul, 1) := dk_104 (dk_at dksX2_compact_24 8 rfl rfl)
theorem dX2_compact_566 : decode cX2_compact 566 = .ok (.iload_n 2, 1) := dk_28 (dk_at dksX2_compact_24 9 rfl rfl)
theorem dX2_compact_567 : decode cX2_compact 567 = .ok (.iadd, 1) := dk_96 (dk_at dksX2_compact_24 10 rfl rfl)
theorem dX2_compact_568 : decode cX2_compact 568 = .ok (.iload_n 3, 1) := dk_29 (dk_at dksX2_compact_24 11 rfl rfl)
theorem dX2_compact_569 : decode cX2_compact 569 = .ok (.ifCond .ge 7, 3) := dk_156 0 7 (dk_at dksX2_compact_24 12 rfl rfl)
theorem dX2_compact_572 : decode cX2_compact 572 = .ok (.iload_n 3, 1) := dk_29 (dk_at dksX2_compact_24 15 rfl rfl)
theorem dX2_compact_573 : decode cX2_compact 573 = .ok (.goto 9, 3) := dk_167 0 9 (dk_at dksX2_compact_24 16 rfl rfl)
theorem dX2_compact_576 : decode cX2_compact 576 = .ok (.aload_n 0, 1) := dk_42 (dk_at dksX2_compact_24 19 rfl rfl)
theorem dX2_compact_577 : decode cX2_compact 577 = .ok (.getfield 326, 3) := dk_180 1 70 (dk_at dksX2_compact_24 20 rfl rfl)
theorem dX2_compact_580 : decode cX2_compact 580 = .ok (.iload_n 3, 1) := dk_29 (dk_at dksX2_compact_24 23 rfl rfl)
theorem dX2_compact_581 : decode cX2_compact 581 = .ok (.iaload, 1) := dk_46 (dk_at dksX2_compact_25 0 rfl rfl)
theorem dX2_compact_582 : decode cX2_compact 582 = .ok (.iastore, 1) := dk_79 (dk_at dksX2_compact_25 1 rfl rfl)
theorem dX2_compact_583 : decode cX2_compact 583 = .ok (.iinc 2 1, 3) := dk_132 2 1 (dk_at dksX2_compact_25 2 rfl rfl)
theorem dX2_compact_586 : decode cX2_compact 586 = .ok (.goto (-54), 3) := dk_167 255 202 (dk_at dksX2_compact_25 5 rfl rfl)
theorem dX2_compact_589 : decode cX2_compact 589 = .ok (.iinc 1 1, 3) := dk_132 1 1 (dk_at dksX2_compact_25 8 rfl rfl)
theorem dX2_compact_592 : decode cX2_compact 592 = .ok (.goto (-95), 3) := dk_167 255 161 (dk_at dksX2_compact_25 11 rfl rfl)
theorem dX2_compact_595 : decode cX2_compact 595 = .ok (.return_, 1) := dk_177 (dk_at dksX2_compact_25 14 rfl rfl)
abbrev cX2_markTerm : ByteArray := prog_4_method_153_code
def yX2_markTerm : MethodName := ⟨RX2, "markTerm", "(I)V"⟩
def dkwX2_markTerm_0 : List UInt8 := [27, 155, 0, 10, 42, 180, 1, 70, 27, 4, 79, 177]
abbrev dktX2_markTerm_0 : List UInt8 := dkwX2_markTerm_0 ++ []
theorem dksX2_markTerm_0 : cX2_markTerm.data.toList.drop 0 = dktX2_markTerm_0 := by decide +kernel
theorem dX2_markTerm_0 : decode cX2_markTerm 0 = .ok (.iload_n 1, 1) := dk_27 (dk_at dksX2_markTerm_0 0 rfl rfl)
theorem dX2_markTerm_1 : decode cX2_markTerm 1 = .ok (.ifCond .lt 10, 3) := dk_155 0 10 (dk_at dksX2_markTerm_0 1 rfl rfl)
theorem dX2_markTerm_4 : decode cX2_markTerm 4 = .ok (.aload_n 0, 1) := dk_42 (dk_at dksX2_markTerm_0 4 rfl rfl)
theorem dX2_markTerm_5 : decode cX2_markTerm 5 = .ok (.getfield 326, 3) := dk_180 1 70 (dk_at dksX2_markTerm_0 5 rfl rfl)
theorem dX2_markTerm_8 : decode cX2_markTerm 8 = .ok (.iload_n 1, 1) := dk_27 (dk_at dksX2_markTerm_0 8 rfl rfl)
theorem dX2_markTerm_9 : decode cX2_markTerm 9 = .ok (.iconst 1, 1) := dk_4 (dk_at dksX2_markTerm_0 9 rfl rfl)
theorem dX2_markTerm_10 : decode cX2_markTerm 10 = .ok (.iastore, 1) := dk_79 (dk_at dksX2_markTerm_0 10 rfl rfl)
theorem dX2_markTerm_11 : decode cX2_markTerm 11 = .ok (.return_, 1) := dk_177 (dk_at dksX2_markTerm_0 11 rfl rfl)
abbrev cX2_moveNodes : ByteArray := prog_4_method_155_code
def yX2_moveNodes : MethodName := ⟨RX2, "moveNodes", "()V"⟩
def dkwX2_moveNodes_10 : List UInt8 := [180, 0, 210, 21, 4, 46, 79, 42, 180, 0, 210, 21, 4, 29, 79, 132, 3, 1, 167, 255, 200, 177]
abbrev dktX2_moveNodes_10 : List UInt8 := dkwX2_moveNodes_10 ++ []
def dkwX2_moveNodes_9 : List UInt8 := [180, 0, 184, 29, 46, 42, 180, 0, 187, 29, 46, 182, 2, 159, 54, 4, 42, 180, 0, 196, 29, 42]
abbrev dktX2_moveNodes_9 : List UInt8 := dkwX2_moveNodes_9 ++ dktX2_moveNodes_10
def dkwX2_moveNodes_8 : List UInt8 := [132, 3, 1, 167, 255, 240, 3, 62, 29, 42, 180, 2, 152, 162, 0, 54, 42, 42, 180, 0, 181, 29, 46, 42]
abbrev dktX2_moveNodes_8 : List UInt8 := dkwX2_moveNodes_8 ++ dktX2_moveNodes_9
def dkwX2_moveNodes_7 : List UInt8 := [181, 2, 152, 42, 28, 181, 2, 155, 3, 62, 29, 18, 209, 162, 0, 16, 42, 180, 0, 210, 29, 2, 79]
abbrev dktX2_moveNodes_7 : List UInt8 := dkwX2_moveNodes_7 ++ dktX2_moveNodes_8
def dkwX2_moveNodes_6 : List UInt8 := [21, 5, 96, 61, 42, 180, 1, 70, 29, 27, 79, 132, 1, 1, 132, 3, 1, 167, 255, 106, 42, 27]
abbrev dktX2_moveNodes_6 : List UInt8 := dkwX2_moveNodes_6 ++ dktX2_moveNodes_7
def dkwX2_moveNodes_5 : List UInt8 := [42, 180, 1, 70, 42, 180, 0, 206, 21, 4, 21, 6, 96, 46, 46, 79, 132, 6, 1, 167, 255, 222, 28]
abbrev dktX2_moveNodes_5 : List UInt8 := dkwX2_moveNodes_5 ++ dktX2_moveNodes_6
def dkwX2_moveNodes_4 : List UInt8 := [180, 0, 202, 27, 3, 79, 3, 54, 6, 21, 6, 21, 5, 162, 0, 33, 42, 180, 0, 206, 28, 21, 6, 96]
abbrev dktX2_moveNodes_4 : List UInt8 := dkwX2_moveNodes_4 ++ dktX2_moveNodes_5
def dkwX2_moveNodes_3 : List UInt8 := [180, 0, 190, 27, 42, 180, 0, 190, 29, 46, 79, 42, 180, 0, 193, 27, 42, 180, 0, 193, 29, 46, 79, 42]
abbrev dktX2_moveNodes_3 : List UInt8 := dkwX2_moveNodes_3 ++ dktX2_moveNodes_4
def dkwX2_moveNodes_2 : List UInt8 := [180, 0, 181, 29, 46, 79, 42, 180, 0, 184, 27, 28, 79, 42, 180, 0, 187, 27, 21, 5, 79, 42]
abbrev dktX2_moveNodes_2 : List UInt8 := dkwX2_moveNodes_2 ++ dktX2_moveNodes_3
def dkwX2_moveNodes_1 : List UInt8 := [42, 180, 0, 184, 29, 46, 54, 4, 42, 180, 0, 187, 29, 46, 54, 5, 42, 180, 0, 181, 27, 42]
abbrev dktX2_moveNodes_1 : List UInt8 := dkwX2_moveNodes_1 ++ dktX2_moveNodes_2
def dkwX2_moveNodes_0 : List UInt8 := [3, 60, 3, 61, 3, 62, 29, 42, 180, 2, 152, 162, 0, 148, 42, 180, 1, 70, 29, 46, 4, 160, 0, 132]
abbrev dktX2_moveNodes_0 : List UInt8 := dkwX2_moveNodes_0 ++ dktX2_moveNodes_1
theorem dksX2_moveNodes_0 : cX2_moveNodes.data.toList.drop 0 = dktX2_moveNodes_0 := by decide +kernel
theorem dksX2_moveNodes_1 : cX2_moveNodes.data.toList.drop 24 = dktX2_moveNodes_1 := dk_seg dksX2_moveNodes_0 24 rfl rfl
theorem dksX2_moveNodes_2 : cX2_moveNodes.data.toList.drop 46 = dktX2_moveNodes_2 := dk_seg dksX2_moveNodes_1 22 rfl rfl
theorem dksX2_moveNodes_3 : cX2_moveNodes.data.toList.drop 68 = dktX2_moveNodes_3 := dk_seg dksX2_moveNodes_2 22 rfl rfl
theorem dksX2_moveNodes_4 : cX2_moveNodes.data.toList.drop 92 = dktX2_moveNodes_4 := dk_seg dksX2_moveNodes_3 24 rfl rfl
theorem dksX2_moveNodes_5 : cX2_moveNodes.data.toList.drop 116 = dktX2_moveNodes_5 := dk_seg dksX2_moveNodes_4 24 rfl rfl
theorem dksX2_moveNodes_6 : cX2_moveNodes.data.toList.drop 139 = dktX2_moveNodes_6 := dk_seg dksX2_moveNodes_5 23 rfl rfl
theorem dksX2_moveNodes_7 : cX2_moveNodes.data.toList.drop 161 = dktX2_moveNodes_7 := dk_seg dksX2_moveNodes_6 22 rfl rfl
theorem dksX2_moveNodes_8 : cX2_moveNodes.data.toList.drop 184 = dktX2_moveNodes_8 := dk_seg dksX2_moveNodes_7 23 rfl rfl
theorem dksX2_moveNodes_9 : cX2_moveNodes.data.toList.drop 208 = dktX2_moveNodes_9 := dk_seg dksX2_moveNodes_8 24 rfl rfl
theorem dksX2_moveNodes_10 : cX2_moveNodes.data.toList.drop 230 = dktX2_moveNodes_10 := dk_seg dksX2_moveNodes_9 22 rfl rfl
theorem dX2_moveNodes_0 : decode cX2_moveNodes 0 = .ok (.iconst 0, 1) := dk_3 (dk_at dksX2_moveNodes_0 0 rfl rfl)
theorem dX2_moveNodes_1 : decode cX2_moveNodes 1 = .ok (.istore_n 1, 1) := dk_60 (dk_at dksX2_moveNodes_0 1 rfl rfl)
theorem dX2_moveNodes_2 : decode cX2_moveNodes 2 = .ok (.iconst 0, 1) := dk_3 (dk_at dksX2_moveNodes_0 2 rfl rfl)
theorem dX2_moveNodes_3 : decode cX2_moveNodes 3 = .ok (.istore_n 2, 1) := dk_61 (dk_at dksX2_moveNodes_0 3 rfl rfl)
theorem dX2_moveNodes_4 : decode cX2_moveNodes 4 = .ok (.iconst 0, 1) := dk_3 (dk_at dksX2_moveNodes_0 4 rfl rfl)
theorem dX2_moveNodes_5 : decode cX2_moveNodes 5 = .ok (.istore_n 3, 1) := dk_62 (dk_at dksX2_moveNodes_0 5 rfl rfl)
theorem dX2_moveNodes_6 : decode cX2_moveNodes 6 = .ok (.iload_n 3, 1) := dk_29 (dk_at dksX2_moveNodes_0 6 rfl rfl)
theorem dX2_moveNodes_7 : decode cX2_moveNodes 7 = .ok (.aload_n 0, 1) := dk_42 (dk_at dksX2_moveNodes_0 7 rfl rfl)
theorem dX2_moveNodes_8 : decode cX2_moveNodes 8 = .ok (.getfield 664, 3) := dk_180 2 152 (dk_at dksX2_moveNodes_0 8 rfl rfl)
theorem dX2_moveNodes_11 : decode cX2_moveNodes 11 = .ok (.if_icmp .ge 148, 3) := dk_162 0 148 (dk_at dksX2_moveNodes_0 11 rfl rfl)
theorem dX2_moveNodes_14 : decode cX2_moveNodes 14 = .ok (.aload_n 0, 1) := dk_42 (dk_at dksX2_moveNodes_0 14 rfl rfl)
theorem dX2_moveNodes_15 : decode cX2_moveNodes 15 = .ok (.getfield 326, 3) := dk_180 1 70 (dk_at dksX2_moveNodes_0 15 rfl rfl)
theorem dX2_moveNodes_18 : decode cX2_moveNodes 18 = .ok (.iload_n 3, 1) := dk_29 (dk_at dksX2_moveNodes_0 18 rfl rfl)
theorem dX2_moveNodes_19 : decode cX2_moveNodes 19 = .ok (.iaload, 1) := dk_46 (dk_at dksX2_moveNodes_0 19 rfl rfl)
theorem dX2_moveNodes_20 : decode cX2_moveNodes 20 = .ok (.iconst 1, 1) := dk_4 (dk_at dksX2_moveNodes_0 20 rfl rfl)
theorem dX2_moveNodes_21 : decode cX2_moveNodes 21 = .ok (.if_icmp .ne 132, 3) := dk_160 0 132 (dk_at dksX2_moveNodes_0 21 rfl rfl)
theorem dX2_moveNodes_24 : decode cX2_moveNodes 24 = .ok (.aload_n 0, 1) := dk_42 (dk_at dksX2_moveNodes_1 0 rfl rfl)
theorem dX2_moveNodes_25 : decode cX2_moveNodes 25 = .ok (.getfield 184, 3) := dk_180 0 184 (dk_at dksX2_moveNodes_1 1 rfl rfl)
theorem dX2_moveNodes_28 : decode cX2_moveNodes 28 = .ok (.iload_n 3, 1) := dk_29 (dk_at dksX2_moveNodes_1 4 rfl rfl)
theorem dX2_moveNodes_29 : decode cX2_moveNodes 29 = .ok (.iaload, 1) := dk_46 (dk_at dksX2_moveNodes_1 5 rfl rfl)
theorem dX2_moveNodes_30 : decode cX2_moveNodes 30 = .ok (.istore 4, 2) := dk_54 4 (dk_at dksX2_moveNodes_1 6 rfl rfl)
theorem dX2_moveNodes_32 : decode cX2_moveNodes 32 = .ok (.aload_n 0, 1) := dk_42 (dk_at dksX2_moveNodes_1 8 rfl rfl)
theorem dX2_moveNodes_33 : decode cX2_moveNodes 33 = .ok (.getfield 187, 3) := dk_180 0 187 (dk_at dksX2_moveNodes_1 9 rfl rfl)
theorem dX2_moveNodes_36 : decode cX2_moveNodes 36 = .ok (.iload_n 3, 1) := dk_29 (dk_at dksX2_moveNodes_1 12 rfl rfl)
theorem dX2_moveNodes_37 : decode cX2_moveNodes 37 = .ok (.iaload, 1) := dk_46 (dk_at dksX2_moveNodes_1 13 rfl rfl)
theorem dX2_moveNodes_38 : decode cX2_moveNodes 38 = .ok (.istore 5, 2) := dk_54 5 (dk_at dksX2_moveNodes_1 14 rfl rfl)
theorem dX2_moveNodes_40 : decode cX2_moveNodes 40 = .ok (.aload_n 0, 1) := dk_42 (dk_at dksX2_moveNodes_1 16 rfl rfl)
theorem dX2_moveNodes_41 : decode cX2_moveNodes 41 = .ok (.getfield 181, 3) := dk_180 0 181 (dk_at dksX2_moveNodes_1 17 rfl rfl)
theorem dX2_moveNodes_44 : decode cX2_moveNodes 44 = .ok (.iload_n 1, 1) := dk_27 (dk_at dksX2_moveNodes_1 20 rfl rfl)
theorem dX2_moveNodes_45 : decode cX2_moveNodes 45 = .ok (.aload_n 0, 1) := dk_42 (dk_at dksX2_moveNodes_1 21 rfl rfl)
theorem dX2_moveNodes_46 : decode cX2_moveNodes 46 = .ok (.getfield 181, 3) := dk_180 0 181 (dk_at dksX2_moveNodes_2 0 rfl rfl)
theorem dX2_moveNodes_49 : decode cX2_moveNodes 49 = .ok (.iload_n 3, 1) := dk_29 (dk_at dksX2_moveNodes_2 3 rfl rfl)
theorem dX2_moveNodes_50 : decode cX2_moveNodes 50 = .ok (.iaload, 1) := dk_46 (dk_at dksX2_moveNodes_2 4 rfl rfl)
theorem dX2_moveNodes_51 : decode cX2_moveNodes 51 = .ok (.iastore, 1) := dk_79 (dk_at dksX2_moveNodes_2 5 rfl rfl)
theorem dX2_moveNodes_52 : decode cX2_moveNodes 52 = .ok (.aload_n 0, 1) := dk_42 (dk_at dksX2_moveNodes_2 6 rfl rfl)
theorem dX2_moveNodes_53 : decode cX2_moveNodes 53 = .ok (.getfield 184, 3) := dk_180 0 184 (dk_at dksX2_moveNodes_2 7 rfl rfl)
theorem dX2_moveNodes_56 : decode cX2_moveNodes 56 = .ok (.iload_n 1, 1) := dk_27 (dk_at dksX2_moveNodes_2 10 rfl rfl)
theorem dX2_moveNodes_57 : decode cX2_moveNodes 57 = .ok (.iload_n 2, 1) := dk_28 (dk_at dksX2_moveNodes_2 11 rfl rfl)
theorem dX2_moveNodes_58 : decode cX2_moveNodes 58 = .ok (.iastore, 1) := dk_79 (dk_at dksX2_moveNodes_2 12 rfl rfl)
theorem dX2_moveNodes_59 : decode cX2_moveNodes 59 = .ok (.aload_n 0, 1) := dk_42 (dk_at dksX2_moveNodes_2 13 rfl rfl)
theorem dX2_moveNodes_60 : decode cX2_moveNodes 60 = .ok (.getfield 187, 3) := dk_180 0 187 (dk_at dksX2_moveNodes_2 14 rfl rfl)
theorem dX2_moveNodes_63 : decode cX2_moveNodes 63 = .ok (.iload_n 1, 1) := dk_27 (dk_at dksX2_moveNodes_2 17 rfl rfl)
theorem dX2_moveNodes_64 : decode cX2_moveNodes 64 = .ok (.iload 5, 2) := dk_21 5 (dk_at dksX2_moveNodes_2 18 rfl rfl)
theorem dX2_moveNodes_66 : decode cX2_moveNodes 66 = .ok (.iastore, 1) := dk_79 (dk_at dksX2_moveNodes_2 20 rfl rfl)
theorem dX2_moveNodes_67 : decode cX2_moveNodes 67 = .ok (.aload_n 0, 1) := dk_42 (dk_at dksX2_moveNodes_2 21 rfl rfl)
theorem dX2_moveNodes_68 : decode cX2_moveNodes 68 = .ok (.getfield 190, 3) := dk_180 0 190 (dk_at dksX2_moveNodes_3 0 rfl rfl)
theorem dX2_moveNodes_71 : decode cX2_moveNodes 71 = .ok (.iload_n 1, 1) := dk_27 (dk_at dksX2_moveNodes_3 3 rfl rfl)
theorem dX2_moveNodes_72 : decode cX2_moveNodes 72 = .ok (.aload_n 0, 1) := dk_42 (dk_at dksX2_moveNodes_3 4 rfl rfl)
theorem dX2_moveNodes_73 : decode cX2_moveNodes 73 = .ok (.getfield 190, 3) := dk_180 0 190 (dk_at dksX2_moveNodes_3 5 rfl rfl)
theorem dX2_moveNodes_76 : decode cX2_moveNodes 76 = .ok (.iload_n 3, 1) := dk_29 (dk_at dksX2_moveNodes_3 8 rfl rfl)
theorem dX2_moveNodes_77 : decode cX2_moveNodes 77 = .ok (.iaload, 1) := dk_46 (dk_at dksX2_moveNodes_3 9 rfl rfl)
theorem dX2_moveNodes_78 : decode cX2_moveNodes 78 = .ok (.iastore, 1) := dk_79 (dk_at dksX2_moveNodes_3 10 rfl rfl)
theorem dX2_moveNodes_79 : decode cX2_moveNodes 79 = .ok (.aload_n 0, 1) := dk_42 (dk_at dksX2_moveNodes_3 11 rfl rfl)
theorem dX2_moveNodes_80 : decode cX2_moveNodes 80 = .ok (.getfield 193, 3) := dk_180 0 193 (dk_at dksX2_moveNodes_3 12 rfl rfl)
theorem dX2_moveNodes_83 : decode cX2_moveNodes 83 = .ok (.iload_n 1, 1) := dk_27 (dk_at dksX2_moveNodes_3 15 rfl rfl)
theorem dX2_moveNodes_84 : decode cX2_moveNodes 84 = .ok (.aload_n 0, 1) := dk_42 (dk_at dksX2_moveNodes_3 16 rfl rfl)
theorem dX2_moveNodes_85 : decode cX2_moveNodes 85 = .ok (.getfield 193, 3) := dk_180 0 193 (dk_at dksX2_moveNodes_3 17 rfl rfl)
theorem dX2_moveNodes_88 : decode cX2_moveNodes 88 = .ok (.iload_n 3, 1) := dk_29 (dk_at dksX2_moveNodes_3 20 rfl rfl)
theorem dX2_moveNodes_89 : decode cX2_moveNodes 89 = .ok (.iaload, 1) := dk_46 (dk_at dksX2_moveNodes_3 21 rfl rfl)
theorem dX2_moveNodes_90 : decode cX2_moveNodes 90 = .ok (.iastore, 1) := dk_79 (dk_at dksX2_moveNodes_3 22 rfl rfl)
theorem dX2_moveNodes_91 : decode cX2_moveNodes 91 = .ok (.aload_n 0, 1) := dk_42 (dk_at dksX2_moveNodes_3 23 rfl rfl)
theorem dX2_moveNodes_92 : decode cX2_moveNodes 92 = .ok (.getfield 202, 3) := dk_180 0 202 (dk_at dksX2_moveNodes_4 0 rfl rfl)
theorem dX2_moveNodes_95 : decode cX2_moveNodes 95 = .ok (.iload_n 1, 1) := dk_27 (dk_at dksX2_moveNodes_4 3 rfl rfl)
theorem dX2_moveNodes_96 : decode cX2_moveNodes 96 = .ok (.iconst 0, 1) := dk_3 (dk_at dksX2_moveNodes_4 4 rfl rfl)
theorem dX2_moveNodes_97 : decode cX2_moveNodes 97 = .ok (.iastore, 1) := dk_79 (dk_at dksX2_moveNodes_4 5 rfl rfl)
theorem dX2_moveNodes_98 : decode cX2_moveNodes 98 = .ok (.iconst 0, 1) := dk_3 (dk_at dksX2_moveNodes_4 6 rfl rfl)
theorem dX2_moveNodes_99 : decode cX2_moveNodes 99 = .ok (.istore 6, 2) := dk_54 6 (dk_at dksX2_moveNodes_4 7 rfl rfl)
theorem dX2_moveNodes_101 : decode cX2_moveNodes 101 = .ok (.iload 6, 2) := dk_21 6 (dk_at dksX2_moveNodes_4 9 rfl rfl)
theorem dX2_moveNodes_103 : decode cX2_moveNodes 103 = .ok (.iload 5, 2) := dk_21 5 (dk_at dksX2_moveNodes_4 11 rfl rfl)
theorem dX2_moveNodes_105 : decode cX2_moveNodes 105 = .ok (.if_icmp .ge 33, 3) := dk_162 0 33 (dk_at dksX2_moveNodes_4 13 rfl rfl)
theorem dX2_moveNodes_108 : decode cX2_moveNodes 108 = .ok (.aload_n 0, 1) := dk_42 (dk_at dksX2_moveNodes_4 16 rfl rfl)
theorem dX2_moveNodes_109 : decode cX2_moveNodes 109 = .ok (.getfield 206, 3) := dk_180 0 206 (dk_at dksX2_moveNodes_4 17 rfl rfl)
theorem dX2_moveNodes_112 : decode cX2_moveNodes 112 = .ok (.iload_n 2, 1) := dk_28 (dk_at dksX2_moveNodes_4 20 rfl rfl)
theorem dX2_moveNodes_113 : decode cX2_moveNodes 113 = .ok (.iload 6, 2) := dk_21 6 (dk_at dksX2_moveNodes_4 21 rfl rfl)
theorem dX2_moveNodes_115 : decode cX2_moveNodes 115 = .ok (.iadd, 1) := dk_96 (dk_at dksX2_moveNodes_4 23 rfl rfl)
theorem dX2_moveNodes_116 : decode cX2_moveNodes 116 = .ok (.aload_n 0, 1) := dk_42 (dk_at dksX2_moveNodes_5 0 rfl rfl)
theorem dX2_moveNodes_117 : decode cX2_moveNodes 117 = .ok (.getfield 326, 3) := dk_180 1 70 (dk_at dksX2_moveNodes_5 1 rfl rfl)
theorem dX2_moveNodes_120 : decode cX2_moveNodes 120 = .ok (.aload_n 0, 1) := dk_42 (dk_at dksX2_moveNodes_5 4 rfl rfl)
theorem dX2_moveNodes_121 : decode cX2_moveNodes 121 = .ok (.getfield 206, 3) := dk_180 0 206 (dk_at dksX2_moveNodes_5 5 rfl rfl)
theorem dX2_moveNodes_124 : decode cX2_moveNodes 124 = .ok (.iload 4, 2) := dk_21 4 (dk_at dksX2_moveNodes_5 8 rfl rfl)
theorem dX2_moveNodes_126 : decode cX2_moveNodes 126 = .ok (.iload 6, 2) := dk_21 6 (dk_at dksX2_moveNodes_5 10 rfl rfl)
theorem dX2_moveNodes_128 : decode cX2_moveNodes 128 = .ok (.iadd, 1) := dk_96 (dk_at dksX2_moveNodes_5 12 rfl rfl)
theorem dX2_moveNodes_129 : decode cX2_moveNodes 129 = .ok (.iaload, 1) := dk_46 (dk_at dksX2_moveNodes_5 13 rfl rfl)
theorem dX2_moveNodes_130 : decode cX2_moveNodes 130 = .ok (.iaload, 1) := dk_46 (dk_at dksX2_moveNodes_5 14 rfl rfl)
theorem dX2_moveNodes_131 : decode cX2_moveNodes 131 = .ok (.iastore, 1) := dk_79 (dk_at dksX2_moveNodes_5 15 rfl rfl)
theorem dX2_moveNodes_132 : decode cX2_moveNodes 132 = .ok (.iinc 6 1, 3) := dk_132 6 1 (dk_at dksX2_moveNodes_5 16 rfl rfl)
theorem dX2_moveNodes_135 : decode cX2_moveNodes 135 = .ok (.goto (-34), 3) := dk_167 255 222 (dk_at dksX2_moveNodes_5 19 rfl rfl)
theorem dX2_moveNodes_138 : decode cX2_moveNodes 138 = .ok (.iload_n 2, 1) := dk_28 (dk_at dksX2_moveNodes_5 22 rfl rfl)
theorem dX2_moveNodes_139 : decode cX2_moveNodes 139 = .ok (.iload 5, 2) := dk_21 5 (dk_at dksX2_moveNodes_6 0 rfl rfl)
theorem dX2_moveNodes_141 : decode cX2_moveNodes 141 = .ok (.iadd, 1) := dk_96 (dk_at dksX2_moveNodes_6 2 rfl rfl)
theorem dX2_moveNodes_142 : decode cX2_moveNodes 142 = .ok (.istore_n 2, 1) := dk_61 (dk_at dksX2_moveNodes_6 3 rfl rfl)
theorem dX2_moveNodes_143 : decode cX2_moveNodes 143 = .ok (.aload_n 0, 1) := dk_42 (dk_at dksX2_moveNodes_6 4 rfl rfl)
theorem dX2_moveNodes_144 : decode cX2_moveNodes 144 = .ok (.getfield 326, 3) := dk_180 1 70 (dk_at dksX2_moveNodes_6 5 rfl rfl)
theorem dX2_moveNodes_147 : decode cX2_moveNodes 147 = .ok (.iload_n 3, 1) := dk_29 (dk_at dksX2_moveNodes_6 8 rfl rfl)
theorem dX2_moveNodes_148 : decode cX2_moveNodes 148 = .ok (.iload_n 1, 1) := dk_27 (dk_at dksX2_moveNodes_6 9 rfl rfl)
theorem dX2_moveNodes_149 : decode cX2_moveNodes 149 = .ok (.iastore, 1) := dk_79 (dk_at dksX2_moveNodes_6 10 rfl rfl)
theorem dX2_moveNodes_150 : decode cX2_moveNodes 150 = .ok (.iinc 1 1, 3) := dk_132 1 1 (dk_at dksX2_moveNodes_6 11 rfl rfl)
theorem dX2_moveNodes_153 : decode cX2_moveNodes 153 = .ok (.iinc 3 1, 3) := dk_132 3 1 (dk_at dksX2_moveNodes_6 14 rfl rfl)
theorem dX2_moveNodes_156 : decode cX2_moveNodes 156 = .ok (.goto (-150), 3) := dk_167 255 106 (dk_at dksX2_moveNodes_6 17 rfl rfl)
theorem dX2_moveNodes_159 : decode cX2_moveNodes 159 = .ok (.aload_n 0, 1) := dk_42 (dk_at dksX2_moveNodes_6 20 rfl rfl)
theorem dX2_moveNodes_160 : decode cX2_moveNodes 160 = .ok (.iload_n 1, 1) := dk_27 (dk_at dksX2_moveNodes_6 21 rfl rfl)
theorem dX2_moveNodes_161 : decode cX2_moveNodes 161 = .ok (.putfield 664, 3) := dk_181 2 152 (dk_at dksX2_moveNodes_7 0 rfl rfl)
theorem dX2_moveNodes_164 : decode cX2_moveNodes 164 = .ok (.aload_n 0, 1) := dk_42 (dk_at dksX2_moveNodes_7 3 rfl rfl)
theorem dX2_moveNodes_165 : decode cX2_moveNodes 165 = .ok (.iload_n 2, 1) := dk_28 (dk_at dksX2_moveNodes_7 4 rfl rfl)
theorem dX2_moveNodes_166 : decode cX2_moveNodes 166 = .ok (.putfield 667, 3) := dk_181 2 155 (dk_at dksX2_moveNodes_7 5 rfl rfl)
theorem dX2_moveNodes_169 : decode cX2_moveNodes 169 = .ok (.iconst 0, 1) := dk_3 (dk_at dksX2_moveNodes_7 8 rfl rfl)
theorem dX2_moveNodes_170 : decode cX2_moveNodes 170 = .ok (.istore_n 3, 1) := dk_62 (dk_at dksX2_moveNodes_7 9 rfl rfl)
theorem dX2_moveNodes_171 : decode cX2_moveNodes 171 = .ok (.iload_n 3, 1) := dk_29 (dk_at dksX2_moveNodes_7 10 rfl rfl)
theorem dX2_moveNodes_172 : decode cX2_moveNodes 172 = .ok (.ldc 209, 2) := dk_18 209 (dk_at dksX2_moveNodes_7 11 rfl rfl)
theorem dX2_moveNodes_174 : decode cX2_moveNodes 174 = .ok (.if_icmp .ge 16, 3) := dk_162 0 16 (dk_at dksX2_moveNodes_7 13 rfl rfl)
theorem dX2_moveNodes_177 : decode cX2_moveNodes 177 = .ok (.aload_n 0, 1) := dk_42 (dk_at dksX2_moveNodes_7 16 rfl rfl)
theorem dX2_moveNodes_178 : decode cX2_moveNodes 178 = .ok (.getfield 210, 3) := dk_180 0 210 (dk_at dksX2_moveNodes_7 17 rfl rfl)
theorem dX2_moveNodes_181 : decode cX2_moveNodes 181 = .ok (.iload_n 3, 1) := dk_29 (dk_at dksX2_moveNodes_7 20 rfl rfl)
theorem dX2_moveNodes_182 : decode cX2_moveNodes 182 = .ok (.iconst (-1), 1) := dk_2 (dk_at dksX2_moveNodes_7 21 rfl rfl)
theorem dX2_moveNodes_183 : decode cX2_moveNodes 183 = .ok (.iastore, 1) := dk_79 (dk_at dksX2_moveNodes_7 22 rfl rfl)
theorem dX2_moveNodes_184 : decode cX2_moveNodes 184 = .ok (.iinc 3 1, 3) := dk_132 3 1 (dk_at dksX2_moveNodes_8 0 rfl rfl)
theorem dX2_moveNodes_187 : decode cX2_moveNodes 187 = .ok (.goto (-16), 3) := dk_167 255 240 (dk_at dksX2_moveNodes_8 3 rfl rfl)
theorem dX2_moveNodes_190 : decode cX2_moveNodes 190 = .ok (.iconst 0, 1) := dk_3 (dk_at dksX2_moveNodes_8 6 rfl rfl)
theorem dX2_moveNodes_191 : decode cX2_moveNodes 191 = .ok (.istore_n 3, 1) := dk_62 (dk_at dksX2_moveNodes_8 7 rfl rfl)
theorem dX2_moveNodes_192 : decode cX2_moveNodes 192 = .ok (.iload_n 3, 1) := dk_29 (dk_at dksX2_moveNodes_8 8 rfl rfl)
theorem dX2_moveNodes_193 : decode cX2_moveNodes 193 = .ok (.aload_n 0, 1) := dk_42 (dk_at dksX2_moveNodes_8 9 rfl rfl)
theorem dX2_moveNodes_194 : decode cX2_moveNodes 194 = .ok (.getfield 664, 3) := dk_180 2 152 (dk_at dksX2_moveNodes_8 10 rfl rfl)
theorem dX2_moveNodes_197 : decode cX2_moveNodes 197 = .ok (.if_icmp .ge 54, 3) := dk_162 0 54 (dk_at dksX2_moveNodes_8 13 rfl rfl)
theorem dX2_moveNodes_200 : decode cX2_moveNodes 200 = .ok (.aload_n 0, 1) := dk_42 (dk_at dksX2_moveNodes_8 16 rfl rfl)
theorem dX2_moveNodes_201 : decode cX2_moveNodes 201 = .ok (.aload_n 0, 1) := dk_42 (dk_at dksX2_moveNodes_8 17 rfl rfl)
theorem dX2_moveNodes_202 : decode cX2_moveNodes 202 = .ok (.getfield 181, 3) := dk_180 0 181 (dk_at dksX2_moveNodes_8 18 rfl rfl)
theorem dX2_moveNodes_205 : decode cX2_moveNodes 205 = .ok (.iload_n 3, 1) := dk_29 (dk_at dksX2_moveNodes_8 21 rfl rfl)
theorem dX2_moveNodes_206 : decode cX2_moveNodes 206 = .ok (.iaload, 1) := dk_46 (dk_at dksX2_moveNodes_8 22 rfl rfl)
theorem dX2_moveNodes_207 : decode cX2_moveNodes 207 = .ok (.aload_n 0, 1) := dk_42 (dk_at dksX2_moveNodes_8 23 rfl rfl)
theorem dX2_moveNodes_208 : decode cX2_moveNodes 208 = .ok (.getfield 184, 3) := dk_180 0 184 (dk_at dksX2_moveNodes_9 0 rfl rfl)
theorem dX2_moveNodes_211 : decode cX2_moveNodes 211 = .ok (.iload_n 3, 1) := dk_29 (dk_at dksX2_moveNodes_9 3 rfl rfl)
theorem dX2_moveNodes_212 : decode cX2_moveNodes 212 = .ok (.iaload, 1) := dk_46 (dk_at dksX2_moveNodes_9 4 rfl rfl)
theorem dX2_moveNodes_213 : decode cX2_moveNodes 213 = .ok (.aload_n 0, 1) := dk_42 (dk_at dksX2_moveNodes_9 5 rfl rfl)
theorem dX2_moveNodes_214 : decode cX2_moveNodes 214 = .ok (.getfield 187, 3) := dk_180 0 187 (dk_at dksX2_moveNodes_9 6 rfl rfl)
theorem dX2_moveNodes_217 : decode cX2_moveNodes 217 = .ok (.iload_n 3, 1) := dk_29 (dk_at dksX2_moveNodes_9 9 rfl rfl)
theorem dX2_moveNodes_218 : decode cX2_moveNodes 218 = .ok (.iaload, 1) := dk_46 (dk_at dksX2_moveNodes_9 10 rfl rfl)
theorem dX2_moveNodes_219 : decode cX2_moveNodes 219 = .ok (.invokevirtual 671, 3) := dk_182 2 159 (dk_at dksX2_moveNodes_9 11 rfl rfl)
theorem dX2_moveNodes_222 : decode cX2_moveNodes 222 = .ok (.istore 4, 2) := dk_54 4 (dk_at dksX2_moveNodes_9 14 rfl rfl)
theorem dX2_moveNodes_224 : decode cX2_moveNodes 224 = .ok (.aload_n 0, 1) := dk_42 (dk_at dksX2_moveNodes_9 16 rfl rfl)
theorem dX2_moveNodes_225 : decode cX2_moveNodes 225 = .ok (.getfield 196, 3) := dk_180 0 196 (dk_at dksX2_moveNodes_9 17 rfl rfl)
theorem dX2_moveNodes_228 : decode cX2_moveNodes 228 = .ok (.iload_n 3, 1) := dk_29 (dk_at dksX2_moveNodes_9 20 rfl rfl)
theorem dX2_moveNodes_229 : decode cX2_moveNodes 229 = .ok (.aload_n 0, 1) := dk_42 (dk_at dksX2_moveNodes_9 21 rfl rfl)
theorem dX2_moveNodes_230 : decode cX2_moveNodes 230 = .ok (.getfield 210, 3) := dk_180 0 210 (dk_at dksX2_moveNodes_10 0 rfl rfl)
theorem dX2_moveNodes_233 : decode cX2_moveNodes 233 = .ok (.iload 4, 2) := dk_21 4 (dk_at dksX2_moveNodes_10 3 rfl rfl)
theorem dX2_moveNodes_235 : decode cX2_moveNodes 235 = .ok (.iaload, 1) := dk_46 (dk_at dksX2_moveNodes_10 5 rfl rfl)
theorem dX2_moveNodes_236 : decode cX2_moveNodes 236 = .ok (.iastore, 1) := dk_79 (dk_at dksX2_moveNodes_10 6 rfl rfl)
theorem dX2_moveNodes_237 : decode cX2_moveNodes 237 = .ok (.aload_n 0, 1) := dk_42 (dk_at dksX2_moveNodes_10 7 rfl rfl)
theorem dX2_moveNodes_238 : decode cX2_moveNodes 238 = .ok (.getfield 210, 3) := dk_180 0 210 (dk_at dksX2_moveNodes_10 8 rfl rfl)
theorem dX2_moveNodes_241 : decode cX2_moveNodes 241 = .ok (.iload 4, 2) := dk_21 4 (dk_at dksX2_moveNodes_10 11 rfl rfl)
theorem dX2_moveNodes_243 : decode cX2_moveNodes 243 = .ok (.iload_n 3, 1) := dk_29 (dk_at dksX2_moveNodes_10 13 rfl rfl)
theorem dX2_moveNodes_244 : decode cX2_moveNodes 244 = .ok (.iastore, 1) := dk_79 (dk_at dksX2_moveNodes_10 14 rfl rfl)
theorem dX2_moveNodes_245 : decode cX2_moveNodes 245 = .ok (.iinc 3 1, 3) := dk_132 3 1 (dk_at dksX2_moveNodes_10 15 rfl rfl)
theorem dX2_moveNodes_248 : decode cX2_moveNodes 248 = .ok (.goto (-56), 3) := dk_167 255 200 (dk_at dksX2_moveNodes_10 18 rfl rfl)
theorem dX2_moveNodes_251 : decode cX2_moveNodes 251 = .ok (.return_, 1) := dk_177 (dk_at dksX2_moveNodes_10 21 rfl rfl)
abbrev cX2_newHandle : ByteArray := prog_4_method_95_code
def yX2_newHandle : MethodName := ⟨RX2, "newHandle", "(I)I"⟩
def dkwX2_newHandle_1 : List UInt8 := [4, 100, 172]
abbrev dktX2_newHandle_1 : List UInt8 := dkwX2_newHandle_1 ++ []
def dkwX2_newHandle_0 : List UInt8 := [42, 180, 0, 250, 42, 180, 3, 1, 27, 79, 42, 89, 180, 3, 1, 4, 96, 181, 3, 1, 42, 180, 3, 1]
abbrev dktX2_newHandle_0 : List UInt8 := dkwX2_newHandle_0 ++ dktX2_newHandle_1
theorem dksX2_newHandle_0 : cX2_newHandle.data.toList.drop 0 = dktX2_newHandle_0 := by decide +kernel
theorem dksX2_newHandle_1 : cX2_newHandle.data.toList.drop 24 = dktX2_newHandle_1 := dk_seg dksX2_newHandle_0 24 rfl rfl
theorem dX2_newHandle_0 : decode cX2_newHandle 0 = .ok (.aload_n 0, 1) := dk_42 (dk_at dksX2_newHandle_0 0 rfl rfl)
theorem dX2_newHandle_1 : decode cX2_newHandle 1 = .ok (.getfield 250, 3) := dk_180 0 250 (dk_at dksX2_newHandle_0 1 rfl rfl)
theorem dX2_newHandle_4 : decode cX2_newHandle 4 = .ok (.aload_n 0, 1) := dk_42 (dk_at dksX2_newHandle_0 4 rfl rfl)
theorem dX2_newHandle_5 : decode cX2_newHandle 5 = .ok (.getfield 769, 3) := dk_180 3 1 (dk_at dksX2_newHandle_0 5 rfl rfl)
theorem dX2_newHandle_8 : decode cX2_newHandle 8 = .ok (.iload_n 1, 1) := dk_27 (dk_at dksX2_newHandle_0 8 rfl rfl)
theorem dX2_newHandle_9 : decode cX2_newHandle 9 = .ok (.iastore, 1) := dk_79 (dk_at dksX2_newHandle_0 9 rfl rfl)
theorem dX2_newHandle_10 : decode cX2_newHandle 10 = .ok (.aload_n 0, 1) := dk_42 (dk_at dksX2_newHandle_0 10 rfl rfl)
theorem dX2_newHandle_11 : decode cX2_newHandle 11 = .ok (.dup, 1) := dk_89 (dk_at dksX2_newHandle_0 11 rfl rfl)
theorem dX2_newHandle_12 : decode cX2_newHandle 12 = .ok (.getfield 769, 3) := dk_180 3 1 (dk_at dksX2_newHandle_0 12 rfl rfl)
theorem dX2_newHandle_15 : decode cX2_newHandle 15 = .ok (.iconst 1, 1) := dk_4 (dk_at dksX2_newHandle_0 15 rfl rfl)
theorem dX2_newHandle_16 : decode cX2_newHandle 16 = .ok (.iadd, 1) := dk_96 (dk_at dksX2_newHandle_0 16 rfl rfl)
theorem dX2_newHandle_17 : decode cX2_newHandle 17 = .ok (.putfield 769, 3) := dk_181 3 1 (dk_at dksX2_newHandle_0 17 rfl rfl)
theorem dX2_newHandle_20 : decode cX2_newHandle 20 = .ok (.aload_n 0, 1) := dk_42 (dk_at dksX2_newHandle_0 20 rfl rfl)
theorem dX2_newHandle_21 : decode cX2_newHandle 21 = .ok (.getfield 769, 3) := dk_180 3 1 (dk_at dksX2_newHandle_0 21 rfl rfl)
theorem dX2_newHandle_24 : decode cX2_newHandle 24 = .ok (.iconst 1, 1) := dk_4 (dk_at dksX2_newHandle_1 0 rfl rfl)
theorem dX2_newHandle_25 : decode cX2_newHandle 25 = .ok (.isub, 1) := dk_100 (dk_at dksX2_newHandle_1 1 rfl rfl)
theorem dX2_newHandle_26 : decode cX2_newHandle 26 = .ok (.ireturn, 1) := dk_172 (dk_at dksX2_newHandle_1 2 rfl rfl)
abbrev cX2_about : ByteArray := prog_4_method_98_code
def yX2_about : MethodName := ⟨RX2, "about", "(II)I"⟩
def dkwX2_about_4 : List UInt8 := [167, 0, 5, 16, 254, 172, 42, 180, 0, 187, 29, 46, 172, 42, 29, 182, 3, 38, 172, 2, 172]
abbrev dktX2_about_4 : List UInt8 := dkwX2_about_4 ++ []
def dkwX2_about_3 : List UInt8 := [167, 0, 9, 42, 180, 0, 181, 29, 46, 172, 42, 29, 182, 2, 185, 153, 0, 11, 42, 29, 182, 2, 188]
abbrev dktX2_about_3 : List UInt8 := dkwX2_about_3 ++ dktX2_about_4
def dkwX2_about_2 : List UInt8 := [42, 180, 0, 190, 29, 46, 172, 42, 180, 0, 193, 29, 46, 172, 42, 29, 182, 2, 185, 153, 0, 8, 16, 254]
abbrev dktX2_about_2 : List UInt8 := dkwX2_about_2 ++ dktX2_about_3
def dkwX2_about_1 : List UInt8 := [170, 0, 0, 0, 103, 0, 0, 0, 0, 0, 0, 0, 5, 0, 0, 0, 37, 0, 0, 0, 44, 0, 0, 0, 51, 0, 0, 0, 71, 0, 0, 0, 90, 0, 0, 0, 97]
abbrev dktX2_about_1 : List UInt8 := dkwX2_about_1 ++ dktX2_about_2
def dkwX2_about_0 : List UInt8 := [42, 3, 181, 0, 1, 42, 27, 182, 3, 83, 153, 0, 5, 2, 172, 42, 180, 0, 250, 27, 46, 62, 28]
abbrev dktX2_about_0 : List UInt8 := dkwX2_about_0 ++ dktX2_about_1
theorem dksX2_about_0 : cX2_about.data.toList.drop 0 = dktX2_about_0 := by decide +kernel
theorem dksX2_about_1 : cX2_about.data.toList.drop 23 = dktX2_about_1 := dk_seg dksX2_about_0 23 rfl rfl
theorem dksX2_about_2 : cX2_about.data.toList.drop 60 = dktX2_about_2 := dk_seg dksX2_about_1 37 rfl rfl
theorem dksX2_about_3 : cX2_about.data.toList.drop 84 = dktX2_about_3 := dk_seg dksX2_about_2 24 rfl rfl
theorem dksX2_about_4 : cX2_about.data.toList.drop 107 = dktX2_about_4 := dk_seg dksX2_about_3 23 rfl rfl
theorem dX2_about_0 : decode cX2_about 0 = .ok (.aload_n 0, 1) := dk_42 (dk_at dksX2_about_0 0 rfl rfl)
theorem dX2_about_1 : decode cX2_about 1 = .ok (.iconst 0, 1) := dk_3 (dk_at dksX2_about_0 1 rfl rfl)
theorem dX2_about_2 : decode cX2_about 2 = .ok (.putfield 1, 3) := dk_181 0 1 (dk_at dksX2_about_0 2 rfl rfl)
theorem dX2_about_5 : decode cX2_about 5 = .ok (.aload_n 0, 1) := dk_42 (dk_at dksX2_about_0 5 rfl rfl)
theorem dX2_about_6 : decode cX2_about 6 = .ok (.iload_n 1, 1) := dk_27 (dk_at dksX2_about_0 6 rfl rfl)
theorem dX2_about_7 : decode cX2_about 7 = .ok (.invokevirtual 851, 3) := dk_182 3 83 (dk_at dksX2_about_0 7 rfl rfl)
theorem dX2_about_10 : decode cX2_about 10 = .ok (.ifCond .eq 5, 3) := dk_153 0 5 (dk_at dksX2_about_0 10 rfl rfl)
theorem dX2_about_13 : decode cX2_about 13 = .ok (.iconst (-1), 1) := dk_2 (dk_at dksX2_about_0 13 rfl rfl)
theorem dX2_about_14 : decode cX2_about 14 = .ok (.ireturn, 1) := dk_172 (dk_at dksX2_about_0 14 rfl rfl)
theorem dX2_about_15 : decode cX2_about 15 = .ok (.aload_n 0, 1) := dk_42 (dk_at dksX2_about_0 15 rfl rfl)
theorem dX2_about_16 : decode cX2_about 16 = .ok (.getfield 250, 3) := dk_180 0 250 (dk_at dksX2_about_0 16 rfl rfl)
theorem dX2_about_19 : decode cX2_about 19 = .ok (.iload_n 1, 1) := dk_27 (dk_at dksX2_about_0 19 rfl rfl)
theorem dX2_about_20 : decode cX2_about 20 = .ok (.iaload, 1) := dk_46 (dk_at dksX2_about_0 20 rfl rfl)
theorem dX2_about_21 : decode cX2_about 21 = .ok (.istore_n 3, 1) := dk_62 (dk_at dksX2_about_0 21 rfl rfl)
theorem dX2_about_22 : decode cX2_about 22 = .ok (.iload_n 2, 1) := dk_28 (dk_at dksX2_about_0 22 rfl rfl)
theorem dX2_about_23 : decode cX2_about 23 = .ok (.tableswitch 103 0 5 #[37, 44, 51, 71, 90, 97], 37) := by decide +kernel
theorem dX2_about_60 : decode cX2_about 60 = .ok (.aload_n 0, 1) := dk_42 (dk_at dksX2_about_2 0 rfl rfl)
theorem dX2_about_61 : decode cX2_about 61 = .ok (.getfield 190, 3) := dk_180 0 190 (dk_at dksX2_about_2 1 rfl rfl)
theorem dX2_about_64 : decode cX2_about 64 = .ok (.iload_n 3, 1) := dk_29 (dk_at dksX2_about_2 4 rfl rfl)
theorem dX2_about_65 : decode cX2_about 65 = .ok (.iaload, 1) := dk_46 (dk_at dksX2_about_2 5 rfl rfl)
theorem dX2_about_66 : decode cX2_about 66 = .ok (.ireturn, 1) := dk_172 (dk_at dksX2_about_2 6 rfl rfl)
theorem dX2_about_67 : decode cX2_about 67 = .ok (.aload_n 0, 1) := dk_42 (dk_at dksX2_about_2 7 rfl rfl)
theorem dX2_about_68 : decode cX2_about 68 = .ok (.getfield 193, 3) := dk_180 0 193 (dk_at dksX2_about_2 8 rfl rfl)
theorem dX2_about_71 : decode cX2_about 71 = .ok (.iload_n 3, 1) := dk_29 (dk_at dksX2_about_2 11 rfl rfl)
theorem dX2_about_72 : decode cX2_about 72 = .ok (.iaload, 1) := dk_46 (dk_at dksX2_about_2 12 rfl rfl)
theorem dX2_about_73 : decode cX2_about 73 = .ok (.ireturn, 1) := dk_172 (dk_at dksX2_about_2 13 rfl rfl)
theorem dX2_about_74 : decode cX2_about 74 = .ok (.aload_n 0, 1) := dk_42 (dk_at dksX2_about_2 14 rfl rfl)
theorem dX2_about_75 : decode cX2_about 75 = .ok (.iload_n 3, 1) := dk_29 (dk_at dksX2_about_2 15 rfl rfl)
theorem dX2_about_76 : decode cX2_about 76 = .ok (.invokevirtual 697, 3) := dk_182 2 185 (dk_at dksX2_about_2 16 rfl rfl)
theorem dX2_about_79 : decode cX2_about 79 = .ok (.ifCond .eq 8, 3) := dk_153 0 8 (dk_at dksX2_about_2 19 rfl rfl)
theorem dX2_about_82 : decode cX2_about 82 = .ok (.bipush (-2), 2) := dk_16 254 (dk_at dksX2_about_2 22 rfl rfl)
theorem dX2_about_84 : decode cX2_about 84 = .ok (.goto 9, 3) := dk_167 0 9 (dk_at dksX2_about_3 0 rfl rfl)
theorem dX2_about_87 : decode cX2_about 87 = .ok (.aload_n 0, 1) := dk_42 (dk_at dksX2_about_3 3 rfl rfl)
theorem dX2_about_88 : decode cX2_about 88 = .ok (.getfield 181, 3) := dk_180 0 181 (dk_at dksX2_about_3 4 rfl rfl)
theorem dX2_about_91 : decode cX2_about 91 = .ok (.iload_n 3, 1) := dk_29 (dk_at dksX2_about_3 7 rfl rfl)
theorem dX2_about_92 : decode cX2_about 92 = .ok (.iaload, 1) := dk_46 (dk_at dksX2_about_3 8 rfl rfl)
theorem dX2_about_93 : decode cX2_about 93 = .ok (.ireturn, 1) := dk_172 (dk_at dksX2_about_3 9 rfl rfl)
theorem dX2_about_94 : decode cX2_about 94 = .ok (.aload_n 0, 1) := dk_42 (dk_at dksX2_about_3 10 rfl rfl)
theorem dX2_about_95 : decode cX2_about 95 = .ok (.iload_n 3, 1) := dk_29 (dk_at dksX2_about_3 11 rfl rfl)
theorem dX2_about_96 : decode cX2_about 96 = .ok (.invokevirtual 697, 3) := dk_182 2 185 (dk_at dksX2_about_3 12 rfl rfl)
theorem dX2_about_99 : decode cX2_about 99 = .ok (.ifCond .eq 11, 3) := dk_153 0 11 (dk_at dksX2_about_3 15 rfl rfl)
theorem dX2_about_102 : decode cX2_about 102 = .ok (.aload_n 0, 1) := dk_42 (dk_at dksX2_about_3 18 rfl rfl)
theorem dX2_about_103 : decode cX2_about 103 = .ok (.iload_n 3, 1) := dk_29 (dk_at dksX2_about_3 19 rfl rfl)
theorem dX2_about_104 : decode cX2_about 104 = .ok (.invokevirtual 700, 3) := dk_182 2 188 (dk_at dksX2_about_3 20 rfl rfl)
theorem dX2_about_107 : decode cX2_about 107 = .ok (.goto 5, 3) := dk_167 0 5 (dk_at dksX2_about_4 0 rfl rfl)
theorem dX2_about_110 : decode cX2_about 110 = .ok (.bipush (-2), 2) := dk_16 254 (dk_at dksX2_about_4 3 rfl rfl)
theorem dX2_about_112 : decode cX2_about 112 = .ok (.ireturn, 1) := dk_172 (dk_at dksX2_about_4 5 rfl rfl)
theorem dX2_about_113 : decode cX2_about 113 = .ok (.aload_n 0, 1) := dk_42 (dk_at dksX2_about_4 6 rfl rfl)
theorem dX2_about_114 : decode cX2_about 114 = .ok (.getfield 187, 3) := dk_180 0 187 (dk_at dksX2_about_4 7 rfl rfl)
theorem dX2_about_117 : decode cX2_about 117 = .ok (.iload_n 3, 1) := dk_29 (dk_at dksX2_about_4 10 rfl rfl)
theorem dX2_about_118 : decode cX2_about 118 = .ok (.iaload, 1) := dk_46 (dk_at dksX2_about_4 11 rfl rfl)
theorem dX2_about_119 : decode cX2_about 119 = .ok (.ireturn, 1) := dk_172 (dk_at dksX2_about_4 12 rfl rfl)
theorem dX2_about_120 : decode cX2_about 120 = .ok (.aload_n 0, 1) := dk_42 (dk_at dksX2_about_4 13 rfl rfl)
theorem dX2_about_121 : decode cX2_about 121 = .ok (.iload_n 3, 1) := dk_29 (dk_at dksX2_about_4 14 rfl rfl)
theorem dX2_about_122 : decode cX2_about 122 = .ok (.invokevirtual 806, 3) := dk_182 3 38 (dk_at dksX2_about_4 15 rfl rfl)
theorem dX2_about_125 : decode cX2_about 125 = .ok (.ireturn, 1) := dk_172 (dk_at dksX2_about_4 18 rfl rfl)
theorem dX2_about_126 : decode cX2_about 126 = .ok (.iconst (-1), 1) := dk_2 (dk_at dksX2_about_4 19 rfl rfl)
theorem dX2_about_127 : decode cX2_about 127 = .ok (.ireturn, 1) := dk_172 (dk_at dksX2_about_4 20 rfl rfl)
abbrev cX2_noHandle : ByteArray := prog_4_method_96_code
def yX2_noHandle : MethodName := ⟨RX2, "noHandle", "(I)Z"⟩
def dkwX2_noHandle_0 : List UInt8 := [27, 133, 9, 42, 180, 3, 1, 4, 100, 133, 184, 1, 147, 154, 0, 7, 4, 167, 0, 4, 3, 172]
abbrev dktX2_noHandle_0 : List UInt8 := dkwX2_noHandle_0 ++ []
theorem dksX2_noHandle_0 : cX2_noHandle.data.toList.drop 0 = dktX2_noHandle_0 := by decide +kernel
theorem dX2_noHandle_0 : decode cX2_noHandle 0 = .ok (.iload_n 1, 1) := dk_27 (dk_at dksX2_noHandle_0 0 rfl rfl)
theorem dX2_noHandle_1 : decode cX2_noHandle 1 = .ok (.i2l, 1) := dk_133 (dk_at dksX2_noHandle_0 1 rfl rfl)
theorem dX2_noHandle_2 : decode cX2_noHandle 2 = .ok (.lconst 0, 1) := dk_9 (dk_at dksX2_noHandle_0 2 rfl rfl)
theorem dX2_noHandle_3 : decode cX2_noHandle 3 = .ok (.aload_n 0, 1) := dk_42 (dk_at dksX2_noHandle_0 3 rfl rfl)
theorem dX2_noHandle_4 : decode cX2_noHandle 4 = .ok (.getfield 769, 3) := dk_180 3 1 (dk_at dksX2_noHandle_0 4 rfl rfl)
theorem dX2_noHandle_7 : decode cX2_noHandle 7 = .ok (.iconst 1, 1) := dk_4 (dk_at dksX2_noHandle_0 7 rfl rfl)
theorem dX2_noHandle_8 : decode cX2_noHandle 8 = .ok (.isub, 1) := dk_100 (dk_at dksX2_noHandle_0 8 rfl rfl)
theorem dX2_noHandle_9 : decode cX2_noHandle 9 = .ok (.i2l, 1) := dk_133 (dk_at dksX2_noHandle_0 9 rfl rfl)
theorem dX2_noHandle_10 : decode cX2_noHandle 10 = .ok (.invokestatic 403, 3) := dk_184 1 147 (dk_at dksX2_noHandle_0 10 rfl rfl)
theorem dX2_noHandle_13 : decode cX2_noHandle 13 = .ok (.ifCond .ne 7, 3) := dk_154 0 7 (dk_at dksX2_noHandle_0 13 rfl rfl)
theorem dX2_noHandle_16 : decode cX2_noHandle 16 = .ok (.iconst 1, 1) := dk_4 (dk_at dksX2_noHandle_0 16 rfl rfl)
theorem dX2_noHandle_17 : decode cX2_noHandle 17 = .ok (.goto 4, 3) := dk_167 0 4 (dk_at dksX2_noHandle_0 17 rfl rfl)
theorem dX2_noHandle_20 : decode cX2_noHandle 20 = .ok (.iconst 0, 1) := dk_3 (dk_at dksX2_noHandle_0 20 rfl rfl)
theorem dX2_noHandle_21 : decode cX2_noHandle 21 = .ok (.ireturn, 1) := dk_172 (dk_at dksX2_noHandle_0 21 rfl rfl)
abbrev cX2_part : ByteArray := prog_4_method_99_code
def yX2_part : MethodName := ⟨RX2, "part", "(II)I"⟩
def dkwX2_part_2 : List UInt8 := [16, 253, 167, 0, 18, 42, 42, 42, 180, 0, 250, 27, 46, 28, 182, 2, 179, 182, 3, 80, 172]
abbrev dktX2_part_2 : List UInt8 := dkwX2_part_2 ++ []
def dkwX2_part_1 : List UInt8 := [27, 46, 46, 4, 100, 133, 184, 1, 147, 154, 0, 5, 2, 172, 42, 180, 3, 1, 17, 0, 200, 160, 0, 8]
abbrev dktX2_part_1 : List UInt8 := dkwX2_part_1 ++ dktX2_part_2
def dkwX2_part_0 : List UInt8 := [42, 3, 181, 0, 1, 42, 27, 182, 3, 83, 154, 0, 26, 28, 133, 9, 42, 180, 0, 187, 42, 180, 0, 250]
abbrev dktX2_part_0 : List UInt8 := dkwX2_part_0 ++ dktX2_part_1
theorem dksX2_part_0 : cX2_part.data.toList.drop 0 = dktX2_part_0 := by decide +kernel
theorem dksX2_part_1 : cX2_part.data.toList.drop 24 = dktX2_part_1 := dk_seg dksX2_part_0 24 rfl rfl
theorem dksX2_part_2 : cX2_part.data.toList.drop 48 = dktX2_part_2 := dk_seg dksX2_part_1 24 rfl rfl
theorem dX2_part_0 : decode cX2_part 0 = .ok (.aload_n 0, 1) := dk_42 (dk_at dksX2_part_0 0 rfl rfl)
theorem dX2_part_1 : decode cX2_part 1 = .ok (.iconst 0, 1) := dk_3 (dk_at dksX2_part_0 1 rfl rfl)
theorem dX2_part_2 : decode cX2_part 2 = .ok (.putfield 1, 3) := dk_181 0 1 (dk_at dksX2_part_0 2 rfl rfl)
theorem dX2_part_5 : decode cX2_part 5 = .ok (.aload_n 0, 1) := dk_42 (dk_at dksX2_part_0 5 rfl rfl)
theorem dX2_part_6 : decode cX2_part 6 = .ok (.iload_n 1, 1) := dk_27 (dk_at dksX2_part_0 6 rfl rfl)
theorem dX2_part_7 : decode cX2_part 7 = .ok (.invokevirtual 851, 3) := dk_182 3 83 (dk_at dksX2_part_0 7 rfl rfl)
theorem dX2_part_10 : decode cX2_part 10 = .ok (.ifCond .ne 26, 3) := dk_154 0 26 (dk_at dksX2_part_0 10 rfl rfl)
theorem dX2_part_13 : decode cX2_part 13 = .ok (.iload_n 2, 1) := dk_28 (dk_at dksX2_part_0 13 rfl rfl)
theorem dX2_part_14 : decode cX2_part 14 = .ok (.i2l, 1) := dk_133 (dk_at dksX2_part_0 14 rfl rfl)
theorem dX2_part_15 : decode cX2_part 15 = .ok (.lconst 0, 1) := dk_9 (dk_at dksX2_part_0 15 rfl rfl)
theorem dX2_part_16 : decode cX2_part 16 = .ok (.aload_n 0, 1) := dk_42 (dk_at dksX2_part_0 16 rfl rfl)
theorem dX2_part_17 : decode cX2_part 17 = .ok (.getfield 187, 3) := dk_180 0 187 (dk_at dksX2_part_0 17 rfl rfl)
theorem dX2_part_20 : decode cX2_part 20 = .ok (.aload_n 0, 1) := dk_42 (dk_at dksX2_part_0 20 rfl rfl)
theorem dX2_part_21 : decode cX2_part 21 = .ok (.getfield 250, 3) := dk_180 0 250 (dk_at dksX2_part_0 21 rfl rfl)
theorem dX2_part_24 : decode cX2_part 24 = .ok (.iload_n 1, 1) := dk_27 (dk_at dksX2_part_1 0 rfl rfl)
theorem dX2_part_25 : decode cX2_part 25 = .ok (.iaload, 1) := dk_46 (dk_at dksX2_part_1 1 rfl rfl)
theorem dX2_part_26 : decode cX2_part 26 = .ok (.iaload, 1) := dk_46 (dk_at dksX2_part_1 2 rfl rfl)
theorem dX2_part_27 : decode cX2_part 27 = .ok (.iconst 1, 1) := dk_4 (dk_at dksX2_part_1 3 rfl rfl)
theorem dX2_part_28 : decode cX2_part 28 = .ok (.isub, 1) := dk_100 (dk_at dksX2_part_1 4 rfl rfl)
theorem dX2_part_29 : decode cX2_part 29 = .ok (.i2l, 1) := dk_133 (dk_at dksX2_part_1 5 rfl rfl)
theorem dX2_part_30 : decode cX2_part 30 = .ok (.invokestatic 403, 3) := dk_184 1 147 (dk_at dksX2_part_1 6 rfl rfl)
theorem dX2_part_33 : decode cX2_part 33 = .ok (.ifCond .ne 5, 3) := dk_154 0 5 (dk_at dksX2_part_1 9 rfl rfl)
theorem dX2_part_36 : decode cX2_part 36 = .ok (.iconst (-1), 1) := dk_2 (dk_at dksX2_part_1 12 rfl rfl)
theorem dX2_part_37 : decode cX2_part 37 = .ok (.ireturn, 1) := dk_172 (dk_at dksX2_part_1 13 rfl rfl)
theorem dX2_part_38 : decode cX2_part 38 = .ok (.aload_n 0, 1) := dk_42 (dk_at dksX2_part_1 14 rfl rfl)
theorem dX2_part_39 : decode cX2_part 39 = .ok (.getfield 769, 3) := dk_180 3 1 (dk_at dksX2_part_1 15 rfl rfl)
theorem dX2_part_42 : decode cX2_part 42 = .ok (.sipush 200, 3) := dk_17 0 200 (dk_at dksX2_part_1 18 rfl rfl)
theorem dX2_part_45 : decode cX2_part 45 = .ok (.if_icmp .ne 8, 3) := dk_160 0 8 (dk_at dksX2_part_1 21 rfl rfl)
theorem dX2_part_48 : decode cX2_part 48 = .ok (.bipush (-3), 2) := dk_16 253 (dk_at dksX2_part_2 0 rfl rfl)
theorem dX2_part_50 : decode cX2_part 50 = .ok (.goto 18, 3) := dk_167 0 18 (dk_at dksX2_part_2 2 rfl rfl)
theorem dX2_part_53 : decode cX2_part 53 = .ok (.aload_n 0, 1) := dk_42 (dk_at dksX2_part_2 5 rfl rfl)
theorem dX2_part_54 : decode cX2_part 54 = .ok (.aload_n 0, 1) := dk_42 (dk_at dksX2_part_2 6 rfl rfl)
theorem dX2_part_55 : decode cX2_part 55 = .ok (.aload_n 0, 1) := dk_42 (dk_at dksX2_part_2 7 rfl rfl)
theorem dX2_part_56 : decode cX2_part 56 = .ok (.getfield 250, 3) := dk_180 0 250 (dk_at dksX2_part_2 8 rfl rfl)
theorem dX2_part_59 : decode cX2_part 59 = .ok (.iload_n 1, 1) := dk_27 (dk_at dksX2_part_2 11 rfl rfl)
theorem dX2_part_60 : decode cX2_part 60 = .ok (.iaload, 1) := dk_46 (dk_at dksX2_part_2 12 rfl rfl)
theorem dX2_part_61 : decode cX2_part 61 = .ok (.iload_n 2, 1) := dk_28 (dk_at dksX2_part_2 13 rfl rfl)
theorem dX2_part_62 : decode cX2_part 62 = .ok (.invokevirtual 691, 3) := dk_182 2 179 (dk_at dksX2_part_2 14 rfl rfl)
theorem dX2_part_65 : decode cX2_part 65 = .ok (.invokevirtual 848, 3) := dk_182 3 80 (dk_at dksX2_part_2 17 rfl rfl)
theorem dX2_part_68 : decode cX2_part 68 = .ok (.ireturn, 1) := dk_172 (dk_at dksX2_part_2 20 rfl rfl)
abbrev cX2_order : ByteArray := prog_4_method_100_code
def yX2_order : MethodName := ⟨RX2, "order", "(II)I"⟩
def dkwX2_order_1 : List UInt8 := [167, 0, 19, 42, 42, 180, 0, 250, 27, 46, 42, 180, 0, 250, 28, 46, 184, 2, 191, 172]
abbrev dktX2_order_1 : List UInt8 := dkwX2_order_1 ++ []
def dkwX2_order_0 : List UInt8 := [42, 3, 181, 0, 1, 42, 27, 182, 3, 83, 154, 0, 11, 42, 28, 182, 3, 83, 153, 0, 8, 16, 247]
abbrev dktX2_order_0 : List UInt8 := dkwX2_order_0 ++ dktX2_order_1
theorem dksX2_order_0 : cX2_order.data.toList.drop 0 = dktX2_order_0 := by decide +kernel
theorem dksX2_order_1 : cX2_order.data.toList.drop 23 = dktX2_order_1 := dk_seg dksX2_order_0 23 rfl rfl
theorem dX2_order_0 : decode cX2_order 0 = .ok (.aload_n 0, 1) := dk_42 (dk_at dksX2_order_0 0 rfl rfl)
theorem dX2_order_1 : decode cX2_order 1 = .ok (.iconst 0, 1) := dk_3 (dk_at dksX2_order_0 1 rfl rfl)
theorem dX2_order_2 : decode cX2_order 2 = .ok (.putfield 1, 3) := dk_181 0 1 (dk_at dksX2_order_0 2 rfl rfl)
theorem dX2_order_5 : decode cX2_order 5 = .ok (.aload_n 0, 1) := dk_42 (dk_at dksX2_order_0 5 rfl rfl)
theorem dX2_order_6 : decode cX2_order 6 = .ok (.iload_n 1, 1) := dk_27 (dk_at dksX2_order_0 6 rfl rfl)
theorem dX2_order_7 : decode cX2_order 7 = .ok (.invokevirtual 851, 3) := dk_182 3 83 (dk_at dksX2_order_0 7 rfl rfl)
theorem dX2_order_10 : decode cX2_order 10 = .ok (.ifCond .ne 11, 3) := dk_154 0 11 (dk_at dksX2_order_0 10 rfl rfl)
theorem dX2_order_13 : decode cX2_order 13 = .ok (.aload_n 0, 1) := dk_42 (dk_at dksX2_order_0 13 rfl rfl)
theorem dX2_order_14 : decode cX2_order 14 = .ok (.iload_n 2, 1) := dk_28 (dk_at dksX2_order_0 14 rfl rfl)
theorem dX2_order_15 : decode cX2_order 15 = .ok (.invokevirtual 851, 3) := dk_182 3 83 (dk_at dksX2_order_0 15 rfl rfl)
theorem dX2_order_18 : decode cX2_order 18 = .ok (.ifCond .eq 8, 3) := dk_153 0 8 (dk_at dksX2_order_0 18 rfl rfl)
theorem dX2_order_21 : decode cX2_order 21 = .ok (.bipush (-9), 2) := dk_16 247 (dk_at dksX2_order_0 21 rfl rfl)
theorem dX2_order_23 : decode cX2_order 23 = .ok (.goto 19, 3) := dk_167 0 19 (dk_at dksX2_order_1 0 rfl rfl)
theorem dX2_order_26 : decode cX2_order 26 = .ok (.aload_n 0, 1) := dk_42 (dk_at dksX2_order_1 3 rfl rfl)
theorem dX2_order_27 : decode cX2_order 27 = .ok (.aload_n 0, 1) := dk_42 (dk_at dksX2_order_1 4 rfl rfl)
theorem dX2_order_28 : decode cX2_order 28 = .ok (.getfield 250, 3) := dk_180 0 250 (dk_at dksX2_order_1 5 rfl rfl)
theorem dX2_order_31 : decode cX2_order 31 = .ok (.iload_n 1, 1) := dk_27 (dk_at dksX2_order_1 8 rfl rfl)
theorem dX2_order_32 : decode cX2_order 32 = .ok (.iaload, 1) := dk_46 (dk_at dksX2_order_1 9 rfl rfl)
theorem dX2_order_33 : decode cX2_order 33 = .ok (.aload_n 0, 1) := dk_42 (dk_at dksX2_order_1 10 rfl rfl)
theorem dX2_order_34 : decode cX2_order 34 = .ok (.getfield 250, 3) := dk_180 0 250 (dk_at dksX2_order_1 11 rfl rfl)
theorem dX2_order_37 : decode cX2_order 37 = .ok (.iload_n 2, 1) := dk_28 (dk_at dksX2_order_1 14 rfl rfl)
theorem dX2_order_38 : decode cX2_order 38 = .ok (.iaload, 1) := dk_46 (dk_at dksX2_order_1 15 rfl rfl)
theorem dX2_order_39 : decode cX2_order 39 = .ok (.invokestatic 703, 3) := dk_184 2 191 (dk_at dksX2_order_1 16 rfl rfl)
theorem dX2_order_42 : decode cX2_order 42 = .ok (.ireturn, 1) := dk_172 (dk_at dksX2_order_1 19 rfl rfl)
abbrev cX2_print : ByteArray := prog_4_method_104_code
def yX2_print : MethodName := ⟨RX2, "print", "(II)I"⟩
def dkwX2_print_3 : List UInt8 := [167, 0, 4, 2, 172]
abbrev dktX2_print_3 : List UInt8 := dkwX2_print_3 ++ []
def dkwX2_print_2 : List UInt8 := [180, 3, 86, 167, 0, 25, 28, 42, 180, 3, 86, 162, 0, 16, 42, 180, 0, 253, 28, 51, 17, 0, 255, 126]
abbrev dktX2_print_2 : List UInt8 := dkwX2_print_2 ++ dktX2_print_3
def dkwX2_print_1 : List UInt8 := [181, 3, 86, 42, 42, 180, 0, 250, 27, 46, 3, 17, 3, 232, 184, 3, 95, 28, 156, 0, 10, 42]
abbrev dktX2_print_1 : List UInt8 := dkwX2_print_1 ++ dktX2_print_2
def dkwX2_print_0 : List UInt8 := [42, 3, 181, 0, 1, 42, 27, 182, 3, 83, 154, 0, 8, 28, 2, 162, 0, 5, 2, 172, 42, 3]
abbrev dktX2_print_0 : List UInt8 := dkwX2_print_0 ++ dktX2_print_1
theorem dksX2_print_0 : cX2_print.data.toList.drop 0 = dktX2_print_0 := by decide +kernel
theorem dksX2_print_1 : cX2_print.data.toList.drop 22 = dktX2_print_1 := dk_seg dksX2_print_0 22 rfl rfl
theorem dksX2_print_2 : cX2_print.data.toList.drop 44 = dktX2_print_2 := dk_seg dksX2_print_1 22 rfl rfl
theorem dksX2_print_3 : cX2_print.data.toList.drop 68 = dktX2_print_3 := dk_seg dksX2_print_2 24 rfl rfl
theorem dX2_print_0 : decode cX2_print 0 = .ok (.aload_n 0, 1) := dk_42 (dk_at dksX2_print_0 0 rfl rfl)
theorem dX2_print_1 : decode cX2_print 1 = .ok (.iconst 0, 1) := dk_3 (dk_at dksX2_print_0 1 rfl rfl)
theorem dX2_print_2 : decode cX2_print 2 = .ok (.putfield 1, 3) := dk_181 0 1 (dk_at dksX2_print_0 2 rfl rfl)
theorem dX2_print_5 : decode cX2_print 5 = .ok (.aload_n 0, 1) := dk_42 (dk_at dksX2_print_0 5 rfl rfl)
theorem dX2_print_6 : decode cX2_print 6 = .ok (.iload_n 1, 1) := dk_27 (dk_at dksX2_print_0 6 rfl rfl)
theorem dX2_print_7 : decode cX2_print 7 = .ok (.invokevirtual 851, 3) := dk_182 3 83 (dk_at dksX2_print_0 7 rfl rfl)
theorem dX2_print_10 : decode cX2_print 10 = .ok (.ifCond .ne 8, 3) := dk_154 0 8 (dk_at dksX2_print_0 10 rfl rfl)
theorem dX2_print_13 : decode cX2_print 13 = .ok (.iload_n 2, 1) := dk_28 (dk_at dksX2_print_0 13 rfl rfl)
theorem dX2_print_14 : decode cX2_print 14 = .ok (.iconst (-1), 1) := dk_2 (dk_at dksX2_print_0 14 rfl rfl)
theorem dX2_print_15 : decode cX2_print 15 = .ok (.if_icmp .ge 5, 3) := dk_162 0 5 (dk_at dksX2_print_0 15 rfl rfl)
theorem dX2_print_18 : decode cX2_print 18 = .ok (.iconst (-1), 1) := dk_2 (dk_at dksX2_print_0 18 rfl rfl)
theorem dX2_print_19 : decode cX2_print 19 = .ok (.ireturn, 1) := dk_172 (dk_at dksX2_print_0 19 rfl rfl)
theorem dX2_print_20 : decode cX2_print 20 = .ok (.aload_n 0, 1) := dk_42 (dk_at dksX2_print_0 20 rfl rfl)
theorem dX2_print_21 : decode cX2_print 21 = .ok (.iconst 0, 1) := dk_3 (dk_at dksX2_print_0 21 rfl rfl)
theorem dX2_print_22 : decode cX2_print 22 = .ok (.putfield 854, 3) := dk_181 3 86 (dk_at dksX2_print_1 0 rfl rfl)
theorem dX2_print_25 : decode cX2_print 25 = .ok (.aload_n 0, 1) := dk_42 (dk_at dksX2_print_1 3 rfl rfl)
theorem dX2_print_26 : decode cX2_print 26 = .ok (.aload_n 0, 1) := dk_42 (dk_at dksX2_print_1 4 rfl rfl)
theorem dX2_print_27 : decode cX2_print 27 = .ok (.getfield 250, 3) := dk_180 0 250 (dk_at dksX2_print_1 5 rfl rfl)
theorem dX2_print_30 : decode cX2_print 30 = .ok (.iload_n 1, 1) := dk_27 (dk_at dksX2_print_1 8 rfl rfl)
theorem dX2_print_31 : decode cX2_print 31 = .ok (.iaload, 1) := dk_46 (dk_at dksX2_print_1 9 rfl rfl)
theorem dX2_print_32 : decode cX2_print 32 = .ok (.iconst 0, 1) := dk_3 (dk_at dksX2_print_1 10 rfl rfl)
theorem dX2_print_33 : decode cX2_print 33 = .ok (.sipush 1000, 3) := dk_17 3 232 (dk_at dksX2_print_1 11 rfl rfl)
theorem dX2_print_36 : decode cX2_print 36 = .ok (.invokestatic 863, 3) := dk_184 3 95 (dk_at dksX2_print_1 14 rfl rfl)
theorem dX2_print_39 : decode cX2_print 39 = .ok (.iload_n 2, 1) := dk_28 (dk_at dksX2_print_1 17 rfl rfl)
theorem dX2_print_40 : decode cX2_print 40 = .ok (.ifCond .ge 10, 3) := dk_156 0 10 (dk_at dksX2_print_1 18 rfl rfl)
theorem dX2_print_43 : decode cX2_print 43 = .ok (.aload_n 0, 1) := dk_42 (dk_at dksX2_print_1 21 rfl rfl)
theorem dX2_print_44 : decode cX2_print 44 = .ok (.getfield 854, 3) := dk_180 3 86 (dk_at dksX2_print_2 0 rfl rfl)
theorem dX2_print_47 : decode cX2_print 47 = .ok (.goto 25, 3) := dk_167 0 25 (dk_at dksX2_print_2 3 rfl rfl)
theorem dX2_print_50 : decode cX2_print 50 = .ok (.iload_n 2, 1) := dk_28 (dk_at dksX2_print_2 6 rfl rfl)
theorem dX2_print_51 : decode cX2_print 51 = .ok (.aload_n 0, 1) := dk_42 (dk_at dksX2_print_2 7 rfl rfl)
theorem dX2_print_52 : decode cX2_print 52 = .ok (.getfield 854, 3) := dk_180 3 86 (dk_at dksX2_print_2 8 rfl rfl)
theorem dX2_print_55 : decode cX2_print 55 = .ok (.if_icmp .ge 16, 3) := dk_162 0 16 (dk_at dksX2_print_2 11 rfl rfl)
theorem dX2_print_58 : decode cX2_print 58 = .ok (.aload_n 0, 1) := dk_42 (dk_at dksX2_print_2 14 rfl rfl)
theorem dX2_print_59 : decode cX2_print 59 = .ok (.getfield 253, 3) := dk_180 0 253 (dk_at dksX2_print_2 15 rfl rfl)
theorem dX2_print_62 : decode cX2_print 62 = .ok (.iload_n 2, 1) := dk_28 (dk_at dksX2_print_2 18 rfl rfl)
theorem dX2_print_63 : decode cX2_print 63 = .ok (.baload, 1) := dk_51 (dk_at dksX2_print_2 19 rfl rfl)
theorem dX2_print_64 : decode cX2_print 64 = .ok (.sipush 255, 3) := dk_17 0 255 (dk_at dksX2_print_2 20 rfl rfl)
theorem dX2_print_67 : decode cX2_print 67 = .ok (.iand, 1) := dk_126 (dk_at dksX2_print_2 23 rfl rfl)
theorem dX2_print_68 : decode cX2_print 68 = .ok (.goto 4, 3) := dk_167 0 4 (dk_at dksX2_print_3 0 rfl rfl)
theorem dX2_print_71 : decode cX2_print 71 = .ok (.iconst (-1), 1) := dk_2 (dk_at dksX2_print_3 3 rfl rfl)
theorem dX2_print_72 : decode cX2_print 72 = .ok (.ireturn, 1) := dk_172 (dk_at dksX2_print_3 4 rfl rfl)
abbrev cX2_show : ByteArray := prog_4_method_103_code
def yX2_show : MethodName := ⟨RX2, "show", "(LRewriteHouseModel;III)V"⟩
def dkwX2_show_12 : List UInt8 := [16, 41, 182, 3, 92, 177]
abbrev dktX2_show_12 : List UInt8 := dkwX2_show_12 ++ []
def dkwX2_show_11 : List UInt8 := [182, 2, 179, 3, 21, 10, 184, 3, 95, 132, 8, 1, 132, 9, 1, 167, 255, 119, 21, 7, 153, 0, 9, 42]
abbrev dktX2_show_11 : List UInt8 := dkwX2_show_11 ++ dktX2_show_12
def dkwX2_show_10 : List UInt8 := [180, 0, 168, 21, 4, 51, 153, 0, 16, 21, 8, 4, 160, 0, 10, 21, 6, 4, 100, 167, 0, 5, 21, 8]
abbrev dktX2_show_10 : List UInt8 := dkwX2_show_10 ++ dktX2_show_11
def dkwX2_show_9 : List UInt8 := [21, 6, 5, 164, 0, 17, 42, 27, 21, 6, 4, 100, 21, 10, 184, 3, 95, 167, 0, 40, 42, 42, 27, 42]
abbrev dktX2_show_9 : List UInt8 := dkwX2_show_9 ++ dktX2_show_10
def dkwX2_show_8 : List UInt8 := [21, 4, 21, 8, 182, 2, 210, 54, 10, 42, 180, 0, 168, 21, 4, 51, 153, 0, 28, 21, 8, 154, 0, 23]
abbrev dktX2_show_8 : List UInt8 := dkwX2_show_8 ++ dktX2_show_9
def dkwX2_show_7 : List UInt8 := [159, 0, 23, 42, 42, 180, 0, 141, 16, 13, 21, 5, 104, 21, 9, 96, 46, 182, 3, 89, 167, 0, 88, 42]
abbrev dktX2_show_7 : List UInt8 := dkwX2_show_7 ++ dktX2_show_8
def dkwX2_show_6 : List UInt8 := [180, 0, 144, 21, 5, 46, 162, 0, 131, 42, 180, 0, 141, 16, 13, 21, 5, 104, 21, 9, 96, 46, 2]
abbrev dktX2_show_6 : List UInt8 := dkwX2_show_6 ++ dktX2_show_7
def dkwX2_show_5 : List UInt8 := [54, 7, 21, 7, 153, 0, 9, 42, 16, 40, 182, 3, 92, 3, 54, 8, 3, 54, 9, 21, 9, 42]
abbrev dktX2_show_5 : List UInt8 := dkwX2_show_5 ++ dktX2_show_6
def dkwX2_show_4 : List UInt8 := [42, 180, 0, 187, 27, 46, 54, 6, 42, 180, 0, 165, 21, 4, 46, 29, 164, 0, 7, 4, 167, 0, 4, 3]
abbrev dktX2_show_4 : List UInt8 := dkwX2_show_4 ++ dktX2_show_5
def dkwX2_show_3 : List UInt8 := [180, 0, 181, 27, 46, 54, 4, 42, 180, 0, 159, 21, 4, 46, 54, 5, 28, 158, 0, 7, 28, 167, 0, 9]
abbrev dktX2_show_3 : List UInt8 := dkwX2_show_3 ++ dktX2_show_4
def dkwX2_show_2 : List UInt8 := [42, 180, 0, 253, 42, 180, 3, 86, 16, 39, 84, 42, 89, 180, 3, 86, 4, 96, 181, 3, 86, 177, 42]
abbrev dktX2_show_2 : List UInt8 := dkwX2_show_2 ++ dktX2_show_3
def dkwX2_show_1 : List UInt8 := [161, 0, 11, 21, 4, 16, 30, 100, 167, 0, 5, 21, 4, 46, 182, 3, 89, 21, 4, 16, 30, 161, 0, 24]
abbrev dktX2_show_1 : List UInt8 := dkwX2_show_1 ++ dktX2_show_2
def dkwX2_show_0 : List UInt8 := [42, 27, 182, 2, 185, 153, 0, 65, 42, 27, 182, 2, 188, 54, 4, 42, 42, 180, 0, 135, 21, 4, 16, 30]
abbrev dktX2_show_0 : List UInt8 := dkwX2_show_0 ++ dktX2_show_1
theorem dksX2_show_0 : cX2_show.data.toList.drop 0 = dktX2_show_0 := by decide +kernel
theorem dksX2_show_1 : cX2_show.data.toList.drop 24 = dktX2_show_1 := dk_seg dksX2_show_0 24 rfl rfl
theorem dksX2_show_2 : cX2_show.data.toList.drop 48 = dktX2_show_2 := dk_seg dksX2_show_1 24 rfl rfl
theorem dksX2_show_3 : cX2_show.data.toList.drop 71 = dktX2_show_3 := dk_seg dksX2_show_2 23 rfl rfl
theorem dksX2_show_4 : cX2_show.data.toList.drop 95 = dktX2_show_4 := dk_seg dksX2_show_3 24 rfl rfl
theorem dksX2_show_5 : cX2_show.data.toList.drop 119 = dktX2_show_5 := dk_seg dksX2_show_4 24 rfl rfl
theorem dksX2_show_6 : cX2_show.data.toList.drop 141 = dktX2_show_6 := dk_seg dksX2_show_5 22 rfl rfl
theorem dksX2_show_7 : cX2_show.data.toList.drop 164 = dktX2_show_7 := dk_seg dksX2_show_6 23 rfl rfl
theorem dksX2_show_8 : cX2_show.data.toList.drop 188 = dktX2_show_8 := dk_seg dksX2_show_7 24 rfl rfl
theorem dksX2_show_9 : cX2_show.data.toList.drop 212 = dktX2_show_9 := dk_seg dksX2_show_8 24 rfl rfl
theorem dksX2_show_10 : cX2_show.data.toList.drop 236 = dktX2_show_10 := dk_seg dksX2_show_9 24 rfl rfl
theorem dksX2_show_11 : cX2_show.data.toList.drop 260 = dktX2_show_11 := dk_seg dksX2_show_10 24 rfl rfl
theorem dksX2_show_12 : cX2_show.data.toList.drop 284 = dktX2_show_12 := dk_seg dksX2_show_11 24 rfl rfl
theorem dX2_show_0 : decode cX2_show 0 = .ok (.aload_n 0, 1) := dk_42 (dk_at dksX2_show_0 0 rfl rfl)
theorem dX2_show_1 : decode cX2_show 1 = .ok (.iload_n 1, 1) := dk_27 (dk_at dksX2_show_0 1 rfl rfl)
theorem dX2_show_2 : decode cX2_show 2 = .ok (.invokevirtual 697, 3) := dk_182 2 185 (dk_at dksX2_show_0 2 rfl rfl)
theorem dX2_show_5 : decode cX2_show 5 = .ok (.ifCond .eq 65, 3) := dk_153 0 65 (dk_at dksX2_show_0 5 rfl rfl)
theorem dX2_show_8 : decode cX2_show 8 = .ok (.aload_n 0, 1) := dk_42 (dk_at dksX2_show_0 8 rfl rfl)
theorem dX2_show_9 : decode cX2_show 9 = .ok (.iload_n 1, 1) := dk_27 (dk_at dksX2_show_0 9 rfl rfl)
theorem dX2_show_10 : decode cX2_show 10 = .ok (.invokevirtual 700, 3) := dk_182 2 188 (dk_at dksX2_show_0 10 rfl rfl)
theorem dX2_show_13 : decode cX2_show 13 = .ok (.istore 4, 2) := dk_54 4 (dk_at dksX2_show_0 13 rfl rfl)
theorem dX2_show_15 : decode cX2_show 15 = .ok (.aload_n 0, 1) := dk_42 (dk_at dksX2_show_0 15 rfl rfl)
theorem dX2_show_16 : decode cX2_show 16 = .ok (.aload_n 0, 1) := dk_42 (dk_at dksX2_show_0 16 rfl rfl)
theorem dX2_show_17 : decode cX2_show 17 = .ok (.getfield 135, 3) := dk_180 0 135 (dk_at dksX2_show_0 17 rfl rfl)
theorem dX2_show_20 : decode cX2_show 20 = .ok (.iload 4, 2) := dk_21 4 (dk_at dksX2_show_0 20 rfl rfl)
theorem dX2_show_22 : decode cX2_show 22 = .ok (.bipush 30, 2) := dk_16 30 (dk_at dksX2_show_0 22 rfl rfl)
theorem dX2_show_24 : decode cX2_show 24 = .ok (.if_icmp .lt 11, 3) := dk_161 0 11 (dk_at dksX2_show_1 0 rfl rfl)
theorem dX2_show_27 : decode cX2_show 27 = .ok (.iload 4, 2) := dk_21 4 (dk_at dksX2_show_1 3 rfl rfl)
theorem dX2_show_29 : decode cX2_show 29 = .ok (.bipush 30, 2) := dk_16 30 (dk_at dksX2_show_1 5 rfl rfl)
theorem dX2_show_31 : decode cX2_show 31 = .ok (.isub, 1) := dk_100 (dk_at dksX2_show_1 7 rfl rfl)
theorem dX2_show_32 : decode cX2_show 32 = .ok (.goto 5, 3) := dk_167 0 5 (dk_at dksX2_show_1 8 rfl rfl)
theorem dX2_show_35 : decode cX2_show 35 = .ok (.iload 4, 2) := dk_21 4 (dk_at dksX2_show_1 11 rfl rfl)
theorem dX2_show_37 : decode cX2_show 37 = .ok (.iaload, 1) := dk_46 (dk_at dksX2_show_1 13 rfl rfl)
theorem dX2_show_38 : decode cX2_show 38 = .ok (.invokevirtual 857, 3) := dk_182 3 89 (dk_at dksX2_show_1 14 rfl rfl)
theorem dX2_show_41 : decode cX2_show 41 = .ok (.iload 4, 2) := dk_21 4 (dk_at dksX2_show_1 17 rfl rfl)
theorem dX2_show_43 : decode cX2_show 43 = .ok (.bipush 30, 2) := dk_16 30 (dk_at dksX2_show_1 19 rfl rfl)
theorem dX2_show_45 : decode cX2_show 45 = .ok (.if_icmp .lt 24, 3) := dk_161 0 24 (dk_at dksX2_show_1 21 rfl rfl)
theorem dX2_show_48 : decode cX2_show 48 = .ok (.aload_n 0, 1) := dk_42 (dk_at dksX2_show_2 0 rfl rfl)
theorem dX2_show_49 : decode cX2_show 49 = .ok (.getfield 253, 3) := dk_180 0 253 (dk_at dksX2_show_2 1 rfl rfl)
theorem dX2_show_52 : decode cX2_show 52 = .ok (.aload_n 0, 1) := dk_42 (dk_at dksX2_show_2 4 rfl rfl)
theorem dX2_show_53 : decode cX2_show 53 = .ok (.getfield 854, 3) := dk_180 3 86 (dk_at dksX2_show_2 5 rfl rfl)
theorem dX2_show_56 : decode cX2_show 56 = .ok (.bipush 39, 2) := dk_16 39 (dk_at dksX2_show_2 8 rfl rfl)
theorem dX2_show_58 : decode cX2_show 58 = .ok (.bastore, 1) := dk_84 (dk_at dksX2_show_2 10 rfl rfl)
theorem dX2_show_59 : decode cX2_show 59 = .ok (.aload_n 0, 1) := dk_42 (dk_at dksX2_show_2 11 rfl rfl)
theorem dX2_show_60 : decode cX2_show 60 = .ok (.dup, 1) := dk_89 (dk_at dksX2_show_2 12 rfl rfl)
theorem dX2_show_61 : decode cX2_show 61 = .ok (.getfield 854, 3) := dk_180 3 86 (dk_at dksX2_show_2 13 rfl rfl)
theorem dX2_show_64 : decode cX2_show 64 = .ok (.iconst 1, 1) := dk_4 (dk_at dksX2_show_2 16 rfl rfl)
theorem dX2_show_65 : decode cX2_show 65 = .ok (.iadd, 1) := dk_96 (dk_at dksX2_show_2 17 rfl rfl)
theorem dX2_show_66 : decode cX2_show 66 = .ok (.putfield 854, 3) := dk_181 3 86 (dk_at dksX2_show_2 18 rfl rfl)
theorem dX2_show_69 : decode cX2_show 69 = .ok (.return_, 1) := dk_177 (dk_at dksX2_show_2 21 rfl rfl)
theorem dX2_show_70 : decode cX2_show 70 = .ok (.aload_n 0, 1) := dk_42 (dk_at dksX2_show_2 22 rfl rfl)
theorem dX2_show_71 : decode cX2_show 71 = .ok (.getfield 181, 3) := dk_180 0 181 (dk_at dksX2_show_3 0 rfl rfl)
theorem dX2_show_74 : decode cX2_show 74 = .ok (.iload_n 1, 1) := dk_27 (dk_at dksX2_show_3 3 rfl rfl)
theorem dX2_show_75 : decode cX2_show 75 = .ok (.iaload, 1) := dk_46 (dk_at dksX2_show_3 4 rfl rfl)
theorem dX2_show_76 : decode cX2_show 76 = .ok (.istore 4, 2) := dk_54 4 (dk_at dksX2_show_3 5 rfl rfl)
theorem dX2_show_78 : decode cX2_show 78 = .ok (.aload_n 0, 1) := dk_42 (dk_at dksX2_show_3 7 rfl rfl)
theorem dX2_show_79 : decode cX2_show 79 = .ok (.getfield 159, 3) := dk_180 0 159 (dk_at dksX2_show_3 8 rfl rfl)
theorem dX2_show_82 : decode cX2_show 82 = .ok (.iload 4, 2) := dk_21 4 (dk_at dksX2_show_3 11 rfl rfl)
theorem dX2_show_84 : decode cX2_show 84 = .ok (.iaload, 1) := dk_46 (dk_at dksX2_show_3 13 rfl rfl)
theorem dX2_show_85 : decode cX2_show 85 = .ok (.istore 5, 2) := dk_54 5 (dk_at dksX2_show_3 14 rfl rfl)
theorem dX2_show_87 : decode cX2_show 87 = .ok (.iload_n 2, 1) := dk_28 (dk_at dksX2_show_3 16 rfl rfl)
theorem dX2_show_88 : decode cX2_show 88 = .ok (.ifCond .le 7, 3) := dk_158 0 7 (dk_at dksX2_show_3 17 rfl rfl)
theorem dX2_show_91 : decode cX2_show 91 = .ok (.iload_n 2, 1) := dk_28 (dk_at dksX2_show_3 20 rfl rfl)
theorem dX2_show_92 : decode cX2_show 92 = .ok (.goto 9, 3) := dk_167 0 9 (dk_at dksX2_show_3 21 rfl rfl)
theorem dX2_show_95 : decode cX2_show 95 = .ok (.aload_n 0, 1) := dk_42 (dk_at dksX2_show_4 0 rfl rfl)
theorem dX2_show_96 : decode cX2_show 96 = .ok (.getfield 187, 3) := dk_180 0 187 (dk_at dksX2_show_4 1 rfl rfl)
theorem dX2_show_99 : decode cX2_show 99 = .ok (.iload_n 1, 1) := dk_27 (dk_at dksX2_show_4 4 rfl rfl)
theorem dX2_show_100 : decode cX2_show 100 = .ok (.iaload, 1) := dk_46 (dk_at dksX2_show_4 5 rfl rfl)
theorem dX2_show_101 : decode cX2_show 101 = .ok (.istore 6, 2) := dk_54 6 (dk_at dksX2_show_4 6 rfl rfl)
theorem dX2_show_103 : decode cX2_show 103 = .ok (.aload_n 0, 1) := dk_42 (dk_at dksX2_show_4 8 rfl rfl)
theorem dX2_show_104 : decode cX2_show 104 = .ok (.getfield 165, 3) := dk_180 0 165 (dk_at dksX2_show_4 9 rfl rfl)
theorem dX2_show_107 : decode cX2_show 107 = .ok (.iload 4, 2) := dk_21 4 (dk_at dksX2_show_4 12 rfl rfl)
theorem dX2_show_109 : decode cX2_show 109 = .ok (.iaload, 1) := dk_46 (dk_at dksX2_show_4 14 rfl rfl)
theorem dX2_show_110 : decode cX2_show 110 = .ok (.iload_n 3, 1) := dk_29 (dk_at dksX2_show_4 15 rfl rfl)
theorem dX2_show_111 : decode cX2_show 111 = .ok (.if_icmp .le 7, 3) := dk_164 0 7 (dk_at dksX2_show_4 16 rfl rfl)
theorem dX2_show_114 : decode cX2_show 114 = .ok (.iconst 1, 1) := dk_4 (dk_at dksX2_show_4 19 rfl rfl)
theorem dX2_show_115 : decode cX2_show 115 = .ok (.goto 4, 3) := dk_167 0 4 (dk_at dksX2_show_4 20 rfl rfl)
theorem dX2_show_118 : decode cX2_show 118 = .ok (.iconst 0, 1) := dk_3 (dk_at dksX2_show_4 23 rfl rfl)
theorem dX2_show_119 : decode cX2_show 119 = .ok (.istore 7, 2) := dk_54 7 (dk_at dksX2_show_5 0 rfl rfl)
theorem dX2_show_121 : decode cX2_show 121 = .ok (.iload 7, 2) := dk_21 7 (dk_at dksX2_show_5 2 rfl rfl)
theorem dX2_show_123 : decode cX2_show 123 = .ok (.ifCond .eq 9, 3) := dk_153 0 9 (dk_at dksX2_show_5 4 rfl rfl)
theorem dX2_show_126 : decode cX2_show 126 = .ok (.aload_n 0, 1) := dk_42 (dk_at dksX2_show_5 7 rfl rfl)
theorem dX2_show_127 : decode cX2_show 127 = .ok (.bipush 40, 2) := dk_16 40 (dk_at dksX2_show_5 8 rfl rfl)
theorem dX2_show_129 : decode cX2_show 129 = .ok (.invokevirtual 860, 3) := dk_182 3 92 (dk_at dksX2_show_5 10 rfl rfl)
theorem dX2_show_132 : decode cX2_show 132 = .ok (.iconst 0, 1) := dk_3 (dk_at dksX2_show_5 13 rfl rfl)
theorem dX2_show_133 : decode cX2_show 133 = .ok (.istore 8, 2) := dk_54 8 (dk_at dksX2_show_5 14 rfl rfl)
theorem dX2_show_135 : decode cX2_show 135 = .ok (.iconst 0, 1) := dk_3 (dk_at dksX2_show_5 16 rfl rfl)
theorem dX2_show_136 : decode cX2_show 136 = .ok (.istore 9, 2) := dk_54 9 (dk_at dksX2_show_5 17 rfl rfl)
theorem dX2_show_138 : decode cX2_show 138 = .ok (.iload 9, 2) := dk_21 9 (dk_at dksX2_show_5 19 rfl rfl)
theorem dX2_show_140 : decode cX2_show 140 = .ok (.aload_n 0, 1) := dk_42 (dk_at dksX2_show_5 21 rfl rfl)
theorem dX2_show_141 : decode cX2_show 141 = .ok (.getfield 144, 3) := dk_180 0 144 (dk_at dksX2_show_6 0 rfl rfl)
theorem dX2_show_144 : decode cX2_show 144 = .ok (.iload 5, 2) := dk_21 5 (dk_at dksX2_show_6 3 rfl rfl)
theorem dX2_show_146 : decode cX2_show 146 = .ok (.iaload, 1) := dk_46 (dk_at dksX2_show_6 5 rfl rfl)
theorem dX2_show_147 : decode cX2_show 147 = .ok (.if_icmp .ge 131, 3) := dk_162 0 131 (dk_at dksX2_show_6 6 rfl rfl)
theorem dX2_show_150 : decode cX2_show 150 = .ok (.aload_n 0, 1) := dk_42 (dk_at dksX2_show_6 9 rfl rfl)
theorem dX2_show_151 : decode cX2_show 151 = .ok (.getfield 141, 3) := dk_180 0 141 (dk_at dksX2_show_6 10 rfl rfl)
theorem dX2_show_154 : decode cX2_show 154 = .ok (.bipush 13, 2) := dk_16 13 (dk_at dksX2_show_6 13 rfl rfl)
theorem dX2_show_156 : decode cX2_show 156 = .ok (.iload 5, 2) := dk_21 5 (dk_at dksX2_show_6 15 rfl rfl)
theorem dX2_show_158 : decode cX2_show 158 = .ok (.imul, 1) := dk_104 (dk_at dksX2_show_6 17 rfl rfl)
theorem dX2_show_159 : decode cX2_show 159 = .ok (.iload 9, 2) := dk_21 9 (dk_at dksX2_show_6 18 rfl rfl)
theorem dX2_show_161 : decode cX2_show 161 = .ok (.iadd, 1) := dk_96 (dk_at dksX2_show_6 20 rfl rfl)
theorem dX2_show_162 : decode cX2_show 162 = .ok (.iaload, 1) := dk_46 (dk_at dksX2_show_6 21 rfl rfl)
theorem dX2_show_163 : decode cX2_show 163 = .ok (.iconst (-1), 1) := dk_2 (dk_at dksX2_show_6 22 rfl rfl)
theorem dX2_show_164 : decode cX2_show 164 = .ok (.if_icmp .eq 23, 3) := dk_159 0 23 (dk_at dksX2_show_7 0 rfl rfl)
theorem dX2_show_167 : decode cX2_show 167 = .ok (.aload_n 0, 1) := dk_42 (dk_at dksX2_show_7 3 rfl rfl)
theorem dX2_show_168 : decode cX2_show 168 = .ok (.aload_n 0, 1) := dk_42 (dk_at dksX2_show_7 4 rfl rfl)
theorem dX2_show_169 : decode cX2_show 169 = .ok (.getfield 141, 3) := dk_180 0 141 (dk_at dksX2_show_7 5 rfl rfl)
theorem dX2_show_172 : decode cX2_show 172 = .ok (.bipush 13, 2) := dk_16 13 (dk_at dksX2_show_7 8 rfl rfl)
theorem dX2_show_174 : decode cX2_show 174 = .ok (.iload 5, 2) := dk_21 5 (dk_at dksX2_show_7 10 rfl rfl)
theorem dX2_show_176 : decode cX2_show 176 = .ok (.imul, 1) := dk_104 (dk_at dksX2_show_7 12 rfl rfl)
theorem dX2_show_177 : decode cX2_show 177 = .ok (.iload 9, 2) := dk_21 9 (dk_at dksX2_show_7 13 rfl rfl)
theorem dX2_show_179 : decode cX2_show 179 = .ok (.iadd, 1) := dk_96 (dk_at dksX2_show_7 15 rfl rfl)
theorem dX2_show_180 : decode cX2_show 180 = .ok (.iaload, 1) := dk_46 (dk_at dksX2_show_7 16 rfl rfl)
theorem dX2_show_181 : decode cX2_show 181 = .ok (.invokevirtual 857, 3) := dk_182 3 89 (dk_at dksX2_show_7 17 rfl rfl)
theorem dX2_show_184 : decode cX2_show 184 = .ok (.goto 88, 3) := dk_167 0 88 (dk_at dksX2_show_7 20 rfl rfl)
theorem dX2_show_187 : decode cX2_show 187 = .ok (.aload_n 0, 1) := dk_42 (dk_at dksX2_show_7 23 rfl rfl)
theorem dX2_show_188 : decode cX2_show 188 = .ok (.iload 4, 2) := dk_21 4 (dk_at dksX2_show_8 0 rfl rfl)
theorem dX2_show_190 : decode cX2_show 190 = .ok (.iload 8, 2) := dk_21 8 (dk_at dksX2_show_8 2 rfl rfl)
theorem dX2_show_192 : decode cX2_show 192 = .ok (.invokevirtual 722, 3) := dk_182 2 210 (dk_at dksX2_show_8 4 rfl rfl)
theorem dX2_show_195 : decode cX2_show 195 = .ok (.istore 10, 2) := dk_54 10 (dk_at dksX2_show_8 7 rfl rfl)
theorem dX2_show_197 : decode cX2_show 197 = .ok (.aload_n 0, 1) := dk_42 (dk_at dksX2_show_8 9 rfl rfl)
theorem dX2_show_198 : decode cX2_show 198 = .ok (.getfield 168, 3) := dk_180 0 168 (dk_at dksX2_show_8 10 rfl rfl)
theorem dX2_show_201 : decode cX2_show 201 = .ok (.iload 4, 2) := dk_21 4 (dk_at dksX2_show_8 13 rfl rfl)
theorem dX2_show_203 : decode cX2_show 203 = .ok (.baload, 1) := dk_51 (dk_at dksX2_show_8 15 rfl rfl)
theorem dX2_show_204 : decode cX2_show 204 = .ok (.ifCond .eq 28, 3) := dk_153 0 28 (dk_at dksX2_show_8 16 rfl rfl)
theorem dX2_show_207 : decode cX2_show 207 = .ok (.iload 8, 2) := dk_21 8 (dk_at dksX2_show_8 19 rfl rfl)
theorem dX2_show_209 : decode cX2_show 209 = .ok (.ifCond .ne 23, 3) := dk_154 0 23 (dk_at dksX2_show_8 21 rfl rfl)
theorem dX2_show_212 : decode cX2_show 212 = .ok (.iload 6, 2) := dk_21 6 (dk_at dksX2_show_9 0 rfl rfl)
theorem dX2_show_214 : decode cX2_show 214 = .ok (.iconst 2, 1) := dk_5 (dk_at dksX2_show_9 2 rfl rfl)
theorem dX2_show_215 : decode cX2_show 215 = .ok (.if_icmp .le 17, 3) := dk_164 0 17 (dk_at dksX2_show_9 3 rfl rfl)
theorem dX2_show_218 : decode cX2_show 218 = .ok (.aload_n 0, 1) := dk_42 (dk_at dksX2_show_9 6 rfl rfl)
theorem dX2_show_219 : decode cX2_show 219 = .ok (.iload_n 1, 1) := dk_27 (dk_at dksX2_show_9 7 rfl rfl)
theorem dX2_show_220 : decode cX2_show 220 = .ok (.iload 6, 2) := dk_21 6 (dk_at dksX2_show_9 8 rfl rfl)
theorem dX2_show_222 : decode cX2_show 222 = .ok (.iconst 1, 1) := dk_4 (dk_at dksX2_show_9 10 rfl rfl)
theorem dX2_show_223 : decode cX2_show 223 = .ok (.isub, 1) := dk_100 (dk_at dksX2_show_9 11 rfl rfl)
theorem dX2_show_224 : decode cX2_show 224 = .ok (.iload 10, 2) := dk_21 10 (dk_at dksX2_show_9 12 rfl rfl)
theorem dX2_show_226 : decode cX2_show 226 = .ok (.invokestatic 863, 3) := dk_184 3 95 (dk_at dksX2_show_9 14 rfl rfl)
theorem dX2_show_229 : decode cX2_show 229 = .ok (.goto 40, 3) := dk_167 0 40 (dk_at dksX2_show_9 17 rfl rfl)
theorem dX2_show_232 : decode cX2_show 232 = .ok (.aload_n 0, 1) := dk_42 (dk_at dksX2_show_9 20 rfl rfl)
theorem dX2_show_233 : decode cX2_show 233 = .ok (.aload_n 0, 1) := dk_42 (dk_at dksX2_show_9 21 rfl rfl)
theorem dX2_show_234 : decode cX2_show 234 = .ok (.iload_n 1, 1) := dk_27 (dk_at dksX2_show_9 22 rfl rfl)
theorem dX2_show_235 : decode cX2_show 235 = .ok (.aload_n 0, 1) := dk_42 (dk_at dksX2_show_9 23 rfl rfl)
theorem dX2_show_236 : decode cX2_show 236 = .ok (.getfield 168, 3) := dk_180 0 168 (dk_at dksX2_show_10 0 rfl rfl)
theorem dX2_show_239 : decode cX2_show 239 = .ok (.iload 4, 2) := dk_21 4 (dk_at dksX2_show_10 3 rfl rfl)
theorem dX2_show_241 : decode cX2_show 241 = .ok (.baload, 1) := dk_51 (dk_at dksX2_show_10 5 rfl rfl)
theorem dX2_show_242 : decode cX2_show 242 = .ok (.ifCond .eq 16, 3) := dk_153 0 16 (dk_at dksX2_show_10 6 rfl rfl)
theorem dX2_show_245 : decode cX2_show 245 = .ok (.iload 8, 2) := dk_21 8 (dk_at dksX2_show_10 9 rfl rfl)
theorem dX2_show_247 : decode cX2_show 247 = .ok (.iconst 1, 1) := dk_4 (dk_at dksX2_show_10 11 rfl rfl)
theorem dX2_show_248 : decode cX2_show 248 = .ok (.if_icmp .ne 10, 3) := dk_160 0 10 (dk_at dksX2_show_10 12 rfl rfl)
theorem dX2_show_251 : decode cX2_show 251 = .ok (.iload 6, 2) := dk_21 6 (dk_at dksX2_show_10 15 rfl rfl)
theorem dX2_show_253 : decode cX2_show 253 = .ok (.iconst 1, 1) := dk_4 (dk_at dksX2_show_10 17 rfl rfl)
theorem dX2_show_254 : decode cX2_show 254 = .ok (.isub, 1) := dk_100 (dk_at dksX2_show_10 18 rfl rfl)
theorem dX2_show_255 : decode cX2_show 255 = .ok (.goto 5, 3) := dk_167 0 5 (dk_at dksX2_show_10 19 rfl rfl)
theorem dX2_show_258 : decode cX2_show 258 = .ok (.iload 8, 2) := dk_21 8 (dk_at dksX2_show_10 22 rfl rfl)
theorem dX2_show_260 : decode cX2_show 260 = .ok (.invokevirtual 691, 3) := dk_182 2 179 (dk_at dksX2_show_11 0 rfl rfl)
theorem dX2_show_263 : decode cX2_show 263 = .ok (.iconst 0, 1) := dk_3 (dk_at dksX2_show_11 3 rfl rfl)
theorem dX2_show_264 : decode cX2_show 264 = .ok (.iload 10, 2) := dk_21 10 (dk_at dksX2_show_11 4 rfl rfl)
theorem dX2_show_266 : decode cX2_show 266 = .ok (.invokestatic 863, 3) := dk_184 3 95 (dk_at dksX2_show_11 6 rfl rfl)
theorem dX2_show_269 : decode cX2_show 269 = .ok (.iinc 8 1, 3) := dk_132 8 1 (dk_at dksX2_show_11 9 rfl rfl)
theorem dX2_show_272 : decode cX2_show 272 = .ok (.iinc 9 1, 3) := dk_132 9 1 (dk_at dksX2_show_11 12 rfl rfl)
theorem dX2_show_275 : decode cX2_show 275 = .ok (.goto (-137), 3) := dk_167 255 119 (dk_at dksX2_show_11 15 rfl rfl)
theorem dX2_show_278 : decode cX2_show 278 = .ok (.iload 7, 2) := dk_21 7 (dk_at dksX2_show_11 18 rfl rfl)
theorem dX2_show_280 : decode cX2_show 280 = .ok (.ifCond .eq 9, 3) := dk_153 0 9 (dk_at dksX2_show_11 20 rfl rfl)
theorem dX2_show_283 : decode cX2_show 283 = .ok (.aload_n 0, 1) := dk_42 (dk_at dksX2_show_11 23 rfl rfl)
theorem dX2_show_284 : decode cX2_show 284 = .ok (.bipush 41, 2) := dk_16 41 (dk_at dksX2_show_12 0 rfl rfl)
theorem dX2_show_286 : decode cX2_show 286 = .ok (.invokevirtual 860, 3) := dk_182 3 92 (dk_at dksX2_show_12 2 rfl rfl)
theorem dX2_show_289 : decode cX2_show 289 = .ok (.return_, 1) := dk_177 (dk_at dksX2_show_12 5 rfl rfl)
abbrev cX2_showWord : ByteArray := prog_4_method_101_code
def yX2_showWord : MethodName := ⟨RX2, "showWord", "(I)V"⟩
def dkwX2_showWord_3 : List UInt8 := [132, 2, 1, 167, 255, 213, 177]
abbrev dktX2_showWord_3 : List UInt8 := dkwX2_showWord_3 ++ []
def dkwX2_showWord_2 : List UInt8 := [42, 180, 0, 47, 16, 16, 27, 104, 28, 96, 51, 84, 42, 89, 180, 3, 86, 4, 96, 181, 3, 86]
abbrev dktX2_showWord_2 : List UInt8 := dkwX2_showWord_2 ++ dktX2_showWord_3
def dkwX2_showWord_1 : List UInt8 := [96, 181, 3, 86, 3, 61, 28, 42, 180, 0, 50, 27, 46, 162, 0, 39, 42, 180, 0, 253, 42, 180, 3, 86]
abbrev dktX2_showWord_1 : List UInt8 := dkwX2_showWord_1 ++ dktX2_showWord_2
def dkwX2_showWord_0 : List UInt8 := [42, 180, 3, 86, 158, 0, 24, 42, 180, 0, 253, 42, 180, 3, 86, 16, 32, 84, 42, 89, 180, 3, 86, 4]
abbrev dktX2_showWord_0 : List UInt8 := dkwX2_showWord_0 ++ dktX2_showWord_1
theorem dksX2_showWord_0 : cX2_showWord.data.toList.drop 0 = dktX2_showWord_0 := by decide +kernel
theorem dksX2_showWord_1 : cX2_showWord.data.toList.drop 24 = dktX2_showWord_1 := dk_seg dksX2_showWord_0 24 rfl rfl
theorem dksX2_showWord_2 : cX2_showWord.data.toList.drop 48 = dktX2_showWord_2 := dk_seg dksX2_showWord_1 24 rfl rfl
theorem dksX2_showWord_3 : cX2_showWord.data.toList.drop 70 = dktX2_showWord_3 := dk_seg dksX2_showWord_2 22 rfl rfl
theorem dX2_showWord_0 : decode cX2_showWord 0 = .ok (.aload_n 0, 1) := dk_42 (dk_at dksX2_showWord_0 0 rfl rfl)
theorem dX2_showWord_1 : decode cX2_showWord 1 = .ok (.getfield 854, 3) := dk_180 3 86 (dk_at dksX2_showWord_0 1 rfl rfl)
theorem dX2_showWord_4 : decode cX2_showWord 4 = .ok (.ifCond .le 24, 3) := dk_158 0 24 (dk_at dksX2_showWord_0 4 rfl rfl)
theorem dX2_showWord_7 : decode cX2_showWord 7 = .ok (.aload_n 0, 1) := dk_42 (dk_at dksX2_showWord_0 7 rfl rfl)
theorem dX2_showWord_8 : decode cX2_showWord 8 = .ok (.getfield 253, 3) := dk_180 0 253 (dk_at dksX2_showWord_0 8 rfl rfl)
theorem dX2_showWord_11 : decode cX2_showWord 11 = .ok (.aload_n 0, 1) := dk_42 (dk_at dksX2_showWord_0 11 rfl rfl)
theorem dX2_showWord_12 : decode cX2_showWord 12 = .ok (.getfield 854, 3) := dk_180 3 86 (dk_at dksX2_showWord_0 12 rfl rfl)
theorem dX2_showWord_15 : decode cX2_showWord 15 = .ok (.bipush 32, 2) := dk_16 32 (dk_at dksX2_showWord_0 15 rfl rfl)
theorem dX2_showWord_17 : decode cX2_showWord 17 = .ok (.bastore, 1) := dk_84 (dk_at dksX2_showWord_0 17 rfl rfl)
theorem dX2_showWord_18 : decode cX2_showWord 18 = .ok (.aload_n 0, 1) := dk_42 (dk_at dksX2_showWord_0 18 rfl rfl)
theorem dX2_showWord_19 : decode cX2_showWord 19 = .ok (.dup, 1) := dk_89 (dk_at dksX2_showWord_0 19 rfl rfl)
theorem dX2_showWord_20 : decode cX2_showWord 20 = .ok (.getfield 854, 3) := dk_180 3 86 (dk_at dksX2_showWord_0 20 rfl rfl)
theorem dX2_showWord_23 : decode cX2_showWord 23 = .ok (.iconst 1, 1) := dk_4 (dk_at dksX2_showWord_0 23 rfl rfl)
theorem dX2_showWord_24 : decode cX2_showWord 24 = .ok (.iadd, 1) := dk_96 (dk_at dksX2_showWord_1 0 rfl rfl)
theorem dX2_showWord_25 : decode cX2_showWord 25 = .ok (.putfield 854, 3) := dk_181 3 86 (dk_at dksX2_showWord_1 1 rfl rfl)
theorem dX2_showWord_28 : decode cX2_showWord 28 = .ok (.iconst 0, 1) := dk_3 (dk_at dksX2_showWord_1 4 rfl rfl)
theorem dX2_showWord_29 : decode cX2_showWord 29 = .ok (.istore_n 2, 1) := dk_61 (dk_at dksX2_showWord_1 5 rfl rfl)
theorem dX2_showWord_30 : decode cX2_showWord 30 = .ok (.iload_n 2, 1) := dk_28 (dk_at dksX2_showWord_1 6 rfl rfl)
theorem dX2_showWord_31 : decode cX2_showWord 31 = .ok (.aload_n 0, 1) := dk_42 (dk_at dksX2_showWord_1 7 rfl rfl)
theorem dX2_showWord_32 : decode cX2_showWord 32 = .ok (.getfield 50, 3) := dk_180 0 50 (dk_at dksX2_showWord_1 8 rfl rfl)
theorem dX2_showWord_35 : decode cX2_showWord 35 = .ok (.iload_n 1, 1) := dk_27 (dk_at dksX2_showWord_1 11 rfl rfl)
theorem dX2_showWord_36 : decode cX2_showWord 36 = .ok (.iaload, 1) := dk_46 (dk_at dksX2_showWord_1 12 rfl rfl)
theorem dX2_showWord_37 : decode cX2_showWord 37 = .ok (.if_icmp .ge 39, 3) := dk_162 0 39 (dk_at dksX2_showWord_1 13 rfl rfl)
theorem dX2_showWord_40 : decode cX2_showWord 40 = .ok (.aload_n 0, 1) := dk_42 (dk_at dksX2_showWord_1 16 rfl rfl)
theorem dX2_showWord_41 : decode cX2_showWord 41 = .ok (.getfield 253, 3) := dk_180 0 253 (dk_at dksX2_showWord_1 17 rfl rfl)
theorem dX2_showWord_44 : decode cX2_showWord 44 = .ok (.aload_n 0, 1) := dk_42 (dk_at dksX2_showWord_1 20 rfl rfl)
theorem dX2_showWord_45 : decode cX2_showWord 45 = .ok (.getfield 854, 3) := dk_180 3 86 (dk_at dksX2_showWord_1 21 rfl rfl)
theorem dX2_showWord_48 : decode cX2_showWord 48 = .ok (.aload_n 0, 1) := dk_42 (dk_at dksX2_showWord_2 0 rfl rfl)
theorem dX2_showWord_49 : decode cX2_showWord 49 = .ok (.getfield 47, 3) := dk_180 0 47 (dk_at dksX2_showWord_2 1 rfl rfl)
theorem dX2_showWord_52 : decode cX2_showWord 52 = .ok (.bipush 16, 2) := dk_16 16 (dk_at dksX2_showWord_2 4 rfl rfl)
theorem dX2_showWord_54 : decode cX2_showWord 54 = .ok (.iload_n 1, 1) := dk_27 (dk_at dksX2_showWord_2 6 rfl rfl)
theorem dX2_showWord_55 : decode cX2_showWord 55 = .ok (.imul, 1) := dk_104 (dk_at dksX2_showWord_2 7 rfl rfl)
theorem dX2_showWord_56 : decode cX2_showWord 56 = .ok (.iload_n 2, 1) := dk_28 (dk_at dksX2_showWord_2 8 rfl rfl)
theorem dX2_showWord_57 : decode cX2_showWord 57 = .ok (.iadd, 1) := dk_96 (dk_at dksX2_showWord_2 9 rfl rfl)
theorem dX2_showWord_58 : decode cX2_showWord 58 = .ok (.baload, 1) := dk_51 (dk_at dksX2_showWord_2 10 rfl rfl)
theorem dX2_showWord_59 : decode cX2_showWord 59 = .ok (.bastore, 1) := dk_84 (dk_at dksX2_showWord_2 11 rfl rfl)
theorem dX2_showWord_60 : decode cX2_showWord 60 = .ok (.aload_n 0, 1) := dk_42 (dk_at dksX2_showWord_2 12 rfl rfl)
theorem dX2_showWord_61 : decode cX2_showWord 61 = .ok (.dup, 1) := dk_89 (dk_at dksX2_showWord_2 13 rfl rfl)
theorem dX2_showWord_62 : decode cX2_showWord 62 = .ok (.getfield 854, 3) := dk_180 3 86 (dk_at dksX2_showWord_2 14 rfl rfl)
theorem dX2_showWord_65 : decode cX2_showWord 65 = .ok (.iconst 1, 1) := dk_4 (dk_at dksX2_showWord_2 17 rfl rfl)
theorem dX2_showWord_66 : decode cX2_showWord 66 = .ok (.iadd, 1) := dk_96 (dk_at dksX2_showWord_2 18 rfl rfl)
theorem dX2_showWord_67 : decode cX2_showWord 67 = .ok (.putfield 854, 3) := dk_181 3 86 (dk_at dksX2_showWord_2 19 rfl rfl)
theorem dX2_showWord_70 : decode cX2_showWord 70 = .ok (.iinc 2 1, 3) := dk_132 2 1 (dk_at dksX2_showWord_3 0 rfl rfl)
theorem dX2_showWord_73 : decode cX2_showWord 73 = .ok (.goto (-43), 3) := dk_167 255 213 (dk_at dksX2_showWord_3 3 rfl rfl)
theorem dX2_showWord_76 : decode cX2_showWord 76 = .ok (.return_, 1) := dk_177 (dk_at dksX2_showWord_3 6 rfl rfl)
abbrev cX2_showSign : ByteArray := prog_4_method_102_code
def yX2_showSign : MethodName := ⟨RX2, "showSign", "(I)V"⟩
def dkwX2_showSign_2 : List UInt8 := [181, 3, 86, 177]
abbrev dktX2_showSign_2 : List UInt8 := dkwX2_showSign_2 ++ []
def dkwX2_showSign_1 : List UInt8 := [96, 181, 3, 86, 42, 180, 0, 253, 42, 180, 3, 86, 27, 145, 84, 42, 89, 180, 3, 86, 4, 96]
abbrev dktX2_showSign_1 : List UInt8 := dkwX2_showSign_1 ++ dktX2_showSign_2
def dkwX2_showSign_0 : List UInt8 := [42, 180, 3, 86, 158, 0, 24, 42, 180, 0, 253, 42, 180, 3, 86, 16, 32, 84, 42, 89, 180, 3, 86, 4]
abbrev dktX2_showSign_0 : List UInt8 := dkwX2_showSign_0 ++ dktX2_showSign_1
theorem dksX2_showSign_0 : cX2_showSign.data.toList.drop 0 = dktX2_showSign_0 := by decide +kernel
theorem dksX2_showSign_1 : cX2_showSign.data.toList.drop 24 = dktX2_showSign_1 := dk_seg dksX2_showSign_0 24 rfl rfl
theorem dksX2_showSign_2 : cX2_showSign.data.toList.drop 46 = dktX2_showSign_2 := dk_seg dksX2_showSign_1 22 rfl rfl
theorem dX2_showSign_0 : decode cX2_showSign 0 = .ok (.aload_n 0, 1) := dk_42 (dk_at dksX2_showSign_0 0 rfl rfl)
theorem dX2_showSign_1 : decode cX2_showSign 1 = .ok (.getfield 854, 3) := dk_180 3 86 (dk_at dksX2_showSign_0 1 rfl rfl)
theorem dX2_showSign_4 : decode cX2_showSign 4 = .ok (.ifCond .le 24, 3) := dk_158 0 24 (dk_at dksX2_showSign_0 4 rfl rfl)
theorem dX2_showSign_7 : decode cX2_showSign 7 = .ok (.aload_n 0, 1) := dk_42 (dk_at dksX2_showSign_0 7 rfl rfl)
theorem dX2_showSign_8 : decode cX2_showSign 8 = .ok (.getfield 253, 3) := dk_180 0 253 (dk_at dksX2_showSign_0 8 rfl rfl)
theorem dX2_showSign_11 : decode cX2_showSign 11 = .ok (.aload_n 0, 1) := dk_42 (dk_at dksX2_showSign_0 11 rfl rfl)
theorem dX2_showSign_12 : decode cX2_showSign 12 = .ok (.getfield 854, 3) := dk_180 3 86 (dk_at dksX2_showSign_0 12 rfl rfl)
theorem dX2_showSign_15 : decode cX2_showSign 15 = .ok (.bipush 32, 2) := dk_16 32 (dk_at dksX2_showSign_0 15 rfl rfl)
theorem dX2_showSign_17 : decode cX2_showSign 17 = .ok (.bastore, 1) := dk_84 (dk_at dksX2_showSign_0 17 rfl rfl)
theorem dX2_showSign_18 : decode cX2_showSign 18 = .ok (.aload_n 0, 1) := dk_42 (dk_at dksX2_showSign_0 18 rfl rfl)
theorem dX2_showSign_19 : decode cX2_showSign 19 = .ok (.dup, 1) := dk_89 (dk_at dksX2_showSign_0 19 rfl rfl)
theorem dX2_showSign_20 : decode cX2_showSign 20 = .ok (.getfield 854, 3) := dk_180 3 86 (dk_at dksX2_showSign_0 20 rfl rfl)
theorem dX2_showSign_23 : decode cX2_showSign 23 = .ok (.iconst 1, 1) := dk_4 (dk_at dksX2_showSign_0 23 rfl rfl)
theorem dX2_showSign_24 : decode cX2_showSign 24 = .ok (.iadd, 1) := dk_96 (dk_at dksX2_showSign_1 0 rfl rfl)
theorem dX2_showSign_25 : decode cX2_showSign 25 = .ok (.putfield 854, 3) := dk_181 3 86 (dk_at dksX2_showSign_1 1 rfl rfl)
theorem dX2_showSign_28 : decode cX2_showSign 28 = .ok (.aload_n 0, 1) := dk_42 (dk_at dksX2_showSign_1 4 rfl rfl)
theorem dX2_showSign_29 : decode cX2_showSign 29 = .ok (.getfield 253, 3) := dk_180 0 253 (dk_at dksX2_showSign_1 5 rfl rfl)
theorem dX2_showSign_32 : decode cX2_showSign 32 = .ok (.aload_n 0, 1) := dk_42 (dk_at dksX2_showSign_1 8 rfl rfl)
theorem dX2_showSign_33 : decode cX2_showSign 33 = .ok (.getfield 854, 3) := dk_180 3 86 (dk_at dksX2_showSign_1 9 rfl rfl)
theorem dX2_showSign_36 : decode cX2_showSign 36 = .ok (.iload_n 1, 1) := dk_27 (dk_at dksX2_showSign_1 12 rfl rfl)
theorem dX2_showSign_37 : decode cX2_showSign 37 = .ok (.i2b, 1) := dk_145 (dk_at dksX2_showSign_1 13 rfl rfl)
theorem dX2_showSign_38 : decode cX2_showSign 38 = .ok (.bastore, 1) := dk_84 (dk_at dksX2_showSign_1 14 rfl rfl)
theorem dX2_showSign_39 : decode cX2_showSign 39 = .ok (.aload_n 0, 1) := dk_42 (dk_at dksX2_showSign_1 15 rfl rfl)
theorem dX2_showSign_40 : decode cX2_showSign 40 = .ok (.dup, 1) := dk_89 (dk_at dksX2_showSign_1 16 rfl rfl)
theorem dX2_showSign_41 : decode cX2_showSign 41 = .ok (.getfield 854, 3) := dk_180 3 86 (dk_at dksX2_showSign_1 17 rfl rfl)
theorem dX2_showSign_44 : decode cX2_showSign 44 = .ok (.iconst 1, 1) := dk_4 (dk_at dksX2_showSign_1 20 rfl rfl)
theorem dX2_showSign_45 : decode cX2_showSign 45 = .ok (.iadd, 1) := dk_96 (dk_at dksX2_showSign_1 21 rfl rfl)
theorem dX2_showSign_46 : decode cX2_showSign 46 = .ok (.putfield 854, 3) := dk_181 3 86 (dk_at dksX2_showSign_2 0 rfl rfl)
theorem dX2_showSign_49 : decode cX2_showSign 49 = .ok (.return_, 1) := dk_177 (dk_at dksX2_showSign_2 3 rfl rfl)
abbrev cX2_forget : ByteArray := prog_4_method_105_code
def yX2_forget : MethodName := ⟨RX2, "forget", "()I"⟩
def dkwX2_forget_0 : List UInt8 := [42, 3, 181, 0, 1, 42, 180, 3, 1, 60, 42, 3, 181, 3, 1, 27, 172]
abbrev dktX2_forget_0 : List UInt8 := dkwX2_forget_0 ++ []
theorem dksX2_forget_0 : cX2_forget.data.toList.drop 0 = dktX2_forget_0 := by decide +kernel
theorem dX2_forget_0 : decode cX2_forget 0 = .ok (.aload_n 0, 1) := dk_42 (dk_at dksX2_forget_0 0 rfl rfl)
theorem dX2_forget_1 : decode cX2_forget 1 = .ok (.iconst 0, 1) := dk_3 (dk_at dksX2_forget_0 1 rfl rfl)
theorem dX2_forget_2 : decode cX2_forget 2 = .ok (.putfield 1, 3) := dk_181 0 1 (dk_at dksX2_forget_0 2 rfl rfl)
theorem dX2_forget_5 : decode cX2_forget 5 = .ok (.aload_n 0, 1) := dk_42 (dk_at dksX2_forget_0 5 rfl rfl)
theorem dX2_forget_6 : decode cX2_forget 6 = .ok (.getfield 769, 3) := dk_180 3 1 (dk_at dksX2_forget_0 6 rfl rfl)
theorem dX2_forget_9 : decode cX2_forget 9 = .ok (.istore_n 1, 1) := dk_60 (dk_at dksX2_forget_0 9 rfl rfl)
theorem dX2_forget_10 : decode cX2_forget 10 = .ok (.aload_n 0, 1) := dk_42 (dk_at dksX2_forget_0 10 rfl rfl)
theorem dX2_forget_11 : decode cX2_forget 11 = .ok (.iconst 0, 1) := dk_3 (dk_at dksX2_forget_0 11 rfl rfl)
theorem dX2_forget_12 : decode cX2_forget 12 = .ok (.putfield 769, 3) := dk_181 3 1 (dk_at dksX2_forget_0 12 rfl rfl)
theorem dX2_forget_15 : decode cX2_forget 15 = .ok (.iload_n 1, 1) := dk_27 (dk_at dksX2_forget_0 15 rfl rfl)
theorem dX2_forget_16 : decode cX2_forget 16 = .ok (.ireturn, 1) := dk_172 (dk_at dksX2_forget_0 16 rfl rfl)
abbrev cX2_below : ByteArray := prog_4_method_106_code
def yX2_below : MethodName := ⟨RX2, "below", "(II)I"⟩
def dkwX2_below_2 : List UInt8 := [153, 0, 7, 4, 167, 0, 4, 3, 172]
abbrev dktX2_below_2 : List UInt8 := dkwX2_below_2 ++ []
def dkwX2_below_1 : List UInt8 := [42, 180, 2, 9, 4, 100, 133, 184, 1, 147, 154, 0, 7, 2, 167, 0, 17, 42, 27, 28, 182, 2, 102]
abbrev dktX2_below_1 : List UInt8 := dkwX2_below_1 ++ dktX2_below_2
def dkwX2_below_0 : List UInt8 := [42, 3, 181, 0, 1, 27, 133, 9, 42, 180, 2, 9, 4, 100, 133, 184, 1, 147, 153, 0, 19, 28, 133, 9]
abbrev dktX2_below_0 : List UInt8 := dkwX2_below_0 ++ dktX2_below_1
theorem dksX2_below_0 : cX2_below.data.toList.drop 0 = dktX2_below_0 := by decide +kernel
theorem dksX2_below_1 : cX2_below.data.toList.drop 24 = dktX2_below_1 := dk_seg dksX2_below_0 24 rfl rfl
theorem dksX2_below_2 : cX2_below.data.toList.drop 47 = dktX2_below_2 := dk_seg dksX2_below_1 23 rfl rfl
theorem dX2_below_0 : decode cX2_below 0 = .ok (.aload_n 0, 1) := dk_42 (dk_at dksX2_below_0 0 rfl rfl)
theorem dX2_below_1 : decode cX2_below 1 = .ok (.iconst 0, 1) := dk_3 (dk_at dksX2_below_0 1 rfl rfl)
theorem dX2_below_2 : decode cX2_below 2 = .ok (.putfield 1, 3) := dk_181 0 1 (dk_at dksX2_below_0 2 rfl rfl)
theorem dX2_below_5 : decode cX2_below 5 = .ok (.iload_n 1, 1) := dk_27 (dk_at dksX2_below_0 5 rfl rfl)
theorem dX2_below_6 : decode cX2_below 6 = .ok (.i2l, 1) := dk_133 (dk_at dksX2_below_0 6 rfl rfl)
theorem dX2_below_7 : decode cX2_below 7 = .ok (.lconst 0, 1) := dk_9 (dk_at dksX2_below_0 7 rfl rfl)
theorem dX2_below_8 : decode cX2_below 8 = .ok (.aload_n 0, 1) := dk_42 (dk_at dksX2_below_0 8 rfl rfl)
theorem dX2_below_9 : decode cX2_below 9 = .ok (.getfield 521, 3) := dk_180 2 9 (dk_at dksX2_below_0 9 rfl rfl)
theorem dX2_below_12 : decode cX2_below 12 = .ok (.iconst 1, 1) := dk_4 (dk_at dksX2_below_0 12 rfl rfl)
theorem dX2_below_13 : decode cX2_below 13 = .ok (.isub, 1) := dk_100 (dk_at dksX2_below_0 13 rfl rfl)
theorem dX2_below_14 : decode cX2_below 14 = .ok (.i2l, 1) := dk_133 (dk_at dksX2_below_0 14 rfl rfl)
theorem dX2_below_15 : decode cX2_below 15 = .ok (.invokestatic 403, 3) := dk_184 1 147 (dk_at dksX2_below_0 15 rfl rfl)
theorem dX2_below_18 : decode cX2_below 18 = .ok (.ifCond .eq 19, 3) := dk_153 0 19 (dk_at dksX2_below_0 18 rfl rfl)
theorem dX2_below_21 : decode cX2_below 21 = .ok (.iload_n 2, 1) := dk_28 (dk_at dksX2_below_0 21 rfl rfl)
theorem dX2_below_22 : decode cX2_below 22 = .ok (.i2l, 1) := dk_133 (dk_at dksX2_below_0 22 rfl rfl)
theorem dX2_below_23 : decode cX2_below 23 = .ok (.lconst 0, 1) := dk_9 (dk_at dksX2_below_0 23 rfl rfl)
theorem dX2_below_24 : decode cX2_below 24 = .ok (.aload_n 0, 1) := dk_42 (dk_at dksX2_below_1 0 rfl rfl)
theorem dX2_below_25 : decode cX2_below 25 = .ok (.getfield 521, 3) := dk_180 2 9 (dk_at dksX2_below_1 1 rfl rfl)
theorem dX2_below_28 : decode cX2_below 28 = .ok (.iconst 1, 1) := dk_4 (dk_at dksX2_below_1 4 rfl rfl)
theorem dX2_below_29 : decode cX2_below 29 = .ok (.isub, 1) := dk_100 (dk_at dksX2_below_1 5 rfl rfl)
theorem dX2_below_30 : decode cX2_below 30 = .ok (.i2l, 1) := dk_133 (dk_at dksX2_below_1 6 rfl rfl)
theorem dX2_below_31 : decode cX2_below 31 = .ok (.invokestatic 403, 3) := dk_184 1 147 (dk_at dksX2_below_1 7 rfl rfl)
theorem dX2_below_34 : decode cX2_below 34 = .ok (.ifCond .ne 7, 3) := dk_154 0 7 (dk_at dksX2_below_1 10 rfl rfl)
theorem dX2_below_37 : decode cX2_below 37 = .ok (.iconst (-1), 1) := dk_2 (dk_at dksX2_below_1 13 rfl rfl)
theorem dX2_below_38 : decode cX2_below 38 = .ok (.goto 17, 3) := dk_167 0 17 (dk_at dksX2_below_1 14 rfl rfl)
theorem dX2_below_41 : decode cX2_below 41 = .ok (.aload_n 0, 1) := dk_42 (dk_at dksX2_below_1 17 rfl rfl)
theorem dX2_below_42 : decode cX2_below 42 = .ok (.iload_n 1, 1) := dk_27 (dk_at dksX2_below_1 18 rfl rfl)
theorem dX2_below_43 : decode cX2_below 43 = .ok (.iload_n 2, 1) := dk_28 (dk_at dksX2_below_1 19 rfl rfl)
theorem dX2_below_44 : decode cX2_below 44 = .ok (.invokevirtual 614, 3) := dk_182 2 102 (dk_at dksX2_below_1 20 rfl rfl)
theorem dX2_below_47 : decode cX2_below 47 = .ok (.ifCond .eq 7, 3) := dk_153 0 7 (dk_at dksX2_below_2 0 rfl rfl)
theorem dX2_below_50 : decode cX2_below 50 = .ok (.iconst 1, 1) := dk_4 (dk_at dksX2_below_2 3 rfl rfl)
theorem dX2_below_51 : decode cX2_below 51 = .ok (.goto 4, 3) := dk_167 0 4 (dk_at dksX2_below_2 4 rfl rfl)
theorem dX2_below_54 : decode cX2_below 54 = .ok (.iconst 0, 1) := dk_3 (dk_at dksX2_below_2 7 rfl rfl)
theorem dX2_below_55 : decode cX2_below 55 = .ok (.ireturn, 1) := dk_172 (dk_at dksX2_below_2 8 rfl rfl)
abbrev cX2_kind : ByteArray := prog_4_method_107_code
def yX2_kind : MethodName := ⟨RX2, "kind", "(I)I"⟩
def dkwX2_kind_1 : List UInt8 := [180, 0, 132, 27, 46, 167, 0, 4, 2, 172]
abbrev dktX2_kind_1 : List UInt8 := dkwX2_kind_1 ++ []
def dkwX2_kind_0 : List UInt8 := [42, 3, 181, 0, 1, 27, 133, 9, 42, 180, 2, 9, 4, 100, 133, 184, 1, 147, 153, 0, 12, 42]
abbrev dktX2_kind_0 : List UInt8 := dkwX2_kind_0 ++ dktX2_kind_1
theorem dksX2_kind_0 : cX2_kind.data.toList.drop 0 = dktX2_kind_0 := by decide +kernel
theorem dksX2_kind_1 : cX2_kind.data.toList.drop 22 = dktX2_kind_1 := dk_seg dksX2_kind_0 22 rfl rfl
theorem dX2_kind_0 : decode cX2_kind 0 = .ok (.aload_n 0, 1) := dk_42 (dk_at dksX2_kind_0 0 rfl rfl)
theorem dX2_kind_1 : decode cX2_kind 1 = .ok (.iconst 0, 1) := dk_3 (dk_at dksX2_kind_0 1 rfl rfl)
theorem dX2_kind_2 : decode cX2_kind 2 = .ok (.putfield 1, 3) := dk_181 0 1 (dk_at dksX2_kind_0 2 rfl rfl)
theorem dX2_kind_5 : decode cX2_kind 5 = .ok (.iload_n 1, 1) := dk_27 (dk_at dksX2_kind_0 5 rfl rfl)
theorem dX2_kind_6 : decode cX2_kind 6 = .ok (.i2l, 1) := dk_133 (dk_at dksX2_kind_0 6 rfl rfl)
theorem dX2_kind_7 : decode cX2_kind 7 = .ok (.lconst 0, 1) := dk_9 (dk_at dksX2_kind_0 7 rfl rfl)
theorem dX2_kind_8 : decode cX2_kind 8 = .ok (.aload_n 0, 1) := dk_42 (dk_at dksX2_kind_0 8 rfl rfl)
theorem dX2_kind_9 : decode cX2_kind 9 = .ok (.getfield 521, 3) := dk_180 2 9 (dk_at dksX2_kind_0 9 rfl rfl)
theorem dX2_kind_12 : decode cX2_kind 12 = .ok (.iconst 1, 1) := dk_4 (dk_at dksX2_kind_0 12 rfl rfl)
theorem dX2_kind_13 : decode cX2_kind 13 = .ok (.isub, 1) := dk_100 (dk_at dksX2_kind_0 13 rfl rfl)
theorem dX2_kind_14 : decode cX2_kind 14 = .ok (.i2l, 1) := dk_133 (dk_at dksX2_kind_0 14 rfl rfl)
theorem dX2_kind_15 : decode cX2_kind 15 = .ok (.invokestatic 403, 3) := dk_184 1 147 (dk_at dksX2_kind_0 15 rfl rfl)
theorem dX2_kind_18 : decode cX2_kind 18 = .ok (.ifCond .eq 12, 3) := dk_153 0 12 (dk_at dksX2_kind_0 18 rfl rfl)
theorem dX2_kind_21 : decode cX2_kind 21 = .ok (.aload_n 0, 1) := dk_42 (dk_at dksX2_kind_0 21 rfl rfl)
theorem dX2_kind_22 : decode cX2_kind 22 = .ok (.getfield 132, 3) := dk_180 0 132 (dk_at dksX2_kind_1 0 rfl rfl)
theorem dX2_kind_25 : decode cX2_kind 25 = .ok (.iload_n 1, 1) := dk_27 (dk_at dksX2_kind_1 3 rfl rfl)
theorem dX2_kind_26 : decode cX2_kind 26 = .ok (.iaload, 1) := dk_46 (dk_at dksX2_kind_1 4 rfl rfl)
theorem dX2_kind_27 : decode cX2_kind 27 = .ok (.goto 4, 3) := dk_167 0 4 (dk_at dksX2_kind_1 5 rfl rfl)
theorem dX2_kind_30 : decode cX2_kind 30 = .ok (.iconst (-1), 1) := dk_2 (dk_at dksX2_kind_1 8 rfl rfl)
theorem dX2_kind_31 : decode cX2_kind 31 = .ok (.ireturn, 1) := dk_172 (dk_at dksX2_kind_1 9 rfl rfl)
abbrev cX2_operator : ByteArray := prog_4_method_108_code
def yX2_operator : MethodName := ⟨RX2, "operator", "(II)I"⟩
def dkwX2_operator_4 : List UInt8 := [172, 42, 180, 0, 174, 27, 46, 172, 42, 180, 0, 177, 27, 46, 172, 42, 180, 0, 162, 27, 46, 172, 2, 172]
abbrev dktX2_operator_4 : List UInt8 := dkwX2_operator_4 ++ []
def dkwX2_operator_3 : List UInt8 := [51, 153, 0, 7, 4, 167, 0, 4, 3, 172, 42, 180, 0, 171, 27, 51, 153, 0, 7, 4, 167, 0, 4, 3]
abbrev dktX2_operator_3 : List UInt8 := dkwX2_operator_3 ++ dktX2_operator_4
def dkwX2_operator_2 : List UInt8 := [42, 180, 0, 147, 42, 180, 0, 159, 27, 46, 46, 172, 42, 180, 0, 165, 27, 46, 172, 42, 180, 0, 168, 27]
abbrev dktX2_operator_2 : List UInt8 := dkwX2_operator_2 ++ dktX2_operator_3
def dkwX2_operator_1 : List UInt8 := [170, 0, 0, 0, 0, 0, 0, 114, 0, 0, 0, 0, 0, 0, 0, 6, 0, 0, 0, 44, 0, 0, 0, 56, 0, 0, 0, 63, 0, 0, 0, 78, 0, 0, 0, 93, 0, 0, 0, 100, 0, 0, 0, 107]
abbrev dktX2_operator_1 : List UInt8 := dkwX2_operator_1 ++ dktX2_operator_2
def dkwX2_operator_0 : List UInt8 := [42, 3, 181, 0, 1, 27, 133, 9, 42, 180, 2, 131, 4, 100, 133, 184, 1, 147, 154, 0, 5, 2, 172, 28]
abbrev dktX2_operator_0 : List UInt8 := dkwX2_operator_0 ++ dktX2_operator_1
theorem dksX2_operator_0 : cX2_operator.data.toList.drop 0 = dktX2_operator_0 := by decide +kernel
theorem dksX2_operator_1 : cX2_operator.data.toList.drop 24 = dktX2_operator_1 := dk_seg dksX2_operator_0 24 rfl rfl
theorem dksX2_operator_2 : cX2_operator.data.toList.drop 68 = dktX2_operator_2 := dk_seg dksX2_operator_1 44 rfl rfl
theorem dksX2_operator_3 : cX2_operator.data.toList.drop 92 = dktX2_operator_3 := dk_seg dksX2_operator_2 24 rfl rfl
theorem dksX2_operator_4 : cX2_operator.data.toList.drop 116 = dktX2_operator_4 := dk_seg dksX2_operator_3 24 rfl rfl
theorem dX2_operator_0 : decode cX2_operator 0 = .ok (.aload_n 0, 1) := dk_42 (dk_at dksX2_operator_0 0 rfl rfl)
theorem dX2_operator_1 : decode cX2_operator 1 = .ok (.iconst 0, 1) := dk_3 (dk_at dksX2_operator_0 1 rfl rfl)
theorem dX2_operator_2 : decode cX2_operator 2 = .ok (.putfield 1, 3) := dk_181 0 1 (dk_at dksX2_operator_0 2 rfl rfl)
theorem dX2_operator_5 : decode cX2_operator 5 = .ok (.iload_n 1, 1) := dk_27 (dk_at dksX2_operator_0 5 rfl rfl)
theorem dX2_operator_6 : decode cX2_operator 6 = .ok (.i2l, 1) := dk_133 (dk_at dksX2_operator_0 6 rfl rfl)
theorem dX2_operator_7 : decode cX2_operator 7 = .ok (.lconst 0, 1) := dk_9 (dk_at dksX2_operator_0 7 rfl rfl)
theorem dX2_operator_8 : decode cX2_operator 8 = .ok (.aload_n 0, 1) := dk_42 (dk_at dksX2_operator_0 8 rfl rfl)
theorem dX2_operator_9 : decode cX2_operator 9 = .ok (.getfield 643, 3) := dk_180 2 131 (dk_at dksX2_operator_0 9 rfl rfl)
theorem dX2_operator_12 : decode cX2_operator 12 = .ok (.iconst 1, 1) := dk_4 (dk_at dksX2_operator_0 12 rfl rfl)
theorem dX2_operator_13 : decode cX2_operator 13 = .ok (.isub, 1) := dk_100 (dk_at dksX2_operator_0 13 rfl rfl)
theorem dX2_operator_14 : decode cX2_operator 14 = .ok (.i2l, 1) := dk_133 (dk_at dksX2_operator_0 14 rfl rfl)
theorem dX2_operator_15 : decode cX2_operator 15 = .ok (.invokestatic 403, 3) := dk_184 1 147 (dk_at dksX2_operator_0 15 rfl rfl)
theorem dX2_operator_18 : decode cX2_operator 18 = .ok (.ifCond .ne 5, 3) := dk_154 0 5 (dk_at dksX2_operator_0 18 rfl rfl)
theorem dX2_operator_21 : decode cX2_operator 21 = .ok (.iconst (-1), 1) := dk_2 (dk_at dksX2_operator_0 21 rfl rfl)
theorem dX2_operator_22 : decode cX2_operator 22 = .ok (.ireturn, 1) := dk_172 (dk_at dksX2_operator_0 22 rfl rfl)
theorem dX2_operator_23 : decode cX2_operator 23 = .ok (.iload_n 2, 1) := dk_28 (dk_at dksX2_operator_0 23 rfl rfl)
theorem dX2_operator_24 : decode cX2_operator 24 = .ok (.tableswitch 114 0 6 #[44, 56, 63, 78, 93, 100, 107], 44) := by decide +kernel
theorem dX2_operator_68 : decode cX2_operator 68 = .ok (.aload_n 0, 1) := dk_42 (dk_at dksX2_operator_2 0 rfl rfl)
theorem dX2_operator_69 : decode cX2_operator 69 = .ok (.getfield 147, 3) := dk_180 0 147 (dk_at dksX2_operator_2 1 rfl rfl)
theorem dX2_operator_72 : decode cX2_operator 72 = .ok (.aload_n 0, 1) := dk_42 (dk_at dksX2_operator_2 4 rfl rfl)
theorem dX2_operator_73 : decode cX2_operator 73 = .ok (.getfield 159, 3) := dk_180 0 159 (dk_at dksX2_operator_2 5 rfl rfl)
theorem dX2_operator_76 : decode cX2_operator 76 = .ok (.iload_n 1, 1) := dk_27 (dk_at dksX2_operator_2 8 rfl rfl)
theorem dX2_operator_77 : decode cX2_operator 77 = .ok (.iaload, 1) := dk_46 (dk_at dksX2_operator_2 9 rfl rfl)
theorem dX2_operator_78 : decode cX2_operator 78 = .ok (.iaload, 1) := dk_46 (dk_at dksX2_operator_2 10 rfl rfl)
theorem dX2_operator_79 : decode cX2_operator 79 = .ok (.ireturn, 1) := dk_172 (dk_at dksX2_operator_2 11 rfl rfl)
theorem dX2_operator_80 : decode cX2_operator 80 = .ok (.aload_n 0, 1) := dk_42 (dk_at dksX2_operator_2 12 rfl rfl)
theorem dX2_operator_81 : decode cX2_operator 81 = .ok (.getfield 165, 3) := dk_180 0 165 (dk_at dksX2_operator_2 13 rfl rfl)
theorem dX2_operator_84 : decode cX2_operator 84 = .ok (.iload_n 1, 1) := dk_27 (dk_at dksX2_operator_2 16 rfl rfl)
theorem dX2_operator_85 : decode cX2_operator 85 = .ok (.iaload, 1) := dk_46 (dk_at dksX2_operator_2 17 rfl rfl)
theorem dX2_operator_86 : decode cX2_operator 86 = .ok (.ireturn, 1) := dk_172 (dk_at dksX2_operator_2 18 rfl rfl)
theorem dX2_operator_87 : decode cX2_operator 87 = .ok (.aload_n 0, 1) := dk_42 (dk_at dksX2_operator_2 19 rfl rfl)
theorem dX2_operator_88 : decode cX2_operator 88 = .ok (.getfield 168, 3) := dk_180 0 168 (dk_at dksX2_operator_2 20 rfl rfl)
theorem dX2_operator_91 : decode cX2_operator 91 = .ok (.iload_n 1, 1) := dk_27 (dk_at dksX2_operator_2 23 rfl rfl)
theorem dX2_operator_92 : decode cX2_operator 92 = .ok (.baload, 1) := dk_51 (dk_at dksX2_operator_3 0 rfl rfl)
theorem dX2_operator_93 : decode cX2_operator 93 = .ok (.ifCond .eq 7, 3) := dk_153 0 7 (dk_at dksX2_operator_3 1 rfl rfl)
theorem dX2_operator_96 : decode cX2_operator 96 = .ok (.iconst 1, 1) := dk_4 (dk_at dksX2_operator_3 4 rfl rfl)
theorem dX2_operator_97 : decode cX2_operator 97 = .ok (.goto 4, 3) := dk_167 0 4 (dk_at dksX2_operator_3 5 rfl rfl)
theorem dX2_operator_100 : decode cX2_operator 100 = .ok (.iconst 0, 1) := dk_3 (dk_at dksX2_operator_3 8 rfl rfl)
theorem dX2_operator_101 : decode cX2_operator 101 = .ok (.ireturn, 1) := dk_172 (dk_at dksX2_operator_3 9 rfl rfl)
theorem dX2_operator_102 : decode cX2_operator 102 = .ok (.aload_n 0, 1) := dk_42 (dk_at dksX2_operator_3 10 rfl rfl)
theorem dX2_operator_103 : decode cX2_operator 103 = .ok (.getfield 171, 3) := dk_180 0 171 (dk_at dksX2_operator_3 11 rfl rfl)
theorem dX2_operator_106 : decode cX2_operator 106 = .ok (.iload_n 1, 1) := dk_27 (dk_at dksX2_operator_3 14 rfl rfl)
theorem dX2_operator_107 : decode cX2_operator 107 = .ok (.baload, 1) := dk_51 (dk_at dksX2_operator_3 15 rfl rfl)
theorem dX2_operator_108 : decode cX2_operator 108 = .ok (.ifCond .eq 7, 3) := dk_153 0 7 (dk_at dksX2_operator_3 16 rfl rfl)
theorem dX2_operator_111 : decode cX2_operator 111 = .ok (.iconst 1, 1) := dk_4 (dk_at dksX2_operator_3 19 rfl rfl)
theorem dX2_operator_112 : decode cX2_operator 112 = .ok (.goto 4, 3) := dk_167 0 4 (dk_at dksX2_operator_3 20 rfl rfl)
theorem dX2_operator_115 : decode cX2_operator 115 = .ok (.iconst 0, 1) := dk_3 (dk_at dksX2_operator_3 23 rfl rfl)
theorem dX2_operator_116 : decode cX2_operator 116 = .ok (.ireturn, 1) := dk_172 (dk_at dksX2_operator_4 0 rfl rfl)
theorem dX2_operator_117 : decode cX2_operator 117 = .ok (.aload_n 0, 1) := dk_42 (dk_at dksX2_operator_4 1 rfl rfl)
theorem dX2_operator_118 : decode cX2_operator 118 = .ok (.getfield 174, 3) := dk_180 0 174 (dk_at dksX2_operator_4 2 rfl rfl)
theorem dX2_operator_121 : decode cX2_operator 121 = .ok (.iload_n 1, 1) := dk_27 (dk_at dksX2_operator_4 5 rfl rfl)
theorem dX2_operator_122 : decode cX2_operator 122 = .ok (.iaload, 1) := dk_46 (dk_at dksX2_operator_4 6 rfl rfl)
theorem dX2_operator_123 : decode cX2_operator 123 = .ok (.ireturn, 1) := dk_172 (dk_at dksX2_operator_4 7 rfl rfl)
theorem dX2_operator_124 : decode cX2_operator 124 = .ok (.aload_n 0, 1) := dk_42 (dk_at dksX2_operator_4 8 rfl rfl)
theorem dX2_operator_125 : decode cX2_operator 125 = .ok (.getfield 177, 3) := dk_180 0 177 (dk_at dksX2_operator_4 9 rfl rfl)
theorem dX2_operator_128 : decode cX2_operator 128 = .ok (.iload_n 1, 1) := dk_27 (dk_at dksX2_operator_4 12 rfl rfl)
theorem dX2_operator_129 : decode cX2_operator 129 = .ok (.iaload, 1) := dk_46 (dk_at dksX2_operator_4 13 rfl rfl)
theorem dX2_operator_130 : decode cX2_operator 130 = .ok (.ireturn, 1) := dk_172 (dk_at dksX2_operator_4 14 rfl rfl)
theorem dX2_operator_131 : decode cX2_operator 131 = .ok (.aload_n 0, 1) := dk_42 (dk_at dksX2_operator_4 15 rfl rfl)
theorem dX2_operator_132 : decode cX2_operator 132 = .ok (.getfield 162, 3) := dk_180 0 162 (dk_at dksX2_operator_4 16 rfl rfl)
theorem dX2_operator_135 : decode cX2_operator 135 = .ok (.iload_n 1, 1) := dk_27 (dk_at dksX2_operator_4 19 rfl rfl)
theorem dX2_operator_136 : decode cX2_operator 136 = .ok (.iaload, 1) := dk_46 (dk_at dksX2_operator_4 20 rfl rfl)
theorem dX2_operator_137 : decode cX2_operator 137 = .ok (.ireturn, 1) := dk_172 (dk_at dksX2_operator_4 21 rfl rfl)
theorem dX2_operator_138 : decode cX2_operator 138 = .ok (.iconst (-1), 1) := dk_2 (dk_at dksX2_operator_4 22 rfl rfl)
theorem dX2_operator_139 : decode cX2_operator 139 = .ok (.ireturn, 1) := dk_172 (dk_at dksX2_operator_4 23 rfl rfl)
abbrev cX2_match : ByteArray := prog_4_method_156_code
def yX2_match : MethodName := ⟨RX2, "match", "(IIZ)I"⟩
def dkwX2_match_6 : List UInt8 := [4, 181, 3, 7, 21, 4, 172, 58, 4, 42, 182, 4, 49, 172]
abbrev dktX2_match_6 : List UInt8 := dkwX2_match_6 ++ []
def dkwX2_match_5 : List UInt8 := [167, 0, 14, 42, 180, 0, 181, 42, 180, 0, 250, 27, 46, 46, 181, 4, 46, 42, 21, 4, 181, 3, 4, 42]
abbrev dktX2_match_5 : List UInt8 := dkwX2_match_5 ++ dktX2_match_6
def dkwX2_match_4 : List UInt8 := [46, 79, 132, 5, 1, 167, 255, 229, 42, 42, 42, 180, 0, 250, 27, 46, 182, 2, 185, 153, 0, 7, 2]
abbrev dktX2_match_4 : List UInt8 := dkwX2_match_4 ++ dktX2_match_5
def dkwX2_match_3 : List UInt8 := [54, 5, 21, 5, 16, 64, 21, 4, 104, 162, 0, 23, 42, 180, 1, 52, 21, 5, 42, 180, 1, 22, 21, 5]
abbrev dktX2_match_3 : List UInt8 := dkwX2_match_3 ++ dktX2_match_4
def dkwX2_match_2 : List UInt8 := [182, 4, 43, 42, 42, 180, 0, 250, 27, 46, 42, 180, 0, 250, 28, 46, 29, 2, 182, 3, 223, 54, 4, 3]
abbrev dktX2_match_2 : List UInt8 := dkwX2_match_2 ++ dktX2_match_3
def dkwX2_match_1 : List UInt8 := [180, 0, 250, 27, 46, 182, 3, 38, 42, 42, 180, 0, 250, 28, 46, 182, 3, 38, 159, 0, 5, 2, 172, 42]
abbrev dktX2_match_1 : List UInt8 := dkwX2_match_1 ++ dktX2_match_2
def dkwX2_match_0 : List UInt8 := [42, 3, 181, 0, 1, 42, 27, 182, 3, 83, 154, 0, 34, 42, 28, 182, 3, 83, 154, 0, 26, 42, 42]
abbrev dktX2_match_0 : List UInt8 := dkwX2_match_0 ++ dktX2_match_1
theorem dksX2_match_0 : cX2_match.data.toList.drop 0 = dktX2_match_0 := by decide +kernel
theorem dksX2_match_1 : cX2_match.data.toList.drop 23 = dktX2_match_1 := dk_seg dksX2_match_0 23 rfl rfl
theorem dksX2_match_2 : cX2_match.data.toList.drop 47 = dktX2_match_2 := dk_seg dksX2_match_1 24 rfl rfl
theorem dksX2_match_3 : cX2_match.data.toList.drop 71 = dktX2_match_3 := dk_seg dksX2_match_2 24 rfl rfl
theorem dksX2_match_4 : cX2_match.data.toList.drop 95 = dktX2_match_4 := dk_seg dksX2_match_3 24 rfl rfl
theorem dksX2_match_5 : cX2_match.data.toList.drop 118 = dktX2_match_5 := dk_seg dksX2_match_4 23 rfl rfl
theorem dksX2_match_6 : cX2_match.data.toList.drop 142 = dktX2_match_6 := dk_seg dksX2_match_5 24 rfl rfl
theorem dX2_match_0 : decode cX2_match 0 = .ok (.aload_n 0, 1) := dk_42 (dk_at dksX2_match_0 0 rfl rfl)
theorem dX2_match_1 : decode cX2_match 1 = .ok (.iconst 0, 1) := dk_3 (dk_at dksX2_match_0 1 rfl rfl)
theorem dX2_match_2 : decode cX2_match 2 = .ok (.putfield 1, 3) := dk_181 0 1 (dk_at dksX2_match_0 2 rfl rfl)
theorem dX2_match_5 : decode cX2_match 5 = .ok (.aload_n 0, 1) := dk_42 (dk_at dksX2_match_0 5 rfl rfl)
theorem dX2_match_6 : decode cX2_match 6 = .ok (.iload_n 1, 1) := dk_27 (dk_at dksX2_match_0 6 rfl rfl)
theorem dX2_match_7 : decode cX2_match 7 = .ok (.invokevirtual 851, 3) := dk_182 3 83 (dk_at dksX2_match_0 7 rfl rfl)
theorem dX2_match_10 : decode cX2_match 10 = .ok (.ifCond .ne 34, 3) := dk_154 0 34 (dk_at dksX2_match_0 10 rfl rfl)
theorem dX2_match_13 : decode cX2_match 13 = .ok (.aload_n 0, 1) := dk_42 (dk_at dksX2_match_0 13 rfl rfl)
theorem dX2_match_14 : decode cX2_match 14 = .ok (.iload_n 2, 1) := dk_28 (dk_at dksX2_match_0 14 rfl rfl)
theorem dX2_match_15 : decode cX2_match 15 = .ok (.invokevirtual 851, 3) := dk_182 3 83 (dk_at dksX2_match_0 15 rfl rfl)
theorem dX2_match_18 : decode cX2_match 18 = .ok (.ifCond .ne 26, 3) := dk_154 0 26 (dk_at dksX2_match_0 18 rfl rfl)
theorem dX2_match_21 : decode cX2_match 21 = .ok (.aload_n 0, 1) := dk_42 (dk_at dksX2_match_0 21 rfl rfl)
theorem dX2_match_22 : decode cX2_match 22 = .ok (.aload_n 0, 1) := dk_42 (dk_at dksX2_match_0 22 rfl rfl)
theorem dX2_match_23 : decode cX2_match 23 = .ok (.getfield 250, 3) := dk_180 0 250 (dk_at dksX2_match_1 0 rfl rfl)
theorem dX2_match_26 : decode cX2_match 26 = .ok (.iload_n 1, 1) := dk_27 (dk_at dksX2_match_1 3 rfl rfl)
theorem dX2_match_27 : decode cX2_match 27 = .ok (.iaload, 1) := dk_46 (dk_at dksX2_match_1 4 rfl rfl)
theorem dX2_match_28 : decode cX2_match 28 = .ok (.invokevirtual 806, 3) := dk_182 3 38 (dk_at dksX2_match_1 5 rfl rfl)
theorem dX2_match_31 : decode cX2_match 31 = .ok (.aload_n 0, 1) := dk_42 (dk_at dksX2_match_1 8 rfl rfl)
theorem dX2_match_32 : decode cX2_match 32 = .ok (.aload_n 0, 1) := dk_42 (dk_at dksX2_match_1 9 rfl rfl)
theorem dX2_match_33 : decode cX2_match 33 = .ok (.getfield 250, 3) := dk_180 0 250 (dk_at dksX2_match_1 10 rfl rfl)
theorem dX2_match_36 : decode cX2_match 36 = .ok (.iload_n 2, 1) := dk_28 (dk_at dksX2_match_1 13 rfl rfl)
theorem dX2_match_37 : decode cX2_match 37 = .ok (.iaload, 1) := dk_46 (dk_at dksX2_match_1 14 rfl rfl)
theorem dX2_match_38 : decode cX2_match 38 = .ok (.invokevirtual 806, 3) := dk_182 3 38 (dk_at dksX2_match_1 15 rfl rfl)
theorem dX2_match_41 : decode cX2_match 41 = .ok (.if_icmp .eq 5, 3) := dk_159 0 5 (dk_at dksX2_match_1 18 rfl rfl)
theorem dX2_match_44 : decode cX2_match 44 = .ok (.iconst (-1), 1) := dk_2 (dk_at dksX2_match_1 21 rfl rfl)
theorem dX2_match_45 : decode cX2_match 45 = .ok (.ireturn, 1) := dk_172 (dk_at dksX2_match_1 22 rfl rfl)
theorem dX2_match_46 : decode cX2_match 46 = .ok (.aload_n 0, 1) := dk_42 (dk_at dksX2_match_1 23 rfl rfl)
theorem dX2_match_47 : decode cX2_match 47 = .ok (.invokevirtual 1067, 3) := dk_182 4 43 (dk_at dksX2_match_2 0 rfl rfl)
theorem dX2_match_50 : decode cX2_match 50 = .ok (.aload_n 0, 1) := dk_42 (dk_at dksX2_match_2 3 rfl rfl)
theorem dX2_match_51 : decode cX2_match 51 = .ok (.aload_n 0, 1) := dk_42 (dk_at dksX2_match_2 4 rfl rfl)
theorem dX2_match_52 : decode cX2_match 52 = .ok (.getfield 250, 3) := dk_180 0 250 (dk_at dksX2_match_2 5 rfl rfl)
theorem dX2_match_55 : decode cX2_match 55 = .ok (.iload_n 1, 1) := dk_27 (dk_at dksX2_match_2 8 rfl rfl)
theorem dX2_match_56 : decode cX2_match 56 = .ok (.iaload, 1) := dk_46 (dk_at dksX2_match_2 9 rfl rfl)
theorem dX2_match_57 : decode cX2_match 57 = .ok (.aload_n 0, 1) := dk_42 (dk_at dksX2_match_2 10 rfl rfl)
theorem dX2_match_58 : decode cX2_match 58 = .ok (.getfield 250, 3) := dk_180 0 250 (dk_at dksX2_match_2 11 rfl rfl)
theorem dX2_match_61 : decode cX2_match 61 = .ok (.iload_n 2, 1) := dk_28 (dk_at dksX2_match_2 14 rfl rfl)
theorem dX2_match_62 : decode cX2_match 62 = .ok (.iaload, 1) := dk_46 (dk_at dksX2_match_2 15 rfl rfl)
theorem dX2_match_63 : decode cX2_match 63 = .ok (.iload_n 3, 1) := dk_29 (dk_at dksX2_match_2 16 rfl rfl)
theorem dX2_match_64 : decode cX2_match 64 = .ok (.iconst (-1), 1) := dk_2 (dk_at dksX2_match_2 17 rfl rfl)
theorem dX2_match_65 : decode cX2_match 65 = .ok (.invokevirtual 991, 3) := dk_182 3 223 (dk_at dksX2_match_2 18 rfl rfl)
theorem dX2_match_68 : decode cX2_match 68 = .ok (.istore 4, 2) := dk_54 4 (dk_at dksX2_match_2 21 rfl rfl)
theorem dX2_match_70 : decode cX2_match 70 = .ok (.iconst 0, 1) := dk_3 (dk_at dksX2_match_2 23 rfl rfl)
theorem dX2_match_71 : decode cX2_match 71 = .ok (.istore 5, 2) := dk_54 5 (dk_at dksX2_match_3 0 rfl rfl)
theorem dX2_match_73 : decode cX2_match 73 = .ok (.iload 5, 2) := dk_21 5 (dk_at dksX2_match_3 2 rfl rfl)
theorem dX2_match_75 : decode cX2_match 75 = .ok (.bipush 64, 2) := dk_16 64 (dk_at dksX2_match_3 4 rfl rfl)
theorem dX2_match_77 : decode cX2_match 77 = .ok (.iload 4, 2) := dk_21 4 (dk_at dksX2_match_3 6 rfl rfl)
theorem dX2_match_79 : decode cX2_match 79 = .ok (.imul, 1) := dk_104 (dk_at dksX2_match_3 8 rfl rfl)
theorem dX2_match_80 : decode cX2_match 80 = .ok (.if_icmp .ge 23, 3) := dk_162 0 23 (dk_at dksX2_match_3 9 rfl rfl)
theorem dX2_match_83 : decode cX2_match 83 = .ok (.aload_n 0, 1) := dk_42 (dk_at dksX2_match_3 12 rfl rfl)
theorem dX2_match_84 : decode cX2_match 84 = .ok (.getfield 308, 3) := dk_180 1 52 (dk_at dksX2_match_3 13 rfl rfl)
theorem dX2_match_87 : decode cX2_match 87 = .ok (.iload 5, 2) := dk_21 5 (dk_at dksX2_match_3 16 rfl rfl)
theorem dX2_match_89 : decode cX2_match 89 = .ok (.aload_n 0, 1) := dk_42 (dk_at dksX2_match_3 18 rfl rfl)
theorem dX2_match_90 : decode cX2_match 90 = .ok (.getfield 278, 3) := dk_180 1 22 (dk_at dksX2_match_3 19 rfl rfl)
theorem dX2_match_93 : decode cX2_match 93 = .ok (.iload 5, 2) := dk_21 5 (dk_at dksX2_match_3 22 rfl rfl)
theorem dX2_match_95 : decode cX2_match 95 = .ok (.iaload, 1) := dk_46 (dk_at dksX2_match_4 0 rfl rfl)
theorem dX2_match_96 : decode cX2_match 96 = .ok (.iastore, 1) := dk_79 (dk_at dksX2_match_4 1 rfl rfl)
theorem dX2_match_97 : decode cX2_match 97 = .ok (.iinc 5 1, 3) := dk_132 5 1 (dk_at dksX2_match_4 2 rfl rfl)
theorem dX2_match_100 : decode cX2_match 100 = .ok (.goto (-27), 3) := dk_167 255 229 (dk_at dksX2_match_4 5 rfl rfl)
theorem dX2_match_103 : decode cX2_match 103 = .ok (.aload_n 0, 1) := dk_42 (dk_at dksX2_match_4 8 rfl rfl)
theorem dX2_match_104 : decode cX2_match 104 = .ok (.aload_n 0, 1) := dk_42 (dk_at dksX2_match_4 9 rfl rfl)
theorem dX2_match_105 : decode cX2_match 105 = .ok (.aload_n 0, 1) := dk_42 (dk_at dksX2_match_4 10 rfl rfl)
theorem dX2_match_106 : decode cX2_match 106 = .ok (.getfield 250, 3) := dk_180 0 250 (dk_at dksX2_match_4 11 rfl rfl)
theorem dX2_match_109 : decode cX2_match 109 = .ok (.iload_n 1, 1) := dk_27 (dk_at dksX2_match_4 14 rfl rfl)
theorem dX2_match_110 : decode cX2_match 110 = .ok (.iaload, 1) := dk_46 (dk_at dksX2_match_4 15 rfl rfl)
theorem dX2_match_111 : decode cX2_match 111 = .ok (.invokevirtual 697, 3) := dk_182 2 185 (dk_at dksX2_match_4 16 rfl rfl)
theorem dX2_match_114 : decode cX2_match 114 = .ok (.ifCond .eq 7, 3) := dk_153 0 7 (dk_at dksX2_match_4 19 rfl rfl)
theorem dX2_match_117 : decode cX2_match 117 = .ok (.iconst (-1), 1) := dk_2 (dk_at dksX2_match_4 22 rfl rfl)
theorem dX2_match_118 : decode cX2_match 118 = .ok (.goto 14, 3) := dk_167 0 14 (dk_at dksX2_match_5 0 rfl rfl)
theorem dX2_match_121 : decode cX2_match 121 = .ok (.aload_n 0, 1) := dk_42 (dk_at dksX2_match_5 3 rfl rfl)
theorem dX2_match_122 : decode cX2_match 122 = .ok (.getfield 181, 3) := dk_180 0 181 (dk_at dksX2_match_5 4 rfl rfl)
theorem dX2_match_125 : decode cX2_match 125 = .ok (.aload_n 0, 1) := dk_42 (dk_at dksX2_match_5 7 rfl rfl)
theorem dX2_match_126 : decode cX2_match 126 = .ok (.getfield 250, 3) := dk_180 0 250 (dk_at dksX2_match_5 8 rfl rfl)
theorem dX2_match_129 : decode cX2_match 129 = .ok (.iload_n 1, 1) := dk_27 (dk_at dksX2_match_5 11 rfl rfl)
theorem dX2_match_130 : decode cX2_match 130 = .ok (.iaload, 1) := dk_46 (dk_at dksX2_match_5 12 rfl rfl)
theorem dX2_match_131 : decode cX2_match 131 = .ok (.iaload, 1) := dk_46 (dk_at dksX2_match_5 13 rfl rfl)
theorem dX2_match_132 : decode cX2_match 132 = .ok (.putfield 1070, 3) := dk_181 4 46 (dk_at dksX2_match_5 14 rfl rfl)
theorem dX2_match_135 : decode cX2_match 135 = .ok (.aload_n 0, 1) := dk_42 (dk_at dksX2_match_5 17 rfl rfl)
theorem dX2_match_136 : decode cX2_match 136 = .ok (.iload 4, 2) := dk_21 4 (dk_at dksX2_match_5 18 rfl rfl)
theorem dX2_match_138 : decode cX2_match 138 = .ok (.putfield 772, 3) := dk_181 3 4 (dk_at dksX2_match_5 20 rfl rfl)
theorem dX2_match_141 : decode cX2_match 141 = .ok (.aload_n 0, 1) := dk_42 (dk_at dksX2_match_5 23 rfl rfl)
theorem dX2_match_142 : decode cX2_match 142 = .ok (.iconst 1, 1) := dk_4 (dk_at dksX2_match_6 0 rfl rfl)
theorem dX2_match_143 : decode cX2_match 143 = .ok (.putfield 775, 3) := dk_181 3 7 (dk_at dksX2_match_6 1 rfl rfl)
theorem dX2_match_146 : decode cX2_match 146 = .ok (.iload 4, 2) := dk_21 4 (dk_at dksX2_match_6 4 rfl rfl)
theorem dX2_match_148 : decode cX2_match 148 = .ok (.ireturn, 1) := dk_172 (dk_at dksX2_match_6 6 rfl rfl)
theorem dX2_match_149 : decode cX2_match 149 = .ok (.astore 4, 2) := dk_58 4 (dk_at dksX2_match_6 7 rfl rfl)
theorem dX2_match_151 : decode cX2_match 151 = .ok (.aload_n 0, 1) := dk_42 (dk_at dksX2_match_6 9 rfl rfl)
theorem dX2_match_152 : decode cX2_match 152 = .ok (.invokevirtual 1073, 3) := dk_182 4 49 (dk_at dksX2_match_6 10 rfl rfl)
theorem dX2_match_155 : decode cX2_match 155 = .ok (.ireturn, 1) := dk_172 (dk_at dksX2_match_6 13 rfl rfl)
abbrev cX2_beginCall : ByteArray := prog_4_method_150_code
def yX2_beginCall : MethodName := ⟨RX2, "beginCall", "()V"⟩
def dkwX2_beginCall_0 : List UInt8 := [42, 182, 3, 77, 42, 182, 4, 24, 177]
abbrev dktX2_beginCall_0 : List UInt8 := dkwX2_beginCall_0 ++ []
theorem dksX2_beginCall_0 : cX2_beginCall.data.toList.drop 0 = dktX2_beginCall_0 := by decide +kernel
theorem dX2_beginCall_0 : decode cX2_beginCall 0 = .ok (.aload_n 0, 1) := dk_42 (dk_at dksX2_beginCall_0 0 rfl rfl)
theorem dX2_beginCall_1 : decode cX2_beginCall 1 = .ok (.invokevirtual 845, 3) := dk_182 3 77 (dk_at dksX2_beginCall_0 1 rfl rfl)
theorem dX2_beginCall_4 : decode cX2_beginCall 4 = .ok (.aload_n 0, 1) := dk_42 (dk_at dksX2_beginCall_0 4 rfl rfl)
theorem dX2_beginCall_5 : decode cX2_beginCall 5 = .ok (.invokevirtual 1048, 3) := dk_182 4 24 (dk_at dksX2_beginCall_0 5 rfl rfl)
theorem dX2_beginCall_8 : decode cX2_beginCall 8 = .ok (.return_, 1) := dk_177 (dk_at dksX2_beginCall_0 8 rfl rfl)
abbrev cX2_beginTry : ByteArray := prog_4_method_151_code
def yX2_beginTry : MethodName := ⟨RX2, "beginTry", "()V"⟩
def dkwX2_beginTry_2 : List UInt8 := [3, 181, 3, 248, 42, 3, 181, 3, 205, 42, 3, 181, 3, 251, 177]
abbrev dktX2_beginTry_2 : List UInt8 := dkwX2_beginTry_2 ++ []
def dkwX2_beginTry_1 : List UInt8 := [181, 3, 193, 42, 3, 181, 3, 202, 42, 3, 181, 3, 196, 42, 3, 181, 3, 187, 42, 3, 181, 2, 195, 42]
abbrev dktX2_beginTry_1 : List UInt8 := dkwX2_beginTry_1 ++ dktX2_beginTry_2
def dkwX2_beginTry_0 : List UInt8 := [42, 89, 180, 1, 25, 4, 96, 181, 1, 25, 42, 9, 181, 3, 184, 42, 19, 1, 28, 181, 1, 29, 42, 3]
abbrev dktX2_beginTry_0 : List UInt8 := dkwX2_beginTry_0 ++ dktX2_beginTry_1
theorem dksX2_beginTry_0 : cX2_beginTry.data.toList.drop 0 = dktX2_beginTry_0 := by decide +kernel
theorem dksX2_beginTry_1 : cX2_beginTry.data.toList.drop 24 = dktX2_beginTry_1 := dk_seg dksX2_beginTry_0 24 rfl rfl
theorem dksX2_beginTry_2 : cX2_beginTry.data.toList.drop 48 = dktX2_beginTry_2 := dk_seg dksX2_beginTry_1 24 rfl rfl
theorem dX2_beginTry_0 : decode cX2_beginTry 0 = .ok (.aload_n 0, 1) := dk_42 (dk_at dksX2_beginTry_0 0 rfl rfl)
theorem dX2_beginTry_1 : decode cX2_beginTry 1 = .ok (.dup, 1) := dk_89 (dk_at dksX2_beginTry_0 1 rfl rfl)
theorem dX2_beginTry_2 : decode cX2_beginTry 2 = .ok (.getfield 281, 3) := dk_180 1 25 (dk_at dksX2_beginTry_0 2 rfl rfl)
theorem dX2_beginTry_5 : decode cX2_beginTry 5 = .ok (.iconst 1, 1) := dk_4 (dk_at dksX2_beginTry_0 5 rfl rfl)
theorem dX2_beginTry_6 : decode cX2_beginTry 6 = .ok (.iadd, 1) := dk_96 (dk_at dksX2_beginTry_0 6 rfl rfl)
theorem dX2_beginTry_7 : decode cX2_beginTry 7 = .ok (.putfield 281, 3) := dk_181 1 25 (dk_at dksX2_beginTry_0 7 rfl rfl)
theorem dX2_beginTry_10 : decode cX2_beginTry 10 = .ok (.aload_n 0, 1) := dk_42 (dk_at dksX2_beginTry_0 10 rfl rfl)
theorem dX2_beginTry_11 : decode cX2_beginTry 11 = .ok (.lconst 0, 1) := dk_9 (dk_at dksX2_beginTry_0 11 rfl rfl)
theorem dX2_beginTry_12 : decode cX2_beginTry 12 = .ok (.putfield 952, 3) := dk_181 3 184 (dk_at dksX2_beginTry_0 12 rfl rfl)
theorem dX2_beginTry_15 : decode cX2_beginTry 15 = .ok (.aload_n 0, 1) := dk_42 (dk_at dksX2_beginTry_0 15 rfl rfl)
theorem dX2_beginTry_16 : decode cX2_beginTry 16 = .ok (.ldc_w 284, 3) := dk_19 1 28 (dk_at dksX2_beginTry_0 16 rfl rfl)
theorem dX2_beginTry_19 : decode cX2_beginTry 19 = .ok (.putfield 285, 3) := dk_181 1 29 (dk_at dksX2_beginTry_0 19 rfl rfl)
theorem dX2_beginTry_22 : decode cX2_beginTry 22 = .ok (.aload_n 0, 1) := dk_42 (dk_at dksX2_beginTry_0 22 rfl rfl)
theorem dX2_beginTry_23 : decode cX2_beginTry 23 = .ok (.iconst 0, 1) := dk_3 (dk_at dksX2_beginTry_0 23 rfl rfl)
theorem dX2_beginTry_24 : decode cX2_beginTry 24 = .ok (.putfield 961, 3) := dk_181 3 193 (dk_at dksX2_beginTry_1 0 rfl rfl)
theorem dX2_beginTry_27 : decode cX2_beginTry 27 = .ok (.aload_n 0, 1) := dk_42 (dk_at dksX2_beginTry_1 3 rfl rfl)
theorem dX2_beginTry_28 : decode cX2_beginTry 28 = .ok (.iconst 0, 1) := dk_3 (dk_at dksX2_beginTry_1 4 rfl rfl)
theorem dX2_beginTry_29 : decode cX2_beginTry 29 = .ok (.putfield 970, 3) := dk_181 3 202 (dk_at dksX2_beginTry_1 5 rfl rfl)
theorem dX2_beginTry_32 : decode cX2_beginTry 32 = .ok (.aload_n 0, 1) := dk_42 (dk_at dksX2_beginTry_1 8 rfl rfl)
theorem dX2_beginTry_33 : decode cX2_beginTry 33 = .ok (.iconst 0, 1) := dk_3 (dk_at dksX2_beginTry_1 9 rfl rfl)
theorem dX2_beginTry_34 : decode cX2_beginTry 34 = .ok (.putfield 964, 3) := dk_181 3 196 (dk_at dksX2_beginTry_1 10 rfl rfl)
theorem dX2_beginTry_37 : decode cX2_beginTry 37 = .ok (.aload_n 0, 1) := dk_42 (dk_at dksX2_beginTry_1 13 rfl rfl)
theorem dX2_beginTry_38 : decode cX2_beginTry 38 = .ok (.iconst 0, 1) := dk_3 (dk_at dksX2_beginTry_1 14 rfl rfl)
theorem dX2_beginTry_39 : decode cX2_beginTry 39 = .ok (.putfield 955, 3) := dk_181 3 187 (dk_at dksX2_beginTry_1 15 rfl rfl)
theorem dX2_beginTry_42 : decode cX2_beginTry 42 = .ok (.aload_n 0, 1) := dk_42 (dk_at dksX2_beginTry_1 18 rfl rfl)
theorem dX2_beginTry_43 : decode cX2_beginTry 43 = .ok (.iconst 0, 1) := dk_3 (dk_at dksX2_beginTry_1 19 rfl rfl)
theorem dX2_beginTry_44 : decode cX2_beginTry 44 = .ok (.putfield 707, 3) := dk_181 2 195 (dk_at dksX2_beginTry_1 20 rfl rfl)
theorem dX2_beginTry_47 : decode cX2_beginTry 47 = .ok (.aload_n 0, 1) := dk_42 (dk_at dksX2_beginTry_1 23 rfl rfl)
theorem dX2_beginTry_48 : decode cX2_beginTry 48 = .ok (.iconst 0, 1) := dk_3 (dk_at dksX2_beginTry_2 0 rfl rfl)
theorem dX2_beginTry_49 : decode cX2_beginTry 49 = .ok (.putfield 1016, 3) := dk_181 3 248 (dk_at dksX2_beginTry_2 1 rfl rfl)
theorem dX2_beginTry_52 : decode cX2_beginTry 52 = .ok (.aload_n 0, 1) := dk_42 (dk_at dksX2_beginTry_2 4 rfl rfl)
theorem dX2_beginTry_53 : decode cX2_beginTry 53 = .ok (.iconst 0, 1) := dk_3 (dk_at dksX2_beginTry_2 5 rfl rfl)
theorem dX2_beginTry_54 : decode cX2_beginTry 54 = .ok (.putfield 973, 3) := dk_181 3 205 (dk_at dksX2_beginTry_2 6 rfl rfl)
theorem dX2_beginTry_57 : decode cX2_beginTry 57 = .ok (.aload_n 0, 1) := dk_42 (dk_at dksX2_beginTry_2 9 rfl rfl)
theorem dX2_beginTry_58 : decode cX2_beginTry 58 = .ok (.iconst 0, 1) := dk_3 (dk_at dksX2_beginTry_2 10 rfl rfl)
theorem dX2_beginTry_59 : decode cX2_beginTry 59 = .ok (.putfield 1019, 3) := dk_181 3 251 (dk_at dksX2_beginTry_2 11 rfl rfl)
theorem dX2_beginTry_62 : decode cX2_beginTry 62 = .ok (.return_, 1) := dk_177 (dk_at dksX2_beginTry_2 14 rfl rfl)
abbrev cX2_list : ByteArray := prog_4_method_127_code
def yX2_list : MethodName := ⟨RX2, "list", "(IIZI)I"⟩
def dkwX2_list_11 : List UInt8 := [96, 181, 3, 187, 42, 180, 3, 160, 172]
abbrev dktX2_list_11 : List UInt8 := dkwX2_list_11 ++ []
def dkwX2_list_10 : List UInt8 := [17, 23, 112, 164, 0, 9, 42, 7, 3, 182, 1, 178, 42, 42, 180, 3, 148, 16, 64, 42, 180, 3, 160, 104]
abbrev dktX2_list_10 : List UInt8 := dkwX2_list_10 ++ dktX2_list_11
def dkwX2_list_9 : List UInt8 := [182, 3, 129, 184, 3, 123, 42, 42, 180, 3, 193, 42, 180, 3, 160, 96, 181, 3, 193, 42, 180, 3, 193]
abbrev dktX2_list_9 : List UInt8 := dkwX2_list_9 ++ dktX2_list_10
def dkwX2_list_8 : List UInt8 := [160, 0, 14, 42, 27, 28, 21, 7, 182, 3, 190, 167, 0, 17, 42, 42, 3, 27, 28, 3, 3, 2]
abbrev dktX2_list_8 : List UInt8 := dkwX2_list_8 ++ dktX2_list_9
def dkwX2_list_7 : List UInt8 := [21, 7, 155, 0, 35, 42, 180, 0, 168, 21, 7, 51, 153, 0, 25, 42, 180, 0, 181, 28, 46, 21, 7]
abbrev dktX2_list_7 : List UInt8 := dkwX2_list_7 ++ dktX2_list_8
def dkwX2_list_6 : List UInt8 := [46, 54, 7, 42, 21, 7, 181, 3, 145, 42, 2, 181, 3, 151, 42, 2, 181, 3, 157, 29, 153, 0, 40]
abbrev dktX2_list_6 : List UInt8 := dkwX2_list_6 ++ dktX2_list_7
def dkwX2_list_5 : List UInt8 := [79, 132, 7, 1, 167, 255, 220, 42, 27, 182, 2, 185, 153, 0, 7, 2, 167, 0, 9, 42, 180, 0, 181, 27]
abbrev dktX2_list_5 : List UInt8 := dkwX2_list_5 ++ dktX2_list_6
def dkwX2_list_4 : List UInt8 := [180, 1, 18, 21, 7, 21, 4, 156, 0, 7, 2, 167, 0, 13, 42, 180, 1, 22, 21, 4, 21, 7, 96, 46]
abbrev dktX2_list_4 : List UInt8 := dkwX2_list_4 ++ dktX2_list_5
def dkwX2_list_3 : List UInt8 := [181, 3, 148, 42, 3, 181, 3, 160, 42, 3, 181, 3, 99, 3, 54, 7, 21, 7, 16, 60, 162, 0, 35, 42]
abbrev dktX2_list_3 : List UInt8 := dkwX2_list_3 ++ dktX2_list_4
def dkwX2_list_2 : List UInt8 := [180, 3, 184, 42, 180, 1, 29, 133, 148, 158, 0, 9, 42, 7, 3, 182, 1, 178, 42, 42, 180, 3, 187]
abbrev dktX2_list_2 : List UInt8 := dkwX2_list_2 ++ dktX2_list_3
def dkwX2_list_1 : List UInt8 := [42, 6, 3, 182, 1, 178, 42, 89, 180, 3, 184, 42, 27, 28, 184, 3, 178, 97, 181, 3, 184, 42]
abbrev dktX2_list_1 : List UInt8 := dkwX2_list_1 ++ dktX2_list_2
def dkwX2_list_0 : List UInt8 := [42, 27, 184, 3, 166, 55, 5, 22, 5, 9, 148, 153, 0, 19, 42, 28, 22, 5, 184, 3, 169, 153, 0, 9]
abbrev dktX2_list_0 : List UInt8 := dkwX2_list_0 ++ dktX2_list_1
theorem dksX2_list_0 : cX2_list.data.toList.drop 0 = dktX2_list_0 := by decide +kernel
theorem dksX2_list_1 : cX2_list.data.toList.drop 24 = dktX2_list_1 := dk_seg dksX2_list_0 24 rfl rfl
theorem dksX2_list_2 : cX2_list.data.toList.drop 46 = dktX2_list_2 := dk_seg dksX2_list_1 22 rfl rfl
theorem dksX2_list_3 : cX2_list.data.toList.drop 69 = dktX2_list_3 := dk_seg dksX2_list_2 23 rfl rfl
theorem dksX2_list_4 : cX2_list.data.toList.drop 93 = dktX2_list_4 := dk_seg dksX2_list_3 24 rfl rfl
theorem dksX2_list_5 : cX2_list.data.toList.drop 117 = dktX2_list_5 := dk_seg dksX2_list_4 24 rfl rfl
theorem dksX2_list_6 : cX2_list.data.toList.drop 141 = dktX2_list_6 := dk_seg dksX2_list_5 24 rfl rfl
theorem dksX2_list_7 : cX2_list.data.toList.drop 164 = dktX2_list_7 := dk_seg dksX2_list_6 23 rfl rfl
theorem dksX2_list_8 : cX2_list.data.toList.drop 187 = dktX2_list_8 := dk_seg dksX2_list_7 23 rfl rfl
theorem dksX2_list_9 : cX2_list.data.toList.drop 209 = dktX2_list_9 := dk_seg dksX2_list_8 22 rfl rfl
theorem dksX2_list_10 : cX2_list.data.toList.drop 232 = dktX2_list_10 := dk_seg dksX2_list_9 23 rfl rfl
theorem dksX2_list_11 : cX2_list.data.toList.drop 256 = dktX2_list_11 := dk_seg dksX2_list_10 24 rfl rfl
theorem dX2_list_0 : decode cX2_list 0 = .ok (.aload_n 0, 1) := dk_42 (dk_at dksX2_list_0 0 rfl rfl)
theorem dX2_list_1 : decode cX2_list 1 = .ok (.iload_n 1, 1) := dk_27 (dk_at dksX2_list_0 1 rfl rfl)
theorem dX2_list_2 : decode cX2_list 2 = .ok (.invokestatic 934, 3) := dk_184 3 166 (dk_at dksX2_list_0 2 rfl rfl)
theorem dX2_list_5 : decode cX2_list 5 = .ok (.lstore 5, 2) := dk_55 5 (dk_at dksX2_list_0 5 rfl rfl)
theorem dX2_list_7 : decode cX2_list 7 = .ok (.lload 5, 2) := dk_22 5 (dk_at dksX2_list_0 7 rfl rfl)
theorem dX2_list_9 : decode cX2_list 9 = .ok (.lconst 0, 1) := dk_9 (dk_at dksX2_list_0 9 rfl rfl)
theorem dX2_list_10 : decode cX2_list 10 = .ok (.lcmp, 1) := dk_148 (dk_at dksX2_list_0 10 rfl rfl)
theorem dX2_list_11 : decode cX2_list 11 = .ok (.ifCond .eq 19, 3) := dk_153 0 19 (dk_at dksX2_list_0 11 rfl rfl)
theorem dX2_list_14 : decode cX2_list 14 = .ok (.aload_n 0, 1) := dk_42 (dk_at dksX2_list_0 14 rfl rfl)
theorem dX2_list_15 : decode cX2_list 15 = .ok (.iload_n 2, 1) := dk_28 (dk_at dksX2_list_0 15 rfl rfl)
theorem dX2_list_16 : decode cX2_list 16 = .ok (.lload 5, 2) := dk_22 5 (dk_at dksX2_list_0 16 rfl rfl)
theorem dX2_list_18 : decode cX2_list 18 = .ok (.invokestatic 937, 3) := dk_184 3 169 (dk_at dksX2_list_0 18 rfl rfl)
theorem dX2_list_21 : decode cX2_list 21 = .ok (.ifCond .eq 9, 3) := dk_153 0 9 (dk_at dksX2_list_0 21 rfl rfl)
theorem dX2_list_24 : decode cX2_list 24 = .ok (.aload_n 0, 1) := dk_42 (dk_at dksX2_list_1 0 rfl rfl)
theorem dX2_list_25 : decode cX2_list 25 = .ok (.iconst 3, 1) := dk_6 (dk_at dksX2_list_1 1 rfl rfl)
theorem dX2_list_26 : decode cX2_list 26 = .ok (.iconst 0, 1) := dk_3 (dk_at dksX2_list_1 2 rfl rfl)
theorem dX2_list_27 : decode cX2_list 27 = .ok (.invokevirtual 434, 3) := dk_182 1 178 (dk_at dksX2_list_1 3 rfl rfl)
theorem dX2_list_30 : decode cX2_list 30 = .ok (.aload_n 0, 1) := dk_42 (dk_at dksX2_list_1 6 rfl rfl)
theorem dX2_list_31 : decode cX2_list 31 = .ok (.dup, 1) := dk_89 (dk_at dksX2_list_1 7 rfl rfl)
theorem dX2_list_32 : decode cX2_list 32 = .ok (.getfield 952, 3) := dk_180 3 184 (dk_at dksX2_list_1 8 rfl rfl)
theorem dX2_list_35 : decode cX2_list 35 = .ok (.aload_n 0, 1) := dk_42 (dk_at dksX2_list_1 11 rfl rfl)
theorem dX2_list_36 : decode cX2_list 36 = .ok (.iload_n 1, 1) := dk_27 (dk_at dksX2_list_1 12 rfl rfl)
theorem dX2_list_37 : decode cX2_list 37 = .ok (.iload_n 2, 1) := dk_28 (dk_at dksX2_list_1 13 rfl rfl)
theorem dX2_list_38 : decode cX2_list 38 = .ok (.invokestatic 946, 3) := dk_184 3 178 (dk_at dksX2_list_1 14 rfl rfl)
theorem dX2_list_41 : decode cX2_list 41 = .ok (.ladd, 1) := dk_97 (dk_at dksX2_list_1 17 rfl rfl)
theorem dX2_list_42 : decode cX2_list 42 = .ok (.putfield 952, 3) := dk_181 3 184 (dk_at dksX2_list_1 18 rfl rfl)
theorem dX2_list_45 : decode cX2_list 45 = .ok (.aload_n 0, 1) := dk_42 (dk_at dksX2_list_1 21 rfl rfl)
theorem dX2_list_46 : decode cX2_list 46 = .ok (.getfield 952, 3) := dk_180 3 184 (dk_at dksX2_list_2 0 rfl rfl)
theorem dX2_list_49 : decode cX2_list 49 = .ok (.aload_n 0, 1) := dk_42 (dk_at dksX2_list_2 3 rfl rfl)
theorem dX2_list_50 : decode cX2_list 50 = .ok (.getfield 285, 3) := dk_180 1 29 (dk_at dksX2_list_2 4 rfl rfl)
theorem dX2_list_53 : decode cX2_list 53 = .ok (.i2l, 1) := dk_133 (dk_at dksX2_list_2 7 rfl rfl)
theorem dX2_list_54 : decode cX2_list 54 = .ok (.lcmp, 1) := dk_148 (dk_at dksX2_list_2 8 rfl rfl)
theorem dX2_list_55 : decode cX2_list 55 = .ok (.ifCond .le 9, 3) := dk_158 0 9 (dk_at dksX2_list_2 9 rfl rfl)
theorem dX2_list_58 : decode cX2_list 58 = .ok (.aload_n 0, 1) := dk_42 (dk_at dksX2_list_2 12 rfl rfl)
theorem dX2_list_59 : decode cX2_list 59 = .ok (.iconst 4, 1) := dk_7 (dk_at dksX2_list_2 13 rfl rfl)
theorem dX2_list_60 : decode cX2_list 60 = .ok (.iconst 0, 1) := dk_3 (dk_at dksX2_list_2 14 rfl rfl)
theorem dX2_list_61 : decode cX2_list 61 = .ok (.invokevirtual 434, 3) := dk_182 1 178 (dk_at dksX2_list_2 15 rfl rfl)
theorem dX2_list_64 : decode cX2_list 64 = .ok (.aload_n 0, 1) := dk_42 (dk_at dksX2_list_2 18 rfl rfl)
theorem dX2_list_65 : decode cX2_list 65 = .ok (.aload_n 0, 1) := dk_42 (dk_at dksX2_list_2 19 rfl rfl)
theorem dX2_list_66 : decode cX2_list 66 = .ok (.getfield 955, 3) := dk_180 3 187 (dk_at dksX2_list_2 20 rfl rfl)
theorem dX2_list_69 : decode cX2_list 69 = .ok (.putfield 916, 3) := dk_181 3 148 (dk_at dksX2_list_3 0 rfl rfl)
theorem dX2_list_72 : decode cX2_list 72 = .ok (.aload_n 0, 1) := dk_42 (dk_at dksX2_list_3 3 rfl rfl)
theorem dX2_list_73 : decode cX2_list 73 = .ok (.iconst 0, 1) := dk_3 (dk_at dksX2_list_3 4 rfl rfl)
theorem dX2_list_74 : decode cX2_list 74 = .ok (.putfield 928, 3) := dk_181 3 160 (dk_at dksX2_list_3 5 rfl rfl)
theorem dX2_list_77 : decode cX2_list 77 = .ok (.aload_n 0, 1) := dk_42 (dk_at dksX2_list_3 8 rfl rfl)
theorem dX2_list_78 : decode cX2_list 78 = .ok (.iconst 0, 1) := dk_3 (dk_at dksX2_list_3 9 rfl rfl)
theorem dX2_list_79 : decode cX2_list 79 = .ok (.putfield 867, 3) := dk_181 3 99 (dk_at dksX2_list_3 10 rfl rfl)
theorem dX2_list_82 : decode cX2_list 82 = .ok (.iconst 0, 1) := dk_3 (dk_at dksX2_list_3 13 rfl rfl)
theorem dX2_list_83 : decode cX2_list 83 = .ok (.istore 7, 2) := dk_54 7 (dk_at dksX2_list_3 14 rfl rfl)
theorem dX2_list_85 : decode cX2_list 85 = .ok (.iload 7, 2) := dk_21 7 (dk_at dksX2_list_3 16 rfl rfl)
theorem dX2_list_87 : decode cX2_list 87 = .ok (.bipush 60, 2) := dk_16 60 (dk_at dksX2_list_3 18 rfl rfl)
theorem dX2_list_89 : decode cX2_list 89 = .ok (.if_icmp .ge 35, 3) := dk_162 0 35 (dk_at dksX2_list_3 20 rfl rfl)
theorem dX2_list_92 : decode cX2_list 92 = .ok (.aload_n 0, 1) := dk_42 (dk_at dksX2_list_3 23 rfl rfl)
theorem dX2_list_93 : decode cX2_list 93 = .ok (.getfield 274, 3) := dk_180 1 18 (dk_at dksX2_list_4 0 rfl rfl)
theorem dX2_list_96 : decode cX2_list 96 = .ok (.iload 7, 2) := dk_21 7 (dk_at dksX2_list_4 3 rfl rfl)
theorem dX2_list_98 : decode cX2_list 98 = .ok (.iload 4, 2) := dk_21 4 (dk_at dksX2_list_4 5 rfl rfl)
theorem dX2_list_100 : decode cX2_list 100 = .ok (.ifCond .ge 7, 3) := dk_156 0 7 (dk_at dksX2_list_4 7 rfl rfl)
theorem dX2_list_103 : decode cX2_list 103 = .ok (.iconst (-1), 1) := dk_2 (dk_at dksX2_list_4 10 rfl rfl)
theorem dX2_list_104 : decode cX2_list 104 = .ok (.goto 13, 3) := dk_167 0 13 (dk_at dksX2_list_4 11 rfl rfl)
theorem dX2_list_107 : decode cX2_list 107 = .ok (.aload_n 0, 1) := dk_42 (dk_at dksX2_list_4 14 rfl rfl)
theorem dX2_list_108 : decode cX2_list 108 = .ok (.getfield 278, 3) := dk_180 1 22 (dk_at dksX2_list_4 15 rfl rfl)
theorem dX2_list_111 : decode cX2_list 111 = .ok (.iload 4, 2) := dk_21 4 (dk_at dksX2_list_4 18 rfl rfl)
theorem dX2_list_113 : decode cX2_list 113 = .ok (.iload 7, 2) := dk_21 7 (dk_at dksX2_list_4 20 rfl rfl)
theorem dX2_list_115 : decode cX2_list 115 = .ok (.iadd, 1) := dk_96 (dk_at dksX2_list_4 22 rfl rfl)
theorem dX2_list_116 : decode cX2_list 116 = .ok (.iaload, 1) := dk_46 (dk_at dksX2_list_4 23 rfl rfl)
theorem dX2_list_117 : decode cX2_list 117 = .ok (.iastore, 1) := dk_79 (dk_at dksX2_list_5 0 rfl rfl)
theorem dX2_list_118 : decode cX2_list 118 = .ok (.iinc 7 1, 3) := dk_132 7 1 (dk_at dksX2_list_5 1 rfl rfl)
theorem dX2_list_121 : decode cX2_list 121 = .ok (.goto (-36), 3) := dk_167 255 220 (dk_at dksX2_list_5 4 rfl rfl)
theorem dX2_list_124 : decode cX2_list 124 = .ok (.aload_n 0, 1) := dk_42 (dk_at dksX2_list_5 7 rfl rfl)
theorem dX2_list_125 : decode cX2_list 125 = .ok (.iload_n 1, 1) := dk_27 (dk_at dksX2_list_5 8 rfl rfl)
theorem dX2_list_126 : decode cX2_list 126 = .ok (.invokevirtual 697, 3) := dk_182 2 185 (dk_at dksX2_list_5 9 rfl rfl)
theorem dX2_list_129 : decode cX2_list 129 = .ok (.ifCond .eq 7, 3) := dk_153 0 7 (dk_at dksX2_list_5 12 rfl rfl)
theorem dX2_list_132 : decode cX2_list 132 = .ok (.iconst (-1), 1) := dk_2 (dk_at dksX2_list_5 15 rfl rfl)
theorem dX2_list_133 : decode cX2_list 133 = .ok (.goto 9, 3) := dk_167 0 9 (dk_at dksX2_list_5 16 rfl rfl)
theorem dX2_list_136 : decode cX2_list 136 = .ok (.aload_n 0, 1) := dk_42 (dk_at dksX2_list_5 19 rfl rfl)
theorem dX2_list_137 : decode cX2_list 137 = .ok (.getfield 181, 3) := dk_180 0 181 (dk_at dksX2_list_5 20 rfl rfl)
theorem dX2_list_140 : decode cX2_list 140 = .ok (.iload_n 1, 1) := dk_27 (dk_at dksX2_list_5 23 rfl rfl)
theorem dX2_list_141 : decode cX2_list 141 = .ok (.iaload, 1) := dk_46 (dk_at dksX2_list_6 0 rfl rfl)
theorem dX2_list_142 : decode cX2_list 142 = .ok (.istore 7, 2) := dk_54 7 (dk_at dksX2_list_6 1 rfl rfl)
theorem dX2_list_144 : decode cX2_list 144 = .ok (.aload_n 0, 1) := dk_42 (dk_at dksX2_list_6 3 rfl rfl)
theorem dX2_list_145 : decode cX2_list 145 = .ok (.iload 7, 2) := dk_21 7 (dk_at dksX2_list_6 4 rfl rfl)
theorem dX2_list_147 : decode cX2_list 147 = .ok (.putfield 913, 3) := dk_181 3 145 (dk_at dksX2_list_6 6 rfl rfl)
theorem dX2_list_150 : decode cX2_list 150 = .ok (.aload_n 0, 1) := dk_42 (dk_at dksX2_list_6 9 rfl rfl)
theorem dX2_list_151 : decode cX2_list 151 = .ok (.iconst (-1), 1) := dk_2 (dk_at dksX2_list_6 10 rfl rfl)
theorem dX2_list_152 : decode cX2_list 152 = .ok (.putfield 919, 3) := dk_181 3 151 (dk_at dksX2_list_6 11 rfl rfl)
theorem dX2_list_155 : decode cX2_list 155 = .ok (.aload_n 0, 1) := dk_42 (dk_at dksX2_list_6 14 rfl rfl)
theorem dX2_list_156 : decode cX2_list 156 = .ok (.iconst (-1), 1) := dk_2 (dk_at dksX2_list_6 15 rfl rfl)
theorem dX2_list_157 : decode cX2_list 157 = .ok (.putfield 925, 3) := dk_181 3 157 (dk_at dksX2_list_6 16 rfl rfl)
theorem dX2_list_160 : decode cX2_list 160 = .ok (.iload_n 3, 1) := dk_29 (dk_at dksX2_list_6 19 rfl rfl)
theorem dX2_list_161 : decode cX2_list 161 = .ok (.ifCond .eq 40, 3) := dk_153 0 40 (dk_at dksX2_list_6 20 rfl rfl)
theorem dX2_list_164 : decode cX2_list 164 = .ok (.iload 7, 2) := dk_21 7 (dk_at dksX2_list_7 0 rfl rfl)
theorem dX2_list_166 : decode cX2_list 166 = .ok (.ifCond .lt 35, 3) := dk_155 0 35 (dk_at dksX2_list_7 2 rfl rfl)
theorem dX2_list_169 : decode cX2_list 169 = .ok (.aload_n 0, 1) := dk_42 (dk_at dksX2_list_7 5 rfl rfl)
theorem dX2_list_170 : decode cX2_list 170 = .ok (.getfield 168, 3) := dk_180 0 168 (dk_at dksX2_list_7 6 rfl rfl)
theorem dX2_list_173 : decode cX2_list 173 = .ok (.iload 7, 2) := dk_21 7 (dk_at dksX2_list_7 9 rfl rfl)
theorem dX2_list_175 : decode cX2_list 175 = .ok (.baload, 1) := dk_51 (dk_at dksX2_list_7 11 rfl rfl)
theorem dX2_list_176 : decode cX2_list 176 = .ok (.ifCond .eq 25, 3) := dk_153 0 25 (dk_at dksX2_list_7 12 rfl rfl)
theorem dX2_list_179 : decode cX2_list 179 = .ok (.aload_n 0, 1) := dk_42 (dk_at dksX2_list_7 15 rfl rfl)
theorem dX2_list_180 : decode cX2_list 180 = .ok (.getfield 181, 3) := dk_180 0 181 (dk_at dksX2_list_7 16 rfl rfl)
theorem dX2_list_183 : decode cX2_list 183 = .ok (.iload_n 2, 1) := dk_28 (dk_at dksX2_list_7 19 rfl rfl)
theorem dX2_list_184 : decode cX2_list 184 = .ok (.iaload, 1) := dk_46 (dk_at dksX2_list_7 20 rfl rfl)
theorem dX2_list_185 : decode cX2_list 185 = .ok (.iload 7, 2) := dk_21 7 (dk_at dksX2_list_7 21 rfl rfl)
theorem dX2_list_187 : decode cX2_list 187 = .ok (.if_icmp .ne 14, 3) := dk_160 0 14 (dk_at dksX2_list_8 0 rfl rfl)
theorem dX2_list_190 : decode cX2_list 190 = .ok (.aload_n 0, 1) := dk_42 (dk_at dksX2_list_8 3 rfl rfl)
theorem dX2_list_191 : decode cX2_list 191 = .ok (.iload_n 1, 1) := dk_27 (dk_at dksX2_list_8 4 rfl rfl)
theorem dX2_list_192 : decode cX2_list 192 = .ok (.iload_n 2, 1) := dk_28 (dk_at dksX2_list_8 5 rfl rfl)
theorem dX2_list_193 : decode cX2_list 193 = .ok (.iload 7, 2) := dk_21 7 (dk_at dksX2_list_8 6 rfl rfl)
theorem dX2_list_195 : decode cX2_list 195 = .ok (.invokevirtual 958, 3) := dk_182 3 190 (dk_at dksX2_list_8 8 rfl rfl)
theorem dX2_list_198 : decode cX2_list 198 = .ok (.goto 17, 3) := dk_167 0 17 (dk_at dksX2_list_8 11 rfl rfl)
theorem dX2_list_201 : decode cX2_list 201 = .ok (.aload_n 0, 1) := dk_42 (dk_at dksX2_list_8 14 rfl rfl)
theorem dX2_list_202 : decode cX2_list 202 = .ok (.aload_n 0, 1) := dk_42 (dk_at dksX2_list_8 15 rfl rfl)
theorem dX2_list_203 : decode cX2_list 203 = .ok (.iconst 0, 1) := dk_3 (dk_at dksX2_list_8 16 rfl rfl)
theorem dX2_list_204 : decode cX2_list 204 = .ok (.iload_n 1, 1) := dk_27 (dk_at dksX2_list_8 17 rfl rfl)
theorem dX2_list_205 : decode cX2_list 205 = .ok (.iload_n 2, 1) := dk_28 (dk_at dksX2_list_8 18 rfl rfl)
theorem dX2_list_206 : decode cX2_list 206 = .ok (.iconst 0, 1) := dk_3 (dk_at dksX2_list_8 19 rfl rfl)
theorem dX2_list_207 : decode cX2_list 207 = .ok (.iconst 0, 1) := dk_3 (dk_at dksX2_list_8 20 rfl rfl)
theorem dX2_list_208 : decode cX2_list 208 = .ok (.iconst (-1), 1) := dk_2 (dk_at dksX2_list_8 21 rfl rfl)
theorem dX2_list_209 : decode cX2_list 209 = .ok (.invokevirtual 897, 3) := dk_182 3 129 (dk_at dksX2_list_9 0 rfl rfl)
theorem dX2_list_212 : decode cX2_list 212 = .ok (.invokestatic 891, 3) := dk_184 3 123 (dk_at dksX2_list_9 3 rfl rfl)
theorem dX2_list_215 : decode cX2_list 215 = .ok (.aload_n 0, 1) := dk_42 (dk_at dksX2_list_9 6 rfl rfl)
theorem dX2_list_216 : decode cX2_list 216 = .ok (.aload_n 0, 1) := dk_42 (dk_at dksX2_list_9 7 rfl rfl)
theorem dX2_list_217 : decode cX2_list 217 = .ok (.getfield 961, 3) := dk_180 3 193 (dk_at dksX2_list_9 8 rfl rfl)
theorem dX2_list_220 : decode cX2_list 220 = .ok (.aload_n 0, 1) := dk_42 (dk_at dksX2_list_9 11 rfl rfl)
theorem dX2_list_221 : decode cX2_list 221 = .ok (.getfield 928, 3) := dk_180 3 160 (dk_at dksX2_list_9 12 rfl rfl)
theorem dX2_list_224 : decode cX2_list 224 = .ok (.iadd, 1) := dk_96 (dk_at dksX2_list_9 15 rfl rfl)
theorem dX2_list_225 : decode cX2_list 225 = .ok (.putfield 961, 3) := dk_181 3 193 (dk_at dksX2_list_9 16 rfl rfl)
theorem dX2_list_228 : decode cX2_list 228 = .ok (.aload_n 0, 1) := dk_42 (dk_at dksX2_list_9 19 rfl rfl)
theorem dX2_list_229 : decode cX2_list 229 = .ok (.getfield 961, 3) := dk_180 3 193 (dk_at dksX2_list_9 20 rfl rfl)
theorem dX2_list_232 : decode cX2_list 232 = .ok (.sipush 6000, 3) := dk_17 23 112 (dk_at dksX2_list_10 0 rfl rfl)
theorem dX2_list_235 : decode cX2_list 235 = .ok (.if_icmp .le 9, 3) := dk_164 0 9 (dk_at dksX2_list_10 3 rfl rfl)
theorem dX2_list_238 : decode cX2_list 238 = .ok (.aload_n 0, 1) := dk_42 (dk_at dksX2_list_10 6 rfl rfl)
theorem dX2_list_239 : decode cX2_list 239 = .ok (.iconst 4, 1) := dk_7 (dk_at dksX2_list_10 7 rfl rfl)
theorem dX2_list_240 : decode cX2_list 240 = .ok (.iconst 0, 1) := dk_3 (dk_at dksX2_list_10 8 rfl rfl)
theorem dX2_list_241 : decode cX2_list 241 = .ok (.invokevirtual 434, 3) := dk_182 1 178 (dk_at dksX2_list_10 9 rfl rfl)
theorem dX2_list_244 : decode cX2_list 244 = .ok (.aload_n 0, 1) := dk_42 (dk_at dksX2_list_10 12 rfl rfl)
theorem dX2_list_245 : decode cX2_list 245 = .ok (.aload_n 0, 1) := dk_42 (dk_at dksX2_list_10 13 rfl rfl)
theorem dX2_list_246 : decode cX2_list 246 = .ok (.getfield 916, 3) := dk_180 3 148 (dk_at dksX2_list_10 14 rfl rfl)
theorem dX2_list_249 : decode cX2_list 249 = .ok (.bipush 64, 2) := dk_16 64 (dk_at dksX2_list_10 17 rfl rfl)
theorem dX2_list_251 : decode cX2_list 251 = .ok (.aload_n 0, 1) := dk_42 (dk_at dksX2_list_10 19 rfl rfl)
theorem dX2_list_252 : decode cX2_list 252 = .ok (.getfield 928, 3) := dk_180 3 160 (dk_at dksX2_list_10 20 rfl rfl)
theorem dX2_list_255 : decode cX2_list 255 = .ok (.imul, 1) := dk_104 (dk_at dksX2_list_10 23 rfl rfl)
theorem dX2_list_256 : decode cX2_list 256 = .ok (.iadd, 1) := dk_96 (dk_at dksX2_list_11 0 rfl rfl)
theorem dX2_list_257 : decode cX2_list 257 = .ok (.putfield 955, 3) := dk_181 3 187 (dk_at dksX2_list_11 1 rfl rfl)
theorem dX2_list_260 : decode cX2_list 260 = .ok (.aload_n 0, 1) := dk_42 (dk_at dksX2_list_11 4 rfl rfl)
theorem dX2_list_261 : decode cX2_list 261 = .ok (.getfield 928, 3) := dk_180 3 160 (dk_at dksX2_list_11 5 rfl rfl)
theorem dX2_list_264 : decode cX2_list 264 = .ok (.ireturn, 1) := dk_172 (dk_at dksX2_list_11 8 rfl rfl)
abbrev cX2_assocIn : ByteArray := prog_4_method_123_code
def yX2_assocIn : MethodName := ⟨RX2, "assocIn", "(LRewriteHouseModel;I)J"⟩
def dkwX2_assocIn_3 : List UInt8 := [173]
abbrev dktX2_assocIn_3 : List UInt8 := dkwX2_assocIn_3 ++ []
def dkwX2_assocIn_2 : List UInt8 := [162, 0, 23, 32, 42, 42, 27, 21, 4, 182, 2, 179, 184, 3, 166, 129, 65, 132, 4, 1, 167, 255, 228, 32]
abbrev dktX2_assocIn_2 : List UInt8 := dkwX2_assocIn_2 ++ dktX2_assocIn_3
def dkwX2_assocIn_1 : List UInt8 := [10, 42, 180, 0, 181, 27, 46, 121, 167, 0, 4, 9, 65, 3, 54, 4, 21, 4, 42, 180, 0, 187, 27, 46]
abbrev dktX2_assocIn_1 : List UInt8 := dkwX2_assocIn_1 ++ dktX2_assocIn_2
def dkwX2_assocIn_0 : List UInt8 := [42, 27, 182, 2, 185, 153, 0, 5, 9, 173, 42, 180, 0, 168, 42, 180, 0, 181, 27, 46, 51, 153, 0, 14]
abbrev dktX2_assocIn_0 : List UInt8 := dkwX2_assocIn_0 ++ dktX2_assocIn_1
theorem dksX2_assocIn_0 : cX2_assocIn.data.toList.drop 0 = dktX2_assocIn_0 := by decide +kernel
theorem dksX2_assocIn_1 : cX2_assocIn.data.toList.drop 24 = dktX2_assocIn_1 := dk_seg dksX2_assocIn_0 24 rfl rfl
theorem dksX2_assocIn_2 : cX2_assocIn.data.toList.drop 48 = dktX2_assocIn_2 := dk_seg dksX2_assocIn_1 24 rfl rfl
theorem dksX2_assocIn_3 : cX2_assocIn.data.toList.drop 72 = dktX2_assocIn_3 := dk_seg dksX2_assocIn_2 24 rfl rfl
theorem dX2_assocIn_0 : decode cX2_assocIn 0 = .ok (.aload_n 0, 1) := dk_42 (dk_at dksX2_assocIn_0 0 rfl rfl)
theorem dX2_assocIn_1 : decode cX2_assocIn 1 = .ok (.iload_n 1, 1) := dk_27 (dk_at dksX2_assocIn_0 1 rfl rfl)
theorem dX2_assocIn_2 : decode cX2_assocIn 2 = .ok (.invokevirtual 697, 3) := dk_182 2 185 (dk_at dksX2_assocIn_0 2 rfl rfl)
theorem dX2_assocIn_5 : decode cX2_assocIn 5 = .ok (.ifCond .eq 5, 3) := dk_153 0 5 (dk_at dksX2_assocIn_0 5 rfl rfl)
theorem dX2_assocIn_8 : decode cX2_assocIn 8 = .ok (.lconst 0, 1) := dk_9 (dk_at dksX2_assocIn_0 8 rfl rfl)
theorem dX2_assocIn_9 : decode cX2_assocIn 9 = .ok (.lreturn, 1) := dk_173 (dk_at dksX2_assocIn_0 9 rfl rfl)
theorem dX2_assocIn_10 : decode cX2_assocIn 10 = .ok (.aload_n 0, 1) := dk_42 (dk_at dksX2_assocIn_0 10 rfl rfl)
theorem dX2_assocIn_11 : decode cX2_assocIn 11 = .ok (.getfield 168, 3) := dk_180 0 168 (dk_at dksX2_assocIn_0 11 rfl rfl)
theorem dX2_assocIn_14 : decode cX2_assocIn 14 = .ok (.aload_n 0, 1) := dk_42 (dk_at dksX2_assocIn_0 14 rfl rfl)
theorem dX2_assocIn_15 : decode cX2_assocIn 15 = .ok (.getfield 181, 3) := dk_180 0 181 (dk_at dksX2_assocIn_0 15 rfl rfl)
theorem dX2_assocIn_18 : decode cX2_assocIn 18 = .ok (.iload_n 1, 1) := dk_27 (dk_at dksX2_assocIn_0 18 rfl rfl)
theorem dX2_assocIn_19 : decode cX2_assocIn 19 = .ok (.iaload, 1) := dk_46 (dk_at dksX2_assocIn_0 19 rfl rfl)
theorem dX2_assocIn_20 : decode cX2_assocIn 20 = .ok (.baload, 1) := dk_51 (dk_at dksX2_assocIn_0 20 rfl rfl)
theorem dX2_assocIn_21 : decode cX2_assocIn 21 = .ok (.ifCond .eq 14, 3) := dk_153 0 14 (dk_at dksX2_assocIn_0 21 rfl rfl)
theorem dX2_assocIn_24 : decode cX2_assocIn 24 = .ok (.lconst 1, 1) := dk_10 (dk_at dksX2_assocIn_1 0 rfl rfl)
theorem dX2_assocIn_25 : decode cX2_assocIn 25 = .ok (.aload_n 0, 1) := dk_42 (dk_at dksX2_assocIn_1 1 rfl rfl)
theorem dX2_assocIn_26 : decode cX2_assocIn 26 = .ok (.getfield 181, 3) := dk_180 0 181 (dk_at dksX2_assocIn_1 2 rfl rfl)
theorem dX2_assocIn_29 : decode cX2_assocIn 29 = .ok (.iload_n 1, 1) := dk_27 (dk_at dksX2_assocIn_1 5 rfl rfl)
theorem dX2_assocIn_30 : decode cX2_assocIn 30 = .ok (.iaload, 1) := dk_46 (dk_at dksX2_assocIn_1 6 rfl rfl)
theorem dX2_assocIn_31 : decode cX2_assocIn 31 = .ok (.lshl, 1) := dk_121 (dk_at dksX2_assocIn_1 7 rfl rfl)
theorem dX2_assocIn_32 : decode cX2_assocIn 32 = .ok (.goto 4, 3) := dk_167 0 4 (dk_at dksX2_assocIn_1 8 rfl rfl)
theorem dX2_assocIn_35 : decode cX2_assocIn 35 = .ok (.lconst 0, 1) := dk_9 (dk_at dksX2_assocIn_1 11 rfl rfl)
theorem dX2_assocIn_36 : decode cX2_assocIn 36 = .ok (.lstore_n 2, 1) := dk_65 (dk_at dksX2_assocIn_1 12 rfl rfl)
theorem dX2_assocIn_37 : decode cX2_assocIn 37 = .ok (.iconst 0, 1) := dk_3 (dk_at dksX2_assocIn_1 13 rfl rfl)
theorem dX2_assocIn_38 : decode cX2_assocIn 38 = .ok (.istore 4, 2) := dk_54 4 (dk_at dksX2_assocIn_1 14 rfl rfl)
theorem dX2_assocIn_40 : decode cX2_assocIn 40 = .ok (.iload 4, 2) := dk_21 4 (dk_at dksX2_assocIn_1 16 rfl rfl)
theorem dX2_assocIn_42 : decode cX2_assocIn 42 = .ok (.aload_n 0, 1) := dk_42 (dk_at dksX2_assocIn_1 18 rfl rfl)
theorem dX2_assocIn_43 : decode cX2_assocIn 43 = .ok (.getfield 187, 3) := dk_180 0 187 (dk_at dksX2_assocIn_1 19 rfl rfl)
theorem dX2_assocIn_46 : decode cX2_assocIn 46 = .ok (.iload_n 1, 1) := dk_27 (dk_at dksX2_assocIn_1 22 rfl rfl)
theorem dX2_assocIn_47 : decode cX2_assocIn 47 = .ok (.iaload, 1) := dk_46 (dk_at dksX2_assocIn_1 23 rfl rfl)
theorem dX2_assocIn_48 : decode cX2_assocIn 48 = .ok (.if_icmp .ge 23, 3) := dk_162 0 23 (dk_at dksX2_assocIn_2 0 rfl rfl)
theorem dX2_assocIn_51 : decode cX2_assocIn 51 = .ok (.lload_n 2, 1) := dk_32 (dk_at dksX2_assocIn_2 3 rfl rfl)
theorem dX2_assocIn_52 : decode cX2_assocIn 52 = .ok (.aload_n 0, 1) := dk_42 (dk_at dksX2_assocIn_2 4 rfl rfl)
theorem dX2_assocIn_53 : decode cX2_assocIn 53 = .ok (.aload_n 0, 1) := dk_42 (dk_at dksX2_assocIn_2 5 rfl rfl)
theorem dX2_assocIn_54 : decode cX2_assocIn 54 = .ok (.iload_n 1, 1) := dk_27 (dk_at dksX2_assocIn_2 6 rfl rfl)
theorem dX2_assocIn_55 : decode cX2_assocIn 55 = .ok (.iload 4, 2) := dk_21 4 (dk_at dksX2_assocIn_2 7 rfl rfl)
theorem dX2_assocIn_57 : decode cX2_assocIn 57 = .ok (.invokevirtual 691, 3) := dk_182 2 179 (dk_at dksX2_assocIn_2 9 rfl rfl)
theorem dX2_assocIn_60 : decode cX2_assocIn 60 = .ok (.invokestatic 934, 3) := dk_184 3 166 (dk_at dksX2_assocIn_2 12 rfl rfl)
theorem dX2_assocIn_63 : decode cX2_assocIn 63 = .ok (.lor, 1) := dk_129 (dk_at dksX2_assocIn_2 15 rfl rfl)
theorem dX2_assocIn_64 : decode cX2_assocIn 64 = .ok (.lstore_n 2, 1) := dk_65 (dk_at dksX2_assocIn_2 16 rfl rfl)
theorem dX2_assocIn_65 : decode cX2_assocIn 65 = .ok (.iinc 4 1, 3) := dk_132 4 1 (dk_at dksX2_assocIn_2 17 rfl rfl)
theorem dX2_assocIn_68 : decode cX2_assocIn 68 = .ok (.goto (-28), 3) := dk_167 255 228 (dk_at dksX2_assocIn_2 20 rfl rfl)
theorem dX2_assocIn_71 : decode cX2_assocIn 71 = .ok (.lload_n 2, 1) := dk_32 (dk_at dksX2_assocIn_2 23 rfl rfl)
theorem dX2_assocIn_72 : decode cX2_assocIn 72 = .ok (.lreturn, 1) := dk_173 (dk_at dksX2_assocIn_3 0 rfl rfl)
abbrev cX2_isWide : ByteArray := prog_4_method_124_code
def yX2_isWide : MethodName := ⟨RX2, "isWide", "(LRewriteHouseModel;IJ)Z"⟩
def dkwX2_isWide_3 : List UInt8 := [132, 4, 1, 167, 255, 225, 3, 172]
abbrev dktX2_isWide_3 : List UInt8 := dkwX2_isWide_3 ++ []
def dkwX2_isWide_2 : List UInt8 := [27, 46, 162, 0, 26, 42, 42, 27, 21, 4, 182, 2, 179, 32, 184, 3, 169, 153, 0, 5, 4, 172]
abbrev dktX2_isWide_2 : List UInt8 := dkwX2_isWide_2 ++ dktX2_isWide_3
def dkwX2_isWide_1 : List UInt8 := [180, 0, 181, 27, 46, 123, 10, 127, 10, 148, 154, 0, 5, 4, 172, 3, 54, 4, 21, 4, 42, 180, 0, 187]
abbrev dktX2_isWide_1 : List UInt8 := dkwX2_isWide_1 ++ dktX2_isWide_2
def dkwX2_isWide_0 : List UInt8 := [42, 27, 182, 2, 185, 153, 0, 5, 3, 172, 42, 180, 0, 187, 27, 46, 16, 6, 164, 0, 20, 32, 42]
abbrev dktX2_isWide_0 : List UInt8 := dkwX2_isWide_0 ++ dktX2_isWide_1
theorem dksX2_isWide_0 : cX2_isWide.data.toList.drop 0 = dktX2_isWide_0 := by decide +kernel
theorem dksX2_isWide_1 : cX2_isWide.data.toList.drop 23 = dktX2_isWide_1 := dk_seg dksX2_isWide_0 23 rfl rfl
theorem dksX2_isWide_2 : cX2_isWide.data.toList.drop 47 = dktX2_isWide_2 := dk_seg dksX2_isWide_1 24 rfl rfl
theorem dksX2_isWide_3 : cX2_isWide.data.toList.drop 69 = dktX2_isWide_3 := dk_seg dksX2_isWide_2 22 rfl rfl
theorem dX2_isWide_0 : decode cX2_isWide 0 = .ok (.aload_n 0, 1) := dk_42 (dk_at dksX2_isWide_0 0 rfl rfl)
theorem dX2_isWide_1 : decode cX2_isWide 1 = .ok (.iload_n 1, 1) := dk_27 (dk_at dksX2_isWide_0 1 rfl rfl)
theorem dX2_isWide_2 : decode cX2_isWide 2 = .ok (.invokevirtual 697, 3) := dk_182 2 185 (dk_at dksX2_isWide_0 2 rfl rfl)
theorem dX2_isWide_5 : decode cX2_isWide 5 = .ok (.ifCond .eq 5, 3) := dk_153 0 5 (dk_at dksX2_isWide_0 5 rfl rfl)
theorem dX2_isWide_8 : decode cX2_isWide 8 = .ok (.iconst 0, 1) := dk_3 (dk_at dksX2_isWide_0 8 rfl rfl)
theorem dX2_isWide_9 : decode cX2_isWide 9 = .ok (.ireturn, 1) := dk_172 (dk_at dksX2_isWide_0 9 rfl rfl)
theorem dX2_isWide_10 : decode cX2_isWide 10 = .ok (.aload_n 0, 1) := dk_42 (dk_at dksX2_isWide_0 10 rfl rfl)
theorem dX2_isWide_11 : decode cX2_isWide 11 = .ok (.getfield 187, 3) := dk_180 0 187 (dk_at dksX2_isWide_0 11 rfl rfl)
theorem dX2_isWide_14 : decode cX2_isWide 14 = .ok (.iload_n 1, 1) := dk_27 (dk_at dksX2_isWide_0 14 rfl rfl)
theorem dX2_isWide_15 : decode cX2_isWide 15 = .ok (.iaload, 1) := dk_46 (dk_at dksX2_isWide_0 15 rfl rfl)
theorem dX2_isWide_16 : decode cX2_isWide 16 = .ok (.bipush 6, 2) := dk_16 6 (dk_at dksX2_isWide_0 16 rfl rfl)
theorem dX2_isWide_18 : decode cX2_isWide 18 = .ok (.if_icmp .le 20, 3) := dk_164 0 20 (dk_at dksX2_isWide_0 18 rfl rfl)
theorem dX2_isWide_21 : decode cX2_isWide 21 = .ok (.lload_n 2, 1) := dk_32 (dk_at dksX2_isWide_0 21 rfl rfl)
theorem dX2_isWide_22 : decode cX2_isWide 22 = .ok (.aload_n 0, 1) := dk_42 (dk_at dksX2_isWide_0 22 rfl rfl)
theorem dX2_isWide_23 : decode cX2_isWide 23 = .ok (.getfield 181, 3) := dk_180 0 181 (dk_at dksX2_isWide_1 0 rfl rfl)
theorem dX2_isWide_26 : decode cX2_isWide 26 = .ok (.iload_n 1, 1) := dk_27 (dk_at dksX2_isWide_1 3 rfl rfl)
theorem dX2_isWide_27 : decode cX2_isWide 27 = .ok (.iaload, 1) := dk_46 (dk_at dksX2_isWide_1 4 rfl rfl)
theorem dX2_isWide_28 : decode cX2_isWide 28 = .ok (.lshr, 1) := dk_123 (dk_at dksX2_isWide_1 5 rfl rfl)
theorem dX2_isWide_29 : decode cX2_isWide 29 = .ok (.lconst 1, 1) := dk_10 (dk_at dksX2_isWide_1 6 rfl rfl)
theorem dX2_isWide_30 : decode cX2_isWide 30 = .ok (.land, 1) := dk_127 (dk_at dksX2_isWide_1 7 rfl rfl)
theorem dX2_isWide_31 : decode cX2_isWide 31 = .ok (.lconst 1, 1) := dk_10 (dk_at dksX2_isWide_1 8 rfl rfl)
theorem dX2_isWide_32 : decode cX2_isWide 32 = .ok (.lcmp, 1) := dk_148 (dk_at dksX2_isWide_1 9 rfl rfl)
theorem dX2_isWide_33 : decode cX2_isWide 33 = .ok (.ifCond .ne 5, 3) := dk_154 0 5 (dk_at dksX2_isWide_1 10 rfl rfl)
theorem dX2_isWide_36 : decode cX2_isWide 36 = .ok (.iconst 1, 1) := dk_4 (dk_at dksX2_isWide_1 13 rfl rfl)
theorem dX2_isWide_37 : decode cX2_isWide 37 = .ok (.ireturn, 1) := dk_172 (dk_at dksX2_isWide_1 14 rfl rfl)
theorem dX2_isWide_38 : decode cX2_isWide 38 = .ok (.iconst 0, 1) := dk_3 (dk_at dksX2_isWide_1 15 rfl rfl)
theorem dX2_isWide_39 : decode cX2_isWide 39 = .ok (.istore 4, 2) := dk_54 4 (dk_at dksX2_isWide_1 16 rfl rfl)
theorem dX2_isWide_41 : decode cX2_isWide 41 = .ok (.iload 4, 2) := dk_21 4 (dk_at dksX2_isWide_1 18 rfl rfl)
theorem dX2_isWide_43 : decode cX2_isWide 43 = .ok (.aload_n 0, 1) := dk_42 (dk_at dksX2_isWide_1 20 rfl rfl)
theorem dX2_isWide_44 : decode cX2_isWide 44 = .ok (.getfield 187, 3) := dk_180 0 187 (dk_at dksX2_isWide_1 21 rfl rfl)
theorem dX2_isWide_47 : decode cX2_isWide 47 = .ok (.iload_n 1, 1) := dk_27 (dk_at dksX2_isWide_2 0 rfl rfl)
theorem dX2_isWide_48 : decode cX2_isWide 48 = .ok (.iaload, 1) := dk_46 (dk_at dksX2_isWide_2 1 rfl rfl)
theorem dX2_isWide_49 : decode cX2_isWide 49 = .ok (.if_icmp .ge 26, 3) := dk_162 0 26 (dk_at dksX2_isWide_2 2 rfl rfl)
theorem dX2_isWide_52 : decode cX2_isWide 52 = .ok (.aload_n 0, 1) := dk_42 (dk_at dksX2_isWide_2 5 rfl rfl)
theorem dX2_isWide_53 : decode cX2_isWide 53 = .ok (.aload_n 0, 1) := dk_42 (dk_at dksX2_isWide_2 6 rfl rfl)
theorem dX2_isWide_54 : decode cX2_isWide 54 = .ok (.iload_n 1, 1) := dk_27 (dk_at dksX2_isWide_2 7 rfl rfl)
theorem dX2_isWide_55 : decode cX2_isWide 55 = .ok (.iload 4, 2) := dk_21 4 (dk_at dksX2_isWide_2 8 rfl rfl)
theorem dX2_isWide_57 : decode cX2_isWide 57 = .ok (.invokevirtual 691, 3) := dk_182 2 179 (dk_at dksX2_isWide_2 10 rfl rfl)
theorem dX2_isWide_60 : decode cX2_isWide 60 = .ok (.lload_n 2, 1) := dk_32 (dk_at dksX2_isWide_2 13 rfl rfl)
theorem dX2_isWide_61 : decode cX2_isWide 61 = .ok (.invokestatic 937, 3) := dk_184 3 169 (dk_at dksX2_isWide_2 14 rfl rfl)
theorem dX2_isWide_64 : decode cX2_isWide 64 = .ok (.ifCond .eq 5, 3) := dk_153 0 5 (dk_at dksX2_isWide_2 17 rfl rfl)
theorem dX2_isWide_67 : decode cX2_isWide 67 = .ok (.iconst 1, 1) := dk_4 (dk_at dksX2_isWide_2 20 rfl rfl)
theorem dX2_isWide_68 : decode cX2_isWide 68 = .ok (.ireturn, 1) := dk_172 (dk_at dksX2_isWide_2 21 rfl rfl)
theorem dX2_isWide_69 : decode cX2_isWide 69 = .ok (.iinc 4 1, 3) := dk_132 4 1 (dk_at dksX2_isWide_3 0 rfl rfl)
theorem dX2_isWide_72 : decode cX2_isWide 72 = .ok (.goto (-31), 3) := dk_167 255 225 (dk_at dksX2_isWide_3 3 rfl rfl)
theorem dX2_isWide_75 : decode cX2_isWide 75 = .ok (.iconst 0, 1) := dk_3 (dk_at dksX2_isWide_3 6 rfl rfl)
theorem dX2_isWide_76 : decode cX2_isWide 76 = .ok (.ireturn, 1) := dk_172 (dk_at dksX2_isWide_3 7 rfl rfl)
abbrev cX2_dealsOf : ByteArray := prog_4_method_126_code
def yX2_dealsOf : MethodName := ⟨RX2, "dealsOf", "(LRewriteHouseModel;II)J"⟩
def dkwX2_dealsOf_8 : List UInt8 := [22, 4, 173]
abbrev dktX2_dealsOf_8 : List UInt8 := dkwX2_dealsOf_8 ++ []
def dkwX2_dealsOf_7 : List UInt8 := [55, 4, 132, 7, 1, 167, 255, 216, 22, 4, 20, 3, 176, 148, 158, 0, 9, 20, 3, 182, 167, 0, 5]
abbrev dktX2_dealsOf_7 : List UInt8 := dkwX2_dealsOf_7 ++ dktX2_dealsOf_8
def dkwX2_dealsOf_6 : List UInt8 := [22, 4, 20, 3, 176, 148, 157, 0, 26, 22, 4, 42, 42, 27, 21, 7, 182, 2, 179, 28, 184, 3, 178, 105]
abbrev dktX2_dealsOf_6 : List UInt8 := dkwX2_dealsOf_6 ++ dktX2_dealsOf_7
def dkwX2_dealsOf_5 : List UInt8 := [133, 109, 55, 4, 132, 7, 1, 167, 255, 201, 3, 54, 7, 21, 7, 42, 180, 0, 187, 27, 46, 162, 0, 35]
abbrev dktX2_dealsOf_5 : List UInt8 := dkwX2_dealsOf_5 ++ dktX2_dealsOf_6
def dkwX2_dealsOf_4 : List UInt8 := [4, 96, 133, 105, 167, 0, 22, 22, 4, 42, 180, 0, 187, 27, 46, 4, 96, 21, 7, 96, 133, 105, 21, 7]
abbrev dktX2_dealsOf_4 : List UInt8 := dkwX2_dealsOf_4 ++ dktX2_dealsOf_5
def dkwX2_dealsOf_3 : List UInt8 := [21, 7, 21, 6, 163, 0, 54, 42, 180, 0, 171, 29, 51, 153, 0, 18, 22, 4, 42, 180, 0, 187, 27, 46]
abbrev dktX2_dealsOf_3 : List UInt8 := dkwX2_dealsOf_3 ++ dktX2_dealsOf_4
def dkwX2_dealsOf_2 : List UInt8 := [180, 0, 168, 29, 51, 153, 0, 12, 42, 29, 28, 184, 3, 173, 167, 0, 4, 3, 54, 6, 4, 54, 7]
abbrev dktX2_dealsOf_2 : List UInt8 := dkwX2_dealsOf_2 ++ dktX2_dealsOf_3
def dkwX2_dealsOf_1 : List UInt8 := [153, 0, 18, 42, 180, 0, 168, 29, 51, 154, 0, 9, 20, 2, 55, 167, 0, 4, 10, 55, 4, 42]
abbrev dktX2_dealsOf_1 : List UInt8 := dkwX2_dealsOf_1 ++ dktX2_dealsOf_2
def dkwX2_dealsOf_0 : List UInt8 := [42, 27, 182, 2, 185, 153, 0, 5, 10, 173, 42, 180, 0, 181, 27, 46, 62, 42, 180, 0, 171, 29, 51]
abbrev dktX2_dealsOf_0 : List UInt8 := dkwX2_dealsOf_0 ++ dktX2_dealsOf_1
theorem dksX2_dealsOf_0 : cX2_dealsOf.data.toList.drop 0 = dktX2_dealsOf_0 := by decide +kernel
theorem dksX2_dealsOf_1 : cX2_dealsOf.data.toList.drop 23 = dktX2_dealsOf_1 := dk_seg dksX2_dealsOf_0 23 rfl rfl
theorem dksX2_dealsOf_2 : cX2_dealsOf.data.toList.drop 45 = dktX2_dealsOf_2 := dk_seg dksX2_dealsOf_1 22 rfl rfl
theorem dksX2_dealsOf_3 : cX2_dealsOf.data.toList.drop 68 = dktX2_dealsOf_3 := dk_seg dksX2_dealsOf_2 23 rfl rfl
theorem dksX2_dealsOf_4 : cX2_dealsOf.data.toList.drop 92 = dktX2_dealsOf_4 := dk_seg dksX2_dealsOf_3 24 rfl rfl
theorem dksX2_dealsOf_5 : cX2_dealsOf.data.toList.drop 116 = dktX2_dealsOf_5 := dk_seg dksX2_dealsOf_4 24 rfl rfl
theorem dksX2_dealsOf_6 : cX2_dealsOf.data.toList.drop 140 = dktX2_dealsOf_6 := dk_seg dksX2_dealsOf_5 24 rfl rfl
theorem dksX2_dealsOf_7 : cX2_dealsOf.data.toList.drop 164 = dktX2_dealsOf_7 := dk_seg dksX2_dealsOf_6 24 rfl rfl
theorem dksX2_dealsOf_8 : cX2_dealsOf.data.toList.drop 187 = dktX2_dealsOf_8 := dk_seg dksX2_dealsOf_7 23 rfl rfl
theorem dX2_dealsOf_0 : decode cX2_dealsOf 0 = .ok (.aload_n 0, 1) := dk_42 (dk_at dksX2_dealsOf_0 0 rfl rfl)
theorem dX2_dealsOf_1 : decode cX2_dealsOf 1 = .ok (.iload_n 1, 1) := dk_27 (dk_at dksX2_dealsOf_0 1 rfl rfl)
theorem dX2_dealsOf_2 : decode cX2_dealsOf 2 = .ok (.invokevirtual 697, 3) := dk_182 2 185 (dk_at dksX2_dealsOf_0 2 rfl rfl)
theorem dX2_dealsOf_5 : decode cX2_dealsOf 5 = .ok (.ifCond .eq 5, 3) := dk_153 0 5 (dk_at dksX2_dealsOf_0 5 rfl rfl)
theorem dX2_dealsOf_8 : decode cX2_dealsOf 8 = .ok (.lconst 1, 1) := dk_10 (dk_at dksX2_dealsOf_0 8 rfl rfl)
theorem dX2_dealsOf_9 : decode cX2_dealsOf 9 = .ok (.lreturn, 1) := dk_173 (dk_at dksX2_dealsOf_0 9 rfl rfl)
theorem dX2_dealsOf_10 : decode cX2_dealsOf 10 = .ok (.aload_n 0, 1) := dk_42 (dk_at dksX2_dealsOf_0 10 rfl rfl)
theorem dX2_dealsOf_11 : decode cX2_dealsOf 11 = .ok (.getfield 181, 3) := dk_180 0 181 (dk_at dksX2_dealsOf_0 11 rfl rfl)
theorem dX2_dealsOf_14 : decode cX2_dealsOf 14 = .ok (.iload_n 1, 1) := dk_27 (dk_at dksX2_dealsOf_0 14 rfl rfl)
theorem dX2_dealsOf_15 : decode cX2_dealsOf 15 = .ok (.iaload, 1) := dk_46 (dk_at dksX2_dealsOf_0 15 rfl rfl)
theorem dX2_dealsOf_16 : decode cX2_dealsOf 16 = .ok (.istore_n 3, 1) := dk_62 (dk_at dksX2_dealsOf_0 16 rfl rfl)
theorem dX2_dealsOf_17 : decode cX2_dealsOf 17 = .ok (.aload_n 0, 1) := dk_42 (dk_at dksX2_dealsOf_0 17 rfl rfl)
theorem dX2_dealsOf_18 : decode cX2_dealsOf 18 = .ok (.getfield 171, 3) := dk_180 0 171 (dk_at dksX2_dealsOf_0 18 rfl rfl)
theorem dX2_dealsOf_21 : decode cX2_dealsOf 21 = .ok (.iload_n 3, 1) := dk_29 (dk_at dksX2_dealsOf_0 21 rfl rfl)
theorem dX2_dealsOf_22 : decode cX2_dealsOf 22 = .ok (.baload, 1) := dk_51 (dk_at dksX2_dealsOf_0 22 rfl rfl)
theorem dX2_dealsOf_23 : decode cX2_dealsOf 23 = .ok (.ifCond .eq 18, 3) := dk_153 0 18 (dk_at dksX2_dealsOf_1 0 rfl rfl)
theorem dX2_dealsOf_26 : decode cX2_dealsOf 26 = .ok (.aload_n 0, 1) := dk_42 (dk_at dksX2_dealsOf_1 3 rfl rfl)
theorem dX2_dealsOf_27 : decode cX2_dealsOf 27 = .ok (.getfield 168, 3) := dk_180 0 168 (dk_at dksX2_dealsOf_1 4 rfl rfl)
theorem dX2_dealsOf_30 : decode cX2_dealsOf 30 = .ok (.iload_n 3, 1) := dk_29 (dk_at dksX2_dealsOf_1 7 rfl rfl)
theorem dX2_dealsOf_31 : decode cX2_dealsOf 31 = .ok (.baload, 1) := dk_51 (dk_at dksX2_dealsOf_1 8 rfl rfl)
theorem dX2_dealsOf_32 : decode cX2_dealsOf 32 = .ok (.ifCond .ne 9, 3) := dk_154 0 9 (dk_at dksX2_dealsOf_1 9 rfl rfl)
theorem dX2_dealsOf_35 : decode cX2_dealsOf 35 = .ok (.ldc2_w 567, 3) := dk_20 2 55 (dk_at dksX2_dealsOf_1 12 rfl rfl)
theorem dX2_dealsOf_38 : decode cX2_dealsOf 38 = .ok (.goto 4, 3) := dk_167 0 4 (dk_at dksX2_dealsOf_1 15 rfl rfl)
theorem dX2_dealsOf_41 : decode cX2_dealsOf 41 = .ok (.lconst 1, 1) := dk_10 (dk_at dksX2_dealsOf_1 18 rfl rfl)
theorem dX2_dealsOf_42 : decode cX2_dealsOf 42 = .ok (.lstore 4, 2) := dk_55 4 (dk_at dksX2_dealsOf_1 19 rfl rfl)
theorem dX2_dealsOf_44 : decode cX2_dealsOf 44 = .ok (.aload_n 0, 1) := dk_42 (dk_at dksX2_dealsOf_1 21 rfl rfl)
theorem dX2_dealsOf_45 : decode cX2_dealsOf 45 = .ok (.getfield 168, 3) := dk_180 0 168 (dk_at dksX2_dealsOf_2 0 rfl rfl)
theorem dX2_dealsOf_48 : decode cX2_dealsOf 48 = .ok (.iload_n 3, 1) := dk_29 (dk_at dksX2_dealsOf_2 3 rfl rfl)
theorem dX2_dealsOf_49 : decode cX2_dealsOf 49 = .ok (.baload, 1) := dk_51 (dk_at dksX2_dealsOf_2 4 rfl rfl)
theorem dX2_dealsOf_50 : decode cX2_dealsOf 50 = .ok (.ifCond .eq 12, 3) := dk_153 0 12 (dk_at dksX2_dealsOf_2 5 rfl rfl)
theorem dX2_dealsOf_53 : decode cX2_dealsOf 53 = .ok (.aload_n 0, 1) := dk_42 (dk_at dksX2_dealsOf_2 8 rfl rfl)
theorem dX2_dealsOf_54 : decode cX2_dealsOf 54 = .ok (.iload_n 3, 1) := dk_29 (dk_at dksX2_dealsOf_2 9 rfl rfl)
theorem dX2_dealsOf_55 : decode cX2_dealsOf 55 = .ok (.iload_n 2, 1) := dk_28 (dk_at dksX2_dealsOf_2 10 rfl rfl)
theorem dX2_dealsOf_56 : decode cX2_dealsOf 56 = .ok (.invokestatic 941, 3) := dk_184 3 173 (dk_at dksX2_dealsOf_2 11 rfl rfl)
theorem dX2_dealsOf_59 : decode cX2_dealsOf 59 = .ok (.goto 4, 3) := dk_167 0 4 (dk_at dksX2_dealsOf_2 14 rfl rfl)
theorem dX2_dealsOf_62 : decode cX2_dealsOf 62 = .ok (.iconst 0, 1) := dk_3 (dk_at dksX2_dealsOf_2 17 rfl rfl)
theorem dX2_dealsOf_63 : decode cX2_dealsOf 63 = .ok (.istore 6, 2) := dk_54 6 (dk_at dksX2_dealsOf_2 18 rfl rfl)
theorem dX2_dealsOf_65 : decode cX2_dealsOf 65 = .ok (.iconst 1, 1) := dk_4 (dk_at dksX2_dealsOf_2 20 rfl rfl)
theorem dX2_dealsOf_66 : decode cX2_dealsOf 66 = .ok (.istore 7, 2) := dk_54 7 (dk_at dksX2_dealsOf_2 21 rfl rfl)
theorem dX2_dealsOf_68 : decode cX2_dealsOf 68 = .ok (.iload 7, 2) := dk_21 7 (dk_at dksX2_dealsOf_3 0 rfl rfl)
theorem dX2_dealsOf_70 : decode cX2_dealsOf 70 = .ok (.iload 6, 2) := dk_21 6 (dk_at dksX2_dealsOf_3 2 rfl rfl)
theorem dX2_dealsOf_72 : decode cX2_dealsOf 72 = .ok (.if_icmp .gt 54, 3) := dk_163 0 54 (dk_at dksX2_dealsOf_3 4 rfl rfl)
theorem dX2_dealsOf_75 : decode cX2_dealsOf 75 = .ok (.aload_n 0, 1) := dk_42 (dk_at dksX2_dealsOf_3 7 rfl rfl)
theorem dX2_dealsOf_76 : decode cX2_dealsOf 76 = .ok (.getfield 171, 3) := dk_180 0 171 (dk_at dksX2_dealsOf_3 8 rfl rfl)
theorem dX2_dealsOf_79 : decode cX2_dealsOf 79 = .ok (.iload_n 3, 1) := dk_29 (dk_at dksX2_dealsOf_3 11 rfl rfl)
theorem dX2_dealsOf_80 : decode cX2_dealsOf 80 = .ok (.baload, 1) := dk_51 (dk_at dksX2_dealsOf_3 12 rfl rfl)
theorem dX2_dealsOf_81 : decode cX2_dealsOf 81 = .ok (.ifCond .eq 18, 3) := dk_153 0 18 (dk_at dksX2_dealsOf_3 13 rfl rfl)
theorem dX2_dealsOf_84 : decode cX2_dealsOf 84 = .ok (.lload 4, 2) := dk_22 4 (dk_at dksX2_dealsOf_3 16 rfl rfl)
theorem dX2_dealsOf_86 : decode cX2_dealsOf 86 = .ok (.aload_n 0, 1) := dk_42 (dk_at dksX2_dealsOf_3 18 rfl rfl)
theorem dX2_dealsOf_87 : decode cX2_dealsOf 87 = .ok (.getfield 187, 3) := dk_180 0 187 (dk_at dksX2_dealsOf_3 19 rfl rfl)
theorem dX2_dealsOf_90 : decode cX2_dealsOf 90 = .ok (.iload_n 1, 1) := dk_27 (dk_at dksX2_dealsOf_3 22 rfl rfl)
theorem dX2_dealsOf_91 : decode cX2_dealsOf 91 = .ok (.iaload, 1) := dk_46 (dk_at dksX2_dealsOf_3 23 rfl rfl)
theorem dX2_dealsOf_92 : decode cX2_dealsOf 92 = .ok (.iconst 1, 1) := dk_4 (dk_at dksX2_dealsOf_4 0 rfl rfl)
theorem dX2_dealsOf_93 : decode cX2_dealsOf 93 = .ok (.iadd, 1) := dk_96 (dk_at dksX2_dealsOf_4 1 rfl rfl)
theorem dX2_dealsOf_94 : decode cX2_dealsOf 94 = .ok (.i2l, 1) := dk_133 (dk_at dksX2_dealsOf_4 2 rfl rfl)
theorem dX2_dealsOf_95 : decode cX2_dealsOf 95 = .ok (.lmul, 1) := dk_105 (dk_at dksX2_dealsOf_4 3 rfl rfl)
theorem dX2_dealsOf_96 : decode cX2_dealsOf 96 = .ok (.goto 22, 3) := dk_167 0 22 (dk_at dksX2_dealsOf_4 4 rfl rfl)
theorem dX2_dealsOf_99 : decode cX2_dealsOf 99 = .ok (.lload 4, 2) := dk_22 4 (dk_at dksX2_dealsOf_4 7 rfl rfl)
theorem dX2_dealsOf_101 : decode cX2_dealsOf 101 = .ok (.aload_n 0, 1) := dk_42 (dk_at dksX2_dealsOf_4 9 rfl rfl)
theorem dX2_dealsOf_102 : decode cX2_dealsOf 102 = .ok (.getfield 187, 3) := dk_180 0 187 (dk_at dksX2_dealsOf_4 10 rfl rfl)
theorem dX2_dealsOf_105 : decode cX2_dealsOf 105 = .ok (.iload_n 1, 1) := dk_27 (dk_at dksX2_dealsOf_4 13 rfl rfl)
theorem dX2_dealsOf_106 : decode cX2_dealsOf 106 = .ok (.iaload, 1) := dk_46 (dk_at dksX2_dealsOf_4 14 rfl rfl)
theorem dX2_dealsOf_107 : decode cX2_dealsOf 107 = .ok (.iconst 1, 1) := dk_4 (dk_at dksX2_dealsOf_4 15 rfl rfl)
theorem dX2_dealsOf_108 : decode cX2_dealsOf 108 = .ok (.iadd, 1) := dk_96 (dk_at dksX2_dealsOf_4 16 rfl rfl)
theorem dX2_dealsOf_109 : decode cX2_dealsOf 109 = .ok (.iload 7, 2) := dk_21 7 (dk_at dksX2_dealsOf_4 17 rfl rfl)
theorem dX2_dealsOf_111 : decode cX2_dealsOf 111 = .ok (.iadd, 1) := dk_96 (dk_at dksX2_dealsOf_4 19 rfl rfl)
theorem dX2_dealsOf_112 : decode cX2_dealsOf 112 = .ok (.i2l, 1) := dk_133 (dk_at dksX2_dealsOf_4 20 rfl rfl)
theorem dX2_dealsOf_113 : decode cX2_dealsOf 113 = .ok (.lmul, 1) := dk_105 (dk_at dksX2_dealsOf_4 21 rfl rfl)
theorem dX2_dealsOf_114 : decode cX2_dealsOf 114 = .ok (.iload 7, 2) := dk_21 7 (dk_at dksX2_dealsOf_4 22 rfl rfl)
theorem dX2_dealsOf_116 : decode cX2_dealsOf 116 = .ok (.i2l, 1) := dk_133 (dk_at dksX2_dealsOf_5 0 rfl rfl)
theorem dX2_dealsOf_117 : decode cX2_dealsOf 117 = .ok (.ldiv, 1) := dk_109 (dk_at dksX2_dealsOf_5 1 rfl rfl)
theorem dX2_dealsOf_118 : decode cX2_dealsOf 118 = .ok (.lstore 4, 2) := dk_55 4 (dk_at dksX2_dealsOf_5 2 rfl rfl)
theorem dX2_dealsOf_120 : decode cX2_dealsOf 120 = .ok (.iinc 7 1, 3) := dk_132 7 1 (dk_at dksX2_dealsOf_5 4 rfl rfl)
theorem dX2_dealsOf_123 : decode cX2_dealsOf 123 = .ok (.goto (-55), 3) := dk_167 255 201 (dk_at dksX2_dealsOf_5 7 rfl rfl)
theorem dX2_dealsOf_126 : decode cX2_dealsOf 126 = .ok (.iconst 0, 1) := dk_3 (dk_at dksX2_dealsOf_5 10 rfl rfl)
theorem dX2_dealsOf_127 : decode cX2_dealsOf 127 = .ok (.istore 7, 2) := dk_54 7 (dk_at dksX2_dealsOf_5 11 rfl rfl)
theorem dX2_dealsOf_129 : decode cX2_dealsOf 129 = .ok (.iload 7, 2) := dk_21 7 (dk_at dksX2_dealsOf_5 13 rfl rfl)
theorem dX2_dealsOf_131 : decode cX2_dealsOf 131 = .ok (.aload_n 0, 1) := dk_42 (dk_at dksX2_dealsOf_5 15 rfl rfl)
theorem dX2_dealsOf_132 : decode cX2_dealsOf 132 = .ok (.getfield 187, 3) := dk_180 0 187 (dk_at dksX2_dealsOf_5 16 rfl rfl)
theorem dX2_dealsOf_135 : decode cX2_dealsOf 135 = .ok (.iload_n 1, 1) := dk_27 (dk_at dksX2_dealsOf_5 19 rfl rfl)
theorem dX2_dealsOf_136 : decode cX2_dealsOf 136 = .ok (.iaload, 1) := dk_46 (dk_at dksX2_dealsOf_5 20 rfl rfl)
theorem dX2_dealsOf_137 : decode cX2_dealsOf 137 = .ok (.if_icmp .ge 35, 3) := dk_162 0 35 (dk_at dksX2_dealsOf_5 21 rfl rfl)
theorem dX2_dealsOf_140 : decode cX2_dealsOf 140 = .ok (.lload 4, 2) := dk_22 4 (dk_at dksX2_dealsOf_6 0 rfl rfl)
theorem dX2_dealsOf_142 : decode cX2_dealsOf 142 = .ok (.ldc2_w 944, 3) := dk_20 3 176 (dk_at dksX2_dealsOf_6 2 rfl rfl)
theorem dX2_dealsOf_145 : decode cX2_dealsOf 145 = .ok (.lcmp, 1) := dk_148 (dk_at dksX2_dealsOf_6 5 rfl rfl)
theorem dX2_dealsOf_146 : decode cX2_dealsOf 146 = .ok (.ifCond .gt 26, 3) := dk_157 0 26 (dk_at dksX2_dealsOf_6 6 rfl rfl)
theorem dX2_dealsOf_149 : decode cX2_dealsOf 149 = .ok (.lload 4, 2) := dk_22 4 (dk_at dksX2_dealsOf_6 9 rfl rfl)
theorem dX2_dealsOf_151 : decode cX2_dealsOf 151 = .ok (.aload_n 0, 1) := dk_42 (dk_at dksX2_dealsOf_6 11 rfl rfl)
theorem dX2_dealsOf_152 : decode cX2_dealsOf 152 = .ok (.aload_n 0, 1) := dk_42 (dk_at dksX2_dealsOf_6 12 rfl rfl)
theorem dX2_dealsOf_153 : decode cX2_dealsOf 153 = .ok (.iload_n 1, 1) := dk_27 (dk_at dksX2_dealsOf_6 13 rfl rfl)
theorem dX2_dealsOf_154 : decode cX2_dealsOf 154 = .ok (.iload 7, 2) := dk_21 7 (dk_at dksX2_dealsOf_6 14 rfl rfl)
theorem dX2_dealsOf_156 : decode cX2_dealsOf 156 = .ok (.invokevirtual 691, 3) := dk_182 2 179 (dk_at dksX2_dealsOf_6 16 rfl rfl)
theorem dX2_dealsOf_159 : decode cX2_dealsOf 159 = .ok (.iload_n 2, 1) := dk_28 (dk_at dksX2_dealsOf_6 19 rfl rfl)
theorem dX2_dealsOf_160 : decode cX2_dealsOf 160 = .ok (.invokestatic 946, 3) := dk_184 3 178 (dk_at dksX2_dealsOf_6 20 rfl rfl)
theorem dX2_dealsOf_163 : decode cX2_dealsOf 163 = .ok (.lmul, 1) := dk_105 (dk_at dksX2_dealsOf_6 23 rfl rfl)
theorem dX2_dealsOf_164 : decode cX2_dealsOf 164 = .ok (.lstore 4, 2) := dk_55 4 (dk_at dksX2_dealsOf_7 0 rfl rfl)
theorem dX2_dealsOf_166 : decode cX2_dealsOf 166 = .ok (.iinc 7 1, 3) := dk_132 7 1 (dk_at dksX2_dealsOf_7 2 rfl rfl)
theorem dX2_dealsOf_169 : decode cX2_dealsOf 169 = .ok (.goto (-40), 3) := dk_167 255 216 (dk_at dksX2_dealsOf_7 5 rfl rfl)
theorem dX2_dealsOf_172 : decode cX2_dealsOf 172 = .ok (.lload 4, 2) := dk_22 4 (dk_at dksX2_dealsOf_7 8 rfl rfl)
theorem dX2_dealsOf_174 : decode cX2_dealsOf 174 = .ok (.ldc2_w 944, 3) := dk_20 3 176 (dk_at dksX2_dealsOf_7 10 rfl rfl)
theorem dX2_dealsOf_177 : decode cX2_dealsOf 177 = .ok (.lcmp, 1) := dk_148 (dk_at dksX2_dealsOf_7 13 rfl rfl)
theorem dX2_dealsOf_178 : decode cX2_dealsOf 178 = .ok (.ifCond .le 9, 3) := dk_158 0 9 (dk_at dksX2_dealsOf_7 14 rfl rfl)
theorem dX2_dealsOf_181 : decode cX2_dealsOf 181 = .ok (.ldc2_w 950, 3) := dk_20 3 182 (dk_at dksX2_dealsOf_7 17 rfl rfl)
theorem dX2_dealsOf_184 : decode cX2_dealsOf 184 = .ok (.goto 5, 3) := dk_167 0 5 (dk_at dksX2_dealsOf_7 20 rfl rfl)
theorem dX2_dealsOf_187 : decode cX2_dealsOf 187 = .ok (.lload 4, 2) := dk_22 4 (dk_at dksX2_dealsOf_8 0 rfl rfl)
theorem dX2_dealsOf_189 : decode cX2_dealsOf 189 = .ok (.lreturn, 1) := dk_173 (dk_at dksX2_dealsOf_8 2 rfl rfl)
abbrev cX2_longest : ByteArray := prog_4_method_125_code
def yX2_longest : MethodName := ⟨RX2, "longest", "(LRewriteHouseModel;II)I"⟩
def dkwX2_longest_3 : List UInt8 := [29, 164, 0, 8, 21, 5, 167, 0, 4, 29, 62, 132, 4, 1, 167, 255, 215, 29, 172]
abbrev dktX2_longest_3 : List UInt8 := dkwX2_longest_3 ++ []
def dkwX2_longest_2 : List UInt8 := [180, 0, 187, 28, 46, 162, 0, 36, 42, 27, 42, 28, 21, 4, 182, 2, 179, 184, 3, 173, 54, 5, 21, 5]
abbrev dktX2_longest_2 : List UInt8 := dkwX2_longest_2 ++ dktX2_longest_3
def dkwX2_longest_1 : List UInt8 := [28, 46, 4, 164, 0, 12, 42, 180, 0, 187, 28, 46, 167, 0, 4, 4, 62, 3, 54, 4, 21, 4, 42]
abbrev dktX2_longest_1 : List UInt8 := dkwX2_longest_1 ++ dktX2_longest_2
def dkwX2_longest_0 : List UInt8 := [42, 28, 182, 2, 185, 153, 0, 5, 4, 172, 42, 180, 0, 181, 28, 46, 27, 160, 0, 22, 42, 180, 0, 187]
abbrev dktX2_longest_0 : List UInt8 := dkwX2_longest_0 ++ dktX2_longest_1
theorem dksX2_longest_0 : cX2_longest.data.toList.drop 0 = dktX2_longest_0 := by decide +kernel
theorem dksX2_longest_1 : cX2_longest.data.toList.drop 24 = dktX2_longest_1 := dk_seg dksX2_longest_0 24 rfl rfl
theorem dksX2_longest_2 : cX2_longest.data.toList.drop 47 = dktX2_longest_2 := dk_seg dksX2_longest_1 23 rfl rfl
theorem dksX2_longest_3 : cX2_longest.data.toList.drop 71 = dktX2_longest_3 := dk_seg dksX2_longest_2 24 rfl rfl
theorem dX2_longest_0 : decode cX2_longest 0 = .ok (.aload_n 0, 1) := dk_42 (dk_at dksX2_longest_0 0 rfl rfl)
theorem dX2_longest_1 : decode cX2_longest 1 = .ok (.iload_n 2, 1) := dk_28 (dk_at dksX2_longest_0 1 rfl rfl)
theorem dX2_longest_2 : decode cX2_longest 2 = .ok (.invokevirtual 697, 3) := dk_182 2 185 (dk_at dksX2_longest_0 2 rfl rfl)
theorem dX2_longest_5 : decode cX2_longest 5 = .ok (.ifCond .eq 5, 3) := dk_153 0 5 (dk_at dksX2_longest_0 5 rfl rfl)
theorem dX2_longest_8 : decode cX2_longest 8 = .ok (.iconst 1, 1) := dk_4 (dk_at dksX2_longest_0 8 rfl rfl)
theorem dX2_longest_9 : decode cX2_longest 9 = .ok (.ireturn, 1) := dk_172 (dk_at dksX2_longest_0 9 rfl rfl)
theorem dX2_longest_10 : decode cX2_longest 10 = .ok (.aload_n 0, 1) := dk_42 (dk_at dksX2_longest_0 10 rfl rfl)
theorem dX2_longest_11 : decode cX2_longest 11 = .ok (.getfield 181, 3) := dk_180 0 181 (dk_at dksX2_longest_0 11 rfl rfl)
theorem dX2_longest_14 : decode cX2_longest 14 = .ok (.iload_n 2, 1) := dk_28 (dk_at dksX2_longest_0 14 rfl rfl)
theorem dX2_longest_15 : decode cX2_longest 15 = .ok (.iaload, 1) := dk_46 (dk_at dksX2_longest_0 15 rfl rfl)
theorem dX2_longest_16 : decode cX2_longest 16 = .ok (.iload_n 1, 1) := dk_27 (dk_at dksX2_longest_0 16 rfl rfl)
theorem dX2_longest_17 : decode cX2_longest 17 = .ok (.if_icmp .ne 22, 3) := dk_160 0 22 (dk_at dksX2_longest_0 17 rfl rfl)
theorem dX2_longest_20 : decode cX2_longest 20 = .ok (.aload_n 0, 1) := dk_42 (dk_at dksX2_longest_0 20 rfl rfl)
theorem dX2_longest_21 : decode cX2_longest 21 = .ok (.getfield 187, 3) := dk_180 0 187 (dk_at dksX2_longest_0 21 rfl rfl)
theorem dX2_longest_24 : decode cX2_longest 24 = .ok (.iload_n 2, 1) := dk_28 (dk_at dksX2_longest_1 0 rfl rfl)
theorem dX2_longest_25 : decode cX2_longest 25 = .ok (.iaload, 1) := dk_46 (dk_at dksX2_longest_1 1 rfl rfl)
theorem dX2_longest_26 : decode cX2_longest 26 = .ok (.iconst 1, 1) := dk_4 (dk_at dksX2_longest_1 2 rfl rfl)
theorem dX2_longest_27 : decode cX2_longest 27 = .ok (.if_icmp .le 12, 3) := dk_164 0 12 (dk_at dksX2_longest_1 3 rfl rfl)
theorem dX2_longest_30 : decode cX2_longest 30 = .ok (.aload_n 0, 1) := dk_42 (dk_at dksX2_longest_1 6 rfl rfl)
theorem dX2_longest_31 : decode cX2_longest 31 = .ok (.getfield 187, 3) := dk_180 0 187 (dk_at dksX2_longest_1 7 rfl rfl)
theorem dX2_longest_34 : decode cX2_longest 34 = .ok (.iload_n 2, 1) := dk_28 (dk_at dksX2_longest_1 10 rfl rfl)
theorem dX2_longest_35 : decode cX2_longest 35 = .ok (.iaload, 1) := dk_46 (dk_at dksX2_longest_1 11 rfl rfl)
theorem dX2_longest_36 : decode cX2_longest 36 = .ok (.goto 4, 3) := dk_167 0 4 (dk_at dksX2_longest_1 12 rfl rfl)
theorem dX2_longest_39 : decode cX2_longest 39 = .ok (.iconst 1, 1) := dk_4 (dk_at dksX2_longest_1 15 rfl rfl)
theorem dX2_longest_40 : decode cX2_longest 40 = .ok (.istore_n 3, 1) := dk_62 (dk_at dksX2_longest_1 16 rfl rfl)
theorem dX2_longest_41 : decode cX2_longest 41 = .ok (.iconst 0, 1) := dk_3 (dk_at dksX2_longest_1 17 rfl rfl)
theorem dX2_longest_42 : decode cX2_longest 42 = .ok (.istore 4, 2) := dk_54 4 (dk_at dksX2_longest_1 18 rfl rfl)
theorem dX2_longest_44 : decode cX2_longest 44 = .ok (.iload 4, 2) := dk_21 4 (dk_at dksX2_longest_1 20 rfl rfl)
theorem dX2_longest_46 : decode cX2_longest 46 = .ok (.aload_n 0, 1) := dk_42 (dk_at dksX2_longest_1 22 rfl rfl)
theorem dX2_longest_47 : decode cX2_longest 47 = .ok (.getfield 187, 3) := dk_180 0 187 (dk_at dksX2_longest_2 0 rfl rfl)
theorem dX2_longest_50 : decode cX2_longest 50 = .ok (.iload_n 2, 1) := dk_28 (dk_at dksX2_longest_2 3 rfl rfl)
theorem dX2_longest_51 : decode cX2_longest 51 = .ok (.iaload, 1) := dk_46 (dk_at dksX2_longest_2 4 rfl rfl)
theorem dX2_longest_52 : decode cX2_longest 52 = .ok (.if_icmp .ge 36, 3) := dk_162 0 36 (dk_at dksX2_longest_2 5 rfl rfl)
theorem dX2_longest_55 : decode cX2_longest 55 = .ok (.aload_n 0, 1) := dk_42 (dk_at dksX2_longest_2 8 rfl rfl)
theorem dX2_longest_56 : decode cX2_longest 56 = .ok (.iload_n 1, 1) := dk_27 (dk_at dksX2_longest_2 9 rfl rfl)
theorem dX2_longest_57 : decode cX2_longest 57 = .ok (.aload_n 0, 1) := dk_42 (dk_at dksX2_longest_2 10 rfl rfl)
theorem dX2_longest_58 : decode cX2_longest 58 = .ok (.iload_n 2, 1) := dk_28 (dk_at dksX2_longest_2 11 rfl rfl)
theorem dX2_longest_59 : decode cX2_longest 59 = .ok (.iload 4, 2) := dk_21 4 (dk_at dksX2_longest_2 12 rfl rfl)
theorem dX2_longest_61 : decode cX2_longest 61 = .ok (.invokevirtual 691, 3) := dk_182 2 179 (dk_at dksX2_longest_2 14 rfl rfl)
theorem dX2_longest_64 : decode cX2_longest 64 = .ok (.invokestatic 941, 3) := dk_184 3 173 (dk_at dksX2_longest_2 17 rfl rfl)
theorem dX2_longest_67 : decode cX2_longest 67 = .ok (.istore 5, 2) := dk_54 5 (dk_at dksX2_longest_2 20 rfl rfl)
theorem dX2_longest_69 : decode cX2_longest 69 = .ok (.iload 5, 2) := dk_21 5 (dk_at dksX2_longest_2 22 rfl rfl)
theorem dX2_longest_71 : decode cX2_longest 71 = .ok (.iload_n 3, 1) := dk_29 (dk_at dksX2_longest_3 0 rfl rfl)
theorem dX2_longest_72 : decode cX2_longest 72 = .ok (.if_icmp .le 8, 3) := dk_164 0 8 (dk_at dksX2_longest_3 1 rfl rfl)
theorem dX2_longest_75 : decode cX2_longest 75 = .ok (.iload 5, 2) := dk_21 5 (dk_at dksX2_longest_3 4 rfl rfl)
theorem dX2_longest_77 : decode cX2_longest 77 = .ok (.goto 4, 3) := dk_167 0 4 (dk_at dksX2_longest_3 6 rfl rfl)
theorem dX2_longest_80 : decode cX2_longest 80 = .ok (.iload_n 3, 1) := dk_29 (dk_at dksX2_longest_3 9 rfl rfl)
theorem dX2_longest_81 : decode cX2_longest 81 = .ok (.istore_n 3, 1) := dk_62 (dk_at dksX2_longest_3 10 rfl rfl)
theorem dX2_longest_82 : decode cX2_longest 82 = .ok (.iinc 4 1, 3) := dk_132 4 1 (dk_at dksX2_longest_3 11 rfl rfl)
theorem dX2_longest_85 : decode cX2_longest 85 = .ok (.goto (-41), 3) := dk_167 255 215 (dk_at dksX2_longest_3 14 rfl rfl)
theorem dX2_longest_88 : decode cX2_longest 88 = .ok (.iload_n 3, 1) := dk_29 (dk_at dksX2_longest_3 17 rfl rfl)
theorem dX2_longest_89 : decode cX2_longest 89 = .ok (.ireturn, 1) := dk_172 (dk_at dksX2_longest_3 18 rfl rfl)
abbrev cX2_listWithin : ByteArray := prog_4_method_128_code
def yX2_listWithin : MethodName := ⟨RX2, "listWithin", "(III)V"⟩
def dkwX2_listWithin_9 : List UInt8 := [167, 255, 146, 177]
abbrev dktX2_listWithin_9 : List UInt8 := dkwX2_listWithin_9 ++ []
def dkwX2_listWithin_8 : List UInt8 := [21, 5, 100, 182, 3, 136, 3, 3, 2, 182, 3, 129, 184, 3, 123, 132, 6, 1, 167, 255, 165, 132, 5, 1]
abbrev dktX2_listWithin_8 : List UInt8 := dkwX2_listWithin_8 ++ dktX2_listWithin_9
def dkwX2_listWithin_7 : List UInt8 := [100, 182, 3, 136, 181, 3, 157, 42, 3, 181, 3, 99, 42, 42, 3, 27, 42, 29, 28, 21, 5, 21, 6]
abbrev dktX2_listWithin_7 : List UInt8 := dkwX2_listWithin_7 ++ dktX2_listWithin_8
def dkwX2_listWithin_6 : List UInt8 := [181, 3, 151, 42, 21, 6, 21, 4, 160, 0, 7, 2, 167, 0, 16, 42, 29, 28, 21, 6, 21, 4, 21, 6]
abbrev dktX2_listWithin_6 : List UInt8 := dkwX2_listWithin_6 ++ dktX2_listWithin_7
def dkwX2_listWithin_5 : List UInt8 := [163, 0, 90, 42, 21, 5, 154, 0, 7, 2, 167, 0, 12, 42, 29, 28, 3, 21, 5, 182, 3, 136]
abbrev dktX2_listWithin_5 : List UInt8 := dkwX2_listWithin_5 ++ dktX2_listWithin_6
def dkwX2_listWithin_4 : List UInt8 := [167, 0, 119, 3, 54, 5, 21, 5, 21, 4, 162, 0, 109, 21, 5, 4, 96, 54, 6, 21, 6, 21, 4]
abbrev dktX2_listWithin_4 : List UInt8 := dkwX2_listWithin_4 ++ dktX2_listWithin_5
def dkwX2_listWithin_3 : List UInt8 := [27, 42, 29, 28, 21, 6, 182, 3, 142, 3, 3, 2, 182, 3, 129, 184, 3, 123, 132, 6, 1, 167, 255, 192]
abbrev dktX2_listWithin_3 : List UInt8 := dkwX2_listWithin_3 ++ dktX2_listWithin_4
def dkwX2_listWithin_2 : List UInt8 := [42, 29, 28, 21, 5, 21, 6, 2, 130, 126, 182, 3, 142, 181, 3, 157, 42, 3, 181, 3, 99, 42, 42, 3]
abbrev dktX2_listWithin_2 : List UInt8 := dkwX2_listWithin_2 ++ dktX2_listWithin_3
def dkwX2_listWithin_1 : List UInt8 := [54, 5, 4, 54, 6, 21, 6, 21, 5, 163, 0, 63, 42, 21, 6, 21, 5, 160, 0, 7, 2, 167, 0, 16]
abbrev dktX2_listWithin_1 : List UInt8 := dkwX2_listWithin_1 ++ dktX2_listWithin_2
def dkwX2_listWithin_0 : List UInt8 := [42, 180, 0, 187, 28, 46, 54, 4, 42, 180, 0, 171, 29, 51, 153, 0, 84, 4, 21, 4, 120, 4, 100]
abbrev dktX2_listWithin_0 : List UInt8 := dkwX2_listWithin_0 ++ dktX2_listWithin_1
theorem dksX2_listWithin_0 : cX2_listWithin.data.toList.drop 0 = dktX2_listWithin_0 := by decide +kernel
theorem dksX2_listWithin_1 : cX2_listWithin.data.toList.drop 23 = dktX2_listWithin_1 := dk_seg dksX2_listWithin_0 23 rfl rfl
theorem dksX2_listWithin_2 : cX2_listWithin.data.toList.drop 47 = dktX2_listWithin_2 := dk_seg dksX2_listWithin_1 24 rfl rfl
theorem dksX2_listWithin_3 : cX2_listWithin.data.toList.drop 71 = dktX2_listWithin_3 := dk_seg dksX2_listWithin_2 24 rfl rfl
theorem dksX2_listWithin_4 : cX2_listWithin.data.toList.drop 95 = dktX2_listWithin_4 := dk_seg dksX2_listWithin_3 24 rfl rfl
theorem dksX2_listWithin_5 : cX2_listWithin.data.toList.drop 118 = dktX2_listWithin_5 := dk_seg dksX2_listWithin_4 23 rfl rfl
theorem dksX2_listWithin_6 : cX2_listWithin.data.toList.drop 140 = dktX2_listWithin_6 := dk_seg dksX2_listWithin_5 22 rfl rfl
theorem dksX2_listWithin_7 : cX2_listWithin.data.toList.drop 164 = dktX2_listWithin_7 := dk_seg dksX2_listWithin_6 24 rfl rfl
theorem dksX2_listWithin_8 : cX2_listWithin.data.toList.drop 187 = dktX2_listWithin_8 := dk_seg dksX2_listWithin_7 23 rfl rfl
theorem dksX2_listWithin_9 : cX2_listWithin.data.toList.drop 211 = dktX2_listWithin_9 := dk_seg dksX2_listWithin_8 24 rfl rfl
theorem dX2_listWithin_0 : decode cX2_listWithin 0 = .ok (.aload_n 0, 1) := dk_42 (dk_at dksX2_listWithin_0 0 rfl rfl)
theorem dX2_listWithin_1 : decode cX2_listWithin 1 = .ok (.getfield 187, 3) := dk_180 0 187 (dk_at dksX2_listWithin_0 1 rfl rfl)
theorem dX2_listWithin_4 : decode cX2_listWithin 4 = .ok (.iload_n 2, 1) := dk_28 (dk_at dksX2_listWithin_0 4 rfl rfl)
theorem dX2_listWithin_5 : decode cX2_listWithin 5 = .ok (.iaload, 1) := dk_46 (dk_at dksX2_listWithin_0 5 rfl rfl)
theorem dX2_listWithin_6 : decode cX2_listWithin 6 = .ok (.istore 4, 2) := dk_54 4 (dk_at dksX2_listWithin_0 6 rfl rfl)
theorem dX2_listWithin_8 : decode cX2_listWithin 8 = .ok (.aload_n 0, 1) := dk_42 (dk_at dksX2_listWithin_0 8 rfl rfl)
theorem dX2_listWithin_9 : decode cX2_listWithin 9 = .ok (.getfield 171, 3) := dk_180 0 171 (dk_at dksX2_listWithin_0 9 rfl rfl)
theorem dX2_listWithin_12 : decode cX2_listWithin 12 = .ok (.iload_n 3, 1) := dk_29 (dk_at dksX2_listWithin_0 12 rfl rfl)
theorem dX2_listWithin_13 : decode cX2_listWithin 13 = .ok (.baload, 1) := dk_51 (dk_at dksX2_listWithin_0 13 rfl rfl)
theorem dX2_listWithin_14 : decode cX2_listWithin 14 = .ok (.ifCond .eq 84, 3) := dk_153 0 84 (dk_at dksX2_listWithin_0 14 rfl rfl)
theorem dX2_listWithin_17 : decode cX2_listWithin 17 = .ok (.iconst 1, 1) := dk_4 (dk_at dksX2_listWithin_0 17 rfl rfl)
theorem dX2_listWithin_18 : decode cX2_listWithin 18 = .ok (.iload 4, 2) := dk_21 4 (dk_at dksX2_listWithin_0 18 rfl rfl)
theorem dX2_listWithin_20 : decode cX2_listWithin 20 = .ok (.ishl, 1) := dk_120 (dk_at dksX2_listWithin_0 20 rfl rfl)
theorem dX2_listWithin_21 : decode cX2_listWithin 21 = .ok (.iconst 1, 1) := dk_4 (dk_at dksX2_listWithin_0 21 rfl rfl)
theorem dX2_listWithin_22 : decode cX2_listWithin 22 = .ok (.isub, 1) := dk_100 (dk_at dksX2_listWithin_0 22 rfl rfl)
theorem dX2_listWithin_23 : decode cX2_listWithin 23 = .ok (.istore 5, 2) := dk_54 5 (dk_at dksX2_listWithin_1 0 rfl rfl)
theorem dX2_listWithin_25 : decode cX2_listWithin 25 = .ok (.iconst 1, 1) := dk_4 (dk_at dksX2_listWithin_1 2 rfl rfl)
theorem dX2_listWithin_26 : decode cX2_listWithin 26 = .ok (.istore 6, 2) := dk_54 6 (dk_at dksX2_listWithin_1 3 rfl rfl)
theorem dX2_listWithin_28 : decode cX2_listWithin 28 = .ok (.iload 6, 2) := dk_21 6 (dk_at dksX2_listWithin_1 5 rfl rfl)
theorem dX2_listWithin_30 : decode cX2_listWithin 30 = .ok (.iload 5, 2) := dk_21 5 (dk_at dksX2_listWithin_1 7 rfl rfl)
theorem dX2_listWithin_32 : decode cX2_listWithin 32 = .ok (.if_icmp .gt 63, 3) := dk_163 0 63 (dk_at dksX2_listWithin_1 9 rfl rfl)
theorem dX2_listWithin_35 : decode cX2_listWithin 35 = .ok (.aload_n 0, 1) := dk_42 (dk_at dksX2_listWithin_1 12 rfl rfl)
theorem dX2_listWithin_36 : decode cX2_listWithin 36 = .ok (.iload 6, 2) := dk_21 6 (dk_at dksX2_listWithin_1 13 rfl rfl)
theorem dX2_listWithin_38 : decode cX2_listWithin 38 = .ok (.iload 5, 2) := dk_21 5 (dk_at dksX2_listWithin_1 15 rfl rfl)
theorem dX2_listWithin_40 : decode cX2_listWithin 40 = .ok (.if_icmp .ne 7, 3) := dk_160 0 7 (dk_at dksX2_listWithin_1 17 rfl rfl)
theorem dX2_listWithin_43 : decode cX2_listWithin 43 = .ok (.iconst (-1), 1) := dk_2 (dk_at dksX2_listWithin_1 20 rfl rfl)
theorem dX2_listWithin_44 : decode cX2_listWithin 44 = .ok (.goto 16, 3) := dk_167 0 16 (dk_at dksX2_listWithin_1 21 rfl rfl)
theorem dX2_listWithin_47 : decode cX2_listWithin 47 = .ok (.aload_n 0, 1) := dk_42 (dk_at dksX2_listWithin_2 0 rfl rfl)
theorem dX2_listWithin_48 : decode cX2_listWithin 48 = .ok (.iload_n 3, 1) := dk_29 (dk_at dksX2_listWithin_2 1 rfl rfl)
theorem dX2_listWithin_49 : decode cX2_listWithin 49 = .ok (.iload_n 2, 1) := dk_28 (dk_at dksX2_listWithin_2 2 rfl rfl)
theorem dX2_listWithin_50 : decode cX2_listWithin 50 = .ok (.iload 5, 2) := dk_21 5 (dk_at dksX2_listWithin_2 3 rfl rfl)
theorem dX2_listWithin_52 : decode cX2_listWithin 52 = .ok (.iload 6, 2) := dk_21 6 (dk_at dksX2_listWithin_2 5 rfl rfl)
theorem dX2_listWithin_54 : decode cX2_listWithin 54 = .ok (.iconst (-1), 1) := dk_2 (dk_at dksX2_listWithin_2 7 rfl rfl)
theorem dX2_listWithin_55 : decode cX2_listWithin 55 = .ok (.ixor, 1) := dk_130 (dk_at dksX2_listWithin_2 8 rfl rfl)
theorem dX2_listWithin_56 : decode cX2_listWithin 56 = .ok (.iand, 1) := dk_126 (dk_at dksX2_listWithin_2 9 rfl rfl)
theorem dX2_listWithin_57 : decode cX2_listWithin 57 = .ok (.invokevirtual 910, 3) := dk_182 3 142 (dk_at dksX2_listWithin_2 10 rfl rfl)
theorem dX2_listWithin_60 : decode cX2_listWithin 60 = .ok (.putfield 925, 3) := dk_181 3 157 (dk_at dksX2_listWithin_2 13 rfl rfl)
theorem dX2_listWithin_63 : decode cX2_listWithin 63 = .ok (.aload_n 0, 1) := dk_42 (dk_at dksX2_listWithin_2 16 rfl rfl)
theorem dX2_listWithin_64 : decode cX2_listWithin 64 = .ok (.iconst 0, 1) := dk_3 (dk_at dksX2_listWithin_2 17 rfl rfl)
theorem dX2_listWithin_65 : decode cX2_listWithin 65 = .ok (.putfield 867, 3) := dk_181 3 99 (dk_at dksX2_listWithin_2 18 rfl rfl)
theorem dX2_listWithin_68 : decode cX2_listWithin 68 = .ok (.aload_n 0, 1) := dk_42 (dk_at dksX2_listWithin_2 21 rfl rfl)
theorem dX2_listWithin_69 : decode cX2_listWithin 69 = .ok (.aload_n 0, 1) := dk_42 (dk_at dksX2_listWithin_2 22 rfl rfl)
theorem dX2_listWithin_70 : decode cX2_listWithin 70 = .ok (.iconst 0, 1) := dk_3 (dk_at dksX2_listWithin_2 23 rfl rfl)
theorem dX2_listWithin_71 : decode cX2_listWithin 71 = .ok (.iload_n 1, 1) := dk_27 (dk_at dksX2_listWithin_3 0 rfl rfl)
theorem dX2_listWithin_72 : decode cX2_listWithin 72 = .ok (.aload_n 0, 1) := dk_42 (dk_at dksX2_listWithin_3 1 rfl rfl)
theorem dX2_listWithin_73 : decode cX2_listWithin 73 = .ok (.iload_n 3, 1) := dk_29 (dk_at dksX2_listWithin_3 2 rfl rfl)
theorem dX2_listWithin_74 : decode cX2_listWithin 74 = .ok (.iload_n 2, 1) := dk_28 (dk_at dksX2_listWithin_3 3 rfl rfl)
theorem dX2_listWithin_75 : decode cX2_listWithin 75 = .ok (.iload 6, 2) := dk_21 6 (dk_at dksX2_listWithin_3 4 rfl rfl)
theorem dX2_listWithin_77 : decode cX2_listWithin 77 = .ok (.invokevirtual 910, 3) := dk_182 3 142 (dk_at dksX2_listWithin_3 6 rfl rfl)
theorem dX2_listWithin_80 : decode cX2_listWithin 80 = .ok (.iconst 0, 1) := dk_3 (dk_at dksX2_listWithin_3 9 rfl rfl)
theorem dX2_listWithin_81 : decode cX2_listWithin 81 = .ok (.iconst 0, 1) := dk_3 (dk_at dksX2_listWithin_3 10 rfl rfl)
theorem dX2_listWithin_82 : decode cX2_listWithin 82 = .ok (.iconst (-1), 1) := dk_2 (dk_at dksX2_listWithin_3 11 rfl rfl)
theorem dX2_listWithin_83 : decode cX2_listWithin 83 = .ok (.invokevirtual 897, 3) := dk_182 3 129 (dk_at dksX2_listWithin_3 12 rfl rfl)
theorem dX2_listWithin_86 : decode cX2_listWithin 86 = .ok (.invokestatic 891, 3) := dk_184 3 123 (dk_at dksX2_listWithin_3 15 rfl rfl)
theorem dX2_listWithin_89 : decode cX2_listWithin 89 = .ok (.iinc 6 1, 3) := dk_132 6 1 (dk_at dksX2_listWithin_3 18 rfl rfl)
theorem dX2_listWithin_92 : decode cX2_listWithin 92 = .ok (.goto (-64), 3) := dk_167 255 192 (dk_at dksX2_listWithin_3 21 rfl rfl)
theorem dX2_listWithin_95 : decode cX2_listWithin 95 = .ok (.goto 119, 3) := dk_167 0 119 (dk_at dksX2_listWithin_4 0 rfl rfl)
theorem dX2_listWithin_98 : decode cX2_listWithin 98 = .ok (.iconst 0, 1) := dk_3 (dk_at dksX2_listWithin_4 3 rfl rfl)
theorem dX2_listWithin_99 : decode cX2_listWithin 99 = .ok (.istore 5, 2) := dk_54 5 (dk_at dksX2_listWithin_4 4 rfl rfl)
theorem dX2_listWithin_101 : decode cX2_listWithin 101 = .ok (.iload 5, 2) := dk_21 5 (dk_at dksX2_listWithin_4 6 rfl rfl)
theorem dX2_listWithin_103 : decode cX2_listWithin 103 = .ok (.iload 4, 2) := dk_21 4 (dk_at dksX2_listWithin_4 8 rfl rfl)
theorem dX2_listWithin_105 : decode cX2_listWithin 105 = .ok (.if_icmp .ge 109, 3) := dk_162 0 109 (dk_at dksX2_listWithin_4 10 rfl rfl)
theorem dX2_listWithin_108 : decode cX2_listWithin 108 = .ok (.iload 5, 2) := dk_21 5 (dk_at dksX2_listWithin_4 13 rfl rfl)
theorem dX2_listWithin_110 : decode cX2_listWithin 110 = .ok (.iconst 1, 1) := dk_4 (dk_at dksX2_listWithin_4 15 rfl rfl)
theorem dX2_listWithin_111 : decode cX2_listWithin 111 = .ok (.iadd, 1) := dk_96 (dk_at dksX2_listWithin_4 16 rfl rfl)
theorem dX2_listWithin_112 : decode cX2_listWithin 112 = .ok (.istore 6, 2) := dk_54 6 (dk_at dksX2_listWithin_4 17 rfl rfl)
theorem dX2_listWithin_114 : decode cX2_listWithin 114 = .ok (.iload 6, 2) := dk_21 6 (dk_at dksX2_listWithin_4 19 rfl rfl)
theorem dX2_listWithin_116 : decode cX2_listWithin 116 = .ok (.iload 4, 2) := dk_21 4 (dk_at dksX2_listWithin_4 21 rfl rfl)
theorem dX2_listWithin_118 : decode cX2_listWithin 118 = .ok (.if_icmp .gt 90, 3) := dk_163 0 90 (dk_at dksX2_listWithin_5 0 rfl rfl)
theorem dX2_listWithin_121 : decode cX2_listWithin 121 = .ok (.aload_n 0, 1) := dk_42 (dk_at dksX2_listWithin_5 3 rfl rfl)
theorem dX2_listWithin_122 : decode cX2_listWithin 122 = .ok (.iload 5, 2) := dk_21 5 (dk_at dksX2_listWithin_5 4 rfl rfl)
theorem dX2_listWithin_124 : decode cX2_listWithin 124 = .ok (.ifCond .ne 7, 3) := dk_154 0 7 (dk_at dksX2_listWithin_5 6 rfl rfl)
theorem dX2_listWithin_127 : decode cX2_listWithin 127 = .ok (.iconst (-1), 1) := dk_2 (dk_at dksX2_listWithin_5 9 rfl rfl)
theorem dX2_listWithin_128 : decode cX2_listWithin 128 = .ok (.goto 12, 3) := dk_167 0 12 (dk_at dksX2_listWithin_5 10 rfl rfl)
theorem dX2_listWithin_131 : decode cX2_listWithin 131 = .ok (.aload_n 0, 1) := dk_42 (dk_at dksX2_listWithin_5 13 rfl rfl)
theorem dX2_listWithin_132 : decode cX2_listWithin 132 = .ok (.iload_n 3, 1) := dk_29 (dk_at dksX2_listWithin_5 14 rfl rfl)
theorem dX2_listWithin_133 : decode cX2_listWithin 133 = .ok (.iload_n 2, 1) := dk_28 (dk_at dksX2_listWithin_5 15 rfl rfl)
theorem dX2_listWithin_134 : decode cX2_listWithin 134 = .ok (.iconst 0, 1) := dk_3 (dk_at dksX2_listWithin_5 16 rfl rfl)
theorem dX2_listWithin_135 : decode cX2_listWithin 135 = .ok (.iload 5, 2) := dk_21 5 (dk_at dksX2_listWithin_5 17 rfl rfl)
theorem dX2_listWithin_137 : decode cX2_listWithin 137 = .ok (.invokevirtual 904, 3) := dk_182 3 136 (dk_at dksX2_listWithin_5 19 rfl rfl)
theorem dX2_listWithin_140 : decode cX2_listWithin 140 = .ok (.putfield 919, 3) := dk_181 3 151 (dk_at dksX2_listWithin_6 0 rfl rfl)
theorem dX2_listWithin_143 : decode cX2_listWithin 143 = .ok (.aload_n 0, 1) := dk_42 (dk_at dksX2_listWithin_6 3 rfl rfl)
theorem dX2_listWithin_144 : decode cX2_listWithin 144 = .ok (.iload 6, 2) := dk_21 6 (dk_at dksX2_listWithin_6 4 rfl rfl)
theorem dX2_listWithin_146 : decode cX2_listWithin 146 = .ok (.iload 4, 2) := dk_21 4 (dk_at dksX2_listWithin_6 6 rfl rfl)
theorem dX2_listWithin_148 : decode cX2_listWithin 148 = .ok (.if_icmp .ne 7, 3) := dk_160 0 7 (dk_at dksX2_listWithin_6 8 rfl rfl)
theorem dX2_listWithin_151 : decode cX2_listWithin 151 = .ok (.iconst (-1), 1) := dk_2 (dk_at dksX2_listWithin_6 11 rfl rfl)
theorem dX2_listWithin_152 : decode cX2_listWithin 152 = .ok (.goto 16, 3) := dk_167 0 16 (dk_at dksX2_listWithin_6 12 rfl rfl)
theorem dX2_listWithin_155 : decode cX2_listWithin 155 = .ok (.aload_n 0, 1) := dk_42 (dk_at dksX2_listWithin_6 15 rfl rfl)
theorem dX2_listWithin_156 : decode cX2_listWithin 156 = .ok (.iload_n 3, 1) := dk_29 (dk_at dksX2_listWithin_6 16 rfl rfl)
theorem dX2_listWithin_157 : decode cX2_listWithin 157 = .ok (.iload_n 2, 1) := dk_28 (dk_at dksX2_listWithin_6 17 rfl rfl)
theorem dX2_listWithin_158 : decode cX2_listWithin 158 = .ok (.iload 6, 2) := dk_21 6 (dk_at dksX2_listWithin_6 18 rfl rfl)
theorem dX2_listWithin_160 : decode cX2_listWithin 160 = .ok (.iload 4, 2) := dk_21 4 (dk_at dksX2_listWithin_6 20 rfl rfl)
theorem dX2_listWithin_162 : decode cX2_listWithin 162 = .ok (.iload 6, 2) := dk_21 6 (dk_at dksX2_listWithin_6 22 rfl rfl)
theorem dX2_listWithin_164 : decode cX2_listWithin 164 = .ok (.isub, 1) := dk_100 (dk_at dksX2_listWithin_7 0 rfl rfl)
theorem dX2_listWithin_165 : decode cX2_listWithin 165 = .ok (.invokevirtual 904, 3) := dk_182 3 136 (dk_at dksX2_listWithin_7 1 rfl rfl)
theorem dX2_listWithin_168 : decode cX2_listWithin 168 = .ok (.putfield 925, 3) := dk_181 3 157 (dk_at dksX2_listWithin_7 4 rfl rfl)
theorem dX2_listWithin_171 : decode cX2_listWithin 171 = .ok (.aload_n 0, 1) := dk_42 (dk_at dksX2_listWithin_7 7 rfl rfl)
theorem dX2_listWithin_172 : decode cX2_listWithin 172 = .ok (.iconst 0, 1) := dk_3 (dk_at dksX2_listWithin_7 8 rfl rfl)
theorem dX2_listWithin_173 : decode cX2_listWithin 173 = .ok (.putfield 867, 3) := dk_181 3 99 (dk_at dksX2_listWithin_7 9 rfl rfl)
theorem dX2_listWithin_176 : decode cX2_listWithin 176 = .ok (.aload_n 0, 1) := dk_42 (dk_at dksX2_listWithin_7 12 rfl rfl)
theorem dX2_listWithin_177 : decode cX2_listWithin 177 = .ok (.aload_n 0, 1) := dk_42 (dk_at dksX2_listWithin_7 13 rfl rfl)
theorem dX2_listWithin_178 : decode cX2_listWithin 178 = .ok (.iconst 0, 1) := dk_3 (dk_at dksX2_listWithin_7 14 rfl rfl)
theorem dX2_listWithin_179 : decode cX2_listWithin 179 = .ok (.iload_n 1, 1) := dk_27 (dk_at dksX2_listWithin_7 15 rfl rfl)
theorem dX2_listWithin_180 : decode cX2_listWithin 180 = .ok (.aload_n 0, 1) := dk_42 (dk_at dksX2_listWithin_7 16 rfl rfl)
theorem dX2_listWithin_181 : decode cX2_listWithin 181 = .ok (.iload_n 3, 1) := dk_29 (dk_at dksX2_listWithin_7 17 rfl rfl)
theorem dX2_listWithin_182 : decode cX2_listWithin 182 = .ok (.iload_n 2, 1) := dk_28 (dk_at dksX2_listWithin_7 18 rfl rfl)
theorem dX2_listWithin_183 : decode cX2_listWithin 183 = .ok (.iload 5, 2) := dk_21 5 (dk_at dksX2_listWithin_7 19 rfl rfl)
theorem dX2_listWithin_185 : decode cX2_listWithin 185 = .ok (.iload 6, 2) := dk_21 6 (dk_at dksX2_listWithin_7 21 rfl rfl)
theorem dX2_listWithin_187 : decode cX2_listWithin 187 = .ok (.iload 5, 2) := dk_21 5 (dk_at dksX2_listWithin_8 0 rfl rfl)
theorem dX2_listWithin_189 : decode cX2_listWithin 189 = .ok (.isub, 1) := dk_100 (dk_at dksX2_listWithin_8 2 rfl rfl)
theorem dX2_listWithin_190 : decode cX2_listWithin 190 = .ok (.invokevirtual 904, 3) := dk_182 3 136 (dk_at dksX2_listWithin_8 3 rfl rfl)
theorem dX2_listWithin_193 : decode cX2_listWithin 193 = .ok (.iconst 0, 1) := dk_3 (dk_at dksX2_listWithin_8 6 rfl rfl)
theorem dX2_listWithin_194 : decode cX2_listWithin 194 = .ok (.iconst 0, 1) := dk_3 (dk_at dksX2_listWithin_8 7 rfl rfl)
theorem dX2_listWithin_195 : decode cX2_listWithin 195 = .ok (.iconst (-1), 1) := dk_2 (dk_at dksX2_listWithin_8 8 rfl rfl)
theorem dX2_listWithin_196 : decode cX2_listWithin 196 = .ok (.invokevirtual 897, 3) := dk_182 3 129 (dk_at dksX2_listWithin_8 9 rfl rfl)
theorem dX2_listWithin_199 : decode cX2_listWithin 199 = .ok (.invokestatic 891, 3) := dk_184 3 123 (dk_at dksX2_listWithin_8 12 rfl rfl)
theorem dX2_listWithin_202 : decode cX2_listWithin 202 = .ok (.iinc 6 1, 3) := dk_132 6 1 (dk_at dksX2_listWithin_8 15 rfl rfl)
theorem dX2_listWithin_205 : decode cX2_listWithin 205 = .ok (.goto (-91), 3) := dk_167 255 165 (dk_at dksX2_listWithin_8 18 rfl rfl)
theorem dX2_listWithin_208 : decode cX2_listWithin 208 = .ok (.iinc 5 1, 3) := dk_132 5 1 (dk_at dksX2_listWithin_8 21 rfl rfl)
theorem dX2_listWithin_211 : decode cX2_listWithin 211 = .ok (.goto (-110), 3) := dk_167 255 146 (dk_at dksX2_listWithin_9 0 rfl rfl)
theorem dX2_listWithin_214 : decode cX2_listWithin 214 = .ok (.return_, 1) := dk_177 (dk_at dksX2_listWithin_9 3 rfl rfl)
abbrev cX2_chosen : ByteArray := prog_4_method_113_code
def yX2_chosen : MethodName := ⟨RX2, "chosen", "(III)I"⟩
def dkwX2_chosen_2 : List UInt8 := [21, 4, 182, 2, 248, 172]
abbrev dktX2_chosen_2 : List UInt8 := dkwX2_chosen_2 ++ []
def dkwX2_chosen_1 : List UInt8 := [160, 0, 15, 42, 42, 27, 28, 21, 5, 182, 3, 102, 182, 2, 245, 132, 5, 1, 167, 255, 224, 42, 27]
abbrev dktX2_chosen_1 : List UInt8 := dkwX2_chosen_1 ++ dktX2_chosen_2
def dkwX2_chosen_0 : List UInt8 := [42, 180, 2, 195, 54, 4, 3, 54, 5, 29, 21, 5, 122, 153, 0, 31, 29, 21, 5, 122, 4, 126, 4]
abbrev dktX2_chosen_0 : List UInt8 := dkwX2_chosen_0 ++ dktX2_chosen_1
theorem dksX2_chosen_0 : cX2_chosen.data.toList.drop 0 = dktX2_chosen_0 := by decide +kernel
theorem dksX2_chosen_1 : cX2_chosen.data.toList.drop 23 = dktX2_chosen_1 := dk_seg dksX2_chosen_0 23 rfl rfl
theorem dksX2_chosen_2 : cX2_chosen.data.toList.drop 46 = dktX2_chosen_2 := dk_seg dksX2_chosen_1 23 rfl rfl
theorem dX2_chosen_0 : decode cX2_chosen 0 = .ok (.aload_n 0, 1) := dk_42 (dk_at dksX2_chosen_0 0 rfl rfl)
theorem dX2_chosen_1 : decode cX2_chosen 1 = .ok (.getfield 707, 3) := dk_180 2 195 (dk_at dksX2_chosen_0 1 rfl rfl)
theorem dX2_chosen_4 : decode cX2_chosen 4 = .ok (.istore 4, 2) := dk_54 4 (dk_at dksX2_chosen_0 4 rfl rfl)
theorem dX2_chosen_6 : decode cX2_chosen 6 = .ok (.iconst 0, 1) := dk_3 (dk_at dksX2_chosen_0 6 rfl rfl)
theorem dX2_chosen_7 : decode cX2_chosen 7 = .ok (.istore 5, 2) := dk_54 5 (dk_at dksX2_chosen_0 7 rfl rfl)
theorem dX2_chosen_9 : decode cX2_chosen 9 = .ok (.iload_n 3, 1) := dk_29 (dk_at dksX2_chosen_0 9 rfl rfl)
theorem dX2_chosen_10 : decode cX2_chosen 10 = .ok (.iload 5, 2) := dk_21 5 (dk_at dksX2_chosen_0 10 rfl rfl)
theorem dX2_chosen_12 : decode cX2_chosen 12 = .ok (.ishr, 1) := dk_122 (dk_at dksX2_chosen_0 12 rfl rfl)
theorem dX2_chosen_13 : decode cX2_chosen 13 = .ok (.ifCond .eq 31, 3) := dk_153 0 31 (dk_at dksX2_chosen_0 13 rfl rfl)
theorem dX2_chosen_16 : decode cX2_chosen 16 = .ok (.iload_n 3, 1) := dk_29 (dk_at dksX2_chosen_0 16 rfl rfl)
theorem dX2_chosen_17 : decode cX2_chosen 17 = .ok (.iload 5, 2) := dk_21 5 (dk_at dksX2_chosen_0 17 rfl rfl)
theorem dX2_chosen_19 : decode cX2_chosen 19 = .ok (.ishr, 1) := dk_122 (dk_at dksX2_chosen_0 19 rfl rfl)
theorem dX2_chosen_20 : decode cX2_chosen 20 = .ok (.iconst 1, 1) := dk_4 (dk_at dksX2_chosen_0 20 rfl rfl)
theorem dX2_chosen_21 : decode cX2_chosen 21 = .ok (.iand, 1) := dk_126 (dk_at dksX2_chosen_0 21 rfl rfl)
theorem dX2_chosen_22 : decode cX2_chosen 22 = .ok (.iconst 1, 1) := dk_4 (dk_at dksX2_chosen_0 22 rfl rfl)
theorem dX2_chosen_23 : decode cX2_chosen 23 = .ok (.if_icmp .ne 15, 3) := dk_160 0 15 (dk_at dksX2_chosen_1 0 rfl rfl)
theorem dX2_chosen_26 : decode cX2_chosen 26 = .ok (.aload_n 0, 1) := dk_42 (dk_at dksX2_chosen_1 3 rfl rfl)
theorem dX2_chosen_27 : decode cX2_chosen 27 = .ok (.aload_n 0, 1) := dk_42 (dk_at dksX2_chosen_1 4 rfl rfl)
theorem dX2_chosen_28 : decode cX2_chosen 28 = .ok (.iload_n 1, 1) := dk_27 (dk_at dksX2_chosen_1 5 rfl rfl)
theorem dX2_chosen_29 : decode cX2_chosen 29 = .ok (.iload_n 2, 1) := dk_28 (dk_at dksX2_chosen_1 6 rfl rfl)
theorem dX2_chosen_30 : decode cX2_chosen 30 = .ok (.iload 5, 2) := dk_21 5 (dk_at dksX2_chosen_1 7 rfl rfl)
theorem dX2_chosen_32 : decode cX2_chosen 32 = .ok (.invokevirtual 870, 3) := dk_182 3 102 (dk_at dksX2_chosen_1 9 rfl rfl)
theorem dX2_chosen_35 : decode cX2_chosen 35 = .ok (.invokevirtual 757, 3) := dk_182 2 245 (dk_at dksX2_chosen_1 12 rfl rfl)
theorem dX2_chosen_38 : decode cX2_chosen 38 = .ok (.iinc 5 1, 3) := dk_132 5 1 (dk_at dksX2_chosen_1 15 rfl rfl)
theorem dX2_chosen_41 : decode cX2_chosen 41 = .ok (.goto (-32), 3) := dk_167 255 224 (dk_at dksX2_chosen_1 18 rfl rfl)
theorem dX2_chosen_44 : decode cX2_chosen 44 = .ok (.aload_n 0, 1) := dk_42 (dk_at dksX2_chosen_1 21 rfl rfl)
theorem dX2_chosen_45 : decode cX2_chosen 45 = .ok (.iload_n 1, 1) := dk_27 (dk_at dksX2_chosen_1 22 rfl rfl)
theorem dX2_chosen_46 : decode cX2_chosen 46 = .ok (.iload 4, 2) := dk_21 4 (dk_at dksX2_chosen_2 0 rfl rfl)
theorem dX2_chosen_48 : decode cX2_chosen 48 = .ok (.invokevirtual 760, 3) := dk_182 2 248 (dk_at dksX2_chosen_2 2 rfl rfl)
theorem dX2_chosen_51 : decode cX2_chosen 51 = .ok (.ireturn, 1) := dk_172 (dk_at dksX2_chosen_2 5 rfl rfl)
abbrev cX2_element : ByteArray := prog_4_method_111_code
def yX2_element : MethodName := ⟨RX2, "element", "(III)I"⟩
def dkwX2_element_0 : List UInt8 := [42, 180, 0, 181, 28, 46, 27, 160, 0, 12, 42, 28, 29, 182, 2, 179, 167, 0, 4, 28, 172]
abbrev dktX2_element_0 : List UInt8 := dkwX2_element_0 ++ []
theorem dksX2_element_0 : cX2_element.data.toList.drop 0 = dktX2_element_0 := by decide +kernel
theorem dX2_element_0 : decode cX2_element 0 = .ok (.aload_n 0, 1) := dk_42 (dk_at dksX2_element_0 0 rfl rfl)
theorem dX2_element_1 : decode cX2_element 1 = .ok (.getfield 181, 3) := dk_180 0 181 (dk_at dksX2_element_0 1 rfl rfl)
theorem dX2_element_4 : decode cX2_element 4 = .ok (.iload_n 2, 1) := dk_28 (dk_at dksX2_element_0 4 rfl rfl)
theorem dX2_element_5 : decode cX2_element 5 = .ok (.iaload, 1) := dk_46 (dk_at dksX2_element_0 5 rfl rfl)
theorem dX2_element_6 : decode cX2_element 6 = .ok (.iload_n 1, 1) := dk_27 (dk_at dksX2_element_0 6 rfl rfl)
theorem dX2_element_7 : decode cX2_element 7 = .ok (.if_icmp .ne 12, 3) := dk_160 0 12 (dk_at dksX2_element_0 7 rfl rfl)
theorem dX2_element_10 : decode cX2_element 10 = .ok (.aload_n 0, 1) := dk_42 (dk_at dksX2_element_0 10 rfl rfl)
theorem dX2_element_11 : decode cX2_element 11 = .ok (.iload_n 2, 1) := dk_28 (dk_at dksX2_element_0 11 rfl rfl)
theorem dX2_element_12 : decode cX2_element 12 = .ok (.iload_n 3, 1) := dk_29 (dk_at dksX2_element_0 12 rfl rfl)
theorem dX2_element_13 : decode cX2_element 13 = .ok (.invokevirtual 691, 3) := dk_182 2 179 (dk_at dksX2_element_0 13 rfl rfl)
theorem dX2_element_16 : decode cX2_element 16 = .ok (.goto 4, 3) := dk_167 0 4 (dk_at dksX2_element_0 16 rfl rfl)
theorem dX2_element_19 : decode cX2_element 19 = .ok (.iload_n 2, 1) := dk_28 (dk_at dksX2_element_0 19 rfl rfl)
theorem dX2_element_20 : decode cX2_element 20 = .ok (.ireturn, 1) := dk_172 (dk_at dksX2_element_0 20 rfl rfl)
abbrev cX2_goal : ByteArray := prog_4_method_109_code
def yX2_goal : MethodName := ⟨RX2, "goal", "(IIIIII)I"⟩
def dkwX2_goal_2 : List UInt8 := [79, 42, 180, 1, 15, 21, 7, 21, 6, 79, 42, 89, 180, 3, 99, 4, 96, 181, 3, 99, 21, 7, 172]
abbrev dktX2_goal_2 : List UInt8 := dkwX2_goal_2 ++ []
def dkwX2_goal_1 : List UInt8 := [180, 1, 6, 21, 7, 29, 79, 42, 180, 1, 9, 21, 7, 21, 4, 79, 42, 180, 1, 12, 21, 7, 21, 5]
abbrev dktX2_goal_1 : List UInt8 := dkwX2_goal_1 ++ dktX2_goal_2
def dkwX2_goal_0 : List UInt8 := [42, 180, 3, 99, 54, 7, 42, 180, 1, 0, 21, 7, 27, 79, 42, 180, 1, 3, 21, 7, 28, 79, 42]
abbrev dktX2_goal_0 : List UInt8 := dkwX2_goal_0 ++ dktX2_goal_1
theorem dksX2_goal_0 : cX2_goal.data.toList.drop 0 = dktX2_goal_0 := by decide +kernel
theorem dksX2_goal_1 : cX2_goal.data.toList.drop 23 = dktX2_goal_1 := dk_seg dksX2_goal_0 23 rfl rfl
theorem dksX2_goal_2 : cX2_goal.data.toList.drop 47 = dktX2_goal_2 := dk_seg dksX2_goal_1 24 rfl rfl
theorem dX2_goal_0 : decode cX2_goal 0 = .ok (.aload_n 0, 1) := dk_42 (dk_at dksX2_goal_0 0 rfl rfl)
theorem dX2_goal_1 : decode cX2_goal 1 = .ok (.getfield 867, 3) := dk_180 3 99 (dk_at dksX2_goal_0 1 rfl rfl)
theorem dX2_goal_4 : decode cX2_goal 4 = .ok (.istore 7, 2) := dk_54 7 (dk_at dksX2_goal_0 4 rfl rfl)
theorem dX2_goal_6 : decode cX2_goal 6 = .ok (.aload_n 0, 1) := dk_42 (dk_at dksX2_goal_0 6 rfl rfl)
theorem dX2_goal_7 : decode cX2_goal 7 = .ok (.getfield 256, 3) := dk_180 1 0 (dk_at dksX2_goal_0 7 rfl rfl)
theorem dX2_goal_10 : decode cX2_goal 10 = .ok (.iload 7, 2) := dk_21 7 (dk_at dksX2_goal_0 10 rfl rfl)
theorem dX2_goal_12 : decode cX2_goal 12 = .ok (.iload_n 1, 1) := dk_27 (dk_at dksX2_goal_0 12 rfl rfl)
theorem dX2_goal_13 : decode cX2_goal 13 = .ok (.iastore, 1) := dk_79 (dk_at dksX2_goal_0 13 rfl rfl)
theorem dX2_goal_14 : decode cX2_goal 14 = .ok (.aload_n 0, 1) := dk_42 (dk_at dksX2_goal_0 14 rfl rfl)
theorem dX2_goal_15 : decode cX2_goal 15 = .ok (.getfield 259, 3) := dk_180 1 3 (dk_at dksX2_goal_0 15 rfl rfl)
theorem dX2_goal_18 : decode cX2_goal 18 = .ok (.iload 7, 2) := dk_21 7 (dk_at dksX2_goal_0 18 rfl rfl)
theorem dX2_goal_20 : decode cX2_goal 20 = .ok (.iload_n 2, 1) := dk_28 (dk_at dksX2_goal_0 20 rfl rfl)
theorem dX2_goal_21 : decode cX2_goal 21 = .ok (.iastore, 1) := dk_79 (dk_at dksX2_goal_0 21 rfl rfl)
theorem dX2_goal_22 : decode cX2_goal 22 = .ok (.aload_n 0, 1) := dk_42 (dk_at dksX2_goal_0 22 rfl rfl)
theorem dX2_goal_23 : decode cX2_goal 23 = .ok (.getfield 262, 3) := dk_180 1 6 (dk_at dksX2_goal_1 0 rfl rfl)
theorem dX2_goal_26 : decode cX2_goal 26 = .ok (.iload 7, 2) := dk_21 7 (dk_at dksX2_goal_1 3 rfl rfl)
theorem dX2_goal_28 : decode cX2_goal 28 = .ok (.iload_n 3, 1) := dk_29 (dk_at dksX2_goal_1 5 rfl rfl)
theorem dX2_goal_29 : decode cX2_goal 29 = .ok (.iastore, 1) := dk_79 (dk_at dksX2_goal_1 6 rfl rfl)
theorem dX2_goal_30 : decode cX2_goal 30 = .ok (.aload_n 0, 1) := dk_42 (dk_at dksX2_goal_1 7 rfl rfl)
theorem dX2_goal_31 : decode cX2_goal 31 = .ok (.getfield 265, 3) := dk_180 1 9 (dk_at dksX2_goal_1 8 rfl rfl)
theorem dX2_goal_34 : decode cX2_goal 34 = .ok (.iload 7, 2) := dk_21 7 (dk_at dksX2_goal_1 11 rfl rfl)
theorem dX2_goal_36 : decode cX2_goal 36 = .ok (.iload 4, 2) := dk_21 4 (dk_at dksX2_goal_1 13 rfl rfl)
theorem dX2_goal_38 : decode cX2_goal 38 = .ok (.iastore, 1) := dk_79 (dk_at dksX2_goal_1 15 rfl rfl)
theorem dX2_goal_39 : decode cX2_goal 39 = .ok (.aload_n 0, 1) := dk_42 (dk_at dksX2_goal_1 16 rfl rfl)
theorem dX2_goal_40 : decode cX2_goal 40 = .ok (.getfield 268, 3) := dk_180 1 12 (dk_at dksX2_goal_1 17 rfl rfl)
theorem dX2_goal_43 : decode cX2_goal 43 = .ok (.iload 7, 2) := dk_21 7 (dk_at dksX2_goal_1 20 rfl rfl)
theorem dX2_goal_45 : decode cX2_goal 45 = .ok (.iload 5, 2) := dk_21 5 (dk_at dksX2_goal_1 22 rfl rfl)
theorem dX2_goal_47 : decode cX2_goal 47 = .ok (.iastore, 1) := dk_79 (dk_at dksX2_goal_2 0 rfl rfl)
theorem dX2_goal_48 : decode cX2_goal 48 = .ok (.aload_n 0, 1) := dk_42 (dk_at dksX2_goal_2 1 rfl rfl)
theorem dX2_goal_49 : decode cX2_goal 49 = .ok (.getfield 271, 3) := dk_180 1 15 (dk_at dksX2_goal_2 2 rfl rfl)
theorem dX2_goal_52 : decode cX2_goal 52 = .ok (.iload 7, 2) := dk_21 7 (dk_at dksX2_goal_2 5 rfl rfl)
theorem dX2_goal_54 : decode cX2_goal 54 = .ok (.iload 6, 2) := dk_21 6 (dk_at dksX2_goal_2 7 rfl rfl)
theorem dX2_goal_56 : decode cX2_goal 56 = .ok (.iastore, 1) := dk_79 (dk_at dksX2_goal_2 9 rfl rfl)
theorem dX2_goal_57 : decode cX2_goal 57 = .ok (.aload_n 0, 1) := dk_42 (dk_at dksX2_goal_2 10 rfl rfl)
theorem dX2_goal_58 : decode cX2_goal 58 = .ok (.dup, 1) := dk_89 (dk_at dksX2_goal_2 11 rfl rfl)
theorem dX2_goal_59 : decode cX2_goal 59 = .ok (.getfield 867, 3) := dk_180 3 99 (dk_at dksX2_goal_2 12 rfl rfl)
theorem dX2_goal_62 : decode cX2_goal 62 = .ok (.iconst 1, 1) := dk_4 (dk_at dksX2_goal_2 15 rfl rfl)
theorem dX2_goal_63 : decode cX2_goal 63 = .ok (.iadd, 1) := dk_96 (dk_at dksX2_goal_2 16 rfl rfl)
theorem dX2_goal_64 : decode cX2_goal 64 = .ok (.putfield 867, 3) := dk_181 3 99 (dk_at dksX2_goal_2 17 rfl rfl)
theorem dX2_goal_67 : decode cX2_goal 67 = .ok (.iload 7, 2) := dk_21 7 (dk_at dksX2_goal_2 20 rfl rfl)
theorem dX2_goal_69 : decode cX2_goal 69 = .ok (.ireturn, 1) := dk_172 (dk_at dksX2_goal_2 22 rfl rfl)
abbrev cX2_solve : ByteArray := prog_4_method_116_code
def yX2_solve : MethodName := ⟨RX2, "solve", "(LRewriteHouseModel;I)V"⟩
def dkwX2_solve_3 : List UInt8 := [28, 181, 3, 99, 177]
abbrev dktX2_solve_3 : List UInt8 := dkwX2_solve_3 ++ []
def dkwX2_solve_2 : List UInt8 := [42, 180, 1, 0, 27, 46, 4, 160, 0, 11, 42, 27, 184, 3, 116, 167, 0, 8, 42, 27, 184, 3, 120, 42]
abbrev dktX2_solve_2 : List UInt8 := dkwX2_solve_2 ++ dktX2_solve_3
def dkwX2_solve_1 : List UInt8 := [42, 180, 1, 3, 27, 46, 42, 180, 1, 6, 27, 46, 42, 180, 1, 15, 27, 46, 184, 3, 113, 167, 0, 26]
abbrev dktX2_solve_1 : List UInt8 := dkwX2_solve_1 ++ dktX2_solve_2
def dkwX2_solve_0 : List UInt8 := [27, 156, 0, 8, 42, 182, 3, 110, 177, 42, 180, 3, 99, 61, 42, 180, 1, 0, 27, 46, 154, 0, 28, 42]
abbrev dktX2_solve_0 : List UInt8 := dkwX2_solve_0 ++ dktX2_solve_1
theorem dksX2_solve_0 : cX2_solve.data.toList.drop 0 = dktX2_solve_0 := by decide +kernel
theorem dksX2_solve_1 : cX2_solve.data.toList.drop 24 = dktX2_solve_1 := dk_seg dksX2_solve_0 24 rfl rfl
theorem dksX2_solve_2 : cX2_solve.data.toList.drop 48 = dktX2_solve_2 := dk_seg dksX2_solve_1 24 rfl rfl
theorem dksX2_solve_3 : cX2_solve.data.toList.drop 72 = dktX2_solve_3 := dk_seg dksX2_solve_2 24 rfl rfl
theorem dX2_solve_0 : decode cX2_solve 0 = .ok (.iload_n 1, 1) := dk_27 (dk_at dksX2_solve_0 0 rfl rfl)
theorem dX2_solve_1 : decode cX2_solve 1 = .ok (.ifCond .ge 8, 3) := dk_156 0 8 (dk_at dksX2_solve_0 1 rfl rfl)
theorem dX2_solve_4 : decode cX2_solve 4 = .ok (.aload_n 0, 1) := dk_42 (dk_at dksX2_solve_0 4 rfl rfl)
theorem dX2_solve_5 : decode cX2_solve 5 = .ok (.invokevirtual 878, 3) := dk_182 3 110 (dk_at dksX2_solve_0 5 rfl rfl)
theorem dX2_solve_8 : decode cX2_solve 8 = .ok (.return_, 1) := dk_177 (dk_at dksX2_solve_0 8 rfl rfl)
theorem dX2_solve_9 : decode cX2_solve 9 = .ok (.aload_n 0, 1) := dk_42 (dk_at dksX2_solve_0 9 rfl rfl)
theorem dX2_solve_10 : decode cX2_solve 10 = .ok (.getfield 867, 3) := dk_180 3 99 (dk_at dksX2_solve_0 10 rfl rfl)
theorem dX2_solve_13 : decode cX2_solve 13 = .ok (.istore_n 2, 1) := dk_61 (dk_at dksX2_solve_0 13 rfl rfl)
theorem dX2_solve_14 : decode cX2_solve 14 = .ok (.aload_n 0, 1) := dk_42 (dk_at dksX2_solve_0 14 rfl rfl)
theorem dX2_solve_15 : decode cX2_solve 15 = .ok (.getfield 256, 3) := dk_180 1 0 (dk_at dksX2_solve_0 15 rfl rfl)
theorem dX2_solve_18 : decode cX2_solve 18 = .ok (.iload_n 1, 1) := dk_27 (dk_at dksX2_solve_0 18 rfl rfl)
theorem dX2_solve_19 : decode cX2_solve 19 = .ok (.iaload, 1) := dk_46 (dk_at dksX2_solve_0 19 rfl rfl)
theorem dX2_solve_20 : decode cX2_solve 20 = .ok (.ifCond .ne 28, 3) := dk_154 0 28 (dk_at dksX2_solve_0 20 rfl rfl)
theorem dX2_solve_23 : decode cX2_solve 23 = .ok (.aload_n 0, 1) := dk_42 (dk_at dksX2_solve_0 23 rfl rfl)
theorem dX2_solve_24 : decode cX2_solve 24 = .ok (.aload_n 0, 1) := dk_42 (dk_at dksX2_solve_1 0 rfl rfl)
theorem dX2_solve_25 : decode cX2_solve 25 = .ok (.getfield 259, 3) := dk_180 1 3 (dk_at dksX2_solve_1 1 rfl rfl)
theorem dX2_solve_28 : decode cX2_solve 28 = .ok (.iload_n 1, 1) := dk_27 (dk_at dksX2_solve_1 4 rfl rfl)
theorem dX2_solve_29 : decode cX2_solve 29 = .ok (.iaload, 1) := dk_46 (dk_at dksX2_solve_1 5 rfl rfl)
theorem dX2_solve_30 : decode cX2_solve 30 = .ok (.aload_n 0, 1) := dk_42 (dk_at dksX2_solve_1 6 rfl rfl)
theorem dX2_solve_31 : decode cX2_solve 31 = .ok (.getfield 262, 3) := dk_180 1 6 (dk_at dksX2_solve_1 7 rfl rfl)
theorem dX2_solve_34 : decode cX2_solve 34 = .ok (.iload_n 1, 1) := dk_27 (dk_at dksX2_solve_1 10 rfl rfl)
theorem dX2_solve_35 : decode cX2_solve 35 = .ok (.iaload, 1) := dk_46 (dk_at dksX2_solve_1 11 rfl rfl)
theorem dX2_solve_36 : decode cX2_solve 36 = .ok (.aload_n 0, 1) := dk_42 (dk_at dksX2_solve_1 12 rfl rfl)
theorem dX2_solve_37 : decode cX2_solve 37 = .ok (.getfield 271, 3) := dk_180 1 15 (dk_at dksX2_solve_1 13 rfl rfl)
theorem dX2_solve_40 : decode cX2_solve 40 = .ok (.iload_n 1, 1) := dk_27 (dk_at dksX2_solve_1 16 rfl rfl)
theorem dX2_solve_41 : decode cX2_solve 41 = .ok (.iaload, 1) := dk_46 (dk_at dksX2_solve_1 17 rfl rfl)
theorem dX2_solve_42 : decode cX2_solve 42 = .ok (.invokestatic 881, 3) := dk_184 3 113 (dk_at dksX2_solve_1 18 rfl rfl)
theorem dX2_solve_45 : decode cX2_solve 45 = .ok (.goto 26, 3) := dk_167 0 26 (dk_at dksX2_solve_1 21 rfl rfl)
theorem dX2_solve_48 : decode cX2_solve 48 = .ok (.aload_n 0, 1) := dk_42 (dk_at dksX2_solve_2 0 rfl rfl)
theorem dX2_solve_49 : decode cX2_solve 49 = .ok (.getfield 256, 3) := dk_180 1 0 (dk_at dksX2_solve_2 1 rfl rfl)
theorem dX2_solve_52 : decode cX2_solve 52 = .ok (.iload_n 1, 1) := dk_27 (dk_at dksX2_solve_2 4 rfl rfl)
theorem dX2_solve_53 : decode cX2_solve 53 = .ok (.iaload, 1) := dk_46 (dk_at dksX2_solve_2 5 rfl rfl)
theorem dX2_solve_54 : decode cX2_solve 54 = .ok (.iconst 1, 1) := dk_4 (dk_at dksX2_solve_2 6 rfl rfl)
theorem dX2_solve_55 : decode cX2_solve 55 = .ok (.if_icmp .ne 11, 3) := dk_160 0 11 (dk_at dksX2_solve_2 7 rfl rfl)
theorem dX2_solve_58 : decode cX2_solve 58 = .ok (.aload_n 0, 1) := dk_42 (dk_at dksX2_solve_2 10 rfl rfl)
theorem dX2_solve_59 : decode cX2_solve 59 = .ok (.iload_n 1, 1) := dk_27 (dk_at dksX2_solve_2 11 rfl rfl)
theorem dX2_solve_60 : decode cX2_solve 60 = .ok (.invokestatic 884, 3) := dk_184 3 116 (dk_at dksX2_solve_2 12 rfl rfl)
theorem dX2_solve_63 : decode cX2_solve 63 = .ok (.goto 8, 3) := dk_167 0 8 (dk_at dksX2_solve_2 15 rfl rfl)
theorem dX2_solve_66 : decode cX2_solve 66 = .ok (.aload_n 0, 1) := dk_42 (dk_at dksX2_solve_2 18 rfl rfl)
theorem dX2_solve_67 : decode cX2_solve 67 = .ok (.iload_n 1, 1) := dk_27 (dk_at dksX2_solve_2 19 rfl rfl)
theorem dX2_solve_68 : decode cX2_solve 68 = .ok (.invokestatic 888, 3) := dk_184 3 120 (dk_at dksX2_solve_2 20 rfl rfl)
theorem dX2_solve_71 : decode cX2_solve 71 = .ok (.aload_n 0, 1) := dk_42 (dk_at dksX2_solve_2 23 rfl rfl)
theorem dX2_solve_72 : decode cX2_solve 72 = .ok (.iload_n 2, 1) := dk_28 (dk_at dksX2_solve_3 0 rfl rfl)
theorem dX2_solve_73 : decode cX2_solve 73 = .ok (.putfield 867, 3) := dk_181 3 99 (dk_at dksX2_solve_3 1 rfl rfl)
theorem dX2_solve_76 : decode cX2_solve 76 = .ok (.return_, 1) := dk_177 (dk_at dksX2_solve_3 4 rfl rfl)
abbrev cX2_record : ByteArray := prog_4_method_122_code
def yX2_record : MethodName := ⟨RX2, "record", "()V"⟩
def dkwX2_record_8 : List UInt8 := [4, 96, 181, 3, 160, 177]
abbrev dktX2_record_8 : List UInt8 := dkwX2_record_8 ++ []
def dkwX2_record_7 : List UInt8 := [96, 42, 180, 3, 151, 79, 42, 180, 1, 22, 29, 16, 61, 96, 42, 180, 3, 157, 79, 42, 89, 180, 3, 160]
abbrev dktX2_record_7 : List UInt8 := dkwX2_record_7 ++ dktX2_record_8
def dkwX2_record_6 : List UInt8 := [21, 4, 96, 42, 180, 1, 18, 21, 4, 46, 79, 132, 4, 1, 167, 255, 230, 42, 180, 1, 22, 29, 16, 60]
abbrev dktX2_record_6 : List UInt8 := dkwX2_record_6 ++ dktX2_record_7
def dkwX2_record_5 : List UInt8 := [180, 3, 148, 16, 64, 27, 104, 96, 62, 3, 54, 4, 21, 4, 16, 60, 162, 0, 25, 42, 180, 1, 22, 29]
abbrev dktX2_record_5 : List UInt8 := dkwX2_record_5 ++ dktX2_record_6
def dkwX2_record_4 : List UInt8 := [42, 180, 1, 22, 29, 16, 64, 96, 42, 180, 1, 22, 29, 46, 79, 132, 3, 255, 167, 255, 225, 42]
abbrev dktX2_record_4 : List UInt8 := dkwX2_record_4 ++ dktX2_record_5
def dkwX2_record_3 : List UInt8 := [16, 64, 42, 180, 3, 160, 104, 96, 4, 100, 62, 29, 42, 180, 3, 148, 16, 64, 27, 104, 96, 161, 0, 24]
abbrev dktX2_record_3 : List UInt8 := dkwX2_record_3 ++ dktX2_record_4
def dkwX2_record_2 : List UInt8 := [167, 255, 218, 42, 180, 3, 160, 17, 0, 200, 160, 0, 9, 42, 5, 3, 182, 1, 178, 42, 180, 3, 148]
abbrev dktX2_record_2 : List UInt8 := dkwX2_record_2 ++ dktX2_record_3
def dkwX2_record_1 : List UInt8 := [54, 4, 21, 4, 154, 0, 4, 177, 21, 4, 156, 0, 8, 29, 61, 167, 0, 7, 29, 4, 96, 60]
abbrev dktX2_record_1 : List UInt8 := dkwX2_record_1 ++ dktX2_record_2
def dkwX2_record_0 : List UInt8 := [3, 60, 42, 180, 3, 160, 61, 27, 28, 162, 0, 39, 27, 28, 96, 5, 108, 62, 42, 29, 182, 3, 163]
abbrev dktX2_record_0 : List UInt8 := dkwX2_record_0 ++ dktX2_record_1
theorem dksX2_record_0 : cX2_record.data.toList.drop 0 = dktX2_record_0 := by decide +kernel
theorem dksX2_record_1 : cX2_record.data.toList.drop 23 = dktX2_record_1 := dk_seg dksX2_record_0 23 rfl rfl
theorem dksX2_record_2 : cX2_record.data.toList.drop 45 = dktX2_record_2 := dk_seg dksX2_record_1 22 rfl rfl
theorem dksX2_record_3 : cX2_record.data.toList.drop 68 = dktX2_record_3 := dk_seg dksX2_record_2 23 rfl rfl
theorem dksX2_record_4 : cX2_record.data.toList.drop 92 = dktX2_record_4 := dk_seg dksX2_record_3 24 rfl rfl
theorem dksX2_record_5 : cX2_record.data.toList.drop 114 = dktX2_record_5 := dk_seg dksX2_record_4 22 rfl rfl
theorem dksX2_record_6 : cX2_record.data.toList.drop 138 = dktX2_record_6 := dk_seg dksX2_record_5 24 rfl rfl
theorem dksX2_record_7 : cX2_record.data.toList.drop 162 = dktX2_record_7 := dk_seg dksX2_record_6 24 rfl rfl
theorem dksX2_record_8 : cX2_record.data.toList.drop 186 = dktX2_record_8 := dk_seg dksX2_record_7 24 rfl rfl
theorem dX2_record_0 : decode cX2_record 0 = .ok (.iconst 0, 1) := dk_3 (dk_at dksX2_record_0 0 rfl rfl)
theorem dX2_record_1 : decode cX2_record 1 = .ok (.istore_n 1, 1) := dk_60 (dk_at dksX2_record_0 1 rfl rfl)
theorem dX2_record_2 : decode cX2_record 2 = .ok (.aload_n 0, 1) := dk_42 (dk_at dksX2_record_0 2 rfl rfl)
theorem dX2_record_3 : decode cX2_record 3 = .ok (.getfield 928, 3) := dk_180 3 160 (dk_at dksX2_record_0 3 rfl rfl)
theorem dX2_record_6 : decode cX2_record 6 = .ok (.istore_n 2, 1) := dk_61 (dk_at dksX2_record_0 6 rfl rfl)
theorem dX2_record_7 : decode cX2_record 7 = .ok (.iload_n 1, 1) := dk_27 (dk_at dksX2_record_0 7 rfl rfl)
theorem dX2_record_8 : decode cX2_record 8 = .ok (.iload_n 2, 1) := dk_28 (dk_at dksX2_record_0 8 rfl rfl)
theorem dX2_record_9 : decode cX2_record 9 = .ok (.if_icmp .ge 39, 3) := dk_162 0 39 (dk_at dksX2_record_0 9 rfl rfl)
theorem dX2_record_12 : decode cX2_record 12 = .ok (.iload_n 1, 1) := dk_27 (dk_at dksX2_record_0 12 rfl rfl)
theorem dX2_record_13 : decode cX2_record 13 = .ok (.iload_n 2, 1) := dk_28 (dk_at dksX2_record_0 13 rfl rfl)
theorem dX2_record_14 : decode cX2_record 14 = .ok (.iadd, 1) := dk_96 (dk_at dksX2_record_0 14 rfl rfl)
theorem dX2_record_15 : decode cX2_record 15 = .ok (.iconst 2, 1) := dk_5 (dk_at dksX2_record_0 15 rfl rfl)
theorem dX2_record_16 : decode cX2_record 16 = .ok (.idiv, 1) := dk_108 (dk_at dksX2_record_0 16 rfl rfl)
theorem dX2_record_17 : decode cX2_record 17 = .ok (.istore_n 3, 1) := dk_62 (dk_at dksX2_record_0 17 rfl rfl)
theorem dX2_record_18 : decode cX2_record 18 = .ok (.aload_n 0, 1) := dk_42 (dk_at dksX2_record_0 18 rfl rfl)
theorem dX2_record_19 : decode cX2_record 19 = .ok (.iload_n 3, 1) := dk_29 (dk_at dksX2_record_0 19 rfl rfl)
theorem dX2_record_20 : decode cX2_record 20 = .ok (.invokevirtual 931, 3) := dk_182 3 163 (dk_at dksX2_record_0 20 rfl rfl)
theorem dX2_record_23 : decode cX2_record 23 = .ok (.istore 4, 2) := dk_54 4 (dk_at dksX2_record_1 0 rfl rfl)
theorem dX2_record_25 : decode cX2_record 25 = .ok (.iload 4, 2) := dk_21 4 (dk_at dksX2_record_1 2 rfl rfl)
theorem dX2_record_27 : decode cX2_record 27 = .ok (.ifCond .ne 4, 3) := dk_154 0 4 (dk_at dksX2_record_1 4 rfl rfl)
theorem dX2_record_30 : decode cX2_record 30 = .ok (.return_, 1) := dk_177 (dk_at dksX2_record_1 7 rfl rfl)
theorem dX2_record_31 : decode cX2_record 31 = .ok (.iload 4, 2) := dk_21 4 (dk_at dksX2_record_1 8 rfl rfl)
theorem dX2_record_33 : decode cX2_record 33 = .ok (.ifCond .ge 8, 3) := dk_156 0 8 (dk_at dksX2_record_1 10 rfl rfl)
theorem dX2_record_36 : decode cX2_record 36 = .ok (.iload_n 3, 1) := dk_29 (dk_at dksX2_record_1 13 rfl rfl)
theorem dX2_record_37 : decode cX2_record 37 = .ok (.istore_n 2, 1) := dk_61 (dk_at dksX2_record_1 14 rfl rfl)
theorem dX2_record_38 : decode cX2_record 38 = .ok (.goto 7, 3) := dk_167 0 7 (dk_at dksX2_record_1 15 rfl rfl)
theorem dX2_record_41 : decode cX2_record 41 = .ok (.iload_n 3, 1) := dk_29 (dk_at dksX2_record_1 18 rfl rfl)
theorem dX2_record_42 : decode cX2_record 42 = .ok (.iconst 1, 1) := dk_4 (dk_at dksX2_record_1 19 rfl rfl)
theorem dX2_record_43 : decode cX2_record 43 = .ok (.iadd, 1) := dk_96 (dk_at dksX2_record_1 20 rfl rfl)
theorem dX2_record_44 : decode cX2_record 44 = .ok (.istore_n 1, 1) := dk_60 (dk_at dksX2_record_1 21 rfl rfl)
theorem dX2_record_45 : decode cX2_record 45 = .ok (.goto (-38), 3) := dk_167 255 218 (dk_at dksX2_record_2 0 rfl rfl)
theorem dX2_record_48 : decode cX2_record 48 = .ok (.aload_n 0, 1) := dk_42 (dk_at dksX2_record_2 3 rfl rfl)
theorem dX2_record_49 : decode cX2_record 49 = .ok (.getfield 928, 3) := dk_180 3 160 (dk_at dksX2_record_2 4 rfl rfl)
theorem dX2_record_52 : decode cX2_record 52 = .ok (.sipush 200, 3) := dk_17 0 200 (dk_at dksX2_record_2 7 rfl rfl)
theorem dX2_record_55 : decode cX2_record 55 = .ok (.if_icmp .ne 9, 3) := dk_160 0 9 (dk_at dksX2_record_2 10 rfl rfl)
theorem dX2_record_58 : decode cX2_record 58 = .ok (.aload_n 0, 1) := dk_42 (dk_at dksX2_record_2 13 rfl rfl)
theorem dX2_record_59 : decode cX2_record 59 = .ok (.iconst 2, 1) := dk_5 (dk_at dksX2_record_2 14 rfl rfl)
theorem dX2_record_60 : decode cX2_record 60 = .ok (.iconst 0, 1) := dk_3 (dk_at dksX2_record_2 15 rfl rfl)
theorem dX2_record_61 : decode cX2_record 61 = .ok (.invokevirtual 434, 3) := dk_182 1 178 (dk_at dksX2_record_2 16 rfl rfl)
theorem dX2_record_64 : decode cX2_record 64 = .ok (.aload_n 0, 1) := dk_42 (dk_at dksX2_record_2 19 rfl rfl)
theorem dX2_record_65 : decode cX2_record 65 = .ok (.getfield 916, 3) := dk_180 3 148 (dk_at dksX2_record_2 20 rfl rfl)
theorem dX2_record_68 : decode cX2_record 68 = .ok (.bipush 64, 2) := dk_16 64 (dk_at dksX2_record_3 0 rfl rfl)
theorem dX2_record_70 : decode cX2_record 70 = .ok (.aload_n 0, 1) := dk_42 (dk_at dksX2_record_3 2 rfl rfl)
theorem dX2_record_71 : decode cX2_record 71 = .ok (.getfield 928, 3) := dk_180 3 160 (dk_at dksX2_record_3 3 rfl rfl)
theorem dX2_record_74 : decode cX2_record 74 = .ok (.imul, 1) := dk_104 (dk_at dksX2_record_3 6 rfl rfl)
theorem dX2_record_75 : decode cX2_record 75 = .ok (.iadd, 1) := dk_96 (dk_at dksX2_record_3 7 rfl rfl)
theorem dX2_record_76 : decode cX2_record 76 = .ok (.iconst 1, 1) := dk_4 (dk_at dksX2_record_3 8 rfl rfl)
theorem dX2_record_77 : decode cX2_record 77 = .ok (.isub, 1) := dk_100 (dk_at dksX2_record_3 9 rfl rfl)
theorem dX2_record_78 : decode cX2_record 78 = .ok (.istore_n 3, 1) := dk_62 (dk_at dksX2_record_3 10 rfl rfl)
theorem dX2_record_79 : decode cX2_record 79 = .ok (.iload_n 3, 1) := dk_29 (dk_at dksX2_record_3 11 rfl rfl)
theorem dX2_record_80 : decode cX2_record 80 = .ok (.aload_n 0, 1) := dk_42 (dk_at dksX2_record_3 12 rfl rfl)
theorem dX2_record_81 : decode cX2_record 81 = .ok (.getfield 916, 3) := dk_180 3 148 (dk_at dksX2_record_3 13 rfl rfl)
theorem dX2_record_84 : decode cX2_record 84 = .ok (.bipush 64, 2) := dk_16 64 (dk_at dksX2_record_3 16 rfl rfl)
theorem dX2_record_86 : decode cX2_record 86 = .ok (.iload_n 1, 1) := dk_27 (dk_at dksX2_record_3 18 rfl rfl)
theorem dX2_record_87 : decode cX2_record 87 = .ok (.imul, 1) := dk_104 (dk_at dksX2_record_3 19 rfl rfl)
theorem dX2_record_88 : decode cX2_record 88 = .ok (.iadd, 1) := dk_96 (dk_at dksX2_record_3 20 rfl rfl)
theorem dX2_record_89 : decode cX2_record 89 = .ok (.if_icmp .lt 24, 3) := dk_161 0 24 (dk_at dksX2_record_3 21 rfl rfl)
theorem dX2_record_92 : decode cX2_record 92 = .ok (.aload_n 0, 1) := dk_42 (dk_at dksX2_record_4 0 rfl rfl)
theorem dX2_record_93 : decode cX2_record 93 = .ok (.getfield 278, 3) := dk_180 1 22 (dk_at dksX2_record_4 1 rfl rfl)
theorem dX2_record_96 : decode cX2_record 96 = .ok (.iload_n 3, 1) := dk_29 (dk_at dksX2_record_4 4 rfl rfl)
theorem dX2_record_97 : decode cX2_record 97 = .ok (.bipush 64, 2) := dk_16 64 (dk_at dksX2_record_4 5 rfl rfl)
theorem dX2_record_99 : decode cX2_record 99 = .ok (.iadd, 1) := dk_96 (dk_at dksX2_record_4 7 rfl rfl)
theorem dX2_record_100 : decode cX2_record 100 = .ok (.aload_n 0, 1) := dk_42 (dk_at dksX2_record_4 8 rfl rfl)
theorem dX2_record_101 : decode cX2_record 101 = .ok (.getfield 278, 3) := dk_180 1 22 (dk_at dksX2_record_4 9 rfl rfl)
theorem dX2_record_104 : decode cX2_record 104 = .ok (.iload_n 3, 1) := dk_29 (dk_at dksX2_record_4 12 rfl rfl)
theorem dX2_record_105 : decode cX2_record 105 = .ok (.iaload, 1) := dk_46 (dk_at dksX2_record_4 13 rfl rfl)
theorem dX2_record_106 : decode cX2_record 106 = .ok (.iastore, 1) := dk_79 (dk_at dksX2_record_4 14 rfl rfl)
theorem dX2_record_107 : decode cX2_record 107 = .ok (.iinc 3 (-1), 3) := dk_132 3 255 (dk_at dksX2_record_4 15 rfl rfl)
theorem dX2_record_110 : decode cX2_record 110 = .ok (.goto (-31), 3) := dk_167 255 225 (dk_at dksX2_record_4 18 rfl rfl)
theorem dX2_record_113 : decode cX2_record 113 = .ok (.aload_n 0, 1) := dk_42 (dk_at dksX2_record_4 21 rfl rfl)
theorem dX2_record_114 : decode cX2_record 114 = .ok (.getfield 916, 3) := dk_180 3 148 (dk_at dksX2_record_5 0 rfl rfl)
theorem dX2_record_117 : decode cX2_record 117 = .ok (.bipush 64, 2) := dk_16 64 (dk_at dksX2_record_5 3 rfl rfl)
theorem dX2_record_119 : decode cX2_record 119 = .ok (.iload_n 1, 1) := dk_27 (dk_at dksX2_record_5 5 rfl rfl)
theorem dX2_record_120 : decode cX2_record 120 = .ok (.imul, 1) := dk_104 (dk_at dksX2_record_5 6 rfl rfl)
theorem dX2_record_121 : decode cX2_record 121 = .ok (.iadd, 1) := dk_96 (dk_at dksX2_record_5 7 rfl rfl)
theorem dX2_record_122 : decode cX2_record 122 = .ok (.istore_n 3, 1) := dk_62 (dk_at dksX2_record_5 8 rfl rfl)
theorem dX2_record_123 : decode cX2_record 123 = .ok (.iconst 0, 1) := dk_3 (dk_at dksX2_record_5 9 rfl rfl)
theorem dX2_record_124 : decode cX2_record 124 = .ok (.istore 4, 2) := dk_54 4 (dk_at dksX2_record_5 10 rfl rfl)
theorem dX2_record_126 : decode cX2_record 126 = .ok (.iload 4, 2) := dk_21 4 (dk_at dksX2_record_5 12 rfl rfl)
theorem dX2_record_128 : decode cX2_record 128 = .ok (.bipush 60, 2) := dk_16 60 (dk_at dksX2_record_5 14 rfl rfl)
theorem dX2_record_130 : decode cX2_record 130 = .ok (.if_icmp .ge 25, 3) := dk_162 0 25 (dk_at dksX2_record_5 16 rfl rfl)
theorem dX2_record_133 : decode cX2_record 133 = .ok (.aload_n 0, 1) := dk_42 (dk_at dksX2_record_5 19 rfl rfl)
theorem dX2_record_134 : decode cX2_record 134 = .ok (.getfield 278, 3) := dk_180 1 22 (dk_at dksX2_record_5 20 rfl rfl)
theorem dX2_record_137 : decode cX2_record 137 = .ok (.iload_n 3, 1) := dk_29 (dk_at dksX2_record_5 23 rfl rfl)
theorem dX2_record_138 : decode cX2_record 138 = .ok (.iload 4, 2) := dk_21 4 (dk_at dksX2_record_6 0 rfl rfl)
theorem dX2_record_140 : decode cX2_record 140 = .ok (.iadd, 1) := dk_96 (dk_at dksX2_record_6 2 rfl rfl)
theorem dX2_record_141 : decode cX2_record 141 = .ok (.aload_n 0, 1) := dk_42 (dk_at dksX2_record_6 3 rfl rfl)
theorem dX2_record_142 : decode cX2_record 142 = .ok (.getfield 274, 3) := dk_180 1 18 (dk_at dksX2_record_6 4 rfl rfl)
theorem dX2_record_145 : decode cX2_record 145 = .ok (.iload 4, 2) := dk_21 4 (dk_at dksX2_record_6 7 rfl rfl)
theorem dX2_record_147 : decode cX2_record 147 = .ok (.iaload, 1) := dk_46 (dk_at dksX2_record_6 9 rfl rfl)
theorem dX2_record_148 : decode cX2_record 148 = .ok (.iastore, 1) := dk_79 (dk_at dksX2_record_6 10 rfl rfl)
theorem dX2_record_149 : decode cX2_record 149 = .ok (.iinc 4 1, 3) := dk_132 4 1 (dk_at dksX2_record_6 11 rfl rfl)
theorem dX2_record_152 : decode cX2_record 152 = .ok (.goto (-26), 3) := dk_167 255 230 (dk_at dksX2_record_6 14 rfl rfl)
theorem dX2_record_155 : decode cX2_record 155 = .ok (.aload_n 0, 1) := dk_42 (dk_at dksX2_record_6 17 rfl rfl)
theorem dX2_record_156 : decode cX2_record 156 = .ok (.getfield 278, 3) := dk_180 1 22 (dk_at dksX2_record_6 18 rfl rfl)
theorem dX2_record_159 : decode cX2_record 159 = .ok (.iload_n 3, 1) := dk_29 (dk_at dksX2_record_6 21 rfl rfl)
theorem dX2_record_160 : decode cX2_record 160 = .ok (.bipush 60, 2) := dk_16 60 (dk_at dksX2_record_6 22 rfl rfl)
theorem dX2_record_162 : decode cX2_record 162 = .ok (.iadd, 1) := dk_96 (dk_at dksX2_record_7 0 rfl rfl)
theorem dX2_record_163 : decode cX2_record 163 = .ok (.aload_n 0, 1) := dk_42 (dk_at dksX2_record_7 1 rfl rfl)
theorem dX2_record_164 : decode cX2_record 164 = .ok (.getfield 919, 3) := dk_180 3 151 (dk_at dksX2_record_7 2 rfl rfl)
theorem dX2_record_167 : decode cX2_record 167 = .ok (.iastore, 1) := dk_79 (dk_at dksX2_record_7 5 rfl rfl)
theorem dX2_record_168 : decode cX2_record 168 = .ok (.aload_n 0, 1) := dk_42 (dk_at dksX2_record_7 6 rfl rfl)
theorem dX2_record_169 : decode cX2_record 169 = .ok (.getfield 278, 3) := dk_180 1 22 (dk_at dksX2_record_7 7 rfl rfl)
theorem dX2_record_172 : decode cX2_record 172 = .ok (.iload_n 3, 1) := dk_29 (dk_at dksX2_record_7 10 rfl rfl)
theorem dX2_record_173 : decode cX2_record 173 = .ok (.bipush 61, 2) := dk_16 61 (dk_at dksX2_record_7 11 rfl rfl)
theorem dX2_record_175 : decode cX2_record 175 = .ok (.iadd, 1) := dk_96 (dk_at dksX2_record_7 13 rfl rfl)
theorem dX2_record_176 : decode cX2_record 176 = .ok (.aload_n 0, 1) := dk_42 (dk_at dksX2_record_7 14 rfl rfl)
theorem dX2_record_177 : decode cX2_record 177 = .ok (.getfield 925, 3) := dk_180 3 157 (dk_at dksX2_record_7 15 rfl rfl)
theorem dX2_record_180 : decode cX2_record 180 = .ok (.iastore, 1) := dk_79 (dk_at dksX2_record_7 18 rfl rfl)
theorem dX2_record_181 : decode cX2_record 181 = .ok (.aload_n 0, 1) := dk_42 (dk_at dksX2_record_7 19 rfl rfl)
theorem dX2_record_182 : decode cX2_record 182 = .ok (.dup, 1) := dk_89 (dk_at dksX2_record_7 20 rfl rfl)
theorem dX2_record_183 : decode cX2_record 183 = .ok (.getfield 928, 3) := dk_180 3 160 (dk_at dksX2_record_7 21 rfl rfl)
theorem dX2_record_186 : decode cX2_record 186 = .ok (.iconst 1, 1) := dk_4 (dk_at dksX2_record_8 0 rfl rfl)
theorem dX2_record_187 : decode cX2_record 187 = .ok (.iadd, 1) := dk_96 (dk_at dksX2_record_8 1 rfl rfl)
theorem dX2_record_188 : decode cX2_record 188 = .ok (.putfield 928, 3) := dk_181 3 160 (dk_at dksX2_record_8 2 rfl rfl)
theorem dX2_record_191 : decode cX2_record 191 = .ok (.return_, 1) := dk_177 (dk_at dksX2_record_8 5 rfl rfl)
abbrev cX2_orderTo : ByteArray := prog_4_method_121_code
def yX2_orderTo : MethodName := ⟨RX2, "orderTo", "(I)I"⟩
def dkwX2_orderTo_4 : List UInt8 := [180, 1, 22, 28, 16, 61, 96, 46, 182, 3, 154, 172]
abbrev dktX2_orderTo_4 : List UInt8 := dkwX2_orderTo_4 ++ []
def dkwX2_orderTo_3 : List UInt8 := [16, 60, 96, 46, 182, 3, 154, 62, 29, 153, 0, 7, 29, 167, 0, 20, 42, 42, 180, 3, 157, 42]
abbrev dktX2_orderTo_3 : List UInt8 := dkwX2_orderTo_3 ++ dktX2_orderTo_4
def dkwX2_orderTo_2 : List UInt8 := [21, 4, 153, 0, 6, 21, 4, 172, 132, 3, 1, 167, 255, 210, 42, 42, 180, 3, 151, 42, 180, 1, 22, 28]
abbrev dktX2_orderTo_2 : List UInt8 := dkwX2_orderTo_2 ++ dktX2_orderTo_3
def dkwX2_orderTo_1 : List UInt8 := [155, 0, 31, 42, 42, 180, 1, 18, 29, 46, 42, 180, 1, 22, 28, 29, 96, 46, 184, 2, 191, 54, 4]
abbrev dktX2_orderTo_1 : List UInt8 := dkwX2_orderTo_1 ++ dktX2_orderTo_2
def dkwX2_orderTo_0 : List UInt8 := [42, 180, 3, 148, 16, 64, 27, 104, 96, 61, 3, 62, 29, 16, 60, 162, 0, 46, 42, 180, 1, 18, 29, 46]
abbrev dktX2_orderTo_0 : List UInt8 := dkwX2_orderTo_0 ++ dktX2_orderTo_1
theorem dksX2_orderTo_0 : cX2_orderTo.data.toList.drop 0 = dktX2_orderTo_0 := by decide +kernel
theorem dksX2_orderTo_1 : cX2_orderTo.data.toList.drop 24 = dktX2_orderTo_1 := dk_seg dksX2_orderTo_0 24 rfl rfl
theorem dksX2_orderTo_2 : cX2_orderTo.data.toList.drop 47 = dktX2_orderTo_2 := dk_seg dksX2_orderTo_1 23 rfl rfl
theorem dksX2_orderTo_3 : cX2_orderTo.data.toList.drop 71 = dktX2_orderTo_3 := dk_seg dksX2_orderTo_2 24 rfl rfl
theorem dksX2_orderTo_4 : cX2_orderTo.data.toList.drop 93 = dktX2_orderTo_4 := dk_seg dksX2_orderTo_3 22 rfl rfl
theorem dX2_orderTo_0 : decode cX2_orderTo 0 = .ok (.aload_n 0, 1) := dk_42 (dk_at dksX2_orderTo_0 0 rfl rfl)
theorem dX2_orderTo_1 : decode cX2_orderTo 1 = .ok (.getfield 916, 3) := dk_180 3 148 (dk_at dksX2_orderTo_0 1 rfl rfl)
theorem dX2_orderTo_4 : decode cX2_orderTo 4 = .ok (.bipush 64, 2) := dk_16 64 (dk_at dksX2_orderTo_0 4 rfl rfl)
theorem dX2_orderTo_6 : decode cX2_orderTo 6 = .ok (.iload_n 1, 1) := dk_27 (dk_at dksX2_orderTo_0 6 rfl rfl)
theorem dX2_orderTo_7 : decode cX2_orderTo 7 = .ok (.imul, 1) := dk_104 (dk_at dksX2_orderTo_0 7 rfl rfl)
theorem dX2_orderTo_8 : decode cX2_orderTo 8 = .ok (.iadd, 1) := dk_96 (dk_at dksX2_orderTo_0 8 rfl rfl)
theorem dX2_orderTo_9 : decode cX2_orderTo 9 = .ok (.istore_n 2, 1) := dk_61 (dk_at dksX2_orderTo_0 9 rfl rfl)
theorem dX2_orderTo_10 : decode cX2_orderTo 10 = .ok (.iconst 0, 1) := dk_3 (dk_at dksX2_orderTo_0 10 rfl rfl)
theorem dX2_orderTo_11 : decode cX2_orderTo 11 = .ok (.istore_n 3, 1) := dk_62 (dk_at dksX2_orderTo_0 11 rfl rfl)
theorem dX2_orderTo_12 : decode cX2_orderTo 12 = .ok (.iload_n 3, 1) := dk_29 (dk_at dksX2_orderTo_0 12 rfl rfl)
theorem dX2_orderTo_13 : decode cX2_orderTo 13 = .ok (.bipush 60, 2) := dk_16 60 (dk_at dksX2_orderTo_0 13 rfl rfl)
theorem dX2_orderTo_15 : decode cX2_orderTo 15 = .ok (.if_icmp .ge 46, 3) := dk_162 0 46 (dk_at dksX2_orderTo_0 15 rfl rfl)
theorem dX2_orderTo_18 : decode cX2_orderTo 18 = .ok (.aload_n 0, 1) := dk_42 (dk_at dksX2_orderTo_0 18 rfl rfl)
theorem dX2_orderTo_19 : decode cX2_orderTo 19 = .ok (.getfield 274, 3) := dk_180 1 18 (dk_at dksX2_orderTo_0 19 rfl rfl)
theorem dX2_orderTo_22 : decode cX2_orderTo 22 = .ok (.iload_n 3, 1) := dk_29 (dk_at dksX2_orderTo_0 22 rfl rfl)
theorem dX2_orderTo_23 : decode cX2_orderTo 23 = .ok (.iaload, 1) := dk_46 (dk_at dksX2_orderTo_0 23 rfl rfl)
theorem dX2_orderTo_24 : decode cX2_orderTo 24 = .ok (.ifCond .lt 31, 3) := dk_155 0 31 (dk_at dksX2_orderTo_1 0 rfl rfl)
theorem dX2_orderTo_27 : decode cX2_orderTo 27 = .ok (.aload_n 0, 1) := dk_42 (dk_at dksX2_orderTo_1 3 rfl rfl)
theorem dX2_orderTo_28 : decode cX2_orderTo 28 = .ok (.aload_n 0, 1) := dk_42 (dk_at dksX2_orderTo_1 4 rfl rfl)
theorem dX2_orderTo_29 : decode cX2_orderTo 29 = .ok (.getfield 274, 3) := dk_180 1 18 (dk_at dksX2_orderTo_1 5 rfl rfl)
theorem dX2_orderTo_32 : decode cX2_orderTo 32 = .ok (.iload_n 3, 1) := dk_29 (dk_at dksX2_orderTo_1 8 rfl rfl)
theorem dX2_orderTo_33 : decode cX2_orderTo 33 = .ok (.iaload, 1) := dk_46 (dk_at dksX2_orderTo_1 9 rfl rfl)
theorem dX2_orderTo_34 : decode cX2_orderTo 34 = .ok (.aload_n 0, 1) := dk_42 (dk_at dksX2_orderTo_1 10 rfl rfl)
theorem dX2_orderTo_35 : decode cX2_orderTo 35 = .ok (.getfield 278, 3) := dk_180 1 22 (dk_at dksX2_orderTo_1 11 rfl rfl)
theorem dX2_orderTo_38 : decode cX2_orderTo 38 = .ok (.iload_n 2, 1) := dk_28 (dk_at dksX2_orderTo_1 14 rfl rfl)
theorem dX2_orderTo_39 : decode cX2_orderTo 39 = .ok (.iload_n 3, 1) := dk_29 (dk_at dksX2_orderTo_1 15 rfl rfl)
theorem dX2_orderTo_40 : decode cX2_orderTo 40 = .ok (.iadd, 1) := dk_96 (dk_at dksX2_orderTo_1 16 rfl rfl)
theorem dX2_orderTo_41 : decode cX2_orderTo 41 = .ok (.iaload, 1) := dk_46 (dk_at dksX2_orderTo_1 17 rfl rfl)
theorem dX2_orderTo_42 : decode cX2_orderTo 42 = .ok (.invokestatic 703, 3) := dk_184 2 191 (dk_at dksX2_orderTo_1 18 rfl rfl)
theorem dX2_orderTo_45 : decode cX2_orderTo 45 = .ok (.istore 4, 2) := dk_54 4 (dk_at dksX2_orderTo_1 21 rfl rfl)
theorem dX2_orderTo_47 : decode cX2_orderTo 47 = .ok (.iload 4, 2) := dk_21 4 (dk_at dksX2_orderTo_2 0 rfl rfl)
theorem dX2_orderTo_49 : decode cX2_orderTo 49 = .ok (.ifCond .eq 6, 3) := dk_153 0 6 (dk_at dksX2_orderTo_2 2 rfl rfl)
theorem dX2_orderTo_52 : decode cX2_orderTo 52 = .ok (.iload 4, 2) := dk_21 4 (dk_at dksX2_orderTo_2 5 rfl rfl)
theorem dX2_orderTo_54 : decode cX2_orderTo 54 = .ok (.ireturn, 1) := dk_172 (dk_at dksX2_orderTo_2 7 rfl rfl)
theorem dX2_orderTo_55 : decode cX2_orderTo 55 = .ok (.iinc 3 1, 3) := dk_132 3 1 (dk_at dksX2_orderTo_2 8 rfl rfl)
theorem dX2_orderTo_58 : decode cX2_orderTo 58 = .ok (.goto (-46), 3) := dk_167 255 210 (dk_at dksX2_orderTo_2 11 rfl rfl)
theorem dX2_orderTo_61 : decode cX2_orderTo 61 = .ok (.aload_n 0, 1) := dk_42 (dk_at dksX2_orderTo_2 14 rfl rfl)
theorem dX2_orderTo_62 : decode cX2_orderTo 62 = .ok (.aload_n 0, 1) := dk_42 (dk_at dksX2_orderTo_2 15 rfl rfl)
theorem dX2_orderTo_63 : decode cX2_orderTo 63 = .ok (.getfield 919, 3) := dk_180 3 151 (dk_at dksX2_orderTo_2 16 rfl rfl)
theorem dX2_orderTo_66 : decode cX2_orderTo 66 = .ok (.aload_n 0, 1) := dk_42 (dk_at dksX2_orderTo_2 19 rfl rfl)
theorem dX2_orderTo_67 : decode cX2_orderTo 67 = .ok (.getfield 278, 3) := dk_180 1 22 (dk_at dksX2_orderTo_2 20 rfl rfl)
theorem dX2_orderTo_70 : decode cX2_orderTo 70 = .ok (.iload_n 2, 1) := dk_28 (dk_at dksX2_orderTo_2 23 rfl rfl)
theorem dX2_orderTo_71 : decode cX2_orderTo 71 = .ok (.bipush 60, 2) := dk_16 60 (dk_at dksX2_orderTo_3 0 rfl rfl)
theorem dX2_orderTo_73 : decode cX2_orderTo 73 = .ok (.iadd, 1) := dk_96 (dk_at dksX2_orderTo_3 2 rfl rfl)
theorem dX2_orderTo_74 : decode cX2_orderTo 74 = .ok (.iaload, 1) := dk_46 (dk_at dksX2_orderTo_3 3 rfl rfl)
theorem dX2_orderTo_75 : decode cX2_orderTo 75 = .ok (.invokevirtual 922, 3) := dk_182 3 154 (dk_at dksX2_orderTo_3 4 rfl rfl)
theorem dX2_orderTo_78 : decode cX2_orderTo 78 = .ok (.istore_n 3, 1) := dk_62 (dk_at dksX2_orderTo_3 7 rfl rfl)
theorem dX2_orderTo_79 : decode cX2_orderTo 79 = .ok (.iload_n 3, 1) := dk_29 (dk_at dksX2_orderTo_3 8 rfl rfl)
theorem dX2_orderTo_80 : decode cX2_orderTo 80 = .ok (.ifCond .eq 7, 3) := dk_153 0 7 (dk_at dksX2_orderTo_3 9 rfl rfl)
theorem dX2_orderTo_83 : decode cX2_orderTo 83 = .ok (.iload_n 3, 1) := dk_29 (dk_at dksX2_orderTo_3 12 rfl rfl)
theorem dX2_orderTo_84 : decode cX2_orderTo 84 = .ok (.goto 20, 3) := dk_167 0 20 (dk_at dksX2_orderTo_3 13 rfl rfl)
theorem dX2_orderTo_87 : decode cX2_orderTo 87 = .ok (.aload_n 0, 1) := dk_42 (dk_at dksX2_orderTo_3 16 rfl rfl)
theorem dX2_orderTo_88 : decode cX2_orderTo 88 = .ok (.aload_n 0, 1) := dk_42 (dk_at dksX2_orderTo_3 17 rfl rfl)
theorem dX2_orderTo_89 : decode cX2_orderTo 89 = .ok (.getfield 925, 3) := dk_180 3 157 (dk_at dksX2_orderTo_3 18 rfl rfl)
theorem dX2_orderTo_92 : decode cX2_orderTo 92 = .ok (.aload_n 0, 1) := dk_42 (dk_at dksX2_orderTo_3 21 rfl rfl)
theorem dX2_orderTo_93 : decode cX2_orderTo 93 = .ok (.getfield 278, 3) := dk_180 1 22 (dk_at dksX2_orderTo_4 0 rfl rfl)
theorem dX2_orderTo_96 : decode cX2_orderTo 96 = .ok (.iload_n 2, 1) := dk_28 (dk_at dksX2_orderTo_4 3 rfl rfl)
theorem dX2_orderTo_97 : decode cX2_orderTo 97 = .ok (.bipush 61, 2) := dk_16 61 (dk_at dksX2_orderTo_4 4 rfl rfl)
theorem dX2_orderTo_99 : decode cX2_orderTo 99 = .ok (.iadd, 1) := dk_96 (dk_at dksX2_orderTo_4 6 rfl rfl)
theorem dX2_orderTo_100 : decode cX2_orderTo 100 = .ok (.iaload, 1) := dk_46 (dk_at dksX2_orderTo_4 7 rfl rfl)
theorem dX2_orderTo_101 : decode cX2_orderTo 101 = .ok (.invokevirtual 922, 3) := dk_182 3 154 (dk_at dksX2_orderTo_4 8 rfl rfl)
theorem dX2_orderTo_104 : decode cX2_orderTo 104 = .ok (.ireturn, 1) := dk_172 (dk_at dksX2_orderTo_4 11 rfl rfl)
abbrev cX2_orderBeside : ByteArray := prog_4_method_120_code
def yX2_orderBeside : MethodName := ⟨RX2, "orderBeside", "(II)I"⟩
def dkwX2_orderBeside_5 : List UInt8 := [184, 2, 191, 54, 6, 21, 6, 153, 0, 6, 21, 6, 172, 132, 5, 1, 167, 255, 211, 3, 172]
abbrev dktX2_orderBeside_5 : List UInt8 := dkwX2_orderBeside_5 ++ []
def dkwX2_orderBeside_4 : List UInt8 := [42, 42, 42, 180, 3, 145, 27, 21, 5, 182, 3, 102, 42, 42, 180, 3, 145, 28, 21, 5, 182, 3, 102]
abbrev dktX2_orderBeside_4 : List UInt8 := dkwX2_orderBeside_4 ++ dktX2_orderBeside_5
def dkwX2_orderBeside_3 : List UInt8 := [159, 0, 15, 29, 21, 4, 162, 0, 7, 2, 167, 0, 4, 4, 172, 3, 54, 5, 21, 5, 29, 162, 0, 45]
abbrev dktX2_orderBeside_3 : List UInt8 := dkwX2_orderBeside_3 ++ dktX2_orderBeside_4
def dkwX2_orderBeside_2 : List UInt8 := [42, 180, 3, 145, 160, 0, 12, 42, 180, 0, 187, 28, 46, 167, 0, 4, 4, 54, 4, 29, 21, 4]
abbrev dktX2_orderBeside_2 : List UInt8 := dkwX2_orderBeside_2 ++ dktX2_orderBeside_3
def dkwX2_orderBeside_1 : List UInt8 := [180, 0, 187, 27, 46, 167, 0, 4, 4, 62, 28, 156, 0, 7, 3, 167, 0, 26, 42, 180, 0, 181, 28, 46]
abbrev dktX2_orderBeside_1 : List UInt8 := dkwX2_orderBeside_1 ++ dktX2_orderBeside_2
def dkwX2_orderBeside_0 : List UInt8 := [27, 156, 0, 7, 3, 167, 0, 26, 42, 180, 0, 181, 27, 46, 42, 180, 3, 145, 160, 0, 12, 42]
abbrev dktX2_orderBeside_0 : List UInt8 := dkwX2_orderBeside_0 ++ dktX2_orderBeside_1
theorem dksX2_orderBeside_0 : cX2_orderBeside.data.toList.drop 0 = dktX2_orderBeside_0 := by decide +kernel
theorem dksX2_orderBeside_1 : cX2_orderBeside.data.toList.drop 22 = dktX2_orderBeside_1 := dk_seg dksX2_orderBeside_0 22 rfl rfl
theorem dksX2_orderBeside_2 : cX2_orderBeside.data.toList.drop 46 = dktX2_orderBeside_2 := dk_seg dksX2_orderBeside_1 24 rfl rfl
theorem dksX2_orderBeside_3 : cX2_orderBeside.data.toList.drop 68 = dktX2_orderBeside_3 := dk_seg dksX2_orderBeside_2 22 rfl rfl
theorem dksX2_orderBeside_4 : cX2_orderBeside.data.toList.drop 92 = dktX2_orderBeside_4 := dk_seg dksX2_orderBeside_3 24 rfl rfl
theorem dksX2_orderBeside_5 : cX2_orderBeside.data.toList.drop 115 = dktX2_orderBeside_5 := dk_seg dksX2_orderBeside_4 23 rfl rfl
theorem dX2_orderBeside_0 : decode cX2_orderBeside 0 = .ok (.iload_n 1, 1) := dk_27 (dk_at dksX2_orderBeside_0 0 rfl rfl)
theorem dX2_orderBeside_1 : decode cX2_orderBeside 1 = .ok (.ifCond .ge 7, 3) := dk_156 0 7 (dk_at dksX2_orderBeside_0 1 rfl rfl)
theorem dX2_orderBeside_4 : decode cX2_orderBeside 4 = .ok (.iconst 0, 1) := dk_3 (dk_at dksX2_orderBeside_0 4 rfl rfl)
theorem dX2_orderBeside_5 : decode cX2_orderBeside 5 = .ok (.goto 26, 3) := dk_167 0 26 (dk_at dksX2_orderBeside_0 5 rfl rfl)
theorem dX2_orderBeside_8 : decode cX2_orderBeside 8 = .ok (.aload_n 0, 1) := dk_42 (dk_at dksX2_orderBeside_0 8 rfl rfl)
theorem dX2_orderBeside_9 : decode cX2_orderBeside 9 = .ok (.getfield 181, 3) := dk_180 0 181 (dk_at dksX2_orderBeside_0 9 rfl rfl)
theorem dX2_orderBeside_12 : decode cX2_orderBeside 12 = .ok (.iload_n 1, 1) := dk_27 (dk_at dksX2_orderBeside_0 12 rfl rfl)
theorem dX2_orderBeside_13 : decode cX2_orderBeside 13 = .ok (.iaload, 1) := dk_46 (dk_at dksX2_orderBeside_0 13 rfl rfl)
theorem dX2_orderBeside_14 : decode cX2_orderBeside 14 = .ok (.aload_n 0, 1) := dk_42 (dk_at dksX2_orderBeside_0 14 rfl rfl)
theorem dX2_orderBeside_15 : decode cX2_orderBeside 15 = .ok (.getfield 913, 3) := dk_180 3 145 (dk_at dksX2_orderBeside_0 15 rfl rfl)
theorem dX2_orderBeside_18 : decode cX2_orderBeside 18 = .ok (.if_icmp .ne 12, 3) := dk_160 0 12 (dk_at dksX2_orderBeside_0 18 rfl rfl)
theorem dX2_orderBeside_21 : decode cX2_orderBeside 21 = .ok (.aload_n 0, 1) := dk_42 (dk_at dksX2_orderBeside_0 21 rfl rfl)
theorem dX2_orderBeside_22 : decode cX2_orderBeside 22 = .ok (.getfield 187, 3) := dk_180 0 187 (dk_at dksX2_orderBeside_1 0 rfl rfl)
theorem dX2_orderBeside_25 : decode cX2_orderBeside 25 = .ok (.iload_n 1, 1) := dk_27 (dk_at dksX2_orderBeside_1 3 rfl rfl)
theorem dX2_orderBeside_26 : decode cX2_orderBeside 26 = .ok (.iaload, 1) := dk_46 (dk_at dksX2_orderBeside_1 4 rfl rfl)
theorem dX2_orderBeside_27 : decode cX2_orderBeside 27 = .ok (.goto 4, 3) := dk_167 0 4 (dk_at dksX2_orderBeside_1 5 rfl rfl)
theorem dX2_orderBeside_30 : decode cX2_orderBeside 30 = .ok (.iconst 1, 1) := dk_4 (dk_at dksX2_orderBeside_1 8 rfl rfl)
theorem dX2_orderBeside_31 : decode cX2_orderBeside 31 = .ok (.istore_n 3, 1) := dk_62 (dk_at dksX2_orderBeside_1 9 rfl rfl)
theorem dX2_orderBeside_32 : decode cX2_orderBeside 32 = .ok (.iload_n 2, 1) := dk_28 (dk_at dksX2_orderBeside_1 10 rfl rfl)
theorem dX2_orderBeside_33 : decode cX2_orderBeside 33 = .ok (.ifCond .ge 7, 3) := dk_156 0 7 (dk_at dksX2_orderBeside_1 11 rfl rfl)
theorem dX2_orderBeside_36 : decode cX2_orderBeside 36 = .ok (.iconst 0, 1) := dk_3 (dk_at dksX2_orderBeside_1 14 rfl rfl)
theorem dX2_orderBeside_37 : decode cX2_orderBeside 37 = .ok (.goto 26, 3) := dk_167 0 26 (dk_at dksX2_orderBeside_1 15 rfl rfl)
theorem dX2_orderBeside_40 : decode cX2_orderBeside 40 = .ok (.aload_n 0, 1) := dk_42 (dk_at dksX2_orderBeside_1 18 rfl rfl)
theorem dX2_orderBeside_41 : decode cX2_orderBeside 41 = .ok (.getfield 181, 3) := dk_180 0 181 (dk_at dksX2_orderBeside_1 19 rfl rfl)
theorem dX2_orderBeside_44 : decode cX2_orderBeside 44 = .ok (.iload_n 2, 1) := dk_28 (dk_at dksX2_orderBeside_1 22 rfl rfl)
theorem dX2_orderBeside_45 : decode cX2_orderBeside 45 = .ok (.iaload, 1) := dk_46 (dk_at dksX2_orderBeside_1 23 rfl rfl)
theorem dX2_orderBeside_46 : decode cX2_orderBeside 46 = .ok (.aload_n 0, 1) := dk_42 (dk_at dksX2_orderBeside_2 0 rfl rfl)
theorem dX2_orderBeside_47 : decode cX2_orderBeside 47 = .ok (.getfield 913, 3) := dk_180 3 145 (dk_at dksX2_orderBeside_2 1 rfl rfl)
theorem dX2_orderBeside_50 : decode cX2_orderBeside 50 = .ok (.if_icmp .ne 12, 3) := dk_160 0 12 (dk_at dksX2_orderBeside_2 4 rfl rfl)
theorem dX2_orderBeside_53 : decode cX2_orderBeside 53 = .ok (.aload_n 0, 1) := dk_42 (dk_at dksX2_orderBeside_2 7 rfl rfl)
theorem dX2_orderBeside_54 : decode cX2_orderBeside 54 = .ok (.getfield 187, 3) := dk_180 0 187 (dk_at dksX2_orderBeside_2 8 rfl rfl)
theorem dX2_orderBeside_57 : decode cX2_orderBeside 57 = .ok (.iload_n 2, 1) := dk_28 (dk_at dksX2_orderBeside_2 11 rfl rfl)
theorem dX2_orderBeside_58 : decode cX2_orderBeside 58 = .ok (.iaload, 1) := dk_46 (dk_at dksX2_orderBeside_2 12 rfl rfl)
theorem dX2_orderBeside_59 : decode cX2_orderBeside 59 = .ok (.goto 4, 3) := dk_167 0 4 (dk_at dksX2_orderBeside_2 13 rfl rfl)
theorem dX2_orderBeside_62 : decode cX2_orderBeside 62 = .ok (.iconst 1, 1) := dk_4 (dk_at dksX2_orderBeside_2 16 rfl rfl)
theorem dX2_orderBeside_63 : decode cX2_orderBeside 63 = .ok (.istore 4, 2) := dk_54 4 (dk_at dksX2_orderBeside_2 17 rfl rfl)
theorem dX2_orderBeside_65 : decode cX2_orderBeside 65 = .ok (.iload_n 3, 1) := dk_29 (dk_at dksX2_orderBeside_2 19 rfl rfl)
theorem dX2_orderBeside_66 : decode cX2_orderBeside 66 = .ok (.iload 4, 2) := dk_21 4 (dk_at dksX2_orderBeside_2 20 rfl rfl)
theorem dX2_orderBeside_68 : decode cX2_orderBeside 68 = .ok (.if_icmp .eq 15, 3) := dk_159 0 15 (dk_at dksX2_orderBeside_3 0 rfl rfl)
theorem dX2_orderBeside_71 : decode cX2_orderBeside 71 = .ok (.iload_n 3, 1) := dk_29 (dk_at dksX2_orderBeside_3 3 rfl rfl)
theorem dX2_orderBeside_72 : decode cX2_orderBeside 72 = .ok (.iload 4, 2) := dk_21 4 (dk_at dksX2_orderBeside_3 4 rfl rfl)
theorem dX2_orderBeside_74 : decode cX2_orderBeside 74 = .ok (.if_icmp .ge 7, 3) := dk_162 0 7 (dk_at dksX2_orderBeside_3 6 rfl rfl)
theorem dX2_orderBeside_77 : decode cX2_orderBeside 77 = .ok (.iconst (-1), 1) := dk_2 (dk_at dksX2_orderBeside_3 9 rfl rfl)
theorem dX2_orderBeside_78 : decode cX2_orderBeside 78 = .ok (.goto 4, 3) := dk_167 0 4 (dk_at dksX2_orderBeside_3 10 rfl rfl)
theorem dX2_orderBeside_81 : decode cX2_orderBeside 81 = .ok (.iconst 1, 1) := dk_4 (dk_at dksX2_orderBeside_3 13 rfl rfl)
theorem dX2_orderBeside_82 : decode cX2_orderBeside 82 = .ok (.ireturn, 1) := dk_172 (dk_at dksX2_orderBeside_3 14 rfl rfl)
theorem dX2_orderBeside_83 : decode cX2_orderBeside 83 = .ok (.iconst 0, 1) := dk_3 (dk_at dksX2_orderBeside_3 15 rfl rfl)
theorem dX2_orderBeside_84 : decode cX2_orderBeside 84 = .ok (.istore 5, 2) := dk_54 5 (dk_at dksX2_orderBeside_3 16 rfl rfl)
theorem dX2_orderBeside_86 : decode cX2_orderBeside 86 = .ok (.iload 5, 2) := dk_21 5 (dk_at dksX2_orderBeside_3 18 rfl rfl)
theorem dX2_orderBeside_88 : decode cX2_orderBeside 88 = .ok (.iload_n 3, 1) := dk_29 (dk_at dksX2_orderBeside_3 20 rfl rfl)
theorem dX2_orderBeside_89 : decode cX2_orderBeside 89 = .ok (.if_icmp .ge 45, 3) := dk_162 0 45 (dk_at dksX2_orderBeside_3 21 rfl rfl)
theorem dX2_orderBeside_92 : decode cX2_orderBeside 92 = .ok (.aload_n 0, 1) := dk_42 (dk_at dksX2_orderBeside_4 0 rfl rfl)
theorem dX2_orderBeside_93 : decode cX2_orderBeside 93 = .ok (.aload_n 0, 1) := dk_42 (dk_at dksX2_orderBeside_4 1 rfl rfl)
theorem dX2_orderBeside_94 : decode cX2_orderBeside 94 = .ok (.aload_n 0, 1) := dk_42 (dk_at dksX2_orderBeside_4 2 rfl rfl)
theorem dX2_orderBeside_95 : decode cX2_orderBeside 95 = .ok (.getfield 913, 3) := dk_180 3 145 (dk_at dksX2_orderBeside_4 3 rfl rfl)
theorem dX2_orderBeside_98 : decode cX2_orderBeside 98 = .ok (.iload_n 1, 1) := dk_27 (dk_at dksX2_orderBeside_4 6 rfl rfl)
theorem dX2_orderBeside_99 : decode cX2_orderBeside 99 = .ok (.iload 5, 2) := dk_21 5 (dk_at dksX2_orderBeside_4 7 rfl rfl)
theorem dX2_orderBeside_101 : decode cX2_orderBeside 101 = .ok (.invokevirtual 870, 3) := dk_182 3 102 (dk_at dksX2_orderBeside_4 9 rfl rfl)
theorem dX2_orderBeside_104 : decode cX2_orderBeside 104 = .ok (.aload_n 0, 1) := dk_42 (dk_at dksX2_orderBeside_4 12 rfl rfl)
theorem dX2_orderBeside_105 : decode cX2_orderBeside 105 = .ok (.aload_n 0, 1) := dk_42 (dk_at dksX2_orderBeside_4 13 rfl rfl)
theorem dX2_orderBeside_106 : decode cX2_orderBeside 106 = .ok (.getfield 913, 3) := dk_180 3 145 (dk_at dksX2_orderBeside_4 14 rfl rfl)
theorem dX2_orderBeside_109 : decode cX2_orderBeside 109 = .ok (.iload_n 2, 1) := dk_28 (dk_at dksX2_orderBeside_4 17 rfl rfl)
theorem dX2_orderBeside_110 : decode cX2_orderBeside 110 = .ok (.iload 5, 2) := dk_21 5 (dk_at dksX2_orderBeside_4 18 rfl rfl)
theorem dX2_orderBeside_112 : decode cX2_orderBeside 112 = .ok (.invokevirtual 870, 3) := dk_182 3 102 (dk_at dksX2_orderBeside_4 20 rfl rfl)
theorem dX2_orderBeside_115 : decode cX2_orderBeside 115 = .ok (.invokestatic 703, 3) := dk_184 2 191 (dk_at dksX2_orderBeside_5 0 rfl rfl)
theorem dX2_orderBeside_118 : decode cX2_orderBeside 118 = .ok (.istore 6, 2) := dk_54 6 (dk_at dksX2_orderBeside_5 3 rfl rfl)
theorem dX2_orderBeside_120 : decode cX2_orderBeside 120 = .ok (.iload 6, 2) := dk_21 6 (dk_at dksX2_orderBeside_5 5 rfl rfl)
theorem dX2_orderBeside_122 : decode cX2_orderBeside 122 = .ok (.ifCond .eq 6, 3) := dk_153 0 6 (dk_at dksX2_orderBeside_5 7 rfl rfl)
theorem dX2_orderBeside_125 : decode cX2_orderBeside 125 = .ok (.iload 6, 2) := dk_21 6 (dk_at dksX2_orderBeside_5 10 rfl rfl)
theorem dX2_orderBeside_127 : decode cX2_orderBeside 127 = .ok (.ireturn, 1) := dk_172 (dk_at dksX2_orderBeside_5 12 rfl rfl)
theorem dX2_orderBeside_128 : decode cX2_orderBeside 128 = .ok (.iinc 5 1, 3) := dk_132 5 1 (dk_at dksX2_orderBeside_5 13 rfl rfl)
theorem dX2_orderBeside_131 : decode cX2_orderBeside 131 = .ok (.goto (-45), 3) := dk_167 255 211 (dk_at dksX2_orderBeside_5 16 rfl rfl)
theorem dX2_orderBeside_134 : decode cX2_orderBeside 134 = .ok (.iconst 0, 1) := dk_3 (dk_at dksX2_orderBeside_5 19 rfl rfl)
theorem dX2_orderBeside_135 : decode cX2_orderBeside 135 = .ok (.ireturn, 1) := dk_172 (dk_at dksX2_orderBeside_5 20 rfl rfl)
abbrev cX2_solvePair : ByteArray := prog_4_method_117_code
def yX2_solvePair : MethodName := ⟨RX2, "solvePair", "(LRewriteHouseModel;III)V"⟩
def dkwX2_solvePair_17 : List UInt8 := [3, 21, 7, 182, 3, 129, 184, 3, 123, 177]
abbrev dktX2_solvePair_17 : List UInt8 := dkwX2_solvePair_17 ++ []
def dkwX2_solvePair_16 : List UInt8 := [182, 2, 179, 21, 5, 3, 3, 29, 182, 3, 129, 54, 7, 42, 42, 3, 42, 27, 3, 182, 2, 179, 28, 3]
abbrev dktX2_solvePair_16 : List UInt8 := dkwX2_solvePair_16 ++ dktX2_solvePair_17
def dkwX2_solvePair_15 : List UInt8 := [27, 3, 182, 2, 179, 21, 5, 3, 3, 21, 6, 182, 3, 129, 184, 3, 123, 42, 3, 42, 27, 4]
abbrev dktX2_solvePair_15 : List UInt8 := dkwX2_solvePair_15 ++ dktX2_solvePair_16
def dkwX2_solvePair_14 : List UInt8 := [160, 0, 79, 42, 3, 42, 27, 4, 182, 2, 179, 28, 3, 3, 29, 182, 3, 129, 54, 6, 42, 42, 3, 42]
abbrev dktX2_solvePair_14 : List UInt8 := dkwX2_solvePair_14 ++ dktX2_solvePair_15
def dkwX2_solvePair_13 : List UInt8 := [184, 3, 123, 42, 21, 4, 182, 2, 198, 54, 5, 21, 5, 155, 0, 89, 42, 180, 0, 187, 27, 46, 5]
abbrev dktX2_solvePair_13 : List UInt8 := dkwX2_solvePair_13 ++ dktX2_solvePair_14
def dkwX2_solvePair_12 : List UInt8 := [54, 6, 42, 42, 3, 42, 27, 3, 182, 2, 179, 42, 28, 4, 182, 2, 179, 3, 3, 21, 6, 182, 3, 129]
abbrev dktX2_solvePair_12 : List UInt8 := dkwX2_solvePair_12 ++ dktX2_solvePair_13
def dkwX2_solvePair_11 : List UInt8 := [153, 0, 50, 42, 3, 42, 27, 4, 182, 2, 179, 42, 28, 3, 182, 2, 179, 3, 3, 29, 182, 3, 129]
abbrev dktX2_solvePair_11 : List UInt8 := dkwX2_solvePair_11 ++ dktX2_solvePair_12
def dkwX2_solvePair_10 : List UInt8 := [182, 3, 129, 54, 5, 132, 6, 255, 167, 255, 223, 42, 21, 5, 184, 3, 123, 42, 180, 0, 171, 21, 4, 51]
abbrev dktX2_solvePair_10 : List UInt8 := dkwX2_solvePair_10 ++ dktX2_solvePair_11
def dkwX2_solvePair_9 : List UInt8 := [155, 0, 34, 42, 3, 42, 27, 21, 6, 182, 2, 179, 42, 28, 21, 6, 182, 2, 179, 3, 3, 21, 5]
abbrev dktX2_solvePair_9 : List UInt8 := dkwX2_solvePair_9 ++ dktX2_solvePair_10
def dkwX2_solvePair_8 : List UInt8 := [180, 0, 187, 27, 46, 160, 0, 115, 29, 54, 5, 42, 180, 0, 187, 27, 46, 4, 100, 54, 6, 21, 6]
abbrev dktX2_solvePair_8 : List UInt8 := dkwX2_solvePair_8 ++ dktX2_solvePair_9
def dkwX2_solvePair_7 : List UInt8 := [184, 3, 123, 177, 42, 180, 0, 181, 28, 46, 21, 4, 160, 0, 130, 42, 180, 0, 187, 28, 46, 42]
abbrev dktX2_solvePair_7 : List UInt8 := dkwX2_solvePair_7 ++ dktX2_solvePair_8
def dkwX2_solvePair_6 : List UInt8 := [153, 0, 17, 4, 42, 21, 4, 28, 182, 3, 126, 120, 4, 100, 167, 0, 4, 3, 29, 182, 3, 129]
abbrev dktX2_solvePair_6 : List UInt8 := dkwX2_solvePair_6 ++ dktX2_solvePair_7
def dkwX2_solvePair_5 : List UInt8 := [180, 0, 171, 21, 4, 51, 153, 0, 7, 5, 167, 0, 4, 4, 27, 28, 3, 42, 180, 0, 171, 21, 4, 51]
abbrev dktX2_solvePair_5 : List UInt8 := dkwX2_solvePair_5 ++ dktX2_solvePair_6
def dkwX2_solvePair_4 : List UInt8 := [177, 42, 180, 0, 181, 27, 46, 54, 4, 42, 180, 0, 168, 21, 4, 51, 153, 0, 56, 42, 42, 42]
abbrev dktX2_solvePair_4 : List UInt8 := dkwX2_solvePair_4 ++ dktX2_solvePair_5
def dkwX2_solvePair_3 : List UInt8 := [153, 0, 24, 42, 180, 1, 18, 21, 4, 28, 79, 42, 29, 184, 3, 123, 42, 180, 1, 18, 21, 4, 2, 79]
abbrev dktX2_solvePair_3 : List UInt8 := dkwX2_solvePair_3 ++ dktX2_solvePair_4
def dkwX2_solvePair_2 : List UInt8 := [180, 0, 193, 28, 46, 155, 0, 43, 42, 42, 180, 0, 193, 28, 46, 42, 21, 4, 182, 2, 176, 182, 2, 102]
abbrev dktX2_solvePair_2 : List UInt8 := dkwX2_solvePair_2 ++ dktX2_solvePair_3
def dkwX2_solvePair_1 : List UInt8 := [155, 0, 22, 42, 180, 1, 18, 21, 4, 46, 28, 160, 0, 60, 42, 29, 184, 3, 123, 167, 0, 52, 42]
abbrev dktX2_solvePair_1 : List UInt8 := dkwX2_solvePair_1 ++ dktX2_solvePair_2
def dkwX2_solvePair_0 : List UInt8 := [42, 27, 182, 2, 185, 153, 0, 89, 42, 27, 182, 2, 188, 54, 4, 42, 180, 1, 18, 21, 4, 46]
abbrev dktX2_solvePair_0 : List UInt8 := dkwX2_solvePair_0 ++ dktX2_solvePair_1
theorem dksX2_solvePair_0 : cX2_solvePair.data.toList.drop 0 = dktX2_solvePair_0 := by decide +kernel
theorem dksX2_solvePair_1 : cX2_solvePair.data.toList.drop 22 = dktX2_solvePair_1 := dk_seg dksX2_solvePair_0 22 rfl rfl
theorem dksX2_solvePair_2 : cX2_solvePair.data.toList.drop 45 = dktX2_solvePair_2 := dk_seg dksX2_solvePair_1 23 rfl rfl
theorem dksX2_solvePair_3 : cX2_solvePair.data.toList.drop 69 = dktX2_solvePair_3 := dk_seg dksX2_solvePair_2 24 rfl rfl
theorem dksX2_solvePair_4 : cX2_solvePair.data.toList.drop 93 = dktX2_solvePair_4 := dk_seg dksX2_solvePair_3 24 rfl rfl
theorem dksX2_solvePair_5 : cX2_solvePair.data.toList.drop 115 = dktX2_solvePair_5 := dk_seg dksX2_solvePair_4 22 rfl rfl
theorem dksX2_solvePair_6 : cX2_solvePair.data.toList.drop 139 = dktX2_solvePair_6 := dk_seg dksX2_solvePair_5 24 rfl rfl
theorem dksX2_solvePair_7 : cX2_solvePair.data.toList.drop 161 = dktX2_solvePair_7 := dk_seg dksX2_solvePair_6 22 rfl rfl
theorem dksX2_solvePair_8 : cX2_solvePair.data.toList.drop 183 = dktX2_solvePair_8 := dk_seg dksX2_solvePair_7 22 rfl rfl
theorem dksX2_solvePair_9 : cX2_solvePair.data.toList.drop 206 = dktX2_solvePair_9 := dk_seg dksX2_solvePair_8 23 rfl rfl
theorem dksX2_solvePair_10 : cX2_solvePair.data.toList.drop 229 = dktX2_solvePair_10 := dk_seg dksX2_solvePair_9 23 rfl rfl
theorem dksX2_solvePair_11 : cX2_solvePair.data.toList.drop 253 = dktX2_solvePair_11 := dk_seg dksX2_solvePair_10 24 rfl rfl
theorem dksX2_solvePair_12 : cX2_solvePair.data.toList.drop 276 = dktX2_solvePair_12 := dk_seg dksX2_solvePair_11 23 rfl rfl
theorem dksX2_solvePair_13 : cX2_solvePair.data.toList.drop 300 = dktX2_solvePair_13 := dk_seg dksX2_solvePair_12 24 rfl rfl
theorem dksX2_solvePair_14 : cX2_solvePair.data.toList.drop 323 = dktX2_solvePair_14 := dk_seg dksX2_solvePair_13 23 rfl rfl
theorem dksX2_solvePair_15 : cX2_solvePair.data.toList.drop 347 = dktX2_solvePair_15 := dk_seg dksX2_solvePair_14 24 rfl rfl
theorem dksX2_solvePair_16 : cX2_solvePair.data.toList.drop 369 = dktX2_solvePair_16 := dk_seg dksX2_solvePair_15 22 rfl rfl
theorem dksX2_solvePair_17 : cX2_solvePair.data.toList.drop 393 = dktX2_solvePair_17 := dk_seg dksX2_solvePair_16 24 rfl rfl
theorem dX2_solvePair_0 : decode cX2_solvePair 0 = .ok (.aload_n 0, 1) := dk_42 (dk_at dksX2_solvePair_0 0 rfl rfl)
theorem dX2_solvePair_1 : decode cX2_solvePair 1 = .ok (.iload_n 1, 1) := dk_27 (dk_at dksX2_solvePair_0 1 rfl rfl)
theorem dX2_solvePair_2 : decode cX2_solvePair 2 = .ok (.invokevirtual 697, 3) := dk_182 2 185 (dk_at dksX2_solvePair_0 2 rfl rfl)
theorem dX2_solvePair_5 : decode cX2_solvePair 5 = .ok (.ifCond .eq 89, 3) := dk_153 0 89 (dk_at dksX2_solvePair_0 5 rfl rfl)
theorem dX2_solvePair_8 : decode cX2_solvePair 8 = .ok (.aload_n 0, 1) := dk_42 (dk_at dksX2_solvePair_0 8 rfl rfl)
theorem dX2_solvePair_9 : decode cX2_solvePair 9 = .ok (.iload_n 1, 1) := dk_27 (dk_at dksX2_solvePair_0 9 rfl rfl)
theorem dX2_solvePair_10 : decode cX2_solvePair 10 = .ok (.invokevirtual 700, 3) := dk_182 2 188 (dk_at dksX2_solvePair_0 10 rfl rfl)
theorem dX2_solvePair_13 : decode cX2_solvePair 13 = .ok (.istore 4, 2) := dk_54 4 (dk_at dksX2_solvePair_0 13 rfl rfl)
theorem dX2_solvePair_15 : decode cX2_solvePair 15 = .ok (.aload_n 0, 1) := dk_42 (dk_at dksX2_solvePair_0 15 rfl rfl)
theorem dX2_solvePair_16 : decode cX2_solvePair 16 = .ok (.getfield 274, 3) := dk_180 1 18 (dk_at dksX2_solvePair_0 16 rfl rfl)
theorem dX2_solvePair_19 : decode cX2_solvePair 19 = .ok (.iload 4, 2) := dk_21 4 (dk_at dksX2_solvePair_0 19 rfl rfl)
theorem dX2_solvePair_21 : decode cX2_solvePair 21 = .ok (.iaload, 1) := dk_46 (dk_at dksX2_solvePair_0 21 rfl rfl)
theorem dX2_solvePair_22 : decode cX2_solvePair 22 = .ok (.ifCond .lt 22, 3) := dk_155 0 22 (dk_at dksX2_solvePair_1 0 rfl rfl)
theorem dX2_solvePair_25 : decode cX2_solvePair 25 = .ok (.aload_n 0, 1) := dk_42 (dk_at dksX2_solvePair_1 3 rfl rfl)
theorem dX2_solvePair_26 : decode cX2_solvePair 26 = .ok (.getfield 274, 3) := dk_180 1 18 (dk_at dksX2_solvePair_1 4 rfl rfl)
theorem dX2_solvePair_29 : decode cX2_solvePair 29 = .ok (.iload 4, 2) := dk_21 4 (dk_at dksX2_solvePair_1 7 rfl rfl)
theorem dX2_solvePair_31 : decode cX2_solvePair 31 = .ok (.iaload, 1) := dk_46 (dk_at dksX2_solvePair_1 9 rfl rfl)
theorem dX2_solvePair_32 : decode cX2_solvePair 32 = .ok (.iload_n 2, 1) := dk_28 (dk_at dksX2_solvePair_1 10 rfl rfl)
theorem dX2_solvePair_33 : decode cX2_solvePair 33 = .ok (.if_icmp .ne 60, 3) := dk_160 0 60 (dk_at dksX2_solvePair_1 11 rfl rfl)
theorem dX2_solvePair_36 : decode cX2_solvePair 36 = .ok (.aload_n 0, 1) := dk_42 (dk_at dksX2_solvePair_1 14 rfl rfl)
theorem dX2_solvePair_37 : decode cX2_solvePair 37 = .ok (.iload_n 3, 1) := dk_29 (dk_at dksX2_solvePair_1 15 rfl rfl)
theorem dX2_solvePair_38 : decode cX2_solvePair 38 = .ok (.invokestatic 891, 3) := dk_184 3 123 (dk_at dksX2_solvePair_1 16 rfl rfl)
theorem dX2_solvePair_41 : decode cX2_solvePair 41 = .ok (.goto 52, 3) := dk_167 0 52 (dk_at dksX2_solvePair_1 19 rfl rfl)
theorem dX2_solvePair_44 : decode cX2_solvePair 44 = .ok (.aload_n 0, 1) := dk_42 (dk_at dksX2_solvePair_1 22 rfl rfl)
theorem dX2_solvePair_45 : decode cX2_solvePair 45 = .ok (.getfield 193, 3) := dk_180 0 193 (dk_at dksX2_solvePair_2 0 rfl rfl)
theorem dX2_solvePair_48 : decode cX2_solvePair 48 = .ok (.iload_n 2, 1) := dk_28 (dk_at dksX2_solvePair_2 3 rfl rfl)
theorem dX2_solvePair_49 : decode cX2_solvePair 49 = .ok (.iaload, 1) := dk_46 (dk_at dksX2_solvePair_2 4 rfl rfl)
theorem dX2_solvePair_50 : decode cX2_solvePair 50 = .ok (.ifCond .lt 43, 3) := dk_155 0 43 (dk_at dksX2_solvePair_2 5 rfl rfl)
theorem dX2_solvePair_53 : decode cX2_solvePair 53 = .ok (.aload_n 0, 1) := dk_42 (dk_at dksX2_solvePair_2 8 rfl rfl)
theorem dX2_solvePair_54 : decode cX2_solvePair 54 = .ok (.aload_n 0, 1) := dk_42 (dk_at dksX2_solvePair_2 9 rfl rfl)
theorem dX2_solvePair_55 : decode cX2_solvePair 55 = .ok (.getfield 193, 3) := dk_180 0 193 (dk_at dksX2_solvePair_2 10 rfl rfl)
theorem dX2_solvePair_58 : decode cX2_solvePair 58 = .ok (.iload_n 2, 1) := dk_28 (dk_at dksX2_solvePair_2 13 rfl rfl)
theorem dX2_solvePair_59 : decode cX2_solvePair 59 = .ok (.iaload, 1) := dk_46 (dk_at dksX2_solvePair_2 14 rfl rfl)
theorem dX2_solvePair_60 : decode cX2_solvePair 60 = .ok (.aload_n 0, 1) := dk_42 (dk_at dksX2_solvePair_2 15 rfl rfl)
theorem dX2_solvePair_61 : decode cX2_solvePair 61 = .ok (.iload 4, 2) := dk_21 4 (dk_at dksX2_solvePair_2 16 rfl rfl)
theorem dX2_solvePair_63 : decode cX2_solvePair 63 = .ok (.invokevirtual 688, 3) := dk_182 2 176 (dk_at dksX2_solvePair_2 18 rfl rfl)
theorem dX2_solvePair_66 : decode cX2_solvePair 66 = .ok (.invokevirtual 614, 3) := dk_182 2 102 (dk_at dksX2_solvePair_2 21 rfl rfl)
theorem dX2_solvePair_69 : decode cX2_solvePair 69 = .ok (.ifCond .eq 24, 3) := dk_153 0 24 (dk_at dksX2_solvePair_3 0 rfl rfl)
theorem dX2_solvePair_72 : decode cX2_solvePair 72 = .ok (.aload_n 0, 1) := dk_42 (dk_at dksX2_solvePair_3 3 rfl rfl)
theorem dX2_solvePair_73 : decode cX2_solvePair 73 = .ok (.getfield 274, 3) := dk_180 1 18 (dk_at dksX2_solvePair_3 4 rfl rfl)
theorem dX2_solvePair_76 : decode cX2_solvePair 76 = .ok (.iload 4, 2) := dk_21 4 (dk_at dksX2_solvePair_3 7 rfl rfl)
theorem dX2_solvePair_78 : decode cX2_solvePair 78 = .ok (.iload_n 2, 1) := dk_28 (dk_at dksX2_solvePair_3 9 rfl rfl)
theorem dX2_solvePair_79 : decode cX2_solvePair 79 = .ok (.iastore, 1) := dk_79 (dk_at dksX2_solvePair_3 10 rfl rfl)
theorem dX2_solvePair_80 : decode cX2_solvePair 80 = .ok (.aload_n 0, 1) := dk_42 (dk_at dksX2_solvePair_3 11 rfl rfl)
theorem dX2_solvePair_81 : decode cX2_solvePair 81 = .ok (.iload_n 3, 1) := dk_29 (dk_at dksX2_solvePair_3 12 rfl rfl)
theorem dX2_solvePair_82 : decode cX2_solvePair 82 = .ok (.invokestatic 891, 3) := dk_184 3 123 (dk_at dksX2_solvePair_3 13 rfl rfl)
theorem dX2_solvePair_85 : decode cX2_solvePair 85 = .ok (.aload_n 0, 1) := dk_42 (dk_at dksX2_solvePair_3 16 rfl rfl)
theorem dX2_solvePair_86 : decode cX2_solvePair 86 = .ok (.getfield 274, 3) := dk_180 1 18 (dk_at dksX2_solvePair_3 17 rfl rfl)
theorem dX2_solvePair_89 : decode cX2_solvePair 89 = .ok (.iload 4, 2) := dk_21 4 (dk_at dksX2_solvePair_3 20 rfl rfl)
theorem dX2_solvePair_91 : decode cX2_solvePair 91 = .ok (.iconst (-1), 1) := dk_2 (dk_at dksX2_solvePair_3 22 rfl rfl)
theorem dX2_solvePair_92 : decode cX2_solvePair 92 = .ok (.iastore, 1) := dk_79 (dk_at dksX2_solvePair_3 23 rfl rfl)
theorem dX2_solvePair_93 : decode cX2_solvePair 93 = .ok (.return_, 1) := dk_177 (dk_at dksX2_solvePair_4 0 rfl rfl)
theorem dX2_solvePair_94 : decode cX2_solvePair 94 = .ok (.aload_n 0, 1) := dk_42 (dk_at dksX2_solvePair_4 1 rfl rfl)
theorem dX2_solvePair_95 : decode cX2_solvePair 95 = .ok (.getfield 181, 3) := dk_180 0 181 (dk_at dksX2_solvePair_4 2 rfl rfl)
theorem dX2_solvePair_98 : decode cX2_solvePair 98 = .ok (.iload_n 1, 1) := dk_27 (dk_at dksX2_solvePair_4 5 rfl rfl)
theorem dX2_solvePair_99 : decode cX2_solvePair 99 = .ok (.iaload, 1) := dk_46 (dk_at dksX2_solvePair_4 6 rfl rfl)
theorem dX2_solvePair_100 : decode cX2_solvePair 100 = .ok (.istore 4, 2) := dk_54 4 (dk_at dksX2_solvePair_4 7 rfl rfl)
theorem dX2_solvePair_102 : decode cX2_solvePair 102 = .ok (.aload_n 0, 1) := dk_42 (dk_at dksX2_solvePair_4 9 rfl rfl)
theorem dX2_solvePair_103 : decode cX2_solvePair 103 = .ok (.getfield 168, 3) := dk_180 0 168 (dk_at dksX2_solvePair_4 10 rfl rfl)
theorem dX2_solvePair_106 : decode cX2_solvePair 106 = .ok (.iload 4, 2) := dk_21 4 (dk_at dksX2_solvePair_4 13 rfl rfl)
theorem dX2_solvePair_108 : decode cX2_solvePair 108 = .ok (.baload, 1) := dk_51 (dk_at dksX2_solvePair_4 15 rfl rfl)
theorem dX2_solvePair_109 : decode cX2_solvePair 109 = .ok (.ifCond .eq 56, 3) := dk_153 0 56 (dk_at dksX2_solvePair_4 16 rfl rfl)
theorem dX2_solvePair_112 : decode cX2_solvePair 112 = .ok (.aload_n 0, 1) := dk_42 (dk_at dksX2_solvePair_4 19 rfl rfl)
theorem dX2_solvePair_113 : decode cX2_solvePair 113 = .ok (.aload_n 0, 1) := dk_42 (dk_at dksX2_solvePair_4 20 rfl rfl)
theorem dX2_solvePair_114 : decode cX2_solvePair 114 = .ok (.aload_n 0, 1) := dk_42 (dk_at dksX2_solvePair_4 21 rfl rfl)
theorem dX2_solvePair_115 : decode cX2_solvePair 115 = .ok (.getfield 171, 3) := dk_180 0 171 (dk_at dksX2_solvePair_5 0 rfl rfl)
theorem dX2_solvePair_118 : decode cX2_solvePair 118 = .ok (.iload 4, 2) := dk_21 4 (dk_at dksX2_solvePair_5 3 rfl rfl)
theorem dX2_solvePair_120 : decode cX2_solvePair 120 = .ok (.baload, 1) := dk_51 (dk_at dksX2_solvePair_5 5 rfl rfl)
theorem dX2_solvePair_121 : decode cX2_solvePair 121 = .ok (.ifCond .eq 7, 3) := dk_153 0 7 (dk_at dksX2_solvePair_5 6 rfl rfl)
theorem dX2_solvePair_124 : decode cX2_solvePair 124 = .ok (.iconst 2, 1) := dk_5 (dk_at dksX2_solvePair_5 9 rfl rfl)
theorem dX2_solvePair_125 : decode cX2_solvePair 125 = .ok (.goto 4, 3) := dk_167 0 4 (dk_at dksX2_solvePair_5 10 rfl rfl)
theorem dX2_solvePair_128 : decode cX2_solvePair 128 = .ok (.iconst 1, 1) := dk_4 (dk_at dksX2_solvePair_5 13 rfl rfl)
theorem dX2_solvePair_129 : decode cX2_solvePair 129 = .ok (.iload_n 1, 1) := dk_27 (dk_at dksX2_solvePair_5 14 rfl rfl)
theorem dX2_solvePair_130 : decode cX2_solvePair 130 = .ok (.iload_n 2, 1) := dk_28 (dk_at dksX2_solvePair_5 15 rfl rfl)
theorem dX2_solvePair_131 : decode cX2_solvePair 131 = .ok (.iconst 0, 1) := dk_3 (dk_at dksX2_solvePair_5 16 rfl rfl)
theorem dX2_solvePair_132 : decode cX2_solvePair 132 = .ok (.aload_n 0, 1) := dk_42 (dk_at dksX2_solvePair_5 17 rfl rfl)
theorem dX2_solvePair_133 : decode cX2_solvePair 133 = .ok (.getfield 171, 3) := dk_180 0 171 (dk_at dksX2_solvePair_5 18 rfl rfl)
theorem dX2_solvePair_136 : decode cX2_solvePair 136 = .ok (.iload 4, 2) := dk_21 4 (dk_at dksX2_solvePair_5 21 rfl rfl)
theorem dX2_solvePair_138 : decode cX2_solvePair 138 = .ok (.baload, 1) := dk_51 (dk_at dksX2_solvePair_5 23 rfl rfl)
theorem dX2_solvePair_139 : decode cX2_solvePair 139 = .ok (.ifCond .eq 17, 3) := dk_153 0 17 (dk_at dksX2_solvePair_6 0 rfl rfl)
theorem dX2_solvePair_142 : decode cX2_solvePair 142 = .ok (.iconst 1, 1) := dk_4 (dk_at dksX2_solvePair_6 3 rfl rfl)
theorem dX2_solvePair_143 : decode cX2_solvePair 143 = .ok (.aload_n 0, 1) := dk_42 (dk_at dksX2_solvePair_6 4 rfl rfl)
theorem dX2_solvePair_144 : decode cX2_solvePair 144 = .ok (.iload 4, 2) := dk_21 4 (dk_at dksX2_solvePair_6 5 rfl rfl)
theorem dX2_solvePair_146 : decode cX2_solvePair 146 = .ok (.iload_n 2, 1) := dk_28 (dk_at dksX2_solvePair_6 7 rfl rfl)
theorem dX2_solvePair_147 : decode cX2_solvePair 147 = .ok (.invokevirtual 894, 3) := dk_182 3 126 (dk_at dksX2_solvePair_6 8 rfl rfl)
theorem dX2_solvePair_150 : decode cX2_solvePair 150 = .ok (.ishl, 1) := dk_120 (dk_at dksX2_solvePair_6 11 rfl rfl)
theorem dX2_solvePair_151 : decode cX2_solvePair 151 = .ok (.iconst 1, 1) := dk_4 (dk_at dksX2_solvePair_6 12 rfl rfl)
theorem dX2_solvePair_152 : decode cX2_solvePair 152 = .ok (.isub, 1) := dk_100 (dk_at dksX2_solvePair_6 13 rfl rfl)
theorem dX2_solvePair_153 : decode cX2_solvePair 153 = .ok (.goto 4, 3) := dk_167 0 4 (dk_at dksX2_solvePair_6 14 rfl rfl)
theorem dX2_solvePair_156 : decode cX2_solvePair 156 = .ok (.iconst 0, 1) := dk_3 (dk_at dksX2_solvePair_6 17 rfl rfl)
theorem dX2_solvePair_157 : decode cX2_solvePair 157 = .ok (.iload_n 3, 1) := dk_29 (dk_at dksX2_solvePair_6 18 rfl rfl)
theorem dX2_solvePair_158 : decode cX2_solvePair 158 = .ok (.invokevirtual 897, 3) := dk_182 3 129 (dk_at dksX2_solvePair_6 19 rfl rfl)
theorem dX2_solvePair_161 : decode cX2_solvePair 161 = .ok (.invokestatic 891, 3) := dk_184 3 123 (dk_at dksX2_solvePair_7 0 rfl rfl)
theorem dX2_solvePair_164 : decode cX2_solvePair 164 = .ok (.return_, 1) := dk_177 (dk_at dksX2_solvePair_7 3 rfl rfl)
theorem dX2_solvePair_165 : decode cX2_solvePair 165 = .ok (.aload_n 0, 1) := dk_42 (dk_at dksX2_solvePair_7 4 rfl rfl)
theorem dX2_solvePair_166 : decode cX2_solvePair 166 = .ok (.getfield 181, 3) := dk_180 0 181 (dk_at dksX2_solvePair_7 5 rfl rfl)
theorem dX2_solvePair_169 : decode cX2_solvePair 169 = .ok (.iload_n 2, 1) := dk_28 (dk_at dksX2_solvePair_7 8 rfl rfl)
theorem dX2_solvePair_170 : decode cX2_solvePair 170 = .ok (.iaload, 1) := dk_46 (dk_at dksX2_solvePair_7 9 rfl rfl)
theorem dX2_solvePair_171 : decode cX2_solvePair 171 = .ok (.iload 4, 2) := dk_21 4 (dk_at dksX2_solvePair_7 10 rfl rfl)
theorem dX2_solvePair_173 : decode cX2_solvePair 173 = .ok (.if_icmp .ne 130, 3) := dk_160 0 130 (dk_at dksX2_solvePair_7 12 rfl rfl)
theorem dX2_solvePair_176 : decode cX2_solvePair 176 = .ok (.aload_n 0, 1) := dk_42 (dk_at dksX2_solvePair_7 15 rfl rfl)
theorem dX2_solvePair_177 : decode cX2_solvePair 177 = .ok (.getfield 187, 3) := dk_180 0 187 (dk_at dksX2_solvePair_7 16 rfl rfl)
theorem dX2_solvePair_180 : decode cX2_solvePair 180 = .ok (.iload_n 2, 1) := dk_28 (dk_at dksX2_solvePair_7 19 rfl rfl)
theorem dX2_solvePair_181 : decode cX2_solvePair 181 = .ok (.iaload, 1) := dk_46 (dk_at dksX2_solvePair_7 20 rfl rfl)
theorem dX2_solvePair_182 : decode cX2_solvePair 182 = .ok (.aload_n 0, 1) := dk_42 (dk_at dksX2_solvePair_7 21 rfl rfl)
theorem dX2_solvePair_183 : decode cX2_solvePair 183 = .ok (.getfield 187, 3) := dk_180 0 187 (dk_at dksX2_solvePair_8 0 rfl rfl)
theorem dX2_solvePair_186 : decode cX2_solvePair 186 = .ok (.iload_n 1, 1) := dk_27 (dk_at dksX2_solvePair_8 3 rfl rfl)
theorem dX2_solvePair_187 : decode cX2_solvePair 187 = .ok (.iaload, 1) := dk_46 (dk_at dksX2_solvePair_8 4 rfl rfl)
theorem dX2_solvePair_188 : decode cX2_solvePair 188 = .ok (.if_icmp .ne 115, 3) := dk_160 0 115 (dk_at dksX2_solvePair_8 5 rfl rfl)
theorem dX2_solvePair_191 : decode cX2_solvePair 191 = .ok (.iload_n 3, 1) := dk_29 (dk_at dksX2_solvePair_8 8 rfl rfl)
theorem dX2_solvePair_192 : decode cX2_solvePair 192 = .ok (.istore 5, 2) := dk_54 5 (dk_at dksX2_solvePair_8 9 rfl rfl)
theorem dX2_solvePair_194 : decode cX2_solvePair 194 = .ok (.aload_n 0, 1) := dk_42 (dk_at dksX2_solvePair_8 11 rfl rfl)
theorem dX2_solvePair_195 : decode cX2_solvePair 195 = .ok (.getfield 187, 3) := dk_180 0 187 (dk_at dksX2_solvePair_8 12 rfl rfl)
theorem dX2_solvePair_198 : decode cX2_solvePair 198 = .ok (.iload_n 1, 1) := dk_27 (dk_at dksX2_solvePair_8 15 rfl rfl)
theorem dX2_solvePair_199 : decode cX2_solvePair 199 = .ok (.iaload, 1) := dk_46 (dk_at dksX2_solvePair_8 16 rfl rfl)
theorem dX2_solvePair_200 : decode cX2_solvePair 200 = .ok (.iconst 1, 1) := dk_4 (dk_at dksX2_solvePair_8 17 rfl rfl)
theorem dX2_solvePair_201 : decode cX2_solvePair 201 = .ok (.isub, 1) := dk_100 (dk_at dksX2_solvePair_8 18 rfl rfl)
theorem dX2_solvePair_202 : decode cX2_solvePair 202 = .ok (.istore 6, 2) := dk_54 6 (dk_at dksX2_solvePair_8 19 rfl rfl)
theorem dX2_solvePair_204 : decode cX2_solvePair 204 = .ok (.iload 6, 2) := dk_21 6 (dk_at dksX2_solvePair_8 21 rfl rfl)
theorem dX2_solvePair_206 : decode cX2_solvePair 206 = .ok (.ifCond .lt 34, 3) := dk_155 0 34 (dk_at dksX2_solvePair_9 0 rfl rfl)
theorem dX2_solvePair_209 : decode cX2_solvePair 209 = .ok (.aload_n 0, 1) := dk_42 (dk_at dksX2_solvePair_9 3 rfl rfl)
theorem dX2_solvePair_210 : decode cX2_solvePair 210 = .ok (.iconst 0, 1) := dk_3 (dk_at dksX2_solvePair_9 4 rfl rfl)
theorem dX2_solvePair_211 : decode cX2_solvePair 211 = .ok (.aload_n 0, 1) := dk_42 (dk_at dksX2_solvePair_9 5 rfl rfl)
theorem dX2_solvePair_212 : decode cX2_solvePair 212 = .ok (.iload_n 1, 1) := dk_27 (dk_at dksX2_solvePair_9 6 rfl rfl)
theorem dX2_solvePair_213 : decode cX2_solvePair 213 = .ok (.iload 6, 2) := dk_21 6 (dk_at dksX2_solvePair_9 7 rfl rfl)
theorem dX2_solvePair_215 : decode cX2_solvePair 215 = .ok (.invokevirtual 691, 3) := dk_182 2 179 (dk_at dksX2_solvePair_9 9 rfl rfl)
theorem dX2_solvePair_218 : decode cX2_solvePair 218 = .ok (.aload_n 0, 1) := dk_42 (dk_at dksX2_solvePair_9 12 rfl rfl)
theorem dX2_solvePair_219 : decode cX2_solvePair 219 = .ok (.iload_n 2, 1) := dk_28 (dk_at dksX2_solvePair_9 13 rfl rfl)
theorem dX2_solvePair_220 : decode cX2_solvePair 220 = .ok (.iload 6, 2) := dk_21 6 (dk_at dksX2_solvePair_9 14 rfl rfl)
theorem dX2_solvePair_222 : decode cX2_solvePair 222 = .ok (.invokevirtual 691, 3) := dk_182 2 179 (dk_at dksX2_solvePair_9 16 rfl rfl)
theorem dX2_solvePair_225 : decode cX2_solvePair 225 = .ok (.iconst 0, 1) := dk_3 (dk_at dksX2_solvePair_9 19 rfl rfl)
theorem dX2_solvePair_226 : decode cX2_solvePair 226 = .ok (.iconst 0, 1) := dk_3 (dk_at dksX2_solvePair_9 20 rfl rfl)
theorem dX2_solvePair_227 : decode cX2_solvePair 227 = .ok (.iload 5, 2) := dk_21 5 (dk_at dksX2_solvePair_9 21 rfl rfl)
theorem dX2_solvePair_229 : decode cX2_solvePair 229 = .ok (.invokevirtual 897, 3) := dk_182 3 129 (dk_at dksX2_solvePair_10 0 rfl rfl)
theorem dX2_solvePair_232 : decode cX2_solvePair 232 = .ok (.istore 5, 2) := dk_54 5 (dk_at dksX2_solvePair_10 3 rfl rfl)
theorem dX2_solvePair_234 : decode cX2_solvePair 234 = .ok (.iinc 6 (-1), 3) := dk_132 6 255 (dk_at dksX2_solvePair_10 5 rfl rfl)
theorem dX2_solvePair_237 : decode cX2_solvePair 237 = .ok (.goto (-33), 3) := dk_167 255 223 (dk_at dksX2_solvePair_10 8 rfl rfl)
theorem dX2_solvePair_240 : decode cX2_solvePair 240 = .ok (.aload_n 0, 1) := dk_42 (dk_at dksX2_solvePair_10 11 rfl rfl)
theorem dX2_solvePair_241 : decode cX2_solvePair 241 = .ok (.iload 5, 2) := dk_21 5 (dk_at dksX2_solvePair_10 12 rfl rfl)
theorem dX2_solvePair_243 : decode cX2_solvePair 243 = .ok (.invokestatic 891, 3) := dk_184 3 123 (dk_at dksX2_solvePair_10 14 rfl rfl)
theorem dX2_solvePair_246 : decode cX2_solvePair 246 = .ok (.aload_n 0, 1) := dk_42 (dk_at dksX2_solvePair_10 17 rfl rfl)
theorem dX2_solvePair_247 : decode cX2_solvePair 247 = .ok (.getfield 171, 3) := dk_180 0 171 (dk_at dksX2_solvePair_10 18 rfl rfl)
theorem dX2_solvePair_250 : decode cX2_solvePair 250 = .ok (.iload 4, 2) := dk_21 4 (dk_at dksX2_solvePair_10 21 rfl rfl)
theorem dX2_solvePair_252 : decode cX2_solvePair 252 = .ok (.baload, 1) := dk_51 (dk_at dksX2_solvePair_10 23 rfl rfl)
theorem dX2_solvePair_253 : decode cX2_solvePair 253 = .ok (.ifCond .eq 50, 3) := dk_153 0 50 (dk_at dksX2_solvePair_11 0 rfl rfl)
theorem dX2_solvePair_256 : decode cX2_solvePair 256 = .ok (.aload_n 0, 1) := dk_42 (dk_at dksX2_solvePair_11 3 rfl rfl)
theorem dX2_solvePair_257 : decode cX2_solvePair 257 = .ok (.iconst 0, 1) := dk_3 (dk_at dksX2_solvePair_11 4 rfl rfl)
theorem dX2_solvePair_258 : decode cX2_solvePair 258 = .ok (.aload_n 0, 1) := dk_42 (dk_at dksX2_solvePair_11 5 rfl rfl)
theorem dX2_solvePair_259 : decode cX2_solvePair 259 = .ok (.iload_n 1, 1) := dk_27 (dk_at dksX2_solvePair_11 6 rfl rfl)
theorem dX2_solvePair_260 : decode cX2_solvePair 260 = .ok (.iconst 1, 1) := dk_4 (dk_at dksX2_solvePair_11 7 rfl rfl)
theorem dX2_solvePair_261 : decode cX2_solvePair 261 = .ok (.invokevirtual 691, 3) := dk_182 2 179 (dk_at dksX2_solvePair_11 8 rfl rfl)
theorem dX2_solvePair_264 : decode cX2_solvePair 264 = .ok (.aload_n 0, 1) := dk_42 (dk_at dksX2_solvePair_11 11 rfl rfl)
theorem dX2_solvePair_265 : decode cX2_solvePair 265 = .ok (.iload_n 2, 1) := dk_28 (dk_at dksX2_solvePair_11 12 rfl rfl)
theorem dX2_solvePair_266 : decode cX2_solvePair 266 = .ok (.iconst 0, 1) := dk_3 (dk_at dksX2_solvePair_11 13 rfl rfl)
theorem dX2_solvePair_267 : decode cX2_solvePair 267 = .ok (.invokevirtual 691, 3) := dk_182 2 179 (dk_at dksX2_solvePair_11 14 rfl rfl)
theorem dX2_solvePair_270 : decode cX2_solvePair 270 = .ok (.iconst 0, 1) := dk_3 (dk_at dksX2_solvePair_11 17 rfl rfl)
theorem dX2_solvePair_271 : decode cX2_solvePair 271 = .ok (.iconst 0, 1) := dk_3 (dk_at dksX2_solvePair_11 18 rfl rfl)
theorem dX2_solvePair_272 : decode cX2_solvePair 272 = .ok (.iload_n 3, 1) := dk_29 (dk_at dksX2_solvePair_11 19 rfl rfl)
theorem dX2_solvePair_273 : decode cX2_solvePair 273 = .ok (.invokevirtual 897, 3) := dk_182 3 129 (dk_at dksX2_solvePair_11 20 rfl rfl)
theorem dX2_solvePair_276 : decode cX2_solvePair 276 = .ok (.istore 6, 2) := dk_54 6 (dk_at dksX2_solvePair_12 0 rfl rfl)
theorem dX2_solvePair_278 : decode cX2_solvePair 278 = .ok (.aload_n 0, 1) := dk_42 (dk_at dksX2_solvePair_12 2 rfl rfl)
theorem dX2_solvePair_279 : decode cX2_solvePair 279 = .ok (.aload_n 0, 1) := dk_42 (dk_at dksX2_solvePair_12 3 rfl rfl)
theorem dX2_solvePair_280 : decode cX2_solvePair 280 = .ok (.iconst 0, 1) := dk_3 (dk_at dksX2_solvePair_12 4 rfl rfl)
theorem dX2_solvePair_281 : decode cX2_solvePair 281 = .ok (.aload_n 0, 1) := dk_42 (dk_at dksX2_solvePair_12 5 rfl rfl)
theorem dX2_solvePair_282 : decode cX2_solvePair 282 = .ok (.iload_n 1, 1) := dk_27 (dk_at dksX2_solvePair_12 6 rfl rfl)
theorem dX2_solvePair_283 : decode cX2_solvePair 283 = .ok (.iconst 0, 1) := dk_3 (dk_at dksX2_solvePair_12 7 rfl rfl)
theorem dX2_solvePair_284 : decode cX2_solvePair 284 = .ok (.invokevirtual 691, 3) := dk_182 2 179 (dk_at dksX2_solvePair_12 8 rfl rfl)
theorem dX2_solvePair_287 : decode cX2_solvePair 287 = .ok (.aload_n 0, 1) := dk_42 (dk_at dksX2_solvePair_12 11 rfl rfl)
theorem dX2_solvePair_288 : decode cX2_solvePair 288 = .ok (.iload_n 2, 1) := dk_28 (dk_at dksX2_solvePair_12 12 rfl rfl)
theorem dX2_solvePair_289 : decode cX2_solvePair 289 = .ok (.iconst 1, 1) := dk_4 (dk_at dksX2_solvePair_12 13 rfl rfl)
theorem dX2_solvePair_290 : decode cX2_solvePair 290 = .ok (.invokevirtual 691, 3) := dk_182 2 179 (dk_at dksX2_solvePair_12 14 rfl rfl)
theorem dX2_solvePair_293 : decode cX2_solvePair 293 = .ok (.iconst 0, 1) := dk_3 (dk_at dksX2_solvePair_12 17 rfl rfl)
theorem dX2_solvePair_294 : decode cX2_solvePair 294 = .ok (.iconst 0, 1) := dk_3 (dk_at dksX2_solvePair_12 18 rfl rfl)
theorem dX2_solvePair_295 : decode cX2_solvePair 295 = .ok (.iload 6, 2) := dk_21 6 (dk_at dksX2_solvePair_12 19 rfl rfl)
theorem dX2_solvePair_297 : decode cX2_solvePair 297 = .ok (.invokevirtual 897, 3) := dk_182 3 129 (dk_at dksX2_solvePair_12 21 rfl rfl)
theorem dX2_solvePair_300 : decode cX2_solvePair 300 = .ok (.invokestatic 891, 3) := dk_184 3 123 (dk_at dksX2_solvePair_13 0 rfl rfl)
theorem dX2_solvePair_303 : decode cX2_solvePair 303 = .ok (.aload_n 0, 1) := dk_42 (dk_at dksX2_solvePair_13 3 rfl rfl)
theorem dX2_solvePair_304 : decode cX2_solvePair 304 = .ok (.iload 4, 2) := dk_21 4 (dk_at dksX2_solvePair_13 4 rfl rfl)
theorem dX2_solvePair_306 : decode cX2_solvePair 306 = .ok (.invokevirtual 710, 3) := dk_182 2 198 (dk_at dksX2_solvePair_13 6 rfl rfl)
theorem dX2_solvePair_309 : decode cX2_solvePair 309 = .ok (.istore 5, 2) := dk_54 5 (dk_at dksX2_solvePair_13 9 rfl rfl)
theorem dX2_solvePair_311 : decode cX2_solvePair 311 = .ok (.iload 5, 2) := dk_21 5 (dk_at dksX2_solvePair_13 11 rfl rfl)
theorem dX2_solvePair_313 : decode cX2_solvePair 313 = .ok (.ifCond .lt 89, 3) := dk_155 0 89 (dk_at dksX2_solvePair_13 13 rfl rfl)
theorem dX2_solvePair_316 : decode cX2_solvePair 316 = .ok (.aload_n 0, 1) := dk_42 (dk_at dksX2_solvePair_13 16 rfl rfl)
theorem dX2_solvePair_317 : decode cX2_solvePair 317 = .ok (.getfield 187, 3) := dk_180 0 187 (dk_at dksX2_solvePair_13 17 rfl rfl)
theorem dX2_solvePair_320 : decode cX2_solvePair 320 = .ok (.iload_n 1, 1) := dk_27 (dk_at dksX2_solvePair_13 20 rfl rfl)
theorem dX2_solvePair_321 : decode cX2_solvePair 321 = .ok (.iaload, 1) := dk_46 (dk_at dksX2_solvePair_13 21 rfl rfl)
theorem dX2_solvePair_322 : decode cX2_solvePair 322 = .ok (.iconst 2, 1) := dk_5 (dk_at dksX2_solvePair_13 22 rfl rfl)
theorem dX2_solvePair_323 : decode cX2_solvePair 323 = .ok (.if_icmp .ne 79, 3) := dk_160 0 79 (dk_at dksX2_solvePair_14 0 rfl rfl)
theorem dX2_solvePair_326 : decode cX2_solvePair 326 = .ok (.aload_n 0, 1) := dk_42 (dk_at dksX2_solvePair_14 3 rfl rfl)
theorem dX2_solvePair_327 : decode cX2_solvePair 327 = .ok (.iconst 0, 1) := dk_3 (dk_at dksX2_solvePair_14 4 rfl rfl)
theorem dX2_solvePair_328 : decode cX2_solvePair 328 = .ok (.aload_n 0, 1) := dk_42 (dk_at dksX2_solvePair_14 5 rfl rfl)
theorem dX2_solvePair_329 : decode cX2_solvePair 329 = .ok (.iload_n 1, 1) := dk_27 (dk_at dksX2_solvePair_14 6 rfl rfl)
theorem dX2_solvePair_330 : decode cX2_solvePair 330 = .ok (.iconst 1, 1) := dk_4 (dk_at dksX2_solvePair_14 7 rfl rfl)
theorem dX2_solvePair_331 : decode cX2_solvePair 331 = .ok (.invokevirtual 691, 3) := dk_182 2 179 (dk_at dksX2_solvePair_14 8 rfl rfl)
theorem dX2_solvePair_334 : decode cX2_solvePair 334 = .ok (.iload_n 2, 1) := dk_28 (dk_at dksX2_solvePair_14 11 rfl rfl)
theorem dX2_solvePair_335 : decode cX2_solvePair 335 = .ok (.iconst 0, 1) := dk_3 (dk_at dksX2_solvePair_14 12 rfl rfl)
theorem dX2_solvePair_336 : decode cX2_solvePair 336 = .ok (.iconst 0, 1) := dk_3 (dk_at dksX2_solvePair_14 13 rfl rfl)
theorem dX2_solvePair_337 : decode cX2_solvePair 337 = .ok (.iload_n 3, 1) := dk_29 (dk_at dksX2_solvePair_14 14 rfl rfl)
theorem dX2_solvePair_338 : decode cX2_solvePair 338 = .ok (.invokevirtual 897, 3) := dk_182 3 129 (dk_at dksX2_solvePair_14 15 rfl rfl)
theorem dX2_solvePair_341 : decode cX2_solvePair 341 = .ok (.istore 6, 2) := dk_54 6 (dk_at dksX2_solvePair_14 18 rfl rfl)
theorem dX2_solvePair_343 : decode cX2_solvePair 343 = .ok (.aload_n 0, 1) := dk_42 (dk_at dksX2_solvePair_14 20 rfl rfl)
theorem dX2_solvePair_344 : decode cX2_solvePair 344 = .ok (.aload_n 0, 1) := dk_42 (dk_at dksX2_solvePair_14 21 rfl rfl)
theorem dX2_solvePair_345 : decode cX2_solvePair 345 = .ok (.iconst 0, 1) := dk_3 (dk_at dksX2_solvePair_14 22 rfl rfl)
theorem dX2_solvePair_346 : decode cX2_solvePair 346 = .ok (.aload_n 0, 1) := dk_42 (dk_at dksX2_solvePair_14 23 rfl rfl)
theorem dX2_solvePair_347 : decode cX2_solvePair 347 = .ok (.iload_n 1, 1) := dk_27 (dk_at dksX2_solvePair_15 0 rfl rfl)
theorem dX2_solvePair_348 : decode cX2_solvePair 348 = .ok (.iconst 0, 1) := dk_3 (dk_at dksX2_solvePair_15 1 rfl rfl)
theorem dX2_solvePair_349 : decode cX2_solvePair 349 = .ok (.invokevirtual 691, 3) := dk_182 2 179 (dk_at dksX2_solvePair_15 2 rfl rfl)
theorem dX2_solvePair_352 : decode cX2_solvePair 352 = .ok (.iload 5, 2) := dk_21 5 (dk_at dksX2_solvePair_15 5 rfl rfl)
theorem dX2_solvePair_354 : decode cX2_solvePair 354 = .ok (.iconst 0, 1) := dk_3 (dk_at dksX2_solvePair_15 7 rfl rfl)
theorem dX2_solvePair_355 : decode cX2_solvePair 355 = .ok (.iconst 0, 1) := dk_3 (dk_at dksX2_solvePair_15 8 rfl rfl)
theorem dX2_solvePair_356 : decode cX2_solvePair 356 = .ok (.iload 6, 2) := dk_21 6 (dk_at dksX2_solvePair_15 9 rfl rfl)
theorem dX2_solvePair_358 : decode cX2_solvePair 358 = .ok (.invokevirtual 897, 3) := dk_182 3 129 (dk_at dksX2_solvePair_15 11 rfl rfl)
theorem dX2_solvePair_361 : decode cX2_solvePair 361 = .ok (.invokestatic 891, 3) := dk_184 3 123 (dk_at dksX2_solvePair_15 14 rfl rfl)
theorem dX2_solvePair_364 : decode cX2_solvePair 364 = .ok (.aload_n 0, 1) := dk_42 (dk_at dksX2_solvePair_15 17 rfl rfl)
theorem dX2_solvePair_365 : decode cX2_solvePair 365 = .ok (.iconst 0, 1) := dk_3 (dk_at dksX2_solvePair_15 18 rfl rfl)
theorem dX2_solvePair_366 : decode cX2_solvePair 366 = .ok (.aload_n 0, 1) := dk_42 (dk_at dksX2_solvePair_15 19 rfl rfl)
theorem dX2_solvePair_367 : decode cX2_solvePair 367 = .ok (.iload_n 1, 1) := dk_27 (dk_at dksX2_solvePair_15 20 rfl rfl)
theorem dX2_solvePair_368 : decode cX2_solvePair 368 = .ok (.iconst 1, 1) := dk_4 (dk_at dksX2_solvePair_15 21 rfl rfl)
theorem dX2_solvePair_369 : decode cX2_solvePair 369 = .ok (.invokevirtual 691, 3) := dk_182 2 179 (dk_at dksX2_solvePair_16 0 rfl rfl)
theorem dX2_solvePair_372 : decode cX2_solvePair 372 = .ok (.iload 5, 2) := dk_21 5 (dk_at dksX2_solvePair_16 3 rfl rfl)
theorem dX2_solvePair_374 : decode cX2_solvePair 374 = .ok (.iconst 0, 1) := dk_3 (dk_at dksX2_solvePair_16 5 rfl rfl)
theorem dX2_solvePair_375 : decode cX2_solvePair 375 = .ok (.iconst 0, 1) := dk_3 (dk_at dksX2_solvePair_16 6 rfl rfl)
theorem dX2_solvePair_376 : decode cX2_solvePair 376 = .ok (.iload_n 3, 1) := dk_29 (dk_at dksX2_solvePair_16 7 rfl rfl)
theorem dX2_solvePair_377 : decode cX2_solvePair 377 = .ok (.invokevirtual 897, 3) := dk_182 3 129 (dk_at dksX2_solvePair_16 8 rfl rfl)
theorem dX2_solvePair_380 : decode cX2_solvePair 380 = .ok (.istore 7, 2) := dk_54 7 (dk_at dksX2_solvePair_16 11 rfl rfl)
theorem dX2_solvePair_382 : decode cX2_solvePair 382 = .ok (.aload_n 0, 1) := dk_42 (dk_at dksX2_solvePair_16 13 rfl rfl)
theorem dX2_solvePair_383 : decode cX2_solvePair 383 = .ok (.aload_n 0, 1) := dk_42 (dk_at dksX2_solvePair_16 14 rfl rfl)
theorem dX2_solvePair_384 : decode cX2_solvePair 384 = .ok (.iconst 0, 1) := dk_3 (dk_at dksX2_solvePair_16 15 rfl rfl)
theorem dX2_solvePair_385 : decode cX2_solvePair 385 = .ok (.aload_n 0, 1) := dk_42 (dk_at dksX2_solvePair_16 16 rfl rfl)
theorem dX2_solvePair_386 : decode cX2_solvePair 386 = .ok (.iload_n 1, 1) := dk_27 (dk_at dksX2_solvePair_16 17 rfl rfl)
theorem dX2_solvePair_387 : decode cX2_solvePair 387 = .ok (.iconst 0, 1) := dk_3 (dk_at dksX2_solvePair_16 18 rfl rfl)
theorem dX2_solvePair_388 : decode cX2_solvePair 388 = .ok (.invokevirtual 691, 3) := dk_182 2 179 (dk_at dksX2_solvePair_16 19 rfl rfl)
theorem dX2_solvePair_391 : decode cX2_solvePair 391 = .ok (.iload_n 2, 1) := dk_28 (dk_at dksX2_solvePair_16 22 rfl rfl)
theorem dX2_solvePair_392 : decode cX2_solvePair 392 = .ok (.iconst 0, 1) := dk_3 (dk_at dksX2_solvePair_16 23 rfl rfl)
theorem dX2_solvePair_393 : decode cX2_solvePair 393 = .ok (.iconst 0, 1) := dk_3 (dk_at dksX2_solvePair_17 0 rfl rfl)
theorem dX2_solvePair_394 : decode cX2_solvePair 394 = .ok (.iload 7, 2) := dk_21 7 (dk_at dksX2_solvePair_17 1 rfl rfl)
theorem dX2_solvePair_396 : decode cX2_solvePair 396 = .ok (.invokevirtual 897, 3) := dk_182 3 129 (dk_at dksX2_solvePair_17 3 rfl rfl)
theorem dX2_solvePair_399 : decode cX2_solvePair 399 = .ok (.invokestatic 891, 3) := dk_184 3 123 (dk_at dksX2_solvePair_17 6 rfl rfl)
theorem dX2_solvePair_402 : decode cX2_solvePair 402 = .ok (.return_, 1) := dk_177 (dk_at dksX2_solvePair_17 9 rfl rfl)
