set_option maxRecDepth 100000
abbrev cX2_wayFound : ByteArray := prog_4_method_201_code
def yX2_wayFound : MethodName := ⟨RX2, "wayFound", "()V"⟩
def dkwX2_wayFound_6 : List UInt8 := [4, 96, 181, 4, 235, 42, 28, 182, 4, 208, 177]
abbrev dktX2_wayFound_6 : List UInt8 := dkwX2_wayFound_6 ++ []
def dkwX2_wayFound_5 : List UInt8 := [21, 5, 181, 4, 34, 42, 21, 6, 181, 4, 37, 42, 42, 180, 2, 152, 181, 4, 253, 42, 89, 180, 4, 235]
abbrev dktX2_wayFound_5 : List UInt8 := dkwX2_wayFound_5 ++ dktX2_wayFound_6
def dkwX2_wayFound_4 : List UInt8 := [42, 180, 4, 238, 160, 0, 39, 42, 42, 180, 4, 241, 181, 4, 244, 42, 42, 180, 4, 247, 181, 4, 250, 42]
abbrev dktX2_wayFound_4 : List UInt8 := dkwX2_wayFound_4 ++ dktX2_wayFound_5
def dkwX2_wayFound_3 : List UInt8 := [21, 4, 3, 184, 3, 220, 54, 6, 42, 27, 181, 3, 187, 21, 5, 21, 6, 159, 0, 60, 42, 180, 4, 235]
abbrev dktX2_wayFound_3 : List UInt8 := dkwX2_wayFound_3 ++ dktX2_wayFound_4
def dkwX2_wayFound_2 : List UInt8 := [42, 180, 4, 232, 182, 4, 14, 184, 4, 172, 182, 4, 190, 54, 4, 42, 29, 3, 184, 3, 220, 54, 5, 42]
abbrev dktX2_wayFound_2 : List UInt8 := dkwX2_wayFound_2 ++ dktX2_wayFound_3
def dkwX2_wayFound_1 : List UInt8 := [42, 182, 4, 223, 42, 42, 42, 180, 4, 226, 184, 4, 172, 182, 4, 190, 62, 42, 42, 42, 42, 180, 4, 229]
abbrev dktX2_wayFound_1 : List UInt8 := dkwX2_wayFound_1 ++ dktX2_wayFound_2
def dkwX2_wayFound_0 : List UInt8 := [42, 180, 3, 187, 60, 42, 180, 2, 152, 61, 42, 89, 180, 4, 220, 4, 96, 181, 4, 220, 42, 182, 4, 217]
abbrev dktX2_wayFound_0 : List UInt8 := dkwX2_wayFound_0 ++ dktX2_wayFound_1
theorem dksX2_wayFound_0 : cX2_wayFound.data.toList.drop 0 = dktX2_wayFound_0 := by decide +kernel
theorem dksX2_wayFound_1 : cX2_wayFound.data.toList.drop 24 = dktX2_wayFound_1 := dk_seg dksX2_wayFound_0 24 rfl rfl
theorem dksX2_wayFound_2 : cX2_wayFound.data.toList.drop 48 = dktX2_wayFound_2 := dk_seg dksX2_wayFound_1 24 rfl rfl
theorem dksX2_wayFound_3 : cX2_wayFound.data.toList.drop 72 = dktX2_wayFound_3 := dk_seg dksX2_wayFound_2 24 rfl rfl
theorem dksX2_wayFound_4 : cX2_wayFound.data.toList.drop 96 = dktX2_wayFound_4 := dk_seg dksX2_wayFound_3 24 rfl rfl
theorem dksX2_wayFound_5 : cX2_wayFound.data.toList.drop 120 = dktX2_wayFound_5 := dk_seg dksX2_wayFound_4 24 rfl rfl
theorem dksX2_wayFound_6 : cX2_wayFound.data.toList.drop 144 = dktX2_wayFound_6 := dk_seg dksX2_wayFound_5 24 rfl rfl
theorem dX2_wayFound_0 : decode cX2_wayFound 0 = .ok (.aload_n 0, 1) := dk_42 (dk_at dksX2_wayFound_0 0 rfl rfl)
theorem dX2_wayFound_1 : decode cX2_wayFound 1 = .ok (.getfield 955, 3) := dk_180 3 187 (dk_at dksX2_wayFound_0 1 rfl rfl)
theorem dX2_wayFound_4 : decode cX2_wayFound 4 = .ok (.istore_n 1, 1) := dk_60 (dk_at dksX2_wayFound_0 4 rfl rfl)
theorem dX2_wayFound_5 : decode cX2_wayFound 5 = .ok (.aload_n 0, 1) := dk_42 (dk_at dksX2_wayFound_0 5 rfl rfl)
theorem dX2_wayFound_6 : decode cX2_wayFound 6 = .ok (.getfield 664, 3) := dk_180 2 152 (dk_at dksX2_wayFound_0 6 rfl rfl)
theorem dX2_wayFound_9 : decode cX2_wayFound 9 = .ok (.istore_n 2, 1) := dk_61 (dk_at dksX2_wayFound_0 9 rfl rfl)
theorem dX2_wayFound_10 : decode cX2_wayFound 10 = .ok (.aload_n 0, 1) := dk_42 (dk_at dksX2_wayFound_0 10 rfl rfl)
theorem dX2_wayFound_11 : decode cX2_wayFound 11 = .ok (.dup, 1) := dk_89 (dk_at dksX2_wayFound_0 11 rfl rfl)
theorem dX2_wayFound_12 : decode cX2_wayFound 12 = .ok (.getfield 1244, 3) := dk_180 4 220 (dk_at dksX2_wayFound_0 12 rfl rfl)
theorem dX2_wayFound_15 : decode cX2_wayFound 15 = .ok (.iconst 1, 1) := dk_4 (dk_at dksX2_wayFound_0 15 rfl rfl)
theorem dX2_wayFound_16 : decode cX2_wayFound 16 = .ok (.iadd, 1) := dk_96 (dk_at dksX2_wayFound_0 16 rfl rfl)
theorem dX2_wayFound_17 : decode cX2_wayFound 17 = .ok (.putfield 1244, 3) := dk_181 4 220 (dk_at dksX2_wayFound_0 17 rfl rfl)
theorem dX2_wayFound_20 : decode cX2_wayFound 20 = .ok (.aload_n 0, 1) := dk_42 (dk_at dksX2_wayFound_0 20 rfl rfl)
theorem dX2_wayFound_21 : decode cX2_wayFound 21 = .ok (.invokevirtual 1241, 3) := dk_182 4 217 (dk_at dksX2_wayFound_0 21 rfl rfl)
theorem dX2_wayFound_24 : decode cX2_wayFound 24 = .ok (.aload_n 0, 1) := dk_42 (dk_at dksX2_wayFound_1 0 rfl rfl)
theorem dX2_wayFound_25 : decode cX2_wayFound 25 = .ok (.invokevirtual 1247, 3) := dk_182 4 223 (dk_at dksX2_wayFound_1 1 rfl rfl)
theorem dX2_wayFound_28 : decode cX2_wayFound 28 = .ok (.aload_n 0, 1) := dk_42 (dk_at dksX2_wayFound_1 4 rfl rfl)
theorem dX2_wayFound_29 : decode cX2_wayFound 29 = .ok (.aload_n 0, 1) := dk_42 (dk_at dksX2_wayFound_1 5 rfl rfl)
theorem dX2_wayFound_30 : decode cX2_wayFound 30 = .ok (.aload_n 0, 1) := dk_42 (dk_at dksX2_wayFound_1 6 rfl rfl)
theorem dX2_wayFound_31 : decode cX2_wayFound 31 = .ok (.getfield 1250, 3) := dk_180 4 226 (dk_at dksX2_wayFound_1 7 rfl rfl)
theorem dX2_wayFound_34 : decode cX2_wayFound 34 = .ok (.invokestatic 1196, 3) := dk_184 4 172 (dk_at dksX2_wayFound_1 10 rfl rfl)
theorem dX2_wayFound_37 : decode cX2_wayFound 37 = .ok (.invokevirtual 1214, 3) := dk_182 4 190 (dk_at dksX2_wayFound_1 13 rfl rfl)
theorem dX2_wayFound_40 : decode cX2_wayFound 40 = .ok (.istore_n 3, 1) := dk_62 (dk_at dksX2_wayFound_1 16 rfl rfl)
theorem dX2_wayFound_41 : decode cX2_wayFound 41 = .ok (.aload_n 0, 1) := dk_42 (dk_at dksX2_wayFound_1 17 rfl rfl)
theorem dX2_wayFound_42 : decode cX2_wayFound 42 = .ok (.aload_n 0, 1) := dk_42 (dk_at dksX2_wayFound_1 18 rfl rfl)
theorem dX2_wayFound_43 : decode cX2_wayFound 43 = .ok (.aload_n 0, 1) := dk_42 (dk_at dksX2_wayFound_1 19 rfl rfl)
theorem dX2_wayFound_44 : decode cX2_wayFound 44 = .ok (.aload_n 0, 1) := dk_42 (dk_at dksX2_wayFound_1 20 rfl rfl)
theorem dX2_wayFound_45 : decode cX2_wayFound 45 = .ok (.getfield 1253, 3) := dk_180 4 229 (dk_at dksX2_wayFound_1 21 rfl rfl)
theorem dX2_wayFound_48 : decode cX2_wayFound 48 = .ok (.aload_n 0, 1) := dk_42 (dk_at dksX2_wayFound_2 0 rfl rfl)
theorem dX2_wayFound_49 : decode cX2_wayFound 49 = .ok (.getfield 1256, 3) := dk_180 4 232 (dk_at dksX2_wayFound_2 1 rfl rfl)
theorem dX2_wayFound_52 : decode cX2_wayFound 52 = .ok (.invokevirtual 1038, 3) := dk_182 4 14 (dk_at dksX2_wayFound_2 4 rfl rfl)
theorem dX2_wayFound_55 : decode cX2_wayFound 55 = .ok (.invokestatic 1196, 3) := dk_184 4 172 (dk_at dksX2_wayFound_2 7 rfl rfl)
theorem dX2_wayFound_58 : decode cX2_wayFound 58 = .ok (.invokevirtual 1214, 3) := dk_182 4 190 (dk_at dksX2_wayFound_2 10 rfl rfl)
theorem dX2_wayFound_61 : decode cX2_wayFound 61 = .ok (.istore 4, 2) := dk_54 4 (dk_at dksX2_wayFound_2 13 rfl rfl)
theorem dX2_wayFound_63 : decode cX2_wayFound 63 = .ok (.aload_n 0, 1) := dk_42 (dk_at dksX2_wayFound_2 15 rfl rfl)
theorem dX2_wayFound_64 : decode cX2_wayFound 64 = .ok (.iload_n 3, 1) := dk_29 (dk_at dksX2_wayFound_2 16 rfl rfl)
theorem dX2_wayFound_65 : decode cX2_wayFound 65 = .ok (.iconst 0, 1) := dk_3 (dk_at dksX2_wayFound_2 17 rfl rfl)
theorem dX2_wayFound_66 : decode cX2_wayFound 66 = .ok (.invokestatic 988, 3) := dk_184 3 220 (dk_at dksX2_wayFound_2 18 rfl rfl)
theorem dX2_wayFound_69 : decode cX2_wayFound 69 = .ok (.istore 5, 2) := dk_54 5 (dk_at dksX2_wayFound_2 21 rfl rfl)
theorem dX2_wayFound_71 : decode cX2_wayFound 71 = .ok (.aload_n 0, 1) := dk_42 (dk_at dksX2_wayFound_2 23 rfl rfl)
theorem dX2_wayFound_72 : decode cX2_wayFound 72 = .ok (.iload 4, 2) := dk_21 4 (dk_at dksX2_wayFound_3 0 rfl rfl)
theorem dX2_wayFound_74 : decode cX2_wayFound 74 = .ok (.iconst 0, 1) := dk_3 (dk_at dksX2_wayFound_3 2 rfl rfl)
theorem dX2_wayFound_75 : decode cX2_wayFound 75 = .ok (.invokestatic 988, 3) := dk_184 3 220 (dk_at dksX2_wayFound_3 3 rfl rfl)
theorem dX2_wayFound_78 : decode cX2_wayFound 78 = .ok (.istore 6, 2) := dk_54 6 (dk_at dksX2_wayFound_3 6 rfl rfl)
theorem dX2_wayFound_80 : decode cX2_wayFound 80 = .ok (.aload_n 0, 1) := dk_42 (dk_at dksX2_wayFound_3 8 rfl rfl)
theorem dX2_wayFound_81 : decode cX2_wayFound 81 = .ok (.iload_n 1, 1) := dk_27 (dk_at dksX2_wayFound_3 9 rfl rfl)
theorem dX2_wayFound_82 : decode cX2_wayFound 82 = .ok (.putfield 955, 3) := dk_181 3 187 (dk_at dksX2_wayFound_3 10 rfl rfl)
theorem dX2_wayFound_85 : decode cX2_wayFound 85 = .ok (.iload 5, 2) := dk_21 5 (dk_at dksX2_wayFound_3 13 rfl rfl)
theorem dX2_wayFound_87 : decode cX2_wayFound 87 = .ok (.iload 6, 2) := dk_21 6 (dk_at dksX2_wayFound_3 15 rfl rfl)
theorem dX2_wayFound_89 : decode cX2_wayFound 89 = .ok (.if_icmp .eq 60, 3) := dk_159 0 60 (dk_at dksX2_wayFound_3 17 rfl rfl)
theorem dX2_wayFound_92 : decode cX2_wayFound 92 = .ok (.aload_n 0, 1) := dk_42 (dk_at dksX2_wayFound_3 20 rfl rfl)
theorem dX2_wayFound_93 : decode cX2_wayFound 93 = .ok (.getfield 1259, 3) := dk_180 4 235 (dk_at dksX2_wayFound_3 21 rfl rfl)
theorem dX2_wayFound_96 : decode cX2_wayFound 96 = .ok (.aload_n 0, 1) := dk_42 (dk_at dksX2_wayFound_4 0 rfl rfl)
theorem dX2_wayFound_97 : decode cX2_wayFound 97 = .ok (.getfield 1262, 3) := dk_180 4 238 (dk_at dksX2_wayFound_4 1 rfl rfl)
theorem dX2_wayFound_100 : decode cX2_wayFound 100 = .ok (.if_icmp .ne 39, 3) := dk_160 0 39 (dk_at dksX2_wayFound_4 4 rfl rfl)
theorem dX2_wayFound_103 : decode cX2_wayFound 103 = .ok (.aload_n 0, 1) := dk_42 (dk_at dksX2_wayFound_4 7 rfl rfl)
theorem dX2_wayFound_104 : decode cX2_wayFound 104 = .ok (.aload_n 0, 1) := dk_42 (dk_at dksX2_wayFound_4 8 rfl rfl)
theorem dX2_wayFound_105 : decode cX2_wayFound 105 = .ok (.getfield 1265, 3) := dk_180 4 241 (dk_at dksX2_wayFound_4 9 rfl rfl)
theorem dX2_wayFound_108 : decode cX2_wayFound 108 = .ok (.putfield 1268, 3) := dk_181 4 244 (dk_at dksX2_wayFound_4 12 rfl rfl)
theorem dX2_wayFound_111 : decode cX2_wayFound 111 = .ok (.aload_n 0, 1) := dk_42 (dk_at dksX2_wayFound_4 15 rfl rfl)
theorem dX2_wayFound_112 : decode cX2_wayFound 112 = .ok (.aload_n 0, 1) := dk_42 (dk_at dksX2_wayFound_4 16 rfl rfl)
theorem dX2_wayFound_113 : decode cX2_wayFound 113 = .ok (.getfield 1271, 3) := dk_180 4 247 (dk_at dksX2_wayFound_4 17 rfl rfl)
theorem dX2_wayFound_116 : decode cX2_wayFound 116 = .ok (.putfield 1274, 3) := dk_181 4 250 (dk_at dksX2_wayFound_4 20 rfl rfl)
theorem dX2_wayFound_119 : decode cX2_wayFound 119 = .ok (.aload_n 0, 1) := dk_42 (dk_at dksX2_wayFound_4 23 rfl rfl)
theorem dX2_wayFound_120 : decode cX2_wayFound 120 = .ok (.iload 5, 2) := dk_21 5 (dk_at dksX2_wayFound_5 0 rfl rfl)
theorem dX2_wayFound_122 : decode cX2_wayFound 122 = .ok (.putfield 1058, 3) := dk_181 4 34 (dk_at dksX2_wayFound_5 2 rfl rfl)
theorem dX2_wayFound_125 : decode cX2_wayFound 125 = .ok (.aload_n 0, 1) := dk_42 (dk_at dksX2_wayFound_5 5 rfl rfl)
theorem dX2_wayFound_126 : decode cX2_wayFound 126 = .ok (.iload 6, 2) := dk_21 6 (dk_at dksX2_wayFound_5 6 rfl rfl)
theorem dX2_wayFound_128 : decode cX2_wayFound 128 = .ok (.putfield 1061, 3) := dk_181 4 37 (dk_at dksX2_wayFound_5 8 rfl rfl)
theorem dX2_wayFound_131 : decode cX2_wayFound 131 = .ok (.aload_n 0, 1) := dk_42 (dk_at dksX2_wayFound_5 11 rfl rfl)
theorem dX2_wayFound_132 : decode cX2_wayFound 132 = .ok (.aload_n 0, 1) := dk_42 (dk_at dksX2_wayFound_5 12 rfl rfl)
theorem dX2_wayFound_133 : decode cX2_wayFound 133 = .ok (.getfield 664, 3) := dk_180 2 152 (dk_at dksX2_wayFound_5 13 rfl rfl)
theorem dX2_wayFound_136 : decode cX2_wayFound 136 = .ok (.putfield 1277, 3) := dk_181 4 253 (dk_at dksX2_wayFound_5 16 rfl rfl)
theorem dX2_wayFound_139 : decode cX2_wayFound 139 = .ok (.aload_n 0, 1) := dk_42 (dk_at dksX2_wayFound_5 19 rfl rfl)
theorem dX2_wayFound_140 : decode cX2_wayFound 140 = .ok (.dup, 1) := dk_89 (dk_at dksX2_wayFound_5 20 rfl rfl)
theorem dX2_wayFound_141 : decode cX2_wayFound 141 = .ok (.getfield 1259, 3) := dk_180 4 235 (dk_at dksX2_wayFound_5 21 rfl rfl)
theorem dX2_wayFound_144 : decode cX2_wayFound 144 = .ok (.iconst 1, 1) := dk_4 (dk_at dksX2_wayFound_6 0 rfl rfl)
theorem dX2_wayFound_145 : decode cX2_wayFound 145 = .ok (.iadd, 1) := dk_96 (dk_at dksX2_wayFound_6 1 rfl rfl)
theorem dX2_wayFound_146 : decode cX2_wayFound 146 = .ok (.putfield 1259, 3) := dk_181 4 235 (dk_at dksX2_wayFound_6 2 rfl rfl)
theorem dX2_wayFound_149 : decode cX2_wayFound 149 = .ok (.aload_n 0, 1) := dk_42 (dk_at dksX2_wayFound_6 5 rfl rfl)
theorem dX2_wayFound_150 : decode cX2_wayFound 150 = .ok (.iload_n 2, 1) := dk_28 (dk_at dksX2_wayFound_6 6 rfl rfl)
theorem dX2_wayFound_151 : decode cX2_wayFound 151 = .ok (.invokevirtual 1232, 3) := dk_182 4 208 (dk_at dksX2_wayFound_6 7 rfl rfl)
theorem dX2_wayFound_154 : decode cX2_wayFound 154 = .ok (.return_, 1) := dk_177 (dk_at dksX2_wayFound_6 10 rfl rfl)
abbrev cX2_tooManyPairs : ByteArray := prog_4_method_203_code
def yX2_tooManyPairs : MethodName := ⟨RX2, "tooManyPairs", "()V"⟩
def dkwX2_tooManyPairs_0 : List UInt8 := [42, 180, 4, 220, 42, 180, 4, 214, 96, 17, 15, 160, 164, 0, 9, 42, 5, 3, 182, 1, 178, 177]
abbrev dktX2_tooManyPairs_0 : List UInt8 := dkwX2_tooManyPairs_0 ++ []
theorem dksX2_tooManyPairs_0 : cX2_tooManyPairs.data.toList.drop 0 = dktX2_tooManyPairs_0 := by decide +kernel
theorem dX2_tooManyPairs_0 : decode cX2_tooManyPairs 0 = .ok (.aload_n 0, 1) := dk_42 (dk_at dksX2_tooManyPairs_0 0 rfl rfl)
theorem dX2_tooManyPairs_1 : decode cX2_tooManyPairs 1 = .ok (.getfield 1244, 3) := dk_180 4 220 (dk_at dksX2_tooManyPairs_0 1 rfl rfl)
theorem dX2_tooManyPairs_4 : decode cX2_tooManyPairs 4 = .ok (.aload_n 0, 1) := dk_42 (dk_at dksX2_tooManyPairs_0 4 rfl rfl)
theorem dX2_tooManyPairs_5 : decode cX2_tooManyPairs 5 = .ok (.getfield 1238, 3) := dk_180 4 214 (dk_at dksX2_tooManyPairs_0 5 rfl rfl)
theorem dX2_tooManyPairs_8 : decode cX2_tooManyPairs 8 = .ok (.iadd, 1) := dk_96 (dk_at dksX2_tooManyPairs_0 8 rfl rfl)
theorem dX2_tooManyPairs_9 : decode cX2_tooManyPairs 9 = .ok (.sipush 4000, 3) := dk_17 15 160 (dk_at dksX2_tooManyPairs_0 9 rfl rfl)
theorem dX2_tooManyPairs_12 : decode cX2_tooManyPairs 12 = .ok (.if_icmp .le 9, 3) := dk_164 0 9 (dk_at dksX2_tooManyPairs_0 12 rfl rfl)
theorem dX2_tooManyPairs_15 : decode cX2_tooManyPairs 15 = .ok (.aload_n 0, 1) := dk_42 (dk_at dksX2_tooManyPairs_0 15 rfl rfl)
theorem dX2_tooManyPairs_16 : decode cX2_tooManyPairs 16 = .ok (.iconst 2, 1) := dk_5 (dk_at dksX2_tooManyPairs_0 16 rfl rfl)
theorem dX2_tooManyPairs_17 : decode cX2_tooManyPairs 17 = .ok (.iconst 0, 1) := dk_3 (dk_at dksX2_tooManyPairs_0 17 rfl rfl)
theorem dX2_tooManyPairs_18 : decode cX2_tooManyPairs 18 = .ok (.invokevirtual 434, 3) := dk_182 1 178 (dk_at dksX2_tooManyPairs_0 18 rfl rfl)
theorem dX2_tooManyPairs_21 : decode cX2_tooManyPairs 21 = .ok (.return_, 1) := dk_177 (dk_at dksX2_tooManyPairs_0 21 rfl rfl)
abbrev cX2_beginPair : ByteArray := prog_4_method_204_code
def yX2_beginPair : MethodName := ⟨RX2, "beginPair", "()V"⟩
def dkwX2_beginPair_1 : List UInt8 := [181, 3, 196, 177]
abbrev dktX2_beginPair_1 : List UInt8 := dkwX2_beginPair_1 ++ []
def dkwX2_beginPair_0 : List UInt8 := [42, 89, 180, 1, 25, 4, 96, 181, 1, 25, 42, 3, 181, 3, 193, 42, 3, 181, 3, 202, 42, 3]
abbrev dktX2_beginPair_0 : List UInt8 := dkwX2_beginPair_0 ++ dktX2_beginPair_1
theorem dksX2_beginPair_0 : cX2_beginPair.data.toList.drop 0 = dktX2_beginPair_0 := by decide +kernel
theorem dksX2_beginPair_1 : cX2_beginPair.data.toList.drop 22 = dktX2_beginPair_1 := dk_seg dksX2_beginPair_0 22 rfl rfl
theorem dX2_beginPair_0 : decode cX2_beginPair 0 = .ok (.aload_n 0, 1) := dk_42 (dk_at dksX2_beginPair_0 0 rfl rfl)
theorem dX2_beginPair_1 : decode cX2_beginPair 1 = .ok (.dup, 1) := dk_89 (dk_at dksX2_beginPair_0 1 rfl rfl)
theorem dX2_beginPair_2 : decode cX2_beginPair 2 = .ok (.getfield 281, 3) := dk_180 1 25 (dk_at dksX2_beginPair_0 2 rfl rfl)
theorem dX2_beginPair_5 : decode cX2_beginPair 5 = .ok (.iconst 1, 1) := dk_4 (dk_at dksX2_beginPair_0 5 rfl rfl)
theorem dX2_beginPair_6 : decode cX2_beginPair 6 = .ok (.iadd, 1) := dk_96 (dk_at dksX2_beginPair_0 6 rfl rfl)
theorem dX2_beginPair_7 : decode cX2_beginPair 7 = .ok (.putfield 281, 3) := dk_181 1 25 (dk_at dksX2_beginPair_0 7 rfl rfl)
theorem dX2_beginPair_10 : decode cX2_beginPair 10 = .ok (.aload_n 0, 1) := dk_42 (dk_at dksX2_beginPair_0 10 rfl rfl)
theorem dX2_beginPair_11 : decode cX2_beginPair 11 = .ok (.iconst 0, 1) := dk_3 (dk_at dksX2_beginPair_0 11 rfl rfl)
theorem dX2_beginPair_12 : decode cX2_beginPair 12 = .ok (.putfield 961, 3) := dk_181 3 193 (dk_at dksX2_beginPair_0 12 rfl rfl)
theorem dX2_beginPair_15 : decode cX2_beginPair 15 = .ok (.aload_n 0, 1) := dk_42 (dk_at dksX2_beginPair_0 15 rfl rfl)
theorem dX2_beginPair_16 : decode cX2_beginPair 16 = .ok (.iconst 0, 1) := dk_3 (dk_at dksX2_beginPair_0 16 rfl rfl)
theorem dX2_beginPair_17 : decode cX2_beginPair 17 = .ok (.putfield 970, 3) := dk_181 3 202 (dk_at dksX2_beginPair_0 17 rfl rfl)
theorem dX2_beginPair_20 : decode cX2_beginPair 20 = .ok (.aload_n 0, 1) := dk_42 (dk_at dksX2_beginPair_0 20 rfl rfl)
theorem dX2_beginPair_21 : decode cX2_beginPair 21 = .ok (.iconst 0, 1) := dk_3 (dk_at dksX2_beginPair_0 21 rfl rfl)
theorem dX2_beginPair_22 : decode cX2_beginPair 22 = .ok (.putfield 964, 3) := dk_181 3 196 (dk_at dksX2_beginPair_1 0 rfl rfl)
theorem dX2_beginPair_25 : decode cX2_beginPair 25 = .ok (.return_, 1) := dk_177 (dk_at dksX2_beginPair_1 3 rfl rfl)
abbrev cX2_now : ByteArray := prog_4_method_192_code
def yX2_now : MethodName := ⟨RX2, "now", "(LRewriteHouseModel;I)I"⟩
def dkwX2_now_4 : List UInt8 := [182, 2, 248, 172]
abbrev dktX2_now_4 : List UInt8 := dkwX2_now_4 ++ []
def dkwX2_now_3 : List UInt8 := [54, 4, 42, 21, 4, 182, 2, 245, 132, 3, 1, 167, 255, 225, 42, 42, 180, 0, 181, 27, 46, 28]
abbrev dktX2_now_3 : List UInt8 := dkwX2_now_3 ++ dktX2_now_4
def dkwX2_now_2 : List UInt8 := [61, 3, 62, 29, 42, 180, 0, 187, 27, 46, 162, 0, 27, 42, 42, 27, 29, 182, 2, 179, 184, 4, 172]
abbrev dktX2_now_2 : List UInt8 := dkwX2_now_2 ++ dktX2_now_3
def dkwX2_now_1 : List UInt8 := [167, 0, 8, 42, 28, 184, 4, 172, 172, 42, 180, 0, 187, 27, 46, 154, 0, 5, 27, 172, 42, 180, 2, 195]
abbrev dktX2_now_1 : List UInt8 := dkwX2_now_1 ++ dktX2_now_2
def dkwX2_now_0 : List UInt8 := [42, 27, 182, 2, 185, 153, 0, 28, 42, 180, 1, 136, 42, 27, 182, 2, 188, 46, 61, 28, 156, 0, 7, 27]
abbrev dktX2_now_0 : List UInt8 := dkwX2_now_0 ++ dktX2_now_1
theorem dksX2_now_0 : cX2_now.data.toList.drop 0 = dktX2_now_0 := by decide +kernel
theorem dksX2_now_1 : cX2_now.data.toList.drop 24 = dktX2_now_1 := dk_seg dksX2_now_0 24 rfl rfl
theorem dksX2_now_2 : cX2_now.data.toList.drop 48 = dktX2_now_2 := dk_seg dksX2_now_1 24 rfl rfl
theorem dksX2_now_3 : cX2_now.data.toList.drop 71 = dktX2_now_3 := dk_seg dksX2_now_2 23 rfl rfl
theorem dksX2_now_4 : cX2_now.data.toList.drop 93 = dktX2_now_4 := dk_seg dksX2_now_3 22 rfl rfl
theorem dX2_now_0 : decode cX2_now 0 = .ok (.aload_n 0, 1) := dk_42 (dk_at dksX2_now_0 0 rfl rfl)
theorem dX2_now_1 : decode cX2_now 1 = .ok (.iload_n 1, 1) := dk_27 (dk_at dksX2_now_0 1 rfl rfl)
theorem dX2_now_2 : decode cX2_now 2 = .ok (.invokevirtual 697, 3) := dk_182 2 185 (dk_at dksX2_now_0 2 rfl rfl)
theorem dX2_now_5 : decode cX2_now 5 = .ok (.ifCond .eq 28, 3) := dk_153 0 28 (dk_at dksX2_now_0 5 rfl rfl)
theorem dX2_now_8 : decode cX2_now 8 = .ok (.aload_n 0, 1) := dk_42 (dk_at dksX2_now_0 8 rfl rfl)
theorem dX2_now_9 : decode cX2_now 9 = .ok (.getfield 392, 3) := dk_180 1 136 (dk_at dksX2_now_0 9 rfl rfl)
theorem dX2_now_12 : decode cX2_now 12 = .ok (.aload_n 0, 1) := dk_42 (dk_at dksX2_now_0 12 rfl rfl)
theorem dX2_now_13 : decode cX2_now 13 = .ok (.iload_n 1, 1) := dk_27 (dk_at dksX2_now_0 13 rfl rfl)
theorem dX2_now_14 : decode cX2_now 14 = .ok (.invokevirtual 700, 3) := dk_182 2 188 (dk_at dksX2_now_0 14 rfl rfl)
theorem dX2_now_17 : decode cX2_now 17 = .ok (.iaload, 1) := dk_46 (dk_at dksX2_now_0 17 rfl rfl)
theorem dX2_now_18 : decode cX2_now 18 = .ok (.istore_n 2, 1) := dk_61 (dk_at dksX2_now_0 18 rfl rfl)
theorem dX2_now_19 : decode cX2_now 19 = .ok (.iload_n 2, 1) := dk_28 (dk_at dksX2_now_0 19 rfl rfl)
theorem dX2_now_20 : decode cX2_now 20 = .ok (.ifCond .ge 7, 3) := dk_156 0 7 (dk_at dksX2_now_0 20 rfl rfl)
theorem dX2_now_23 : decode cX2_now 23 = .ok (.iload_n 1, 1) := dk_27 (dk_at dksX2_now_0 23 rfl rfl)
theorem dX2_now_24 : decode cX2_now 24 = .ok (.goto 8, 3) := dk_167 0 8 (dk_at dksX2_now_1 0 rfl rfl)
theorem dX2_now_27 : decode cX2_now 27 = .ok (.aload_n 0, 1) := dk_42 (dk_at dksX2_now_1 3 rfl rfl)
theorem dX2_now_28 : decode cX2_now 28 = .ok (.iload_n 2, 1) := dk_28 (dk_at dksX2_now_1 4 rfl rfl)
theorem dX2_now_29 : decode cX2_now 29 = .ok (.invokestatic 1196, 3) := dk_184 4 172 (dk_at dksX2_now_1 5 rfl rfl)
theorem dX2_now_32 : decode cX2_now 32 = .ok (.ireturn, 1) := dk_172 (dk_at dksX2_now_1 8 rfl rfl)
theorem dX2_now_33 : decode cX2_now 33 = .ok (.aload_n 0, 1) := dk_42 (dk_at dksX2_now_1 9 rfl rfl)
theorem dX2_now_34 : decode cX2_now 34 = .ok (.getfield 187, 3) := dk_180 0 187 (dk_at dksX2_now_1 10 rfl rfl)
theorem dX2_now_37 : decode cX2_now 37 = .ok (.iload_n 1, 1) := dk_27 (dk_at dksX2_now_1 13 rfl rfl)
theorem dX2_now_38 : decode cX2_now 38 = .ok (.iaload, 1) := dk_46 (dk_at dksX2_now_1 14 rfl rfl)
theorem dX2_now_39 : decode cX2_now 39 = .ok (.ifCond .ne 5, 3) := dk_154 0 5 (dk_at dksX2_now_1 15 rfl rfl)
theorem dX2_now_42 : decode cX2_now 42 = .ok (.iload_n 1, 1) := dk_27 (dk_at dksX2_now_1 18 rfl rfl)
theorem dX2_now_43 : decode cX2_now 43 = .ok (.ireturn, 1) := dk_172 (dk_at dksX2_now_1 19 rfl rfl)
theorem dX2_now_44 : decode cX2_now 44 = .ok (.aload_n 0, 1) := dk_42 (dk_at dksX2_now_1 20 rfl rfl)
theorem dX2_now_45 : decode cX2_now 45 = .ok (.getfield 707, 3) := dk_180 2 195 (dk_at dksX2_now_1 21 rfl rfl)
theorem dX2_now_48 : decode cX2_now 48 = .ok (.istore_n 2, 1) := dk_61 (dk_at dksX2_now_2 0 rfl rfl)
theorem dX2_now_49 : decode cX2_now 49 = .ok (.iconst 0, 1) := dk_3 (dk_at dksX2_now_2 1 rfl rfl)
theorem dX2_now_50 : decode cX2_now 50 = .ok (.istore_n 3, 1) := dk_62 (dk_at dksX2_now_2 2 rfl rfl)
theorem dX2_now_51 : decode cX2_now 51 = .ok (.iload_n 3, 1) := dk_29 (dk_at dksX2_now_2 3 rfl rfl)
theorem dX2_now_52 : decode cX2_now 52 = .ok (.aload_n 0, 1) := dk_42 (dk_at dksX2_now_2 4 rfl rfl)
theorem dX2_now_53 : decode cX2_now 53 = .ok (.getfield 187, 3) := dk_180 0 187 (dk_at dksX2_now_2 5 rfl rfl)
theorem dX2_now_56 : decode cX2_now 56 = .ok (.iload_n 1, 1) := dk_27 (dk_at dksX2_now_2 8 rfl rfl)
theorem dX2_now_57 : decode cX2_now 57 = .ok (.iaload, 1) := dk_46 (dk_at dksX2_now_2 9 rfl rfl)
theorem dX2_now_58 : decode cX2_now 58 = .ok (.if_icmp .ge 27, 3) := dk_162 0 27 (dk_at dksX2_now_2 10 rfl rfl)
theorem dX2_now_61 : decode cX2_now 61 = .ok (.aload_n 0, 1) := dk_42 (dk_at dksX2_now_2 13 rfl rfl)
theorem dX2_now_62 : decode cX2_now 62 = .ok (.aload_n 0, 1) := dk_42 (dk_at dksX2_now_2 14 rfl rfl)
theorem dX2_now_63 : decode cX2_now 63 = .ok (.iload_n 1, 1) := dk_27 (dk_at dksX2_now_2 15 rfl rfl)
theorem dX2_now_64 : decode cX2_now 64 = .ok (.iload_n 3, 1) := dk_29 (dk_at dksX2_now_2 16 rfl rfl)
theorem dX2_now_65 : decode cX2_now 65 = .ok (.invokevirtual 691, 3) := dk_182 2 179 (dk_at dksX2_now_2 17 rfl rfl)
theorem dX2_now_68 : decode cX2_now 68 = .ok (.invokestatic 1196, 3) := dk_184 4 172 (dk_at dksX2_now_2 20 rfl rfl)
theorem dX2_now_71 : decode cX2_now 71 = .ok (.istore 4, 2) := dk_54 4 (dk_at dksX2_now_3 0 rfl rfl)
theorem dX2_now_73 : decode cX2_now 73 = .ok (.aload_n 0, 1) := dk_42 (dk_at dksX2_now_3 2 rfl rfl)
theorem dX2_now_74 : decode cX2_now 74 = .ok (.iload 4, 2) := dk_21 4 (dk_at dksX2_now_3 3 rfl rfl)
theorem dX2_now_76 : decode cX2_now 76 = .ok (.invokevirtual 757, 3) := dk_182 2 245 (dk_at dksX2_now_3 5 rfl rfl)
theorem dX2_now_79 : decode cX2_now 79 = .ok (.iinc 3 1, 3) := dk_132 3 1 (dk_at dksX2_now_3 8 rfl rfl)
theorem dX2_now_82 : decode cX2_now 82 = .ok (.goto (-31), 3) := dk_167 255 225 (dk_at dksX2_now_3 11 rfl rfl)
theorem dX2_now_85 : decode cX2_now 85 = .ok (.aload_n 0, 1) := dk_42 (dk_at dksX2_now_3 14 rfl rfl)
theorem dX2_now_86 : decode cX2_now 86 = .ok (.aload_n 0, 1) := dk_42 (dk_at dksX2_now_3 15 rfl rfl)
theorem dX2_now_87 : decode cX2_now 87 = .ok (.getfield 181, 3) := dk_180 0 181 (dk_at dksX2_now_3 16 rfl rfl)
theorem dX2_now_90 : decode cX2_now 90 = .ok (.iload_n 1, 1) := dk_27 (dk_at dksX2_now_3 19 rfl rfl)
theorem dX2_now_91 : decode cX2_now 91 = .ok (.iaload, 1) := dk_46 (dk_at dksX2_now_3 20 rfl rfl)
theorem dX2_now_92 : decode cX2_now 92 = .ok (.iload_n 2, 1) := dk_28 (dk_at dksX2_now_3 21 rfl rfl)
theorem dX2_now_93 : decode cX2_now 93 = .ok (.invokevirtual 760, 3) := dk_182 2 248 (dk_at dksX2_now_4 0 rfl rfl)
theorem dX2_now_96 : decode cX2_now 96 = .ok (.ireturn, 1) := dk_172 (dk_at dksX2_now_4 3 rfl rfl)
abbrev cX2_sized : ByteArray := prog_4_method_200_code
def yX2_sized : MethodName := ⟨RX2, "sized", "(I)I"⟩
def dkwX2_sized_0 : List UInt8 := [42, 180, 0, 190, 27, 46, 16, 40, 164, 0, 10, 42, 16, 6, 3, 182, 1, 178, 27, 172]
abbrev dktX2_sized_0 : List UInt8 := dkwX2_sized_0 ++ []
theorem dksX2_sized_0 : cX2_sized.data.toList.drop 0 = dktX2_sized_0 := by decide +kernel
theorem dX2_sized_0 : decode cX2_sized 0 = .ok (.aload_n 0, 1) := dk_42 (dk_at dksX2_sized_0 0 rfl rfl)
theorem dX2_sized_1 : decode cX2_sized 1 = .ok (.getfield 190, 3) := dk_180 0 190 (dk_at dksX2_sized_0 1 rfl rfl)
theorem dX2_sized_4 : decode cX2_sized 4 = .ok (.iload_n 1, 1) := dk_27 (dk_at dksX2_sized_0 4 rfl rfl)
theorem dX2_sized_5 : decode cX2_sized 5 = .ok (.iaload, 1) := dk_46 (dk_at dksX2_sized_0 5 rfl rfl)
theorem dX2_sized_6 : decode cX2_sized 6 = .ok (.bipush 40, 2) := dk_16 40 (dk_at dksX2_sized_0 6 rfl rfl)
theorem dX2_sized_8 : decode cX2_sized 8 = .ok (.if_icmp .le 10, 3) := dk_164 0 10 (dk_at dksX2_sized_0 8 rfl rfl)
theorem dX2_sized_11 : decode cX2_sized 11 = .ok (.aload_n 0, 1) := dk_42 (dk_at dksX2_sized_0 11 rfl rfl)
theorem dX2_sized_12 : decode cX2_sized 12 = .ok (.bipush 6, 2) := dk_16 6 (dk_at dksX2_sized_0 12 rfl rfl)
theorem dX2_sized_14 : decode cX2_sized 14 = .ok (.iconst 0, 1) := dk_3 (dk_at dksX2_sized_0 14 rfl rfl)
theorem dX2_sized_15 : decode cX2_sized 15 = .ok (.invokevirtual 434, 3) := dk_182 1 178 (dk_at dksX2_sized_0 15 rfl rfl)
theorem dX2_sized_18 : decode cX2_sized 18 = .ok (.iload_n 1, 1) := dk_27 (dk_at dksX2_sized_0 18 rfl rfl)
theorem dX2_sized_19 : decode cX2_sized 19 = .ok (.ireturn, 1) := dk_172 (dk_at dksX2_sized_0 19 rfl rfl)
abbrev cX2_release : ByteArray := prog_4_method_202_code
def yX2_release : MethodName := ⟨RX2, "release", "(I)V"⟩
def dkwX2_release_4 : List UInt8 := [181, 2, 152, 177]
abbrev dktX2_release_4 : List UInt8 := dkwX2_release_4 ++ []
def dkwX2_release_3 : List UInt8 := [180, 2, 152, 162, 0, 12, 42, 180, 0, 184, 28, 46, 167, 0, 7, 42, 180, 2, 155, 181, 2, 155, 42, 28]
abbrev dktX2_release_3 : List UInt8 := dkwX2_release_3 ++ dktX2_release_4
def dkwX2_release_2 : List UInt8 := [180, 0, 187, 29, 46, 182, 2, 159, 42, 180, 0, 196, 29, 46, 79, 132, 3, 255, 167, 255, 215, 42, 28, 42]
abbrev dktX2_release_2 : List UInt8 := dkwX2_release_2 ++ dktX2_release_3
def dkwX2_release_1 : List UInt8 := [29, 28, 161, 0, 42, 42, 180, 0, 210, 42, 42, 180, 0, 181, 29, 46, 42, 180, 0, 184, 29, 46, 42]
abbrev dktX2_release_1 : List UInt8 := dkwX2_release_1 ++ dktX2_release_2
def dkwX2_release_0 : List UInt8 := [27, 42, 180, 4, 253, 164, 0, 7, 27, 167, 0, 7, 42, 180, 4, 253, 61, 42, 180, 2, 152, 4, 100, 62]
abbrev dktX2_release_0 : List UInt8 := dkwX2_release_0 ++ dktX2_release_1
theorem dksX2_release_0 : cX2_release.data.toList.drop 0 = dktX2_release_0 := by decide +kernel
theorem dksX2_release_1 : cX2_release.data.toList.drop 24 = dktX2_release_1 := dk_seg dksX2_release_0 24 rfl rfl
theorem dksX2_release_2 : cX2_release.data.toList.drop 47 = dktX2_release_2 := dk_seg dksX2_release_1 23 rfl rfl
theorem dksX2_release_3 : cX2_release.data.toList.drop 71 = dktX2_release_3 := dk_seg dksX2_release_2 24 rfl rfl
theorem dksX2_release_4 : cX2_release.data.toList.drop 95 = dktX2_release_4 := dk_seg dksX2_release_3 24 rfl rfl
theorem dX2_release_0 : decode cX2_release 0 = .ok (.iload_n 1, 1) := dk_27 (dk_at dksX2_release_0 0 rfl rfl)
theorem dX2_release_1 : decode cX2_release 1 = .ok (.aload_n 0, 1) := dk_42 (dk_at dksX2_release_0 1 rfl rfl)
theorem dX2_release_2 : decode cX2_release 2 = .ok (.getfield 1277, 3) := dk_180 4 253 (dk_at dksX2_release_0 2 rfl rfl)
theorem dX2_release_5 : decode cX2_release 5 = .ok (.if_icmp .le 7, 3) := dk_164 0 7 (dk_at dksX2_release_0 5 rfl rfl)
theorem dX2_release_8 : decode cX2_release 8 = .ok (.iload_n 1, 1) := dk_27 (dk_at dksX2_release_0 8 rfl rfl)
theorem dX2_release_9 : decode cX2_release 9 = .ok (.goto 7, 3) := dk_167 0 7 (dk_at dksX2_release_0 9 rfl rfl)
theorem dX2_release_12 : decode cX2_release 12 = .ok (.aload_n 0, 1) := dk_42 (dk_at dksX2_release_0 12 rfl rfl)
theorem dX2_release_13 : decode cX2_release 13 = .ok (.getfield 1277, 3) := dk_180 4 253 (dk_at dksX2_release_0 13 rfl rfl)
theorem dX2_release_16 : decode cX2_release 16 = .ok (.istore_n 2, 1) := dk_61 (dk_at dksX2_release_0 16 rfl rfl)
theorem dX2_release_17 : decode cX2_release 17 = .ok (.aload_n 0, 1) := dk_42 (dk_at dksX2_release_0 17 rfl rfl)
theorem dX2_release_18 : decode cX2_release 18 = .ok (.getfield 664, 3) := dk_180 2 152 (dk_at dksX2_release_0 18 rfl rfl)
theorem dX2_release_21 : decode cX2_release 21 = .ok (.iconst 1, 1) := dk_4 (dk_at dksX2_release_0 21 rfl rfl)
theorem dX2_release_22 : decode cX2_release 22 = .ok (.isub, 1) := dk_100 (dk_at dksX2_release_0 22 rfl rfl)
theorem dX2_release_23 : decode cX2_release 23 = .ok (.istore_n 3, 1) := dk_62 (dk_at dksX2_release_0 23 rfl rfl)
theorem dX2_release_24 : decode cX2_release 24 = .ok (.iload_n 3, 1) := dk_29 (dk_at dksX2_release_1 0 rfl rfl)
theorem dX2_release_25 : decode cX2_release 25 = .ok (.iload_n 2, 1) := dk_28 (dk_at dksX2_release_1 1 rfl rfl)
theorem dX2_release_26 : decode cX2_release 26 = .ok (.if_icmp .lt 42, 3) := dk_161 0 42 (dk_at dksX2_release_1 2 rfl rfl)
theorem dX2_release_29 : decode cX2_release 29 = .ok (.aload_n 0, 1) := dk_42 (dk_at dksX2_release_1 5 rfl rfl)
theorem dX2_release_30 : decode cX2_release 30 = .ok (.getfield 210, 3) := dk_180 0 210 (dk_at dksX2_release_1 6 rfl rfl)
theorem dX2_release_33 : decode cX2_release 33 = .ok (.aload_n 0, 1) := dk_42 (dk_at dksX2_release_1 9 rfl rfl)
theorem dX2_release_34 : decode cX2_release 34 = .ok (.aload_n 0, 1) := dk_42 (dk_at dksX2_release_1 10 rfl rfl)
theorem dX2_release_35 : decode cX2_release 35 = .ok (.getfield 181, 3) := dk_180 0 181 (dk_at dksX2_release_1 11 rfl rfl)
theorem dX2_release_38 : decode cX2_release 38 = .ok (.iload_n 3, 1) := dk_29 (dk_at dksX2_release_1 14 rfl rfl)
theorem dX2_release_39 : decode cX2_release 39 = .ok (.iaload, 1) := dk_46 (dk_at dksX2_release_1 15 rfl rfl)
theorem dX2_release_40 : decode cX2_release 40 = .ok (.aload_n 0, 1) := dk_42 (dk_at dksX2_release_1 16 rfl rfl)
theorem dX2_release_41 : decode cX2_release 41 = .ok (.getfield 184, 3) := dk_180 0 184 (dk_at dksX2_release_1 17 rfl rfl)
theorem dX2_release_44 : decode cX2_release 44 = .ok (.iload_n 3, 1) := dk_29 (dk_at dksX2_release_1 20 rfl rfl)
theorem dX2_release_45 : decode cX2_release 45 = .ok (.iaload, 1) := dk_46 (dk_at dksX2_release_1 21 rfl rfl)
theorem dX2_release_46 : decode cX2_release 46 = .ok (.aload_n 0, 1) := dk_42 (dk_at dksX2_release_1 22 rfl rfl)
theorem dX2_release_47 : decode cX2_release 47 = .ok (.getfield 187, 3) := dk_180 0 187 (dk_at dksX2_release_2 0 rfl rfl)
theorem dX2_release_50 : decode cX2_release 50 = .ok (.iload_n 3, 1) := dk_29 (dk_at dksX2_release_2 3 rfl rfl)
theorem dX2_release_51 : decode cX2_release 51 = .ok (.iaload, 1) := dk_46 (dk_at dksX2_release_2 4 rfl rfl)
theorem dX2_release_52 : decode cX2_release 52 = .ok (.invokevirtual 671, 3) := dk_182 2 159 (dk_at dksX2_release_2 5 rfl rfl)
theorem dX2_release_55 : decode cX2_release 55 = .ok (.aload_n 0, 1) := dk_42 (dk_at dksX2_release_2 8 rfl rfl)
theorem dX2_release_56 : decode cX2_release 56 = .ok (.getfield 196, 3) := dk_180 0 196 (dk_at dksX2_release_2 9 rfl rfl)
theorem dX2_release_59 : decode cX2_release 59 = .ok (.iload_n 3, 1) := dk_29 (dk_at dksX2_release_2 12 rfl rfl)
theorem dX2_release_60 : decode cX2_release 60 = .ok (.iaload, 1) := dk_46 (dk_at dksX2_release_2 13 rfl rfl)
theorem dX2_release_61 : decode cX2_release 61 = .ok (.iastore, 1) := dk_79 (dk_at dksX2_release_2 14 rfl rfl)
theorem dX2_release_62 : decode cX2_release 62 = .ok (.iinc 3 (-1), 3) := dk_132 3 255 (dk_at dksX2_release_2 15 rfl rfl)
theorem dX2_release_65 : decode cX2_release 65 = .ok (.goto (-41), 3) := dk_167 255 215 (dk_at dksX2_release_2 18 rfl rfl)
theorem dX2_release_68 : decode cX2_release 68 = .ok (.aload_n 0, 1) := dk_42 (dk_at dksX2_release_2 21 rfl rfl)
theorem dX2_release_69 : decode cX2_release 69 = .ok (.iload_n 2, 1) := dk_28 (dk_at dksX2_release_2 22 rfl rfl)
theorem dX2_release_70 : decode cX2_release 70 = .ok (.aload_n 0, 1) := dk_42 (dk_at dksX2_release_2 23 rfl rfl)
theorem dX2_release_71 : decode cX2_release 71 = .ok (.getfield 664, 3) := dk_180 2 152 (dk_at dksX2_release_3 0 rfl rfl)
theorem dX2_release_74 : decode cX2_release 74 = .ok (.if_icmp .ge 12, 3) := dk_162 0 12 (dk_at dksX2_release_3 3 rfl rfl)
theorem dX2_release_77 : decode cX2_release 77 = .ok (.aload_n 0, 1) := dk_42 (dk_at dksX2_release_3 6 rfl rfl)
theorem dX2_release_78 : decode cX2_release 78 = .ok (.getfield 184, 3) := dk_180 0 184 (dk_at dksX2_release_3 7 rfl rfl)
theorem dX2_release_81 : decode cX2_release 81 = .ok (.iload_n 2, 1) := dk_28 (dk_at dksX2_release_3 10 rfl rfl)
theorem dX2_release_82 : decode cX2_release 82 = .ok (.iaload, 1) := dk_46 (dk_at dksX2_release_3 11 rfl rfl)
theorem dX2_release_83 : decode cX2_release 83 = .ok (.goto 7, 3) := dk_167 0 7 (dk_at dksX2_release_3 12 rfl rfl)
theorem dX2_release_86 : decode cX2_release 86 = .ok (.aload_n 0, 1) := dk_42 (dk_at dksX2_release_3 15 rfl rfl)
theorem dX2_release_87 : decode cX2_release 87 = .ok (.getfield 667, 3) := dk_180 2 155 (dk_at dksX2_release_3 16 rfl rfl)
theorem dX2_release_90 : decode cX2_release 90 = .ok (.putfield 667, 3) := dk_181 2 155 (dk_at dksX2_release_3 19 rfl rfl)
theorem dX2_release_93 : decode cX2_release 93 = .ok (.aload_n 0, 1) := dk_42 (dk_at dksX2_release_3 22 rfl rfl)
theorem dX2_release_94 : decode cX2_release 94 = .ok (.iload_n 2, 1) := dk_28 (dk_at dksX2_release_3 23 rfl rfl)
theorem dX2_release_95 : decode cX2_release 95 = .ok (.putfield 664, 3) := dk_181 2 152 (dk_at dksX2_release_4 0 rfl rfl)
theorem dX2_release_98 : decode cX2_release 98 = .ok (.return_, 1) := dk_177 (dk_at dksX2_release_4 3 rfl rfl)
abbrev cX2_unifyVars : ByteArray := prog_4_method_198_code
def yX2_unifyVars : MethodName := ⟨RX2, "unifyVars", "(LRewriteHouseModel;III)V"⟩
def dkwX2_unifyVars_6 : List UInt8 := [167, 0, 4, 3, 96, 181, 4, 214, 42, 182, 4, 217, 177]
abbrev dktX2_unifyVars_6 : List UInt8 := dkwX2_unifyVars_6 ++ []
def dkwX2_unifyVars_5 : List UInt8 := [167, 0, 4, 3, 54, 6, 132, 7, 1, 167, 255, 210, 42, 42, 180, 4, 214, 21, 6, 153, 0, 7, 4]
abbrev dktX2_unifyVars_5 : List UInt8 := dkwX2_unifyVars_5 ++ dktX2_unifyVars_6
def dkwX2_unifyVars_4 : List UInt8 := [21, 7, 21, 4, 182, 2, 102, 153, 0, 18, 42, 21, 7, 21, 5, 182, 2, 102, 153, 0, 7, 4]
abbrev dktX2_unifyVars_4 : List UInt8 := dkwX2_unifyVars_4 ++ dktX2_unifyVars_5
def dkwX2_unifyVars_3 : List UInt8 := [167, 0, 81, 3, 54, 6, 3, 54, 7, 21, 7, 42, 180, 2, 9, 162, 0, 43, 21, 6, 154, 0, 25, 42]
abbrev dktX2_unifyVars_3 : List UInt8 := dkwX2_unifyVars_3 ++ dktX2_unifyVars_4
def dkwX2_unifyVars_2 : List UInt8 := [21, 4, 182, 2, 102, 153, 0, 21, 42, 27, 42, 28, 182, 2, 238, 182, 4, 211, 42, 29, 184, 4, 193]
abbrev dktX2_unifyVars_2 : List UInt8 := dkwX2_unifyVars_2 ++ dktX2_unifyVars_3
def dkwX2_unifyVars_1 : List UInt8 := [153, 0, 21, 42, 28, 42, 27, 182, 2, 238, 182, 4, 211, 42, 29, 184, 4, 193, 167, 0, 110, 42, 21, 5]
abbrev dktX2_unifyVars_1 : List UInt8 := dkwX2_unifyVars_1 ++ dktX2_unifyVars_2
def dkwX2_unifyVars_0 : List UInt8 := [42, 27, 182, 2, 176, 54, 4, 42, 28, 182, 2, 176, 54, 5, 42, 21, 4, 21, 5, 182, 2, 102]
abbrev dktX2_unifyVars_0 : List UInt8 := dkwX2_unifyVars_0 ++ dktX2_unifyVars_1
theorem dksX2_unifyVars_0 : cX2_unifyVars.data.toList.drop 0 = dktX2_unifyVars_0 := by decide +kernel
theorem dksX2_unifyVars_1 : cX2_unifyVars.data.toList.drop 22 = dktX2_unifyVars_1 := dk_seg dksX2_unifyVars_0 22 rfl rfl
theorem dksX2_unifyVars_2 : cX2_unifyVars.data.toList.drop 46 = dktX2_unifyVars_2 := dk_seg dksX2_unifyVars_1 24 rfl rfl
theorem dksX2_unifyVars_3 : cX2_unifyVars.data.toList.drop 69 = dktX2_unifyVars_3 := dk_seg dksX2_unifyVars_2 23 rfl rfl
theorem dksX2_unifyVars_4 : cX2_unifyVars.data.toList.drop 93 = dktX2_unifyVars_4 := dk_seg dksX2_unifyVars_3 24 rfl rfl
theorem dksX2_unifyVars_5 : cX2_unifyVars.data.toList.drop 115 = dktX2_unifyVars_5 := dk_seg dksX2_unifyVars_4 22 rfl rfl
theorem dksX2_unifyVars_6 : cX2_unifyVars.data.toList.drop 138 = dktX2_unifyVars_6 := dk_seg dksX2_unifyVars_5 23 rfl rfl
theorem dX2_unifyVars_0 : decode cX2_unifyVars 0 = .ok (.aload_n 0, 1) := dk_42 (dk_at dksX2_unifyVars_0 0 rfl rfl)
theorem dX2_unifyVars_1 : decode cX2_unifyVars 1 = .ok (.iload_n 1, 1) := dk_27 (dk_at dksX2_unifyVars_0 1 rfl rfl)
theorem dX2_unifyVars_2 : decode cX2_unifyVars 2 = .ok (.invokevirtual 688, 3) := dk_182 2 176 (dk_at dksX2_unifyVars_0 2 rfl rfl)
theorem dX2_unifyVars_5 : decode cX2_unifyVars 5 = .ok (.istore 4, 2) := dk_54 4 (dk_at dksX2_unifyVars_0 5 rfl rfl)
theorem dX2_unifyVars_7 : decode cX2_unifyVars 7 = .ok (.aload_n 0, 1) := dk_42 (dk_at dksX2_unifyVars_0 7 rfl rfl)
theorem dX2_unifyVars_8 : decode cX2_unifyVars 8 = .ok (.iload_n 2, 1) := dk_28 (dk_at dksX2_unifyVars_0 8 rfl rfl)
theorem dX2_unifyVars_9 : decode cX2_unifyVars 9 = .ok (.invokevirtual 688, 3) := dk_182 2 176 (dk_at dksX2_unifyVars_0 9 rfl rfl)
theorem dX2_unifyVars_12 : decode cX2_unifyVars 12 = .ok (.istore 5, 2) := dk_54 5 (dk_at dksX2_unifyVars_0 12 rfl rfl)
theorem dX2_unifyVars_14 : decode cX2_unifyVars 14 = .ok (.aload_n 0, 1) := dk_42 (dk_at dksX2_unifyVars_0 14 rfl rfl)
theorem dX2_unifyVars_15 : decode cX2_unifyVars 15 = .ok (.iload 4, 2) := dk_21 4 (dk_at dksX2_unifyVars_0 15 rfl rfl)
theorem dX2_unifyVars_17 : decode cX2_unifyVars 17 = .ok (.iload 5, 2) := dk_21 5 (dk_at dksX2_unifyVars_0 17 rfl rfl)
theorem dX2_unifyVars_19 : decode cX2_unifyVars 19 = .ok (.invokevirtual 614, 3) := dk_182 2 102 (dk_at dksX2_unifyVars_0 19 rfl rfl)
theorem dX2_unifyVars_22 : decode cX2_unifyVars 22 = .ok (.ifCond .eq 21, 3) := dk_153 0 21 (dk_at dksX2_unifyVars_1 0 rfl rfl)
theorem dX2_unifyVars_25 : decode cX2_unifyVars 25 = .ok (.aload_n 0, 1) := dk_42 (dk_at dksX2_unifyVars_1 3 rfl rfl)
theorem dX2_unifyVars_26 : decode cX2_unifyVars 26 = .ok (.iload_n 2, 1) := dk_28 (dk_at dksX2_unifyVars_1 4 rfl rfl)
theorem dX2_unifyVars_27 : decode cX2_unifyVars 27 = .ok (.aload_n 0, 1) := dk_42 (dk_at dksX2_unifyVars_1 5 rfl rfl)
theorem dX2_unifyVars_28 : decode cX2_unifyVars 28 = .ok (.iload_n 1, 1) := dk_27 (dk_at dksX2_unifyVars_1 6 rfl rfl)
theorem dX2_unifyVars_29 : decode cX2_unifyVars 29 = .ok (.invokevirtual 750, 3) := dk_182 2 238 (dk_at dksX2_unifyVars_1 7 rfl rfl)
theorem dX2_unifyVars_32 : decode cX2_unifyVars 32 = .ok (.invokevirtual 1235, 3) := dk_182 4 211 (dk_at dksX2_unifyVars_1 10 rfl rfl)
theorem dX2_unifyVars_35 : decode cX2_unifyVars 35 = .ok (.aload_n 0, 1) := dk_42 (dk_at dksX2_unifyVars_1 13 rfl rfl)
theorem dX2_unifyVars_36 : decode cX2_unifyVars 36 = .ok (.iload_n 3, 1) := dk_29 (dk_at dksX2_unifyVars_1 14 rfl rfl)
theorem dX2_unifyVars_37 : decode cX2_unifyVars 37 = .ok (.invokestatic 1217, 3) := dk_184 4 193 (dk_at dksX2_unifyVars_1 15 rfl rfl)
theorem dX2_unifyVars_40 : decode cX2_unifyVars 40 = .ok (.goto 110, 3) := dk_167 0 110 (dk_at dksX2_unifyVars_1 18 rfl rfl)
theorem dX2_unifyVars_43 : decode cX2_unifyVars 43 = .ok (.aload_n 0, 1) := dk_42 (dk_at dksX2_unifyVars_1 21 rfl rfl)
theorem dX2_unifyVars_44 : decode cX2_unifyVars 44 = .ok (.iload 5, 2) := dk_21 5 (dk_at dksX2_unifyVars_1 22 rfl rfl)
theorem dX2_unifyVars_46 : decode cX2_unifyVars 46 = .ok (.iload 4, 2) := dk_21 4 (dk_at dksX2_unifyVars_2 0 rfl rfl)
theorem dX2_unifyVars_48 : decode cX2_unifyVars 48 = .ok (.invokevirtual 614, 3) := dk_182 2 102 (dk_at dksX2_unifyVars_2 2 rfl rfl)
theorem dX2_unifyVars_51 : decode cX2_unifyVars 51 = .ok (.ifCond .eq 21, 3) := dk_153 0 21 (dk_at dksX2_unifyVars_2 5 rfl rfl)
theorem dX2_unifyVars_54 : decode cX2_unifyVars 54 = .ok (.aload_n 0, 1) := dk_42 (dk_at dksX2_unifyVars_2 8 rfl rfl)
theorem dX2_unifyVars_55 : decode cX2_unifyVars 55 = .ok (.iload_n 1, 1) := dk_27 (dk_at dksX2_unifyVars_2 9 rfl rfl)
theorem dX2_unifyVars_56 : decode cX2_unifyVars 56 = .ok (.aload_n 0, 1) := dk_42 (dk_at dksX2_unifyVars_2 10 rfl rfl)
theorem dX2_unifyVars_57 : decode cX2_unifyVars 57 = .ok (.iload_n 2, 1) := dk_28 (dk_at dksX2_unifyVars_2 11 rfl rfl)
theorem dX2_unifyVars_58 : decode cX2_unifyVars 58 = .ok (.invokevirtual 750, 3) := dk_182 2 238 (dk_at dksX2_unifyVars_2 12 rfl rfl)
theorem dX2_unifyVars_61 : decode cX2_unifyVars 61 = .ok (.invokevirtual 1235, 3) := dk_182 4 211 (dk_at dksX2_unifyVars_2 15 rfl rfl)
theorem dX2_unifyVars_64 : decode cX2_unifyVars 64 = .ok (.aload_n 0, 1) := dk_42 (dk_at dksX2_unifyVars_2 18 rfl rfl)
theorem dX2_unifyVars_65 : decode cX2_unifyVars 65 = .ok (.iload_n 3, 1) := dk_29 (dk_at dksX2_unifyVars_2 19 rfl rfl)
theorem dX2_unifyVars_66 : decode cX2_unifyVars 66 = .ok (.invokestatic 1217, 3) := dk_184 4 193 (dk_at dksX2_unifyVars_2 20 rfl rfl)
theorem dX2_unifyVars_69 : decode cX2_unifyVars 69 = .ok (.goto 81, 3) := dk_167 0 81 (dk_at dksX2_unifyVars_3 0 rfl rfl)
theorem dX2_unifyVars_72 : decode cX2_unifyVars 72 = .ok (.iconst 0, 1) := dk_3 (dk_at dksX2_unifyVars_3 3 rfl rfl)
theorem dX2_unifyVars_73 : decode cX2_unifyVars 73 = .ok (.istore 6, 2) := dk_54 6 (dk_at dksX2_unifyVars_3 4 rfl rfl)
theorem dX2_unifyVars_75 : decode cX2_unifyVars 75 = .ok (.iconst 0, 1) := dk_3 (dk_at dksX2_unifyVars_3 6 rfl rfl)
theorem dX2_unifyVars_76 : decode cX2_unifyVars 76 = .ok (.istore 7, 2) := dk_54 7 (dk_at dksX2_unifyVars_3 7 rfl rfl)
theorem dX2_unifyVars_78 : decode cX2_unifyVars 78 = .ok (.iload 7, 2) := dk_21 7 (dk_at dksX2_unifyVars_3 9 rfl rfl)
theorem dX2_unifyVars_80 : decode cX2_unifyVars 80 = .ok (.aload_n 0, 1) := dk_42 (dk_at dksX2_unifyVars_3 11 rfl rfl)
theorem dX2_unifyVars_81 : decode cX2_unifyVars 81 = .ok (.getfield 521, 3) := dk_180 2 9 (dk_at dksX2_unifyVars_3 12 rfl rfl)
theorem dX2_unifyVars_84 : decode cX2_unifyVars 84 = .ok (.if_icmp .ge 43, 3) := dk_162 0 43 (dk_at dksX2_unifyVars_3 15 rfl rfl)
theorem dX2_unifyVars_87 : decode cX2_unifyVars 87 = .ok (.iload 6, 2) := dk_21 6 (dk_at dksX2_unifyVars_3 18 rfl rfl)
theorem dX2_unifyVars_89 : decode cX2_unifyVars 89 = .ok (.ifCond .ne 25, 3) := dk_154 0 25 (dk_at dksX2_unifyVars_3 20 rfl rfl)
theorem dX2_unifyVars_92 : decode cX2_unifyVars 92 = .ok (.aload_n 0, 1) := dk_42 (dk_at dksX2_unifyVars_3 23 rfl rfl)
theorem dX2_unifyVars_93 : decode cX2_unifyVars 93 = .ok (.iload 7, 2) := dk_21 7 (dk_at dksX2_unifyVars_4 0 rfl rfl)
theorem dX2_unifyVars_95 : decode cX2_unifyVars 95 = .ok (.iload 4, 2) := dk_21 4 (dk_at dksX2_unifyVars_4 2 rfl rfl)
theorem dX2_unifyVars_97 : decode cX2_unifyVars 97 = .ok (.invokevirtual 614, 3) := dk_182 2 102 (dk_at dksX2_unifyVars_4 4 rfl rfl)
theorem dX2_unifyVars_100 : decode cX2_unifyVars 100 = .ok (.ifCond .eq 18, 3) := dk_153 0 18 (dk_at dksX2_unifyVars_4 7 rfl rfl)
theorem dX2_unifyVars_103 : decode cX2_unifyVars 103 = .ok (.aload_n 0, 1) := dk_42 (dk_at dksX2_unifyVars_4 10 rfl rfl)
theorem dX2_unifyVars_104 : decode cX2_unifyVars 104 = .ok (.iload 7, 2) := dk_21 7 (dk_at dksX2_unifyVars_4 11 rfl rfl)
theorem dX2_unifyVars_106 : decode cX2_unifyVars 106 = .ok (.iload 5, 2) := dk_21 5 (dk_at dksX2_unifyVars_4 13 rfl rfl)
theorem dX2_unifyVars_108 : decode cX2_unifyVars 108 = .ok (.invokevirtual 614, 3) := dk_182 2 102 (dk_at dksX2_unifyVars_4 15 rfl rfl)
theorem dX2_unifyVars_111 : decode cX2_unifyVars 111 = .ok (.ifCond .eq 7, 3) := dk_153 0 7 (dk_at dksX2_unifyVars_4 18 rfl rfl)
theorem dX2_unifyVars_114 : decode cX2_unifyVars 114 = .ok (.iconst 1, 1) := dk_4 (dk_at dksX2_unifyVars_4 21 rfl rfl)
theorem dX2_unifyVars_115 : decode cX2_unifyVars 115 = .ok (.goto 4, 3) := dk_167 0 4 (dk_at dksX2_unifyVars_5 0 rfl rfl)
theorem dX2_unifyVars_118 : decode cX2_unifyVars 118 = .ok (.iconst 0, 1) := dk_3 (dk_at dksX2_unifyVars_5 3 rfl rfl)
theorem dX2_unifyVars_119 : decode cX2_unifyVars 119 = .ok (.istore 6, 2) := dk_54 6 (dk_at dksX2_unifyVars_5 4 rfl rfl)
theorem dX2_unifyVars_121 : decode cX2_unifyVars 121 = .ok (.iinc 7 1, 3) := dk_132 7 1 (dk_at dksX2_unifyVars_5 6 rfl rfl)
theorem dX2_unifyVars_124 : decode cX2_unifyVars 124 = .ok (.goto (-46), 3) := dk_167 255 210 (dk_at dksX2_unifyVars_5 9 rfl rfl)
theorem dX2_unifyVars_127 : decode cX2_unifyVars 127 = .ok (.aload_n 0, 1) := dk_42 (dk_at dksX2_unifyVars_5 12 rfl rfl)
theorem dX2_unifyVars_128 : decode cX2_unifyVars 128 = .ok (.aload_n 0, 1) := dk_42 (dk_at dksX2_unifyVars_5 13 rfl rfl)
theorem dX2_unifyVars_129 : decode cX2_unifyVars 129 = .ok (.getfield 1238, 3) := dk_180 4 214 (dk_at dksX2_unifyVars_5 14 rfl rfl)
theorem dX2_unifyVars_132 : decode cX2_unifyVars 132 = .ok (.iload 6, 2) := dk_21 6 (dk_at dksX2_unifyVars_5 17 rfl rfl)
theorem dX2_unifyVars_134 : decode cX2_unifyVars 134 = .ok (.ifCond .eq 7, 3) := dk_153 0 7 (dk_at dksX2_unifyVars_5 19 rfl rfl)
theorem dX2_unifyVars_137 : decode cX2_unifyVars 137 = .ok (.iconst 1, 1) := dk_4 (dk_at dksX2_unifyVars_5 22 rfl rfl)
theorem dX2_unifyVars_138 : decode cX2_unifyVars 138 = .ok (.goto 4, 3) := dk_167 0 4 (dk_at dksX2_unifyVars_6 0 rfl rfl)
theorem dX2_unifyVars_141 : decode cX2_unifyVars 141 = .ok (.iconst 0, 1) := dk_3 (dk_at dksX2_unifyVars_6 3 rfl rfl)
theorem dX2_unifyVars_142 : decode cX2_unifyVars 142 = .ok (.iadd, 1) := dk_96 (dk_at dksX2_unifyVars_6 4 rfl rfl)
theorem dX2_unifyVars_143 : decode cX2_unifyVars 143 = .ok (.putfield 1238, 3) := dk_181 4 214 (dk_at dksX2_unifyVars_6 5 rfl rfl)
theorem dX2_unifyVars_146 : decode cX2_unifyVars 146 = .ok (.aload_n 0, 1) := dk_42 (dk_at dksX2_unifyVars_6 8 rfl rfl)
theorem dX2_unifyVars_147 : decode cX2_unifyVars 147 = .ok (.invokevirtual 1241, 3) := dk_182 4 217 (dk_at dksX2_unifyVars_6 9 rfl rfl)
theorem dX2_unifyVars_150 : decode cX2_unifyVars 150 = .ok (.return_, 1) := dk_177 (dk_at dksX2_unifyVars_6 12 rfl rfl)
abbrev cX2_give : ByteArray := prog_4_method_193_code
def yX2_give : MethodName := ⟨RX2, "give", "(II)V"⟩
def dkwX2_give_1 : List UInt8 := [181, 4, 175, 177]
abbrev dktX2_give_1 : List UInt8 := dkwX2_give_1 ++ []
def dkwX2_give_0 : List UInt8 := [42, 180, 1, 136, 27, 28, 79, 42, 180, 1, 124, 42, 180, 4, 175, 27, 79, 42, 89, 180, 4, 175, 4, 96]
abbrev dktX2_give_0 : List UInt8 := dkwX2_give_0 ++ dktX2_give_1
theorem dksX2_give_0 : cX2_give.data.toList.drop 0 = dktX2_give_0 := by decide +kernel
theorem dksX2_give_1 : cX2_give.data.toList.drop 24 = dktX2_give_1 := dk_seg dksX2_give_0 24 rfl rfl
theorem dX2_give_0 : decode cX2_give 0 = .ok (.aload_n 0, 1) := dk_42 (dk_at dksX2_give_0 0 rfl rfl)
theorem dX2_give_1 : decode cX2_give 1 = .ok (.getfield 392, 3) := dk_180 1 136 (dk_at dksX2_give_0 1 rfl rfl)
theorem dX2_give_4 : decode cX2_give 4 = .ok (.iload_n 1, 1) := dk_27 (dk_at dksX2_give_0 4 rfl rfl)
theorem dX2_give_5 : decode cX2_give 5 = .ok (.iload_n 2, 1) := dk_28 (dk_at dksX2_give_0 5 rfl rfl)
theorem dX2_give_6 : decode cX2_give 6 = .ok (.iastore, 1) := dk_79 (dk_at dksX2_give_0 6 rfl rfl)
theorem dX2_give_7 : decode cX2_give 7 = .ok (.aload_n 0, 1) := dk_42 (dk_at dksX2_give_0 7 rfl rfl)
theorem dX2_give_8 : decode cX2_give 8 = .ok (.getfield 380, 3) := dk_180 1 124 (dk_at dksX2_give_0 8 rfl rfl)
theorem dX2_give_11 : decode cX2_give 11 = .ok (.aload_n 0, 1) := dk_42 (dk_at dksX2_give_0 11 rfl rfl)
theorem dX2_give_12 : decode cX2_give 12 = .ok (.getfield 1199, 3) := dk_180 4 175 (dk_at dksX2_give_0 12 rfl rfl)
theorem dX2_give_15 : decode cX2_give 15 = .ok (.iload_n 1, 1) := dk_27 (dk_at dksX2_give_0 15 rfl rfl)
theorem dX2_give_16 : decode cX2_give 16 = .ok (.iastore, 1) := dk_79 (dk_at dksX2_give_0 16 rfl rfl)
theorem dX2_give_17 : decode cX2_give 17 = .ok (.aload_n 0, 1) := dk_42 (dk_at dksX2_give_0 17 rfl rfl)
theorem dX2_give_18 : decode cX2_give 18 = .ok (.dup, 1) := dk_89 (dk_at dksX2_give_0 18 rfl rfl)
theorem dX2_give_19 : decode cX2_give 19 = .ok (.getfield 1199, 3) := dk_180 4 175 (dk_at dksX2_give_0 19 rfl rfl)
theorem dX2_give_22 : decode cX2_give 22 = .ok (.iconst 1, 1) := dk_4 (dk_at dksX2_give_0 22 rfl rfl)
theorem dX2_give_23 : decode cX2_give 23 = .ok (.iadd, 1) := dk_96 (dk_at dksX2_give_0 23 rfl rfl)
theorem dX2_give_24 : decode cX2_give 24 = .ok (.putfield 1199, 3) := dk_181 4 175 (dk_at dksX2_give_1 0 rfl rfl)
theorem dX2_give_27 : decode cX2_give 27 = .ok (.return_, 1) := dk_177 (dk_at dksX2_give_1 3 rfl rfl)
abbrev cX2_unifyVar : ByteArray := prog_4_method_199_code
def yX2_unifyVar : MethodName := ⟨RX2, "unifyVar", "(LRewriteHouseModel;III)V"⟩
def dkwX2_unifyVar_6 : List UInt8 := [167, 0, 4, 3, 96, 181, 4, 214, 42, 182, 4, 217, 177]
abbrev dktX2_unifyVar_6 : List UInt8 := dkwX2_unifyVar_6 ++ []
def dkwX2_unifyVar_5 : List UInt8 := [167, 0, 4, 3, 54, 6, 132, 7, 1, 167, 255, 199, 42, 42, 180, 4, 214, 21, 6, 153, 0, 7, 4]
abbrev dktX2_unifyVar_5 : List UInt8 := dkwX2_unifyVar_5 ++ dktX2_unifyVar_6
def dkwX2_unifyVar_4 : List UInt8 := [21, 4, 46, 160, 0, 23, 42, 42, 180, 0, 153, 21, 7, 46, 21, 5, 182, 2, 102, 153, 0, 7, 4]
abbrev dktX2_unifyVar_4 : List UInt8 := dkwX2_unifyVar_4 ++ dktX2_unifyVar_5
def dkwX2_unifyVar_3 : List UInt8 := [42, 180, 2, 26, 162, 0, 54, 21, 6, 154, 0, 36, 42, 180, 0, 156, 21, 7, 46, 42, 180, 0, 181]
abbrev dktX2_unifyVar_3 : List UInt8 := dkwX2_unifyVar_3 ++ dktX2_unifyVar_4
def dkwX2_unifyVar_2 : List UInt8 := [153, 0, 16, 42, 27, 21, 4, 182, 4, 211, 42, 29, 184, 4, 193, 177, 3, 54, 6, 3, 54, 7, 21, 7]
abbrev dktX2_unifyVar_2 : List UInt8 := dkwX2_unifyVar_2 ++ dktX2_unifyVar_3
def dkwX2_unifyVar_1 : List UInt8 := [180, 0, 193, 21, 4, 46, 155, 0, 32, 42, 42, 180, 0, 193, 21, 4, 46, 21, 5, 182, 2, 102]
abbrev dktX2_unifyVar_1 : List UInt8 := dkwX2_unifyVar_1 ++ dktX2_unifyVar_2
def dkwX2_unifyVar_0 : List UInt8 := [28, 54, 4, 42, 27, 21, 4, 184, 4, 178, 153, 0, 4, 177, 42, 27, 182, 2, 176, 54, 5, 42]
abbrev dktX2_unifyVar_0 : List UInt8 := dkwX2_unifyVar_0 ++ dktX2_unifyVar_1
theorem dksX2_unifyVar_0 : cX2_unifyVar.data.toList.drop 0 = dktX2_unifyVar_0 := by decide +kernel
theorem dksX2_unifyVar_1 : cX2_unifyVar.data.toList.drop 22 = dktX2_unifyVar_1 := dk_seg dksX2_unifyVar_0 22 rfl rfl
theorem dksX2_unifyVar_2 : cX2_unifyVar.data.toList.drop 44 = dktX2_unifyVar_2 := dk_seg dksX2_unifyVar_1 22 rfl rfl
theorem dksX2_unifyVar_3 : cX2_unifyVar.data.toList.drop 68 = dktX2_unifyVar_3 := dk_seg dksX2_unifyVar_2 24 rfl rfl
theorem dksX2_unifyVar_4 : cX2_unifyVar.data.toList.drop 91 = dktX2_unifyVar_4 := dk_seg dksX2_unifyVar_3 23 rfl rfl
theorem dksX2_unifyVar_5 : cX2_unifyVar.data.toList.drop 114 = dktX2_unifyVar_5 := dk_seg dksX2_unifyVar_4 23 rfl rfl
theorem dksX2_unifyVar_6 : cX2_unifyVar.data.toList.drop 137 = dktX2_unifyVar_6 := dk_seg dksX2_unifyVar_5 23 rfl rfl
theorem dX2_unifyVar_0 : decode cX2_unifyVar 0 = .ok (.iload_n 2, 1) := dk_28 (dk_at dksX2_unifyVar_0 0 rfl rfl)
theorem dX2_unifyVar_1 : decode cX2_unifyVar 1 = .ok (.istore 4, 2) := dk_54 4 (dk_at dksX2_unifyVar_0 1 rfl rfl)
theorem dX2_unifyVar_3 : decode cX2_unifyVar 3 = .ok (.aload_n 0, 1) := dk_42 (dk_at dksX2_unifyVar_0 3 rfl rfl)
theorem dX2_unifyVar_4 : decode cX2_unifyVar 4 = .ok (.iload_n 1, 1) := dk_27 (dk_at dksX2_unifyVar_0 4 rfl rfl)
theorem dX2_unifyVar_5 : decode cX2_unifyVar 5 = .ok (.iload 4, 2) := dk_21 4 (dk_at dksX2_unifyVar_0 5 rfl rfl)
theorem dX2_unifyVar_7 : decode cX2_unifyVar 7 = .ok (.invokestatic 1202, 3) := dk_184 4 178 (dk_at dksX2_unifyVar_0 7 rfl rfl)
theorem dX2_unifyVar_10 : decode cX2_unifyVar 10 = .ok (.ifCond .eq 4, 3) := dk_153 0 4 (dk_at dksX2_unifyVar_0 10 rfl rfl)
theorem dX2_unifyVar_13 : decode cX2_unifyVar 13 = .ok (.return_, 1) := dk_177 (dk_at dksX2_unifyVar_0 13 rfl rfl)
theorem dX2_unifyVar_14 : decode cX2_unifyVar 14 = .ok (.aload_n 0, 1) := dk_42 (dk_at dksX2_unifyVar_0 14 rfl rfl)
theorem dX2_unifyVar_15 : decode cX2_unifyVar 15 = .ok (.iload_n 1, 1) := dk_27 (dk_at dksX2_unifyVar_0 15 rfl rfl)
theorem dX2_unifyVar_16 : decode cX2_unifyVar 16 = .ok (.invokevirtual 688, 3) := dk_182 2 176 (dk_at dksX2_unifyVar_0 16 rfl rfl)
theorem dX2_unifyVar_19 : decode cX2_unifyVar 19 = .ok (.istore 5, 2) := dk_54 5 (dk_at dksX2_unifyVar_0 19 rfl rfl)
theorem dX2_unifyVar_21 : decode cX2_unifyVar 21 = .ok (.aload_n 0, 1) := dk_42 (dk_at dksX2_unifyVar_0 21 rfl rfl)
theorem dX2_unifyVar_22 : decode cX2_unifyVar 22 = .ok (.getfield 193, 3) := dk_180 0 193 (dk_at dksX2_unifyVar_1 0 rfl rfl)
theorem dX2_unifyVar_25 : decode cX2_unifyVar 25 = .ok (.iload 4, 2) := dk_21 4 (dk_at dksX2_unifyVar_1 3 rfl rfl)
theorem dX2_unifyVar_27 : decode cX2_unifyVar 27 = .ok (.iaload, 1) := dk_46 (dk_at dksX2_unifyVar_1 5 rfl rfl)
theorem dX2_unifyVar_28 : decode cX2_unifyVar 28 = .ok (.ifCond .lt 32, 3) := dk_155 0 32 (dk_at dksX2_unifyVar_1 6 rfl rfl)
theorem dX2_unifyVar_31 : decode cX2_unifyVar 31 = .ok (.aload_n 0, 1) := dk_42 (dk_at dksX2_unifyVar_1 9 rfl rfl)
theorem dX2_unifyVar_32 : decode cX2_unifyVar 32 = .ok (.aload_n 0, 1) := dk_42 (dk_at dksX2_unifyVar_1 10 rfl rfl)
theorem dX2_unifyVar_33 : decode cX2_unifyVar 33 = .ok (.getfield 193, 3) := dk_180 0 193 (dk_at dksX2_unifyVar_1 11 rfl rfl)
theorem dX2_unifyVar_36 : decode cX2_unifyVar 36 = .ok (.iload 4, 2) := dk_21 4 (dk_at dksX2_unifyVar_1 14 rfl rfl)
theorem dX2_unifyVar_38 : decode cX2_unifyVar 38 = .ok (.iaload, 1) := dk_46 (dk_at dksX2_unifyVar_1 16 rfl rfl)
theorem dX2_unifyVar_39 : decode cX2_unifyVar 39 = .ok (.iload 5, 2) := dk_21 5 (dk_at dksX2_unifyVar_1 17 rfl rfl)
theorem dX2_unifyVar_41 : decode cX2_unifyVar 41 = .ok (.invokevirtual 614, 3) := dk_182 2 102 (dk_at dksX2_unifyVar_1 19 rfl rfl)
theorem dX2_unifyVar_44 : decode cX2_unifyVar 44 = .ok (.ifCond .eq 16, 3) := dk_153 0 16 (dk_at dksX2_unifyVar_2 0 rfl rfl)
theorem dX2_unifyVar_47 : decode cX2_unifyVar 47 = .ok (.aload_n 0, 1) := dk_42 (dk_at dksX2_unifyVar_2 3 rfl rfl)
theorem dX2_unifyVar_48 : decode cX2_unifyVar 48 = .ok (.iload_n 1, 1) := dk_27 (dk_at dksX2_unifyVar_2 4 rfl rfl)
theorem dX2_unifyVar_49 : decode cX2_unifyVar 49 = .ok (.iload 4, 2) := dk_21 4 (dk_at dksX2_unifyVar_2 5 rfl rfl)
theorem dX2_unifyVar_51 : decode cX2_unifyVar 51 = .ok (.invokevirtual 1235, 3) := dk_182 4 211 (dk_at dksX2_unifyVar_2 7 rfl rfl)
theorem dX2_unifyVar_54 : decode cX2_unifyVar 54 = .ok (.aload_n 0, 1) := dk_42 (dk_at dksX2_unifyVar_2 10 rfl rfl)
theorem dX2_unifyVar_55 : decode cX2_unifyVar 55 = .ok (.iload_n 3, 1) := dk_29 (dk_at dksX2_unifyVar_2 11 rfl rfl)
theorem dX2_unifyVar_56 : decode cX2_unifyVar 56 = .ok (.invokestatic 1217, 3) := dk_184 4 193 (dk_at dksX2_unifyVar_2 12 rfl rfl)
theorem dX2_unifyVar_59 : decode cX2_unifyVar 59 = .ok (.return_, 1) := dk_177 (dk_at dksX2_unifyVar_2 15 rfl rfl)
theorem dX2_unifyVar_60 : decode cX2_unifyVar 60 = .ok (.iconst 0, 1) := dk_3 (dk_at dksX2_unifyVar_2 16 rfl rfl)
theorem dX2_unifyVar_61 : decode cX2_unifyVar 61 = .ok (.istore 6, 2) := dk_54 6 (dk_at dksX2_unifyVar_2 17 rfl rfl)
theorem dX2_unifyVar_63 : decode cX2_unifyVar 63 = .ok (.iconst 0, 1) := dk_3 (dk_at dksX2_unifyVar_2 19 rfl rfl)
theorem dX2_unifyVar_64 : decode cX2_unifyVar 64 = .ok (.istore 7, 2) := dk_54 7 (dk_at dksX2_unifyVar_2 20 rfl rfl)
theorem dX2_unifyVar_66 : decode cX2_unifyVar 66 = .ok (.iload 7, 2) := dk_21 7 (dk_at dksX2_unifyVar_2 22 rfl rfl)
theorem dX2_unifyVar_68 : decode cX2_unifyVar 68 = .ok (.aload_n 0, 1) := dk_42 (dk_at dksX2_unifyVar_3 0 rfl rfl)
theorem dX2_unifyVar_69 : decode cX2_unifyVar 69 = .ok (.getfield 538, 3) := dk_180 2 26 (dk_at dksX2_unifyVar_3 1 rfl rfl)
theorem dX2_unifyVar_72 : decode cX2_unifyVar 72 = .ok (.if_icmp .ge 54, 3) := dk_162 0 54 (dk_at dksX2_unifyVar_3 4 rfl rfl)
theorem dX2_unifyVar_75 : decode cX2_unifyVar 75 = .ok (.iload 6, 2) := dk_21 6 (dk_at dksX2_unifyVar_3 7 rfl rfl)
theorem dX2_unifyVar_77 : decode cX2_unifyVar 77 = .ok (.ifCond .ne 36, 3) := dk_154 0 36 (dk_at dksX2_unifyVar_3 9 rfl rfl)
theorem dX2_unifyVar_80 : decode cX2_unifyVar 80 = .ok (.aload_n 0, 1) := dk_42 (dk_at dksX2_unifyVar_3 12 rfl rfl)
theorem dX2_unifyVar_81 : decode cX2_unifyVar 81 = .ok (.getfield 156, 3) := dk_180 0 156 (dk_at dksX2_unifyVar_3 13 rfl rfl)
theorem dX2_unifyVar_84 : decode cX2_unifyVar 84 = .ok (.iload 7, 2) := dk_21 7 (dk_at dksX2_unifyVar_3 16 rfl rfl)
theorem dX2_unifyVar_86 : decode cX2_unifyVar 86 = .ok (.iaload, 1) := dk_46 (dk_at dksX2_unifyVar_3 18 rfl rfl)
theorem dX2_unifyVar_87 : decode cX2_unifyVar 87 = .ok (.aload_n 0, 1) := dk_42 (dk_at dksX2_unifyVar_3 19 rfl rfl)
theorem dX2_unifyVar_88 : decode cX2_unifyVar 88 = .ok (.getfield 181, 3) := dk_180 0 181 (dk_at dksX2_unifyVar_3 20 rfl rfl)
theorem dX2_unifyVar_91 : decode cX2_unifyVar 91 = .ok (.iload 4, 2) := dk_21 4 (dk_at dksX2_unifyVar_4 0 rfl rfl)
theorem dX2_unifyVar_93 : decode cX2_unifyVar 93 = .ok (.iaload, 1) := dk_46 (dk_at dksX2_unifyVar_4 2 rfl rfl)
theorem dX2_unifyVar_94 : decode cX2_unifyVar 94 = .ok (.if_icmp .ne 23, 3) := dk_160 0 23 (dk_at dksX2_unifyVar_4 3 rfl rfl)
theorem dX2_unifyVar_97 : decode cX2_unifyVar 97 = .ok (.aload_n 0, 1) := dk_42 (dk_at dksX2_unifyVar_4 6 rfl rfl)
theorem dX2_unifyVar_98 : decode cX2_unifyVar 98 = .ok (.aload_n 0, 1) := dk_42 (dk_at dksX2_unifyVar_4 7 rfl rfl)
theorem dX2_unifyVar_99 : decode cX2_unifyVar 99 = .ok (.getfield 153, 3) := dk_180 0 153 (dk_at dksX2_unifyVar_4 8 rfl rfl)
theorem dX2_unifyVar_102 : decode cX2_unifyVar 102 = .ok (.iload 7, 2) := dk_21 7 (dk_at dksX2_unifyVar_4 11 rfl rfl)
theorem dX2_unifyVar_104 : decode cX2_unifyVar 104 = .ok (.iaload, 1) := dk_46 (dk_at dksX2_unifyVar_4 13 rfl rfl)
theorem dX2_unifyVar_105 : decode cX2_unifyVar 105 = .ok (.iload 5, 2) := dk_21 5 (dk_at dksX2_unifyVar_4 14 rfl rfl)
theorem dX2_unifyVar_107 : decode cX2_unifyVar 107 = .ok (.invokevirtual 614, 3) := dk_182 2 102 (dk_at dksX2_unifyVar_4 16 rfl rfl)
theorem dX2_unifyVar_110 : decode cX2_unifyVar 110 = .ok (.ifCond .eq 7, 3) := dk_153 0 7 (dk_at dksX2_unifyVar_4 19 rfl rfl)
theorem dX2_unifyVar_113 : decode cX2_unifyVar 113 = .ok (.iconst 1, 1) := dk_4 (dk_at dksX2_unifyVar_4 22 rfl rfl)
theorem dX2_unifyVar_114 : decode cX2_unifyVar 114 = .ok (.goto 4, 3) := dk_167 0 4 (dk_at dksX2_unifyVar_5 0 rfl rfl)
theorem dX2_unifyVar_117 : decode cX2_unifyVar 117 = .ok (.iconst 0, 1) := dk_3 (dk_at dksX2_unifyVar_5 3 rfl rfl)
theorem dX2_unifyVar_118 : decode cX2_unifyVar 118 = .ok (.istore 6, 2) := dk_54 6 (dk_at dksX2_unifyVar_5 4 rfl rfl)
theorem dX2_unifyVar_120 : decode cX2_unifyVar 120 = .ok (.iinc 7 1, 3) := dk_132 7 1 (dk_at dksX2_unifyVar_5 6 rfl rfl)
theorem dX2_unifyVar_123 : decode cX2_unifyVar 123 = .ok (.goto (-57), 3) := dk_167 255 199 (dk_at dksX2_unifyVar_5 9 rfl rfl)
theorem dX2_unifyVar_126 : decode cX2_unifyVar 126 = .ok (.aload_n 0, 1) := dk_42 (dk_at dksX2_unifyVar_5 12 rfl rfl)
theorem dX2_unifyVar_127 : decode cX2_unifyVar 127 = .ok (.aload_n 0, 1) := dk_42 (dk_at dksX2_unifyVar_5 13 rfl rfl)
theorem dX2_unifyVar_128 : decode cX2_unifyVar 128 = .ok (.getfield 1238, 3) := dk_180 4 214 (dk_at dksX2_unifyVar_5 14 rfl rfl)
theorem dX2_unifyVar_131 : decode cX2_unifyVar 131 = .ok (.iload 6, 2) := dk_21 6 (dk_at dksX2_unifyVar_5 17 rfl rfl)
theorem dX2_unifyVar_133 : decode cX2_unifyVar 133 = .ok (.ifCond .eq 7, 3) := dk_153 0 7 (dk_at dksX2_unifyVar_5 19 rfl rfl)
theorem dX2_unifyVar_136 : decode cX2_unifyVar 136 = .ok (.iconst 1, 1) := dk_4 (dk_at dksX2_unifyVar_5 22 rfl rfl)
theorem dX2_unifyVar_137 : decode cX2_unifyVar 137 = .ok (.goto 4, 3) := dk_167 0 4 (dk_at dksX2_unifyVar_6 0 rfl rfl)
theorem dX2_unifyVar_140 : decode cX2_unifyVar 140 = .ok (.iconst 0, 1) := dk_3 (dk_at dksX2_unifyVar_6 3 rfl rfl)
theorem dX2_unifyVar_141 : decode cX2_unifyVar 141 = .ok (.iadd, 1) := dk_96 (dk_at dksX2_unifyVar_6 4 rfl rfl)
theorem dX2_unifyVar_142 : decode cX2_unifyVar 142 = .ok (.putfield 1238, 3) := dk_181 4 214 (dk_at dksX2_unifyVar_6 5 rfl rfl)
theorem dX2_unifyVar_145 : decode cX2_unifyVar 145 = .ok (.aload_n 0, 1) := dk_42 (dk_at dksX2_unifyVar_6 8 rfl rfl)
theorem dX2_unifyVar_146 : decode cX2_unifyVar 146 = .ok (.invokevirtual 1241, 3) := dk_182 4 217 (dk_at dksX2_unifyVar_6 9 rfl rfl)
theorem dX2_unifyVar_149 : decode cX2_unifyVar 149 = .ok (.return_, 1) := dk_177 (dk_at dksX2_unifyVar_6 12 rfl rfl)
abbrev cX2_isVarIn : ByteArray := prog_4_method_195_code
def yX2_isVarIn : MethodName := ⟨RX2, "isVarIn", "(LRewriteHouseModel;II)Z"⟩
def dkwX2_isVarIn_2 : List UInt8 := [153, 0, 5, 4, 172, 132, 3, 1, 167, 255, 227, 3, 172]
abbrev dktX2_isVarIn_2 : List UInt8 := dkwX2_isVarIn_2 ++ []
def dkwX2_isVarIn_1 : List UInt8 := [62, 29, 42, 180, 0, 187, 28, 46, 162, 0, 25, 42, 27, 42, 28, 29, 182, 2, 179, 184, 4, 178]
abbrev dktX2_isVarIn_1 : List UInt8 := dkwX2_isVarIn_1 ++ dktX2_isVarIn_2
def dkwX2_isVarIn_0 : List UInt8 := [42, 28, 182, 2, 185, 153, 0, 18, 42, 28, 182, 2, 188, 27, 160, 0, 7, 4, 167, 0, 4, 3, 172, 3]
abbrev dktX2_isVarIn_0 : List UInt8 := dkwX2_isVarIn_0 ++ dktX2_isVarIn_1
theorem dksX2_isVarIn_0 : cX2_isVarIn.data.toList.drop 0 = dktX2_isVarIn_0 := by decide +kernel
theorem dksX2_isVarIn_1 : cX2_isVarIn.data.toList.drop 24 = dktX2_isVarIn_1 := dk_seg dksX2_isVarIn_0 24 rfl rfl
theorem dksX2_isVarIn_2 : cX2_isVarIn.data.toList.drop 46 = dktX2_isVarIn_2 := dk_seg dksX2_isVarIn_1 22 rfl rfl
theorem dX2_isVarIn_0 : decode cX2_isVarIn 0 = .ok (.aload_n 0, 1) := dk_42 (dk_at dksX2_isVarIn_0 0 rfl rfl)
theorem dX2_isVarIn_1 : decode cX2_isVarIn 1 = .ok (.iload_n 2, 1) := dk_28 (dk_at dksX2_isVarIn_0 1 rfl rfl)
theorem dX2_isVarIn_2 : decode cX2_isVarIn 2 = .ok (.invokevirtual 697, 3) := dk_182 2 185 (dk_at dksX2_isVarIn_0 2 rfl rfl)
theorem dX2_isVarIn_5 : decode cX2_isVarIn 5 = .ok (.ifCond .eq 18, 3) := dk_153 0 18 (dk_at dksX2_isVarIn_0 5 rfl rfl)
theorem dX2_isVarIn_8 : decode cX2_isVarIn 8 = .ok (.aload_n 0, 1) := dk_42 (dk_at dksX2_isVarIn_0 8 rfl rfl)
theorem dX2_isVarIn_9 : decode cX2_isVarIn 9 = .ok (.iload_n 2, 1) := dk_28 (dk_at dksX2_isVarIn_0 9 rfl rfl)
theorem dX2_isVarIn_10 : decode cX2_isVarIn 10 = .ok (.invokevirtual 700, 3) := dk_182 2 188 (dk_at dksX2_isVarIn_0 10 rfl rfl)
theorem dX2_isVarIn_13 : decode cX2_isVarIn 13 = .ok (.iload_n 1, 1) := dk_27 (dk_at dksX2_isVarIn_0 13 rfl rfl)
theorem dX2_isVarIn_14 : decode cX2_isVarIn 14 = .ok (.if_icmp .ne 7, 3) := dk_160 0 7 (dk_at dksX2_isVarIn_0 14 rfl rfl)
theorem dX2_isVarIn_17 : decode cX2_isVarIn 17 = .ok (.iconst 1, 1) := dk_4 (dk_at dksX2_isVarIn_0 17 rfl rfl)
theorem dX2_isVarIn_18 : decode cX2_isVarIn 18 = .ok (.goto 4, 3) := dk_167 0 4 (dk_at dksX2_isVarIn_0 18 rfl rfl)
theorem dX2_isVarIn_21 : decode cX2_isVarIn 21 = .ok (.iconst 0, 1) := dk_3 (dk_at dksX2_isVarIn_0 21 rfl rfl)
theorem dX2_isVarIn_22 : decode cX2_isVarIn 22 = .ok (.ireturn, 1) := dk_172 (dk_at dksX2_isVarIn_0 22 rfl rfl)
theorem dX2_isVarIn_23 : decode cX2_isVarIn 23 = .ok (.iconst 0, 1) := dk_3 (dk_at dksX2_isVarIn_0 23 rfl rfl)
theorem dX2_isVarIn_24 : decode cX2_isVarIn 24 = .ok (.istore_n 3, 1) := dk_62 (dk_at dksX2_isVarIn_1 0 rfl rfl)
theorem dX2_isVarIn_25 : decode cX2_isVarIn 25 = .ok (.iload_n 3, 1) := dk_29 (dk_at dksX2_isVarIn_1 1 rfl rfl)
theorem dX2_isVarIn_26 : decode cX2_isVarIn 26 = .ok (.aload_n 0, 1) := dk_42 (dk_at dksX2_isVarIn_1 2 rfl rfl)
theorem dX2_isVarIn_27 : decode cX2_isVarIn 27 = .ok (.getfield 187, 3) := dk_180 0 187 (dk_at dksX2_isVarIn_1 3 rfl rfl)
theorem dX2_isVarIn_30 : decode cX2_isVarIn 30 = .ok (.iload_n 2, 1) := dk_28 (dk_at dksX2_isVarIn_1 6 rfl rfl)
theorem dX2_isVarIn_31 : decode cX2_isVarIn 31 = .ok (.iaload, 1) := dk_46 (dk_at dksX2_isVarIn_1 7 rfl rfl)
theorem dX2_isVarIn_32 : decode cX2_isVarIn 32 = .ok (.if_icmp .ge 25, 3) := dk_162 0 25 (dk_at dksX2_isVarIn_1 8 rfl rfl)
theorem dX2_isVarIn_35 : decode cX2_isVarIn 35 = .ok (.aload_n 0, 1) := dk_42 (dk_at dksX2_isVarIn_1 11 rfl rfl)
theorem dX2_isVarIn_36 : decode cX2_isVarIn 36 = .ok (.iload_n 1, 1) := dk_27 (dk_at dksX2_isVarIn_1 12 rfl rfl)
theorem dX2_isVarIn_37 : decode cX2_isVarIn 37 = .ok (.aload_n 0, 1) := dk_42 (dk_at dksX2_isVarIn_1 13 rfl rfl)
theorem dX2_isVarIn_38 : decode cX2_isVarIn 38 = .ok (.iload_n 2, 1) := dk_28 (dk_at dksX2_isVarIn_1 14 rfl rfl)
theorem dX2_isVarIn_39 : decode cX2_isVarIn 39 = .ok (.iload_n 3, 1) := dk_29 (dk_at dksX2_isVarIn_1 15 rfl rfl)
theorem dX2_isVarIn_40 : decode cX2_isVarIn 40 = .ok (.invokevirtual 691, 3) := dk_182 2 179 (dk_at dksX2_isVarIn_1 16 rfl rfl)
theorem dX2_isVarIn_43 : decode cX2_isVarIn 43 = .ok (.invokestatic 1202, 3) := dk_184 4 178 (dk_at dksX2_isVarIn_1 19 rfl rfl)
theorem dX2_isVarIn_46 : decode cX2_isVarIn 46 = .ok (.ifCond .eq 5, 3) := dk_153 0 5 (dk_at dksX2_isVarIn_2 0 rfl rfl)
theorem dX2_isVarIn_49 : decode cX2_isVarIn 49 = .ok (.iconst 1, 1) := dk_4 (dk_at dksX2_isVarIn_2 3 rfl rfl)
theorem dX2_isVarIn_50 : decode cX2_isVarIn 50 = .ok (.ireturn, 1) := dk_172 (dk_at dksX2_isVarIn_2 4 rfl rfl)
theorem dX2_isVarIn_51 : decode cX2_isVarIn 51 = .ok (.iinc 3 1, 3) := dk_132 3 1 (dk_at dksX2_isVarIn_2 5 rfl rfl)
theorem dX2_isVarIn_54 : decode cX2_isVarIn 54 = .ok (.goto (-29), 3) := dk_167 255 227 (dk_at dksX2_isVarIn_2 8 rfl rfl)
theorem dX2_isVarIn_57 : decode cX2_isVarIn 57 = .ok (.iconst 0, 1) := dk_3 (dk_at dksX2_isVarIn_2 11 rfl rfl)
theorem dX2_isVarIn_58 : decode cX2_isVarIn 58 = .ok (.ireturn, 1) := dk_172 (dk_at dksX2_isVarIn_2 12 rfl rfl)
abbrev cX2_undo : ByteArray := prog_4_method_194_code
def yX2_undo : MethodName := ⟨RX2, "undo", "(I)V"⟩
def dkwX2_undo_1 : List UInt8 := [180, 1, 124, 42, 180, 4, 175, 46, 2, 79, 167, 255, 223, 177]
abbrev dktX2_undo_1 : List UInt8 := dkwX2_undo_1 ++ []
def dkwX2_undo_0 : List UInt8 := [42, 180, 4, 175, 27, 164, 0, 31, 42, 89, 180, 4, 175, 4, 100, 181, 4, 175, 42, 180, 1, 136, 42]
abbrev dktX2_undo_0 : List UInt8 := dkwX2_undo_0 ++ dktX2_undo_1
theorem dksX2_undo_0 : cX2_undo.data.toList.drop 0 = dktX2_undo_0 := by decide +kernel
theorem dksX2_undo_1 : cX2_undo.data.toList.drop 23 = dktX2_undo_1 := dk_seg dksX2_undo_0 23 rfl rfl
theorem dX2_undo_0 : decode cX2_undo 0 = .ok (.aload_n 0, 1) := dk_42 (dk_at dksX2_undo_0 0 rfl rfl)
theorem dX2_undo_1 : decode cX2_undo 1 = .ok (.getfield 1199, 3) := dk_180 4 175 (dk_at dksX2_undo_0 1 rfl rfl)
theorem dX2_undo_4 : decode cX2_undo 4 = .ok (.iload_n 1, 1) := dk_27 (dk_at dksX2_undo_0 4 rfl rfl)
theorem dX2_undo_5 : decode cX2_undo 5 = .ok (.if_icmp .le 31, 3) := dk_164 0 31 (dk_at dksX2_undo_0 5 rfl rfl)
theorem dX2_undo_8 : decode cX2_undo 8 = .ok (.aload_n 0, 1) := dk_42 (dk_at dksX2_undo_0 8 rfl rfl)
theorem dX2_undo_9 : decode cX2_undo 9 = .ok (.dup, 1) := dk_89 (dk_at dksX2_undo_0 9 rfl rfl)
theorem dX2_undo_10 : decode cX2_undo 10 = .ok (.getfield 1199, 3) := dk_180 4 175 (dk_at dksX2_undo_0 10 rfl rfl)
theorem dX2_undo_13 : decode cX2_undo 13 = .ok (.iconst 1, 1) := dk_4 (dk_at dksX2_undo_0 13 rfl rfl)
theorem dX2_undo_14 : decode cX2_undo 14 = .ok (.isub, 1) := dk_100 (dk_at dksX2_undo_0 14 rfl rfl)
theorem dX2_undo_15 : decode cX2_undo 15 = .ok (.putfield 1199, 3) := dk_181 4 175 (dk_at dksX2_undo_0 15 rfl rfl)
theorem dX2_undo_18 : decode cX2_undo 18 = .ok (.aload_n 0, 1) := dk_42 (dk_at dksX2_undo_0 18 rfl rfl)
theorem dX2_undo_19 : decode cX2_undo 19 = .ok (.getfield 392, 3) := dk_180 1 136 (dk_at dksX2_undo_0 19 rfl rfl)
theorem dX2_undo_22 : decode cX2_undo 22 = .ok (.aload_n 0, 1) := dk_42 (dk_at dksX2_undo_0 22 rfl rfl)
theorem dX2_undo_23 : decode cX2_undo 23 = .ok (.getfield 380, 3) := dk_180 1 124 (dk_at dksX2_undo_1 0 rfl rfl)
theorem dX2_undo_26 : decode cX2_undo 26 = .ok (.aload_n 0, 1) := dk_42 (dk_at dksX2_undo_1 3 rfl rfl)
theorem dX2_undo_27 : decode cX2_undo 27 = .ok (.getfield 1199, 3) := dk_180 4 175 (dk_at dksX2_undo_1 4 rfl rfl)
theorem dX2_undo_30 : decode cX2_undo 30 = .ok (.iaload, 1) := dk_46 (dk_at dksX2_undo_1 7 rfl rfl)
theorem dX2_undo_31 : decode cX2_undo 31 = .ok (.iconst (-1), 1) := dk_2 (dk_at dksX2_undo_1 8 rfl rfl)
theorem dX2_undo_32 : decode cX2_undo 32 = .ok (.iastore, 1) := dk_79 (dk_at dksX2_undo_1 9 rfl rfl)
theorem dX2_undo_33 : decode cX2_undo 33 = .ok (.goto (-33), 3) := dk_167 255 223 (dk_at dksX2_undo_1 10 rfl rfl)
theorem dX2_undo_36 : decode cX2_undo 36 = .ok (.return_, 1) := dk_177 (dk_at dksX2_undo_1 13 rfl rfl)
abbrev cX2_pair : ByteArray := prog_4_method_212_code
def yX2_pair : MethodName := ⟨RX2, "pair", "(II)I"⟩
def dkwX2_pair_4 : List UInt8 := [42, 180, 4, 37, 182, 3, 80, 172, 78, 42, 182, 4, 49, 172]
abbrev dktX2_pair_4 : List UInt8 := dkwX2_pair_4 ++ []
def dkwX2_pair_3 : List UInt8 := [17, 0, 200, 160, 0, 8, 16, 253, 167, 0, 23, 42, 28, 5, 160, 0, 10, 42, 180, 4, 34, 167, 0, 7]
abbrev dktX2_pair_3 : List UInt8 := dkwX2_pair_3 ++ dktX2_pair_4
def dkwX2_pair_2 : List UInt8 := [5, 162, 0, 19, 28, 154, 0, 10, 42, 180, 4, 244, 167, 0, 7, 42, 180, 4, 250, 172, 42, 180, 3, 1]
abbrev dktX2_pair_2 : List UInt8 := dkwX2_pair_2 ++ dktX2_pair_3
def dkwX2_pair_1 : List UInt8 := [182, 5, 15, 154, 0, 5, 2, 172, 42, 27, 182, 5, 18, 42, 180, 4, 235, 27, 163, 0, 5, 2, 172, 28]
abbrev dktX2_pair_1 : List UInt8 := dkwX2_pair_1 ++ dktX2_pair_2
def dkwX2_pair_0 : List UInt8 := [42, 3, 181, 0, 1, 27, 155, 0, 22, 28, 133, 9, 20, 4, 62, 184, 1, 147, 153, 0, 10, 42]
abbrev dktX2_pair_0 : List UInt8 := dkwX2_pair_0 ++ dktX2_pair_1
theorem dksX2_pair_0 : cX2_pair.data.toList.drop 0 = dktX2_pair_0 := by decide +kernel
theorem dksX2_pair_1 : cX2_pair.data.toList.drop 22 = dktX2_pair_1 := dk_seg dksX2_pair_0 22 rfl rfl
theorem dksX2_pair_2 : cX2_pair.data.toList.drop 46 = dktX2_pair_2 := dk_seg dksX2_pair_1 24 rfl rfl
theorem dksX2_pair_3 : cX2_pair.data.toList.drop 70 = dktX2_pair_3 := dk_seg dksX2_pair_2 24 rfl rfl
theorem dksX2_pair_4 : cX2_pair.data.toList.drop 94 = dktX2_pair_4 := dk_seg dksX2_pair_3 24 rfl rfl
theorem dX2_pair_0 : decode cX2_pair 0 = .ok (.aload_n 0, 1) := dk_42 (dk_at dksX2_pair_0 0 rfl rfl)
theorem dX2_pair_1 : decode cX2_pair 1 = .ok (.iconst 0, 1) := dk_3 (dk_at dksX2_pair_0 1 rfl rfl)
theorem dX2_pair_2 : decode cX2_pair 2 = .ok (.putfield 1, 3) := dk_181 0 1 (dk_at dksX2_pair_0 2 rfl rfl)
theorem dX2_pair_5 : decode cX2_pair 5 = .ok (.iload_n 1, 1) := dk_27 (dk_at dksX2_pair_0 5 rfl rfl)
theorem dX2_pair_6 : decode cX2_pair 6 = .ok (.ifCond .lt 22, 3) := dk_155 0 22 (dk_at dksX2_pair_0 6 rfl rfl)
theorem dX2_pair_9 : decode cX2_pair 9 = .ok (.iload_n 2, 1) := dk_28 (dk_at dksX2_pair_0 9 rfl rfl)
theorem dX2_pair_10 : decode cX2_pair 10 = .ok (.i2l, 1) := dk_133 (dk_at dksX2_pair_0 10 rfl rfl)
theorem dX2_pair_11 : decode cX2_pair 11 = .ok (.lconst 0, 1) := dk_9 (dk_at dksX2_pair_0 11 rfl rfl)
theorem dX2_pair_12 : decode cX2_pair 12 = .ok (.ldc2_w 1086, 3) := dk_20 4 62 (dk_at dksX2_pair_0 12 rfl rfl)
theorem dX2_pair_15 : decode cX2_pair 15 = .ok (.invokestatic 403, 3) := dk_184 1 147 (dk_at dksX2_pair_0 15 rfl rfl)
theorem dX2_pair_18 : decode cX2_pair 18 = .ok (.ifCond .eq 10, 3) := dk_153 0 10 (dk_at dksX2_pair_0 18 rfl rfl)
theorem dX2_pair_21 : decode cX2_pair 21 = .ok (.aload_n 0, 1) := dk_42 (dk_at dksX2_pair_0 21 rfl rfl)
theorem dX2_pair_22 : decode cX2_pair 22 = .ok (.invokevirtual 1295, 3) := dk_182 5 15 (dk_at dksX2_pair_1 0 rfl rfl)
theorem dX2_pair_25 : decode cX2_pair 25 = .ok (.ifCond .ne 5, 3) := dk_154 0 5 (dk_at dksX2_pair_1 3 rfl rfl)
theorem dX2_pair_28 : decode cX2_pair 28 = .ok (.iconst (-1), 1) := dk_2 (dk_at dksX2_pair_1 6 rfl rfl)
theorem dX2_pair_29 : decode cX2_pair 29 = .ok (.ireturn, 1) := dk_172 (dk_at dksX2_pair_1 7 rfl rfl)
theorem dX2_pair_30 : decode cX2_pair 30 = .ok (.aload_n 0, 1) := dk_42 (dk_at dksX2_pair_1 8 rfl rfl)
theorem dX2_pair_31 : decode cX2_pair 31 = .ok (.iload_n 1, 1) := dk_27 (dk_at dksX2_pair_1 9 rfl rfl)
theorem dX2_pair_32 : decode cX2_pair 32 = .ok (.invokevirtual 1298, 3) := dk_182 5 18 (dk_at dksX2_pair_1 10 rfl rfl)
theorem dX2_pair_35 : decode cX2_pair 35 = .ok (.aload_n 0, 1) := dk_42 (dk_at dksX2_pair_1 13 rfl rfl)
theorem dX2_pair_36 : decode cX2_pair 36 = .ok (.getfield 1259, 3) := dk_180 4 235 (dk_at dksX2_pair_1 14 rfl rfl)
theorem dX2_pair_39 : decode cX2_pair 39 = .ok (.iload_n 1, 1) := dk_27 (dk_at dksX2_pair_1 17 rfl rfl)
theorem dX2_pair_40 : decode cX2_pair 40 = .ok (.if_icmp .gt 5, 3) := dk_163 0 5 (dk_at dksX2_pair_1 18 rfl rfl)
theorem dX2_pair_43 : decode cX2_pair 43 = .ok (.iconst (-1), 1) := dk_2 (dk_at dksX2_pair_1 21 rfl rfl)
theorem dX2_pair_44 : decode cX2_pair 44 = .ok (.ireturn, 1) := dk_172 (dk_at dksX2_pair_1 22 rfl rfl)
theorem dX2_pair_45 : decode cX2_pair 45 = .ok (.iload_n 2, 1) := dk_28 (dk_at dksX2_pair_1 23 rfl rfl)
theorem dX2_pair_46 : decode cX2_pair 46 = .ok (.iconst 2, 1) := dk_5 (dk_at dksX2_pair_2 0 rfl rfl)
theorem dX2_pair_47 : decode cX2_pair 47 = .ok (.if_icmp .ge 19, 3) := dk_162 0 19 (dk_at dksX2_pair_2 1 rfl rfl)
theorem dX2_pair_50 : decode cX2_pair 50 = .ok (.iload_n 2, 1) := dk_28 (dk_at dksX2_pair_2 4 rfl rfl)
theorem dX2_pair_51 : decode cX2_pair 51 = .ok (.ifCond .ne 10, 3) := dk_154 0 10 (dk_at dksX2_pair_2 5 rfl rfl)
theorem dX2_pair_54 : decode cX2_pair 54 = .ok (.aload_n 0, 1) := dk_42 (dk_at dksX2_pair_2 8 rfl rfl)
theorem dX2_pair_55 : decode cX2_pair 55 = .ok (.getfield 1268, 3) := dk_180 4 244 (dk_at dksX2_pair_2 9 rfl rfl)
theorem dX2_pair_58 : decode cX2_pair 58 = .ok (.goto 7, 3) := dk_167 0 7 (dk_at dksX2_pair_2 12 rfl rfl)
theorem dX2_pair_61 : decode cX2_pair 61 = .ok (.aload_n 0, 1) := dk_42 (dk_at dksX2_pair_2 15 rfl rfl)
theorem dX2_pair_62 : decode cX2_pair 62 = .ok (.getfield 1274, 3) := dk_180 4 250 (dk_at dksX2_pair_2 16 rfl rfl)
theorem dX2_pair_65 : decode cX2_pair 65 = .ok (.ireturn, 1) := dk_172 (dk_at dksX2_pair_2 19 rfl rfl)
theorem dX2_pair_66 : decode cX2_pair 66 = .ok (.aload_n 0, 1) := dk_42 (dk_at dksX2_pair_2 20 rfl rfl)
theorem dX2_pair_67 : decode cX2_pair 67 = .ok (.getfield 769, 3) := dk_180 3 1 (dk_at dksX2_pair_2 21 rfl rfl)
theorem dX2_pair_70 : decode cX2_pair 70 = .ok (.sipush 200, 3) := dk_17 0 200 (dk_at dksX2_pair_3 0 rfl rfl)
theorem dX2_pair_73 : decode cX2_pair 73 = .ok (.if_icmp .ne 8, 3) := dk_160 0 8 (dk_at dksX2_pair_3 3 rfl rfl)
theorem dX2_pair_76 : decode cX2_pair 76 = .ok (.bipush (-3), 2) := dk_16 253 (dk_at dksX2_pair_3 6 rfl rfl)
theorem dX2_pair_78 : decode cX2_pair 78 = .ok (.goto 23, 3) := dk_167 0 23 (dk_at dksX2_pair_3 8 rfl rfl)
theorem dX2_pair_81 : decode cX2_pair 81 = .ok (.aload_n 0, 1) := dk_42 (dk_at dksX2_pair_3 11 rfl rfl)
theorem dX2_pair_82 : decode cX2_pair 82 = .ok (.iload_n 2, 1) := dk_28 (dk_at dksX2_pair_3 12 rfl rfl)
theorem dX2_pair_83 : decode cX2_pair 83 = .ok (.iconst 2, 1) := dk_5 (dk_at dksX2_pair_3 13 rfl rfl)
theorem dX2_pair_84 : decode cX2_pair 84 = .ok (.if_icmp .ne 10, 3) := dk_160 0 10 (dk_at dksX2_pair_3 14 rfl rfl)
theorem dX2_pair_87 : decode cX2_pair 87 = .ok (.aload_n 0, 1) := dk_42 (dk_at dksX2_pair_3 17 rfl rfl)
theorem dX2_pair_88 : decode cX2_pair 88 = .ok (.getfield 1058, 3) := dk_180 4 34 (dk_at dksX2_pair_3 18 rfl rfl)
theorem dX2_pair_91 : decode cX2_pair 91 = .ok (.goto 7, 3) := dk_167 0 7 (dk_at dksX2_pair_3 21 rfl rfl)
theorem dX2_pair_94 : decode cX2_pair 94 = .ok (.aload_n 0, 1) := dk_42 (dk_at dksX2_pair_4 0 rfl rfl)
theorem dX2_pair_95 : decode cX2_pair 95 = .ok (.getfield 1061, 3) := dk_180 4 37 (dk_at dksX2_pair_4 1 rfl rfl)
theorem dX2_pair_98 : decode cX2_pair 98 = .ok (.invokevirtual 848, 3) := dk_182 3 80 (dk_at dksX2_pair_4 4 rfl rfl)
theorem dX2_pair_101 : decode cX2_pair 101 = .ok (.ireturn, 1) := dk_172 (dk_at dksX2_pair_4 7 rfl rfl)
theorem dX2_pair_102 : decode cX2_pair 102 = .ok (.astore_n 3, 1) := dk_78 (dk_at dksX2_pair_4 8 rfl rfl)
theorem dX2_pair_103 : decode cX2_pair 103 = .ok (.aload_n 0, 1) := dk_42 (dk_at dksX2_pair_4 9 rfl rfl)
theorem dX2_pair_104 : decode cX2_pair 104 = .ok (.invokevirtual 1073, 3) := dk_182 4 49 (dk_at dksX2_pair_4 10 rfl rfl)
theorem dX2_pair_107 : decode cX2_pair 107 = .ok (.ireturn, 1) := dk_172 (dk_at dksX2_pair_4 13 rfl rfl)
theorem q345 : (Jvm.Cond.initialized "RewriteHouseModel") ∈ lw_all := lw_g (lw_at lw_m1 6 rfl) rfl
theorem q2079 : (Jvm.Cond.instantiable "RewriteHouseModel" (191 : Nat)) ∈ lw_all := lw_g (lw_at lw_m8 60 rfl) rfl
theorem q2081 : (Jvm.Cond.instanceMethod ({ cls := "RewriteHouseModel", name := "<init>", desc := "()V" } : Jvm.MethodName)) ∈ lw_all := lw_g (lw_at lw_m8 62 rfl) rfl
theorem q2082 : (Jvm.Cond.code ({ cls := "RewriteHouseModel", name := "<init>", desc := "()V" } : Jvm.MethodName) prog_4_method_4_code (1 : Nat) (Option.none : Option Jvm.ClassFile.FieldType)) ∈ lw_all := lw_g (lw_at lw_m8 63 rfl) rfl
theorem q2083 : (Jvm.Cond.methodLink "RewriteHouseModel" (19 : Nat) ({ cls := "java/lang/Object", name := "<init>", desc := "()V" } : Jvm.MethodName)) ∈ lw_all := lw_g (lw_at lw_m8 64 rfl) rfl
theorem q2084 : (Jvm.Cond.classLink "RewriteHouseModel" (12 : Nat) "RewriteHouseModel$Stop") ∈ lw_all := lw_g (lw_at lw_m8 65 rfl) rfl
theorem q2093 : (Jvm.Cond.methodLink "RewriteHouseModel" (25 : Nat) ({ cls := "RewriteHouseModel$Stop", name := "<init>", desc := "()V" } : Jvm.MethodName)) ∈ lw_all := lw_g (lw_at lw_m8 74 rfl) rfl
theorem q2097 : (Jvm.Cond.fieldLinkNest "RewriteHouseModel" (11 : Nat) "RewriteHouseModel$Stop" "what" "I" "RewriteHouseModel") ∈ lw_tbl := lw_at lw_m8 78 rfl
theorem q2098 : (Jvm.Cond.fieldLinkNest "RewriteHouseModel" (16 : Nat) "RewriteHouseModel$Stop" "place" "I" "RewriteHouseModel") ∈ lw_tbl := lw_at lw_m8 79 rfl
theorem q2105 : (Jvm.Cond.constant "RewriteHouseModel" (46 : Nat) (50000 : Int32)) ∈ lw_all := lw_g (lw_at lw_m8 86 rfl) rfl
theorem q2106 : (Jvm.Cond.constant "RewriteHouseModel" (180 : Nat) (200000 : Int32)) ∈ lw_all := lw_g (lw_at lw_m8 87 rfl) rfl
theorem q2107 : (Jvm.Cond.constant "RewriteHouseModel" (205 : Nat) (800000 : Int32)) ∈ lw_all := lw_g (lw_at lw_m8 88 rfl) rfl
theorem q2108 : (Jvm.Cond.constant "RewriteHouseModel" (209 : Nat) (65536 : Int32)) ∈ lw_all := lw_g (lw_at lw_m8 89 rfl) rfl
theorem q2109 : (Jvm.Cond.constant "RewriteHouseModel" (222 : Nat) (54450 : Int32)) ∈ lw_all := lw_g (lw_at lw_m8 90 rfl) rfl
theorem q2110 : (Jvm.Cond.constant "RewriteHouseModel" (277 : Nat) (460000 : Int32)) ∈ lw_all := lw_g (lw_at lw_m8 91 rfl) rfl
theorem q2111 : (Jvm.Cond.constant "RewriteHouseModel" (284 : Nat) (300000 : Int32)) ∈ lw_all := lw_g (lw_at lw_m8 92 rfl) rfl
theorem q2112 : (Jvm.Cond.constant "RewriteHouseModel" (288 : Nat) (60000 : Int32)) ∈ lw_all := lw_g (lw_at lw_m8 93 rfl) rfl
theorem q2113 : (Jvm.Cond.constant "RewriteHouseModel" (292 : Nat) (40000 : Int32)) ∈ lw_all := lw_g (lw_at lw_m8 94 rfl) rfl
theorem q2114 : (Jvm.Cond.methodLink "RewriteHouseModel" (395 : Nat) ({ cls := "RewriteHouseModel", name := "clearModule", desc := "()V" } : Jvm.MethodName)) ∈ lw_all := lw_g (lw_at lw_m8 95 rfl) rfl
theorem q2115 : (Jvm.Cond.privateMethod ({ cls := "RewriteHouseModel", name := "clearModule", desc := "()V" } : Jvm.MethodName)) ∈ lw_tbl := lw_at lw_m8 96 rfl
theorem q2116 : (Jvm.Cond.instanceMethod ({ cls := "RewriteHouseModel", name := "clearModule", desc := "()V" } : Jvm.MethodName)) ∈ lw_all := lw_g (lw_at lw_m8 97 rfl) rfl
theorem q2117 : (Jvm.Cond.code ({ cls := "RewriteHouseModel", name := "clearModule", desc := "()V" } : Jvm.MethodName) prog_4_method_84_code (1 : Nat) (Option.none : Option Jvm.ClassFile.FieldType)) ∈ lw_all := lw_g (lw_at lw_m8 98 rfl) rfl
theorem q2118 : (Jvm.Cond.methodLink "RewriteHouseModel" (784 : Nat) ({ cls := "RewriteHouseModel", name := "clearPool", desc := "()V" } : Jvm.MethodName)) ∈ lw_all := lw_g (lw_at lw_m8 99 rfl) rfl
theorem q2119 : (Jvm.Cond.privateMethod ({ cls := "RewriteHouseModel", name := "clearPool", desc := "()V" } : Jvm.MethodName)) ∈ lw_tbl := lw_at lw_m8 100 rfl
theorem q2120 : (Jvm.Cond.instanceMethod ({ cls := "RewriteHouseModel", name := "clearPool", desc := "()V" } : Jvm.MethodName)) ∈ lw_all := lw_g (lw_at lw_m8 101 rfl) rfl
theorem q2121 : (Jvm.Cond.code ({ cls := "RewriteHouseModel", name := "clearPool", desc := "()V" } : Jvm.MethodName) prog_4_method_56_code (2 : Nat) (Option.none : Option Jvm.ClassFile.FieldType)) ∈ lw_all := lw_g (lw_at lw_m8 102 rfl) rfl
theorem q2122 : (Jvm.Cond.fieldLink "RewriteHouseModel" (1 : Nat) "RewriteHouseModel" "thrown" "I") ∈ lw_all := lw_g (lw_at lw_m8 103 rfl) rfl
theorem q2123 : (Jvm.Cond.fieldLink "RewriteHouseModel" (7 : Nat) "RewriteHouseModel" "stop" "LRewriteHouseModel$Stop;") ∈ lw_all := lw_g (lw_at lw_m8 104 rfl) rfl
theorem q2124 : (Jvm.Cond.fieldLink "RewriteHouseModel" (26 : Nat) "RewriteHouseModel" "tape" "[B") ∈ lw_all := lw_g (lw_at lw_m8 105 rfl) rfl
theorem q2125 : (Jvm.Cond.fieldLink "RewriteHouseModel" (398 : Nat) "RewriteHouseModel" "tapeSize" "I") ∈ lw_all := lw_g (lw_at lw_m8 106 rfl) rfl
theorem q2126 : (Jvm.Cond.fieldLink "RewriteHouseModel" (30 : Nat) "RewriteHouseModel" "text" "[B") ∈ lw_all := lw_g (lw_at lw_m8 107 rfl) rfl
theorem q2127 : (Jvm.Cond.fieldLink "RewriteHouseModel" (407 : Nat) "RewriteHouseModel" "textSize" "I") ∈ lw_all := lw_g (lw_at lw_m8 108 rfl) rfl
theorem q2128 : (Jvm.Cond.fieldLink "RewriteHouseModel" (33 : Nat) "RewriteHouseModel" "wordAt" "[I") ∈ lw_all := lw_g (lw_at lw_m8 109 rfl) rfl
theorem q2129 : (Jvm.Cond.fieldLink "RewriteHouseModel" (37 : Nat) "RewriteHouseModel" "wordSize" "[I") ∈ lw_all := lw_g (lw_at lw_m8 110 rfl) rfl
theorem q2130 : (Jvm.Cond.fieldLink "RewriteHouseModel" (410 : Nat) "RewriteHouseModel" "words" "I") ∈ lw_all := lw_g (lw_at lw_m8 111 rfl) rfl
theorem q2131 : (Jvm.Cond.fieldLink "RewriteHouseModel" (413 : Nat) "RewriteHouseModel" "badAt" "I") ∈ lw_all := lw_g (lw_at lw_m8 112 rfl) rfl
theorem q2132 : (Jvm.Cond.fieldLink "RewriteHouseModel" (416 : Nat) "RewriteHouseModel" "at" "I") ∈ lw_all := lw_g (lw_at lw_m8 113 rfl) rfl
theorem q2133 : (Jvm.Cond.fieldLink "RewriteHouseModel" (472 : Nat) "RewriteHouseModel" "most" "I") ∈ lw_all := lw_g (lw_at lw_m8 114 rfl) rfl
theorem q2134 : (Jvm.Cond.fieldLink "RewriteHouseModel" (40 : Nat) "RewriteHouseModel" "faultPlace" "I") ∈ lw_all := lw_g (lw_at lw_m8 115 rfl) rfl
theorem q2135 : (Jvm.Cond.fieldLink "RewriteHouseModel" (43 : Nat) "RewriteHouseModel" "faultLine" "I") ∈ lw_all := lw_g (lw_at lw_m8 116 rfl) rfl
theorem q2136 : (Jvm.Cond.fieldLink "RewriteHouseModel" (47 : Nat) "RewriteHouseModel" "names" "[B") ∈ lw_all := lw_g (lw_at lw_m8 117 rfl) rfl
theorem q2137 : (Jvm.Cond.fieldLink "RewriteHouseModel" (50 : Nat) "RewriteHouseModel" "nameSize" "[I") ∈ lw_all := lw_g (lw_at lw_m8 118 rfl) rfl
theorem q2138 : (Jvm.Cond.fieldLink "RewriteHouseModel" (488 : Nat) "RewriteHouseModel" "nameCount" "I") ∈ lw_all := lw_g (lw_at lw_m8 119 rfl) rfl
theorem q2139 : (Jvm.Cond.fieldLink "RewriteHouseModel" (53 : Nat) "RewriteHouseModel" "sortWord" "[I") ∈ lw_all := lw_g (lw_at lw_m8 120 rfl) rfl
theorem q2140 : (Jvm.Cond.fieldLink "RewriteHouseModel" (521 : Nat) "RewriteHouseModel" "sorts" "I") ∈ lw_all := lw_g (lw_at lw_m8 121 rfl) rfl
theorem q2141 : (Jvm.Cond.fieldLink "RewriteHouseModel" (56 : Nat) "RewriteHouseModel" "orders" "[I") ∈ lw_all := lw_g (lw_at lw_m8 122 rfl) rfl
theorem q2142 : (Jvm.Cond.fieldLink "RewriteHouseModel" (532 : Nat) "RewriteHouseModel" "orderCount" "I") ∈ lw_all := lw_g (lw_at lw_m8 123 rfl) rfl
theorem q2143 : (Jvm.Cond.fieldLink "RewriteHouseModel" (59 : Nat) "RewriteHouseModel" "varWord" "[I") ∈ lw_all := lw_g (lw_at lw_m8 124 rfl) rfl
theorem q2144 : (Jvm.Cond.fieldLink "RewriteHouseModel" (62 : Nat) "RewriteHouseModel" "varSortWord" "[I") ∈ lw_all := lw_g (lw_at lw_m8 125 rfl) rfl
theorem q2145 : (Jvm.Cond.fieldLink "RewriteHouseModel" (535 : Nat) "RewriteHouseModel" "vars" "I") ∈ lw_all := lw_g (lw_at lw_m8 126 rfl) rfl
theorem q2146 : (Jvm.Cond.fieldLink "RewriteHouseModel" (65 : Nat) "RewriteHouseModel" "rowPlace" "[I") ∈ lw_all := lw_g (lw_at lw_m8 127 rfl) rfl
theorem q2147 : (Jvm.Cond.fieldLink "RewriteHouseModel" (68 : Nat) "RewriteHouseModel" "rowFormWord" "[I") ∈ lw_all := lw_g (lw_at lw_m8 128 rfl) rfl
theorem q2148 : (Jvm.Cond.fieldLink "RewriteHouseModel" (71 : Nat) "RewriteHouseModel" "rowFormWords" "[I") ∈ lw_all := lw_g (lw_at lw_m8 129 rfl) rfl
theorem q2149 : (Jvm.Cond.fieldLink "RewriteHouseModel" (74 : Nat) "RewriteHouseModel" "rowSortWords" "[I") ∈ lw_all := lw_g (lw_at lw_m8 130 rfl) rfl
theorem q2150 : (Jvm.Cond.fieldLink "RewriteHouseModel" (77 : Nat) "RewriteHouseModel" "rowSortWord" "[I") ∈ lw_all := lw_g (lw_at lw_m8 131 rfl) rfl
theorem q2151 : (Jvm.Cond.fieldLink "RewriteHouseModel" (80 : Nat) "RewriteHouseModel" "rowResultWord" "[I") ∈ lw_all := lw_g (lw_at lw_m8 132 rfl) rfl
theorem q2152 : (Jvm.Cond.fieldLink "RewriteHouseModel" (83 : Nat) "RewriteHouseModel" "rowAssoc" "[Z") ∈ lw_all := lw_g (lw_at lw_m8 133 rfl) rfl
theorem q2153 : (Jvm.Cond.fieldLink "RewriteHouseModel" (87 : Nat) "RewriteHouseModel" "rowComm" "[Z") ∈ lw_all := lw_g (lw_at lw_m8 134 rfl) rfl
theorem q2154 : (Jvm.Cond.fieldLink "RewriteHouseModel" (90 : Nat) "RewriteHouseModel" "rowIdWord" "[I") ∈ lw_all := lw_g (lw_at lw_m8 135 rfl) rfl
theorem q2155 : (Jvm.Cond.fieldLink "RewriteHouseModel" (93 : Nat) "RewriteHouseModel" "rowPrec" "[I") ∈ lw_all := lw_g (lw_at lw_m8 136 rfl) rfl
theorem q2156 : (Jvm.Cond.fieldLink "RewriteHouseModel" (96 : Nat) "RewriteHouseModel" "rowLetters" "[I") ∈ lw_all := lw_g (lw_at lw_m8 137 rfl) rfl
theorem q2157 : (Jvm.Cond.fieldLink "RewriteHouseModel" (99 : Nat) "RewriteHouseModel" "rowLetter" "[I") ∈ lw_all := lw_g (lw_at lw_m8 138 rfl) rfl
theorem q2158 : (Jvm.Cond.fieldLink "RewriteHouseModel" (102 : Nat) "RewriteHouseModel" "rowTwice" "[Z") ∈ lw_all := lw_g (lw_at lw_m8 139 rfl) rfl
theorem q2159 : (Jvm.Cond.fieldLink "RewriteHouseModel" (538 : Nat) "RewriteHouseModel" "rows" "I") ∈ lw_all := lw_g (lw_at lw_m8 140 rfl) rfl
theorem q2160 : (Jvm.Cond.fieldLink "RewriteHouseModel" (105 : Nat) "RewriteHouseModel" "stKind" "[I") ∈ lw_all := lw_g (lw_at lw_m8 141 rfl) rfl
theorem q2161 : (Jvm.Cond.fieldLink "RewriteHouseModel" (108 : Nat) "RewriteHouseModel" "stLabelWord" "[I") ∈ lw_all := lw_g (lw_at lw_m8 142 rfl) rfl
theorem q2162 : (Jvm.Cond.fieldLink "RewriteHouseModel" (111 : Nat) "RewriteHouseModel" "stTerm" "[I") ∈ lw_all := lw_g (lw_at lw_m8 143 rfl) rfl
theorem q2163 : (Jvm.Cond.fieldLink "RewriteHouseModel" (114 : Nat) "RewriteHouseModel" "stWords" "[I") ∈ lw_all := lw_g (lw_at lw_m8 144 rfl) rfl
theorem q2164 : (Jvm.Cond.fieldLink "RewriteHouseModel" (117 : Nat) "RewriteHouseModel" "condKind" "[I") ∈ lw_all := lw_g (lw_at lw_m8 145 rfl) rfl
theorem q2165 : (Jvm.Cond.fieldLink "RewriteHouseModel" (120 : Nat) "RewriteHouseModel" "condSortWord" "[I") ∈ lw_all := lw_g (lw_at lw_m8 146 rfl) rfl
theorem q2166 : (Jvm.Cond.fieldLink "RewriteHouseModel" (123 : Nat) "RewriteHouseModel" "stConds" "[I") ∈ lw_all := lw_g (lw_at lw_m8 147 rfl) rfl
theorem q2167 : (Jvm.Cond.fieldLink "RewriteHouseModel" (515 : Nat) "RewriteHouseModel" "statements" "I") ∈ lw_all := lw_g (lw_at lw_m8 148 rfl) rfl
theorem q2168 : (Jvm.Cond.fieldLink "RewriteHouseModel" (509 : Nat) "RewriteHouseModel" "equationCount" "I") ∈ lw_all := lw_g (lw_at lw_m8 149 rfl) rfl
theorem q2169 : (Jvm.Cond.fieldLink "RewriteHouseModel" (512 : Nat) "RewriteHouseModel" "ruleCount" "I") ∈ lw_all := lw_g (lw_at lw_m8 150 rfl) rfl
theorem q2170 : (Jvm.Cond.fieldLink "RewriteHouseModel" (602 : Nat) "RewriteHouseModel" "faultWhat" "I") ∈ lw_all := lw_g (lw_at lw_m8 151 rfl) rfl
theorem q2171 : (Jvm.Cond.fieldLink "RewriteHouseModel" (605 : Nat) "RewriteHouseModel" "faultAt" "I") ∈ lw_all := lw_g (lw_at lw_m8 152 rfl) rfl
theorem q2172 : (Jvm.Cond.fieldLink "RewriteHouseModel" (126 : Nat) "RewriteHouseModel" "sortName" "[I") ∈ lw_all := lw_g (lw_at lw_m8 153 rfl) rfl
theorem q2173 : (Jvm.Cond.fieldLink "RewriteHouseModel" (129 : Nat) "RewriteHouseModel" "above" "[I") ∈ lw_all := lw_g (lw_at lw_m8 154 rfl) rfl
theorem q2174 : (Jvm.Cond.fieldLink "RewriteHouseModel" (132 : Nat) "RewriteHouseModel" "kindOf" "[I") ∈ lw_all := lw_g (lw_at lw_m8 155 rfl) rfl
theorem q2175 : (Jvm.Cond.fieldLink "RewriteHouseModel" (631 : Nat) "RewriteHouseModel" "kinds" "I") ∈ lw_all := lw_g (lw_at lw_m8 156 rfl) rfl
theorem q2176 : (Jvm.Cond.fieldLink "RewriteHouseModel" (135 : Nat) "RewriteHouseModel" "varName" "[I") ∈ lw_all := lw_g (lw_at lw_m8 157 rfl) rfl
theorem q2177 : (Jvm.Cond.fieldLink "RewriteHouseModel" (138 : Nat) "RewriteHouseModel" "varSort" "[I") ∈ lw_all := lw_g (lw_at lw_m8 158 rfl) rfl
theorem q2178 : (Jvm.Cond.fieldLink "RewriteHouseModel" (141 : Nat) "RewriteHouseModel" "form" "[I") ∈ lw_all := lw_g (lw_at lw_m8 159 rfl) rfl
theorem q2179 : (Jvm.Cond.fieldLink "RewriteHouseModel" (144 : Nat) "RewriteHouseModel" "formSize" "[I") ∈ lw_all := lw_g (lw_at lw_m8 160 rfl) rfl
theorem q2180 : (Jvm.Cond.fieldLink "RewriteHouseModel" (147 : Nat) "RewriteHouseModel" "rowHoles" "[I") ∈ lw_all := lw_g (lw_at lw_m8 161 rfl) rfl
theorem q2181 : (Jvm.Cond.fieldLink "RewriteHouseModel" (150 : Nat) "RewriteHouseModel" "rowSort" "[I") ∈ lw_all := lw_g (lw_at lw_m8 162 rfl) rfl
theorem q2182 : (Jvm.Cond.fieldLink "RewriteHouseModel" (153 : Nat) "RewriteHouseModel" "rowResult" "[I") ∈ lw_all := lw_g (lw_at lw_m8 163 rfl) rfl
theorem q2183 : (Jvm.Cond.fieldLink "RewriteHouseModel" (156 : Nat) "RewriteHouseModel" "rowOp" "[I") ∈ lw_all := lw_g (lw_at lw_m8 164 rfl) rfl
theorem q2184 : (Jvm.Cond.fieldLink "RewriteHouseModel" (643 : Nat) "RewriteHouseModel" "ops" "I") ∈ lw_all := lw_g (lw_at lw_m8 165 rfl) rfl
theorem q2185 : (Jvm.Cond.fieldLink "RewriteHouseModel" (159 : Nat) "RewriteHouseModel" "opRow" "[I") ∈ lw_all := lw_g (lw_at lw_m8 166 rfl) rfl
theorem q2186 : (Jvm.Cond.fieldLink "RewriteHouseModel" (162 : Nat) "RewriteHouseModel" "opKind" "[I") ∈ lw_all := lw_g (lw_at lw_m8 167 rfl) rfl
theorem q2187 : (Jvm.Cond.fieldLink "RewriteHouseModel" (165 : Nat) "RewriteHouseModel" "opStrength" "[I") ∈ lw_all := lw_g (lw_at lw_m8 168 rfl) rfl
theorem q2188 : (Jvm.Cond.fieldLink "RewriteHouseModel" (168 : Nat) "RewriteHouseModel" "opAssoc" "[Z") ∈ lw_all := lw_g (lw_at lw_m8 169 rfl) rfl
theorem q2189 : (Jvm.Cond.fieldLink "RewriteHouseModel" (171 : Nat) "RewriteHouseModel" "opComm" "[Z") ∈ lw_all := lw_g (lw_at lw_m8 170 rfl) rfl
theorem q2190 : (Jvm.Cond.fieldLink "RewriteHouseModel" (174 : Nat) "RewriteHouseModel" "opId" "[I") ∈ lw_all := lw_g (lw_at lw_m8 171 rfl) rfl
theorem q2191 : (Jvm.Cond.fieldLink "RewriteHouseModel" (177 : Nat) "RewriteHouseModel" "opRows" "[I") ∈ lw_all := lw_g (lw_at lw_m8 172 rfl) rfl
theorem q2192 : (Jvm.Cond.fieldLink "RewriteHouseModel" (181 : Nat) "RewriteHouseModel" "nodeOp" "[I") ∈ lw_all := lw_g (lw_at lw_m8 173 rfl) rfl
theorem q2193 : (Jvm.Cond.fieldLink "RewriteHouseModel" (184 : Nat) "RewriteHouseModel" "nodeArgs" "[I") ∈ lw_all := lw_g (lw_at lw_m8 174 rfl) rfl
theorem q2194 : (Jvm.Cond.fieldLink "RewriteHouseModel" (187 : Nat) "RewriteHouseModel" "nodeCount" "[I") ∈ lw_all := lw_g (lw_at lw_m8 175 rfl) rfl
theorem q2195 : (Jvm.Cond.fieldLink "RewriteHouseModel" (190 : Nat) "RewriteHouseModel" "nodeSize" "[I") ∈ lw_all := lw_g (lw_at lw_m8 176 rfl) rfl
theorem q2196 : (Jvm.Cond.fieldLink "RewriteHouseModel" (193 : Nat) "RewriteHouseModel" "nodeSort" "[I") ∈ lw_all := lw_g (lw_at lw_m8 177 rfl) rfl
theorem q2197 : (Jvm.Cond.fieldLink "RewriteHouseModel" (196 : Nat) "RewriteHouseModel" "nodeNext" "[I") ∈ lw_all := lw_g (lw_at lw_m8 178 rfl) rfl
theorem q2198 : (Jvm.Cond.fieldLink "RewriteHouseModel" (199 : Nat) "RewriteHouseModel" "restAt" "[I") ∈ lw_all := lw_g (lw_at lw_m8 179 rfl) rfl
theorem q2199 : (Jvm.Cond.fieldLink "RewriteHouseModel" (202 : Nat) "RewriteHouseModel" "restCall" "[I") ∈ lw_all := lw_g (lw_at lw_m8 180 rfl) rfl
theorem q2200 : (Jvm.Cond.fieldLink "RewriteHouseModel" (206 : Nat) "RewriteHouseModel" "args" "[I") ∈ lw_all := lw_g (lw_at lw_m8 181 rfl) rfl
theorem q2201 : (Jvm.Cond.fieldLink "RewriteHouseModel" (210 : Nat) "RewriteHouseModel" "table" "[I") ∈ lw_all := lw_g (lw_at lw_m8 182 rfl) rfl
theorem q2202 : (Jvm.Cond.fieldLink "RewriteHouseModel" (664 : Nat) "RewriteHouseModel" "nodes" "I") ∈ lw_all := lw_g (lw_at lw_m8 183 rfl) rfl
theorem q2203 : (Jvm.Cond.fieldLink "RewriteHouseModel" (667 : Nat) "RewriteHouseModel" "argCount" "I") ∈ lw_all := lw_g (lw_at lw_m8 184 rfl) rfl
theorem q2204 : (Jvm.Cond.fieldLink "RewriteHouseModel" (213 : Nat) "RewriteHouseModel" "pile" "[I") ∈ lw_all := lw_g (lw_at lw_m8 185 rfl) rfl
theorem q2205 : (Jvm.Cond.fieldLink "RewriteHouseModel" (707 : Nat) "RewriteHouseModel" "piled" "I") ∈ lw_all := lw_g (lw_at lw_m8 186 rfl) rfl
theorem q2206 : (Jvm.Cond.fieldLink "RewriteHouseModel" (216 : Nat) "RewriteHouseModel" "wordName" "[I") ∈ lw_all := lw_g (lw_at lw_m8 187 rfl) rfl
theorem q2207 : (Jvm.Cond.fieldLink "RewriteHouseModel" (219 : Nat) "RewriteHouseModel" "wordVar" "[I") ∈ lw_all := lw_g (lw_at lw_m8 188 rfl) rfl
theorem q2208 : (Jvm.Cond.fieldLink "RewriteHouseModel" (223 : Nat) "RewriteHouseModel" "topOp" "[B") ∈ lw_all := lw_g (lw_at lw_m8 189 rfl) rfl
theorem q2209 : (Jvm.Cond.fieldLink "RewriteHouseModel" (226 : Nat) "RewriteHouseModel" "topAtom" "[B") ∈ lw_all := lw_g (lw_at lw_m8 190 rfl) rfl
theorem q2210 : (Jvm.Cond.fieldLink "RewriteHouseModel" (229 : Nat) "RewriteHouseModel" "rest" "[B") ∈ lw_all := lw_g (lw_at lw_m8 191 rfl) rfl
theorem q2211 : (Jvm.Cond.fieldLink "RewriteHouseModel" (741 : Nat) "RewriteHouseModel" "readWords" "I") ∈ lw_all := lw_g (lw_at lw_m8 192 rfl) rfl
theorem q2212 : (Jvm.Cond.fieldLink "RewriteHouseModel" (729 : Nat) "RewriteHouseModel" "openName" "I") ∈ lw_all := lw_g (lw_at lw_m8 193 rfl) rfl
theorem q2213 : (Jvm.Cond.fieldLink "RewriteHouseModel" (732 : Nat) "RewriteHouseModel" "closeName" "I") ∈ lw_all := lw_g (lw_at lw_m8 194 rfl) rfl
theorem q2214 : (Jvm.Cond.fieldLink "RewriteHouseModel" (766 : Nat) "RewriteHouseModel" "readFault" "I") ∈ lw_all := lw_g (lw_at lw_m8 195 rfl) rfl
theorem q2215 : (Jvm.Cond.fieldLink "RewriteHouseModel" (232 : Nat) "RewriteHouseModel" "stLeft" "[I") ∈ lw_all := lw_g (lw_at lw_m8 196 rfl) rfl
theorem q2216 : (Jvm.Cond.fieldLink "RewriteHouseModel" (235 : Nat) "RewriteHouseModel" "stRight" "[I") ∈ lw_all := lw_g (lw_at lw_m8 197 rfl) rfl
theorem q2217 : (Jvm.Cond.fieldLink "RewriteHouseModel" (238 : Nat) "RewriteHouseModel" "condLeft" "[I") ∈ lw_all := lw_g (lw_at lw_m8 198 rfl) rfl
theorem q2218 : (Jvm.Cond.fieldLink "RewriteHouseModel" (241 : Nat) "RewriteHouseModel" "condRight" "[I") ∈ lw_all := lw_g (lw_at lw_m8 199 rfl) rfl
theorem q2219 : (Jvm.Cond.fieldLink "RewriteHouseModel" (244 : Nat) "RewriteHouseModel" "condSort" "[I") ∈ lw_all := lw_g (lw_at lw_m8 200 rfl) rfl
theorem q2220 : (Jvm.Cond.fieldLink "RewriteHouseModel" (247 : Nat) "RewriteHouseModel" "stLabel" "[I") ∈ lw_all := lw_g (lw_at lw_m8 201 rfl) rfl
theorem q2221 : (Jvm.Cond.fieldLink "RewriteHouseModel" (794 : Nat) "RewriteHouseModel" "known" "J") ∈ lw_all := lw_g (lw_at lw_m8 202 rfl) rfl
theorem q2222 : (Jvm.Cond.fieldLink "RewriteHouseModel" (250 : Nat) "RewriteHouseModel" "handle" "[I") ∈ lw_all := lw_g (lw_at lw_m8 203 rfl) rfl
theorem q2223 : (Jvm.Cond.fieldLink "RewriteHouseModel" (769 : Nat) "RewriteHouseModel" "handles" "I") ∈ lw_all := lw_g (lw_at lw_m8 204 rfl) rfl
theorem q2224 : (Jvm.Cond.fieldLink "RewriteHouseModel" (253 : Nat) "RewriteHouseModel" "shown" "[B") ∈ lw_all := lw_g (lw_at lw_m8 205 rfl) rfl
theorem q2225 : (Jvm.Cond.fieldLink "RewriteHouseModel" (854 : Nat) "RewriteHouseModel" "shownSize" "I") ∈ lw_all := lw_g (lw_at lw_m8 206 rfl) rfl
theorem q2226 : (Jvm.Cond.fieldLink "RewriteHouseModel" (256 : Nat) "RewriteHouseModel" "goalKind" "[I") ∈ lw_all := lw_g (lw_at lw_m8 207 rfl) rfl
theorem q2227 : (Jvm.Cond.fieldLink "RewriteHouseModel" (259 : Nat) "RewriteHouseModel" "goalP" "[I") ∈ lw_all := lw_g (lw_at lw_m8 208 rfl) rfl
theorem q2228 : (Jvm.Cond.fieldLink "RewriteHouseModel" (262 : Nat) "RewriteHouseModel" "goalT" "[I") ∈ lw_all := lw_g (lw_at lw_m8 209 rfl) rfl
theorem q2229 : (Jvm.Cond.fieldLink "RewriteHouseModel" (265 : Nat) "RewriteHouseModel" "goalA" "[I") ∈ lw_all := lw_g (lw_at lw_m8 210 rfl) rfl
theorem q2230 : (Jvm.Cond.fieldLink "RewriteHouseModel" (268 : Nat) "RewriteHouseModel" "goalB" "[I") ∈ lw_all := lw_g (lw_at lw_m8 211 rfl) rfl
theorem q2231 : (Jvm.Cond.fieldLink "RewriteHouseModel" (271 : Nat) "RewriteHouseModel" "goalNext" "[I") ∈ lw_all := lw_g (lw_at lw_m8 212 rfl) rfl
theorem q2232 : (Jvm.Cond.fieldLink "RewriteHouseModel" (867 : Nat) "RewriteHouseModel" "goals" "I") ∈ lw_all := lw_g (lw_at lw_m8 213 rfl) rfl
theorem q2233 : (Jvm.Cond.fieldLink "RewriteHouseModel" (274 : Nat) "RewriteHouseModel" "boundTo" "[I") ∈ lw_all := lw_g (lw_at lw_m8 214 rfl) rfl
theorem q2234 : (Jvm.Cond.fieldLink "RewriteHouseModel" (278 : Nat) "RewriteHouseModel" "store" "[I") ∈ lw_all := lw_g (lw_at lw_m8 215 rfl) rfl
theorem q2235 : (Jvm.Cond.fieldLink "RewriteHouseModel" (955 : Nat) "RewriteHouseModel" "stored" "I") ∈ lw_all := lw_g (lw_at lw_m8 216 rfl) rfl
theorem q2236 : (Jvm.Cond.fieldLink "RewriteHouseModel" (916 : Nat) "RewriteHouseModel" "listFrom" "I") ∈ lw_all := lw_g (lw_at lw_m8 217 rfl) rfl
theorem q2237 : (Jvm.Cond.fieldLink "RewriteHouseModel" (928 : Nat) "RewriteHouseModel" "listCount" "I") ∈ lw_all := lw_g (lw_at lw_m8 218 rfl) rfl
theorem q2238 : (Jvm.Cond.fieldLink "RewriteHouseModel" (913 : Nat) "RewriteHouseModel" "listOp" "I") ∈ lw_all := lw_g (lw_at lw_m8 219 rfl) rfl
theorem q2239 : (Jvm.Cond.fieldLink "RewriteHouseModel" (919 : Nat) "RewriteHouseModel" "ahead" "I") ∈ lw_all := lw_g (lw_at lw_m8 220 rfl) rfl
theorem q2240 : (Jvm.Cond.fieldLink "RewriteHouseModel" (925 : Nat) "RewriteHouseModel" "behind" "I") ∈ lw_all := lw_g (lw_at lw_m8 221 rfl) rfl
theorem q2241 : (Jvm.Cond.fieldLink "RewriteHouseModel" (961 : Nat) "RewriteHouseModel" "matchersTold" "I") ∈ lw_all := lw_g (lw_at lw_m8 222 rfl) rfl
theorem q2242 : (Jvm.Cond.fieldLink "RewriteHouseModel" (970 : Nat) "RewriteHouseModel" "stepsDone" "I") ∈ lw_all := lw_g (lw_at lw_m8 223 rfl) rfl
theorem q2243 : (Jvm.Cond.fieldLink "RewriteHouseModel" (281 : Nat) "RewriteHouseModel" "callNumber" "I") ∈ lw_all := lw_g (lw_at lw_m8 224 rfl) rfl
theorem q2244 : (Jvm.Cond.fieldLink "RewriteHouseModel" (285 : Nat) "RewriteHouseModel" "dealsMost" "I") ∈ lw_all := lw_g (lw_at lw_m8 225 rfl) rfl
theorem q2245 : (Jvm.Cond.fieldLink "RewriteHouseModel" (952 : Nat) "RewriteHouseModel" "dealsTold" "J") ∈ lw_all := lw_g (lw_at lw_m8 226 rfl) rfl
theorem q2246 : (Jvm.Cond.fieldLink "RewriteHouseModel" (964 : Nat) "RewriteHouseModel" "filled" "I") ∈ lw_all := lw_g (lw_at lw_m8 227 rfl) rfl
theorem q2247 : (Jvm.Cond.fieldLink "RewriteHouseModel" (289 : Nat) "RewriteHouseModel" "cameBy" "[I") ∈ lw_all := lw_g (lw_at lw_m8 228 rfl) rfl
theorem q2248 : (Jvm.Cond.fieldLink "RewriteHouseModel" (973 : Nat) "RewriteHouseModel" "cameCount" "I") ∈ lw_all := lw_g (lw_at lw_m8 229 rfl) rfl
theorem q2249 : (Jvm.Cond.fieldLink "RewriteHouseModel" (293 : Nat) "RewriteHouseModel" "terms" "[I") ∈ lw_all := lw_g (lw_at lw_m8 230 rfl) rfl
theorem q2250 : (Jvm.Cond.fieldLink "RewriteHouseModel" (296 : Nat) "RewriteHouseModel" "ruleOf" "[I") ∈ lw_all := lw_g (lw_at lw_m8 231 rfl) rfl
theorem q2251 : (Jvm.Cond.fieldLink "RewriteHouseModel" (1016 : Nat) "RewriteHouseModel" "termTop" "I") ∈ lw_all := lw_g (lw_at lw_m8 232 rfl) rfl
theorem q2252 : (Jvm.Cond.fieldLink "RewriteHouseModel" (299 : Nat) "RewriteHouseModel" "path" "[I") ∈ lw_all := lw_g (lw_at lw_m8 233 rfl) rfl
theorem q2253 : (Jvm.Cond.fieldLink "RewriteHouseModel" (1019 : Nat) "RewriteHouseModel" "pathSize" "I") ∈ lw_all := lw_g (lw_at lw_m8 234 rfl) rfl
theorem q2254 : (Jvm.Cond.fieldLink "RewriteHouseModel" (302 : Nat) "RewriteHouseModel" "onPath" "[I") ∈ lw_all := lw_g (lw_at lw_m8 235 rfl) rfl
theorem q2255 : (Jvm.Cond.fieldLink "RewriteHouseModel" (772 : Nat) "RewriteHouseModel" "results" "I") ∈ lw_all := lw_g (lw_at lw_m8 236 rfl) rfl
theorem q2256 : (Jvm.Cond.fieldLink "RewriteHouseModel" (775 : Nat) "RewriteHouseModel" "resultKind" "I") ∈ lw_all := lw_g (lw_at lw_m8 237 rfl) rfl
theorem q2257 : (Jvm.Cond.fieldLink "RewriteHouseModel" (305 : Nat) "RewriteHouseModel" "result" "[I") ∈ lw_all := lw_g (lw_at lw_m8 238 rfl) rfl
theorem q2258 : (Jvm.Cond.fieldLink "RewriteHouseModel" (308 : Nat) "RewriteHouseModel" "matched" "[I") ∈ lw_all := lw_g (lw_at lw_m8 239 rfl) rfl
theorem q2259 : (Jvm.Cond.fieldLink "RewriteHouseModel" (311 : Nat) "RewriteHouseModel" "resultRule" "[I") ∈ lw_all := lw_g (lw_at lw_m9 0 rfl) rfl
theorem q2260 : (Jvm.Cond.fieldLink "RewriteHouseModel" (314 : Nat) "RewriteHouseModel" "resultFrom" "[I") ∈ lw_all := lw_g (lw_at lw_m9 1 rfl) rfl
theorem q2261 : (Jvm.Cond.fieldLink "RewriteHouseModel" (317 : Nat) "RewriteHouseModel" "resultFar" "[I") ∈ lw_all := lw_g (lw_at lw_m9 2 rfl) rfl
theorem q2262 : (Jvm.Cond.fieldLink "RewriteHouseModel" (320 : Nat) "RewriteHouseModel" "edgeFrom" "[I") ∈ lw_all := lw_g (lw_at lw_m9 3 rfl) rfl
theorem q2263 : (Jvm.Cond.fieldLink "RewriteHouseModel" (323 : Nat) "RewriteHouseModel" "edgeTo" "[I") ∈ lw_all := lw_g (lw_at lw_m9 4 rfl) rfl
theorem q2264 : (Jvm.Cond.fieldLink "RewriteHouseModel" (1070 : Nat) "RewriteHouseModel" "matchOp" "I") ∈ lw_all := lw_g (lw_at lw_m9 5 rfl) rfl
theorem q2265 : (Jvm.Cond.fieldLink "RewriteHouseModel" (778 : Nat) "RewriteHouseModel" "lastStop" "I") ∈ lw_all := lw_g (lw_at lw_m9 6 rfl) rfl
theorem q2266 : (Jvm.Cond.fieldLink "RewriteHouseModel" (781 : Nat) "RewriteHouseModel" "lastSteps" "I") ∈ lw_all := lw_g (lw_at lw_m9 7 rfl) rfl
theorem q2267 : (Jvm.Cond.fieldLink "RewriteHouseModel" (326 : Nat) "RewriteHouseModel" "newNumber" "[I") ∈ lw_all := lw_g (lw_at lw_m9 8 rfl) rfl
theorem q2268 : (Jvm.Cond.fieldLink "RewriteHouseModel" (329 : Nat) "RewriteHouseModel" "state" "[I") ∈ lw_all := lw_g (lw_at lw_m9 9 rfl) rfl
theorem q2269 : (Jvm.Cond.fieldLink "RewriteHouseModel" (332 : Nat) "RewriteHouseModel" "stateRule" "[I") ∈ lw_all := lw_g (lw_at lw_m9 10 rfl) rfl
theorem q2270 : (Jvm.Cond.fieldLink "RewriteHouseModel" (335 : Nat) "RewriteHouseModel" "stateFrom" "[I") ∈ lw_all := lw_g (lw_at lw_m9 11 rfl) rfl
theorem q2271 : (Jvm.Cond.fieldLink "RewriteHouseModel" (338 : Nat) "RewriteHouseModel" "stateFar" "[I") ∈ lw_all := lw_g (lw_at lw_m9 12 rfl) rfl
theorem q2272 : (Jvm.Cond.fieldLink "RewriteHouseModel" (341 : Nat) "RewriteHouseModel" "tryEdgeFrom" "[I") ∈ lw_all := lw_g (lw_at lw_m9 13 rfl) rfl
theorem q2273 : (Jvm.Cond.fieldLink "RewriteHouseModel" (344 : Nat) "RewriteHouseModel" "tryEdgeTo" "[I") ∈ lw_all := lw_g (lw_at lw_m9 14 rfl) rfl
theorem q2274 : (Jvm.Cond.fieldLink "RewriteHouseModel" (347 : Nat) "RewriteHouseModel" "isP" "[Z") ∈ lw_all := lw_g (lw_at lw_m9 15 rfl) rfl
theorem q2275 : (Jvm.Cond.fieldLink "RewriteHouseModel" (350 : Nat) "RewriteHouseModel" "isQ" "[Z") ∈ lw_all := lw_g (lw_at lw_m9 16 rfl) rfl
theorem q2276 : (Jvm.Cond.fieldLink "RewriteHouseModel" (353 : Nat) "RewriteHouseModel" "goes" "[Z") ∈ lw_all := lw_g (lw_at lw_m9 17 rfl) rfl
theorem q2277 : (Jvm.Cond.fieldLink "RewriteHouseModel" (356 : Nat) "RewriteHouseModel" "planKind" "[I") ∈ lw_all := lw_g (lw_at lw_m9 18 rfl) rfl
theorem q2278 : (Jvm.Cond.fieldLink "RewriteHouseModel" (359 : Nat) "RewriteHouseModel" "planA" "[I") ∈ lw_all := lw_g (lw_at lw_m9 19 rfl) rfl
theorem q2279 : (Jvm.Cond.fieldLink "RewriteHouseModel" (362 : Nat) "RewriteHouseModel" "planB" "[I") ∈ lw_all := lw_g (lw_at lw_m9 20 rfl) rfl
theorem q2280 : (Jvm.Cond.fieldLink "RewriteHouseModel" (1092 : Nat) "RewriteHouseModel" "plans" "I") ∈ lw_all := lw_g (lw_at lw_m9 21 rfl) rfl
theorem q2281 : (Jvm.Cond.fieldLink "RewriteHouseModel" (365 : Nat) "RewriteHouseModel" "tuple" "[I") ∈ lw_all := lw_g (lw_at lw_m9 22 rfl) rfl
theorem q2282 : (Jvm.Cond.fieldLink "RewriteHouseModel" (1148 : Nat) "RewriteHouseModel" "badOp" "I") ∈ lw_all := lw_g (lw_at lw_m9 23 rfl) rfl
theorem q2283 : (Jvm.Cond.fieldLink "RewriteHouseModel" (1151 : Nat) "RewriteHouseModel" "badCount" "I") ∈ lw_all := lw_g (lw_at lw_m9 24 rfl) rfl
theorem q2284 : (Jvm.Cond.fieldLink "RewriteHouseModel" (368 : Nat) "RewriteHouseModel" "memoS" "[I") ∈ lw_all := lw_g (lw_at lw_m9 25 rfl) rfl
theorem q2285 : (Jvm.Cond.fieldLink "RewriteHouseModel" (371 : Nat) "RewriteHouseModel" "memoT" "[I") ∈ lw_all := lw_g (lw_at lw_m9 26 rfl) rfl
theorem q2286 : (Jvm.Cond.fieldLink "RewriteHouseModel" (374 : Nat) "RewriteHouseModel" "memoIs" "[I") ∈ lw_all := lw_g (lw_at lw_m9 27 rfl) rfl
theorem q2287 : (Jvm.Cond.fieldLink "RewriteHouseModel" (1167 : Nat) "RewriteHouseModel" "memoRound" "I") ∈ lw_all := lw_g (lw_at lw_m9 28 rfl) rfl
theorem q2288 : (Jvm.Cond.fieldLink "RewriteHouseModel" (377 : Nat) "RewriteHouseModel" "memoOf" "[I") ∈ lw_all := lw_g (lw_at lw_m9 29 rfl) rfl
theorem q2289 : (Jvm.Cond.fieldLink "RewriteHouseModel" (380 : Nat) "RewriteHouseModel" "trail" "[I") ∈ lw_all := lw_g (lw_at lw_m9 30 rfl) rfl
theorem q2290 : (Jvm.Cond.fieldLink "RewriteHouseModel" (1199 : Nat) "RewriteHouseModel" "trailSize" "I") ∈ lw_all := lw_g (lw_at lw_m9 31 rfl) rfl
theorem q2291 : (Jvm.Cond.fieldLink "RewriteHouseModel" (383 : Nat) "RewriteHouseModel" "pairP" "[I") ∈ lw_all := lw_g (lw_at lw_m9 32 rfl) rfl
theorem q2292 : (Jvm.Cond.fieldLink "RewriteHouseModel" (386 : Nat) "RewriteHouseModel" "pairT" "[I") ∈ lw_all := lw_g (lw_at lw_m9 33 rfl) rfl
theorem q2293 : (Jvm.Cond.fieldLink "RewriteHouseModel" (389 : Nat) "RewriteHouseModel" "pairNext" "[I") ∈ lw_all := lw_g (lw_at lw_m9 34 rfl) rfl
theorem q2294 : (Jvm.Cond.fieldLink "RewriteHouseModel" (1205 : Nat) "RewriteHouseModel" "pairGoals" "I") ∈ lw_all := lw_g (lw_at lw_m9 35 rfl) rfl
theorem q2295 : (Jvm.Cond.fieldLink "RewriteHouseModel" (392 : Nat) "RewriteHouseModel" "value" "[I") ∈ lw_all := lw_g (lw_at lw_m9 36 rfl) rfl
theorem q2296 : (Jvm.Cond.fieldLink "RewriteHouseModel" (1244 : Nat) "RewriteHouseModel" "pairsFound" "I") ∈ lw_all := lw_g (lw_at lw_m9 37 rfl) rfl
theorem q2297 : (Jvm.Cond.fieldLink "RewriteHouseModel" (1259 : Nat) "RewriteHouseModel" "pairsApart" "I") ∈ lw_all := lw_g (lw_at lw_m9 38 rfl) rfl
theorem q2298 : (Jvm.Cond.fieldLink "RewriteHouseModel" (1238 : Nat) "RewriteHouseModel" "pairsOpen" "I") ∈ lw_all := lw_g (lw_at lw_m9 39 rfl) rfl
theorem q2299 : (Jvm.Cond.fieldLink "RewriteHouseModel" (1262 : Nat) "RewriteHouseModel" "wantedApart" "I") ∈ lw_all := lw_g (lw_at lw_m9 40 rfl) rfl
theorem q2300 : (Jvm.Cond.fieldLink "RewriteHouseModel" (1268 : Nat) "RewriteHouseModel" "pairI" "I") ∈ lw_all := lw_g (lw_at lw_m9 41 rfl) rfl
theorem q2301 : (Jvm.Cond.fieldLink "RewriteHouseModel" (1274 : Nat) "RewriteHouseModel" "pairJ" "I") ∈ lw_all := lw_g (lw_at lw_m9 42 rfl) rfl
theorem q2302 : (Jvm.Cond.fieldLink "RewriteHouseModel" (1058 : Nat) "RewriteHouseModel" "pairOne" "I") ∈ lw_all := lw_g (lw_at lw_m9 43 rfl) rfl
theorem q2303 : (Jvm.Cond.fieldLink "RewriteHouseModel" (1061 : Nat) "RewriteHouseModel" "pairTwo" "I") ∈ lw_all := lw_g (lw_at lw_m9 44 rfl) rfl
theorem q2304 : (Jvm.Cond.fieldLink "RewriteHouseModel" (1265 : Nat) "RewriteHouseModel" "overI" "I") ∈ lw_all := lw_g (lw_at lw_m9 45 rfl) rfl
theorem q2305 : (Jvm.Cond.fieldLink "RewriteHouseModel" (1271 : Nat) "RewriteHouseModel" "overJ" "I") ∈ lw_all := lw_g (lw_at lw_m9 46 rfl) rfl
theorem q2306 : (Jvm.Cond.fieldLink "RewriteHouseModel" (1253 : Nat) "RewriteHouseModel" "overRoot" "I") ∈ lw_all := lw_g (lw_at lw_m9 47 rfl) rfl
theorem q2307 : (Jvm.Cond.fieldLink "RewriteHouseModel" (1256 : Nat) "RewriteHouseModel" "overPart" "I") ∈ lw_all := lw_g (lw_at lw_m9 48 rfl) rfl
theorem q2308 : (Jvm.Cond.fieldLink "RewriteHouseModel" (1250 : Nat) "RewriteHouseModel" "overRight" "I") ∈ lw_all := lw_g (lw_at lw_m9 49 rfl) rfl
theorem q2309 : (Jvm.Cond.fieldLink "RewriteHouseModel" (1211 : Nat) "RewriteHouseModel" "twos" "I") ∈ lw_all := lw_g (lw_at lw_m9 50 rfl) rfl
theorem q2310 : (Jvm.Cond.fieldLink "RewriteHouseModel" (1277 : Nat) "RewriteHouseModel" "floor" "I") ∈ lw_all := lw_g (lw_at lw_m9 51 rfl) rfl
theorem q2311 : (Jvm.Cond.fieldLink "RewriteHouseModel" (1054 : Nat) "RewriteHouseModel" "pairKept" "Z") ∈ lw_all := lw_g (lw_at lw_m9 52 rfl) rfl
theorem q2312 : (Jvm.Cond.lays "RewriteHouseModel" "RewriteHouseModel" "thrown" "I") ∈ lw_all := lw_g (lw_at lw_m9 53 rfl) rfl
theorem q2313 : (Jvm.Cond.soleField "RewriteHouseModel" "thrown") ∈ lw_all := lw_g (lw_at lw_m9 54 rfl) rfl
theorem q2314 : (Jvm.Cond.laysFinal "RewriteHouseModel" "RewriteHouseModel" "stop" "LRewriteHouseModel$Stop;") ∈ lw_all := lw_g (lw_at lw_m9 55 rfl) rfl
theorem q2315 : (Jvm.Cond.soleField "RewriteHouseModel" "stop") ∈ lw_all := lw_g (lw_at lw_m9 56 rfl) rfl
theorem q2316 : (Jvm.Cond.laysFinal "RewriteHouseModel" "RewriteHouseModel" "tape" "[B") ∈ lw_all := lw_g (lw_at lw_m9 57 rfl) rfl
theorem q2317 : (Jvm.Cond.soleField "RewriteHouseModel" "tape") ∈ lw_all := lw_g (lw_at lw_m9 58 rfl) rfl
theorem q2318 : (Jvm.Cond.lays "RewriteHouseModel" "RewriteHouseModel" "tapeSize" "I") ∈ lw_all := lw_g (lw_at lw_m9 59 rfl) rfl
theorem q2319 : (Jvm.Cond.soleField "RewriteHouseModel" "tapeSize") ∈ lw_all := lw_g (lw_at lw_m9 60 rfl) rfl
theorem q2320 : (Jvm.Cond.laysFinal "RewriteHouseModel" "RewriteHouseModel" "text" "[B") ∈ lw_all := lw_g (lw_at lw_m9 61 rfl) rfl
theorem q2321 : (Jvm.Cond.soleField "RewriteHouseModel" "text") ∈ lw_all := lw_g (lw_at lw_m9 62 rfl) rfl
theorem q2322 : (Jvm.Cond.lays "RewriteHouseModel" "RewriteHouseModel" "textSize" "I") ∈ lw_all := lw_g (lw_at lw_m9 63 rfl) rfl
theorem q2323 : (Jvm.Cond.soleField "RewriteHouseModel" "textSize") ∈ lw_all := lw_g (lw_at lw_m9 64 rfl) rfl
theorem q2324 : (Jvm.Cond.laysFinal "RewriteHouseModel" "RewriteHouseModel" "wordAt" "[I") ∈ lw_all := lw_g (lw_at lw_m9 65 rfl) rfl
theorem q2325 : (Jvm.Cond.soleField "RewriteHouseModel" "wordAt") ∈ lw_all := lw_g (lw_at lw_m9 66 rfl) rfl
theorem q2326 : (Jvm.Cond.laysFinal "RewriteHouseModel" "RewriteHouseModel" "wordSize" "[I") ∈ lw_all := lw_g (lw_at lw_m9 67 rfl) rfl
theorem q2327 : (Jvm.Cond.soleField "RewriteHouseModel" "wordSize") ∈ lw_all := lw_g (lw_at lw_m9 68 rfl) rfl
theorem q2328 : (Jvm.Cond.lays "RewriteHouseModel" "RewriteHouseModel" "words" "I") ∈ lw_all := lw_g (lw_at lw_m9 69 rfl) rfl
theorem q2329 : (Jvm.Cond.soleField "RewriteHouseModel" "words") ∈ lw_all := lw_g (lw_at lw_m9 70 rfl) rfl
theorem q2330 : (Jvm.Cond.lays "RewriteHouseModel" "RewriteHouseModel" "badAt" "I") ∈ lw_all := lw_g (lw_at lw_m9 71 rfl) rfl
theorem q2331 : (Jvm.Cond.soleField "RewriteHouseModel" "badAt") ∈ lw_all := lw_g (lw_at lw_m9 72 rfl) rfl
theorem q2332 : (Jvm.Cond.lays "RewriteHouseModel" "RewriteHouseModel" "at" "I") ∈ lw_all := lw_g (lw_at lw_m9 73 rfl) rfl
theorem q2333 : (Jvm.Cond.soleField "RewriteHouseModel" "at") ∈ lw_all := lw_g (lw_at lw_m9 74 rfl) rfl
theorem q2334 : (Jvm.Cond.lays "RewriteHouseModel" "RewriteHouseModel" "most" "I") ∈ lw_all := lw_g (lw_at lw_m9 75 rfl) rfl
theorem q2335 : (Jvm.Cond.soleField "RewriteHouseModel" "most") ∈ lw_all := lw_g (lw_at lw_m9 76 rfl) rfl
theorem q2336 : (Jvm.Cond.lays "RewriteHouseModel" "RewriteHouseModel" "faultPlace" "I") ∈ lw_all := lw_g (lw_at lw_m9 77 rfl) rfl
theorem q2337 : (Jvm.Cond.soleField "RewriteHouseModel" "faultPlace") ∈ lw_all := lw_g (lw_at lw_m9 78 rfl) rfl
theorem q2338 : (Jvm.Cond.lays "RewriteHouseModel" "RewriteHouseModel" "faultLine" "I") ∈ lw_all := lw_g (lw_at lw_m9 79 rfl) rfl
theorem q2339 : (Jvm.Cond.soleField "RewriteHouseModel" "faultLine") ∈ lw_all := lw_g (lw_at lw_m9 80 rfl) rfl
theorem q2340 : (Jvm.Cond.laysFinal "RewriteHouseModel" "RewriteHouseModel" "names" "[B") ∈ lw_all := lw_g (lw_at lw_m9 81 rfl) rfl
theorem q2341 : (Jvm.Cond.soleField "RewriteHouseModel" "names") ∈ lw_all := lw_g (lw_at lw_m9 82 rfl) rfl
theorem q2342 : (Jvm.Cond.laysFinal "RewriteHouseModel" "RewriteHouseModel" "nameSize" "[I") ∈ lw_all := lw_g (lw_at lw_m9 83 rfl) rfl
theorem q2343 : (Jvm.Cond.soleField "RewriteHouseModel" "nameSize") ∈ lw_all := lw_g (lw_at lw_m9 84 rfl) rfl
theorem q2344 : (Jvm.Cond.lays "RewriteHouseModel" "RewriteHouseModel" "nameCount" "I") ∈ lw_all := lw_g (lw_at lw_m9 85 rfl) rfl
theorem q2345 : (Jvm.Cond.soleField "RewriteHouseModel" "nameCount") ∈ lw_all := lw_g (lw_at lw_m9 86 rfl) rfl
theorem q2346 : (Jvm.Cond.laysFinal "RewriteHouseModel" "RewriteHouseModel" "sortWord" "[I") ∈ lw_all := lw_g (lw_at lw_m9 87 rfl) rfl
theorem q2347 : (Jvm.Cond.soleField "RewriteHouseModel" "sortWord") ∈ lw_all := lw_g (lw_at lw_m9 88 rfl) rfl
theorem q2348 : (Jvm.Cond.lays "RewriteHouseModel" "RewriteHouseModel" "sorts" "I") ∈ lw_all := lw_g (lw_at lw_m9 89 rfl) rfl
theorem q2349 : (Jvm.Cond.soleField "RewriteHouseModel" "sorts") ∈ lw_all := lw_g (lw_at lw_m9 90 rfl) rfl
theorem q2350 : (Jvm.Cond.laysFinal "RewriteHouseModel" "RewriteHouseModel" "orders" "[I") ∈ lw_all := lw_g (lw_at lw_m9 91 rfl) rfl
theorem q2351 : (Jvm.Cond.soleField "RewriteHouseModel" "orders") ∈ lw_all := lw_g (lw_at lw_m9 92 rfl) rfl
theorem q2352 : (Jvm.Cond.lays "RewriteHouseModel" "RewriteHouseModel" "orderCount" "I") ∈ lw_all := lw_g (lw_at lw_m9 93 rfl) rfl
theorem q2353 : (Jvm.Cond.soleField "RewriteHouseModel" "orderCount") ∈ lw_all := lw_g (lw_at lw_m9 94 rfl) rfl
theorem q2354 : (Jvm.Cond.laysFinal "RewriteHouseModel" "RewriteHouseModel" "varWord" "[I") ∈ lw_all := lw_g (lw_at lw_m9 95 rfl) rfl
theorem q2355 : (Jvm.Cond.soleField "RewriteHouseModel" "varWord") ∈ lw_all := lw_g (lw_at lw_m9 96 rfl) rfl
theorem q2356 : (Jvm.Cond.laysFinal "RewriteHouseModel" "RewriteHouseModel" "varSortWord" "[I") ∈ lw_all := lw_g (lw_at lw_m9 97 rfl) rfl
theorem q2357 : (Jvm.Cond.soleField "RewriteHouseModel" "varSortWord") ∈ lw_all := lw_g (lw_at lw_m9 98 rfl) rfl
theorem q2358 : (Jvm.Cond.lays "RewriteHouseModel" "RewriteHouseModel" "vars" "I") ∈ lw_all := lw_g (lw_at lw_m9 99 rfl) rfl
theorem q2359 : (Jvm.Cond.soleField "RewriteHouseModel" "vars") ∈ lw_all := lw_g (lw_at lw_m9 100 rfl) rfl
theorem q2360 : (Jvm.Cond.laysFinal "RewriteHouseModel" "RewriteHouseModel" "rowPlace" "[I") ∈ lw_all := lw_g (lw_at lw_m9 101 rfl) rfl
theorem q2361 : (Jvm.Cond.soleField "RewriteHouseModel" "rowPlace") ∈ lw_all := lw_g (lw_at lw_m9 102 rfl) rfl
theorem q2362 : (Jvm.Cond.laysFinal "RewriteHouseModel" "RewriteHouseModel" "rowFormWord" "[I") ∈ lw_all := lw_g (lw_at lw_m9 103 rfl) rfl
theorem q2363 : (Jvm.Cond.soleField "RewriteHouseModel" "rowFormWord") ∈ lw_all := lw_g (lw_at lw_m9 104 rfl) rfl
theorem q2364 : (Jvm.Cond.laysFinal "RewriteHouseModel" "RewriteHouseModel" "rowFormWords" "[I") ∈ lw_all := lw_g (lw_at lw_m9 105 rfl) rfl
theorem q2365 : (Jvm.Cond.soleField "RewriteHouseModel" "rowFormWords") ∈ lw_all := lw_g (lw_at lw_m9 106 rfl) rfl
theorem q2366 : (Jvm.Cond.laysFinal "RewriteHouseModel" "RewriteHouseModel" "rowSortWords" "[I") ∈ lw_all := lw_g (lw_at lw_m9 107 rfl) rfl
theorem q2367 : (Jvm.Cond.soleField "RewriteHouseModel" "rowSortWords") ∈ lw_all := lw_g (lw_at lw_m9 108 rfl) rfl
theorem q2368 : (Jvm.Cond.laysFinal "RewriteHouseModel" "RewriteHouseModel" "rowSortWord" "[I") ∈ lw_all := lw_g (lw_at lw_m9 109 rfl) rfl
theorem q2369 : (Jvm.Cond.soleField "RewriteHouseModel" "rowSortWord") ∈ lw_all := lw_g (lw_at lw_m9 110 rfl) rfl
theorem q2370 : (Jvm.Cond.laysFinal "RewriteHouseModel" "RewriteHouseModel" "rowResultWord" "[I") ∈ lw_all := lw_g (lw_at lw_m9 111 rfl) rfl
theorem q2371 : (Jvm.Cond.soleField "RewriteHouseModel" "rowResultWord") ∈ lw_all := lw_g (lw_at lw_m9 112 rfl) rfl
theorem q2372 : (Jvm.Cond.laysFinal "RewriteHouseModel" "RewriteHouseModel" "rowAssoc" "[Z") ∈ lw_all := lw_g (lw_at lw_m9 113 rfl) rfl
theorem q2373 : (Jvm.Cond.soleField "RewriteHouseModel" "rowAssoc") ∈ lw_all := lw_g (lw_at lw_m9 114 rfl) rfl
theorem q2374 : (Jvm.Cond.laysFinal "RewriteHouseModel" "RewriteHouseModel" "rowComm" "[Z") ∈ lw_all := lw_g (lw_at lw_m9 115 rfl) rfl
theorem q2375 : (Jvm.Cond.soleField "RewriteHouseModel" "rowComm") ∈ lw_all := lw_g (lw_at lw_m9 116 rfl) rfl
theorem q2376 : (Jvm.Cond.laysFinal "RewriteHouseModel" "RewriteHouseModel" "rowIdWord" "[I") ∈ lw_all := lw_g (lw_at lw_m9 117 rfl) rfl
theorem q2377 : (Jvm.Cond.soleField "RewriteHouseModel" "rowIdWord") ∈ lw_all := lw_g (lw_at lw_m9 118 rfl) rfl
theorem q2378 : (Jvm.Cond.laysFinal "RewriteHouseModel" "RewriteHouseModel" "rowPrec" "[I") ∈ lw_all := lw_g (lw_at lw_m9 119 rfl) rfl
theorem q2379 : (Jvm.Cond.soleField "RewriteHouseModel" "rowPrec") ∈ lw_all := lw_g (lw_at lw_m9 120 rfl) rfl
theorem q2380 : (Jvm.Cond.laysFinal "RewriteHouseModel" "RewriteHouseModel" "rowLetters" "[I") ∈ lw_all := lw_g (lw_at lw_m9 121 rfl) rfl
theorem q2381 : (Jvm.Cond.soleField "RewriteHouseModel" "rowLetters") ∈ lw_all := lw_g (lw_at lw_m9 122 rfl) rfl
theorem q2382 : (Jvm.Cond.laysFinal "RewriteHouseModel" "RewriteHouseModel" "rowLetter" "[I") ∈ lw_all := lw_g (lw_at lw_m9 123 rfl) rfl
theorem q2383 : (Jvm.Cond.soleField "RewriteHouseModel" "rowLetter") ∈ lw_all := lw_g (lw_at lw_m9 124 rfl) rfl
theorem q2384 : (Jvm.Cond.laysFinal "RewriteHouseModel" "RewriteHouseModel" "rowTwice" "[Z") ∈ lw_all := lw_g (lw_at lw_m9 125 rfl) rfl
theorem q2385 : (Jvm.Cond.soleField "RewriteHouseModel" "rowTwice") ∈ lw_all := lw_g (lw_at lw_m9 126 rfl) rfl
theorem q2386 : (Jvm.Cond.lays "RewriteHouseModel" "RewriteHouseModel" "rows" "I") ∈ lw_all := lw_g (lw_at lw_m9 127 rfl) rfl
theorem q2387 : (Jvm.Cond.soleField "RewriteHouseModel" "rows") ∈ lw_all := lw_g (lw_at lw_m9 128 rfl) rfl
theorem q2388 : (Jvm.Cond.laysFinal "RewriteHouseModel" "RewriteHouseModel" "stKind" "[I") ∈ lw_all := lw_g (lw_at lw_m9 129 rfl) rfl
theorem q2389 : (Jvm.Cond.soleField "RewriteHouseModel" "stKind") ∈ lw_all := lw_g (lw_at lw_m9 130 rfl) rfl
theorem q2390 : (Jvm.Cond.laysFinal "RewriteHouseModel" "RewriteHouseModel" "stLabelWord" "[I") ∈ lw_all := lw_g (lw_at lw_m9 131 rfl) rfl
theorem q2391 : (Jvm.Cond.soleField "RewriteHouseModel" "stLabelWord") ∈ lw_all := lw_g (lw_at lw_m9 132 rfl) rfl
theorem q2392 : (Jvm.Cond.laysFinal "RewriteHouseModel" "RewriteHouseModel" "stTerm" "[I") ∈ lw_all := lw_g (lw_at lw_m9 133 rfl) rfl
theorem q2393 : (Jvm.Cond.soleField "RewriteHouseModel" "stTerm") ∈ lw_all := lw_g (lw_at lw_m9 134 rfl) rfl
theorem q2394 : (Jvm.Cond.laysFinal "RewriteHouseModel" "RewriteHouseModel" "stWords" "[I") ∈ lw_all := lw_g (lw_at lw_m9 135 rfl) rfl
theorem q2395 : (Jvm.Cond.soleField "RewriteHouseModel" "stWords") ∈ lw_all := lw_g (lw_at lw_m9 136 rfl) rfl
theorem q2396 : (Jvm.Cond.laysFinal "RewriteHouseModel" "RewriteHouseModel" "condKind" "[I") ∈ lw_all := lw_g (lw_at lw_m9 137 rfl) rfl
theorem q2397 : (Jvm.Cond.soleField "RewriteHouseModel" "condKind") ∈ lw_all := lw_g (lw_at lw_m9 138 rfl) rfl
theorem q2398 : (Jvm.Cond.laysFinal "RewriteHouseModel" "RewriteHouseModel" "condSortWord" "[I") ∈ lw_all := lw_g (lw_at lw_m9 139 rfl) rfl
theorem q2399 : (Jvm.Cond.soleField "RewriteHouseModel" "condSortWord") ∈ lw_all := lw_g (lw_at lw_m9 140 rfl) rfl
theorem q2400 : (Jvm.Cond.laysFinal "RewriteHouseModel" "RewriteHouseModel" "stConds" "[I") ∈ lw_all := lw_g (lw_at lw_m9 141 rfl) rfl
theorem q2401 : (Jvm.Cond.soleField "RewriteHouseModel" "stConds") ∈ lw_all := lw_g (lw_at lw_m9 142 rfl) rfl
theorem q2402 : (Jvm.Cond.lays "RewriteHouseModel" "RewriteHouseModel" "statements" "I") ∈ lw_all := lw_g (lw_at lw_m9 143 rfl) rfl
theorem q2403 : (Jvm.Cond.soleField "RewriteHouseModel" "statements") ∈ lw_all := lw_g (lw_at lw_m9 144 rfl) rfl
theorem q2404 : (Jvm.Cond.lays "RewriteHouseModel" "RewriteHouseModel" "equationCount" "I") ∈ lw_all := lw_g (lw_at lw_m9 145 rfl) rfl
theorem q2405 : (Jvm.Cond.soleField "RewriteHouseModel" "equationCount") ∈ lw_all := lw_g (lw_at lw_m9 146 rfl) rfl
theorem q2406 : (Jvm.Cond.lays "RewriteHouseModel" "RewriteHouseModel" "ruleCount" "I") ∈ lw_all := lw_g (lw_at lw_m9 147 rfl) rfl
theorem q2407 : (Jvm.Cond.soleField "RewriteHouseModel" "ruleCount") ∈ lw_all := lw_g (lw_at lw_m9 148 rfl) rfl
theorem q2408 : (Jvm.Cond.lays "RewriteHouseModel" "RewriteHouseModel" "faultWhat" "I") ∈ lw_all := lw_g (lw_at lw_m9 149 rfl) rfl
theorem q2409 : (Jvm.Cond.soleField "RewriteHouseModel" "faultWhat") ∈ lw_all := lw_g (lw_at lw_m9 150 rfl) rfl
theorem q2410 : (Jvm.Cond.lays "RewriteHouseModel" "RewriteHouseModel" "faultAt" "I") ∈ lw_all := lw_g (lw_at lw_m9 151 rfl) rfl
theorem q2411 : (Jvm.Cond.soleField "RewriteHouseModel" "faultAt") ∈ lw_all := lw_g (lw_at lw_m9 152 rfl) rfl
theorem q2412 : (Jvm.Cond.laysFinal "RewriteHouseModel" "RewriteHouseModel" "sortName" "[I") ∈ lw_all := lw_g (lw_at lw_m9 153 rfl) rfl
theorem q2413 : (Jvm.Cond.soleField "RewriteHouseModel" "sortName") ∈ lw_all := lw_g (lw_at lw_m9 154 rfl) rfl
theorem q2414 : (Jvm.Cond.laysFinal "RewriteHouseModel" "RewriteHouseModel" "above" "[I") ∈ lw_all := lw_g (lw_at lw_m9 155 rfl) rfl
theorem q2415 : (Jvm.Cond.soleField "RewriteHouseModel" "above") ∈ lw_all := lw_g (lw_at lw_m9 156 rfl) rfl
theorem q2416 : (Jvm.Cond.laysFinal "RewriteHouseModel" "RewriteHouseModel" "kindOf" "[I") ∈ lw_all := lw_g (lw_at lw_m9 157 rfl) rfl
theorem q2417 : (Jvm.Cond.soleField "RewriteHouseModel" "kindOf") ∈ lw_all := lw_g (lw_at lw_m9 158 rfl) rfl
theorem q2418 : (Jvm.Cond.lays "RewriteHouseModel" "RewriteHouseModel" "kinds" "I") ∈ lw_all := lw_g (lw_at lw_m9 159 rfl) rfl
theorem q2419 : (Jvm.Cond.soleField "RewriteHouseModel" "kinds") ∈ lw_all := lw_g (lw_at lw_m9 160 rfl) rfl
theorem q2420 : (Jvm.Cond.laysFinal "RewriteHouseModel" "RewriteHouseModel" "varName" "[I") ∈ lw_all := lw_g (lw_at lw_m9 161 rfl) rfl
theorem q2421 : (Jvm.Cond.soleField "RewriteHouseModel" "varName") ∈ lw_all := lw_g (lw_at lw_m9 162 rfl) rfl
theorem q2422 : (Jvm.Cond.laysFinal "RewriteHouseModel" "RewriteHouseModel" "varSort" "[I") ∈ lw_all := lw_g (lw_at lw_m9 163 rfl) rfl
theorem q2423 : (Jvm.Cond.soleField "RewriteHouseModel" "varSort") ∈ lw_all := lw_g (lw_at lw_m9 164 rfl) rfl
theorem q2424 : (Jvm.Cond.laysFinal "RewriteHouseModel" "RewriteHouseModel" "form" "[I") ∈ lw_all := lw_g (lw_at lw_m9 165 rfl) rfl
theorem q2425 : (Jvm.Cond.soleField "RewriteHouseModel" "form") ∈ lw_all := lw_g (lw_at lw_m9 166 rfl) rfl
theorem q2426 : (Jvm.Cond.laysFinal "RewriteHouseModel" "RewriteHouseModel" "formSize" "[I") ∈ lw_all := lw_g (lw_at lw_m9 167 rfl) rfl
theorem q2427 : (Jvm.Cond.soleField "RewriteHouseModel" "formSize") ∈ lw_all := lw_g (lw_at lw_m9 168 rfl) rfl
theorem q2428 : (Jvm.Cond.laysFinal "RewriteHouseModel" "RewriteHouseModel" "rowHoles" "[I") ∈ lw_all := lw_g (lw_at lw_m9 169 rfl) rfl
theorem q2429 : (Jvm.Cond.soleField "RewriteHouseModel" "rowHoles") ∈ lw_all := lw_g (lw_at lw_m9 170 rfl) rfl
theorem q2430 : (Jvm.Cond.laysFinal "RewriteHouseModel" "RewriteHouseModel" "rowSort" "[I") ∈ lw_all := lw_g (lw_at lw_m9 171 rfl) rfl
theorem q2431 : (Jvm.Cond.soleField "RewriteHouseModel" "rowSort") ∈ lw_all := lw_g (lw_at lw_m9 172 rfl) rfl
theorem q2432 : (Jvm.Cond.laysFinal "RewriteHouseModel" "RewriteHouseModel" "rowResult" "[I") ∈ lw_all := lw_g (lw_at lw_m9 173 rfl) rfl
theorem q2433 : (Jvm.Cond.soleField "RewriteHouseModel" "rowResult") ∈ lw_all := lw_g (lw_at lw_m9 174 rfl) rfl
theorem q2434 : (Jvm.Cond.laysFinal "RewriteHouseModel" "RewriteHouseModel" "rowOp" "[I") ∈ lw_all := lw_g (lw_at lw_m9 175 rfl) rfl
theorem q2435 : (Jvm.Cond.soleField "RewriteHouseModel" "rowOp") ∈ lw_all := lw_g (lw_at lw_m9 176 rfl) rfl
theorem q2436 : (Jvm.Cond.lays "RewriteHouseModel" "RewriteHouseModel" "ops" "I") ∈ lw_all := lw_g (lw_at lw_m9 177 rfl) rfl
theorem q2437 : (Jvm.Cond.soleField "RewriteHouseModel" "ops") ∈ lw_all := lw_g (lw_at lw_m9 178 rfl) rfl
theorem q2438 : (Jvm.Cond.laysFinal "RewriteHouseModel" "RewriteHouseModel" "opRow" "[I") ∈ lw_all := lw_g (lw_at lw_m9 179 rfl) rfl
theorem q2439 : (Jvm.Cond.soleField "RewriteHouseModel" "opRow") ∈ lw_all := lw_g (lw_at lw_m9 180 rfl) rfl
theorem q2440 : (Jvm.Cond.laysFinal "RewriteHouseModel" "RewriteHouseModel" "opKind" "[I") ∈ lw_all := lw_g (lw_at lw_m9 181 rfl) rfl
theorem q2441 : (Jvm.Cond.soleField "RewriteHouseModel" "opKind") ∈ lw_all := lw_g (lw_at lw_m9 182 rfl) rfl
theorem q2442 : (Jvm.Cond.laysFinal "RewriteHouseModel" "RewriteHouseModel" "opStrength" "[I") ∈ lw_all := lw_g (lw_at lw_m9 183 rfl) rfl
theorem q2443 : (Jvm.Cond.soleField "RewriteHouseModel" "opStrength") ∈ lw_all := lw_g (lw_at lw_m9 184 rfl) rfl
theorem q2444 : (Jvm.Cond.laysFinal "RewriteHouseModel" "RewriteHouseModel" "opAssoc" "[Z") ∈ lw_all := lw_g (lw_at lw_m9 185 rfl) rfl
theorem q2445 : (Jvm.Cond.soleField "RewriteHouseModel" "opAssoc") ∈ lw_all := lw_g (lw_at lw_m9 186 rfl) rfl
theorem q2446 : (Jvm.Cond.laysFinal "RewriteHouseModel" "RewriteHouseModel" "opComm" "[Z") ∈ lw_all := lw_g (lw_at lw_m9 187 rfl) rfl
theorem q2447 : (Jvm.Cond.soleField "RewriteHouseModel" "opComm") ∈ lw_all := lw_g (lw_at lw_m9 188 rfl) rfl
theorem q2448 : (Jvm.Cond.laysFinal "RewriteHouseModel" "RewriteHouseModel" "opId" "[I") ∈ lw_all := lw_g (lw_at lw_m9 189 rfl) rfl
theorem q2449 : (Jvm.Cond.soleField "RewriteHouseModel" "opId") ∈ lw_all := lw_g (lw_at lw_m9 190 rfl) rfl
theorem q2450 : (Jvm.Cond.laysFinal "RewriteHouseModel" "RewriteHouseModel" "opRows" "[I") ∈ lw_all := lw_g (lw_at lw_m9 191 rfl) rfl
theorem q2451 : (Jvm.Cond.soleField "RewriteHouseModel" "opRows") ∈ lw_all := lw_g (lw_at lw_m9 192 rfl) rfl
theorem q2452 : (Jvm.Cond.laysFinal "RewriteHouseModel" "RewriteHouseModel" "nodeOp" "[I") ∈ lw_all := lw_g (lw_at lw_m9 193 rfl) rfl
theorem q2453 : (Jvm.Cond.soleField "RewriteHouseModel" "nodeOp") ∈ lw_all := lw_g (lw_at lw_m9 194 rfl) rfl
theorem q2454 : (Jvm.Cond.laysFinal "RewriteHouseModel" "RewriteHouseModel" "nodeArgs" "[I") ∈ lw_all := lw_g (lw_at lw_m9 195 rfl) rfl
theorem q2455 : (Jvm.Cond.soleField "RewriteHouseModel" "nodeArgs") ∈ lw_all := lw_g (lw_at lw_m9 196 rfl) rfl
theorem q2456 : (Jvm.Cond.laysFinal "RewriteHouseModel" "RewriteHouseModel" "nodeCount" "[I") ∈ lw_all := lw_g (lw_at lw_m9 197 rfl) rfl
theorem q2457 : (Jvm.Cond.soleField "RewriteHouseModel" "nodeCount") ∈ lw_all := lw_g (lw_at lw_m9 198 rfl) rfl
theorem q2458 : (Jvm.Cond.laysFinal "RewriteHouseModel" "RewriteHouseModel" "nodeSize" "[I") ∈ lw_all := lw_g (lw_at lw_m9 199 rfl) rfl
theorem q2459 : (Jvm.Cond.soleField "RewriteHouseModel" "nodeSize") ∈ lw_all := lw_g (lw_at lw_m9 200 rfl) rfl
theorem q2460 : (Jvm.Cond.laysFinal "RewriteHouseModel" "RewriteHouseModel" "nodeSort" "[I") ∈ lw_all := lw_g (lw_at lw_m9 201 rfl) rfl
theorem q2461 : (Jvm.Cond.soleField "RewriteHouseModel" "nodeSort") ∈ lw_all := lw_g (lw_at lw_m9 202 rfl) rfl
theorem q2462 : (Jvm.Cond.laysFinal "RewriteHouseModel" "RewriteHouseModel" "nodeNext" "[I") ∈ lw_all := lw_g (lw_at lw_m9 203 rfl) rfl
theorem q2463 : (Jvm.Cond.soleField "RewriteHouseModel" "nodeNext") ∈ lw_all := lw_g (lw_at lw_m9 204 rfl) rfl
theorem q2464 : (Jvm.Cond.laysFinal "RewriteHouseModel" "RewriteHouseModel" "restAt" "[I") ∈ lw_all := lw_g (lw_at lw_m9 205 rfl) rfl
theorem q2465 : (Jvm.Cond.soleField "RewriteHouseModel" "restAt") ∈ lw_all := lw_g (lw_at lw_m9 206 rfl) rfl
theorem q2466 : (Jvm.Cond.laysFinal "RewriteHouseModel" "RewriteHouseModel" "restCall" "[I") ∈ lw_all := lw_g (lw_at lw_m9 207 rfl) rfl
theorem q2467 : (Jvm.Cond.soleField "RewriteHouseModel" "restCall") ∈ lw_all := lw_g (lw_at lw_m9 208 rfl) rfl
theorem q2468 : (Jvm.Cond.laysFinal "RewriteHouseModel" "RewriteHouseModel" "args" "[I") ∈ lw_all := lw_g (lw_at lw_m9 209 rfl) rfl
theorem q2469 : (Jvm.Cond.soleField "RewriteHouseModel" "args") ∈ lw_all := lw_g (lw_at lw_m9 210 rfl) rfl
theorem q2470 : (Jvm.Cond.laysFinal "RewriteHouseModel" "RewriteHouseModel" "table" "[I") ∈ lw_all := lw_g (lw_at lw_m9 211 rfl) rfl
theorem q2471 : (Jvm.Cond.soleField "RewriteHouseModel" "table") ∈ lw_all := lw_g (lw_at lw_m9 212 rfl) rfl
theorem q2472 : (Jvm.Cond.lays "RewriteHouseModel" "RewriteHouseModel" "nodes" "I") ∈ lw_all := lw_g (lw_at lw_m9 213 rfl) rfl
theorem q2473 : (Jvm.Cond.soleField "RewriteHouseModel" "nodes") ∈ lw_all := lw_g (lw_at lw_m9 214 rfl) rfl
theorem q2474 : (Jvm.Cond.lays "RewriteHouseModel" "RewriteHouseModel" "argCount" "I") ∈ lw_all := lw_g (lw_at lw_m9 215 rfl) rfl
theorem q2475 : (Jvm.Cond.soleField "RewriteHouseModel" "argCount") ∈ lw_all := lw_g (lw_at lw_m9 216 rfl) rfl
theorem q2476 : (Jvm.Cond.laysFinal "RewriteHouseModel" "RewriteHouseModel" "pile" "[I") ∈ lw_all := lw_g (lw_at lw_m9 217 rfl) rfl
theorem q2477 : (Jvm.Cond.soleField "RewriteHouseModel" "pile") ∈ lw_all := lw_g (lw_at lw_m9 218 rfl) rfl
theorem q2478 : (Jvm.Cond.lays "RewriteHouseModel" "RewriteHouseModel" "piled" "I") ∈ lw_all := lw_g (lw_at lw_m9 219 rfl) rfl
theorem q2479 : (Jvm.Cond.soleField "RewriteHouseModel" "piled") ∈ lw_all := lw_g (lw_at lw_m9 220 rfl) rfl
theorem q2480 : (Jvm.Cond.laysFinal "RewriteHouseModel" "RewriteHouseModel" "wordName" "[I") ∈ lw_all := lw_g (lw_at lw_m9 221 rfl) rfl
theorem q2481 : (Jvm.Cond.soleField "RewriteHouseModel" "wordName") ∈ lw_all := lw_g (lw_at lw_m9 222 rfl) rfl
theorem q2482 : (Jvm.Cond.laysFinal "RewriteHouseModel" "RewriteHouseModel" "wordVar" "[I") ∈ lw_all := lw_g (lw_at lw_m9 223 rfl) rfl
theorem q2483 : (Jvm.Cond.soleField "RewriteHouseModel" "wordVar") ∈ lw_all := lw_g (lw_at lw_m9 224 rfl) rfl
theorem q2484 : (Jvm.Cond.laysFinal "RewriteHouseModel" "RewriteHouseModel" "topOp" "[B") ∈ lw_all := lw_g (lw_at lw_m9 225 rfl) rfl
theorem q2485 : (Jvm.Cond.soleField "RewriteHouseModel" "topOp") ∈ lw_all := lw_g (lw_at lw_m9 226 rfl) rfl
theorem q2486 : (Jvm.Cond.laysFinal "RewriteHouseModel" "RewriteHouseModel" "topAtom" "[B") ∈ lw_all := lw_g (lw_at lw_m9 227 rfl) rfl
theorem q2487 : (Jvm.Cond.soleField "RewriteHouseModel" "topAtom") ∈ lw_all := lw_g (lw_at lw_m9 228 rfl) rfl
theorem q2488 : (Jvm.Cond.laysFinal "RewriteHouseModel" "RewriteHouseModel" "rest" "[B") ∈ lw_all := lw_g (lw_at lw_m9 229 rfl) rfl
theorem q2489 : (Jvm.Cond.soleField "RewriteHouseModel" "rest") ∈ lw_all := lw_g (lw_at lw_m9 230 rfl) rfl
theorem q2490 : (Jvm.Cond.lays "RewriteHouseModel" "RewriteHouseModel" "readWords" "I") ∈ lw_all := lw_g (lw_at lw_m9 231 rfl) rfl
theorem q2491 : (Jvm.Cond.soleField "RewriteHouseModel" "readWords") ∈ lw_all := lw_g (lw_at lw_m9 232 rfl) rfl
theorem q2492 : (Jvm.Cond.lays "RewriteHouseModel" "RewriteHouseModel" "openName" "I") ∈ lw_all := lw_g (lw_at lw_m9 233 rfl) rfl
theorem q2493 : (Jvm.Cond.soleField "RewriteHouseModel" "openName") ∈ lw_all := lw_g (lw_at lw_m9 234 rfl) rfl
theorem q2494 : (Jvm.Cond.lays "RewriteHouseModel" "RewriteHouseModel" "closeName" "I") ∈ lw_all := lw_g (lw_at lw_m9 235 rfl) rfl
theorem q2495 : (Jvm.Cond.soleField "RewriteHouseModel" "closeName") ∈ lw_all := lw_g (lw_at lw_m9 236 rfl) rfl
theorem q2496 : (Jvm.Cond.lays "RewriteHouseModel" "RewriteHouseModel" "readFault" "I") ∈ lw_all := lw_g (lw_at lw_m9 237 rfl) rfl
theorem q2497 : (Jvm.Cond.soleField "RewriteHouseModel" "readFault") ∈ lw_all := lw_g (lw_at lw_m9 238 rfl) rfl
theorem q2498 : (Jvm.Cond.laysFinal "RewriteHouseModel" "RewriteHouseModel" "stLeft" "[I") ∈ lw_all := lw_g (lw_at lw_m9 239 rfl) rfl
theorem q2499 : (Jvm.Cond.soleField "RewriteHouseModel" "stLeft") ∈ lw_all := lw_g (lw_at lw_m10 0 rfl) rfl
theorem q2500 : (Jvm.Cond.laysFinal "RewriteHouseModel" "RewriteHouseModel" "stRight" "[I") ∈ lw_all := lw_g (lw_at lw_m10 1 rfl) rfl
theorem q2501 : (Jvm.Cond.soleField "RewriteHouseModel" "stRight") ∈ lw_all := lw_g (lw_at lw_m10 2 rfl) rfl
theorem q2502 : (Jvm.Cond.laysFinal "RewriteHouseModel" "RewriteHouseModel" "condLeft" "[I") ∈ lw_all := lw_g (lw_at lw_m10 3 rfl) rfl
theorem q2503 : (Jvm.Cond.soleField "RewriteHouseModel" "condLeft") ∈ lw_all := lw_g (lw_at lw_m10 4 rfl) rfl
theorem q2504 : (Jvm.Cond.laysFinal "RewriteHouseModel" "RewriteHouseModel" "condRight" "[I") ∈ lw_all := lw_g (lw_at lw_m10 5 rfl) rfl
theorem q2505 : (Jvm.Cond.soleField "RewriteHouseModel" "condRight") ∈ lw_all := lw_g (lw_at lw_m10 6 rfl) rfl
theorem q2506 : (Jvm.Cond.laysFinal "RewriteHouseModel" "RewriteHouseModel" "condSort" "[I") ∈ lw_all := lw_g (lw_at lw_m10 7 rfl) rfl
theorem q2507 : (Jvm.Cond.soleField "RewriteHouseModel" "condSort") ∈ lw_all := lw_g (lw_at lw_m10 8 rfl) rfl
theorem q2508 : (Jvm.Cond.laysFinal "RewriteHouseModel" "RewriteHouseModel" "stLabel" "[I") ∈ lw_all := lw_g (lw_at lw_m10 9 rfl) rfl
theorem q2509 : (Jvm.Cond.soleField "RewriteHouseModel" "stLabel") ∈ lw_all := lw_g (lw_at lw_m10 10 rfl) rfl
theorem q2510 : (Jvm.Cond.lays "RewriteHouseModel" "RewriteHouseModel" "known" "J") ∈ lw_all := lw_g (lw_at lw_m10 11 rfl) rfl
theorem q2511 : (Jvm.Cond.soleField "RewriteHouseModel" "known") ∈ lw_all := lw_g (lw_at lw_m10 12 rfl) rfl
theorem q2512 : (Jvm.Cond.laysFinal "RewriteHouseModel" "RewriteHouseModel" "handle" "[I") ∈ lw_all := lw_g (lw_at lw_m10 13 rfl) rfl
theorem q2513 : (Jvm.Cond.soleField "RewriteHouseModel" "handle") ∈ lw_all := lw_g (lw_at lw_m10 14 rfl) rfl
theorem q2514 : (Jvm.Cond.lays "RewriteHouseModel" "RewriteHouseModel" "handles" "I") ∈ lw_all := lw_g (lw_at lw_m10 15 rfl) rfl
theorem q2515 : (Jvm.Cond.soleField "RewriteHouseModel" "handles") ∈ lw_all := lw_g (lw_at lw_m10 16 rfl) rfl
theorem q2516 : (Jvm.Cond.laysFinal "RewriteHouseModel" "RewriteHouseModel" "shown" "[B") ∈ lw_all := lw_g (lw_at lw_m10 17 rfl) rfl
theorem q2517 : (Jvm.Cond.soleField "RewriteHouseModel" "shown") ∈ lw_all := lw_g (lw_at lw_m10 18 rfl) rfl
theorem q2518 : (Jvm.Cond.lays "RewriteHouseModel" "RewriteHouseModel" "shownSize" "I") ∈ lw_all := lw_g (lw_at lw_m10 19 rfl) rfl
theorem q2519 : (Jvm.Cond.soleField "RewriteHouseModel" "shownSize") ∈ lw_all := lw_g (lw_at lw_m10 20 rfl) rfl
theorem q2520 : (Jvm.Cond.laysFinal "RewriteHouseModel" "RewriteHouseModel" "goalKind" "[I") ∈ lw_all := lw_g (lw_at lw_m10 21 rfl) rfl
theorem q2521 : (Jvm.Cond.soleField "RewriteHouseModel" "goalKind") ∈ lw_all := lw_g (lw_at lw_m10 22 rfl) rfl
theorem q2522 : (Jvm.Cond.laysFinal "RewriteHouseModel" "RewriteHouseModel" "goalP" "[I") ∈ lw_all := lw_g (lw_at lw_m10 23 rfl) rfl
theorem q2523 : (Jvm.Cond.soleField "RewriteHouseModel" "goalP") ∈ lw_all := lw_g (lw_at lw_m10 24 rfl) rfl
theorem q2524 : (Jvm.Cond.laysFinal "RewriteHouseModel" "RewriteHouseModel" "goalT" "[I") ∈ lw_all := lw_g (lw_at lw_m10 25 rfl) rfl
theorem q2525 : (Jvm.Cond.soleField "RewriteHouseModel" "goalT") ∈ lw_all := lw_g (lw_at lw_m10 26 rfl) rfl
theorem q2526 : (Jvm.Cond.laysFinal "RewriteHouseModel" "RewriteHouseModel" "goalA" "[I") ∈ lw_all := lw_g (lw_at lw_m10 27 rfl) rfl
theorem q2527 : (Jvm.Cond.soleField "RewriteHouseModel" "goalA") ∈ lw_all := lw_g (lw_at lw_m10 28 rfl) rfl
theorem q2528 : (Jvm.Cond.laysFinal "RewriteHouseModel" "RewriteHouseModel" "goalB" "[I") ∈ lw_all := lw_g (lw_at lw_m10 29 rfl) rfl
theorem q2529 : (Jvm.Cond.soleField "RewriteHouseModel" "goalB") ∈ lw_all := lw_g (lw_at lw_m10 30 rfl) rfl
theorem q2530 : (Jvm.Cond.laysFinal "RewriteHouseModel" "RewriteHouseModel" "goalNext" "[I") ∈ lw_all := lw_g (lw_at lw_m10 31 rfl) rfl
theorem q2531 : (Jvm.Cond.soleField "RewriteHouseModel" "goalNext") ∈ lw_all := lw_g (lw_at lw_m10 32 rfl) rfl
theorem q2532 : (Jvm.Cond.lays "RewriteHouseModel" "RewriteHouseModel" "goals" "I") ∈ lw_all := lw_g (lw_at lw_m10 33 rfl) rfl
theorem q2533 : (Jvm.Cond.soleField "RewriteHouseModel" "goals") ∈ lw_all := lw_g (lw_at lw_m10 34 rfl) rfl
theorem q2534 : (Jvm.Cond.laysFinal "RewriteHouseModel" "RewriteHouseModel" "boundTo" "[I") ∈ lw_all := lw_g (lw_at lw_m10 35 rfl) rfl
theorem q2535 : (Jvm.Cond.soleField "RewriteHouseModel" "boundTo") ∈ lw_all := lw_g (lw_at lw_m10 36 rfl) rfl
theorem q2536 : (Jvm.Cond.laysFinal "RewriteHouseModel" "RewriteHouseModel" "store" "[I") ∈ lw_all := lw_g (lw_at lw_m10 37 rfl) rfl
theorem q2537 : (Jvm.Cond.soleField "RewriteHouseModel" "store") ∈ lw_all := lw_g (lw_at lw_m10 38 rfl) rfl
theorem q2538 : (Jvm.Cond.lays "RewriteHouseModel" "RewriteHouseModel" "stored" "I") ∈ lw_all := lw_g (lw_at lw_m10 39 rfl) rfl
theorem q2539 : (Jvm.Cond.soleField "RewriteHouseModel" "stored") ∈ lw_all := lw_g (lw_at lw_m10 40 rfl) rfl
theorem q2540 : (Jvm.Cond.lays "RewriteHouseModel" "RewriteHouseModel" "listFrom" "I") ∈ lw_all := lw_g (lw_at lw_m10 41 rfl) rfl
theorem q2541 : (Jvm.Cond.soleField "RewriteHouseModel" "listFrom") ∈ lw_all := lw_g (lw_at lw_m10 42 rfl) rfl
theorem q2542 : (Jvm.Cond.lays "RewriteHouseModel" "RewriteHouseModel" "listCount" "I") ∈ lw_all := lw_g (lw_at lw_m10 43 rfl) rfl
theorem q2543 : (Jvm.Cond.soleField "RewriteHouseModel" "listCount") ∈ lw_all := lw_g (lw_at lw_m10 44 rfl) rfl
theorem q2544 : (Jvm.Cond.lays "RewriteHouseModel" "RewriteHouseModel" "listOp" "I") ∈ lw_all := lw_g (lw_at lw_m10 45 rfl) rfl
theorem q2545 : (Jvm.Cond.soleField "RewriteHouseModel" "listOp") ∈ lw_all := lw_g (lw_at lw_m10 46 rfl) rfl
theorem q2546 : (Jvm.Cond.lays "RewriteHouseModel" "RewriteHouseModel" "ahead" "I") ∈ lw_all := lw_g (lw_at lw_m10 47 rfl) rfl
theorem q2547 : (Jvm.Cond.soleField "RewriteHouseModel" "ahead") ∈ lw_all := lw_g (lw_at lw_m10 48 rfl) rfl
theorem q2548 : (Jvm.Cond.lays "RewriteHouseModel" "RewriteHouseModel" "behind" "I") ∈ lw_all := lw_g (lw_at lw_m10 49 rfl) rfl
theorem q2549 : (Jvm.Cond.soleField "RewriteHouseModel" "behind") ∈ lw_all := lw_g (lw_at lw_m10 50 rfl) rfl
theorem q2550 : (Jvm.Cond.lays "RewriteHouseModel" "RewriteHouseModel" "matchersTold" "I") ∈ lw_all := lw_g (lw_at lw_m10 51 rfl) rfl
theorem q2551 : (Jvm.Cond.soleField "RewriteHouseModel" "matchersTold") ∈ lw_all := lw_g (lw_at lw_m10 52 rfl) rfl
theorem q2552 : (Jvm.Cond.lays "RewriteHouseModel" "RewriteHouseModel" "stepsDone" "I") ∈ lw_all := lw_g (lw_at lw_m10 53 rfl) rfl
theorem q2553 : (Jvm.Cond.soleField "RewriteHouseModel" "stepsDone") ∈ lw_all := lw_g (lw_at lw_m10 54 rfl) rfl
theorem q2554 : (Jvm.Cond.lays "RewriteHouseModel" "RewriteHouseModel" "callNumber" "I") ∈ lw_all := lw_g (lw_at lw_m10 55 rfl) rfl
theorem q2555 : (Jvm.Cond.soleField "RewriteHouseModel" "callNumber") ∈ lw_all := lw_g (lw_at lw_m10 56 rfl) rfl
theorem q2556 : (Jvm.Cond.lays "RewriteHouseModel" "RewriteHouseModel" "dealsMost" "I") ∈ lw_all := lw_g (lw_at lw_m10 57 rfl) rfl
theorem q2557 : (Jvm.Cond.soleField "RewriteHouseModel" "dealsMost") ∈ lw_all := lw_g (lw_at lw_m10 58 rfl) rfl
theorem q2558 : (Jvm.Cond.lays "RewriteHouseModel" "RewriteHouseModel" "dealsTold" "J") ∈ lw_all := lw_g (lw_at lw_m10 59 rfl) rfl
theorem q2559 : (Jvm.Cond.soleField "RewriteHouseModel" "dealsTold") ∈ lw_all := lw_g (lw_at lw_m10 60 rfl) rfl
theorem q2560 : (Jvm.Cond.lays "RewriteHouseModel" "RewriteHouseModel" "filled" "I") ∈ lw_all := lw_g (lw_at lw_m10 61 rfl) rfl
theorem q2561 : (Jvm.Cond.soleField "RewriteHouseModel" "filled") ∈ lw_all := lw_g (lw_at lw_m10 62 rfl) rfl
theorem q2562 : (Jvm.Cond.laysFinal "RewriteHouseModel" "RewriteHouseModel" "cameBy" "[I") ∈ lw_all := lw_g (lw_at lw_m10 63 rfl) rfl
theorem q2563 : (Jvm.Cond.soleField "RewriteHouseModel" "cameBy") ∈ lw_all := lw_g (lw_at lw_m10 64 rfl) rfl
theorem q2564 : (Jvm.Cond.lays "RewriteHouseModel" "RewriteHouseModel" "cameCount" "I") ∈ lw_all := lw_g (lw_at lw_m10 65 rfl) rfl
theorem q2565 : (Jvm.Cond.soleField "RewriteHouseModel" "cameCount") ∈ lw_all := lw_g (lw_at lw_m10 66 rfl) rfl
theorem q2566 : (Jvm.Cond.laysFinal "RewriteHouseModel" "RewriteHouseModel" "terms" "[I") ∈ lw_all := lw_g (lw_at lw_m10 67 rfl) rfl
theorem q2567 : (Jvm.Cond.soleField "RewriteHouseModel" "terms") ∈ lw_all := lw_g (lw_at lw_m10 68 rfl) rfl
theorem q2568 : (Jvm.Cond.laysFinal "RewriteHouseModel" "RewriteHouseModel" "ruleOf" "[I") ∈ lw_all := lw_g (lw_at lw_m10 69 rfl) rfl
theorem q2569 : (Jvm.Cond.soleField "RewriteHouseModel" "ruleOf") ∈ lw_all := lw_g (lw_at lw_m10 70 rfl) rfl
theorem q2570 : (Jvm.Cond.lays "RewriteHouseModel" "RewriteHouseModel" "termTop" "I") ∈ lw_all := lw_g (lw_at lw_m10 71 rfl) rfl
theorem q2571 : (Jvm.Cond.soleField "RewriteHouseModel" "termTop") ∈ lw_all := lw_g (lw_at lw_m10 72 rfl) rfl
theorem q2572 : (Jvm.Cond.lays "RewriteHouseModel" "RewriteHouseModel" "stepRoot" "I") ∈ lw_all := lw_g (lw_at lw_m10 73 rfl) rfl
theorem q2573 : (Jvm.Cond.soleField "RewriteHouseModel" "stepRoot") ∈ lw_all := lw_g (lw_at lw_m10 74 rfl) rfl
theorem q2574 : (Jvm.Cond.laysFinal "RewriteHouseModel" "RewriteHouseModel" "path" "[I") ∈ lw_all := lw_g (lw_at lw_m10 75 rfl) rfl
theorem q2575 : (Jvm.Cond.soleField "RewriteHouseModel" "path") ∈ lw_all := lw_g (lw_at lw_m10 76 rfl) rfl
theorem q2576 : (Jvm.Cond.lays "RewriteHouseModel" "RewriteHouseModel" "pathSize" "I") ∈ lw_all := lw_g (lw_at lw_m10 77 rfl) rfl
theorem q2577 : (Jvm.Cond.soleField "RewriteHouseModel" "pathSize") ∈ lw_all := lw_g (lw_at lw_m10 78 rfl) rfl
theorem q2578 : (Jvm.Cond.laysFinal "RewriteHouseModel" "RewriteHouseModel" "onPath" "[I") ∈ lw_all := lw_g (lw_at lw_m10 79 rfl) rfl
theorem q2579 : (Jvm.Cond.soleField "RewriteHouseModel" "onPath") ∈ lw_all := lw_g (lw_at lw_m10 80 rfl) rfl
theorem q2580 : (Jvm.Cond.lays "RewriteHouseModel" "RewriteHouseModel" "results" "I") ∈ lw_all := lw_g (lw_at lw_m10 81 rfl) rfl
theorem q2581 : (Jvm.Cond.soleField "RewriteHouseModel" "results") ∈ lw_all := lw_g (lw_at lw_m10 82 rfl) rfl
theorem q2582 : (Jvm.Cond.lays "RewriteHouseModel" "RewriteHouseModel" "resultKind" "I") ∈ lw_all := lw_g (lw_at lw_m10 83 rfl) rfl
theorem q2583 : (Jvm.Cond.soleField "RewriteHouseModel" "resultKind") ∈ lw_all := lw_g (lw_at lw_m10 84 rfl) rfl
theorem q2584 : (Jvm.Cond.laysFinal "RewriteHouseModel" "RewriteHouseModel" "result" "[I") ∈ lw_all := lw_g (lw_at lw_m10 85 rfl) rfl
theorem q2585 : (Jvm.Cond.soleField "RewriteHouseModel" "result") ∈ lw_all := lw_g (lw_at lw_m10 86 rfl) rfl
theorem q2586 : (Jvm.Cond.laysFinal "RewriteHouseModel" "RewriteHouseModel" "matched" "[I") ∈ lw_all := lw_g (lw_at lw_m10 87 rfl) rfl
theorem q2587 : (Jvm.Cond.soleField "RewriteHouseModel" "matched") ∈ lw_all := lw_g (lw_at lw_m10 88 rfl) rfl
theorem q2588 : (Jvm.Cond.laysFinal "RewriteHouseModel" "RewriteHouseModel" "resultRule" "[I") ∈ lw_all := lw_g (lw_at lw_m10 89 rfl) rfl
theorem q2589 : (Jvm.Cond.soleField "RewriteHouseModel" "resultRule") ∈ lw_all := lw_g (lw_at lw_m10 90 rfl) rfl
theorem q2590 : (Jvm.Cond.laysFinal "RewriteHouseModel" "RewriteHouseModel" "resultFrom" "[I") ∈ lw_all := lw_g (lw_at lw_m10 91 rfl) rfl
theorem q2591 : (Jvm.Cond.soleField "RewriteHouseModel" "resultFrom") ∈ lw_all := lw_g (lw_at lw_m10 92 rfl) rfl
theorem q2592 : (Jvm.Cond.laysFinal "RewriteHouseModel" "RewriteHouseModel" "resultFar" "[I") ∈ lw_all := lw_g (lw_at lw_m10 93 rfl) rfl
theorem q2593 : (Jvm.Cond.soleField "RewriteHouseModel" "resultFar") ∈ lw_all := lw_g (lw_at lw_m10 94 rfl) rfl
theorem q2594 : (Jvm.Cond.laysFinal "RewriteHouseModel" "RewriteHouseModel" "edgeFrom" "[I") ∈ lw_all := lw_g (lw_at lw_m10 95 rfl) rfl
theorem q2595 : (Jvm.Cond.soleField "RewriteHouseModel" "edgeFrom") ∈ lw_all := lw_g (lw_at lw_m10 96 rfl) rfl
theorem q2596 : (Jvm.Cond.laysFinal "RewriteHouseModel" "RewriteHouseModel" "edgeTo" "[I") ∈ lw_all := lw_g (lw_at lw_m10 97 rfl) rfl
theorem q2597 : (Jvm.Cond.soleField "RewriteHouseModel" "edgeTo") ∈ lw_all := lw_g (lw_at lw_m10 98 rfl) rfl
theorem q2598 : (Jvm.Cond.lays "RewriteHouseModel" "RewriteHouseModel" "matchOp" "I") ∈ lw_all := lw_g (lw_at lw_m10 99 rfl) rfl
theorem q2599 : (Jvm.Cond.soleField "RewriteHouseModel" "matchOp") ∈ lw_all := lw_g (lw_at lw_m10 100 rfl) rfl
theorem q2600 : (Jvm.Cond.lays "RewriteHouseModel" "RewriteHouseModel" "lastStop" "I") ∈ lw_all := lw_g (lw_at lw_m10 101 rfl) rfl
theorem q2601 : (Jvm.Cond.soleField "RewriteHouseModel" "lastStop") ∈ lw_all := lw_g (lw_at lw_m10 102 rfl) rfl
theorem q2602 : (Jvm.Cond.lays "RewriteHouseModel" "RewriteHouseModel" "lastSteps" "I") ∈ lw_all := lw_g (lw_at lw_m10 103 rfl) rfl
theorem q2603 : (Jvm.Cond.soleField "RewriteHouseModel" "lastSteps") ∈ lw_all := lw_g (lw_at lw_m10 104 rfl) rfl
theorem q2604 : (Jvm.Cond.laysFinal "RewriteHouseModel" "RewriteHouseModel" "newNumber" "[I") ∈ lw_all := lw_g (lw_at lw_m10 105 rfl) rfl
theorem q2605 : (Jvm.Cond.soleField "RewriteHouseModel" "newNumber") ∈ lw_all := lw_g (lw_at lw_m10 106 rfl) rfl
theorem q2606 : (Jvm.Cond.laysFinal "RewriteHouseModel" "RewriteHouseModel" "state" "[I") ∈ lw_all := lw_g (lw_at lw_m10 107 rfl) rfl
theorem q2607 : (Jvm.Cond.soleField "RewriteHouseModel" "state") ∈ lw_all := lw_g (lw_at lw_m10 108 rfl) rfl
theorem q2608 : (Jvm.Cond.laysFinal "RewriteHouseModel" "RewriteHouseModel" "stateRule" "[I") ∈ lw_all := lw_g (lw_at lw_m10 109 rfl) rfl
theorem q2609 : (Jvm.Cond.soleField "RewriteHouseModel" "stateRule") ∈ lw_all := lw_g (lw_at lw_m10 110 rfl) rfl
theorem q2610 : (Jvm.Cond.laysFinal "RewriteHouseModel" "RewriteHouseModel" "stateFrom" "[I") ∈ lw_all := lw_g (lw_at lw_m10 111 rfl) rfl
theorem q2611 : (Jvm.Cond.soleField "RewriteHouseModel" "stateFrom") ∈ lw_all := lw_g (lw_at lw_m10 112 rfl) rfl
theorem q2612 : (Jvm.Cond.laysFinal "RewriteHouseModel" "RewriteHouseModel" "stateFar" "[I") ∈ lw_all := lw_g (lw_at lw_m10 113 rfl) rfl
theorem q2613 : (Jvm.Cond.soleField "RewriteHouseModel" "stateFar") ∈ lw_all := lw_g (lw_at lw_m10 114 rfl) rfl
theorem q2614 : (Jvm.Cond.laysFinal "RewriteHouseModel" "RewriteHouseModel" "tryEdgeFrom" "[I") ∈ lw_all := lw_g (lw_at lw_m10 115 rfl) rfl
theorem q2615 : (Jvm.Cond.soleField "RewriteHouseModel" "tryEdgeFrom") ∈ lw_all := lw_g (lw_at lw_m10 116 rfl) rfl
theorem q2616 : (Jvm.Cond.laysFinal "RewriteHouseModel" "RewriteHouseModel" "tryEdgeTo" "[I") ∈ lw_all := lw_g (lw_at lw_m10 117 rfl) rfl
theorem q2617 : (Jvm.Cond.soleField "RewriteHouseModel" "tryEdgeTo") ∈ lw_all := lw_g (lw_at lw_m10 118 rfl) rfl
theorem q2618 : (Jvm.Cond.laysFinal "RewriteHouseModel" "RewriteHouseModel" "isP" "[Z") ∈ lw_all := lw_g (lw_at lw_m10 119 rfl) rfl
theorem q2619 : (Jvm.Cond.soleField "RewriteHouseModel" "isP") ∈ lw_all := lw_g (lw_at lw_m10 120 rfl) rfl
theorem q2620 : (Jvm.Cond.laysFinal "RewriteHouseModel" "RewriteHouseModel" "isQ" "[Z") ∈ lw_all := lw_g (lw_at lw_m10 121 rfl) rfl
theorem q2621 : (Jvm.Cond.soleField "RewriteHouseModel" "isQ") ∈ lw_all := lw_g (lw_at lw_m10 122 rfl) rfl
theorem q2622 : (Jvm.Cond.laysFinal "RewriteHouseModel" "RewriteHouseModel" "goes" "[Z") ∈ lw_all := lw_g (lw_at lw_m10 123 rfl) rfl
theorem q2623 : (Jvm.Cond.soleField "RewriteHouseModel" "goes") ∈ lw_all := lw_g (lw_at lw_m10 124 rfl) rfl
theorem q2624 : (Jvm.Cond.laysFinal "RewriteHouseModel" "RewriteHouseModel" "planKind" "[I") ∈ lw_all := lw_g (lw_at lw_m10 125 rfl) rfl
theorem q2625 : (Jvm.Cond.soleField "RewriteHouseModel" "planKind") ∈ lw_all := lw_g (lw_at lw_m10 126 rfl) rfl
theorem q2626 : (Jvm.Cond.laysFinal "RewriteHouseModel" "RewriteHouseModel" "planA" "[I") ∈ lw_all := lw_g (lw_at lw_m10 127 rfl) rfl
theorem q2627 : (Jvm.Cond.soleField "RewriteHouseModel" "planA") ∈ lw_all := lw_g (lw_at lw_m10 128 rfl) rfl
theorem q2628 : (Jvm.Cond.laysFinal "RewriteHouseModel" "RewriteHouseModel" "planB" "[I") ∈ lw_all := lw_g (lw_at lw_m10 129 rfl) rfl
theorem q2629 : (Jvm.Cond.soleField "RewriteHouseModel" "planB") ∈ lw_all := lw_g (lw_at lw_m10 130 rfl) rfl
theorem q2630 : (Jvm.Cond.lays "RewriteHouseModel" "RewriteHouseModel" "plans" "I") ∈ lw_all := lw_g (lw_at lw_m10 131 rfl) rfl
theorem q2631 : (Jvm.Cond.soleField "RewriteHouseModel" "plans") ∈ lw_all := lw_g (lw_at lw_m10 132 rfl) rfl
theorem q2632 : (Jvm.Cond.laysFinal "RewriteHouseModel" "RewriteHouseModel" "tuple" "[I") ∈ lw_all := lw_g (lw_at lw_m10 133 rfl) rfl
theorem q2633 : (Jvm.Cond.soleField "RewriteHouseModel" "tuple") ∈ lw_all := lw_g (lw_at lw_m10 134 rfl) rfl
theorem q2634 : (Jvm.Cond.lays "RewriteHouseModel" "RewriteHouseModel" "badOp" "I") ∈ lw_all := lw_g (lw_at lw_m10 135 rfl) rfl
theorem q2635 : (Jvm.Cond.soleField "RewriteHouseModel" "badOp") ∈ lw_all := lw_g (lw_at lw_m10 136 rfl) rfl
theorem q2636 : (Jvm.Cond.lays "RewriteHouseModel" "RewriteHouseModel" "badCount" "I") ∈ lw_all := lw_g (lw_at lw_m10 137 rfl) rfl
theorem q2637 : (Jvm.Cond.soleField "RewriteHouseModel" "badCount") ∈ lw_all := lw_g (lw_at lw_m10 138 rfl) rfl
theorem q2638 : (Jvm.Cond.laysFinal "RewriteHouseModel" "RewriteHouseModel" "memoS" "[I") ∈ lw_all := lw_g (lw_at lw_m10 139 rfl) rfl
theorem q2639 : (Jvm.Cond.soleField "RewriteHouseModel" "memoS") ∈ lw_all := lw_g (lw_at lw_m10 140 rfl) rfl
theorem q2640 : (Jvm.Cond.laysFinal "RewriteHouseModel" "RewriteHouseModel" "memoT" "[I") ∈ lw_all := lw_g (lw_at lw_m10 141 rfl) rfl
theorem q2641 : (Jvm.Cond.soleField "RewriteHouseModel" "memoT") ∈ lw_all := lw_g (lw_at lw_m10 142 rfl) rfl
theorem q2642 : (Jvm.Cond.laysFinal "RewriteHouseModel" "RewriteHouseModel" "memoIs" "[I") ∈ lw_all := lw_g (lw_at lw_m10 143 rfl) rfl
theorem q2643 : (Jvm.Cond.soleField "RewriteHouseModel" "memoIs") ∈ lw_all := lw_g (lw_at lw_m10 144 rfl) rfl
theorem q2644 : (Jvm.Cond.lays "RewriteHouseModel" "RewriteHouseModel" "memoRound" "I") ∈ lw_all := lw_g (lw_at lw_m10 145 rfl) rfl
theorem q2645 : (Jvm.Cond.soleField "RewriteHouseModel" "memoRound") ∈ lw_all := lw_g (lw_at lw_m10 146 rfl) rfl
theorem q2646 : (Jvm.Cond.laysFinal "RewriteHouseModel" "RewriteHouseModel" "memoOf" "[I") ∈ lw_all := lw_g (lw_at lw_m10 147 rfl) rfl
theorem q2647 : (Jvm.Cond.soleField "RewriteHouseModel" "memoOf") ∈ lw_all := lw_g (lw_at lw_m10 148 rfl) rfl
theorem q2648 : (Jvm.Cond.laysFinal "RewriteHouseModel" "RewriteHouseModel" "trail" "[I") ∈ lw_all := lw_g (lw_at lw_m10 149 rfl) rfl
theorem q2649 : (Jvm.Cond.soleField "RewriteHouseModel" "trail") ∈ lw_all := lw_g (lw_at lw_m10 150 rfl) rfl
theorem q2650 : (Jvm.Cond.lays "RewriteHouseModel" "RewriteHouseModel" "trailSize" "I") ∈ lw_all := lw_g (lw_at lw_m10 151 rfl) rfl
theorem q2651 : (Jvm.Cond.soleField "RewriteHouseModel" "trailSize") ∈ lw_all := lw_g (lw_at lw_m10 152 rfl) rfl
theorem q2652 : (Jvm.Cond.laysFinal "RewriteHouseModel" "RewriteHouseModel" "pairP" "[I") ∈ lw_all := lw_g (lw_at lw_m10 153 rfl) rfl
theorem q2653 : (Jvm.Cond.soleField "RewriteHouseModel" "pairP") ∈ lw_all := lw_g (lw_at lw_m10 154 rfl) rfl
theorem q2654 : (Jvm.Cond.laysFinal "RewriteHouseModel" "RewriteHouseModel" "pairT" "[I") ∈ lw_all := lw_g (lw_at lw_m10 155 rfl) rfl
theorem q2655 : (Jvm.Cond.soleField "RewriteHouseModel" "pairT") ∈ lw_all := lw_g (lw_at lw_m10 156 rfl) rfl
theorem q2656 : (Jvm.Cond.laysFinal "RewriteHouseModel" "RewriteHouseModel" "pairNext" "[I") ∈ lw_all := lw_g (lw_at lw_m10 157 rfl) rfl
theorem q2657 : (Jvm.Cond.soleField "RewriteHouseModel" "pairNext") ∈ lw_all := lw_g (lw_at lw_m10 158 rfl) rfl
theorem q2658 : (Jvm.Cond.lays "RewriteHouseModel" "RewriteHouseModel" "pairGoals" "I") ∈ lw_all := lw_g (lw_at lw_m10 159 rfl) rfl
theorem q2659 : (Jvm.Cond.soleField "RewriteHouseModel" "pairGoals") ∈ lw_all := lw_g (lw_at lw_m10 160 rfl) rfl
theorem q2660 : (Jvm.Cond.laysFinal "RewriteHouseModel" "RewriteHouseModel" "value" "[I") ∈ lw_all := lw_g (lw_at lw_m10 161 rfl) rfl
theorem q2661 : (Jvm.Cond.soleField "RewriteHouseModel" "value") ∈ lw_all := lw_g (lw_at lw_m10 162 rfl) rfl
theorem q2662 : (Jvm.Cond.lays "RewriteHouseModel" "RewriteHouseModel" "pairsFound" "I") ∈ lw_all := lw_g (lw_at lw_m10 163 rfl) rfl
theorem q2663 : (Jvm.Cond.soleField "RewriteHouseModel" "pairsFound") ∈ lw_all := lw_g (lw_at lw_m10 164 rfl) rfl
theorem q2664 : (Jvm.Cond.lays "RewriteHouseModel" "RewriteHouseModel" "pairsApart" "I") ∈ lw_all := lw_g (lw_at lw_m10 165 rfl) rfl
theorem q2665 : (Jvm.Cond.soleField "RewriteHouseModel" "pairsApart") ∈ lw_all := lw_g (lw_at lw_m10 166 rfl) rfl
theorem q2666 : (Jvm.Cond.lays "RewriteHouseModel" "RewriteHouseModel" "pairsOpen" "I") ∈ lw_all := lw_g (lw_at lw_m10 167 rfl) rfl
theorem q2667 : (Jvm.Cond.soleField "RewriteHouseModel" "pairsOpen") ∈ lw_all := lw_g (lw_at lw_m10 168 rfl) rfl
theorem q2668 : (Jvm.Cond.lays "RewriteHouseModel" "RewriteHouseModel" "wantedApart" "I") ∈ lw_all := lw_g (lw_at lw_m10 169 rfl) rfl
theorem q2669 : (Jvm.Cond.soleField "RewriteHouseModel" "wantedApart") ∈ lw_all := lw_g (lw_at lw_m10 170 rfl) rfl
theorem q2670 : (Jvm.Cond.lays "RewriteHouseModel" "RewriteHouseModel" "pairI" "I") ∈ lw_all := lw_g (lw_at lw_m10 171 rfl) rfl
theorem q2671 : (Jvm.Cond.soleField "RewriteHouseModel" "pairI") ∈ lw_all := lw_g (lw_at lw_m10 172 rfl) rfl
theorem q2672 : (Jvm.Cond.lays "RewriteHouseModel" "RewriteHouseModel" "pairJ" "I") ∈ lw_all := lw_g (lw_at lw_m10 173 rfl) rfl
theorem q2673 : (Jvm.Cond.soleField "RewriteHouseModel" "pairJ") ∈ lw_all := lw_g (lw_at lw_m10 174 rfl) rfl
theorem q2674 : (Jvm.Cond.lays "RewriteHouseModel" "RewriteHouseModel" "pairOne" "I") ∈ lw_all := lw_g (lw_at lw_m10 175 rfl) rfl
theorem q2675 : (Jvm.Cond.soleField "RewriteHouseModel" "pairOne") ∈ lw_all := lw_g (lw_at lw_m10 176 rfl) rfl
theorem q2676 : (Jvm.Cond.lays "RewriteHouseModel" "RewriteHouseModel" "pairTwo" "I") ∈ lw_all := lw_g (lw_at lw_m10 177 rfl) rfl
theorem q2677 : (Jvm.Cond.soleField "RewriteHouseModel" "pairTwo") ∈ lw_all := lw_g (lw_at lw_m10 178 rfl) rfl
theorem q2678 : (Jvm.Cond.lays "RewriteHouseModel" "RewriteHouseModel" "overI" "I") ∈ lw_all := lw_g (lw_at lw_m10 179 rfl) rfl
theorem q2679 : (Jvm.Cond.soleField "RewriteHouseModel" "overI") ∈ lw_all := lw_g (lw_at lw_m10 180 rfl) rfl
theorem q2680 : (Jvm.Cond.lays "RewriteHouseModel" "RewriteHouseModel" "overJ" "I") ∈ lw_all := lw_g (lw_at lw_m10 181 rfl) rfl
theorem q2681 : (Jvm.Cond.soleField "RewriteHouseModel" "overJ") ∈ lw_all := lw_g (lw_at lw_m10 182 rfl) rfl
theorem q2682 : (Jvm.Cond.lays "RewriteHouseModel" "RewriteHouseModel" "overRoot" "I") ∈ lw_all := lw_g (lw_at lw_m10 183 rfl) rfl
theorem q2683 : (Jvm.Cond.soleField "RewriteHouseModel" "overRoot") ∈ lw_all := lw_g (lw_at lw_m10 184 rfl) rfl
theorem q2684 : (Jvm.Cond.lays "RewriteHouseModel" "RewriteHouseModel" "overPart" "I") ∈ lw_all := lw_g (lw_at lw_m10 185 rfl) rfl
theorem q2685 : (Jvm.Cond.soleField "RewriteHouseModel" "overPart") ∈ lw_all := lw_g (lw_at lw_m10 186 rfl) rfl
theorem q2686 : (Jvm.Cond.lays "RewriteHouseModel" "RewriteHouseModel" "overRight" "I") ∈ lw_all := lw_g (lw_at lw_m10 187 rfl) rfl
theorem q2687 : (Jvm.Cond.soleField "RewriteHouseModel" "overRight") ∈ lw_all := lw_g (lw_at lw_m10 188 rfl) rfl
theorem q2688 : (Jvm.Cond.lays "RewriteHouseModel" "RewriteHouseModel" "twos" "I") ∈ lw_all := lw_g (lw_at lw_m10 189 rfl) rfl
theorem q2689 : (Jvm.Cond.soleField "RewriteHouseModel" "twos") ∈ lw_all := lw_g (lw_at lw_m10 190 rfl) rfl
theorem q2690 : (Jvm.Cond.lays "RewriteHouseModel" "RewriteHouseModel" "floor" "I") ∈ lw_all := lw_g (lw_at lw_m10 191 rfl) rfl
theorem q2691 : (Jvm.Cond.soleField "RewriteHouseModel" "floor") ∈ lw_all := lw_g (lw_at lw_m10 192 rfl) rfl
theorem q2692 : (Jvm.Cond.lays "RewriteHouseModel" "RewriteHouseModel" "pairKept" "Z") ∈ lw_all := lw_g (lw_at lw_m10 193 rfl) rfl
theorem q2693 : (Jvm.Cond.soleField "RewriteHouseModel" "pairKept") ∈ lw_all := lw_g (lw_at lw_m10 194 rfl) rfl
theorem q2694 : (Jvm.Cond.superclass "RewriteHouseModel" "java/lang/Object") ∈ lw_all := lw_g (lw_at lw_m10 195 rfl) rfl
theorem q2696 : (Jvm.Cond.instanceMethod ({ cls := "RewriteHouseModel", name := "feed", desc := "(IIIII)I" } : Jvm.MethodName)) ∈ lw_all := lw_g (lw_at lw_m10 197 rfl) rfl
theorem q2697 : (Jvm.Cond.selects "RewriteHouseModel" ({ cls := "RewriteHouseModel", name := "feed", desc := "(IIIII)I" } : Jvm.MethodName) ({ cls := "RewriteHouseModel", name := "feed", desc := "(IIIII)I" } : Jvm.MethodName)) ∈ lw_all := lw_g (lw_at lw_m10 198 rfl) rfl
theorem q2698 : (Jvm.Cond.code ({ cls := "RewriteHouseModel", name := "feed", desc := "(IIIII)I" } : Jvm.MethodName) prog_4_method_5_code (8 : Nat) (Option.some Jvm.ClassFile.FieldType.int)) ∈ lw_all := lw_g (lw_at lw_m10 199 rfl) rfl
theorem q2700 : (Jvm.Cond.instanceMethod ({ cls := "RewriteHouseModel", name := "end", desc := "(I)I" } : Jvm.MethodName)) ∈ lw_all := lw_g (lw_at lw_m10 201 rfl) rfl
theorem q2701 : (Jvm.Cond.selects "RewriteHouseModel" ({ cls := "RewriteHouseModel", name := "end", desc := "(I)I" } : Jvm.MethodName) ({ cls := "RewriteHouseModel", name := "end", desc := "(I)I" } : Jvm.MethodName)) ∈ lw_all := lw_g (lw_at lw_m10 202 rfl) rfl
theorem q2702 : (Jvm.Cond.code ({ cls := "RewriteHouseModel", name := "end", desc := "(I)I" } : Jvm.MethodName) prog_4_method_6_code (2 : Nat) (Option.some Jvm.ClassFile.FieldType.int)) ∈ lw_all := lw_g (lw_at lw_m10 203 rfl) rfl
theorem q2703 : (Jvm.Cond.constantLong "RewriteHouseModel" (401 : Nat) (20 : Int64)) ∈ lw_all := lw_g (lw_at lw_m10 204 rfl) rfl
theorem q2704 : (Jvm.Cond.methodLink "RewriteHouseModel" (403 : Nat) ({ cls := "RewriteHouseModel", name := "in", desc := "(JJJ)Z" } : Jvm.MethodName)) ∈ lw_all := lw_g (lw_at lw_m10 205 rfl) rfl
theorem q2705 : (Jvm.Cond.static ({ cls := "RewriteHouseModel", name := "in", desc := "(JJJ)Z" } : Jvm.MethodName)) ∈ lw_all := lw_g (lw_at lw_m10 206 rfl) rfl
theorem q2706 : (Jvm.Cond.code ({ cls := "RewriteHouseModel", name := "in", desc := "(JJJ)Z" } : Jvm.MethodName) prog_4_method_2_code (6 : Nat) (Option.some Jvm.ClassFile.FieldType.boolean)) ∈ lw_all := lw_g (lw_at lw_m10 207 rfl) rfl
theorem q2708 : (Jvm.Cond.instanceMethod ({ cls := "RewriteHouseModel", name := "module", desc := "()I" } : Jvm.MethodName)) ∈ lw_all := lw_g (lw_at lw_m10 209 rfl) rfl
theorem q2709 : (Jvm.Cond.selects "RewriteHouseModel" ({ cls := "RewriteHouseModel", name := "module", desc := "()I" } : Jvm.MethodName) ({ cls := "RewriteHouseModel", name := "module", desc := "()I" } : Jvm.MethodName)) ∈ lw_all := lw_g (lw_at lw_m10 210 rfl) rfl
theorem q2710 : (Jvm.Cond.codeWith ({ cls := "RewriteHouseModel", name := "module", desc := "()I" } : Jvm.MethodName) prog_4_method_92_code (2 : Nat) (Option.some Jvm.ClassFile.FieldType.int) [((17 : Nat), (21 : Nat), (24 : Nat), (12 : Nat))]) ∈ lw_all := lw_g (lw_at lw_m10 211 rfl) rfl
theorem q2711 : (Jvm.Cond.methodLink "RewriteHouseModel" (833 : Nat) ({ cls := "RewriteHouseModel", name := "findWords", desc := "()V" } : Jvm.MethodName)) ∈ lw_all := lw_g (lw_at lw_m10 212 rfl) rfl
theorem q2712 : (Jvm.Cond.privateMethod ({ cls := "RewriteHouseModel", name := "findWords", desc := "()V" } : Jvm.MethodName)) ∈ lw_tbl := lw_at lw_m10 213 rfl
theorem q2713 : (Jvm.Cond.instanceMethod ({ cls := "RewriteHouseModel", name := "findWords", desc := "()V" } : Jvm.MethodName)) ∈ lw_all := lw_g (lw_at lw_m10 214 rfl) rfl
theorem q2714 : (Jvm.Cond.code ({ cls := "RewriteHouseModel", name := "findWords", desc := "()V" } : Jvm.MethodName) prog_4_method_10_code (5 : Nat) (Option.none : Option Jvm.ClassFile.FieldType)) ∈ lw_all := lw_g (lw_at lw_m10 215 rfl) rfl
theorem q2715 : (Jvm.Cond.methodLink "RewriteHouseModel" (419 : Nat) ({ cls := "RewriteHouseModel", name := "byteAt", desc := "(I)I" } : Jvm.MethodName)) ∈ lw_all := lw_g (lw_at lw_m10 216 rfl) rfl
theorem q2716 : (Jvm.Cond.privateMethod ({ cls := "RewriteHouseModel", name := "byteAt", desc := "(I)I" } : Jvm.MethodName)) ∈ lw_tbl := lw_at lw_m10 217 rfl
theorem q2717 : (Jvm.Cond.instanceMethod ({ cls := "RewriteHouseModel", name := "byteAt", desc := "(I)I" } : Jvm.MethodName)) ∈ lw_all := lw_g (lw_at lw_m10 218 rfl) rfl
theorem q2718 : (Jvm.Cond.code ({ cls := "RewriteHouseModel", name := "byteAt", desc := "(I)I" } : Jvm.MethodName) prog_4_method_7_code (2 : Nat) (Option.some Jvm.ClassFile.FieldType.int)) ∈ lw_all := lw_g (lw_at lw_m10 219 rfl) rfl
theorem q2719 : (Jvm.Cond.methodLink "RewriteHouseModel" (423 : Nat) ({ cls := "RewriteHouseModel", name := "isBlank", desc := "(I)Z" } : Jvm.MethodName)) ∈ lw_all := lw_g (lw_at lw_m10 220 rfl) rfl
theorem q2720 : (Jvm.Cond.static ({ cls := "RewriteHouseModel", name := "isBlank", desc := "(I)Z" } : Jvm.MethodName)) ∈ lw_all := lw_g (lw_at lw_m10 221 rfl) rfl
theorem q2721 : (Jvm.Cond.code ({ cls := "RewriteHouseModel", name := "isBlank", desc := "(I)Z" } : Jvm.MethodName) prog_4_method_8_code (1 : Nat) (Option.some Jvm.ClassFile.FieldType.boolean)) ∈ lw_all := lw_g (lw_at lw_m10 222 rfl) rfl
theorem q2722 : (Jvm.Cond.methodLink "RewriteHouseModel" (427 : Nat) ({ cls := "RewriteHouseModel", name := "isAlone", desc := "(I)Z" } : Jvm.MethodName)) ∈ lw_all := lw_g (lw_at lw_m10 223 rfl) rfl
theorem q2723 : (Jvm.Cond.static ({ cls := "RewriteHouseModel", name := "isAlone", desc := "(I)Z" } : Jvm.MethodName)) ∈ lw_all := lw_g (lw_at lw_m10 224 rfl) rfl
theorem q2724 : (Jvm.Cond.code ({ cls := "RewriteHouseModel", name := "isAlone", desc := "(I)Z" } : Jvm.MethodName) prog_4_method_9_code (1 : Nat) (Option.some Jvm.ClassFile.FieldType.boolean)) ∈ lw_all := lw_g (lw_at lw_m10 225 rfl) rfl
theorem q2725 : (Jvm.Cond.constantLong "RewriteHouseModel" (430 : Nat) (33 : Int64)) ∈ lw_all := lw_g (lw_at lw_m10 226 rfl) rfl
theorem q2726 : (Jvm.Cond.constantLong "RewriteHouseModel" (432 : Nat) (126 : Int64)) ∈ lw_all := lw_g (lw_at lw_m10 227 rfl) rfl
theorem q2727 : (Jvm.Cond.methodLink "RewriteHouseModel" (836 : Nat) ({ cls := "RewriteHouseModel", name := "noFault", desc := "()V" } : Jvm.MethodName)) ∈ lw_all := lw_g (lw_at lw_m10 228 rfl) rfl
theorem q2728 : (Jvm.Cond.privateMethod ({ cls := "RewriteHouseModel", name := "noFault", desc := "()V" } : Jvm.MethodName)) ∈ lw_tbl := lw_at lw_m10 229 rfl
theorem q2729 : (Jvm.Cond.instanceMethod ({ cls := "RewriteHouseModel", name := "noFault", desc := "()V" } : Jvm.MethodName)) ∈ lw_all := lw_g (lw_at lw_m10 230 rfl) rfl
theorem q2730 : (Jvm.Cond.code ({ cls := "RewriteHouseModel", name := "noFault", desc := "()V" } : Jvm.MethodName) prog_4_method_90_code (1 : Nat) (Option.none : Option Jvm.ClassFile.FieldType)) ∈ lw_all := lw_g (lw_at lw_m10 231 rfl) rfl
theorem q2731 : (Jvm.Cond.methodLink "RewriteHouseModel" (839 : Nat) ({ cls := "RewriteHouseModel", name := "readModule", desc := "()V" } : Jvm.MethodName)) ∈ lw_all := lw_g (lw_at lw_m10 232 rfl) rfl
theorem q2732 : (Jvm.Cond.privateMethod ({ cls := "RewriteHouseModel", name := "readModule", desc := "()V" } : Jvm.MethodName)) ∈ lw_tbl := lw_at lw_m10 233 rfl
theorem q2733 : (Jvm.Cond.instanceMethod ({ cls := "RewriteHouseModel", name := "readModule", desc := "()V" } : Jvm.MethodName)) ∈ lw_all := lw_g (lw_at lw_m10 234 rfl) rfl
theorem q2734 : (Jvm.Cond.code ({ cls := "RewriteHouseModel", name := "readModule", desc := "()V" } : Jvm.MethodName) prog_4_method_89_code (5 : Nat) (Option.none : Option Jvm.ClassFile.FieldType)) ∈ lw_all := lw_g (lw_at lw_m10 235 rfl) rfl
theorem q2735 : (Jvm.Cond.methodLink "RewriteHouseModel" (809 : Nat) ({ cls := "RewriteHouseModel", name := "readItems", desc := "()V" } : Jvm.MethodName)) ∈ lw_all := lw_g (lw_at lw_m10 236 rfl) rfl
theorem q2736 : (Jvm.Cond.privateMethod ({ cls := "RewriteHouseModel", name := "readItems", desc := "()V" } : Jvm.MethodName)) ∈ lw_tbl := lw_at lw_m10 237 rfl
theorem q2737 : (Jvm.Cond.instanceMethod ({ cls := "RewriteHouseModel", name := "readItems", desc := "()V" } : Jvm.MethodName)) ∈ lw_all := lw_g (lw_at lw_m10 238 rfl) rfl
theorem q2738 : (Jvm.Cond.code ({ cls := "RewriteHouseModel", name := "readItems", desc := "()V" } : Jvm.MethodName) prog_4_method_34_code (1 : Nat) (Option.none : Option Jvm.ClassFile.FieldType)) ∈ lw_all := lw_g (lw_at lw_m10 239 rfl) rfl
theorem q2739 : (Jvm.Cond.methodLink "RewriteHouseModel" (448 : Nat) ({ cls := "RewriteHouseModel", name := "isOver", desc := "()Z" } : Jvm.MethodName)) ∈ lw_all := lw_g (lw_at lw_m11 0 rfl) rfl
theorem q2740 : (Jvm.Cond.privateMethod ({ cls := "RewriteHouseModel", name := "isOver", desc := "()Z" } : Jvm.MethodName)) ∈ lw_tbl := lw_at lw_m11 1 rfl
theorem q2741 : (Jvm.Cond.instanceMethod ({ cls := "RewriteHouseModel", name := "isOver", desc := "()Z" } : Jvm.MethodName)) ∈ lw_all := lw_g (lw_at lw_m11 2 rfl) rfl
theorem q2742 : (Jvm.Cond.code ({ cls := "RewriteHouseModel", name := "isOver", desc := "()Z" } : Jvm.MethodName) prog_4_method_11_code (1 : Nat) (Option.some Jvm.ClassFile.FieldType.boolean)) ∈ lw_all := lw_g (lw_at lw_m11 3 rfl) rfl
theorem q2743 : (Jvm.Cond.methodLink "RewriteHouseModel" (434 : Nat) ({ cls := "RewriteHouseModel", name := "fail", desc := "(II)V" } : Jvm.MethodName)) ∈ lw_all := lw_g (lw_at lw_m11 4 rfl) rfl
theorem q2744 : (Jvm.Cond.privateMethod ({ cls := "RewriteHouseModel", name := "fail", desc := "(II)V" } : Jvm.MethodName)) ∈ lw_tbl := lw_at lw_m11 5 rfl
theorem q2745 : (Jvm.Cond.instanceMethod ({ cls := "RewriteHouseModel", name := "fail", desc := "(II)V" } : Jvm.MethodName)) ∈ lw_all := lw_g (lw_at lw_m11 6 rfl) rfl
theorem q2746 : (Jvm.Cond.code ({ cls := "RewriteHouseModel", name := "fail", desc := "(II)V" } : Jvm.MethodName) prog_4_method_3_code (3 : Nat) (Option.none : Option Jvm.ClassFile.FieldType)) ∈ lw_all := lw_g (lw_at lw_m11 7 rfl) rfl
theorem q2747 : (Jvm.Cond.stringRef "RewriteHouseModel" (573 : Nat) "sort") ∈ lw_tbl := lw_at lw_m11 8 rfl
theorem q2748 : (Jvm.Cond.methodLink "RewriteHouseModel" (478 : Nat) ({ cls := "RewriteHouseModel", name := "is", desc := "(Ljava/lang/String;)Z" } : Jvm.MethodName)) ∈ lw_all := lw_g (lw_at lw_m11 9 rfl) rfl
theorem q2749 : (Jvm.Cond.privateMethod ({ cls := "RewriteHouseModel", name := "is", desc := "(Ljava/lang/String;)Z" } : Jvm.MethodName)) ∈ lw_tbl := lw_at lw_m11 10 rfl
theorem q2750 : (Jvm.Cond.instanceMethod ({ cls := "RewriteHouseModel", name := "is", desc := "(Ljava/lang/String;)Z" } : Jvm.MethodName)) ∈ lw_all := lw_g (lw_at lw_m11 11 rfl) rfl
theorem q2751 : (Jvm.Cond.code ({ cls := "RewriteHouseModel", name := "is", desc := "(Ljava/lang/String;)Z" } : Jvm.MethodName) prog_4_method_14_code (2 : Nat) (Option.some Jvm.ClassFile.FieldType.boolean)) ∈ lw_all := lw_g (lw_at lw_m11 12 rfl) rfl
theorem q2752 : (Jvm.Cond.methodLink "RewriteHouseModel" (452 : Nat) ({ cls := "RewriteHouseModel", name := "isWordAt", desc := "(ILjava/lang/String;)Z" } : Jvm.MethodName)) ∈ lw_all := lw_g (lw_at lw_m11 13 rfl) rfl
theorem q2753 : (Jvm.Cond.privateMethod ({ cls := "RewriteHouseModel", name := "isWordAt", desc := "(ILjava/lang/String;)Z" } : Jvm.MethodName)) ∈ lw_tbl := lw_at lw_m11 14 rfl
theorem q2754 : (Jvm.Cond.instanceMethod ({ cls := "RewriteHouseModel", name := "isWordAt", desc := "(ILjava/lang/String;)Z" } : Jvm.MethodName)) ∈ lw_all := lw_g (lw_at lw_m11 15 rfl) rfl
theorem q2755 : (Jvm.Cond.code ({ cls := "RewriteHouseModel", name := "isWordAt", desc := "(ILjava/lang/String;)Z" } : Jvm.MethodName) prog_4_method_13_code (5 : Nat) (Option.some Jvm.ClassFile.FieldType.boolean)) ∈ lw_all := lw_g (lw_at lw_m11 16 rfl) rfl
theorem q2756 : (Jvm.Cond.methodLink "RewriteHouseModel" (438 : Nat) ({ cls := "java/lang/String", name := "length", desc := "()I" } : Jvm.MethodName)) ∈ lw_all := lw_g (lw_at lw_m11 17 rfl) rfl
theorem q2757 : (Jvm.Cond.methodLink "RewriteHouseModel" (444 : Nat) ({ cls := "java/lang/String", name := "charAt", desc := "(I)C" } : Jvm.MethodName)) ∈ lw_all := lw_g (lw_at lw_m11 18 rfl) rfl
theorem q2758 : (Jvm.Cond.methodLink "RewriteHouseModel" (575 : Nat) ({ cls := "RewriteHouseModel", name := "sortItem", desc := "()V" } : Jvm.MethodName)) ∈ lw_all := lw_g (lw_at lw_m11 19 rfl) rfl
theorem q2759 : (Jvm.Cond.privateMethod ({ cls := "RewriteHouseModel", name := "sortItem", desc := "()V" } : Jvm.MethodName)) ∈ lw_tbl := lw_at lw_m11 20 rfl
theorem q2760 : (Jvm.Cond.instanceMethod ({ cls := "RewriteHouseModel", name := "sortItem", desc := "()V" } : Jvm.MethodName)) ∈ lw_all := lw_g (lw_at lw_m11 21 rfl) rfl
theorem q2761 : (Jvm.Cond.code ({ cls := "RewriteHouseModel", name := "sortItem", desc := "()V" } : Jvm.MethodName) prog_4_method_27_code (3 : Nat) (Option.none : Option Jvm.ClassFile.FieldType)) ∈ lw_all := lw_g (lw_at lw_m11 22 rfl) rfl
theorem q2762 : (Jvm.Cond.methodLink "RewriteHouseModel" (482 : Nat) ({ cls := "RewriteHouseModel", name := "pass", desc := "()V" } : Jvm.MethodName)) ∈ lw_all := lw_g (lw_at lw_m11 23 rfl) rfl
theorem q2763 : (Jvm.Cond.privateMethod ({ cls := "RewriteHouseModel", name := "pass", desc := "()V" } : Jvm.MethodName)) ∈ lw_tbl := lw_at lw_m11 24 rfl
theorem q2764 : (Jvm.Cond.instanceMethod ({ cls := "RewriteHouseModel", name := "pass", desc := "()V" } : Jvm.MethodName)) ∈ lw_all := lw_g (lw_at lw_m11 25 rfl) rfl
theorem q2765 : (Jvm.Cond.code ({ cls := "RewriteHouseModel", name := "pass", desc := "()V" } : Jvm.MethodName) prog_4_method_16_code (1 : Nat) (Option.none : Option Jvm.ClassFile.FieldType)) ∈ lw_all := lw_g (lw_at lw_m11 26 rfl) rfl
theorem q2766 : (Jvm.Cond.methodLink "RewriteHouseModel" (475 : Nat) ({ cls := "RewriteHouseModel", name := "here", desc := "()I" } : Jvm.MethodName)) ∈ lw_all := lw_g (lw_at lw_m11 27 rfl) rfl
theorem q2767 : (Jvm.Cond.privateMethod ({ cls := "RewriteHouseModel", name := "here", desc := "()I" } : Jvm.MethodName)) ∈ lw_tbl := lw_at lw_m11 28 rfl
theorem q2768 : (Jvm.Cond.instanceMethod ({ cls := "RewriteHouseModel", name := "here", desc := "()I" } : Jvm.MethodName)) ∈ lw_all := lw_g (lw_at lw_m11 29 rfl) rfl
theorem q2769 : (Jvm.Cond.code ({ cls := "RewriteHouseModel", name := "here", desc := "()I" } : Jvm.MethodName) prog_4_method_12_code (1 : Nat) (Option.some Jvm.ClassFile.FieldType.int)) ∈ lw_all := lw_g (lw_at lw_m11 30 rfl) rfl
theorem q2770 : (Jvm.Cond.stringRef "RewriteHouseModel" (456 : Nat) ".") ∈ lw_tbl := lw_at lw_m11 31 rfl
theorem q2771 : (Jvm.Cond.methodLink "RewriteHouseModel" (524 : Nat) ({ cls := "RewriteHouseModel", name := "isPlain", desc := "()Z" } : Jvm.MethodName)) ∈ lw_all := lw_g (lw_at lw_m11 32 rfl) rfl
theorem q2772 : (Jvm.Cond.privateMethod ({ cls := "RewriteHouseModel", name := "isPlain", desc := "()Z" } : Jvm.MethodName)) ∈ lw_tbl := lw_at lw_m11 33 rfl
theorem q2773 : (Jvm.Cond.instanceMethod ({ cls := "RewriteHouseModel", name := "isPlain", desc := "()Z" } : Jvm.MethodName)) ∈ lw_all := lw_g (lw_at lw_m11 34 rfl) rfl
theorem q2774 : (Jvm.Cond.code ({ cls := "RewriteHouseModel", name := "isPlain", desc := "()Z" } : Jvm.MethodName) prog_4_method_19_code (1 : Nat) (Option.some Jvm.ClassFile.FieldType.boolean)) ∈ lw_all := lw_g (lw_at lw_m11 35 rfl) rfl
theorem q2775 : (Jvm.Cond.methodLink "RewriteHouseModel" (485 : Nat) ({ cls := "RewriteHouseModel", name := "isReserved", desc := "(I)Z" } : Jvm.MethodName)) ∈ lw_all := lw_g (lw_at lw_m11 36 rfl) rfl
theorem q2776 : (Jvm.Cond.privateMethod ({ cls := "RewriteHouseModel", name := "isReserved", desc := "(I)Z" } : Jvm.MethodName)) ∈ lw_tbl := lw_at lw_m11 37 rfl
theorem q2777 : (Jvm.Cond.instanceMethod ({ cls := "RewriteHouseModel", name := "isReserved", desc := "(I)Z" } : Jvm.MethodName)) ∈ lw_all := lw_g (lw_at lw_m11 38 rfl) rfl
theorem q2778 : (Jvm.Cond.code ({ cls := "RewriteHouseModel", name := "isReserved", desc := "(I)Z" } : Jvm.MethodName) prog_4_method_15_code (2 : Nat) (Option.some Jvm.ClassFile.FieldType.boolean)) ∈ lw_all := lw_g (lw_at lw_m11 39 rfl) rfl
theorem q2779 : (Jvm.Cond.stringRef "RewriteHouseModel" (458 : Nat) ":") ∈ lw_tbl := lw_at lw_m11 40 rfl
theorem q2780 : (Jvm.Cond.stringRef "RewriteHouseModel" (460 : Nat) "->") ∈ lw_tbl := lw_at lw_m11 41 rfl
theorem q2781 : (Jvm.Cond.stringRef "RewriteHouseModel" (462 : Nat) "=") ∈ lw_tbl := lw_at lw_m11 42 rfl
theorem q2782 : (Jvm.Cond.stringRef "RewriteHouseModel" (464 : Nat) "=>") ∈ lw_tbl := lw_at lw_m11 43 rfl
theorem q2783 : (Jvm.Cond.stringRef "RewriteHouseModel" (466 : Nat) ":=") ∈ lw_tbl := lw_at lw_m11 44 rfl
theorem q2784 : (Jvm.Cond.stringRef "RewriteHouseModel" (468 : Nat) "if") ∈ lw_tbl := lw_at lw_m11 45 rfl
theorem q2785 : (Jvm.Cond.stringRef "RewriteHouseModel" (470 : Nat) "/\\") ∈ lw_tbl := lw_at lw_m11 46 rfl
theorem q2786 : (Jvm.Cond.methodLink "RewriteHouseModel" (506 : Nat) ({ cls := "RewriteHouseModel", name := "plainWord", desc := "()I" } : Jvm.MethodName)) ∈ lw_all := lw_g (lw_at lw_m11 47 rfl) rfl
theorem q2787 : (Jvm.Cond.privateMethod ({ cls := "RewriteHouseModel", name := "plainWord", desc := "()I" } : Jvm.MethodName)) ∈ lw_tbl := lw_at lw_m11 48 rfl
theorem q2788 : (Jvm.Cond.instanceMethod ({ cls := "RewriteHouseModel", name := "plainWord", desc := "()I" } : Jvm.MethodName)) ∈ lw_all := lw_g (lw_at lw_m11 49 rfl) rfl
theorem q2789 : (Jvm.Cond.code ({ cls := "RewriteHouseModel", name := "plainWord", desc := "()I" } : Jvm.MethodName) prog_4_method_18_code (2 : Nat) (Option.some Jvm.ClassFile.FieldType.int)) ∈ lw_all := lw_g (lw_at lw_m11 50 rfl) rfl
theorem q2790 : (Jvm.Cond.stringRef "RewriteHouseModel" (578 : Nat) "subsort") ∈ lw_tbl := lw_at lw_m11 51 rfl
theorem q2791 : (Jvm.Cond.methodLink "RewriteHouseModel" (580 : Nat) ({ cls := "RewriteHouseModel", name := "subsortItem", desc := "()V" } : Jvm.MethodName)) ∈ lw_all := lw_g (lw_at lw_m11 52 rfl) rfl
theorem q2792 : (Jvm.Cond.privateMethod ({ cls := "RewriteHouseModel", name := "subsortItem", desc := "()V" } : Jvm.MethodName)) ∈ lw_tbl := lw_at lw_m11 53 rfl
theorem q2793 : (Jvm.Cond.instanceMethod ({ cls := "RewriteHouseModel", name := "subsortItem", desc := "()V" } : Jvm.MethodName)) ∈ lw_all := lw_g (lw_at lw_m11 54 rfl) rfl
theorem q2794 : (Jvm.Cond.code ({ cls := "RewriteHouseModel", name := "subsortItem", desc := "()V" } : Jvm.MethodName) prog_4_method_28_code (1 : Nat) (Option.none : Option Jvm.ClassFile.FieldType)) ∈ lw_all := lw_g (lw_at lw_m11 55 rfl) rfl
theorem q2795 : (Jvm.Cond.methodLink "RewriteHouseModel" (527 : Nat) ({ cls := "RewriteHouseModel", name := "group", desc := "()V" } : Jvm.MethodName)) ∈ lw_all := lw_g (lw_at lw_m11 56 rfl) rfl
theorem q2796 : (Jvm.Cond.privateMethod ({ cls := "RewriteHouseModel", name := "group", desc := "()V" } : Jvm.MethodName)) ∈ lw_tbl := lw_at lw_m11 57 rfl
theorem q2797 : (Jvm.Cond.instanceMethod ({ cls := "RewriteHouseModel", name := "group", desc := "()V" } : Jvm.MethodName)) ∈ lw_all := lw_g (lw_at lw_m11 58 rfl) rfl
theorem q2798 : (Jvm.Cond.code ({ cls := "RewriteHouseModel", name := "group", desc := "()V" } : Jvm.MethodName) prog_4_method_29_code (2 : Nat) (Option.none : Option Jvm.ClassFile.FieldType)) ∈ lw_all := lw_g (lw_at lw_m11 59 rfl) rfl
theorem q2799 : (Jvm.Cond.stringRef "RewriteHouseModel" (530 : Nat) "<") ∈ lw_tbl := lw_at lw_m11 60 rfl
theorem q2800 : (Jvm.Cond.methodLink "RewriteHouseModel" (502 : Nat) ({ cls := "RewriteHouseModel", name := "must", desc := "(Ljava/lang/String;)V" } : Jvm.MethodName)) ∈ lw_all := lw_g (lw_at lw_m11 61 rfl) rfl
theorem q2801 : (Jvm.Cond.privateMethod ({ cls := "RewriteHouseModel", name := "must", desc := "(Ljava/lang/String;)V" } : Jvm.MethodName)) ∈ lw_tbl := lw_at lw_m11 62 rfl
theorem q2802 : (Jvm.Cond.instanceMethod ({ cls := "RewriteHouseModel", name := "must", desc := "(Ljava/lang/String;)V" } : Jvm.MethodName)) ∈ lw_all := lw_g (lw_at lw_m11 63 rfl) rfl
theorem q2803 : (Jvm.Cond.code ({ cls := "RewriteHouseModel", name := "must", desc := "(Ljava/lang/String;)V" } : Jvm.MethodName) prog_4_method_17_code (2 : Nat) (Option.none : Option Jvm.ClassFile.FieldType)) ∈ lw_all := lw_g (lw_at lw_m11 64 rfl) rfl
theorem q2804 : (Jvm.Cond.stringRef "RewriteHouseModel" (583 : Nat) "var") ∈ lw_tbl := lw_at lw_m11 65 rfl
theorem q2805 : (Jvm.Cond.methodLink "RewriteHouseModel" (585 : Nat) ({ cls := "RewriteHouseModel", name := "varItem", desc := "()V" } : Jvm.MethodName)) ∈ lw_all := lw_g (lw_at lw_m11 66 rfl) rfl
theorem q2806 : (Jvm.Cond.privateMethod ({ cls := "RewriteHouseModel", name := "varItem", desc := "()V" } : Jvm.MethodName)) ∈ lw_tbl := lw_at lw_m11 67 rfl
theorem q2807 : (Jvm.Cond.instanceMethod ({ cls := "RewriteHouseModel", name := "varItem", desc := "()V" } : Jvm.MethodName)) ∈ lw_all := lw_g (lw_at lw_m11 68 rfl) rfl
theorem q2808 : (Jvm.Cond.code ({ cls := "RewriteHouseModel", name := "varItem", desc := "()V" } : Jvm.MethodName) prog_4_method_30_code (4 : Nat) (Option.none : Option Jvm.ClassFile.FieldType)) ∈ lw_all := lw_g (lw_at lw_m11 69 rfl) rfl
theorem q2809 : (Jvm.Cond.stringRef "RewriteHouseModel" (588 : Nat) "op") ∈ lw_tbl := lw_at lw_m11 70 rfl
theorem q2810 : (Jvm.Cond.methodLink "RewriteHouseModel" (590 : Nat) ({ cls := "RewriteHouseModel", name := "opItem", desc := "()V" } : Jvm.MethodName)) ∈ lw_all := lw_g (lw_at lw_m11 71 rfl) rfl
theorem q2811 : (Jvm.Cond.privateMethod ({ cls := "RewriteHouseModel", name := "opItem", desc := "()V" } : Jvm.MethodName)) ∈ lw_tbl := lw_at lw_m11 72 rfl
theorem q2812 : (Jvm.Cond.instanceMethod ({ cls := "RewriteHouseModel", name := "opItem", desc := "()V" } : Jvm.MethodName)) ∈ lw_all := lw_g (lw_at lw_m11 73 rfl) rfl
theorem q2813 : (Jvm.Cond.code ({ cls := "RewriteHouseModel", name := "opItem", desc := "()V" } : Jvm.MethodName) prog_4_method_31_code (3 : Nat) (Option.none : Option Jvm.ClassFile.FieldType)) ∈ lw_all := lw_g (lw_at lw_m11 74 rfl) rfl
theorem q2814 : (Jvm.Cond.stringRef "RewriteHouseModel" (541 : Nat) "[") ∈ lw_tbl := lw_at lw_m11 75 rfl
theorem q2815 : (Jvm.Cond.methodLink "RewriteHouseModel" (543 : Nat) ({ cls := "RewriteHouseModel", name := "attribute", desc := "(I)V" } : Jvm.MethodName)) ∈ lw_all := lw_g (lw_at lw_m11 76 rfl) rfl
theorem q2816 : (Jvm.Cond.privateMethod ({ cls := "RewriteHouseModel", name := "attribute", desc := "(I)V" } : Jvm.MethodName)) ∈ lw_tbl := lw_at lw_m11 77 rfl
theorem q2817 : (Jvm.Cond.instanceMethod ({ cls := "RewriteHouseModel", name := "attribute", desc := "(I)V" } : Jvm.MethodName)) ∈ lw_all := lw_g (lw_at lw_m11 78 rfl) rfl
theorem q2818 : (Jvm.Cond.code ({ cls := "RewriteHouseModel", name := "attribute", desc := "(I)V" } : Jvm.MethodName) prog_4_method_32_code (2 : Nat) (Option.none : Option Jvm.ClassFile.FieldType)) ∈ lw_all := lw_g (lw_at lw_m11 79 rfl) rfl
theorem q2819 : (Jvm.Cond.stringRef "RewriteHouseModel" (548 : Nat) "assoc") ∈ lw_tbl := lw_at lw_m11 80 rfl
theorem q2820 : (Jvm.Cond.stringRef "RewriteHouseModel" (550 : Nat) "comm") ∈ lw_tbl := lw_at lw_m11 81 rfl
theorem q2821 : (Jvm.Cond.stringRef "RewriteHouseModel" (552 : Nat) "id") ∈ lw_tbl := lw_at lw_m11 82 rfl
theorem q2822 : (Jvm.Cond.stringRef "RewriteHouseModel" (554 : Nat) "prec") ∈ lw_tbl := lw_at lw_m11 83 rfl
theorem q2823 : (Jvm.Cond.methodLink "RewriteHouseModel" (556 : Nat) ({ cls := "RewriteHouseModel", name := "digits", desc := "()I" } : Jvm.MethodName)) ∈ lw_all := lw_g (lw_at lw_m11 84 rfl) rfl
theorem q2824 : (Jvm.Cond.privateMethod ({ cls := "RewriteHouseModel", name := "digits", desc := "()I" } : Jvm.MethodName)) ∈ lw_tbl := lw_at lw_m11 85 rfl
theorem q2825 : (Jvm.Cond.instanceMethod ({ cls := "RewriteHouseModel", name := "digits", desc := "()I" } : Jvm.MethodName)) ∈ lw_all := lw_g (lw_at lw_m11 86 rfl) rfl
theorem q2826 : (Jvm.Cond.code ({ cls := "RewriteHouseModel", name := "digits", desc := "()I" } : Jvm.MethodName) prog_4_method_33_code (5 : Nat) (Option.some Jvm.ClassFile.FieldType.int)) ∈ lw_all := lw_g (lw_at lw_m11 87 rfl) rfl
theorem q2827 : (Jvm.Cond.constantLong "RewriteHouseModel" (567 : Nat) (2 : Int64)) ∈ lw_all := lw_g (lw_at lw_m11 88 rfl) rfl
theorem q2828 : (Jvm.Cond.constantLong "RewriteHouseModel" (569 : Nat) (48 : Int64)) ∈ lw_all := lw_g (lw_at lw_m11 89 rfl) rfl
theorem q2829 : (Jvm.Cond.constantLong "RewriteHouseModel" (571 : Nat) (57 : Int64)) ∈ lw_all := lw_g (lw_at lw_m11 90 rfl) rfl
theorem q2830 : (Jvm.Cond.stringRef "RewriteHouseModel" (559 : Nat) "gather") ∈ lw_tbl := lw_at lw_m11 91 rfl
theorem q2831 : (Jvm.Cond.stringRef "RewriteHouseModel" (561 : Nat) "&") ∈ lw_tbl := lw_at lw_m11 92 rfl
theorem q2832 : (Jvm.Cond.stringRef "RewriteHouseModel" (563 : Nat) "e") ∈ lw_tbl := lw_at lw_m11 93 rfl
theorem q2833 : (Jvm.Cond.stringRef "RewriteHouseModel" (565 : Nat) "E") ∈ lw_tbl := lw_at lw_m11 94 rfl
theorem q2834 : (Jvm.Cond.stringRef "RewriteHouseModel" (546 : Nat) "]") ∈ lw_tbl := lw_at lw_m11 95 rfl
theorem q2835 : (Jvm.Cond.stringRef "RewriteHouseModel" (593 : Nat) "eq") ∈ lw_tbl := lw_at lw_m11 96 rfl
theorem q2836 : (Jvm.Cond.methodLink "RewriteHouseModel" (595 : Nat) ({ cls := "RewriteHouseModel", name := "statement", desc := "(I)V" } : Jvm.MethodName)) ∈ lw_all := lw_g (lw_at lw_m11 97 rfl) rfl
theorem q2837 : (Jvm.Cond.privateMethod ({ cls := "RewriteHouseModel", name := "statement", desc := "(I)V" } : Jvm.MethodName)) ∈ lw_tbl := lw_at lw_m11 98 rfl
theorem q2838 : (Jvm.Cond.instanceMethod ({ cls := "RewriteHouseModel", name := "statement", desc := "(I)V" } : Jvm.MethodName)) ∈ lw_all := lw_g (lw_at lw_m11 99 rfl) rfl
theorem q2839 : (Jvm.Cond.code ({ cls := "RewriteHouseModel", name := "statement", desc := "(I)V" } : Jvm.MethodName) prog_4_method_26_code (4 : Nat) (Option.none : Option Jvm.ClassFile.FieldType)) ∈ lw_all := lw_g (lw_at lw_m11 100 rfl) rfl
theorem q2840 : (Jvm.Cond.methodLink "RewriteHouseModel" (498 : Nat) ({ cls := "RewriteHouseModel", name := "termWords", desc := "(I)V" } : Jvm.MethodName)) ∈ lw_all := lw_g (lw_at lw_m11 101 rfl) rfl
theorem q2841 : (Jvm.Cond.privateMethod ({ cls := "RewriteHouseModel", name := "termWords", desc := "(I)V" } : Jvm.MethodName)) ∈ lw_tbl := lw_at lw_m11 102 rfl
theorem q2842 : (Jvm.Cond.instanceMethod ({ cls := "RewriteHouseModel", name := "termWords", desc := "(I)V" } : Jvm.MethodName)) ∈ lw_all := lw_g (lw_at lw_m11 103 rfl) rfl
theorem q2843 : (Jvm.Cond.code ({ cls := "RewriteHouseModel", name := "termWords", desc := "(I)V" } : Jvm.MethodName) prog_4_method_24_code (3 : Nat) (Option.none : Option Jvm.ClassFile.FieldType)) ∈ lw_all := lw_g (lw_at lw_m11 104 rfl) rfl
theorem q2844 : (Jvm.Cond.methodLink "RewriteHouseModel" (518 : Nat) ({ cls := "RewriteHouseModel", name := "conditions", desc := "(I)V" } : Jvm.MethodName)) ∈ lw_all := lw_g (lw_at lw_m11 105 rfl) rfl
theorem q2845 : (Jvm.Cond.privateMethod ({ cls := "RewriteHouseModel", name := "conditions", desc := "(I)V" } : Jvm.MethodName)) ∈ lw_tbl := lw_at lw_m11 106 rfl
theorem q2846 : (Jvm.Cond.instanceMethod ({ cls := "RewriteHouseModel", name := "conditions", desc := "(I)V" } : Jvm.MethodName)) ∈ lw_all := lw_g (lw_at lw_m11 107 rfl) rfl
theorem q2847 : (Jvm.Cond.code ({ cls := "RewriteHouseModel", name := "conditions", desc := "(I)V" } : Jvm.MethodName) prog_4_method_25_code (5 : Nat) (Option.none : Option Jvm.ClassFile.FieldType)) ∈ lw_all := lw_g (lw_at lw_m11 108 rfl) rfl
theorem q2848 : (Jvm.Cond.stringRef "RewriteHouseModel" (598 : Nat) "oeq") ∈ lw_tbl := lw_at lw_m11 109 rfl
theorem q2849 : (Jvm.Cond.stringRef "RewriteHouseModel" (600 : Nat) "rl") ∈ lw_tbl := lw_at lw_m11 110 rfl
theorem q2850 : (Jvm.Cond.methodLink "RewriteHouseModel" (812 : Nat) ({ cls := "RewriteHouseModel", name := "readSorts", desc := "()V" } : Jvm.MethodName)) ∈ lw_all := lw_g (lw_at lw_m11 111 rfl) rfl
theorem q2851 : (Jvm.Cond.privateMethod ({ cls := "RewriteHouseModel", name := "readSorts", desc := "()V" } : Jvm.MethodName)) ∈ lw_tbl := lw_at lw_m11 112 rfl
theorem q2852 : (Jvm.Cond.instanceMethod ({ cls := "RewriteHouseModel", name := "readSorts", desc := "()V" } : Jvm.MethodName)) ∈ lw_all := lw_g (lw_at lw_m11 113 rfl) rfl
theorem q2853 : (Jvm.Cond.code ({ cls := "RewriteHouseModel", name := "readSorts", desc := "()V" } : Jvm.MethodName) prog_4_method_40_code (8 : Nat) (Option.none : Option Jvm.ClassFile.FieldType)) ∈ lw_all := lw_g (lw_at lw_m11 114 rfl) rfl
theorem q2854 : (Jvm.Cond.methodLink "RewriteHouseModel" (618 : Nat) ({ cls := "RewriteHouseModel", name := "nameOf", desc := "(I)I" } : Jvm.MethodName)) ∈ lw_all := lw_g (lw_at lw_m11 115 rfl) rfl
theorem q2855 : (Jvm.Cond.privateMethod ({ cls := "RewriteHouseModel", name := "nameOf", desc := "(I)I" } : Jvm.MethodName)) ∈ lw_tbl := lw_at lw_m11 116 rfl
theorem q2856 : (Jvm.Cond.instanceMethod ({ cls := "RewriteHouseModel", name := "nameOf", desc := "(I)I" } : Jvm.MethodName)) ∈ lw_all := lw_g (lw_at lw_m11 117 rfl) rfl
theorem q2857 : (Jvm.Cond.code ({ cls := "RewriteHouseModel", name := "nameOf", desc := "(I)I" } : Jvm.MethodName) prog_4_method_22_code (2 : Nat) (Option.some Jvm.ClassFile.FieldType.int)) ∈ lw_all := lw_g (lw_at lw_m11 118 rfl) rfl
theorem q2858 : (Jvm.Cond.methodLink "RewriteHouseModel" (495 : Nat) ({ cls := "RewriteHouseModel", name := "name", desc := "(II)I" } : Jvm.MethodName)) ∈ lw_all := lw_g (lw_at lw_m11 119 rfl) rfl
theorem q2859 : (Jvm.Cond.privateMethod ({ cls := "RewriteHouseModel", name := "name", desc := "(II)I" } : Jvm.MethodName)) ∈ lw_tbl := lw_at lw_m11 120 rfl
theorem q2860 : (Jvm.Cond.instanceMethod ({ cls := "RewriteHouseModel", name := "name", desc := "(II)I" } : Jvm.MethodName)) ∈ lw_all := lw_g (lw_at lw_m11 121 rfl) rfl
theorem q2861 : (Jvm.Cond.code ({ cls := "RewriteHouseModel", name := "name", desc := "(II)I" } : Jvm.MethodName) prog_4_method_21_code (5 : Nat) (Option.some Jvm.ClassFile.FieldType.int)) ∈ lw_all := lw_g (lw_at lw_m11 122 rfl) rfl
theorem q2862 : (Jvm.Cond.methodLink "RewriteHouseModel" (491 : Nat) ({ cls := "RewriteHouseModel", name := "findName", desc := "(II)I" } : Jvm.MethodName)) ∈ lw_all := lw_g (lw_at lw_m11 123 rfl) rfl
theorem q2863 : (Jvm.Cond.privateMethod ({ cls := "RewriteHouseModel", name := "findName", desc := "(II)I" } : Jvm.MethodName)) ∈ lw_tbl := lw_at lw_m11 124 rfl
theorem q2864 : (Jvm.Cond.instanceMethod ({ cls := "RewriteHouseModel", name := "findName", desc := "(II)I" } : Jvm.MethodName)) ∈ lw_all := lw_g (lw_at lw_m11 125 rfl) rfl
theorem q2865 : (Jvm.Cond.code ({ cls := "RewriteHouseModel", name := "findName", desc := "(II)I" } : Jvm.MethodName) prog_4_method_20_code (6 : Nat) (Option.some Jvm.ClassFile.FieldType.int)) ∈ lw_all := lw_g (lw_at lw_m11 126 rfl) rfl
theorem q2866 : (Jvm.Cond.methodLink "RewriteHouseModel" (611 : Nat) ({ cls := "RewriteHouseModel", name := "blame", desc := "(II)V" } : Jvm.MethodName)) ∈ lw_all := lw_g (lw_at lw_m11 127 rfl) rfl
theorem q2867 : (Jvm.Cond.privateMethod ({ cls := "RewriteHouseModel", name := "blame", desc := "(II)V" } : Jvm.MethodName)) ∈ lw_tbl := lw_at lw_m11 128 rfl
theorem q2868 : (Jvm.Cond.instanceMethod ({ cls := "RewriteHouseModel", name := "blame", desc := "(II)V" } : Jvm.MethodName)) ∈ lw_all := lw_g (lw_at lw_m11 129 rfl) rfl
theorem q2869 : (Jvm.Cond.code ({ cls := "RewriteHouseModel", name := "blame", desc := "(II)V" } : Jvm.MethodName) prog_4_method_35_code (3 : Nat) (Option.none : Option Jvm.ClassFile.FieldType)) ∈ lw_all := lw_g (lw_at lw_m11 130 rfl) rfl
theorem q2870 : (Jvm.Cond.methodLink "RewriteHouseModel" (621 : Nat) ({ cls := "RewriteHouseModel", name := "sortOrBlame", desc := "(I)I" } : Jvm.MethodName)) ∈ lw_all := lw_g (lw_at lw_m11 131 rfl) rfl
theorem q2871 : (Jvm.Cond.privateMethod ({ cls := "RewriteHouseModel", name := "sortOrBlame", desc := "(I)I" } : Jvm.MethodName)) ∈ lw_tbl := lw_at lw_m11 132 rfl
theorem q2872 : (Jvm.Cond.instanceMethod ({ cls := "RewriteHouseModel", name := "sortOrBlame", desc := "(I)I" } : Jvm.MethodName)) ∈ lw_all := lw_g (lw_at lw_m11 133 rfl) rfl
theorem q2873 : (Jvm.Cond.code ({ cls := "RewriteHouseModel", name := "sortOrBlame", desc := "(I)I" } : Jvm.MethodName) prog_4_method_37_code (3 : Nat) (Option.some Jvm.ClassFile.FieldType.int)) ∈ lw_all := lw_g (lw_at lw_m11 134 rfl) rfl
theorem q2874 : (Jvm.Cond.methodLink "RewriteHouseModel" (608 : Nat) ({ cls := "RewriteHouseModel", name := "findSort", desc := "(I)I" } : Jvm.MethodName)) ∈ lw_all := lw_g (lw_at lw_m11 135 rfl) rfl
theorem q2875 : (Jvm.Cond.privateMethod ({ cls := "RewriteHouseModel", name := "findSort", desc := "(I)I" } : Jvm.MethodName)) ∈ lw_tbl := lw_at lw_m11 136 rfl
theorem q2876 : (Jvm.Cond.instanceMethod ({ cls := "RewriteHouseModel", name := "findSort", desc := "(I)I" } : Jvm.MethodName)) ∈ lw_all := lw_g (lw_at lw_m11 137 rfl) rfl
theorem q2877 : (Jvm.Cond.code ({ cls := "RewriteHouseModel", name := "findSort", desc := "(I)I" } : Jvm.MethodName) prog_4_method_36_code (4 : Nat) (Option.some Jvm.ClassFile.FieldType.int)) ∈ lw_all := lw_g (lw_at lw_m11 138 rfl) rfl
theorem q2878 : (Jvm.Cond.methodLink "RewriteHouseModel" (624 : Nat) ({ cls := "RewriteHouseModel", name := "join", desc := "(III)V" } : Jvm.MethodName)) ∈ lw_all := lw_g (lw_at lw_m11 139 rfl) rfl
theorem q2879 : (Jvm.Cond.privateMethod ({ cls := "RewriteHouseModel", name := "join", desc := "(III)V" } : Jvm.MethodName)) ∈ lw_tbl := lw_at lw_m11 140 rfl
theorem q2880 : (Jvm.Cond.instanceMethod ({ cls := "RewriteHouseModel", name := "join", desc := "(III)V" } : Jvm.MethodName)) ∈ lw_all := lw_g (lw_at lw_m11 141 rfl) rfl
theorem q2881 : (Jvm.Cond.code ({ cls := "RewriteHouseModel", name := "join", desc := "(III)V" } : Jvm.MethodName) prog_4_method_41_code (7 : Nat) (Option.none : Option Jvm.ClassFile.FieldType)) ∈ lw_all := lw_g (lw_at lw_m11 142 rfl) rfl
theorem q2882 : (Jvm.Cond.methodLink "RewriteHouseModel" (614 : Nat) ({ cls := "RewriteHouseModel", name := "isBelow", desc := "(II)Z" } : Jvm.MethodName)) ∈ lw_all := lw_g (lw_at lw_m11 143 rfl) rfl
theorem q2883 : (Jvm.Cond.privateMethod ({ cls := "RewriteHouseModel", name := "isBelow", desc := "(II)Z" } : Jvm.MethodName)) ∈ lw_tbl := lw_at lw_m11 144 rfl
theorem q2884 : (Jvm.Cond.instanceMethod ({ cls := "RewriteHouseModel", name := "isBelow", desc := "(II)Z" } : Jvm.MethodName)) ∈ lw_all := lw_g (lw_at lw_m11 145 rfl) rfl
theorem q2885 : (Jvm.Cond.code ({ cls := "RewriteHouseModel", name := "isBelow", desc := "(II)Z" } : Jvm.MethodName) prog_4_method_38_code (3 : Nat) (Option.some Jvm.ClassFile.FieldType.boolean)) ∈ lw_all := lw_g (lw_at lw_m11 146 rfl) rfl
theorem q2886 : (Jvm.Cond.methodLink "RewriteHouseModel" (628 : Nat) ({ cls := "RewriteHouseModel", name := "addOrder", desc := "(II)V" } : Jvm.MethodName)) ∈ lw_all := lw_g (lw_at lw_m11 147 rfl) rfl
theorem q2887 : (Jvm.Cond.privateMethod ({ cls := "RewriteHouseModel", name := "addOrder", desc := "(II)V" } : Jvm.MethodName)) ∈ lw_tbl := lw_at lw_m11 148 rfl
theorem q2888 : (Jvm.Cond.instanceMethod ({ cls := "RewriteHouseModel", name := "addOrder", desc := "(II)V" } : Jvm.MethodName)) ∈ lw_all := lw_g (lw_at lw_m11 149 rfl) rfl
theorem q2889 : (Jvm.Cond.code ({ cls := "RewriteHouseModel", name := "addOrder", desc := "(II)V" } : Jvm.MethodName) prog_4_method_39_code (4 : Nat) (Option.none : Option Jvm.ClassFile.FieldType)) ∈ lw_all := lw_g (lw_at lw_m11 150 rfl) rfl
theorem q2890 : (Jvm.Cond.methodLink "RewriteHouseModel" (815 : Nat) ({ cls := "RewriteHouseModel", name := "readVars", desc := "()V" } : Jvm.MethodName)) ∈ lw_all := lw_g (lw_at lw_m11 151 rfl) rfl
theorem q2891 : (Jvm.Cond.privateMethod ({ cls := "RewriteHouseModel", name := "readVars", desc := "()V" } : Jvm.MethodName)) ∈ lw_tbl := lw_at lw_m11 152 rfl
theorem q2892 : (Jvm.Cond.instanceMethod ({ cls := "RewriteHouseModel", name := "readVars", desc := "()V" } : Jvm.MethodName)) ∈ lw_all := lw_g (lw_at lw_m11 153 rfl) rfl
theorem q2893 : (Jvm.Cond.code ({ cls := "RewriteHouseModel", name := "readVars", desc := "()V" } : Jvm.MethodName) prog_4_method_43_code (6 : Nat) (Option.none : Option Jvm.ClassFile.FieldType)) ∈ lw_all := lw_g (lw_at lw_m11 154 rfl) rfl
theorem q2894 : (Jvm.Cond.methodLink "RewriteHouseModel" (818 : Nat) ({ cls := "RewriteHouseModel", name := "readRows", desc := "()V" } : Jvm.MethodName)) ∈ lw_all := lw_g (lw_at lw_m11 155 rfl) rfl
theorem q2895 : (Jvm.Cond.privateMethod ({ cls := "RewriteHouseModel", name := "readRows", desc := "()V" } : Jvm.MethodName)) ∈ lw_tbl := lw_at lw_m11 156 rfl
theorem q2896 : (Jvm.Cond.instanceMethod ({ cls := "RewriteHouseModel", name := "readRows", desc := "()V" } : Jvm.MethodName)) ∈ lw_all := lw_g (lw_at lw_m11 157 rfl) rfl
theorem q2897 : (Jvm.Cond.code ({ cls := "RewriteHouseModel", name := "readRows", desc := "()V" } : Jvm.MethodName) prog_4_method_46_code (6 : Nat) (Option.none : Option Jvm.ClassFile.FieldType)) ∈ lw_all := lw_g (lw_at lw_m11 158 rfl) rfl
theorem q2898 : (Jvm.Cond.methodLink "RewriteHouseModel" (637 : Nat) ({ cls := "RewriteHouseModel", name := "splitWord", desc := "(II)V" } : Jvm.MethodName)) ∈ lw_all := lw_g (lw_at lw_m11 159 rfl) rfl
theorem q2899 : (Jvm.Cond.privateMethod ({ cls := "RewriteHouseModel", name := "splitWord", desc := "(II)V" } : Jvm.MethodName)) ∈ lw_tbl := lw_at lw_m11 160 rfl
theorem q2900 : (Jvm.Cond.instanceMethod ({ cls := "RewriteHouseModel", name := "splitWord", desc := "(II)V" } : Jvm.MethodName)) ∈ lw_all := lw_g (lw_at lw_m11 161 rfl) rfl
theorem q2901 : (Jvm.Cond.code ({ cls := "RewriteHouseModel", name := "splitWord", desc := "(II)V" } : Jvm.MethodName) prog_4_method_45_code (6 : Nat) (Option.none : Option Jvm.ClassFile.FieldType)) ∈ lw_all := lw_g (lw_at lw_m11 162 rfl) rfl
theorem q2902 : (Jvm.Cond.methodLink "RewriteHouseModel" (634 : Nat) ({ cls := "RewriteHouseModel", name := "addPart", desc := "(II)V" } : Jvm.MethodName)) ∈ lw_all := lw_g (lw_at lw_m11 163 rfl) rfl
theorem q2903 : (Jvm.Cond.privateMethod ({ cls := "RewriteHouseModel", name := "addPart", desc := "(II)V" } : Jvm.MethodName)) ∈ lw_tbl := lw_at lw_m11 164 rfl
theorem q2904 : (Jvm.Cond.instanceMethod ({ cls := "RewriteHouseModel", name := "addPart", desc := "(II)V" } : Jvm.MethodName)) ∈ lw_all := lw_g (lw_at lw_m11 165 rfl) rfl
theorem q2905 : (Jvm.Cond.code ({ cls := "RewriteHouseModel", name := "addPart", desc := "(II)V" } : Jvm.MethodName) prog_4_method_44_code (3 : Nat) (Option.none : Option Jvm.ClassFile.FieldType)) ∈ lw_all := lw_g (lw_at lw_m11 166 rfl) rfl
theorem q2906 : (Jvm.Cond.methodLink "RewriteHouseModel" (640 : Nat) ({ cls := "RewriteHouseModel", name := "signName", desc := "(I)I" } : Jvm.MethodName)) ∈ lw_all := lw_g (lw_at lw_m11 167 rfl) rfl
theorem q2907 : (Jvm.Cond.privateMethod ({ cls := "RewriteHouseModel", name := "signName", desc := "(I)I" } : Jvm.MethodName)) ∈ lw_tbl := lw_at lw_m11 168 rfl
theorem q2908 : (Jvm.Cond.instanceMethod ({ cls := "RewriteHouseModel", name := "signName", desc := "(I)I" } : Jvm.MethodName)) ∈ lw_all := lw_g (lw_at lw_m11 169 rfl) rfl
theorem q2909 : (Jvm.Cond.code ({ cls := "RewriteHouseModel", name := "signName", desc := "(I)I" } : Jvm.MethodName) prog_4_method_23_code (3 : Nat) (Option.some Jvm.ClassFile.FieldType.int)) ∈ lw_all := lw_g (lw_at lw_m11 170 rfl) rfl
theorem q2910 : (Jvm.Cond.methodLink "RewriteHouseModel" (821 : Nat) ({ cls := "RewriteHouseModel", name := "findKinds", desc := "()V" } : Jvm.MethodName)) ∈ lw_all := lw_g (lw_at lw_m11 171 rfl) rfl
theorem q2911 : (Jvm.Cond.privateMethod ({ cls := "RewriteHouseModel", name := "findKinds", desc := "()V" } : Jvm.MethodName)) ∈ lw_tbl := lw_at lw_m11 172 rfl
theorem q2912 : (Jvm.Cond.instanceMethod ({ cls := "RewriteHouseModel", name := "findKinds", desc := "()V" } : Jvm.MethodName)) ∈ lw_all := lw_g (lw_at lw_m11 173 rfl) rfl
theorem q2913 : (Jvm.Cond.code ({ cls := "RewriteHouseModel", name := "findKinds", desc := "()V" } : Jvm.MethodName) prog_4_method_42_code (6 : Nat) (Option.none : Option Jvm.ClassFile.FieldType)) ∈ lw_all := lw_g (lw_at lw_m11 174 rfl) rfl
theorem q2914 : (Jvm.Cond.methodLink "RewriteHouseModel" (824 : Nat) ({ cls := "RewriteHouseModel", name := "makeOps", desc := "()V" } : Jvm.MethodName)) ∈ lw_all := lw_g (lw_at lw_m11 175 rfl) rfl
theorem q2915 : (Jvm.Cond.privateMethod ({ cls := "RewriteHouseModel", name := "makeOps", desc := "()V" } : Jvm.MethodName)) ∈ lw_tbl := lw_at lw_m11 176 rfl
theorem q2916 : (Jvm.Cond.instanceMethod ({ cls := "RewriteHouseModel", name := "makeOps", desc := "()V" } : Jvm.MethodName)) ∈ lw_all := lw_g (lw_at lw_m11 177 rfl) rfl
theorem q2917 : (Jvm.Cond.code ({ cls := "RewriteHouseModel", name := "makeOps", desc := "()V" } : Jvm.MethodName) prog_4_method_52_code (4 : Nat) (Option.none : Option Jvm.ClassFile.FieldType)) ∈ lw_all := lw_g (lw_at lw_m11 178 rfl) rfl
theorem q2918 : (Jvm.Cond.methodLink "RewriteHouseModel" (646 : Nat) ({ cls := "RewriteHouseModel", name := "isOneForm", desc := "(II)Z" } : Jvm.MethodName)) ∈ lw_all := lw_g (lw_at lw_m11 179 rfl) rfl
theorem q2919 : (Jvm.Cond.privateMethod ({ cls := "RewriteHouseModel", name := "isOneForm", desc := "(II)Z" } : Jvm.MethodName)) ∈ lw_tbl := lw_at lw_m11 180 rfl
theorem q2920 : (Jvm.Cond.instanceMethod ({ cls := "RewriteHouseModel", name := "isOneForm", desc := "(II)Z" } : Jvm.MethodName)) ∈ lw_all := lw_g (lw_at lw_m11 181 rfl) rfl
theorem q2921 : (Jvm.Cond.code ({ cls := "RewriteHouseModel", name := "isOneForm", desc := "(II)Z" } : Jvm.MethodName) prog_4_method_47_code (5 : Nat) (Option.some Jvm.ClassFile.FieldType.boolean)) ∈ lw_all := lw_g (lw_at lw_m11 182 rfl) rfl
theorem q2922 : (Jvm.Cond.methodLink "RewriteHouseModel" (649 : Nat) ({ cls := "RewriteHouseModel", name := "areOneKinds", desc := "(II)Z" } : Jvm.MethodName)) ∈ lw_all := lw_g (lw_at lw_m11 183 rfl) rfl
theorem q2923 : (Jvm.Cond.privateMethod ({ cls := "RewriteHouseModel", name := "areOneKinds", desc := "(II)Z" } : Jvm.MethodName)) ∈ lw_tbl := lw_at lw_m11 184 rfl
theorem q2924 : (Jvm.Cond.instanceMethod ({ cls := "RewriteHouseModel", name := "areOneKinds", desc := "(II)Z" } : Jvm.MethodName)) ∈ lw_all := lw_g (lw_at lw_m11 185 rfl) rfl
theorem q2925 : (Jvm.Cond.code ({ cls := "RewriteHouseModel", name := "areOneKinds", desc := "(II)Z" } : Jvm.MethodName) prog_4_method_48_code (5 : Nat) (Option.some Jvm.ClassFile.FieldType.boolean)) ∈ lw_all := lw_g (lw_at lw_m11 186 rfl) rfl
theorem q2926 : (Jvm.Cond.methodLink "RewriteHouseModel" (827 : Nat) ({ cls := "RewriteHouseModel", name := "checkRows", desc := "()V" } : Jvm.MethodName)) ∈ lw_all := lw_g (lw_at lw_m11 187 rfl) rfl
theorem q2927 : (Jvm.Cond.privateMethod ({ cls := "RewriteHouseModel", name := "checkRows", desc := "()V" } : Jvm.MethodName)) ∈ lw_tbl := lw_at lw_m11 188 rfl
theorem q2928 : (Jvm.Cond.instanceMethod ({ cls := "RewriteHouseModel", name := "checkRows", desc := "()V" } : Jvm.MethodName)) ∈ lw_all := lw_g (lw_at lw_m11 189 rfl) rfl
theorem q2929 : (Jvm.Cond.code ({ cls := "RewriteHouseModel", name := "checkRows", desc := "()V" } : Jvm.MethodName) prog_4_method_54_code (8 : Nat) (Option.none : Option Jvm.ClassFile.FieldType)) ∈ lw_all := lw_g (lw_at lw_m11 190 rfl) rfl
theorem q2930 : (Jvm.Cond.methodLink "RewriteHouseModel" (652 : Nat) ({ cls := "RewriteHouseModel", name := "holeKind", desc := "(II)I" } : Jvm.MethodName)) ∈ lw_all := lw_g (lw_at lw_m11 191 rfl) rfl
theorem q2931 : (Jvm.Cond.privateMethod ({ cls := "RewriteHouseModel", name := "holeKind", desc := "(II)I" } : Jvm.MethodName)) ∈ lw_tbl := lw_at lw_m11 192 rfl
theorem q2932 : (Jvm.Cond.instanceMethod ({ cls := "RewriteHouseModel", name := "holeKind", desc := "(II)I" } : Jvm.MethodName)) ∈ lw_all := lw_g (lw_at lw_m11 193 rfl) rfl
theorem q2933 : (Jvm.Cond.code ({ cls := "RewriteHouseModel", name := "holeKind", desc := "(II)I" } : Jvm.MethodName) prog_4_method_51_code (3 : Nat) (Option.some Jvm.ClassFile.FieldType.int)) ∈ lw_all := lw_g (lw_at lw_m11 194 rfl) rfl
theorem q2934 : (Jvm.Cond.methodLink "RewriteHouseModel" (655 : Nat) ({ cls := "RewriteHouseModel", name := "isAlikeRow", desc := "(II)Z" } : Jvm.MethodName)) ∈ lw_all := lw_g (lw_at lw_m11 195 rfl) rfl
theorem q2935 : (Jvm.Cond.privateMethod ({ cls := "RewriteHouseModel", name := "isAlikeRow", desc := "(II)Z" } : Jvm.MethodName)) ∈ lw_tbl := lw_at lw_m11 196 rfl
theorem q2936 : (Jvm.Cond.instanceMethod ({ cls := "RewriteHouseModel", name := "isAlikeRow", desc := "(II)Z" } : Jvm.MethodName)) ∈ lw_all := lw_g (lw_at lw_m11 197 rfl) rfl
theorem q2937 : (Jvm.Cond.code ({ cls := "RewriteHouseModel", name := "isAlikeRow", desc := "(II)Z" } : Jvm.MethodName) prog_4_method_49_code (5 : Nat) (Option.some Jvm.ClassFile.FieldType.boolean)) ∈ lw_all := lw_g (lw_at lw_m11 198 rfl) rfl
theorem q2938 : (Jvm.Cond.methodLink "RewriteHouseModel" (658 : Nat) ({ cls := "RewriteHouseModel", name := "haveSameSorts", desc := "(II)Z" } : Jvm.MethodName)) ∈ lw_all := lw_g (lw_at lw_m11 199 rfl) rfl
theorem q2939 : (Jvm.Cond.privateMethod ({ cls := "RewriteHouseModel", name := "haveSameSorts", desc := "(II)Z" } : Jvm.MethodName)) ∈ lw_tbl := lw_at lw_m11 200 rfl
theorem q2940 : (Jvm.Cond.instanceMethod ({ cls := "RewriteHouseModel", name := "haveSameSorts", desc := "(II)Z" } : Jvm.MethodName)) ∈ lw_all := lw_g (lw_at lw_m11 201 rfl) rfl
theorem q2941 : (Jvm.Cond.code ({ cls := "RewriteHouseModel", name := "haveSameSorts", desc := "(II)Z" } : Jvm.MethodName) prog_4_method_50_code (5 : Nat) (Option.some Jvm.ClassFile.FieldType.boolean)) ∈ lw_all := lw_g (lw_at lw_m11 202 rfl) rfl
theorem q2942 : (Jvm.Cond.methodLink "RewriteHouseModel" (661 : Nat) ({ cls := "RewriteHouseModel", name := "constant", desc := "(II)I" } : Jvm.MethodName)) ∈ lw_all := lw_g (lw_at lw_m11 203 rfl) rfl
theorem q2943 : (Jvm.Cond.privateMethod ({ cls := "RewriteHouseModel", name := "constant", desc := "(II)I" } : Jvm.MethodName)) ∈ lw_tbl := lw_at lw_m11 204 rfl
theorem q2944 : (Jvm.Cond.instanceMethod ({ cls := "RewriteHouseModel", name := "constant", desc := "(II)I" } : Jvm.MethodName)) ∈ lw_all := lw_g (lw_at lw_m11 205 rfl) rfl
theorem q2945 : (Jvm.Cond.code ({ cls := "RewriteHouseModel", name := "constant", desc := "(II)I" } : Jvm.MethodName) prog_4_method_53_code (5 : Nat) (Option.some Jvm.ClassFile.FieldType.int)) ∈ lw_all := lw_g (lw_at lw_m11 206 rfl) rfl
theorem q2946 : (Jvm.Cond.methodLink "RewriteHouseModel" (830 : Nat) ({ cls := "RewriteHouseModel", name := "readStatement", desc := "(I)V" } : Jvm.MethodName)) ∈ lw_all := lw_g (lw_at lw_m11 207 rfl) rfl
theorem q2947 : (Jvm.Cond.privateMethod ({ cls := "RewriteHouseModel", name := "readStatement", desc := "(I)V" } : Jvm.MethodName)) ∈ lw_tbl := lw_at lw_m11 208 rfl
theorem q2948 : (Jvm.Cond.instanceMethod ({ cls := "RewriteHouseModel", name := "readStatement", desc := "(I)V" } : Jvm.MethodName)) ∈ lw_all := lw_g (lw_at lw_m11 209 rfl) rfl
theorem q2949 : (Jvm.Cond.code ({ cls := "RewriteHouseModel", name := "readStatement", desc := "(I)V" } : Jvm.MethodName) prog_4_method_88_code (6 : Nat) (Option.none : Option Jvm.ClassFile.FieldType)) ∈ lw_all := lw_g (lw_at lw_m11 210 rfl) rfl
theorem q2950 : (Jvm.Cond.methodLink "RewriteHouseModel" (800 : Nat) ({ cls := "RewriteHouseModel", name := "statementTerm", desc := "(II)I" } : Jvm.MethodName)) ∈ lw_all := lw_g (lw_at lw_m11 211 rfl) rfl
theorem q2951 : (Jvm.Cond.privateMethod ({ cls := "RewriteHouseModel", name := "statementTerm", desc := "(II)I" } : Jvm.MethodName)) ∈ lw_tbl := lw_at lw_m11 212 rfl
theorem q2952 : (Jvm.Cond.instanceMethod ({ cls := "RewriteHouseModel", name := "statementTerm", desc := "(II)I" } : Jvm.MethodName)) ∈ lw_all := lw_g (lw_at lw_m11 213 rfl) rfl
theorem q2953 : (Jvm.Cond.code ({ cls := "RewriteHouseModel", name := "statementTerm", desc := "(II)I" } : Jvm.MethodName) prog_4_method_86_code (4 : Nat) (Option.some Jvm.ClassFile.FieldType.int)) ∈ lw_all := lw_g (lw_at lw_m11 214 rfl) rfl
theorem q2954 : (Jvm.Cond.methodLink "RewriteHouseModel" (791 : Nat) ({ cls := "RewriteHouseModel", name := "readTerm", desc := "(III)I" } : Jvm.MethodName)) ∈ lw_all := lw_g (lw_at lw_m11 215 rfl) rfl
theorem q2955 : (Jvm.Cond.privateMethod ({ cls := "RewriteHouseModel", name := "readTerm", desc := "(III)I" } : Jvm.MethodName)) ∈ lw_tbl := lw_at lw_m11 216 rfl
theorem q2956 : (Jvm.Cond.instanceMethod ({ cls := "RewriteHouseModel", name := "readTerm", desc := "(III)I" } : Jvm.MethodName)) ∈ lw_all := lw_g (lw_at lw_m11 217 rfl) rfl
theorem q2957 : (Jvm.Cond.code ({ cls := "RewriteHouseModel", name := "readTerm", desc := "(III)I" } : Jvm.MethodName) prog_4_method_83_code (8 : Nat) (Option.some Jvm.ClassFile.FieldType.int)) ∈ lw_all := lw_g (lw_at lw_m11 218 rfl) rfl
theorem q2958 : (Jvm.Cond.methodLink "RewriteHouseModel" (763 : Nat) ({ cls := "RewriteHouseModel", name := "takeWords", desc := "(II)V" } : Jvm.MethodName)) ∈ lw_all := lw_g (lw_at lw_m11 219 rfl) rfl
theorem q2959 : (Jvm.Cond.privateMethod ({ cls := "RewriteHouseModel", name := "takeWords", desc := "(II)V" } : Jvm.MethodName)) ∈ lw_tbl := lw_at lw_m11 220 rfl
theorem q2960 : (Jvm.Cond.instanceMethod ({ cls := "RewriteHouseModel", name := "takeWords", desc := "(II)V" } : Jvm.MethodName)) ∈ lw_all := lw_g (lw_at lw_m11 221 rfl) rfl
theorem q2961 : (Jvm.Cond.code ({ cls := "RewriteHouseModel", name := "takeWords", desc := "(II)V" } : Jvm.MethodName) prog_4_method_79_code (7 : Nat) (Option.none : Option Jvm.ClassFile.FieldType)) ∈ lw_all := lw_g (lw_at lw_m11 222 rfl) rfl
theorem q2962 : (Jvm.Cond.methodLink "RewriteHouseModel" (738 : Nat) ({ cls := "RewriteHouseModel", name := "signNameHere", desc := "(I)I" } : Jvm.MethodName)) ∈ lw_all := lw_g (lw_at lw_m11 223 rfl) rfl
theorem q2963 : (Jvm.Cond.privateMethod ({ cls := "RewriteHouseModel", name := "signNameHere", desc := "(I)I" } : Jvm.MethodName)) ∈ lw_tbl := lw_at lw_m11 224 rfl
theorem q2964 : (Jvm.Cond.instanceMethod ({ cls := "RewriteHouseModel", name := "signNameHere", desc := "(I)I" } : Jvm.MethodName)) ∈ lw_all := lw_g (lw_at lw_m11 225 rfl) rfl
theorem q2965 : (Jvm.Cond.code ({ cls := "RewriteHouseModel", name := "signNameHere", desc := "(I)I" } : Jvm.MethodName) prog_4_method_80_code (3 : Nat) (Option.some Jvm.ClassFile.FieldType.int)) ∈ lw_all := lw_g (lw_at lw_m11 226 rfl) rfl
theorem q2966 : (Jvm.Cond.methodLink "RewriteHouseModel" (744 : Nat) ({ cls := "RewriteHouseModel", name := "unknownName", desc := "(I)I" } : Jvm.MethodName)) ∈ lw_all := lw_g (lw_at lw_m11 227 rfl) rfl
theorem q2967 : (Jvm.Cond.privateMethod ({ cls := "RewriteHouseModel", name := "unknownName", desc := "(I)I" } : Jvm.MethodName)) ∈ lw_tbl := lw_at lw_m11 228 rfl
theorem q2968 : (Jvm.Cond.instanceMethod ({ cls := "RewriteHouseModel", name := "unknownName", desc := "(I)I" } : Jvm.MethodName)) ∈ lw_all := lw_g (lw_at lw_m11 229 rfl) rfl
theorem q2969 : (Jvm.Cond.code ({ cls := "RewriteHouseModel", name := "unknownName", desc := "(I)I" } : Jvm.MethodName) prog_4_method_81_code (3 : Nat) (Option.some Jvm.ClassFile.FieldType.int)) ∈ lw_all := lw_g (lw_at lw_m11 230 rfl) rfl
theorem q2970 : (Jvm.Cond.methodLink "RewriteHouseModel" (747 : Nat) ({ cls := "RewriteHouseModel", name := "readSpan", desc := "(II)V" } : Jvm.MethodName)) ∈ lw_all := lw_g (lw_at lw_m11 231 rfl) rfl
theorem q2971 : (Jvm.Cond.privateMethod ({ cls := "RewriteHouseModel", name := "readSpan", desc := "(II)V" } : Jvm.MethodName)) ∈ lw_tbl := lw_at lw_m11 232 rfl
theorem q2972 : (Jvm.Cond.instanceMethod ({ cls := "RewriteHouseModel", name := "readSpan", desc := "(II)V" } : Jvm.MethodName)) ∈ lw_all := lw_g (lw_at lw_m11 233 rfl) rfl
theorem q2973 : (Jvm.Cond.code ({ cls := "RewriteHouseModel", name := "readSpan", desc := "(II)V" } : Jvm.MethodName) prog_4_method_78_code (5 : Nat) (Option.none : Option Jvm.ClassFile.FieldType)) ∈ lw_all := lw_g (lw_at lw_m11 234 rfl) rfl
theorem q2974 : (Jvm.Cond.methodLink "RewriteHouseModel" (713 : Nat) ({ cls := "RewriteHouseModel", name := "span", desc := "(II)I" } : Jvm.MethodName)) ∈ lw_all := lw_g (lw_at lw_m11 235 rfl) rfl
theorem q2975 : (Jvm.Cond.privateMethod ({ cls := "RewriteHouseModel", name := "span", desc := "(II)I" } : Jvm.MethodName)) ∈ lw_tbl := lw_at lw_m11 236 rfl
theorem q2976 : (Jvm.Cond.instanceMethod ({ cls := "RewriteHouseModel", name := "span", desc := "(II)I" } : Jvm.MethodName)) ∈ lw_all := lw_g (lw_at lw_m11 237 rfl) rfl
theorem q2977 : (Jvm.Cond.code ({ cls := "RewriteHouseModel", name := "span", desc := "(II)I" } : Jvm.MethodName) prog_4_method_73_code (3 : Nat) (Option.some Jvm.ClassFile.FieldType.int)) ∈ lw_all := lw_g (lw_at lw_m11 238 rfl) rfl
theorem q2978 : (Jvm.Cond.methodLink "RewriteHouseModel" (725 : Nat) ({ cls := "RewriteHouseModel", name := "readings", desc := "(IIII)I" } : Jvm.MethodName)) ∈ lw_all := lw_g (lw_at lw_m11 239 rfl) rfl
theorem q2979 : (Jvm.Cond.privateMethod ({ cls := "RewriteHouseModel", name := "readings", desc := "(IIII)I" } : Jvm.MethodName)) ∈ lw_tbl := lw_at lw_m12 0 rfl
theorem q2980 : (Jvm.Cond.instanceMethod ({ cls := "RewriteHouseModel", name := "readings", desc := "(IIII)I" } : Jvm.MethodName)) ∈ lw_all := lw_g (lw_at lw_m12 1 rfl) rfl
theorem q2981 : (Jvm.Cond.code ({ cls := "RewriteHouseModel", name := "readings", desc := "(IIII)I" } : Jvm.MethodName) prog_4_method_75_code (7 : Nat) (Option.some Jvm.ClassFile.FieldType.int)) ∈ lw_all := lw_g (lw_at lw_m12 2 rfl) rfl
theorem q2982 : (Jvm.Cond.methodLink "RewriteHouseModel" (716 : Nat) ({ cls := "RewriteHouseModel", name := "capped", desc := "(I)I" } : Jvm.MethodName)) ∈ lw_all := lw_g (lw_at lw_m12 3 rfl) rfl
theorem q2983 : (Jvm.Cond.privateMethod ({ cls := "RewriteHouseModel", name := "capped", desc := "(I)I" } : Jvm.MethodName)) ∈ lw_tbl := lw_at lw_m12 4 rfl
theorem q2984 : (Jvm.Cond.instanceMethod ({ cls := "RewriteHouseModel", name := "capped", desc := "(I)I" } : Jvm.MethodName)) ∈ lw_all := lw_g (lw_at lw_m12 5 rfl) rfl
theorem q2985 : (Jvm.Cond.code ({ cls := "RewriteHouseModel", name := "capped", desc := "(I)I" } : Jvm.MethodName) prog_4_method_74_code (2 : Nat) (Option.some Jvm.ClassFile.FieldType.int)) ∈ lw_all := lw_g (lw_at lw_m12 6 rfl) rfl
theorem q2986 : (Jvm.Cond.methodLink "RewriteHouseModel" (735 : Nat) ({ cls := "RewriteHouseModel", name := "fit", desc := "(III)V" } : Jvm.MethodName)) ∈ lw_all := lw_g (lw_at lw_m12 7 rfl) rfl
theorem q2987 : (Jvm.Cond.privateMethod ({ cls := "RewriteHouseModel", name := "fit", desc := "(III)V" } : Jvm.MethodName)) ∈ lw_tbl := lw_at lw_m12 8 rfl
theorem q2988 : (Jvm.Cond.instanceMethod ({ cls := "RewriteHouseModel", name := "fit", desc := "(III)V" } : Jvm.MethodName)) ∈ lw_all := lw_g (lw_at lw_m12 9 rfl) rfl
theorem q2989 : (Jvm.Cond.code ({ cls := "RewriteHouseModel", name := "fit", desc := "(III)V" } : Jvm.MethodName) prog_4_method_77_code (12 : Nat) (Option.none : Option Jvm.ClassFile.FieldType)) ∈ lw_all := lw_g (lw_at lw_m12 10 rfl) rfl
theorem q2990 : (Jvm.Cond.methodLink "RewriteHouseModel" (719 : Nat) ({ cls := "RewriteHouseModel", name := "holeNumber", desc := "(II)I" } : Jvm.MethodName)) ∈ lw_all := lw_g (lw_at lw_m12 11 rfl) rfl
theorem q2991 : (Jvm.Cond.privateMethod ({ cls := "RewriteHouseModel", name := "holeNumber", desc := "(II)I" } : Jvm.MethodName)) ∈ lw_tbl := lw_at lw_m12 12 rfl
theorem q2992 : (Jvm.Cond.instanceMethod ({ cls := "RewriteHouseModel", name := "holeNumber", desc := "(II)I" } : Jvm.MethodName)) ∈ lw_all := lw_g (lw_at lw_m12 13 rfl) rfl
theorem q2993 : (Jvm.Cond.code ({ cls := "RewriteHouseModel", name := "holeNumber", desc := "(II)I" } : Jvm.MethodName) prog_4_method_76_code (5 : Nat) (Option.some Jvm.ClassFile.FieldType.int)) ∈ lw_all := lw_g (lw_at lw_m12 14 rfl) rfl
theorem q2994 : (Jvm.Cond.methodLink "RewriteHouseModel" (722 : Nat) ({ cls := "RewriteHouseModel", name := "takes", desc := "(II)I" } : Jvm.MethodName)) ∈ lw_all := lw_g (lw_at lw_m12 15 rfl) rfl
theorem q2995 : (Jvm.Cond.privateMethod ({ cls := "RewriteHouseModel", name := "takes", desc := "(II)I" } : Jvm.MethodName)) ∈ lw_tbl := lw_at lw_m12 16 rfl
theorem q2996 : (Jvm.Cond.instanceMethod ({ cls := "RewriteHouseModel", name := "takes", desc := "(II)I" } : Jvm.MethodName)) ∈ lw_all := lw_g (lw_at lw_m12 17 rfl) rfl
theorem q2997 : (Jvm.Cond.code ({ cls := "RewriteHouseModel", name := "takes", desc := "(II)I" } : Jvm.MethodName) prog_4_method_55_code (7 : Nat) (Option.some Jvm.ClassFile.FieldType.int)) ∈ lw_all := lw_g (lw_at lw_m12 18 rfl) rfl
theorem q2998 : (Jvm.Cond.methodLink "RewriteHouseModel" (753 : Nat) ({ cls := "RewriteHouseModel", name := "build", desc := "(LRewriteHouseModel;IIII)I" } : Jvm.MethodName)) ∈ lw_all := lw_g (lw_at lw_m12 19 rfl) rfl
theorem q2999 : (Jvm.Cond.static ({ cls := "RewriteHouseModel", name := "build", desc := "(LRewriteHouseModel;IIII)I" } : Jvm.MethodName)) ∈ lw_all := lw_g (lw_at lw_m12 20 rfl) rfl
theorem q3000 : (Jvm.Cond.code ({ cls := "RewriteHouseModel", name := "build", desc := "(LRewriteHouseModel;IIII)I" } : Jvm.MethodName) prog_4_method_82_code (13 : Nat) (Option.some Jvm.ClassFile.FieldType.int)) ∈ lw_all := lw_g (lw_at lw_m12 21 rfl) rfl
theorem q3001 : (Jvm.Cond.methodLink "RewriteHouseModel" (750 : Nat) ({ cls := "RewriteHouseModel", name := "variable", desc := "(I)I" } : Jvm.MethodName)) ∈ lw_all := lw_g (lw_at lw_m12 22 rfl) rfl
theorem q3002 : (Jvm.Cond.privateMethod ({ cls := "RewriteHouseModel", name := "variable", desc := "(I)I" } : Jvm.MethodName)) ∈ lw_tbl := lw_at lw_m12 23 rfl
theorem q3003 : (Jvm.Cond.instanceMethod ({ cls := "RewriteHouseModel", name := "variable", desc := "(I)I" } : Jvm.MethodName)) ∈ lw_all := lw_g (lw_at lw_m12 24 rfl) rfl
theorem q3004 : (Jvm.Cond.code ({ cls := "RewriteHouseModel", name := "variable", desc := "(I)I" } : Jvm.MethodName) prog_4_method_59_code (2 : Nat) (Option.some Jvm.ClassFile.FieldType.int)) ∈ lw_all := lw_g (lw_at lw_m12 25 rfl) rfl
theorem q3005 : (Jvm.Cond.methodLink "RewriteHouseModel" (678 : Nat) ({ cls := "RewriteHouseModel", name := "node", desc := "(II)I" } : Jvm.MethodName)) ∈ lw_all := lw_g (lw_at lw_m12 26 rfl) rfl
theorem q3006 : (Jvm.Cond.privateMethod ({ cls := "RewriteHouseModel", name := "node", desc := "(II)I" } : Jvm.MethodName)) ∈ lw_tbl := lw_at lw_m12 27 rfl
theorem q3007 : (Jvm.Cond.instanceMethod ({ cls := "RewriteHouseModel", name := "node", desc := "(II)I" } : Jvm.MethodName)) ∈ lw_all := lw_g (lw_at lw_m12 28 rfl) rfl
theorem q3008 : (Jvm.Cond.code ({ cls := "RewriteHouseModel", name := "node", desc := "(II)I" } : Jvm.MethodName) prog_4_method_58_code (7 : Nat) (Option.some Jvm.ClassFile.FieldType.int)) ∈ lw_all := lw_g (lw_at lw_m12 29 rfl) rfl
theorem q3009 : (Jvm.Cond.methodLink "RewriteHouseModel" (671 : Nat) ({ cls := "RewriteHouseModel", name := "hashOf", desc := "(III)I" } : Jvm.MethodName)) ∈ lw_all := lw_g (lw_at lw_m12 30 rfl) rfl
theorem q3010 : (Jvm.Cond.privateMethod ({ cls := "RewriteHouseModel", name := "hashOf", desc := "(III)I" } : Jvm.MethodName)) ∈ lw_tbl := lw_at lw_m12 31 rfl
theorem q3011 : (Jvm.Cond.instanceMethod ({ cls := "RewriteHouseModel", name := "hashOf", desc := "(III)I" } : Jvm.MethodName)) ∈ lw_all := lw_g (lw_at lw_m12 32 rfl) rfl
theorem q3012 : (Jvm.Cond.code ({ cls := "RewriteHouseModel", name := "hashOf", desc := "(III)I" } : Jvm.MethodName) prog_4_method_57_code (6 : Nat) (Option.some Jvm.ClassFile.FieldType.int)) ∈ lw_all := lw_g (lw_at lw_m12 33 rfl) rfl
theorem q3013 : (Jvm.Cond.constant "RewriteHouseModel" (670 : Nat) (65535 : Int32)) ∈ lw_all := lw_g (lw_at lw_m12 34 rfl) rfl
theorem q3014 : (Jvm.Cond.methodLink "RewriteHouseModel" (675 : Nat) ({ cls := "RewriteHouseModel", name := "leastSort", desc := "(I)I" } : Jvm.MethodName)) ∈ lw_all := lw_g (lw_at lw_m12 35 rfl) rfl
theorem q3015 : (Jvm.Cond.privateMethod ({ cls := "RewriteHouseModel", name := "leastSort", desc := "(I)I" } : Jvm.MethodName)) ∈ lw_tbl := lw_at lw_m12 36 rfl
theorem q3016 : (Jvm.Cond.instanceMethod ({ cls := "RewriteHouseModel", name := "leastSort", desc := "(I)I" } : Jvm.MethodName)) ∈ lw_all := lw_g (lw_at lw_m12 37 rfl) rfl
theorem q3017 : (Jvm.Cond.code ({ cls := "RewriteHouseModel", name := "leastSort", desc := "(I)I" } : Jvm.MethodName) prog_4_method_67_code (8 : Nat) (Option.some Jvm.ClassFile.FieldType.int)) ∈ lw_all := lw_g (lw_at lw_m12 38 rfl) rfl
theorem q3018 : (Jvm.Cond.methodLink "RewriteHouseModel" (688 : Nat) ({ cls := "RewriteHouseModel", name := "sortOfVar", desc := "(I)I" } : Jvm.MethodName)) ∈ lw_all := lw_g (lw_at lw_m12 39 rfl) rfl
theorem q3019 : (Jvm.Cond.privateMethod ({ cls := "RewriteHouseModel", name := "sortOfVar", desc := "(I)I" } : Jvm.MethodName)) ∈ lw_tbl := lw_at lw_m12 40 rfl
theorem q3020 : (Jvm.Cond.instanceMethod ({ cls := "RewriteHouseModel", name := "sortOfVar", desc := "(I)I" } : Jvm.MethodName)) ∈ lw_all := lw_g (lw_at lw_m12 41 rfl) rfl
theorem q3021 : (Jvm.Cond.code ({ cls := "RewriteHouseModel", name := "sortOfVar", desc := "(I)I" } : Jvm.MethodName) prog_4_method_63_code (2 : Nat) (Option.some Jvm.ClassFile.FieldType.int)) ∈ lw_all := lw_g (lw_at lw_m12 42 rfl) rfl
theorem q3022 : (Jvm.Cond.methodLink "RewriteHouseModel" (691 : Nat) ({ cls := "RewriteHouseModel", name := "arg", desc := "(II)I" } : Jvm.MethodName)) ∈ lw_all := lw_g (lw_at lw_m12 43 rfl) rfl
theorem q3023 : (Jvm.Cond.privateMethod ({ cls := "RewriteHouseModel", name := "arg", desc := "(II)I" } : Jvm.MethodName)) ∈ lw_tbl := lw_at lw_m12 44 rfl
theorem q3024 : (Jvm.Cond.instanceMethod ({ cls := "RewriteHouseModel", name := "arg", desc := "(II)I" } : Jvm.MethodName)) ∈ lw_all := lw_g (lw_at lw_m12 45 rfl) rfl
theorem q3025 : (Jvm.Cond.code ({ cls := "RewriteHouseModel", name := "arg", desc := "(II)I" } : Jvm.MethodName) prog_4_method_62_code (3 : Nat) (Option.some Jvm.ClassFile.FieldType.int)) ∈ lw_all := lw_g (lw_at lw_m12 46 rfl) rfl
theorem q3026 : (Jvm.Cond.methodLink "RewriteHouseModel" (694 : Nat) ({ cls := "RewriteHouseModel", name := "sortOfTwo", desc := "(III)I" } : Jvm.MethodName)) ∈ lw_all := lw_g (lw_at lw_m12 47 rfl) rfl
theorem q3027 : (Jvm.Cond.privateMethod ({ cls := "RewriteHouseModel", name := "sortOfTwo", desc := "(III)I" } : Jvm.MethodName)) ∈ lw_tbl := lw_at lw_m12 48 rfl
theorem q3028 : (Jvm.Cond.instanceMethod ({ cls := "RewriteHouseModel", name := "sortOfTwo", desc := "(III)I" } : Jvm.MethodName)) ∈ lw_all := lw_g (lw_at lw_m12 49 rfl) rfl
theorem q3029 : (Jvm.Cond.code ({ cls := "RewriteHouseModel", name := "sortOfTwo", desc := "(III)I" } : Jvm.MethodName) prog_4_method_66_code (6 : Nat) (Option.some Jvm.ClassFile.FieldType.int)) ∈ lw_all := lw_g (lw_at lw_m12 50 rfl) rfl
theorem q3030 : (Jvm.Cond.methodLink "RewriteHouseModel" (681 : Nat) ({ cls := "RewriteHouseModel", name := "isRowAbove", desc := "(III)Z" } : Jvm.MethodName)) ∈ lw_all := lw_g (lw_at lw_m12 51 rfl) rfl
theorem q3031 : (Jvm.Cond.privateMethod ({ cls := "RewriteHouseModel", name := "isRowAbove", desc := "(III)Z" } : Jvm.MethodName)) ∈ lw_tbl := lw_at lw_m12 52 rfl
theorem q3032 : (Jvm.Cond.instanceMethod ({ cls := "RewriteHouseModel", name := "isRowAbove", desc := "(III)Z" } : Jvm.MethodName)) ∈ lw_all := lw_g (lw_at lw_m12 53 rfl) rfl
theorem q3033 : (Jvm.Cond.code ({ cls := "RewriteHouseModel", name := "isRowAbove", desc := "(III)Z" } : Jvm.MethodName) prog_4_method_64_code (7 : Nat) (Option.some Jvm.ClassFile.FieldType.boolean)) ∈ lw_all := lw_g (lw_at lw_m12 54 rfl) rfl
theorem q3034 : (Jvm.Cond.methodLink "RewriteHouseModel" (685 : Nat) ({ cls := "RewriteHouseModel", name := "lowest", desc := "(I)I" } : Jvm.MethodName)) ∈ lw_all := lw_g (lw_at lw_m12 55 rfl) rfl
theorem q3035 : (Jvm.Cond.privateMethod ({ cls := "RewriteHouseModel", name := "lowest", desc := "(I)I" } : Jvm.MethodName)) ∈ lw_tbl := lw_at lw_m12 56 rfl
theorem q3036 : (Jvm.Cond.instanceMethod ({ cls := "RewriteHouseModel", name := "lowest", desc := "(I)I" } : Jvm.MethodName)) ∈ lw_all := lw_g (lw_at lw_m12 57 rfl) rfl
theorem q3037 : (Jvm.Cond.code ({ cls := "RewriteHouseModel", name := "lowest", desc := "(I)I" } : Jvm.MethodName) prog_4_method_65_code (3 : Nat) (Option.some Jvm.ClassFile.FieldType.int)) ∈ lw_all := lw_g (lw_at lw_m12 58 rfl) rfl
theorem q3038 : (Jvm.Cond.methodLink "RewriteHouseModel" (757 : Nat) ({ cls := "RewriteHouseModel", name := "push", desc := "(I)V" } : Jvm.MethodName)) ∈ lw_all := lw_g (lw_at lw_m12 59 rfl) rfl
theorem q3039 : (Jvm.Cond.privateMethod ({ cls := "RewriteHouseModel", name := "push", desc := "(I)V" } : Jvm.MethodName)) ∈ lw_tbl := lw_at lw_m12 60 rfl
theorem q3040 : (Jvm.Cond.instanceMethod ({ cls := "RewriteHouseModel", name := "push", desc := "(I)V" } : Jvm.MethodName)) ∈ lw_all := lw_g (lw_at lw_m12 61 rfl) rfl
theorem q3041 : (Jvm.Cond.code ({ cls := "RewriteHouseModel", name := "push", desc := "(I)V" } : Jvm.MethodName) prog_4_method_72_code (2 : Nat) (Option.none : Option Jvm.ClassFile.FieldType)) ∈ lw_all := lw_g (lw_at lw_m12 62 rfl) rfl
theorem q3042 : (Jvm.Cond.methodLink "RewriteHouseModel" (760 : Nat) ({ cls := "RewriteHouseModel", name := "make", desc := "(II)I" } : Jvm.MethodName)) ∈ lw_all := lw_g (lw_at lw_m12 63 rfl) rfl
theorem q3043 : (Jvm.Cond.privateMethod ({ cls := "RewriteHouseModel", name := "make", desc := "(II)I" } : Jvm.MethodName)) ∈ lw_tbl := lw_at lw_m12 64 rfl
theorem q3044 : (Jvm.Cond.instanceMethod ({ cls := "RewriteHouseModel", name := "make", desc := "(II)I" } : Jvm.MethodName)) ∈ lw_all := lw_g (lw_at lw_m12 65 rfl) rfl
theorem q3045 : (Jvm.Cond.code ({ cls := "RewriteHouseModel", name := "make", desc := "(II)I" } : Jvm.MethodName) prog_4_method_71_code (10 : Nat) (Option.some Jvm.ClassFile.FieldType.int)) ∈ lw_all := lw_g (lw_at lw_m12 66 rfl) rfl
theorem q3046 : (Jvm.Cond.methodLink "RewriteHouseModel" (710 : Nat) ({ cls := "RewriteHouseModel", name := "idTerm", desc := "(I)I" } : Jvm.MethodName)) ∈ lw_all := lw_g (lw_at lw_m12 67 rfl) rfl
theorem q3047 : (Jvm.Cond.privateMethod ({ cls := "RewriteHouseModel", name := "idTerm", desc := "(I)I" } : Jvm.MethodName)) ∈ lw_tbl := lw_at lw_m12 68 rfl
theorem q3048 : (Jvm.Cond.instanceMethod ({ cls := "RewriteHouseModel", name := "idTerm", desc := "(I)I" } : Jvm.MethodName)) ∈ lw_all := lw_g (lw_at lw_m12 69 rfl) rfl
theorem q3049 : (Jvm.Cond.code ({ cls := "RewriteHouseModel", name := "idTerm", desc := "(I)I" } : Jvm.MethodName) prog_4_method_70_code (2 : Nat) (Option.some Jvm.ClassFile.FieldType.int)) ∈ lw_all := lw_g (lw_at lw_m12 70 rfl) rfl
theorem q3050 : (Jvm.Cond.methodLink "RewriteHouseModel" (703 : Nat) ({ cls := "RewriteHouseModel", name := "orderOf", desc := "(LRewriteHouseModel;II)I" } : Jvm.MethodName)) ∈ lw_all := lw_g (lw_at lw_m12 71 rfl) rfl
theorem q3051 : (Jvm.Cond.static ({ cls := "RewriteHouseModel", name := "orderOf", desc := "(LRewriteHouseModel;II)I" } : Jvm.MethodName)) ∈ lw_all := lw_g (lw_at lw_m12 72 rfl) rfl
theorem q3052 : (Jvm.Cond.code ({ cls := "RewriteHouseModel", name := "orderOf", desc := "(LRewriteHouseModel;II)I" } : Jvm.MethodName) prog_4_method_69_code (7 : Nat) (Option.some Jvm.ClassFile.FieldType.int)) ∈ lw_all := lw_g (lw_at lw_m12 73 rfl) rfl
theorem q3053 : (Jvm.Cond.methodLink "RewriteHouseModel" (697 : Nat) ({ cls := "RewriteHouseModel", name := "isVar", desc := "(I)Z" } : Jvm.MethodName)) ∈ lw_all := lw_g (lw_at lw_m12 74 rfl) rfl
theorem q3054 : (Jvm.Cond.privateMethod ({ cls := "RewriteHouseModel", name := "isVar", desc := "(I)Z" } : Jvm.MethodName)) ∈ lw_tbl := lw_at lw_m12 75 rfl
theorem q3055 : (Jvm.Cond.instanceMethod ({ cls := "RewriteHouseModel", name := "isVar", desc := "(I)Z" } : Jvm.MethodName)) ∈ lw_all := lw_g (lw_at lw_m12 76 rfl) rfl
theorem q3056 : (Jvm.Cond.code ({ cls := "RewriteHouseModel", name := "isVar", desc := "(I)Z" } : Jvm.MethodName) prog_4_method_60_code (2 : Nat) (Option.some Jvm.ClassFile.FieldType.boolean)) ∈ lw_all := lw_g (lw_at lw_m12 77 rfl) rfl
theorem q3057 : (Jvm.Cond.methodLink "RewriteHouseModel" (787 : Nat) ({ cls := "RewriteHouseModel", name := "varsOf", desc := "(LRewriteHouseModel;I)J" } : Jvm.MethodName)) ∈ lw_all := lw_g (lw_at lw_m12 78 rfl) rfl
theorem q3058 : (Jvm.Cond.static ({ cls := "RewriteHouseModel", name := "varsOf", desc := "(LRewriteHouseModel;I)J" } : Jvm.MethodName)) ∈ lw_all := lw_g (lw_at lw_m12 79 rfl) rfl
theorem q3059 : (Jvm.Cond.code ({ cls := "RewriteHouseModel", name := "varsOf", desc := "(LRewriteHouseModel;I)J" } : Jvm.MethodName) prog_4_method_85_code (5 : Nat) (Option.some Jvm.ClassFile.FieldType.long)) ∈ lw_all := lw_g (lw_at lw_m12 80 rfl) rfl
theorem q3060 : (Jvm.Cond.methodLink "RewriteHouseModel" (700 : Nat) ({ cls := "RewriteHouseModel", name := "varOf", desc := "(I)I" } : Jvm.MethodName)) ∈ lw_all := lw_g (lw_at lw_m12 81 rfl) rfl
theorem q3061 : (Jvm.Cond.privateMethod ({ cls := "RewriteHouseModel", name := "varOf", desc := "(I)I" } : Jvm.MethodName)) ∈ lw_tbl := lw_at lw_m12 82 rfl
theorem q3062 : (Jvm.Cond.instanceMethod ({ cls := "RewriteHouseModel", name := "varOf", desc := "(I)I" } : Jvm.MethodName)) ∈ lw_all := lw_g (lw_at lw_m12 83 rfl) rfl
theorem q3063 : (Jvm.Cond.code ({ cls := "RewriteHouseModel", name := "varOf", desc := "(I)I" } : Jvm.MethodName) prog_4_method_61_code (2 : Nat) (Option.some Jvm.ClassFile.FieldType.int)) ∈ lw_all := lw_g (lw_at lw_m12 84 rfl) rfl
theorem q3064 : (Jvm.Cond.methodLink "RewriteHouseModel" (803 : Nat) ({ cls := "RewriteHouseModel", name := "mustKnow", desc := "(II)V" } : Jvm.MethodName)) ∈ lw_all := lw_g (lw_at lw_m12 85 rfl) rfl
theorem q3065 : (Jvm.Cond.privateMethod ({ cls := "RewriteHouseModel", name := "mustKnow", desc := "(II)V" } : Jvm.MethodName)) ∈ lw_tbl := lw_at lw_m12 86 rfl
theorem q3066 : (Jvm.Cond.instanceMethod ({ cls := "RewriteHouseModel", name := "mustKnow", desc := "(II)V" } : Jvm.MethodName)) ∈ lw_all := lw_g (lw_at lw_m12 87 rfl) rfl
theorem q3067 : (Jvm.Cond.code ({ cls := "RewriteHouseModel", name := "mustKnow", desc := "(II)V" } : Jvm.MethodName) prog_4_method_87_code (3 : Nat) (Option.none : Option Jvm.ClassFile.FieldType)) ∈ lw_all := lw_g (lw_at lw_m12 88 rfl) rfl
theorem q3068 : (Jvm.Cond.constantLong "RewriteHouseModel" (798 : Nat) (-1 : Int64)) ∈ lw_all := lw_g (lw_at lw_m12 89 rfl) rfl
theorem q3069 : (Jvm.Cond.methodLink "RewriteHouseModel" (806 : Nat) ({ cls := "RewriteHouseModel", name := "kindOfTerm", desc := "(I)I" } : Jvm.MethodName)) ∈ lw_all := lw_g (lw_at lw_m12 90 rfl) rfl
theorem q3070 : (Jvm.Cond.privateMethod ({ cls := "RewriteHouseModel", name := "kindOfTerm", desc := "(I)I" } : Jvm.MethodName)) ∈ lw_tbl := lw_at lw_m12 91 rfl
theorem q3071 : (Jvm.Cond.instanceMethod ({ cls := "RewriteHouseModel", name := "kindOfTerm", desc := "(I)I" } : Jvm.MethodName)) ∈ lw_all := lw_g (lw_at lw_m12 92 rfl) rfl
theorem q3072 : (Jvm.Cond.code ({ cls := "RewriteHouseModel", name := "kindOfTerm", desc := "(I)I" } : Jvm.MethodName) prog_4_method_68_code (2 : Nat) (Option.some Jvm.ClassFile.FieldType.int)) ∈ lw_all := lw_g (lw_at lw_m12 93 rfl) rfl
theorem q3073 : (Jvm.Cond.methodLink "RewriteHouseModel" (842 : Nat) ({ cls := "RewriteHouseModel", name := "faultTold", desc := "()I" } : Jvm.MethodName)) ∈ lw_all := lw_g (lw_at lw_m12 94 rfl) rfl
theorem q3074 : (Jvm.Cond.privateMethod ({ cls := "RewriteHouseModel", name := "faultTold", desc := "()I" } : Jvm.MethodName)) ∈ lw_tbl := lw_at lw_m12 95 rfl
theorem q3075 : (Jvm.Cond.instanceMethod ({ cls := "RewriteHouseModel", name := "faultTold", desc := "()I" } : Jvm.MethodName)) ∈ lw_all := lw_g (lw_at lw_m12 96 rfl) rfl
theorem q3076 : (Jvm.Cond.code ({ cls := "RewriteHouseModel", name := "faultTold", desc := "()I" } : Jvm.MethodName) prog_4_method_91_code (2 : Nat) (Option.some Jvm.ClassFile.FieldType.int)) ∈ lw_all := lw_g (lw_at lw_m12 97 rfl) rfl
theorem q3078 : (Jvm.Cond.instanceMethod ({ cls := "RewriteHouseModel", name := "fault", desc := "(I)I" } : Jvm.MethodName)) ∈ lw_all := lw_g (lw_at lw_m12 99 rfl) rfl
theorem q3079 : (Jvm.Cond.selects "RewriteHouseModel" ({ cls := "RewriteHouseModel", name := "fault", desc := "(I)I" } : Jvm.MethodName) ({ cls := "RewriteHouseModel", name := "fault", desc := "(I)I" } : Jvm.MethodName)) ∈ lw_all := lw_g (lw_at lw_m12 100 rfl) rfl
theorem q3080 : (Jvm.Cond.code ({ cls := "RewriteHouseModel", name := "fault", desc := "(I)I" } : Jvm.MethodName) prog_4_method_93_code (2 : Nat) (Option.some Jvm.ClassFile.FieldType.int)) ∈ lw_all := lw_g (lw_at lw_m12 101 rfl) rfl
theorem q3082 : (Jvm.Cond.instanceMethod ({ cls := "RewriteHouseModel", name := "count", desc := "(I)I" } : Jvm.MethodName)) ∈ lw_all := lw_g (lw_at lw_m12 103 rfl) rfl
theorem q3083 : (Jvm.Cond.selects "RewriteHouseModel" ({ cls := "RewriteHouseModel", name := "count", desc := "(I)I" } : Jvm.MethodName) ({ cls := "RewriteHouseModel", name := "count", desc := "(I)I" } : Jvm.MethodName)) ∈ lw_all := lw_g (lw_at lw_m12 104 rfl) rfl
theorem q3084 : (Jvm.Cond.code ({ cls := "RewriteHouseModel", name := "count", desc := "(I)I" } : Jvm.MethodName) prog_4_method_94_code (2 : Nat) (Option.some Jvm.ClassFile.FieldType.int)) ∈ lw_all := lw_g (lw_at lw_m12 105 rfl) rfl
theorem q3086 : (Jvm.Cond.instanceMethod ({ cls := "RewriteHouseModel", name := "term", desc := "()I" } : Jvm.MethodName)) ∈ lw_all := lw_g (lw_at lw_m12 107 rfl) rfl
theorem q3087 : (Jvm.Cond.selects "RewriteHouseModel" ({ cls := "RewriteHouseModel", name := "term", desc := "()I" } : Jvm.MethodName) ({ cls := "RewriteHouseModel", name := "term", desc := "()I" } : Jvm.MethodName)) ∈ lw_all := lw_g (lw_at lw_m12 108 rfl) rfl
theorem q3088 : (Jvm.Cond.codeWith ({ cls := "RewriteHouseModel", name := "term", desc := "()I" } : Jvm.MethodName) prog_4_method_97_code (3 : Nat) (Option.some Jvm.ClassFile.FieldType.int) [((13 : Nat), (85 : Nat), (126 : Nat), (12 : Nat)), ((86 : Nat), (119 : Nat), (126 : Nat), (12 : Nat)), ((120 : Nat), (125 : Nat), (126 : Nat), (12 : Nat))]) ∈ lw_all := lw_g (lw_at lw_m12 109 rfl) rfl
theorem q3089 : (Jvm.Cond.methodLink "RewriteHouseModel" (845 : Nat) ({ cls := "RewriteHouseModel", name := "makeRoom", desc := "()V" } : Jvm.MethodName)) ∈ lw_all := lw_g (lw_at lw_m12 110 rfl) rfl
theorem q3090 : (Jvm.Cond.privateMethod ({ cls := "RewriteHouseModel", name := "makeRoom", desc := "()V" } : Jvm.MethodName)) ∈ lw_tbl := lw_at lw_m12 111 rfl
theorem q3091 : (Jvm.Cond.instanceMethod ({ cls := "RewriteHouseModel", name := "makeRoom", desc := "()V" } : Jvm.MethodName)) ∈ lw_all := lw_g (lw_at lw_m12 112 rfl) rfl
theorem q3092 : (Jvm.Cond.code ({ cls := "RewriteHouseModel", name := "makeRoom", desc := "()V" } : Jvm.MethodName) prog_4_method_149_code (1 : Nat) (Option.none : Option Jvm.ClassFile.FieldType)) ∈ lw_all := lw_g (lw_at lw_m12 113 rfl) rfl
theorem q3093 : (Jvm.Cond.constant "RewriteHouseModel" (1044 : Nat) (80000 : Int32)) ∈ lw_all := lw_g (lw_at lw_m12 114 rfl) rfl
theorem q3094 : (Jvm.Cond.methodLink "RewriteHouseModel" (1045 : Nat) ({ cls := "RewriteHouseModel", name := "compact", desc := "()V" } : Jvm.MethodName)) ∈ lw_all := lw_g (lw_at lw_m12 115 rfl) rfl
theorem q3095 : (Jvm.Cond.privateMethod ({ cls := "RewriteHouseModel", name := "compact", desc := "()V" } : Jvm.MethodName)) ∈ lw_tbl := lw_at lw_m12 116 rfl
theorem q3096 : (Jvm.Cond.instanceMethod ({ cls := "RewriteHouseModel", name := "compact", desc := "()V" } : Jvm.MethodName)) ∈ lw_all := lw_g (lw_at lw_m12 117 rfl) rfl
theorem q3097 : (Jvm.Cond.code ({ cls := "RewriteHouseModel", name := "compact", desc := "()V" } : Jvm.MethodName) prog_4_method_154_code (4 : Nat) (Option.none : Option Jvm.ClassFile.FieldType)) ∈ lw_all := lw_g (lw_at lw_m12 118 rfl) rfl
theorem q3098 : (Jvm.Cond.methodLink "RewriteHouseModel" (1051 : Nat) ({ cls := "RewriteHouseModel", name := "markTerm", desc := "(I)V" } : Jvm.MethodName)) ∈ lw_all := lw_g (lw_at lw_m12 119 rfl) rfl
theorem q3099 : (Jvm.Cond.privateMethod ({ cls := "RewriteHouseModel", name := "markTerm", desc := "(I)V" } : Jvm.MethodName)) ∈ lw_tbl := lw_at lw_m12 120 rfl
theorem q3100 : (Jvm.Cond.instanceMethod ({ cls := "RewriteHouseModel", name := "markTerm", desc := "(I)V" } : Jvm.MethodName)) ∈ lw_all := lw_g (lw_at lw_m12 121 rfl) rfl
theorem q3101 : (Jvm.Cond.code ({ cls := "RewriteHouseModel", name := "markTerm", desc := "(I)V" } : Jvm.MethodName) prog_4_method_153_code (2 : Nat) (Option.none : Option Jvm.ClassFile.FieldType)) ∈ lw_all := lw_g (lw_at lw_m12 122 rfl) rfl
theorem q3102 : (Jvm.Cond.methodLink "RewriteHouseModel" (1064 : Nat) ({ cls := "RewriteHouseModel", name := "moveNodes", desc := "()V" } : Jvm.MethodName)) ∈ lw_all := lw_g (lw_at lw_m12 123 rfl) rfl
theorem q3103 : (Jvm.Cond.privateMethod ({ cls := "RewriteHouseModel", name := "moveNodes", desc := "()V" } : Jvm.MethodName)) ∈ lw_tbl := lw_at lw_m12 124 rfl
theorem q3104 : (Jvm.Cond.instanceMethod ({ cls := "RewriteHouseModel", name := "moveNodes", desc := "()V" } : Jvm.MethodName)) ∈ lw_all := lw_g (lw_at lw_m12 125 rfl) rfl
theorem q3105 : (Jvm.Cond.code ({ cls := "RewriteHouseModel", name := "moveNodes", desc := "()V" } : Jvm.MethodName) prog_4_method_155_code (7 : Nat) (Option.none : Option Jvm.ClassFile.FieldType)) ∈ lw_all := lw_g (lw_at lw_m12 126 rfl) rfl
theorem q3106 : (Jvm.Cond.methodLink "RewriteHouseModel" (848 : Nat) ({ cls := "RewriteHouseModel", name := "newHandle", desc := "(I)I" } : Jvm.MethodName)) ∈ lw_all := lw_g (lw_at lw_m12 127 rfl) rfl
theorem q3107 : (Jvm.Cond.privateMethod ({ cls := "RewriteHouseModel", name := "newHandle", desc := "(I)I" } : Jvm.MethodName)) ∈ lw_tbl := lw_at lw_m12 128 rfl
theorem q3108 : (Jvm.Cond.instanceMethod ({ cls := "RewriteHouseModel", name := "newHandle", desc := "(I)I" } : Jvm.MethodName)) ∈ lw_all := lw_g (lw_at lw_m12 129 rfl) rfl
theorem q3109 : (Jvm.Cond.code ({ cls := "RewriteHouseModel", name := "newHandle", desc := "(I)I" } : Jvm.MethodName) prog_4_method_95_code (2 : Nat) (Option.some Jvm.ClassFile.FieldType.int)) ∈ lw_all := lw_g (lw_at lw_m12 130 rfl) rfl
theorem q3111 : (Jvm.Cond.instanceMethod ({ cls := "RewriteHouseModel", name := "about", desc := "(II)I" } : Jvm.MethodName)) ∈ lw_all := lw_g (lw_at lw_m12 132 rfl) rfl
theorem q3112 : (Jvm.Cond.selects "RewriteHouseModel" ({ cls := "RewriteHouseModel", name := "about", desc := "(II)I" } : Jvm.MethodName) ({ cls := "RewriteHouseModel", name := "about", desc := "(II)I" } : Jvm.MethodName)) ∈ lw_all := lw_g (lw_at lw_m12 133 rfl) rfl
theorem q3113 : (Jvm.Cond.code ({ cls := "RewriteHouseModel", name := "about", desc := "(II)I" } : Jvm.MethodName) prog_4_method_98_code (4 : Nat) (Option.some Jvm.ClassFile.FieldType.int)) ∈ lw_all := lw_g (lw_at lw_m12 134 rfl) rfl
theorem q3114 : (Jvm.Cond.methodLink "RewriteHouseModel" (851 : Nat) ({ cls := "RewriteHouseModel", name := "noHandle", desc := "(I)Z" } : Jvm.MethodName)) ∈ lw_all := lw_g (lw_at lw_m12 135 rfl) rfl
theorem q3115 : (Jvm.Cond.privateMethod ({ cls := "RewriteHouseModel", name := "noHandle", desc := "(I)Z" } : Jvm.MethodName)) ∈ lw_tbl := lw_at lw_m12 136 rfl
theorem q3116 : (Jvm.Cond.instanceMethod ({ cls := "RewriteHouseModel", name := "noHandle", desc := "(I)Z" } : Jvm.MethodName)) ∈ lw_all := lw_g (lw_at lw_m12 137 rfl) rfl
theorem q3117 : (Jvm.Cond.code ({ cls := "RewriteHouseModel", name := "noHandle", desc := "(I)Z" } : Jvm.MethodName) prog_4_method_96_code (2 : Nat) (Option.some Jvm.ClassFile.FieldType.boolean)) ∈ lw_all := lw_g (lw_at lw_m12 138 rfl) rfl
theorem q3119 : (Jvm.Cond.instanceMethod ({ cls := "RewriteHouseModel", name := "part", desc := "(II)I" } : Jvm.MethodName)) ∈ lw_all := lw_g (lw_at lw_m12 140 rfl) rfl
theorem q3120 : (Jvm.Cond.selects "RewriteHouseModel" ({ cls := "RewriteHouseModel", name := "part", desc := "(II)I" } : Jvm.MethodName) ({ cls := "RewriteHouseModel", name := "part", desc := "(II)I" } : Jvm.MethodName)) ∈ lw_all := lw_g (lw_at lw_m12 141 rfl) rfl
theorem q3121 : (Jvm.Cond.code ({ cls := "RewriteHouseModel", name := "part", desc := "(II)I" } : Jvm.MethodName) prog_4_method_99_code (3 : Nat) (Option.some Jvm.ClassFile.FieldType.int)) ∈ lw_all := lw_g (lw_at lw_m12 142 rfl) rfl
theorem q3123 : (Jvm.Cond.instanceMethod ({ cls := "RewriteHouseModel", name := "order", desc := "(II)I" } : Jvm.MethodName)) ∈ lw_all := lw_g (lw_at lw_m12 144 rfl) rfl
theorem q3124 : (Jvm.Cond.selects "RewriteHouseModel" ({ cls := "RewriteHouseModel", name := "order", desc := "(II)I" } : Jvm.MethodName) ({ cls := "RewriteHouseModel", name := "order", desc := "(II)I" } : Jvm.MethodName)) ∈ lw_all := lw_g (lw_at lw_m12 145 rfl) rfl
theorem q3125 : (Jvm.Cond.code ({ cls := "RewriteHouseModel", name := "order", desc := "(II)I" } : Jvm.MethodName) prog_4_method_100_code (3 : Nat) (Option.some Jvm.ClassFile.FieldType.int)) ∈ lw_all := lw_g (lw_at lw_m12 146 rfl) rfl
theorem q3127 : (Jvm.Cond.instanceMethod ({ cls := "RewriteHouseModel", name := "print", desc := "(II)I" } : Jvm.MethodName)) ∈ lw_all := lw_g (lw_at lw_m12 148 rfl) rfl
theorem q3128 : (Jvm.Cond.selects "RewriteHouseModel" ({ cls := "RewriteHouseModel", name := "print", desc := "(II)I" } : Jvm.MethodName) ({ cls := "RewriteHouseModel", name := "print", desc := "(II)I" } : Jvm.MethodName)) ∈ lw_all := lw_g (lw_at lw_m12 149 rfl) rfl
theorem q3129 : (Jvm.Cond.code ({ cls := "RewriteHouseModel", name := "print", desc := "(II)I" } : Jvm.MethodName) prog_4_method_104_code (3 : Nat) (Option.some Jvm.ClassFile.FieldType.int)) ∈ lw_all := lw_g (lw_at lw_m12 150 rfl) rfl
theorem q3130 : (Jvm.Cond.methodLink "RewriteHouseModel" (863 : Nat) ({ cls := "RewriteHouseModel", name := "show", desc := "(LRewriteHouseModel;III)V" } : Jvm.MethodName)) ∈ lw_all := lw_g (lw_at lw_m12 151 rfl) rfl
theorem q3131 : (Jvm.Cond.static ({ cls := "RewriteHouseModel", name := "show", desc := "(LRewriteHouseModel;III)V" } : Jvm.MethodName)) ∈ lw_all := lw_g (lw_at lw_m12 152 rfl) rfl
theorem q3132 : (Jvm.Cond.code ({ cls := "RewriteHouseModel", name := "show", desc := "(LRewriteHouseModel;III)V" } : Jvm.MethodName) prog_4_method_103_code (11 : Nat) (Option.none : Option Jvm.ClassFile.FieldType)) ∈ lw_all := lw_g (lw_at lw_m12 153 rfl) rfl
theorem q3133 : (Jvm.Cond.methodLink "RewriteHouseModel" (857 : Nat) ({ cls := "RewriteHouseModel", name := "showWord", desc := "(I)V" } : Jvm.MethodName)) ∈ lw_all := lw_g (lw_at lw_m12 154 rfl) rfl
theorem q3134 : (Jvm.Cond.privateMethod ({ cls := "RewriteHouseModel", name := "showWord", desc := "(I)V" } : Jvm.MethodName)) ∈ lw_tbl := lw_at lw_m12 155 rfl
theorem q3135 : (Jvm.Cond.instanceMethod ({ cls := "RewriteHouseModel", name := "showWord", desc := "(I)V" } : Jvm.MethodName)) ∈ lw_all := lw_g (lw_at lw_m12 156 rfl) rfl
theorem q3136 : (Jvm.Cond.code ({ cls := "RewriteHouseModel", name := "showWord", desc := "(I)V" } : Jvm.MethodName) prog_4_method_101_code (3 : Nat) (Option.none : Option Jvm.ClassFile.FieldType)) ∈ lw_all := lw_g (lw_at lw_m12 157 rfl) rfl
theorem q3137 : (Jvm.Cond.methodLink "RewriteHouseModel" (860 : Nat) ({ cls := "RewriteHouseModel", name := "showSign", desc := "(I)V" } : Jvm.MethodName)) ∈ lw_all := lw_g (lw_at lw_m12 158 rfl) rfl
theorem q3138 : (Jvm.Cond.privateMethod ({ cls := "RewriteHouseModel", name := "showSign", desc := "(I)V" } : Jvm.MethodName)) ∈ lw_tbl := lw_at lw_m12 159 rfl
theorem q3139 : (Jvm.Cond.instanceMethod ({ cls := "RewriteHouseModel", name := "showSign", desc := "(I)V" } : Jvm.MethodName)) ∈ lw_all := lw_g (lw_at lw_m12 160 rfl) rfl
theorem q3140 : (Jvm.Cond.code ({ cls := "RewriteHouseModel", name := "showSign", desc := "(I)V" } : Jvm.MethodName) prog_4_method_102_code (2 : Nat) (Option.none : Option Jvm.ClassFile.FieldType)) ∈ lw_all := lw_g (lw_at lw_m12 161 rfl) rfl
theorem q3142 : (Jvm.Cond.instanceMethod ({ cls := "RewriteHouseModel", name := "forget", desc := "()I" } : Jvm.MethodName)) ∈ lw_all := lw_g (lw_at lw_m12 163 rfl) rfl
theorem q3143 : (Jvm.Cond.selects "RewriteHouseModel" ({ cls := "RewriteHouseModel", name := "forget", desc := "()I" } : Jvm.MethodName) ({ cls := "RewriteHouseModel", name := "forget", desc := "()I" } : Jvm.MethodName)) ∈ lw_all := lw_g (lw_at lw_m12 164 rfl) rfl
theorem q3144 : (Jvm.Cond.code ({ cls := "RewriteHouseModel", name := "forget", desc := "()I" } : Jvm.MethodName) prog_4_method_105_code (2 : Nat) (Option.some Jvm.ClassFile.FieldType.int)) ∈ lw_all := lw_g (lw_at lw_m12 165 rfl) rfl
theorem q3146 : (Jvm.Cond.instanceMethod ({ cls := "RewriteHouseModel", name := "below", desc := "(II)I" } : Jvm.MethodName)) ∈ lw_all := lw_g (lw_at lw_m12 167 rfl) rfl
theorem q3147 : (Jvm.Cond.selects "RewriteHouseModel" ({ cls := "RewriteHouseModel", name := "below", desc := "(II)I" } : Jvm.MethodName) ({ cls := "RewriteHouseModel", name := "below", desc := "(II)I" } : Jvm.MethodName)) ∈ lw_all := lw_g (lw_at lw_m12 168 rfl) rfl
theorem q3148 : (Jvm.Cond.code ({ cls := "RewriteHouseModel", name := "below", desc := "(II)I" } : Jvm.MethodName) prog_4_method_106_code (3 : Nat) (Option.some Jvm.ClassFile.FieldType.int)) ∈ lw_all := lw_g (lw_at lw_m12 169 rfl) rfl
theorem q3150 : (Jvm.Cond.instanceMethod ({ cls := "RewriteHouseModel", name := "kind", desc := "(I)I" } : Jvm.MethodName)) ∈ lw_all := lw_g (lw_at lw_m12 171 rfl) rfl
theorem q3151 : (Jvm.Cond.selects "RewriteHouseModel" ({ cls := "RewriteHouseModel", name := "kind", desc := "(I)I" } : Jvm.MethodName) ({ cls := "RewriteHouseModel", name := "kind", desc := "(I)I" } : Jvm.MethodName)) ∈ lw_all := lw_g (lw_at lw_m12 172 rfl) rfl
theorem q3152 : (Jvm.Cond.code ({ cls := "RewriteHouseModel", name := "kind", desc := "(I)I" } : Jvm.MethodName) prog_4_method_107_code (2 : Nat) (Option.some Jvm.ClassFile.FieldType.int)) ∈ lw_all := lw_g (lw_at lw_m12 173 rfl) rfl
theorem q3154 : (Jvm.Cond.instanceMethod ({ cls := "RewriteHouseModel", name := "operator", desc := "(II)I" } : Jvm.MethodName)) ∈ lw_all := lw_g (lw_at lw_m12 175 rfl) rfl
theorem q3155 : (Jvm.Cond.selects "RewriteHouseModel" ({ cls := "RewriteHouseModel", name := "operator", desc := "(II)I" } : Jvm.MethodName) ({ cls := "RewriteHouseModel", name := "operator", desc := "(II)I" } : Jvm.MethodName)) ∈ lw_all := lw_g (lw_at lw_m12 176 rfl) rfl
theorem q3156 : (Jvm.Cond.code ({ cls := "RewriteHouseModel", name := "operator", desc := "(II)I" } : Jvm.MethodName) prog_4_method_108_code (3 : Nat) (Option.some Jvm.ClassFile.FieldType.int)) ∈ lw_all := lw_g (lw_at lw_m12 177 rfl) rfl
theorem q3158 : (Jvm.Cond.instanceMethod ({ cls := "RewriteHouseModel", name := "match", desc := "(IIZ)I" } : Jvm.MethodName)) ∈ lw_all := lw_g (lw_at lw_m12 179 rfl) rfl
theorem q3159 : (Jvm.Cond.selects "RewriteHouseModel" ({ cls := "RewriteHouseModel", name := "match", desc := "(IIZ)I" } : Jvm.MethodName) ({ cls := "RewriteHouseModel", name := "match", desc := "(IIZ)I" } : Jvm.MethodName)) ∈ lw_all := lw_g (lw_at lw_m12 180 rfl) rfl
theorem q3160 : (Jvm.Cond.codeWith ({ cls := "RewriteHouseModel", name := "match", desc := "(IIZ)I" } : Jvm.MethodName) prog_4_method_156_code (6 : Nat) (Option.some Jvm.ClassFile.FieldType.int) [((50 : Nat), (148 : Nat), (149 : Nat), (12 : Nat))]) ∈ lw_all := lw_g (lw_at lw_m12 181 rfl) rfl
theorem q3161 : (Jvm.Cond.methodLink "RewriteHouseModel" (1067 : Nat) ({ cls := "RewriteHouseModel", name := "beginCall", desc := "()V" } : Jvm.MethodName)) ∈ lw_all := lw_g (lw_at lw_m12 182 rfl) rfl
theorem q3162 : (Jvm.Cond.privateMethod ({ cls := "RewriteHouseModel", name := "beginCall", desc := "()V" } : Jvm.MethodName)) ∈ lw_tbl := lw_at lw_m12 183 rfl
theorem q3163 : (Jvm.Cond.instanceMethod ({ cls := "RewriteHouseModel", name := "beginCall", desc := "()V" } : Jvm.MethodName)) ∈ lw_all := lw_g (lw_at lw_m12 184 rfl) rfl
theorem q3164 : (Jvm.Cond.code ({ cls := "RewriteHouseModel", name := "beginCall", desc := "()V" } : Jvm.MethodName) prog_4_method_150_code (1 : Nat) (Option.none : Option Jvm.ClassFile.FieldType)) ∈ lw_all := lw_g (lw_at lw_m12 185 rfl) rfl
theorem q3165 : (Jvm.Cond.methodLink "RewriteHouseModel" (1048 : Nat) ({ cls := "RewriteHouseModel", name := "beginTry", desc := "()V" } : Jvm.MethodName)) ∈ lw_all := lw_g (lw_at lw_m12 186 rfl) rfl
theorem q3166 : (Jvm.Cond.privateMethod ({ cls := "RewriteHouseModel", name := "beginTry", desc := "()V" } : Jvm.MethodName)) ∈ lw_tbl := lw_at lw_m12 187 rfl
theorem q3167 : (Jvm.Cond.instanceMethod ({ cls := "RewriteHouseModel", name := "beginTry", desc := "()V" } : Jvm.MethodName)) ∈ lw_all := lw_g (lw_at lw_m12 188 rfl) rfl
theorem q3168 : (Jvm.Cond.code ({ cls := "RewriteHouseModel", name := "beginTry", desc := "()V" } : Jvm.MethodName) prog_4_method_151_code (1 : Nat) (Option.none : Option Jvm.ClassFile.FieldType)) ∈ lw_all := lw_g (lw_at lw_m12 189 rfl) rfl
theorem q3169 : (Jvm.Cond.methodLink "RewriteHouseModel" (991 : Nat) ({ cls := "RewriteHouseModel", name := "list", desc := "(IIZI)I" } : Jvm.MethodName)) ∈ lw_all := lw_g (lw_at lw_m12 190 rfl) rfl
theorem q3170 : (Jvm.Cond.privateMethod ({ cls := "RewriteHouseModel", name := "list", desc := "(IIZI)I" } : Jvm.MethodName)) ∈ lw_tbl := lw_at lw_m12 191 rfl
theorem q3171 : (Jvm.Cond.instanceMethod ({ cls := "RewriteHouseModel", name := "list", desc := "(IIZI)I" } : Jvm.MethodName)) ∈ lw_all := lw_g (lw_at lw_m12 192 rfl) rfl
theorem q3172 : (Jvm.Cond.code ({ cls := "RewriteHouseModel", name := "list", desc := "(IIZI)I" } : Jvm.MethodName) prog_4_method_127_code (8 : Nat) (Option.some Jvm.ClassFile.FieldType.int)) ∈ lw_all := lw_g (lw_at lw_m12 193 rfl) rfl
theorem q3173 : (Jvm.Cond.methodLink "RewriteHouseModel" (934 : Nat) ({ cls := "RewriteHouseModel", name := "assocIn", desc := "(LRewriteHouseModel;I)J" } : Jvm.MethodName)) ∈ lw_all := lw_g (lw_at lw_m12 194 rfl) rfl
theorem q3174 : (Jvm.Cond.static ({ cls := "RewriteHouseModel", name := "assocIn", desc := "(LRewriteHouseModel;I)J" } : Jvm.MethodName)) ∈ lw_all := lw_g (lw_at lw_m12 195 rfl) rfl
theorem q3175 : (Jvm.Cond.code ({ cls := "RewriteHouseModel", name := "assocIn", desc := "(LRewriteHouseModel;I)J" } : Jvm.MethodName) prog_4_method_123_code (5 : Nat) (Option.some Jvm.ClassFile.FieldType.long)) ∈ lw_all := lw_g (lw_at lw_m12 196 rfl) rfl
theorem q3176 : (Jvm.Cond.methodLink "RewriteHouseModel" (937 : Nat) ({ cls := "RewriteHouseModel", name := "isWide", desc := "(LRewriteHouseModel;IJ)Z" } : Jvm.MethodName)) ∈ lw_all := lw_g (lw_at lw_m12 197 rfl) rfl
theorem q3177 : (Jvm.Cond.static ({ cls := "RewriteHouseModel", name := "isWide", desc := "(LRewriteHouseModel;IJ)Z" } : Jvm.MethodName)) ∈ lw_all := lw_g (lw_at lw_m12 198 rfl) rfl
theorem q3178 : (Jvm.Cond.code ({ cls := "RewriteHouseModel", name := "isWide", desc := "(LRewriteHouseModel;IJ)Z" } : Jvm.MethodName) prog_4_method_124_code (5 : Nat) (Option.some Jvm.ClassFile.FieldType.boolean)) ∈ lw_all := lw_g (lw_at lw_m12 199 rfl) rfl
theorem q3179 : (Jvm.Cond.methodLink "RewriteHouseModel" (946 : Nat) ({ cls := "RewriteHouseModel", name := "dealsOf", desc := "(LRewriteHouseModel;II)J" } : Jvm.MethodName)) ∈ lw_all := lw_g (lw_at lw_m12 200 rfl) rfl
theorem q3180 : (Jvm.Cond.static ({ cls := "RewriteHouseModel", name := "dealsOf", desc := "(LRewriteHouseModel;II)J" } : Jvm.MethodName)) ∈ lw_all := lw_g (lw_at lw_m12 201 rfl) rfl
theorem q3181 : (Jvm.Cond.code ({ cls := "RewriteHouseModel", name := "dealsOf", desc := "(LRewriteHouseModel;II)J" } : Jvm.MethodName) prog_4_method_126_code (8 : Nat) (Option.some Jvm.ClassFile.FieldType.long)) ∈ lw_all := lw_g (lw_at lw_m12 202 rfl) rfl
theorem q3182 : (Jvm.Cond.methodLink "RewriteHouseModel" (941 : Nat) ({ cls := "RewriteHouseModel", name := "longest", desc := "(LRewriteHouseModel;II)I" } : Jvm.MethodName)) ∈ lw_all := lw_g (lw_at lw_m12 203 rfl) rfl
theorem q3183 : (Jvm.Cond.static ({ cls := "RewriteHouseModel", name := "longest", desc := "(LRewriteHouseModel;II)I" } : Jvm.MethodName)) ∈ lw_all := lw_g (lw_at lw_m12 204 rfl) rfl
theorem q3184 : (Jvm.Cond.code ({ cls := "RewriteHouseModel", name := "longest", desc := "(LRewriteHouseModel;II)I" } : Jvm.MethodName) prog_4_method_125_code (6 : Nat) (Option.some Jvm.ClassFile.FieldType.int)) ∈ lw_all := lw_g (lw_at lw_m12 205 rfl) rfl
theorem q3185 : (Jvm.Cond.constantLong "RewriteHouseModel" (944 : Nat) (3000000 : Int64)) ∈ lw_all := lw_g (lw_at lw_m12 206 rfl) rfl
theorem q3186 : (Jvm.Cond.constantLong "RewriteHouseModel" (950 : Nat) (3000001 : Int64)) ∈ lw_all := lw_g (lw_at lw_m12 207 rfl) rfl
theorem q3187 : (Jvm.Cond.methodLink "RewriteHouseModel" (958 : Nat) ({ cls := "RewriteHouseModel", name := "listWithin", desc := "(III)V" } : Jvm.MethodName)) ∈ lw_all := lw_g (lw_at lw_m12 208 rfl) rfl
theorem q3188 : (Jvm.Cond.privateMethod ({ cls := "RewriteHouseModel", name := "listWithin", desc := "(III)V" } : Jvm.MethodName)) ∈ lw_tbl := lw_at lw_m12 209 rfl
theorem q3189 : (Jvm.Cond.instanceMethod ({ cls := "RewriteHouseModel", name := "listWithin", desc := "(III)V" } : Jvm.MethodName)) ∈ lw_all := lw_g (lw_at lw_m12 210 rfl) rfl
theorem q3190 : (Jvm.Cond.code ({ cls := "RewriteHouseModel", name := "listWithin", desc := "(III)V" } : Jvm.MethodName) prog_4_method_128_code (7 : Nat) (Option.none : Option Jvm.ClassFile.FieldType)) ∈ lw_all := lw_g (lw_at lw_m12 211 rfl) rfl
theorem q3191 : (Jvm.Cond.methodLink "RewriteHouseModel" (910 : Nat) ({ cls := "RewriteHouseModel", name := "chosen", desc := "(III)I" } : Jvm.MethodName)) ∈ lw_all := lw_g (lw_at lw_m12 212 rfl) rfl
theorem q3192 : (Jvm.Cond.privateMethod ({ cls := "RewriteHouseModel", name := "chosen", desc := "(III)I" } : Jvm.MethodName)) ∈ lw_tbl := lw_at lw_m12 213 rfl
theorem q3193 : (Jvm.Cond.instanceMethod ({ cls := "RewriteHouseModel", name := "chosen", desc := "(III)I" } : Jvm.MethodName)) ∈ lw_all := lw_g (lw_at lw_m12 214 rfl) rfl
theorem q3194 : (Jvm.Cond.code ({ cls := "RewriteHouseModel", name := "chosen", desc := "(III)I" } : Jvm.MethodName) prog_4_method_113_code (6 : Nat) (Option.some Jvm.ClassFile.FieldType.int)) ∈ lw_all := lw_g (lw_at lw_m12 215 rfl) rfl
theorem q3195 : (Jvm.Cond.methodLink "RewriteHouseModel" (870 : Nat) ({ cls := "RewriteHouseModel", name := "element", desc := "(III)I" } : Jvm.MethodName)) ∈ lw_all := lw_g (lw_at lw_m12 216 rfl) rfl
theorem q3196 : (Jvm.Cond.privateMethod ({ cls := "RewriteHouseModel", name := "element", desc := "(III)I" } : Jvm.MethodName)) ∈ lw_tbl := lw_at lw_m12 217 rfl
theorem q3197 : (Jvm.Cond.instanceMethod ({ cls := "RewriteHouseModel", name := "element", desc := "(III)I" } : Jvm.MethodName)) ∈ lw_all := lw_g (lw_at lw_m12 218 rfl) rfl
theorem q3198 : (Jvm.Cond.code ({ cls := "RewriteHouseModel", name := "element", desc := "(III)I" } : Jvm.MethodName) prog_4_method_111_code (4 : Nat) (Option.some Jvm.ClassFile.FieldType.int)) ∈ lw_all := lw_g (lw_at lw_m12 219 rfl) rfl
theorem q3199 : (Jvm.Cond.methodLink "RewriteHouseModel" (897 : Nat) ({ cls := "RewriteHouseModel", name := "goal", desc := "(IIIIII)I" } : Jvm.MethodName)) ∈ lw_all := lw_g (lw_at lw_m12 220 rfl) rfl
theorem q3200 : (Jvm.Cond.privateMethod ({ cls := "RewriteHouseModel", name := "goal", desc := "(IIIIII)I" } : Jvm.MethodName)) ∈ lw_tbl := lw_at lw_m12 221 rfl
theorem q3201 : (Jvm.Cond.instanceMethod ({ cls := "RewriteHouseModel", name := "goal", desc := "(IIIIII)I" } : Jvm.MethodName)) ∈ lw_all := lw_g (lw_at lw_m12 222 rfl) rfl
theorem q3202 : (Jvm.Cond.code ({ cls := "RewriteHouseModel", name := "goal", desc := "(IIIIII)I" } : Jvm.MethodName) prog_4_method_109_code (8 : Nat) (Option.some Jvm.ClassFile.FieldType.int)) ∈ lw_all := lw_g (lw_at lw_m12 223 rfl) rfl
theorem q3203 : (Jvm.Cond.methodLink "RewriteHouseModel" (891 : Nat) ({ cls := "RewriteHouseModel", name := "solve", desc := "(LRewriteHouseModel;I)V" } : Jvm.MethodName)) ∈ lw_all := lw_g (lw_at lw_m12 224 rfl) rfl
theorem q3204 : (Jvm.Cond.static ({ cls := "RewriteHouseModel", name := "solve", desc := "(LRewriteHouseModel;I)V" } : Jvm.MethodName)) ∈ lw_all := lw_g (lw_at lw_m12 225 rfl) rfl
theorem q3205 : (Jvm.Cond.code ({ cls := "RewriteHouseModel", name := "solve", desc := "(LRewriteHouseModel;I)V" } : Jvm.MethodName) prog_4_method_116_code (3 : Nat) (Option.none : Option Jvm.ClassFile.FieldType)) ∈ lw_all := lw_g (lw_at lw_m12 226 rfl) rfl
theorem q3206 : (Jvm.Cond.methodLink "RewriteHouseModel" (878 : Nat) ({ cls := "RewriteHouseModel", name := "record", desc := "()V" } : Jvm.MethodName)) ∈ lw_all := lw_g (lw_at lw_m12 227 rfl) rfl
theorem q3207 : (Jvm.Cond.privateMethod ({ cls := "RewriteHouseModel", name := "record", desc := "()V" } : Jvm.MethodName)) ∈ lw_tbl := lw_at lw_m12 228 rfl
theorem q3208 : (Jvm.Cond.instanceMethod ({ cls := "RewriteHouseModel", name := "record", desc := "()V" } : Jvm.MethodName)) ∈ lw_all := lw_g (lw_at lw_m12 229 rfl) rfl
theorem q3209 : (Jvm.Cond.code ({ cls := "RewriteHouseModel", name := "record", desc := "()V" } : Jvm.MethodName) prog_4_method_122_code (5 : Nat) (Option.none : Option Jvm.ClassFile.FieldType)) ∈ lw_all := lw_g (lw_at lw_m12 230 rfl) rfl
theorem q3210 : (Jvm.Cond.methodLink "RewriteHouseModel" (931 : Nat) ({ cls := "RewriteHouseModel", name := "orderTo", desc := "(I)I" } : Jvm.MethodName)) ∈ lw_all := lw_g (lw_at lw_m12 231 rfl) rfl
theorem q3211 : (Jvm.Cond.privateMethod ({ cls := "RewriteHouseModel", name := "orderTo", desc := "(I)I" } : Jvm.MethodName)) ∈ lw_tbl := lw_at lw_m12 232 rfl
theorem q3212 : (Jvm.Cond.instanceMethod ({ cls := "RewriteHouseModel", name := "orderTo", desc := "(I)I" } : Jvm.MethodName)) ∈ lw_all := lw_g (lw_at lw_m12 233 rfl) rfl
theorem q3213 : (Jvm.Cond.code ({ cls := "RewriteHouseModel", name := "orderTo", desc := "(I)I" } : Jvm.MethodName) prog_4_method_121_code (5 : Nat) (Option.some Jvm.ClassFile.FieldType.int)) ∈ lw_all := lw_g (lw_at lw_m12 234 rfl) rfl
theorem q3214 : (Jvm.Cond.methodLink "RewriteHouseModel" (922 : Nat) ({ cls := "RewriteHouseModel", name := "orderBeside", desc := "(II)I" } : Jvm.MethodName)) ∈ lw_all := lw_g (lw_at lw_m12 235 rfl) rfl
theorem q3215 : (Jvm.Cond.privateMethod ({ cls := "RewriteHouseModel", name := "orderBeside", desc := "(II)I" } : Jvm.MethodName)) ∈ lw_tbl := lw_at lw_m12 236 rfl
theorem q3216 : (Jvm.Cond.instanceMethod ({ cls := "RewriteHouseModel", name := "orderBeside", desc := "(II)I" } : Jvm.MethodName)) ∈ lw_all := lw_g (lw_at lw_m12 237 rfl) rfl
theorem q3217 : (Jvm.Cond.code ({ cls := "RewriteHouseModel", name := "orderBeside", desc := "(II)I" } : Jvm.MethodName) prog_4_method_120_code (7 : Nat) (Option.some Jvm.ClassFile.FieldType.int)) ∈ lw_all := lw_g (lw_at lw_m12 238 rfl) rfl
theorem q3218 : (Jvm.Cond.methodLink "RewriteHouseModel" (881 : Nat) ({ cls := "RewriteHouseModel", name := "solvePair", desc := "(LRewriteHouseModel;III)V" } : Jvm.MethodName)) ∈ lw_all := lw_g (lw_at lw_m12 239 rfl) rfl
theorem q3219 : (Jvm.Cond.static ({ cls := "RewriteHouseModel", name := "solvePair", desc := "(LRewriteHouseModel;III)V" } : Jvm.MethodName)) ∈ lw_all := lw_g (lw_at lw_m13 0 rfl) rfl
theorem q3220 : (Jvm.Cond.code ({ cls := "RewriteHouseModel", name := "solvePair", desc := "(LRewriteHouseModel;III)V" } : Jvm.MethodName) prog_4_method_117_code (8 : Nat) (Option.none : Option Jvm.ClassFile.FieldType)) ∈ lw_all := lw_g (lw_at lw_m13 1 rfl) rfl
theorem q3221 : (Jvm.Cond.methodLink "RewriteHouseModel" (894 : Nat) ({ cls := "RewriteHouseModel", name := "rowCount", desc := "(II)I" } : Jvm.MethodName)) ∈ lw_all := lw_g (lw_at lw_m13 2 rfl) rfl
theorem q3222 : (Jvm.Cond.privateMethod ({ cls := "RewriteHouseModel", name := "rowCount", desc := "(II)I" } : Jvm.MethodName)) ∈ lw_tbl := lw_at lw_m13 3 rfl
theorem q3223 : (Jvm.Cond.instanceMethod ({ cls := "RewriteHouseModel", name := "rowCount", desc := "(II)I" } : Jvm.MethodName)) ∈ lw_all := lw_g (lw_at lw_m13 4 rfl) rfl
theorem q3224 : (Jvm.Cond.code ({ cls := "RewriteHouseModel", name := "rowCount", desc := "(II)I" } : Jvm.MethodName) prog_4_method_110_code (3 : Nat) (Option.some Jvm.ClassFile.FieldType.int)) ∈ lw_all := lw_g (lw_at lw_m13 5 rfl) rfl
theorem q3225 : (Jvm.Cond.methodLink "RewriteHouseModel" (884 : Nat) ({ cls := "RewriteHouseModel", name := "solveSide", desc := "(LRewriteHouseModel;I)V" } : Jvm.MethodName)) ∈ lw_all := lw_g (lw_at lw_m13 6 rfl) rfl
theorem q3226 : (Jvm.Cond.static ({ cls := "RewriteHouseModel", name := "solveSide", desc := "(LRewriteHouseModel;I)V" } : Jvm.MethodName)) ∈ lw_all := lw_g (lw_at lw_m13 7 rfl) rfl
theorem q3227 : (Jvm.Cond.code ({ cls := "RewriteHouseModel", name := "solveSide", desc := "(LRewriteHouseModel;I)V" } : Jvm.MethodName) prog_4_method_118_code (16 : Nat) (Option.none : Option Jvm.ClassFile.FieldType)) ∈ lw_all := lw_g (lw_at lw_m13 8 rfl) rfl
theorem q3228 : (Jvm.Cond.methodLink "RewriteHouseModel" (901 : Nat) ({ cls := "RewriteHouseModel", name := "mayTake", desc := "(III)Z" } : Jvm.MethodName)) ∈ lw_all := lw_g (lw_at lw_m13 9 rfl) rfl
theorem q3229 : (Jvm.Cond.privateMethod ({ cls := "RewriteHouseModel", name := "mayTake", desc := "(III)Z" } : Jvm.MethodName)) ∈ lw_tbl := lw_at lw_m13 10 rfl
theorem q3230 : (Jvm.Cond.instanceMethod ({ cls := "RewriteHouseModel", name := "mayTake", desc := "(III)Z" } : Jvm.MethodName)) ∈ lw_all := lw_g (lw_at lw_m13 11 rfl) rfl
theorem q3231 : (Jvm.Cond.code ({ cls := "RewriteHouseModel", name := "mayTake", desc := "(III)Z" } : Jvm.MethodName) prog_4_method_115_code (5 : Nat) (Option.some Jvm.ClassFile.FieldType.boolean)) ∈ lw_all := lw_g (lw_at lw_m13 12 rfl) rfl
theorem q3232 : (Jvm.Cond.methodLink "RewriteHouseModel" (904 : Nat) ({ cls := "RewriteHouseModel", name := "segment", desc := "(IIII)I" } : Jvm.MethodName)) ∈ lw_all := lw_g (lw_at lw_m13 13 rfl) rfl
theorem q3233 : (Jvm.Cond.privateMethod ({ cls := "RewriteHouseModel", name := "segment", desc := "(IIII)I" } : Jvm.MethodName)) ∈ lw_tbl := lw_at lw_m13 14 rfl
theorem q3234 : (Jvm.Cond.instanceMethod ({ cls := "RewriteHouseModel", name := "segment", desc := "(IIII)I" } : Jvm.MethodName)) ∈ lw_all := lw_g (lw_at lw_m13 15 rfl) rfl
theorem q3235 : (Jvm.Cond.code ({ cls := "RewriteHouseModel", name := "segment", desc := "(IIII)I" } : Jvm.MethodName) prog_4_method_112_code (7 : Nat) (Option.some Jvm.ClassFile.FieldType.int)) ∈ lw_all := lw_g (lw_at lw_m13 16 rfl) rfl
theorem q3236 : (Jvm.Cond.methodLink "RewriteHouseModel" (888 : Nat) ({ cls := "RewriteHouseModel", name := "solveAny", desc := "(LRewriteHouseModel;I)V" } : Jvm.MethodName)) ∈ lw_all := lw_g (lw_at lw_m13 17 rfl) rfl
theorem q3237 : (Jvm.Cond.static ({ cls := "RewriteHouseModel", name := "solveAny", desc := "(LRewriteHouseModel;I)V" } : Jvm.MethodName)) ∈ lw_all := lw_g (lw_at lw_m13 18 rfl) rfl
theorem q3238 : (Jvm.Cond.code ({ cls := "RewriteHouseModel", name := "solveAny", desc := "(LRewriteHouseModel;I)V" } : Jvm.MethodName) prog_4_method_119_code (13 : Nat) (Option.none : Option Jvm.ClassFile.FieldType)) ∈ lw_all := lw_g (lw_at lw_m13 19 rfl) rfl
theorem q3239 : (Jvm.Cond.methodLink "RewriteHouseModel" (907 : Nat) ({ cls := "RewriteHouseModel", name := "bits", desc := "(I)I" } : Jvm.MethodName)) ∈ lw_all := lw_g (lw_at lw_m13 20 rfl) rfl
theorem q3240 : (Jvm.Cond.static ({ cls := "RewriteHouseModel", name := "bits", desc := "(I)I" } : Jvm.MethodName)) ∈ lw_all := lw_g (lw_at lw_m13 21 rfl) rfl
theorem q3241 : (Jvm.Cond.code ({ cls := "RewriteHouseModel", name := "bits", desc := "(I)I" } : Jvm.MethodName) prog_4_method_114_code (1 : Nat) (Option.some Jvm.ClassFile.FieldType.int)) ∈ lw_all := lw_g (lw_at lw_m13 22 rfl) rfl
theorem q3242 : (Jvm.Cond.methodLink "RewriteHouseModel" (873 : Nat) ({ cls := "java/lang/Integer", name := "bitCount", desc := "(I)I" } : Jvm.MethodName)) ∈ lw_all := lw_g (lw_at lw_m13 23 rfl) rfl
theorem q3243 : (Jvm.Cond.methodLink "RewriteHouseModel" (1073 : Nat) ({ cls := "RewriteHouseModel", name := "stopped", desc := "()I" } : Jvm.MethodName)) ∈ lw_all := lw_g (lw_at lw_m13 24 rfl) rfl
theorem q3244 : (Jvm.Cond.privateMethod ({ cls := "RewriteHouseModel", name := "stopped", desc := "()I" } : Jvm.MethodName)) ∈ lw_tbl := lw_at lw_m13 25 rfl
theorem q3245 : (Jvm.Cond.instanceMethod ({ cls := "RewriteHouseModel", name := "stopped", desc := "()I" } : Jvm.MethodName)) ∈ lw_all := lw_g (lw_at lw_m13 26 rfl) rfl
theorem q3246 : (Jvm.Cond.code ({ cls := "RewriteHouseModel", name := "stopped", desc := "()I" } : Jvm.MethodName) prog_4_method_152_code (1 : Nat) (Option.some Jvm.ClassFile.FieldType.int)) ∈ lw_all := lw_g (lw_at lw_m13 27 rfl) rfl
theorem q3248 : (Jvm.Cond.instanceMethod ({ cls := "RewriteHouseModel", name := "bound", desc := "(II)I" } : Jvm.MethodName)) ∈ lw_all := lw_g (lw_at lw_m13 29 rfl) rfl
theorem q3249 : (Jvm.Cond.selects "RewriteHouseModel" ({ cls := "RewriteHouseModel", name := "bound", desc := "(II)I" } : Jvm.MethodName) ({ cls := "RewriteHouseModel", name := "bound", desc := "(II)I" } : Jvm.MethodName)) ∈ lw_all := lw_g (lw_at lw_m13 30 rfl) rfl
theorem q3250 : (Jvm.Cond.code ({ cls := "RewriteHouseModel", name := "bound", desc := "(II)I" } : Jvm.MethodName) prog_4_method_157_code (4 : Nat) (Option.some Jvm.ClassFile.FieldType.int)) ∈ lw_all := lw_g (lw_at lw_m13 31 rfl) rfl
theorem q3251 : (Jvm.Cond.constantLong "RewriteHouseModel" (1076 : Nat) (-2 : Int64)) ∈ lw_all := lw_g (lw_at lw_m13 32 rfl) rfl
theorem q3252 : (Jvm.Cond.constantLong "RewriteHouseModel" (1078 : Nat) (59 : Int64)) ∈ lw_all := lw_g (lw_at lw_m13 33 rfl) rfl
theorem q3254 : (Jvm.Cond.instanceMethod ({ cls := "RewriteHouseModel", name := "reduce", desc := "(I)I" } : Jvm.MethodName)) ∈ lw_all := lw_g (lw_at lw_m13 35 rfl) rfl
theorem q3255 : (Jvm.Cond.selects "RewriteHouseModel" ({ cls := "RewriteHouseModel", name := "reduce", desc := "(I)I" } : Jvm.MethodName) ({ cls := "RewriteHouseModel", name := "reduce", desc := "(I)I" } : Jvm.MethodName)) ∈ lw_all := lw_g (lw_at lw_m13 36 rfl) rfl
theorem q3256 : (Jvm.Cond.codeWith ({ cls := "RewriteHouseModel", name := "reduce", desc := "(I)I" } : Jvm.MethodName) prog_4_method_158_code (3 : Nat) (Option.some Jvm.ClassFile.FieldType.int) [((32 : Nat), (57 : Nat), (58 : Nat), (12 : Nat))]) ∈ lw_all := lw_g (lw_at lw_m13 37 rfl) rfl
theorem q3257 : (Jvm.Cond.methodLink "RewriteHouseModel" (988 : Nat) ({ cls := "RewriteHouseModel", name := "reduced", desc := "(LRewriteHouseModel;II)I" } : Jvm.MethodName)) ∈ lw_all := lw_g (lw_at lw_m13 38 rfl) rfl
theorem q3258 : (Jvm.Cond.static ({ cls := "RewriteHouseModel", name := "reduced", desc := "(LRewriteHouseModel;II)I" } : Jvm.MethodName)) ∈ lw_all := lw_g (lw_at lw_m13 39 rfl) rfl
theorem q3259 : (Jvm.Cond.code ({ cls := "RewriteHouseModel", name := "reduced", desc := "(LRewriteHouseModel;II)I" } : Jvm.MethodName) prog_4_method_136_code (8 : Nat) (Option.some Jvm.ClassFile.FieldType.int)) ∈ lw_all := lw_g (lw_at lw_m13 40 rfl) rfl
theorem q3260 : (Jvm.Cond.methodLink "RewriteHouseModel" (976 : Nat) ({ cls := "RewriteHouseModel", name := "memo", desc := "(I)I" } : Jvm.MethodName)) ∈ lw_all := lw_g (lw_at lw_m13 41 rfl) rfl
theorem q3261 : (Jvm.Cond.privateMethod ({ cls := "RewriteHouseModel", name := "memo", desc := "(I)I" } : Jvm.MethodName)) ∈ lw_tbl := lw_at lw_m13 42 rfl
theorem q3262 : (Jvm.Cond.instanceMethod ({ cls := "RewriteHouseModel", name := "memo", desc := "(I)I" } : Jvm.MethodName)) ∈ lw_all := lw_g (lw_at lw_m13 43 rfl) rfl
theorem q3263 : (Jvm.Cond.code ({ cls := "RewriteHouseModel", name := "memo", desc := "(I)I" } : Jvm.MethodName) prog_4_method_134_code (2 : Nat) (Option.some Jvm.ClassFile.FieldType.int)) ∈ lw_all := lw_g (lw_at lw_m13 44 rfl) rfl
theorem q3264 : (Jvm.Cond.methodLink "RewriteHouseModel" (979 : Nat) ({ cls := "RewriteHouseModel", name := "reduceRow", desc := "(LRewriteHouseModel;II)I" } : Jvm.MethodName)) ∈ lw_all := lw_g (lw_at lw_m13 45 rfl) rfl
theorem q3265 : (Jvm.Cond.static ({ cls := "RewriteHouseModel", name := "reduceRow", desc := "(LRewriteHouseModel;II)I" } : Jvm.MethodName)) ∈ lw_all := lw_g (lw_at lw_m13 46 rfl) rfl
theorem q3266 : (Jvm.Cond.code ({ cls := "RewriteHouseModel", name := "reduceRow", desc := "(LRewriteHouseModel;II)I" } : Jvm.MethodName) prog_4_method_137_code (6 : Nat) (Option.some Jvm.ClassFile.FieldType.int)) ∈ lw_all := lw_g (lw_at lw_m13 47 rfl) rfl
theorem q3267 : (Jvm.Cond.methodLink "RewriteHouseModel" (982 : Nat) ({ cls := "RewriteHouseModel", name := "byEquation", desc := "(LRewriteHouseModel;II)I" } : Jvm.MethodName)) ∈ lw_all := lw_g (lw_at lw_m13 48 rfl) rfl
theorem q3268 : (Jvm.Cond.static ({ cls := "RewriteHouseModel", name := "byEquation", desc := "(LRewriteHouseModel;II)I" } : Jvm.MethodName)) ∈ lw_all := lw_g (lw_at lw_m13 49 rfl) rfl
theorem q3269 : (Jvm.Cond.code ({ cls := "RewriteHouseModel", name := "byEquation", desc := "(LRewriteHouseModel;II)I" } : Jvm.MethodName) prog_4_method_138_code (12 : Nat) (Option.some Jvm.ClassFile.FieldType.int)) ∈ lw_all := lw_g (lw_at lw_m13 50 rfl) rfl
theorem q3270 : (Jvm.Cond.methodLink "RewriteHouseModel" (995 : Nat) ({ cls := "RewriteHouseModel", name := "holds", desc := "(LRewriteHouseModel;IIII)I" } : Jvm.MethodName)) ∈ lw_all := lw_g (lw_at lw_m13 51 rfl) rfl
theorem q3271 : (Jvm.Cond.static ({ cls := "RewriteHouseModel", name := "holds", desc := "(LRewriteHouseModel;IIII)I" } : Jvm.MethodName)) ∈ lw_all := lw_g (lw_at lw_m13 52 rfl) rfl
theorem q3272 : (Jvm.Cond.code ({ cls := "RewriteHouseModel", name := "holds", desc := "(LRewriteHouseModel;IIII)I" } : Jvm.MethodName) prog_4_method_141_code (11 : Nat) (Option.some Jvm.ClassFile.FieldType.int)) ∈ lw_all := lw_g (lw_at lw_m13 53 rfl) rfl
theorem q3273 : (Jvm.Cond.methodLink "RewriteHouseModel" (1013 : Nat) ({ cls := "RewriteHouseModel", name := "holdsPart", desc := "(III)Z" } : Jvm.MethodName)) ∈ lw_all := lw_g (lw_at lw_m13 54 rfl) rfl
theorem q3274 : (Jvm.Cond.privateMethod ({ cls := "RewriteHouseModel", name := "holdsPart", desc := "(III)Z" } : Jvm.MethodName)) ∈ lw_tbl := lw_at lw_m13 55 rfl
theorem q3275 : (Jvm.Cond.instanceMethod ({ cls := "RewriteHouseModel", name := "holdsPart", desc := "(III)Z" } : Jvm.MethodName)) ∈ lw_all := lw_g (lw_at lw_m13 56 rfl) rfl
theorem q3276 : (Jvm.Cond.code ({ cls := "RewriteHouseModel", name := "holdsPart", desc := "(III)Z" } : Jvm.MethodName) prog_4_method_140_code (5 : Nat) (Option.some Jvm.ClassFile.FieldType.boolean)) ∈ lw_all := lw_g (lw_at lw_m13 57 rfl) rfl
theorem q3277 : (Jvm.Cond.methodLink "RewriteHouseModel" (998 : Nat) ({ cls := "RewriteHouseModel", name := "fill", desc := "(I)V" } : Jvm.MethodName)) ∈ lw_all := lw_g (lw_at lw_m13 58 rfl) rfl
theorem q3278 : (Jvm.Cond.privateMethod ({ cls := "RewriteHouseModel", name := "fill", desc := "(I)V" } : Jvm.MethodName)) ∈ lw_tbl := lw_at lw_m13 59 rfl
theorem q3279 : (Jvm.Cond.instanceMethod ({ cls := "RewriteHouseModel", name := "fill", desc := "(I)V" } : Jvm.MethodName)) ∈ lw_all := lw_g (lw_at lw_m13 60 rfl) rfl
theorem q3280 : (Jvm.Cond.code ({ cls := "RewriteHouseModel", name := "fill", desc := "(I)V" } : Jvm.MethodName) prog_4_method_129_code (2 : Nat) (Option.none : Option Jvm.ClassFile.FieldType)) ∈ lw_all := lw_g (lw_at lw_m13 61 rfl) rfl
theorem q3281 : (Jvm.Cond.methodLink "RewriteHouseModel" (1010 : Nat) ({ cls := "RewriteHouseModel", name := "reducedPart", desc := "(III)I" } : Jvm.MethodName)) ∈ lw_all := lw_g (lw_at lw_m13 62 rfl) rfl
theorem q3282 : (Jvm.Cond.privateMethod ({ cls := "RewriteHouseModel", name := "reducedPart", desc := "(III)I" } : Jvm.MethodName)) ∈ lw_tbl := lw_at lw_m13 63 rfl
theorem q3283 : (Jvm.Cond.instanceMethod ({ cls := "RewriteHouseModel", name := "reducedPart", desc := "(III)I" } : Jvm.MethodName)) ∈ lw_all := lw_g (lw_at lw_m13 64 rfl) rfl
theorem q3284 : (Jvm.Cond.code ({ cls := "RewriteHouseModel", name := "reducedPart", desc := "(III)I" } : Jvm.MethodName) prog_4_method_139_code (4 : Nat) (Option.some Jvm.ClassFile.FieldType.int)) ∈ lw_all := lw_g (lw_at lw_m13 65 rfl) rfl
theorem q3285 : (Jvm.Cond.methodLink "RewriteHouseModel" (1001 : Nat) ({ cls := "RewriteHouseModel", name := "putIn", desc := "(II)I" } : Jvm.MethodName)) ∈ lw_all := lw_g (lw_at lw_m13 66 rfl) rfl
theorem q3286 : (Jvm.Cond.privateMethod ({ cls := "RewriteHouseModel", name := "putIn", desc := "(II)I" } : Jvm.MethodName)) ∈ lw_tbl := lw_at lw_m13 67 rfl
theorem q3287 : (Jvm.Cond.instanceMethod ({ cls := "RewriteHouseModel", name := "putIn", desc := "(II)I" } : Jvm.MethodName)) ∈ lw_all := lw_g (lw_at lw_m13 68 rfl) rfl
theorem q3288 : (Jvm.Cond.code ({ cls := "RewriteHouseModel", name := "putIn", desc := "(II)I" } : Jvm.MethodName) prog_4_method_131_code (4 : Nat) (Option.some Jvm.ClassFile.FieldType.int)) ∈ lw_all := lw_g (lw_at lw_m13 69 rfl) rfl
theorem q3289 : (Jvm.Cond.methodLink "RewriteHouseModel" (967 : Nat) ({ cls := "RewriteHouseModel", name := "put", desc := "(LRewriteHouseModel;II)I" } : Jvm.MethodName)) ∈ lw_all := lw_g (lw_at lw_m13 70 rfl) rfl
theorem q3290 : (Jvm.Cond.static ({ cls := "RewriteHouseModel", name := "put", desc := "(LRewriteHouseModel;II)I" } : Jvm.MethodName)) ∈ lw_all := lw_g (lw_at lw_m13 71 rfl) rfl
theorem q3291 : (Jvm.Cond.code ({ cls := "RewriteHouseModel", name := "put", desc := "(LRewriteHouseModel;II)I" } : Jvm.MethodName) prog_4_method_130_code (6 : Nat) (Option.some Jvm.ClassFile.FieldType.int)) ∈ lw_all := lw_g (lw_at lw_m13 72 rfl) rfl
theorem q3292 : (Jvm.Cond.methodLink "RewriteHouseModel" (1004 : Nat) ({ cls := "RewriteHouseModel", name := "beside", desc := "(III)I" } : Jvm.MethodName)) ∈ lw_all := lw_g (lw_at lw_m13 73 rfl) rfl
theorem q3293 : (Jvm.Cond.privateMethod ({ cls := "RewriteHouseModel", name := "beside", desc := "(III)I" } : Jvm.MethodName)) ∈ lw_tbl := lw_at lw_m13 74 rfl
theorem q3294 : (Jvm.Cond.instanceMethod ({ cls := "RewriteHouseModel", name := "beside", desc := "(III)I" } : Jvm.MethodName)) ∈ lw_all := lw_g (lw_at lw_m13 75 rfl) rfl
theorem q3295 : (Jvm.Cond.code ({ cls := "RewriteHouseModel", name := "beside", desc := "(III)I" } : Jvm.MethodName) prog_4_method_132_code (8 : Nat) (Option.some Jvm.ClassFile.FieldType.int)) ∈ lw_all := lw_g (lw_at lw_m13 76 rfl) rfl
theorem q3296 : (Jvm.Cond.methodLink "RewriteHouseModel" (1007 : Nat) ({ cls := "RewriteHouseModel", name := "oneStep", desc := "()V" } : Jvm.MethodName)) ∈ lw_all := lw_g (lw_at lw_m13 77 rfl) rfl
theorem q3297 : (Jvm.Cond.privateMethod ({ cls := "RewriteHouseModel", name := "oneStep", desc := "()V" } : Jvm.MethodName)) ∈ lw_tbl := lw_at lw_m13 78 rfl
theorem q3298 : (Jvm.Cond.instanceMethod ({ cls := "RewriteHouseModel", name := "oneStep", desc := "()V" } : Jvm.MethodName)) ∈ lw_all := lw_g (lw_at lw_m13 79 rfl) rfl
theorem q3299 : (Jvm.Cond.code ({ cls := "RewriteHouseModel", name := "oneStep", desc := "()V" } : Jvm.MethodName) prog_4_method_133_code (1 : Nat) (Option.none : Option Jvm.ClassFile.FieldType)) ∈ lw_all := lw_g (lw_at lw_m13 80 rfl) rfl
theorem q3300 : (Jvm.Cond.methodLink "RewriteHouseModel" (985 : Nat) ({ cls := "RewriteHouseModel", name := "remember", desc := "(II)V" } : Jvm.MethodName)) ∈ lw_all := lw_g (lw_at lw_m13 81 rfl) rfl
theorem q3301 : (Jvm.Cond.privateMethod ({ cls := "RewriteHouseModel", name := "remember", desc := "(II)V" } : Jvm.MethodName)) ∈ lw_tbl := lw_at lw_m13 82 rfl
theorem q3302 : (Jvm.Cond.instanceMethod ({ cls := "RewriteHouseModel", name := "remember", desc := "(II)V" } : Jvm.MethodName)) ∈ lw_all := lw_g (lw_at lw_m13 83 rfl) rfl
theorem q3303 : (Jvm.Cond.code ({ cls := "RewriteHouseModel", name := "remember", desc := "(II)V" } : Jvm.MethodName) prog_4_method_135_code (3 : Nat) (Option.none : Option Jvm.ClassFile.FieldType)) ∈ lw_all := lw_g (lw_at lw_m13 84 rfl) rfl
theorem q3305 : (Jvm.Cond.instanceMethod ({ cls := "RewriteHouseModel", name := "steps", desc := "(I)I" } : Jvm.MethodName)) ∈ lw_all := lw_g (lw_at lw_m13 86 rfl) rfl
theorem q3306 : (Jvm.Cond.selects "RewriteHouseModel" ({ cls := "RewriteHouseModel", name := "steps", desc := "(I)I" } : Jvm.MethodName) ({ cls := "RewriteHouseModel", name := "steps", desc := "(I)I" } : Jvm.MethodName)) ∈ lw_all := lw_g (lw_at lw_m13 87 rfl) rfl
theorem q3307 : (Jvm.Cond.codeWith ({ cls := "RewriteHouseModel", name := "steps", desc := "(I)I" } : Jvm.MethodName) prog_4_method_159_code (5 : Nat) (Option.some Jvm.ClassFile.FieldType.int) [((19 : Nat), (101 : Nat), (102 : Nat), (12 : Nat))]) ∈ lw_all := lw_g (lw_at lw_m13 88 rfl) rfl
theorem q3308 : (Jvm.Cond.methodLink "RewriteHouseModel" (1080 : Nat) ({ cls := "RewriteHouseModel", name := "listSteps", desc := "(II)I" } : Jvm.MethodName)) ∈ lw_all := lw_g (lw_at lw_m13 89 rfl) rfl
theorem q3309 : (Jvm.Cond.privateMethod ({ cls := "RewriteHouseModel", name := "listSteps", desc := "(II)I" } : Jvm.MethodName)) ∈ lw_tbl := lw_at lw_m13 90 rfl
theorem q3310 : (Jvm.Cond.instanceMethod ({ cls := "RewriteHouseModel", name := "listSteps", desc := "(II)I" } : Jvm.MethodName)) ∈ lw_all := lw_g (lw_at lw_m13 91 rfl) rfl
theorem q3311 : (Jvm.Cond.code ({ cls := "RewriteHouseModel", name := "listSteps", desc := "(II)I" } : Jvm.MethodName) prog_4_method_142_code (4 : Nat) (Option.some Jvm.ClassFile.FieldType.int)) ∈ lw_all := lw_g (lw_at lw_m13 92 rfl) rfl
theorem q3312 : (Jvm.Cond.methodLink "RewriteHouseModel" (1022 : Nat) ({ cls := "RewriteHouseModel", name := "stepAt", desc := "(LRewriteHouseModel;IIII)V" } : Jvm.MethodName)) ∈ lw_all := lw_g (lw_at lw_m13 93 rfl) rfl
theorem q3313 : (Jvm.Cond.static ({ cls := "RewriteHouseModel", name := "stepAt", desc := "(LRewriteHouseModel;IIII)V" } : Jvm.MethodName)) ∈ lw_all := lw_g (lw_at lw_m13 94 rfl) rfl
theorem q3314 : (Jvm.Cond.code ({ cls := "RewriteHouseModel", name := "stepAt", desc := "(LRewriteHouseModel;IIII)V" } : Jvm.MethodName) prog_4_method_143_code (7 : Nat) (Option.none : Option Jvm.ClassFile.FieldType)) ∈ lw_all := lw_g (lw_at lw_m13 95 rfl) rfl
theorem q3315 : (Jvm.Cond.methodLink "RewriteHouseModel" (1026 : Nat) ({ cls := "RewriteHouseModel", name := "stepBy", desc := "(LRewriteHouseModel;IIIII)V" } : Jvm.MethodName)) ∈ lw_all := lw_g (lw_at lw_m13 96 rfl) rfl
theorem q3316 : (Jvm.Cond.static ({ cls := "RewriteHouseModel", name := "stepBy", desc := "(LRewriteHouseModel;IIIII)V" } : Jvm.MethodName)) ∈ lw_all := lw_g (lw_at lw_m13 97 rfl) rfl
theorem q3317 : (Jvm.Cond.code ({ cls := "RewriteHouseModel", name := "stepBy", desc := "(LRewriteHouseModel;IIIII)V" } : Jvm.MethodName) prog_4_method_144_code (10 : Nat) (Option.none : Option Jvm.ClassFile.FieldType)) ∈ lw_all := lw_g (lw_at lw_m13 98 rfl) rfl
theorem q3318 : (Jvm.Cond.methodLink "RewriteHouseModel" (1030 : Nat) ({ cls := "RewriteHouseModel", name := "allWays", desc := "(LRewriteHouseModel;IIIIIII)V" } : Jvm.MethodName)) ∈ lw_all := lw_g (lw_at lw_m13 99 rfl) rfl
theorem q3319 : (Jvm.Cond.static ({ cls := "RewriteHouseModel", name := "allWays", desc := "(LRewriteHouseModel;IIIIIII)V" } : Jvm.MethodName)) ∈ lw_all := lw_g (lw_at lw_m13 100 rfl) rfl
theorem q3320 : (Jvm.Cond.code ({ cls := "RewriteHouseModel", name := "allWays", desc := "(LRewriteHouseModel;IIIIIII)V" } : Jvm.MethodName) prog_4_method_145_code (14 : Nat) (Option.none : Option Jvm.ClassFile.FieldType)) ∈ lw_all := lw_g (lw_at lw_m13 101 rfl) rfl
theorem q3321 : (Jvm.Cond.methodLink "RewriteHouseModel" (1034 : Nat) ({ cls := "RewriteHouseModel", name := "addStep", desc := "(IIII)V" } : Jvm.MethodName)) ∈ lw_all := lw_g (lw_at lw_m13 102 rfl) rfl
theorem q3322 : (Jvm.Cond.privateMethod ({ cls := "RewriteHouseModel", name := "addStep", desc := "(IIII)V" } : Jvm.MethodName)) ∈ lw_tbl := lw_at lw_m13 103 rfl
theorem q3323 : (Jvm.Cond.instanceMethod ({ cls := "RewriteHouseModel", name := "addStep", desc := "(IIII)V" } : Jvm.MethodName)) ∈ lw_all := lw_g (lw_at lw_m13 104 rfl) rfl
theorem q3324 : (Jvm.Cond.code ({ cls := "RewriteHouseModel", name := "addStep", desc := "(IIII)V" } : Jvm.MethodName) prog_4_method_147_code (7 : Nat) (Option.none : Option Jvm.ClassFile.FieldType)) ∈ lw_all := lw_g (lw_at lw_m13 105 rfl) rfl
theorem q3325 : (Jvm.Cond.methodLink "RewriteHouseModel" (1038 : Nat) ({ cls := "RewriteHouseModel", name := "replaced", desc := "(II)I" } : Jvm.MethodName)) ∈ lw_all := lw_g (lw_at lw_m13 106 rfl) rfl
theorem q3326 : (Jvm.Cond.privateMethod ({ cls := "RewriteHouseModel", name := "replaced", desc := "(II)I" } : Jvm.MethodName)) ∈ lw_tbl := lw_at lw_m13 107 rfl
theorem q3327 : (Jvm.Cond.instanceMethod ({ cls := "RewriteHouseModel", name := "replaced", desc := "(II)I" } : Jvm.MethodName)) ∈ lw_all := lw_g (lw_at lw_m13 108 rfl) rfl
theorem q3328 : (Jvm.Cond.code ({ cls := "RewriteHouseModel", name := "replaced", desc := "(II)I" } : Jvm.MethodName) prog_4_method_146_code (7 : Nat) (Option.some Jvm.ClassFile.FieldType.int)) ∈ lw_all := lw_g (lw_at lw_m13 109 rfl) rfl
theorem q3329 : (Jvm.Cond.methodLink "RewriteHouseModel" (1041 : Nat) ({ cls := "RewriteHouseModel", name := "addTerm", desc := "(III)V" } : Jvm.MethodName)) ∈ lw_all := lw_g (lw_at lw_m13 110 rfl) rfl
theorem q3330 : (Jvm.Cond.privateMethod ({ cls := "RewriteHouseModel", name := "addTerm", desc := "(III)V" } : Jvm.MethodName)) ∈ lw_tbl := lw_at lw_m13 111 rfl
theorem q3331 : (Jvm.Cond.instanceMethod ({ cls := "RewriteHouseModel", name := "addTerm", desc := "(III)V" } : Jvm.MethodName)) ∈ lw_all := lw_g (lw_at lw_m13 112 rfl) rfl
theorem q3332 : (Jvm.Cond.code ({ cls := "RewriteHouseModel", name := "addTerm", desc := "(III)V" } : Jvm.MethodName) prog_4_method_148_code (5 : Nat) (Option.none : Option Jvm.ClassFile.FieldType)) ∈ lw_all := lw_g (lw_at lw_m13 113 rfl) rfl
theorem q3334 : (Jvm.Cond.instanceMethod ({ cls := "RewriteHouseModel", name := "result", desc := "(I)I" } : Jvm.MethodName)) ∈ lw_all := lw_g (lw_at lw_m13 115 rfl) rfl
theorem q3335 : (Jvm.Cond.selects "RewriteHouseModel" ({ cls := "RewriteHouseModel", name := "result", desc := "(I)I" } : Jvm.MethodName) ({ cls := "RewriteHouseModel", name := "result", desc := "(I)I" } : Jvm.MethodName)) ∈ lw_all := lw_g (lw_at lw_m13 116 rfl) rfl
theorem q3336 : (Jvm.Cond.code ({ cls := "RewriteHouseModel", name := "result", desc := "(I)I" } : Jvm.MethodName) prog_4_method_160_code (2 : Nat) (Option.some Jvm.ClassFile.FieldType.int)) ∈ lw_all := lw_g (lw_at lw_m13 117 rfl) rfl
theorem q3338 : (Jvm.Cond.instanceMethod ({ cls := "RewriteHouseModel", name := "way", desc := "(II)I" } : Jvm.MethodName)) ∈ lw_all := lw_g (lw_at lw_m13 119 rfl) rfl
theorem q3339 : (Jvm.Cond.selects "RewriteHouseModel" ({ cls := "RewriteHouseModel", name := "way", desc := "(II)I" } : Jvm.MethodName) ({ cls := "RewriteHouseModel", name := "way", desc := "(II)I" } : Jvm.MethodName)) ∈ lw_all := lw_g (lw_at lw_m13 120 rfl) rfl
theorem q3340 : (Jvm.Cond.code ({ cls := "RewriteHouseModel", name := "way", desc := "(II)I" } : Jvm.MethodName) prog_4_method_161_code (3 : Nat) (Option.some Jvm.ClassFile.FieldType.int)) ∈ lw_all := lw_g (lw_at lw_m13 121 rfl) rfl
theorem q3342 : (Jvm.Cond.instanceMethod ({ cls := "RewriteHouseModel", name := "states", desc := "(I)I" } : Jvm.MethodName)) ∈ lw_all := lw_g (lw_at lw_m13 123 rfl) rfl
theorem q3343 : (Jvm.Cond.selects "RewriteHouseModel" ({ cls := "RewriteHouseModel", name := "states", desc := "(I)I" } : Jvm.MethodName) ({ cls := "RewriteHouseModel", name := "states", desc := "(I)I" } : Jvm.MethodName)) ∈ lw_all := lw_g (lw_at lw_m13 124 rfl) rfl
theorem q3344 : (Jvm.Cond.codeWith ({ cls := "RewriteHouseModel", name := "states", desc := "(I)I" } : Jvm.MethodName) prog_4_method_162_code (8 : Nat) (Option.some Jvm.ClassFile.FieldType.int) [((19 : Nat), (382 : Nat), (383 : Nat), (12 : Nat))]) ∈ lw_all := lw_g (lw_at lw_m13 125 rfl) rfl
theorem q3346 : (Jvm.Cond.instanceMethod ({ cls := "RewriteHouseModel", name := "search", desc := "(II)I" } : Jvm.MethodName)) ∈ lw_all := lw_g (lw_at lw_m13 127 rfl) rfl
theorem q3347 : (Jvm.Cond.selects "RewriteHouseModel" ({ cls := "RewriteHouseModel", name := "search", desc := "(II)I" } : Jvm.MethodName) ({ cls := "RewriteHouseModel", name := "search", desc := "(II)I" } : Jvm.MethodName)) ∈ lw_all := lw_g (lw_at lw_m13 128 rfl) rfl
theorem q3348 : (Jvm.Cond.codeWith ({ cls := "RewriteHouseModel", name := "search", desc := "(II)I" } : Jvm.MethodName) prog_4_method_164_code (4 : Nat) (Option.some Jvm.ClassFile.FieldType.int) [((43 : Nat), (73 : Nat), (83 : Nat), (12 : Nat)), ((74 : Nat), (82 : Nat), (83 : Nat), (12 : Nat))]) ∈ lw_all := lw_g (lw_at lw_m13 129 rfl) rfl
theorem q3349 : (Jvm.Cond.methodLink "RewriteHouseModel" (1083 : Nat) ({ cls := "RewriteHouseModel", name := "isPattern", desc := "(II)Z" } : Jvm.MethodName)) ∈ lw_all := lw_g (lw_at lw_m13 130 rfl) rfl
theorem q3350 : (Jvm.Cond.privateMethod ({ cls := "RewriteHouseModel", name := "isPattern", desc := "(II)Z" } : Jvm.MethodName)) ∈ lw_tbl := lw_at lw_m13 131 rfl
theorem q3351 : (Jvm.Cond.instanceMethod ({ cls := "RewriteHouseModel", name := "isPattern", desc := "(II)Z" } : Jvm.MethodName)) ∈ lw_all := lw_g (lw_at lw_m13 132 rfl) rfl
theorem q3352 : (Jvm.Cond.code ({ cls := "RewriteHouseModel", name := "isPattern", desc := "(II)Z" } : Jvm.MethodName) prog_4_method_163_code (5 : Nat) (Option.some Jvm.ClassFile.FieldType.boolean)) ∈ lw_all := lw_g (lw_at lw_m13 133 rfl) rfl
theorem q3354 : (Jvm.Cond.instanceMethod ({ cls := "RewriteHouseModel", name := "law", desc := "(III)I" } : Jvm.MethodName)) ∈ lw_all := lw_g (lw_at lw_m13 135 rfl) rfl
theorem q3355 : (Jvm.Cond.selects "RewriteHouseModel" ({ cls := "RewriteHouseModel", name := "law", desc := "(III)I" } : Jvm.MethodName) ({ cls := "RewriteHouseModel", name := "law", desc := "(III)I" } : Jvm.MethodName)) ∈ lw_all := lw_g (lw_at lw_m13 136 rfl) rfl
theorem q3356 : (Jvm.Cond.codeWith ({ cls := "RewriteHouseModel", name := "law", desc := "(III)I" } : Jvm.MethodName) prog_4_method_166_code (6 : Nat) (Option.some Jvm.ClassFile.FieldType.int) [((52 : Nat), (141 : Nat), (144 : Nat), (12 : Nat))]) ∈ lw_all := lw_g (lw_at lw_m13 137 rfl) rfl
theorem q3357 : (Jvm.Cond.constantLong "RewriteHouseModel" (1086 : Nat) (3 : Int64)) ∈ lw_all := lw_g (lw_at lw_m13 138 rfl) rfl
theorem q3358 : (Jvm.Cond.methodLink "RewriteHouseModel" (1088 : Nat) ({ cls := "RewriteHouseModel", name := "findRows", desc := "([Z)V" } : Jvm.MethodName)) ∈ lw_all := lw_g (lw_at lw_m13 139 rfl) rfl
theorem q3359 : (Jvm.Cond.privateMethod ({ cls := "RewriteHouseModel", name := "findRows", desc := "([Z)V" } : Jvm.MethodName)) ∈ lw_tbl := lw_at lw_m13 140 rfl
theorem q3360 : (Jvm.Cond.instanceMethod ({ cls := "RewriteHouseModel", name := "findRows", desc := "([Z)V" } : Jvm.MethodName)) ∈ lw_all := lw_g (lw_at lw_m13 141 rfl) rfl
theorem q3361 : (Jvm.Cond.code ({ cls := "RewriteHouseModel", name := "findRows", desc := "([Z)V" } : Jvm.MethodName) prog_4_method_165_code (6 : Nat) (Option.none : Option Jvm.ClassFile.FieldType)) ∈ lw_all := lw_g (lw_at lw_m13 142 rfl) rfl
theorem q3363 : (Jvm.Cond.instanceMethod ({ cls := "RewriteHouseModel", name := "strategy", desc := "(I)I" } : Jvm.MethodName)) ∈ lw_all := lw_g (lw_at lw_m13 144 rfl) rfl
theorem q3364 : (Jvm.Cond.selects "RewriteHouseModel" ({ cls := "RewriteHouseModel", name := "strategy", desc := "(I)I" } : Jvm.MethodName) ({ cls := "RewriteHouseModel", name := "strategy", desc := "(I)I" } : Jvm.MethodName)) ∈ lw_all := lw_g (lw_at lw_m13 145 rfl) rfl
theorem q3365 : (Jvm.Cond.codeWith ({ cls := "RewriteHouseModel", name := "strategy", desc := "(I)I" } : Jvm.MethodName) prog_4_method_176_code (6 : Nat) (Option.some Jvm.ClassFile.FieldType.int) [((30 : Nat), (57 : Nat), (60 : Nat), (12 : Nat)), ((70 : Nat), (141 : Nat), (142 : Nat), (12 : Nat))]) ∈ lw_all := lw_g (lw_at lw_m13 146 rfl) rfl
theorem q3366 : (Jvm.Cond.methodLink "RewriteHouseModel" (1118 : Nat) ({ cls := "RewriteHouseModel", name := "readOr", desc := "(LRewriteHouseModel;)I" } : Jvm.MethodName)) ∈ lw_all := lw_g (lw_at lw_m13 147 rfl) rfl
theorem q3367 : (Jvm.Cond.static ({ cls := "RewriteHouseModel", name := "readOr", desc := "(LRewriteHouseModel;)I" } : Jvm.MethodName)) ∈ lw_all := lw_g (lw_at lw_m13 148 rfl) rfl
theorem q3368 : (Jvm.Cond.code ({ cls := "RewriteHouseModel", name := "readOr", desc := "(LRewriteHouseModel;)I" } : Jvm.MethodName) prog_4_method_168_code (2 : Nat) (Option.some Jvm.ClassFile.FieldType.int)) ∈ lw_all := lw_g (lw_at lw_m13 149 rfl) rfl
theorem q3369 : (Jvm.Cond.methodLink "RewriteHouseModel" (1095 : Nat) ({ cls := "RewriteHouseModel", name := "readThen", desc := "(LRewriteHouseModel;)I" } : Jvm.MethodName)) ∈ lw_all := lw_g (lw_at lw_m13 150 rfl) rfl
theorem q3370 : (Jvm.Cond.static ({ cls := "RewriteHouseModel", name := "readThen", desc := "(LRewriteHouseModel;)I" } : Jvm.MethodName)) ∈ lw_all := lw_g (lw_at lw_m13 151 rfl) rfl
theorem q3371 : (Jvm.Cond.code ({ cls := "RewriteHouseModel", name := "readThen", desc := "(LRewriteHouseModel;)I" } : Jvm.MethodName) prog_4_method_169_code (2 : Nat) (Option.some Jvm.ClassFile.FieldType.int)) ∈ lw_all := lw_g (lw_at lw_m13 152 rfl) rfl
theorem q3372 : (Jvm.Cond.methodLink "RewriteHouseModel" (1104 : Nat) ({ cls := "RewriteHouseModel", name := "readMany", desc := "(LRewriteHouseModel;)I" } : Jvm.MethodName)) ∈ lw_all := lw_g (lw_at lw_m13 153 rfl) rfl
theorem q3373 : (Jvm.Cond.static ({ cls := "RewriteHouseModel", name := "readMany", desc := "(LRewriteHouseModel;)I" } : Jvm.MethodName)) ∈ lw_all := lw_g (lw_at lw_m13 154 rfl) rfl
theorem q3374 : (Jvm.Cond.code ({ cls := "RewriteHouseModel", name := "readMany", desc := "(LRewriteHouseModel;)I" } : Jvm.MethodName) prog_4_method_170_code (2 : Nat) (Option.some Jvm.ClassFile.FieldType.int)) ∈ lw_all := lw_g (lw_at lw_m13 155 rfl) rfl
theorem q3375 : (Jvm.Cond.methodLink "RewriteHouseModel" (1109 : Nat) ({ cls := "RewriteHouseModel", name := "readOne", desc := "(LRewriteHouseModel;)I" } : Jvm.MethodName)) ∈ lw_all := lw_g (lw_at lw_m13 156 rfl) rfl
theorem q3376 : (Jvm.Cond.static ({ cls := "RewriteHouseModel", name := "readOne", desc := "(LRewriteHouseModel;)I" } : Jvm.MethodName)) ∈ lw_all := lw_g (lw_at lw_m13 157 rfl) rfl
theorem q3377 : (Jvm.Cond.code ({ cls := "RewriteHouseModel", name := "readOne", desc := "(LRewriteHouseModel;)I" } : Jvm.MethodName) prog_4_method_171_code (4 : Nat) (Option.some Jvm.ClassFile.FieldType.int)) ∈ lw_all := lw_g (lw_at lw_m13 158 rfl) rfl
theorem q3378 : (Jvm.Cond.stringRef "RewriteHouseModel" (1116 : Nat) "(") ∈ lw_tbl := lw_at lw_m13 159 rfl
theorem q3379 : (Jvm.Cond.stringRef "RewriteHouseModel" (1121 : Nat) ")") ∈ lw_tbl := lw_at lw_m13 160 rfl
theorem q3380 : (Jvm.Cond.stringRef "RewriteHouseModel" (1123 : Nat) "not") ∈ lw_tbl := lw_at lw_m13 161 rfl
theorem q3381 : (Jvm.Cond.stringRef "RewriteHouseModel" (1125 : Nat) "one") ∈ lw_tbl := lw_at lw_m13 162 rfl
theorem q3382 : (Jvm.Cond.methodLink "RewriteHouseModel" (1101 : Nat) ({ cls := "RewriteHouseModel", name := "plan", desc := "(III)I" } : Jvm.MethodName)) ∈ lw_all := lw_g (lw_at lw_m13 163 rfl) rfl
theorem q3383 : (Jvm.Cond.privateMethod ({ cls := "RewriteHouseModel", name := "plan", desc := "(III)I" } : Jvm.MethodName)) ∈ lw_tbl := lw_at lw_m13 164 rfl
theorem q3384 : (Jvm.Cond.instanceMethod ({ cls := "RewriteHouseModel", name := "plan", desc := "(III)I" } : Jvm.MethodName)) ∈ lw_all := lw_g (lw_at lw_m13 165 rfl) rfl
theorem q3385 : (Jvm.Cond.code ({ cls := "RewriteHouseModel", name := "plan", desc := "(III)I" } : Jvm.MethodName) prog_4_method_167_code (4 : Nat) (Option.some Jvm.ClassFile.FieldType.int)) ∈ lw_all := lw_g (lw_at lw_m13 166 rfl) rfl
theorem q3386 : (Jvm.Cond.stringRef "RewriteHouseModel" (1127 : Nat) "idle") ∈ lw_tbl := lw_at lw_m13 167 rfl
theorem q3387 : (Jvm.Cond.stringRef "RewriteHouseModel" (1129 : Nat) "fail") ∈ lw_tbl := lw_at lw_m13 168 rfl
theorem q3388 : (Jvm.Cond.stringRef "RewriteHouseModel" (1130 : Nat) "all") ∈ lw_tbl := lw_at lw_m13 169 rfl
theorem q3389 : (Jvm.Cond.stringRef "RewriteHouseModel" (1112 : Nat) "*") ∈ lw_tbl := lw_at lw_m13 170 rfl
theorem q3390 : (Jvm.Cond.stringRef "RewriteHouseModel" (1114 : Nat) "!") ∈ lw_tbl := lw_at lw_m13 171 rfl
theorem q3391 : (Jvm.Cond.stringRef "RewriteHouseModel" (1107 : Nat) ";") ∈ lw_tbl := lw_at lw_m13 172 rfl
theorem q3392 : (Jvm.Cond.stringRef "RewriteHouseModel" (1099 : Nat) "|") ∈ lw_tbl := lw_at lw_m13 173 rfl
theorem q3393 : (Jvm.Cond.methodLink "RewriteHouseModel" (1132 : Nat) ({ cls := "RewriteHouseModel", name := "answers", desc := "(LRewriteHouseModel;II)I" } : Jvm.MethodName)) ∈ lw_all := lw_g (lw_at lw_m13 174 rfl) rfl
theorem q3394 : (Jvm.Cond.static ({ cls := "RewriteHouseModel", name := "answers", desc := "(LRewriteHouseModel;II)I" } : Jvm.MethodName)) ∈ lw_all := lw_g (lw_at lw_m13 175 rfl) rfl
theorem q3395 : (Jvm.Cond.code ({ cls := "RewriteHouseModel", name := "answers", desc := "(LRewriteHouseModel;II)I" } : Jvm.MethodName) prog_4_method_172_code (8 : Nat) (Option.some Jvm.ClassFile.FieldType.int)) ∈ lw_all := lw_g (lw_at lw_m13 176 rfl) rfl
theorem q3396 : (Jvm.Cond.methodLink "RewriteHouseModel" (1135 : Nat) ({ cls := "RewriteHouseModel", name := "addAll", desc := "(LRewriteHouseModel;III)I" } : Jvm.MethodName)) ∈ lw_all := lw_g (lw_at lw_m13 177 rfl) rfl
theorem q3397 : (Jvm.Cond.static ({ cls := "RewriteHouseModel", name := "addAll", desc := "(LRewriteHouseModel;III)I" } : Jvm.MethodName)) ∈ lw_all := lw_g (lw_at lw_m13 178 rfl) rfl
theorem q3398 : (Jvm.Cond.code ({ cls := "RewriteHouseModel", name := "addAll", desc := "(LRewriteHouseModel;III)I" } : Jvm.MethodName) prog_4_method_173_code (7 : Nat) (Option.some Jvm.ClassFile.FieldType.int)) ∈ lw_all := lw_g (lw_at lw_m13 179 rfl) rfl
theorem q3399 : (Jvm.Cond.methodLink "RewriteHouseModel" (1139 : Nat) ({ cls := "RewriteHouseModel", name := "thenAll", desc := "(LRewriteHouseModel;IIII)V" } : Jvm.MethodName)) ∈ lw_all := lw_g (lw_at lw_m13 180 rfl) rfl
theorem q3400 : (Jvm.Cond.static ({ cls := "RewriteHouseModel", name := "thenAll", desc := "(LRewriteHouseModel;IIII)V" } : Jvm.MethodName)) ∈ lw_all := lw_g (lw_at lw_m13 181 rfl) rfl
theorem q3401 : (Jvm.Cond.code ({ cls := "RewriteHouseModel", name := "thenAll", desc := "(LRewriteHouseModel;IIII)V" } : Jvm.MethodName) prog_4_method_174_code (9 : Nat) (Option.none : Option Jvm.ClassFile.FieldType)) ∈ lw_all := lw_g (lw_at lw_m13 182 rfl) rfl
theorem q3402 : (Jvm.Cond.methodLink "RewriteHouseModel" (1142 : Nat) ({ cls := "RewriteHouseModel", name := "ends", desc := "(LRewriteHouseModel;III)V" } : Jvm.MethodName)) ∈ lw_all := lw_g (lw_at lw_m13 183 rfl) rfl
theorem q3403 : (Jvm.Cond.static ({ cls := "RewriteHouseModel", name := "ends", desc := "(LRewriteHouseModel;III)V" } : Jvm.MethodName)) ∈ lw_all := lw_g (lw_at lw_m13 184 rfl) rfl
theorem q3404 : (Jvm.Cond.code ({ cls := "RewriteHouseModel", name := "ends", desc := "(LRewriteHouseModel;III)V" } : Jvm.MethodName) prog_4_method_175_code (7 : Nat) (Option.none : Option Jvm.ClassFile.FieldType)) ∈ lw_all := lw_g (lw_at lw_m13 185 rfl) rfl
theorem q3406 : (Jvm.Cond.instanceMethod ({ cls := "RewriteHouseModel", name := "check", desc := "(I)I" } : Jvm.MethodName)) ∈ lw_all := lw_g (lw_at lw_m13 187 rfl) rfl
theorem q3407 : (Jvm.Cond.selects "RewriteHouseModel" ({ cls := "RewriteHouseModel", name := "check", desc := "(I)I" } : Jvm.MethodName) ({ cls := "RewriteHouseModel", name := "check", desc := "(I)I" } : Jvm.MethodName)) ∈ lw_all := lw_g (lw_at lw_m13 188 rfl) rfl
theorem q3408 : (Jvm.Cond.code ({ cls := "RewriteHouseModel", name := "check", desc := "(I)I" } : Jvm.MethodName) prog_4_method_189_code (2 : Nat) (Option.some Jvm.ClassFile.FieldType.int)) ∈ lw_all := lw_g (lw_at lw_m13 189 rfl) rfl
theorem q3409 : (Jvm.Cond.methodLink "RewriteHouseModel" (1186 : Nat) ({ cls := "RewriteHouseModel", name := "isOneLeast", desc := "()Z" } : Jvm.MethodName)) ∈ lw_all := lw_g (lw_at lw_m13 190 rfl) rfl
theorem q3410 : (Jvm.Cond.privateMethod ({ cls := "RewriteHouseModel", name := "isOneLeast", desc := "()Z" } : Jvm.MethodName)) ∈ lw_tbl := lw_at lw_m13 191 rfl
theorem q3411 : (Jvm.Cond.instanceMethod ({ cls := "RewriteHouseModel", name := "isOneLeast", desc := "()Z" } : Jvm.MethodName)) ∈ lw_all := lw_g (lw_at lw_m13 192 rfl) rfl
theorem q3412 : (Jvm.Cond.code ({ cls := "RewriteHouseModel", name := "isOneLeast", desc := "()Z" } : Jvm.MethodName) prog_4_method_182_code (6 : Nat) (Option.some Jvm.ClassFile.FieldType.boolean)) ∈ lw_all := lw_g (lw_at lw_m13 193 rfl) rfl
theorem q3413 : (Jvm.Cond.methodLink "RewriteHouseModel" (1154 : Nat) ({ cls := "RewriteHouseModel", name := "firstTuple", desc := "(II)V" } : Jvm.MethodName)) ∈ lw_all := lw_g (lw_at lw_m13 194 rfl) rfl
theorem q3414 : (Jvm.Cond.privateMethod ({ cls := "RewriteHouseModel", name := "firstTuple", desc := "(II)V" } : Jvm.MethodName)) ∈ lw_tbl := lw_at lw_m13 195 rfl
theorem q3415 : (Jvm.Cond.instanceMethod ({ cls := "RewriteHouseModel", name := "firstTuple", desc := "(II)V" } : Jvm.MethodName)) ∈ lw_all := lw_g (lw_at lw_m13 196 rfl) rfl
theorem q3416 : (Jvm.Cond.code ({ cls := "RewriteHouseModel", name := "firstTuple", desc := "(II)V" } : Jvm.MethodName) prog_4_method_180_code (5 : Nat) (Option.none : Option Jvm.ClassFile.FieldType)) ∈ lw_all := lw_g (lw_at lw_m13 197 rfl) rfl
theorem q3417 : (Jvm.Cond.methodLink "RewriteHouseModel" (1145 : Nat) ({ cls := "RewriteHouseModel", name := "firstOfKind", desc := "(I)I" } : Jvm.MethodName)) ∈ lw_all := lw_g (lw_at lw_m13 198 rfl) rfl
theorem q3418 : (Jvm.Cond.privateMethod ({ cls := "RewriteHouseModel", name := "firstOfKind", desc := "(I)I" } : Jvm.MethodName)) ∈ lw_tbl := lw_at lw_m13 199 rfl
theorem q3419 : (Jvm.Cond.instanceMethod ({ cls := "RewriteHouseModel", name := "firstOfKind", desc := "(I)I" } : Jvm.MethodName)) ∈ lw_all := lw_g (lw_at lw_m13 200 rfl) rfl
theorem q3420 : (Jvm.Cond.code ({ cls := "RewriteHouseModel", name := "firstOfKind", desc := "(I)I" } : Jvm.MethodName) prog_4_method_179_code (3 : Nat) (Option.some Jvm.ClassFile.FieldType.int)) ∈ lw_all := lw_g (lw_at lw_m13 201 rfl) rfl
theorem q3421 : (Jvm.Cond.methodLink "RewriteHouseModel" (1157 : Nat) ({ cls := "RewriteHouseModel", name := "leastOf", desc := "(II)I" } : Jvm.MethodName)) ∈ lw_all := lw_g (lw_at lw_m13 202 rfl) rfl
theorem q3422 : (Jvm.Cond.privateMethod ({ cls := "RewriteHouseModel", name := "leastOf", desc := "(II)I" } : Jvm.MethodName)) ∈ lw_tbl := lw_at lw_m13 203 rfl
theorem q3423 : (Jvm.Cond.instanceMethod ({ cls := "RewriteHouseModel", name := "leastOf", desc := "(II)I" } : Jvm.MethodName)) ∈ lw_all := lw_g (lw_at lw_m13 204 rfl) rfl
theorem q3424 : (Jvm.Cond.code ({ cls := "RewriteHouseModel", name := "leastOf", desc := "(II)I" } : Jvm.MethodName) prog_4_method_177_code (7 : Nat) (Option.some Jvm.ClassFile.FieldType.int)) ∈ lw_all := lw_g (lw_at lw_m13 205 rfl) rfl
theorem q3425 : (Jvm.Cond.methodLink "RewriteHouseModel" (1160 : Nat) ({ cls := "RewriteHouseModel", name := "nextTuple", desc := "(II)Z" } : Jvm.MethodName)) ∈ lw_all := lw_g (lw_at lw_m13 206 rfl) rfl
theorem q3426 : (Jvm.Cond.privateMethod ({ cls := "RewriteHouseModel", name := "nextTuple", desc := "(II)Z" } : Jvm.MethodName)) ∈ lw_tbl := lw_at lw_m13 207 rfl
theorem q3427 : (Jvm.Cond.instanceMethod ({ cls := "RewriteHouseModel", name := "nextTuple", desc := "(II)Z" } : Jvm.MethodName)) ∈ lw_all := lw_g (lw_at lw_m13 208 rfl) rfl
theorem q3428 : (Jvm.Cond.code ({ cls := "RewriteHouseModel", name := "nextTuple", desc := "(II)Z" } : Jvm.MethodName) prog_4_method_178_code (7 : Nat) (Option.some Jvm.ClassFile.FieldType.boolean)) ∈ lw_all := lw_g (lw_at lw_m13 209 rfl) rfl
theorem q3429 : (Jvm.Cond.methodLink "RewriteHouseModel" (1163 : Nat) ({ cls := "RewriteHouseModel", name := "joined", desc := "(III)I" } : Jvm.MethodName)) ∈ lw_all := lw_g (lw_at lw_m13 210 rfl) rfl
theorem q3430 : (Jvm.Cond.privateMethod ({ cls := "RewriteHouseModel", name := "joined", desc := "(III)I" } : Jvm.MethodName)) ∈ lw_tbl := lw_at lw_m13 211 rfl
theorem q3431 : (Jvm.Cond.instanceMethod ({ cls := "RewriteHouseModel", name := "joined", desc := "(III)I" } : Jvm.MethodName)) ∈ lw_all := lw_g (lw_at lw_m13 212 rfl) rfl
theorem q3432 : (Jvm.Cond.code ({ cls := "RewriteHouseModel", name := "joined", desc := "(III)I" } : Jvm.MethodName) prog_4_method_181_code (4 : Nat) (Option.some Jvm.ClassFile.FieldType.int)) ∈ lw_all := lw_g (lw_at lw_m13 213 rfl) rfl
theorem q3433 : (Jvm.Cond.methodLink "RewriteHouseModel" (1189 : Nat) ({ cls := "RewriteHouseModel", name := "notFalling", desc := "()I" } : Jvm.MethodName)) ∈ lw_all := lw_g (lw_at lw_m13 214 rfl) rfl
theorem q3434 : (Jvm.Cond.privateMethod ({ cls := "RewriteHouseModel", name := "notFalling", desc := "()I" } : Jvm.MethodName)) ∈ lw_tbl := lw_at lw_m13 215 rfl
theorem q3435 : (Jvm.Cond.instanceMethod ({ cls := "RewriteHouseModel", name := "notFalling", desc := "()I" } : Jvm.MethodName)) ∈ lw_all := lw_g (lw_at lw_m13 216 rfl) rfl
theorem q3436 : (Jvm.Cond.code ({ cls := "RewriteHouseModel", name := "notFalling", desc := "()I" } : Jvm.MethodName) prog_4_method_188_code (6 : Nat) (Option.some Jvm.ClassFile.FieldType.int)) ∈ lw_all := lw_g (lw_at lw_m13 217 rfl) rfl
theorem q3437 : (Jvm.Cond.methodLink "RewriteHouseModel" (1174 : Nat) ({ cls := "RewriteHouseModel", name := "isAbove", desc := "(LRewriteHouseModel;II)Z" } : Jvm.MethodName)) ∈ lw_all := lw_g (lw_at lw_m13 218 rfl) rfl
theorem q3438 : (Jvm.Cond.static ({ cls := "RewriteHouseModel", name := "isAbove", desc := "(LRewriteHouseModel;II)Z" } : Jvm.MethodName)) ∈ lw_all := lw_g (lw_at lw_m13 219 rfl) rfl
theorem q3439 : (Jvm.Cond.code ({ cls := "RewriteHouseModel", name := "isAbove", desc := "(LRewriteHouseModel;II)Z" } : Jvm.MethodName) prog_4_method_183_code (5 : Nat) (Option.some Jvm.ClassFile.FieldType.boolean)) ∈ lw_all := lw_g (lw_at lw_m13 220 rfl) rfl
theorem q3440 : (Jvm.Cond.constant "RewriteHouseModel" (1166 : Nat) (40503 : Int32)) ∈ lw_all := lw_g (lw_at lw_m13 221 rfl) rfl
theorem q3441 : (Jvm.Cond.methodLink "RewriteHouseModel" (1170 : Nat) ({ cls := "RewriteHouseModel", name := "isAboveBy", desc := "(LRewriteHouseModel;II)Z" } : Jvm.MethodName)) ∈ lw_all := lw_g (lw_at lw_m13 222 rfl) rfl
theorem q3442 : (Jvm.Cond.static ({ cls := "RewriteHouseModel", name := "isAboveBy", desc := "(LRewriteHouseModel;II)Z" } : Jvm.MethodName)) ∈ lw_all := lw_g (lw_at lw_m13 223 rfl) rfl
theorem q3443 : (Jvm.Cond.code ({ cls := "RewriteHouseModel", name := "isAboveBy", desc := "(LRewriteHouseModel;II)Z" } : Jvm.MethodName) prog_4_method_184_code (5 : Nat) (Option.some Jvm.ClassFile.FieldType.boolean)) ∈ lw_all := lw_g (lw_at lw_m13 224 rfl) rfl
theorem q3444 : (Jvm.Cond.methodLink "RewriteHouseModel" (1177 : Nat) ({ cls := "RewriteHouseModel", name := "areAbove", desc := "(LRewriteHouseModel;II)Z" } : Jvm.MethodName)) ∈ lw_all := lw_g (lw_at lw_m13 225 rfl) rfl
theorem q3445 : (Jvm.Cond.static ({ cls := "RewriteHouseModel", name := "areAbove", desc := "(LRewriteHouseModel;II)Z" } : Jvm.MethodName)) ∈ lw_all := lw_g (lw_at lw_m13 226 rfl) rfl
theorem q3446 : (Jvm.Cond.code ({ cls := "RewriteHouseModel", name := "areAbove", desc := "(LRewriteHouseModel;II)Z" } : Jvm.MethodName) prog_4_method_187_code (7 : Nat) (Option.some Jvm.ClassFile.FieldType.boolean)) ∈ lw_all := lw_g (lw_at lw_m13 227 rfl) rfl
theorem q3447 : (Jvm.Cond.methodLink "RewriteHouseModel" (1183 : Nat) ({ cls := "RewriteHouseModel", name := "isLeft", desc := "(III)Z" } : Jvm.MethodName)) ∈ lw_all := lw_g (lw_at lw_m13 228 rfl) rfl
theorem q3448 : (Jvm.Cond.privateMethod ({ cls := "RewriteHouseModel", name := "isLeft", desc := "(III)Z" } : Jvm.MethodName)) ∈ lw_tbl := lw_at lw_m13 229 rfl
theorem q3449 : (Jvm.Cond.instanceMethod ({ cls := "RewriteHouseModel", name := "isLeft", desc := "(III)Z" } : Jvm.MethodName)) ∈ lw_all := lw_g (lw_at lw_m13 230 rfl) rfl
theorem q3450 : (Jvm.Cond.code ({ cls := "RewriteHouseModel", name := "isLeft", desc := "(III)Z" } : Jvm.MethodName) prog_4_method_186_code (5 : Nat) (Option.some Jvm.ClassFile.FieldType.boolean)) ∈ lw_all := lw_g (lw_at lw_m13 231 rfl) rfl
theorem q3451 : (Jvm.Cond.methodLink "RewriteHouseModel" (1180 : Nat) ({ cls := "RewriteHouseModel", name := "timesIn", desc := "(III)I" } : Jvm.MethodName)) ∈ lw_all := lw_g (lw_at lw_m13 232 rfl) rfl
theorem q3452 : (Jvm.Cond.privateMethod ({ cls := "RewriteHouseModel", name := "timesIn", desc := "(III)I" } : Jvm.MethodName)) ∈ lw_tbl := lw_at lw_m13 233 rfl
theorem q3453 : (Jvm.Cond.instanceMethod ({ cls := "RewriteHouseModel", name := "timesIn", desc := "(III)I" } : Jvm.MethodName)) ∈ lw_all := lw_g (lw_at lw_m13 234 rfl) rfl
theorem q3454 : (Jvm.Cond.code ({ cls := "RewriteHouseModel", name := "timesIn", desc := "(III)I" } : Jvm.MethodName) prog_4_method_185_code (6 : Nat) (Option.some Jvm.ClassFile.FieldType.int)) ∈ lw_all := lw_g (lw_at lw_m13 235 rfl) rfl
theorem q3456 : (Jvm.Cond.instanceMethod ({ cls := "RewriteHouseModel", name := "witness", desc := "(II)I" } : Jvm.MethodName)) ∈ lw_all := lw_g (lw_at lw_m13 237 rfl) rfl
theorem q3457 : (Jvm.Cond.selects "RewriteHouseModel" ({ cls := "RewriteHouseModel", name := "witness", desc := "(II)I" } : Jvm.MethodName) ({ cls := "RewriteHouseModel", name := "witness", desc := "(II)I" } : Jvm.MethodName)) ∈ lw_all := lw_g (lw_at lw_m13 238 rfl) rfl
theorem q3458 : (Jvm.Cond.code ({ cls := "RewriteHouseModel", name := "witness", desc := "(II)I" } : Jvm.MethodName) prog_4_method_190_code (3 : Nat) (Option.some Jvm.ClassFile.FieldType.int)) ∈ lw_all := lw_g (lw_at lw_m13 239 rfl) rfl
theorem q3460 : (Jvm.Cond.instanceMethod ({ cls := "RewriteHouseModel", name := "pairs", desc := "(I)I" } : Jvm.MethodName)) ∈ lw_all := lw_g (lw_at lw_m14 1 rfl) rfl
theorem q3461 : (Jvm.Cond.selects "RewriteHouseModel" ({ cls := "RewriteHouseModel", name := "pairs", desc := "(I)I" } : Jvm.MethodName) ({ cls := "RewriteHouseModel", name := "pairs", desc := "(I)I" } : Jvm.MethodName)) ∈ lw_all := lw_g (lw_at lw_m14 2 rfl) rfl
theorem q3462 : (Jvm.Cond.codeWith ({ cls := "RewriteHouseModel", name := "pairs", desc := "(I)I" } : Jvm.MethodName) prog_4_method_211_code (3 : Nat) (Option.some Jvm.ClassFile.FieldType.int) [((29 : Nat), (61 : Nat), (62 : Nat), (12 : Nat))]) ∈ lw_all := lw_g (lw_at lw_m14 3 rfl) rfl
theorem q3463 : (Jvm.Cond.methodLink "RewriteHouseModel" (1295 : Nat) ({ cls := "RewriteHouseModel", name := "arePlain", desc := "()Z" } : Jvm.MethodName)) ∈ lw_all := lw_g (lw_at lw_m14 4 rfl) rfl
theorem q3464 : (Jvm.Cond.privateMethod ({ cls := "RewriteHouseModel", name := "arePlain", desc := "()Z" } : Jvm.MethodName)) ∈ lw_tbl := lw_at lw_m14 5 rfl
theorem q3465 : (Jvm.Cond.instanceMethod ({ cls := "RewriteHouseModel", name := "arePlain", desc := "()Z" } : Jvm.MethodName)) ∈ lw_all := lw_g (lw_at lw_m14 6 rfl) rfl
theorem q3466 : (Jvm.Cond.code ({ cls := "RewriteHouseModel", name := "arePlain", desc := "()Z" } : Jvm.MethodName) prog_4_method_205_code (2 : Nat) (Option.some Jvm.ClassFile.FieldType.boolean)) ∈ lw_all := lw_g (lw_at lw_m14 7 rfl) rfl
theorem q3467 : (Jvm.Cond.methodLink "RewriteHouseModel" (1280 : Nat) ({ cls := "RewriteHouseModel", name := "isPlainTerm", desc := "(LRewriteHouseModel;I)Z" } : Jvm.MethodName)) ∈ lw_all := lw_g (lw_at lw_m14 8 rfl) rfl
theorem q3468 : (Jvm.Cond.static ({ cls := "RewriteHouseModel", name := "isPlainTerm", desc := "(LRewriteHouseModel;I)Z" } : Jvm.MethodName)) ∈ lw_all := lw_g (lw_at lw_m14 9 rfl) rfl
theorem q3469 : (Jvm.Cond.code ({ cls := "RewriteHouseModel", name := "isPlainTerm", desc := "(LRewriteHouseModel;I)Z" } : Jvm.MethodName) prog_4_method_206_code (4 : Nat) (Option.some Jvm.ClassFile.FieldType.boolean)) ∈ lw_all := lw_g (lw_at lw_m14 10 rfl) rfl
theorem q3470 : (Jvm.Cond.methodLink "RewriteHouseModel" (1298 : Nat) ({ cls := "RewriteHouseModel", name := "findPairs", desc := "(I)V" } : Jvm.MethodName)) ∈ lw_all := lw_g (lw_at lw_m14 11 rfl) rfl
theorem q3471 : (Jvm.Cond.privateMethod ({ cls := "RewriteHouseModel", name := "findPairs", desc := "(I)V" } : Jvm.MethodName)) ∈ lw_tbl := lw_at lw_m14 12 rfl
theorem q3472 : (Jvm.Cond.instanceMethod ({ cls := "RewriteHouseModel", name := "findPairs", desc := "(I)V" } : Jvm.MethodName)) ∈ lw_all := lw_g (lw_at lw_m14 13 rfl) rfl
theorem q3473 : (Jvm.Cond.code ({ cls := "RewriteHouseModel", name := "findPairs", desc := "(I)V" } : Jvm.MethodName) prog_4_method_209_code (5 : Nat) (Option.none : Option Jvm.ClassFile.FieldType)) ∈ lw_all := lw_g (lw_at lw_m14 14 rfl) rfl
theorem q3474 : (Jvm.Cond.constant "RewriteHouseModel" (1291 : Nat) (3000000 : Int32)) ∈ lw_all := lw_g (lw_at lw_m14 15 rfl) rfl
theorem q3475 : (Jvm.Cond.methodLink "RewriteHouseModel" (1292 : Nat) ({ cls := "RewriteHouseModel", name := "compactPairs", desc := "()V" } : Jvm.MethodName)) ∈ lw_all := lw_g (lw_at lw_m14 16 rfl) rfl
theorem q3476 : (Jvm.Cond.privateMethod ({ cls := "RewriteHouseModel", name := "compactPairs", desc := "()V" } : Jvm.MethodName)) ∈ lw_tbl := lw_at lw_m14 17 rfl
theorem q3477 : (Jvm.Cond.instanceMethod ({ cls := "RewriteHouseModel", name := "compactPairs", desc := "()V" } : Jvm.MethodName)) ∈ lw_all := lw_g (lw_at lw_m14 18 rfl) rfl
theorem q3478 : (Jvm.Cond.code ({ cls := "RewriteHouseModel", name := "compactPairs", desc := "()V" } : Jvm.MethodName) prog_4_method_210_code (1 : Nat) (Option.none : Option Jvm.ClassFile.FieldType)) ∈ lw_all := lw_g (lw_at lw_m14 19 rfl) rfl
theorem q3479 : (Jvm.Cond.methodLink "RewriteHouseModel" (1192 : Nat) ({ cls := "RewriteHouseModel", name := "apart", desc := "(LRewriteHouseModel;I)I" } : Jvm.MethodName)) ∈ lw_all := lw_g (lw_at lw_m14 20 rfl) rfl
theorem q3480 : (Jvm.Cond.static ({ cls := "RewriteHouseModel", name := "apart", desc := "(LRewriteHouseModel;I)I" } : Jvm.MethodName)) ∈ lw_all := lw_g (lw_at lw_m14 21 rfl) rfl
theorem q3481 : (Jvm.Cond.code ({ cls := "RewriteHouseModel", name := "apart", desc := "(LRewriteHouseModel;I)I" } : Jvm.MethodName) prog_4_method_191_code (5 : Nat) (Option.some Jvm.ClassFile.FieldType.int)) ∈ lw_all := lw_g (lw_at lw_m14 22 rfl) rfl
theorem q3482 : (Jvm.Cond.methodLink "RewriteHouseModel" (1287 : Nat) ({ cls := "RewriteHouseModel", name := "overAt", desc := "(LRewriteHouseModel;II)V" } : Jvm.MethodName)) ∈ lw_all := lw_g (lw_at lw_m14 23 rfl) rfl
theorem q3483 : (Jvm.Cond.static ({ cls := "RewriteHouseModel", name := "overAt", desc := "(LRewriteHouseModel;II)V" } : Jvm.MethodName)) ∈ lw_all := lw_g (lw_at lw_m14 24 rfl) rfl
theorem q3484 : (Jvm.Cond.code ({ cls := "RewriteHouseModel", name := "overAt", desc := "(LRewriteHouseModel;II)V" } : Jvm.MethodName) prog_4_method_208_code (4 : Nat) (Option.none : Option Jvm.ClassFile.FieldType)) ∈ lw_all := lw_g (lw_at lw_m14 25 rfl) rfl
theorem q3485 : (Jvm.Cond.methodLink "RewriteHouseModel" (1284 : Nat) ({ cls := "RewriteHouseModel", name := "hasComm", desc := "(LRewriteHouseModel;I)Z" } : Jvm.MethodName)) ∈ lw_all := lw_g (lw_at lw_m14 26 rfl) rfl
theorem q3486 : (Jvm.Cond.static ({ cls := "RewriteHouseModel", name := "hasComm", desc := "(LRewriteHouseModel;I)Z" } : Jvm.MethodName)) ∈ lw_all := lw_g (lw_at lw_m14 27 rfl) rfl
theorem q3487 : (Jvm.Cond.code ({ cls := "RewriteHouseModel", name := "hasComm", desc := "(LRewriteHouseModel;I)Z" } : Jvm.MethodName) prog_4_method_207_code (4 : Nat) (Option.some Jvm.ClassFile.FieldType.boolean)) ∈ lw_all := lw_g (lw_at lw_m14 28 rfl) rfl
theorem q3488 : (Jvm.Cond.methodLink "RewriteHouseModel" (1226 : Nat) ({ cls := "RewriteHouseModel", name := "pairGoal", desc := "(III)I" } : Jvm.MethodName)) ∈ lw_all := lw_g (lw_at lw_m14 29 rfl) rfl
theorem q3489 : (Jvm.Cond.privateMethod ({ cls := "RewriteHouseModel", name := "pairGoal", desc := "(III)I" } : Jvm.MethodName)) ∈ lw_tbl := lw_at lw_m14 30 rfl
theorem q3490 : (Jvm.Cond.instanceMethod ({ cls := "RewriteHouseModel", name := "pairGoal", desc := "(III)I" } : Jvm.MethodName)) ∈ lw_all := lw_g (lw_at lw_m14 31 rfl) rfl
theorem q3491 : (Jvm.Cond.code ({ cls := "RewriteHouseModel", name := "pairGoal", desc := "(III)I" } : Jvm.MethodName) prog_4_method_196_code (4 : Nat) (Option.some Jvm.ClassFile.FieldType.int)) ∈ lw_all := lw_g (lw_at lw_m14 32 rfl) rfl
theorem q3492 : (Jvm.Cond.methodLink "RewriteHouseModel" (1217 : Nat) ({ cls := "RewriteHouseModel", name := "unify", desc := "(LRewriteHouseModel;I)V" } : Jvm.MethodName)) ∈ lw_all := lw_g (lw_at lw_m14 33 rfl) rfl
theorem q3493 : (Jvm.Cond.static ({ cls := "RewriteHouseModel", name := "unify", desc := "(LRewriteHouseModel;I)V" } : Jvm.MethodName)) ∈ lw_all := lw_g (lw_at lw_m14 34 rfl) rfl
theorem q3494 : (Jvm.Cond.code ({ cls := "RewriteHouseModel", name := "unify", desc := "(LRewriteHouseModel;I)V" } : Jvm.MethodName) prog_4_method_197_code (10 : Nat) (Option.none : Option Jvm.ClassFile.FieldType)) ∈ lw_all := lw_g (lw_at lw_m14 35 rfl) rfl
theorem q3495 : (Jvm.Cond.methodLink "RewriteHouseModel" (1208 : Nat) ({ cls := "RewriteHouseModel", name := "wayFound", desc := "()V" } : Jvm.MethodName)) ∈ lw_all := lw_g (lw_at lw_m14 36 rfl) rfl
theorem q3496 : (Jvm.Cond.privateMethod ({ cls := "RewriteHouseModel", name := "wayFound", desc := "()V" } : Jvm.MethodName)) ∈ lw_tbl := lw_at lw_m14 37 rfl
theorem q3497 : (Jvm.Cond.instanceMethod ({ cls := "RewriteHouseModel", name := "wayFound", desc := "()V" } : Jvm.MethodName)) ∈ lw_all := lw_g (lw_at lw_m14 38 rfl) rfl
theorem q3498 : (Jvm.Cond.code ({ cls := "RewriteHouseModel", name := "wayFound", desc := "()V" } : Jvm.MethodName) prog_4_method_201_code (7 : Nat) (Option.none : Option Jvm.ClassFile.FieldType)) ∈ lw_all := lw_g (lw_at lw_m14 39 rfl) rfl
theorem q3499 : (Jvm.Cond.methodLink "RewriteHouseModel" (1241 : Nat) ({ cls := "RewriteHouseModel", name := "tooManyPairs", desc := "()V" } : Jvm.MethodName)) ∈ lw_all := lw_g (lw_at lw_m14 40 rfl) rfl
theorem q3500 : (Jvm.Cond.privateMethod ({ cls := "RewriteHouseModel", name := "tooManyPairs", desc := "()V" } : Jvm.MethodName)) ∈ lw_tbl := lw_at lw_m14 41 rfl
theorem q3501 : (Jvm.Cond.instanceMethod ({ cls := "RewriteHouseModel", name := "tooManyPairs", desc := "()V" } : Jvm.MethodName)) ∈ lw_all := lw_g (lw_at lw_m14 42 rfl) rfl
theorem q3502 : (Jvm.Cond.code ({ cls := "RewriteHouseModel", name := "tooManyPairs", desc := "()V" } : Jvm.MethodName) prog_4_method_203_code (1 : Nat) (Option.none : Option Jvm.ClassFile.FieldType)) ∈ lw_all := lw_g (lw_at lw_m14 43 rfl) rfl
theorem q3503 : (Jvm.Cond.methodLink "RewriteHouseModel" (1247 : Nat) ({ cls := "RewriteHouseModel", name := "beginPair", desc := "()V" } : Jvm.MethodName)) ∈ lw_all := lw_g (lw_at lw_m14 44 rfl) rfl
theorem q3504 : (Jvm.Cond.privateMethod ({ cls := "RewriteHouseModel", name := "beginPair", desc := "()V" } : Jvm.MethodName)) ∈ lw_tbl := lw_at lw_m14 45 rfl
theorem q3505 : (Jvm.Cond.instanceMethod ({ cls := "RewriteHouseModel", name := "beginPair", desc := "()V" } : Jvm.MethodName)) ∈ lw_all := lw_g (lw_at lw_m14 46 rfl) rfl
theorem q3506 : (Jvm.Cond.code ({ cls := "RewriteHouseModel", name := "beginPair", desc := "()V" } : Jvm.MethodName) prog_4_method_204_code (1 : Nat) (Option.none : Option Jvm.ClassFile.FieldType)) ∈ lw_all := lw_g (lw_at lw_m14 47 rfl) rfl
theorem q3507 : (Jvm.Cond.methodLink "RewriteHouseModel" (1196 : Nat) ({ cls := "RewriteHouseModel", name := "now", desc := "(LRewriteHouseModel;I)I" } : Jvm.MethodName)) ∈ lw_all := lw_g (lw_at lw_m14 48 rfl) rfl
theorem q3508 : (Jvm.Cond.static ({ cls := "RewriteHouseModel", name := "now", desc := "(LRewriteHouseModel;I)I" } : Jvm.MethodName)) ∈ lw_all := lw_g (lw_at lw_m14 49 rfl) rfl
theorem q3509 : (Jvm.Cond.code ({ cls := "RewriteHouseModel", name := "now", desc := "(LRewriteHouseModel;I)I" } : Jvm.MethodName) prog_4_method_192_code (5 : Nat) (Option.some Jvm.ClassFile.FieldType.int)) ∈ lw_all := lw_g (lw_at lw_m14 50 rfl) rfl
theorem q3510 : (Jvm.Cond.methodLink "RewriteHouseModel" (1214 : Nat) ({ cls := "RewriteHouseModel", name := "sized", desc := "(I)I" } : Jvm.MethodName)) ∈ lw_all := lw_g (lw_at lw_m14 51 rfl) rfl
theorem q3511 : (Jvm.Cond.privateMethod ({ cls := "RewriteHouseModel", name := "sized", desc := "(I)I" } : Jvm.MethodName)) ∈ lw_tbl := lw_at lw_m14 52 rfl
theorem q3512 : (Jvm.Cond.instanceMethod ({ cls := "RewriteHouseModel", name := "sized", desc := "(I)I" } : Jvm.MethodName)) ∈ lw_all := lw_g (lw_at lw_m14 53 rfl) rfl
theorem q3513 : (Jvm.Cond.code ({ cls := "RewriteHouseModel", name := "sized", desc := "(I)I" } : Jvm.MethodName) prog_4_method_200_code (2 : Nat) (Option.some Jvm.ClassFile.FieldType.int)) ∈ lw_all := lw_g (lw_at lw_m14 54 rfl) rfl
theorem q3514 : (Jvm.Cond.methodLink "RewriteHouseModel" (1232 : Nat) ({ cls := "RewriteHouseModel", name := "release", desc := "(I)V" } : Jvm.MethodName)) ∈ lw_all := lw_g (lw_at lw_m14 55 rfl) rfl
theorem q3515 : (Jvm.Cond.privateMethod ({ cls := "RewriteHouseModel", name := "release", desc := "(I)V" } : Jvm.MethodName)) ∈ lw_tbl := lw_at lw_m14 56 rfl
theorem q3516 : (Jvm.Cond.instanceMethod ({ cls := "RewriteHouseModel", name := "release", desc := "(I)V" } : Jvm.MethodName)) ∈ lw_all := lw_g (lw_at lw_m14 57 rfl) rfl
theorem q3517 : (Jvm.Cond.code ({ cls := "RewriteHouseModel", name := "release", desc := "(I)V" } : Jvm.MethodName) prog_4_method_202_code (4 : Nat) (Option.none : Option Jvm.ClassFile.FieldType)) ∈ lw_all := lw_g (lw_at lw_m14 58 rfl) rfl
theorem q3518 : (Jvm.Cond.methodLink "RewriteHouseModel" (1220 : Nat) ({ cls := "RewriteHouseModel", name := "unifyVars", desc := "(LRewriteHouseModel;III)V" } : Jvm.MethodName)) ∈ lw_all := lw_g (lw_at lw_m14 59 rfl) rfl
theorem q3519 : (Jvm.Cond.static ({ cls := "RewriteHouseModel", name := "unifyVars", desc := "(LRewriteHouseModel;III)V" } : Jvm.MethodName)) ∈ lw_all := lw_g (lw_at lw_m14 60 rfl) rfl
theorem q3520 : (Jvm.Cond.code ({ cls := "RewriteHouseModel", name := "unifyVars", desc := "(LRewriteHouseModel;III)V" } : Jvm.MethodName) prog_4_method_198_code (8 : Nat) (Option.none : Option Jvm.ClassFile.FieldType)) ∈ lw_all := lw_g (lw_at lw_m14 61 rfl) rfl
theorem q3521 : (Jvm.Cond.methodLink "RewriteHouseModel" (1235 : Nat) ({ cls := "RewriteHouseModel", name := "give", desc := "(II)V" } : Jvm.MethodName)) ∈ lw_all := lw_g (lw_at lw_m14 62 rfl) rfl
theorem q3522 : (Jvm.Cond.privateMethod ({ cls := "RewriteHouseModel", name := "give", desc := "(II)V" } : Jvm.MethodName)) ∈ lw_tbl := lw_at lw_m14 63 rfl
theorem q3523 : (Jvm.Cond.instanceMethod ({ cls := "RewriteHouseModel", name := "give", desc := "(II)V" } : Jvm.MethodName)) ∈ lw_all := lw_g (lw_at lw_m14 64 rfl) rfl
theorem q3524 : (Jvm.Cond.code ({ cls := "RewriteHouseModel", name := "give", desc := "(II)V" } : Jvm.MethodName) prog_4_method_193_code (3 : Nat) (Option.none : Option Jvm.ClassFile.FieldType)) ∈ lw_all := lw_g (lw_at lw_m14 65 rfl) rfl
theorem q3525 : (Jvm.Cond.methodLink "RewriteHouseModel" (1223 : Nat) ({ cls := "RewriteHouseModel", name := "unifyVar", desc := "(LRewriteHouseModel;III)V" } : Jvm.MethodName)) ∈ lw_all := lw_g (lw_at lw_m14 66 rfl) rfl
theorem q3526 : (Jvm.Cond.static ({ cls := "RewriteHouseModel", name := "unifyVar", desc := "(LRewriteHouseModel;III)V" } : Jvm.MethodName)) ∈ lw_all := lw_g (lw_at lw_m14 67 rfl) rfl
theorem q3527 : (Jvm.Cond.code ({ cls := "RewriteHouseModel", name := "unifyVar", desc := "(LRewriteHouseModel;III)V" } : Jvm.MethodName) prog_4_method_199_code (8 : Nat) (Option.none : Option Jvm.ClassFile.FieldType)) ∈ lw_all := lw_g (lw_at lw_m14 68 rfl) rfl
theorem q3528 : (Jvm.Cond.methodLink "RewriteHouseModel" (1202 : Nat) ({ cls := "RewriteHouseModel", name := "isVarIn", desc := "(LRewriteHouseModel;II)Z" } : Jvm.MethodName)) ∈ lw_all := lw_g (lw_at lw_m14 69 rfl) rfl
theorem q3529 : (Jvm.Cond.static ({ cls := "RewriteHouseModel", name := "isVarIn", desc := "(LRewriteHouseModel;II)Z" } : Jvm.MethodName)) ∈ lw_all := lw_g (lw_at lw_m14 70 rfl) rfl
theorem q3530 : (Jvm.Cond.code ({ cls := "RewriteHouseModel", name := "isVarIn", desc := "(LRewriteHouseModel;II)Z" } : Jvm.MethodName) prog_4_method_195_code (4 : Nat) (Option.some Jvm.ClassFile.FieldType.boolean)) ∈ lw_all := lw_g (lw_at lw_m14 71 rfl) rfl
theorem q3531 : (Jvm.Cond.methodLink "RewriteHouseModel" (1229 : Nat) ({ cls := "RewriteHouseModel", name := "undo", desc := "(I)V" } : Jvm.MethodName)) ∈ lw_all := lw_g (lw_at lw_m14 72 rfl) rfl
theorem q3532 : (Jvm.Cond.privateMethod ({ cls := "RewriteHouseModel", name := "undo", desc := "(I)V" } : Jvm.MethodName)) ∈ lw_tbl := lw_at lw_m14 73 rfl
theorem q3533 : (Jvm.Cond.instanceMethod ({ cls := "RewriteHouseModel", name := "undo", desc := "(I)V" } : Jvm.MethodName)) ∈ lw_all := lw_g (lw_at lw_m14 74 rfl) rfl
theorem q3534 : (Jvm.Cond.code ({ cls := "RewriteHouseModel", name := "undo", desc := "(I)V" } : Jvm.MethodName) prog_4_method_194_code (2 : Nat) (Option.none : Option Jvm.ClassFile.FieldType)) ∈ lw_all := lw_g (lw_at lw_m14 75 rfl) rfl
theorem q3536 : (Jvm.Cond.instanceMethod ({ cls := "RewriteHouseModel", name := "pair", desc := "(II)I" } : Jvm.MethodName)) ∈ lw_all := lw_g (lw_at lw_m14 77 rfl) rfl
theorem q3537 : (Jvm.Cond.selects "RewriteHouseModel" ({ cls := "RewriteHouseModel", name := "pair", desc := "(II)I" } : Jvm.MethodName) ({ cls := "RewriteHouseModel", name := "pair", desc := "(II)I" } : Jvm.MethodName)) ∈ lw_all := lw_g (lw_at lw_m14 78 rfl) rfl
theorem q3538 : (Jvm.Cond.codeWith ({ cls := "RewriteHouseModel", name := "pair", desc := "(II)I" } : Jvm.MethodName) prog_4_method_212_code (4 : Nat) (Option.some Jvm.ClassFile.FieldType.int) [((30 : Nat), (44 : Nat), (102 : Nat), (12 : Nat)), ((45 : Nat), (65 : Nat), (102 : Nat), (12 : Nat)), ((66 : Nat), (101 : Nat), (102 : Nat), (12 : Nat))]) ∈ lw_all := lw_g (lw_at lw_m14 79 rfl) rfl
theorem in_X2 : ∀ w ∈ wsX20, w ∈ lw_all := lw_in wsX20 [2312, 2314, 2316, 2318, 2320, 2322, 2324, 2326, 2328, 2330, 2332, 2334, 2336, 2338, 2340, 2342, 2344, 2346, 2348, 2350, 2352, 2354, 2356, 2358, 2360, 2362, 2364, 2366, 2368, 2370, 2372, 2374, 2376, 2378, 2380, 2382, 2384, 2386, 2388, 2390, 2392, 2394, 2396, 2398, 2400, 2402, 2404, 2406, 2408, 2410, 2412, 2414, 2416, 2418, 2420, 2422, 2424, 2426, 2428, 2430, 2432, 2434, 2436, 2438, 2440, 2442, 2444, 2446, 2448, 2450, 2452, 2454, 2456, 2458, 2460, 2462, 2464, 2466, 2468, 2470, 2472, 2474, 2476, 2478, 2480, 2482, 2484, 2486, 2488, 2490, 2492, 2494, 2496, 2498, 2500, 2502, 2504, 2506, 2508, 2510, 2512, 2514, 2516, 2518, 2520, 2522, 2524, 2526, 2528, 2530, 2532, 2534, 2536, 2538, 2540, 2542, 2544, 2546, 2548, 2550, 2552, 2554, 2556, 2558, 2560, 2562, 2564, 2566, 2568, 2570, 2572, 2574, 2576, 2578, 2580, 2582, 2584, 2586, 2588, 2590, 2592, 2594, 2596, 2598, 2600, 2602, 2604, 2606, 2608, 2610, 2612, 2614, 2616, 2618, 2620, 2622, 2624, 2626, 2628, 2630, 2632, 2634, 2636, 2638, 2640, 2642, 2644, 2646, 2648, 2650, 2652, 2654, 2656, 2658, 2660, 2662, 2664, 2666, 2668, 2670, 2672, 2674, 2676, 2678, 2680, 2682, 2684, 2686, 2688, 2690, 2692] (by decide +kernel) (by decide +kernel)

