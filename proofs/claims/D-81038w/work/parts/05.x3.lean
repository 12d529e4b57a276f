set_option maxRecDepth 100000
abbrev cX0_keepBound : ByteArray := prog_1_method_139_code
def yX0_keepBound : MethodName := ⟨RX0, "keepBound", "()V"⟩
def dkwX0_keepBound_1 : List UInt8 := [180, 3, 39, 27, 46, 79, 132, 1, 1, 167, 255, 225, 177]
abbrev dktX0_keepBound_1 : List UInt8 := dkwX0_keepBound_1 ++ []
def dkwX0_keepBound_0 : List UInt8 := [3, 60, 27, 16, 60, 162, 0, 31, 42, 180, 3, 195, 42, 89, 180, 3, 198, 90, 4, 96, 181, 3, 198, 42]
abbrev dktX0_keepBound_0 : List UInt8 := dkwX0_keepBound_0 ++ dktX0_keepBound_1
theorem dksX0_keepBound_0 : cX0_keepBound.data.toList.drop 0 = dktX0_keepBound_0 := by decide +kernel
theorem dksX0_keepBound_1 : cX0_keepBound.data.toList.drop 24 = dktX0_keepBound_1 := dk_seg dksX0_keepBound_0 24 rfl rfl
theorem dX0_keepBound_0 : decode cX0_keepBound 0 = .ok (.iconst 0, 1) := dk_3 (dk_at dksX0_keepBound_0 0 rfl rfl)
theorem dX0_keepBound_1 : decode cX0_keepBound 1 = .ok (.istore_n 1, 1) := dk_60 (dk_at dksX0_keepBound_0 1 rfl rfl)
theorem dX0_keepBound_2 : decode cX0_keepBound 2 = .ok (.iload_n 1, 1) := dk_27 (dk_at dksX0_keepBound_0 2 rfl rfl)
theorem dX0_keepBound_3 : decode cX0_keepBound 3 = .ok (.bipush 60, 2) := dk_16 60 (dk_at dksX0_keepBound_0 3 rfl rfl)
theorem dX0_keepBound_5 : decode cX0_keepBound 5 = .ok (.if_icmp .ge 31, 3) := dk_162 0 31 (dk_at dksX0_keepBound_0 5 rfl rfl)
theorem dX0_keepBound_8 : decode cX0_keepBound 8 = .ok (.aload_n 0, 1) := dk_42 (dk_at dksX0_keepBound_0 8 rfl rfl)
theorem dX0_keepBound_9 : decode cX0_keepBound 9 = .ok (.getfield 963, 3) := dk_180 3 195 (dk_at dksX0_keepBound_0 9 rfl rfl)
theorem dX0_keepBound_12 : decode cX0_keepBound 12 = .ok (.aload_n 0, 1) := dk_42 (dk_at dksX0_keepBound_0 12 rfl rfl)
theorem dX0_keepBound_13 : decode cX0_keepBound 13 = .ok (.dup, 1) := dk_89 (dk_at dksX0_keepBound_0 13 rfl rfl)
theorem dX0_keepBound_14 : decode cX0_keepBound 14 = .ok (.getfield 966, 3) := dk_180 3 198 (dk_at dksX0_keepBound_0 14 rfl rfl)
theorem dX0_keepBound_17 : decode cX0_keepBound 17 = .ok (.dup_x1, 1) := dk_90 (dk_at dksX0_keepBound_0 17 rfl rfl)
theorem dX0_keepBound_18 : decode cX0_keepBound 18 = .ok (.iconst 1, 1) := dk_4 (dk_at dksX0_keepBound_0 18 rfl rfl)
theorem dX0_keepBound_19 : decode cX0_keepBound 19 = .ok (.iadd, 1) := dk_96 (dk_at dksX0_keepBound_0 19 rfl rfl)
theorem dX0_keepBound_20 : decode cX0_keepBound 20 = .ok (.putfield 966, 3) := dk_181 3 198 (dk_at dksX0_keepBound_0 20 rfl rfl)
theorem dX0_keepBound_23 : decode cX0_keepBound 23 = .ok (.aload_n 0, 1) := dk_42 (dk_at dksX0_keepBound_0 23 rfl rfl)
theorem dX0_keepBound_24 : decode cX0_keepBound 24 = .ok (.getfield 807, 3) := dk_180 3 39 (dk_at dksX0_keepBound_1 0 rfl rfl)
theorem dX0_keepBound_27 : decode cX0_keepBound 27 = .ok (.iload_n 1, 1) := dk_27 (dk_at dksX0_keepBound_1 3 rfl rfl)
theorem dX0_keepBound_28 : decode cX0_keepBound 28 = .ok (.iaload, 1) := dk_46 (dk_at dksX0_keepBound_1 4 rfl rfl)
theorem dX0_keepBound_29 : decode cX0_keepBound 29 = .ok (.iastore, 1) := dk_79 (dk_at dksX0_keepBound_1 5 rfl rfl)
theorem dX0_keepBound_30 : decode cX0_keepBound 30 = .ok (.iinc 1 1, 3) := dk_132 1 1 (dk_at dksX0_keepBound_1 6 rfl rfl)
theorem dX0_keepBound_33 : decode cX0_keepBound 33 = .ok (.goto (-31), 3) := dk_167 255 225 (dk_at dksX0_keepBound_1 9 rfl rfl)
theorem dX0_keepBound_36 : decode cX0_keepBound 36 = .ok (.return_, 1) := dk_177 (dk_at dksX0_keepBound_1 12 rfl rfl)
abbrev cX0_takeBound : ByteArray := prog_1_method_140_code
def yX0_takeBound : MethodName := ⟨RX0, "takeBound", "()V"⟩
def dkwX0_takeBound_1 : List UInt8 := [42, 180, 3, 195, 42, 180, 3, 198, 27, 96, 46, 79, 132, 1, 1, 167, 255, 230, 177]
abbrev dktX0_takeBound_1 : List UInt8 := dkwX0_takeBound_1 ++ []
def dkwX0_takeBound_0 : List UInt8 := [42, 89, 180, 3, 198, 16, 60, 100, 181, 3, 198, 3, 60, 27, 16, 60, 162, 0, 26, 42, 180, 3, 39, 27]
abbrev dktX0_takeBound_0 : List UInt8 := dkwX0_takeBound_0 ++ dktX0_takeBound_1
theorem dksX0_takeBound_0 : cX0_takeBound.data.toList.drop 0 = dktX0_takeBound_0 := by decide +kernel
theorem dksX0_takeBound_1 : cX0_takeBound.data.toList.drop 24 = dktX0_takeBound_1 := dk_seg dksX0_takeBound_0 24 rfl rfl
theorem dX0_takeBound_0 : decode cX0_takeBound 0 = .ok (.aload_n 0, 1) := dk_42 (dk_at dksX0_takeBound_0 0 rfl rfl)
theorem dX0_takeBound_1 : decode cX0_takeBound 1 = .ok (.dup, 1) := dk_89 (dk_at dksX0_takeBound_0 1 rfl rfl)
theorem dX0_takeBound_2 : decode cX0_takeBound 2 = .ok (.getfield 966, 3) := dk_180 3 198 (dk_at dksX0_takeBound_0 2 rfl rfl)
theorem dX0_takeBound_5 : decode cX0_takeBound 5 = .ok (.bipush 60, 2) := dk_16 60 (dk_at dksX0_takeBound_0 5 rfl rfl)
theorem dX0_takeBound_7 : decode cX0_takeBound 7 = .ok (.isub, 1) := dk_100 (dk_at dksX0_takeBound_0 7 rfl rfl)
theorem dX0_takeBound_8 : decode cX0_takeBound 8 = .ok (.putfield 966, 3) := dk_181 3 198 (dk_at dksX0_takeBound_0 8 rfl rfl)
theorem dX0_takeBound_11 : decode cX0_takeBound 11 = .ok (.iconst 0, 1) := dk_3 (dk_at dksX0_takeBound_0 11 rfl rfl)
theorem dX0_takeBound_12 : decode cX0_takeBound 12 = .ok (.istore_n 1, 1) := dk_60 (dk_at dksX0_takeBound_0 12 rfl rfl)
theorem dX0_takeBound_13 : decode cX0_takeBound 13 = .ok (.iload_n 1, 1) := dk_27 (dk_at dksX0_takeBound_0 13 rfl rfl)
theorem dX0_takeBound_14 : decode cX0_takeBound 14 = .ok (.bipush 60, 2) := dk_16 60 (dk_at dksX0_takeBound_0 14 rfl rfl)
theorem dX0_takeBound_16 : decode cX0_takeBound 16 = .ok (.if_icmp .ge 26, 3) := dk_162 0 26 (dk_at dksX0_takeBound_0 16 rfl rfl)
theorem dX0_takeBound_19 : decode cX0_takeBound 19 = .ok (.aload_n 0, 1) := dk_42 (dk_at dksX0_takeBound_0 19 rfl rfl)
theorem dX0_takeBound_20 : decode cX0_takeBound 20 = .ok (.getfield 807, 3) := dk_180 3 39 (dk_at dksX0_takeBound_0 20 rfl rfl)
theorem dX0_takeBound_23 : decode cX0_takeBound 23 = .ok (.iload_n 1, 1) := dk_27 (dk_at dksX0_takeBound_0 23 rfl rfl)
theorem dX0_takeBound_24 : decode cX0_takeBound 24 = .ok (.aload_n 0, 1) := dk_42 (dk_at dksX0_takeBound_1 0 rfl rfl)
theorem dX0_takeBound_25 : decode cX0_takeBound 25 = .ok (.getfield 963, 3) := dk_180 3 195 (dk_at dksX0_takeBound_1 1 rfl rfl)
theorem dX0_takeBound_28 : decode cX0_takeBound 28 = .ok (.aload_n 0, 1) := dk_42 (dk_at dksX0_takeBound_1 4 rfl rfl)
theorem dX0_takeBound_29 : decode cX0_takeBound 29 = .ok (.getfield 966, 3) := dk_180 3 198 (dk_at dksX0_takeBound_1 5 rfl rfl)
theorem dX0_takeBound_32 : decode cX0_takeBound 32 = .ok (.iload_n 1, 1) := dk_27 (dk_at dksX0_takeBound_1 8 rfl rfl)
theorem dX0_takeBound_33 : decode cX0_takeBound 33 = .ok (.iadd, 1) := dk_96 (dk_at dksX0_takeBound_1 9 rfl rfl)
theorem dX0_takeBound_34 : decode cX0_takeBound 34 = .ok (.iaload, 1) := dk_46 (dk_at dksX0_takeBound_1 10 rfl rfl)
theorem dX0_takeBound_35 : decode cX0_takeBound 35 = .ok (.iastore, 1) := dk_79 (dk_at dksX0_takeBound_1 11 rfl rfl)
theorem dX0_takeBound_36 : decode cX0_takeBound 36 = .ok (.iinc 1 1, 3) := dk_132 1 1 (dk_at dksX0_takeBound_1 12 rfl rfl)
theorem dX0_takeBound_39 : decode cX0_takeBound 39 = .ok (.goto (-26), 3) := dk_167 255 230 (dk_at dksX0_takeBound_1 15 rfl rfl)
theorem dX0_takeBound_42 : decode cX0_takeBound 42 = .ok (.return_, 1) := dk_177 (dk_at dksX0_takeBound_1 18 rfl rfl)
abbrev cX0_matchCondition : ByteArray := prog_1_method_143_code
def yX0_matchCondition : MethodName := ⟨RX0, "matchCondition", "(I)I"⟩
def dkwX0_matchCondition_1 : List UInt8 := [180, 2, 201, 27, 46, 28, 3, 182, 3, 173, 172]
abbrev dktX0_matchCondition_1 : List UInt8 := dkwX0_matchCondition_1 ++ []
def dkwX0_matchCondition_0 : List UInt8 := [42, 42, 180, 2, 201, 27, 46, 182, 3, 183, 42, 42, 180, 2, 198, 27, 46, 182, 3, 207, 61, 42, 42]
abbrev dktX0_matchCondition_0 : List UInt8 := dkwX0_matchCondition_0 ++ dktX0_matchCondition_1
theorem dksX0_matchCondition_0 : cX0_matchCondition.data.toList.drop 0 = dktX0_matchCondition_0 := by decide +kernel
theorem dksX0_matchCondition_1 : cX0_matchCondition.data.toList.drop 23 = dktX0_matchCondition_1 := dk_seg dksX0_matchCondition_0 23 rfl rfl
theorem dX0_matchCondition_0 : decode cX0_matchCondition 0 = .ok (.aload_n 0, 1) := dk_42 (dk_at dksX0_matchCondition_0 0 rfl rfl)
theorem dX0_matchCondition_1 : decode cX0_matchCondition 1 = .ok (.aload_n 0, 1) := dk_42 (dk_at dksX0_matchCondition_0 1 rfl rfl)
theorem dX0_matchCondition_2 : decode cX0_matchCondition 2 = .ok (.getfield 713, 3) := dk_180 2 201 (dk_at dksX0_matchCondition_0 2 rfl rfl)
theorem dX0_matchCondition_5 : decode cX0_matchCondition 5 = .ok (.iload_n 1, 1) := dk_27 (dk_at dksX0_matchCondition_0 5 rfl rfl)
theorem dX0_matchCondition_6 : decode cX0_matchCondition 6 = .ok (.iaload, 1) := dk_46 (dk_at dksX0_matchCondition_0 6 rfl rfl)
theorem dX0_matchCondition_7 : decode cX0_matchCondition 7 = .ok (.invokevirtual 951, 3) := dk_182 3 183 (dk_at dksX0_matchCondition_0 7 rfl rfl)
theorem dX0_matchCondition_10 : decode cX0_matchCondition 10 = .ok (.aload_n 0, 1) := dk_42 (dk_at dksX0_matchCondition_0 10 rfl rfl)
theorem dX0_matchCondition_11 : decode cX0_matchCondition 11 = .ok (.aload_n 0, 1) := dk_42 (dk_at dksX0_matchCondition_0 11 rfl rfl)
theorem dX0_matchCondition_12 : decode cX0_matchCondition 12 = .ok (.getfield 710, 3) := dk_180 2 198 (dk_at dksX0_matchCondition_0 12 rfl rfl)
theorem dX0_matchCondition_15 : decode cX0_matchCondition 15 = .ok (.iload_n 1, 1) := dk_27 (dk_at dksX0_matchCondition_0 15 rfl rfl)
theorem dX0_matchCondition_16 : decode cX0_matchCondition 16 = .ok (.iaload, 1) := dk_46 (dk_at dksX0_matchCondition_0 16 rfl rfl)
theorem dX0_matchCondition_17 : decode cX0_matchCondition 17 = .ok (.invokevirtual 975, 3) := dk_182 3 207 (dk_at dksX0_matchCondition_0 17 rfl rfl)
theorem dX0_matchCondition_20 : decode cX0_matchCondition 20 = .ok (.istore_n 2, 1) := dk_61 (dk_at dksX0_matchCondition_0 20 rfl rfl)
theorem dX0_matchCondition_21 : decode cX0_matchCondition 21 = .ok (.aload_n 0, 1) := dk_42 (dk_at dksX0_matchCondition_0 21 rfl rfl)
theorem dX0_matchCondition_22 : decode cX0_matchCondition 22 = .ok (.aload_n 0, 1) := dk_42 (dk_at dksX0_matchCondition_0 22 rfl rfl)
theorem dX0_matchCondition_23 : decode cX0_matchCondition 23 = .ok (.getfield 713, 3) := dk_180 2 201 (dk_at dksX0_matchCondition_1 0 rfl rfl)
theorem dX0_matchCondition_26 : decode cX0_matchCondition 26 = .ok (.iload_n 1, 1) := dk_27 (dk_at dksX0_matchCondition_1 3 rfl rfl)
theorem dX0_matchCondition_27 : decode cX0_matchCondition 27 = .ok (.iaload, 1) := dk_46 (dk_at dksX0_matchCondition_1 4 rfl rfl)
theorem dX0_matchCondition_28 : decode cX0_matchCondition 28 = .ok (.iload_n 2, 1) := dk_28 (dk_at dksX0_matchCondition_1 5 rfl rfl)
theorem dX0_matchCondition_29 : decode cX0_matchCondition 29 = .ok (.iconst 0, 1) := dk_3 (dk_at dksX0_matchCondition_1 6 rfl rfl)
theorem dX0_matchCondition_30 : decode cX0_matchCondition 30 = .ok (.invokevirtual 941, 3) := dk_182 3 173 (dk_at dksX0_matchCondition_1 7 rfl rfl)
theorem dX0_matchCondition_33 : decode cX0_matchCondition 33 = .ok (.ireturn, 1) := dk_172 (dk_at dksX0_matchCondition_1 10 rfl rfl)
abbrev cX0_beside : ByteArray := prog_1_method_137_code
def yX0_beside : MethodName := ⟨RX0, "beside", "(IIII)I"⟩
def dkwX0_beside_2 : List UInt8 := [182, 2, 134, 172]
abbrev dktX0_beside_2 : List UInt8 := dkwX0_beside_2 ++ []
def dkwX0_beside_1 : List UInt8 := [182, 2, 131, 42, 29, 182, 2, 131, 21, 4, 153, 0, 9, 42, 21, 4, 182, 2, 131, 42, 27, 21, 5]
abbrev dktX0_beside_1 : List UInt8 := dkwX0_beside_1 ++ dktX0_beside_2
def dkwX0_beside_0 : List UInt8 := [28, 154, 0, 10, 21, 4, 154, 0, 5, 29, 172, 42, 180, 2, 99, 54, 5, 28, 153, 0, 8, 42, 28]
abbrev dktX0_beside_0 : List UInt8 := dkwX0_beside_0 ++ dktX0_beside_1
theorem dksX0_beside_0 : cX0_beside.data.toList.drop 0 = dktX0_beside_0 := by decide +kernel
theorem dksX0_beside_1 : cX0_beside.data.toList.drop 23 = dktX0_beside_1 := dk_seg dksX0_beside_0 23 rfl rfl
theorem dksX0_beside_2 : cX0_beside.data.toList.drop 46 = dktX0_beside_2 := dk_seg dksX0_beside_1 23 rfl rfl
theorem dX0_beside_0 : decode cX0_beside 0 = .ok (.iload_n 2, 1) := dk_28 (dk_at dksX0_beside_0 0 rfl rfl)
theorem dX0_beside_1 : decode cX0_beside 1 = .ok (.ifCond .ne 10, 3) := dk_154 0 10 (dk_at dksX0_beside_0 1 rfl rfl)
theorem dX0_beside_4 : decode cX0_beside 4 = .ok (.iload 4, 2) := dk_21 4 (dk_at dksX0_beside_0 4 rfl rfl)
theorem dX0_beside_6 : decode cX0_beside 6 = .ok (.ifCond .ne 5, 3) := dk_154 0 5 (dk_at dksX0_beside_0 6 rfl rfl)
theorem dX0_beside_9 : decode cX0_beside 9 = .ok (.iload_n 3, 1) := dk_29 (dk_at dksX0_beside_0 9 rfl rfl)
theorem dX0_beside_10 : decode cX0_beside 10 = .ok (.ireturn, 1) := dk_172 (dk_at dksX0_beside_0 10 rfl rfl)
theorem dX0_beside_11 : decode cX0_beside 11 = .ok (.aload_n 0, 1) := dk_42 (dk_at dksX0_beside_0 11 rfl rfl)
theorem dX0_beside_12 : decode cX0_beside 12 = .ok (.getfield 611, 3) := dk_180 2 99 (dk_at dksX0_beside_0 12 rfl rfl)
theorem dX0_beside_15 : decode cX0_beside 15 = .ok (.istore 5, 2) := dk_54 5 (dk_at dksX0_beside_0 15 rfl rfl)
theorem dX0_beside_17 : decode cX0_beside 17 = .ok (.iload_n 2, 1) := dk_28 (dk_at dksX0_beside_0 17 rfl rfl)
theorem dX0_beside_18 : decode cX0_beside 18 = .ok (.ifCond .eq 8, 3) := dk_153 0 8 (dk_at dksX0_beside_0 18 rfl rfl)
theorem dX0_beside_21 : decode cX0_beside 21 = .ok (.aload_n 0, 1) := dk_42 (dk_at dksX0_beside_0 21 rfl rfl)
theorem dX0_beside_22 : decode cX0_beside 22 = .ok (.iload_n 2, 1) := dk_28 (dk_at dksX0_beside_0 22 rfl rfl)
theorem dX0_beside_23 : decode cX0_beside 23 = .ok (.invokevirtual 643, 3) := dk_182 2 131 (dk_at dksX0_beside_1 0 rfl rfl)
theorem dX0_beside_26 : decode cX0_beside 26 = .ok (.aload_n 0, 1) := dk_42 (dk_at dksX0_beside_1 3 rfl rfl)
theorem dX0_beside_27 : decode cX0_beside 27 = .ok (.iload_n 3, 1) := dk_29 (dk_at dksX0_beside_1 4 rfl rfl)
theorem dX0_beside_28 : decode cX0_beside 28 = .ok (.invokevirtual 643, 3) := dk_182 2 131 (dk_at dksX0_beside_1 5 rfl rfl)
theorem dX0_beside_31 : decode cX0_beside 31 = .ok (.iload 4, 2) := dk_21 4 (dk_at dksX0_beside_1 8 rfl rfl)
theorem dX0_beside_33 : decode cX0_beside 33 = .ok (.ifCond .eq 9, 3) := dk_153 0 9 (dk_at dksX0_beside_1 10 rfl rfl)
theorem dX0_beside_36 : decode cX0_beside 36 = .ok (.aload_n 0, 1) := dk_42 (dk_at dksX0_beside_1 13 rfl rfl)
theorem dX0_beside_37 : decode cX0_beside 37 = .ok (.iload 4, 2) := dk_21 4 (dk_at dksX0_beside_1 14 rfl rfl)
theorem dX0_beside_39 : decode cX0_beside 39 = .ok (.invokevirtual 643, 3) := dk_182 2 131 (dk_at dksX0_beside_1 16 rfl rfl)
theorem dX0_beside_42 : decode cX0_beside 42 = .ok (.aload_n 0, 1) := dk_42 (dk_at dksX0_beside_1 19 rfl rfl)
theorem dX0_beside_43 : decode cX0_beside 43 = .ok (.iload_n 1, 1) := dk_27 (dk_at dksX0_beside_1 20 rfl rfl)
theorem dX0_beside_44 : decode cX0_beside 44 = .ok (.iload 5, 2) := dk_21 5 (dk_at dksX0_beside_1 21 rfl rfl)
theorem dX0_beside_46 : decode cX0_beside 46 = .ok (.invokevirtual 646, 3) := dk_182 2 134 (dk_at dksX0_beside_2 0 rfl rfl)
theorem dX0_beside_49 : decode cX0_beside 49 = .ok (.ireturn, 1) := dk_172 (dk_at dksX0_beside_2 3 rfl rfl)
abbrev cX0_countStep : ByteArray := prog_1_method_134_code
def yX0_countStep : MethodName := ⟨RX0, "countStep", "()V"⟩
def dkwX0_countStep_1 : List UInt8 := [182, 2, 83, 191, 177]
abbrev dktX0_countStep_1 : List UInt8 := dkwX0_countStep_1 ++ []
def dkwX0_countStep_0 : List UInt8 := [42, 89, 180, 3, 161, 4, 96, 181, 3, 161, 42, 180, 3, 161, 17, 2, 88, 164, 0, 9, 42, 4]
abbrev dktX0_countStep_0 : List UInt8 := dkwX0_countStep_0 ++ dktX0_countStep_1
theorem dksX0_countStep_0 : cX0_countStep.data.toList.drop 0 = dktX0_countStep_0 := by decide +kernel
theorem dksX0_countStep_1 : cX0_countStep.data.toList.drop 22 = dktX0_countStep_1 := dk_seg dksX0_countStep_0 22 rfl rfl
theorem dX0_countStep_0 : decode cX0_countStep 0 = .ok (.aload_n 0, 1) := dk_42 (dk_at dksX0_countStep_0 0 rfl rfl)
theorem dX0_countStep_1 : decode cX0_countStep 1 = .ok (.dup, 1) := dk_89 (dk_at dksX0_countStep_0 1 rfl rfl)
theorem dX0_countStep_2 : decode cX0_countStep 2 = .ok (.getfield 929, 3) := dk_180 3 161 (dk_at dksX0_countStep_0 2 rfl rfl)
theorem dX0_countStep_5 : decode cX0_countStep 5 = .ok (.iconst 1, 1) := dk_4 (dk_at dksX0_countStep_0 5 rfl rfl)
theorem dX0_countStep_6 : decode cX0_countStep 6 = .ok (.iadd, 1) := dk_96 (dk_at dksX0_countStep_0 6 rfl rfl)
theorem dX0_countStep_7 : decode cX0_countStep 7 = .ok (.putfield 929, 3) := dk_181 3 161 (dk_at dksX0_countStep_0 7 rfl rfl)
theorem dX0_countStep_10 : decode cX0_countStep 10 = .ok (.aload_n 0, 1) := dk_42 (dk_at dksX0_countStep_0 10 rfl rfl)
theorem dX0_countStep_11 : decode cX0_countStep 11 = .ok (.getfield 929, 3) := dk_180 3 161 (dk_at dksX0_countStep_0 11 rfl rfl)
theorem dX0_countStep_14 : decode cX0_countStep 14 = .ok (.sipush 600, 3) := dk_17 2 88 (dk_at dksX0_countStep_0 14 rfl rfl)
theorem dX0_countStep_17 : decode cX0_countStep 17 = .ok (.if_icmp .le 9, 3) := dk_164 0 9 (dk_at dksX0_countStep_0 17 rfl rfl)
theorem dX0_countStep_20 : decode cX0_countStep 20 = .ok (.aload_n 0, 1) := dk_42 (dk_at dksX0_countStep_0 20 rfl rfl)
theorem dX0_countStep_21 : decode cX0_countStep 21 = .ok (.iconst 1, 1) := dk_4 (dk_at dksX0_countStep_0 21 rfl rfl)
theorem dX0_countStep_22 : decode cX0_countStep 22 = .ok (.invokevirtual 595, 3) := dk_182 2 83 (dk_at dksX0_countStep_1 0 rfl rfl)
theorem dX0_countStep_25 : decode cX0_countStep 25 = .ok (.athrow, 1) := dk_191 (dk_at dksX0_countStep_1 3 rfl rfl)
theorem dX0_countStep_26 : decode cX0_countStep 26 = .ok (.return_, 1) := dk_177 (dk_at dksX0_countStep_1 4 rfl rfl)
abbrev cX0_tellSteps : ByteArray := prog_1_method_171_code
def yX0_tellSteps : MethodName := ⟨RX0, "tellSteps", "()V"⟩
def dkwX0_tellSteps_0 : List UInt8 := [42, 42, 180, 3, 161, 181, 0, 190, 177]
abbrev dktX0_tellSteps_0 : List UInt8 := dkwX0_tellSteps_0 ++ []
theorem dksX0_tellSteps_0 : cX0_tellSteps.data.toList.drop 0 = dktX0_tellSteps_0 := by decide +kernel
theorem dX0_tellSteps_0 : decode cX0_tellSteps 0 = .ok (.aload_n 0, 1) := dk_42 (dk_at dksX0_tellSteps_0 0 rfl rfl)
theorem dX0_tellSteps_1 : decode cX0_tellSteps 1 = .ok (.aload_n 0, 1) := dk_42 (dk_at dksX0_tellSteps_0 1 rfl rfl)
theorem dX0_tellSteps_2 : decode cX0_tellSteps 2 = .ok (.getfield 929, 3) := dk_180 3 161 (dk_at dksX0_tellSteps_0 2 rfl rfl)
theorem dX0_tellSteps_5 : decode cX0_tellSteps 5 = .ok (.putfield 190, 3) := dk_181 0 190 (dk_at dksX0_tellSteps_0 5 rfl rfl)
theorem dX0_tellSteps_8 : decode cX0_tellSteps 8 = .ok (.return_, 1) := dk_177 (dk_at dksX0_tellSteps_0 8 rfl rfl)
abbrev cX0_steps : ByteArray := prog_1_method_174_code
def yX0_steps : MethodName := ⟨RX0, "steps", "(I)I"⟩
def dkwX0_steps_4 : List UInt8 := [42, 180, 3, 210, 172, 77, 42, 182, 4, 43, 42, 44, 182, 4, 39, 172]
abbrev dktX0_steps_4 : List UInt8 := dkwX0_steps_4 ++ []
def dkwX0_steps_3 : List UInt8 := [132, 2, 1, 167, 255, 215, 42, 4, 42, 180, 3, 210, 182, 4, 55, 42, 4, 181, 4, 58, 42, 182, 4, 43]
abbrev dktX0_steps_3 : List UInt8 := dkwX0_steps_3 ++ dktX0_steps_4
def dkwX0_steps_2 : List UInt8 := [180, 4, 49, 16, 80, 28, 104, 182, 2, 160, 42, 180, 4, 52, 28, 42, 180, 3, 239, 28, 46, 79]
abbrev dktX0_steps_2 : List UInt8 := dkwX0_steps_2 ++ dktX0_steps_3
def dkwX0_steps_1 : List UInt8 := [16, 254, 182, 4, 46, 3, 61, 28, 42, 180, 3, 210, 162, 0, 39, 42, 42, 180, 3, 237, 28, 46, 42]
abbrev dktX0_steps_1 : List UInt8 := dkwX0_steps_1 ++ dktX0_steps_2
def dkwX0_steps_0 : List UInt8 := [42, 27, 182, 4, 0, 154, 0, 5, 2, 172, 42, 182, 3, 247, 42, 42, 42, 27, 182, 4, 3, 182, 3, 155]
abbrev dktX0_steps_0 : List UInt8 := dkwX0_steps_0 ++ dktX0_steps_1
theorem dksX0_steps_0 : cX0_steps.data.toList.drop 0 = dktX0_steps_0 := by decide +kernel
theorem dksX0_steps_1 : cX0_steps.data.toList.drop 24 = dktX0_steps_1 := dk_seg dksX0_steps_0 24 rfl rfl
theorem dksX0_steps_2 : cX0_steps.data.toList.drop 47 = dktX0_steps_2 := dk_seg dksX0_steps_1 23 rfl rfl
theorem dksX0_steps_3 : cX0_steps.data.toList.drop 69 = dktX0_steps_3 := dk_seg dksX0_steps_2 22 rfl rfl
theorem dksX0_steps_4 : cX0_steps.data.toList.drop 93 = dktX0_steps_4 := dk_seg dksX0_steps_3 24 rfl rfl
theorem dX0_steps_0 : decode cX0_steps 0 = .ok (.aload_n 0, 1) := dk_42 (dk_at dksX0_steps_0 0 rfl rfl)
theorem dX0_steps_1 : decode cX0_steps 1 = .ok (.iload_n 1, 1) := dk_27 (dk_at dksX0_steps_0 1 rfl rfl)
theorem dX0_steps_2 : decode cX0_steps 2 = .ok (.invokevirtual 1024, 3) := dk_182 4 0 (dk_at dksX0_steps_0 2 rfl rfl)
theorem dX0_steps_5 : decode cX0_steps 5 = .ok (.ifCond .ne 5, 3) := dk_154 0 5 (dk_at dksX0_steps_0 5 rfl rfl)
theorem dX0_steps_8 : decode cX0_steps 8 = .ok (.iconst (-1), 1) := dk_2 (dk_at dksX0_steps_0 8 rfl rfl)
theorem dX0_steps_9 : decode cX0_steps 9 = .ok (.ireturn, 1) := dk_172 (dk_at dksX0_steps_0 9 rfl rfl)
theorem dX0_steps_10 : decode cX0_steps 10 = .ok (.aload_n 0, 1) := dk_42 (dk_at dksX0_steps_0 10 rfl rfl)
theorem dX0_steps_11 : decode cX0_steps 11 = .ok (.invokevirtual 1015, 3) := dk_182 3 247 (dk_at dksX0_steps_0 11 rfl rfl)
theorem dX0_steps_14 : decode cX0_steps 14 = .ok (.aload_n 0, 1) := dk_42 (dk_at dksX0_steps_0 14 rfl rfl)
theorem dX0_steps_15 : decode cX0_steps 15 = .ok (.aload_n 0, 1) := dk_42 (dk_at dksX0_steps_0 15 rfl rfl)
theorem dX0_steps_16 : decode cX0_steps 16 = .ok (.aload_n 0, 1) := dk_42 (dk_at dksX0_steps_0 16 rfl rfl)
theorem dX0_steps_17 : decode cX0_steps 17 = .ok (.iload_n 1, 1) := dk_27 (dk_at dksX0_steps_0 17 rfl rfl)
theorem dX0_steps_18 : decode cX0_steps 18 = .ok (.invokevirtual 1027, 3) := dk_182 4 3 (dk_at dksX0_steps_0 18 rfl rfl)
theorem dX0_steps_21 : decode cX0_steps 21 = .ok (.invokevirtual 923, 3) := dk_182 3 155 (dk_at dksX0_steps_0 21 rfl rfl)
theorem dX0_steps_24 : decode cX0_steps 24 = .ok (.bipush (-2), 2) := dk_16 254 (dk_at dksX0_steps_1 0 rfl rfl)
theorem dX0_steps_26 : decode cX0_steps 26 = .ok (.invokevirtual 1070, 3) := dk_182 4 46 (dk_at dksX0_steps_1 2 rfl rfl)
theorem dX0_steps_29 : decode cX0_steps 29 = .ok (.iconst 0, 1) := dk_3 (dk_at dksX0_steps_1 5 rfl rfl)
theorem dX0_steps_30 : decode cX0_steps 30 = .ok (.istore_n 2, 1) := dk_61 (dk_at dksX0_steps_1 6 rfl rfl)
theorem dX0_steps_31 : decode cX0_steps 31 = .ok (.iload_n 2, 1) := dk_28 (dk_at dksX0_steps_1 7 rfl rfl)
theorem dX0_steps_32 : decode cX0_steps 32 = .ok (.aload_n 0, 1) := dk_42 (dk_at dksX0_steps_1 8 rfl rfl)
theorem dX0_steps_33 : decode cX0_steps 33 = .ok (.getfield 978, 3) := dk_180 3 210 (dk_at dksX0_steps_1 9 rfl rfl)
theorem dX0_steps_36 : decode cX0_steps 36 = .ok (.if_icmp .ge 39, 3) := dk_162 0 39 (dk_at dksX0_steps_1 12 rfl rfl)
theorem dX0_steps_39 : decode cX0_steps 39 = .ok (.aload_n 0, 1) := dk_42 (dk_at dksX0_steps_1 15 rfl rfl)
theorem dX0_steps_40 : decode cX0_steps 40 = .ok (.aload_n 0, 1) := dk_42 (dk_at dksX0_steps_1 16 rfl rfl)
theorem dX0_steps_41 : decode cX0_steps 41 = .ok (.getfield 1005, 3) := dk_180 3 237 (dk_at dksX0_steps_1 17 rfl rfl)
theorem dX0_steps_44 : decode cX0_steps 44 = .ok (.iload_n 2, 1) := dk_28 (dk_at dksX0_steps_1 20 rfl rfl)
theorem dX0_steps_45 : decode cX0_steps 45 = .ok (.iaload, 1) := dk_46 (dk_at dksX0_steps_1 21 rfl rfl)
theorem dX0_steps_46 : decode cX0_steps 46 = .ok (.aload_n 0, 1) := dk_42 (dk_at dksX0_steps_1 22 rfl rfl)
theorem dX0_steps_47 : decode cX0_steps 47 = .ok (.getfield 1073, 3) := dk_180 4 49 (dk_at dksX0_steps_2 0 rfl rfl)
theorem dX0_steps_50 : decode cX0_steps 50 = .ok (.bipush 80, 2) := dk_16 80 (dk_at dksX0_steps_2 3 rfl rfl)
theorem dX0_steps_52 : decode cX0_steps 52 = .ok (.iload_n 2, 1) := dk_28 (dk_at dksX0_steps_2 5 rfl rfl)
theorem dX0_steps_53 : decode cX0_steps 53 = .ok (.imul, 1) := dk_104 (dk_at dksX0_steps_2 6 rfl rfl)
theorem dX0_steps_54 : decode cX0_steps 54 = .ok (.invokevirtual 672, 3) := dk_182 2 160 (dk_at dksX0_steps_2 7 rfl rfl)
theorem dX0_steps_57 : decode cX0_steps 57 = .ok (.aload_n 0, 1) := dk_42 (dk_at dksX0_steps_2 10 rfl rfl)
theorem dX0_steps_58 : decode cX0_steps 58 = .ok (.getfield 1076, 3) := dk_180 4 52 (dk_at dksX0_steps_2 11 rfl rfl)
theorem dX0_steps_61 : decode cX0_steps 61 = .ok (.iload_n 2, 1) := dk_28 (dk_at dksX0_steps_2 14 rfl rfl)
theorem dX0_steps_62 : decode cX0_steps 62 = .ok (.aload_n 0, 1) := dk_42 (dk_at dksX0_steps_2 15 rfl rfl)
theorem dX0_steps_63 : decode cX0_steps 63 = .ok (.getfield 1007, 3) := dk_180 3 239 (dk_at dksX0_steps_2 16 rfl rfl)
theorem dX0_steps_66 : decode cX0_steps 66 = .ok (.iload_n 2, 1) := dk_28 (dk_at dksX0_steps_2 19 rfl rfl)
theorem dX0_steps_67 : decode cX0_steps 67 = .ok (.iaload, 1) := dk_46 (dk_at dksX0_steps_2 20 rfl rfl)
theorem dX0_steps_68 : decode cX0_steps 68 = .ok (.iastore, 1) := dk_79 (dk_at dksX0_steps_2 21 rfl rfl)
theorem dX0_steps_69 : decode cX0_steps 69 = .ok (.iinc 2 1, 3) := dk_132 2 1 (dk_at dksX0_steps_3 0 rfl rfl)
theorem dX0_steps_72 : decode cX0_steps 72 = .ok (.goto (-41), 3) := dk_167 255 215 (dk_at dksX0_steps_3 3 rfl rfl)
theorem dX0_steps_75 : decode cX0_steps 75 = .ok (.aload_n 0, 1) := dk_42 (dk_at dksX0_steps_3 6 rfl rfl)
theorem dX0_steps_76 : decode cX0_steps 76 = .ok (.iconst 1, 1) := dk_4 (dk_at dksX0_steps_3 7 rfl rfl)
theorem dX0_steps_77 : decode cX0_steps 77 = .ok (.aload_n 0, 1) := dk_42 (dk_at dksX0_steps_3 8 rfl rfl)
theorem dX0_steps_78 : decode cX0_steps 78 = .ok (.getfield 978, 3) := dk_180 3 210 (dk_at dksX0_steps_3 9 rfl rfl)
theorem dX0_steps_81 : decode cX0_steps 81 = .ok (.invokevirtual 1079, 3) := dk_182 4 55 (dk_at dksX0_steps_3 12 rfl rfl)
theorem dX0_steps_84 : decode cX0_steps 84 = .ok (.aload_n 0, 1) := dk_42 (dk_at dksX0_steps_3 15 rfl rfl)
theorem dX0_steps_85 : decode cX0_steps 85 = .ok (.iconst 1, 1) := dk_4 (dk_at dksX0_steps_3 16 rfl rfl)
theorem dX0_steps_86 : decode cX0_steps 86 = .ok (.putfield 1082, 3) := dk_181 4 58 (dk_at dksX0_steps_3 17 rfl rfl)
theorem dX0_steps_89 : decode cX0_steps 89 = .ok (.aload_n 0, 1) := dk_42 (dk_at dksX0_steps_3 20 rfl rfl)
theorem dX0_steps_90 : decode cX0_steps 90 = .ok (.invokevirtual 1067, 3) := dk_182 4 43 (dk_at dksX0_steps_3 21 rfl rfl)
theorem dX0_steps_93 : decode cX0_steps 93 = .ok (.aload_n 0, 1) := dk_42 (dk_at dksX0_steps_4 0 rfl rfl)
theorem dX0_steps_94 : decode cX0_steps 94 = .ok (.getfield 978, 3) := dk_180 3 210 (dk_at dksX0_steps_4 1 rfl rfl)
theorem dX0_steps_97 : decode cX0_steps 97 = .ok (.ireturn, 1) := dk_172 (dk_at dksX0_steps_4 4 rfl rfl)
theorem dX0_steps_98 : decode cX0_steps 98 = .ok (.astore_n 2, 1) := dk_77 (dk_at dksX0_steps_4 5 rfl rfl)
theorem dX0_steps_99 : decode cX0_steps 99 = .ok (.aload_n 0, 1) := dk_42 (dk_at dksX0_steps_4 6 rfl rfl)
theorem dX0_steps_100 : decode cX0_steps 100 = .ok (.invokevirtual 1067, 3) := dk_182 4 43 (dk_at dksX0_steps_4 7 rfl rfl)
theorem dX0_steps_103 : decode cX0_steps 103 = .ok (.aload_n 0, 1) := dk_42 (dk_at dksX0_steps_4 10 rfl rfl)
theorem dX0_steps_104 : decode cX0_steps 104 = .ok (.aload_n 2, 1) := dk_44 (dk_at dksX0_steps_4 11 rfl rfl)
theorem dX0_steps_105 : decode cX0_steps 105 = .ok (.invokevirtual 1063, 3) := dk_182 4 39 (dk_at dksX0_steps_4 12 rfl rfl)
theorem dX0_steps_108 : decode cX0_steps 108 = .ok (.ireturn, 1) := dk_172 (dk_at dksX0_steps_4 15 rfl rfl)
abbrev cX0_rulesOf : ByteArray := prog_1_method_144_code
def yX0_rulesOf : MethodName := ⟨RX0, "rulesOf", "(II)V"⟩
def dkwX0_rulesOf_0 : List UInt8 := [42, 3, 181, 3, 210, 42, 3, 181, 3, 213, 42, 28, 181, 3, 216, 42, 27, 182, 3, 219, 177]
abbrev dktX0_rulesOf_0 : List UInt8 := dkwX0_rulesOf_0 ++ []
theorem dksX0_rulesOf_0 : cX0_rulesOf.data.toList.drop 0 = dktX0_rulesOf_0 := by decide +kernel
theorem dX0_rulesOf_0 : decode cX0_rulesOf 0 = .ok (.aload_n 0, 1) := dk_42 (dk_at dksX0_rulesOf_0 0 rfl rfl)
theorem dX0_rulesOf_1 : decode cX0_rulesOf 1 = .ok (.iconst 0, 1) := dk_3 (dk_at dksX0_rulesOf_0 1 rfl rfl)
theorem dX0_rulesOf_2 : decode cX0_rulesOf 2 = .ok (.putfield 978, 3) := dk_181 3 210 (dk_at dksX0_rulesOf_0 2 rfl rfl)
theorem dX0_rulesOf_5 : decode cX0_rulesOf 5 = .ok (.aload_n 0, 1) := dk_42 (dk_at dksX0_rulesOf_0 5 rfl rfl)
theorem dX0_rulesOf_6 : decode cX0_rulesOf 6 = .ok (.iconst 0, 1) := dk_3 (dk_at dksX0_rulesOf_0 6 rfl rfl)
theorem dX0_rulesOf_7 : decode cX0_rulesOf 7 = .ok (.putfield 981, 3) := dk_181 3 213 (dk_at dksX0_rulesOf_0 7 rfl rfl)
theorem dX0_rulesOf_10 : decode cX0_rulesOf 10 = .ok (.aload_n 0, 1) := dk_42 (dk_at dksX0_rulesOf_0 10 rfl rfl)
theorem dX0_rulesOf_11 : decode cX0_rulesOf 11 = .ok (.iload_n 2, 1) := dk_28 (dk_at dksX0_rulesOf_0 11 rfl rfl)
theorem dX0_rulesOf_12 : decode cX0_rulesOf 12 = .ok (.putfield 984, 3) := dk_181 3 216 (dk_at dksX0_rulesOf_0 12 rfl rfl)
theorem dX0_rulesOf_15 : decode cX0_rulesOf 15 = .ok (.aload_n 0, 1) := dk_42 (dk_at dksX0_rulesOf_0 15 rfl rfl)
theorem dX0_rulesOf_16 : decode cX0_rulesOf 16 = .ok (.iload_n 1, 1) := dk_27 (dk_at dksX0_rulesOf_0 16 rfl rfl)
theorem dX0_rulesOf_17 : decode cX0_rulesOf 17 = .ok (.invokevirtual 987, 3) := dk_182 3 219 (dk_at dksX0_rulesOf_0 17 rfl rfl)
theorem dX0_rulesOf_20 : decode cX0_rulesOf 20 = .ok (.return_, 1) := dk_177 (dk_at dksX0_rulesOf_0 20 rfl rfl)
abbrev cX0_rulesAt : ByteArray := prog_1_method_145_code
def yX0_rulesAt : MethodName := ⟨RX0, "rulesAt", "(I)V"⟩
def dkwX0_rulesAt_4 : List UInt8 := [182, 2, 109, 182, 3, 219, 42, 89, 180, 3, 213, 4, 100, 181, 3, 213, 132, 2, 1, 167, 255, 196, 177]
abbrev dktX0_rulesAt_4 : List UInt8 := dkwX0_rulesAt_4 ++ []
def dkwX0_rulesAt_3 : List UInt8 := [79, 42, 180, 3, 228, 42, 89, 180, 3, 213, 90, 4, 96, 181, 3, 213, 28, 79, 42, 42, 27, 28]
abbrev dktX0_rulesAt_3 : List UInt8 := dkwX0_rulesAt_3 ++ dktX0_rulesAt_4
def dkwX0_rulesAt_2 : List UInt8 := [167, 255, 212, 3, 61, 28, 42, 180, 2, 66, 27, 46, 162, 0, 56, 42, 180, 3, 225, 42, 180, 3, 213, 27]
abbrev dktX0_rulesAt_2 : List UInt8 := dkwX0_rulesAt_2 ++ dktX0_rulesAt_3
def dkwX0_rulesAt_1 : List UInt8 := [42, 180, 1, 91, 29, 46, 42, 180, 3, 216, 160, 0, 9, 42, 29, 27, 182, 3, 222, 132, 2, 1]
abbrev dktX0_rulesAt_1 : List UInt8 := dkwX0_rulesAt_1 ++ dktX0_rulesAt_2
def dkwX0_rulesAt_0 : List UInt8 := [3, 61, 28, 42, 180, 0, 160, 162, 0, 42, 16, 40, 28, 96, 62, 42, 180, 3, 216, 16, 254, 159, 0, 16]
abbrev dktX0_rulesAt_0 : List UInt8 := dkwX0_rulesAt_0 ++ dktX0_rulesAt_1
theorem dksX0_rulesAt_0 : cX0_rulesAt.data.toList.drop 0 = dktX0_rulesAt_0 := by decide +kernel
theorem dksX0_rulesAt_1 : cX0_rulesAt.data.toList.drop 24 = dktX0_rulesAt_1 := dk_seg dksX0_rulesAt_0 24 rfl rfl
theorem dksX0_rulesAt_2 : cX0_rulesAt.data.toList.drop 46 = dktX0_rulesAt_2 := dk_seg dksX0_rulesAt_1 22 rfl rfl
theorem dksX0_rulesAt_3 : cX0_rulesAt.data.toList.drop 70 = dktX0_rulesAt_3 := dk_seg dksX0_rulesAt_2 24 rfl rfl
theorem dksX0_rulesAt_4 : cX0_rulesAt.data.toList.drop 92 = dktX0_rulesAt_4 := dk_seg dksX0_rulesAt_3 22 rfl rfl
theorem dX0_rulesAt_0 : decode cX0_rulesAt 0 = .ok (.iconst 0, 1) := dk_3 (dk_at dksX0_rulesAt_0 0 rfl rfl)
theorem dX0_rulesAt_1 : decode cX0_rulesAt 1 = .ok (.istore_n 2, 1) := dk_61 (dk_at dksX0_rulesAt_0 1 rfl rfl)
theorem dX0_rulesAt_2 : decode cX0_rulesAt 2 = .ok (.iload_n 2, 1) := dk_28 (dk_at dksX0_rulesAt_0 2 rfl rfl)
theorem dX0_rulesAt_3 : decode cX0_rulesAt 3 = .ok (.aload_n 0, 1) := dk_42 (dk_at dksX0_rulesAt_0 3 rfl rfl)
theorem dX0_rulesAt_4 : decode cX0_rulesAt 4 = .ok (.getfield 160, 3) := dk_180 0 160 (dk_at dksX0_rulesAt_0 4 rfl rfl)
theorem dX0_rulesAt_7 : decode cX0_rulesAt 7 = .ok (.if_icmp .ge 42, 3) := dk_162 0 42 (dk_at dksX0_rulesAt_0 7 rfl rfl)
theorem dX0_rulesAt_10 : decode cX0_rulesAt 10 = .ok (.bipush 40, 2) := dk_16 40 (dk_at dksX0_rulesAt_0 10 rfl rfl)
theorem dX0_rulesAt_12 : decode cX0_rulesAt 12 = .ok (.iload_n 2, 1) := dk_28 (dk_at dksX0_rulesAt_0 12 rfl rfl)
theorem dX0_rulesAt_13 : decode cX0_rulesAt 13 = .ok (.iadd, 1) := dk_96 (dk_at dksX0_rulesAt_0 13 rfl rfl)
theorem dX0_rulesAt_14 : decode cX0_rulesAt 14 = .ok (.istore_n 3, 1) := dk_62 (dk_at dksX0_rulesAt_0 14 rfl rfl)
theorem dX0_rulesAt_15 : decode cX0_rulesAt 15 = .ok (.aload_n 0, 1) := dk_42 (dk_at dksX0_rulesAt_0 15 rfl rfl)
theorem dX0_rulesAt_16 : decode cX0_rulesAt 16 = .ok (.getfield 984, 3) := dk_180 3 216 (dk_at dksX0_rulesAt_0 16 rfl rfl)
theorem dX0_rulesAt_19 : decode cX0_rulesAt 19 = .ok (.bipush (-2), 2) := dk_16 254 (dk_at dksX0_rulesAt_0 19 rfl rfl)
theorem dX0_rulesAt_21 : decode cX0_rulesAt 21 = .ok (.if_icmp .eq 16, 3) := dk_159 0 16 (dk_at dksX0_rulesAt_0 21 rfl rfl)
theorem dX0_rulesAt_24 : decode cX0_rulesAt 24 = .ok (.aload_n 0, 1) := dk_42 (dk_at dksX0_rulesAt_1 0 rfl rfl)
theorem dX0_rulesAt_25 : decode cX0_rulesAt 25 = .ok (.getfield 347, 3) := dk_180 1 91 (dk_at dksX0_rulesAt_1 1 rfl rfl)
theorem dX0_rulesAt_28 : decode cX0_rulesAt 28 = .ok (.iload_n 3, 1) := dk_29 (dk_at dksX0_rulesAt_1 4 rfl rfl)
theorem dX0_rulesAt_29 : decode cX0_rulesAt 29 = .ok (.iaload, 1) := dk_46 (dk_at dksX0_rulesAt_1 5 rfl rfl)
theorem dX0_rulesAt_30 : decode cX0_rulesAt 30 = .ok (.aload_n 0, 1) := dk_42 (dk_at dksX0_rulesAt_1 6 rfl rfl)
theorem dX0_rulesAt_31 : decode cX0_rulesAt 31 = .ok (.getfield 984, 3) := dk_180 3 216 (dk_at dksX0_rulesAt_1 7 rfl rfl)
theorem dX0_rulesAt_34 : decode cX0_rulesAt 34 = .ok (.if_icmp .ne 9, 3) := dk_160 0 9 (dk_at dksX0_rulesAt_1 10 rfl rfl)
theorem dX0_rulesAt_37 : decode cX0_rulesAt 37 = .ok (.aload_n 0, 1) := dk_42 (dk_at dksX0_rulesAt_1 13 rfl rfl)
theorem dX0_rulesAt_38 : decode cX0_rulesAt 38 = .ok (.iload_n 3, 1) := dk_29 (dk_at dksX0_rulesAt_1 14 rfl rfl)
theorem dX0_rulesAt_39 : decode cX0_rulesAt 39 = .ok (.iload_n 1, 1) := dk_27 (dk_at dksX0_rulesAt_1 15 rfl rfl)
theorem dX0_rulesAt_40 : decode cX0_rulesAt 40 = .ok (.invokevirtual 990, 3) := dk_182 3 222 (dk_at dksX0_rulesAt_1 16 rfl rfl)
theorem dX0_rulesAt_43 : decode cX0_rulesAt 43 = .ok (.iinc 2 1, 3) := dk_132 2 1 (dk_at dksX0_rulesAt_1 19 rfl rfl)
theorem dX0_rulesAt_46 : decode cX0_rulesAt 46 = .ok (.goto (-44), 3) := dk_167 255 212 (dk_at dksX0_rulesAt_2 0 rfl rfl)
theorem dX0_rulesAt_49 : decode cX0_rulesAt 49 = .ok (.iconst 0, 1) := dk_3 (dk_at dksX0_rulesAt_2 3 rfl rfl)
theorem dX0_rulesAt_50 : decode cX0_rulesAt 50 = .ok (.istore_n 2, 1) := dk_61 (dk_at dksX0_rulesAt_2 4 rfl rfl)
theorem dX0_rulesAt_51 : decode cX0_rulesAt 51 = .ok (.iload_n 2, 1) := dk_28 (dk_at dksX0_rulesAt_2 5 rfl rfl)
theorem dX0_rulesAt_52 : decode cX0_rulesAt 52 = .ok (.aload_n 0, 1) := dk_42 (dk_at dksX0_rulesAt_2 6 rfl rfl)
theorem dX0_rulesAt_53 : decode cX0_rulesAt 53 = .ok (.getfield 578, 3) := dk_180 2 66 (dk_at dksX0_rulesAt_2 7 rfl rfl)
theorem dX0_rulesAt_56 : decode cX0_rulesAt 56 = .ok (.iload_n 1, 1) := dk_27 (dk_at dksX0_rulesAt_2 10 rfl rfl)
theorem dX0_rulesAt_57 : decode cX0_rulesAt 57 = .ok (.iaload, 1) := dk_46 (dk_at dksX0_rulesAt_2 11 rfl rfl)
theorem dX0_rulesAt_58 : decode cX0_rulesAt 58 = .ok (.if_icmp .ge 56, 3) := dk_162 0 56 (dk_at dksX0_rulesAt_2 12 rfl rfl)
theorem dX0_rulesAt_61 : decode cX0_rulesAt 61 = .ok (.aload_n 0, 1) := dk_42 (dk_at dksX0_rulesAt_2 15 rfl rfl)
theorem dX0_rulesAt_62 : decode cX0_rulesAt 62 = .ok (.getfield 993, 3) := dk_180 3 225 (dk_at dksX0_rulesAt_2 16 rfl rfl)
theorem dX0_rulesAt_65 : decode cX0_rulesAt 65 = .ok (.aload_n 0, 1) := dk_42 (dk_at dksX0_rulesAt_2 19 rfl rfl)
theorem dX0_rulesAt_66 : decode cX0_rulesAt 66 = .ok (.getfield 981, 3) := dk_180 3 213 (dk_at dksX0_rulesAt_2 20 rfl rfl)
theorem dX0_rulesAt_69 : decode cX0_rulesAt 69 = .ok (.iload_n 1, 1) := dk_27 (dk_at dksX0_rulesAt_2 23 rfl rfl)
theorem dX0_rulesAt_70 : decode cX0_rulesAt 70 = .ok (.iastore, 1) := dk_79 (dk_at dksX0_rulesAt_3 0 rfl rfl)
theorem dX0_rulesAt_71 : decode cX0_rulesAt 71 = .ok (.aload_n 0, 1) := dk_42 (dk_at dksX0_rulesAt_3 1 rfl rfl)
theorem dX0_rulesAt_72 : decode cX0_rulesAt 72 = .ok (.getfield 996, 3) := dk_180 3 228 (dk_at dksX0_rulesAt_3 2 rfl rfl)
theorem dX0_rulesAt_75 : decode cX0_rulesAt 75 = .ok (.aload_n 0, 1) := dk_42 (dk_at dksX0_rulesAt_3 5 rfl rfl)
theorem dX0_rulesAt_76 : decode cX0_rulesAt 76 = .ok (.dup, 1) := dk_89 (dk_at dksX0_rulesAt_3 6 rfl rfl)
theorem dX0_rulesAt_77 : decode cX0_rulesAt 77 = .ok (.getfield 981, 3) := dk_180 3 213 (dk_at dksX0_rulesAt_3 7 rfl rfl)
theorem dX0_rulesAt_80 : decode cX0_rulesAt 80 = .ok (.dup_x1, 1) := dk_90 (dk_at dksX0_rulesAt_3 10 rfl rfl)
theorem dX0_rulesAt_81 : decode cX0_rulesAt 81 = .ok (.iconst 1, 1) := dk_4 (dk_at dksX0_rulesAt_3 11 rfl rfl)
theorem dX0_rulesAt_82 : decode cX0_rulesAt 82 = .ok (.iadd, 1) := dk_96 (dk_at dksX0_rulesAt_3 12 rfl rfl)
theorem dX0_rulesAt_83 : decode cX0_rulesAt 83 = .ok (.putfield 981, 3) := dk_181 3 213 (dk_at dksX0_rulesAt_3 13 rfl rfl)
theorem dX0_rulesAt_86 : decode cX0_rulesAt 86 = .ok (.iload_n 2, 1) := dk_28 (dk_at dksX0_rulesAt_3 16 rfl rfl)
theorem dX0_rulesAt_87 : decode cX0_rulesAt 87 = .ok (.iastore, 1) := dk_79 (dk_at dksX0_rulesAt_3 17 rfl rfl)
theorem dX0_rulesAt_88 : decode cX0_rulesAt 88 = .ok (.aload_n 0, 1) := dk_42 (dk_at dksX0_rulesAt_3 18 rfl rfl)
theorem dX0_rulesAt_89 : decode cX0_rulesAt 89 = .ok (.aload_n 0, 1) := dk_42 (dk_at dksX0_rulesAt_3 19 rfl rfl)
theorem dX0_rulesAt_90 : decode cX0_rulesAt 90 = .ok (.iload_n 1, 1) := dk_27 (dk_at dksX0_rulesAt_3 20 rfl rfl)
theorem dX0_rulesAt_91 : decode cX0_rulesAt 91 = .ok (.iload_n 2, 1) := dk_28 (dk_at dksX0_rulesAt_3 21 rfl rfl)
theorem dX0_rulesAt_92 : decode cX0_rulesAt 92 = .ok (.invokevirtual 621, 3) := dk_182 2 109 (dk_at dksX0_rulesAt_4 0 rfl rfl)
theorem dX0_rulesAt_95 : decode cX0_rulesAt 95 = .ok (.invokevirtual 987, 3) := dk_182 3 219 (dk_at dksX0_rulesAt_4 3 rfl rfl)
theorem dX0_rulesAt_98 : decode cX0_rulesAt 98 = .ok (.aload_n 0, 1) := dk_42 (dk_at dksX0_rulesAt_4 6 rfl rfl)
theorem dX0_rulesAt_99 : decode cX0_rulesAt 99 = .ok (.dup, 1) := dk_89 (dk_at dksX0_rulesAt_4 7 rfl rfl)
theorem dX0_rulesAt_100 : decode cX0_rulesAt 100 = .ok (.getfield 981, 3) := dk_180 3 213 (dk_at dksX0_rulesAt_4 8 rfl rfl)
theorem dX0_rulesAt_103 : decode cX0_rulesAt 103 = .ok (.iconst 1, 1) := dk_4 (dk_at dksX0_rulesAt_4 11 rfl rfl)
theorem dX0_rulesAt_104 : decode cX0_rulesAt 104 = .ok (.isub, 1) := dk_100 (dk_at dksX0_rulesAt_4 12 rfl rfl)
theorem dX0_rulesAt_105 : decode cX0_rulesAt 105 = .ok (.putfield 981, 3) := dk_181 3 213 (dk_at dksX0_rulesAt_4 13 rfl rfl)
theorem dX0_rulesAt_108 : decode cX0_rulesAt 108 = .ok (.iinc 2 1, 3) := dk_132 2 1 (dk_at dksX0_rulesAt_4 16 rfl rfl)
theorem dX0_rulesAt_111 : decode cX0_rulesAt 111 = .ok (.goto (-60), 3) := dk_167 255 196 (dk_at dksX0_rulesAt_4 19 rfl rfl)
theorem dX0_rulesAt_114 : decode cX0_rulesAt 114 = .ok (.return_, 1) := dk_177 (dk_at dksX0_rulesAt_4 22 rfl rfl)
abbrev cX0_applyRule : ByteArray := prog_1_method_146_code
def yX0_applyRule : MethodName := ⟨RX0, "applyRule", "(II)V"⟩
def dkwX0_applyRule_3 : List UInt8 := [177]
abbrev dktX0_applyRule_3 : List UInt8 := dkwX0_applyRule_3 ++ []
def dkwX0_applyRule_2 : List UInt8 := [182, 3, 177, 42, 27, 3, 29, 21, 5, 96, 182, 3, 231, 132, 5, 1, 167, 255, 220, 42, 29, 181, 3, 78]
abbrev dktX0_applyRule_2 : List UInt8 := dkwX0_applyRule_2 ++ dktX0_applyRule_3
def dkwX0_applyRule_1 : List UInt8 := [54, 5, 21, 5, 21, 4, 162, 0, 35, 42, 29, 21, 4, 96, 181, 3, 78, 42, 29, 21, 5, 96]
abbrev dktX0_applyRule_1 : List UInt8 := dkwX0_applyRule_1 ++ dktX0_applyRule_2
def dkwX0_applyRule_0 : List UInt8 := [42, 182, 3, 170, 42, 180, 3, 78, 62, 42, 42, 180, 2, 183, 27, 46, 28, 4, 182, 3, 173, 54, 4, 3]
abbrev dktX0_applyRule_0 : List UInt8 := dkwX0_applyRule_0 ++ dktX0_applyRule_1
theorem dksX0_applyRule_0 : cX0_applyRule.data.toList.drop 0 = dktX0_applyRule_0 := by decide +kernel
theorem dksX0_applyRule_1 : cX0_applyRule.data.toList.drop 24 = dktX0_applyRule_1 := dk_seg dksX0_applyRule_0 24 rfl rfl
theorem dksX0_applyRule_2 : cX0_applyRule.data.toList.drop 46 = dktX0_applyRule_2 := dk_seg dksX0_applyRule_1 22 rfl rfl
theorem dksX0_applyRule_3 : cX0_applyRule.data.toList.drop 70 = dktX0_applyRule_3 := dk_seg dksX0_applyRule_2 24 rfl rfl
theorem dX0_applyRule_0 : decode cX0_applyRule 0 = .ok (.aload_n 0, 1) := dk_42 (dk_at dksX0_applyRule_0 0 rfl rfl)
theorem dX0_applyRule_1 : decode cX0_applyRule 1 = .ok (.invokevirtual 938, 3) := dk_182 3 170 (dk_at dksX0_applyRule_0 1 rfl rfl)
theorem dX0_applyRule_4 : decode cX0_applyRule 4 = .ok (.aload_n 0, 1) := dk_42 (dk_at dksX0_applyRule_0 4 rfl rfl)
theorem dX0_applyRule_5 : decode cX0_applyRule 5 = .ok (.getfield 846, 3) := dk_180 3 78 (dk_at dksX0_applyRule_0 5 rfl rfl)
theorem dX0_applyRule_8 : decode cX0_applyRule 8 = .ok (.istore_n 3, 1) := dk_62 (dk_at dksX0_applyRule_0 8 rfl rfl)
theorem dX0_applyRule_9 : decode cX0_applyRule 9 = .ok (.aload_n 0, 1) := dk_42 (dk_at dksX0_applyRule_0 9 rfl rfl)
theorem dX0_applyRule_10 : decode cX0_applyRule 10 = .ok (.aload_n 0, 1) := dk_42 (dk_at dksX0_applyRule_0 10 rfl rfl)
theorem dX0_applyRule_11 : decode cX0_applyRule 11 = .ok (.getfield 695, 3) := dk_180 2 183 (dk_at dksX0_applyRule_0 11 rfl rfl)
theorem dX0_applyRule_14 : decode cX0_applyRule 14 = .ok (.iload_n 1, 1) := dk_27 (dk_at dksX0_applyRule_0 14 rfl rfl)
theorem dX0_applyRule_15 : decode cX0_applyRule 15 = .ok (.iaload, 1) := dk_46 (dk_at dksX0_applyRule_0 15 rfl rfl)
theorem dX0_applyRule_16 : decode cX0_applyRule 16 = .ok (.iload_n 2, 1) := dk_28 (dk_at dksX0_applyRule_0 16 rfl rfl)
theorem dX0_applyRule_17 : decode cX0_applyRule 17 = .ok (.iconst 1, 1) := dk_4 (dk_at dksX0_applyRule_0 17 rfl rfl)
theorem dX0_applyRule_18 : decode cX0_applyRule 18 = .ok (.invokevirtual 941, 3) := dk_182 3 173 (dk_at dksX0_applyRule_0 18 rfl rfl)
theorem dX0_applyRule_21 : decode cX0_applyRule 21 = .ok (.istore 4, 2) := dk_54 4 (dk_at dksX0_applyRule_0 21 rfl rfl)
theorem dX0_applyRule_23 : decode cX0_applyRule 23 = .ok (.iconst 0, 1) := dk_3 (dk_at dksX0_applyRule_0 23 rfl rfl)
theorem dX0_applyRule_24 : decode cX0_applyRule 24 = .ok (.istore 5, 2) := dk_54 5 (dk_at dksX0_applyRule_1 0 rfl rfl)
theorem dX0_applyRule_26 : decode cX0_applyRule 26 = .ok (.iload 5, 2) := dk_21 5 (dk_at dksX0_applyRule_1 2 rfl rfl)
theorem dX0_applyRule_28 : decode cX0_applyRule 28 = .ok (.iload 4, 2) := dk_21 4 (dk_at dksX0_applyRule_1 4 rfl rfl)
theorem dX0_applyRule_30 : decode cX0_applyRule 30 = .ok (.if_icmp .ge 35, 3) := dk_162 0 35 (dk_at dksX0_applyRule_1 6 rfl rfl)
theorem dX0_applyRule_33 : decode cX0_applyRule 33 = .ok (.aload_n 0, 1) := dk_42 (dk_at dksX0_applyRule_1 9 rfl rfl)
theorem dX0_applyRule_34 : decode cX0_applyRule 34 = .ok (.iload_n 3, 1) := dk_29 (dk_at dksX0_applyRule_1 10 rfl rfl)
theorem dX0_applyRule_35 : decode cX0_applyRule 35 = .ok (.iload 4, 2) := dk_21 4 (dk_at dksX0_applyRule_1 11 rfl rfl)
theorem dX0_applyRule_37 : decode cX0_applyRule 37 = .ok (.iadd, 1) := dk_96 (dk_at dksX0_applyRule_1 13 rfl rfl)
theorem dX0_applyRule_38 : decode cX0_applyRule 38 = .ok (.putfield 846, 3) := dk_181 3 78 (dk_at dksX0_applyRule_1 14 rfl rfl)
theorem dX0_applyRule_41 : decode cX0_applyRule 41 = .ok (.aload_n 0, 1) := dk_42 (dk_at dksX0_applyRule_1 17 rfl rfl)
theorem dX0_applyRule_42 : decode cX0_applyRule 42 = .ok (.iload_n 3, 1) := dk_29 (dk_at dksX0_applyRule_1 18 rfl rfl)
theorem dX0_applyRule_43 : decode cX0_applyRule 43 = .ok (.iload 5, 2) := dk_21 5 (dk_at dksX0_applyRule_1 19 rfl rfl)
theorem dX0_applyRule_45 : decode cX0_applyRule 45 = .ok (.iadd, 1) := dk_96 (dk_at dksX0_applyRule_1 21 rfl rfl)
theorem dX0_applyRule_46 : decode cX0_applyRule 46 = .ok (.invokevirtual 945, 3) := dk_182 3 177 (dk_at dksX0_applyRule_2 0 rfl rfl)
theorem dX0_applyRule_49 : decode cX0_applyRule 49 = .ok (.aload_n 0, 1) := dk_42 (dk_at dksX0_applyRule_2 3 rfl rfl)
theorem dX0_applyRule_50 : decode cX0_applyRule 50 = .ok (.iload_n 1, 1) := dk_27 (dk_at dksX0_applyRule_2 4 rfl rfl)
theorem dX0_applyRule_51 : decode cX0_applyRule 51 = .ok (.iconst 0, 1) := dk_3 (dk_at dksX0_applyRule_2 5 rfl rfl)
theorem dX0_applyRule_52 : decode cX0_applyRule 52 = .ok (.iload_n 3, 1) := dk_29 (dk_at dksX0_applyRule_2 6 rfl rfl)
theorem dX0_applyRule_53 : decode cX0_applyRule 53 = .ok (.iload 5, 2) := dk_21 5 (dk_at dksX0_applyRule_2 7 rfl rfl)
theorem dX0_applyRule_55 : decode cX0_applyRule 55 = .ok (.iadd, 1) := dk_96 (dk_at dksX0_applyRule_2 9 rfl rfl)
theorem dX0_applyRule_56 : decode cX0_applyRule 56 = .ok (.invokevirtual 999, 3) := dk_182 3 231 (dk_at dksX0_applyRule_2 10 rfl rfl)
theorem dX0_applyRule_59 : decode cX0_applyRule 59 = .ok (.iinc 5 1, 3) := dk_132 5 1 (dk_at dksX0_applyRule_2 13 rfl rfl)
theorem dX0_applyRule_62 : decode cX0_applyRule 62 = .ok (.goto (-36), 3) := dk_167 255 220 (dk_at dksX0_applyRule_2 16 rfl rfl)
theorem dX0_applyRule_65 : decode cX0_applyRule 65 = .ok (.aload_n 0, 1) := dk_42 (dk_at dksX0_applyRule_2 19 rfl rfl)
theorem dX0_applyRule_66 : decode cX0_applyRule 66 = .ok (.iload_n 3, 1) := dk_29 (dk_at dksX0_applyRule_2 20 rfl rfl)
theorem dX0_applyRule_67 : decode cX0_applyRule 67 = .ok (.putfield 846, 3) := dk_181 3 78 (dk_at dksX0_applyRule_2 21 rfl rfl)
theorem dX0_applyRule_70 : decode cX0_applyRule 70 = .ok (.return_, 1) := dk_177 (dk_at dksX0_applyRule_3 0 rfl rfl)
abbrev cX0_allWays : ByteArray := prog_1_method_147_code
def yX0_allWays : MethodName := ⟨RX0, "allWays", "(III)V"⟩
def dkwX0_allWays_8 : List UInt8 := [181, 3, 78, 42, 182, 3, 204, 177]
abbrev dktX0_allWays_8 : List UInt8 := dkwX0_allWays_8 ++ []
def dkwX0_allWays_7 : List UInt8 := [96, 181, 3, 78, 42, 27, 28, 4, 96, 29, 182, 3, 231, 132, 7, 1, 167, 255, 219, 42, 21, 5]
abbrev dktX0_allWays_7 : List UInt8 := dkwX0_allWays_7 ++ dktX0_allWays_8
def dkwX0_allWays_6 : List UInt8 := [3, 54, 7, 21, 7, 21, 6, 162, 0, 36, 42, 21, 5, 21, 7, 96, 182, 3, 177, 42, 21, 5, 21, 6]
abbrev dktX0_allWays_6 : List UInt8 := dkwX0_allWays_6 ++ dktX0_allWays_7
def dkwX0_allWays_5 : List UInt8 := [96, 29, 182, 3, 231, 177, 42, 180, 3, 78, 54, 5, 42, 182, 3, 201, 42, 21, 4, 182, 3, 192, 54, 6]
abbrev dktX0_allWays_5 : List UInt8 := dkwX0_allWays_5 ++ dktX0_allWays_6
def dkwX0_allWays_4 : List UInt8 := [42, 180, 1, 127, 21, 4, 46, 4, 159, 0, 22, 42, 21, 4, 182, 3, 189, 153, 0, 12, 42, 27, 28, 4]
abbrev dktX0_allWays_4 : List UInt8 := dkwX0_allWays_4 ++ dktX0_allWays_5
def dkwX0_allWays_3 : List UInt8 := [182, 3, 186, 54, 4, 42, 27, 16, 40, 100, 21, 4, 182, 3, 234, 177, 16, 6, 27, 104, 28, 96, 54, 4]
abbrev dktX0_allWays_3 : List UInt8 := dkwX0_allWays_3 ++ dktX0_allWays_4
def dkwX0_allWays_2 : List UInt8 := [180, 2, 192, 27, 46, 182, 3, 134, 42, 180, 3, 84, 16, 62, 29, 104, 16, 60, 96, 4, 96, 46]
abbrev dktX0_allWays_2 : List UInt8 := dkwX0_allWays_2 ++ dktX0_allWays_3
def dkwX0_allWays_1 : List UInt8 := [180, 2, 63, 42, 180, 2, 183, 27, 46, 46, 42, 180, 3, 84, 16, 62, 29, 104, 16, 60, 96, 46, 42, 42]
abbrev dktX0_allWays_1 : List UInt8 := dkwX0_allWays_1 ++ dktX0_allWays_2
def dkwX0_allWays_0 : List UInt8 := [28, 42, 180, 1, 100, 27, 46, 160, 0, 77, 42, 42, 180, 2, 192, 27, 46, 182, 3, 183, 42, 42]
abbrev dktX0_allWays_0 : List UInt8 := dkwX0_allWays_0 ++ dktX0_allWays_1
theorem dksX0_allWays_0 : cX0_allWays.data.toList.drop 0 = dktX0_allWays_0 := by decide +kernel
theorem dksX0_allWays_1 : cX0_allWays.data.toList.drop 22 = dktX0_allWays_1 := dk_seg dksX0_allWays_0 22 rfl rfl
theorem dksX0_allWays_2 : cX0_allWays.data.toList.drop 46 = dktX0_allWays_2 := dk_seg dksX0_allWays_1 24 rfl rfl
theorem dksX0_allWays_3 : cX0_allWays.data.toList.drop 68 = dktX0_allWays_3 := dk_seg dksX0_allWays_2 22 rfl rfl
theorem dksX0_allWays_4 : cX0_allWays.data.toList.drop 92 = dktX0_allWays_4 := dk_seg dksX0_allWays_3 24 rfl rfl
theorem dksX0_allWays_5 : cX0_allWays.data.toList.drop 116 = dktX0_allWays_5 := dk_seg dksX0_allWays_4 24 rfl rfl
theorem dksX0_allWays_6 : cX0_allWays.data.toList.drop 140 = dktX0_allWays_6 := dk_seg dksX0_allWays_5 24 rfl rfl
theorem dksX0_allWays_7 : cX0_allWays.data.toList.drop 164 = dktX0_allWays_7 := dk_seg dksX0_allWays_6 24 rfl rfl
theorem dksX0_allWays_8 : cX0_allWays.data.toList.drop 186 = dktX0_allWays_8 := dk_seg dksX0_allWays_7 22 rfl rfl
theorem dX0_allWays_0 : decode cX0_allWays 0 = .ok (.iload_n 2, 1) := dk_28 (dk_at dksX0_allWays_0 0 rfl rfl)
theorem dX0_allWays_1 : decode cX0_allWays 1 = .ok (.aload_n 0, 1) := dk_42 (dk_at dksX0_allWays_0 1 rfl rfl)
theorem dX0_allWays_2 : decode cX0_allWays 2 = .ok (.getfield 356, 3) := dk_180 1 100 (dk_at dksX0_allWays_0 2 rfl rfl)
theorem dX0_allWays_5 : decode cX0_allWays 5 = .ok (.iload_n 1, 1) := dk_27 (dk_at dksX0_allWays_0 5 rfl rfl)
theorem dX0_allWays_6 : decode cX0_allWays 6 = .ok (.iaload, 1) := dk_46 (dk_at dksX0_allWays_0 6 rfl rfl)
theorem dX0_allWays_7 : decode cX0_allWays 7 = .ok (.if_icmp .ne 77, 3) := dk_160 0 77 (dk_at dksX0_allWays_0 7 rfl rfl)
theorem dX0_allWays_10 : decode cX0_allWays 10 = .ok (.aload_n 0, 1) := dk_42 (dk_at dksX0_allWays_0 10 rfl rfl)
theorem dX0_allWays_11 : decode cX0_allWays 11 = .ok (.aload_n 0, 1) := dk_42 (dk_at dksX0_allWays_0 11 rfl rfl)
theorem dX0_allWays_12 : decode cX0_allWays 12 = .ok (.getfield 704, 3) := dk_180 2 192 (dk_at dksX0_allWays_0 12 rfl rfl)
theorem dX0_allWays_15 : decode cX0_allWays 15 = .ok (.iload_n 1, 1) := dk_27 (dk_at dksX0_allWays_0 15 rfl rfl)
theorem dX0_allWays_16 : decode cX0_allWays 16 = .ok (.iaload, 1) := dk_46 (dk_at dksX0_allWays_0 16 rfl rfl)
theorem dX0_allWays_17 : decode cX0_allWays 17 = .ok (.invokevirtual 951, 3) := dk_182 3 183 (dk_at dksX0_allWays_0 17 rfl rfl)
theorem dX0_allWays_20 : decode cX0_allWays 20 = .ok (.aload_n 0, 1) := dk_42 (dk_at dksX0_allWays_0 20 rfl rfl)
theorem dX0_allWays_21 : decode cX0_allWays 21 = .ok (.aload_n 0, 1) := dk_42 (dk_at dksX0_allWays_0 21 rfl rfl)
theorem dX0_allWays_22 : decode cX0_allWays 22 = .ok (.getfield 575, 3) := dk_180 2 63 (dk_at dksX0_allWays_1 0 rfl rfl)
theorem dX0_allWays_25 : decode cX0_allWays 25 = .ok (.aload_n 0, 1) := dk_42 (dk_at dksX0_allWays_1 3 rfl rfl)
theorem dX0_allWays_26 : decode cX0_allWays 26 = .ok (.getfield 695, 3) := dk_180 2 183 (dk_at dksX0_allWays_1 4 rfl rfl)
theorem dX0_allWays_29 : decode cX0_allWays 29 = .ok (.iload_n 1, 1) := dk_27 (dk_at dksX0_allWays_1 7 rfl rfl)
theorem dX0_allWays_30 : decode cX0_allWays 30 = .ok (.iaload, 1) := dk_46 (dk_at dksX0_allWays_1 8 rfl rfl)
theorem dX0_allWays_31 : decode cX0_allWays 31 = .ok (.iaload, 1) := dk_46 (dk_at dksX0_allWays_1 9 rfl rfl)
theorem dX0_allWays_32 : decode cX0_allWays 32 = .ok (.aload_n 0, 1) := dk_42 (dk_at dksX0_allWays_1 10 rfl rfl)
theorem dX0_allWays_33 : decode cX0_allWays 33 = .ok (.getfield 852, 3) := dk_180 3 84 (dk_at dksX0_allWays_1 11 rfl rfl)
theorem dX0_allWays_36 : decode cX0_allWays 36 = .ok (.bipush 62, 2) := dk_16 62 (dk_at dksX0_allWays_1 14 rfl rfl)
theorem dX0_allWays_38 : decode cX0_allWays 38 = .ok (.iload_n 3, 1) := dk_29 (dk_at dksX0_allWays_1 16 rfl rfl)
theorem dX0_allWays_39 : decode cX0_allWays 39 = .ok (.imul, 1) := dk_104 (dk_at dksX0_allWays_1 17 rfl rfl)
theorem dX0_allWays_40 : decode cX0_allWays 40 = .ok (.bipush 60, 2) := dk_16 60 (dk_at dksX0_allWays_1 18 rfl rfl)
theorem dX0_allWays_42 : decode cX0_allWays 42 = .ok (.iadd, 1) := dk_96 (dk_at dksX0_allWays_1 20 rfl rfl)
theorem dX0_allWays_43 : decode cX0_allWays 43 = .ok (.iaload, 1) := dk_46 (dk_at dksX0_allWays_1 21 rfl rfl)
theorem dX0_allWays_44 : decode cX0_allWays 44 = .ok (.aload_n 0, 1) := dk_42 (dk_at dksX0_allWays_1 22 rfl rfl)
theorem dX0_allWays_45 : decode cX0_allWays 45 = .ok (.aload_n 0, 1) := dk_42 (dk_at dksX0_allWays_1 23 rfl rfl)
theorem dX0_allWays_46 : decode cX0_allWays 46 = .ok (.getfield 704, 3) := dk_180 2 192 (dk_at dksX0_allWays_2 0 rfl rfl)
theorem dX0_allWays_49 : decode cX0_allWays 49 = .ok (.iload_n 1, 1) := dk_27 (dk_at dksX0_allWays_2 3 rfl rfl)
theorem dX0_allWays_50 : decode cX0_allWays 50 = .ok (.iaload, 1) := dk_46 (dk_at dksX0_allWays_2 4 rfl rfl)
theorem dX0_allWays_51 : decode cX0_allWays 51 = .ok (.invokevirtual 902, 3) := dk_182 3 134 (dk_at dksX0_allWays_2 5 rfl rfl)
theorem dX0_allWays_54 : decode cX0_allWays 54 = .ok (.aload_n 0, 1) := dk_42 (dk_at dksX0_allWays_2 8 rfl rfl)
theorem dX0_allWays_55 : decode cX0_allWays 55 = .ok (.getfield 852, 3) := dk_180 3 84 (dk_at dksX0_allWays_2 9 rfl rfl)
theorem dX0_allWays_58 : decode cX0_allWays 58 = .ok (.bipush 62, 2) := dk_16 62 (dk_at dksX0_allWays_2 12 rfl rfl)
theorem dX0_allWays_60 : decode cX0_allWays 60 = .ok (.iload_n 3, 1) := dk_29 (dk_at dksX0_allWays_2 14 rfl rfl)
theorem dX0_allWays_61 : decode cX0_allWays 61 = .ok (.imul, 1) := dk_104 (dk_at dksX0_allWays_2 15 rfl rfl)
theorem dX0_allWays_62 : decode cX0_allWays 62 = .ok (.bipush 60, 2) := dk_16 60 (dk_at dksX0_allWays_2 16 rfl rfl)
theorem dX0_allWays_64 : decode cX0_allWays 64 = .ok (.iadd, 1) := dk_96 (dk_at dksX0_allWays_2 18 rfl rfl)
theorem dX0_allWays_65 : decode cX0_allWays 65 = .ok (.iconst 1, 1) := dk_4 (dk_at dksX0_allWays_2 19 rfl rfl)
theorem dX0_allWays_66 : decode cX0_allWays 66 = .ok (.iadd, 1) := dk_96 (dk_at dksX0_allWays_2 20 rfl rfl)
theorem dX0_allWays_67 : decode cX0_allWays 67 = .ok (.iaload, 1) := dk_46 (dk_at dksX0_allWays_2 21 rfl rfl)
theorem dX0_allWays_68 : decode cX0_allWays 68 = .ok (.invokevirtual 954, 3) := dk_182 3 186 (dk_at dksX0_allWays_3 0 rfl rfl)
theorem dX0_allWays_71 : decode cX0_allWays 71 = .ok (.istore 4, 2) := dk_54 4 (dk_at dksX0_allWays_3 3 rfl rfl)
theorem dX0_allWays_73 : decode cX0_allWays 73 = .ok (.aload_n 0, 1) := dk_42 (dk_at dksX0_allWays_3 5 rfl rfl)
theorem dX0_allWays_74 : decode cX0_allWays 74 = .ok (.iload_n 1, 1) := dk_27 (dk_at dksX0_allWays_3 6 rfl rfl)
theorem dX0_allWays_75 : decode cX0_allWays 75 = .ok (.bipush 40, 2) := dk_16 40 (dk_at dksX0_allWays_3 7 rfl rfl)
theorem dX0_allWays_77 : decode cX0_allWays 77 = .ok (.isub, 1) := dk_100 (dk_at dksX0_allWays_3 9 rfl rfl)
theorem dX0_allWays_78 : decode cX0_allWays 78 = .ok (.iload 4, 2) := dk_21 4 (dk_at dksX0_allWays_3 10 rfl rfl)
theorem dX0_allWays_80 : decode cX0_allWays 80 = .ok (.invokevirtual 1002, 3) := dk_182 3 234 (dk_at dksX0_allWays_3 12 rfl rfl)
theorem dX0_allWays_83 : decode cX0_allWays 83 = .ok (.return_, 1) := dk_177 (dk_at dksX0_allWays_3 15 rfl rfl)
theorem dX0_allWays_84 : decode cX0_allWays 84 = .ok (.bipush 6, 2) := dk_16 6 (dk_at dksX0_allWays_3 16 rfl rfl)
theorem dX0_allWays_86 : decode cX0_allWays 86 = .ok (.iload_n 1, 1) := dk_27 (dk_at dksX0_allWays_3 18 rfl rfl)
theorem dX0_allWays_87 : decode cX0_allWays 87 = .ok (.imul, 1) := dk_104 (dk_at dksX0_allWays_3 19 rfl rfl)
theorem dX0_allWays_88 : decode cX0_allWays 88 = .ok (.iload_n 2, 1) := dk_28 (dk_at dksX0_allWays_3 20 rfl rfl)
theorem dX0_allWays_89 : decode cX0_allWays 89 = .ok (.iadd, 1) := dk_96 (dk_at dksX0_allWays_3 21 rfl rfl)
theorem dX0_allWays_90 : decode cX0_allWays 90 = .ok (.istore 4, 2) := dk_54 4 (dk_at dksX0_allWays_3 22 rfl rfl)
theorem dX0_allWays_92 : decode cX0_allWays 92 = .ok (.aload_n 0, 1) := dk_42 (dk_at dksX0_allWays_4 0 rfl rfl)
theorem dX0_allWays_93 : decode cX0_allWays 93 = .ok (.getfield 383, 3) := dk_180 1 127 (dk_at dksX0_allWays_4 1 rfl rfl)
theorem dX0_allWays_96 : decode cX0_allWays 96 = .ok (.iload 4, 2) := dk_21 4 (dk_at dksX0_allWays_4 4 rfl rfl)
theorem dX0_allWays_98 : decode cX0_allWays 98 = .ok (.iaload, 1) := dk_46 (dk_at dksX0_allWays_4 6 rfl rfl)
theorem dX0_allWays_99 : decode cX0_allWays 99 = .ok (.iconst 1, 1) := dk_4 (dk_at dksX0_allWays_4 7 rfl rfl)
theorem dX0_allWays_100 : decode cX0_allWays 100 = .ok (.if_icmp .eq 22, 3) := dk_159 0 22 (dk_at dksX0_allWays_4 8 rfl rfl)
theorem dX0_allWays_103 : decode cX0_allWays 103 = .ok (.aload_n 0, 1) := dk_42 (dk_at dksX0_allWays_4 11 rfl rfl)
theorem dX0_allWays_104 : decode cX0_allWays 104 = .ok (.iload 4, 2) := dk_21 4 (dk_at dksX0_allWays_4 12 rfl rfl)
theorem dX0_allWays_106 : decode cX0_allWays 106 = .ok (.invokevirtual 957, 3) := dk_182 3 189 (dk_at dksX0_allWays_4 14 rfl rfl)
theorem dX0_allWays_109 : decode cX0_allWays 109 = .ok (.ifCond .eq 12, 3) := dk_153 0 12 (dk_at dksX0_allWays_4 17 rfl rfl)
theorem dX0_allWays_112 : decode cX0_allWays 112 = .ok (.aload_n 0, 1) := dk_42 (dk_at dksX0_allWays_4 20 rfl rfl)
theorem dX0_allWays_113 : decode cX0_allWays 113 = .ok (.iload_n 1, 1) := dk_27 (dk_at dksX0_allWays_4 21 rfl rfl)
theorem dX0_allWays_114 : decode cX0_allWays 114 = .ok (.iload_n 2, 1) := dk_28 (dk_at dksX0_allWays_4 22 rfl rfl)
theorem dX0_allWays_115 : decode cX0_allWays 115 = .ok (.iconst 1, 1) := dk_4 (dk_at dksX0_allWays_4 23 rfl rfl)
theorem dX0_allWays_116 : decode cX0_allWays 116 = .ok (.iadd, 1) := dk_96 (dk_at dksX0_allWays_5 0 rfl rfl)
theorem dX0_allWays_117 : decode cX0_allWays 117 = .ok (.iload_n 3, 1) := dk_29 (dk_at dksX0_allWays_5 1 rfl rfl)
theorem dX0_allWays_118 : decode cX0_allWays 118 = .ok (.invokevirtual 999, 3) := dk_182 3 231 (dk_at dksX0_allWays_5 2 rfl rfl)
theorem dX0_allWays_121 : decode cX0_allWays 121 = .ok (.return_, 1) := dk_177 (dk_at dksX0_allWays_5 5 rfl rfl)
theorem dX0_allWays_122 : decode cX0_allWays 122 = .ok (.aload_n 0, 1) := dk_42 (dk_at dksX0_allWays_5 6 rfl rfl)
theorem dX0_allWays_123 : decode cX0_allWays 123 = .ok (.getfield 846, 3) := dk_180 3 78 (dk_at dksX0_allWays_5 7 rfl rfl)
theorem dX0_allWays_126 : decode cX0_allWays 126 = .ok (.istore 5, 2) := dk_54 5 (dk_at dksX0_allWays_5 10 rfl rfl)
theorem dX0_allWays_128 : decode cX0_allWays 128 = .ok (.aload_n 0, 1) := dk_42 (dk_at dksX0_allWays_5 12 rfl rfl)
theorem dX0_allWays_129 : decode cX0_allWays 129 = .ok (.invokevirtual 969, 3) := dk_182 3 201 (dk_at dksX0_allWays_5 13 rfl rfl)
theorem dX0_allWays_132 : decode cX0_allWays 132 = .ok (.aload_n 0, 1) := dk_42 (dk_at dksX0_allWays_5 16 rfl rfl)
theorem dX0_allWays_133 : decode cX0_allWays 133 = .ok (.iload 4, 2) := dk_21 4 (dk_at dksX0_allWays_5 17 rfl rfl)
theorem dX0_allWays_135 : decode cX0_allWays 135 = .ok (.invokevirtual 960, 3) := dk_182 3 192 (dk_at dksX0_allWays_5 19 rfl rfl)
theorem dX0_allWays_138 : decode cX0_allWays 138 = .ok (.istore 6, 2) := dk_54 6 (dk_at dksX0_allWays_5 22 rfl rfl)
theorem dX0_allWays_140 : decode cX0_allWays 140 = .ok (.iconst 0, 1) := dk_3 (dk_at dksX0_allWays_6 0 rfl rfl)
theorem dX0_allWays_141 : decode cX0_allWays 141 = .ok (.istore 7, 2) := dk_54 7 (dk_at dksX0_allWays_6 1 rfl rfl)
theorem dX0_allWays_143 : decode cX0_allWays 143 = .ok (.iload 7, 2) := dk_21 7 (dk_at dksX0_allWays_6 3 rfl rfl)
theorem dX0_allWays_145 : decode cX0_allWays 145 = .ok (.iload 6, 2) := dk_21 6 (dk_at dksX0_allWays_6 5 rfl rfl)
theorem dX0_allWays_147 : decode cX0_allWays 147 = .ok (.if_icmp .ge 36, 3) := dk_162 0 36 (dk_at dksX0_allWays_6 7 rfl rfl)
theorem dX0_allWays_150 : decode cX0_allWays 150 = .ok (.aload_n 0, 1) := dk_42 (dk_at dksX0_allWays_6 10 rfl rfl)
theorem dX0_allWays_151 : decode cX0_allWays 151 = .ok (.iload 5, 2) := dk_21 5 (dk_at dksX0_allWays_6 11 rfl rfl)
theorem dX0_allWays_153 : decode cX0_allWays 153 = .ok (.iload 7, 2) := dk_21 7 (dk_at dksX0_allWays_6 13 rfl rfl)
theorem dX0_allWays_155 : decode cX0_allWays 155 = .ok (.iadd, 1) := dk_96 (dk_at dksX0_allWays_6 15 rfl rfl)
theorem dX0_allWays_156 : decode cX0_allWays 156 = .ok (.invokevirtual 945, 3) := dk_182 3 177 (dk_at dksX0_allWays_6 16 rfl rfl)
theorem dX0_allWays_159 : decode cX0_allWays 159 = .ok (.aload_n 0, 1) := dk_42 (dk_at dksX0_allWays_6 19 rfl rfl)
theorem dX0_allWays_160 : decode cX0_allWays 160 = .ok (.iload 5, 2) := dk_21 5 (dk_at dksX0_allWays_6 20 rfl rfl)
theorem dX0_allWays_162 : decode cX0_allWays 162 = .ok (.iload 6, 2) := dk_21 6 (dk_at dksX0_allWays_6 22 rfl rfl)
theorem dX0_allWays_164 : decode cX0_allWays 164 = .ok (.iadd, 1) := dk_96 (dk_at dksX0_allWays_7 0 rfl rfl)
theorem dX0_allWays_165 : decode cX0_allWays 165 = .ok (.putfield 846, 3) := dk_181 3 78 (dk_at dksX0_allWays_7 1 rfl rfl)
theorem dX0_allWays_168 : decode cX0_allWays 168 = .ok (.aload_n 0, 1) := dk_42 (dk_at dksX0_allWays_7 4 rfl rfl)
theorem dX0_allWays_169 : decode cX0_allWays 169 = .ok (.iload_n 1, 1) := dk_27 (dk_at dksX0_allWays_7 5 rfl rfl)
theorem dX0_allWays_170 : decode cX0_allWays 170 = .ok (.iload_n 2, 1) := dk_28 (dk_at dksX0_allWays_7 6 rfl rfl)
theorem dX0_allWays_171 : decode cX0_allWays 171 = .ok (.iconst 1, 1) := dk_4 (dk_at dksX0_allWays_7 7 rfl rfl)
theorem dX0_allWays_172 : decode cX0_allWays 172 = .ok (.iadd, 1) := dk_96 (dk_at dksX0_allWays_7 8 rfl rfl)
theorem dX0_allWays_173 : decode cX0_allWays 173 = .ok (.iload_n 3, 1) := dk_29 (dk_at dksX0_allWays_7 9 rfl rfl)
theorem dX0_allWays_174 : decode cX0_allWays 174 = .ok (.invokevirtual 999, 3) := dk_182 3 231 (dk_at dksX0_allWays_7 10 rfl rfl)
theorem dX0_allWays_177 : decode cX0_allWays 177 = .ok (.iinc 7 1, 3) := dk_132 7 1 (dk_at dksX0_allWays_7 13 rfl rfl)
theorem dX0_allWays_180 : decode cX0_allWays 180 = .ok (.goto (-37), 3) := dk_167 255 219 (dk_at dksX0_allWays_7 16 rfl rfl)
theorem dX0_allWays_183 : decode cX0_allWays 183 = .ok (.aload_n 0, 1) := dk_42 (dk_at dksX0_allWays_7 19 rfl rfl)
theorem dX0_allWays_184 : decode cX0_allWays 184 = .ok (.iload 5, 2) := dk_21 5 (dk_at dksX0_allWays_7 20 rfl rfl)
theorem dX0_allWays_186 : decode cX0_allWays 186 = .ok (.putfield 846, 3) := dk_181 3 78 (dk_at dksX0_allWays_8 0 rfl rfl)
theorem dX0_allWays_189 : decode cX0_allWays 189 = .ok (.aload_n 0, 1) := dk_42 (dk_at dksX0_allWays_8 3 rfl rfl)
theorem dX0_allWays_190 : decode cX0_allWays 190 = .ok (.invokevirtual 972, 3) := dk_182 3 204 (dk_at dksX0_allWays_8 4 rfl rfl)
theorem dX0_allWays_193 : decode cX0_allWays 193 = .ok (.return_, 1) := dk_177 (dk_at dksX0_allWays_8 7 rfl rfl)
abbrev cX0_found : ByteArray := prog_1_method_148_code
def yX0_found : MethodName := ⟨RX0, "found", "(II)V"⟩
def dkwX0_found_8 : List UInt8 := [89, 180, 3, 210, 90, 4, 96, 181, 3, 210, 27, 79, 177]
abbrev dktX0_found_8 : List UInt8 := dkwX0_found_8 ++ []
def dkwX0_found_7 : List UInt8 := [160, 0, 9, 42, 5, 182, 2, 83, 191, 42, 180, 3, 237, 42, 180, 3, 210, 29, 79, 42, 180, 3, 239, 42]
abbrev dktX0_found_7 : List UInt8 := dkwX0_found_7 ++ dktX0_found_8
def dkwX0_found_6 : List UInt8 := [180, 3, 237, 21, 4, 46, 29, 160, 0, 4, 177, 132, 4, 1, 167, 255, 232, 42, 180, 3, 210, 16, 60]
abbrev dktX0_found_6 : List UInt8 := dkwX0_found_6 ++ dktX0_found_7
def dkwX0_found_5 : List UInt8 := [62, 42, 182, 3, 204, 42, 182, 3, 167, 3, 54, 4, 21, 4, 42, 180, 3, 210, 162, 0, 21, 42]
abbrev dktX0_found_5 : List UInt8 := dkwX0_found_5 ++ dktX0_found_6
def dkwX0_found_4 : List UInt8 := [182, 2, 134, 62, 132, 4, 255, 167, 255, 164, 42, 29, 182, 3, 183, 42, 182, 3, 201, 42, 29, 182, 3, 155]
abbrev dktX0_found_4 : List UInt8 := dkwX0_found_4 ++ dktX0_found_5
def dkwX0_found_3 : List UInt8 := [182, 2, 131, 132, 6, 1, 167, 255, 203, 42, 42, 180, 2, 63, 42, 180, 3, 225, 21, 4, 46, 46, 21, 5]
abbrev dktX0_found_3 : List UInt8 := dkwX0_found_3 ++ dktX0_found_4
def dkwX0_found_2 : List UInt8 := [21, 4, 46, 160, 0, 7, 29, 167, 0, 16, 42, 42, 180, 3, 225, 21, 4, 46, 21, 6, 182, 2, 109]
abbrev dktX0_found_2 : List UInt8 := dkwX0_found_2 ++ dktX0_found_3
def dkwX0_found_1 : List UInt8 := [21, 6, 42, 180, 2, 66, 42, 180, 3, 225, 21, 4, 46, 46, 162, 0, 42, 42, 21, 6, 42, 180, 3, 228]
abbrev dktX0_found_1 : List UInt8 := dkwX0_found_1 ++ dktX0_found_2
def dkwX0_found_0 : List UInt8 := [28, 62, 42, 180, 3, 213, 4, 100, 54, 4, 21, 4, 155, 0, 93, 42, 180, 2, 99, 54, 5, 3, 54, 6]
abbrev dktX0_found_0 : List UInt8 := dkwX0_found_0 ++ dktX0_found_1
theorem dksX0_found_0 : cX0_found.data.toList.drop 0 = dktX0_found_0 := by decide +kernel
theorem dksX0_found_1 : cX0_found.data.toList.drop 24 = dktX0_found_1 := dk_seg dksX0_found_0 24 rfl rfl
theorem dksX0_found_2 : cX0_found.data.toList.drop 48 = dktX0_found_2 := dk_seg dksX0_found_1 24 rfl rfl
theorem dksX0_found_3 : cX0_found.data.toList.drop 71 = dktX0_found_3 := dk_seg dksX0_found_2 23 rfl rfl
theorem dksX0_found_4 : cX0_found.data.toList.drop 95 = dktX0_found_4 := dk_seg dksX0_found_3 24 rfl rfl
theorem dksX0_found_5 : cX0_found.data.toList.drop 119 = dktX0_found_5 := dk_seg dksX0_found_4 24 rfl rfl
theorem dksX0_found_6 : cX0_found.data.toList.drop 141 = dktX0_found_6 := dk_seg dksX0_found_5 22 rfl rfl
theorem dksX0_found_7 : cX0_found.data.toList.drop 164 = dktX0_found_7 := dk_seg dksX0_found_6 23 rfl rfl
theorem dksX0_found_8 : cX0_found.data.toList.drop 188 = dktX0_found_8 := dk_seg dksX0_found_7 24 rfl rfl
theorem dX0_found_0 : decode cX0_found 0 = .ok (.iload_n 2, 1) := dk_28 (dk_at dksX0_found_0 0 rfl rfl)
theorem dX0_found_1 : decode cX0_found 1 = .ok (.istore_n 3, 1) := dk_62 (dk_at dksX0_found_0 1 rfl rfl)
theorem dX0_found_2 : decode cX0_found 2 = .ok (.aload_n 0, 1) := dk_42 (dk_at dksX0_found_0 2 rfl rfl)
theorem dX0_found_3 : decode cX0_found 3 = .ok (.getfield 981, 3) := dk_180 3 213 (dk_at dksX0_found_0 3 rfl rfl)
theorem dX0_found_6 : decode cX0_found 6 = .ok (.iconst 1, 1) := dk_4 (dk_at dksX0_found_0 6 rfl rfl)
theorem dX0_found_7 : decode cX0_found 7 = .ok (.isub, 1) := dk_100 (dk_at dksX0_found_0 7 rfl rfl)
theorem dX0_found_8 : decode cX0_found 8 = .ok (.istore 4, 2) := dk_54 4 (dk_at dksX0_found_0 8 rfl rfl)
theorem dX0_found_10 : decode cX0_found 10 = .ok (.iload 4, 2) := dk_21 4 (dk_at dksX0_found_0 10 rfl rfl)
theorem dX0_found_12 : decode cX0_found 12 = .ok (.ifCond .lt 93, 3) := dk_155 0 93 (dk_at dksX0_found_0 12 rfl rfl)
theorem dX0_found_15 : decode cX0_found 15 = .ok (.aload_n 0, 1) := dk_42 (dk_at dksX0_found_0 15 rfl rfl)
theorem dX0_found_16 : decode cX0_found 16 = .ok (.getfield 611, 3) := dk_180 2 99 (dk_at dksX0_found_0 16 rfl rfl)
theorem dX0_found_19 : decode cX0_found 19 = .ok (.istore 5, 2) := dk_54 5 (dk_at dksX0_found_0 19 rfl rfl)
theorem dX0_found_21 : decode cX0_found 21 = .ok (.iconst 0, 1) := dk_3 (dk_at dksX0_found_0 21 rfl rfl)
theorem dX0_found_22 : decode cX0_found 22 = .ok (.istore 6, 2) := dk_54 6 (dk_at dksX0_found_0 22 rfl rfl)
theorem dX0_found_24 : decode cX0_found 24 = .ok (.iload 6, 2) := dk_21 6 (dk_at dksX0_found_1 0 rfl rfl)
theorem dX0_found_26 : decode cX0_found 26 = .ok (.aload_n 0, 1) := dk_42 (dk_at dksX0_found_1 2 rfl rfl)
theorem dX0_found_27 : decode cX0_found 27 = .ok (.getfield 578, 3) := dk_180 2 66 (dk_at dksX0_found_1 3 rfl rfl)
theorem dX0_found_30 : decode cX0_found 30 = .ok (.aload_n 0, 1) := dk_42 (dk_at dksX0_found_1 6 rfl rfl)
theorem dX0_found_31 : decode cX0_found 31 = .ok (.getfield 993, 3) := dk_180 3 225 (dk_at dksX0_found_1 7 rfl rfl)
theorem dX0_found_34 : decode cX0_found 34 = .ok (.iload 4, 2) := dk_21 4 (dk_at dksX0_found_1 10 rfl rfl)
theorem dX0_found_36 : decode cX0_found 36 = .ok (.iaload, 1) := dk_46 (dk_at dksX0_found_1 12 rfl rfl)
theorem dX0_found_37 : decode cX0_found 37 = .ok (.iaload, 1) := dk_46 (dk_at dksX0_found_1 13 rfl rfl)
theorem dX0_found_38 : decode cX0_found 38 = .ok (.if_icmp .ge 42, 3) := dk_162 0 42 (dk_at dksX0_found_1 14 rfl rfl)
theorem dX0_found_41 : decode cX0_found 41 = .ok (.aload_n 0, 1) := dk_42 (dk_at dksX0_found_1 17 rfl rfl)
theorem dX0_found_42 : decode cX0_found 42 = .ok (.iload 6, 2) := dk_21 6 (dk_at dksX0_found_1 18 rfl rfl)
theorem dX0_found_44 : decode cX0_found 44 = .ok (.aload_n 0, 1) := dk_42 (dk_at dksX0_found_1 20 rfl rfl)
theorem dX0_found_45 : decode cX0_found 45 = .ok (.getfield 996, 3) := dk_180 3 228 (dk_at dksX0_found_1 21 rfl rfl)
theorem dX0_found_48 : decode cX0_found 48 = .ok (.iload 4, 2) := dk_21 4 (dk_at dksX0_found_2 0 rfl rfl)
theorem dX0_found_50 : decode cX0_found 50 = .ok (.iaload, 1) := dk_46 (dk_at dksX0_found_2 2 rfl rfl)
theorem dX0_found_51 : decode cX0_found 51 = .ok (.if_icmp .ne 7, 3) := dk_160 0 7 (dk_at dksX0_found_2 3 rfl rfl)
theorem dX0_found_54 : decode cX0_found 54 = .ok (.iload_n 3, 1) := dk_29 (dk_at dksX0_found_2 6 rfl rfl)
theorem dX0_found_55 : decode cX0_found 55 = .ok (.goto 16, 3) := dk_167 0 16 (dk_at dksX0_found_2 7 rfl rfl)
theorem dX0_found_58 : decode cX0_found 58 = .ok (.aload_n 0, 1) := dk_42 (dk_at dksX0_found_2 10 rfl rfl)
theorem dX0_found_59 : decode cX0_found 59 = .ok (.aload_n 0, 1) := dk_42 (dk_at dksX0_found_2 11 rfl rfl)
theorem dX0_found_60 : decode cX0_found 60 = .ok (.getfield 993, 3) := dk_180 3 225 (dk_at dksX0_found_2 12 rfl rfl)
theorem dX0_found_63 : decode cX0_found 63 = .ok (.iload 4, 2) := dk_21 4 (dk_at dksX0_found_2 15 rfl rfl)
theorem dX0_found_65 : decode cX0_found 65 = .ok (.iaload, 1) := dk_46 (dk_at dksX0_found_2 17 rfl rfl)
theorem dX0_found_66 : decode cX0_found 66 = .ok (.iload 6, 2) := dk_21 6 (dk_at dksX0_found_2 18 rfl rfl)
theorem dX0_found_68 : decode cX0_found 68 = .ok (.invokevirtual 621, 3) := dk_182 2 109 (dk_at dksX0_found_2 20 rfl rfl)
theorem dX0_found_71 : decode cX0_found 71 = .ok (.invokevirtual 643, 3) := dk_182 2 131 (dk_at dksX0_found_3 0 rfl rfl)
theorem dX0_found_74 : decode cX0_found 74 = .ok (.iinc 6 1, 3) := dk_132 6 1 (dk_at dksX0_found_3 3 rfl rfl)
theorem dX0_found_77 : decode cX0_found 77 = .ok (.goto (-53), 3) := dk_167 255 203 (dk_at dksX0_found_3 6 rfl rfl)
theorem dX0_found_80 : decode cX0_found 80 = .ok (.aload_n 0, 1) := dk_42 (dk_at dksX0_found_3 9 rfl rfl)
theorem dX0_found_81 : decode cX0_found 81 = .ok (.aload_n 0, 1) := dk_42 (dk_at dksX0_found_3 10 rfl rfl)
theorem dX0_found_82 : decode cX0_found 82 = .ok (.getfield 575, 3) := dk_180 2 63 (dk_at dksX0_found_3 11 rfl rfl)
theorem dX0_found_85 : decode cX0_found 85 = .ok (.aload_n 0, 1) := dk_42 (dk_at dksX0_found_3 14 rfl rfl)
theorem dX0_found_86 : decode cX0_found 86 = .ok (.getfield 993, 3) := dk_180 3 225 (dk_at dksX0_found_3 15 rfl rfl)
theorem dX0_found_89 : decode cX0_found 89 = .ok (.iload 4, 2) := dk_21 4 (dk_at dksX0_found_3 18 rfl rfl)
theorem dX0_found_91 : decode cX0_found 91 = .ok (.iaload, 1) := dk_46 (dk_at dksX0_found_3 20 rfl rfl)
theorem dX0_found_92 : decode cX0_found 92 = .ok (.iaload, 1) := dk_46 (dk_at dksX0_found_3 21 rfl rfl)
theorem dX0_found_93 : decode cX0_found 93 = .ok (.iload 5, 2) := dk_21 5 (dk_at dksX0_found_3 22 rfl rfl)
theorem dX0_found_95 : decode cX0_found 95 = .ok (.invokevirtual 646, 3) := dk_182 2 134 (dk_at dksX0_found_4 0 rfl rfl)
theorem dX0_found_98 : decode cX0_found 98 = .ok (.istore_n 3, 1) := dk_62 (dk_at dksX0_found_4 3 rfl rfl)
theorem dX0_found_99 : decode cX0_found 99 = .ok (.iinc 4 (-1), 3) := dk_132 4 255 (dk_at dksX0_found_4 4 rfl rfl)
theorem dX0_found_102 : decode cX0_found 102 = .ok (.goto (-92), 3) := dk_167 255 164 (dk_at dksX0_found_4 7 rfl rfl)
theorem dX0_found_105 : decode cX0_found 105 = .ok (.aload_n 0, 1) := dk_42 (dk_at dksX0_found_4 10 rfl rfl)
theorem dX0_found_106 : decode cX0_found 106 = .ok (.iload_n 3, 1) := dk_29 (dk_at dksX0_found_4 11 rfl rfl)
theorem dX0_found_107 : decode cX0_found 107 = .ok (.invokevirtual 951, 3) := dk_182 3 183 (dk_at dksX0_found_4 12 rfl rfl)
theorem dX0_found_110 : decode cX0_found 110 = .ok (.aload_n 0, 1) := dk_42 (dk_at dksX0_found_4 15 rfl rfl)
theorem dX0_found_111 : decode cX0_found 111 = .ok (.invokevirtual 969, 3) := dk_182 3 201 (dk_at dksX0_found_4 16 rfl rfl)
theorem dX0_found_114 : decode cX0_found 114 = .ok (.aload_n 0, 1) := dk_42 (dk_at dksX0_found_4 19 rfl rfl)
theorem dX0_found_115 : decode cX0_found 115 = .ok (.iload_n 3, 1) := dk_29 (dk_at dksX0_found_4 20 rfl rfl)
theorem dX0_found_116 : decode cX0_found 116 = .ok (.invokevirtual 923, 3) := dk_182 3 155 (dk_at dksX0_found_4 21 rfl rfl)
theorem dX0_found_119 : decode cX0_found 119 = .ok (.istore_n 3, 1) := dk_62 (dk_at dksX0_found_5 0 rfl rfl)
theorem dX0_found_120 : decode cX0_found 120 = .ok (.aload_n 0, 1) := dk_42 (dk_at dksX0_found_5 1 rfl rfl)
theorem dX0_found_121 : decode cX0_found 121 = .ok (.invokevirtual 972, 3) := dk_182 3 204 (dk_at dksX0_found_5 2 rfl rfl)
theorem dX0_found_124 : decode cX0_found 124 = .ok (.aload_n 0, 1) := dk_42 (dk_at dksX0_found_5 5 rfl rfl)
theorem dX0_found_125 : decode cX0_found 125 = .ok (.invokevirtual 935, 3) := dk_182 3 167 (dk_at dksX0_found_5 6 rfl rfl)
theorem dX0_found_128 : decode cX0_found 128 = .ok (.iconst 0, 1) := dk_3 (dk_at dksX0_found_5 9 rfl rfl)
theorem dX0_found_129 : decode cX0_found 129 = .ok (.istore 4, 2) := dk_54 4 (dk_at dksX0_found_5 10 rfl rfl)
theorem dX0_found_131 : decode cX0_found 131 = .ok (.iload 4, 2) := dk_21 4 (dk_at dksX0_found_5 12 rfl rfl)
theorem dX0_found_133 : decode cX0_found 133 = .ok (.aload_n 0, 1) := dk_42 (dk_at dksX0_found_5 14 rfl rfl)
theorem dX0_found_134 : decode cX0_found 134 = .ok (.getfield 978, 3) := dk_180 3 210 (dk_at dksX0_found_5 15 rfl rfl)
theorem dX0_found_137 : decode cX0_found 137 = .ok (.if_icmp .ge 21, 3) := dk_162 0 21 (dk_at dksX0_found_5 18 rfl rfl)
theorem dX0_found_140 : decode cX0_found 140 = .ok (.aload_n 0, 1) := dk_42 (dk_at dksX0_found_5 21 rfl rfl)
theorem dX0_found_141 : decode cX0_found 141 = .ok (.getfield 1005, 3) := dk_180 3 237 (dk_at dksX0_found_6 0 rfl rfl)
theorem dX0_found_144 : decode cX0_found 144 = .ok (.iload 4, 2) := dk_21 4 (dk_at dksX0_found_6 3 rfl rfl)
theorem dX0_found_146 : decode cX0_found 146 = .ok (.iaload, 1) := dk_46 (dk_at dksX0_found_6 5 rfl rfl)
theorem dX0_found_147 : decode cX0_found 147 = .ok (.iload_n 3, 1) := dk_29 (dk_at dksX0_found_6 6 rfl rfl)
theorem dX0_found_148 : decode cX0_found 148 = .ok (.if_icmp .ne 4, 3) := dk_160 0 4 (dk_at dksX0_found_6 7 rfl rfl)
theorem dX0_found_151 : decode cX0_found 151 = .ok (.return_, 1) := dk_177 (dk_at dksX0_found_6 10 rfl rfl)
theorem dX0_found_152 : decode cX0_found 152 = .ok (.iinc 4 1, 3) := dk_132 4 1 (dk_at dksX0_found_6 11 rfl rfl)
theorem dX0_found_155 : decode cX0_found 155 = .ok (.goto (-24), 3) := dk_167 255 232 (dk_at dksX0_found_6 14 rfl rfl)
theorem dX0_found_158 : decode cX0_found 158 = .ok (.aload_n 0, 1) := dk_42 (dk_at dksX0_found_6 17 rfl rfl)
theorem dX0_found_159 : decode cX0_found 159 = .ok (.getfield 978, 3) := dk_180 3 210 (dk_at dksX0_found_6 18 rfl rfl)
theorem dX0_found_162 : decode cX0_found 162 = .ok (.bipush 60, 2) := dk_16 60 (dk_at dksX0_found_6 21 rfl rfl)
theorem dX0_found_164 : decode cX0_found 164 = .ok (.if_icmp .ne 9, 3) := dk_160 0 9 (dk_at dksX0_found_7 0 rfl rfl)
theorem dX0_found_167 : decode cX0_found 167 = .ok (.aload_n 0, 1) := dk_42 (dk_at dksX0_found_7 3 rfl rfl)
theorem dX0_found_168 : decode cX0_found 168 = .ok (.iconst 2, 1) := dk_5 (dk_at dksX0_found_7 4 rfl rfl)
theorem dX0_found_169 : decode cX0_found 169 = .ok (.invokevirtual 595, 3) := dk_182 2 83 (dk_at dksX0_found_7 5 rfl rfl)
theorem dX0_found_172 : decode cX0_found 172 = .ok (.athrow, 1) := dk_191 (dk_at dksX0_found_7 8 rfl rfl)
theorem dX0_found_173 : decode cX0_found 173 = .ok (.aload_n 0, 1) := dk_42 (dk_at dksX0_found_7 9 rfl rfl)
theorem dX0_found_174 : decode cX0_found 174 = .ok (.getfield 1005, 3) := dk_180 3 237 (dk_at dksX0_found_7 10 rfl rfl)
theorem dX0_found_177 : decode cX0_found 177 = .ok (.aload_n 0, 1) := dk_42 (dk_at dksX0_found_7 13 rfl rfl)
theorem dX0_found_178 : decode cX0_found 178 = .ok (.getfield 978, 3) := dk_180 3 210 (dk_at dksX0_found_7 14 rfl rfl)
theorem dX0_found_181 : decode cX0_found 181 = .ok (.iload_n 3, 1) := dk_29 (dk_at dksX0_found_7 17 rfl rfl)
theorem dX0_found_182 : decode cX0_found 182 = .ok (.iastore, 1) := dk_79 (dk_at dksX0_found_7 18 rfl rfl)
theorem dX0_found_183 : decode cX0_found 183 = .ok (.aload_n 0, 1) := dk_42 (dk_at dksX0_found_7 19 rfl rfl)
theorem dX0_found_184 : decode cX0_found 184 = .ok (.getfield 1007, 3) := dk_180 3 239 (dk_at dksX0_found_7 20 rfl rfl)
theorem dX0_found_187 : decode cX0_found 187 = .ok (.aload_n 0, 1) := dk_42 (dk_at dksX0_found_7 23 rfl rfl)
theorem dX0_found_188 : decode cX0_found 188 = .ok (.dup, 1) := dk_89 (dk_at dksX0_found_8 0 rfl rfl)
theorem dX0_found_189 : decode cX0_found 189 = .ok (.getfield 978, 3) := dk_180 3 210 (dk_at dksX0_found_8 1 rfl rfl)
theorem dX0_found_192 : decode cX0_found 192 = .ok (.dup_x1, 1) := dk_90 (dk_at dksX0_found_8 4 rfl rfl)
theorem dX0_found_193 : decode cX0_found 193 = .ok (.iconst 1, 1) := dk_4 (dk_at dksX0_found_8 5 rfl rfl)
theorem dX0_found_194 : decode cX0_found 194 = .ok (.iadd, 1) := dk_96 (dk_at dksX0_found_8 6 rfl rfl)
theorem dX0_found_195 : decode cX0_found 195 = .ok (.putfield 978, 3) := dk_181 3 210 (dk_at dksX0_found_8 7 rfl rfl)
theorem dX0_found_198 : decode cX0_found 198 = .ok (.iload_n 1, 1) := dk_27 (dk_at dksX0_found_8 10 rfl rfl)
theorem dX0_found_199 : decode cX0_found 199 = .ok (.iastore, 1) := dk_79 (dk_at dksX0_found_8 11 rfl rfl)
theorem dX0_found_200 : decode cX0_found 200 = .ok (.return_, 1) := dk_177 (dk_at dksX0_found_8 12 rfl rfl)
abbrev cX0_keepResults : ByteArray := prog_1_method_173_code
def yX0_keepResults : MethodName := ⟨RX0, "keepResults", "(II)V"⟩
def dkwX0_keepResults_0 : List UInt8 := [42, 27, 181, 0, 181, 42, 28, 181, 0, 184, 177]
abbrev dktX0_keepResults_0 : List UInt8 := dkwX0_keepResults_0 ++ []
theorem dksX0_keepResults_0 : cX0_keepResults.data.toList.drop 0 = dktX0_keepResults_0 := by decide +kernel
theorem dX0_keepResults_0 : decode cX0_keepResults 0 = .ok (.aload_n 0, 1) := dk_42 (dk_at dksX0_keepResults_0 0 rfl rfl)
theorem dX0_keepResults_1 : decode cX0_keepResults 1 = .ok (.iload_n 1, 1) := dk_27 (dk_at dksX0_keepResults_0 1 rfl rfl)
theorem dX0_keepResults_2 : decode cX0_keepResults 2 = .ok (.putfield 181, 3) := dk_181 0 181 (dk_at dksX0_keepResults_0 2 rfl rfl)
theorem dX0_keepResults_5 : decode cX0_keepResults 5 = .ok (.aload_n 0, 1) := dk_42 (dk_at dksX0_keepResults_0 5 rfl rfl)
theorem dX0_keepResults_6 : decode cX0_keepResults 6 = .ok (.iload_n 2, 1) := dk_28 (dk_at dksX0_keepResults_0 6 rfl rfl)
theorem dX0_keepResults_7 : decode cX0_keepResults 7 = .ok (.putfield 184, 3) := dk_181 0 184 (dk_at dksX0_keepResults_0 7 rfl rfl)
theorem dX0_keepResults_10 : decode cX0_keepResults 10 = .ok (.return_, 1) := dk_177 (dk_at dksX0_keepResults_0 10 rfl rfl)
abbrev cX0_result : ByteArray := prog_1_method_175_code
def yX0_result : MethodName := ⟨RX0, "result", "(I)I"⟩
def dkwX0_result_2 : List UInt8 := [167, 0, 19, 42, 42, 42, 180, 4, 49, 16, 80, 27, 104, 182, 2, 164, 182, 3, 253, 172]
abbrev dktX0_result_2 : List UInt8 := dkwX0_result_2 ++ []
def dkwX0_result_1 : List UInt8 := [184, 0, 20, 154, 0, 5, 2, 172, 42, 182, 3, 247, 42, 180, 0, 178, 17, 0, 200, 160, 0, 8, 16, 253]
abbrev dktX0_result_1 : List UInt8 := dkwX0_result_1 ++ dktX0_result_2
def dkwX0_result_0 : List UInt8 := [42, 180, 0, 181, 4, 159, 0, 11, 42, 180, 0, 181, 5, 160, 0, 17, 27, 3, 42, 180, 0, 184, 4, 100]
abbrev dktX0_result_0 : List UInt8 := dkwX0_result_0 ++ dktX0_result_1
theorem dksX0_result_0 : cX0_result.data.toList.drop 0 = dktX0_result_0 := by decide +kernel
theorem dksX0_result_1 : cX0_result.data.toList.drop 24 = dktX0_result_1 := dk_seg dksX0_result_0 24 rfl rfl
theorem dksX0_result_2 : cX0_result.data.toList.drop 48 = dktX0_result_2 := dk_seg dksX0_result_1 24 rfl rfl
theorem dX0_result_0 : decode cX0_result 0 = .ok (.aload_n 0, 1) := dk_42 (dk_at dksX0_result_0 0 rfl rfl)
theorem dX0_result_1 : decode cX0_result 1 = .ok (.getfield 181, 3) := dk_180 0 181 (dk_at dksX0_result_0 1 rfl rfl)
theorem dX0_result_4 : decode cX0_result 4 = .ok (.iconst 1, 1) := dk_4 (dk_at dksX0_result_0 4 rfl rfl)
theorem dX0_result_5 : decode cX0_result 5 = .ok (.if_icmp .eq 11, 3) := dk_159 0 11 (dk_at dksX0_result_0 5 rfl rfl)
theorem dX0_result_8 : decode cX0_result 8 = .ok (.aload_n 0, 1) := dk_42 (dk_at dksX0_result_0 8 rfl rfl)
theorem dX0_result_9 : decode cX0_result 9 = .ok (.getfield 181, 3) := dk_180 0 181 (dk_at dksX0_result_0 9 rfl rfl)
theorem dX0_result_12 : decode cX0_result 12 = .ok (.iconst 2, 1) := dk_5 (dk_at dksX0_result_0 12 rfl rfl)
theorem dX0_result_13 : decode cX0_result 13 = .ok (.if_icmp .ne 17, 3) := dk_160 0 17 (dk_at dksX0_result_0 13 rfl rfl)
theorem dX0_result_16 : decode cX0_result 16 = .ok (.iload_n 1, 1) := dk_27 (dk_at dksX0_result_0 16 rfl rfl)
theorem dX0_result_17 : decode cX0_result 17 = .ok (.iconst 0, 1) := dk_3 (dk_at dksX0_result_0 17 rfl rfl)
theorem dX0_result_18 : decode cX0_result 18 = .ok (.aload_n 0, 1) := dk_42 (dk_at dksX0_result_0 18 rfl rfl)
theorem dX0_result_19 : decode cX0_result 19 = .ok (.getfield 184, 3) := dk_180 0 184 (dk_at dksX0_result_0 19 rfl rfl)
theorem dX0_result_22 : decode cX0_result 22 = .ok (.iconst 1, 1) := dk_4 (dk_at dksX0_result_0 22 rfl rfl)
theorem dX0_result_23 : decode cX0_result 23 = .ok (.isub, 1) := dk_100 (dk_at dksX0_result_0 23 rfl rfl)
theorem dX0_result_24 : decode cX0_result 24 = .ok (.invokestatic 20, 3) := dk_184 0 20 (dk_at dksX0_result_1 0 rfl rfl)
theorem dX0_result_27 : decode cX0_result 27 = .ok (.ifCond .ne 5, 3) := dk_154 0 5 (dk_at dksX0_result_1 3 rfl rfl)
theorem dX0_result_30 : decode cX0_result 30 = .ok (.iconst (-1), 1) := dk_2 (dk_at dksX0_result_1 6 rfl rfl)
theorem dX0_result_31 : decode cX0_result 31 = .ok (.ireturn, 1) := dk_172 (dk_at dksX0_result_1 7 rfl rfl)
theorem dX0_result_32 : decode cX0_result 32 = .ok (.aload_n 0, 1) := dk_42 (dk_at dksX0_result_1 8 rfl rfl)
theorem dX0_result_33 : decode cX0_result 33 = .ok (.invokevirtual 1015, 3) := dk_182 3 247 (dk_at dksX0_result_1 9 rfl rfl)
theorem dX0_result_36 : decode cX0_result 36 = .ok (.aload_n 0, 1) := dk_42 (dk_at dksX0_result_1 12 rfl rfl)
theorem dX0_result_37 : decode cX0_result 37 = .ok (.getfield 178, 3) := dk_180 0 178 (dk_at dksX0_result_1 13 rfl rfl)
theorem dX0_result_40 : decode cX0_result 40 = .ok (.sipush 200, 3) := dk_17 0 200 (dk_at dksX0_result_1 16 rfl rfl)
theorem dX0_result_43 : decode cX0_result 43 = .ok (.if_icmp .ne 8, 3) := dk_160 0 8 (dk_at dksX0_result_1 19 rfl rfl)
theorem dX0_result_46 : decode cX0_result 46 = .ok (.bipush (-3), 2) := dk_16 253 (dk_at dksX0_result_1 22 rfl rfl)
theorem dX0_result_48 : decode cX0_result 48 = .ok (.goto 19, 3) := dk_167 0 19 (dk_at dksX0_result_2 0 rfl rfl)
theorem dX0_result_51 : decode cX0_result 51 = .ok (.aload_n 0, 1) := dk_42 (dk_at dksX0_result_2 3 rfl rfl)
theorem dX0_result_52 : decode cX0_result 52 = .ok (.aload_n 0, 1) := dk_42 (dk_at dksX0_result_2 4 rfl rfl)
theorem dX0_result_53 : decode cX0_result 53 = .ok (.aload_n 0, 1) := dk_42 (dk_at dksX0_result_2 5 rfl rfl)
theorem dX0_result_54 : decode cX0_result 54 = .ok (.getfield 1073, 3) := dk_180 4 49 (dk_at dksX0_result_2 6 rfl rfl)
theorem dX0_result_57 : decode cX0_result 57 = .ok (.bipush 80, 2) := dk_16 80 (dk_at dksX0_result_2 9 rfl rfl)
theorem dX0_result_59 : decode cX0_result 59 = .ok (.iload_n 1, 1) := dk_27 (dk_at dksX0_result_2 11 rfl rfl)
theorem dX0_result_60 : decode cX0_result 60 = .ok (.imul, 1) := dk_104 (dk_at dksX0_result_2 12 rfl rfl)
theorem dX0_result_61 : decode cX0_result 61 = .ok (.invokevirtual 676, 3) := dk_182 2 164 (dk_at dksX0_result_2 13 rfl rfl)
theorem dX0_result_64 : decode cX0_result 64 = .ok (.invokevirtual 1021, 3) := dk_182 3 253 (dk_at dksX0_result_2 16 rfl rfl)
theorem dX0_result_67 : decode cX0_result 67 = .ok (.ireturn, 1) := dk_172 (dk_at dksX0_result_2 19 rfl rfl)
abbrev cX0_way : ByteArray := prog_1_method_176_code
def yX0_way : MethodName := ⟨RX0, "way", "(II)I"⟩
def dkwX0_way_5 : List UInt8 := [180, 4, 67, 27, 4, 96, 46, 42, 180, 4, 67, 27, 46, 100, 172]
abbrev dktX0_way_5 : List UInt8 := dkwX0_way_5 ++ []
def dkwX0_way_4 : List UInt8 := [180, 4, 52, 27, 46, 167, 0, 32, 28, 5, 160, 0, 12, 42, 180, 4, 64, 27, 46, 167, 0, 18, 42]
abbrev dktX0_way_4 : List UInt8 := dkwX0_way_4 ++ dktX0_way_5
def dkwX0_way_3 : List UInt8 := [180, 4, 61, 27, 46, 167, 0, 55, 28, 4, 160, 0, 21, 27, 154, 0, 8, 16, 254, 167, 0, 41, 42]
abbrev dktX0_way_3 : List UInt8 := dkwX0_way_3 ++ dktX0_way_4
def dkwX0_way_2 : List UInt8 := [27, 46, 167, 0, 4, 2, 172, 42, 180, 0, 181, 5, 159, 0, 5, 2, 172, 28, 154, 0, 12, 42]
abbrev dktX0_way_2 : List UInt8 := dkwX0_way_2 ++ dktX0_way_3
def dkwX0_way_1 : List UInt8 := [172, 42, 180, 0, 181, 4, 160, 0, 25, 42, 180, 4, 58, 153, 0, 18, 28, 154, 0, 12, 42, 180, 4, 52]
abbrev dktX0_way_1 : List UInt8 := dkwX0_way_1 ++ dktX0_way_2
def dkwX0_way_0 : List UInt8 := [27, 3, 42, 180, 0, 184, 4, 100, 184, 0, 20, 153, 0, 12, 28, 3, 6, 184, 0, 20, 154, 0, 5, 2]
abbrev dktX0_way_0 : List UInt8 := dkwX0_way_0 ++ dktX0_way_1
theorem dksX0_way_0 : cX0_way.data.toList.drop 0 = dktX0_way_0 := by decide +kernel
theorem dksX0_way_1 : cX0_way.data.toList.drop 24 = dktX0_way_1 := dk_seg dksX0_way_0 24 rfl rfl
theorem dksX0_way_2 : cX0_way.data.toList.drop 48 = dktX0_way_2 := dk_seg dksX0_way_1 24 rfl rfl
theorem dksX0_way_3 : cX0_way.data.toList.drop 70 = dktX0_way_3 := dk_seg dksX0_way_2 22 rfl rfl
theorem dksX0_way_4 : cX0_way.data.toList.drop 93 = dktX0_way_4 := dk_seg dksX0_way_3 23 rfl rfl
theorem dksX0_way_5 : cX0_way.data.toList.drop 116 = dktX0_way_5 := dk_seg dksX0_way_4 23 rfl rfl
theorem dX0_way_0 : decode cX0_way 0 = .ok (.iload_n 1, 1) := dk_27 (dk_at dksX0_way_0 0 rfl rfl)
theorem dX0_way_1 : decode cX0_way 1 = .ok (.iconst 0, 1) := dk_3 (dk_at dksX0_way_0 1 rfl rfl)
theorem dX0_way_2 : decode cX0_way 2 = .ok (.aload_n 0, 1) := dk_42 (dk_at dksX0_way_0 2 rfl rfl)
theorem dX0_way_3 : decode cX0_way 3 = .ok (.getfield 184, 3) := dk_180 0 184 (dk_at dksX0_way_0 3 rfl rfl)
theorem dX0_way_6 : decode cX0_way 6 = .ok (.iconst 1, 1) := dk_4 (dk_at dksX0_way_0 6 rfl rfl)
theorem dX0_way_7 : decode cX0_way 7 = .ok (.isub, 1) := dk_100 (dk_at dksX0_way_0 7 rfl rfl)
theorem dX0_way_8 : decode cX0_way 8 = .ok (.invokestatic 20, 3) := dk_184 0 20 (dk_at dksX0_way_0 8 rfl rfl)
theorem dX0_way_11 : decode cX0_way 11 = .ok (.ifCond .eq 12, 3) := dk_153 0 12 (dk_at dksX0_way_0 11 rfl rfl)
theorem dX0_way_14 : decode cX0_way 14 = .ok (.iload_n 2, 1) := dk_28 (dk_at dksX0_way_0 14 rfl rfl)
theorem dX0_way_15 : decode cX0_way 15 = .ok (.iconst 0, 1) := dk_3 (dk_at dksX0_way_0 15 rfl rfl)
theorem dX0_way_16 : decode cX0_way 16 = .ok (.iconst 3, 1) := dk_6 (dk_at dksX0_way_0 16 rfl rfl)
theorem dX0_way_17 : decode cX0_way 17 = .ok (.invokestatic 20, 3) := dk_184 0 20 (dk_at dksX0_way_0 17 rfl rfl)
theorem dX0_way_20 : decode cX0_way 20 = .ok (.ifCond .ne 5, 3) := dk_154 0 5 (dk_at dksX0_way_0 20 rfl rfl)
theorem dX0_way_23 : decode cX0_way 23 = .ok (.iconst (-1), 1) := dk_2 (dk_at dksX0_way_0 23 rfl rfl)
theorem dX0_way_24 : decode cX0_way 24 = .ok (.ireturn, 1) := dk_172 (dk_at dksX0_way_1 0 rfl rfl)
theorem dX0_way_25 : decode cX0_way 25 = .ok (.aload_n 0, 1) := dk_42 (dk_at dksX0_way_1 1 rfl rfl)
theorem dX0_way_26 : decode cX0_way 26 = .ok (.getfield 181, 3) := dk_180 0 181 (dk_at dksX0_way_1 2 rfl rfl)
theorem dX0_way_29 : decode cX0_way 29 = .ok (.iconst 1, 1) := dk_4 (dk_at dksX0_way_1 5 rfl rfl)
theorem dX0_way_30 : decode cX0_way 30 = .ok (.if_icmp .ne 25, 3) := dk_160 0 25 (dk_at dksX0_way_1 6 rfl rfl)
theorem dX0_way_33 : decode cX0_way 33 = .ok (.aload_n 0, 1) := dk_42 (dk_at dksX0_way_1 9 rfl rfl)
theorem dX0_way_34 : decode cX0_way 34 = .ok (.getfield 1082, 3) := dk_180 4 58 (dk_at dksX0_way_1 10 rfl rfl)
theorem dX0_way_37 : decode cX0_way 37 = .ok (.ifCond .eq 18, 3) := dk_153 0 18 (dk_at dksX0_way_1 13 rfl rfl)
theorem dX0_way_40 : decode cX0_way 40 = .ok (.iload_n 2, 1) := dk_28 (dk_at dksX0_way_1 16 rfl rfl)
theorem dX0_way_41 : decode cX0_way 41 = .ok (.ifCond .ne 12, 3) := dk_154 0 12 (dk_at dksX0_way_1 17 rfl rfl)
theorem dX0_way_44 : decode cX0_way 44 = .ok (.aload_n 0, 1) := dk_42 (dk_at dksX0_way_1 20 rfl rfl)
theorem dX0_way_45 : decode cX0_way 45 = .ok (.getfield 1076, 3) := dk_180 4 52 (dk_at dksX0_way_1 21 rfl rfl)
theorem dX0_way_48 : decode cX0_way 48 = .ok (.iload_n 1, 1) := dk_27 (dk_at dksX0_way_2 0 rfl rfl)
theorem dX0_way_49 : decode cX0_way 49 = .ok (.iaload, 1) := dk_46 (dk_at dksX0_way_2 1 rfl rfl)
theorem dX0_way_50 : decode cX0_way 50 = .ok (.goto 4, 3) := dk_167 0 4 (dk_at dksX0_way_2 2 rfl rfl)
theorem dX0_way_53 : decode cX0_way 53 = .ok (.iconst (-1), 1) := dk_2 (dk_at dksX0_way_2 5 rfl rfl)
theorem dX0_way_54 : decode cX0_way 54 = .ok (.ireturn, 1) := dk_172 (dk_at dksX0_way_2 6 rfl rfl)
theorem dX0_way_55 : decode cX0_way 55 = .ok (.aload_n 0, 1) := dk_42 (dk_at dksX0_way_2 7 rfl rfl)
theorem dX0_way_56 : decode cX0_way 56 = .ok (.getfield 181, 3) := dk_180 0 181 (dk_at dksX0_way_2 8 rfl rfl)
theorem dX0_way_59 : decode cX0_way 59 = .ok (.iconst 2, 1) := dk_5 (dk_at dksX0_way_2 11 rfl rfl)
theorem dX0_way_60 : decode cX0_way 60 = .ok (.if_icmp .eq 5, 3) := dk_159 0 5 (dk_at dksX0_way_2 12 rfl rfl)
theorem dX0_way_63 : decode cX0_way 63 = .ok (.iconst (-1), 1) := dk_2 (dk_at dksX0_way_2 15 rfl rfl)
theorem dX0_way_64 : decode cX0_way 64 = .ok (.ireturn, 1) := dk_172 (dk_at dksX0_way_2 16 rfl rfl)
theorem dX0_way_65 : decode cX0_way 65 = .ok (.iload_n 2, 1) := dk_28 (dk_at dksX0_way_2 17 rfl rfl)
theorem dX0_way_66 : decode cX0_way 66 = .ok (.ifCond .ne 12, 3) := dk_154 0 12 (dk_at dksX0_way_2 18 rfl rfl)
theorem dX0_way_69 : decode cX0_way 69 = .ok (.aload_n 0, 1) := dk_42 (dk_at dksX0_way_2 21 rfl rfl)
theorem dX0_way_70 : decode cX0_way 70 = .ok (.getfield 1085, 3) := dk_180 4 61 (dk_at dksX0_way_3 0 rfl rfl)
theorem dX0_way_73 : decode cX0_way 73 = .ok (.iload_n 1, 1) := dk_27 (dk_at dksX0_way_3 3 rfl rfl)
theorem dX0_way_74 : decode cX0_way 74 = .ok (.iaload, 1) := dk_46 (dk_at dksX0_way_3 4 rfl rfl)
theorem dX0_way_75 : decode cX0_way 75 = .ok (.goto 55, 3) := dk_167 0 55 (dk_at dksX0_way_3 5 rfl rfl)
theorem dX0_way_78 : decode cX0_way 78 = .ok (.iload_n 2, 1) := dk_28 (dk_at dksX0_way_3 8 rfl rfl)
theorem dX0_way_79 : decode cX0_way 79 = .ok (.iconst 1, 1) := dk_4 (dk_at dksX0_way_3 9 rfl rfl)
theorem dX0_way_80 : decode cX0_way 80 = .ok (.if_icmp .ne 21, 3) := dk_160 0 21 (dk_at dksX0_way_3 10 rfl rfl)
theorem dX0_way_83 : decode cX0_way 83 = .ok (.iload_n 1, 1) := dk_27 (dk_at dksX0_way_3 13 rfl rfl)
theorem dX0_way_84 : decode cX0_way 84 = .ok (.ifCond .ne 8, 3) := dk_154 0 8 (dk_at dksX0_way_3 14 rfl rfl)
theorem dX0_way_87 : decode cX0_way 87 = .ok (.bipush (-2), 2) := dk_16 254 (dk_at dksX0_way_3 17 rfl rfl)
theorem dX0_way_89 : decode cX0_way 89 = .ok (.goto 41, 3) := dk_167 0 41 (dk_at dksX0_way_3 19 rfl rfl)
theorem dX0_way_92 : decode cX0_way 92 = .ok (.aload_n 0, 1) := dk_42 (dk_at dksX0_way_3 22 rfl rfl)
theorem dX0_way_93 : decode cX0_way 93 = .ok (.getfield 1076, 3) := dk_180 4 52 (dk_at dksX0_way_4 0 rfl rfl)
theorem dX0_way_96 : decode cX0_way 96 = .ok (.iload_n 1, 1) := dk_27 (dk_at dksX0_way_4 3 rfl rfl)
theorem dX0_way_97 : decode cX0_way 97 = .ok (.iaload, 1) := dk_46 (dk_at dksX0_way_4 4 rfl rfl)
theorem dX0_way_98 : decode cX0_way 98 = .ok (.goto 32, 3) := dk_167 0 32 (dk_at dksX0_way_4 5 rfl rfl)
theorem dX0_way_101 : decode cX0_way 101 = .ok (.iload_n 2, 1) := dk_28 (dk_at dksX0_way_4 8 rfl rfl)
theorem dX0_way_102 : decode cX0_way 102 = .ok (.iconst 2, 1) := dk_5 (dk_at dksX0_way_4 9 rfl rfl)
theorem dX0_way_103 : decode cX0_way 103 = .ok (.if_icmp .ne 12, 3) := dk_160 0 12 (dk_at dksX0_way_4 10 rfl rfl)
theorem dX0_way_106 : decode cX0_way 106 = .ok (.aload_n 0, 1) := dk_42 (dk_at dksX0_way_4 13 rfl rfl)
theorem dX0_way_107 : decode cX0_way 107 = .ok (.getfield 1088, 3) := dk_180 4 64 (dk_at dksX0_way_4 14 rfl rfl)
theorem dX0_way_110 : decode cX0_way 110 = .ok (.iload_n 1, 1) := dk_27 (dk_at dksX0_way_4 17 rfl rfl)
theorem dX0_way_111 : decode cX0_way 111 = .ok (.iaload, 1) := dk_46 (dk_at dksX0_way_4 18 rfl rfl)
theorem dX0_way_112 : decode cX0_way 112 = .ok (.goto 18, 3) := dk_167 0 18 (dk_at dksX0_way_4 19 rfl rfl)
theorem dX0_way_115 : decode cX0_way 115 = .ok (.aload_n 0, 1) := dk_42 (dk_at dksX0_way_4 22 rfl rfl)
theorem dX0_way_116 : decode cX0_way 116 = .ok (.getfield 1091, 3) := dk_180 4 67 (dk_at dksX0_way_5 0 rfl rfl)
theorem dX0_way_119 : decode cX0_way 119 = .ok (.iload_n 1, 1) := dk_27 (dk_at dksX0_way_5 3 rfl rfl)
theorem dX0_way_120 : decode cX0_way 120 = .ok (.iconst 1, 1) := dk_4 (dk_at dksX0_way_5 4 rfl rfl)
theorem dX0_way_121 : decode cX0_way 121 = .ok (.iadd, 1) := dk_96 (dk_at dksX0_way_5 5 rfl rfl)
theorem dX0_way_122 : decode cX0_way 122 = .ok (.iaload, 1) := dk_46 (dk_at dksX0_way_5 6 rfl rfl)
theorem dX0_way_123 : decode cX0_way 123 = .ok (.aload_n 0, 1) := dk_42 (dk_at dksX0_way_5 7 rfl rfl)
theorem dX0_way_124 : decode cX0_way 124 = .ok (.getfield 1091, 3) := dk_180 4 67 (dk_at dksX0_way_5 8 rfl rfl)
theorem dX0_way_127 : decode cX0_way 127 = .ok (.iload_n 1, 1) := dk_27 (dk_at dksX0_way_5 11 rfl rfl)
theorem dX0_way_128 : decode cX0_way 128 = .ok (.iaload, 1) := dk_46 (dk_at dksX0_way_5 12 rfl rfl)
theorem dX0_way_129 : decode cX0_way 129 = .ok (.isub, 1) := dk_100 (dk_at dksX0_way_5 13 rfl rfl)
theorem dX0_way_130 : decode cX0_way 130 = .ok (.ireturn, 1) := dk_172 (dk_at dksX0_way_5 14 rfl rfl)
abbrev cX0_states : ByteArray := prog_1_method_177_code
def yX0_states : MethodName := ⟨RX0, "states", "(I)I"⟩
def dkwX0_states_7 : List UInt8 := [44, 182, 4, 39, 172]
abbrev dktX0_states_7 : List UInt8 := dkwX0_states_7 ++ []
def dkwX0_states_6 : List UInt8 := [132, 3, 1, 167, 255, 231, 42, 5, 28, 182, 4, 55, 42, 182, 4, 43, 28, 172, 77, 42, 182, 4, 43, 42]
abbrev dktX0_states_6 : List UInt8 := dkwX0_states_6 ++ dktX0_states_7
def dkwX0_states_5 : List UInt8 := [3, 62, 29, 42, 180, 4, 67, 28, 46, 162, 0, 21, 42, 180, 4, 88, 29, 42, 180, 4, 91, 29, 46, 79]
abbrev dktX0_states_5 : List UInt8 := dkwX0_states_5 ++ dktX0_states_6
def dkwX0_states_4 : List UInt8 := [180, 4, 85, 29, 46, 79, 132, 3, 1, 167, 255, 182, 42, 180, 4, 67, 28, 42, 180, 4, 85, 28, 46, 79]
abbrev dktX0_states_4 : List UInt8 := dkwX0_states_4 ++ dktX0_states_5
def dkwX0_states_3 : List UInt8 := [180, 4, 79, 29, 46, 79, 42, 180, 4, 64, 29, 42, 180, 4, 82, 29, 46, 79, 42, 180, 4, 67, 29, 42]
abbrev dktX0_states_3 : List UInt8 := dkwX0_states_3 ++ dktX0_states_4
def dkwX0_states_2 : List UInt8 := [29, 104, 182, 2, 160, 42, 180, 4, 61, 29, 42, 180, 4, 76, 29, 46, 79, 42, 180, 4, 52, 29, 42]
abbrev dktX0_states_2 : List UInt8 := dkwX0_states_2 ++ dktX0_states_3
def dkwX0_states_1 : List UInt8 := [182, 4, 70, 61, 3, 62, 29, 28, 162, 0, 75, 42, 42, 180, 4, 73, 29, 46, 42, 180, 4, 49, 16, 80]
abbrev dktX0_states_1 : List UInt8 := dkwX0_states_1 ++ dktX0_states_2
def dkwX0_states_0 : List UInt8 := [42, 27, 182, 4, 0, 154, 0, 5, 2, 172, 42, 182, 3, 247, 42, 42, 42, 27, 182, 4, 3, 182, 3, 155]
abbrev dktX0_states_0 : List UInt8 := dkwX0_states_0 ++ dktX0_states_1
theorem dksX0_states_0 : cX0_states.data.toList.drop 0 = dktX0_states_0 := by decide +kernel
theorem dksX0_states_1 : cX0_states.data.toList.drop 24 = dktX0_states_1 := dk_seg dksX0_states_0 24 rfl rfl
theorem dksX0_states_2 : cX0_states.data.toList.drop 48 = dktX0_states_2 := dk_seg dksX0_states_1 24 rfl rfl
theorem dksX0_states_3 : cX0_states.data.toList.drop 71 = dktX0_states_3 := dk_seg dksX0_states_2 23 rfl rfl
theorem dksX0_states_4 : cX0_states.data.toList.drop 95 = dktX0_states_4 := dk_seg dksX0_states_3 24 rfl rfl
theorem dksX0_states_5 : cX0_states.data.toList.drop 119 = dktX0_states_5 := dk_seg dksX0_states_4 24 rfl rfl
theorem dksX0_states_6 : cX0_states.data.toList.drop 143 = dktX0_states_6 := dk_seg dksX0_states_5 24 rfl rfl
theorem dksX0_states_7 : cX0_states.data.toList.drop 167 = dktX0_states_7 := dk_seg dksX0_states_6 24 rfl rfl
theorem dX0_states_0 : decode cX0_states 0 = .ok (.aload_n 0, 1) := dk_42 (dk_at dksX0_states_0 0 rfl rfl)
theorem dX0_states_1 : decode cX0_states 1 = .ok (.iload_n 1, 1) := dk_27 (dk_at dksX0_states_0 1 rfl rfl)
theorem dX0_states_2 : decode cX0_states 2 = .ok (.invokevirtual 1024, 3) := dk_182 4 0 (dk_at dksX0_states_0 2 rfl rfl)
theorem dX0_states_5 : decode cX0_states 5 = .ok (.ifCond .ne 5, 3) := dk_154 0 5 (dk_at dksX0_states_0 5 rfl rfl)
theorem dX0_states_8 : decode cX0_states 8 = .ok (.iconst (-1), 1) := dk_2 (dk_at dksX0_states_0 8 rfl rfl)
theorem dX0_states_9 : decode cX0_states 9 = .ok (.ireturn, 1) := dk_172 (dk_at dksX0_states_0 9 rfl rfl)
theorem dX0_states_10 : decode cX0_states 10 = .ok (.aload_n 0, 1) := dk_42 (dk_at dksX0_states_0 10 rfl rfl)
theorem dX0_states_11 : decode cX0_states 11 = .ok (.invokevirtual 1015, 3) := dk_182 3 247 (dk_at dksX0_states_0 11 rfl rfl)
theorem dX0_states_14 : decode cX0_states 14 = .ok (.aload_n 0, 1) := dk_42 (dk_at dksX0_states_0 14 rfl rfl)
theorem dX0_states_15 : decode cX0_states 15 = .ok (.aload_n 0, 1) := dk_42 (dk_at dksX0_states_0 15 rfl rfl)
theorem dX0_states_16 : decode cX0_states 16 = .ok (.aload_n 0, 1) := dk_42 (dk_at dksX0_states_0 16 rfl rfl)
theorem dX0_states_17 : decode cX0_states 17 = .ok (.iload_n 1, 1) := dk_27 (dk_at dksX0_states_0 17 rfl rfl)
theorem dX0_states_18 : decode cX0_states 18 = .ok (.invokevirtual 1027, 3) := dk_182 4 3 (dk_at dksX0_states_0 18 rfl rfl)
theorem dX0_states_21 : decode cX0_states 21 = .ok (.invokevirtual 923, 3) := dk_182 3 155 (dk_at dksX0_states_0 21 rfl rfl)
theorem dX0_states_24 : decode cX0_states 24 = .ok (.invokevirtual 1094, 3) := dk_182 4 70 (dk_at dksX0_states_1 0 rfl rfl)
theorem dX0_states_27 : decode cX0_states 27 = .ok (.istore_n 2, 1) := dk_61 (dk_at dksX0_states_1 3 rfl rfl)
theorem dX0_states_28 : decode cX0_states 28 = .ok (.iconst 0, 1) := dk_3 (dk_at dksX0_states_1 4 rfl rfl)
theorem dX0_states_29 : decode cX0_states 29 = .ok (.istore_n 3, 1) := dk_62 (dk_at dksX0_states_1 5 rfl rfl)
theorem dX0_states_30 : decode cX0_states 30 = .ok (.iload_n 3, 1) := dk_29 (dk_at dksX0_states_1 6 rfl rfl)
theorem dX0_states_31 : decode cX0_states 31 = .ok (.iload_n 2, 1) := dk_28 (dk_at dksX0_states_1 7 rfl rfl)
theorem dX0_states_32 : decode cX0_states 32 = .ok (.if_icmp .ge 75, 3) := dk_162 0 75 (dk_at dksX0_states_1 8 rfl rfl)
theorem dX0_states_35 : decode cX0_states 35 = .ok (.aload_n 0, 1) := dk_42 (dk_at dksX0_states_1 11 rfl rfl)
theorem dX0_states_36 : decode cX0_states 36 = .ok (.aload_n 0, 1) := dk_42 (dk_at dksX0_states_1 12 rfl rfl)
theorem dX0_states_37 : decode cX0_states 37 = .ok (.getfield 1097, 3) := dk_180 4 73 (dk_at dksX0_states_1 13 rfl rfl)
theorem dX0_states_40 : decode cX0_states 40 = .ok (.iload_n 3, 1) := dk_29 (dk_at dksX0_states_1 16 rfl rfl)
theorem dX0_states_41 : decode cX0_states 41 = .ok (.iaload, 1) := dk_46 (dk_at dksX0_states_1 17 rfl rfl)
theorem dX0_states_42 : decode cX0_states 42 = .ok (.aload_n 0, 1) := dk_42 (dk_at dksX0_states_1 18 rfl rfl)
theorem dX0_states_43 : decode cX0_states 43 = .ok (.getfield 1073, 3) := dk_180 4 49 (dk_at dksX0_states_1 19 rfl rfl)
theorem dX0_states_46 : decode cX0_states 46 = .ok (.bipush 80, 2) := dk_16 80 (dk_at dksX0_states_1 22 rfl rfl)
theorem dX0_states_48 : decode cX0_states 48 = .ok (.iload_n 3, 1) := dk_29 (dk_at dksX0_states_2 0 rfl rfl)
theorem dX0_states_49 : decode cX0_states 49 = .ok (.imul, 1) := dk_104 (dk_at dksX0_states_2 1 rfl rfl)
theorem dX0_states_50 : decode cX0_states 50 = .ok (.invokevirtual 672, 3) := dk_182 2 160 (dk_at dksX0_states_2 2 rfl rfl)
theorem dX0_states_53 : decode cX0_states 53 = .ok (.aload_n 0, 1) := dk_42 (dk_at dksX0_states_2 5 rfl rfl)
theorem dX0_states_54 : decode cX0_states 54 = .ok (.getfield 1085, 3) := dk_180 4 61 (dk_at dksX0_states_2 6 rfl rfl)
theorem dX0_states_57 : decode cX0_states 57 = .ok (.iload_n 3, 1) := dk_29 (dk_at dksX0_states_2 9 rfl rfl)
theorem dX0_states_58 : decode cX0_states 58 = .ok (.aload_n 0, 1) := dk_42 (dk_at dksX0_states_2 10 rfl rfl)
theorem dX0_states_59 : decode cX0_states 59 = .ok (.getfield 1100, 3) := dk_180 4 76 (dk_at dksX0_states_2 11 rfl rfl)
theorem dX0_states_62 : decode cX0_states 62 = .ok (.iload_n 3, 1) := dk_29 (dk_at dksX0_states_2 14 rfl rfl)
theorem dX0_states_63 : decode cX0_states 63 = .ok (.iaload, 1) := dk_46 (dk_at dksX0_states_2 15 rfl rfl)
theorem dX0_states_64 : decode cX0_states 64 = .ok (.iastore, 1) := dk_79 (dk_at dksX0_states_2 16 rfl rfl)
theorem dX0_states_65 : decode cX0_states 65 = .ok (.aload_n 0, 1) := dk_42 (dk_at dksX0_states_2 17 rfl rfl)
theorem dX0_states_66 : decode cX0_states 66 = .ok (.getfield 1076, 3) := dk_180 4 52 (dk_at dksX0_states_2 18 rfl rfl)
theorem dX0_states_69 : decode cX0_states 69 = .ok (.iload_n 3, 1) := dk_29 (dk_at dksX0_states_2 21 rfl rfl)
theorem dX0_states_70 : decode cX0_states 70 = .ok (.aload_n 0, 1) := dk_42 (dk_at dksX0_states_2 22 rfl rfl)
theorem dX0_states_71 : decode cX0_states 71 = .ok (.getfield 1103, 3) := dk_180 4 79 (dk_at dksX0_states_3 0 rfl rfl)
theorem dX0_states_74 : decode cX0_states 74 = .ok (.iload_n 3, 1) := dk_29 (dk_at dksX0_states_3 3 rfl rfl)
theorem dX0_states_75 : decode cX0_states 75 = .ok (.iaload, 1) := dk_46 (dk_at dksX0_states_3 4 rfl rfl)
theorem dX0_states_76 : decode cX0_states 76 = .ok (.iastore, 1) := dk_79 (dk_at dksX0_states_3 5 rfl rfl)
theorem dX0_states_77 : decode cX0_states 77 = .ok (.aload_n 0, 1) := dk_42 (dk_at dksX0_states_3 6 rfl rfl)
theorem dX0_states_78 : decode cX0_states 78 = .ok (.getfield 1088, 3) := dk_180 4 64 (dk_at dksX0_states_3 7 rfl rfl)
theorem dX0_states_81 : decode cX0_states 81 = .ok (.iload_n 3, 1) := dk_29 (dk_at dksX0_states_3 10 rfl rfl)
theorem dX0_states_82 : decode cX0_states 82 = .ok (.aload_n 0, 1) := dk_42 (dk_at dksX0_states_3 11 rfl rfl)
theorem dX0_states_83 : decode cX0_states 83 = .ok (.getfield 1106, 3) := dk_180 4 82 (dk_at dksX0_states_3 12 rfl rfl)
theorem dX0_states_86 : decode cX0_states 86 = .ok (.iload_n 3, 1) := dk_29 (dk_at dksX0_states_3 15 rfl rfl)
theorem dX0_states_87 : decode cX0_states 87 = .ok (.iaload, 1) := dk_46 (dk_at dksX0_states_3 16 rfl rfl)
theorem dX0_states_88 : decode cX0_states 88 = .ok (.iastore, 1) := dk_79 (dk_at dksX0_states_3 17 rfl rfl)
theorem dX0_states_89 : decode cX0_states 89 = .ok (.aload_n 0, 1) := dk_42 (dk_at dksX0_states_3 18 rfl rfl)
theorem dX0_states_90 : decode cX0_states 90 = .ok (.getfield 1091, 3) := dk_180 4 67 (dk_at dksX0_states_3 19 rfl rfl)
theorem dX0_states_93 : decode cX0_states 93 = .ok (.iload_n 3, 1) := dk_29 (dk_at dksX0_states_3 22 rfl rfl)
theorem dX0_states_94 : decode cX0_states 94 = .ok (.aload_n 0, 1) := dk_42 (dk_at dksX0_states_3 23 rfl rfl)
theorem dX0_states_95 : decode cX0_states 95 = .ok (.getfield 1109, 3) := dk_180 4 85 (dk_at dksX0_states_4 0 rfl rfl)
theorem dX0_states_98 : decode cX0_states 98 = .ok (.iload_n 3, 1) := dk_29 (dk_at dksX0_states_4 3 rfl rfl)
theorem dX0_states_99 : decode cX0_states 99 = .ok (.iaload, 1) := dk_46 (dk_at dksX0_states_4 4 rfl rfl)
theorem dX0_states_100 : decode cX0_states 100 = .ok (.iastore, 1) := dk_79 (dk_at dksX0_states_4 5 rfl rfl)
theorem dX0_states_101 : decode cX0_states 101 = .ok (.iinc 3 1, 3) := dk_132 3 1 (dk_at dksX0_states_4 6 rfl rfl)
theorem dX0_states_104 : decode cX0_states 104 = .ok (.goto (-74), 3) := dk_167 255 182 (dk_at dksX0_states_4 9 rfl rfl)
theorem dX0_states_107 : decode cX0_states 107 = .ok (.aload_n 0, 1) := dk_42 (dk_at dksX0_states_4 12 rfl rfl)
theorem dX0_states_108 : decode cX0_states 108 = .ok (.getfield 1091, 3) := dk_180 4 67 (dk_at dksX0_states_4 13 rfl rfl)
theorem dX0_states_111 : decode cX0_states 111 = .ok (.iload_n 2, 1) := dk_28 (dk_at dksX0_states_4 16 rfl rfl)
theorem dX0_states_112 : decode cX0_states 112 = .ok (.aload_n 0, 1) := dk_42 (dk_at dksX0_states_4 17 rfl rfl)
theorem dX0_states_113 : decode cX0_states 113 = .ok (.getfield 1109, 3) := dk_180 4 85 (dk_at dksX0_states_4 18 rfl rfl)
theorem dX0_states_116 : decode cX0_states 116 = .ok (.iload_n 2, 1) := dk_28 (dk_at dksX0_states_4 21 rfl rfl)
theorem dX0_states_117 : decode cX0_states 117 = .ok (.iaload, 1) := dk_46 (dk_at dksX0_states_4 22 rfl rfl)
theorem dX0_states_118 : decode cX0_states 118 = .ok (.iastore, 1) := dk_79 (dk_at dksX0_states_4 23 rfl rfl)
theorem dX0_states_119 : decode cX0_states 119 = .ok (.iconst 0, 1) := dk_3 (dk_at dksX0_states_5 0 rfl rfl)
theorem dX0_states_120 : decode cX0_states 120 = .ok (.istore_n 3, 1) := dk_62 (dk_at dksX0_states_5 1 rfl rfl)
theorem dX0_states_121 : decode cX0_states 121 = .ok (.iload_n 3, 1) := dk_29 (dk_at dksX0_states_5 2 rfl rfl)
theorem dX0_states_122 : decode cX0_states 122 = .ok (.aload_n 0, 1) := dk_42 (dk_at dksX0_states_5 3 rfl rfl)
theorem dX0_states_123 : decode cX0_states 123 = .ok (.getfield 1091, 3) := dk_180 4 67 (dk_at dksX0_states_5 4 rfl rfl)
theorem dX0_states_126 : decode cX0_states 126 = .ok (.iload_n 2, 1) := dk_28 (dk_at dksX0_states_5 7 rfl rfl)
theorem dX0_states_127 : decode cX0_states 127 = .ok (.iaload, 1) := dk_46 (dk_at dksX0_states_5 8 rfl rfl)
theorem dX0_states_128 : decode cX0_states 128 = .ok (.if_icmp .ge 21, 3) := dk_162 0 21 (dk_at dksX0_states_5 9 rfl rfl)
theorem dX0_states_131 : decode cX0_states 131 = .ok (.aload_n 0, 1) := dk_42 (dk_at dksX0_states_5 12 rfl rfl)
theorem dX0_states_132 : decode cX0_states 132 = .ok (.getfield 1112, 3) := dk_180 4 88 (dk_at dksX0_states_5 13 rfl rfl)
theorem dX0_states_135 : decode cX0_states 135 = .ok (.iload_n 3, 1) := dk_29 (dk_at dksX0_states_5 16 rfl rfl)
theorem dX0_states_136 : decode cX0_states 136 = .ok (.aload_n 0, 1) := dk_42 (dk_at dksX0_states_5 17 rfl rfl)
theorem dX0_states_137 : decode cX0_states 137 = .ok (.getfield 1115, 3) := dk_180 4 91 (dk_at dksX0_states_5 18 rfl rfl)
theorem dX0_states_140 : decode cX0_states 140 = .ok (.iload_n 3, 1) := dk_29 (dk_at dksX0_states_5 21 rfl rfl)
theorem dX0_states_141 : decode cX0_states 141 = .ok (.iaload, 1) := dk_46 (dk_at dksX0_states_5 22 rfl rfl)
theorem dX0_states_142 : decode cX0_states 142 = .ok (.iastore, 1) := dk_79 (dk_at dksX0_states_5 23 rfl rfl)
theorem dX0_states_143 : decode cX0_states 143 = .ok (.iinc 3 1, 3) := dk_132 3 1 (dk_at dksX0_states_6 0 rfl rfl)
theorem dX0_states_146 : decode cX0_states 146 = .ok (.goto (-25), 3) := dk_167 255 231 (dk_at dksX0_states_6 3 rfl rfl)
theorem dX0_states_149 : decode cX0_states 149 = .ok (.aload_n 0, 1) := dk_42 (dk_at dksX0_states_6 6 rfl rfl)
theorem dX0_states_150 : decode cX0_states 150 = .ok (.iconst 2, 1) := dk_5 (dk_at dksX0_states_6 7 rfl rfl)
theorem dX0_states_151 : decode cX0_states 151 = .ok (.iload_n 2, 1) := dk_28 (dk_at dksX0_states_6 8 rfl rfl)
theorem dX0_states_152 : decode cX0_states 152 = .ok (.invokevirtual 1079, 3) := dk_182 4 55 (dk_at dksX0_states_6 9 rfl rfl)
theorem dX0_states_155 : decode cX0_states 155 = .ok (.aload_n 0, 1) := dk_42 (dk_at dksX0_states_6 12 rfl rfl)
theorem dX0_states_156 : decode cX0_states 156 = .ok (.invokevirtual 1067, 3) := dk_182 4 43 (dk_at dksX0_states_6 13 rfl rfl)
theorem dX0_states_159 : decode cX0_states 159 = .ok (.iload_n 2, 1) := dk_28 (dk_at dksX0_states_6 16 rfl rfl)
theorem dX0_states_160 : decode cX0_states 160 = .ok (.ireturn, 1) := dk_172 (dk_at dksX0_states_6 17 rfl rfl)
theorem dX0_states_161 : decode cX0_states 161 = .ok (.astore_n 2, 1) := dk_77 (dk_at dksX0_states_6 18 rfl rfl)
theorem dX0_states_162 : decode cX0_states 162 = .ok (.aload_n 0, 1) := dk_42 (dk_at dksX0_states_6 19 rfl rfl)
theorem dX0_states_163 : decode cX0_states 163 = .ok (.invokevirtual 1067, 3) := dk_182 4 43 (dk_at dksX0_states_6 20 rfl rfl)
theorem dX0_states_166 : decode cX0_states 166 = .ok (.aload_n 0, 1) := dk_42 (dk_at dksX0_states_6 23 rfl rfl)
theorem dX0_states_167 : decode cX0_states 167 = .ok (.aload_n 2, 1) := dk_44 (dk_at dksX0_states_7 0 rfl rfl)
theorem dX0_states_168 : decode cX0_states 168 = .ok (.invokevirtual 1063, 3) := dk_182 4 39 (dk_at dksX0_states_7 1 rfl rfl)
theorem dX0_states_171 : decode cX0_states 171 = .ok (.ireturn, 1) := dk_172 (dk_at dksX0_states_7 4 rfl rfl)
abbrev cX0_findStates : ByteArray := prog_1_method_178_code
def yX0_findStates : MethodName := ⟨RX0, "findStates", "(I)I"⟩
def dkwX0_findStates_8 : List UInt8 := [167, 255, 130, 132, 4, 1, 167, 255, 94, 42, 180, 4, 85, 28, 29, 79, 28, 172]
abbrev dktX0_findStates_8 : List UInt8 := dkwX0_findStates_8 ++ []
def dkwX0_findStates_7 : List UInt8 := [180, 4, 82, 21, 4, 46, 4, 96, 79, 42, 180, 4, 91, 29, 132, 3, 1, 21, 6, 79, 132, 5, 1]
abbrev dktX0_findStates_7 : List UInt8 := dkwX0_findStates_7 ++ dktX0_findStates_8
def dkwX0_findStates_6 : List UInt8 := [42, 180, 4, 79, 28, 42, 180, 3, 239, 21, 5, 46, 79, 42, 180, 4, 82, 28, 132, 2, 1, 42]
abbrev dktX0_findStates_6 : List UInt8 := dkwX0_findStates_6 ++ dktX0_findStates_7
def dkwX0_findStates_5 : List UInt8 := [160, 0, 55, 42, 180, 4, 73, 28, 42, 180, 3, 237, 21, 5, 46, 79, 42, 180, 4, 76, 28, 21, 4, 79]
abbrev dktX0_findStates_5 : List UInt8 := dkwX0_findStates_5 ++ dktX0_findStates_6
def dkwX0_findStates_4 : List UInt8 := [132, 6, 1, 167, 255, 230, 21, 6, 16, 120, 160, 0, 9, 42, 5, 182, 2, 83, 191, 21, 6, 28]
abbrev dktX0_findStates_4 : List UInt8 := dkwX0_findStates_4 ++ dktX0_findStates_5
def dkwX0_findStates_3 : List UInt8 := [21, 6, 28, 162, 0, 26, 42, 180, 4, 73, 21, 6, 46, 42, 180, 3, 237, 21, 5, 46, 159, 0, 9]
abbrev dktX0_findStates_3 : List UInt8 := dkwX0_findStates_3 ++ dktX0_findStates_4
def dkwX0_findStates_2 : List UInt8 := [21, 4, 46, 16, 254, 182, 4, 46, 3, 54, 5, 21, 5, 42, 180, 3, 210, 162, 0, 123, 3, 54, 6]
abbrev dktX0_findStates_2 : List UInt8 := dkwX0_findStates_2 ++ dktX0_findStates_3
def dkwX0_findStates_1 : List UInt8 := [3, 62, 3, 54, 4, 21, 4, 28, 162, 0, 162, 42, 180, 4, 85, 21, 4, 29, 79, 42, 42, 180, 4, 73]
abbrev dktX0_findStates_1 : List UInt8 := dkwX0_findStates_1 ++ dktX0_findStates_2
def dkwX0_findStates_0 : List UInt8 := [42, 180, 4, 73, 3, 27, 79, 42, 180, 4, 76, 3, 16, 254, 79, 42, 180, 4, 82, 3, 3, 79, 4, 61]
abbrev dktX0_findStates_0 : List UInt8 := dkwX0_findStates_0 ++ dktX0_findStates_1
theorem dksX0_findStates_0 : cX0_findStates.data.toList.drop 0 = dktX0_findStates_0 := by decide +kernel
theorem dksX0_findStates_1 : cX0_findStates.data.toList.drop 24 = dktX0_findStates_1 := dk_seg dksX0_findStates_0 24 rfl rfl
theorem dksX0_findStates_2 : cX0_findStates.data.toList.drop 48 = dktX0_findStates_2 := dk_seg dksX0_findStates_1 24 rfl rfl
theorem dksX0_findStates_3 : cX0_findStates.data.toList.drop 71 = dktX0_findStates_3 := dk_seg dksX0_findStates_2 23 rfl rfl
theorem dksX0_findStates_4 : cX0_findStates.data.toList.drop 94 = dktX0_findStates_4 := dk_seg dksX0_findStates_3 23 rfl rfl
theorem dksX0_findStates_5 : cX0_findStates.data.toList.drop 116 = dktX0_findStates_5 := dk_seg dksX0_findStates_4 22 rfl rfl
theorem dksX0_findStates_6 : cX0_findStates.data.toList.drop 140 = dktX0_findStates_6 := dk_seg dksX0_findStates_5 24 rfl rfl
theorem dksX0_findStates_7 : cX0_findStates.data.toList.drop 162 = dktX0_findStates_7 := dk_seg dksX0_findStates_6 22 rfl rfl
theorem dksX0_findStates_8 : cX0_findStates.data.toList.drop 185 = dktX0_findStates_8 := dk_seg dksX0_findStates_7 23 rfl rfl
theorem dX0_findStates_0 : decode cX0_findStates 0 = .ok (.aload_n 0, 1) := dk_42 (dk_at dksX0_findStates_0 0 rfl rfl)
theorem dX0_findStates_1 : decode cX0_findStates 1 = .ok (.getfield 1097, 3) := dk_180 4 73 (dk_at dksX0_findStates_0 1 rfl rfl)
theorem dX0_findStates_4 : decode cX0_findStates 4 = .ok (.iconst 0, 1) := dk_3 (dk_at dksX0_findStates_0 4 rfl rfl)
theorem dX0_findStates_5 : decode cX0_findStates 5 = .ok (.iload_n 1, 1) := dk_27 (dk_at dksX0_findStates_0 5 rfl rfl)
theorem dX0_findStates_6 : decode cX0_findStates 6 = .ok (.iastore, 1) := dk_79 (dk_at dksX0_findStates_0 6 rfl rfl)
theorem dX0_findStates_7 : decode cX0_findStates 7 = .ok (.aload_n 0, 1) := dk_42 (dk_at dksX0_findStates_0 7 rfl rfl)
theorem dX0_findStates_8 : decode cX0_findStates 8 = .ok (.getfield 1100, 3) := dk_180 4 76 (dk_at dksX0_findStates_0 8 rfl rfl)
theorem dX0_findStates_11 : decode cX0_findStates 11 = .ok (.iconst 0, 1) := dk_3 (dk_at dksX0_findStates_0 11 rfl rfl)
theorem dX0_findStates_12 : decode cX0_findStates 12 = .ok (.bipush (-2), 2) := dk_16 254 (dk_at dksX0_findStates_0 12 rfl rfl)
theorem dX0_findStates_14 : decode cX0_findStates 14 = .ok (.iastore, 1) := dk_79 (dk_at dksX0_findStates_0 14 rfl rfl)
theorem dX0_findStates_15 : decode cX0_findStates 15 = .ok (.aload_n 0, 1) := dk_42 (dk_at dksX0_findStates_0 15 rfl rfl)
theorem dX0_findStates_16 : decode cX0_findStates 16 = .ok (.getfield 1106, 3) := dk_180 4 82 (dk_at dksX0_findStates_0 16 rfl rfl)
theorem dX0_findStates_19 : decode cX0_findStates 19 = .ok (.iconst 0, 1) := dk_3 (dk_at dksX0_findStates_0 19 rfl rfl)
theorem dX0_findStates_20 : decode cX0_findStates 20 = .ok (.iconst 0, 1) := dk_3 (dk_at dksX0_findStates_0 20 rfl rfl)
theorem dX0_findStates_21 : decode cX0_findStates 21 = .ok (.iastore, 1) := dk_79 (dk_at dksX0_findStates_0 21 rfl rfl)
theorem dX0_findStates_22 : decode cX0_findStates 22 = .ok (.iconst 1, 1) := dk_4 (dk_at dksX0_findStates_0 22 rfl rfl)
theorem dX0_findStates_23 : decode cX0_findStates 23 = .ok (.istore_n 2, 1) := dk_61 (dk_at dksX0_findStates_0 23 rfl rfl)
theorem dX0_findStates_24 : decode cX0_findStates 24 = .ok (.iconst 0, 1) := dk_3 (dk_at dksX0_findStates_1 0 rfl rfl)
theorem dX0_findStates_25 : decode cX0_findStates 25 = .ok (.istore_n 3, 1) := dk_62 (dk_at dksX0_findStates_1 1 rfl rfl)
theorem dX0_findStates_26 : decode cX0_findStates 26 = .ok (.iconst 0, 1) := dk_3 (dk_at dksX0_findStates_1 2 rfl rfl)
theorem dX0_findStates_27 : decode cX0_findStates 27 = .ok (.istore 4, 2) := dk_54 4 (dk_at dksX0_findStates_1 3 rfl rfl)
theorem dX0_findStates_29 : decode cX0_findStates 29 = .ok (.iload 4, 2) := dk_21 4 (dk_at dksX0_findStates_1 5 rfl rfl)
theorem dX0_findStates_31 : decode cX0_findStates 31 = .ok (.iload_n 2, 1) := dk_28 (dk_at dksX0_findStates_1 7 rfl rfl)
theorem dX0_findStates_32 : decode cX0_findStates 32 = .ok (.if_icmp .ge 162, 3) := dk_162 0 162 (dk_at dksX0_findStates_1 8 rfl rfl)
theorem dX0_findStates_35 : decode cX0_findStates 35 = .ok (.aload_n 0, 1) := dk_42 (dk_at dksX0_findStates_1 11 rfl rfl)
theorem dX0_findStates_36 : decode cX0_findStates 36 = .ok (.getfield 1109, 3) := dk_180 4 85 (dk_at dksX0_findStates_1 12 rfl rfl)
theorem dX0_findStates_39 : decode cX0_findStates 39 = .ok (.iload 4, 2) := dk_21 4 (dk_at dksX0_findStates_1 15 rfl rfl)
theorem dX0_findStates_41 : decode cX0_findStates 41 = .ok (.iload_n 3, 1) := dk_29 (dk_at dksX0_findStates_1 17 rfl rfl)
theorem dX0_findStates_42 : decode cX0_findStates 42 = .ok (.iastore, 1) := dk_79 (dk_at dksX0_findStates_1 18 rfl rfl)
theorem dX0_findStates_43 : decode cX0_findStates 43 = .ok (.aload_n 0, 1) := dk_42 (dk_at dksX0_findStates_1 19 rfl rfl)
theorem dX0_findStates_44 : decode cX0_findStates 44 = .ok (.aload_n 0, 1) := dk_42 (dk_at dksX0_findStates_1 20 rfl rfl)
theorem dX0_findStates_45 : decode cX0_findStates 45 = .ok (.getfield 1097, 3) := dk_180 4 73 (dk_at dksX0_findStates_1 21 rfl rfl)
theorem dX0_findStates_48 : decode cX0_findStates 48 = .ok (.iload 4, 2) := dk_21 4 (dk_at dksX0_findStates_2 0 rfl rfl)
theorem dX0_findStates_50 : decode cX0_findStates 50 = .ok (.iaload, 1) := dk_46 (dk_at dksX0_findStates_2 2 rfl rfl)
theorem dX0_findStates_51 : decode cX0_findStates 51 = .ok (.bipush (-2), 2) := dk_16 254 (dk_at dksX0_findStates_2 3 rfl rfl)
theorem dX0_findStates_53 : decode cX0_findStates 53 = .ok (.invokevirtual 1070, 3) := dk_182 4 46 (dk_at dksX0_findStates_2 5 rfl rfl)
theorem dX0_findStates_56 : decode cX0_findStates 56 = .ok (.iconst 0, 1) := dk_3 (dk_at dksX0_findStates_2 8 rfl rfl)
theorem dX0_findStates_57 : decode cX0_findStates 57 = .ok (.istore 5, 2) := dk_54 5 (dk_at dksX0_findStates_2 9 rfl rfl)
theorem dX0_findStates_59 : decode cX0_findStates 59 = .ok (.iload 5, 2) := dk_21 5 (dk_at dksX0_findStates_2 11 rfl rfl)
theorem dX0_findStates_61 : decode cX0_findStates 61 = .ok (.aload_n 0, 1) := dk_42 (dk_at dksX0_findStates_2 13 rfl rfl)
theorem dX0_findStates_62 : decode cX0_findStates 62 = .ok (.getfield 978, 3) := dk_180 3 210 (dk_at dksX0_findStates_2 14 rfl rfl)
theorem dX0_findStates_65 : decode cX0_findStates 65 = .ok (.if_icmp .ge 123, 3) := dk_162 0 123 (dk_at dksX0_findStates_2 17 rfl rfl)
theorem dX0_findStates_68 : decode cX0_findStates 68 = .ok (.iconst 0, 1) := dk_3 (dk_at dksX0_findStates_2 20 rfl rfl)
theorem dX0_findStates_69 : decode cX0_findStates 69 = .ok (.istore 6, 2) := dk_54 6 (dk_at dksX0_findStates_2 21 rfl rfl)
theorem dX0_findStates_71 : decode cX0_findStates 71 = .ok (.iload 6, 2) := dk_21 6 (dk_at dksX0_findStates_3 0 rfl rfl)
theorem dX0_findStates_73 : decode cX0_findStates 73 = .ok (.iload_n 2, 1) := dk_28 (dk_at dksX0_findStates_3 2 rfl rfl)
theorem dX0_findStates_74 : decode cX0_findStates 74 = .ok (.if_icmp .ge 26, 3) := dk_162 0 26 (dk_at dksX0_findStates_3 3 rfl rfl)
theorem dX0_findStates_77 : decode cX0_findStates 77 = .ok (.aload_n 0, 1) := dk_42 (dk_at dksX0_findStates_3 6 rfl rfl)
theorem dX0_findStates_78 : decode cX0_findStates 78 = .ok (.getfield 1097, 3) := dk_180 4 73 (dk_at dksX0_findStates_3 7 rfl rfl)
theorem dX0_findStates_81 : decode cX0_findStates 81 = .ok (.iload 6, 2) := dk_21 6 (dk_at dksX0_findStates_3 10 rfl rfl)
theorem dX0_findStates_83 : decode cX0_findStates 83 = .ok (.iaload, 1) := dk_46 (dk_at dksX0_findStates_3 12 rfl rfl)
theorem dX0_findStates_84 : decode cX0_findStates 84 = .ok (.aload_n 0, 1) := dk_42 (dk_at dksX0_findStates_3 13 rfl rfl)
theorem dX0_findStates_85 : decode cX0_findStates 85 = .ok (.getfield 1005, 3) := dk_180 3 237 (dk_at dksX0_findStates_3 14 rfl rfl)
theorem dX0_findStates_88 : decode cX0_findStates 88 = .ok (.iload 5, 2) := dk_21 5 (dk_at dksX0_findStates_3 17 rfl rfl)
theorem dX0_findStates_90 : decode cX0_findStates 90 = .ok (.iaload, 1) := dk_46 (dk_at dksX0_findStates_3 19 rfl rfl)
theorem dX0_findStates_91 : decode cX0_findStates 91 = .ok (.if_icmp .eq 9, 3) := dk_159 0 9 (dk_at dksX0_findStates_3 20 rfl rfl)
theorem dX0_findStates_94 : decode cX0_findStates 94 = .ok (.iinc 6 1, 3) := dk_132 6 1 (dk_at dksX0_findStates_4 0 rfl rfl)
theorem dX0_findStates_97 : decode cX0_findStates 97 = .ok (.goto (-26), 3) := dk_167 255 230 (dk_at dksX0_findStates_4 3 rfl rfl)
theorem dX0_findStates_100 : decode cX0_findStates 100 = .ok (.iload 6, 2) := dk_21 6 (dk_at dksX0_findStates_4 6 rfl rfl)
theorem dX0_findStates_102 : decode cX0_findStates 102 = .ok (.bipush 120, 2) := dk_16 120 (dk_at dksX0_findStates_4 8 rfl rfl)
theorem dX0_findStates_104 : decode cX0_findStates 104 = .ok (.if_icmp .ne 9, 3) := dk_160 0 9 (dk_at dksX0_findStates_4 10 rfl rfl)
theorem dX0_findStates_107 : decode cX0_findStates 107 = .ok (.aload_n 0, 1) := dk_42 (dk_at dksX0_findStates_4 13 rfl rfl)
theorem dX0_findStates_108 : decode cX0_findStates 108 = .ok (.iconst 2, 1) := dk_5 (dk_at dksX0_findStates_4 14 rfl rfl)
theorem dX0_findStates_109 : decode cX0_findStates 109 = .ok (.invokevirtual 595, 3) := dk_182 2 83 (dk_at dksX0_findStates_4 15 rfl rfl)
theorem dX0_findStates_112 : decode cX0_findStates 112 = .ok (.athrow, 1) := dk_191 (dk_at dksX0_findStates_4 18 rfl rfl)
theorem dX0_findStates_113 : decode cX0_findStates 113 = .ok (.iload 6, 2) := dk_21 6 (dk_at dksX0_findStates_4 19 rfl rfl)
theorem dX0_findStates_115 : decode cX0_findStates 115 = .ok (.iload_n 2, 1) := dk_28 (dk_at dksX0_findStates_4 21 rfl rfl)
theorem dX0_findStates_116 : decode cX0_findStates 116 = .ok (.if_icmp .ne 55, 3) := dk_160 0 55 (dk_at dksX0_findStates_5 0 rfl rfl)
theorem dX0_findStates_119 : decode cX0_findStates 119 = .ok (.aload_n 0, 1) := dk_42 (dk_at dksX0_findStates_5 3 rfl rfl)
theorem dX0_findStates_120 : decode cX0_findStates 120 = .ok (.getfield 1097, 3) := dk_180 4 73 (dk_at dksX0_findStates_5 4 rfl rfl)
theorem dX0_findStates_123 : decode cX0_findStates 123 = .ok (.iload_n 2, 1) := dk_28 (dk_at dksX0_findStates_5 7 rfl rfl)
theorem dX0_findStates_124 : decode cX0_findStates 124 = .ok (.aload_n 0, 1) := dk_42 (dk_at dksX0_findStates_5 8 rfl rfl)
theorem dX0_findStates_125 : decode cX0_findStates 125 = .ok (.getfield 1005, 3) := dk_180 3 237 (dk_at dksX0_findStates_5 9 rfl rfl)
theorem dX0_findStates_128 : decode cX0_findStates 128 = .ok (.iload 5, 2) := dk_21 5 (dk_at dksX0_findStates_5 12 rfl rfl)
theorem dX0_findStates_130 : decode cX0_findStates 130 = .ok (.iaload, 1) := dk_46 (dk_at dksX0_findStates_5 14 rfl rfl)
theorem dX0_findStates_131 : decode cX0_findStates 131 = .ok (.iastore, 1) := dk_79 (dk_at dksX0_findStates_5 15 rfl rfl)
theorem dX0_findStates_132 : decode cX0_findStates 132 = .ok (.aload_n 0, 1) := dk_42 (dk_at dksX0_findStates_5 16 rfl rfl)
theorem dX0_findStates_133 : decode cX0_findStates 133 = .ok (.getfield 1100, 3) := dk_180 4 76 (dk_at dksX0_findStates_5 17 rfl rfl)
theorem dX0_findStates_136 : decode cX0_findStates 136 = .ok (.iload_n 2, 1) := dk_28 (dk_at dksX0_findStates_5 20 rfl rfl)
theorem dX0_findStates_137 : decode cX0_findStates 137 = .ok (.iload 4, 2) := dk_21 4 (dk_at dksX0_findStates_5 21 rfl rfl)
theorem dX0_findStates_139 : decode cX0_findStates 139 = .ok (.iastore, 1) := dk_79 (dk_at dksX0_findStates_5 23 rfl rfl)
theorem dX0_findStates_140 : decode cX0_findStates 140 = .ok (.aload_n 0, 1) := dk_42 (dk_at dksX0_findStates_6 0 rfl rfl)
theorem dX0_findStates_141 : decode cX0_findStates 141 = .ok (.getfield 1103, 3) := dk_180 4 79 (dk_at dksX0_findStates_6 1 rfl rfl)
theorem dX0_findStates_144 : decode cX0_findStates 144 = .ok (.iload_n 2, 1) := dk_28 (dk_at dksX0_findStates_6 4 rfl rfl)
theorem dX0_findStates_145 : decode cX0_findStates 145 = .ok (.aload_n 0, 1) := dk_42 (dk_at dksX0_findStates_6 5 rfl rfl)
theorem dX0_findStates_146 : decode cX0_findStates 146 = .ok (.getfield 1007, 3) := dk_180 3 239 (dk_at dksX0_findStates_6 6 rfl rfl)
theorem dX0_findStates_149 : decode cX0_findStates 149 = .ok (.iload 5, 2) := dk_21 5 (dk_at dksX0_findStates_6 9 rfl rfl)
theorem dX0_findStates_151 : decode cX0_findStates 151 = .ok (.iaload, 1) := dk_46 (dk_at dksX0_findStates_6 11 rfl rfl)
theorem dX0_findStates_152 : decode cX0_findStates 152 = .ok (.iastore, 1) := dk_79 (dk_at dksX0_findStates_6 12 rfl rfl)
theorem dX0_findStates_153 : decode cX0_findStates 153 = .ok (.aload_n 0, 1) := dk_42 (dk_at dksX0_findStates_6 13 rfl rfl)
theorem dX0_findStates_154 : decode cX0_findStates 154 = .ok (.getfield 1106, 3) := dk_180 4 82 (dk_at dksX0_findStates_6 14 rfl rfl)
theorem dX0_findStates_157 : decode cX0_findStates 157 = .ok (.iload_n 2, 1) := dk_28 (dk_at dksX0_findStates_6 17 rfl rfl)
theorem dX0_findStates_158 : decode cX0_findStates 158 = .ok (.iinc 2 1, 3) := dk_132 2 1 (dk_at dksX0_findStates_6 18 rfl rfl)
theorem dX0_findStates_161 : decode cX0_findStates 161 = .ok (.aload_n 0, 1) := dk_42 (dk_at dksX0_findStates_6 21 rfl rfl)
theorem dX0_findStates_162 : decode cX0_findStates 162 = .ok (.getfield 1106, 3) := dk_180 4 82 (dk_at dksX0_findStates_7 0 rfl rfl)
theorem dX0_findStates_165 : decode cX0_findStates 165 = .ok (.iload 4, 2) := dk_21 4 (dk_at dksX0_findStates_7 3 rfl rfl)
theorem dX0_findStates_167 : decode cX0_findStates 167 = .ok (.iaload, 1) := dk_46 (dk_at dksX0_findStates_7 5 rfl rfl)
theorem dX0_findStates_168 : decode cX0_findStates 168 = .ok (.iconst 1, 1) := dk_4 (dk_at dksX0_findStates_7 6 rfl rfl)
theorem dX0_findStates_169 : decode cX0_findStates 169 = .ok (.iadd, 1) := dk_96 (dk_at dksX0_findStates_7 7 rfl rfl)
theorem dX0_findStates_170 : decode cX0_findStates 170 = .ok (.iastore, 1) := dk_79 (dk_at dksX0_findStates_7 8 rfl rfl)
theorem dX0_findStates_171 : decode cX0_findStates 171 = .ok (.aload_n 0, 1) := dk_42 (dk_at dksX0_findStates_7 9 rfl rfl)
theorem dX0_findStates_172 : decode cX0_findStates 172 = .ok (.getfield 1115, 3) := dk_180 4 91 (dk_at dksX0_findStates_7 10 rfl rfl)
theorem dX0_findStates_175 : decode cX0_findStates 175 = .ok (.iload_n 3, 1) := dk_29 (dk_at dksX0_findStates_7 13 rfl rfl)
theorem dX0_findStates_176 : decode cX0_findStates 176 = .ok (.iinc 3 1, 3) := dk_132 3 1 (dk_at dksX0_findStates_7 14 rfl rfl)
theorem dX0_findStates_179 : decode cX0_findStates 179 = .ok (.iload 6, 2) := dk_21 6 (dk_at dksX0_findStates_7 17 rfl rfl)
theorem dX0_findStates_181 : decode cX0_findStates 181 = .ok (.iastore, 1) := dk_79 (dk_at dksX0_findStates_7 19 rfl rfl)
theorem dX0_findStates_182 : decode cX0_findStates 182 = .ok (.iinc 5 1, 3) := dk_132 5 1 (dk_at dksX0_findStates_7 20 rfl rfl)
theorem dX0_findStates_185 : decode cX0_findStates 185 = .ok (.goto (-126), 3) := dk_167 255 130 (dk_at dksX0_findStates_8 0 rfl rfl)
theorem dX0_findStates_188 : decode cX0_findStates 188 = .ok (.iinc 4 1, 3) := dk_132 4 1 (dk_at dksX0_findStates_8 3 rfl rfl)
theorem dX0_findStates_191 : decode cX0_findStates 191 = .ok (.goto (-162), 3) := dk_167 255 94 (dk_at dksX0_findStates_8 6 rfl rfl)
theorem dX0_findStates_194 : decode cX0_findStates 194 = .ok (.aload_n 0, 1) := dk_42 (dk_at dksX0_findStates_8 9 rfl rfl)
theorem dX0_findStates_195 : decode cX0_findStates 195 = .ok (.getfield 1109, 3) := dk_180 4 85 (dk_at dksX0_findStates_8 10 rfl rfl)
theorem dX0_findStates_198 : decode cX0_findStates 198 = .ok (.iload_n 2, 1) := dk_28 (dk_at dksX0_findStates_8 13 rfl rfl)
theorem dX0_findStates_199 : decode cX0_findStates 199 = .ok (.iload_n 3, 1) := dk_29 (dk_at dksX0_findStates_8 14 rfl rfl)
theorem dX0_findStates_200 : decode cX0_findStates 200 = .ok (.iastore, 1) := dk_79 (dk_at dksX0_findStates_8 15 rfl rfl)
theorem dX0_findStates_201 : decode cX0_findStates 201 = .ok (.iload_n 2, 1) := dk_28 (dk_at dksX0_findStates_8 16 rfl rfl)
theorem dX0_findStates_202 : decode cX0_findStates 202 = .ok (.ireturn, 1) := dk_172 (dk_at dksX0_findStates_8 17 rfl rfl)
abbrev cX0_search : ByteArray := prog_1_method_180_code
def yX0_search : MethodName := ⟨RX0, "search", "(II)I"⟩
def dkwX0_search_3 : List UInt8 := [167, 255, 231, 16, 254, 172, 78, 42, 45, 182, 4, 39, 172]
abbrev dktX0_search_3 : List UInt8 := dkwX0_search_3 ++ []
def dkwX0_search_2 : List UInt8 := [180, 0, 184, 162, 0, 22, 42, 29, 21, 4, 182, 4, 94, 153, 0, 6, 21, 4, 172, 132, 4, 1]
abbrev dktX0_search_2 : List UInt8 := dkwX0_search_2 ++ dktX0_search_3
def dkwX0_search_1 : List UInt8 := [184, 0, 20, 154, 0, 5, 2, 172, 42, 182, 3, 247, 42, 27, 182, 4, 3, 62, 28, 54, 4, 21, 4, 42]
abbrev dktX0_search_1 : List UInt8 := dkwX0_search_1 ++ dktX0_search_2
def dkwX0_search_0 : List UInt8 := [42, 27, 182, 4, 0, 153, 0, 25, 42, 180, 0, 181, 5, 160, 0, 17, 28, 3, 42, 180, 0, 184, 4, 100]
abbrev dktX0_search_0 : List UInt8 := dkwX0_search_0 ++ dktX0_search_1
theorem dksX0_search_0 : cX0_search.data.toList.drop 0 = dktX0_search_0 := by decide +kernel
theorem dksX0_search_1 : cX0_search.data.toList.drop 24 = dktX0_search_1 := dk_seg dksX0_search_0 24 rfl rfl
theorem dksX0_search_2 : cX0_search.data.toList.drop 48 = dktX0_search_2 := dk_seg dksX0_search_1 24 rfl rfl
theorem dksX0_search_3 : cX0_search.data.toList.drop 70 = dktX0_search_3 := dk_seg dksX0_search_2 22 rfl rfl
theorem dX0_search_0 : decode cX0_search 0 = .ok (.aload_n 0, 1) := dk_42 (dk_at dksX0_search_0 0 rfl rfl)
theorem dX0_search_1 : decode cX0_search 1 = .ok (.iload_n 1, 1) := dk_27 (dk_at dksX0_search_0 1 rfl rfl)
theorem dX0_search_2 : decode cX0_search 2 = .ok (.invokevirtual 1024, 3) := dk_182 4 0 (dk_at dksX0_search_0 2 rfl rfl)
theorem dX0_search_5 : decode cX0_search 5 = .ok (.ifCond .eq 25, 3) := dk_153 0 25 (dk_at dksX0_search_0 5 rfl rfl)
theorem dX0_search_8 : decode cX0_search 8 = .ok (.aload_n 0, 1) := dk_42 (dk_at dksX0_search_0 8 rfl rfl)
theorem dX0_search_9 : decode cX0_search 9 = .ok (.getfield 181, 3) := dk_180 0 181 (dk_at dksX0_search_0 9 rfl rfl)
theorem dX0_search_12 : decode cX0_search 12 = .ok (.iconst 2, 1) := dk_5 (dk_at dksX0_search_0 12 rfl rfl)
theorem dX0_search_13 : decode cX0_search 13 = .ok (.if_icmp .ne 17, 3) := dk_160 0 17 (dk_at dksX0_search_0 13 rfl rfl)
theorem dX0_search_16 : decode cX0_search 16 = .ok (.iload_n 2, 1) := dk_28 (dk_at dksX0_search_0 16 rfl rfl)
theorem dX0_search_17 : decode cX0_search 17 = .ok (.iconst 0, 1) := dk_3 (dk_at dksX0_search_0 17 rfl rfl)
theorem dX0_search_18 : decode cX0_search 18 = .ok (.aload_n 0, 1) := dk_42 (dk_at dksX0_search_0 18 rfl rfl)
theorem dX0_search_19 : decode cX0_search 19 = .ok (.getfield 184, 3) := dk_180 0 184 (dk_at dksX0_search_0 19 rfl rfl)
theorem dX0_search_22 : decode cX0_search 22 = .ok (.iconst 1, 1) := dk_4 (dk_at dksX0_search_0 22 rfl rfl)
theorem dX0_search_23 : decode cX0_search 23 = .ok (.isub, 1) := dk_100 (dk_at dksX0_search_0 23 rfl rfl)
theorem dX0_search_24 : decode cX0_search 24 = .ok (.invokestatic 20, 3) := dk_184 0 20 (dk_at dksX0_search_1 0 rfl rfl)
theorem dX0_search_27 : decode cX0_search 27 = .ok (.ifCond .ne 5, 3) := dk_154 0 5 (dk_at dksX0_search_1 3 rfl rfl)
theorem dX0_search_30 : decode cX0_search 30 = .ok (.iconst (-1), 1) := dk_2 (dk_at dksX0_search_1 6 rfl rfl)
theorem dX0_search_31 : decode cX0_search 31 = .ok (.ireturn, 1) := dk_172 (dk_at dksX0_search_1 7 rfl rfl)
theorem dX0_search_32 : decode cX0_search 32 = .ok (.aload_n 0, 1) := dk_42 (dk_at dksX0_search_1 8 rfl rfl)
theorem dX0_search_33 : decode cX0_search 33 = .ok (.invokevirtual 1015, 3) := dk_182 3 247 (dk_at dksX0_search_1 9 rfl rfl)
theorem dX0_search_36 : decode cX0_search 36 = .ok (.aload_n 0, 1) := dk_42 (dk_at dksX0_search_1 12 rfl rfl)
theorem dX0_search_37 : decode cX0_search 37 = .ok (.iload_n 1, 1) := dk_27 (dk_at dksX0_search_1 13 rfl rfl)
theorem dX0_search_38 : decode cX0_search 38 = .ok (.invokevirtual 1027, 3) := dk_182 4 3 (dk_at dksX0_search_1 14 rfl rfl)
theorem dX0_search_41 : decode cX0_search 41 = .ok (.istore_n 3, 1) := dk_62 (dk_at dksX0_search_1 17 rfl rfl)
theorem dX0_search_42 : decode cX0_search 42 = .ok (.iload_n 2, 1) := dk_28 (dk_at dksX0_search_1 18 rfl rfl)
theorem dX0_search_43 : decode cX0_search 43 = .ok (.istore 4, 2) := dk_54 4 (dk_at dksX0_search_1 19 rfl rfl)
theorem dX0_search_45 : decode cX0_search 45 = .ok (.iload 4, 2) := dk_21 4 (dk_at dksX0_search_1 21 rfl rfl)
theorem dX0_search_47 : decode cX0_search 47 = .ok (.aload_n 0, 1) := dk_42 (dk_at dksX0_search_1 23 rfl rfl)
theorem dX0_search_48 : decode cX0_search 48 = .ok (.getfield 184, 3) := dk_180 0 184 (dk_at dksX0_search_2 0 rfl rfl)
theorem dX0_search_51 : decode cX0_search 51 = .ok (.if_icmp .ge 22, 3) := dk_162 0 22 (dk_at dksX0_search_2 3 rfl rfl)
theorem dX0_search_54 : decode cX0_search 54 = .ok (.aload_n 0, 1) := dk_42 (dk_at dksX0_search_2 6 rfl rfl)
theorem dX0_search_55 : decode cX0_search 55 = .ok (.iload_n 3, 1) := dk_29 (dk_at dksX0_search_2 7 rfl rfl)
theorem dX0_search_56 : decode cX0_search 56 = .ok (.iload 4, 2) := dk_21 4 (dk_at dksX0_search_2 8 rfl rfl)
theorem dX0_search_58 : decode cX0_search 58 = .ok (.invokevirtual 1118, 3) := dk_182 4 94 (dk_at dksX0_search_2 10 rfl rfl)
theorem dX0_search_61 : decode cX0_search 61 = .ok (.ifCond .eq 6, 3) := dk_153 0 6 (dk_at dksX0_search_2 13 rfl rfl)
theorem dX0_search_64 : decode cX0_search 64 = .ok (.iload 4, 2) := dk_21 4 (dk_at dksX0_search_2 16 rfl rfl)
theorem dX0_search_66 : decode cX0_search 66 = .ok (.ireturn, 1) := dk_172 (dk_at dksX0_search_2 18 rfl rfl)
theorem dX0_search_67 : decode cX0_search 67 = .ok (.iinc 4 1, 3) := dk_132 4 1 (dk_at dksX0_search_2 19 rfl rfl)
theorem dX0_search_70 : decode cX0_search 70 = .ok (.goto (-25), 3) := dk_167 255 231 (dk_at dksX0_search_3 0 rfl rfl)
theorem dX0_search_73 : decode cX0_search 73 = .ok (.bipush (-2), 2) := dk_16 254 (dk_at dksX0_search_3 3 rfl rfl)
theorem dX0_search_75 : decode cX0_search 75 = .ok (.ireturn, 1) := dk_172 (dk_at dksX0_search_3 5 rfl rfl)
theorem dX0_search_76 : decode cX0_search 76 = .ok (.astore_n 3, 1) := dk_78 (dk_at dksX0_search_3 6 rfl rfl)
theorem dX0_search_77 : decode cX0_search 77 = .ok (.aload_n 0, 1) := dk_42 (dk_at dksX0_search_3 7 rfl rfl)
theorem dX0_search_78 : decode cX0_search 78 = .ok (.aload_n 3, 1) := dk_45 (dk_at dksX0_search_3 8 rfl rfl)
theorem dX0_search_79 : decode cX0_search 79 = .ok (.invokevirtual 1063, 3) := dk_182 4 39 (dk_at dksX0_search_3 9 rfl rfl)
theorem dX0_search_82 : decode cX0_search 82 = .ok (.ireturn, 1) := dk_172 (dk_at dksX0_search_3 12 rfl rfl)
abbrev cX0_isPattern : ByteArray := prog_1_method_179_code
def yX0_isPattern : MethodName := ⟨RX0, "isPattern", "(II)Z"⟩
def dkwX0_isPattern_1 : List UInt8 := [160, 0, 17, 42, 27, 29, 3, 182, 3, 173, 158, 0, 7, 4, 167, 0, 4, 3, 172]
abbrev dktX0_isPattern_1 : List UInt8 := dkwX0_isPattern_1 ++ []
def dkwX0_isPattern_0 : List UInt8 := [42, 42, 180, 4, 49, 16, 80, 28, 104, 182, 2, 164, 62, 42, 27, 182, 2, 189, 42, 29, 182, 2, 189]
abbrev dktX0_isPattern_0 : List UInt8 := dkwX0_isPattern_0 ++ dktX0_isPattern_1
theorem dksX0_isPattern_0 : cX0_isPattern.data.toList.drop 0 = dktX0_isPattern_0 := by decide +kernel
theorem dksX0_isPattern_1 : cX0_isPattern.data.toList.drop 23 = dktX0_isPattern_1 := dk_seg dksX0_isPattern_0 23 rfl rfl
theorem dX0_isPattern_0 : decode cX0_isPattern 0 = .ok (.aload_n 0, 1) := dk_42 (dk_at dksX0_isPattern_0 0 rfl rfl)
theorem dX0_isPattern_1 : decode cX0_isPattern 1 = .ok (.aload_n 0, 1) := dk_42 (dk_at dksX0_isPattern_0 1 rfl rfl)
theorem dX0_isPattern_2 : decode cX0_isPattern 2 = .ok (.getfield 1073, 3) := dk_180 4 49 (dk_at dksX0_isPattern_0 2 rfl rfl)
theorem dX0_isPattern_5 : decode cX0_isPattern 5 = .ok (.bipush 80, 2) := dk_16 80 (dk_at dksX0_isPattern_0 5 rfl rfl)
theorem dX0_isPattern_7 : decode cX0_isPattern 7 = .ok (.iload_n 2, 1) := dk_28 (dk_at dksX0_isPattern_0 7 rfl rfl)
theorem dX0_isPattern_8 : decode cX0_isPattern 8 = .ok (.imul, 1) := dk_104 (dk_at dksX0_isPattern_0 8 rfl rfl)
theorem dX0_isPattern_9 : decode cX0_isPattern 9 = .ok (.invokevirtual 676, 3) := dk_182 2 164 (dk_at dksX0_isPattern_0 9 rfl rfl)
theorem dX0_isPattern_12 : decode cX0_isPattern 12 = .ok (.istore_n 3, 1) := dk_62 (dk_at dksX0_isPattern_0 12 rfl rfl)
theorem dX0_isPattern_13 : decode cX0_isPattern 13 = .ok (.aload_n 0, 1) := dk_42 (dk_at dksX0_isPattern_0 13 rfl rfl)
theorem dX0_isPattern_14 : decode cX0_isPattern 14 = .ok (.iload_n 1, 1) := dk_27 (dk_at dksX0_isPattern_0 14 rfl rfl)
theorem dX0_isPattern_15 : decode cX0_isPattern 15 = .ok (.invokevirtual 701, 3) := dk_182 2 189 (dk_at dksX0_isPattern_0 15 rfl rfl)
theorem dX0_isPattern_18 : decode cX0_isPattern 18 = .ok (.aload_n 0, 1) := dk_42 (dk_at dksX0_isPattern_0 18 rfl rfl)
theorem dX0_isPattern_19 : decode cX0_isPattern 19 = .ok (.iload_n 3, 1) := dk_29 (dk_at dksX0_isPattern_0 19 rfl rfl)
theorem dX0_isPattern_20 : decode cX0_isPattern 20 = .ok (.invokevirtual 701, 3) := dk_182 2 189 (dk_at dksX0_isPattern_0 20 rfl rfl)
theorem dX0_isPattern_23 : decode cX0_isPattern 23 = .ok (.if_icmp .ne 17, 3) := dk_160 0 17 (dk_at dksX0_isPattern_1 0 rfl rfl)
theorem dX0_isPattern_26 : decode cX0_isPattern 26 = .ok (.aload_n 0, 1) := dk_42 (dk_at dksX0_isPattern_1 3 rfl rfl)
theorem dX0_isPattern_27 : decode cX0_isPattern 27 = .ok (.iload_n 1, 1) := dk_27 (dk_at dksX0_isPattern_1 4 rfl rfl)
theorem dX0_isPattern_28 : decode cX0_isPattern 28 = .ok (.iload_n 3, 1) := dk_29 (dk_at dksX0_isPattern_1 5 rfl rfl)
theorem dX0_isPattern_29 : decode cX0_isPattern 29 = .ok (.iconst 0, 1) := dk_3 (dk_at dksX0_isPattern_1 6 rfl rfl)
theorem dX0_isPattern_30 : decode cX0_isPattern 30 = .ok (.invokevirtual 941, 3) := dk_182 3 173 (dk_at dksX0_isPattern_1 7 rfl rfl)
theorem dX0_isPattern_33 : decode cX0_isPattern 33 = .ok (.ifCond .le 7, 3) := dk_158 0 7 (dk_at dksX0_isPattern_1 10 rfl rfl)
theorem dX0_isPattern_36 : decode cX0_isPattern 36 = .ok (.iconst 1, 1) := dk_4 (dk_at dksX0_isPattern_1 13 rfl rfl)
theorem dX0_isPattern_37 : decode cX0_isPattern 37 = .ok (.goto 4, 3) := dk_167 0 4 (dk_at dksX0_isPattern_1 14 rfl rfl)
theorem dX0_isPattern_40 : decode cX0_isPattern 40 = .ok (.iconst 0, 1) := dk_3 (dk_at dksX0_isPattern_1 17 rfl rfl)
theorem dX0_isPattern_41 : decode cX0_isPattern 41 = .ok (.ireturn, 1) := dk_172 (dk_at dksX0_isPattern_1 18 rfl rfl)
abbrev cX0_law : ByteArray := prog_1_method_181_code
def yX0_law : MethodName := ⟨RX0, "law", "(III)I"⟩
def dkwX0_law_13 : List UInt8 := [160, 0, 7, 4, 167, 0, 8, 16, 246, 21, 4, 100, 172]
abbrev dktX0_law_13 : List UInt8 := dkwX0_law_13 ++ []
def dkwX0_law_12 : List UInt8 := [153, 0, 8, 21, 5, 167, 0, 5, 21, 4, 54, 4, 132, 5, 255, 167, 255, 127, 21, 4, 16, 254]
abbrev dktX0_law_12 : List UInt8 := dkwX0_law_12 ++ dktX0_law_13
def dkwX0_law_11 : List UInt8 := [42, 21, 5, 42, 180, 4, 100, 182, 4, 103, 153, 0, 7, 4, 167, 0, 4, 3, 54, 6, 21, 6]
abbrev dktX0_law_11 : List UInt8 := dkwX0_law_11 ++ dktX0_law_12
def dkwX0_law_10 : List UInt8 := [3, 167, 0, 41, 42, 180, 4, 97, 21, 5, 51, 153, 0, 30, 42, 180, 4, 100, 21, 5, 51, 154, 0, 20]
abbrev dktX0_law_10 : List UInt8 := dkwX0_law_10 ++ dktX0_law_11
def dkwX0_law_9 : List UInt8 := [160, 0, 28, 21, 5, 154, 0, 19, 42, 3, 42, 180, 4, 97, 182, 4, 103, 153, 0, 7, 4, 167, 0, 45]
abbrev dktX0_law_9 : List UInt8 := dkwX0_law_9 ++ dktX0_law_10
def dkwX0_law_8 : List UInt8 := [167, 0, 90, 3, 167, 0, 86, 27, 4, 160, 0, 13, 42, 180, 4, 97, 21, 5, 51, 167, 0, 71, 27, 5]
abbrev dktX0_law_8 : List UInt8 := dkwX0_law_8 ++ dktX0_law_9
def dkwX0_law_7 : List UInt8 := [4, 100, 54, 5, 21, 5, 155, 0, 130, 27, 154, 0, 21, 42, 180, 4, 97, 21, 5, 51, 154, 0, 7, 4]
abbrev dktX0_law_7 : List UInt8 := dkwX0_law_7 ++ dktX0_law_8
def dkwX0_law_6 : List UInt8 := [58, 4, 17, 252, 24, 16, 236, 42, 25, 4, 182, 4, 39, 100, 100, 172, 16, 254, 54, 4, 42, 180, 0, 184]
abbrev dktX0_law_6 : List UInt8 := dkwX0_law_6 ++ dktX0_law_7
def dkwX0_law_5 : List UInt8 := [180, 4, 100, 21, 6, 42, 21, 5, 21, 6, 182, 4, 94, 84, 132, 6, 1, 167, 255, 224, 167, 0, 19]
abbrev dktX0_law_5 : List UInt8 := dkwX0_law_5 ++ dktX0_law_6
def dkwX0_law_4 : List UInt8 := [167, 0, 4, 3, 54, 5, 3, 54, 6, 21, 6, 42, 180, 0, 184, 162, 0, 29, 27, 6, 160, 0, 24, 42]
abbrev dktX0_law_4 : List UInt8 := dkwX0_law_4 ++ dktX0_law_5
def dkwX0_law_3 : List UInt8 := [21, 4, 21, 5, 182, 4, 94, 84, 132, 5, 1, 167, 255, 229, 27, 6, 160, 0, 11, 42, 29, 182, 4, 3]
abbrev dktX0_law_3 : List UInt8 := dkwX0_law_3 ++ dktX0_law_4
def dkwX0_law_2 : List UInt8 := [182, 4, 3, 54, 4, 3, 54, 5, 21, 5, 42, 180, 0, 184, 162, 0, 24, 42, 180, 4, 97, 21, 5, 42]
abbrev dktX0_law_2 : List UInt8 := dkwX0_law_2 ++ dktX0_law_3
def dkwX0_law_1 : List UInt8 := [182, 4, 0, 153, 0, 11, 42, 180, 0, 181, 5, 159, 0, 5, 2, 172, 42, 182, 3, 247, 42, 28]
abbrev dktX0_law_1 : List UInt8 := dkwX0_law_1 ++ dktX0_law_2
def dkwX0_law_0 : List UInt8 := [27, 3, 6, 184, 0, 20, 153, 0, 32, 42, 28, 182, 4, 0, 153, 0, 24, 27, 6, 160, 0, 11, 42, 29]
abbrev dktX0_law_0 : List UInt8 := dkwX0_law_0 ++ dktX0_law_1
theorem dksX0_law_0 : cX0_law.data.toList.drop 0 = dktX0_law_0 := by decide +kernel
theorem dksX0_law_1 : cX0_law.data.toList.drop 24 = dktX0_law_1 := dk_seg dksX0_law_0 24 rfl rfl
theorem dksX0_law_2 : cX0_law.data.toList.drop 46 = dktX0_law_2 := dk_seg dksX0_law_1 22 rfl rfl
theorem dksX0_law_3 : cX0_law.data.toList.drop 70 = dktX0_law_3 := dk_seg dksX0_law_2 24 rfl rfl
theorem dksX0_law_4 : cX0_law.data.toList.drop 94 = dktX0_law_4 := dk_seg dksX0_law_3 24 rfl rfl
theorem dksX0_law_5 : cX0_law.data.toList.drop 118 = dktX0_law_5 := dk_seg dksX0_law_4 24 rfl rfl
theorem dksX0_law_6 : cX0_law.data.toList.drop 141 = dktX0_law_6 := dk_seg dksX0_law_5 23 rfl rfl
theorem dksX0_law_7 : cX0_law.data.toList.drop 165 = dktX0_law_7 := dk_seg dksX0_law_6 24 rfl rfl
theorem dksX0_law_8 : cX0_law.data.toList.drop 189 = dktX0_law_8 := dk_seg dksX0_law_7 24 rfl rfl
theorem dksX0_law_9 : cX0_law.data.toList.drop 213 = dktX0_law_9 := dk_seg dksX0_law_8 24 rfl rfl
theorem dksX0_law_10 : cX0_law.data.toList.drop 237 = dktX0_law_10 := dk_seg dksX0_law_9 24 rfl rfl
theorem dksX0_law_11 : cX0_law.data.toList.drop 261 = dktX0_law_11 := dk_seg dksX0_law_10 24 rfl rfl
theorem dksX0_law_12 : cX0_law.data.toList.drop 283 = dktX0_law_12 := dk_seg dksX0_law_11 22 rfl rfl
theorem dksX0_law_13 : cX0_law.data.toList.drop 305 = dktX0_law_13 := dk_seg dksX0_law_12 22 rfl rfl
theorem dX0_law_0 : decode cX0_law 0 = .ok (.iload_n 1, 1) := dk_27 (dk_at dksX0_law_0 0 rfl rfl)
theorem dX0_law_1 : decode cX0_law 1 = .ok (.iconst 0, 1) := dk_3 (dk_at dksX0_law_0 1 rfl rfl)
theorem dX0_law_2 : decode cX0_law 2 = .ok (.iconst 3, 1) := dk_6 (dk_at dksX0_law_0 2 rfl rfl)
theorem dX0_law_3 : decode cX0_law 3 = .ok (.invokestatic 20, 3) := dk_184 0 20 (dk_at dksX0_law_0 3 rfl rfl)
theorem dX0_law_6 : decode cX0_law 6 = .ok (.ifCond .eq 32, 3) := dk_153 0 32 (dk_at dksX0_law_0 6 rfl rfl)
theorem dX0_law_9 : decode cX0_law 9 = .ok (.aload_n 0, 1) := dk_42 (dk_at dksX0_law_0 9 rfl rfl)
theorem dX0_law_10 : decode cX0_law 10 = .ok (.iload_n 2, 1) := dk_28 (dk_at dksX0_law_0 10 rfl rfl)
theorem dX0_law_11 : decode cX0_law 11 = .ok (.invokevirtual 1024, 3) := dk_182 4 0 (dk_at dksX0_law_0 11 rfl rfl)
theorem dX0_law_14 : decode cX0_law 14 = .ok (.ifCond .eq 24, 3) := dk_153 0 24 (dk_at dksX0_law_0 14 rfl rfl)
theorem dX0_law_17 : decode cX0_law 17 = .ok (.iload_n 1, 1) := dk_27 (dk_at dksX0_law_0 17 rfl rfl)
theorem dX0_law_18 : decode cX0_law 18 = .ok (.iconst 3, 1) := dk_6 (dk_at dksX0_law_0 18 rfl rfl)
theorem dX0_law_19 : decode cX0_law 19 = .ok (.if_icmp .ne 11, 3) := dk_160 0 11 (dk_at dksX0_law_0 19 rfl rfl)
theorem dX0_law_22 : decode cX0_law 22 = .ok (.aload_n 0, 1) := dk_42 (dk_at dksX0_law_0 22 rfl rfl)
theorem dX0_law_23 : decode cX0_law 23 = .ok (.iload_n 3, 1) := dk_29 (dk_at dksX0_law_0 23 rfl rfl)
theorem dX0_law_24 : decode cX0_law 24 = .ok (.invokevirtual 1024, 3) := dk_182 4 0 (dk_at dksX0_law_1 0 rfl rfl)
theorem dX0_law_27 : decode cX0_law 27 = .ok (.ifCond .eq 11, 3) := dk_153 0 11 (dk_at dksX0_law_1 3 rfl rfl)
theorem dX0_law_30 : decode cX0_law 30 = .ok (.aload_n 0, 1) := dk_42 (dk_at dksX0_law_1 6 rfl rfl)
theorem dX0_law_31 : decode cX0_law 31 = .ok (.getfield 181, 3) := dk_180 0 181 (dk_at dksX0_law_1 7 rfl rfl)
theorem dX0_law_34 : decode cX0_law 34 = .ok (.iconst 2, 1) := dk_5 (dk_at dksX0_law_1 10 rfl rfl)
theorem dX0_law_35 : decode cX0_law 35 = .ok (.if_icmp .eq 5, 3) := dk_159 0 5 (dk_at dksX0_law_1 11 rfl rfl)
theorem dX0_law_38 : decode cX0_law 38 = .ok (.iconst (-1), 1) := dk_2 (dk_at dksX0_law_1 14 rfl rfl)
theorem dX0_law_39 : decode cX0_law 39 = .ok (.ireturn, 1) := dk_172 (dk_at dksX0_law_1 15 rfl rfl)
theorem dX0_law_40 : decode cX0_law 40 = .ok (.aload_n 0, 1) := dk_42 (dk_at dksX0_law_1 16 rfl rfl)
theorem dX0_law_41 : decode cX0_law 41 = .ok (.invokevirtual 1015, 3) := dk_182 3 247 (dk_at dksX0_law_1 17 rfl rfl)
theorem dX0_law_44 : decode cX0_law 44 = .ok (.aload_n 0, 1) := dk_42 (dk_at dksX0_law_1 20 rfl rfl)
theorem dX0_law_45 : decode cX0_law 45 = .ok (.iload_n 2, 1) := dk_28 (dk_at dksX0_law_1 21 rfl rfl)
theorem dX0_law_46 : decode cX0_law 46 = .ok (.invokevirtual 1027, 3) := dk_182 4 3 (dk_at dksX0_law_2 0 rfl rfl)
theorem dX0_law_49 : decode cX0_law 49 = .ok (.istore 4, 2) := dk_54 4 (dk_at dksX0_law_2 3 rfl rfl)
theorem dX0_law_51 : decode cX0_law 51 = .ok (.iconst 0, 1) := dk_3 (dk_at dksX0_law_2 5 rfl rfl)
theorem dX0_law_52 : decode cX0_law 52 = .ok (.istore 5, 2) := dk_54 5 (dk_at dksX0_law_2 6 rfl rfl)
theorem dX0_law_54 : decode cX0_law 54 = .ok (.iload 5, 2) := dk_21 5 (dk_at dksX0_law_2 8 rfl rfl)
theorem dX0_law_56 : decode cX0_law 56 = .ok (.aload_n 0, 1) := dk_42 (dk_at dksX0_law_2 10 rfl rfl)
theorem dX0_law_57 : decode cX0_law 57 = .ok (.getfield 184, 3) := dk_180 0 184 (dk_at dksX0_law_2 11 rfl rfl)
theorem dX0_law_60 : decode cX0_law 60 = .ok (.if_icmp .ge 24, 3) := dk_162 0 24 (dk_at dksX0_law_2 14 rfl rfl)
theorem dX0_law_63 : decode cX0_law 63 = .ok (.aload_n 0, 1) := dk_42 (dk_at dksX0_law_2 17 rfl rfl)
theorem dX0_law_64 : decode cX0_law 64 = .ok (.getfield 1121, 3) := dk_180 4 97 (dk_at dksX0_law_2 18 rfl rfl)
theorem dX0_law_67 : decode cX0_law 67 = .ok (.iload 5, 2) := dk_21 5 (dk_at dksX0_law_2 21 rfl rfl)
theorem dX0_law_69 : decode cX0_law 69 = .ok (.aload_n 0, 1) := dk_42 (dk_at dksX0_law_2 23 rfl rfl)
theorem dX0_law_70 : decode cX0_law 70 = .ok (.iload 4, 2) := dk_21 4 (dk_at dksX0_law_3 0 rfl rfl)
theorem dX0_law_72 : decode cX0_law 72 = .ok (.iload 5, 2) := dk_21 5 (dk_at dksX0_law_3 2 rfl rfl)
theorem dX0_law_74 : decode cX0_law 74 = .ok (.invokevirtual 1118, 3) := dk_182 4 94 (dk_at dksX0_law_3 4 rfl rfl)
theorem dX0_law_77 : decode cX0_law 77 = .ok (.bastore, 1) := dk_84 (dk_at dksX0_law_3 7 rfl rfl)
theorem dX0_law_78 : decode cX0_law 78 = .ok (.iinc 5 1, 3) := dk_132 5 1 (dk_at dksX0_law_3 8 rfl rfl)
theorem dX0_law_81 : decode cX0_law 81 = .ok (.goto (-27), 3) := dk_167 255 229 (dk_at dksX0_law_3 11 rfl rfl)
theorem dX0_law_84 : decode cX0_law 84 = .ok (.iload_n 1, 1) := dk_27 (dk_at dksX0_law_3 14 rfl rfl)
theorem dX0_law_85 : decode cX0_law 85 = .ok (.iconst 3, 1) := dk_6 (dk_at dksX0_law_3 15 rfl rfl)
theorem dX0_law_86 : decode cX0_law 86 = .ok (.if_icmp .ne 11, 3) := dk_160 0 11 (dk_at dksX0_law_3 16 rfl rfl)
theorem dX0_law_89 : decode cX0_law 89 = .ok (.aload_n 0, 1) := dk_42 (dk_at dksX0_law_3 19 rfl rfl)
theorem dX0_law_90 : decode cX0_law 90 = .ok (.iload_n 3, 1) := dk_29 (dk_at dksX0_law_3 20 rfl rfl)
theorem dX0_law_91 : decode cX0_law 91 = .ok (.invokevirtual 1027, 3) := dk_182 4 3 (dk_at dksX0_law_3 21 rfl rfl)
theorem dX0_law_94 : decode cX0_law 94 = .ok (.goto 4, 3) := dk_167 0 4 (dk_at dksX0_law_4 0 rfl rfl)
theorem dX0_law_97 : decode cX0_law 97 = .ok (.iconst 0, 1) := dk_3 (dk_at dksX0_law_4 3 rfl rfl)
theorem dX0_law_98 : decode cX0_law 98 = .ok (.istore 5, 2) := dk_54 5 (dk_at dksX0_law_4 4 rfl rfl)
theorem dX0_law_100 : decode cX0_law 100 = .ok (.iconst 0, 1) := dk_3 (dk_at dksX0_law_4 6 rfl rfl)
theorem dX0_law_101 : decode cX0_law 101 = .ok (.istore 6, 2) := dk_54 6 (dk_at dksX0_law_4 7 rfl rfl)
theorem dX0_law_103 : decode cX0_law 103 = .ok (.iload 6, 2) := dk_21 6 (dk_at dksX0_law_4 9 rfl rfl)
theorem dX0_law_105 : decode cX0_law 105 = .ok (.aload_n 0, 1) := dk_42 (dk_at dksX0_law_4 11 rfl rfl)
theorem dX0_law_106 : decode cX0_law 106 = .ok (.getfield 184, 3) := dk_180 0 184 (dk_at dksX0_law_4 12 rfl rfl)
theorem dX0_law_109 : decode cX0_law 109 = .ok (.if_icmp .ge 29, 3) := dk_162 0 29 (dk_at dksX0_law_4 15 rfl rfl)
theorem dX0_law_112 : decode cX0_law 112 = .ok (.iload_n 1, 1) := dk_27 (dk_at dksX0_law_4 18 rfl rfl)
theorem dX0_law_113 : decode cX0_law 113 = .ok (.iconst 3, 1) := dk_6 (dk_at dksX0_law_4 19 rfl rfl)
theorem dX0_law_114 : decode cX0_law 114 = .ok (.if_icmp .ne 24, 3) := dk_160 0 24 (dk_at dksX0_law_4 20 rfl rfl)
theorem dX0_law_117 : decode cX0_law 117 = .ok (.aload_n 0, 1) := dk_42 (dk_at dksX0_law_4 23 rfl rfl)
theorem dX0_law_118 : decode cX0_law 118 = .ok (.getfield 1124, 3) := dk_180 4 100 (dk_at dksX0_law_5 0 rfl rfl)
theorem dX0_law_121 : decode cX0_law 121 = .ok (.iload 6, 2) := dk_21 6 (dk_at dksX0_law_5 3 rfl rfl)
theorem dX0_law_123 : decode cX0_law 123 = .ok (.aload_n 0, 1) := dk_42 (dk_at dksX0_law_5 5 rfl rfl)
theorem dX0_law_124 : decode cX0_law 124 = .ok (.iload 5, 2) := dk_21 5 (dk_at dksX0_law_5 6 rfl rfl)
theorem dX0_law_126 : decode cX0_law 126 = .ok (.iload 6, 2) := dk_21 6 (dk_at dksX0_law_5 8 rfl rfl)
theorem dX0_law_128 : decode cX0_law 128 = .ok (.invokevirtual 1118, 3) := dk_182 4 94 (dk_at dksX0_law_5 10 rfl rfl)
theorem dX0_law_131 : decode cX0_law 131 = .ok (.bastore, 1) := dk_84 (dk_at dksX0_law_5 13 rfl rfl)
theorem dX0_law_132 : decode cX0_law 132 = .ok (.iinc 6 1, 3) := dk_132 6 1 (dk_at dksX0_law_5 14 rfl rfl)
theorem dX0_law_135 : decode cX0_law 135 = .ok (.goto (-32), 3) := dk_167 255 224 (dk_at dksX0_law_5 17 rfl rfl)
theorem dX0_law_138 : decode cX0_law 138 = .ok (.goto 19, 3) := dk_167 0 19 (dk_at dksX0_law_5 20 rfl rfl)
theorem dX0_law_141 : decode cX0_law 141 = .ok (.astore 4, 2) := dk_58 4 (dk_at dksX0_law_6 0 rfl rfl)
theorem dX0_law_143 : decode cX0_law 143 = .ok (.sipush (-1000), 3) := dk_17 252 24 (dk_at dksX0_law_6 2 rfl rfl)
theorem dX0_law_146 : decode cX0_law 146 = .ok (.bipush (-20), 2) := dk_16 236 (dk_at dksX0_law_6 5 rfl rfl)
theorem dX0_law_148 : decode cX0_law 148 = .ok (.aload_n 0, 1) := dk_42 (dk_at dksX0_law_6 7 rfl rfl)
theorem dX0_law_149 : decode cX0_law 149 = .ok (.aload 4, 2) := dk_25 4 (dk_at dksX0_law_6 8 rfl rfl)
theorem dX0_law_151 : decode cX0_law 151 = .ok (.invokevirtual 1063, 3) := dk_182 4 39 (dk_at dksX0_law_6 10 rfl rfl)
theorem dX0_law_154 : decode cX0_law 154 = .ok (.isub, 1) := dk_100 (dk_at dksX0_law_6 13 rfl rfl)
theorem dX0_law_155 : decode cX0_law 155 = .ok (.isub, 1) := dk_100 (dk_at dksX0_law_6 14 rfl rfl)
theorem dX0_law_156 : decode cX0_law 156 = .ok (.ireturn, 1) := dk_172 (dk_at dksX0_law_6 15 rfl rfl)
theorem dX0_law_157 : decode cX0_law 157 = .ok (.bipush (-2), 2) := dk_16 254 (dk_at dksX0_law_6 16 rfl rfl)
theorem dX0_law_159 : decode cX0_law 159 = .ok (.istore 4, 2) := dk_54 4 (dk_at dksX0_law_6 18 rfl rfl)
theorem dX0_law_161 : decode cX0_law 161 = .ok (.aload_n 0, 1) := dk_42 (dk_at dksX0_law_6 20 rfl rfl)
theorem dX0_law_162 : decode cX0_law 162 = .ok (.getfield 184, 3) := dk_180 0 184 (dk_at dksX0_law_6 21 rfl rfl)
theorem dX0_law_165 : decode cX0_law 165 = .ok (.iconst 1, 1) := dk_4 (dk_at dksX0_law_7 0 rfl rfl)
theorem dX0_law_166 : decode cX0_law 166 = .ok (.isub, 1) := dk_100 (dk_at dksX0_law_7 1 rfl rfl)
theorem dX0_law_167 : decode cX0_law 167 = .ok (.istore 5, 2) := dk_54 5 (dk_at dksX0_law_7 2 rfl rfl)
theorem dX0_law_169 : decode cX0_law 169 = .ok (.iload 5, 2) := dk_21 5 (dk_at dksX0_law_7 4 rfl rfl)
theorem dX0_law_171 : decode cX0_law 171 = .ok (.ifCond .lt 130, 3) := dk_155 0 130 (dk_at dksX0_law_7 6 rfl rfl)
theorem dX0_law_174 : decode cX0_law 174 = .ok (.iload_n 1, 1) := dk_27 (dk_at dksX0_law_7 9 rfl rfl)
theorem dX0_law_175 : decode cX0_law 175 = .ok (.ifCond .ne 21, 3) := dk_154 0 21 (dk_at dksX0_law_7 10 rfl rfl)
theorem dX0_law_178 : decode cX0_law 178 = .ok (.aload_n 0, 1) := dk_42 (dk_at dksX0_law_7 13 rfl rfl)
theorem dX0_law_179 : decode cX0_law 179 = .ok (.getfield 1121, 3) := dk_180 4 97 (dk_at dksX0_law_7 14 rfl rfl)
theorem dX0_law_182 : decode cX0_law 182 = .ok (.iload 5, 2) := dk_21 5 (dk_at dksX0_law_7 17 rfl rfl)
theorem dX0_law_184 : decode cX0_law 184 = .ok (.baload, 1) := dk_51 (dk_at dksX0_law_7 19 rfl rfl)
theorem dX0_law_185 : decode cX0_law 185 = .ok (.ifCond .ne 7, 3) := dk_154 0 7 (dk_at dksX0_law_7 20 rfl rfl)
theorem dX0_law_188 : decode cX0_law 188 = .ok (.iconst 1, 1) := dk_4 (dk_at dksX0_law_7 23 rfl rfl)
theorem dX0_law_189 : decode cX0_law 189 = .ok (.goto 90, 3) := dk_167 0 90 (dk_at dksX0_law_8 0 rfl rfl)
theorem dX0_law_192 : decode cX0_law 192 = .ok (.iconst 0, 1) := dk_3 (dk_at dksX0_law_8 3 rfl rfl)
theorem dX0_law_193 : decode cX0_law 193 = .ok (.goto 86, 3) := dk_167 0 86 (dk_at dksX0_law_8 4 rfl rfl)
theorem dX0_law_196 : decode cX0_law 196 = .ok (.iload_n 1, 1) := dk_27 (dk_at dksX0_law_8 7 rfl rfl)
theorem dX0_law_197 : decode cX0_law 197 = .ok (.iconst 1, 1) := dk_4 (dk_at dksX0_law_8 8 rfl rfl)
theorem dX0_law_198 : decode cX0_law 198 = .ok (.if_icmp .ne 13, 3) := dk_160 0 13 (dk_at dksX0_law_8 9 rfl rfl)
theorem dX0_law_201 : decode cX0_law 201 = .ok (.aload_n 0, 1) := dk_42 (dk_at dksX0_law_8 12 rfl rfl)
theorem dX0_law_202 : decode cX0_law 202 = .ok (.getfield 1121, 3) := dk_180 4 97 (dk_at dksX0_law_8 13 rfl rfl)
theorem dX0_law_205 : decode cX0_law 205 = .ok (.iload 5, 2) := dk_21 5 (dk_at dksX0_law_8 16 rfl rfl)
theorem dX0_law_207 : decode cX0_law 207 = .ok (.baload, 1) := dk_51 (dk_at dksX0_law_8 18 rfl rfl)
theorem dX0_law_208 : decode cX0_law 208 = .ok (.goto 71, 3) := dk_167 0 71 (dk_at dksX0_law_8 19 rfl rfl)
theorem dX0_law_211 : decode cX0_law 211 = .ok (.iload_n 1, 1) := dk_27 (dk_at dksX0_law_8 22 rfl rfl)
theorem dX0_law_212 : decode cX0_law 212 = .ok (.iconst 2, 1) := dk_5 (dk_at dksX0_law_8 23 rfl rfl)
theorem dX0_law_213 : decode cX0_law 213 = .ok (.if_icmp .ne 28, 3) := dk_160 0 28 (dk_at dksX0_law_9 0 rfl rfl)
theorem dX0_law_216 : decode cX0_law 216 = .ok (.iload 5, 2) := dk_21 5 (dk_at dksX0_law_9 3 rfl rfl)
theorem dX0_law_218 : decode cX0_law 218 = .ok (.ifCond .ne 19, 3) := dk_154 0 19 (dk_at dksX0_law_9 5 rfl rfl)
theorem dX0_law_221 : decode cX0_law 221 = .ok (.aload_n 0, 1) := dk_42 (dk_at dksX0_law_9 8 rfl rfl)
theorem dX0_law_222 : decode cX0_law 222 = .ok (.iconst 0, 1) := dk_3 (dk_at dksX0_law_9 9 rfl rfl)
theorem dX0_law_223 : decode cX0_law 223 = .ok (.aload_n 0, 1) := dk_42 (dk_at dksX0_law_9 10 rfl rfl)
theorem dX0_law_224 : decode cX0_law 224 = .ok (.getfield 1121, 3) := dk_180 4 97 (dk_at dksX0_law_9 11 rfl rfl)
theorem dX0_law_227 : decode cX0_law 227 = .ok (.invokevirtual 1127, 3) := dk_182 4 103 (dk_at dksX0_law_9 14 rfl rfl)
theorem dX0_law_230 : decode cX0_law 230 = .ok (.ifCond .eq 7, 3) := dk_153 0 7 (dk_at dksX0_law_9 17 rfl rfl)
theorem dX0_law_233 : decode cX0_law 233 = .ok (.iconst 1, 1) := dk_4 (dk_at dksX0_law_9 20 rfl rfl)
theorem dX0_law_234 : decode cX0_law 234 = .ok (.goto 45, 3) := dk_167 0 45 (dk_at dksX0_law_9 21 rfl rfl)
theorem dX0_law_237 : decode cX0_law 237 = .ok (.iconst 0, 1) := dk_3 (dk_at dksX0_law_10 0 rfl rfl)
theorem dX0_law_238 : decode cX0_law 238 = .ok (.goto 41, 3) := dk_167 0 41 (dk_at dksX0_law_10 1 rfl rfl)
theorem dX0_law_241 : decode cX0_law 241 = .ok (.aload_n 0, 1) := dk_42 (dk_at dksX0_law_10 4 rfl rfl)
theorem dX0_law_242 : decode cX0_law 242 = .ok (.getfield 1121, 3) := dk_180 4 97 (dk_at dksX0_law_10 5 rfl rfl)
theorem dX0_law_245 : decode cX0_law 245 = .ok (.iload 5, 2) := dk_21 5 (dk_at dksX0_law_10 8 rfl rfl)
theorem dX0_law_247 : decode cX0_law 247 = .ok (.baload, 1) := dk_51 (dk_at dksX0_law_10 10 rfl rfl)
theorem dX0_law_248 : decode cX0_law 248 = .ok (.ifCond .eq 30, 3) := dk_153 0 30 (dk_at dksX0_law_10 11 rfl rfl)
theorem dX0_law_251 : decode cX0_law 251 = .ok (.aload_n 0, 1) := dk_42 (dk_at dksX0_law_10 14 rfl rfl)
theorem dX0_law_252 : decode cX0_law 252 = .ok (.getfield 1124, 3) := dk_180 4 100 (dk_at dksX0_law_10 15 rfl rfl)
theorem dX0_law_255 : decode cX0_law 255 = .ok (.iload 5, 2) := dk_21 5 (dk_at dksX0_law_10 18 rfl rfl)
theorem dX0_law_257 : decode cX0_law 257 = .ok (.baload, 1) := dk_51 (dk_at dksX0_law_10 20 rfl rfl)
theorem dX0_law_258 : decode cX0_law 258 = .ok (.ifCond .ne 20, 3) := dk_154 0 20 (dk_at dksX0_law_10 21 rfl rfl)
theorem dX0_law_261 : decode cX0_law 261 = .ok (.aload_n 0, 1) := dk_42 (dk_at dksX0_law_11 0 rfl rfl)
theorem dX0_law_262 : decode cX0_law 262 = .ok (.iload 5, 2) := dk_21 5 (dk_at dksX0_law_11 1 rfl rfl)
theorem dX0_law_264 : decode cX0_law 264 = .ok (.aload_n 0, 1) := dk_42 (dk_at dksX0_law_11 3 rfl rfl)
theorem dX0_law_265 : decode cX0_law 265 = .ok (.getfield 1124, 3) := dk_180 4 100 (dk_at dksX0_law_11 4 rfl rfl)
theorem dX0_law_268 : decode cX0_law 268 = .ok (.invokevirtual 1127, 3) := dk_182 4 103 (dk_at dksX0_law_11 7 rfl rfl)
theorem dX0_law_271 : decode cX0_law 271 = .ok (.ifCond .eq 7, 3) := dk_153 0 7 (dk_at dksX0_law_11 10 rfl rfl)
theorem dX0_law_274 : decode cX0_law 274 = .ok (.iconst 1, 1) := dk_4 (dk_at dksX0_law_11 13 rfl rfl)
theorem dX0_law_275 : decode cX0_law 275 = .ok (.goto 4, 3) := dk_167 0 4 (dk_at dksX0_law_11 14 rfl rfl)
theorem dX0_law_278 : decode cX0_law 278 = .ok (.iconst 0, 1) := dk_3 (dk_at dksX0_law_11 17 rfl rfl)
theorem dX0_law_279 : decode cX0_law 279 = .ok (.istore 6, 2) := dk_54 6 (dk_at dksX0_law_11 18 rfl rfl)
theorem dX0_law_281 : decode cX0_law 281 = .ok (.iload 6, 2) := dk_21 6 (dk_at dksX0_law_11 20 rfl rfl)
theorem dX0_law_283 : decode cX0_law 283 = .ok (.ifCond .eq 8, 3) := dk_153 0 8 (dk_at dksX0_law_12 0 rfl rfl)
theorem dX0_law_286 : decode cX0_law 286 = .ok (.iload 5, 2) := dk_21 5 (dk_at dksX0_law_12 3 rfl rfl)
theorem dX0_law_288 : decode cX0_law 288 = .ok (.goto 5, 3) := dk_167 0 5 (dk_at dksX0_law_12 5 rfl rfl)
theorem dX0_law_291 : decode cX0_law 291 = .ok (.iload 4, 2) := dk_21 4 (dk_at dksX0_law_12 8 rfl rfl)
theorem dX0_law_293 : decode cX0_law 293 = .ok (.istore 4, 2) := dk_54 4 (dk_at dksX0_law_12 10 rfl rfl)
theorem dX0_law_295 : decode cX0_law 295 = .ok (.iinc 5 (-1), 3) := dk_132 5 255 (dk_at dksX0_law_12 12 rfl rfl)
theorem dX0_law_298 : decode cX0_law 298 = .ok (.goto (-129), 3) := dk_167 255 127 (dk_at dksX0_law_12 15 rfl rfl)
theorem dX0_law_301 : decode cX0_law 301 = .ok (.iload 4, 2) := dk_21 4 (dk_at dksX0_law_12 18 rfl rfl)
theorem dX0_law_303 : decode cX0_law 303 = .ok (.bipush (-2), 2) := dk_16 254 (dk_at dksX0_law_12 20 rfl rfl)
theorem dX0_law_305 : decode cX0_law 305 = .ok (.if_icmp .ne 7, 3) := dk_160 0 7 (dk_at dksX0_law_13 0 rfl rfl)
theorem dX0_law_308 : decode cX0_law 308 = .ok (.iconst 1, 1) := dk_4 (dk_at dksX0_law_13 3 rfl rfl)
theorem dX0_law_309 : decode cX0_law 309 = .ok (.goto 8, 3) := dk_167 0 8 (dk_at dksX0_law_13 4 rfl rfl)
theorem dX0_law_312 : decode cX0_law 312 = .ok (.bipush (-10), 2) := dk_16 246 (dk_at dksX0_law_13 7 rfl rfl)
theorem dX0_law_314 : decode cX0_law 314 = .ok (.iload 4, 2) := dk_21 4 (dk_at dksX0_law_13 9 rfl rfl)
theorem dX0_law_316 : decode cX0_law 316 = .ok (.isub, 1) := dk_100 (dk_at dksX0_law_13 11 rfl rfl)
theorem dX0_law_317 : decode cX0_law 317 = .ok (.ireturn, 1) := dk_172 (dk_at dksX0_law_13 12 rfl rfl)
abbrev cX0_escapes : ByteArray := prog_1_method_182_code
def yX0_escapes : MethodName := ⟨RX0, "escapes", "(I[Z)Z"⟩
def dkwX0_escapes_9 : List UInt8 := [21, 5, 46, 79, 167, 255, 98, 3, 172]
abbrev dktX0_escapes_9 : List UInt8 := dkwX0_escapes_9 ++ []
def dkwX0_escapes_8 : List UInt8 := [21, 5, 4, 79, 42, 180, 4, 109, 29, 21, 5, 79, 42, 180, 4, 112, 29, 132, 3, 1, 42, 180, 4, 67]
abbrev dktX0_escapes_8 : List UInt8 := dkwX0_escapes_8 ++ dktX0_escapes_9
def dkwX0_escapes_7 : List UInt8 := [4, 172, 44, 21, 5, 51, 154, 0, 45, 42, 180, 4, 107, 21, 5, 46, 154, 0, 35, 42, 180, 4, 107]
abbrev dktX0_escapes_7 : List UInt8 := dkwX0_escapes_7 ++ dktX0_escapes_8
def dkwX0_escapes_6 : List UInt8 := [4, 96, 79, 46, 54, 5, 44, 21, 5, 51, 154, 0, 16, 42, 180, 4, 107, 21, 5, 46, 4, 160, 0, 5]
abbrev dktX0_escapes_6 : List UInt8 := dkwX0_escapes_6 ++ dktX0_escapes_7
def dkwX0_escapes_5 : List UInt8 := [21, 4, 5, 79, 132, 3, 255, 167, 0, 92, 42, 180, 4, 88, 42, 180, 4, 112, 29, 4, 100, 92, 46, 91]
abbrev dktX0_escapes_5 : List UInt8 := dkwX0_escapes_5 ++ dktX0_escapes_6
def dkwX0_escapes_4 : List UInt8 := [42, 180, 4, 112, 29, 4, 100, 46, 42, 180, 4, 67, 21, 4, 4, 96, 46, 160, 0, 17, 42, 180, 4, 107]
abbrev dktX0_escapes_4 : List UInt8 := dkwX0_escapes_4 ++ dktX0_escapes_5
def dkwX0_escapes_3 : List UInt8 := [46, 54, 4, 42, 180, 4, 67, 21, 4, 46, 42, 180, 4, 67, 21, 4, 4, 96, 46, 160, 0, 5, 4, 172]
abbrev dktX0_escapes_3 : List UInt8 := dkwX0_escapes_3 ++ dktX0_escapes_4
def dkwX0_escapes_2 : List UInt8 := [180, 4, 67, 27, 46, 79, 42, 180, 4, 107, 27, 4, 79, 29, 158, 0, 160, 42, 180, 4, 109, 29, 4, 100]
abbrev dktX0_escapes_2 : List UInt8 := dkwX0_escapes_2 ++ dktX0_escapes_3
def dkwX0_escapes_1 : List UInt8 := [79, 132, 3, 1, 167, 255, 238, 4, 62, 42, 180, 4, 109, 3, 27, 79, 42, 180, 4, 112, 3, 42]
abbrev dktX0_escapes_1 : List UInt8 := dkwX0_escapes_1 ++ dktX0_escapes_2
def dkwX0_escapes_0 : List UInt8 := [44, 27, 51, 153, 0, 5, 3, 172, 3, 62, 29, 42, 180, 0, 184, 162, 0, 16, 42, 180, 4, 107, 29, 3]
abbrev dktX0_escapes_0 : List UInt8 := dkwX0_escapes_0 ++ dktX0_escapes_1
theorem dksX0_escapes_0 : cX0_escapes.data.toList.drop 0 = dktX0_escapes_0 := by decide +kernel
theorem dksX0_escapes_1 : cX0_escapes.data.toList.drop 24 = dktX0_escapes_1 := dk_seg dksX0_escapes_0 24 rfl rfl
theorem dksX0_escapes_2 : cX0_escapes.data.toList.drop 46 = dktX0_escapes_2 := dk_seg dksX0_escapes_1 22 rfl rfl
theorem dksX0_escapes_3 : cX0_escapes.data.toList.drop 70 = dktX0_escapes_3 := dk_seg dksX0_escapes_2 24 rfl rfl
theorem dksX0_escapes_4 : cX0_escapes.data.toList.drop 94 = dktX0_escapes_4 := dk_seg dksX0_escapes_3 24 rfl rfl
theorem dksX0_escapes_5 : cX0_escapes.data.toList.drop 118 = dktX0_escapes_5 := dk_seg dksX0_escapes_4 24 rfl rfl
theorem dksX0_escapes_6 : cX0_escapes.data.toList.drop 142 = dktX0_escapes_6 := dk_seg dksX0_escapes_5 24 rfl rfl
theorem dksX0_escapes_7 : cX0_escapes.data.toList.drop 166 = dktX0_escapes_7 := dk_seg dksX0_escapes_6 24 rfl rfl
theorem dksX0_escapes_8 : cX0_escapes.data.toList.drop 189 = dktX0_escapes_8 := dk_seg dksX0_escapes_7 23 rfl rfl
theorem dksX0_escapes_9 : cX0_escapes.data.toList.drop 213 = dktX0_escapes_9 := dk_seg dksX0_escapes_8 24 rfl rfl
theorem dX0_escapes_0 : decode cX0_escapes 0 = .ok (.aload_n 2, 1) := dk_44 (dk_at dksX0_escapes_0 0 rfl rfl)
theorem dX0_escapes_1 : decode cX0_escapes 1 = .ok (.iload_n 1, 1) := dk_27 (dk_at dksX0_escapes_0 1 rfl rfl)
theorem dX0_escapes_2 : decode cX0_escapes 2 = .ok (.baload, 1) := dk_51 (dk_at dksX0_escapes_0 2 rfl rfl)
theorem dX0_escapes_3 : decode cX0_escapes 3 = .ok (.ifCond .eq 5, 3) := dk_153 0 5 (dk_at dksX0_escapes_0 3 rfl rfl)
theorem dX0_escapes_6 : decode cX0_escapes 6 = .ok (.iconst 0, 1) := dk_3 (dk_at dksX0_escapes_0 6 rfl rfl)
theorem dX0_escapes_7 : decode cX0_escapes 7 = .ok (.ireturn, 1) := dk_172 (dk_at dksX0_escapes_0 7 rfl rfl)
theorem dX0_escapes_8 : decode cX0_escapes 8 = .ok (.iconst 0, 1) := dk_3 (dk_at dksX0_escapes_0 8 rfl rfl)
theorem dX0_escapes_9 : decode cX0_escapes 9 = .ok (.istore_n 3, 1) := dk_62 (dk_at dksX0_escapes_0 9 rfl rfl)
theorem dX0_escapes_10 : decode cX0_escapes 10 = .ok (.iload_n 3, 1) := dk_29 (dk_at dksX0_escapes_0 10 rfl rfl)
theorem dX0_escapes_11 : decode cX0_escapes 11 = .ok (.aload_n 0, 1) := dk_42 (dk_at dksX0_escapes_0 11 rfl rfl)
theorem dX0_escapes_12 : decode cX0_escapes 12 = .ok (.getfield 184, 3) := dk_180 0 184 (dk_at dksX0_escapes_0 12 rfl rfl)
theorem dX0_escapes_15 : decode cX0_escapes 15 = .ok (.if_icmp .ge 16, 3) := dk_162 0 16 (dk_at dksX0_escapes_0 15 rfl rfl)
theorem dX0_escapes_18 : decode cX0_escapes 18 = .ok (.aload_n 0, 1) := dk_42 (dk_at dksX0_escapes_0 18 rfl rfl)
theorem dX0_escapes_19 : decode cX0_escapes 19 = .ok (.getfield 1131, 3) := dk_180 4 107 (dk_at dksX0_escapes_0 19 rfl rfl)
theorem dX0_escapes_22 : decode cX0_escapes 22 = .ok (.iload_n 3, 1) := dk_29 (dk_at dksX0_escapes_0 22 rfl rfl)
theorem dX0_escapes_23 : decode cX0_escapes 23 = .ok (.iconst 0, 1) := dk_3 (dk_at dksX0_escapes_0 23 rfl rfl)
theorem dX0_escapes_24 : decode cX0_escapes 24 = .ok (.iastore, 1) := dk_79 (dk_at dksX0_escapes_1 0 rfl rfl)
theorem dX0_escapes_25 : decode cX0_escapes 25 = .ok (.iinc 3 1, 3) := dk_132 3 1 (dk_at dksX0_escapes_1 1 rfl rfl)
theorem dX0_escapes_28 : decode cX0_escapes 28 = .ok (.goto (-18), 3) := dk_167 255 238 (dk_at dksX0_escapes_1 4 rfl rfl)
theorem dX0_escapes_31 : decode cX0_escapes 31 = .ok (.iconst 1, 1) := dk_4 (dk_at dksX0_escapes_1 7 rfl rfl)
theorem dX0_escapes_32 : decode cX0_escapes 32 = .ok (.istore_n 3, 1) := dk_62 (dk_at dksX0_escapes_1 8 rfl rfl)
theorem dX0_escapes_33 : decode cX0_escapes 33 = .ok (.aload_n 0, 1) := dk_42 (dk_at dksX0_escapes_1 9 rfl rfl)
theorem dX0_escapes_34 : decode cX0_escapes 34 = .ok (.getfield 1133, 3) := dk_180 4 109 (dk_at dksX0_escapes_1 10 rfl rfl)
theorem dX0_escapes_37 : decode cX0_escapes 37 = .ok (.iconst 0, 1) := dk_3 (dk_at dksX0_escapes_1 13 rfl rfl)
theorem dX0_escapes_38 : decode cX0_escapes 38 = .ok (.iload_n 1, 1) := dk_27 (dk_at dksX0_escapes_1 14 rfl rfl)
theorem dX0_escapes_39 : decode cX0_escapes 39 = .ok (.iastore, 1) := dk_79 (dk_at dksX0_escapes_1 15 rfl rfl)
theorem dX0_escapes_40 : decode cX0_escapes 40 = .ok (.aload_n 0, 1) := dk_42 (dk_at dksX0_escapes_1 16 rfl rfl)
theorem dX0_escapes_41 : decode cX0_escapes 41 = .ok (.getfield 1136, 3) := dk_180 4 112 (dk_at dksX0_escapes_1 17 rfl rfl)
theorem dX0_escapes_44 : decode cX0_escapes 44 = .ok (.iconst 0, 1) := dk_3 (dk_at dksX0_escapes_1 20 rfl rfl)
theorem dX0_escapes_45 : decode cX0_escapes 45 = .ok (.aload_n 0, 1) := dk_42 (dk_at dksX0_escapes_1 21 rfl rfl)
theorem dX0_escapes_46 : decode cX0_escapes 46 = .ok (.getfield 1091, 3) := dk_180 4 67 (dk_at dksX0_escapes_2 0 rfl rfl)
theorem dX0_escapes_49 : decode cX0_escapes 49 = .ok (.iload_n 1, 1) := dk_27 (dk_at dksX0_escapes_2 3 rfl rfl)
theorem dX0_escapes_50 : decode cX0_escapes 50 = .ok (.iaload, 1) := dk_46 (dk_at dksX0_escapes_2 4 rfl rfl)
theorem dX0_escapes_51 : decode cX0_escapes 51 = .ok (.iastore, 1) := dk_79 (dk_at dksX0_escapes_2 5 rfl rfl)
theorem dX0_escapes_52 : decode cX0_escapes 52 = .ok (.aload_n 0, 1) := dk_42 (dk_at dksX0_escapes_2 6 rfl rfl)
theorem dX0_escapes_53 : decode cX0_escapes 53 = .ok (.getfield 1131, 3) := dk_180 4 107 (dk_at dksX0_escapes_2 7 rfl rfl)
theorem dX0_escapes_56 : decode cX0_escapes 56 = .ok (.iload_n 1, 1) := dk_27 (dk_at dksX0_escapes_2 10 rfl rfl)
theorem dX0_escapes_57 : decode cX0_escapes 57 = .ok (.iconst 1, 1) := dk_4 (dk_at dksX0_escapes_2 11 rfl rfl)
theorem dX0_escapes_58 : decode cX0_escapes 58 = .ok (.iastore, 1) := dk_79 (dk_at dksX0_escapes_2 12 rfl rfl)
theorem dX0_escapes_59 : decode cX0_escapes 59 = .ok (.iload_n 3, 1) := dk_29 (dk_at dksX0_escapes_2 13 rfl rfl)
theorem dX0_escapes_60 : decode cX0_escapes 60 = .ok (.ifCond .le 160, 3) := dk_158 0 160 (dk_at dksX0_escapes_2 14 rfl rfl)
theorem dX0_escapes_63 : decode cX0_escapes 63 = .ok (.aload_n 0, 1) := dk_42 (dk_at dksX0_escapes_2 17 rfl rfl)
theorem dX0_escapes_64 : decode cX0_escapes 64 = .ok (.getfield 1133, 3) := dk_180 4 109 (dk_at dksX0_escapes_2 18 rfl rfl)
theorem dX0_escapes_67 : decode cX0_escapes 67 = .ok (.iload_n 3, 1) := dk_29 (dk_at dksX0_escapes_2 21 rfl rfl)
theorem dX0_escapes_68 : decode cX0_escapes 68 = .ok (.iconst 1, 1) := dk_4 (dk_at dksX0_escapes_2 22 rfl rfl)
theorem dX0_escapes_69 : decode cX0_escapes 69 = .ok (.isub, 1) := dk_100 (dk_at dksX0_escapes_2 23 rfl rfl)
theorem dX0_escapes_70 : decode cX0_escapes 70 = .ok (.iaload, 1) := dk_46 (dk_at dksX0_escapes_3 0 rfl rfl)
theorem dX0_escapes_71 : decode cX0_escapes 71 = .ok (.istore 4, 2) := dk_54 4 (dk_at dksX0_escapes_3 1 rfl rfl)
theorem dX0_escapes_73 : decode cX0_escapes 73 = .ok (.aload_n 0, 1) := dk_42 (dk_at dksX0_escapes_3 3 rfl rfl)
theorem dX0_escapes_74 : decode cX0_escapes 74 = .ok (.getfield 1091, 3) := dk_180 4 67 (dk_at dksX0_escapes_3 4 rfl rfl)
theorem dX0_escapes_77 : decode cX0_escapes 77 = .ok (.iload 4, 2) := dk_21 4 (dk_at dksX0_escapes_3 7 rfl rfl)
theorem dX0_escapes_79 : decode cX0_escapes 79 = .ok (.iaload, 1) := dk_46 (dk_at dksX0_escapes_3 9 rfl rfl)
theorem dX0_escapes_80 : decode cX0_escapes 80 = .ok (.aload_n 0, 1) := dk_42 (dk_at dksX0_escapes_3 10 rfl rfl)
theorem dX0_escapes_81 : decode cX0_escapes 81 = .ok (.getfield 1091, 3) := dk_180 4 67 (dk_at dksX0_escapes_3 11 rfl rfl)
theorem dX0_escapes_84 : decode cX0_escapes 84 = .ok (.iload 4, 2) := dk_21 4 (dk_at dksX0_escapes_3 14 rfl rfl)
theorem dX0_escapes_86 : decode cX0_escapes 86 = .ok (.iconst 1, 1) := dk_4 (dk_at dksX0_escapes_3 16 rfl rfl)
theorem dX0_escapes_87 : decode cX0_escapes 87 = .ok (.iadd, 1) := dk_96 (dk_at dksX0_escapes_3 17 rfl rfl)
theorem dX0_escapes_88 : decode cX0_escapes 88 = .ok (.iaload, 1) := dk_46 (dk_at dksX0_escapes_3 18 rfl rfl)
theorem dX0_escapes_89 : decode cX0_escapes 89 = .ok (.if_icmp .ne 5, 3) := dk_160 0 5 (dk_at dksX0_escapes_3 19 rfl rfl)
theorem dX0_escapes_92 : decode cX0_escapes 92 = .ok (.iconst 1, 1) := dk_4 (dk_at dksX0_escapes_3 22 rfl rfl)
theorem dX0_escapes_93 : decode cX0_escapes 93 = .ok (.ireturn, 1) := dk_172 (dk_at dksX0_escapes_3 23 rfl rfl)
theorem dX0_escapes_94 : decode cX0_escapes 94 = .ok (.aload_n 0, 1) := dk_42 (dk_at dksX0_escapes_4 0 rfl rfl)
theorem dX0_escapes_95 : decode cX0_escapes 95 = .ok (.getfield 1136, 3) := dk_180 4 112 (dk_at dksX0_escapes_4 1 rfl rfl)
theorem dX0_escapes_98 : decode cX0_escapes 98 = .ok (.iload_n 3, 1) := dk_29 (dk_at dksX0_escapes_4 4 rfl rfl)
theorem dX0_escapes_99 : decode cX0_escapes 99 = .ok (.iconst 1, 1) := dk_4 (dk_at dksX0_escapes_4 5 rfl rfl)
theorem dX0_escapes_100 : decode cX0_escapes 100 = .ok (.isub, 1) := dk_100 (dk_at dksX0_escapes_4 6 rfl rfl)
theorem dX0_escapes_101 : decode cX0_escapes 101 = .ok (.iaload, 1) := dk_46 (dk_at dksX0_escapes_4 7 rfl rfl)
theorem dX0_escapes_102 : decode cX0_escapes 102 = .ok (.aload_n 0, 1) := dk_42 (dk_at dksX0_escapes_4 8 rfl rfl)
theorem dX0_escapes_103 : decode cX0_escapes 103 = .ok (.getfield 1091, 3) := dk_180 4 67 (dk_at dksX0_escapes_4 9 rfl rfl)
theorem dX0_escapes_106 : decode cX0_escapes 106 = .ok (.iload 4, 2) := dk_21 4 (dk_at dksX0_escapes_4 12 rfl rfl)
theorem dX0_escapes_108 : decode cX0_escapes 108 = .ok (.iconst 1, 1) := dk_4 (dk_at dksX0_escapes_4 14 rfl rfl)
theorem dX0_escapes_109 : decode cX0_escapes 109 = .ok (.iadd, 1) := dk_96 (dk_at dksX0_escapes_4 15 rfl rfl)
theorem dX0_escapes_110 : decode cX0_escapes 110 = .ok (.iaload, 1) := dk_46 (dk_at dksX0_escapes_4 16 rfl rfl)
theorem dX0_escapes_111 : decode cX0_escapes 111 = .ok (.if_icmp .ne 17, 3) := dk_160 0 17 (dk_at dksX0_escapes_4 17 rfl rfl)
theorem dX0_escapes_114 : decode cX0_escapes 114 = .ok (.aload_n 0, 1) := dk_42 (dk_at dksX0_escapes_4 20 rfl rfl)
theorem dX0_escapes_115 : decode cX0_escapes 115 = .ok (.getfield 1131, 3) := dk_180 4 107 (dk_at dksX0_escapes_4 21 rfl rfl)
theorem dX0_escapes_118 : decode cX0_escapes 118 = .ok (.iload 4, 2) := dk_21 4 (dk_at dksX0_escapes_5 0 rfl rfl)
theorem dX0_escapes_120 : decode cX0_escapes 120 = .ok (.iconst 2, 1) := dk_5 (dk_at dksX0_escapes_5 2 rfl rfl)
theorem dX0_escapes_121 : decode cX0_escapes 121 = .ok (.iastore, 1) := dk_79 (dk_at dksX0_escapes_5 3 rfl rfl)
theorem dX0_escapes_122 : decode cX0_escapes 122 = .ok (.iinc 3 (-1), 3) := dk_132 3 255 (dk_at dksX0_escapes_5 4 rfl rfl)
theorem dX0_escapes_125 : decode cX0_escapes 125 = .ok (.goto 92, 3) := dk_167 0 92 (dk_at dksX0_escapes_5 7 rfl rfl)
theorem dX0_escapes_128 : decode cX0_escapes 128 = .ok (.aload_n 0, 1) := dk_42 (dk_at dksX0_escapes_5 10 rfl rfl)
theorem dX0_escapes_129 : decode cX0_escapes 129 = .ok (.getfield 1112, 3) := dk_180 4 88 (dk_at dksX0_escapes_5 11 rfl rfl)
theorem dX0_escapes_132 : decode cX0_escapes 132 = .ok (.aload_n 0, 1) := dk_42 (dk_at dksX0_escapes_5 14 rfl rfl)
theorem dX0_escapes_133 : decode cX0_escapes 133 = .ok (.getfield 1136, 3) := dk_180 4 112 (dk_at dksX0_escapes_5 15 rfl rfl)
theorem dX0_escapes_136 : decode cX0_escapes 136 = .ok (.iload_n 3, 1) := dk_29 (dk_at dksX0_escapes_5 18 rfl rfl)
theorem dX0_escapes_137 : decode cX0_escapes 137 = .ok (.iconst 1, 1) := dk_4 (dk_at dksX0_escapes_5 19 rfl rfl)
theorem dX0_escapes_138 : decode cX0_escapes 138 = .ok (.isub, 1) := dk_100 (dk_at dksX0_escapes_5 20 rfl rfl)
theorem dX0_escapes_139 : decode cX0_escapes 139 = .ok (.dup2, 1) := dk_92 (dk_at dksX0_escapes_5 21 rfl rfl)
theorem dX0_escapes_140 : decode cX0_escapes 140 = .ok (.iaload, 1) := dk_46 (dk_at dksX0_escapes_5 22 rfl rfl)
theorem dX0_escapes_141 : decode cX0_escapes 141 = .ok (.dup_x2, 1) := dk_91 (dk_at dksX0_escapes_5 23 rfl rfl)
theorem dX0_escapes_142 : decode cX0_escapes 142 = .ok (.iconst 1, 1) := dk_4 (dk_at dksX0_escapes_6 0 rfl rfl)
theorem dX0_escapes_143 : decode cX0_escapes 143 = .ok (.iadd, 1) := dk_96 (dk_at dksX0_escapes_6 1 rfl rfl)
theorem dX0_escapes_144 : decode cX0_escapes 144 = .ok (.iastore, 1) := dk_79 (dk_at dksX0_escapes_6 2 rfl rfl)
theorem dX0_escapes_145 : decode cX0_escapes 145 = .ok (.iaload, 1) := dk_46 (dk_at dksX0_escapes_6 3 rfl rfl)
theorem dX0_escapes_146 : decode cX0_escapes 146 = .ok (.istore 5, 2) := dk_54 5 (dk_at dksX0_escapes_6 4 rfl rfl)
theorem dX0_escapes_148 : decode cX0_escapes 148 = .ok (.aload_n 2, 1) := dk_44 (dk_at dksX0_escapes_6 6 rfl rfl)
theorem dX0_escapes_149 : decode cX0_escapes 149 = .ok (.iload 5, 2) := dk_21 5 (dk_at dksX0_escapes_6 7 rfl rfl)
theorem dX0_escapes_151 : decode cX0_escapes 151 = .ok (.baload, 1) := dk_51 (dk_at dksX0_escapes_6 9 rfl rfl)
theorem dX0_escapes_152 : decode cX0_escapes 152 = .ok (.ifCond .ne 16, 3) := dk_154 0 16 (dk_at dksX0_escapes_6 10 rfl rfl)
theorem dX0_escapes_155 : decode cX0_escapes 155 = .ok (.aload_n 0, 1) := dk_42 (dk_at dksX0_escapes_6 13 rfl rfl)
theorem dX0_escapes_156 : decode cX0_escapes 156 = .ok (.getfield 1131, 3) := dk_180 4 107 (dk_at dksX0_escapes_6 14 rfl rfl)
theorem dX0_escapes_159 : decode cX0_escapes 159 = .ok (.iload 5, 2) := dk_21 5 (dk_at dksX0_escapes_6 17 rfl rfl)
theorem dX0_escapes_161 : decode cX0_escapes 161 = .ok (.iaload, 1) := dk_46 (dk_at dksX0_escapes_6 19 rfl rfl)
theorem dX0_escapes_162 : decode cX0_escapes 162 = .ok (.iconst 1, 1) := dk_4 (dk_at dksX0_escapes_6 20 rfl rfl)
theorem dX0_escapes_163 : decode cX0_escapes 163 = .ok (.if_icmp .ne 5, 3) := dk_160 0 5 (dk_at dksX0_escapes_6 21 rfl rfl)
theorem dX0_escapes_166 : decode cX0_escapes 166 = .ok (.iconst 1, 1) := dk_4 (dk_at dksX0_escapes_7 0 rfl rfl)
theorem dX0_escapes_167 : decode cX0_escapes 167 = .ok (.ireturn, 1) := dk_172 (dk_at dksX0_escapes_7 1 rfl rfl)
theorem dX0_escapes_168 : decode cX0_escapes 168 = .ok (.aload_n 2, 1) := dk_44 (dk_at dksX0_escapes_7 2 rfl rfl)
theorem dX0_escapes_169 : decode cX0_escapes 169 = .ok (.iload 5, 2) := dk_21 5 (dk_at dksX0_escapes_7 3 rfl rfl)
theorem dX0_escapes_171 : decode cX0_escapes 171 = .ok (.baload, 1) := dk_51 (dk_at dksX0_escapes_7 5 rfl rfl)
theorem dX0_escapes_172 : decode cX0_escapes 172 = .ok (.ifCond .ne 45, 3) := dk_154 0 45 (dk_at dksX0_escapes_7 6 rfl rfl)
theorem dX0_escapes_175 : decode cX0_escapes 175 = .ok (.aload_n 0, 1) := dk_42 (dk_at dksX0_escapes_7 9 rfl rfl)
theorem dX0_escapes_176 : decode cX0_escapes 176 = .ok (.getfield 1131, 3) := dk_180 4 107 (dk_at dksX0_escapes_7 10 rfl rfl)
theorem dX0_escapes_179 : decode cX0_escapes 179 = .ok (.iload 5, 2) := dk_21 5 (dk_at dksX0_escapes_7 13 rfl rfl)
theorem dX0_escapes_181 : decode cX0_escapes 181 = .ok (.iaload, 1) := dk_46 (dk_at dksX0_escapes_7 15 rfl rfl)
theorem dX0_escapes_182 : decode cX0_escapes 182 = .ok (.ifCond .ne 35, 3) := dk_154 0 35 (dk_at dksX0_escapes_7 16 rfl rfl)
theorem dX0_escapes_185 : decode cX0_escapes 185 = .ok (.aload_n 0, 1) := dk_42 (dk_at dksX0_escapes_7 19 rfl rfl)
theorem dX0_escapes_186 : decode cX0_escapes 186 = .ok (.getfield 1131, 3) := dk_180 4 107 (dk_at dksX0_escapes_7 20 rfl rfl)
theorem dX0_escapes_189 : decode cX0_escapes 189 = .ok (.iload 5, 2) := dk_21 5 (dk_at dksX0_escapes_8 0 rfl rfl)
theorem dX0_escapes_191 : decode cX0_escapes 191 = .ok (.iconst 1, 1) := dk_4 (dk_at dksX0_escapes_8 2 rfl rfl)
theorem dX0_escapes_192 : decode cX0_escapes 192 = .ok (.iastore, 1) := dk_79 (dk_at dksX0_escapes_8 3 rfl rfl)
theorem dX0_escapes_193 : decode cX0_escapes 193 = .ok (.aload_n 0, 1) := dk_42 (dk_at dksX0_escapes_8 4 rfl rfl)
theorem dX0_escapes_194 : decode cX0_escapes 194 = .ok (.getfield 1133, 3) := dk_180 4 109 (dk_at dksX0_escapes_8 5 rfl rfl)
theorem dX0_escapes_197 : decode cX0_escapes 197 = .ok (.iload_n 3, 1) := dk_29 (dk_at dksX0_escapes_8 8 rfl rfl)
theorem dX0_escapes_198 : decode cX0_escapes 198 = .ok (.iload 5, 2) := dk_21 5 (dk_at dksX0_escapes_8 9 rfl rfl)
theorem dX0_escapes_200 : decode cX0_escapes 200 = .ok (.iastore, 1) := dk_79 (dk_at dksX0_escapes_8 11 rfl rfl)
theorem dX0_escapes_201 : decode cX0_escapes 201 = .ok (.aload_n 0, 1) := dk_42 (dk_at dksX0_escapes_8 12 rfl rfl)
theorem dX0_escapes_202 : decode cX0_escapes 202 = .ok (.getfield 1136, 3) := dk_180 4 112 (dk_at dksX0_escapes_8 13 rfl rfl)
theorem dX0_escapes_205 : decode cX0_escapes 205 = .ok (.iload_n 3, 1) := dk_29 (dk_at dksX0_escapes_8 16 rfl rfl)
theorem dX0_escapes_206 : decode cX0_escapes 206 = .ok (.iinc 3 1, 3) := dk_132 3 1 (dk_at dksX0_escapes_8 17 rfl rfl)
theorem dX0_escapes_209 : decode cX0_escapes 209 = .ok (.aload_n 0, 1) := dk_42 (dk_at dksX0_escapes_8 20 rfl rfl)
theorem dX0_escapes_210 : decode cX0_escapes 210 = .ok (.getfield 1091, 3) := dk_180 4 67 (dk_at dksX0_escapes_8 21 rfl rfl)
theorem dX0_escapes_213 : decode cX0_escapes 213 = .ok (.iload 5, 2) := dk_21 5 (dk_at dksX0_escapes_9 0 rfl rfl)
theorem dX0_escapes_215 : decode cX0_escapes 215 = .ok (.iaload, 1) := dk_46 (dk_at dksX0_escapes_9 2 rfl rfl)
theorem dX0_escapes_216 : decode cX0_escapes 216 = .ok (.iastore, 1) := dk_79 (dk_at dksX0_escapes_9 3 rfl rfl)
theorem dX0_escapes_217 : decode cX0_escapes 217 = .ok (.goto (-158), 3) := dk_167 255 98 (dk_at dksX0_escapes_9 4 rfl rfl)
theorem dX0_escapes_220 : decode cX0_escapes 220 = .ok (.iconst 0, 1) := dk_3 (dk_at dksX0_escapes_9 7 rfl rfl)
theorem dX0_escapes_221 : decode cX0_escapes 221 = .ok (.ireturn, 1) := dk_172 (dk_at dksX0_escapes_9 8 rfl rfl)
abbrev cX0_strategy : ByteArray := prog_1_method_195_code
def yX0_strategy : MethodName := ⟨RX0, "strategy", "(I)I"⟩
def dkwX0_strategy_7 : List UInt8 := [172]
abbrev dktX0_strategy_7 : List UInt8 := dkwX0_strategy_7 ++ []
def dkwX0_strategy_6 : List UInt8 := [182, 4, 55, 42, 3, 181, 4, 58, 42, 182, 4, 43, 29, 172, 78, 42, 182, 4, 43, 42, 45, 182, 4, 39]
abbrev dktX0_strategy_6 : List UInt8 := dkwX0_strategy_6 ++ dktX0_strategy_7
def dkwX0_strategy_5 : List UInt8 := [46, 42, 180, 4, 49, 16, 80, 21, 4, 104, 182, 2, 160, 132, 4, 1, 167, 255, 227, 42, 4, 29]
abbrev dktX0_strategy_5 : List UInt8 := dkwX0_strategy_5 ++ dktX0_strategy_6
def dkwX0_strategy_4 : List UInt8 := [182, 3, 155, 3, 182, 4, 171, 62, 3, 54, 4, 21, 4, 29, 162, 0, 29, 42, 42, 180, 4, 165, 21, 4]
abbrev dktX0_strategy_4 : List UInt8 := dkwX0_strategy_4 ++ dktX0_strategy_5
def dkwX0_strategy_3 : List UInt8 := [182, 4, 159, 61, 28, 156, 0, 11, 16, 246, 42, 180, 0, 36, 100, 172, 42, 28, 42, 42, 27, 182, 4, 3]
abbrev dktX0_strategy_3 : List UInt8 := dkwX0_strategy_3 ++ dktX0_strategy_4
def dkwX0_strategy_2 : List UInt8 := [182, 4, 162, 61, 28, 155, 0, 21, 42, 180, 0, 108, 42, 180, 0, 39, 46, 6, 159, 0, 8, 42]
abbrev dktX0_strategy_2 : List UInt8 := dkwX0_strategy_2 ++ dktX0_strategy_3
def dkwX0_strategy_1 : List UInt8 := [181, 0, 72, 42, 42, 180, 0, 175, 181, 0, 85, 42, 16, 60, 182, 2, 210, 42, 3, 181, 4, 118, 42]
abbrev dktX0_strategy_1 : List UInt8 := dkwX0_strategy_1 ++ dktX0_strategy_2
def dkwX0_strategy_0 : List UInt8 := [42, 27, 182, 4, 0, 154, 0, 5, 2, 172, 42, 182, 2, 204, 42, 182, 3, 247, 42, 42, 180, 0, 172]
abbrev dktX0_strategy_0 : List UInt8 := dkwX0_strategy_0 ++ dktX0_strategy_1
theorem dksX0_strategy_0 : cX0_strategy.data.toList.drop 0 = dktX0_strategy_0 := by decide +kernel
theorem dksX0_strategy_1 : cX0_strategy.data.toList.drop 23 = dktX0_strategy_1 := dk_seg dksX0_strategy_0 23 rfl rfl
theorem dksX0_strategy_2 : cX0_strategy.data.toList.drop 46 = dktX0_strategy_2 := dk_seg dksX0_strategy_1 23 rfl rfl
theorem dksX0_strategy_3 : cX0_strategy.data.toList.drop 68 = dktX0_strategy_3 := dk_seg dksX0_strategy_2 22 rfl rfl
theorem dksX0_strategy_4 : cX0_strategy.data.toList.drop 92 = dktX0_strategy_4 := dk_seg dksX0_strategy_3 24 rfl rfl
theorem dksX0_strategy_5 : cX0_strategy.data.toList.drop 116 = dktX0_strategy_5 := dk_seg dksX0_strategy_4 24 rfl rfl
theorem dksX0_strategy_6 : cX0_strategy.data.toList.drop 138 = dktX0_strategy_6 := dk_seg dksX0_strategy_5 22 rfl rfl
theorem dksX0_strategy_7 : cX0_strategy.data.toList.drop 162 = dktX0_strategy_7 := dk_seg dksX0_strategy_6 24 rfl rfl
theorem dX0_strategy_0 : decode cX0_strategy 0 = .ok (.aload_n 0, 1) := dk_42 (dk_at dksX0_strategy_0 0 rfl rfl)
theorem dX0_strategy_1 : decode cX0_strategy 1 = .ok (.iload_n 1, 1) := dk_27 (dk_at dksX0_strategy_0 1 rfl rfl)
theorem dX0_strategy_2 : decode cX0_strategy 2 = .ok (.invokevirtual 1024, 3) := dk_182 4 0 (dk_at dksX0_strategy_0 2 rfl rfl)
theorem dX0_strategy_5 : decode cX0_strategy 5 = .ok (.ifCond .ne 5, 3) := dk_154 0 5 (dk_at dksX0_strategy_0 5 rfl rfl)
theorem dX0_strategy_8 : decode cX0_strategy 8 = .ok (.iconst (-1), 1) := dk_2 (dk_at dksX0_strategy_0 8 rfl rfl)
theorem dX0_strategy_9 : decode cX0_strategy 9 = .ok (.ireturn, 1) := dk_172 (dk_at dksX0_strategy_0 9 rfl rfl)
theorem dX0_strategy_10 : decode cX0_strategy 10 = .ok (.aload_n 0, 1) := dk_42 (dk_at dksX0_strategy_0 10 rfl rfl)
theorem dX0_strategy_11 : decode cX0_strategy 11 = .ok (.invokevirtual 716, 3) := dk_182 2 204 (dk_at dksX0_strategy_0 11 rfl rfl)
theorem dX0_strategy_14 : decode cX0_strategy 14 = .ok (.aload_n 0, 1) := dk_42 (dk_at dksX0_strategy_0 14 rfl rfl)
theorem dX0_strategy_15 : decode cX0_strategy 15 = .ok (.invokevirtual 1015, 3) := dk_182 3 247 (dk_at dksX0_strategy_0 15 rfl rfl)
theorem dX0_strategy_18 : decode cX0_strategy 18 = .ok (.aload_n 0, 1) := dk_42 (dk_at dksX0_strategy_0 18 rfl rfl)
theorem dX0_strategy_19 : decode cX0_strategy 19 = .ok (.aload_n 0, 1) := dk_42 (dk_at dksX0_strategy_0 19 rfl rfl)
theorem dX0_strategy_20 : decode cX0_strategy 20 = .ok (.getfield 172, 3) := dk_180 0 172 (dk_at dksX0_strategy_0 20 rfl rfl)
theorem dX0_strategy_23 : decode cX0_strategy 23 = .ok (.putfield 72, 3) := dk_181 0 72 (dk_at dksX0_strategy_1 0 rfl rfl)
theorem dX0_strategy_26 : decode cX0_strategy 26 = .ok (.aload_n 0, 1) := dk_42 (dk_at dksX0_strategy_1 3 rfl rfl)
theorem dX0_strategy_27 : decode cX0_strategy 27 = .ok (.aload_n 0, 1) := dk_42 (dk_at dksX0_strategy_1 4 rfl rfl)
theorem dX0_strategy_28 : decode cX0_strategy 28 = .ok (.getfield 175, 3) := dk_180 0 175 (dk_at dksX0_strategy_1 5 rfl rfl)
theorem dX0_strategy_31 : decode cX0_strategy 31 = .ok (.putfield 85, 3) := dk_181 0 85 (dk_at dksX0_strategy_1 8 rfl rfl)
theorem dX0_strategy_34 : decode cX0_strategy 34 = .ok (.aload_n 0, 1) := dk_42 (dk_at dksX0_strategy_1 11 rfl rfl)
theorem dX0_strategy_35 : decode cX0_strategy 35 = .ok (.bipush 60, 2) := dk_16 60 (dk_at dksX0_strategy_1 12 rfl rfl)
theorem dX0_strategy_37 : decode cX0_strategy 37 = .ok (.invokevirtual 722, 3) := dk_182 2 210 (dk_at dksX0_strategy_1 14 rfl rfl)
theorem dX0_strategy_40 : decode cX0_strategy 40 = .ok (.aload_n 0, 1) := dk_42 (dk_at dksX0_strategy_1 17 rfl rfl)
theorem dX0_strategy_41 : decode cX0_strategy 41 = .ok (.iconst 0, 1) := dk_3 (dk_at dksX0_strategy_1 18 rfl rfl)
theorem dX0_strategy_42 : decode cX0_strategy 42 = .ok (.putfield 1142, 3) := dk_181 4 118 (dk_at dksX0_strategy_1 19 rfl rfl)
theorem dX0_strategy_45 : decode cX0_strategy 45 = .ok (.aload_n 0, 1) := dk_42 (dk_at dksX0_strategy_1 22 rfl rfl)
theorem dX0_strategy_46 : decode cX0_strategy 46 = .ok (.invokevirtual 1186, 3) := dk_182 4 162 (dk_at dksX0_strategy_2 0 rfl rfl)
theorem dX0_strategy_49 : decode cX0_strategy 49 = .ok (.istore_n 2, 1) := dk_61 (dk_at dksX0_strategy_2 3 rfl rfl)
theorem dX0_strategy_50 : decode cX0_strategy 50 = .ok (.iload_n 2, 1) := dk_28 (dk_at dksX0_strategy_2 4 rfl rfl)
theorem dX0_strategy_51 : decode cX0_strategy 51 = .ok (.ifCond .lt 21, 3) := dk_155 0 21 (dk_at dksX0_strategy_2 5 rfl rfl)
theorem dX0_strategy_54 : decode cX0_strategy 54 = .ok (.aload_n 0, 1) := dk_42 (dk_at dksX0_strategy_2 8 rfl rfl)
theorem dX0_strategy_55 : decode cX0_strategy 55 = .ok (.getfield 108, 3) := dk_180 0 108 (dk_at dksX0_strategy_2 9 rfl rfl)
theorem dX0_strategy_58 : decode cX0_strategy 58 = .ok (.aload_n 0, 1) := dk_42 (dk_at dksX0_strategy_2 12 rfl rfl)
theorem dX0_strategy_59 : decode cX0_strategy 59 = .ok (.getfield 39, 3) := dk_180 0 39 (dk_at dksX0_strategy_2 13 rfl rfl)
theorem dX0_strategy_62 : decode cX0_strategy 62 = .ok (.iaload, 1) := dk_46 (dk_at dksX0_strategy_2 16 rfl rfl)
theorem dX0_strategy_63 : decode cX0_strategy 63 = .ok (.iconst 3, 1) := dk_6 (dk_at dksX0_strategy_2 17 rfl rfl)
theorem dX0_strategy_64 : decode cX0_strategy 64 = .ok (.if_icmp .eq 8, 3) := dk_159 0 8 (dk_at dksX0_strategy_2 18 rfl rfl)
theorem dX0_strategy_67 : decode cX0_strategy 67 = .ok (.aload_n 0, 1) := dk_42 (dk_at dksX0_strategy_2 21 rfl rfl)
theorem dX0_strategy_68 : decode cX0_strategy 68 = .ok (.invokevirtual 1183, 3) := dk_182 4 159 (dk_at dksX0_strategy_3 0 rfl rfl)
theorem dX0_strategy_71 : decode cX0_strategy 71 = .ok (.istore_n 2, 1) := dk_61 (dk_at dksX0_strategy_3 3 rfl rfl)
theorem dX0_strategy_72 : decode cX0_strategy 72 = .ok (.iload_n 2, 1) := dk_28 (dk_at dksX0_strategy_3 4 rfl rfl)
theorem dX0_strategy_73 : decode cX0_strategy 73 = .ok (.ifCond .ge 11, 3) := dk_156 0 11 (dk_at dksX0_strategy_3 5 rfl rfl)
theorem dX0_strategy_76 : decode cX0_strategy 76 = .ok (.bipush (-10), 2) := dk_16 246 (dk_at dksX0_strategy_3 8 rfl rfl)
theorem dX0_strategy_78 : decode cX0_strategy 78 = .ok (.aload_n 0, 1) := dk_42 (dk_at dksX0_strategy_3 10 rfl rfl)
theorem dX0_strategy_79 : decode cX0_strategy 79 = .ok (.getfield 36, 3) := dk_180 0 36 (dk_at dksX0_strategy_3 11 rfl rfl)
theorem dX0_strategy_82 : decode cX0_strategy 82 = .ok (.isub, 1) := dk_100 (dk_at dksX0_strategy_3 14 rfl rfl)
theorem dX0_strategy_83 : decode cX0_strategy 83 = .ok (.ireturn, 1) := dk_172 (dk_at dksX0_strategy_3 15 rfl rfl)
theorem dX0_strategy_84 : decode cX0_strategy 84 = .ok (.aload_n 0, 1) := dk_42 (dk_at dksX0_strategy_3 16 rfl rfl)
theorem dX0_strategy_85 : decode cX0_strategy 85 = .ok (.iload_n 2, 1) := dk_28 (dk_at dksX0_strategy_3 17 rfl rfl)
theorem dX0_strategy_86 : decode cX0_strategy 86 = .ok (.aload_n 0, 1) := dk_42 (dk_at dksX0_strategy_3 18 rfl rfl)
theorem dX0_strategy_87 : decode cX0_strategy 87 = .ok (.aload_n 0, 1) := dk_42 (dk_at dksX0_strategy_3 19 rfl rfl)
theorem dX0_strategy_88 : decode cX0_strategy 88 = .ok (.iload_n 1, 1) := dk_27 (dk_at dksX0_strategy_3 20 rfl rfl)
theorem dX0_strategy_89 : decode cX0_strategy 89 = .ok (.invokevirtual 1027, 3) := dk_182 4 3 (dk_at dksX0_strategy_3 21 rfl rfl)
theorem dX0_strategy_92 : decode cX0_strategy 92 = .ok (.invokevirtual 923, 3) := dk_182 3 155 (dk_at dksX0_strategy_4 0 rfl rfl)
theorem dX0_strategy_95 : decode cX0_strategy 95 = .ok (.iconst 0, 1) := dk_3 (dk_at dksX0_strategy_4 3 rfl rfl)
theorem dX0_strategy_96 : decode cX0_strategy 96 = .ok (.invokevirtual 1195, 3) := dk_182 4 171 (dk_at dksX0_strategy_4 4 rfl rfl)
theorem dX0_strategy_99 : decode cX0_strategy 99 = .ok (.istore_n 3, 1) := dk_62 (dk_at dksX0_strategy_4 7 rfl rfl)
theorem dX0_strategy_100 : decode cX0_strategy 100 = .ok (.iconst 0, 1) := dk_3 (dk_at dksX0_strategy_4 8 rfl rfl)
theorem dX0_strategy_101 : decode cX0_strategy 101 = .ok (.istore 4, 2) := dk_54 4 (dk_at dksX0_strategy_4 9 rfl rfl)
theorem dX0_strategy_103 : decode cX0_strategy 103 = .ok (.iload 4, 2) := dk_21 4 (dk_at dksX0_strategy_4 11 rfl rfl)
theorem dX0_strategy_105 : decode cX0_strategy 105 = .ok (.iload_n 3, 1) := dk_29 (dk_at dksX0_strategy_4 13 rfl rfl)
theorem dX0_strategy_106 : decode cX0_strategy 106 = .ok (.if_icmp .ge 29, 3) := dk_162 0 29 (dk_at dksX0_strategy_4 14 rfl rfl)
theorem dX0_strategy_109 : decode cX0_strategy 109 = .ok (.aload_n 0, 1) := dk_42 (dk_at dksX0_strategy_4 17 rfl rfl)
theorem dX0_strategy_110 : decode cX0_strategy 110 = .ok (.aload_n 0, 1) := dk_42 (dk_at dksX0_strategy_4 18 rfl rfl)
theorem dX0_strategy_111 : decode cX0_strategy 111 = .ok (.getfield 1189, 3) := dk_180 4 165 (dk_at dksX0_strategy_4 19 rfl rfl)
theorem dX0_strategy_114 : decode cX0_strategy 114 = .ok (.iload 4, 2) := dk_21 4 (dk_at dksX0_strategy_4 22 rfl rfl)
theorem dX0_strategy_116 : decode cX0_strategy 116 = .ok (.iaload, 1) := dk_46 (dk_at dksX0_strategy_5 0 rfl rfl)
theorem dX0_strategy_117 : decode cX0_strategy 117 = .ok (.aload_n 0, 1) := dk_42 (dk_at dksX0_strategy_5 1 rfl rfl)
theorem dX0_strategy_118 : decode cX0_strategy 118 = .ok (.getfield 1073, 3) := dk_180 4 49 (dk_at dksX0_strategy_5 2 rfl rfl)
theorem dX0_strategy_121 : decode cX0_strategy 121 = .ok (.bipush 80, 2) := dk_16 80 (dk_at dksX0_strategy_5 5 rfl rfl)
theorem dX0_strategy_123 : decode cX0_strategy 123 = .ok (.iload 4, 2) := dk_21 4 (dk_at dksX0_strategy_5 7 rfl rfl)
theorem dX0_strategy_125 : decode cX0_strategy 125 = .ok (.imul, 1) := dk_104 (dk_at dksX0_strategy_5 9 rfl rfl)
theorem dX0_strategy_126 : decode cX0_strategy 126 = .ok (.invokevirtual 672, 3) := dk_182 2 160 (dk_at dksX0_strategy_5 10 rfl rfl)
theorem dX0_strategy_129 : decode cX0_strategy 129 = .ok (.iinc 4 1, 3) := dk_132 4 1 (dk_at dksX0_strategy_5 13 rfl rfl)
theorem dX0_strategy_132 : decode cX0_strategy 132 = .ok (.goto (-29), 3) := dk_167 255 227 (dk_at dksX0_strategy_5 16 rfl rfl)
theorem dX0_strategy_135 : decode cX0_strategy 135 = .ok (.aload_n 0, 1) := dk_42 (dk_at dksX0_strategy_5 19 rfl rfl)
theorem dX0_strategy_136 : decode cX0_strategy 136 = .ok (.iconst 1, 1) := dk_4 (dk_at dksX0_strategy_5 20 rfl rfl)
theorem dX0_strategy_137 : decode cX0_strategy 137 = .ok (.iload_n 3, 1) := dk_29 (dk_at dksX0_strategy_5 21 rfl rfl)
theorem dX0_strategy_138 : decode cX0_strategy 138 = .ok (.invokevirtual 1079, 3) := dk_182 4 55 (dk_at dksX0_strategy_6 0 rfl rfl)
theorem dX0_strategy_141 : decode cX0_strategy 141 = .ok (.aload_n 0, 1) := dk_42 (dk_at dksX0_strategy_6 3 rfl rfl)
theorem dX0_strategy_142 : decode cX0_strategy 142 = .ok (.iconst 0, 1) := dk_3 (dk_at dksX0_strategy_6 4 rfl rfl)
theorem dX0_strategy_143 : decode cX0_strategy 143 = .ok (.putfield 1082, 3) := dk_181 4 58 (dk_at dksX0_strategy_6 5 rfl rfl)
theorem dX0_strategy_146 : decode cX0_strategy 146 = .ok (.aload_n 0, 1) := dk_42 (dk_at dksX0_strategy_6 8 rfl rfl)
theorem dX0_strategy_147 : decode cX0_strategy 147 = .ok (.invokevirtual 1067, 3) := dk_182 4 43 (dk_at dksX0_strategy_6 9 rfl rfl)
theorem dX0_strategy_150 : decode cX0_strategy 150 = .ok (.iload_n 3, 1) := dk_29 (dk_at dksX0_strategy_6 12 rfl rfl)
theorem dX0_strategy_151 : decode cX0_strategy 151 = .ok (.ireturn, 1) := dk_172 (dk_at dksX0_strategy_6 13 rfl rfl)
theorem dX0_strategy_152 : decode cX0_strategy 152 = .ok (.astore_n 3, 1) := dk_78 (dk_at dksX0_strategy_6 14 rfl rfl)
theorem dX0_strategy_153 : decode cX0_strategy 153 = .ok (.aload_n 0, 1) := dk_42 (dk_at dksX0_strategy_6 15 rfl rfl)
theorem dX0_strategy_154 : decode cX0_strategy 154 = .ok (.invokevirtual 1067, 3) := dk_182 4 43 (dk_at dksX0_strategy_6 16 rfl rfl)
theorem dX0_strategy_157 : decode cX0_strategy 157 = .ok (.aload_n 0, 1) := dk_42 (dk_at dksX0_strategy_6 19 rfl rfl)
theorem dX0_strategy_158 : decode cX0_strategy 158 = .ok (.aload_n 3, 1) := dk_45 (dk_at dksX0_strategy_6 20 rfl rfl)
theorem dX0_strategy_159 : decode cX0_strategy 159 = .ok (.invokevirtual 1063, 3) := dk_182 4 39 (dk_at dksX0_strategy_6 21 rfl rfl)
theorem dX0_strategy_162 : decode cX0_strategy 162 = .ok (.ireturn, 1) := dk_172 (dk_at dksX0_strategy_7 0 rfl rfl)
abbrev cX0_readChoice : ByteArray := prog_1_method_184_code
def yX0_readChoice : MethodName := ⟨RX0, "readChoice", "()I"⟩
def dkwX0_readChoice_2 : List UInt8 := [182, 4, 132, 60, 167, 255, 210, 27, 172]
abbrev dktX0_readChoice_2 : List UInt8 := dkwX0_readChoice_2 ++ []
def dkwX0_readChoice_1 : List UInt8 := [153, 0, 10, 42, 182, 4, 127, 167, 0, 4, 2, 61, 28, 156, 0, 7, 28, 167, 0, 10, 42, 7, 27, 28]
abbrev dktX0_readChoice_1 : List UInt8 := dkwX0_readChoice_1 ++ dktX0_readChoice_2
def dkwX0_readChoice_0 : List UInt8 := [42, 182, 4, 127, 60, 27, 155, 0, 48, 42, 19, 4, 130, 182, 0, 218, 153, 0, 38, 42, 182, 0, 138]
abbrev dktX0_readChoice_0 : List UInt8 := dkwX0_readChoice_0 ++ dktX0_readChoice_1
theorem dksX0_readChoice_0 : cX0_readChoice.data.toList.drop 0 = dktX0_readChoice_0 := by decide +kernel
theorem dksX0_readChoice_1 : cX0_readChoice.data.toList.drop 23 = dktX0_readChoice_1 := dk_seg dksX0_readChoice_0 23 rfl rfl
theorem dksX0_readChoice_2 : cX0_readChoice.data.toList.drop 47 = dktX0_readChoice_2 := dk_seg dksX0_readChoice_1 24 rfl rfl
theorem dX0_readChoice_0 : decode cX0_readChoice 0 = .ok (.aload_n 0, 1) := dk_42 (dk_at dksX0_readChoice_0 0 rfl rfl)
theorem dX0_readChoice_1 : decode cX0_readChoice 1 = .ok (.invokevirtual 1151, 3) := dk_182 4 127 (dk_at dksX0_readChoice_0 1 rfl rfl)
theorem dX0_readChoice_4 : decode cX0_readChoice 4 = .ok (.istore_n 1, 1) := dk_60 (dk_at dksX0_readChoice_0 4 rfl rfl)
theorem dX0_readChoice_5 : decode cX0_readChoice 5 = .ok (.iload_n 1, 1) := dk_27 (dk_at dksX0_readChoice_0 5 rfl rfl)
theorem dX0_readChoice_6 : decode cX0_readChoice 6 = .ok (.ifCond .lt 48, 3) := dk_155 0 48 (dk_at dksX0_readChoice_0 6 rfl rfl)
theorem dX0_readChoice_9 : decode cX0_readChoice 9 = .ok (.aload_n 0, 1) := dk_42 (dk_at dksX0_readChoice_0 9 rfl rfl)
theorem dX0_readChoice_10 : decode cX0_readChoice 10 = .ok (.ldc_w 1154, 3) := dk_19 4 130 (dk_at dksX0_readChoice_0 10 rfl rfl)
theorem dX0_readChoice_13 : decode cX0_readChoice 13 = .ok (.invokevirtual 218, 3) := dk_182 0 218 (dk_at dksX0_readChoice_0 13 rfl rfl)
theorem dX0_readChoice_16 : decode cX0_readChoice 16 = .ok (.ifCond .eq 38, 3) := dk_153 0 38 (dk_at dksX0_readChoice_0 16 rfl rfl)
theorem dX0_readChoice_19 : decode cX0_readChoice 19 = .ok (.aload_n 0, 1) := dk_42 (dk_at dksX0_readChoice_0 19 rfl rfl)
theorem dX0_readChoice_20 : decode cX0_readChoice 20 = .ok (.invokevirtual 138, 3) := dk_182 0 138 (dk_at dksX0_readChoice_0 20 rfl rfl)
theorem dX0_readChoice_23 : decode cX0_readChoice 23 = .ok (.ifCond .eq 10, 3) := dk_153 0 10 (dk_at dksX0_readChoice_1 0 rfl rfl)
theorem dX0_readChoice_26 : decode cX0_readChoice 26 = .ok (.aload_n 0, 1) := dk_42 (dk_at dksX0_readChoice_1 3 rfl rfl)
theorem dX0_readChoice_27 : decode cX0_readChoice 27 = .ok (.invokevirtual 1151, 3) := dk_182 4 127 (dk_at dksX0_readChoice_1 4 rfl rfl)
theorem dX0_readChoice_30 : decode cX0_readChoice 30 = .ok (.goto 4, 3) := dk_167 0 4 (dk_at dksX0_readChoice_1 7 rfl rfl)
theorem dX0_readChoice_33 : decode cX0_readChoice 33 = .ok (.iconst (-1), 1) := dk_2 (dk_at dksX0_readChoice_1 10 rfl rfl)
theorem dX0_readChoice_34 : decode cX0_readChoice 34 = .ok (.istore_n 2, 1) := dk_61 (dk_at dksX0_readChoice_1 11 rfl rfl)
theorem dX0_readChoice_35 : decode cX0_readChoice 35 = .ok (.iload_n 2, 1) := dk_28 (dk_at dksX0_readChoice_1 12 rfl rfl)
theorem dX0_readChoice_36 : decode cX0_readChoice 36 = .ok (.ifCond .ge 7, 3) := dk_156 0 7 (dk_at dksX0_readChoice_1 13 rfl rfl)
theorem dX0_readChoice_39 : decode cX0_readChoice 39 = .ok (.iload_n 2, 1) := dk_28 (dk_at dksX0_readChoice_1 16 rfl rfl)
theorem dX0_readChoice_40 : decode cX0_readChoice 40 = .ok (.goto 10, 3) := dk_167 0 10 (dk_at dksX0_readChoice_1 17 rfl rfl)
theorem dX0_readChoice_43 : decode cX0_readChoice 43 = .ok (.aload_n 0, 1) := dk_42 (dk_at dksX0_readChoice_1 20 rfl rfl)
theorem dX0_readChoice_44 : decode cX0_readChoice 44 = .ok (.iconst 4, 1) := dk_7 (dk_at dksX0_readChoice_1 21 rfl rfl)
theorem dX0_readChoice_45 : decode cX0_readChoice 45 = .ok (.iload_n 1, 1) := dk_27 (dk_at dksX0_readChoice_1 22 rfl rfl)
theorem dX0_readChoice_46 : decode cX0_readChoice 46 = .ok (.iload_n 2, 1) := dk_28 (dk_at dksX0_readChoice_1 23 rfl rfl)
theorem dX0_readChoice_47 : decode cX0_readChoice 47 = .ok (.invokevirtual 1156, 3) := dk_182 4 132 (dk_at dksX0_readChoice_2 0 rfl rfl)
theorem dX0_readChoice_50 : decode cX0_readChoice 50 = .ok (.istore_n 1, 1) := dk_60 (dk_at dksX0_readChoice_2 3 rfl rfl)
theorem dX0_readChoice_51 : decode cX0_readChoice 51 = .ok (.goto (-46), 3) := dk_167 255 210 (dk_at dksX0_readChoice_2 4 rfl rfl)
theorem dX0_readChoice_54 : decode cX0_readChoice 54 = .ok (.iload_n 1, 1) := dk_27 (dk_at dksX0_readChoice_2 7 rfl rfl)
theorem dX0_readChoice_55 : decode cX0_readChoice 55 = .ok (.ireturn, 1) := dk_172 (dk_at dksX0_readChoice_2 8 rfl rfl)
abbrev cX0_readThen : ByteArray := prog_1_method_185_code
def yX0_readThen : MethodName := ⟨RX0, "readThen", "()I"⟩
def dkwX0_readThen_2 : List UInt8 := [182, 4, 132, 60, 167, 255, 210, 27, 172]
abbrev dktX0_readThen_2 : List UInt8 := dkwX0_readThen_2 ++ []
def dkwX0_readThen_1 : List UInt8 := [153, 0, 10, 42, 182, 4, 135, 167, 0, 4, 2, 61, 28, 156, 0, 7, 28, 167, 0, 10, 42, 8, 27, 28]
abbrev dktX0_readThen_1 : List UInt8 := dkwX0_readThen_1 ++ dktX0_readThen_2
def dkwX0_readThen_0 : List UInt8 := [42, 182, 4, 135, 60, 27, 155, 0, 48, 42, 19, 4, 138, 182, 0, 218, 153, 0, 38, 42, 182, 0, 138]
abbrev dktX0_readThen_0 : List UInt8 := dkwX0_readThen_0 ++ dktX0_readThen_1
theorem dksX0_readThen_0 : cX0_readThen.data.toList.drop 0 = dktX0_readThen_0 := by decide +kernel
theorem dksX0_readThen_1 : cX0_readThen.data.toList.drop 23 = dktX0_readThen_1 := dk_seg dksX0_readThen_0 23 rfl rfl
theorem dksX0_readThen_2 : cX0_readThen.data.toList.drop 47 = dktX0_readThen_2 := dk_seg dksX0_readThen_1 24 rfl rfl
theorem dX0_readThen_0 : decode cX0_readThen 0 = .ok (.aload_n 0, 1) := dk_42 (dk_at dksX0_readThen_0 0 rfl rfl)
theorem dX0_readThen_1 : decode cX0_readThen 1 = .ok (.invokevirtual 1159, 3) := dk_182 4 135 (dk_at dksX0_readThen_0 1 rfl rfl)
theorem dX0_readThen_4 : decode cX0_readThen 4 = .ok (.istore_n 1, 1) := dk_60 (dk_at dksX0_readThen_0 4 rfl rfl)
theorem dX0_readThen_5 : decode cX0_readThen 5 = .ok (.iload_n 1, 1) := dk_27 (dk_at dksX0_readThen_0 5 rfl rfl)
theorem dX0_readThen_6 : decode cX0_readThen 6 = .ok (.ifCond .lt 48, 3) := dk_155 0 48 (dk_at dksX0_readThen_0 6 rfl rfl)
theorem dX0_readThen_9 : decode cX0_readThen 9 = .ok (.aload_n 0, 1) := dk_42 (dk_at dksX0_readThen_0 9 rfl rfl)
theorem dX0_readThen_10 : decode cX0_readThen 10 = .ok (.ldc_w 1162, 3) := dk_19 4 138 (dk_at dksX0_readThen_0 10 rfl rfl)
theorem dX0_readThen_13 : decode cX0_readThen 13 = .ok (.invokevirtual 218, 3) := dk_182 0 218 (dk_at dksX0_readThen_0 13 rfl rfl)
theorem dX0_readThen_16 : decode cX0_readThen 16 = .ok (.ifCond .eq 38, 3) := dk_153 0 38 (dk_at dksX0_readThen_0 16 rfl rfl)
theorem dX0_readThen_19 : decode cX0_readThen 19 = .ok (.aload_n 0, 1) := dk_42 (dk_at dksX0_readThen_0 19 rfl rfl)
theorem dX0_readThen_20 : decode cX0_readThen 20 = .ok (.invokevirtual 138, 3) := dk_182 0 138 (dk_at dksX0_readThen_0 20 rfl rfl)
theorem dX0_readThen_23 : decode cX0_readThen 23 = .ok (.ifCond .eq 10, 3) := dk_153 0 10 (dk_at dksX0_readThen_1 0 rfl rfl)
theorem dX0_readThen_26 : decode cX0_readThen 26 = .ok (.aload_n 0, 1) := dk_42 (dk_at dksX0_readThen_1 3 rfl rfl)
theorem dX0_readThen_27 : decode cX0_readThen 27 = .ok (.invokevirtual 1159, 3) := dk_182 4 135 (dk_at dksX0_readThen_1 4 rfl rfl)
theorem dX0_readThen_30 : decode cX0_readThen 30 = .ok (.goto 4, 3) := dk_167 0 4 (dk_at dksX0_readThen_1 7 rfl rfl)
theorem dX0_readThen_33 : decode cX0_readThen 33 = .ok (.iconst (-1), 1) := dk_2 (dk_at dksX0_readThen_1 10 rfl rfl)
theorem dX0_readThen_34 : decode cX0_readThen 34 = .ok (.istore_n 2, 1) := dk_61 (dk_at dksX0_readThen_1 11 rfl rfl)
theorem dX0_readThen_35 : decode cX0_readThen 35 = .ok (.iload_n 2, 1) := dk_28 (dk_at dksX0_readThen_1 12 rfl rfl)
theorem dX0_readThen_36 : decode cX0_readThen 36 = .ok (.ifCond .ge 7, 3) := dk_156 0 7 (dk_at dksX0_readThen_1 13 rfl rfl)
theorem dX0_readThen_39 : decode cX0_readThen 39 = .ok (.iload_n 2, 1) := dk_28 (dk_at dksX0_readThen_1 16 rfl rfl)
theorem dX0_readThen_40 : decode cX0_readThen 40 = .ok (.goto 10, 3) := dk_167 0 10 (dk_at dksX0_readThen_1 17 rfl rfl)
theorem dX0_readThen_43 : decode cX0_readThen 43 = .ok (.aload_n 0, 1) := dk_42 (dk_at dksX0_readThen_1 20 rfl rfl)
theorem dX0_readThen_44 : decode cX0_readThen 44 = .ok (.iconst 5, 1) := dk_8 (dk_at dksX0_readThen_1 21 rfl rfl)
theorem dX0_readThen_45 : decode cX0_readThen 45 = .ok (.iload_n 1, 1) := dk_27 (dk_at dksX0_readThen_1 22 rfl rfl)
theorem dX0_readThen_46 : decode cX0_readThen 46 = .ok (.iload_n 2, 1) := dk_28 (dk_at dksX0_readThen_1 23 rfl rfl)
theorem dX0_readThen_47 : decode cX0_readThen 47 = .ok (.invokevirtual 1156, 3) := dk_182 4 132 (dk_at dksX0_readThen_2 0 rfl rfl)
theorem dX0_readThen_50 : decode cX0_readThen 50 = .ok (.istore_n 1, 1) := dk_60 (dk_at dksX0_readThen_2 3 rfl rfl)
theorem dX0_readThen_51 : decode cX0_readThen 51 = .ok (.goto (-46), 3) := dk_167 255 210 (dk_at dksX0_readThen_2 4 rfl rfl)
theorem dX0_readThen_54 : decode cX0_readThen 54 = .ok (.iload_n 1, 1) := dk_27 (dk_at dksX0_readThen_2 7 rfl rfl)
theorem dX0_readThen_55 : decode cX0_readThen 55 = .ok (.ireturn, 1) := dk_172 (dk_at dksX0_readThen_2 8 rfl rfl)
abbrev cX0_readMany : ByteArray := prog_1_method_186_code
def yX0_readMany : MethodName := ⟨RX0, "readMany", "()I"⟩
def dkwX0_readMany_2 : List UInt8 := [27, 3, 182, 4, 132, 60, 42, 182, 0, 138, 153, 0, 7, 27, 167, 0, 4, 2, 60, 167, 255, 195, 27, 172]
abbrev dktX0_readMany_2 : List UInt8 := dkwX0_readMany_2 ++ []
def dkwX0_readMany_1 : List UInt8 := [182, 0, 218, 153, 0, 43, 42, 42, 19, 4, 143, 182, 0, 218, 153, 0, 8, 16, 6, 167, 0, 5, 16, 7]
abbrev dktX0_readMany_1 : List UInt8 := dkwX0_readMany_1 ++ dktX0_readMany_2
def dkwX0_readMany_0 : List UInt8 := [42, 182, 4, 140, 60, 27, 155, 0, 63, 42, 19, 4, 143, 182, 0, 218, 154, 0, 13, 42, 19, 4, 145]
abbrev dktX0_readMany_0 : List UInt8 := dkwX0_readMany_0 ++ dktX0_readMany_1
theorem dksX0_readMany_0 : cX0_readMany.data.toList.drop 0 = dktX0_readMany_0 := by decide +kernel
theorem dksX0_readMany_1 : cX0_readMany.data.toList.drop 23 = dktX0_readMany_1 := dk_seg dksX0_readMany_0 23 rfl rfl
theorem dksX0_readMany_2 : cX0_readMany.data.toList.drop 47 = dktX0_readMany_2 := dk_seg dksX0_readMany_1 24 rfl rfl
theorem dX0_readMany_0 : decode cX0_readMany 0 = .ok (.aload_n 0, 1) := dk_42 (dk_at dksX0_readMany_0 0 rfl rfl)
theorem dX0_readMany_1 : decode cX0_readMany 1 = .ok (.invokevirtual 1164, 3) := dk_182 4 140 (dk_at dksX0_readMany_0 1 rfl rfl)
theorem dX0_readMany_4 : decode cX0_readMany 4 = .ok (.istore_n 1, 1) := dk_60 (dk_at dksX0_readMany_0 4 rfl rfl)
theorem dX0_readMany_5 : decode cX0_readMany 5 = .ok (.iload_n 1, 1) := dk_27 (dk_at dksX0_readMany_0 5 rfl rfl)
theorem dX0_readMany_6 : decode cX0_readMany 6 = .ok (.ifCond .lt 63, 3) := dk_155 0 63 (dk_at dksX0_readMany_0 6 rfl rfl)
theorem dX0_readMany_9 : decode cX0_readMany 9 = .ok (.aload_n 0, 1) := dk_42 (dk_at dksX0_readMany_0 9 rfl rfl)
theorem dX0_readMany_10 : decode cX0_readMany 10 = .ok (.ldc_w 1167, 3) := dk_19 4 143 (dk_at dksX0_readMany_0 10 rfl rfl)
theorem dX0_readMany_13 : decode cX0_readMany 13 = .ok (.invokevirtual 218, 3) := dk_182 0 218 (dk_at dksX0_readMany_0 13 rfl rfl)
theorem dX0_readMany_16 : decode cX0_readMany 16 = .ok (.ifCond .ne 13, 3) := dk_154 0 13 (dk_at dksX0_readMany_0 16 rfl rfl)
theorem dX0_readMany_19 : decode cX0_readMany 19 = .ok (.aload_n 0, 1) := dk_42 (dk_at dksX0_readMany_0 19 rfl rfl)
theorem dX0_readMany_20 : decode cX0_readMany 20 = .ok (.ldc_w 1169, 3) := dk_19 4 145 (dk_at dksX0_readMany_0 20 rfl rfl)
theorem dX0_readMany_23 : decode cX0_readMany 23 = .ok (.invokevirtual 218, 3) := dk_182 0 218 (dk_at dksX0_readMany_1 0 rfl rfl)
theorem dX0_readMany_26 : decode cX0_readMany 26 = .ok (.ifCond .eq 43, 3) := dk_153 0 43 (dk_at dksX0_readMany_1 3 rfl rfl)
theorem dX0_readMany_29 : decode cX0_readMany 29 = .ok (.aload_n 0, 1) := dk_42 (dk_at dksX0_readMany_1 6 rfl rfl)
theorem dX0_readMany_30 : decode cX0_readMany 30 = .ok (.aload_n 0, 1) := dk_42 (dk_at dksX0_readMany_1 7 rfl rfl)
theorem dX0_readMany_31 : decode cX0_readMany 31 = .ok (.ldc_w 1167, 3) := dk_19 4 143 (dk_at dksX0_readMany_1 8 rfl rfl)
theorem dX0_readMany_34 : decode cX0_readMany 34 = .ok (.invokevirtual 218, 3) := dk_182 0 218 (dk_at dksX0_readMany_1 11 rfl rfl)
theorem dX0_readMany_37 : decode cX0_readMany 37 = .ok (.ifCond .eq 8, 3) := dk_153 0 8 (dk_at dksX0_readMany_1 14 rfl rfl)
theorem dX0_readMany_40 : decode cX0_readMany 40 = .ok (.bipush 6, 2) := dk_16 6 (dk_at dksX0_readMany_1 17 rfl rfl)
theorem dX0_readMany_42 : decode cX0_readMany 42 = .ok (.goto 5, 3) := dk_167 0 5 (dk_at dksX0_readMany_1 19 rfl rfl)
theorem dX0_readMany_45 : decode cX0_readMany 45 = .ok (.bipush 7, 2) := dk_16 7 (dk_at dksX0_readMany_1 22 rfl rfl)
theorem dX0_readMany_47 : decode cX0_readMany 47 = .ok (.iload_n 1, 1) := dk_27 (dk_at dksX0_readMany_2 0 rfl rfl)
theorem dX0_readMany_48 : decode cX0_readMany 48 = .ok (.iconst 0, 1) := dk_3 (dk_at dksX0_readMany_2 1 rfl rfl)
theorem dX0_readMany_49 : decode cX0_readMany 49 = .ok (.invokevirtual 1156, 3) := dk_182 4 132 (dk_at dksX0_readMany_2 2 rfl rfl)
theorem dX0_readMany_52 : decode cX0_readMany 52 = .ok (.istore_n 1, 1) := dk_60 (dk_at dksX0_readMany_2 5 rfl rfl)
theorem dX0_readMany_53 : decode cX0_readMany 53 = .ok (.aload_n 0, 1) := dk_42 (dk_at dksX0_readMany_2 6 rfl rfl)
theorem dX0_readMany_54 : decode cX0_readMany 54 = .ok (.invokevirtual 138, 3) := dk_182 0 138 (dk_at dksX0_readMany_2 7 rfl rfl)
theorem dX0_readMany_57 : decode cX0_readMany 57 = .ok (.ifCond .eq 7, 3) := dk_153 0 7 (dk_at dksX0_readMany_2 10 rfl rfl)
theorem dX0_readMany_60 : decode cX0_readMany 60 = .ok (.iload_n 1, 1) := dk_27 (dk_at dksX0_readMany_2 13 rfl rfl)
theorem dX0_readMany_61 : decode cX0_readMany 61 = .ok (.goto 4, 3) := dk_167 0 4 (dk_at dksX0_readMany_2 14 rfl rfl)
theorem dX0_readMany_64 : decode cX0_readMany 64 = .ok (.iconst (-1), 1) := dk_2 (dk_at dksX0_readMany_2 17 rfl rfl)
theorem dX0_readMany_65 : decode cX0_readMany 65 = .ok (.istore_n 1, 1) := dk_60 (dk_at dksX0_readMany_2 18 rfl rfl)
theorem dX0_readMany_66 : decode cX0_readMany 66 = .ok (.goto (-61), 3) := dk_167 255 195 (dk_at dksX0_readMany_2 19 rfl rfl)
theorem dX0_readMany_69 : decode cX0_readMany 69 = .ok (.iload_n 1, 1) := dk_27 (dk_at dksX0_readMany_2 22 rfl rfl)
theorem dX0_readMany_70 : decode cX0_readMany 70 = .ok (.ireturn, 1) := dk_172 (dk_at dksX0_readMany_2 23 rfl rfl)
abbrev cX0_readOne : ByteArray := prog_1_method_188_code
def yX0_readOne : MethodName := ⟨RX0, "readOne", "()I"⟩
def dkwX0_readOne_11 : List UInt8 := [42, 182, 4, 159, 172]
abbrev dktX0_readOne_11 : List UInt8 := dkwX0_readOne_11 ++ []
def dkwX0_readOne_10 : List UInt8 := [182, 0, 138, 153, 0, 13, 42, 6, 28, 3, 182, 4, 132, 167, 0, 4, 2, 172, 132, 1, 1, 167, 255, 195]
abbrev dktX0_readOne_10 : List UInt8 := dkwX0_readOne_10 ++ dktX0_readOne_11
def dkwX0_readOne_9 : List UInt8 := [180, 0, 117, 42, 180, 0, 39, 46, 160, 0, 32, 42, 180, 0, 117, 42, 180, 0, 39, 46, 61, 42]
abbrev dktX0_readOne_9 : List UInt8 := dkwX0_readOne_9 ++ dktX0_readOne_10
def dkwX0_readOne_8 : List UInt8 := [182, 4, 159, 172, 3, 60, 27, 42, 180, 0, 160, 162, 0, 59, 42, 180, 1, 91, 16, 40, 27, 96, 46, 42]
abbrev dktX0_readOne_8 : List UInt8 := dkwX0_readOne_8 ++ dktX0_readOne_9
def dkwX0_readOne_7 : List UInt8 := [28, 156, 0, 7, 28, 167, 0, 10, 42, 27, 28, 3, 182, 4, 132, 172, 42, 182, 0, 142, 154, 0, 8, 42]
abbrev dktX0_readOne_7 : List UInt8 := dkwX0_readOne_7 ++ dktX0_readOne_8
def dkwX0_readOne_6 : List UInt8 := [167, 0, 23, 42, 16, 40, 182, 1, 40, 153, 0, 10, 42, 182, 4, 147, 167, 0, 7, 42, 182, 4, 159, 61]
abbrev dktX0_readOne_6 : List UInt8 := dkwX0_readOne_6 ++ dktX0_readOne_7
def dkwX0_readOne_5 : List UInt8 := [182, 0, 218, 153, 0, 8, 16, 8, 167, 0, 5, 16, 9, 60, 42, 182, 0, 138, 154, 0, 7, 2]
abbrev dktX0_readOne_5 : List UInt8 := dkwX0_readOne_5 ++ dktX0_readOne_6
def dkwX0_readOne_4 : List UInt8 := [19, 4, 156, 182, 0, 218, 154, 0, 13, 42, 19, 4, 158, 182, 0, 218, 153, 0, 69, 42, 19, 4, 156]
abbrev dktX0_readOne_4 : List UInt8 := dkwX0_readOne_4 ++ dktX0_readOne_5
def dkwX0_readOne_3 : List UInt8 := [5, 60, 42, 182, 0, 138, 153, 0, 13, 42, 27, 3, 3, 182, 4, 132, 167, 0, 4, 2, 172, 42]
abbrev dktX0_readOne_3 : List UInt8 := dkwX0_readOne_3 ++ dktX0_readOne_4
def dkwX0_readOne_2 : List UInt8 := [182, 0, 218, 153, 0, 7, 3, 167, 0, 18, 42, 19, 4, 152, 182, 0, 218, 153, 0, 7, 4, 167, 0, 4]
abbrev dktX0_readOne_2 : List UInt8 := dkwX0_readOne_2 ++ dktX0_readOne_3
def dkwX0_readOne_1 : List UInt8 := [42, 19, 4, 152, 182, 0, 218, 154, 0, 13, 42, 19, 4, 154, 182, 0, 218, 153, 0, 52, 42, 19, 4, 150]
abbrev dktX0_readOne_1 : List UInt8 := dkwX0_readOne_1 ++ dktX0_readOne_2
def dkwX0_readOne_0 : List UInt8 := [42, 16, 40, 182, 1, 40, 153, 0, 8, 42, 182, 4, 147, 172, 42, 19, 4, 150, 182, 0, 218, 154, 0, 23]
abbrev dktX0_readOne_0 : List UInt8 := dkwX0_readOne_0 ++ dktX0_readOne_1
theorem dksX0_readOne_0 : cX0_readOne.data.toList.drop 0 = dktX0_readOne_0 := by decide +kernel
theorem dksX0_readOne_1 : cX0_readOne.data.toList.drop 24 = dktX0_readOne_1 := dk_seg dksX0_readOne_0 24 rfl rfl
theorem dksX0_readOne_2 : cX0_readOne.data.toList.drop 48 = dktX0_readOne_2 := dk_seg dksX0_readOne_1 24 rfl rfl
theorem dksX0_readOne_3 : cX0_readOne.data.toList.drop 72 = dktX0_readOne_3 := dk_seg dksX0_readOne_2 24 rfl rfl
theorem dksX0_readOne_4 : cX0_readOne.data.toList.drop 94 = dktX0_readOne_4 := dk_seg dksX0_readOne_3 22 rfl rfl
theorem dksX0_readOne_5 : cX0_readOne.data.toList.drop 117 = dktX0_readOne_5 := dk_seg dksX0_readOne_4 23 rfl rfl
theorem dksX0_readOne_6 : cX0_readOne.data.toList.drop 139 = dktX0_readOne_6 := dk_seg dksX0_readOne_5 22 rfl rfl
theorem dksX0_readOne_7 : cX0_readOne.data.toList.drop 163 = dktX0_readOne_7 := dk_seg dksX0_readOne_6 24 rfl rfl
theorem dksX0_readOne_8 : cX0_readOne.data.toList.drop 187 = dktX0_readOne_8 := dk_seg dksX0_readOne_7 24 rfl rfl
theorem dksX0_readOne_9 : cX0_readOne.data.toList.drop 211 = dktX0_readOne_9 := dk_seg dksX0_readOne_8 24 rfl rfl
theorem dksX0_readOne_10 : cX0_readOne.data.toList.drop 233 = dktX0_readOne_10 := dk_seg dksX0_readOne_9 22 rfl rfl
theorem dksX0_readOne_11 : cX0_readOne.data.toList.drop 257 = dktX0_readOne_11 := dk_seg dksX0_readOne_10 24 rfl rfl
theorem dX0_readOne_0 : decode cX0_readOne 0 = .ok (.aload_n 0, 1) := dk_42 (dk_at dksX0_readOne_0 0 rfl rfl)
theorem dX0_readOne_1 : decode cX0_readOne 1 = .ok (.bipush 40, 2) := dk_16 40 (dk_at dksX0_readOne_0 1 rfl rfl)
theorem dX0_readOne_3 : decode cX0_readOne 3 = .ok (.invokevirtual 296, 3) := dk_182 1 40 (dk_at dksX0_readOne_0 3 rfl rfl)
theorem dX0_readOne_6 : decode cX0_readOne 6 = .ok (.ifCond .eq 8, 3) := dk_153 0 8 (dk_at dksX0_readOne_0 6 rfl rfl)
theorem dX0_readOne_9 : decode cX0_readOne 9 = .ok (.aload_n 0, 1) := dk_42 (dk_at dksX0_readOne_0 9 rfl rfl)
theorem dX0_readOne_10 : decode cX0_readOne 10 = .ok (.invokevirtual 1171, 3) := dk_182 4 147 (dk_at dksX0_readOne_0 10 rfl rfl)
theorem dX0_readOne_13 : decode cX0_readOne 13 = .ok (.ireturn, 1) := dk_172 (dk_at dksX0_readOne_0 13 rfl rfl)
theorem dX0_readOne_14 : decode cX0_readOne 14 = .ok (.aload_n 0, 1) := dk_42 (dk_at dksX0_readOne_0 14 rfl rfl)
theorem dX0_readOne_15 : decode cX0_readOne 15 = .ok (.ldc_w 1174, 3) := dk_19 4 150 (dk_at dksX0_readOne_0 15 rfl rfl)
theorem dX0_readOne_18 : decode cX0_readOne 18 = .ok (.invokevirtual 218, 3) := dk_182 0 218 (dk_at dksX0_readOne_0 18 rfl rfl)
theorem dX0_readOne_21 : decode cX0_readOne 21 = .ok (.ifCond .ne 23, 3) := dk_154 0 23 (dk_at dksX0_readOne_0 21 rfl rfl)
theorem dX0_readOne_24 : decode cX0_readOne 24 = .ok (.aload_n 0, 1) := dk_42 (dk_at dksX0_readOne_1 0 rfl rfl)
theorem dX0_readOne_25 : decode cX0_readOne 25 = .ok (.ldc_w 1176, 3) := dk_19 4 152 (dk_at dksX0_readOne_1 1 rfl rfl)
theorem dX0_readOne_28 : decode cX0_readOne 28 = .ok (.invokevirtual 218, 3) := dk_182 0 218 (dk_at dksX0_readOne_1 4 rfl rfl)
theorem dX0_readOne_31 : decode cX0_readOne 31 = .ok (.ifCond .ne 13, 3) := dk_154 0 13 (dk_at dksX0_readOne_1 7 rfl rfl)
theorem dX0_readOne_34 : decode cX0_readOne 34 = .ok (.aload_n 0, 1) := dk_42 (dk_at dksX0_readOne_1 10 rfl rfl)
theorem dX0_readOne_35 : decode cX0_readOne 35 = .ok (.ldc_w 1178, 3) := dk_19 4 154 (dk_at dksX0_readOne_1 11 rfl rfl)
theorem dX0_readOne_38 : decode cX0_readOne 38 = .ok (.invokevirtual 218, 3) := dk_182 0 218 (dk_at dksX0_readOne_1 14 rfl rfl)
theorem dX0_readOne_41 : decode cX0_readOne 41 = .ok (.ifCond .eq 52, 3) := dk_153 0 52 (dk_at dksX0_readOne_1 17 rfl rfl)
theorem dX0_readOne_44 : decode cX0_readOne 44 = .ok (.aload_n 0, 1) := dk_42 (dk_at dksX0_readOne_1 20 rfl rfl)
theorem dX0_readOne_45 : decode cX0_readOne 45 = .ok (.ldc_w 1174, 3) := dk_19 4 150 (dk_at dksX0_readOne_1 21 rfl rfl)
theorem dX0_readOne_48 : decode cX0_readOne 48 = .ok (.invokevirtual 218, 3) := dk_182 0 218 (dk_at dksX0_readOne_2 0 rfl rfl)
theorem dX0_readOne_51 : decode cX0_readOne 51 = .ok (.ifCond .eq 7, 3) := dk_153 0 7 (dk_at dksX0_readOne_2 3 rfl rfl)
theorem dX0_readOne_54 : decode cX0_readOne 54 = .ok (.iconst 0, 1) := dk_3 (dk_at dksX0_readOne_2 6 rfl rfl)
theorem dX0_readOne_55 : decode cX0_readOne 55 = .ok (.goto 18, 3) := dk_167 0 18 (dk_at dksX0_readOne_2 7 rfl rfl)
theorem dX0_readOne_58 : decode cX0_readOne 58 = .ok (.aload_n 0, 1) := dk_42 (dk_at dksX0_readOne_2 10 rfl rfl)
theorem dX0_readOne_59 : decode cX0_readOne 59 = .ok (.ldc_w 1176, 3) := dk_19 4 152 (dk_at dksX0_readOne_2 11 rfl rfl)
theorem dX0_readOne_62 : decode cX0_readOne 62 = .ok (.invokevirtual 218, 3) := dk_182 0 218 (dk_at dksX0_readOne_2 14 rfl rfl)
theorem dX0_readOne_65 : decode cX0_readOne 65 = .ok (.ifCond .eq 7, 3) := dk_153 0 7 (dk_at dksX0_readOne_2 17 rfl rfl)
theorem dX0_readOne_68 : decode cX0_readOne 68 = .ok (.iconst 1, 1) := dk_4 (dk_at dksX0_readOne_2 20 rfl rfl)
theorem dX0_readOne_69 : decode cX0_readOne 69 = .ok (.goto 4, 3) := dk_167 0 4 (dk_at dksX0_readOne_2 21 rfl rfl)
theorem dX0_readOne_72 : decode cX0_readOne 72 = .ok (.iconst 2, 1) := dk_5 (dk_at dksX0_readOne_3 0 rfl rfl)
theorem dX0_readOne_73 : decode cX0_readOne 73 = .ok (.istore_n 1, 1) := dk_60 (dk_at dksX0_readOne_3 1 rfl rfl)
theorem dX0_readOne_74 : decode cX0_readOne 74 = .ok (.aload_n 0, 1) := dk_42 (dk_at dksX0_readOne_3 2 rfl rfl)
theorem dX0_readOne_75 : decode cX0_readOne 75 = .ok (.invokevirtual 138, 3) := dk_182 0 138 (dk_at dksX0_readOne_3 3 rfl rfl)
theorem dX0_readOne_78 : decode cX0_readOne 78 = .ok (.ifCond .eq 13, 3) := dk_153 0 13 (dk_at dksX0_readOne_3 6 rfl rfl)
theorem dX0_readOne_81 : decode cX0_readOne 81 = .ok (.aload_n 0, 1) := dk_42 (dk_at dksX0_readOne_3 9 rfl rfl)
theorem dX0_readOne_82 : decode cX0_readOne 82 = .ok (.iload_n 1, 1) := dk_27 (dk_at dksX0_readOne_3 10 rfl rfl)
theorem dX0_readOne_83 : decode cX0_readOne 83 = .ok (.iconst 0, 1) := dk_3 (dk_at dksX0_readOne_3 11 rfl rfl)
theorem dX0_readOne_84 : decode cX0_readOne 84 = .ok (.iconst 0, 1) := dk_3 (dk_at dksX0_readOne_3 12 rfl rfl)
theorem dX0_readOne_85 : decode cX0_readOne 85 = .ok (.invokevirtual 1156, 3) := dk_182 4 132 (dk_at dksX0_readOne_3 13 rfl rfl)
theorem dX0_readOne_88 : decode cX0_readOne 88 = .ok (.goto 4, 3) := dk_167 0 4 (dk_at dksX0_readOne_3 16 rfl rfl)
theorem dX0_readOne_91 : decode cX0_readOne 91 = .ok (.iconst (-1), 1) := dk_2 (dk_at dksX0_readOne_3 19 rfl rfl)
theorem dX0_readOne_92 : decode cX0_readOne 92 = .ok (.ireturn, 1) := dk_172 (dk_at dksX0_readOne_3 20 rfl rfl)
theorem dX0_readOne_93 : decode cX0_readOne 93 = .ok (.aload_n 0, 1) := dk_42 (dk_at dksX0_readOne_3 21 rfl rfl)
theorem dX0_readOne_94 : decode cX0_readOne 94 = .ok (.ldc_w 1180, 3) := dk_19 4 156 (dk_at dksX0_readOne_4 0 rfl rfl)
theorem dX0_readOne_97 : decode cX0_readOne 97 = .ok (.invokevirtual 218, 3) := dk_182 0 218 (dk_at dksX0_readOne_4 3 rfl rfl)
theorem dX0_readOne_100 : decode cX0_readOne 100 = .ok (.ifCond .ne 13, 3) := dk_154 0 13 (dk_at dksX0_readOne_4 6 rfl rfl)
theorem dX0_readOne_103 : decode cX0_readOne 103 = .ok (.aload_n 0, 1) := dk_42 (dk_at dksX0_readOne_4 9 rfl rfl)
theorem dX0_readOne_104 : decode cX0_readOne 104 = .ok (.ldc_w 1182, 3) := dk_19 4 158 (dk_at dksX0_readOne_4 10 rfl rfl)
theorem dX0_readOne_107 : decode cX0_readOne 107 = .ok (.invokevirtual 218, 3) := dk_182 0 218 (dk_at dksX0_readOne_4 13 rfl rfl)
theorem dX0_readOne_110 : decode cX0_readOne 110 = .ok (.ifCond .eq 69, 3) := dk_153 0 69 (dk_at dksX0_readOne_4 16 rfl rfl)
theorem dX0_readOne_113 : decode cX0_readOne 113 = .ok (.aload_n 0, 1) := dk_42 (dk_at dksX0_readOne_4 19 rfl rfl)
theorem dX0_readOne_114 : decode cX0_readOne 114 = .ok (.ldc_w 1180, 3) := dk_19 4 156 (dk_at dksX0_readOne_4 20 rfl rfl)
theorem dX0_readOne_117 : decode cX0_readOne 117 = .ok (.invokevirtual 218, 3) := dk_182 0 218 (dk_at dksX0_readOne_5 0 rfl rfl)
theorem dX0_readOne_120 : decode cX0_readOne 120 = .ok (.ifCond .eq 8, 3) := dk_153 0 8 (dk_at dksX0_readOne_5 3 rfl rfl)
theorem dX0_readOne_123 : decode cX0_readOne 123 = .ok (.bipush 8, 2) := dk_16 8 (dk_at dksX0_readOne_5 6 rfl rfl)
theorem dX0_readOne_125 : decode cX0_readOne 125 = .ok (.goto 5, 3) := dk_167 0 5 (dk_at dksX0_readOne_5 8 rfl rfl)
theorem dX0_readOne_128 : decode cX0_readOne 128 = .ok (.bipush 9, 2) := dk_16 9 (dk_at dksX0_readOne_5 11 rfl rfl)
theorem dX0_readOne_130 : decode cX0_readOne 130 = .ok (.istore_n 1, 1) := dk_60 (dk_at dksX0_readOne_5 13 rfl rfl)
theorem dX0_readOne_131 : decode cX0_readOne 131 = .ok (.aload_n 0, 1) := dk_42 (dk_at dksX0_readOne_5 14 rfl rfl)
theorem dX0_readOne_132 : decode cX0_readOne 132 = .ok (.invokevirtual 138, 3) := dk_182 0 138 (dk_at dksX0_readOne_5 15 rfl rfl)
theorem dX0_readOne_135 : decode cX0_readOne 135 = .ok (.ifCond .ne 7, 3) := dk_154 0 7 (dk_at dksX0_readOne_5 18 rfl rfl)
theorem dX0_readOne_138 : decode cX0_readOne 138 = .ok (.iconst (-1), 1) := dk_2 (dk_at dksX0_readOne_5 21 rfl rfl)
theorem dX0_readOne_139 : decode cX0_readOne 139 = .ok (.goto 23, 3) := dk_167 0 23 (dk_at dksX0_readOne_6 0 rfl rfl)
theorem dX0_readOne_142 : decode cX0_readOne 142 = .ok (.aload_n 0, 1) := dk_42 (dk_at dksX0_readOne_6 3 rfl rfl)
theorem dX0_readOne_143 : decode cX0_readOne 143 = .ok (.bipush 40, 2) := dk_16 40 (dk_at dksX0_readOne_6 4 rfl rfl)
theorem dX0_readOne_145 : decode cX0_readOne 145 = .ok (.invokevirtual 296, 3) := dk_182 1 40 (dk_at dksX0_readOne_6 6 rfl rfl)
theorem dX0_readOne_148 : decode cX0_readOne 148 = .ok (.ifCond .eq 10, 3) := dk_153 0 10 (dk_at dksX0_readOne_6 9 rfl rfl)
theorem dX0_readOne_151 : decode cX0_readOne 151 = .ok (.aload_n 0, 1) := dk_42 (dk_at dksX0_readOne_6 12 rfl rfl)
theorem dX0_readOne_152 : decode cX0_readOne 152 = .ok (.invokevirtual 1171, 3) := dk_182 4 147 (dk_at dksX0_readOne_6 13 rfl rfl)
theorem dX0_readOne_155 : decode cX0_readOne 155 = .ok (.goto 7, 3) := dk_167 0 7 (dk_at dksX0_readOne_6 16 rfl rfl)
theorem dX0_readOne_158 : decode cX0_readOne 158 = .ok (.aload_n 0, 1) := dk_42 (dk_at dksX0_readOne_6 19 rfl rfl)
theorem dX0_readOne_159 : decode cX0_readOne 159 = .ok (.invokevirtual 1183, 3) := dk_182 4 159 (dk_at dksX0_readOne_6 20 rfl rfl)
theorem dX0_readOne_162 : decode cX0_readOne 162 = .ok (.istore_n 2, 1) := dk_61 (dk_at dksX0_readOne_6 23 rfl rfl)
theorem dX0_readOne_163 : decode cX0_readOne 163 = .ok (.iload_n 2, 1) := dk_28 (dk_at dksX0_readOne_7 0 rfl rfl)
theorem dX0_readOne_164 : decode cX0_readOne 164 = .ok (.ifCond .ge 7, 3) := dk_156 0 7 (dk_at dksX0_readOne_7 1 rfl rfl)
theorem dX0_readOne_167 : decode cX0_readOne 167 = .ok (.iload_n 2, 1) := dk_28 (dk_at dksX0_readOne_7 4 rfl rfl)
theorem dX0_readOne_168 : decode cX0_readOne 168 = .ok (.goto 10, 3) := dk_167 0 10 (dk_at dksX0_readOne_7 5 rfl rfl)
theorem dX0_readOne_171 : decode cX0_readOne 171 = .ok (.aload_n 0, 1) := dk_42 (dk_at dksX0_readOne_7 8 rfl rfl)
theorem dX0_readOne_172 : decode cX0_readOne 172 = .ok (.iload_n 1, 1) := dk_27 (dk_at dksX0_readOne_7 9 rfl rfl)
theorem dX0_readOne_173 : decode cX0_readOne 173 = .ok (.iload_n 2, 1) := dk_28 (dk_at dksX0_readOne_7 10 rfl rfl)
theorem dX0_readOne_174 : decode cX0_readOne 174 = .ok (.iconst 0, 1) := dk_3 (dk_at dksX0_readOne_7 11 rfl rfl)
theorem dX0_readOne_175 : decode cX0_readOne 175 = .ok (.invokevirtual 1156, 3) := dk_182 4 132 (dk_at dksX0_readOne_7 12 rfl rfl)
theorem dX0_readOne_178 : decode cX0_readOne 178 = .ok (.ireturn, 1) := dk_172 (dk_at dksX0_readOne_7 15 rfl rfl)
theorem dX0_readOne_179 : decode cX0_readOne 179 = .ok (.aload_n 0, 1) := dk_42 (dk_at dksX0_readOne_7 16 rfl rfl)
theorem dX0_readOne_180 : decode cX0_readOne 180 = .ok (.invokevirtual 142, 3) := dk_182 0 142 (dk_at dksX0_readOne_7 17 rfl rfl)
theorem dX0_readOne_183 : decode cX0_readOne 183 = .ok (.ifCond .ne 8, 3) := dk_154 0 8 (dk_at dksX0_readOne_7 20 rfl rfl)
theorem dX0_readOne_186 : decode cX0_readOne 186 = .ok (.aload_n 0, 1) := dk_42 (dk_at dksX0_readOne_7 23 rfl rfl)
theorem dX0_readOne_187 : decode cX0_readOne 187 = .ok (.invokevirtual 1183, 3) := dk_182 4 159 (dk_at dksX0_readOne_8 0 rfl rfl)
theorem dX0_readOne_190 : decode cX0_readOne 190 = .ok (.ireturn, 1) := dk_172 (dk_at dksX0_readOne_8 3 rfl rfl)
theorem dX0_readOne_191 : decode cX0_readOne 191 = .ok (.iconst 0, 1) := dk_3 (dk_at dksX0_readOne_8 4 rfl rfl)
theorem dX0_readOne_192 : decode cX0_readOne 192 = .ok (.istore_n 1, 1) := dk_60 (dk_at dksX0_readOne_8 5 rfl rfl)
theorem dX0_readOne_193 : decode cX0_readOne 193 = .ok (.iload_n 1, 1) := dk_27 (dk_at dksX0_readOne_8 6 rfl rfl)
theorem dX0_readOne_194 : decode cX0_readOne 194 = .ok (.aload_n 0, 1) := dk_42 (dk_at dksX0_readOne_8 7 rfl rfl)
theorem dX0_readOne_195 : decode cX0_readOne 195 = .ok (.getfield 160, 3) := dk_180 0 160 (dk_at dksX0_readOne_8 8 rfl rfl)
theorem dX0_readOne_198 : decode cX0_readOne 198 = .ok (.if_icmp .ge 59, 3) := dk_162 0 59 (dk_at dksX0_readOne_8 11 rfl rfl)
theorem dX0_readOne_201 : decode cX0_readOne 201 = .ok (.aload_n 0, 1) := dk_42 (dk_at dksX0_readOne_8 14 rfl rfl)
theorem dX0_readOne_202 : decode cX0_readOne 202 = .ok (.getfield 347, 3) := dk_180 1 91 (dk_at dksX0_readOne_8 15 rfl rfl)
theorem dX0_readOne_205 : decode cX0_readOne 205 = .ok (.bipush 40, 2) := dk_16 40 (dk_at dksX0_readOne_8 18 rfl rfl)
theorem dX0_readOne_207 : decode cX0_readOne 207 = .ok (.iload_n 1, 1) := dk_27 (dk_at dksX0_readOne_8 20 rfl rfl)
theorem dX0_readOne_208 : decode cX0_readOne 208 = .ok (.iadd, 1) := dk_96 (dk_at dksX0_readOne_8 21 rfl rfl)
theorem dX0_readOne_209 : decode cX0_readOne 209 = .ok (.iaload, 1) := dk_46 (dk_at dksX0_readOne_8 22 rfl rfl)
theorem dX0_readOne_210 : decode cX0_readOne 210 = .ok (.aload_n 0, 1) := dk_42 (dk_at dksX0_readOne_8 23 rfl rfl)
theorem dX0_readOne_211 : decode cX0_readOne 211 = .ok (.getfield 117, 3) := dk_180 0 117 (dk_at dksX0_readOne_9 0 rfl rfl)
theorem dX0_readOne_214 : decode cX0_readOne 214 = .ok (.aload_n 0, 1) := dk_42 (dk_at dksX0_readOne_9 3 rfl rfl)
theorem dX0_readOne_215 : decode cX0_readOne 215 = .ok (.getfield 39, 3) := dk_180 0 39 (dk_at dksX0_readOne_9 4 rfl rfl)
theorem dX0_readOne_218 : decode cX0_readOne 218 = .ok (.iaload, 1) := dk_46 (dk_at dksX0_readOne_9 7 rfl rfl)
theorem dX0_readOne_219 : decode cX0_readOne 219 = .ok (.if_icmp .ne 32, 3) := dk_160 0 32 (dk_at dksX0_readOne_9 8 rfl rfl)
theorem dX0_readOne_222 : decode cX0_readOne 222 = .ok (.aload_n 0, 1) := dk_42 (dk_at dksX0_readOne_9 11 rfl rfl)
theorem dX0_readOne_223 : decode cX0_readOne 223 = .ok (.getfield 117, 3) := dk_180 0 117 (dk_at dksX0_readOne_9 12 rfl rfl)
theorem dX0_readOne_226 : decode cX0_readOne 226 = .ok (.aload_n 0, 1) := dk_42 (dk_at dksX0_readOne_9 15 rfl rfl)
theorem dX0_readOne_227 : decode cX0_readOne 227 = .ok (.getfield 39, 3) := dk_180 0 39 (dk_at dksX0_readOne_9 16 rfl rfl)
theorem dX0_readOne_230 : decode cX0_readOne 230 = .ok (.iaload, 1) := dk_46 (dk_at dksX0_readOne_9 19 rfl rfl)
theorem dX0_readOne_231 : decode cX0_readOne 231 = .ok (.istore_n 2, 1) := dk_61 (dk_at dksX0_readOne_9 20 rfl rfl)
theorem dX0_readOne_232 : decode cX0_readOne 232 = .ok (.aload_n 0, 1) := dk_42 (dk_at dksX0_readOne_9 21 rfl rfl)
theorem dX0_readOne_233 : decode cX0_readOne 233 = .ok (.invokevirtual 138, 3) := dk_182 0 138 (dk_at dksX0_readOne_10 0 rfl rfl)
theorem dX0_readOne_236 : decode cX0_readOne 236 = .ok (.ifCond .eq 13, 3) := dk_153 0 13 (dk_at dksX0_readOne_10 3 rfl rfl)
theorem dX0_readOne_239 : decode cX0_readOne 239 = .ok (.aload_n 0, 1) := dk_42 (dk_at dksX0_readOne_10 6 rfl rfl)
theorem dX0_readOne_240 : decode cX0_readOne 240 = .ok (.iconst 3, 1) := dk_6 (dk_at dksX0_readOne_10 7 rfl rfl)
theorem dX0_readOne_241 : decode cX0_readOne 241 = .ok (.iload_n 2, 1) := dk_28 (dk_at dksX0_readOne_10 8 rfl rfl)
theorem dX0_readOne_242 : decode cX0_readOne 242 = .ok (.iconst 0, 1) := dk_3 (dk_at dksX0_readOne_10 9 rfl rfl)
theorem dX0_readOne_243 : decode cX0_readOne 243 = .ok (.invokevirtual 1156, 3) := dk_182 4 132 (dk_at dksX0_readOne_10 10 rfl rfl)
theorem dX0_readOne_246 : decode cX0_readOne 246 = .ok (.goto 4, 3) := dk_167 0 4 (dk_at dksX0_readOne_10 13 rfl rfl)
theorem dX0_readOne_249 : decode cX0_readOne 249 = .ok (.iconst (-1), 1) := dk_2 (dk_at dksX0_readOne_10 16 rfl rfl)
theorem dX0_readOne_250 : decode cX0_readOne 250 = .ok (.ireturn, 1) := dk_172 (dk_at dksX0_readOne_10 17 rfl rfl)
theorem dX0_readOne_251 : decode cX0_readOne 251 = .ok (.iinc 1 1, 3) := dk_132 1 1 (dk_at dksX0_readOne_10 18 rfl rfl)
theorem dX0_readOne_254 : decode cX0_readOne 254 = .ok (.goto (-61), 3) := dk_167 255 195 (dk_at dksX0_readOne_10 21 rfl rfl)
theorem dX0_readOne_257 : decode cX0_readOne 257 = .ok (.aload_n 0, 1) := dk_42 (dk_at dksX0_readOne_11 0 rfl rfl)
theorem dX0_readOne_258 : decode cX0_readOne 258 = .ok (.invokevirtual 1183, 3) := dk_182 4 159 (dk_at dksX0_readOne_11 1 rfl rfl)
theorem dX0_readOne_261 : decode cX0_readOne 261 = .ok (.ireturn, 1) := dk_172 (dk_at dksX0_readOne_11 4 rfl rfl)
abbrev cX0_readBracket : ByteArray := prog_1_method_189_code
def yX0_readBracket : MethodName := ⟨RX0, "readBracket", "()I"⟩
def dkwX0_readBracket_1 : List UInt8 := [182, 1, 40, 154, 0, 8, 42, 182, 4, 159, 172, 42, 182, 0, 138, 153, 0, 7, 27, 167, 0, 4, 2, 172]
abbrev dktX0_readBracket_1 : List UInt8 := dkwX0_readBracket_1 ++ []
def dkwX0_readBracket_0 : List UInt8 := [42, 182, 0, 138, 154, 0, 5, 2, 172, 42, 182, 4, 162, 60, 27, 156, 0, 5, 27, 172, 42, 16, 41]
abbrev dktX0_readBracket_0 : List UInt8 := dkwX0_readBracket_0 ++ dktX0_readBracket_1
theorem dksX0_readBracket_0 : cX0_readBracket.data.toList.drop 0 = dktX0_readBracket_0 := by decide +kernel
theorem dksX0_readBracket_1 : cX0_readBracket.data.toList.drop 23 = dktX0_readBracket_1 := dk_seg dksX0_readBracket_0 23 rfl rfl
theorem dX0_readBracket_0 : decode cX0_readBracket 0 = .ok (.aload_n 0, 1) := dk_42 (dk_at dksX0_readBracket_0 0 rfl rfl)
theorem dX0_readBracket_1 : decode cX0_readBracket 1 = .ok (.invokevirtual 138, 3) := dk_182 0 138 (dk_at dksX0_readBracket_0 1 rfl rfl)
theorem dX0_readBracket_4 : decode cX0_readBracket 4 = .ok (.ifCond .ne 5, 3) := dk_154 0 5 (dk_at dksX0_readBracket_0 4 rfl rfl)
theorem dX0_readBracket_7 : decode cX0_readBracket 7 = .ok (.iconst (-1), 1) := dk_2 (dk_at dksX0_readBracket_0 7 rfl rfl)
theorem dX0_readBracket_8 : decode cX0_readBracket 8 = .ok (.ireturn, 1) := dk_172 (dk_at dksX0_readBracket_0 8 rfl rfl)
theorem dX0_readBracket_9 : decode cX0_readBracket 9 = .ok (.aload_n 0, 1) := dk_42 (dk_at dksX0_readBracket_0 9 rfl rfl)
theorem dX0_readBracket_10 : decode cX0_readBracket 10 = .ok (.invokevirtual 1186, 3) := dk_182 4 162 (dk_at dksX0_readBracket_0 10 rfl rfl)
theorem dX0_readBracket_13 : decode cX0_readBracket 13 = .ok (.istore_n 1, 1) := dk_60 (dk_at dksX0_readBracket_0 13 rfl rfl)
theorem dX0_readBracket_14 : decode cX0_readBracket 14 = .ok (.iload_n 1, 1) := dk_27 (dk_at dksX0_readBracket_0 14 rfl rfl)
theorem dX0_readBracket_15 : decode cX0_readBracket 15 = .ok (.ifCond .ge 5, 3) := dk_156 0 5 (dk_at dksX0_readBracket_0 15 rfl rfl)
theorem dX0_readBracket_18 : decode cX0_readBracket 18 = .ok (.iload_n 1, 1) := dk_27 (dk_at dksX0_readBracket_0 18 rfl rfl)
theorem dX0_readBracket_19 : decode cX0_readBracket 19 = .ok (.ireturn, 1) := dk_172 (dk_at dksX0_readBracket_0 19 rfl rfl)
theorem dX0_readBracket_20 : decode cX0_readBracket 20 = .ok (.aload_n 0, 1) := dk_42 (dk_at dksX0_readBracket_0 20 rfl rfl)
theorem dX0_readBracket_21 : decode cX0_readBracket 21 = .ok (.bipush 41, 2) := dk_16 41 (dk_at dksX0_readBracket_0 21 rfl rfl)
theorem dX0_readBracket_23 : decode cX0_readBracket 23 = .ok (.invokevirtual 296, 3) := dk_182 1 40 (dk_at dksX0_readBracket_1 0 rfl rfl)
theorem dX0_readBracket_26 : decode cX0_readBracket 26 = .ok (.ifCond .ne 8, 3) := dk_154 0 8 (dk_at dksX0_readBracket_1 3 rfl rfl)
theorem dX0_readBracket_29 : decode cX0_readBracket 29 = .ok (.aload_n 0, 1) := dk_42 (dk_at dksX0_readBracket_1 6 rfl rfl)
theorem dX0_readBracket_30 : decode cX0_readBracket 30 = .ok (.invokevirtual 1183, 3) := dk_182 4 159 (dk_at dksX0_readBracket_1 7 rfl rfl)
theorem dX0_readBracket_33 : decode cX0_readBracket 33 = .ok (.ireturn, 1) := dk_172 (dk_at dksX0_readBracket_1 10 rfl rfl)
theorem dX0_readBracket_34 : decode cX0_readBracket 34 = .ok (.aload_n 0, 1) := dk_42 (dk_at dksX0_readBracket_1 11 rfl rfl)
theorem dX0_readBracket_35 : decode cX0_readBracket 35 = .ok (.invokevirtual 138, 3) := dk_182 0 138 (dk_at dksX0_readBracket_1 12 rfl rfl)
theorem dX0_readBracket_38 : decode cX0_readBracket 38 = .ok (.ifCond .eq 7, 3) := dk_153 0 7 (dk_at dksX0_readBracket_1 15 rfl rfl)
theorem dX0_readBracket_41 : decode cX0_readBracket 41 = .ok (.iload_n 1, 1) := dk_27 (dk_at dksX0_readBracket_1 18 rfl rfl)
theorem dX0_readBracket_42 : decode cX0_readBracket 42 = .ok (.goto 4, 3) := dk_167 0 4 (dk_at dksX0_readBracket_1 19 rfl rfl)
theorem dX0_readBracket_45 : decode cX0_readBracket 45 = .ok (.iconst (-1), 1) := dk_2 (dk_at dksX0_readBracket_1 22 rfl rfl)
theorem dX0_readBracket_46 : decode cX0_readBracket 46 = .ok (.ireturn, 1) := dk_172 (dk_at dksX0_readBracket_1 23 rfl rfl)
abbrev cX0_bad : ByteArray := prog_1_method_187_code
def yX0_bad : MethodName := ⟨RX0, "bad", "()I"⟩
def dkwX0_bad_0 : List UInt8 := [42, 4, 42, 180, 0, 39, 182, 0, 132, 60, 2, 172]
abbrev dktX0_bad_0 : List UInt8 := dkwX0_bad_0 ++ []
theorem dksX0_bad_0 : cX0_bad.data.toList.drop 0 = dktX0_bad_0 := by decide +kernel
theorem dX0_bad_0 : decode cX0_bad 0 = .ok (.aload_n 0, 1) := dk_42 (dk_at dksX0_bad_0 0 rfl rfl)
theorem dX0_bad_1 : decode cX0_bad 1 = .ok (.iconst 1, 1) := dk_4 (dk_at dksX0_bad_0 1 rfl rfl)
theorem dX0_bad_2 : decode cX0_bad 2 = .ok (.aload_n 0, 1) := dk_42 (dk_at dksX0_bad_0 2 rfl rfl)
theorem dX0_bad_3 : decode cX0_bad 3 = .ok (.getfield 39, 3) := dk_180 0 39 (dk_at dksX0_bad_0 3 rfl rfl)
theorem dX0_bad_6 : decode cX0_bad 6 = .ok (.invokevirtual 132, 3) := dk_182 0 132 (dk_at dksX0_bad_0 6 rfl rfl)
theorem dX0_bad_9 : decode cX0_bad 9 = .ok (.istore_n 1, 1) := dk_60 (dk_at dksX0_bad_0 9 rfl rfl)
theorem dX0_bad_10 : decode cX0_bad 10 = .ok (.iconst (-1), 1) := dk_2 (dk_at dksX0_bad_0 10 rfl rfl)
theorem dX0_bad_11 : decode cX0_bad 11 = .ok (.ireturn, 1) := dk_172 (dk_at dksX0_bad_0 11 rfl rfl)
abbrev cX0_zNode : ByteArray := prog_1_method_183_code
def yX0_zNode : MethodName := ⟨RX0, "zNode", "(III)I"⟩
def dkwX0_zNode_1 : List UInt8 := [42, 180, 4, 118, 29, 79, 42, 89, 180, 4, 118, 90, 4, 96, 181, 4, 118, 172]
abbrev dktX0_zNode_1 : List UInt8 := dkwX0_zNode_1 ++ []
def dkwX0_zNode_0 : List UInt8 := [42, 180, 4, 115, 42, 180, 4, 118, 27, 79, 42, 180, 4, 121, 42, 180, 4, 118, 28, 79, 42, 180, 4, 124]
abbrev dktX0_zNode_0 : List UInt8 := dkwX0_zNode_0 ++ dktX0_zNode_1
theorem dksX0_zNode_0 : cX0_zNode.data.toList.drop 0 = dktX0_zNode_0 := by decide +kernel
theorem dksX0_zNode_1 : cX0_zNode.data.toList.drop 24 = dktX0_zNode_1 := dk_seg dksX0_zNode_0 24 rfl rfl
theorem dX0_zNode_0 : decode cX0_zNode 0 = .ok (.aload_n 0, 1) := dk_42 (dk_at dksX0_zNode_0 0 rfl rfl)
theorem dX0_zNode_1 : decode cX0_zNode 1 = .ok (.getfield 1139, 3) := dk_180 4 115 (dk_at dksX0_zNode_0 1 rfl rfl)
theorem dX0_zNode_4 : decode cX0_zNode 4 = .ok (.aload_n 0, 1) := dk_42 (dk_at dksX0_zNode_0 4 rfl rfl)
theorem dX0_zNode_5 : decode cX0_zNode 5 = .ok (.getfield 1142, 3) := dk_180 4 118 (dk_at dksX0_zNode_0 5 rfl rfl)
theorem dX0_zNode_8 : decode cX0_zNode 8 = .ok (.iload_n 1, 1) := dk_27 (dk_at dksX0_zNode_0 8 rfl rfl)
theorem dX0_zNode_9 : decode cX0_zNode 9 = .ok (.iastore, 1) := dk_79 (dk_at dksX0_zNode_0 9 rfl rfl)
theorem dX0_zNode_10 : decode cX0_zNode 10 = .ok (.aload_n 0, 1) := dk_42 (dk_at dksX0_zNode_0 10 rfl rfl)
theorem dX0_zNode_11 : decode cX0_zNode 11 = .ok (.getfield 1145, 3) := dk_180 4 121 (dk_at dksX0_zNode_0 11 rfl rfl)
theorem dX0_zNode_14 : decode cX0_zNode 14 = .ok (.aload_n 0, 1) := dk_42 (dk_at dksX0_zNode_0 14 rfl rfl)
theorem dX0_zNode_15 : decode cX0_zNode 15 = .ok (.getfield 1142, 3) := dk_180 4 118 (dk_at dksX0_zNode_0 15 rfl rfl)
theorem dX0_zNode_18 : decode cX0_zNode 18 = .ok (.iload_n 2, 1) := dk_28 (dk_at dksX0_zNode_0 18 rfl rfl)
theorem dX0_zNode_19 : decode cX0_zNode 19 = .ok (.iastore, 1) := dk_79 (dk_at dksX0_zNode_0 19 rfl rfl)
theorem dX0_zNode_20 : decode cX0_zNode 20 = .ok (.aload_n 0, 1) := dk_42 (dk_at dksX0_zNode_0 20 rfl rfl)
theorem dX0_zNode_21 : decode cX0_zNode 21 = .ok (.getfield 1148, 3) := dk_180 4 124 (dk_at dksX0_zNode_0 21 rfl rfl)
theorem dX0_zNode_24 : decode cX0_zNode 24 = .ok (.aload_n 0, 1) := dk_42 (dk_at dksX0_zNode_1 0 rfl rfl)
theorem dX0_zNode_25 : decode cX0_zNode 25 = .ok (.getfield 1142, 3) := dk_180 4 118 (dk_at dksX0_zNode_1 1 rfl rfl)
theorem dX0_zNode_28 : decode cX0_zNode 28 = .ok (.iload_n 3, 1) := dk_29 (dk_at dksX0_zNode_1 4 rfl rfl)
theorem dX0_zNode_29 : decode cX0_zNode 29 = .ok (.iastore, 1) := dk_79 (dk_at dksX0_zNode_1 5 rfl rfl)
theorem dX0_zNode_30 : decode cX0_zNode 30 = .ok (.aload_n 0, 1) := dk_42 (dk_at dksX0_zNode_1 6 rfl rfl)
theorem dX0_zNode_31 : decode cX0_zNode 31 = .ok (.dup, 1) := dk_89 (dk_at dksX0_zNode_1 7 rfl rfl)
theorem dX0_zNode_32 : decode cX0_zNode 32 = .ok (.getfield 1142, 3) := dk_180 4 118 (dk_at dksX0_zNode_1 8 rfl rfl)
theorem dX0_zNode_35 : decode cX0_zNode 35 = .ok (.dup_x1, 1) := dk_90 (dk_at dksX0_zNode_1 11 rfl rfl)
theorem dX0_zNode_36 : decode cX0_zNode 36 = .ok (.iconst 1, 1) := dk_4 (dk_at dksX0_zNode_1 12 rfl rfl)
theorem dX0_zNode_37 : decode cX0_zNode 37 = .ok (.iadd, 1) := dk_96 (dk_at dksX0_zNode_1 13 rfl rfl)
theorem dX0_zNode_38 : decode cX0_zNode 38 = .ok (.putfield 1142, 3) := dk_181 4 118 (dk_at dksX0_zNode_1 14 rfl rfl)
theorem dX0_zNode_41 : decode cX0_zNode 41 = .ok (.ireturn, 1) := dk_172 (dk_at dksX0_zNode_1 17 rfl rfl)
abbrev cX0_answers : ByteArray := prog_1_method_191_code
def yX0_answers : MethodName := ⟨RX0, "answers", "(III)I"⟩
def dkwX0_answers_9 : List UInt8 := [28, 29, 182, 4, 180, 172]
abbrev dktX0_answers_9 : List UInt8 := dkwX0_answers_9 ++ []
def dkwX0_answers_8 : List UInt8 := [167, 0, 4, 3, 172, 4, 42, 42, 180, 4, 121, 27, 46, 28, 29, 182, 4, 171, 184, 1, 151, 172, 42, 27]
abbrev dktX0_answers_8 : List UInt8 := dkwX0_answers_8 ++ dktX0_answers_9
def dkwX0_answers_7 : List UInt8 := [42, 42, 180, 4, 121, 27, 46, 28, 29, 182, 4, 171, 154, 0, 13, 42, 29, 3, 28, 182, 4, 168]
abbrev dktX0_answers_7 : List UInt8 := dkwX0_answers_7 ++ dktX0_answers_8
def dkwX0_answers_6 : List UInt8 := [27, 46, 28, 29, 16, 60, 96, 4, 96, 182, 4, 171, 182, 4, 174, 172, 42, 27, 28, 29, 182, 4, 177, 172]
abbrev dktX0_answers_6 : List UInt8 := dkwX0_answers_6 ++ dktX0_answers_7
def dkwX0_answers_5 : List UInt8 := [172, 42, 42, 180, 4, 121, 27, 46, 28, 29, 182, 4, 171, 54, 4, 42, 29, 21, 4, 42, 42, 180, 4, 124]
abbrev dktX0_answers_5 : List UInt8 := dkwX0_answers_5 ++ dktX0_answers_6
def dkwX0_answers_4 : List UInt8 := [42, 29, 21, 4, 42, 180, 3, 237, 21, 5, 46, 182, 4, 168, 54, 4, 132, 5, 1, 167, 255, 228, 21, 4]
abbrev dktX0_answers_4 : List UInt8 := dkwX0_answers_4 ++ dktX0_answers_5
def dkwX0_answers_3 : List UInt8 := [167, 0, 9, 42, 180, 4, 121, 27, 46, 182, 4, 46, 3, 54, 5, 21, 5, 42, 180, 3, 210, 162, 0, 25]
abbrev dktX0_answers_3 : List UInt8 := dkwX0_answers_3 ++ dktX0_answers_4
def dkwX0_answers_2 : List UInt8 := [42, 29, 3, 28, 182, 4, 168, 172, 3, 172, 42, 28, 42, 180, 4, 115, 27, 46, 5, 160, 0, 8, 16, 254]
abbrev dktX0_answers_2 : List UInt8 := dkwX0_answers_2 ++ dktX0_answers_3
def dkwX0_answers_1 : List UInt8 := [170, 0, 0, 0, 0, 0, 219, 0, 0, 0, 0, 0, 0, 0, 9, 0, 0, 0, 55, 0, 0, 0, 63, 0, 0, 0, 65, 0, 0, 0, 65, 0, 0, 0, 128, 0, 0, 0, 167, 0, 0, 0, 219, 0, 0, 0, 219, 0, 0, 0, 175, 0, 0, 0, 202]
abbrev dktX0_answers_1 : List UInt8 := dkwX0_answers_1 ++ dktX0_answers_2
def dkwX0_answers_0 : List UInt8 := [3, 54, 4, 42, 180, 4, 115, 27, 46]
abbrev dktX0_answers_0 : List UInt8 := dkwX0_answers_0 ++ dktX0_answers_1
theorem dksX0_answers_0 : cX0_answers.data.toList.drop 0 = dktX0_answers_0 := by decide +kernel
theorem dksX0_answers_1 : cX0_answers.data.toList.drop 9 = dktX0_answers_1 := dk_seg dksX0_answers_0 9 rfl rfl
theorem dksX0_answers_2 : cX0_answers.data.toList.drop 64 = dktX0_answers_2 := dk_seg dksX0_answers_1 55 rfl rfl
theorem dksX0_answers_3 : cX0_answers.data.toList.drop 88 = dktX0_answers_3 := dk_seg dksX0_answers_2 24 rfl rfl
theorem dksX0_answers_4 : cX0_answers.data.toList.drop 112 = dktX0_answers_4 := dk_seg dksX0_answers_3 24 rfl rfl
theorem dksX0_answers_5 : cX0_answers.data.toList.drop 136 = dktX0_answers_5 := dk_seg dksX0_answers_4 24 rfl rfl
theorem dksX0_answers_6 : cX0_answers.data.toList.drop 160 = dktX0_answers_6 := dk_seg dksX0_answers_5 24 rfl rfl
theorem dksX0_answers_7 : cX0_answers.data.toList.drop 184 = dktX0_answers_7 := dk_seg dksX0_answers_6 24 rfl rfl
theorem dksX0_answers_8 : cX0_answers.data.toList.drop 206 = dktX0_answers_8 := dk_seg dksX0_answers_7 22 rfl rfl
theorem dksX0_answers_9 : cX0_answers.data.toList.drop 230 = dktX0_answers_9 := dk_seg dksX0_answers_8 24 rfl rfl
theorem dX0_answers_0 : decode cX0_answers 0 = .ok (.iconst 0, 1) := dk_3 (dk_at dksX0_answers_0 0 rfl rfl)
theorem dX0_answers_1 : decode cX0_answers 1 = .ok (.istore 4, 2) := dk_54 4 (dk_at dksX0_answers_0 1 rfl rfl)
theorem dX0_answers_3 : decode cX0_answers 3 = .ok (.aload_n 0, 1) := dk_42 (dk_at dksX0_answers_0 3 rfl rfl)
theorem dX0_answers_4 : decode cX0_answers 4 = .ok (.getfield 1139, 3) := dk_180 4 115 (dk_at dksX0_answers_0 4 rfl rfl)
theorem dX0_answers_7 : decode cX0_answers 7 = .ok (.iload_n 1, 1) := dk_27 (dk_at dksX0_answers_0 7 rfl rfl)
theorem dX0_answers_8 : decode cX0_answers 8 = .ok (.iaload, 1) := dk_46 (dk_at dksX0_answers_0 8 rfl rfl)
theorem dX0_answers_9 : decode cX0_answers 9 = .ok (.tableswitch 219 0 9 #[55, 63, 65, 65, 128, 167, 219, 219, 175, 202], 55) := by decide +kernel
theorem dX0_answers_64 : decode cX0_answers 64 = .ok (.aload_n 0, 1) := dk_42 (dk_at dksX0_answers_2 0 rfl rfl)
theorem dX0_answers_65 : decode cX0_answers 65 = .ok (.iload_n 3, 1) := dk_29 (dk_at dksX0_answers_2 1 rfl rfl)
theorem dX0_answers_66 : decode cX0_answers 66 = .ok (.iconst 0, 1) := dk_3 (dk_at dksX0_answers_2 2 rfl rfl)
theorem dX0_answers_67 : decode cX0_answers 67 = .ok (.iload_n 2, 1) := dk_28 (dk_at dksX0_answers_2 3 rfl rfl)
theorem dX0_answers_68 : decode cX0_answers 68 = .ok (.invokevirtual 1192, 3) := dk_182 4 168 (dk_at dksX0_answers_2 4 rfl rfl)
theorem dX0_answers_71 : decode cX0_answers 71 = .ok (.ireturn, 1) := dk_172 (dk_at dksX0_answers_2 7 rfl rfl)
theorem dX0_answers_72 : decode cX0_answers 72 = .ok (.iconst 0, 1) := dk_3 (dk_at dksX0_answers_2 8 rfl rfl)
theorem dX0_answers_73 : decode cX0_answers 73 = .ok (.ireturn, 1) := dk_172 (dk_at dksX0_answers_2 9 rfl rfl)
theorem dX0_answers_74 : decode cX0_answers 74 = .ok (.aload_n 0, 1) := dk_42 (dk_at dksX0_answers_2 10 rfl rfl)
theorem dX0_answers_75 : decode cX0_answers 75 = .ok (.iload_n 2, 1) := dk_28 (dk_at dksX0_answers_2 11 rfl rfl)
theorem dX0_answers_76 : decode cX0_answers 76 = .ok (.aload_n 0, 1) := dk_42 (dk_at dksX0_answers_2 12 rfl rfl)
theorem dX0_answers_77 : decode cX0_answers 77 = .ok (.getfield 1139, 3) := dk_180 4 115 (dk_at dksX0_answers_2 13 rfl rfl)
theorem dX0_answers_80 : decode cX0_answers 80 = .ok (.iload_n 1, 1) := dk_27 (dk_at dksX0_answers_2 16 rfl rfl)
theorem dX0_answers_81 : decode cX0_answers 81 = .ok (.iaload, 1) := dk_46 (dk_at dksX0_answers_2 17 rfl rfl)
theorem dX0_answers_82 : decode cX0_answers 82 = .ok (.iconst 2, 1) := dk_5 (dk_at dksX0_answers_2 18 rfl rfl)
theorem dX0_answers_83 : decode cX0_answers 83 = .ok (.if_icmp .ne 8, 3) := dk_160 0 8 (dk_at dksX0_answers_2 19 rfl rfl)
theorem dX0_answers_86 : decode cX0_answers 86 = .ok (.bipush (-2), 2) := dk_16 254 (dk_at dksX0_answers_2 22 rfl rfl)
theorem dX0_answers_88 : decode cX0_answers 88 = .ok (.goto 9, 3) := dk_167 0 9 (dk_at dksX0_answers_3 0 rfl rfl)
theorem dX0_answers_91 : decode cX0_answers 91 = .ok (.aload_n 0, 1) := dk_42 (dk_at dksX0_answers_3 3 rfl rfl)
theorem dX0_answers_92 : decode cX0_answers 92 = .ok (.getfield 1145, 3) := dk_180 4 121 (dk_at dksX0_answers_3 4 rfl rfl)
theorem dX0_answers_95 : decode cX0_answers 95 = .ok (.iload_n 1, 1) := dk_27 (dk_at dksX0_answers_3 7 rfl rfl)
theorem dX0_answers_96 : decode cX0_answers 96 = .ok (.iaload, 1) := dk_46 (dk_at dksX0_answers_3 8 rfl rfl)
theorem dX0_answers_97 : decode cX0_answers 97 = .ok (.invokevirtual 1070, 3) := dk_182 4 46 (dk_at dksX0_answers_3 9 rfl rfl)
theorem dX0_answers_100 : decode cX0_answers 100 = .ok (.iconst 0, 1) := dk_3 (dk_at dksX0_answers_3 12 rfl rfl)
theorem dX0_answers_101 : decode cX0_answers 101 = .ok (.istore 5, 2) := dk_54 5 (dk_at dksX0_answers_3 13 rfl rfl)
theorem dX0_answers_103 : decode cX0_answers 103 = .ok (.iload 5, 2) := dk_21 5 (dk_at dksX0_answers_3 15 rfl rfl)
theorem dX0_answers_105 : decode cX0_answers 105 = .ok (.aload_n 0, 1) := dk_42 (dk_at dksX0_answers_3 17 rfl rfl)
theorem dX0_answers_106 : decode cX0_answers 106 = .ok (.getfield 978, 3) := dk_180 3 210 (dk_at dksX0_answers_3 18 rfl rfl)
theorem dX0_answers_109 : decode cX0_answers 109 = .ok (.if_icmp .ge 25, 3) := dk_162 0 25 (dk_at dksX0_answers_3 21 rfl rfl)
theorem dX0_answers_112 : decode cX0_answers 112 = .ok (.aload_n 0, 1) := dk_42 (dk_at dksX0_answers_4 0 rfl rfl)
theorem dX0_answers_113 : decode cX0_answers 113 = .ok (.iload_n 3, 1) := dk_29 (dk_at dksX0_answers_4 1 rfl rfl)
theorem dX0_answers_114 : decode cX0_answers 114 = .ok (.iload 4, 2) := dk_21 4 (dk_at dksX0_answers_4 2 rfl rfl)
theorem dX0_answers_116 : decode cX0_answers 116 = .ok (.aload_n 0, 1) := dk_42 (dk_at dksX0_answers_4 4 rfl rfl)
theorem dX0_answers_117 : decode cX0_answers 117 = .ok (.getfield 1005, 3) := dk_180 3 237 (dk_at dksX0_answers_4 5 rfl rfl)
theorem dX0_answers_120 : decode cX0_answers 120 = .ok (.iload 5, 2) := dk_21 5 (dk_at dksX0_answers_4 8 rfl rfl)
theorem dX0_answers_122 : decode cX0_answers 122 = .ok (.iaload, 1) := dk_46 (dk_at dksX0_answers_4 10 rfl rfl)
theorem dX0_answers_123 : decode cX0_answers 123 = .ok (.invokevirtual 1192, 3) := dk_182 4 168 (dk_at dksX0_answers_4 11 rfl rfl)
theorem dX0_answers_126 : decode cX0_answers 126 = .ok (.istore 4, 2) := dk_54 4 (dk_at dksX0_answers_4 14 rfl rfl)
theorem dX0_answers_128 : decode cX0_answers 128 = .ok (.iinc 5 1, 3) := dk_132 5 1 (dk_at dksX0_answers_4 16 rfl rfl)
theorem dX0_answers_131 : decode cX0_answers 131 = .ok (.goto (-28), 3) := dk_167 255 228 (dk_at dksX0_answers_4 19 rfl rfl)
theorem dX0_answers_134 : decode cX0_answers 134 = .ok (.iload 4, 2) := dk_21 4 (dk_at dksX0_answers_4 22 rfl rfl)
theorem dX0_answers_136 : decode cX0_answers 136 = .ok (.ireturn, 1) := dk_172 (dk_at dksX0_answers_5 0 rfl rfl)
theorem dX0_answers_137 : decode cX0_answers 137 = .ok (.aload_n 0, 1) := dk_42 (dk_at dksX0_answers_5 1 rfl rfl)
theorem dX0_answers_138 : decode cX0_answers 138 = .ok (.aload_n 0, 1) := dk_42 (dk_at dksX0_answers_5 2 rfl rfl)
theorem dX0_answers_139 : decode cX0_answers 139 = .ok (.getfield 1145, 3) := dk_180 4 121 (dk_at dksX0_answers_5 3 rfl rfl)
theorem dX0_answers_142 : decode cX0_answers 142 = .ok (.iload_n 1, 1) := dk_27 (dk_at dksX0_answers_5 6 rfl rfl)
theorem dX0_answers_143 : decode cX0_answers 143 = .ok (.iaload, 1) := dk_46 (dk_at dksX0_answers_5 7 rfl rfl)
theorem dX0_answers_144 : decode cX0_answers 144 = .ok (.iload_n 2, 1) := dk_28 (dk_at dksX0_answers_5 8 rfl rfl)
theorem dX0_answers_145 : decode cX0_answers 145 = .ok (.iload_n 3, 1) := dk_29 (dk_at dksX0_answers_5 9 rfl rfl)
theorem dX0_answers_146 : decode cX0_answers 146 = .ok (.invokevirtual 1195, 3) := dk_182 4 171 (dk_at dksX0_answers_5 10 rfl rfl)
theorem dX0_answers_149 : decode cX0_answers 149 = .ok (.istore 4, 2) := dk_54 4 (dk_at dksX0_answers_5 13 rfl rfl)
theorem dX0_answers_151 : decode cX0_answers 151 = .ok (.aload_n 0, 1) := dk_42 (dk_at dksX0_answers_5 15 rfl rfl)
theorem dX0_answers_152 : decode cX0_answers 152 = .ok (.iload_n 3, 1) := dk_29 (dk_at dksX0_answers_5 16 rfl rfl)
theorem dX0_answers_153 : decode cX0_answers 153 = .ok (.iload 4, 2) := dk_21 4 (dk_at dksX0_answers_5 17 rfl rfl)
theorem dX0_answers_155 : decode cX0_answers 155 = .ok (.aload_n 0, 1) := dk_42 (dk_at dksX0_answers_5 19 rfl rfl)
theorem dX0_answers_156 : decode cX0_answers 156 = .ok (.aload_n 0, 1) := dk_42 (dk_at dksX0_answers_5 20 rfl rfl)
theorem dX0_answers_157 : decode cX0_answers 157 = .ok (.getfield 1148, 3) := dk_180 4 124 (dk_at dksX0_answers_5 21 rfl rfl)
theorem dX0_answers_160 : decode cX0_answers 160 = .ok (.iload_n 1, 1) := dk_27 (dk_at dksX0_answers_6 0 rfl rfl)
theorem dX0_answers_161 : decode cX0_answers 161 = .ok (.iaload, 1) := dk_46 (dk_at dksX0_answers_6 1 rfl rfl)
theorem dX0_answers_162 : decode cX0_answers 162 = .ok (.iload_n 2, 1) := dk_28 (dk_at dksX0_answers_6 2 rfl rfl)
theorem dX0_answers_163 : decode cX0_answers 163 = .ok (.iload_n 3, 1) := dk_29 (dk_at dksX0_answers_6 3 rfl rfl)
theorem dX0_answers_164 : decode cX0_answers 164 = .ok (.bipush 60, 2) := dk_16 60 (dk_at dksX0_answers_6 4 rfl rfl)
theorem dX0_answers_166 : decode cX0_answers 166 = .ok (.iadd, 1) := dk_96 (dk_at dksX0_answers_6 6 rfl rfl)
theorem dX0_answers_167 : decode cX0_answers 167 = .ok (.iconst 1, 1) := dk_4 (dk_at dksX0_answers_6 7 rfl rfl)
theorem dX0_answers_168 : decode cX0_answers 168 = .ok (.iadd, 1) := dk_96 (dk_at dksX0_answers_6 8 rfl rfl)
theorem dX0_answers_169 : decode cX0_answers 169 = .ok (.invokevirtual 1195, 3) := dk_182 4 171 (dk_at dksX0_answers_6 9 rfl rfl)
theorem dX0_answers_172 : decode cX0_answers 172 = .ok (.invokevirtual 1198, 3) := dk_182 4 174 (dk_at dksX0_answers_6 12 rfl rfl)
theorem dX0_answers_175 : decode cX0_answers 175 = .ok (.ireturn, 1) := dk_172 (dk_at dksX0_answers_6 15 rfl rfl)
theorem dX0_answers_176 : decode cX0_answers 176 = .ok (.aload_n 0, 1) := dk_42 (dk_at dksX0_answers_6 16 rfl rfl)
theorem dX0_answers_177 : decode cX0_answers 177 = .ok (.iload_n 1, 1) := dk_27 (dk_at dksX0_answers_6 17 rfl rfl)
theorem dX0_answers_178 : decode cX0_answers 178 = .ok (.iload_n 2, 1) := dk_28 (dk_at dksX0_answers_6 18 rfl rfl)
theorem dX0_answers_179 : decode cX0_answers 179 = .ok (.iload_n 3, 1) := dk_29 (dk_at dksX0_answers_6 19 rfl rfl)
theorem dX0_answers_180 : decode cX0_answers 180 = .ok (.invokevirtual 1201, 3) := dk_182 4 177 (dk_at dksX0_answers_6 20 rfl rfl)
theorem dX0_answers_183 : decode cX0_answers 183 = .ok (.ireturn, 1) := dk_172 (dk_at dksX0_answers_6 23 rfl rfl)
theorem dX0_answers_184 : decode cX0_answers 184 = .ok (.aload_n 0, 1) := dk_42 (dk_at dksX0_answers_7 0 rfl rfl)
theorem dX0_answers_185 : decode cX0_answers 185 = .ok (.aload_n 0, 1) := dk_42 (dk_at dksX0_answers_7 1 rfl rfl)
theorem dX0_answers_186 : decode cX0_answers 186 = .ok (.getfield 1145, 3) := dk_180 4 121 (dk_at dksX0_answers_7 2 rfl rfl)
theorem dX0_answers_189 : decode cX0_answers 189 = .ok (.iload_n 1, 1) := dk_27 (dk_at dksX0_answers_7 5 rfl rfl)
theorem dX0_answers_190 : decode cX0_answers 190 = .ok (.iaload, 1) := dk_46 (dk_at dksX0_answers_7 6 rfl rfl)
theorem dX0_answers_191 : decode cX0_answers 191 = .ok (.iload_n 2, 1) := dk_28 (dk_at dksX0_answers_7 7 rfl rfl)
theorem dX0_answers_192 : decode cX0_answers 192 = .ok (.iload_n 3, 1) := dk_29 (dk_at dksX0_answers_7 8 rfl rfl)
theorem dX0_answers_193 : decode cX0_answers 193 = .ok (.invokevirtual 1195, 3) := dk_182 4 171 (dk_at dksX0_answers_7 9 rfl rfl)
theorem dX0_answers_196 : decode cX0_answers 196 = .ok (.ifCond .ne 13, 3) := dk_154 0 13 (dk_at dksX0_answers_7 12 rfl rfl)
theorem dX0_answers_199 : decode cX0_answers 199 = .ok (.aload_n 0, 1) := dk_42 (dk_at dksX0_answers_7 15 rfl rfl)
theorem dX0_answers_200 : decode cX0_answers 200 = .ok (.iload_n 3, 1) := dk_29 (dk_at dksX0_answers_7 16 rfl rfl)
theorem dX0_answers_201 : decode cX0_answers 201 = .ok (.iconst 0, 1) := dk_3 (dk_at dksX0_answers_7 17 rfl rfl)
theorem dX0_answers_202 : decode cX0_answers 202 = .ok (.iload_n 2, 1) := dk_28 (dk_at dksX0_answers_7 18 rfl rfl)
theorem dX0_answers_203 : decode cX0_answers 203 = .ok (.invokevirtual 1192, 3) := dk_182 4 168 (dk_at dksX0_answers_7 19 rfl rfl)
theorem dX0_answers_206 : decode cX0_answers 206 = .ok (.goto 4, 3) := dk_167 0 4 (dk_at dksX0_answers_8 0 rfl rfl)
theorem dX0_answers_209 : decode cX0_answers 209 = .ok (.iconst 0, 1) := dk_3 (dk_at dksX0_answers_8 3 rfl rfl)
theorem dX0_answers_210 : decode cX0_answers 210 = .ok (.ireturn, 1) := dk_172 (dk_at dksX0_answers_8 4 rfl rfl)
theorem dX0_answers_211 : decode cX0_answers 211 = .ok (.iconst 1, 1) := dk_4 (dk_at dksX0_answers_8 5 rfl rfl)
theorem dX0_answers_212 : decode cX0_answers 212 = .ok (.aload_n 0, 1) := dk_42 (dk_at dksX0_answers_8 6 rfl rfl)
theorem dX0_answers_213 : decode cX0_answers 213 = .ok (.aload_n 0, 1) := dk_42 (dk_at dksX0_answers_8 7 rfl rfl)
theorem dX0_answers_214 : decode cX0_answers 214 = .ok (.getfield 1145, 3) := dk_180 4 121 (dk_at dksX0_answers_8 8 rfl rfl)
theorem dX0_answers_217 : decode cX0_answers 217 = .ok (.iload_n 1, 1) := dk_27 (dk_at dksX0_answers_8 11 rfl rfl)
theorem dX0_answers_218 : decode cX0_answers 218 = .ok (.iaload, 1) := dk_46 (dk_at dksX0_answers_8 12 rfl rfl)
theorem dX0_answers_219 : decode cX0_answers 219 = .ok (.iload_n 2, 1) := dk_28 (dk_at dksX0_answers_8 13 rfl rfl)
theorem dX0_answers_220 : decode cX0_answers 220 = .ok (.iload_n 3, 1) := dk_29 (dk_at dksX0_answers_8 14 rfl rfl)
theorem dX0_answers_221 : decode cX0_answers 221 = .ok (.invokevirtual 1195, 3) := dk_182 4 171 (dk_at dksX0_answers_8 15 rfl rfl)
theorem dX0_answers_224 : decode cX0_answers 224 = .ok (.invokestatic 407, 3) := dk_184 1 151 (dk_at dksX0_answers_8 18 rfl rfl)
theorem dX0_answers_227 : decode cX0_answers 227 = .ok (.ireturn, 1) := dk_172 (dk_at dksX0_answers_8 21 rfl rfl)
theorem dX0_answers_228 : decode cX0_answers 228 = .ok (.aload_n 0, 1) := dk_42 (dk_at dksX0_answers_8 22 rfl rfl)
theorem dX0_answers_229 : decode cX0_answers 229 = .ok (.iload_n 1, 1) := dk_27 (dk_at dksX0_answers_8 23 rfl rfl)
theorem dX0_answers_230 : decode cX0_answers 230 = .ok (.iload_n 2, 1) := dk_28 (dk_at dksX0_answers_9 0 rfl rfl)
theorem dX0_answers_231 : decode cX0_answers 231 = .ok (.iload_n 3, 1) := dk_29 (dk_at dksX0_answers_9 1 rfl rfl)
theorem dX0_answers_232 : decode cX0_answers 232 = .ok (.invokevirtual 1204, 3) := dk_182 4 180 (dk_at dksX0_answers_9 2 rfl rfl)
theorem dX0_answers_235 : decode cX0_answers 235 = .ok (.ireturn, 1) := dk_172 (dk_at dksX0_answers_9 5 rfl rfl)
abbrev cX0_addAnswer : ByteArray := prog_1_method_190_code
def yX0_addAnswer : MethodName := ⟨RX0, "addAnswer", "(III)I"⟩
def dkwX0_addAnswer_2 : List UInt8 := [96, 29, 79, 28, 4, 96, 172]
abbrev dktX0_addAnswer_2 : List UInt8 := dkwX0_addAnswer_2 ++ []
def dkwX0_addAnswer_1 : List UInt8 := [132, 4, 1, 167, 255, 232, 28, 16, 60, 160, 0, 9, 42, 5, 182, 2, 83, 191, 42, 180, 4, 165, 27, 28]
abbrev dktX0_addAnswer_1 : List UInt8 := dkwX0_addAnswer_1 ++ dktX0_addAnswer_2
def dkwX0_addAnswer_0 : List UInt8 := [3, 54, 4, 21, 4, 28, 162, 0, 24, 42, 180, 4, 165, 27, 21, 4, 96, 46, 29, 160, 0, 5, 28, 172]
abbrev dktX0_addAnswer_0 : List UInt8 := dkwX0_addAnswer_0 ++ dktX0_addAnswer_1
theorem dksX0_addAnswer_0 : cX0_addAnswer.data.toList.drop 0 = dktX0_addAnswer_0 := by decide +kernel
theorem dksX0_addAnswer_1 : cX0_addAnswer.data.toList.drop 24 = dktX0_addAnswer_1 := dk_seg dksX0_addAnswer_0 24 rfl rfl
theorem dksX0_addAnswer_2 : cX0_addAnswer.data.toList.drop 48 = dktX0_addAnswer_2 := dk_seg dksX0_addAnswer_1 24 rfl rfl
theorem dX0_addAnswer_0 : decode cX0_addAnswer 0 = .ok (.iconst 0, 1) := dk_3 (dk_at dksX0_addAnswer_0 0 rfl rfl)
theorem dX0_addAnswer_1 : decode cX0_addAnswer 1 = .ok (.istore 4, 2) := dk_54 4 (dk_at dksX0_addAnswer_0 1 rfl rfl)
theorem dX0_addAnswer_3 : decode cX0_addAnswer 3 = .ok (.iload 4, 2) := dk_21 4 (dk_at dksX0_addAnswer_0 3 rfl rfl)
theorem dX0_addAnswer_5 : decode cX0_addAnswer 5 = .ok (.iload_n 2, 1) := dk_28 (dk_at dksX0_addAnswer_0 5 rfl rfl)
theorem dX0_addAnswer_6 : decode cX0_addAnswer 6 = .ok (.if_icmp .ge 24, 3) := dk_162 0 24 (dk_at dksX0_addAnswer_0 6 rfl rfl)
theorem dX0_addAnswer_9 : decode cX0_addAnswer 9 = .ok (.aload_n 0, 1) := dk_42 (dk_at dksX0_addAnswer_0 9 rfl rfl)
theorem dX0_addAnswer_10 : decode cX0_addAnswer 10 = .ok (.getfield 1189, 3) := dk_180 4 165 (dk_at dksX0_addAnswer_0 10 rfl rfl)
theorem dX0_addAnswer_13 : decode cX0_addAnswer 13 = .ok (.iload_n 1, 1) := dk_27 (dk_at dksX0_addAnswer_0 13 rfl rfl)
theorem dX0_addAnswer_14 : decode cX0_addAnswer 14 = .ok (.iload 4, 2) := dk_21 4 (dk_at dksX0_addAnswer_0 14 rfl rfl)
theorem dX0_addAnswer_16 : decode cX0_addAnswer 16 = .ok (.iadd, 1) := dk_96 (dk_at dksX0_addAnswer_0 16 rfl rfl)
theorem dX0_addAnswer_17 : decode cX0_addAnswer 17 = .ok (.iaload, 1) := dk_46 (dk_at dksX0_addAnswer_0 17 rfl rfl)
theorem dX0_addAnswer_18 : decode cX0_addAnswer 18 = .ok (.iload_n 3, 1) := dk_29 (dk_at dksX0_addAnswer_0 18 rfl rfl)
theorem dX0_addAnswer_19 : decode cX0_addAnswer 19 = .ok (.if_icmp .ne 5, 3) := dk_160 0 5 (dk_at dksX0_addAnswer_0 19 rfl rfl)
theorem dX0_addAnswer_22 : decode cX0_addAnswer 22 = .ok (.iload_n 2, 1) := dk_28 (dk_at dksX0_addAnswer_0 22 rfl rfl)
theorem dX0_addAnswer_23 : decode cX0_addAnswer 23 = .ok (.ireturn, 1) := dk_172 (dk_at dksX0_addAnswer_0 23 rfl rfl)
theorem dX0_addAnswer_24 : decode cX0_addAnswer 24 = .ok (.iinc 4 1, 3) := dk_132 4 1 (dk_at dksX0_addAnswer_1 0 rfl rfl)
theorem dX0_addAnswer_27 : decode cX0_addAnswer 27 = .ok (.goto (-24), 3) := dk_167 255 232 (dk_at dksX0_addAnswer_1 3 rfl rfl)
theorem dX0_addAnswer_30 : decode cX0_addAnswer 30 = .ok (.iload_n 2, 1) := dk_28 (dk_at dksX0_addAnswer_1 6 rfl rfl)
theorem dX0_addAnswer_31 : decode cX0_addAnswer 31 = .ok (.bipush 60, 2) := dk_16 60 (dk_at dksX0_addAnswer_1 7 rfl rfl)
theorem dX0_addAnswer_33 : decode cX0_addAnswer 33 = .ok (.if_icmp .ne 9, 3) := dk_160 0 9 (dk_at dksX0_addAnswer_1 9 rfl rfl)
theorem dX0_addAnswer_36 : decode cX0_addAnswer 36 = .ok (.aload_n 0, 1) := dk_42 (dk_at dksX0_addAnswer_1 12 rfl rfl)
theorem dX0_addAnswer_37 : decode cX0_addAnswer 37 = .ok (.iconst 2, 1) := dk_5 (dk_at dksX0_addAnswer_1 13 rfl rfl)
theorem dX0_addAnswer_38 : decode cX0_addAnswer 38 = .ok (.invokevirtual 595, 3) := dk_182 2 83 (dk_at dksX0_addAnswer_1 14 rfl rfl)
theorem dX0_addAnswer_41 : decode cX0_addAnswer 41 = .ok (.athrow, 1) := dk_191 (dk_at dksX0_addAnswer_1 17 rfl rfl)
theorem dX0_addAnswer_42 : decode cX0_addAnswer 42 = .ok (.aload_n 0, 1) := dk_42 (dk_at dksX0_addAnswer_1 18 rfl rfl)
theorem dX0_addAnswer_43 : decode cX0_addAnswer 43 = .ok (.getfield 1189, 3) := dk_180 4 165 (dk_at dksX0_addAnswer_1 19 rfl rfl)
theorem dX0_addAnswer_46 : decode cX0_addAnswer 46 = .ok (.iload_n 1, 1) := dk_27 (dk_at dksX0_addAnswer_1 22 rfl rfl)
theorem dX0_addAnswer_47 : decode cX0_addAnswer 47 = .ok (.iload_n 2, 1) := dk_28 (dk_at dksX0_addAnswer_1 23 rfl rfl)
theorem dX0_addAnswer_48 : decode cX0_addAnswer 48 = .ok (.iadd, 1) := dk_96 (dk_at dksX0_addAnswer_2 0 rfl rfl)
theorem dX0_addAnswer_49 : decode cX0_addAnswer 49 = .ok (.iload_n 3, 1) := dk_29 (dk_at dksX0_addAnswer_2 1 rfl rfl)
theorem dX0_addAnswer_50 : decode cX0_addAnswer 50 = .ok (.iastore, 1) := dk_79 (dk_at dksX0_addAnswer_2 2 rfl rfl)
theorem dX0_addAnswer_51 : decode cX0_addAnswer 51 = .ok (.iload_n 2, 1) := dk_28 (dk_at dksX0_addAnswer_2 3 rfl rfl)
theorem dX0_addAnswer_52 : decode cX0_addAnswer 52 = .ok (.iconst 1, 1) := dk_4 (dk_at dksX0_addAnswer_2 4 rfl rfl)
theorem dX0_addAnswer_53 : decode cX0_addAnswer 53 = .ok (.iadd, 1) := dk_96 (dk_at dksX0_addAnswer_2 5 rfl rfl)
theorem dX0_addAnswer_54 : decode cX0_addAnswer 54 = .ok (.ireturn, 1) := dk_172 (dk_at dksX0_addAnswer_2 6 rfl rfl)
abbrev cX0_join : ByteArray := prog_1_method_192_code
def yX0_join : MethodName := ⟨RX0, "join", "(III)I"⟩
def dkwX0_join_1 : List UInt8 := [4, 96, 21, 5, 96, 46, 182, 4, 168, 54, 4, 132, 5, 1, 167, 255, 224, 21, 4, 172]
abbrev dktX0_join_1 : List UInt8 := dkwX0_join_1 ++ []
def dkwX0_join_0 : List UInt8 := [28, 54, 4, 3, 54, 5, 21, 5, 29, 162, 0, 32, 42, 27, 21, 4, 42, 180, 4, 165, 27, 16, 60, 96]
abbrev dktX0_join_0 : List UInt8 := dkwX0_join_0 ++ dktX0_join_1
theorem dksX0_join_0 : cX0_join.data.toList.drop 0 = dktX0_join_0 := by decide +kernel
theorem dksX0_join_1 : cX0_join.data.toList.drop 24 = dktX0_join_1 := dk_seg dksX0_join_0 24 rfl rfl
theorem dX0_join_0 : decode cX0_join 0 = .ok (.iload_n 2, 1) := dk_28 (dk_at dksX0_join_0 0 rfl rfl)
theorem dX0_join_1 : decode cX0_join 1 = .ok (.istore 4, 2) := dk_54 4 (dk_at dksX0_join_0 1 rfl rfl)
theorem dX0_join_3 : decode cX0_join 3 = .ok (.iconst 0, 1) := dk_3 (dk_at dksX0_join_0 3 rfl rfl)
theorem dX0_join_4 : decode cX0_join 4 = .ok (.istore 5, 2) := dk_54 5 (dk_at dksX0_join_0 4 rfl rfl)
theorem dX0_join_6 : decode cX0_join 6 = .ok (.iload 5, 2) := dk_21 5 (dk_at dksX0_join_0 6 rfl rfl)
theorem dX0_join_8 : decode cX0_join 8 = .ok (.iload_n 3, 1) := dk_29 (dk_at dksX0_join_0 8 rfl rfl)
theorem dX0_join_9 : decode cX0_join 9 = .ok (.if_icmp .ge 32, 3) := dk_162 0 32 (dk_at dksX0_join_0 9 rfl rfl)
theorem dX0_join_12 : decode cX0_join 12 = .ok (.aload_n 0, 1) := dk_42 (dk_at dksX0_join_0 12 rfl rfl)
theorem dX0_join_13 : decode cX0_join 13 = .ok (.iload_n 1, 1) := dk_27 (dk_at dksX0_join_0 13 rfl rfl)
theorem dX0_join_14 : decode cX0_join 14 = .ok (.iload 4, 2) := dk_21 4 (dk_at dksX0_join_0 14 rfl rfl)
theorem dX0_join_16 : decode cX0_join 16 = .ok (.aload_n 0, 1) := dk_42 (dk_at dksX0_join_0 16 rfl rfl)
theorem dX0_join_17 : decode cX0_join 17 = .ok (.getfield 1189, 3) := dk_180 4 165 (dk_at dksX0_join_0 17 rfl rfl)
theorem dX0_join_20 : decode cX0_join 20 = .ok (.iload_n 1, 1) := dk_27 (dk_at dksX0_join_0 20 rfl rfl)
theorem dX0_join_21 : decode cX0_join 21 = .ok (.bipush 60, 2) := dk_16 60 (dk_at dksX0_join_0 21 rfl rfl)
theorem dX0_join_23 : decode cX0_join 23 = .ok (.iadd, 1) := dk_96 (dk_at dksX0_join_0 23 rfl rfl)
theorem dX0_join_24 : decode cX0_join 24 = .ok (.iconst 1, 1) := dk_4 (dk_at dksX0_join_1 0 rfl rfl)
theorem dX0_join_25 : decode cX0_join 25 = .ok (.iadd, 1) := dk_96 (dk_at dksX0_join_1 1 rfl rfl)
theorem dX0_join_26 : decode cX0_join 26 = .ok (.iload 5, 2) := dk_21 5 (dk_at dksX0_join_1 2 rfl rfl)
theorem dX0_join_28 : decode cX0_join 28 = .ok (.iadd, 1) := dk_96 (dk_at dksX0_join_1 4 rfl rfl)
theorem dX0_join_29 : decode cX0_join 29 = .ok (.iaload, 1) := dk_46 (dk_at dksX0_join_1 5 rfl rfl)
theorem dX0_join_30 : decode cX0_join 30 = .ok (.invokevirtual 1192, 3) := dk_182 4 168 (dk_at dksX0_join_1 6 rfl rfl)
theorem dX0_join_33 : decode cX0_join 33 = .ok (.istore 4, 2) := dk_54 4 (dk_at dksX0_join_1 9 rfl rfl)
theorem dX0_join_35 : decode cX0_join 35 = .ok (.iinc 5 1, 3) := dk_132 5 1 (dk_at dksX0_join_1 11 rfl rfl)
theorem dX0_join_38 : decode cX0_join 38 = .ok (.goto (-32), 3) := dk_167 255 224 (dk_at dksX0_join_1 14 rfl rfl)
theorem dX0_join_41 : decode cX0_join 41 = .ok (.iload 4, 2) := dk_21 4 (dk_at dksX0_join_1 17 rfl rfl)
theorem dX0_join_43 : decode cX0_join 43 = .ok (.ireturn, 1) := dk_172 (dk_at dksX0_join_1 19 rfl rfl)
abbrev cX0_answersThen : ByteArray := prog_1_method_193_code
def yX0_answersThen : MethodName := ⟨RX0, "answersThen", "(III)I"⟩
def dkwX0_answersThen_4 : List UInt8 := [182, 4, 168, 54, 6, 132, 10, 1, 167, 255, 227, 132, 7, 1, 167, 255, 178, 21, 6, 172]
abbrev dktX0_answersThen_4 : List UInt8 := dkwX0_answersThen_4 ++ []
def dkwX0_answersThen_3 : List UInt8 := [54, 10, 21, 10, 21, 9, 162, 0, 28, 42, 29, 21, 6, 42, 180, 4, 165, 21, 8, 21, 10, 96, 46]
abbrev dktX0_answersThen_3 : List UInt8 := dkwX0_answersThen_3 ++ dktX0_answersThen_4
def dkwX0_answersThen_2 : List UInt8 := [180, 4, 124, 27, 46, 42, 180, 4, 165, 21, 4, 21, 7, 96, 46, 21, 8, 182, 4, 171, 54, 9, 3]
abbrev dktX0_answersThen_2 : List UInt8 := dkwX0_answersThen_2 ++ dktX0_answersThen_3
def dkwX0_answersThen_1 : List UInt8 := [54, 6, 3, 54, 7, 21, 7, 21, 5, 162, 0, 77, 21, 4, 16, 60, 96, 4, 96, 54, 8, 42, 42]
abbrev dktX0_answersThen_1 : List UInt8 := dkwX0_answersThen_1 ++ dktX0_answersThen_2
def dkwX0_answersThen_0 : List UInt8 := [29, 16, 60, 96, 4, 96, 54, 4, 42, 42, 180, 4, 121, 27, 46, 28, 21, 4, 182, 4, 171, 54, 5, 3]
abbrev dktX0_answersThen_0 : List UInt8 := dkwX0_answersThen_0 ++ dktX0_answersThen_1
theorem dksX0_answersThen_0 : cX0_answersThen.data.toList.drop 0 = dktX0_answersThen_0 := by decide +kernel
theorem dksX0_answersThen_1 : cX0_answersThen.data.toList.drop 24 = dktX0_answersThen_1 := dk_seg dksX0_answersThen_0 24 rfl rfl
theorem dksX0_answersThen_2 : cX0_answersThen.data.toList.drop 47 = dktX0_answersThen_2 := dk_seg dksX0_answersThen_1 23 rfl rfl
theorem dksX0_answersThen_3 : cX0_answersThen.data.toList.drop 70 = dktX0_answersThen_3 := dk_seg dksX0_answersThen_2 23 rfl rfl
theorem dksX0_answersThen_4 : cX0_answersThen.data.toList.drop 93 = dktX0_answersThen_4 := dk_seg dksX0_answersThen_3 23 rfl rfl
theorem dX0_answersThen_0 : decode cX0_answersThen 0 = .ok (.iload_n 3, 1) := dk_29 (dk_at dksX0_answersThen_0 0 rfl rfl)
theorem dX0_answersThen_1 : decode cX0_answersThen 1 = .ok (.bipush 60, 2) := dk_16 60 (dk_at dksX0_answersThen_0 1 rfl rfl)
theorem dX0_answersThen_3 : decode cX0_answersThen 3 = .ok (.iadd, 1) := dk_96 (dk_at dksX0_answersThen_0 3 rfl rfl)
theorem dX0_answersThen_4 : decode cX0_answersThen 4 = .ok (.iconst 1, 1) := dk_4 (dk_at dksX0_answersThen_0 4 rfl rfl)
theorem dX0_answersThen_5 : decode cX0_answersThen 5 = .ok (.iadd, 1) := dk_96 (dk_at dksX0_answersThen_0 5 rfl rfl)
theorem dX0_answersThen_6 : decode cX0_answersThen 6 = .ok (.istore 4, 2) := dk_54 4 (dk_at dksX0_answersThen_0 6 rfl rfl)
theorem dX0_answersThen_8 : decode cX0_answersThen 8 = .ok (.aload_n 0, 1) := dk_42 (dk_at dksX0_answersThen_0 8 rfl rfl)
theorem dX0_answersThen_9 : decode cX0_answersThen 9 = .ok (.aload_n 0, 1) := dk_42 (dk_at dksX0_answersThen_0 9 rfl rfl)
theorem dX0_answersThen_10 : decode cX0_answersThen 10 = .ok (.getfield 1145, 3) := dk_180 4 121 (dk_at dksX0_answersThen_0 10 rfl rfl)
theorem dX0_answersThen_13 : decode cX0_answersThen 13 = .ok (.iload_n 1, 1) := dk_27 (dk_at dksX0_answersThen_0 13 rfl rfl)
theorem dX0_answersThen_14 : decode cX0_answersThen 14 = .ok (.iaload, 1) := dk_46 (dk_at dksX0_answersThen_0 14 rfl rfl)
theorem dX0_answersThen_15 : decode cX0_answersThen 15 = .ok (.iload_n 2, 1) := dk_28 (dk_at dksX0_answersThen_0 15 rfl rfl)
theorem dX0_answersThen_16 : decode cX0_answersThen 16 = .ok (.iload 4, 2) := dk_21 4 (dk_at dksX0_answersThen_0 16 rfl rfl)
theorem dX0_answersThen_18 : decode cX0_answersThen 18 = .ok (.invokevirtual 1195, 3) := dk_182 4 171 (dk_at dksX0_answersThen_0 18 rfl rfl)
theorem dX0_answersThen_21 : decode cX0_answersThen 21 = .ok (.istore 5, 2) := dk_54 5 (dk_at dksX0_answersThen_0 21 rfl rfl)
theorem dX0_answersThen_23 : decode cX0_answersThen 23 = .ok (.iconst 0, 1) := dk_3 (dk_at dksX0_answersThen_0 23 rfl rfl)
theorem dX0_answersThen_24 : decode cX0_answersThen 24 = .ok (.istore 6, 2) := dk_54 6 (dk_at dksX0_answersThen_1 0 rfl rfl)
theorem dX0_answersThen_26 : decode cX0_answersThen 26 = .ok (.iconst 0, 1) := dk_3 (dk_at dksX0_answersThen_1 2 rfl rfl)
theorem dX0_answersThen_27 : decode cX0_answersThen 27 = .ok (.istore 7, 2) := dk_54 7 (dk_at dksX0_answersThen_1 3 rfl rfl)
theorem dX0_answersThen_29 : decode cX0_answersThen 29 = .ok (.iload 7, 2) := dk_21 7 (dk_at dksX0_answersThen_1 5 rfl rfl)
theorem dX0_answersThen_31 : decode cX0_answersThen 31 = .ok (.iload 5, 2) := dk_21 5 (dk_at dksX0_answersThen_1 7 rfl rfl)
theorem dX0_answersThen_33 : decode cX0_answersThen 33 = .ok (.if_icmp .ge 77, 3) := dk_162 0 77 (dk_at dksX0_answersThen_1 9 rfl rfl)
theorem dX0_answersThen_36 : decode cX0_answersThen 36 = .ok (.iload 4, 2) := dk_21 4 (dk_at dksX0_answersThen_1 12 rfl rfl)
theorem dX0_answersThen_38 : decode cX0_answersThen 38 = .ok (.bipush 60, 2) := dk_16 60 (dk_at dksX0_answersThen_1 14 rfl rfl)
theorem dX0_answersThen_40 : decode cX0_answersThen 40 = .ok (.iadd, 1) := dk_96 (dk_at dksX0_answersThen_1 16 rfl rfl)
theorem dX0_answersThen_41 : decode cX0_answersThen 41 = .ok (.iconst 1, 1) := dk_4 (dk_at dksX0_answersThen_1 17 rfl rfl)
theorem dX0_answersThen_42 : decode cX0_answersThen 42 = .ok (.iadd, 1) := dk_96 (dk_at dksX0_answersThen_1 18 rfl rfl)
theorem dX0_answersThen_43 : decode cX0_answersThen 43 = .ok (.istore 8, 2) := dk_54 8 (dk_at dksX0_answersThen_1 19 rfl rfl)
theorem dX0_answersThen_45 : decode cX0_answersThen 45 = .ok (.aload_n 0, 1) := dk_42 (dk_at dksX0_answersThen_1 21 rfl rfl)
theorem dX0_answersThen_46 : decode cX0_answersThen 46 = .ok (.aload_n 0, 1) := dk_42 (dk_at dksX0_answersThen_1 22 rfl rfl)
theorem dX0_answersThen_47 : decode cX0_answersThen 47 = .ok (.getfield 1148, 3) := dk_180 4 124 (dk_at dksX0_answersThen_2 0 rfl rfl)
theorem dX0_answersThen_50 : decode cX0_answersThen 50 = .ok (.iload_n 1, 1) := dk_27 (dk_at dksX0_answersThen_2 3 rfl rfl)
theorem dX0_answersThen_51 : decode cX0_answersThen 51 = .ok (.iaload, 1) := dk_46 (dk_at dksX0_answersThen_2 4 rfl rfl)
theorem dX0_answersThen_52 : decode cX0_answersThen 52 = .ok (.aload_n 0, 1) := dk_42 (dk_at dksX0_answersThen_2 5 rfl rfl)
theorem dX0_answersThen_53 : decode cX0_answersThen 53 = .ok (.getfield 1189, 3) := dk_180 4 165 (dk_at dksX0_answersThen_2 6 rfl rfl)
theorem dX0_answersThen_56 : decode cX0_answersThen 56 = .ok (.iload 4, 2) := dk_21 4 (dk_at dksX0_answersThen_2 9 rfl rfl)
theorem dX0_answersThen_58 : decode cX0_answersThen 58 = .ok (.iload 7, 2) := dk_21 7 (dk_at dksX0_answersThen_2 11 rfl rfl)
theorem dX0_answersThen_60 : decode cX0_answersThen 60 = .ok (.iadd, 1) := dk_96 (dk_at dksX0_answersThen_2 13 rfl rfl)
theorem dX0_answersThen_61 : decode cX0_answersThen 61 = .ok (.iaload, 1) := dk_46 (dk_at dksX0_answersThen_2 14 rfl rfl)
theorem dX0_answersThen_62 : decode cX0_answersThen 62 = .ok (.iload 8, 2) := dk_21 8 (dk_at dksX0_answersThen_2 15 rfl rfl)
theorem dX0_answersThen_64 : decode cX0_answersThen 64 = .ok (.invokevirtual 1195, 3) := dk_182 4 171 (dk_at dksX0_answersThen_2 17 rfl rfl)
theorem dX0_answersThen_67 : decode cX0_answersThen 67 = .ok (.istore 9, 2) := dk_54 9 (dk_at dksX0_answersThen_2 20 rfl rfl)
theorem dX0_answersThen_69 : decode cX0_answersThen 69 = .ok (.iconst 0, 1) := dk_3 (dk_at dksX0_answersThen_2 22 rfl rfl)
theorem dX0_answersThen_70 : decode cX0_answersThen 70 = .ok (.istore 10, 2) := dk_54 10 (dk_at dksX0_answersThen_3 0 rfl rfl)
theorem dX0_answersThen_72 : decode cX0_answersThen 72 = .ok (.iload 10, 2) := dk_21 10 (dk_at dksX0_answersThen_3 2 rfl rfl)
theorem dX0_answersThen_74 : decode cX0_answersThen 74 = .ok (.iload 9, 2) := dk_21 9 (dk_at dksX0_answersThen_3 4 rfl rfl)
theorem dX0_answersThen_76 : decode cX0_answersThen 76 = .ok (.if_icmp .ge 28, 3) := dk_162 0 28 (dk_at dksX0_answersThen_3 6 rfl rfl)
theorem dX0_answersThen_79 : decode cX0_answersThen 79 = .ok (.aload_n 0, 1) := dk_42 (dk_at dksX0_answersThen_3 9 rfl rfl)
theorem dX0_answersThen_80 : decode cX0_answersThen 80 = .ok (.iload_n 3, 1) := dk_29 (dk_at dksX0_answersThen_3 10 rfl rfl)
theorem dX0_answersThen_81 : decode cX0_answersThen 81 = .ok (.iload 6, 2) := dk_21 6 (dk_at dksX0_answersThen_3 11 rfl rfl)
theorem dX0_answersThen_83 : decode cX0_answersThen 83 = .ok (.aload_n 0, 1) := dk_42 (dk_at dksX0_answersThen_3 13 rfl rfl)
theorem dX0_answersThen_84 : decode cX0_answersThen 84 = .ok (.getfield 1189, 3) := dk_180 4 165 (dk_at dksX0_answersThen_3 14 rfl rfl)
theorem dX0_answersThen_87 : decode cX0_answersThen 87 = .ok (.iload 8, 2) := dk_21 8 (dk_at dksX0_answersThen_3 17 rfl rfl)
theorem dX0_answersThen_89 : decode cX0_answersThen 89 = .ok (.iload 10, 2) := dk_21 10 (dk_at dksX0_answersThen_3 19 rfl rfl)
theorem dX0_answersThen_91 : decode cX0_answersThen 91 = .ok (.iadd, 1) := dk_96 (dk_at dksX0_answersThen_3 21 rfl rfl)
theorem dX0_answersThen_92 : decode cX0_answersThen 92 = .ok (.iaload, 1) := dk_46 (dk_at dksX0_answersThen_3 22 rfl rfl)
theorem dX0_answersThen_93 : decode cX0_answersThen 93 = .ok (.invokevirtual 1192, 3) := dk_182 4 168 (dk_at dksX0_answersThen_4 0 rfl rfl)
theorem dX0_answersThen_96 : decode cX0_answersThen 96 = .ok (.istore 6, 2) := dk_54 6 (dk_at dksX0_answersThen_4 3 rfl rfl)
theorem dX0_answersThen_98 : decode cX0_answersThen 98 = .ok (.iinc 10 1, 3) := dk_132 10 1 (dk_at dksX0_answersThen_4 5 rfl rfl)
theorem dX0_answersThen_101 : decode cX0_answersThen 101 = .ok (.goto (-29), 3) := dk_167 255 227 (dk_at dksX0_answersThen_4 8 rfl rfl)
theorem dX0_answersThen_104 : decode cX0_answersThen 104 = .ok (.iinc 7 1, 3) := dk_132 7 1 (dk_at dksX0_answersThen_4 11 rfl rfl)
theorem dX0_answersThen_107 : decode cX0_answersThen 107 = .ok (.goto (-78), 3) := dk_167 255 178 (dk_at dksX0_answersThen_4 14 rfl rfl)
theorem dX0_answersThen_110 : decode cX0_answersThen 110 = .ok (.iload 6, 2) := dk_21 6 (dk_at dksX0_answersThen_4 17 rfl rfl)
theorem dX0_answersThen_112 : decode cX0_answersThen 112 = .ok (.ireturn, 1) := dk_172 (dk_at dksX0_answersThen_4 19 rfl rfl)
abbrev cX0_answersMany : ByteArray := prog_1_method_194_code
def yX0_answersMany : MethodName := ⟨RX0, "answersMany", "(III)I"⟩
def dkwX0_answersMany_6 : List UInt8 := [21, 8, 96, 46, 182, 4, 168, 54, 7, 132, 8, 1, 167, 255, 148, 21, 7, 172]
abbrev dktX0_answersMany_6 : List UInt8 := dkwX0_answersMany_6 ++ []
def dkwX0_answersMany_5 : List UInt8 := [167, 255, 226, 21, 5, 153, 0, 8, 21, 10, 154, 0, 22, 42, 29, 21, 7, 42, 180, 4, 165, 21, 4]
abbrev dktX0_answersMany_5 : List UInt8 := dkwX0_answersMany_5 ++ dktX0_answersMany_6
def dkwX0_answersMany_4 : List UInt8 := [21, 4, 21, 6, 42, 180, 4, 165, 21, 9, 21, 11, 96, 46, 182, 4, 168, 54, 6, 132, 11, 1]
abbrev dktX0_answersMany_4 : List UInt8 := dkwX0_answersMany_4 ++ dktX0_answersMany_5
def dkwX0_answersMany_3 : List UInt8 := [21, 4, 21, 8, 96, 46, 21, 9, 182, 4, 171, 54, 10, 3, 54, 11, 21, 11, 21, 10, 162, 0, 29, 42]
abbrev dktX0_answersMany_3 : List UInt8 := dkwX0_answersMany_3 ++ dktX0_answersMany_4
def dkwX0_answersMany_2 : List UInt8 := [162, 0, 107, 21, 4, 16, 60, 96, 4, 96, 54, 9, 42, 42, 180, 4, 121, 27, 46, 42, 180, 4, 165]
abbrev dktX0_answersMany_2 : List UInt8 := dkwX0_answersMany_2 ++ dktX0_answersMany_3
def dkwX0_answersMany_1 : List UInt8 := [54, 5, 42, 21, 4, 3, 28, 182, 4, 168, 54, 6, 3, 54, 7, 3, 54, 8, 21, 8, 21, 6]
abbrev dktX0_answersMany_1 : List UInt8 := dkwX0_answersMany_1 ++ dktX0_answersMany_2
def dkwX0_answersMany_0 : List UInt8 := [29, 16, 60, 96, 4, 96, 54, 4, 42, 180, 4, 115, 27, 46, 16, 7, 160, 0, 7, 4, 167, 0, 4, 3]
abbrev dktX0_answersMany_0 : List UInt8 := dkwX0_answersMany_0 ++ dktX0_answersMany_1
theorem dksX0_answersMany_0 : cX0_answersMany.data.toList.drop 0 = dktX0_answersMany_0 := by decide +kernel
theorem dksX0_answersMany_1 : cX0_answersMany.data.toList.drop 24 = dktX0_answersMany_1 := dk_seg dksX0_answersMany_0 24 rfl rfl
theorem dksX0_answersMany_2 : cX0_answersMany.data.toList.drop 46 = dktX0_answersMany_2 := dk_seg dksX0_answersMany_1 22 rfl rfl
theorem dksX0_answersMany_3 : cX0_answersMany.data.toList.drop 69 = dktX0_answersMany_3 := dk_seg dksX0_answersMany_2 23 rfl rfl
theorem dksX0_answersMany_4 : cX0_answersMany.data.toList.drop 93 = dktX0_answersMany_4 := dk_seg dksX0_answersMany_3 24 rfl rfl
theorem dksX0_answersMany_5 : cX0_answersMany.data.toList.drop 115 = dktX0_answersMany_5 := dk_seg dksX0_answersMany_4 22 rfl rfl
theorem dksX0_answersMany_6 : cX0_answersMany.data.toList.drop 138 = dktX0_answersMany_6 := dk_seg dksX0_answersMany_5 23 rfl rfl
theorem dX0_answersMany_0 : decode cX0_answersMany 0 = .ok (.iload_n 3, 1) := dk_29 (dk_at dksX0_answersMany_0 0 rfl rfl)
theorem dX0_answersMany_1 : decode cX0_answersMany 1 = .ok (.bipush 60, 2) := dk_16 60 (dk_at dksX0_answersMany_0 1 rfl rfl)
theorem dX0_answersMany_3 : decode cX0_answersMany 3 = .ok (.iadd, 1) := dk_96 (dk_at dksX0_answersMany_0 3 rfl rfl)
theorem dX0_answersMany_4 : decode cX0_answersMany 4 = .ok (.iconst 1, 1) := dk_4 (dk_at dksX0_answersMany_0 4 rfl rfl)
theorem dX0_answersMany_5 : decode cX0_answersMany 5 = .ok (.iadd, 1) := dk_96 (dk_at dksX0_answersMany_0 5 rfl rfl)
theorem dX0_answersMany_6 : decode cX0_answersMany 6 = .ok (.istore 4, 2) := dk_54 4 (dk_at dksX0_answersMany_0 6 rfl rfl)
theorem dX0_answersMany_8 : decode cX0_answersMany 8 = .ok (.aload_n 0, 1) := dk_42 (dk_at dksX0_answersMany_0 8 rfl rfl)
theorem dX0_answersMany_9 : decode cX0_answersMany 9 = .ok (.getfield 1139, 3) := dk_180 4 115 (dk_at dksX0_answersMany_0 9 rfl rfl)
theorem dX0_answersMany_12 : decode cX0_answersMany 12 = .ok (.iload_n 1, 1) := dk_27 (dk_at dksX0_answersMany_0 12 rfl rfl)
theorem dX0_answersMany_13 : decode cX0_answersMany 13 = .ok (.iaload, 1) := dk_46 (dk_at dksX0_answersMany_0 13 rfl rfl)
theorem dX0_answersMany_14 : decode cX0_answersMany 14 = .ok (.bipush 7, 2) := dk_16 7 (dk_at dksX0_answersMany_0 14 rfl rfl)
theorem dX0_answersMany_16 : decode cX0_answersMany 16 = .ok (.if_icmp .ne 7, 3) := dk_160 0 7 (dk_at dksX0_answersMany_0 16 rfl rfl)
theorem dX0_answersMany_19 : decode cX0_answersMany 19 = .ok (.iconst 1, 1) := dk_4 (dk_at dksX0_answersMany_0 19 rfl rfl)
theorem dX0_answersMany_20 : decode cX0_answersMany 20 = .ok (.goto 4, 3) := dk_167 0 4 (dk_at dksX0_answersMany_0 20 rfl rfl)
theorem dX0_answersMany_23 : decode cX0_answersMany 23 = .ok (.iconst 0, 1) := dk_3 (dk_at dksX0_answersMany_0 23 rfl rfl)
theorem dX0_answersMany_24 : decode cX0_answersMany 24 = .ok (.istore 5, 2) := dk_54 5 (dk_at dksX0_answersMany_1 0 rfl rfl)
theorem dX0_answersMany_26 : decode cX0_answersMany 26 = .ok (.aload_n 0, 1) := dk_42 (dk_at dksX0_answersMany_1 2 rfl rfl)
theorem dX0_answersMany_27 : decode cX0_answersMany 27 = .ok (.iload 4, 2) := dk_21 4 (dk_at dksX0_answersMany_1 3 rfl rfl)
theorem dX0_answersMany_29 : decode cX0_answersMany 29 = .ok (.iconst 0, 1) := dk_3 (dk_at dksX0_answersMany_1 5 rfl rfl)
theorem dX0_answersMany_30 : decode cX0_answersMany 30 = .ok (.iload_n 2, 1) := dk_28 (dk_at dksX0_answersMany_1 6 rfl rfl)
theorem dX0_answersMany_31 : decode cX0_answersMany 31 = .ok (.invokevirtual 1192, 3) := dk_182 4 168 (dk_at dksX0_answersMany_1 7 rfl rfl)
theorem dX0_answersMany_34 : decode cX0_answersMany 34 = .ok (.istore 6, 2) := dk_54 6 (dk_at dksX0_answersMany_1 10 rfl rfl)
theorem dX0_answersMany_36 : decode cX0_answersMany 36 = .ok (.iconst 0, 1) := dk_3 (dk_at dksX0_answersMany_1 12 rfl rfl)
theorem dX0_answersMany_37 : decode cX0_answersMany 37 = .ok (.istore 7, 2) := dk_54 7 (dk_at dksX0_answersMany_1 13 rfl rfl)
theorem dX0_answersMany_39 : decode cX0_answersMany 39 = .ok (.iconst 0, 1) := dk_3 (dk_at dksX0_answersMany_1 15 rfl rfl)
theorem dX0_answersMany_40 : decode cX0_answersMany 40 = .ok (.istore 8, 2) := dk_54 8 (dk_at dksX0_answersMany_1 16 rfl rfl)
theorem dX0_answersMany_42 : decode cX0_answersMany 42 = .ok (.iload 8, 2) := dk_21 8 (dk_at dksX0_answersMany_1 18 rfl rfl)
theorem dX0_answersMany_44 : decode cX0_answersMany 44 = .ok (.iload 6, 2) := dk_21 6 (dk_at dksX0_answersMany_1 20 rfl rfl)
theorem dX0_answersMany_46 : decode cX0_answersMany 46 = .ok (.if_icmp .ge 107, 3) := dk_162 0 107 (dk_at dksX0_answersMany_2 0 rfl rfl)
theorem dX0_answersMany_49 : decode cX0_answersMany 49 = .ok (.iload 4, 2) := dk_21 4 (dk_at dksX0_answersMany_2 3 rfl rfl)
theorem dX0_answersMany_51 : decode cX0_answersMany 51 = .ok (.bipush 60, 2) := dk_16 60 (dk_at dksX0_answersMany_2 5 rfl rfl)
theorem dX0_answersMany_53 : decode cX0_answersMany 53 = .ok (.iadd, 1) := dk_96 (dk_at dksX0_answersMany_2 7 rfl rfl)
theorem dX0_answersMany_54 : decode cX0_answersMany 54 = .ok (.iconst 1, 1) := dk_4 (dk_at dksX0_answersMany_2 8 rfl rfl)
theorem dX0_answersMany_55 : decode cX0_answersMany 55 = .ok (.iadd, 1) := dk_96 (dk_at dksX0_answersMany_2 9 rfl rfl)
theorem dX0_answersMany_56 : decode cX0_answersMany 56 = .ok (.istore 9, 2) := dk_54 9 (dk_at dksX0_answersMany_2 10 rfl rfl)
theorem dX0_answersMany_58 : decode cX0_answersMany 58 = .ok (.aload_n 0, 1) := dk_42 (dk_at dksX0_answersMany_2 12 rfl rfl)
theorem dX0_answersMany_59 : decode cX0_answersMany 59 = .ok (.aload_n 0, 1) := dk_42 (dk_at dksX0_answersMany_2 13 rfl rfl)
theorem dX0_answersMany_60 : decode cX0_answersMany 60 = .ok (.getfield 1145, 3) := dk_180 4 121 (dk_at dksX0_answersMany_2 14 rfl rfl)
theorem dX0_answersMany_63 : decode cX0_answersMany 63 = .ok (.iload_n 1, 1) := dk_27 (dk_at dksX0_answersMany_2 17 rfl rfl)
theorem dX0_answersMany_64 : decode cX0_answersMany 64 = .ok (.iaload, 1) := dk_46 (dk_at dksX0_answersMany_2 18 rfl rfl)
theorem dX0_answersMany_65 : decode cX0_answersMany 65 = .ok (.aload_n 0, 1) := dk_42 (dk_at dksX0_answersMany_2 19 rfl rfl)
theorem dX0_answersMany_66 : decode cX0_answersMany 66 = .ok (.getfield 1189, 3) := dk_180 4 165 (dk_at dksX0_answersMany_2 20 rfl rfl)
theorem dX0_answersMany_69 : decode cX0_answersMany 69 = .ok (.iload 4, 2) := dk_21 4 (dk_at dksX0_answersMany_3 0 rfl rfl)
theorem dX0_answersMany_71 : decode cX0_answersMany 71 = .ok (.iload 8, 2) := dk_21 8 (dk_at dksX0_answersMany_3 2 rfl rfl)
theorem dX0_answersMany_73 : decode cX0_answersMany 73 = .ok (.iadd, 1) := dk_96 (dk_at dksX0_answersMany_3 4 rfl rfl)
theorem dX0_answersMany_74 : decode cX0_answersMany 74 = .ok (.iaload, 1) := dk_46 (dk_at dksX0_answersMany_3 5 rfl rfl)
theorem dX0_answersMany_75 : decode cX0_answersMany 75 = .ok (.iload 9, 2) := dk_21 9 (dk_at dksX0_answersMany_3 6 rfl rfl)
theorem dX0_answersMany_77 : decode cX0_answersMany 77 = .ok (.invokevirtual 1195, 3) := dk_182 4 171 (dk_at dksX0_answersMany_3 8 rfl rfl)
theorem dX0_answersMany_80 : decode cX0_answersMany 80 = .ok (.istore 10, 2) := dk_54 10 (dk_at dksX0_answersMany_3 11 rfl rfl)
theorem dX0_answersMany_82 : decode cX0_answersMany 82 = .ok (.iconst 0, 1) := dk_3 (dk_at dksX0_answersMany_3 13 rfl rfl)
theorem dX0_answersMany_83 : decode cX0_answersMany 83 = .ok (.istore 11, 2) := dk_54 11 (dk_at dksX0_answersMany_3 14 rfl rfl)
theorem dX0_answersMany_85 : decode cX0_answersMany 85 = .ok (.iload 11, 2) := dk_21 11 (dk_at dksX0_answersMany_3 16 rfl rfl)
theorem dX0_answersMany_87 : decode cX0_answersMany 87 = .ok (.iload 10, 2) := dk_21 10 (dk_at dksX0_answersMany_3 18 rfl rfl)
theorem dX0_answersMany_89 : decode cX0_answersMany 89 = .ok (.if_icmp .ge 29, 3) := dk_162 0 29 (dk_at dksX0_answersMany_3 20 rfl rfl)
theorem dX0_answersMany_92 : decode cX0_answersMany 92 = .ok (.aload_n 0, 1) := dk_42 (dk_at dksX0_answersMany_3 23 rfl rfl)
theorem dX0_answersMany_93 : decode cX0_answersMany 93 = .ok (.iload 4, 2) := dk_21 4 (dk_at dksX0_answersMany_4 0 rfl rfl)
theorem dX0_answersMany_95 : decode cX0_answersMany 95 = .ok (.iload 6, 2) := dk_21 6 (dk_at dksX0_answersMany_4 2 rfl rfl)
theorem dX0_answersMany_97 : decode cX0_answersMany 97 = .ok (.aload_n 0, 1) := dk_42 (dk_at dksX0_answersMany_4 4 rfl rfl)
theorem dX0_answersMany_98 : decode cX0_answersMany 98 = .ok (.getfield 1189, 3) := dk_180 4 165 (dk_at dksX0_answersMany_4 5 rfl rfl)
theorem dX0_answersMany_101 : decode cX0_answersMany 101 = .ok (.iload 9, 2) := dk_21 9 (dk_at dksX0_answersMany_4 8 rfl rfl)
theorem dX0_answersMany_103 : decode cX0_answersMany 103 = .ok (.iload 11, 2) := dk_21 11 (dk_at dksX0_answersMany_4 10 rfl rfl)
theorem dX0_answersMany_105 : decode cX0_answersMany 105 = .ok (.iadd, 1) := dk_96 (dk_at dksX0_answersMany_4 12 rfl rfl)
theorem dX0_answersMany_106 : decode cX0_answersMany 106 = .ok (.iaload, 1) := dk_46 (dk_at dksX0_answersMany_4 13 rfl rfl)
theorem dX0_answersMany_107 : decode cX0_answersMany 107 = .ok (.invokevirtual 1192, 3) := dk_182 4 168 (dk_at dksX0_answersMany_4 14 rfl rfl)
theorem dX0_answersMany_110 : decode cX0_answersMany 110 = .ok (.istore 6, 2) := dk_54 6 (dk_at dksX0_answersMany_4 17 rfl rfl)
theorem dX0_answersMany_112 : decode cX0_answersMany 112 = .ok (.iinc 11 1, 3) := dk_132 11 1 (dk_at dksX0_answersMany_4 19 rfl rfl)
theorem dX0_answersMany_115 : decode cX0_answersMany 115 = .ok (.goto (-30), 3) := dk_167 255 226 (dk_at dksX0_answersMany_5 0 rfl rfl)
theorem dX0_answersMany_118 : decode cX0_answersMany 118 = .ok (.iload 5, 2) := dk_21 5 (dk_at dksX0_answersMany_5 3 rfl rfl)
theorem dX0_answersMany_120 : decode cX0_answersMany 120 = .ok (.ifCond .eq 8, 3) := dk_153 0 8 (dk_at dksX0_answersMany_5 5 rfl rfl)
theorem dX0_answersMany_123 : decode cX0_answersMany 123 = .ok (.iload 10, 2) := dk_21 10 (dk_at dksX0_answersMany_5 8 rfl rfl)
theorem dX0_answersMany_125 : decode cX0_answersMany 125 = .ok (.ifCond .ne 22, 3) := dk_154 0 22 (dk_at dksX0_answersMany_5 10 rfl rfl)
theorem dX0_answersMany_128 : decode cX0_answersMany 128 = .ok (.aload_n 0, 1) := dk_42 (dk_at dksX0_answersMany_5 13 rfl rfl)
theorem dX0_answersMany_129 : decode cX0_answersMany 129 = .ok (.iload_n 3, 1) := dk_29 (dk_at dksX0_answersMany_5 14 rfl rfl)
theorem dX0_answersMany_130 : decode cX0_answersMany 130 = .ok (.iload 7, 2) := dk_21 7 (dk_at dksX0_answersMany_5 15 rfl rfl)
theorem dX0_answersMany_132 : decode cX0_answersMany 132 = .ok (.aload_n 0, 1) := dk_42 (dk_at dksX0_answersMany_5 17 rfl rfl)
theorem dX0_answersMany_133 : decode cX0_answersMany 133 = .ok (.getfield 1189, 3) := dk_180 4 165 (dk_at dksX0_answersMany_5 18 rfl rfl)
theorem dX0_answersMany_136 : decode cX0_answersMany 136 = .ok (.iload 4, 2) := dk_21 4 (dk_at dksX0_answersMany_5 21 rfl rfl)
theorem dX0_answersMany_138 : decode cX0_answersMany 138 = .ok (.iload 8, 2) := dk_21 8 (dk_at dksX0_answersMany_6 0 rfl rfl)
theorem dX0_answersMany_140 : decode cX0_answersMany 140 = .ok (.iadd, 1) := dk_96 (dk_at dksX0_answersMany_6 2 rfl rfl)
theorem dX0_answersMany_141 : decode cX0_answersMany 141 = .ok (.iaload, 1) := dk_46 (dk_at dksX0_answersMany_6 3 rfl rfl)
theorem dX0_answersMany_142 : decode cX0_answersMany 142 = .ok (.invokevirtual 1192, 3) := dk_182 4 168 (dk_at dksX0_answersMany_6 4 rfl rfl)
theorem dX0_answersMany_145 : decode cX0_answersMany 145 = .ok (.istore 7, 2) := dk_54 7 (dk_at dksX0_answersMany_6 7 rfl rfl)
theorem dX0_answersMany_147 : decode cX0_answersMany 147 = .ok (.iinc 8 1, 3) := dk_132 8 1 (dk_at dksX0_answersMany_6 9 rfl rfl)
theorem dX0_answersMany_150 : decode cX0_answersMany 150 = .ok (.goto (-108), 3) := dk_167 255 148 (dk_at dksX0_answersMany_6 12 rfl rfl)
theorem dX0_answersMany_153 : decode cX0_answersMany 153 = .ok (.iload 7, 2) := dk_21 7 (dk_at dksX0_answersMany_6 15 rfl rfl)
theorem dX0_answersMany_155 : decode cX0_answersMany 155 = .ok (.ireturn, 1) := dk_172 (dk_at dksX0_answersMany_6 17 rfl rfl)
abbrev cX0_check : ByteArray := prog_1_method_210_code
def yX0_check : MethodName := ⟨RX0, "check", "(I)I"⟩
def dkwX0_check_2 : List UInt8 := [3, 172]
abbrev dktX0_check_2 : List UInt8 := dkwX0_check_2 ++ []
def dkwX0_check_1 : List UInt8 := [153, 0, 7, 4, 167, 0, 21, 3, 167, 0, 17, 42, 182, 4, 240, 16, 254, 160, 0, 7, 4, 167, 0, 4]
abbrev dktX0_check_1 : List UInt8 := dkwX0_check_1 ++ dktX0_check_2
def dkwX0_check_0 : List UInt8 := [27, 3, 4, 184, 0, 20, 154, 0, 5, 2, 172, 42, 182, 3, 247, 27, 154, 0, 18, 42, 182, 4, 237]
abbrev dktX0_check_0 : List UInt8 := dkwX0_check_0 ++ dktX0_check_1
theorem dksX0_check_0 : cX0_check.data.toList.drop 0 = dktX0_check_0 := by decide +kernel
theorem dksX0_check_1 : cX0_check.data.toList.drop 23 = dktX0_check_1 := dk_seg dksX0_check_0 23 rfl rfl
theorem dksX0_check_2 : cX0_check.data.toList.drop 47 = dktX0_check_2 := dk_seg dksX0_check_1 24 rfl rfl
theorem dX0_check_0 : decode cX0_check 0 = .ok (.iload_n 1, 1) := dk_27 (dk_at dksX0_check_0 0 rfl rfl)
theorem dX0_check_1 : decode cX0_check 1 = .ok (.iconst 0, 1) := dk_3 (dk_at dksX0_check_0 1 rfl rfl)
theorem dX0_check_2 : decode cX0_check 2 = .ok (.iconst 1, 1) := dk_4 (dk_at dksX0_check_0 2 rfl rfl)
theorem dX0_check_3 : decode cX0_check 3 = .ok (.invokestatic 20, 3) := dk_184 0 20 (dk_at dksX0_check_0 3 rfl rfl)
theorem dX0_check_6 : decode cX0_check 6 = .ok (.ifCond .ne 5, 3) := dk_154 0 5 (dk_at dksX0_check_0 6 rfl rfl)
theorem dX0_check_9 : decode cX0_check 9 = .ok (.iconst (-1), 1) := dk_2 (dk_at dksX0_check_0 9 rfl rfl)
theorem dX0_check_10 : decode cX0_check 10 = .ok (.ireturn, 1) := dk_172 (dk_at dksX0_check_0 10 rfl rfl)
theorem dX0_check_11 : decode cX0_check 11 = .ok (.aload_n 0, 1) := dk_42 (dk_at dksX0_check_0 11 rfl rfl)
theorem dX0_check_12 : decode cX0_check 12 = .ok (.invokevirtual 1015, 3) := dk_182 3 247 (dk_at dksX0_check_0 12 rfl rfl)
theorem dX0_check_15 : decode cX0_check 15 = .ok (.iload_n 1, 1) := dk_27 (dk_at dksX0_check_0 15 rfl rfl)
theorem dX0_check_16 : decode cX0_check 16 = .ok (.ifCond .ne 18, 3) := dk_154 0 18 (dk_at dksX0_check_0 16 rfl rfl)
theorem dX0_check_19 : decode cX0_check 19 = .ok (.aload_n 0, 1) := dk_42 (dk_at dksX0_check_0 19 rfl rfl)
theorem dX0_check_20 : decode cX0_check 20 = .ok (.invokevirtual 1261, 3) := dk_182 4 237 (dk_at dksX0_check_0 20 rfl rfl)
theorem dX0_check_23 : decode cX0_check 23 = .ok (.ifCond .eq 7, 3) := dk_153 0 7 (dk_at dksX0_check_1 0 rfl rfl)
theorem dX0_check_26 : decode cX0_check 26 = .ok (.iconst 1, 1) := dk_4 (dk_at dksX0_check_1 3 rfl rfl)
theorem dX0_check_27 : decode cX0_check 27 = .ok (.goto 21, 3) := dk_167 0 21 (dk_at dksX0_check_1 4 rfl rfl)
theorem dX0_check_30 : decode cX0_check 30 = .ok (.iconst 0, 1) := dk_3 (dk_at dksX0_check_1 7 rfl rfl)
theorem dX0_check_31 : decode cX0_check 31 = .ok (.goto 17, 3) := dk_167 0 17 (dk_at dksX0_check_1 8 rfl rfl)
theorem dX0_check_34 : decode cX0_check 34 = .ok (.aload_n 0, 1) := dk_42 (dk_at dksX0_check_1 11 rfl rfl)
theorem dX0_check_35 : decode cX0_check 35 = .ok (.invokevirtual 1264, 3) := dk_182 4 240 (dk_at dksX0_check_1 12 rfl rfl)
theorem dX0_check_38 : decode cX0_check 38 = .ok (.bipush (-2), 2) := dk_16 254 (dk_at dksX0_check_1 15 rfl rfl)
theorem dX0_check_40 : decode cX0_check 40 = .ok (.if_icmp .ne 7, 3) := dk_160 0 7 (dk_at dksX0_check_1 17 rfl rfl)
theorem dX0_check_43 : decode cX0_check 43 = .ok (.iconst 1, 1) := dk_4 (dk_at dksX0_check_1 20 rfl rfl)
theorem dX0_check_44 : decode cX0_check 44 = .ok (.goto 4, 3) := dk_167 0 4 (dk_at dksX0_check_1 21 rfl rfl)
theorem dX0_check_47 : decode cX0_check 47 = .ok (.iconst 0, 1) := dk_3 (dk_at dksX0_check_2 0 rfl rfl)
theorem dX0_check_48 : decode cX0_check 48 = .ok (.ireturn, 1) := dk_172 (dk_at dksX0_check_2 1 rfl rfl)
abbrev cX0_allOneLeast : ByteArray := prog_1_method_201_code
def yX0_allOneLeast : MethodName := ⟨RX0, "allOneLeast", "()Z"⟩
def dkwX0_allOneLeast_1 : List UInt8 := [167, 255, 235, 4, 172]
abbrev dktX0_allOneLeast_1 : List UInt8 := dkwX0_allOneLeast_1 ++ []
def dkwX0_allOneLeast_0 : List UInt8 := [3, 60, 27, 42, 180, 0, 166, 162, 0, 19, 42, 27, 182, 4, 201, 154, 0, 5, 3, 172, 132, 1, 1]
abbrev dktX0_allOneLeast_0 : List UInt8 := dkwX0_allOneLeast_0 ++ dktX0_allOneLeast_1
theorem dksX0_allOneLeast_0 : cX0_allOneLeast.data.toList.drop 0 = dktX0_allOneLeast_0 := by decide +kernel
theorem dksX0_allOneLeast_1 : cX0_allOneLeast.data.toList.drop 23 = dktX0_allOneLeast_1 := dk_seg dksX0_allOneLeast_0 23 rfl rfl
theorem dX0_allOneLeast_0 : decode cX0_allOneLeast 0 = .ok (.iconst 0, 1) := dk_3 (dk_at dksX0_allOneLeast_0 0 rfl rfl)
theorem dX0_allOneLeast_1 : decode cX0_allOneLeast 1 = .ok (.istore_n 1, 1) := dk_60 (dk_at dksX0_allOneLeast_0 1 rfl rfl)
theorem dX0_allOneLeast_2 : decode cX0_allOneLeast 2 = .ok (.iload_n 1, 1) := dk_27 (dk_at dksX0_allOneLeast_0 2 rfl rfl)
theorem dX0_allOneLeast_3 : decode cX0_allOneLeast 3 = .ok (.aload_n 0, 1) := dk_42 (dk_at dksX0_allOneLeast_0 3 rfl rfl)
theorem dX0_allOneLeast_4 : decode cX0_allOneLeast 4 = .ok (.getfield 166, 3) := dk_180 0 166 (dk_at dksX0_allOneLeast_0 4 rfl rfl)
theorem dX0_allOneLeast_7 : decode cX0_allOneLeast 7 = .ok (.if_icmp .ge 19, 3) := dk_162 0 19 (dk_at dksX0_allOneLeast_0 7 rfl rfl)
theorem dX0_allOneLeast_10 : decode cX0_allOneLeast 10 = .ok (.aload_n 0, 1) := dk_42 (dk_at dksX0_allOneLeast_0 10 rfl rfl)
theorem dX0_allOneLeast_11 : decode cX0_allOneLeast 11 = .ok (.iload_n 1, 1) := dk_27 (dk_at dksX0_allOneLeast_0 11 rfl rfl)
theorem dX0_allOneLeast_12 : decode cX0_allOneLeast 12 = .ok (.invokevirtual 1225, 3) := dk_182 4 201 (dk_at dksX0_allOneLeast_0 12 rfl rfl)
theorem dX0_allOneLeast_15 : decode cX0_allOneLeast 15 = .ok (.ifCond .ne 5, 3) := dk_154 0 5 (dk_at dksX0_allOneLeast_0 15 rfl rfl)
theorem dX0_allOneLeast_18 : decode cX0_allOneLeast 18 = .ok (.iconst 0, 1) := dk_3 (dk_at dksX0_allOneLeast_0 18 rfl rfl)
theorem dX0_allOneLeast_19 : decode cX0_allOneLeast 19 = .ok (.ireturn, 1) := dk_172 (dk_at dksX0_allOneLeast_0 19 rfl rfl)
theorem dX0_allOneLeast_20 : decode cX0_allOneLeast 20 = .ok (.iinc 1 1, 3) := dk_132 1 1 (dk_at dksX0_allOneLeast_0 20 rfl rfl)
theorem dX0_allOneLeast_23 : decode cX0_allOneLeast 23 = .ok (.goto (-21), 3) := dk_167 255 235 (dk_at dksX0_allOneLeast_1 0 rfl rfl)
theorem dX0_allOneLeast_26 : decode cX0_allOneLeast 26 = .ok (.iconst 1, 1) := dk_4 (dk_at dksX0_allOneLeast_1 3 rfl rfl)
theorem dX0_allOneLeast_27 : decode cX0_allOneLeast 27 = .ok (.ireturn, 1) := dk_172 (dk_at dksX0_allOneLeast_1 4 rfl rfl)
abbrev cX0_isOneLeast : ByteArray := prog_1_method_196_code
def yX0_isOneLeast : MethodName := ⟨RX0, "isOneLeast", "(I)Z"⟩
def dkwX0_isOneLeast_11 : List UInt8 := [27, 51, 153, 0, 11, 42, 27, 182, 4, 195, 153, 0, 7, 4, 167, 0, 4, 3, 172]
abbrev dktX0_isOneLeast_11 : List UInt8 := dkwX0_isOneLeast_11 ++ []
def dkwX0_isOneLeast_10 : List UInt8 := [46, 42, 180, 1, 145, 42, 180, 2, 112, 21, 5, 46, 46, 182, 4, 183, 79, 167, 255, 66, 42, 180, 1, 229]
abbrev dktX0_isOneLeast_10 : List UInt8 := dkwX0_isOneLeast_10 ++ dktX0_isOneLeast_11
def dkwX0_isOneLeast_9 : List UInt8 := [167, 0, 4, 3, 54, 4, 21, 4, 153, 0, 33, 42, 180, 2, 112, 21, 5, 42, 42, 180, 2, 112, 21, 5]
abbrev dktX0_isOneLeast_9 : List UInt8 := dkwX0_isOneLeast_9 ++ dktX0_isOneLeast_10
def dkwX0_isOneLeast_8 : List UInt8 := [180, 2, 112, 21, 5, 46, 46, 182, 4, 183, 79, 132, 5, 255, 167, 255, 195, 21, 5, 155, 0, 7, 4]
abbrev dktX0_isOneLeast_8 : List UInt8 := dkwX0_isOneLeast_8 ++ dktX0_isOneLeast_9
def dkwX0_isOneLeast_7 : List UInt8 := [182, 4, 183, 16, 254, 160, 0, 34, 42, 180, 2, 112, 21, 5, 42, 16, 254, 42, 180, 1, 145, 42]
abbrev dktX0_isOneLeast_7 : List UInt8 := dkwX0_isOneLeast_7 ++ dktX0_isOneLeast_8
def dkwX0_isOneLeast_6 : List UInt8 := [155, 0, 62, 42, 42, 180, 2, 112, 21, 5, 46, 42, 180, 1, 145, 42, 180, 2, 112, 21, 5, 46, 46]
abbrev dktX0_isOneLeast_6 : List UInt8 := dkwX0_isOneLeast_6 ++ dktX0_isOneLeast_7
def dkwX0_isOneLeast_5 : List UInt8 := [46, 79, 132, 5, 1, 167, 255, 231, 42, 29, 181, 4, 192, 3, 172, 29, 4, 100, 54, 5, 21, 5]
abbrev dktX0_isOneLeast_5 : List UInt8 := dkwX0_isOneLeast_5 ++ dktX0_isOneLeast_6
def dkwX0_isOneLeast_4 : List UInt8 := [79, 3, 54, 5, 21, 5, 29, 162, 0, 25, 42, 180, 4, 189, 4, 21, 5, 96, 42, 180, 2, 112, 21, 5]
abbrev dktX0_isOneLeast_4 : List UInt8 := dkwX0_isOneLeast_4 ++ dktX0_isOneLeast_5
def dkwX0_isOneLeast_3 : List UInt8 := [153, 0, 63, 42, 27, 42, 180, 2, 112, 29, 182, 2, 115, 16, 254, 160, 0, 48, 42, 180, 4, 189, 3, 27]
abbrev dktX0_isOneLeast_3 : List UInt8 := dkwX0_isOneLeast_3 ++ dktX0_isOneLeast_4
def dkwX0_isOneLeast_2 : List UInt8 := [182, 4, 183, 79, 132, 4, 1, 167, 255, 218, 4, 54, 4, 21, 4, 153, 0, 191, 42, 27, 29, 182, 4, 186]
abbrev dktX0_isOneLeast_2 : List UInt8 := dkwX0_isOneLeast_2 ++ dktX0_isOneLeast_3
def dkwX0_isOneLeast_1 : List UInt8 := [180, 2, 112, 21, 4, 42, 16, 254, 42, 180, 1, 145, 42, 180, 1, 189, 6, 28, 104, 21, 4, 96, 46, 46]
abbrev dktX0_isOneLeast_1 : List UInt8 := dkwX0_isOneLeast_1 ++ dktX0_isOneLeast_2
def dkwX0_isOneLeast_0 : List UInt8 := [42, 180, 1, 204, 27, 46, 61, 42, 180, 1, 220, 27, 46, 62, 3, 54, 4, 21, 4, 29, 162, 0, 38, 42]
abbrev dktX0_isOneLeast_0 : List UInt8 := dkwX0_isOneLeast_0 ++ dktX0_isOneLeast_1
theorem dksX0_isOneLeast_0 : cX0_isOneLeast.data.toList.drop 0 = dktX0_isOneLeast_0 := by decide +kernel
theorem dksX0_isOneLeast_1 : cX0_isOneLeast.data.toList.drop 24 = dktX0_isOneLeast_1 := dk_seg dksX0_isOneLeast_0 24 rfl rfl
theorem dksX0_isOneLeast_2 : cX0_isOneLeast.data.toList.drop 48 = dktX0_isOneLeast_2 := dk_seg dksX0_isOneLeast_1 24 rfl rfl
theorem dksX0_isOneLeast_3 : cX0_isOneLeast.data.toList.drop 72 = dktX0_isOneLeast_3 := dk_seg dksX0_isOneLeast_2 24 rfl rfl
theorem dksX0_isOneLeast_4 : cX0_isOneLeast.data.toList.drop 96 = dktX0_isOneLeast_4 := dk_seg dksX0_isOneLeast_3 24 rfl rfl
theorem dksX0_isOneLeast_5 : cX0_isOneLeast.data.toList.drop 120 = dktX0_isOneLeast_5 := dk_seg dksX0_isOneLeast_4 24 rfl rfl
theorem dksX0_isOneLeast_6 : cX0_isOneLeast.data.toList.drop 142 = dktX0_isOneLeast_6 := dk_seg dksX0_isOneLeast_5 22 rfl rfl
theorem dksX0_isOneLeast_7 : cX0_isOneLeast.data.toList.drop 165 = dktX0_isOneLeast_7 := dk_seg dksX0_isOneLeast_6 23 rfl rfl
theorem dksX0_isOneLeast_8 : cX0_isOneLeast.data.toList.drop 187 = dktX0_isOneLeast_8 := dk_seg dksX0_isOneLeast_7 22 rfl rfl
theorem dksX0_isOneLeast_9 : cX0_isOneLeast.data.toList.drop 210 = dktX0_isOneLeast_9 := dk_seg dksX0_isOneLeast_8 23 rfl rfl
theorem dksX0_isOneLeast_10 : cX0_isOneLeast.data.toList.drop 234 = dktX0_isOneLeast_10 := dk_seg dksX0_isOneLeast_9 24 rfl rfl
theorem dksX0_isOneLeast_11 : cX0_isOneLeast.data.toList.drop 258 = dktX0_isOneLeast_11 := dk_seg dksX0_isOneLeast_10 24 rfl rfl
theorem dX0_isOneLeast_0 : decode cX0_isOneLeast 0 = .ok (.aload_n 0, 1) := dk_42 (dk_at dksX0_isOneLeast_0 0 rfl rfl)
theorem dX0_isOneLeast_1 : decode cX0_isOneLeast 1 = .ok (.getfield 460, 3) := dk_180 1 204 (dk_at dksX0_isOneLeast_0 1 rfl rfl)
theorem dX0_isOneLeast_4 : decode cX0_isOneLeast 4 = .ok (.iload_n 1, 1) := dk_27 (dk_at dksX0_isOneLeast_0 4 rfl rfl)
theorem dX0_isOneLeast_5 : decode cX0_isOneLeast 5 = .ok (.iaload, 1) := dk_46 (dk_at dksX0_isOneLeast_0 5 rfl rfl)
theorem dX0_isOneLeast_6 : decode cX0_isOneLeast 6 = .ok (.istore_n 2, 1) := dk_61 (dk_at dksX0_isOneLeast_0 6 rfl rfl)
theorem dX0_isOneLeast_7 : decode cX0_isOneLeast 7 = .ok (.aload_n 0, 1) := dk_42 (dk_at dksX0_isOneLeast_0 7 rfl rfl)
theorem dX0_isOneLeast_8 : decode cX0_isOneLeast 8 = .ok (.getfield 476, 3) := dk_180 1 220 (dk_at dksX0_isOneLeast_0 8 rfl rfl)
theorem dX0_isOneLeast_11 : decode cX0_isOneLeast 11 = .ok (.iload_n 1, 1) := dk_27 (dk_at dksX0_isOneLeast_0 11 rfl rfl)
theorem dX0_isOneLeast_12 : decode cX0_isOneLeast 12 = .ok (.iaload, 1) := dk_46 (dk_at dksX0_isOneLeast_0 12 rfl rfl)
theorem dX0_isOneLeast_13 : decode cX0_isOneLeast 13 = .ok (.istore_n 3, 1) := dk_62 (dk_at dksX0_isOneLeast_0 13 rfl rfl)
theorem dX0_isOneLeast_14 : decode cX0_isOneLeast 14 = .ok (.iconst 0, 1) := dk_3 (dk_at dksX0_isOneLeast_0 14 rfl rfl)
theorem dX0_isOneLeast_15 : decode cX0_isOneLeast 15 = .ok (.istore 4, 2) := dk_54 4 (dk_at dksX0_isOneLeast_0 15 rfl rfl)
theorem dX0_isOneLeast_17 : decode cX0_isOneLeast 17 = .ok (.iload 4, 2) := dk_21 4 (dk_at dksX0_isOneLeast_0 17 rfl rfl)
theorem dX0_isOneLeast_19 : decode cX0_isOneLeast 19 = .ok (.iload_n 3, 1) := dk_29 (dk_at dksX0_isOneLeast_0 19 rfl rfl)
theorem dX0_isOneLeast_20 : decode cX0_isOneLeast 20 = .ok (.if_icmp .ge 38, 3) := dk_162 0 38 (dk_at dksX0_isOneLeast_0 20 rfl rfl)
theorem dX0_isOneLeast_23 : decode cX0_isOneLeast 23 = .ok (.aload_n 0, 1) := dk_42 (dk_at dksX0_isOneLeast_0 23 rfl rfl)
theorem dX0_isOneLeast_24 : decode cX0_isOneLeast 24 = .ok (.getfield 624, 3) := dk_180 2 112 (dk_at dksX0_isOneLeast_1 0 rfl rfl)
theorem dX0_isOneLeast_27 : decode cX0_isOneLeast 27 = .ok (.iload 4, 2) := dk_21 4 (dk_at dksX0_isOneLeast_1 3 rfl rfl)
theorem dX0_isOneLeast_29 : decode cX0_isOneLeast 29 = .ok (.aload_n 0, 1) := dk_42 (dk_at dksX0_isOneLeast_1 5 rfl rfl)
theorem dX0_isOneLeast_30 : decode cX0_isOneLeast 30 = .ok (.bipush (-2), 2) := dk_16 254 (dk_at dksX0_isOneLeast_1 6 rfl rfl)
theorem dX0_isOneLeast_32 : decode cX0_isOneLeast 32 = .ok (.aload_n 0, 1) := dk_42 (dk_at dksX0_isOneLeast_1 8 rfl rfl)
theorem dX0_isOneLeast_33 : decode cX0_isOneLeast 33 = .ok (.getfield 401, 3) := dk_180 1 145 (dk_at dksX0_isOneLeast_1 9 rfl rfl)
theorem dX0_isOneLeast_36 : decode cX0_isOneLeast 36 = .ok (.aload_n 0, 1) := dk_42 (dk_at dksX0_isOneLeast_1 12 rfl rfl)
theorem dX0_isOneLeast_37 : decode cX0_isOneLeast 37 = .ok (.getfield 445, 3) := dk_180 1 189 (dk_at dksX0_isOneLeast_1 13 rfl rfl)
theorem dX0_isOneLeast_40 : decode cX0_isOneLeast 40 = .ok (.iconst 3, 1) := dk_6 (dk_at dksX0_isOneLeast_1 16 rfl rfl)
theorem dX0_isOneLeast_41 : decode cX0_isOneLeast 41 = .ok (.iload_n 2, 1) := dk_28 (dk_at dksX0_isOneLeast_1 17 rfl rfl)
theorem dX0_isOneLeast_42 : decode cX0_isOneLeast 42 = .ok (.imul, 1) := dk_104 (dk_at dksX0_isOneLeast_1 18 rfl rfl)
theorem dX0_isOneLeast_43 : decode cX0_isOneLeast 43 = .ok (.iload 4, 2) := dk_21 4 (dk_at dksX0_isOneLeast_1 19 rfl rfl)
theorem dX0_isOneLeast_45 : decode cX0_isOneLeast 45 = .ok (.iadd, 1) := dk_96 (dk_at dksX0_isOneLeast_1 21 rfl rfl)
theorem dX0_isOneLeast_46 : decode cX0_isOneLeast 46 = .ok (.iaload, 1) := dk_46 (dk_at dksX0_isOneLeast_1 22 rfl rfl)
theorem dX0_isOneLeast_47 : decode cX0_isOneLeast 47 = .ok (.iaload, 1) := dk_46 (dk_at dksX0_isOneLeast_1 23 rfl rfl)
theorem dX0_isOneLeast_48 : decode cX0_isOneLeast 48 = .ok (.invokevirtual 1207, 3) := dk_182 4 183 (dk_at dksX0_isOneLeast_2 0 rfl rfl)
theorem dX0_isOneLeast_51 : decode cX0_isOneLeast 51 = .ok (.iastore, 1) := dk_79 (dk_at dksX0_isOneLeast_2 3 rfl rfl)
theorem dX0_isOneLeast_52 : decode cX0_isOneLeast 52 = .ok (.iinc 4 1, 3) := dk_132 4 1 (dk_at dksX0_isOneLeast_2 4 rfl rfl)
theorem dX0_isOneLeast_55 : decode cX0_isOneLeast 55 = .ok (.goto (-38), 3) := dk_167 255 218 (dk_at dksX0_isOneLeast_2 7 rfl rfl)
theorem dX0_isOneLeast_58 : decode cX0_isOneLeast 58 = .ok (.iconst 1, 1) := dk_4 (dk_at dksX0_isOneLeast_2 10 rfl rfl)
theorem dX0_isOneLeast_59 : decode cX0_isOneLeast 59 = .ok (.istore 4, 2) := dk_54 4 (dk_at dksX0_isOneLeast_2 11 rfl rfl)
theorem dX0_isOneLeast_61 : decode cX0_isOneLeast 61 = .ok (.iload 4, 2) := dk_21 4 (dk_at dksX0_isOneLeast_2 13 rfl rfl)
theorem dX0_isOneLeast_63 : decode cX0_isOneLeast 63 = .ok (.ifCond .eq 191, 3) := dk_153 0 191 (dk_at dksX0_isOneLeast_2 15 rfl rfl)
theorem dX0_isOneLeast_66 : decode cX0_isOneLeast 66 = .ok (.aload_n 0, 1) := dk_42 (dk_at dksX0_isOneLeast_2 18 rfl rfl)
theorem dX0_isOneLeast_67 : decode cX0_isOneLeast 67 = .ok (.iload_n 1, 1) := dk_27 (dk_at dksX0_isOneLeast_2 19 rfl rfl)
theorem dX0_isOneLeast_68 : decode cX0_isOneLeast 68 = .ok (.iload_n 3, 1) := dk_29 (dk_at dksX0_isOneLeast_2 20 rfl rfl)
theorem dX0_isOneLeast_69 : decode cX0_isOneLeast 69 = .ok (.invokevirtual 1210, 3) := dk_182 4 186 (dk_at dksX0_isOneLeast_2 21 rfl rfl)
theorem dX0_isOneLeast_72 : decode cX0_isOneLeast 72 = .ok (.ifCond .eq 63, 3) := dk_153 0 63 (dk_at dksX0_isOneLeast_3 0 rfl rfl)
theorem dX0_isOneLeast_75 : decode cX0_isOneLeast 75 = .ok (.aload_n 0, 1) := dk_42 (dk_at dksX0_isOneLeast_3 3 rfl rfl)
theorem dX0_isOneLeast_76 : decode cX0_isOneLeast 76 = .ok (.iload_n 1, 1) := dk_27 (dk_at dksX0_isOneLeast_3 4 rfl rfl)
theorem dX0_isOneLeast_77 : decode cX0_isOneLeast 77 = .ok (.aload_n 0, 1) := dk_42 (dk_at dksX0_isOneLeast_3 5 rfl rfl)
theorem dX0_isOneLeast_78 : decode cX0_isOneLeast 78 = .ok (.getfield 624, 3) := dk_180 2 112 (dk_at dksX0_isOneLeast_3 6 rfl rfl)
theorem dX0_isOneLeast_81 : decode cX0_isOneLeast 81 = .ok (.iload_n 3, 1) := dk_29 (dk_at dksX0_isOneLeast_3 9 rfl rfl)
theorem dX0_isOneLeast_82 : decode cX0_isOneLeast 82 = .ok (.invokevirtual 627, 3) := dk_182 2 115 (dk_at dksX0_isOneLeast_3 10 rfl rfl)
theorem dX0_isOneLeast_85 : decode cX0_isOneLeast 85 = .ok (.bipush (-2), 2) := dk_16 254 (dk_at dksX0_isOneLeast_3 13 rfl rfl)
theorem dX0_isOneLeast_87 : decode cX0_isOneLeast 87 = .ok (.if_icmp .ne 48, 3) := dk_160 0 48 (dk_at dksX0_isOneLeast_3 15 rfl rfl)
theorem dX0_isOneLeast_90 : decode cX0_isOneLeast 90 = .ok (.aload_n 0, 1) := dk_42 (dk_at dksX0_isOneLeast_3 18 rfl rfl)
theorem dX0_isOneLeast_91 : decode cX0_isOneLeast 91 = .ok (.getfield 1213, 3) := dk_180 4 189 (dk_at dksX0_isOneLeast_3 19 rfl rfl)
theorem dX0_isOneLeast_94 : decode cX0_isOneLeast 94 = .ok (.iconst 0, 1) := dk_3 (dk_at dksX0_isOneLeast_3 22 rfl rfl)
theorem dX0_isOneLeast_95 : decode cX0_isOneLeast 95 = .ok (.iload_n 1, 1) := dk_27 (dk_at dksX0_isOneLeast_3 23 rfl rfl)
theorem dX0_isOneLeast_96 : decode cX0_isOneLeast 96 = .ok (.iastore, 1) := dk_79 (dk_at dksX0_isOneLeast_4 0 rfl rfl)
theorem dX0_isOneLeast_97 : decode cX0_isOneLeast 97 = .ok (.iconst 0, 1) := dk_3 (dk_at dksX0_isOneLeast_4 1 rfl rfl)
theorem dX0_isOneLeast_98 : decode cX0_isOneLeast 98 = .ok (.istore 5, 2) := dk_54 5 (dk_at dksX0_isOneLeast_4 2 rfl rfl)
theorem dX0_isOneLeast_100 : decode cX0_isOneLeast 100 = .ok (.iload 5, 2) := dk_21 5 (dk_at dksX0_isOneLeast_4 4 rfl rfl)
theorem dX0_isOneLeast_102 : decode cX0_isOneLeast 102 = .ok (.iload_n 3, 1) := dk_29 (dk_at dksX0_isOneLeast_4 6 rfl rfl)
theorem dX0_isOneLeast_103 : decode cX0_isOneLeast 103 = .ok (.if_icmp .ge 25, 3) := dk_162 0 25 (dk_at dksX0_isOneLeast_4 7 rfl rfl)
theorem dX0_isOneLeast_106 : decode cX0_isOneLeast 106 = .ok (.aload_n 0, 1) := dk_42 (dk_at dksX0_isOneLeast_4 10 rfl rfl)
theorem dX0_isOneLeast_107 : decode cX0_isOneLeast 107 = .ok (.getfield 1213, 3) := dk_180 4 189 (dk_at dksX0_isOneLeast_4 11 rfl rfl)
theorem dX0_isOneLeast_110 : decode cX0_isOneLeast 110 = .ok (.iconst 1, 1) := dk_4 (dk_at dksX0_isOneLeast_4 14 rfl rfl)
theorem dX0_isOneLeast_111 : decode cX0_isOneLeast 111 = .ok (.iload 5, 2) := dk_21 5 (dk_at dksX0_isOneLeast_4 15 rfl rfl)
theorem dX0_isOneLeast_113 : decode cX0_isOneLeast 113 = .ok (.iadd, 1) := dk_96 (dk_at dksX0_isOneLeast_4 17 rfl rfl)
theorem dX0_isOneLeast_114 : decode cX0_isOneLeast 114 = .ok (.aload_n 0, 1) := dk_42 (dk_at dksX0_isOneLeast_4 18 rfl rfl)
theorem dX0_isOneLeast_115 : decode cX0_isOneLeast 115 = .ok (.getfield 624, 3) := dk_180 2 112 (dk_at dksX0_isOneLeast_4 19 rfl rfl)
theorem dX0_isOneLeast_118 : decode cX0_isOneLeast 118 = .ok (.iload 5, 2) := dk_21 5 (dk_at dksX0_isOneLeast_4 22 rfl rfl)
theorem dX0_isOneLeast_120 : decode cX0_isOneLeast 120 = .ok (.iaload, 1) := dk_46 (dk_at dksX0_isOneLeast_5 0 rfl rfl)
theorem dX0_isOneLeast_121 : decode cX0_isOneLeast 121 = .ok (.iastore, 1) := dk_79 (dk_at dksX0_isOneLeast_5 1 rfl rfl)
theorem dX0_isOneLeast_122 : decode cX0_isOneLeast 122 = .ok (.iinc 5 1, 3) := dk_132 5 1 (dk_at dksX0_isOneLeast_5 2 rfl rfl)
theorem dX0_isOneLeast_125 : decode cX0_isOneLeast 125 = .ok (.goto (-25), 3) := dk_167 255 231 (dk_at dksX0_isOneLeast_5 5 rfl rfl)
theorem dX0_isOneLeast_128 : decode cX0_isOneLeast 128 = .ok (.aload_n 0, 1) := dk_42 (dk_at dksX0_isOneLeast_5 8 rfl rfl)
theorem dX0_isOneLeast_129 : decode cX0_isOneLeast 129 = .ok (.iload_n 3, 1) := dk_29 (dk_at dksX0_isOneLeast_5 9 rfl rfl)
theorem dX0_isOneLeast_130 : decode cX0_isOneLeast 130 = .ok (.putfield 1216, 3) := dk_181 4 192 (dk_at dksX0_isOneLeast_5 10 rfl rfl)
theorem dX0_isOneLeast_133 : decode cX0_isOneLeast 133 = .ok (.iconst 0, 1) := dk_3 (dk_at dksX0_isOneLeast_5 13 rfl rfl)
theorem dX0_isOneLeast_134 : decode cX0_isOneLeast 134 = .ok (.ireturn, 1) := dk_172 (dk_at dksX0_isOneLeast_5 14 rfl rfl)
theorem dX0_isOneLeast_135 : decode cX0_isOneLeast 135 = .ok (.iload_n 3, 1) := dk_29 (dk_at dksX0_isOneLeast_5 15 rfl rfl)
theorem dX0_isOneLeast_136 : decode cX0_isOneLeast 136 = .ok (.iconst 1, 1) := dk_4 (dk_at dksX0_isOneLeast_5 16 rfl rfl)
theorem dX0_isOneLeast_137 : decode cX0_isOneLeast 137 = .ok (.isub, 1) := dk_100 (dk_at dksX0_isOneLeast_5 17 rfl rfl)
theorem dX0_isOneLeast_138 : decode cX0_isOneLeast 138 = .ok (.istore 5, 2) := dk_54 5 (dk_at dksX0_isOneLeast_5 18 rfl rfl)
theorem dX0_isOneLeast_140 : decode cX0_isOneLeast 140 = .ok (.iload 5, 2) := dk_21 5 (dk_at dksX0_isOneLeast_5 20 rfl rfl)
theorem dX0_isOneLeast_142 : decode cX0_isOneLeast 142 = .ok (.ifCond .lt 62, 3) := dk_155 0 62 (dk_at dksX0_isOneLeast_6 0 rfl rfl)
theorem dX0_isOneLeast_145 : decode cX0_isOneLeast 145 = .ok (.aload_n 0, 1) := dk_42 (dk_at dksX0_isOneLeast_6 3 rfl rfl)
theorem dX0_isOneLeast_146 : decode cX0_isOneLeast 146 = .ok (.aload_n 0, 1) := dk_42 (dk_at dksX0_isOneLeast_6 4 rfl rfl)
theorem dX0_isOneLeast_147 : decode cX0_isOneLeast 147 = .ok (.getfield 624, 3) := dk_180 2 112 (dk_at dksX0_isOneLeast_6 5 rfl rfl)
theorem dX0_isOneLeast_150 : decode cX0_isOneLeast 150 = .ok (.iload 5, 2) := dk_21 5 (dk_at dksX0_isOneLeast_6 8 rfl rfl)
theorem dX0_isOneLeast_152 : decode cX0_isOneLeast 152 = .ok (.iaload, 1) := dk_46 (dk_at dksX0_isOneLeast_6 10 rfl rfl)
theorem dX0_isOneLeast_153 : decode cX0_isOneLeast 153 = .ok (.aload_n 0, 1) := dk_42 (dk_at dksX0_isOneLeast_6 11 rfl rfl)
theorem dX0_isOneLeast_154 : decode cX0_isOneLeast 154 = .ok (.getfield 401, 3) := dk_180 1 145 (dk_at dksX0_isOneLeast_6 12 rfl rfl)
theorem dX0_isOneLeast_157 : decode cX0_isOneLeast 157 = .ok (.aload_n 0, 1) := dk_42 (dk_at dksX0_isOneLeast_6 15 rfl rfl)
theorem dX0_isOneLeast_158 : decode cX0_isOneLeast 158 = .ok (.getfield 624, 3) := dk_180 2 112 (dk_at dksX0_isOneLeast_6 16 rfl rfl)
theorem dX0_isOneLeast_161 : decode cX0_isOneLeast 161 = .ok (.iload 5, 2) := dk_21 5 (dk_at dksX0_isOneLeast_6 19 rfl rfl)
theorem dX0_isOneLeast_163 : decode cX0_isOneLeast 163 = .ok (.iaload, 1) := dk_46 (dk_at dksX0_isOneLeast_6 21 rfl rfl)
theorem dX0_isOneLeast_164 : decode cX0_isOneLeast 164 = .ok (.iaload, 1) := dk_46 (dk_at dksX0_isOneLeast_6 22 rfl rfl)
theorem dX0_isOneLeast_165 : decode cX0_isOneLeast 165 = .ok (.invokevirtual 1207, 3) := dk_182 4 183 (dk_at dksX0_isOneLeast_7 0 rfl rfl)
theorem dX0_isOneLeast_168 : decode cX0_isOneLeast 168 = .ok (.bipush (-2), 2) := dk_16 254 (dk_at dksX0_isOneLeast_7 3 rfl rfl)
theorem dX0_isOneLeast_170 : decode cX0_isOneLeast 170 = .ok (.if_icmp .ne 34, 3) := dk_160 0 34 (dk_at dksX0_isOneLeast_7 5 rfl rfl)
theorem dX0_isOneLeast_173 : decode cX0_isOneLeast 173 = .ok (.aload_n 0, 1) := dk_42 (dk_at dksX0_isOneLeast_7 8 rfl rfl)
theorem dX0_isOneLeast_174 : decode cX0_isOneLeast 174 = .ok (.getfield 624, 3) := dk_180 2 112 (dk_at dksX0_isOneLeast_7 9 rfl rfl)
theorem dX0_isOneLeast_177 : decode cX0_isOneLeast 177 = .ok (.iload 5, 2) := dk_21 5 (dk_at dksX0_isOneLeast_7 12 rfl rfl)
theorem dX0_isOneLeast_179 : decode cX0_isOneLeast 179 = .ok (.aload_n 0, 1) := dk_42 (dk_at dksX0_isOneLeast_7 14 rfl rfl)
theorem dX0_isOneLeast_180 : decode cX0_isOneLeast 180 = .ok (.bipush (-2), 2) := dk_16 254 (dk_at dksX0_isOneLeast_7 15 rfl rfl)
theorem dX0_isOneLeast_182 : decode cX0_isOneLeast 182 = .ok (.aload_n 0, 1) := dk_42 (dk_at dksX0_isOneLeast_7 17 rfl rfl)
theorem dX0_isOneLeast_183 : decode cX0_isOneLeast 183 = .ok (.getfield 401, 3) := dk_180 1 145 (dk_at dksX0_isOneLeast_7 18 rfl rfl)
theorem dX0_isOneLeast_186 : decode cX0_isOneLeast 186 = .ok (.aload_n 0, 1) := dk_42 (dk_at dksX0_isOneLeast_7 21 rfl rfl)
theorem dX0_isOneLeast_187 : decode cX0_isOneLeast 187 = .ok (.getfield 624, 3) := dk_180 2 112 (dk_at dksX0_isOneLeast_8 0 rfl rfl)
theorem dX0_isOneLeast_190 : decode cX0_isOneLeast 190 = .ok (.iload 5, 2) := dk_21 5 (dk_at dksX0_isOneLeast_8 3 rfl rfl)
theorem dX0_isOneLeast_192 : decode cX0_isOneLeast 192 = .ok (.iaload, 1) := dk_46 (dk_at dksX0_isOneLeast_8 5 rfl rfl)
theorem dX0_isOneLeast_193 : decode cX0_isOneLeast 193 = .ok (.iaload, 1) := dk_46 (dk_at dksX0_isOneLeast_8 6 rfl rfl)
theorem dX0_isOneLeast_194 : decode cX0_isOneLeast 194 = .ok (.invokevirtual 1207, 3) := dk_182 4 183 (dk_at dksX0_isOneLeast_8 7 rfl rfl)
theorem dX0_isOneLeast_197 : decode cX0_isOneLeast 197 = .ok (.iastore, 1) := dk_79 (dk_at dksX0_isOneLeast_8 10 rfl rfl)
theorem dX0_isOneLeast_198 : decode cX0_isOneLeast 198 = .ok (.iinc 5 (-1), 3) := dk_132 5 255 (dk_at dksX0_isOneLeast_8 11 rfl rfl)
theorem dX0_isOneLeast_201 : decode cX0_isOneLeast 201 = .ok (.goto (-61), 3) := dk_167 255 195 (dk_at dksX0_isOneLeast_8 14 rfl rfl)
theorem dX0_isOneLeast_204 : decode cX0_isOneLeast 204 = .ok (.iload 5, 2) := dk_21 5 (dk_at dksX0_isOneLeast_8 17 rfl rfl)
theorem dX0_isOneLeast_206 : decode cX0_isOneLeast 206 = .ok (.ifCond .lt 7, 3) := dk_155 0 7 (dk_at dksX0_isOneLeast_8 19 rfl rfl)
theorem dX0_isOneLeast_209 : decode cX0_isOneLeast 209 = .ok (.iconst 1, 1) := dk_4 (dk_at dksX0_isOneLeast_8 22 rfl rfl)
theorem dX0_isOneLeast_210 : decode cX0_isOneLeast 210 = .ok (.goto 4, 3) := dk_167 0 4 (dk_at dksX0_isOneLeast_9 0 rfl rfl)
theorem dX0_isOneLeast_213 : decode cX0_isOneLeast 213 = .ok (.iconst 0, 1) := dk_3 (dk_at dksX0_isOneLeast_9 3 rfl rfl)
theorem dX0_isOneLeast_214 : decode cX0_isOneLeast 214 = .ok (.istore 4, 2) := dk_54 4 (dk_at dksX0_isOneLeast_9 4 rfl rfl)
theorem dX0_isOneLeast_216 : decode cX0_isOneLeast 216 = .ok (.iload 4, 2) := dk_21 4 (dk_at dksX0_isOneLeast_9 6 rfl rfl)
theorem dX0_isOneLeast_218 : decode cX0_isOneLeast 218 = .ok (.ifCond .eq 33, 3) := dk_153 0 33 (dk_at dksX0_isOneLeast_9 8 rfl rfl)
theorem dX0_isOneLeast_221 : decode cX0_isOneLeast 221 = .ok (.aload_n 0, 1) := dk_42 (dk_at dksX0_isOneLeast_9 11 rfl rfl)
theorem dX0_isOneLeast_222 : decode cX0_isOneLeast 222 = .ok (.getfield 624, 3) := dk_180 2 112 (dk_at dksX0_isOneLeast_9 12 rfl rfl)
theorem dX0_isOneLeast_225 : decode cX0_isOneLeast 225 = .ok (.iload 5, 2) := dk_21 5 (dk_at dksX0_isOneLeast_9 15 rfl rfl)
theorem dX0_isOneLeast_227 : decode cX0_isOneLeast 227 = .ok (.aload_n 0, 1) := dk_42 (dk_at dksX0_isOneLeast_9 17 rfl rfl)
theorem dX0_isOneLeast_228 : decode cX0_isOneLeast 228 = .ok (.aload_n 0, 1) := dk_42 (dk_at dksX0_isOneLeast_9 18 rfl rfl)
theorem dX0_isOneLeast_229 : decode cX0_isOneLeast 229 = .ok (.getfield 624, 3) := dk_180 2 112 (dk_at dksX0_isOneLeast_9 19 rfl rfl)
theorem dX0_isOneLeast_232 : decode cX0_isOneLeast 232 = .ok (.iload 5, 2) := dk_21 5 (dk_at dksX0_isOneLeast_9 22 rfl rfl)
theorem dX0_isOneLeast_234 : decode cX0_isOneLeast 234 = .ok (.iaload, 1) := dk_46 (dk_at dksX0_isOneLeast_10 0 rfl rfl)
theorem dX0_isOneLeast_235 : decode cX0_isOneLeast 235 = .ok (.aload_n 0, 1) := dk_42 (dk_at dksX0_isOneLeast_10 1 rfl rfl)
theorem dX0_isOneLeast_236 : decode cX0_isOneLeast 236 = .ok (.getfield 401, 3) := dk_180 1 145 (dk_at dksX0_isOneLeast_10 2 rfl rfl)
theorem dX0_isOneLeast_239 : decode cX0_isOneLeast 239 = .ok (.aload_n 0, 1) := dk_42 (dk_at dksX0_isOneLeast_10 5 rfl rfl)
theorem dX0_isOneLeast_240 : decode cX0_isOneLeast 240 = .ok (.getfield 624, 3) := dk_180 2 112 (dk_at dksX0_isOneLeast_10 6 rfl rfl)
theorem dX0_isOneLeast_243 : decode cX0_isOneLeast 243 = .ok (.iload 5, 2) := dk_21 5 (dk_at dksX0_isOneLeast_10 9 rfl rfl)
theorem dX0_isOneLeast_245 : decode cX0_isOneLeast 245 = .ok (.iaload, 1) := dk_46 (dk_at dksX0_isOneLeast_10 11 rfl rfl)
theorem dX0_isOneLeast_246 : decode cX0_isOneLeast 246 = .ok (.iaload, 1) := dk_46 (dk_at dksX0_isOneLeast_10 12 rfl rfl)
theorem dX0_isOneLeast_247 : decode cX0_isOneLeast 247 = .ok (.invokevirtual 1207, 3) := dk_182 4 183 (dk_at dksX0_isOneLeast_10 13 rfl rfl)
theorem dX0_isOneLeast_250 : decode cX0_isOneLeast 250 = .ok (.iastore, 1) := dk_79 (dk_at dksX0_isOneLeast_10 16 rfl rfl)
theorem dX0_isOneLeast_251 : decode cX0_isOneLeast 251 = .ok (.goto (-190), 3) := dk_167 255 66 (dk_at dksX0_isOneLeast_10 17 rfl rfl)
theorem dX0_isOneLeast_254 : decode cX0_isOneLeast 254 = .ok (.aload_n 0, 1) := dk_42 (dk_at dksX0_isOneLeast_10 20 rfl rfl)
theorem dX0_isOneLeast_255 : decode cX0_isOneLeast 255 = .ok (.getfield 485, 3) := dk_180 1 229 (dk_at dksX0_isOneLeast_10 21 rfl rfl)
theorem dX0_isOneLeast_258 : decode cX0_isOneLeast 258 = .ok (.iload_n 1, 1) := dk_27 (dk_at dksX0_isOneLeast_11 0 rfl rfl)
theorem dX0_isOneLeast_259 : decode cX0_isOneLeast 259 = .ok (.baload, 1) := dk_51 (dk_at dksX0_isOneLeast_11 1 rfl rfl)
theorem dX0_isOneLeast_260 : decode cX0_isOneLeast 260 = .ok (.ifCond .eq 11, 3) := dk_153 0 11 (dk_at dksX0_isOneLeast_11 2 rfl rfl)
theorem dX0_isOneLeast_263 : decode cX0_isOneLeast 263 = .ok (.aload_n 0, 1) := dk_42 (dk_at dksX0_isOneLeast_11 5 rfl rfl)
theorem dX0_isOneLeast_264 : decode cX0_isOneLeast 264 = .ok (.iload_n 1, 1) := dk_27 (dk_at dksX0_isOneLeast_11 6 rfl rfl)
theorem dX0_isOneLeast_265 : decode cX0_isOneLeast 265 = .ok (.invokevirtual 1219, 3) := dk_182 4 195 (dk_at dksX0_isOneLeast_11 7 rfl rfl)
theorem dX0_isOneLeast_268 : decode cX0_isOneLeast 268 = .ok (.ifCond .eq 7, 3) := dk_153 0 7 (dk_at dksX0_isOneLeast_11 10 rfl rfl)
theorem dX0_isOneLeast_271 : decode cX0_isOneLeast 271 = .ok (.iconst 1, 1) := dk_4 (dk_at dksX0_isOneLeast_11 13 rfl rfl)
theorem dX0_isOneLeast_272 : decode cX0_isOneLeast 272 = .ok (.goto 4, 3) := dk_167 0 4 (dk_at dksX0_isOneLeast_11 14 rfl rfl)
theorem dX0_isOneLeast_275 : decode cX0_isOneLeast 275 = .ok (.iconst 0, 1) := dk_3 (dk_at dksX0_isOneLeast_11 17 rfl rfl)
theorem dX0_isOneLeast_276 : decode cX0_isOneLeast 276 = .ok (.ireturn, 1) := dk_172 (dk_at dksX0_isOneLeast_11 18 rfl rfl)
abbrev cX0_nextSort : ByteArray := prog_1_method_197_code
def yX0_nextSort : MethodName := ⟨RX0, "nextSort", "(II)I"⟩
def dkwX0_nextSort_1 : List UInt8 := [180, 1, 145, 29, 46, 28, 160, 0, 5, 29, 172, 132, 3, 1, 167, 255, 233, 16, 254, 172]
abbrev dktX0_nextSort_1 : List UInt8 := dkwX0_nextSort_1 ++ []
def dkwX0_nextSort_0 : List UInt8 := [27, 16, 254, 160, 0, 7, 3, 167, 0, 6, 27, 4, 96, 62, 29, 42, 180, 0, 145, 162, 0, 21, 42]
abbrev dktX0_nextSort_0 : List UInt8 := dkwX0_nextSort_0 ++ dktX0_nextSort_1
theorem dksX0_nextSort_0 : cX0_nextSort.data.toList.drop 0 = dktX0_nextSort_0 := by decide +kernel
theorem dksX0_nextSort_1 : cX0_nextSort.data.toList.drop 23 = dktX0_nextSort_1 := dk_seg dksX0_nextSort_0 23 rfl rfl
theorem dX0_nextSort_0 : decode cX0_nextSort 0 = .ok (.iload_n 1, 1) := dk_27 (dk_at dksX0_nextSort_0 0 rfl rfl)
theorem dX0_nextSort_1 : decode cX0_nextSort 1 = .ok (.bipush (-2), 2) := dk_16 254 (dk_at dksX0_nextSort_0 1 rfl rfl)
theorem dX0_nextSort_3 : decode cX0_nextSort 3 = .ok (.if_icmp .ne 7, 3) := dk_160 0 7 (dk_at dksX0_nextSort_0 3 rfl rfl)
theorem dX0_nextSort_6 : decode cX0_nextSort 6 = .ok (.iconst 0, 1) := dk_3 (dk_at dksX0_nextSort_0 6 rfl rfl)
theorem dX0_nextSort_7 : decode cX0_nextSort 7 = .ok (.goto 6, 3) := dk_167 0 6 (dk_at dksX0_nextSort_0 7 rfl rfl)
theorem dX0_nextSort_10 : decode cX0_nextSort 10 = .ok (.iload_n 1, 1) := dk_27 (dk_at dksX0_nextSort_0 10 rfl rfl)
theorem dX0_nextSort_11 : decode cX0_nextSort 11 = .ok (.iconst 1, 1) := dk_4 (dk_at dksX0_nextSort_0 11 rfl rfl)
theorem dX0_nextSort_12 : decode cX0_nextSort 12 = .ok (.iadd, 1) := dk_96 (dk_at dksX0_nextSort_0 12 rfl rfl)
theorem dX0_nextSort_13 : decode cX0_nextSort 13 = .ok (.istore_n 3, 1) := dk_62 (dk_at dksX0_nextSort_0 13 rfl rfl)
theorem dX0_nextSort_14 : decode cX0_nextSort 14 = .ok (.iload_n 3, 1) := dk_29 (dk_at dksX0_nextSort_0 14 rfl rfl)
theorem dX0_nextSort_15 : decode cX0_nextSort 15 = .ok (.aload_n 0, 1) := dk_42 (dk_at dksX0_nextSort_0 15 rfl rfl)
theorem dX0_nextSort_16 : decode cX0_nextSort 16 = .ok (.getfield 145, 3) := dk_180 0 145 (dk_at dksX0_nextSort_0 16 rfl rfl)
theorem dX0_nextSort_19 : decode cX0_nextSort 19 = .ok (.if_icmp .ge 21, 3) := dk_162 0 21 (dk_at dksX0_nextSort_0 19 rfl rfl)
theorem dX0_nextSort_22 : decode cX0_nextSort 22 = .ok (.aload_n 0, 1) := dk_42 (dk_at dksX0_nextSort_0 22 rfl rfl)
theorem dX0_nextSort_23 : decode cX0_nextSort 23 = .ok (.getfield 401, 3) := dk_180 1 145 (dk_at dksX0_nextSort_1 0 rfl rfl)
theorem dX0_nextSort_26 : decode cX0_nextSort 26 = .ok (.iload_n 3, 1) := dk_29 (dk_at dksX0_nextSort_1 3 rfl rfl)
theorem dX0_nextSort_27 : decode cX0_nextSort 27 = .ok (.iaload, 1) := dk_46 (dk_at dksX0_nextSort_1 4 rfl rfl)
theorem dX0_nextSort_28 : decode cX0_nextSort 28 = .ok (.iload_n 2, 1) := dk_28 (dk_at dksX0_nextSort_1 5 rfl rfl)
theorem dX0_nextSort_29 : decode cX0_nextSort 29 = .ok (.if_icmp .ne 5, 3) := dk_160 0 5 (dk_at dksX0_nextSort_1 6 rfl rfl)
theorem dX0_nextSort_32 : decode cX0_nextSort 32 = .ok (.iload_n 3, 1) := dk_29 (dk_at dksX0_nextSort_1 9 rfl rfl)
theorem dX0_nextSort_33 : decode cX0_nextSort 33 = .ok (.ireturn, 1) := dk_172 (dk_at dksX0_nextSort_1 10 rfl rfl)
theorem dX0_nextSort_34 : decode cX0_nextSort 34 = .ok (.iinc 3 1, 3) := dk_132 3 1 (dk_at dksX0_nextSort_1 11 rfl rfl)
theorem dX0_nextSort_37 : decode cX0_nextSort 37 = .ok (.goto (-23), 3) := dk_167 255 233 (dk_at dksX0_nextSort_1 14 rfl rfl)
theorem dX0_nextSort_40 : decode cX0_nextSort 40 = .ok (.bipush (-2), 2) := dk_16 254 (dk_at dksX0_nextSort_1 17 rfl rfl)
theorem dX0_nextSort_42 : decode cX0_nextSort 42 = .ok (.ireturn, 1) := dk_172 (dk_at dksX0_nextSort_1 19 rfl rfl)
abbrev cX0_hasRow : ByteArray := prog_1_method_198_code
def yX0_hasRow : MethodName := ⟨RX0, "hasRow", "(II)Z"⟩
def dkwX0_hasRow_2 : List UInt8 := [180, 2, 112, 28, 4, 182, 2, 105, 153, 0, 5, 4, 172, 132, 3, 1, 167, 255, 196, 3, 172]
abbrev dktX0_hasRow_2 : List UInt8 := dkwX0_hasRow_2 ++ []
def dkwX0_hasRow_1 : List UInt8 := [180, 2, 112, 28, 3, 182, 2, 105, 154, 0, 26, 42, 180, 1, 232, 27, 51, 153, 0, 19, 42, 29, 42]
abbrev dktX0_hasRow_1 : List UInt8 := dkwX0_hasRow_1 ++ dktX0_hasRow_2
def dkwX0_hasRow_0 : List UInt8 := [3, 62, 29, 42, 180, 0, 151, 162, 0, 58, 42, 180, 1, 195, 29, 46, 27, 160, 0, 42, 42, 29, 42]
abbrev dktX0_hasRow_0 : List UInt8 := dkwX0_hasRow_0 ++ dktX0_hasRow_1
theorem dksX0_hasRow_0 : cX0_hasRow.data.toList.drop 0 = dktX0_hasRow_0 := by decide +kernel
theorem dksX0_hasRow_1 : cX0_hasRow.data.toList.drop 23 = dktX0_hasRow_1 := dk_seg dksX0_hasRow_0 23 rfl rfl
theorem dksX0_hasRow_2 : cX0_hasRow.data.toList.drop 46 = dktX0_hasRow_2 := dk_seg dksX0_hasRow_1 23 rfl rfl
theorem dX0_hasRow_0 : decode cX0_hasRow 0 = .ok (.iconst 0, 1) := dk_3 (dk_at dksX0_hasRow_0 0 rfl rfl)
theorem dX0_hasRow_1 : decode cX0_hasRow 1 = .ok (.istore_n 3, 1) := dk_62 (dk_at dksX0_hasRow_0 1 rfl rfl)
theorem dX0_hasRow_2 : decode cX0_hasRow 2 = .ok (.iload_n 3, 1) := dk_29 (dk_at dksX0_hasRow_0 2 rfl rfl)
theorem dX0_hasRow_3 : decode cX0_hasRow 3 = .ok (.aload_n 0, 1) := dk_42 (dk_at dksX0_hasRow_0 3 rfl rfl)
theorem dX0_hasRow_4 : decode cX0_hasRow 4 = .ok (.getfield 151, 3) := dk_180 0 151 (dk_at dksX0_hasRow_0 4 rfl rfl)
theorem dX0_hasRow_7 : decode cX0_hasRow 7 = .ok (.if_icmp .ge 58, 3) := dk_162 0 58 (dk_at dksX0_hasRow_0 7 rfl rfl)
theorem dX0_hasRow_10 : decode cX0_hasRow 10 = .ok (.aload_n 0, 1) := dk_42 (dk_at dksX0_hasRow_0 10 rfl rfl)
theorem dX0_hasRow_11 : decode cX0_hasRow 11 = .ok (.getfield 451, 3) := dk_180 1 195 (dk_at dksX0_hasRow_0 11 rfl rfl)
theorem dX0_hasRow_14 : decode cX0_hasRow 14 = .ok (.iload_n 3, 1) := dk_29 (dk_at dksX0_hasRow_0 14 rfl rfl)
theorem dX0_hasRow_15 : decode cX0_hasRow 15 = .ok (.iaload, 1) := dk_46 (dk_at dksX0_hasRow_0 15 rfl rfl)
theorem dX0_hasRow_16 : decode cX0_hasRow 16 = .ok (.iload_n 1, 1) := dk_27 (dk_at dksX0_hasRow_0 16 rfl rfl)
theorem dX0_hasRow_17 : decode cX0_hasRow 17 = .ok (.if_icmp .ne 42, 3) := dk_160 0 42 (dk_at dksX0_hasRow_0 17 rfl rfl)
theorem dX0_hasRow_20 : decode cX0_hasRow 20 = .ok (.aload_n 0, 1) := dk_42 (dk_at dksX0_hasRow_0 20 rfl rfl)
theorem dX0_hasRow_21 : decode cX0_hasRow 21 = .ok (.iload_n 3, 1) := dk_29 (dk_at dksX0_hasRow_0 21 rfl rfl)
theorem dX0_hasRow_22 : decode cX0_hasRow 22 = .ok (.aload_n 0, 1) := dk_42 (dk_at dksX0_hasRow_0 22 rfl rfl)
theorem dX0_hasRow_23 : decode cX0_hasRow 23 = .ok (.getfield 624, 3) := dk_180 2 112 (dk_at dksX0_hasRow_1 0 rfl rfl)
theorem dX0_hasRow_26 : decode cX0_hasRow 26 = .ok (.iload_n 2, 1) := dk_28 (dk_at dksX0_hasRow_1 3 rfl rfl)
theorem dX0_hasRow_27 : decode cX0_hasRow 27 = .ok (.iconst 0, 1) := dk_3 (dk_at dksX0_hasRow_1 4 rfl rfl)
theorem dX0_hasRow_28 : decode cX0_hasRow 28 = .ok (.invokevirtual 617, 3) := dk_182 2 105 (dk_at dksX0_hasRow_1 5 rfl rfl)
theorem dX0_hasRow_31 : decode cX0_hasRow 31 = .ok (.ifCond .ne 26, 3) := dk_154 0 26 (dk_at dksX0_hasRow_1 8 rfl rfl)
theorem dX0_hasRow_34 : decode cX0_hasRow 34 = .ok (.aload_n 0, 1) := dk_42 (dk_at dksX0_hasRow_1 11 rfl rfl)
theorem dX0_hasRow_35 : decode cX0_hasRow 35 = .ok (.getfield 488, 3) := dk_180 1 232 (dk_at dksX0_hasRow_1 12 rfl rfl)
theorem dX0_hasRow_38 : decode cX0_hasRow 38 = .ok (.iload_n 1, 1) := dk_27 (dk_at dksX0_hasRow_1 15 rfl rfl)
theorem dX0_hasRow_39 : decode cX0_hasRow 39 = .ok (.baload, 1) := dk_51 (dk_at dksX0_hasRow_1 16 rfl rfl)
theorem dX0_hasRow_40 : decode cX0_hasRow 40 = .ok (.ifCond .eq 19, 3) := dk_153 0 19 (dk_at dksX0_hasRow_1 17 rfl rfl)
theorem dX0_hasRow_43 : decode cX0_hasRow 43 = .ok (.aload_n 0, 1) := dk_42 (dk_at dksX0_hasRow_1 20 rfl rfl)
theorem dX0_hasRow_44 : decode cX0_hasRow 44 = .ok (.iload_n 3, 1) := dk_29 (dk_at dksX0_hasRow_1 21 rfl rfl)
theorem dX0_hasRow_45 : decode cX0_hasRow 45 = .ok (.aload_n 0, 1) := dk_42 (dk_at dksX0_hasRow_1 22 rfl rfl)
theorem dX0_hasRow_46 : decode cX0_hasRow 46 = .ok (.getfield 624, 3) := dk_180 2 112 (dk_at dksX0_hasRow_2 0 rfl rfl)
theorem dX0_hasRow_49 : decode cX0_hasRow 49 = .ok (.iload_n 2, 1) := dk_28 (dk_at dksX0_hasRow_2 3 rfl rfl)
theorem dX0_hasRow_50 : decode cX0_hasRow 50 = .ok (.iconst 1, 1) := dk_4 (dk_at dksX0_hasRow_2 4 rfl rfl)
theorem dX0_hasRow_51 : decode cX0_hasRow 51 = .ok (.invokevirtual 617, 3) := dk_182 2 105 (dk_at dksX0_hasRow_2 5 rfl rfl)
theorem dX0_hasRow_54 : decode cX0_hasRow 54 = .ok (.ifCond .eq 5, 3) := dk_153 0 5 (dk_at dksX0_hasRow_2 8 rfl rfl)
theorem dX0_hasRow_57 : decode cX0_hasRow 57 = .ok (.iconst 1, 1) := dk_4 (dk_at dksX0_hasRow_2 11 rfl rfl)
theorem dX0_hasRow_58 : decode cX0_hasRow 58 = .ok (.ireturn, 1) := dk_172 (dk_at dksX0_hasRow_2 12 rfl rfl)
theorem dX0_hasRow_59 : decode cX0_hasRow 59 = .ok (.iinc 3 1, 3) := dk_132 3 1 (dk_at dksX0_hasRow_2 13 rfl rfl)
theorem dX0_hasRow_62 : decode cX0_hasRow 62 = .ok (.goto (-60), 3) := dk_167 255 196 (dk_at dksX0_hasRow_2 16 rfl rfl)
theorem dX0_hasRow_65 : decode cX0_hasRow 65 = .ok (.iconst 0, 1) := dk_3 (dk_at dksX0_hasRow_2 19 rfl rfl)
theorem dX0_hasRow_66 : decode cX0_hasRow 66 = .ok (.ireturn, 1) := dk_172 (dk_at dksX0_hasRow_2 20 rfl rfl)
abbrev cX0_isOneJoined : ByteArray := prog_1_method_200_code
def yX0_isOneJoined : MethodName := ⟨RX0, "isOneJoined", "(I)Z"⟩
def dkwX0_isOneJoined_7 : List UInt8 := [167, 255, 102, 132, 2, 1, 167, 255, 86, 4, 172]
abbrev dktX0_isOneJoined_7 : List UInt8 := dkwX0_isOneJoined_7 ++ []
def dkwX0_isOneJoined_6 : List UInt8 := [42, 180, 4, 189, 6, 21, 4, 79, 42, 6, 181, 4, 192, 3, 172, 132, 4, 1, 167, 255, 119, 132, 3, 1]
abbrev dktX0_isOneJoined_6 : List UInt8 := dkwX0_isOneJoined_6 ++ dktX0_isOneJoined_7
def dkwX0_isOneJoined_5 : List UInt8 := [159, 0, 39, 42, 180, 4, 189, 3, 27, 79, 42, 180, 4, 189, 4, 28, 79, 42, 180, 4, 189, 5, 29, 79]
abbrev dktX0_isOneJoined_5 : List UInt8 := dkwX0_isOneJoined_5 ++ dktX0_isOneJoined_6
def dkwX0_isOneJoined_4 : List UInt8 := [28, 29, 182, 4, 198, 21, 4, 182, 4, 198, 42, 27, 28, 42, 27, 29, 21, 4, 182, 4, 198, 182, 4, 198]
abbrev dktX0_isOneJoined_4 : List UInt8 := dkwX0_isOneJoined_4 ++ dktX0_isOneJoined_5
def dkwX0_isOneJoined_3 : List UInt8 := [180, 1, 223, 27, 46, 160, 0, 7, 4, 167, 0, 4, 3, 54, 5, 21, 5, 153, 0, 70, 42, 27, 42, 27]
abbrev dktX0_isOneJoined_3 : List UInt8 := dkwX0_isOneJoined_3 ++ dktX0_isOneJoined_4
def dkwX0_isOneJoined_2 : List UInt8 := [42, 180, 1, 145, 29, 46, 42, 180, 1, 223, 27, 46, 160, 0, 23, 42, 180, 1, 145, 21, 4, 46, 42]
abbrev dktX0_isOneJoined_2 : List UInt8 := dkwX0_isOneJoined_2 ++ dktX0_isOneJoined_3
def dkwX0_isOneJoined_1 : List UInt8 := [21, 4, 42, 180, 0, 145, 162, 0, 134, 42, 180, 1, 145, 28, 46, 42, 180, 1, 223, 27, 46, 160, 0, 38]
abbrev dktX0_isOneJoined_1 : List UInt8 := dkwX0_isOneJoined_1 ++ dktX0_isOneJoined_2
def dkwX0_isOneJoined_0 : List UInt8 := [3, 61, 28, 42, 180, 0, 145, 162, 0, 168, 3, 62, 29, 42, 180, 0, 145, 162, 0, 152, 3, 54, 4]
abbrev dktX0_isOneJoined_0 : List UInt8 := dkwX0_isOneJoined_0 ++ dktX0_isOneJoined_1
theorem dksX0_isOneJoined_0 : cX0_isOneJoined.data.toList.drop 0 = dktX0_isOneJoined_0 := by decide +kernel
theorem dksX0_isOneJoined_1 : cX0_isOneJoined.data.toList.drop 23 = dktX0_isOneJoined_1 := dk_seg dksX0_isOneJoined_0 23 rfl rfl
theorem dksX0_isOneJoined_2 : cX0_isOneJoined.data.toList.drop 47 = dktX0_isOneJoined_2 := dk_seg dksX0_isOneJoined_1 24 rfl rfl
theorem dksX0_isOneJoined_3 : cX0_isOneJoined.data.toList.drop 70 = dktX0_isOneJoined_3 := dk_seg dksX0_isOneJoined_2 23 rfl rfl
theorem dksX0_isOneJoined_4 : cX0_isOneJoined.data.toList.drop 94 = dktX0_isOneJoined_4 := dk_seg dksX0_isOneJoined_3 24 rfl rfl
theorem dksX0_isOneJoined_5 : cX0_isOneJoined.data.toList.drop 118 = dktX0_isOneJoined_5 := dk_seg dksX0_isOneJoined_4 24 rfl rfl
theorem dksX0_isOneJoined_6 : cX0_isOneJoined.data.toList.drop 142 = dktX0_isOneJoined_6 := dk_seg dksX0_isOneJoined_5 24 rfl rfl
theorem dksX0_isOneJoined_7 : cX0_isOneJoined.data.toList.drop 166 = dktX0_isOneJoined_7 := dk_seg dksX0_isOneJoined_6 24 rfl rfl
theorem dX0_isOneJoined_0 : decode cX0_isOneJoined 0 = .ok (.iconst 0, 1) := dk_3 (dk_at dksX0_isOneJoined_0 0 rfl rfl)
theorem dX0_isOneJoined_1 : decode cX0_isOneJoined 1 = .ok (.istore_n 2, 1) := dk_61 (dk_at dksX0_isOneJoined_0 1 rfl rfl)
theorem dX0_isOneJoined_2 : decode cX0_isOneJoined 2 = .ok (.iload_n 2, 1) := dk_28 (dk_at dksX0_isOneJoined_0 2 rfl rfl)
theorem dX0_isOneJoined_3 : decode cX0_isOneJoined 3 = .ok (.aload_n 0, 1) := dk_42 (dk_at dksX0_isOneJoined_0 3 rfl rfl)
theorem dX0_isOneJoined_4 : decode cX0_isOneJoined 4 = .ok (.getfield 145, 3) := dk_180 0 145 (dk_at dksX0_isOneJoined_0 4 rfl rfl)
theorem dX0_isOneJoined_7 : decode cX0_isOneJoined 7 = .ok (.if_icmp .ge 168, 3) := dk_162 0 168 (dk_at dksX0_isOneJoined_0 7 rfl rfl)
theorem dX0_isOneJoined_10 : decode cX0_isOneJoined 10 = .ok (.iconst 0, 1) := dk_3 (dk_at dksX0_isOneJoined_0 10 rfl rfl)
theorem dX0_isOneJoined_11 : decode cX0_isOneJoined 11 = .ok (.istore_n 3, 1) := dk_62 (dk_at dksX0_isOneJoined_0 11 rfl rfl)
theorem dX0_isOneJoined_12 : decode cX0_isOneJoined 12 = .ok (.iload_n 3, 1) := dk_29 (dk_at dksX0_isOneJoined_0 12 rfl rfl)
theorem dX0_isOneJoined_13 : decode cX0_isOneJoined 13 = .ok (.aload_n 0, 1) := dk_42 (dk_at dksX0_isOneJoined_0 13 rfl rfl)
theorem dX0_isOneJoined_14 : decode cX0_isOneJoined 14 = .ok (.getfield 145, 3) := dk_180 0 145 (dk_at dksX0_isOneJoined_0 14 rfl rfl)
theorem dX0_isOneJoined_17 : decode cX0_isOneJoined 17 = .ok (.if_icmp .ge 152, 3) := dk_162 0 152 (dk_at dksX0_isOneJoined_0 17 rfl rfl)
theorem dX0_isOneJoined_20 : decode cX0_isOneJoined 20 = .ok (.iconst 0, 1) := dk_3 (dk_at dksX0_isOneJoined_0 20 rfl rfl)
theorem dX0_isOneJoined_21 : decode cX0_isOneJoined 21 = .ok (.istore 4, 2) := dk_54 4 (dk_at dksX0_isOneJoined_0 21 rfl rfl)
theorem dX0_isOneJoined_23 : decode cX0_isOneJoined 23 = .ok (.iload 4, 2) := dk_21 4 (dk_at dksX0_isOneJoined_1 0 rfl rfl)
theorem dX0_isOneJoined_25 : decode cX0_isOneJoined 25 = .ok (.aload_n 0, 1) := dk_42 (dk_at dksX0_isOneJoined_1 2 rfl rfl)
theorem dX0_isOneJoined_26 : decode cX0_isOneJoined 26 = .ok (.getfield 145, 3) := dk_180 0 145 (dk_at dksX0_isOneJoined_1 3 rfl rfl)
theorem dX0_isOneJoined_29 : decode cX0_isOneJoined 29 = .ok (.if_icmp .ge 134, 3) := dk_162 0 134 (dk_at dksX0_isOneJoined_1 6 rfl rfl)
theorem dX0_isOneJoined_32 : decode cX0_isOneJoined 32 = .ok (.aload_n 0, 1) := dk_42 (dk_at dksX0_isOneJoined_1 9 rfl rfl)
theorem dX0_isOneJoined_33 : decode cX0_isOneJoined 33 = .ok (.getfield 401, 3) := dk_180 1 145 (dk_at dksX0_isOneJoined_1 10 rfl rfl)
theorem dX0_isOneJoined_36 : decode cX0_isOneJoined 36 = .ok (.iload_n 2, 1) := dk_28 (dk_at dksX0_isOneJoined_1 13 rfl rfl)
theorem dX0_isOneJoined_37 : decode cX0_isOneJoined 37 = .ok (.iaload, 1) := dk_46 (dk_at dksX0_isOneJoined_1 14 rfl rfl)
theorem dX0_isOneJoined_38 : decode cX0_isOneJoined 38 = .ok (.aload_n 0, 1) := dk_42 (dk_at dksX0_isOneJoined_1 15 rfl rfl)
theorem dX0_isOneJoined_39 : decode cX0_isOneJoined 39 = .ok (.getfield 479, 3) := dk_180 1 223 (dk_at dksX0_isOneJoined_1 16 rfl rfl)
theorem dX0_isOneJoined_42 : decode cX0_isOneJoined 42 = .ok (.iload_n 1, 1) := dk_27 (dk_at dksX0_isOneJoined_1 19 rfl rfl)
theorem dX0_isOneJoined_43 : decode cX0_isOneJoined 43 = .ok (.iaload, 1) := dk_46 (dk_at dksX0_isOneJoined_1 20 rfl rfl)
theorem dX0_isOneJoined_44 : decode cX0_isOneJoined 44 = .ok (.if_icmp .ne 38, 3) := dk_160 0 38 (dk_at dksX0_isOneJoined_1 21 rfl rfl)
theorem dX0_isOneJoined_47 : decode cX0_isOneJoined 47 = .ok (.aload_n 0, 1) := dk_42 (dk_at dksX0_isOneJoined_2 0 rfl rfl)
theorem dX0_isOneJoined_48 : decode cX0_isOneJoined 48 = .ok (.getfield 401, 3) := dk_180 1 145 (dk_at dksX0_isOneJoined_2 1 rfl rfl)
theorem dX0_isOneJoined_51 : decode cX0_isOneJoined 51 = .ok (.iload_n 3, 1) := dk_29 (dk_at dksX0_isOneJoined_2 4 rfl rfl)
theorem dX0_isOneJoined_52 : decode cX0_isOneJoined 52 = .ok (.iaload, 1) := dk_46 (dk_at dksX0_isOneJoined_2 5 rfl rfl)
theorem dX0_isOneJoined_53 : decode cX0_isOneJoined 53 = .ok (.aload_n 0, 1) := dk_42 (dk_at dksX0_isOneJoined_2 6 rfl rfl)
theorem dX0_isOneJoined_54 : decode cX0_isOneJoined 54 = .ok (.getfield 479, 3) := dk_180 1 223 (dk_at dksX0_isOneJoined_2 7 rfl rfl)
theorem dX0_isOneJoined_57 : decode cX0_isOneJoined 57 = .ok (.iload_n 1, 1) := dk_27 (dk_at dksX0_isOneJoined_2 10 rfl rfl)
theorem dX0_isOneJoined_58 : decode cX0_isOneJoined 58 = .ok (.iaload, 1) := dk_46 (dk_at dksX0_isOneJoined_2 11 rfl rfl)
theorem dX0_isOneJoined_59 : decode cX0_isOneJoined 59 = .ok (.if_icmp .ne 23, 3) := dk_160 0 23 (dk_at dksX0_isOneJoined_2 12 rfl rfl)
theorem dX0_isOneJoined_62 : decode cX0_isOneJoined 62 = .ok (.aload_n 0, 1) := dk_42 (dk_at dksX0_isOneJoined_2 15 rfl rfl)
theorem dX0_isOneJoined_63 : decode cX0_isOneJoined 63 = .ok (.getfield 401, 3) := dk_180 1 145 (dk_at dksX0_isOneJoined_2 16 rfl rfl)
theorem dX0_isOneJoined_66 : decode cX0_isOneJoined 66 = .ok (.iload 4, 2) := dk_21 4 (dk_at dksX0_isOneJoined_2 19 rfl rfl)
theorem dX0_isOneJoined_68 : decode cX0_isOneJoined 68 = .ok (.iaload, 1) := dk_46 (dk_at dksX0_isOneJoined_2 21 rfl rfl)
theorem dX0_isOneJoined_69 : decode cX0_isOneJoined 69 = .ok (.aload_n 0, 1) := dk_42 (dk_at dksX0_isOneJoined_2 22 rfl rfl)
theorem dX0_isOneJoined_70 : decode cX0_isOneJoined 70 = .ok (.getfield 479, 3) := dk_180 1 223 (dk_at dksX0_isOneJoined_3 0 rfl rfl)
theorem dX0_isOneJoined_73 : decode cX0_isOneJoined 73 = .ok (.iload_n 1, 1) := dk_27 (dk_at dksX0_isOneJoined_3 3 rfl rfl)
theorem dX0_isOneJoined_74 : decode cX0_isOneJoined 74 = .ok (.iaload, 1) := dk_46 (dk_at dksX0_isOneJoined_3 4 rfl rfl)
theorem dX0_isOneJoined_75 : decode cX0_isOneJoined 75 = .ok (.if_icmp .ne 7, 3) := dk_160 0 7 (dk_at dksX0_isOneJoined_3 5 rfl rfl)
theorem dX0_isOneJoined_78 : decode cX0_isOneJoined 78 = .ok (.iconst 1, 1) := dk_4 (dk_at dksX0_isOneJoined_3 8 rfl rfl)
theorem dX0_isOneJoined_79 : decode cX0_isOneJoined 79 = .ok (.goto 4, 3) := dk_167 0 4 (dk_at dksX0_isOneJoined_3 9 rfl rfl)
theorem dX0_isOneJoined_82 : decode cX0_isOneJoined 82 = .ok (.iconst 0, 1) := dk_3 (dk_at dksX0_isOneJoined_3 12 rfl rfl)
theorem dX0_isOneJoined_83 : decode cX0_isOneJoined 83 = .ok (.istore 5, 2) := dk_54 5 (dk_at dksX0_isOneJoined_3 13 rfl rfl)
theorem dX0_isOneJoined_85 : decode cX0_isOneJoined 85 = .ok (.iload 5, 2) := dk_21 5 (dk_at dksX0_isOneJoined_3 15 rfl rfl)
theorem dX0_isOneJoined_87 : decode cX0_isOneJoined 87 = .ok (.ifCond .eq 70, 3) := dk_153 0 70 (dk_at dksX0_isOneJoined_3 17 rfl rfl)
theorem dX0_isOneJoined_90 : decode cX0_isOneJoined 90 = .ok (.aload_n 0, 1) := dk_42 (dk_at dksX0_isOneJoined_3 20 rfl rfl)
theorem dX0_isOneJoined_91 : decode cX0_isOneJoined 91 = .ok (.iload_n 1, 1) := dk_27 (dk_at dksX0_isOneJoined_3 21 rfl rfl)
theorem dX0_isOneJoined_92 : decode cX0_isOneJoined 92 = .ok (.aload_n 0, 1) := dk_42 (dk_at dksX0_isOneJoined_3 22 rfl rfl)
theorem dX0_isOneJoined_93 : decode cX0_isOneJoined 93 = .ok (.iload_n 1, 1) := dk_27 (dk_at dksX0_isOneJoined_3 23 rfl rfl)
theorem dX0_isOneJoined_94 : decode cX0_isOneJoined 94 = .ok (.iload_n 2, 1) := dk_28 (dk_at dksX0_isOneJoined_4 0 rfl rfl)
theorem dX0_isOneJoined_95 : decode cX0_isOneJoined 95 = .ok (.iload_n 3, 1) := dk_29 (dk_at dksX0_isOneJoined_4 1 rfl rfl)
theorem dX0_isOneJoined_96 : decode cX0_isOneJoined 96 = .ok (.invokevirtual 1222, 3) := dk_182 4 198 (dk_at dksX0_isOneJoined_4 2 rfl rfl)
theorem dX0_isOneJoined_99 : decode cX0_isOneJoined 99 = .ok (.iload 4, 2) := dk_21 4 (dk_at dksX0_isOneJoined_4 5 rfl rfl)
theorem dX0_isOneJoined_101 : decode cX0_isOneJoined 101 = .ok (.invokevirtual 1222, 3) := dk_182 4 198 (dk_at dksX0_isOneJoined_4 7 rfl rfl)
theorem dX0_isOneJoined_104 : decode cX0_isOneJoined 104 = .ok (.aload_n 0, 1) := dk_42 (dk_at dksX0_isOneJoined_4 10 rfl rfl)
theorem dX0_isOneJoined_105 : decode cX0_isOneJoined 105 = .ok (.iload_n 1, 1) := dk_27 (dk_at dksX0_isOneJoined_4 11 rfl rfl)
theorem dX0_isOneJoined_106 : decode cX0_isOneJoined 106 = .ok (.iload_n 2, 1) := dk_28 (dk_at dksX0_isOneJoined_4 12 rfl rfl)
theorem dX0_isOneJoined_107 : decode cX0_isOneJoined 107 = .ok (.aload_n 0, 1) := dk_42 (dk_at dksX0_isOneJoined_4 13 rfl rfl)
theorem dX0_isOneJoined_108 : decode cX0_isOneJoined 108 = .ok (.iload_n 1, 1) := dk_27 (dk_at dksX0_isOneJoined_4 14 rfl rfl)
theorem dX0_isOneJoined_109 : decode cX0_isOneJoined 109 = .ok (.iload_n 3, 1) := dk_29 (dk_at dksX0_isOneJoined_4 15 rfl rfl)
theorem dX0_isOneJoined_110 : decode cX0_isOneJoined 110 = .ok (.iload 4, 2) := dk_21 4 (dk_at dksX0_isOneJoined_4 16 rfl rfl)
theorem dX0_isOneJoined_112 : decode cX0_isOneJoined 112 = .ok (.invokevirtual 1222, 3) := dk_182 4 198 (dk_at dksX0_isOneJoined_4 18 rfl rfl)
theorem dX0_isOneJoined_115 : decode cX0_isOneJoined 115 = .ok (.invokevirtual 1222, 3) := dk_182 4 198 (dk_at dksX0_isOneJoined_4 21 rfl rfl)
theorem dX0_isOneJoined_118 : decode cX0_isOneJoined 118 = .ok (.if_icmp .eq 39, 3) := dk_159 0 39 (dk_at dksX0_isOneJoined_5 0 rfl rfl)
theorem dX0_isOneJoined_121 : decode cX0_isOneJoined 121 = .ok (.aload_n 0, 1) := dk_42 (dk_at dksX0_isOneJoined_5 3 rfl rfl)
theorem dX0_isOneJoined_122 : decode cX0_isOneJoined 122 = .ok (.getfield 1213, 3) := dk_180 4 189 (dk_at dksX0_isOneJoined_5 4 rfl rfl)
theorem dX0_isOneJoined_125 : decode cX0_isOneJoined 125 = .ok (.iconst 0, 1) := dk_3 (dk_at dksX0_isOneJoined_5 7 rfl rfl)
theorem dX0_isOneJoined_126 : decode cX0_isOneJoined 126 = .ok (.iload_n 1, 1) := dk_27 (dk_at dksX0_isOneJoined_5 8 rfl rfl)
theorem dX0_isOneJoined_127 : decode cX0_isOneJoined 127 = .ok (.iastore, 1) := dk_79 (dk_at dksX0_isOneJoined_5 9 rfl rfl)
theorem dX0_isOneJoined_128 : decode cX0_isOneJoined 128 = .ok (.aload_n 0, 1) := dk_42 (dk_at dksX0_isOneJoined_5 10 rfl rfl)
theorem dX0_isOneJoined_129 : decode cX0_isOneJoined 129 = .ok (.getfield 1213, 3) := dk_180 4 189 (dk_at dksX0_isOneJoined_5 11 rfl rfl)
theorem dX0_isOneJoined_132 : decode cX0_isOneJoined 132 = .ok (.iconst 1, 1) := dk_4 (dk_at dksX0_isOneJoined_5 14 rfl rfl)
theorem dX0_isOneJoined_133 : decode cX0_isOneJoined 133 = .ok (.iload_n 2, 1) := dk_28 (dk_at dksX0_isOneJoined_5 15 rfl rfl)
theorem dX0_isOneJoined_134 : decode cX0_isOneJoined 134 = .ok (.iastore, 1) := dk_79 (dk_at dksX0_isOneJoined_5 16 rfl rfl)
theorem dX0_isOneJoined_135 : decode cX0_isOneJoined 135 = .ok (.aload_n 0, 1) := dk_42 (dk_at dksX0_isOneJoined_5 17 rfl rfl)
theorem dX0_isOneJoined_136 : decode cX0_isOneJoined 136 = .ok (.getfield 1213, 3) := dk_180 4 189 (dk_at dksX0_isOneJoined_5 18 rfl rfl)
theorem dX0_isOneJoined_139 : decode cX0_isOneJoined 139 = .ok (.iconst 2, 1) := dk_5 (dk_at dksX0_isOneJoined_5 21 rfl rfl)
theorem dX0_isOneJoined_140 : decode cX0_isOneJoined 140 = .ok (.iload_n 3, 1) := dk_29 (dk_at dksX0_isOneJoined_5 22 rfl rfl)
theorem dX0_isOneJoined_141 : decode cX0_isOneJoined 141 = .ok (.iastore, 1) := dk_79 (dk_at dksX0_isOneJoined_5 23 rfl rfl)
theorem dX0_isOneJoined_142 : decode cX0_isOneJoined 142 = .ok (.aload_n 0, 1) := dk_42 (dk_at dksX0_isOneJoined_6 0 rfl rfl)
theorem dX0_isOneJoined_143 : decode cX0_isOneJoined 143 = .ok (.getfield 1213, 3) := dk_180 4 189 (dk_at dksX0_isOneJoined_6 1 rfl rfl)
theorem dX0_isOneJoined_146 : decode cX0_isOneJoined 146 = .ok (.iconst 3, 1) := dk_6 (dk_at dksX0_isOneJoined_6 4 rfl rfl)
theorem dX0_isOneJoined_147 : decode cX0_isOneJoined 147 = .ok (.iload 4, 2) := dk_21 4 (dk_at dksX0_isOneJoined_6 5 rfl rfl)
theorem dX0_isOneJoined_149 : decode cX0_isOneJoined 149 = .ok (.iastore, 1) := dk_79 (dk_at dksX0_isOneJoined_6 7 rfl rfl)
theorem dX0_isOneJoined_150 : decode cX0_isOneJoined 150 = .ok (.aload_n 0, 1) := dk_42 (dk_at dksX0_isOneJoined_6 8 rfl rfl)
theorem dX0_isOneJoined_151 : decode cX0_isOneJoined 151 = .ok (.iconst 3, 1) := dk_6 (dk_at dksX0_isOneJoined_6 9 rfl rfl)
theorem dX0_isOneJoined_152 : decode cX0_isOneJoined 152 = .ok (.putfield 1216, 3) := dk_181 4 192 (dk_at dksX0_isOneJoined_6 10 rfl rfl)
theorem dX0_isOneJoined_155 : decode cX0_isOneJoined 155 = .ok (.iconst 0, 1) := dk_3 (dk_at dksX0_isOneJoined_6 13 rfl rfl)
theorem dX0_isOneJoined_156 : decode cX0_isOneJoined 156 = .ok (.ireturn, 1) := dk_172 (dk_at dksX0_isOneJoined_6 14 rfl rfl)
theorem dX0_isOneJoined_157 : decode cX0_isOneJoined 157 = .ok (.iinc 4 1, 3) := dk_132 4 1 (dk_at dksX0_isOneJoined_6 15 rfl rfl)
theorem dX0_isOneJoined_160 : decode cX0_isOneJoined 160 = .ok (.goto (-137), 3) := dk_167 255 119 (dk_at dksX0_isOneJoined_6 18 rfl rfl)
theorem dX0_isOneJoined_163 : decode cX0_isOneJoined 163 = .ok (.iinc 3 1, 3) := dk_132 3 1 (dk_at dksX0_isOneJoined_6 21 rfl rfl)
theorem dX0_isOneJoined_166 : decode cX0_isOneJoined 166 = .ok (.goto (-154), 3) := dk_167 255 102 (dk_at dksX0_isOneJoined_7 0 rfl rfl)
theorem dX0_isOneJoined_169 : decode cX0_isOneJoined 169 = .ok (.iinc 2 1, 3) := dk_132 2 1 (dk_at dksX0_isOneJoined_7 3 rfl rfl)
theorem dX0_isOneJoined_172 : decode cX0_isOneJoined 172 = .ok (.goto (-170), 3) := dk_167 255 86 (dk_at dksX0_isOneJoined_7 6 rfl rfl)
theorem dX0_isOneJoined_175 : decode cX0_isOneJoined 175 = .ok (.iconst 1, 1) := dk_4 (dk_at dksX0_isOneJoined_7 9 rfl rfl)
theorem dX0_isOneJoined_176 : decode cX0_isOneJoined 176 = .ok (.ireturn, 1) := dk_172 (dk_at dksX0_isOneJoined_7 10 rfl rfl)
abbrev cX0_joined : ByteArray := prog_1_method_199_code
def yX0_joined : MethodName := ⟨RX0, "joined", "(III)I"⟩
def dkwX0_joined_1 : List UInt8 := [172]
abbrev dktX0_joined_1 : List UInt8 := dkwX0_joined_1 ++ []
def dkwX0_joined_0 : List UInt8 := [42, 180, 2, 112, 3, 28, 79, 42, 180, 2, 112, 4, 29, 79, 42, 27, 42, 180, 2, 112, 5, 182, 2, 115]
abbrev dktX0_joined_0 : List UInt8 := dkwX0_joined_0 ++ dktX0_joined_1
theorem dksX0_joined_0 : cX0_joined.data.toList.drop 0 = dktX0_joined_0 := by decide +kernel
theorem dksX0_joined_1 : cX0_joined.data.toList.drop 24 = dktX0_joined_1 := dk_seg dksX0_joined_0 24 rfl rfl
theorem dX0_joined_0 : decode cX0_joined 0 = .ok (.aload_n 0, 1) := dk_42 (dk_at dksX0_joined_0 0 rfl rfl)
theorem dX0_joined_1 : decode cX0_joined 1 = .ok (.getfield 624, 3) := dk_180 2 112 (dk_at dksX0_joined_0 1 rfl rfl)
theorem dX0_joined_4 : decode cX0_joined 4 = .ok (.iconst 0, 1) := dk_3 (dk_at dksX0_joined_0 4 rfl rfl)
theorem dX0_joined_5 : decode cX0_joined 5 = .ok (.iload_n 2, 1) := dk_28 (dk_at dksX0_joined_0 5 rfl rfl)
theorem dX0_joined_6 : decode cX0_joined 6 = .ok (.iastore, 1) := dk_79 (dk_at dksX0_joined_0 6 rfl rfl)
theorem dX0_joined_7 : decode cX0_joined 7 = .ok (.aload_n 0, 1) := dk_42 (dk_at dksX0_joined_0 7 rfl rfl)
theorem dX0_joined_8 : decode cX0_joined 8 = .ok (.getfield 624, 3) := dk_180 2 112 (dk_at dksX0_joined_0 8 rfl rfl)
theorem dX0_joined_11 : decode cX0_joined 11 = .ok (.iconst 1, 1) := dk_4 (dk_at dksX0_joined_0 11 rfl rfl)
theorem dX0_joined_12 : decode cX0_joined 12 = .ok (.iload_n 3, 1) := dk_29 (dk_at dksX0_joined_0 12 rfl rfl)
theorem dX0_joined_13 : decode cX0_joined 13 = .ok (.iastore, 1) := dk_79 (dk_at dksX0_joined_0 13 rfl rfl)
theorem dX0_joined_14 : decode cX0_joined 14 = .ok (.aload_n 0, 1) := dk_42 (dk_at dksX0_joined_0 14 rfl rfl)
theorem dX0_joined_15 : decode cX0_joined 15 = .ok (.iload_n 1, 1) := dk_27 (dk_at dksX0_joined_0 15 rfl rfl)
theorem dX0_joined_16 : decode cX0_joined 16 = .ok (.aload_n 0, 1) := dk_42 (dk_at dksX0_joined_0 16 rfl rfl)
theorem dX0_joined_17 : decode cX0_joined 17 = .ok (.getfield 624, 3) := dk_180 2 112 (dk_at dksX0_joined_0 17 rfl rfl)
theorem dX0_joined_20 : decode cX0_joined 20 = .ok (.iconst 2, 1) := dk_5 (dk_at dksX0_joined_0 20 rfl rfl)
theorem dX0_joined_21 : decode cX0_joined 21 = .ok (.invokevirtual 627, 3) := dk_182 2 115 (dk_at dksX0_joined_0 21 rfl rfl)
theorem dX0_joined_24 : decode cX0_joined 24 = .ok (.ireturn, 1) := dk_172 (dk_at dksX0_joined_1 0 rfl rfl)
abbrev cX0_firstNotFalling : ByteArray := prog_1_method_209_code
def yX0_firstNotFalling : MethodName := ⟨RX0, "firstNotFalling", "()I"⟩
def dkwX0_firstNotFalling_1 : List UInt8 := [167, 255, 235, 16, 254, 172]
abbrev dktX0_firstNotFalling_1 : List UInt8 := dkwX0_firstNotFalling_1 ++ []
def dkwX0_firstNotFalling_0 : List UInt8 := [3, 60, 27, 42, 180, 0, 157, 162, 0, 19, 42, 27, 182, 4, 234, 154, 0, 5, 27, 172, 132, 1, 1]
abbrev dktX0_firstNotFalling_0 : List UInt8 := dkwX0_firstNotFalling_0 ++ dktX0_firstNotFalling_1
theorem dksX0_firstNotFalling_0 : cX0_firstNotFalling.data.toList.drop 0 = dktX0_firstNotFalling_0 := by decide +kernel
theorem dksX0_firstNotFalling_1 : cX0_firstNotFalling.data.toList.drop 23 = dktX0_firstNotFalling_1 := dk_seg dksX0_firstNotFalling_0 23 rfl rfl
theorem dX0_firstNotFalling_0 : decode cX0_firstNotFalling 0 = .ok (.iconst 0, 1) := dk_3 (dk_at dksX0_firstNotFalling_0 0 rfl rfl)
theorem dX0_firstNotFalling_1 : decode cX0_firstNotFalling 1 = .ok (.istore_n 1, 1) := dk_60 (dk_at dksX0_firstNotFalling_0 1 rfl rfl)
theorem dX0_firstNotFalling_2 : decode cX0_firstNotFalling 2 = .ok (.iload_n 1, 1) := dk_27 (dk_at dksX0_firstNotFalling_0 2 rfl rfl)
theorem dX0_firstNotFalling_3 : decode cX0_firstNotFalling 3 = .ok (.aload_n 0, 1) := dk_42 (dk_at dksX0_firstNotFalling_0 3 rfl rfl)
theorem dX0_firstNotFalling_4 : decode cX0_firstNotFalling 4 = .ok (.getfield 157, 3) := dk_180 0 157 (dk_at dksX0_firstNotFalling_0 4 rfl rfl)
theorem dX0_firstNotFalling_7 : decode cX0_firstNotFalling 7 = .ok (.if_icmp .ge 19, 3) := dk_162 0 19 (dk_at dksX0_firstNotFalling_0 7 rfl rfl)
theorem dX0_firstNotFalling_10 : decode cX0_firstNotFalling 10 = .ok (.aload_n 0, 1) := dk_42 (dk_at dksX0_firstNotFalling_0 10 rfl rfl)
theorem dX0_firstNotFalling_11 : decode cX0_firstNotFalling 11 = .ok (.iload_n 1, 1) := dk_27 (dk_at dksX0_firstNotFalling_0 11 rfl rfl)
theorem dX0_firstNotFalling_12 : decode cX0_firstNotFalling 12 = .ok (.invokevirtual 1258, 3) := dk_182 4 234 (dk_at dksX0_firstNotFalling_0 12 rfl rfl)
theorem dX0_firstNotFalling_15 : decode cX0_firstNotFalling 15 = .ok (.ifCond .ne 5, 3) := dk_154 0 5 (dk_at dksX0_firstNotFalling_0 15 rfl rfl)
theorem dX0_firstNotFalling_18 : decode cX0_firstNotFalling 18 = .ok (.iload_n 1, 1) := dk_27 (dk_at dksX0_firstNotFalling_0 18 rfl rfl)
theorem dX0_firstNotFalling_19 : decode cX0_firstNotFalling 19 = .ok (.ireturn, 1) := dk_172 (dk_at dksX0_firstNotFalling_0 19 rfl rfl)
theorem dX0_firstNotFalling_20 : decode cX0_firstNotFalling 20 = .ok (.iinc 1 1, 3) := dk_132 1 1 (dk_at dksX0_firstNotFalling_0 20 rfl rfl)
theorem dX0_firstNotFalling_23 : decode cX0_firstNotFalling 23 = .ok (.goto (-21), 3) := dk_167 255 235 (dk_at dksX0_firstNotFalling_1 0 rfl rfl)
theorem dX0_firstNotFalling_26 : decode cX0_firstNotFalling 26 = .ok (.bipush (-2), 2) := dk_16 254 (dk_at dksX0_firstNotFalling_1 3 rfl rfl)
theorem dX0_firstNotFalling_28 : decode cX0_firstNotFalling 28 = .ok (.ireturn, 1) := dk_172 (dk_at dksX0_firstNotFalling_1 5 rfl rfl)
abbrev cX0_falls : ByteArray := prog_1_method_208_code
def yX0_falls : MethodName := ⟨RX0, "falls", "(I)Z"⟩
def dkwX0_falls_4 : List UInt8 := [132, 3, 1, 167, 255, 180, 28, 172]
abbrev dktX0_falls_4 : List UInt8 := dkwX0_falls_4 ++ []
def dkwX0_falls_3 : List UInt8 := [42, 180, 2, 183, 27, 46, 42, 180, 2, 198, 29, 46, 182, 4, 231, 153, 0, 7, 4, 167, 0, 4, 3, 61]
abbrev dktX0_falls_3 : List UInt8 := dkwX0_falls_3 ++ dktX0_falls_4
def dkwX0_falls_2 : List UInt8 := [46, 42, 180, 2, 201, 29, 46, 182, 4, 231, 153, 0, 36, 42, 180, 1, 127, 29, 46, 5, 159, 0, 22, 42]
abbrev dktX0_falls_2 : List UInt8 := dkwX0_falls_2 ++ dktX0_falls_3
def dkwX0_falls_1 : List UInt8 := [16, 6, 27, 104, 42, 180, 1, 100, 27, 46, 96, 162, 0, 67, 28, 153, 0, 63, 42, 42, 180, 2, 183, 27]
abbrev dktX0_falls_1 : List UInt8 := dkwX0_falls_1 ++ dktX0_falls_2
def dkwX0_falls_0 : List UInt8 := [42, 42, 180, 2, 183, 27, 46, 42, 180, 2, 192, 27, 46, 182, 4, 231, 61, 16, 6, 27, 104, 62, 29]
abbrev dktX0_falls_0 : List UInt8 := dkwX0_falls_0 ++ dktX0_falls_1
theorem dksX0_falls_0 : cX0_falls.data.toList.drop 0 = dktX0_falls_0 := by decide +kernel
theorem dksX0_falls_1 : cX0_falls.data.toList.drop 23 = dktX0_falls_1 := dk_seg dksX0_falls_0 23 rfl rfl
theorem dksX0_falls_2 : cX0_falls.data.toList.drop 47 = dktX0_falls_2 := dk_seg dksX0_falls_1 24 rfl rfl
theorem dksX0_falls_3 : cX0_falls.data.toList.drop 71 = dktX0_falls_3 := dk_seg dksX0_falls_2 24 rfl rfl
theorem dksX0_falls_4 : cX0_falls.data.toList.drop 95 = dktX0_falls_4 := dk_seg dksX0_falls_3 24 rfl rfl
theorem dX0_falls_0 : decode cX0_falls 0 = .ok (.aload_n 0, 1) := dk_42 (dk_at dksX0_falls_0 0 rfl rfl)
theorem dX0_falls_1 : decode cX0_falls 1 = .ok (.aload_n 0, 1) := dk_42 (dk_at dksX0_falls_0 1 rfl rfl)
theorem dX0_falls_2 : decode cX0_falls 2 = .ok (.getfield 695, 3) := dk_180 2 183 (dk_at dksX0_falls_0 2 rfl rfl)
theorem dX0_falls_5 : decode cX0_falls 5 = .ok (.iload_n 1, 1) := dk_27 (dk_at dksX0_falls_0 5 rfl rfl)
theorem dX0_falls_6 : decode cX0_falls 6 = .ok (.iaload, 1) := dk_46 (dk_at dksX0_falls_0 6 rfl rfl)
theorem dX0_falls_7 : decode cX0_falls 7 = .ok (.aload_n 0, 1) := dk_42 (dk_at dksX0_falls_0 7 rfl rfl)
theorem dX0_falls_8 : decode cX0_falls 8 = .ok (.getfield 704, 3) := dk_180 2 192 (dk_at dksX0_falls_0 8 rfl rfl)
theorem dX0_falls_11 : decode cX0_falls 11 = .ok (.iload_n 1, 1) := dk_27 (dk_at dksX0_falls_0 11 rfl rfl)
theorem dX0_falls_12 : decode cX0_falls 12 = .ok (.iaload, 1) := dk_46 (dk_at dksX0_falls_0 12 rfl rfl)
theorem dX0_falls_13 : decode cX0_falls 13 = .ok (.invokevirtual 1255, 3) := dk_182 4 231 (dk_at dksX0_falls_0 13 rfl rfl)
theorem dX0_falls_16 : decode cX0_falls 16 = .ok (.istore_n 2, 1) := dk_61 (dk_at dksX0_falls_0 16 rfl rfl)
theorem dX0_falls_17 : decode cX0_falls 17 = .ok (.bipush 6, 2) := dk_16 6 (dk_at dksX0_falls_0 17 rfl rfl)
theorem dX0_falls_19 : decode cX0_falls 19 = .ok (.iload_n 1, 1) := dk_27 (dk_at dksX0_falls_0 19 rfl rfl)
theorem dX0_falls_20 : decode cX0_falls 20 = .ok (.imul, 1) := dk_104 (dk_at dksX0_falls_0 20 rfl rfl)
theorem dX0_falls_21 : decode cX0_falls 21 = .ok (.istore_n 3, 1) := dk_62 (dk_at dksX0_falls_0 21 rfl rfl)
theorem dX0_falls_22 : decode cX0_falls 22 = .ok (.iload_n 3, 1) := dk_29 (dk_at dksX0_falls_0 22 rfl rfl)
theorem dX0_falls_23 : decode cX0_falls 23 = .ok (.bipush 6, 2) := dk_16 6 (dk_at dksX0_falls_1 0 rfl rfl)
theorem dX0_falls_25 : decode cX0_falls 25 = .ok (.iload_n 1, 1) := dk_27 (dk_at dksX0_falls_1 2 rfl rfl)
theorem dX0_falls_26 : decode cX0_falls 26 = .ok (.imul, 1) := dk_104 (dk_at dksX0_falls_1 3 rfl rfl)
theorem dX0_falls_27 : decode cX0_falls 27 = .ok (.aload_n 0, 1) := dk_42 (dk_at dksX0_falls_1 4 rfl rfl)
theorem dX0_falls_28 : decode cX0_falls 28 = .ok (.getfield 356, 3) := dk_180 1 100 (dk_at dksX0_falls_1 5 rfl rfl)
theorem dX0_falls_31 : decode cX0_falls 31 = .ok (.iload_n 1, 1) := dk_27 (dk_at dksX0_falls_1 8 rfl rfl)
theorem dX0_falls_32 : decode cX0_falls 32 = .ok (.iaload, 1) := dk_46 (dk_at dksX0_falls_1 9 rfl rfl)
theorem dX0_falls_33 : decode cX0_falls 33 = .ok (.iadd, 1) := dk_96 (dk_at dksX0_falls_1 10 rfl rfl)
theorem dX0_falls_34 : decode cX0_falls 34 = .ok (.if_icmp .ge 67, 3) := dk_162 0 67 (dk_at dksX0_falls_1 11 rfl rfl)
theorem dX0_falls_37 : decode cX0_falls 37 = .ok (.iload_n 2, 1) := dk_28 (dk_at dksX0_falls_1 14 rfl rfl)
theorem dX0_falls_38 : decode cX0_falls 38 = .ok (.ifCond .eq 63, 3) := dk_153 0 63 (dk_at dksX0_falls_1 15 rfl rfl)
theorem dX0_falls_41 : decode cX0_falls 41 = .ok (.aload_n 0, 1) := dk_42 (dk_at dksX0_falls_1 18 rfl rfl)
theorem dX0_falls_42 : decode cX0_falls 42 = .ok (.aload_n 0, 1) := dk_42 (dk_at dksX0_falls_1 19 rfl rfl)
theorem dX0_falls_43 : decode cX0_falls 43 = .ok (.getfield 695, 3) := dk_180 2 183 (dk_at dksX0_falls_1 20 rfl rfl)
theorem dX0_falls_46 : decode cX0_falls 46 = .ok (.iload_n 1, 1) := dk_27 (dk_at dksX0_falls_1 23 rfl rfl)
theorem dX0_falls_47 : decode cX0_falls 47 = .ok (.iaload, 1) := dk_46 (dk_at dksX0_falls_2 0 rfl rfl)
theorem dX0_falls_48 : decode cX0_falls 48 = .ok (.aload_n 0, 1) := dk_42 (dk_at dksX0_falls_2 1 rfl rfl)
theorem dX0_falls_49 : decode cX0_falls 49 = .ok (.getfield 713, 3) := dk_180 2 201 (dk_at dksX0_falls_2 2 rfl rfl)
theorem dX0_falls_52 : decode cX0_falls 52 = .ok (.iload_n 3, 1) := dk_29 (dk_at dksX0_falls_2 5 rfl rfl)
theorem dX0_falls_53 : decode cX0_falls 53 = .ok (.iaload, 1) := dk_46 (dk_at dksX0_falls_2 6 rfl rfl)
theorem dX0_falls_54 : decode cX0_falls 54 = .ok (.invokevirtual 1255, 3) := dk_182 4 231 (dk_at dksX0_falls_2 7 rfl rfl)
theorem dX0_falls_57 : decode cX0_falls 57 = .ok (.ifCond .eq 36, 3) := dk_153 0 36 (dk_at dksX0_falls_2 10 rfl rfl)
theorem dX0_falls_60 : decode cX0_falls 60 = .ok (.aload_n 0, 1) := dk_42 (dk_at dksX0_falls_2 13 rfl rfl)
theorem dX0_falls_61 : decode cX0_falls 61 = .ok (.getfield 383, 3) := dk_180 1 127 (dk_at dksX0_falls_2 14 rfl rfl)
theorem dX0_falls_64 : decode cX0_falls 64 = .ok (.iload_n 3, 1) := dk_29 (dk_at dksX0_falls_2 17 rfl rfl)
theorem dX0_falls_65 : decode cX0_falls 65 = .ok (.iaload, 1) := dk_46 (dk_at dksX0_falls_2 18 rfl rfl)
theorem dX0_falls_66 : decode cX0_falls 66 = .ok (.iconst 2, 1) := dk_5 (dk_at dksX0_falls_2 19 rfl rfl)
theorem dX0_falls_67 : decode cX0_falls 67 = .ok (.if_icmp .eq 22, 3) := dk_159 0 22 (dk_at dksX0_falls_2 20 rfl rfl)
theorem dX0_falls_70 : decode cX0_falls 70 = .ok (.aload_n 0, 1) := dk_42 (dk_at dksX0_falls_2 23 rfl rfl)
theorem dX0_falls_71 : decode cX0_falls 71 = .ok (.aload_n 0, 1) := dk_42 (dk_at dksX0_falls_3 0 rfl rfl)
theorem dX0_falls_72 : decode cX0_falls 72 = .ok (.getfield 695, 3) := dk_180 2 183 (dk_at dksX0_falls_3 1 rfl rfl)
theorem dX0_falls_75 : decode cX0_falls 75 = .ok (.iload_n 1, 1) := dk_27 (dk_at dksX0_falls_3 4 rfl rfl)
theorem dX0_falls_76 : decode cX0_falls 76 = .ok (.iaload, 1) := dk_46 (dk_at dksX0_falls_3 5 rfl rfl)
theorem dX0_falls_77 : decode cX0_falls 77 = .ok (.aload_n 0, 1) := dk_42 (dk_at dksX0_falls_3 6 rfl rfl)
theorem dX0_falls_78 : decode cX0_falls 78 = .ok (.getfield 710, 3) := dk_180 2 198 (dk_at dksX0_falls_3 7 rfl rfl)
theorem dX0_falls_81 : decode cX0_falls 81 = .ok (.iload_n 3, 1) := dk_29 (dk_at dksX0_falls_3 10 rfl rfl)
theorem dX0_falls_82 : decode cX0_falls 82 = .ok (.iaload, 1) := dk_46 (dk_at dksX0_falls_3 11 rfl rfl)
theorem dX0_falls_83 : decode cX0_falls 83 = .ok (.invokevirtual 1255, 3) := dk_182 4 231 (dk_at dksX0_falls_3 12 rfl rfl)
theorem dX0_falls_86 : decode cX0_falls 86 = .ok (.ifCond .eq 7, 3) := dk_153 0 7 (dk_at dksX0_falls_3 15 rfl rfl)
theorem dX0_falls_89 : decode cX0_falls 89 = .ok (.iconst 1, 1) := dk_4 (dk_at dksX0_falls_3 18 rfl rfl)
theorem dX0_falls_90 : decode cX0_falls 90 = .ok (.goto 4, 3) := dk_167 0 4 (dk_at dksX0_falls_3 19 rfl rfl)
theorem dX0_falls_93 : decode cX0_falls 93 = .ok (.iconst 0, 1) := dk_3 (dk_at dksX0_falls_3 22 rfl rfl)
theorem dX0_falls_94 : decode cX0_falls 94 = .ok (.istore_n 2, 1) := dk_61 (dk_at dksX0_falls_3 23 rfl rfl)
theorem dX0_falls_95 : decode cX0_falls 95 = .ok (.iinc 3 1, 3) := dk_132 3 1 (dk_at dksX0_falls_4 0 rfl rfl)
theorem dX0_falls_98 : decode cX0_falls 98 = .ok (.goto (-76), 3) := dk_167 255 180 (dk_at dksX0_falls_4 3 rfl rfl)
theorem dX0_falls_101 : decode cX0_falls 101 = .ok (.iload_n 2, 1) := dk_28 (dk_at dksX0_falls_4 6 rfl rfl)
theorem dX0_falls_102 : decode cX0_falls 102 = .ok (.ireturn, 1) := dk_172 (dk_at dksX0_falls_4 7 rfl rfl)
abbrev cX0_isAboveAnew : ByteArray := prog_1_method_207_code
def yX0_isAboveAnew : MethodName := ⟨RX0, "isAboveAnew", "(II)Z"⟩
def dkwX0_isAboveAnew_0 : List UInt8 := [42, 3, 181, 4, 204, 42, 27, 28, 182, 4, 216, 172]
abbrev dktX0_isAboveAnew_0 : List UInt8 := dkwX0_isAboveAnew_0 ++ []
theorem dksX0_isAboveAnew_0 : cX0_isAboveAnew.data.toList.drop 0 = dktX0_isAboveAnew_0 := by decide +kernel
theorem dX0_isAboveAnew_0 : decode cX0_isAboveAnew 0 = .ok (.aload_n 0, 1) := dk_42 (dk_at dksX0_isAboveAnew_0 0 rfl rfl)
theorem dX0_isAboveAnew_1 : decode cX0_isAboveAnew 1 = .ok (.iconst 0, 1) := dk_3 (dk_at dksX0_isAboveAnew_0 1 rfl rfl)
theorem dX0_isAboveAnew_2 : decode cX0_isAboveAnew 2 = .ok (.putfield 1228, 3) := dk_181 4 204 (dk_at dksX0_isAboveAnew_0 2 rfl rfl)
theorem dX0_isAboveAnew_5 : decode cX0_isAboveAnew 5 = .ok (.aload_n 0, 1) := dk_42 (dk_at dksX0_isAboveAnew_0 5 rfl rfl)
theorem dX0_isAboveAnew_6 : decode cX0_isAboveAnew 6 = .ok (.iload_n 1, 1) := dk_27 (dk_at dksX0_isAboveAnew_0 6 rfl rfl)
theorem dX0_isAboveAnew_7 : decode cX0_isAboveAnew 7 = .ok (.iload_n 2, 1) := dk_28 (dk_at dksX0_isAboveAnew_0 7 rfl rfl)
theorem dX0_isAboveAnew_8 : decode cX0_isAboveAnew 8 = .ok (.invokevirtual 1240, 3) := dk_182 4 216 (dk_at dksX0_isAboveAnew_0 8 rfl rfl)
theorem dX0_isAboveAnew_11 : decode cX0_isAboveAnew 11 = .ok (.ireturn, 1) := dk_172 (dk_at dksX0_isAboveAnew_0 11 rfl rfl)
abbrev cX0_isAbove : ByteArray := prog_1_method_202_code
def yX0_isAbove : MethodName := ⟨RX0, "isAbove", "(II)Z"⟩
def dkwX0_isAbove_8 : List UInt8 := [90, 4, 96, 181, 4, 204, 29, 153, 0, 7, 4, 167, 0, 4, 3, 145, 84, 29, 172]
abbrev dktX0_isAbove_8 : List UInt8 := dkwX0_isAbove_8 ++ []
def dkwX0_isAbove_7 : List UInt8 := [180, 4, 204, 27, 79, 42, 180, 4, 210, 42, 180, 4, 204, 28, 79, 42, 180, 4, 213, 42, 89, 180, 4, 204]
abbrev dktX0_isAbove_7 : List UInt8 := dkwX0_isAbove_7 ++ dktX0_isAbove_8
def dkwX0_isAbove_6 : List UInt8 := [153, 0, 7, 4, 167, 0, 4, 3, 62, 42, 180, 4, 204, 17, 6, 64, 162, 0, 49, 42, 180, 4, 207, 42]
abbrev dktX0_isAbove_6 : List UInt8 := dkwX0_isAbove_6 ++ dktX0_isAbove_7
def dkwX0_isAbove_5 : List UInt8 := [167, 255, 206, 29, 154, 0, 21, 42, 180, 2, 63, 28, 46, 155, 0, 16, 42, 27, 28, 182, 4, 219]
abbrev dktX0_isAbove_5 : List UInt8 := dkwX0_isAbove_5 ++ dktX0_isAbove_6
def dkwX0_isAbove_4 : List UInt8 := [42, 42, 27, 21, 4, 182, 2, 109, 28, 182, 4, 216, 153, 0, 7, 4, 167, 0, 4, 3, 62, 132, 4, 1]
abbrev dktX0_isAbove_4 : List UInt8 := dkwX0_isAbove_4 ++ dktX0_isAbove_5
def dkwX0_isAbove_3 : List UInt8 := [42, 180, 2, 66, 27, 46, 162, 0, 45, 29, 154, 0, 41, 42, 27, 21, 4, 182, 2, 109, 28, 159, 0, 18]
abbrev dktX0_isAbove_3 : List UInt8 := dkwX0_isAbove_3 ++ dktX0_isAbove_4
def dkwX0_isAbove_2 : List UInt8 := [51, 4, 160, 0, 7, 4, 167, 0, 4, 3, 172, 132, 3, 1, 167, 255, 209, 3, 62, 3, 54, 4, 21, 4]
abbrev dktX0_isAbove_2 : List UInt8 := dkwX0_isAbove_2 ++ dktX0_isAbove_3
def dkwX0_isAbove_1 : List UInt8 := [180, 4, 207, 29, 46, 27, 160, 0, 29, 42, 180, 4, 210, 29, 46, 28, 160, 0, 19, 42, 180, 4, 213, 29]
abbrev dktX0_isAbove_1 : List UInt8 := dkwX0_isAbove_1 ++ dktX0_isAbove_2
def dkwX0_isAbove_0 : List UInt8 := [42, 180, 2, 63, 27, 46, 156, 0, 5, 3, 172, 3, 62, 29, 42, 180, 4, 204, 162, 0, 45, 42]
abbrev dktX0_isAbove_0 : List UInt8 := dkwX0_isAbove_0 ++ dktX0_isAbove_1
theorem dksX0_isAbove_0 : cX0_isAbove.data.toList.drop 0 = dktX0_isAbove_0 := by decide +kernel
theorem dksX0_isAbove_1 : cX0_isAbove.data.toList.drop 22 = dktX0_isAbove_1 := dk_seg dksX0_isAbove_0 22 rfl rfl
theorem dksX0_isAbove_2 : cX0_isAbove.data.toList.drop 46 = dktX0_isAbove_2 := dk_seg dksX0_isAbove_1 24 rfl rfl
theorem dksX0_isAbove_3 : cX0_isAbove.data.toList.drop 70 = dktX0_isAbove_3 := dk_seg dksX0_isAbove_2 24 rfl rfl
theorem dksX0_isAbove_4 : cX0_isAbove.data.toList.drop 94 = dktX0_isAbove_4 := dk_seg dksX0_isAbove_3 24 rfl rfl
theorem dksX0_isAbove_5 : cX0_isAbove.data.toList.drop 118 = dktX0_isAbove_5 := dk_seg dksX0_isAbove_4 24 rfl rfl
theorem dksX0_isAbove_6 : cX0_isAbove.data.toList.drop 140 = dktX0_isAbove_6 := dk_seg dksX0_isAbove_5 22 rfl rfl
theorem dksX0_isAbove_7 : cX0_isAbove.data.toList.drop 164 = dktX0_isAbove_7 := dk_seg dksX0_isAbove_6 24 rfl rfl
theorem dksX0_isAbove_8 : cX0_isAbove.data.toList.drop 188 = dktX0_isAbove_8 := dk_seg dksX0_isAbove_7 24 rfl rfl
theorem dX0_isAbove_0 : decode cX0_isAbove 0 = .ok (.aload_n 0, 1) := dk_42 (dk_at dksX0_isAbove_0 0 rfl rfl)
theorem dX0_isAbove_1 : decode cX0_isAbove 1 = .ok (.getfield 575, 3) := dk_180 2 63 (dk_at dksX0_isAbove_0 1 rfl rfl)
theorem dX0_isAbove_4 : decode cX0_isAbove 4 = .ok (.iload_n 1, 1) := dk_27 (dk_at dksX0_isAbove_0 4 rfl rfl)
theorem dX0_isAbove_5 : decode cX0_isAbove 5 = .ok (.iaload, 1) := dk_46 (dk_at dksX0_isAbove_0 5 rfl rfl)
theorem dX0_isAbove_6 : decode cX0_isAbove 6 = .ok (.ifCond .ge 5, 3) := dk_156 0 5 (dk_at dksX0_isAbove_0 6 rfl rfl)
theorem dX0_isAbove_9 : decode cX0_isAbove 9 = .ok (.iconst 0, 1) := dk_3 (dk_at dksX0_isAbove_0 9 rfl rfl)
theorem dX0_isAbove_10 : decode cX0_isAbove 10 = .ok (.ireturn, 1) := dk_172 (dk_at dksX0_isAbove_0 10 rfl rfl)
theorem dX0_isAbove_11 : decode cX0_isAbove 11 = .ok (.iconst 0, 1) := dk_3 (dk_at dksX0_isAbove_0 11 rfl rfl)
theorem dX0_isAbove_12 : decode cX0_isAbove 12 = .ok (.istore_n 3, 1) := dk_62 (dk_at dksX0_isAbove_0 12 rfl rfl)
theorem dX0_isAbove_13 : decode cX0_isAbove 13 = .ok (.iload_n 3, 1) := dk_29 (dk_at dksX0_isAbove_0 13 rfl rfl)
theorem dX0_isAbove_14 : decode cX0_isAbove 14 = .ok (.aload_n 0, 1) := dk_42 (dk_at dksX0_isAbove_0 14 rfl rfl)
theorem dX0_isAbove_15 : decode cX0_isAbove 15 = .ok (.getfield 1228, 3) := dk_180 4 204 (dk_at dksX0_isAbove_0 15 rfl rfl)
theorem dX0_isAbove_18 : decode cX0_isAbove 18 = .ok (.if_icmp .ge 45, 3) := dk_162 0 45 (dk_at dksX0_isAbove_0 18 rfl rfl)
theorem dX0_isAbove_21 : decode cX0_isAbove 21 = .ok (.aload_n 0, 1) := dk_42 (dk_at dksX0_isAbove_0 21 rfl rfl)
theorem dX0_isAbove_22 : decode cX0_isAbove 22 = .ok (.getfield 1231, 3) := dk_180 4 207 (dk_at dksX0_isAbove_1 0 rfl rfl)
theorem dX0_isAbove_25 : decode cX0_isAbove 25 = .ok (.iload_n 3, 1) := dk_29 (dk_at dksX0_isAbove_1 3 rfl rfl)
theorem dX0_isAbove_26 : decode cX0_isAbove 26 = .ok (.iaload, 1) := dk_46 (dk_at dksX0_isAbove_1 4 rfl rfl)
theorem dX0_isAbove_27 : decode cX0_isAbove 27 = .ok (.iload_n 1, 1) := dk_27 (dk_at dksX0_isAbove_1 5 rfl rfl)
theorem dX0_isAbove_28 : decode cX0_isAbove 28 = .ok (.if_icmp .ne 29, 3) := dk_160 0 29 (dk_at dksX0_isAbove_1 6 rfl rfl)
theorem dX0_isAbove_31 : decode cX0_isAbove 31 = .ok (.aload_n 0, 1) := dk_42 (dk_at dksX0_isAbove_1 9 rfl rfl)
theorem dX0_isAbove_32 : decode cX0_isAbove 32 = .ok (.getfield 1234, 3) := dk_180 4 210 (dk_at dksX0_isAbove_1 10 rfl rfl)
theorem dX0_isAbove_35 : decode cX0_isAbove 35 = .ok (.iload_n 3, 1) := dk_29 (dk_at dksX0_isAbove_1 13 rfl rfl)
theorem dX0_isAbove_36 : decode cX0_isAbove 36 = .ok (.iaload, 1) := dk_46 (dk_at dksX0_isAbove_1 14 rfl rfl)
theorem dX0_isAbove_37 : decode cX0_isAbove 37 = .ok (.iload_n 2, 1) := dk_28 (dk_at dksX0_isAbove_1 15 rfl rfl)
theorem dX0_isAbove_38 : decode cX0_isAbove 38 = .ok (.if_icmp .ne 19, 3) := dk_160 0 19 (dk_at dksX0_isAbove_1 16 rfl rfl)
theorem dX0_isAbove_41 : decode cX0_isAbove 41 = .ok (.aload_n 0, 1) := dk_42 (dk_at dksX0_isAbove_1 19 rfl rfl)
theorem dX0_isAbove_42 : decode cX0_isAbove 42 = .ok (.getfield 1237, 3) := dk_180 4 213 (dk_at dksX0_isAbove_1 20 rfl rfl)
theorem dX0_isAbove_45 : decode cX0_isAbove 45 = .ok (.iload_n 3, 1) := dk_29 (dk_at dksX0_isAbove_1 23 rfl rfl)
theorem dX0_isAbove_46 : decode cX0_isAbove 46 = .ok (.baload, 1) := dk_51 (dk_at dksX0_isAbove_2 0 rfl rfl)
theorem dX0_isAbove_47 : decode cX0_isAbove 47 = .ok (.iconst 1, 1) := dk_4 (dk_at dksX0_isAbove_2 1 rfl rfl)
theorem dX0_isAbove_48 : decode cX0_isAbove 48 = .ok (.if_icmp .ne 7, 3) := dk_160 0 7 (dk_at dksX0_isAbove_2 2 rfl rfl)
theorem dX0_isAbove_51 : decode cX0_isAbove 51 = .ok (.iconst 1, 1) := dk_4 (dk_at dksX0_isAbove_2 5 rfl rfl)
theorem dX0_isAbove_52 : decode cX0_isAbove 52 = .ok (.goto 4, 3) := dk_167 0 4 (dk_at dksX0_isAbove_2 6 rfl rfl)
theorem dX0_isAbove_55 : decode cX0_isAbove 55 = .ok (.iconst 0, 1) := dk_3 (dk_at dksX0_isAbove_2 9 rfl rfl)
theorem dX0_isAbove_56 : decode cX0_isAbove 56 = .ok (.ireturn, 1) := dk_172 (dk_at dksX0_isAbove_2 10 rfl rfl)
theorem dX0_isAbove_57 : decode cX0_isAbove 57 = .ok (.iinc 3 1, 3) := dk_132 3 1 (dk_at dksX0_isAbove_2 11 rfl rfl)
theorem dX0_isAbove_60 : decode cX0_isAbove 60 = .ok (.goto (-47), 3) := dk_167 255 209 (dk_at dksX0_isAbove_2 14 rfl rfl)
theorem dX0_isAbove_63 : decode cX0_isAbove 63 = .ok (.iconst 0, 1) := dk_3 (dk_at dksX0_isAbove_2 17 rfl rfl)
theorem dX0_isAbove_64 : decode cX0_isAbove 64 = .ok (.istore_n 3, 1) := dk_62 (dk_at dksX0_isAbove_2 18 rfl rfl)
theorem dX0_isAbove_65 : decode cX0_isAbove 65 = .ok (.iconst 0, 1) := dk_3 (dk_at dksX0_isAbove_2 19 rfl rfl)
theorem dX0_isAbove_66 : decode cX0_isAbove 66 = .ok (.istore 4, 2) := dk_54 4 (dk_at dksX0_isAbove_2 20 rfl rfl)
theorem dX0_isAbove_68 : decode cX0_isAbove 68 = .ok (.iload 4, 2) := dk_21 4 (dk_at dksX0_isAbove_2 22 rfl rfl)
theorem dX0_isAbove_70 : decode cX0_isAbove 70 = .ok (.aload_n 0, 1) := dk_42 (dk_at dksX0_isAbove_3 0 rfl rfl)
theorem dX0_isAbove_71 : decode cX0_isAbove 71 = .ok (.getfield 578, 3) := dk_180 2 66 (dk_at dksX0_isAbove_3 1 rfl rfl)
theorem dX0_isAbove_74 : decode cX0_isAbove 74 = .ok (.iload_n 1, 1) := dk_27 (dk_at dksX0_isAbove_3 4 rfl rfl)
theorem dX0_isAbove_75 : decode cX0_isAbove 75 = .ok (.iaload, 1) := dk_46 (dk_at dksX0_isAbove_3 5 rfl rfl)
theorem dX0_isAbove_76 : decode cX0_isAbove 76 = .ok (.if_icmp .ge 45, 3) := dk_162 0 45 (dk_at dksX0_isAbove_3 6 rfl rfl)
theorem dX0_isAbove_79 : decode cX0_isAbove 79 = .ok (.iload_n 3, 1) := dk_29 (dk_at dksX0_isAbove_3 9 rfl rfl)
theorem dX0_isAbove_80 : decode cX0_isAbove 80 = .ok (.ifCond .ne 41, 3) := dk_154 0 41 (dk_at dksX0_isAbove_3 10 rfl rfl)
theorem dX0_isAbove_83 : decode cX0_isAbove 83 = .ok (.aload_n 0, 1) := dk_42 (dk_at dksX0_isAbove_3 13 rfl rfl)
theorem dX0_isAbove_84 : decode cX0_isAbove 84 = .ok (.iload_n 1, 1) := dk_27 (dk_at dksX0_isAbove_3 14 rfl rfl)
theorem dX0_isAbove_85 : decode cX0_isAbove 85 = .ok (.iload 4, 2) := dk_21 4 (dk_at dksX0_isAbove_3 15 rfl rfl)
theorem dX0_isAbove_87 : decode cX0_isAbove 87 = .ok (.invokevirtual 621, 3) := dk_182 2 109 (dk_at dksX0_isAbove_3 17 rfl rfl)
theorem dX0_isAbove_90 : decode cX0_isAbove 90 = .ok (.iload_n 2, 1) := dk_28 (dk_at dksX0_isAbove_3 20 rfl rfl)
theorem dX0_isAbove_91 : decode cX0_isAbove 91 = .ok (.if_icmp .eq 18, 3) := dk_159 0 18 (dk_at dksX0_isAbove_3 21 rfl rfl)
theorem dX0_isAbove_94 : decode cX0_isAbove 94 = .ok (.aload_n 0, 1) := dk_42 (dk_at dksX0_isAbove_4 0 rfl rfl)
theorem dX0_isAbove_95 : decode cX0_isAbove 95 = .ok (.aload_n 0, 1) := dk_42 (dk_at dksX0_isAbove_4 1 rfl rfl)
theorem dX0_isAbove_96 : decode cX0_isAbove 96 = .ok (.iload_n 1, 1) := dk_27 (dk_at dksX0_isAbove_4 2 rfl rfl)
theorem dX0_isAbove_97 : decode cX0_isAbove 97 = .ok (.iload 4, 2) := dk_21 4 (dk_at dksX0_isAbove_4 3 rfl rfl)
theorem dX0_isAbove_99 : decode cX0_isAbove 99 = .ok (.invokevirtual 621, 3) := dk_182 2 109 (dk_at dksX0_isAbove_4 5 rfl rfl)
theorem dX0_isAbove_102 : decode cX0_isAbove 102 = .ok (.iload_n 2, 1) := dk_28 (dk_at dksX0_isAbove_4 8 rfl rfl)
theorem dX0_isAbove_103 : decode cX0_isAbove 103 = .ok (.invokevirtual 1240, 3) := dk_182 4 216 (dk_at dksX0_isAbove_4 9 rfl rfl)
theorem dX0_isAbove_106 : decode cX0_isAbove 106 = .ok (.ifCond .eq 7, 3) := dk_153 0 7 (dk_at dksX0_isAbove_4 12 rfl rfl)
theorem dX0_isAbove_109 : decode cX0_isAbove 109 = .ok (.iconst 1, 1) := dk_4 (dk_at dksX0_isAbove_4 15 rfl rfl)
theorem dX0_isAbove_110 : decode cX0_isAbove 110 = .ok (.goto 4, 3) := dk_167 0 4 (dk_at dksX0_isAbove_4 16 rfl rfl)
theorem dX0_isAbove_113 : decode cX0_isAbove 113 = .ok (.iconst 0, 1) := dk_3 (dk_at dksX0_isAbove_4 19 rfl rfl)
theorem dX0_isAbove_114 : decode cX0_isAbove 114 = .ok (.istore_n 3, 1) := dk_62 (dk_at dksX0_isAbove_4 20 rfl rfl)
theorem dX0_isAbove_115 : decode cX0_isAbove 115 = .ok (.iinc 4 1, 3) := dk_132 4 1 (dk_at dksX0_isAbove_4 21 rfl rfl)
theorem dX0_isAbove_118 : decode cX0_isAbove 118 = .ok (.goto (-50), 3) := dk_167 255 206 (dk_at dksX0_isAbove_5 0 rfl rfl)
theorem dX0_isAbove_121 : decode cX0_isAbove 121 = .ok (.iload_n 3, 1) := dk_29 (dk_at dksX0_isAbove_5 3 rfl rfl)
theorem dX0_isAbove_122 : decode cX0_isAbove 122 = .ok (.ifCond .ne 21, 3) := dk_154 0 21 (dk_at dksX0_isAbove_5 4 rfl rfl)
theorem dX0_isAbove_125 : decode cX0_isAbove 125 = .ok (.aload_n 0, 1) := dk_42 (dk_at dksX0_isAbove_5 7 rfl rfl)
theorem dX0_isAbove_126 : decode cX0_isAbove 126 = .ok (.getfield 575, 3) := dk_180 2 63 (dk_at dksX0_isAbove_5 8 rfl rfl)
theorem dX0_isAbove_129 : decode cX0_isAbove 129 = .ok (.iload_n 2, 1) := dk_28 (dk_at dksX0_isAbove_5 11 rfl rfl)
theorem dX0_isAbove_130 : decode cX0_isAbove 130 = .ok (.iaload, 1) := dk_46 (dk_at dksX0_isAbove_5 12 rfl rfl)
theorem dX0_isAbove_131 : decode cX0_isAbove 131 = .ok (.ifCond .lt 16, 3) := dk_155 0 16 (dk_at dksX0_isAbove_5 13 rfl rfl)
theorem dX0_isAbove_134 : decode cX0_isAbove 134 = .ok (.aload_n 0, 1) := dk_42 (dk_at dksX0_isAbove_5 16 rfl rfl)
theorem dX0_isAbove_135 : decode cX0_isAbove 135 = .ok (.iload_n 1, 1) := dk_27 (dk_at dksX0_isAbove_5 17 rfl rfl)
theorem dX0_isAbove_136 : decode cX0_isAbove 136 = .ok (.iload_n 2, 1) := dk_28 (dk_at dksX0_isAbove_5 18 rfl rfl)
theorem dX0_isAbove_137 : decode cX0_isAbove 137 = .ok (.invokevirtual 1243, 3) := dk_182 4 219 (dk_at dksX0_isAbove_5 19 rfl rfl)
theorem dX0_isAbove_140 : decode cX0_isAbove 140 = .ok (.ifCond .eq 7, 3) := dk_153 0 7 (dk_at dksX0_isAbove_6 0 rfl rfl)
theorem dX0_isAbove_143 : decode cX0_isAbove 143 = .ok (.iconst 1, 1) := dk_4 (dk_at dksX0_isAbove_6 3 rfl rfl)
theorem dX0_isAbove_144 : decode cX0_isAbove 144 = .ok (.goto 4, 3) := dk_167 0 4 (dk_at dksX0_isAbove_6 4 rfl rfl)
theorem dX0_isAbove_147 : decode cX0_isAbove 147 = .ok (.iconst 0, 1) := dk_3 (dk_at dksX0_isAbove_6 7 rfl rfl)
theorem dX0_isAbove_148 : decode cX0_isAbove 148 = .ok (.istore_n 3, 1) := dk_62 (dk_at dksX0_isAbove_6 8 rfl rfl)
theorem dX0_isAbove_149 : decode cX0_isAbove 149 = .ok (.aload_n 0, 1) := dk_42 (dk_at dksX0_isAbove_6 9 rfl rfl)
theorem dX0_isAbove_150 : decode cX0_isAbove 150 = .ok (.getfield 1228, 3) := dk_180 4 204 (dk_at dksX0_isAbove_6 10 rfl rfl)
theorem dX0_isAbove_153 : decode cX0_isAbove 153 = .ok (.sipush 1600, 3) := dk_17 6 64 (dk_at dksX0_isAbove_6 13 rfl rfl)
theorem dX0_isAbove_156 : decode cX0_isAbove 156 = .ok (.if_icmp .ge 49, 3) := dk_162 0 49 (dk_at dksX0_isAbove_6 16 rfl rfl)
theorem dX0_isAbove_159 : decode cX0_isAbove 159 = .ok (.aload_n 0, 1) := dk_42 (dk_at dksX0_isAbove_6 19 rfl rfl)
theorem dX0_isAbove_160 : decode cX0_isAbove 160 = .ok (.getfield 1231, 3) := dk_180 4 207 (dk_at dksX0_isAbove_6 20 rfl rfl)
theorem dX0_isAbove_163 : decode cX0_isAbove 163 = .ok (.aload_n 0, 1) := dk_42 (dk_at dksX0_isAbove_6 23 rfl rfl)
theorem dX0_isAbove_164 : decode cX0_isAbove 164 = .ok (.getfield 1228, 3) := dk_180 4 204 (dk_at dksX0_isAbove_7 0 rfl rfl)
theorem dX0_isAbove_167 : decode cX0_isAbove 167 = .ok (.iload_n 1, 1) := dk_27 (dk_at dksX0_isAbove_7 3 rfl rfl)
theorem dX0_isAbove_168 : decode cX0_isAbove 168 = .ok (.iastore, 1) := dk_79 (dk_at dksX0_isAbove_7 4 rfl rfl)
theorem dX0_isAbove_169 : decode cX0_isAbove 169 = .ok (.aload_n 0, 1) := dk_42 (dk_at dksX0_isAbove_7 5 rfl rfl)
theorem dX0_isAbove_170 : decode cX0_isAbove 170 = .ok (.getfield 1234, 3) := dk_180 4 210 (dk_at dksX0_isAbove_7 6 rfl rfl)
theorem dX0_isAbove_173 : decode cX0_isAbove 173 = .ok (.aload_n 0, 1) := dk_42 (dk_at dksX0_isAbove_7 9 rfl rfl)
theorem dX0_isAbove_174 : decode cX0_isAbove 174 = .ok (.getfield 1228, 3) := dk_180 4 204 (dk_at dksX0_isAbove_7 10 rfl rfl)
theorem dX0_isAbove_177 : decode cX0_isAbove 177 = .ok (.iload_n 2, 1) := dk_28 (dk_at dksX0_isAbove_7 13 rfl rfl)
theorem dX0_isAbove_178 : decode cX0_isAbove 178 = .ok (.iastore, 1) := dk_79 (dk_at dksX0_isAbove_7 14 rfl rfl)
theorem dX0_isAbove_179 : decode cX0_isAbove 179 = .ok (.aload_n 0, 1) := dk_42 (dk_at dksX0_isAbove_7 15 rfl rfl)
theorem dX0_isAbove_180 : decode cX0_isAbove 180 = .ok (.getfield 1237, 3) := dk_180 4 213 (dk_at dksX0_isAbove_7 16 rfl rfl)
theorem dX0_isAbove_183 : decode cX0_isAbove 183 = .ok (.aload_n 0, 1) := dk_42 (dk_at dksX0_isAbove_7 19 rfl rfl)
theorem dX0_isAbove_184 : decode cX0_isAbove 184 = .ok (.dup, 1) := dk_89 (dk_at dksX0_isAbove_7 20 rfl rfl)
theorem dX0_isAbove_185 : decode cX0_isAbove 185 = .ok (.getfield 1228, 3) := dk_180 4 204 (dk_at dksX0_isAbove_7 21 rfl rfl)
theorem dX0_isAbove_188 : decode cX0_isAbove 188 = .ok (.dup_x1, 1) := dk_90 (dk_at dksX0_isAbove_8 0 rfl rfl)
theorem dX0_isAbove_189 : decode cX0_isAbove 189 = .ok (.iconst 1, 1) := dk_4 (dk_at dksX0_isAbove_8 1 rfl rfl)
theorem dX0_isAbove_190 : decode cX0_isAbove 190 = .ok (.iadd, 1) := dk_96 (dk_at dksX0_isAbove_8 2 rfl rfl)
theorem dX0_isAbove_191 : decode cX0_isAbove 191 = .ok (.putfield 1228, 3) := dk_181 4 204 (dk_at dksX0_isAbove_8 3 rfl rfl)
theorem dX0_isAbove_194 : decode cX0_isAbove 194 = .ok (.iload_n 3, 1) := dk_29 (dk_at dksX0_isAbove_8 6 rfl rfl)
theorem dX0_isAbove_195 : decode cX0_isAbove 195 = .ok (.ifCond .eq 7, 3) := dk_153 0 7 (dk_at dksX0_isAbove_8 7 rfl rfl)
theorem dX0_isAbove_198 : decode cX0_isAbove 198 = .ok (.iconst 1, 1) := dk_4 (dk_at dksX0_isAbove_8 10 rfl rfl)
theorem dX0_isAbove_199 : decode cX0_isAbove 199 = .ok (.goto 4, 3) := dk_167 0 4 (dk_at dksX0_isAbove_8 11 rfl rfl)
theorem dX0_isAbove_202 : decode cX0_isAbove 202 = .ok (.iconst 0, 1) := dk_3 (dk_at dksX0_isAbove_8 14 rfl rfl)
theorem dX0_isAbove_203 : decode cX0_isAbove 203 = .ok (.i2b, 1) := dk_145 (dk_at dksX0_isAbove_8 15 rfl rfl)
theorem dX0_isAbove_204 : decode cX0_isAbove 204 = .ok (.bastore, 1) := dk_84 (dk_at dksX0_isAbove_8 16 rfl rfl)
theorem dX0_isAbove_205 : decode cX0_isAbove 205 = .ok (.iload_n 3, 1) := dk_29 (dk_at dksX0_isAbove_8 17 rfl rfl)
theorem dX0_isAbove_206 : decode cX0_isAbove 206 = .ok (.ireturn, 1) := dk_172 (dk_at dksX0_isAbove_8 18 rfl rfl)
abbrev cX0_isAboveRow : ByteArray := prog_1_method_203_code
def yX0_isAboveRow : MethodName := ⟨RX0, "isAboveRow", "(II)Z"⟩
def dkwX0_isAboveRow_6 : List UInt8 := [172, 132, 4, 1, 167, 255, 206, 3, 172]
abbrev dktX0_isAboveRow_6 : List UInt8 := dkwX0_isAboveRow_6 ++ []
def dkwX0_isAboveRow_5 : List UInt8 := [182, 2, 109, 159, 0, 22, 42, 42, 27, 21, 4, 182, 2, 109, 42, 28, 21, 4, 182, 2, 109, 182, 4, 216]
abbrev dktX0_isAboveRow_5 : List UInt8 := dkwX0_isAboveRow_5 ++ dktX0_isAboveRow_6
def dkwX0_isAboveRow_4 : List UInt8 := [21, 4, 42, 180, 2, 66, 27, 46, 162, 0, 45, 42, 27, 21, 4, 182, 2, 109, 42, 28, 21, 4]
abbrev dktX0_isAboveRow_4 : List UInt8 := dkwX0_isAboveRow_4 ++ dktX0_isAboveRow_5
def dkwX0_isAboveRow_3 : List UInt8 := [29, 51, 154, 0, 12, 42, 180, 1, 229, 29, 51, 153, 0, 10, 42, 27, 28, 182, 4, 222, 172, 3, 54, 4]
abbrev dktX0_isAboveRow_3 : List UInt8 := dkwX0_isAboveRow_3 ++ dktX0_isAboveRow_4
def dkwX0_isAboveRow_2 : List UInt8 := [46, 159, 0, 19, 29, 42, 180, 2, 63, 28, 46, 164, 0, 7, 4, 167, 0, 4, 3, 172, 42, 180, 1, 232]
abbrev dktX0_isAboveRow_2 : List UInt8 := dkwX0_isAboveRow_2 ++ dktX0_isAboveRow_3
def dkwX0_isAboveRow_1 : List UInt8 := [154, 0, 5, 3, 172, 132, 3, 1, 167, 255, 227, 42, 180, 2, 63, 27, 46, 62, 29, 42, 180, 2, 63, 28]
abbrev dktX0_isAboveRow_1 : List UInt8 := dkwX0_isAboveRow_1 ++ dktX0_isAboveRow_2
def dkwX0_isAboveRow_0 : List UInt8 := [3, 62, 29, 42, 180, 2, 66, 28, 46, 162, 0, 25, 42, 27, 42, 28, 29, 182, 2, 109, 182, 4, 216]
abbrev dktX0_isAboveRow_0 : List UInt8 := dkwX0_isAboveRow_0 ++ dktX0_isAboveRow_1
theorem dksX0_isAboveRow_0 : cX0_isAboveRow.data.toList.drop 0 = dktX0_isAboveRow_0 := by decide +kernel
theorem dksX0_isAboveRow_1 : cX0_isAboveRow.data.toList.drop 23 = dktX0_isAboveRow_1 := dk_seg dksX0_isAboveRow_0 23 rfl rfl
theorem dksX0_isAboveRow_2 : cX0_isAboveRow.data.toList.drop 47 = dktX0_isAboveRow_2 := dk_seg dksX0_isAboveRow_1 24 rfl rfl
theorem dksX0_isAboveRow_3 : cX0_isAboveRow.data.toList.drop 71 = dktX0_isAboveRow_3 := dk_seg dksX0_isAboveRow_2 24 rfl rfl
theorem dksX0_isAboveRow_4 : cX0_isAboveRow.data.toList.drop 95 = dktX0_isAboveRow_4 := dk_seg dksX0_isAboveRow_3 24 rfl rfl
theorem dksX0_isAboveRow_5 : cX0_isAboveRow.data.toList.drop 117 = dktX0_isAboveRow_5 := dk_seg dksX0_isAboveRow_4 22 rfl rfl
theorem dksX0_isAboveRow_6 : cX0_isAboveRow.data.toList.drop 141 = dktX0_isAboveRow_6 := dk_seg dksX0_isAboveRow_5 24 rfl rfl
theorem dX0_isAboveRow_0 : decode cX0_isAboveRow 0 = .ok (.iconst 0, 1) := dk_3 (dk_at dksX0_isAboveRow_0 0 rfl rfl)
theorem dX0_isAboveRow_1 : decode cX0_isAboveRow 1 = .ok (.istore_n 3, 1) := dk_62 (dk_at dksX0_isAboveRow_0 1 rfl rfl)
theorem dX0_isAboveRow_2 : decode cX0_isAboveRow 2 = .ok (.iload_n 3, 1) := dk_29 (dk_at dksX0_isAboveRow_0 2 rfl rfl)
theorem dX0_isAboveRow_3 : decode cX0_isAboveRow 3 = .ok (.aload_n 0, 1) := dk_42 (dk_at dksX0_isAboveRow_0 3 rfl rfl)
theorem dX0_isAboveRow_4 : decode cX0_isAboveRow 4 = .ok (.getfield 578, 3) := dk_180 2 66 (dk_at dksX0_isAboveRow_0 4 rfl rfl)
theorem dX0_isAboveRow_7 : decode cX0_isAboveRow 7 = .ok (.iload_n 2, 1) := dk_28 (dk_at dksX0_isAboveRow_0 7 rfl rfl)
theorem dX0_isAboveRow_8 : decode cX0_isAboveRow 8 = .ok (.iaload, 1) := dk_46 (dk_at dksX0_isAboveRow_0 8 rfl rfl)
theorem dX0_isAboveRow_9 : decode cX0_isAboveRow 9 = .ok (.if_icmp .ge 25, 3) := dk_162 0 25 (dk_at dksX0_isAboveRow_0 9 rfl rfl)
theorem dX0_isAboveRow_12 : decode cX0_isAboveRow 12 = .ok (.aload_n 0, 1) := dk_42 (dk_at dksX0_isAboveRow_0 12 rfl rfl)
theorem dX0_isAboveRow_13 : decode cX0_isAboveRow 13 = .ok (.iload_n 1, 1) := dk_27 (dk_at dksX0_isAboveRow_0 13 rfl rfl)
theorem dX0_isAboveRow_14 : decode cX0_isAboveRow 14 = .ok (.aload_n 0, 1) := dk_42 (dk_at dksX0_isAboveRow_0 14 rfl rfl)
theorem dX0_isAboveRow_15 : decode cX0_isAboveRow 15 = .ok (.iload_n 2, 1) := dk_28 (dk_at dksX0_isAboveRow_0 15 rfl rfl)
theorem dX0_isAboveRow_16 : decode cX0_isAboveRow 16 = .ok (.iload_n 3, 1) := dk_29 (dk_at dksX0_isAboveRow_0 16 rfl rfl)
theorem dX0_isAboveRow_17 : decode cX0_isAboveRow 17 = .ok (.invokevirtual 621, 3) := dk_182 2 109 (dk_at dksX0_isAboveRow_0 17 rfl rfl)
theorem dX0_isAboveRow_20 : decode cX0_isAboveRow 20 = .ok (.invokevirtual 1240, 3) := dk_182 4 216 (dk_at dksX0_isAboveRow_0 20 rfl rfl)
theorem dX0_isAboveRow_23 : decode cX0_isAboveRow 23 = .ok (.ifCond .ne 5, 3) := dk_154 0 5 (dk_at dksX0_isAboveRow_1 0 rfl rfl)
theorem dX0_isAboveRow_26 : decode cX0_isAboveRow 26 = .ok (.iconst 0, 1) := dk_3 (dk_at dksX0_isAboveRow_1 3 rfl rfl)
theorem dX0_isAboveRow_27 : decode cX0_isAboveRow 27 = .ok (.ireturn, 1) := dk_172 (dk_at dksX0_isAboveRow_1 4 rfl rfl)
theorem dX0_isAboveRow_28 : decode cX0_isAboveRow 28 = .ok (.iinc 3 1, 3) := dk_132 3 1 (dk_at dksX0_isAboveRow_1 5 rfl rfl)
theorem dX0_isAboveRow_31 : decode cX0_isAboveRow 31 = .ok (.goto (-29), 3) := dk_167 255 227 (dk_at dksX0_isAboveRow_1 8 rfl rfl)
theorem dX0_isAboveRow_34 : decode cX0_isAboveRow 34 = .ok (.aload_n 0, 1) := dk_42 (dk_at dksX0_isAboveRow_1 11 rfl rfl)
theorem dX0_isAboveRow_35 : decode cX0_isAboveRow 35 = .ok (.getfield 575, 3) := dk_180 2 63 (dk_at dksX0_isAboveRow_1 12 rfl rfl)
theorem dX0_isAboveRow_38 : decode cX0_isAboveRow 38 = .ok (.iload_n 1, 1) := dk_27 (dk_at dksX0_isAboveRow_1 15 rfl rfl)
theorem dX0_isAboveRow_39 : decode cX0_isAboveRow 39 = .ok (.iaload, 1) := dk_46 (dk_at dksX0_isAboveRow_1 16 rfl rfl)
theorem dX0_isAboveRow_40 : decode cX0_isAboveRow 40 = .ok (.istore_n 3, 1) := dk_62 (dk_at dksX0_isAboveRow_1 17 rfl rfl)
theorem dX0_isAboveRow_41 : decode cX0_isAboveRow 41 = .ok (.iload_n 3, 1) := dk_29 (dk_at dksX0_isAboveRow_1 18 rfl rfl)
theorem dX0_isAboveRow_42 : decode cX0_isAboveRow 42 = .ok (.aload_n 0, 1) := dk_42 (dk_at dksX0_isAboveRow_1 19 rfl rfl)
theorem dX0_isAboveRow_43 : decode cX0_isAboveRow 43 = .ok (.getfield 575, 3) := dk_180 2 63 (dk_at dksX0_isAboveRow_1 20 rfl rfl)
theorem dX0_isAboveRow_46 : decode cX0_isAboveRow 46 = .ok (.iload_n 2, 1) := dk_28 (dk_at dksX0_isAboveRow_1 23 rfl rfl)
theorem dX0_isAboveRow_47 : decode cX0_isAboveRow 47 = .ok (.iaload, 1) := dk_46 (dk_at dksX0_isAboveRow_2 0 rfl rfl)
theorem dX0_isAboveRow_48 : decode cX0_isAboveRow 48 = .ok (.if_icmp .eq 19, 3) := dk_159 0 19 (dk_at dksX0_isAboveRow_2 1 rfl rfl)
theorem dX0_isAboveRow_51 : decode cX0_isAboveRow 51 = .ok (.iload_n 3, 1) := dk_29 (dk_at dksX0_isAboveRow_2 4 rfl rfl)
theorem dX0_isAboveRow_52 : decode cX0_isAboveRow 52 = .ok (.aload_n 0, 1) := dk_42 (dk_at dksX0_isAboveRow_2 5 rfl rfl)
theorem dX0_isAboveRow_53 : decode cX0_isAboveRow 53 = .ok (.getfield 575, 3) := dk_180 2 63 (dk_at dksX0_isAboveRow_2 6 rfl rfl)
theorem dX0_isAboveRow_56 : decode cX0_isAboveRow 56 = .ok (.iload_n 2, 1) := dk_28 (dk_at dksX0_isAboveRow_2 9 rfl rfl)
theorem dX0_isAboveRow_57 : decode cX0_isAboveRow 57 = .ok (.iaload, 1) := dk_46 (dk_at dksX0_isAboveRow_2 10 rfl rfl)
theorem dX0_isAboveRow_58 : decode cX0_isAboveRow 58 = .ok (.if_icmp .le 7, 3) := dk_164 0 7 (dk_at dksX0_isAboveRow_2 11 rfl rfl)
theorem dX0_isAboveRow_61 : decode cX0_isAboveRow 61 = .ok (.iconst 1, 1) := dk_4 (dk_at dksX0_isAboveRow_2 14 rfl rfl)
theorem dX0_isAboveRow_62 : decode cX0_isAboveRow 62 = .ok (.goto 4, 3) := dk_167 0 4 (dk_at dksX0_isAboveRow_2 15 rfl rfl)
theorem dX0_isAboveRow_65 : decode cX0_isAboveRow 65 = .ok (.iconst 0, 1) := dk_3 (dk_at dksX0_isAboveRow_2 18 rfl rfl)
theorem dX0_isAboveRow_66 : decode cX0_isAboveRow 66 = .ok (.ireturn, 1) := dk_172 (dk_at dksX0_isAboveRow_2 19 rfl rfl)
theorem dX0_isAboveRow_67 : decode cX0_isAboveRow 67 = .ok (.aload_n 0, 1) := dk_42 (dk_at dksX0_isAboveRow_2 20 rfl rfl)
theorem dX0_isAboveRow_68 : decode cX0_isAboveRow 68 = .ok (.getfield 488, 3) := dk_180 1 232 (dk_at dksX0_isAboveRow_2 21 rfl rfl)
theorem dX0_isAboveRow_71 : decode cX0_isAboveRow 71 = .ok (.iload_n 3, 1) := dk_29 (dk_at dksX0_isAboveRow_3 0 rfl rfl)
theorem dX0_isAboveRow_72 : decode cX0_isAboveRow 72 = .ok (.baload, 1) := dk_51 (dk_at dksX0_isAboveRow_3 1 rfl rfl)
theorem dX0_isAboveRow_73 : decode cX0_isAboveRow 73 = .ok (.ifCond .ne 12, 3) := dk_154 0 12 (dk_at dksX0_isAboveRow_3 2 rfl rfl)
theorem dX0_isAboveRow_76 : decode cX0_isAboveRow 76 = .ok (.aload_n 0, 1) := dk_42 (dk_at dksX0_isAboveRow_3 5 rfl rfl)
theorem dX0_isAboveRow_77 : decode cX0_isAboveRow 77 = .ok (.getfield 485, 3) := dk_180 1 229 (dk_at dksX0_isAboveRow_3 6 rfl rfl)
theorem dX0_isAboveRow_80 : decode cX0_isAboveRow 80 = .ok (.iload_n 3, 1) := dk_29 (dk_at dksX0_isAboveRow_3 9 rfl rfl)
theorem dX0_isAboveRow_81 : decode cX0_isAboveRow 81 = .ok (.baload, 1) := dk_51 (dk_at dksX0_isAboveRow_3 10 rfl rfl)
theorem dX0_isAboveRow_82 : decode cX0_isAboveRow 82 = .ok (.ifCond .eq 10, 3) := dk_153 0 10 (dk_at dksX0_isAboveRow_3 11 rfl rfl)
theorem dX0_isAboveRow_85 : decode cX0_isAboveRow 85 = .ok (.aload_n 0, 1) := dk_42 (dk_at dksX0_isAboveRow_3 14 rfl rfl)
theorem dX0_isAboveRow_86 : decode cX0_isAboveRow 86 = .ok (.iload_n 1, 1) := dk_27 (dk_at dksX0_isAboveRow_3 15 rfl rfl)
theorem dX0_isAboveRow_87 : decode cX0_isAboveRow 87 = .ok (.iload_n 2, 1) := dk_28 (dk_at dksX0_isAboveRow_3 16 rfl rfl)
theorem dX0_isAboveRow_88 : decode cX0_isAboveRow 88 = .ok (.invokevirtual 1246, 3) := dk_182 4 222 (dk_at dksX0_isAboveRow_3 17 rfl rfl)
theorem dX0_isAboveRow_91 : decode cX0_isAboveRow 91 = .ok (.ireturn, 1) := dk_172 (dk_at dksX0_isAboveRow_3 20 rfl rfl)
theorem dX0_isAboveRow_92 : decode cX0_isAboveRow 92 = .ok (.iconst 0, 1) := dk_3 (dk_at dksX0_isAboveRow_3 21 rfl rfl)
theorem dX0_isAboveRow_93 : decode cX0_isAboveRow 93 = .ok (.istore 4, 2) := dk_54 4 (dk_at dksX0_isAboveRow_3 22 rfl rfl)
theorem dX0_isAboveRow_95 : decode cX0_isAboveRow 95 = .ok (.iload 4, 2) := dk_21 4 (dk_at dksX0_isAboveRow_4 0 rfl rfl)
theorem dX0_isAboveRow_97 : decode cX0_isAboveRow 97 = .ok (.aload_n 0, 1) := dk_42 (dk_at dksX0_isAboveRow_4 2 rfl rfl)
theorem dX0_isAboveRow_98 : decode cX0_isAboveRow 98 = .ok (.getfield 578, 3) := dk_180 2 66 (dk_at dksX0_isAboveRow_4 3 rfl rfl)
theorem dX0_isAboveRow_101 : decode cX0_isAboveRow 101 = .ok (.iload_n 1, 1) := dk_27 (dk_at dksX0_isAboveRow_4 6 rfl rfl)
theorem dX0_isAboveRow_102 : decode cX0_isAboveRow 102 = .ok (.iaload, 1) := dk_46 (dk_at dksX0_isAboveRow_4 7 rfl rfl)
theorem dX0_isAboveRow_103 : decode cX0_isAboveRow 103 = .ok (.if_icmp .ge 45, 3) := dk_162 0 45 (dk_at dksX0_isAboveRow_4 8 rfl rfl)
theorem dX0_isAboveRow_106 : decode cX0_isAboveRow 106 = .ok (.aload_n 0, 1) := dk_42 (dk_at dksX0_isAboveRow_4 11 rfl rfl)
theorem dX0_isAboveRow_107 : decode cX0_isAboveRow 107 = .ok (.iload_n 1, 1) := dk_27 (dk_at dksX0_isAboveRow_4 12 rfl rfl)
theorem dX0_isAboveRow_108 : decode cX0_isAboveRow 108 = .ok (.iload 4, 2) := dk_21 4 (dk_at dksX0_isAboveRow_4 13 rfl rfl)
theorem dX0_isAboveRow_110 : decode cX0_isAboveRow 110 = .ok (.invokevirtual 621, 3) := dk_182 2 109 (dk_at dksX0_isAboveRow_4 15 rfl rfl)
theorem dX0_isAboveRow_113 : decode cX0_isAboveRow 113 = .ok (.aload_n 0, 1) := dk_42 (dk_at dksX0_isAboveRow_4 18 rfl rfl)
theorem dX0_isAboveRow_114 : decode cX0_isAboveRow 114 = .ok (.iload_n 2, 1) := dk_28 (dk_at dksX0_isAboveRow_4 19 rfl rfl)
theorem dX0_isAboveRow_115 : decode cX0_isAboveRow 115 = .ok (.iload 4, 2) := dk_21 4 (dk_at dksX0_isAboveRow_4 20 rfl rfl)
theorem dX0_isAboveRow_117 : decode cX0_isAboveRow 117 = .ok (.invokevirtual 621, 3) := dk_182 2 109 (dk_at dksX0_isAboveRow_5 0 rfl rfl)
theorem dX0_isAboveRow_120 : decode cX0_isAboveRow 120 = .ok (.if_icmp .eq 22, 3) := dk_159 0 22 (dk_at dksX0_isAboveRow_5 3 rfl rfl)
theorem dX0_isAboveRow_123 : decode cX0_isAboveRow 123 = .ok (.aload_n 0, 1) := dk_42 (dk_at dksX0_isAboveRow_5 6 rfl rfl)
theorem dX0_isAboveRow_124 : decode cX0_isAboveRow 124 = .ok (.aload_n 0, 1) := dk_42 (dk_at dksX0_isAboveRow_5 7 rfl rfl)
theorem dX0_isAboveRow_125 : decode cX0_isAboveRow 125 = .ok (.iload_n 1, 1) := dk_27 (dk_at dksX0_isAboveRow_5 8 rfl rfl)
theorem dX0_isAboveRow_126 : decode cX0_isAboveRow 126 = .ok (.iload 4, 2) := dk_21 4 (dk_at dksX0_isAboveRow_5 9 rfl rfl)
theorem dX0_isAboveRow_128 : decode cX0_isAboveRow 128 = .ok (.invokevirtual 621, 3) := dk_182 2 109 (dk_at dksX0_isAboveRow_5 11 rfl rfl)
theorem dX0_isAboveRow_131 : decode cX0_isAboveRow 131 = .ok (.aload_n 0, 1) := dk_42 (dk_at dksX0_isAboveRow_5 14 rfl rfl)
theorem dX0_isAboveRow_132 : decode cX0_isAboveRow 132 = .ok (.iload_n 2, 1) := dk_28 (dk_at dksX0_isAboveRow_5 15 rfl rfl)
theorem dX0_isAboveRow_133 : decode cX0_isAboveRow 133 = .ok (.iload 4, 2) := dk_21 4 (dk_at dksX0_isAboveRow_5 16 rfl rfl)
theorem dX0_isAboveRow_135 : decode cX0_isAboveRow 135 = .ok (.invokevirtual 621, 3) := dk_182 2 109 (dk_at dksX0_isAboveRow_5 18 rfl rfl)
theorem dX0_isAboveRow_138 : decode cX0_isAboveRow 138 = .ok (.invokevirtual 1240, 3) := dk_182 4 216 (dk_at dksX0_isAboveRow_5 21 rfl rfl)
theorem dX0_isAboveRow_141 : decode cX0_isAboveRow 141 = .ok (.ireturn, 1) := dk_172 (dk_at dksX0_isAboveRow_6 0 rfl rfl)
theorem dX0_isAboveRow_142 : decode cX0_isAboveRow 142 = .ok (.iinc 4 1, 3) := dk_132 4 1 (dk_at dksX0_isAboveRow_6 1 rfl rfl)
theorem dX0_isAboveRow_145 : decode cX0_isAboveRow 145 = .ok (.goto (-50), 3) := dk_167 255 206 (dk_at dksX0_isAboveRow_6 4 rfl rfl)
theorem dX0_isAboveRow_148 : decode cX0_isAboveRow 148 = .ok (.iconst 0, 1) := dk_3 (dk_at dksX0_isAboveRow_6 7 rfl rfl)
theorem dX0_isAboveRow_149 : decode cX0_isAboveRow 149 = .ok (.ireturn, 1) := dk_172 (dk_at dksX0_isAboveRow_6 8 rfl rfl)
abbrev cX0_isAboveBag : ByteArray := prog_1_method_206_code
def yX0_isAboveBag : MethodName := ⟨RX0, "isAboveBag", "(II)Z"⟩
def dkwX0_isAboveBag_6 : List UInt8 := [167, 255, 155, 21, 4, 172]
abbrev dktX0_isAboveBag_6 : List UInt8 := dkwX0_isAboveBag_6 ++ []
def dkwX0_isAboveBag_5 : List UInt8 := [153, 0, 7, 4, 167, 0, 4, 3, 54, 6, 132, 7, 1, 167, 255, 198, 21, 6, 54, 4, 132, 5, 1]
abbrev dktX0_isAboveBag_5 : List UInt8 := dkwX0_isAboveBag_5 ++ dktX0_isAboveBag_6
def dkwX0_isAboveBag_4 : List UInt8 := [182, 4, 228, 153, 0, 28, 42, 42, 27, 21, 7, 182, 2, 109, 42, 28, 21, 5, 182, 2, 109, 182, 4, 216]
abbrev dktX0_isAboveBag_4 : List UInt8 := dkwX0_isAboveBag_4 ++ dktX0_isAboveBag_5
def dkwX0_isAboveBag_3 : List UInt8 := [54, 7, 21, 7, 42, 180, 2, 66, 27, 46, 162, 0, 53, 21, 6, 154, 0, 48, 42, 27, 21, 7, 28]
abbrev dktX0_isAboveBag_3 : List UInt8 := dkwX0_isAboveBag_3 ++ dktX0_isAboveBag_4
def dkwX0_isAboveBag_2 : List UInt8 := [46, 162, 0, 96, 21, 4, 153, 0, 91, 42, 28, 21, 5, 27, 182, 4, 228, 153, 0, 74, 3, 54, 6, 3]
abbrev dktX0_isAboveBag_2 : List UInt8 := dkwX0_isAboveBag_2 ++ dktX0_isAboveBag_3
def dkwX0_isAboveBag_1 : List UInt8 := [182, 4, 228, 128, 62, 132, 4, 1, 167, 255, 231, 29, 54, 4, 3, 54, 5, 21, 5, 42, 180, 2, 66, 28]
abbrev dktX0_isAboveBag_1 : List UInt8 := dkwX0_isAboveBag_1 ++ dktX0_isAboveBag_2
def dkwX0_isAboveBag_0 : List UInt8 := [3, 62, 3, 54, 4, 21, 4, 42, 180, 2, 66, 27, 46, 162, 0, 20, 29, 42, 27, 21, 4, 28]
abbrev dktX0_isAboveBag_0 : List UInt8 := dkwX0_isAboveBag_0 ++ dktX0_isAboveBag_1
theorem dksX0_isAboveBag_0 : cX0_isAboveBag.data.toList.drop 0 = dktX0_isAboveBag_0 := by decide +kernel
theorem dksX0_isAboveBag_1 : cX0_isAboveBag.data.toList.drop 22 = dktX0_isAboveBag_1 := dk_seg dksX0_isAboveBag_0 22 rfl rfl
theorem dksX0_isAboveBag_2 : cX0_isAboveBag.data.toList.drop 46 = dktX0_isAboveBag_2 := dk_seg dksX0_isAboveBag_1 24 rfl rfl
theorem dksX0_isAboveBag_3 : cX0_isAboveBag.data.toList.drop 70 = dktX0_isAboveBag_3 := dk_seg dksX0_isAboveBag_2 24 rfl rfl
theorem dksX0_isAboveBag_4 : cX0_isAboveBag.data.toList.drop 93 = dktX0_isAboveBag_4 := dk_seg dksX0_isAboveBag_3 23 rfl rfl
theorem dksX0_isAboveBag_5 : cX0_isAboveBag.data.toList.drop 117 = dktX0_isAboveBag_5 := dk_seg dksX0_isAboveBag_4 24 rfl rfl
theorem dksX0_isAboveBag_6 : cX0_isAboveBag.data.toList.drop 140 = dktX0_isAboveBag_6 := dk_seg dksX0_isAboveBag_5 23 rfl rfl
theorem dX0_isAboveBag_0 : decode cX0_isAboveBag 0 = .ok (.iconst 0, 1) := dk_3 (dk_at dksX0_isAboveBag_0 0 rfl rfl)
theorem dX0_isAboveBag_1 : decode cX0_isAboveBag 1 = .ok (.istore_n 3, 1) := dk_62 (dk_at dksX0_isAboveBag_0 1 rfl rfl)
theorem dX0_isAboveBag_2 : decode cX0_isAboveBag 2 = .ok (.iconst 0, 1) := dk_3 (dk_at dksX0_isAboveBag_0 2 rfl rfl)
theorem dX0_isAboveBag_3 : decode cX0_isAboveBag 3 = .ok (.istore 4, 2) := dk_54 4 (dk_at dksX0_isAboveBag_0 3 rfl rfl)
theorem dX0_isAboveBag_5 : decode cX0_isAboveBag 5 = .ok (.iload 4, 2) := dk_21 4 (dk_at dksX0_isAboveBag_0 5 rfl rfl)
theorem dX0_isAboveBag_7 : decode cX0_isAboveBag 7 = .ok (.aload_n 0, 1) := dk_42 (dk_at dksX0_isAboveBag_0 7 rfl rfl)
theorem dX0_isAboveBag_8 : decode cX0_isAboveBag 8 = .ok (.getfield 578, 3) := dk_180 2 66 (dk_at dksX0_isAboveBag_0 8 rfl rfl)
theorem dX0_isAboveBag_11 : decode cX0_isAboveBag 11 = .ok (.iload_n 1, 1) := dk_27 (dk_at dksX0_isAboveBag_0 11 rfl rfl)
theorem dX0_isAboveBag_12 : decode cX0_isAboveBag 12 = .ok (.iaload, 1) := dk_46 (dk_at dksX0_isAboveBag_0 12 rfl rfl)
theorem dX0_isAboveBag_13 : decode cX0_isAboveBag 13 = .ok (.if_icmp .ge 20, 3) := dk_162 0 20 (dk_at dksX0_isAboveBag_0 13 rfl rfl)
theorem dX0_isAboveBag_16 : decode cX0_isAboveBag 16 = .ok (.iload_n 3, 1) := dk_29 (dk_at dksX0_isAboveBag_0 16 rfl rfl)
theorem dX0_isAboveBag_17 : decode cX0_isAboveBag 17 = .ok (.aload_n 0, 1) := dk_42 (dk_at dksX0_isAboveBag_0 17 rfl rfl)
theorem dX0_isAboveBag_18 : decode cX0_isAboveBag 18 = .ok (.iload_n 1, 1) := dk_27 (dk_at dksX0_isAboveBag_0 18 rfl rfl)
theorem dX0_isAboveBag_19 : decode cX0_isAboveBag 19 = .ok (.iload 4, 2) := dk_21 4 (dk_at dksX0_isAboveBag_0 19 rfl rfl)
theorem dX0_isAboveBag_21 : decode cX0_isAboveBag 21 = .ok (.iload_n 2, 1) := dk_28 (dk_at dksX0_isAboveBag_0 21 rfl rfl)
theorem dX0_isAboveBag_22 : decode cX0_isAboveBag 22 = .ok (.invokevirtual 1252, 3) := dk_182 4 228 (dk_at dksX0_isAboveBag_1 0 rfl rfl)
theorem dX0_isAboveBag_25 : decode cX0_isAboveBag 25 = .ok (.ior, 1) := dk_128 (dk_at dksX0_isAboveBag_1 3 rfl rfl)
theorem dX0_isAboveBag_26 : decode cX0_isAboveBag 26 = .ok (.istore_n 3, 1) := dk_62 (dk_at dksX0_isAboveBag_1 4 rfl rfl)
theorem dX0_isAboveBag_27 : decode cX0_isAboveBag 27 = .ok (.iinc 4 1, 3) := dk_132 4 1 (dk_at dksX0_isAboveBag_1 5 rfl rfl)
theorem dX0_isAboveBag_30 : decode cX0_isAboveBag 30 = .ok (.goto (-25), 3) := dk_167 255 231 (dk_at dksX0_isAboveBag_1 8 rfl rfl)
theorem dX0_isAboveBag_33 : decode cX0_isAboveBag 33 = .ok (.iload_n 3, 1) := dk_29 (dk_at dksX0_isAboveBag_1 11 rfl rfl)
theorem dX0_isAboveBag_34 : decode cX0_isAboveBag 34 = .ok (.istore 4, 2) := dk_54 4 (dk_at dksX0_isAboveBag_1 12 rfl rfl)
theorem dX0_isAboveBag_36 : decode cX0_isAboveBag 36 = .ok (.iconst 0, 1) := dk_3 (dk_at dksX0_isAboveBag_1 14 rfl rfl)
theorem dX0_isAboveBag_37 : decode cX0_isAboveBag 37 = .ok (.istore 5, 2) := dk_54 5 (dk_at dksX0_isAboveBag_1 15 rfl rfl)
theorem dX0_isAboveBag_39 : decode cX0_isAboveBag 39 = .ok (.iload 5, 2) := dk_21 5 (dk_at dksX0_isAboveBag_1 17 rfl rfl)
theorem dX0_isAboveBag_41 : decode cX0_isAboveBag 41 = .ok (.aload_n 0, 1) := dk_42 (dk_at dksX0_isAboveBag_1 19 rfl rfl)
theorem dX0_isAboveBag_42 : decode cX0_isAboveBag 42 = .ok (.getfield 578, 3) := dk_180 2 66 (dk_at dksX0_isAboveBag_1 20 rfl rfl)
theorem dX0_isAboveBag_45 : decode cX0_isAboveBag 45 = .ok (.iload_n 2, 1) := dk_28 (dk_at dksX0_isAboveBag_1 23 rfl rfl)
theorem dX0_isAboveBag_46 : decode cX0_isAboveBag 46 = .ok (.iaload, 1) := dk_46 (dk_at dksX0_isAboveBag_2 0 rfl rfl)
theorem dX0_isAboveBag_47 : decode cX0_isAboveBag 47 = .ok (.if_icmp .ge 96, 3) := dk_162 0 96 (dk_at dksX0_isAboveBag_2 1 rfl rfl)
theorem dX0_isAboveBag_50 : decode cX0_isAboveBag 50 = .ok (.iload 4, 2) := dk_21 4 (dk_at dksX0_isAboveBag_2 4 rfl rfl)
theorem dX0_isAboveBag_52 : decode cX0_isAboveBag 52 = .ok (.ifCond .eq 91, 3) := dk_153 0 91 (dk_at dksX0_isAboveBag_2 6 rfl rfl)
theorem dX0_isAboveBag_55 : decode cX0_isAboveBag 55 = .ok (.aload_n 0, 1) := dk_42 (dk_at dksX0_isAboveBag_2 9 rfl rfl)
theorem dX0_isAboveBag_56 : decode cX0_isAboveBag 56 = .ok (.iload_n 2, 1) := dk_28 (dk_at dksX0_isAboveBag_2 10 rfl rfl)
theorem dX0_isAboveBag_57 : decode cX0_isAboveBag 57 = .ok (.iload 5, 2) := dk_21 5 (dk_at dksX0_isAboveBag_2 11 rfl rfl)
theorem dX0_isAboveBag_59 : decode cX0_isAboveBag 59 = .ok (.iload_n 1, 1) := dk_27 (dk_at dksX0_isAboveBag_2 13 rfl rfl)
theorem dX0_isAboveBag_60 : decode cX0_isAboveBag 60 = .ok (.invokevirtual 1252, 3) := dk_182 4 228 (dk_at dksX0_isAboveBag_2 14 rfl rfl)
theorem dX0_isAboveBag_63 : decode cX0_isAboveBag 63 = .ok (.ifCond .eq 74, 3) := dk_153 0 74 (dk_at dksX0_isAboveBag_2 17 rfl rfl)
theorem dX0_isAboveBag_66 : decode cX0_isAboveBag 66 = .ok (.iconst 0, 1) := dk_3 (dk_at dksX0_isAboveBag_2 20 rfl rfl)
theorem dX0_isAboveBag_67 : decode cX0_isAboveBag 67 = .ok (.istore 6, 2) := dk_54 6 (dk_at dksX0_isAboveBag_2 21 rfl rfl)
theorem dX0_isAboveBag_69 : decode cX0_isAboveBag 69 = .ok (.iconst 0, 1) := dk_3 (dk_at dksX0_isAboveBag_2 23 rfl rfl)
theorem dX0_isAboveBag_70 : decode cX0_isAboveBag 70 = .ok (.istore 7, 2) := dk_54 7 (dk_at dksX0_isAboveBag_3 0 rfl rfl)
theorem dX0_isAboveBag_72 : decode cX0_isAboveBag 72 = .ok (.iload 7, 2) := dk_21 7 (dk_at dksX0_isAboveBag_3 2 rfl rfl)
theorem dX0_isAboveBag_74 : decode cX0_isAboveBag 74 = .ok (.aload_n 0, 1) := dk_42 (dk_at dksX0_isAboveBag_3 4 rfl rfl)
theorem dX0_isAboveBag_75 : decode cX0_isAboveBag 75 = .ok (.getfield 578, 3) := dk_180 2 66 (dk_at dksX0_isAboveBag_3 5 rfl rfl)
theorem dX0_isAboveBag_78 : decode cX0_isAboveBag 78 = .ok (.iload_n 1, 1) := dk_27 (dk_at dksX0_isAboveBag_3 8 rfl rfl)
theorem dX0_isAboveBag_79 : decode cX0_isAboveBag 79 = .ok (.iaload, 1) := dk_46 (dk_at dksX0_isAboveBag_3 9 rfl rfl)
theorem dX0_isAboveBag_80 : decode cX0_isAboveBag 80 = .ok (.if_icmp .ge 53, 3) := dk_162 0 53 (dk_at dksX0_isAboveBag_3 10 rfl rfl)
theorem dX0_isAboveBag_83 : decode cX0_isAboveBag 83 = .ok (.iload 6, 2) := dk_21 6 (dk_at dksX0_isAboveBag_3 13 rfl rfl)
theorem dX0_isAboveBag_85 : decode cX0_isAboveBag 85 = .ok (.ifCond .ne 48, 3) := dk_154 0 48 (dk_at dksX0_isAboveBag_3 15 rfl rfl)
theorem dX0_isAboveBag_88 : decode cX0_isAboveBag 88 = .ok (.aload_n 0, 1) := dk_42 (dk_at dksX0_isAboveBag_3 18 rfl rfl)
theorem dX0_isAboveBag_89 : decode cX0_isAboveBag 89 = .ok (.iload_n 1, 1) := dk_27 (dk_at dksX0_isAboveBag_3 19 rfl rfl)
theorem dX0_isAboveBag_90 : decode cX0_isAboveBag 90 = .ok (.iload 7, 2) := dk_21 7 (dk_at dksX0_isAboveBag_3 20 rfl rfl)
theorem dX0_isAboveBag_92 : decode cX0_isAboveBag 92 = .ok (.iload_n 2, 1) := dk_28 (dk_at dksX0_isAboveBag_3 22 rfl rfl)
theorem dX0_isAboveBag_93 : decode cX0_isAboveBag 93 = .ok (.invokevirtual 1252, 3) := dk_182 4 228 (dk_at dksX0_isAboveBag_4 0 rfl rfl)
theorem dX0_isAboveBag_96 : decode cX0_isAboveBag 96 = .ok (.ifCond .eq 28, 3) := dk_153 0 28 (dk_at dksX0_isAboveBag_4 3 rfl rfl)
theorem dX0_isAboveBag_99 : decode cX0_isAboveBag 99 = .ok (.aload_n 0, 1) := dk_42 (dk_at dksX0_isAboveBag_4 6 rfl rfl)
theorem dX0_isAboveBag_100 : decode cX0_isAboveBag 100 = .ok (.aload_n 0, 1) := dk_42 (dk_at dksX0_isAboveBag_4 7 rfl rfl)
theorem dX0_isAboveBag_101 : decode cX0_isAboveBag 101 = .ok (.iload_n 1, 1) := dk_27 (dk_at dksX0_isAboveBag_4 8 rfl rfl)
theorem dX0_isAboveBag_102 : decode cX0_isAboveBag 102 = .ok (.iload 7, 2) := dk_21 7 (dk_at dksX0_isAboveBag_4 9 rfl rfl)
theorem dX0_isAboveBag_104 : decode cX0_isAboveBag 104 = .ok (.invokevirtual 621, 3) := dk_182 2 109 (dk_at dksX0_isAboveBag_4 11 rfl rfl)
theorem dX0_isAboveBag_107 : decode cX0_isAboveBag 107 = .ok (.aload_n 0, 1) := dk_42 (dk_at dksX0_isAboveBag_4 14 rfl rfl)
theorem dX0_isAboveBag_108 : decode cX0_isAboveBag 108 = .ok (.iload_n 2, 1) := dk_28 (dk_at dksX0_isAboveBag_4 15 rfl rfl)
theorem dX0_isAboveBag_109 : decode cX0_isAboveBag 109 = .ok (.iload 5, 2) := dk_21 5 (dk_at dksX0_isAboveBag_4 16 rfl rfl)
theorem dX0_isAboveBag_111 : decode cX0_isAboveBag 111 = .ok (.invokevirtual 621, 3) := dk_182 2 109 (dk_at dksX0_isAboveBag_4 18 rfl rfl)
theorem dX0_isAboveBag_114 : decode cX0_isAboveBag 114 = .ok (.invokevirtual 1240, 3) := dk_182 4 216 (dk_at dksX0_isAboveBag_4 21 rfl rfl)
theorem dX0_isAboveBag_117 : decode cX0_isAboveBag 117 = .ok (.ifCond .eq 7, 3) := dk_153 0 7 (dk_at dksX0_isAboveBag_5 0 rfl rfl)
theorem dX0_isAboveBag_120 : decode cX0_isAboveBag 120 = .ok (.iconst 1, 1) := dk_4 (dk_at dksX0_isAboveBag_5 3 rfl rfl)
theorem dX0_isAboveBag_121 : decode cX0_isAboveBag 121 = .ok (.goto 4, 3) := dk_167 0 4 (dk_at dksX0_isAboveBag_5 4 rfl rfl)
theorem dX0_isAboveBag_124 : decode cX0_isAboveBag 124 = .ok (.iconst 0, 1) := dk_3 (dk_at dksX0_isAboveBag_5 7 rfl rfl)
theorem dX0_isAboveBag_125 : decode cX0_isAboveBag 125 = .ok (.istore 6, 2) := dk_54 6 (dk_at dksX0_isAboveBag_5 8 rfl rfl)
theorem dX0_isAboveBag_127 : decode cX0_isAboveBag 127 = .ok (.iinc 7 1, 3) := dk_132 7 1 (dk_at dksX0_isAboveBag_5 10 rfl rfl)
theorem dX0_isAboveBag_130 : decode cX0_isAboveBag 130 = .ok (.goto (-58), 3) := dk_167 255 198 (dk_at dksX0_isAboveBag_5 13 rfl rfl)
theorem dX0_isAboveBag_133 : decode cX0_isAboveBag 133 = .ok (.iload 6, 2) := dk_21 6 (dk_at dksX0_isAboveBag_5 16 rfl rfl)
theorem dX0_isAboveBag_135 : decode cX0_isAboveBag 135 = .ok (.istore 4, 2) := dk_54 4 (dk_at dksX0_isAboveBag_5 18 rfl rfl)
theorem dX0_isAboveBag_137 : decode cX0_isAboveBag 137 = .ok (.iinc 5 1, 3) := dk_132 5 1 (dk_at dksX0_isAboveBag_5 20 rfl rfl)
theorem dX0_isAboveBag_140 : decode cX0_isAboveBag 140 = .ok (.goto (-101), 3) := dk_167 255 155 (dk_at dksX0_isAboveBag_6 0 rfl rfl)
theorem dX0_isAboveBag_143 : decode cX0_isAboveBag 143 = .ok (.iload 4, 2) := dk_21 4 (dk_at dksX0_isAboveBag_6 3 rfl rfl)
theorem dX0_isAboveBag_145 : decode cX0_isAboveBag 145 = .ok (.ireturn, 1) := dk_172 (dk_at dksX0_isAboveBag_6 5 rfl rfl)
abbrev cX0_isLeft : ByteArray := prog_1_method_205_code
def yX0_isLeft : MethodName := ⟨RX0, "isLeft", "(III)Z"⟩
def dkwX0_isLeft_2 : List UInt8 := [42, 27, 28, 182, 2, 109, 182, 4, 225, 164, 0, 7, 4, 167, 0, 4, 3, 172]
abbrev dktX0_isLeft_2 : List UInt8 := dkwX0_isLeft_2 ++ []
def dkwX0_isLeft_1 : List UInt8 := [182, 2, 109, 160, 0, 7, 4, 167, 0, 4, 3, 96, 54, 4, 132, 5, 1, 167, 255, 221, 21, 4, 42, 29]
abbrev dktX0_isLeft_1 : List UInt8 := dkwX0_isLeft_1 ++ dktX0_isLeft_2
def dkwX0_isLeft_0 : List UInt8 := [3, 54, 4, 3, 54, 5, 21, 5, 28, 163, 0, 35, 21, 4, 42, 27, 21, 5, 182, 2, 109, 42, 27, 28]
abbrev dktX0_isLeft_0 : List UInt8 := dkwX0_isLeft_0 ++ dktX0_isLeft_1
theorem dksX0_isLeft_0 : cX0_isLeft.data.toList.drop 0 = dktX0_isLeft_0 := by decide +kernel
theorem dksX0_isLeft_1 : cX0_isLeft.data.toList.drop 24 = dktX0_isLeft_1 := dk_seg dksX0_isLeft_0 24 rfl rfl
theorem dksX0_isLeft_2 : cX0_isLeft.data.toList.drop 48 = dktX0_isLeft_2 := dk_seg dksX0_isLeft_1 24 rfl rfl
theorem dX0_isLeft_0 : decode cX0_isLeft 0 = .ok (.iconst 0, 1) := dk_3 (dk_at dksX0_isLeft_0 0 rfl rfl)
theorem dX0_isLeft_1 : decode cX0_isLeft 1 = .ok (.istore 4, 2) := dk_54 4 (dk_at dksX0_isLeft_0 1 rfl rfl)
theorem dX0_isLeft_3 : decode cX0_isLeft 3 = .ok (.iconst 0, 1) := dk_3 (dk_at dksX0_isLeft_0 3 rfl rfl)
theorem dX0_isLeft_4 : decode cX0_isLeft 4 = .ok (.istore 5, 2) := dk_54 5 (dk_at dksX0_isLeft_0 4 rfl rfl)
theorem dX0_isLeft_6 : decode cX0_isLeft 6 = .ok (.iload 5, 2) := dk_21 5 (dk_at dksX0_isLeft_0 6 rfl rfl)
theorem dX0_isLeft_8 : decode cX0_isLeft 8 = .ok (.iload_n 2, 1) := dk_28 (dk_at dksX0_isLeft_0 8 rfl rfl)
theorem dX0_isLeft_9 : decode cX0_isLeft 9 = .ok (.if_icmp .gt 35, 3) := dk_163 0 35 (dk_at dksX0_isLeft_0 9 rfl rfl)
theorem dX0_isLeft_12 : decode cX0_isLeft 12 = .ok (.iload 4, 2) := dk_21 4 (dk_at dksX0_isLeft_0 12 rfl rfl)
theorem dX0_isLeft_14 : decode cX0_isLeft 14 = .ok (.aload_n 0, 1) := dk_42 (dk_at dksX0_isLeft_0 14 rfl rfl)
theorem dX0_isLeft_15 : decode cX0_isLeft 15 = .ok (.iload_n 1, 1) := dk_27 (dk_at dksX0_isLeft_0 15 rfl rfl)
theorem dX0_isLeft_16 : decode cX0_isLeft 16 = .ok (.iload 5, 2) := dk_21 5 (dk_at dksX0_isLeft_0 16 rfl rfl)
theorem dX0_isLeft_18 : decode cX0_isLeft 18 = .ok (.invokevirtual 621, 3) := dk_182 2 109 (dk_at dksX0_isLeft_0 18 rfl rfl)
theorem dX0_isLeft_21 : decode cX0_isLeft 21 = .ok (.aload_n 0, 1) := dk_42 (dk_at dksX0_isLeft_0 21 rfl rfl)
theorem dX0_isLeft_22 : decode cX0_isLeft 22 = .ok (.iload_n 1, 1) := dk_27 (dk_at dksX0_isLeft_0 22 rfl rfl)
theorem dX0_isLeft_23 : decode cX0_isLeft 23 = .ok (.iload_n 2, 1) := dk_28 (dk_at dksX0_isLeft_0 23 rfl rfl)
theorem dX0_isLeft_24 : decode cX0_isLeft 24 = .ok (.invokevirtual 621, 3) := dk_182 2 109 (dk_at dksX0_isLeft_1 0 rfl rfl)
theorem dX0_isLeft_27 : decode cX0_isLeft 27 = .ok (.if_icmp .ne 7, 3) := dk_160 0 7 (dk_at dksX0_isLeft_1 3 rfl rfl)
theorem dX0_isLeft_30 : decode cX0_isLeft 30 = .ok (.iconst 1, 1) := dk_4 (dk_at dksX0_isLeft_1 6 rfl rfl)
theorem dX0_isLeft_31 : decode cX0_isLeft 31 = .ok (.goto 4, 3) := dk_167 0 4 (dk_at dksX0_isLeft_1 7 rfl rfl)
theorem dX0_isLeft_34 : decode cX0_isLeft 34 = .ok (.iconst 0, 1) := dk_3 (dk_at dksX0_isLeft_1 10 rfl rfl)
theorem dX0_isLeft_35 : decode cX0_isLeft 35 = .ok (.iadd, 1) := dk_96 (dk_at dksX0_isLeft_1 11 rfl rfl)
theorem dX0_isLeft_36 : decode cX0_isLeft 36 = .ok (.istore 4, 2) := dk_54 4 (dk_at dksX0_isLeft_1 12 rfl rfl)
theorem dX0_isLeft_38 : decode cX0_isLeft 38 = .ok (.iinc 5 1, 3) := dk_132 5 1 (dk_at dksX0_isLeft_1 14 rfl rfl)
theorem dX0_isLeft_41 : decode cX0_isLeft 41 = .ok (.goto (-35), 3) := dk_167 255 221 (dk_at dksX0_isLeft_1 17 rfl rfl)
theorem dX0_isLeft_44 : decode cX0_isLeft 44 = .ok (.iload 4, 2) := dk_21 4 (dk_at dksX0_isLeft_1 20 rfl rfl)
theorem dX0_isLeft_46 : decode cX0_isLeft 46 = .ok (.aload_n 0, 1) := dk_42 (dk_at dksX0_isLeft_1 22 rfl rfl)
theorem dX0_isLeft_47 : decode cX0_isLeft 47 = .ok (.iload_n 3, 1) := dk_29 (dk_at dksX0_isLeft_1 23 rfl rfl)
theorem dX0_isLeft_48 : decode cX0_isLeft 48 = .ok (.aload_n 0, 1) := dk_42 (dk_at dksX0_isLeft_2 0 rfl rfl)
theorem dX0_isLeft_49 : decode cX0_isLeft 49 = .ok (.iload_n 1, 1) := dk_27 (dk_at dksX0_isLeft_2 1 rfl rfl)
theorem dX0_isLeft_50 : decode cX0_isLeft 50 = .ok (.iload_n 2, 1) := dk_28 (dk_at dksX0_isLeft_2 2 rfl rfl)
theorem dX0_isLeft_51 : decode cX0_isLeft 51 = .ok (.invokevirtual 621, 3) := dk_182 2 109 (dk_at dksX0_isLeft_2 3 rfl rfl)
theorem dX0_isLeft_54 : decode cX0_isLeft 54 = .ok (.invokevirtual 1249, 3) := dk_182 4 225 (dk_at dksX0_isLeft_2 6 rfl rfl)
theorem dX0_isLeft_57 : decode cX0_isLeft 57 = .ok (.if_icmp .le 7, 3) := dk_164 0 7 (dk_at dksX0_isLeft_2 9 rfl rfl)
theorem dX0_isLeft_60 : decode cX0_isLeft 60 = .ok (.iconst 1, 1) := dk_4 (dk_at dksX0_isLeft_2 12 rfl rfl)
theorem dX0_isLeft_61 : decode cX0_isLeft 61 = .ok (.goto 4, 3) := dk_167 0 4 (dk_at dksX0_isLeft_2 13 rfl rfl)
theorem dX0_isLeft_64 : decode cX0_isLeft 64 = .ok (.iconst 0, 1) := dk_3 (dk_at dksX0_isLeft_2 16 rfl rfl)
theorem dX0_isLeft_65 : decode cX0_isLeft 65 = .ok (.ireturn, 1) := dk_172 (dk_at dksX0_isLeft_2 17 rfl rfl)
abbrev cX0_countIn : ByteArray := prog_1_method_204_code
def yX0_countIn : MethodName := ⟨RX0, "countIn", "(II)I"⟩
def dkwX0_countIn_1 : List UInt8 := [28, 160, 0, 7, 4, 167, 0, 4, 3, 96, 62, 132, 4, 1, 167, 255, 223, 29, 172]
abbrev dktX0_countIn_1 : List UInt8 := dkwX0_countIn_1 ++ []
def dkwX0_countIn_0 : List UInt8 := [3, 62, 3, 54, 4, 21, 4, 42, 180, 2, 66, 27, 46, 162, 0, 28, 29, 42, 27, 21, 4, 182, 2, 109]
abbrev dktX0_countIn_0 : List UInt8 := dkwX0_countIn_0 ++ dktX0_countIn_1
theorem dksX0_countIn_0 : cX0_countIn.data.toList.drop 0 = dktX0_countIn_0 := by decide +kernel
theorem dksX0_countIn_1 : cX0_countIn.data.toList.drop 24 = dktX0_countIn_1 := dk_seg dksX0_countIn_0 24 rfl rfl
theorem dX0_countIn_0 : decode cX0_countIn 0 = .ok (.iconst 0, 1) := dk_3 (dk_at dksX0_countIn_0 0 rfl rfl)
theorem dX0_countIn_1 : decode cX0_countIn 1 = .ok (.istore_n 3, 1) := dk_62 (dk_at dksX0_countIn_0 1 rfl rfl)
theorem dX0_countIn_2 : decode cX0_countIn 2 = .ok (.iconst 0, 1) := dk_3 (dk_at dksX0_countIn_0 2 rfl rfl)
theorem dX0_countIn_3 : decode cX0_countIn 3 = .ok (.istore 4, 2) := dk_54 4 (dk_at dksX0_countIn_0 3 rfl rfl)
theorem dX0_countIn_5 : decode cX0_countIn 5 = .ok (.iload 4, 2) := dk_21 4 (dk_at dksX0_countIn_0 5 rfl rfl)
theorem dX0_countIn_7 : decode cX0_countIn 7 = .ok (.aload_n 0, 1) := dk_42 (dk_at dksX0_countIn_0 7 rfl rfl)
theorem dX0_countIn_8 : decode cX0_countIn 8 = .ok (.getfield 578, 3) := dk_180 2 66 (dk_at dksX0_countIn_0 8 rfl rfl)
theorem dX0_countIn_11 : decode cX0_countIn 11 = .ok (.iload_n 1, 1) := dk_27 (dk_at dksX0_countIn_0 11 rfl rfl)
theorem dX0_countIn_12 : decode cX0_countIn 12 = .ok (.iaload, 1) := dk_46 (dk_at dksX0_countIn_0 12 rfl rfl)
theorem dX0_countIn_13 : decode cX0_countIn 13 = .ok (.if_icmp .ge 28, 3) := dk_162 0 28 (dk_at dksX0_countIn_0 13 rfl rfl)
theorem dX0_countIn_16 : decode cX0_countIn 16 = .ok (.iload_n 3, 1) := dk_29 (dk_at dksX0_countIn_0 16 rfl rfl)
theorem dX0_countIn_17 : decode cX0_countIn 17 = .ok (.aload_n 0, 1) := dk_42 (dk_at dksX0_countIn_0 17 rfl rfl)
theorem dX0_countIn_18 : decode cX0_countIn 18 = .ok (.iload_n 1, 1) := dk_27 (dk_at dksX0_countIn_0 18 rfl rfl)
theorem dX0_countIn_19 : decode cX0_countIn 19 = .ok (.iload 4, 2) := dk_21 4 (dk_at dksX0_countIn_0 19 rfl rfl)
theorem dX0_countIn_21 : decode cX0_countIn 21 = .ok (.invokevirtual 621, 3) := dk_182 2 109 (dk_at dksX0_countIn_0 21 rfl rfl)
theorem dX0_countIn_24 : decode cX0_countIn 24 = .ok (.iload_n 2, 1) := dk_28 (dk_at dksX0_countIn_1 0 rfl rfl)
theorem dX0_countIn_25 : decode cX0_countIn 25 = .ok (.if_icmp .ne 7, 3) := dk_160 0 7 (dk_at dksX0_countIn_1 1 rfl rfl)
theorem dX0_countIn_28 : decode cX0_countIn 28 = .ok (.iconst 1, 1) := dk_4 (dk_at dksX0_countIn_1 4 rfl rfl)
theorem dX0_countIn_29 : decode cX0_countIn 29 = .ok (.goto 4, 3) := dk_167 0 4 (dk_at dksX0_countIn_1 5 rfl rfl)
theorem dX0_countIn_32 : decode cX0_countIn 32 = .ok (.iconst 0, 1) := dk_3 (dk_at dksX0_countIn_1 8 rfl rfl)
theorem dX0_countIn_33 : decode cX0_countIn 33 = .ok (.iadd, 1) := dk_96 (dk_at dksX0_countIn_1 9 rfl rfl)
theorem dX0_countIn_34 : decode cX0_countIn 34 = .ok (.istore_n 3, 1) := dk_62 (dk_at dksX0_countIn_1 10 rfl rfl)
theorem dX0_countIn_35 : decode cX0_countIn 35 = .ok (.iinc 4 1, 3) := dk_132 4 1 (dk_at dksX0_countIn_1 11 rfl rfl)
theorem dX0_countIn_38 : decode cX0_countIn 38 = .ok (.goto (-33), 3) := dk_167 255 223 (dk_at dksX0_countIn_1 14 rfl rfl)
theorem dX0_countIn_41 : decode cX0_countIn 41 = .ok (.iload_n 3, 1) := dk_29 (dk_at dksX0_countIn_1 17 rfl rfl)
theorem dX0_countIn_42 : decode cX0_countIn 42 = .ok (.ireturn, 1) := dk_172 (dk_at dksX0_countIn_1 18 rfl rfl)
abbrev cX0_witness : ByteArray := prog_1_method_211_code
def yX0_witness : MethodName := ⟨RX0, "witness", "(II)I"⟩
def dkwX0_witness_2 : List UInt8 := [28, 42, 180, 4, 192, 163, 0, 12, 42, 180, 4, 189, 28, 46, 167, 0, 4, 2, 172]
abbrev dktX0_witness_2 : List UInt8 := dkwX0_witness_2 ++ []
def dkwX0_witness_1 : List UInt8 := [42, 182, 3, 247, 27, 4, 160, 0, 8, 42, 182, 4, 240, 172, 42, 182, 4, 237, 153, 0, 6, 16, 254, 172]
abbrev dktX0_witness_1 : List UInt8 := dkwX0_witness_1 ++ dktX0_witness_2
def dkwX0_witness_0 : List UInt8 := [27, 3, 4, 184, 0, 20, 153, 0, 16, 28, 155, 0, 12, 27, 4, 160, 0, 9, 28, 158, 0, 5, 2, 172]
abbrev dktX0_witness_0 : List UInt8 := dkwX0_witness_0 ++ dktX0_witness_1
theorem dksX0_witness_0 : cX0_witness.data.toList.drop 0 = dktX0_witness_0 := by decide +kernel
theorem dksX0_witness_1 : cX0_witness.data.toList.drop 24 = dktX0_witness_1 := dk_seg dksX0_witness_0 24 rfl rfl
theorem dksX0_witness_2 : cX0_witness.data.toList.drop 48 = dktX0_witness_2 := dk_seg dksX0_witness_1 24 rfl rfl
theorem dX0_witness_0 : decode cX0_witness 0 = .ok (.iload_n 1, 1) := dk_27 (dk_at dksX0_witness_0 0 rfl rfl)
theorem dX0_witness_1 : decode cX0_witness 1 = .ok (.iconst 0, 1) := dk_3 (dk_at dksX0_witness_0 1 rfl rfl)
theorem dX0_witness_2 : decode cX0_witness 2 = .ok (.iconst 1, 1) := dk_4 (dk_at dksX0_witness_0 2 rfl rfl)
theorem dX0_witness_3 : decode cX0_witness 3 = .ok (.invokestatic 20, 3) := dk_184 0 20 (dk_at dksX0_witness_0 3 rfl rfl)
theorem dX0_witness_6 : decode cX0_witness 6 = .ok (.ifCond .eq 16, 3) := dk_153 0 16 (dk_at dksX0_witness_0 6 rfl rfl)
theorem dX0_witness_9 : decode cX0_witness 9 = .ok (.iload_n 2, 1) := dk_28 (dk_at dksX0_witness_0 9 rfl rfl)
theorem dX0_witness_10 : decode cX0_witness 10 = .ok (.ifCond .lt 12, 3) := dk_155 0 12 (dk_at dksX0_witness_0 10 rfl rfl)
theorem dX0_witness_13 : decode cX0_witness 13 = .ok (.iload_n 1, 1) := dk_27 (dk_at dksX0_witness_0 13 rfl rfl)
theorem dX0_witness_14 : decode cX0_witness 14 = .ok (.iconst 1, 1) := dk_4 (dk_at dksX0_witness_0 14 rfl rfl)
theorem dX0_witness_15 : decode cX0_witness 15 = .ok (.if_icmp .ne 9, 3) := dk_160 0 9 (dk_at dksX0_witness_0 15 rfl rfl)
theorem dX0_witness_18 : decode cX0_witness 18 = .ok (.iload_n 2, 1) := dk_28 (dk_at dksX0_witness_0 18 rfl rfl)
theorem dX0_witness_19 : decode cX0_witness 19 = .ok (.ifCond .le 5, 3) := dk_158 0 5 (dk_at dksX0_witness_0 19 rfl rfl)
theorem dX0_witness_22 : decode cX0_witness 22 = .ok (.iconst (-1), 1) := dk_2 (dk_at dksX0_witness_0 22 rfl rfl)
theorem dX0_witness_23 : decode cX0_witness 23 = .ok (.ireturn, 1) := dk_172 (dk_at dksX0_witness_0 23 rfl rfl)
theorem dX0_witness_24 : decode cX0_witness 24 = .ok (.aload_n 0, 1) := dk_42 (dk_at dksX0_witness_1 0 rfl rfl)
theorem dX0_witness_25 : decode cX0_witness 25 = .ok (.invokevirtual 1015, 3) := dk_182 3 247 (dk_at dksX0_witness_1 1 rfl rfl)
theorem dX0_witness_28 : decode cX0_witness 28 = .ok (.iload_n 1, 1) := dk_27 (dk_at dksX0_witness_1 4 rfl rfl)
theorem dX0_witness_29 : decode cX0_witness 29 = .ok (.iconst 1, 1) := dk_4 (dk_at dksX0_witness_1 5 rfl rfl)
theorem dX0_witness_30 : decode cX0_witness 30 = .ok (.if_icmp .ne 8, 3) := dk_160 0 8 (dk_at dksX0_witness_1 6 rfl rfl)
theorem dX0_witness_33 : decode cX0_witness 33 = .ok (.aload_n 0, 1) := dk_42 (dk_at dksX0_witness_1 9 rfl rfl)
theorem dX0_witness_34 : decode cX0_witness 34 = .ok (.invokevirtual 1264, 3) := dk_182 4 240 (dk_at dksX0_witness_1 10 rfl rfl)
theorem dX0_witness_37 : decode cX0_witness 37 = .ok (.ireturn, 1) := dk_172 (dk_at dksX0_witness_1 13 rfl rfl)
theorem dX0_witness_38 : decode cX0_witness 38 = .ok (.aload_n 0, 1) := dk_42 (dk_at dksX0_witness_1 14 rfl rfl)
theorem dX0_witness_39 : decode cX0_witness 39 = .ok (.invokevirtual 1261, 3) := dk_182 4 237 (dk_at dksX0_witness_1 15 rfl rfl)
theorem dX0_witness_42 : decode cX0_witness 42 = .ok (.ifCond .eq 6, 3) := dk_153 0 6 (dk_at dksX0_witness_1 18 rfl rfl)
theorem dX0_witness_45 : decode cX0_witness 45 = .ok (.bipush (-2), 2) := dk_16 254 (dk_at dksX0_witness_1 21 rfl rfl)
theorem dX0_witness_47 : decode cX0_witness 47 = .ok (.ireturn, 1) := dk_172 (dk_at dksX0_witness_1 23 rfl rfl)
theorem dX0_witness_48 : decode cX0_witness 48 = .ok (.iload_n 2, 1) := dk_28 (dk_at dksX0_witness_2 0 rfl rfl)
theorem dX0_witness_49 : decode cX0_witness 49 = .ok (.aload_n 0, 1) := dk_42 (dk_at dksX0_witness_2 1 rfl rfl)
theorem dX0_witness_50 : decode cX0_witness 50 = .ok (.getfield 1216, 3) := dk_180 4 192 (dk_at dksX0_witness_2 2 rfl rfl)
theorem dX0_witness_53 : decode cX0_witness 53 = .ok (.if_icmp .gt 12, 3) := dk_163 0 12 (dk_at dksX0_witness_2 5 rfl rfl)
theorem dX0_witness_56 : decode cX0_witness 56 = .ok (.aload_n 0, 1) := dk_42 (dk_at dksX0_witness_2 8 rfl rfl)
theorem dX0_witness_57 : decode cX0_witness 57 = .ok (.getfield 1213, 3) := dk_180 4 189 (dk_at dksX0_witness_2 9 rfl rfl)
theorem dX0_witness_60 : decode cX0_witness 60 = .ok (.iload_n 2, 1) := dk_28 (dk_at dksX0_witness_2 12 rfl rfl)
theorem dX0_witness_61 : decode cX0_witness 61 = .ok (.iaload, 1) := dk_46 (dk_at dksX0_witness_2 13 rfl rfl)
theorem dX0_witness_62 : decode cX0_witness 62 = .ok (.goto 4, 3) := dk_167 0 4 (dk_at dksX0_witness_2 14 rfl rfl)
theorem dX0_witness_65 : decode cX0_witness 65 = .ok (.iconst (-1), 1) := dk_2 (dk_at dksX0_witness_2 17 rfl rfl)
theorem dX0_witness_66 : decode cX0_witness 66 = .ok (.ireturn, 1) := dk_172 (dk_at dksX0_witness_2 18 rfl rfl)
abbrev cX0_pairs : ByteArray := prog_1_method_233_code
def yX0_pairs : MethodName := ⟨RX0, "pairs", "(I)I"⟩
def dkwX0_pairs_2 : List UInt8 := [180, 5, 52, 167, 0, 7, 42, 180, 4, 246, 172, 77, 42, 44, 182, 4, 39, 172]
abbrev dktX0_pairs_2 : List UInt8 := dkwX0_pairs_2 ++ []
def dkwX0_pairs_1 : List UInt8 := [172, 42, 16, 254, 182, 5, 87, 27, 154, 0, 10, 42, 180, 4, 243, 167, 0, 19, 27, 4, 160, 0, 10, 42]
abbrev dktX0_pairs_1 : List UInt8 := dkwX0_pairs_1 ++ dktX0_pairs_2
def dkwX0_pairs_0 : List UInt8 := [27, 3, 5, 184, 0, 20, 154, 0, 5, 2, 172, 42, 182, 3, 247, 42, 182, 5, 84, 154, 0, 6, 16, 254]
abbrev dktX0_pairs_0 : List UInt8 := dkwX0_pairs_0 ++ dktX0_pairs_1
theorem dksX0_pairs_0 : cX0_pairs.data.toList.drop 0 = dktX0_pairs_0 := by decide +kernel
theorem dksX0_pairs_1 : cX0_pairs.data.toList.drop 24 = dktX0_pairs_1 := dk_seg dksX0_pairs_0 24 rfl rfl
theorem dksX0_pairs_2 : cX0_pairs.data.toList.drop 48 = dktX0_pairs_2 := dk_seg dksX0_pairs_1 24 rfl rfl
theorem dX0_pairs_0 : decode cX0_pairs 0 = .ok (.iload_n 1, 1) := dk_27 (dk_at dksX0_pairs_0 0 rfl rfl)
theorem dX0_pairs_1 : decode cX0_pairs 1 = .ok (.iconst 0, 1) := dk_3 (dk_at dksX0_pairs_0 1 rfl rfl)
theorem dX0_pairs_2 : decode cX0_pairs 2 = .ok (.iconst 2, 1) := dk_5 (dk_at dksX0_pairs_0 2 rfl rfl)
theorem dX0_pairs_3 : decode cX0_pairs 3 = .ok (.invokestatic 20, 3) := dk_184 0 20 (dk_at dksX0_pairs_0 3 rfl rfl)
theorem dX0_pairs_6 : decode cX0_pairs 6 = .ok (.ifCond .ne 5, 3) := dk_154 0 5 (dk_at dksX0_pairs_0 6 rfl rfl)
theorem dX0_pairs_9 : decode cX0_pairs 9 = .ok (.iconst (-1), 1) := dk_2 (dk_at dksX0_pairs_0 9 rfl rfl)
theorem dX0_pairs_10 : decode cX0_pairs 10 = .ok (.ireturn, 1) := dk_172 (dk_at dksX0_pairs_0 10 rfl rfl)
theorem dX0_pairs_11 : decode cX0_pairs 11 = .ok (.aload_n 0, 1) := dk_42 (dk_at dksX0_pairs_0 11 rfl rfl)
theorem dX0_pairs_12 : decode cX0_pairs 12 = .ok (.invokevirtual 1015, 3) := dk_182 3 247 (dk_at dksX0_pairs_0 12 rfl rfl)
theorem dX0_pairs_15 : decode cX0_pairs 15 = .ok (.aload_n 0, 1) := dk_42 (dk_at dksX0_pairs_0 15 rfl rfl)
theorem dX0_pairs_16 : decode cX0_pairs 16 = .ok (.invokevirtual 1364, 3) := dk_182 5 84 (dk_at dksX0_pairs_0 16 rfl rfl)
theorem dX0_pairs_19 : decode cX0_pairs 19 = .ok (.ifCond .ne 6, 3) := dk_154 0 6 (dk_at dksX0_pairs_0 19 rfl rfl)
theorem dX0_pairs_22 : decode cX0_pairs 22 = .ok (.bipush (-2), 2) := dk_16 254 (dk_at dksX0_pairs_0 22 rfl rfl)
theorem dX0_pairs_24 : decode cX0_pairs 24 = .ok (.ireturn, 1) := dk_172 (dk_at dksX0_pairs_1 0 rfl rfl)
theorem dX0_pairs_25 : decode cX0_pairs 25 = .ok (.aload_n 0, 1) := dk_42 (dk_at dksX0_pairs_1 1 rfl rfl)
theorem dX0_pairs_26 : decode cX0_pairs 26 = .ok (.bipush (-2), 2) := dk_16 254 (dk_at dksX0_pairs_1 2 rfl rfl)
theorem dX0_pairs_28 : decode cX0_pairs 28 = .ok (.invokevirtual 1367, 3) := dk_182 5 87 (dk_at dksX0_pairs_1 4 rfl rfl)
theorem dX0_pairs_31 : decode cX0_pairs 31 = .ok (.iload_n 1, 1) := dk_27 (dk_at dksX0_pairs_1 7 rfl rfl)
theorem dX0_pairs_32 : decode cX0_pairs 32 = .ok (.ifCond .ne 10, 3) := dk_154 0 10 (dk_at dksX0_pairs_1 8 rfl rfl)
theorem dX0_pairs_35 : decode cX0_pairs 35 = .ok (.aload_n 0, 1) := dk_42 (dk_at dksX0_pairs_1 11 rfl rfl)
theorem dX0_pairs_36 : decode cX0_pairs 36 = .ok (.getfield 1267, 3) := dk_180 4 243 (dk_at dksX0_pairs_1 12 rfl rfl)
theorem dX0_pairs_39 : decode cX0_pairs 39 = .ok (.goto 19, 3) := dk_167 0 19 (dk_at dksX0_pairs_1 15 rfl rfl)
theorem dX0_pairs_42 : decode cX0_pairs 42 = .ok (.iload_n 1, 1) := dk_27 (dk_at dksX0_pairs_1 18 rfl rfl)
theorem dX0_pairs_43 : decode cX0_pairs 43 = .ok (.iconst 1, 1) := dk_4 (dk_at dksX0_pairs_1 19 rfl rfl)
theorem dX0_pairs_44 : decode cX0_pairs 44 = .ok (.if_icmp .ne 10, 3) := dk_160 0 10 (dk_at dksX0_pairs_1 20 rfl rfl)
theorem dX0_pairs_47 : decode cX0_pairs 47 = .ok (.aload_n 0, 1) := dk_42 (dk_at dksX0_pairs_1 23 rfl rfl)
theorem dX0_pairs_48 : decode cX0_pairs 48 = .ok (.getfield 1332, 3) := dk_180 5 52 (dk_at dksX0_pairs_2 0 rfl rfl)
theorem dX0_pairs_51 : decode cX0_pairs 51 = .ok (.goto 7, 3) := dk_167 0 7 (dk_at dksX0_pairs_2 3 rfl rfl)
theorem dX0_pairs_54 : decode cX0_pairs 54 = .ok (.aload_n 0, 1) := dk_42 (dk_at dksX0_pairs_2 6 rfl rfl)
theorem dX0_pairs_55 : decode cX0_pairs 55 = .ok (.getfield 1270, 3) := dk_180 4 246 (dk_at dksX0_pairs_2 7 rfl rfl)
theorem dX0_pairs_58 : decode cX0_pairs 58 = .ok (.ireturn, 1) := dk_172 (dk_at dksX0_pairs_2 10 rfl rfl)
theorem dX0_pairs_59 : decode cX0_pairs 59 = .ok (.astore_n 2, 1) := dk_77 (dk_at dksX0_pairs_2 11 rfl rfl)
theorem dX0_pairs_60 : decode cX0_pairs 60 = .ok (.aload_n 0, 1) := dk_42 (dk_at dksX0_pairs_2 12 rfl rfl)
theorem dX0_pairs_61 : decode cX0_pairs 61 = .ok (.aload_n 2, 1) := dk_44 (dk_at dksX0_pairs_2 13 rfl rfl)
theorem dX0_pairs_62 : decode cX0_pairs 62 = .ok (.invokevirtual 1063, 3) := dk_182 4 39 (dk_at dksX0_pairs_2 14 rfl rfl)
theorem dX0_pairs_65 : decode cX0_pairs 65 = .ok (.ireturn, 1) := dk_172 (dk_at dksX0_pairs_2 17 rfl rfl)
abbrev cX0_mayPair : ByteArray := prog_1_method_227_code
def yX0_mayPair : MethodName := ⟨RX0, "mayPair", "()Z"⟩
def dkwX0_mayPair_2 : List UInt8 := [182, 5, 73, 153, 0, 5, 3, 172, 132, 1, 1, 167, 255, 199, 4, 172]
abbrev dktX0_mayPair_2 : List UInt8 := dkwX0_mayPair_2 ++ []
def dkwX0_mayPair_1 : List UInt8 := [46, 157, 0, 29, 42, 42, 180, 2, 183, 27, 46, 182, 5, 73, 154, 0, 16, 42, 42, 180, 2, 192, 27, 46]
abbrev dktX0_mayPair_1 : List UInt8 := dkwX0_mayPair_1 ++ dktX0_mayPair_2
def dkwX0_mayPair_0 : List UInt8 := [3, 60, 27, 42, 180, 0, 157, 162, 0, 55, 42, 180, 1, 87, 27, 51, 154, 0, 38, 42, 180, 1, 100, 27]
abbrev dktX0_mayPair_0 : List UInt8 := dkwX0_mayPair_0 ++ dktX0_mayPair_1
theorem dksX0_mayPair_0 : cX0_mayPair.data.toList.drop 0 = dktX0_mayPair_0 := by decide +kernel
theorem dksX0_mayPair_1 : cX0_mayPair.data.toList.drop 24 = dktX0_mayPair_1 := dk_seg dksX0_mayPair_0 24 rfl rfl
theorem dksX0_mayPair_2 : cX0_mayPair.data.toList.drop 48 = dktX0_mayPair_2 := dk_seg dksX0_mayPair_1 24 rfl rfl
theorem dX0_mayPair_0 : decode cX0_mayPair 0 = .ok (.iconst 0, 1) := dk_3 (dk_at dksX0_mayPair_0 0 rfl rfl)
theorem dX0_mayPair_1 : decode cX0_mayPair 1 = .ok (.istore_n 1, 1) := dk_60 (dk_at dksX0_mayPair_0 1 rfl rfl)
theorem dX0_mayPair_2 : decode cX0_mayPair 2 = .ok (.iload_n 1, 1) := dk_27 (dk_at dksX0_mayPair_0 2 rfl rfl)
theorem dX0_mayPair_3 : decode cX0_mayPair 3 = .ok (.aload_n 0, 1) := dk_42 (dk_at dksX0_mayPair_0 3 rfl rfl)
theorem dX0_mayPair_4 : decode cX0_mayPair 4 = .ok (.getfield 157, 3) := dk_180 0 157 (dk_at dksX0_mayPair_0 4 rfl rfl)
theorem dX0_mayPair_7 : decode cX0_mayPair 7 = .ok (.if_icmp .ge 55, 3) := dk_162 0 55 (dk_at dksX0_mayPair_0 7 rfl rfl)
theorem dX0_mayPair_10 : decode cX0_mayPair 10 = .ok (.aload_n 0, 1) := dk_42 (dk_at dksX0_mayPair_0 10 rfl rfl)
theorem dX0_mayPair_11 : decode cX0_mayPair 11 = .ok (.getfield 343, 3) := dk_180 1 87 (dk_at dksX0_mayPair_0 11 rfl rfl)
theorem dX0_mayPair_14 : decode cX0_mayPair 14 = .ok (.iload_n 1, 1) := dk_27 (dk_at dksX0_mayPair_0 14 rfl rfl)
theorem dX0_mayPair_15 : decode cX0_mayPair 15 = .ok (.baload, 1) := dk_51 (dk_at dksX0_mayPair_0 15 rfl rfl)
theorem dX0_mayPair_16 : decode cX0_mayPair 16 = .ok (.ifCond .ne 38, 3) := dk_154 0 38 (dk_at dksX0_mayPair_0 16 rfl rfl)
theorem dX0_mayPair_19 : decode cX0_mayPair 19 = .ok (.aload_n 0, 1) := dk_42 (dk_at dksX0_mayPair_0 19 rfl rfl)
theorem dX0_mayPair_20 : decode cX0_mayPair 20 = .ok (.getfield 356, 3) := dk_180 1 100 (dk_at dksX0_mayPair_0 20 rfl rfl)
theorem dX0_mayPair_23 : decode cX0_mayPair 23 = .ok (.iload_n 1, 1) := dk_27 (dk_at dksX0_mayPair_0 23 rfl rfl)
theorem dX0_mayPair_24 : decode cX0_mayPair 24 = .ok (.iaload, 1) := dk_46 (dk_at dksX0_mayPair_1 0 rfl rfl)
theorem dX0_mayPair_25 : decode cX0_mayPair 25 = .ok (.ifCond .gt 29, 3) := dk_157 0 29 (dk_at dksX0_mayPair_1 1 rfl rfl)
theorem dX0_mayPair_28 : decode cX0_mayPair 28 = .ok (.aload_n 0, 1) := dk_42 (dk_at dksX0_mayPair_1 4 rfl rfl)
theorem dX0_mayPair_29 : decode cX0_mayPair 29 = .ok (.aload_n 0, 1) := dk_42 (dk_at dksX0_mayPair_1 5 rfl rfl)
theorem dX0_mayPair_30 : decode cX0_mayPair 30 = .ok (.getfield 695, 3) := dk_180 2 183 (dk_at dksX0_mayPair_1 6 rfl rfl)
theorem dX0_mayPair_33 : decode cX0_mayPair 33 = .ok (.iload_n 1, 1) := dk_27 (dk_at dksX0_mayPair_1 9 rfl rfl)
theorem dX0_mayPair_34 : decode cX0_mayPair 34 = .ok (.iaload, 1) := dk_46 (dk_at dksX0_mayPair_1 10 rfl rfl)
theorem dX0_mayPair_35 : decode cX0_mayPair 35 = .ok (.invokevirtual 1353, 3) := dk_182 5 73 (dk_at dksX0_mayPair_1 11 rfl rfl)
theorem dX0_mayPair_38 : decode cX0_mayPair 38 = .ok (.ifCond .ne 16, 3) := dk_154 0 16 (dk_at dksX0_mayPair_1 14 rfl rfl)
theorem dX0_mayPair_41 : decode cX0_mayPair 41 = .ok (.aload_n 0, 1) := dk_42 (dk_at dksX0_mayPair_1 17 rfl rfl)
theorem dX0_mayPair_42 : decode cX0_mayPair 42 = .ok (.aload_n 0, 1) := dk_42 (dk_at dksX0_mayPair_1 18 rfl rfl)
theorem dX0_mayPair_43 : decode cX0_mayPair 43 = .ok (.getfield 704, 3) := dk_180 2 192 (dk_at dksX0_mayPair_1 19 rfl rfl)
theorem dX0_mayPair_46 : decode cX0_mayPair 46 = .ok (.iload_n 1, 1) := dk_27 (dk_at dksX0_mayPair_1 22 rfl rfl)
theorem dX0_mayPair_47 : decode cX0_mayPair 47 = .ok (.iaload, 1) := dk_46 (dk_at dksX0_mayPair_1 23 rfl rfl)
theorem dX0_mayPair_48 : decode cX0_mayPair 48 = .ok (.invokevirtual 1353, 3) := dk_182 5 73 (dk_at dksX0_mayPair_2 0 rfl rfl)
theorem dX0_mayPair_51 : decode cX0_mayPair 51 = .ok (.ifCond .eq 5, 3) := dk_153 0 5 (dk_at dksX0_mayPair_2 3 rfl rfl)
theorem dX0_mayPair_54 : decode cX0_mayPair 54 = .ok (.iconst 0, 1) := dk_3 (dk_at dksX0_mayPair_2 6 rfl rfl)
theorem dX0_mayPair_55 : decode cX0_mayPair 55 = .ok (.ireturn, 1) := dk_172 (dk_at dksX0_mayPair_2 7 rfl rfl)
theorem dX0_mayPair_56 : decode cX0_mayPair 56 = .ok (.iinc 1 1, 3) := dk_132 1 1 (dk_at dksX0_mayPair_2 8 rfl rfl)
theorem dX0_mayPair_59 : decode cX0_mayPair 59 = .ok (.goto (-57), 3) := dk_167 255 199 (dk_at dksX0_mayPair_2 11 rfl rfl)
theorem dX0_mayPair_62 : decode cX0_mayPair 62 = .ok (.iconst 1, 1) := dk_4 (dk_at dksX0_mayPair_2 14 rfl rfl)
theorem dX0_mayPair_63 : decode cX0_mayPair 63 = .ok (.ireturn, 1) := dk_172 (dk_at dksX0_mayPair_2 15 rfl rfl)
abbrev cX0_hasAxiom : ByteArray := prog_1_method_228_code
def yX0_hasAxiom : MethodName := ⟨RX0, "hasAxiom", "(I)Z"⟩
def dkwX0_hasAxiom_3 : List UInt8 := [132, 3, 1, 167, 255, 228, 28, 172]
abbrev dktX0_hasAxiom_3 : List UInt8 := dkwX0_hasAxiom_3 ++ []
def dkwX0_hasAxiom_2 : List UInt8 := [42, 180, 2, 66, 27, 46, 162, 0, 24, 28, 154, 0, 20, 42, 42, 27, 29, 182, 2, 109, 182, 5, 73, 61]
abbrev dktX0_hasAxiom_2 : List UInt8 := dkwX0_hasAxiom_2 ++ dktX0_hasAxiom_3
def dkwX0_hasAxiom_1 : List UInt8 := [180, 1, 235, 42, 180, 2, 63, 27, 46, 46, 16, 254, 159, 0, 7, 4, 167, 0, 4, 3, 61, 3, 62, 29]
abbrev dktX0_hasAxiom_1 : List UInt8 := dkwX0_hasAxiom_1 ++ dktX0_hasAxiom_2
def dkwX0_hasAxiom_0 : List UInt8 := [42, 180, 2, 63, 27, 46, 155, 0, 37, 42, 180, 1, 229, 42, 180, 2, 63, 27, 46, 51, 154, 0, 19, 42]
abbrev dktX0_hasAxiom_0 : List UInt8 := dkwX0_hasAxiom_0 ++ dktX0_hasAxiom_1
theorem dksX0_hasAxiom_0 : cX0_hasAxiom.data.toList.drop 0 = dktX0_hasAxiom_0 := by decide +kernel
theorem dksX0_hasAxiom_1 : cX0_hasAxiom.data.toList.drop 24 = dktX0_hasAxiom_1 := dk_seg dksX0_hasAxiom_0 24 rfl rfl
theorem dksX0_hasAxiom_2 : cX0_hasAxiom.data.toList.drop 48 = dktX0_hasAxiom_2 := dk_seg dksX0_hasAxiom_1 24 rfl rfl
theorem dksX0_hasAxiom_3 : cX0_hasAxiom.data.toList.drop 72 = dktX0_hasAxiom_3 := dk_seg dksX0_hasAxiom_2 24 rfl rfl
theorem dX0_hasAxiom_0 : decode cX0_hasAxiom 0 = .ok (.aload_n 0, 1) := dk_42 (dk_at dksX0_hasAxiom_0 0 rfl rfl)
theorem dX0_hasAxiom_1 : decode cX0_hasAxiom 1 = .ok (.getfield 575, 3) := dk_180 2 63 (dk_at dksX0_hasAxiom_0 1 rfl rfl)
theorem dX0_hasAxiom_4 : decode cX0_hasAxiom 4 = .ok (.iload_n 1, 1) := dk_27 (dk_at dksX0_hasAxiom_0 4 rfl rfl)
theorem dX0_hasAxiom_5 : decode cX0_hasAxiom 5 = .ok (.iaload, 1) := dk_46 (dk_at dksX0_hasAxiom_0 5 rfl rfl)
theorem dX0_hasAxiom_6 : decode cX0_hasAxiom 6 = .ok (.ifCond .lt 37, 3) := dk_155 0 37 (dk_at dksX0_hasAxiom_0 6 rfl rfl)
theorem dX0_hasAxiom_9 : decode cX0_hasAxiom 9 = .ok (.aload_n 0, 1) := dk_42 (dk_at dksX0_hasAxiom_0 9 rfl rfl)
theorem dX0_hasAxiom_10 : decode cX0_hasAxiom 10 = .ok (.getfield 485, 3) := dk_180 1 229 (dk_at dksX0_hasAxiom_0 10 rfl rfl)
theorem dX0_hasAxiom_13 : decode cX0_hasAxiom 13 = .ok (.aload_n 0, 1) := dk_42 (dk_at dksX0_hasAxiom_0 13 rfl rfl)
theorem dX0_hasAxiom_14 : decode cX0_hasAxiom 14 = .ok (.getfield 575, 3) := dk_180 2 63 (dk_at dksX0_hasAxiom_0 14 rfl rfl)
theorem dX0_hasAxiom_17 : decode cX0_hasAxiom 17 = .ok (.iload_n 1, 1) := dk_27 (dk_at dksX0_hasAxiom_0 17 rfl rfl)
theorem dX0_hasAxiom_18 : decode cX0_hasAxiom 18 = .ok (.iaload, 1) := dk_46 (dk_at dksX0_hasAxiom_0 18 rfl rfl)
theorem dX0_hasAxiom_19 : decode cX0_hasAxiom 19 = .ok (.baload, 1) := dk_51 (dk_at dksX0_hasAxiom_0 19 rfl rfl)
theorem dX0_hasAxiom_20 : decode cX0_hasAxiom 20 = .ok (.ifCond .ne 19, 3) := dk_154 0 19 (dk_at dksX0_hasAxiom_0 20 rfl rfl)
theorem dX0_hasAxiom_23 : decode cX0_hasAxiom 23 = .ok (.aload_n 0, 1) := dk_42 (dk_at dksX0_hasAxiom_0 23 rfl rfl)
theorem dX0_hasAxiom_24 : decode cX0_hasAxiom 24 = .ok (.getfield 491, 3) := dk_180 1 235 (dk_at dksX0_hasAxiom_1 0 rfl rfl)
theorem dX0_hasAxiom_27 : decode cX0_hasAxiom 27 = .ok (.aload_n 0, 1) := dk_42 (dk_at dksX0_hasAxiom_1 3 rfl rfl)
theorem dX0_hasAxiom_28 : decode cX0_hasAxiom 28 = .ok (.getfield 575, 3) := dk_180 2 63 (dk_at dksX0_hasAxiom_1 4 rfl rfl)
theorem dX0_hasAxiom_31 : decode cX0_hasAxiom 31 = .ok (.iload_n 1, 1) := dk_27 (dk_at dksX0_hasAxiom_1 7 rfl rfl)
theorem dX0_hasAxiom_32 : decode cX0_hasAxiom 32 = .ok (.iaload, 1) := dk_46 (dk_at dksX0_hasAxiom_1 8 rfl rfl)
theorem dX0_hasAxiom_33 : decode cX0_hasAxiom 33 = .ok (.iaload, 1) := dk_46 (dk_at dksX0_hasAxiom_1 9 rfl rfl)
theorem dX0_hasAxiom_34 : decode cX0_hasAxiom 34 = .ok (.bipush (-2), 2) := dk_16 254 (dk_at dksX0_hasAxiom_1 10 rfl rfl)
theorem dX0_hasAxiom_36 : decode cX0_hasAxiom 36 = .ok (.if_icmp .eq 7, 3) := dk_159 0 7 (dk_at dksX0_hasAxiom_1 12 rfl rfl)
theorem dX0_hasAxiom_39 : decode cX0_hasAxiom 39 = .ok (.iconst 1, 1) := dk_4 (dk_at dksX0_hasAxiom_1 15 rfl rfl)
theorem dX0_hasAxiom_40 : decode cX0_hasAxiom 40 = .ok (.goto 4, 3) := dk_167 0 4 (dk_at dksX0_hasAxiom_1 16 rfl rfl)
theorem dX0_hasAxiom_43 : decode cX0_hasAxiom 43 = .ok (.iconst 0, 1) := dk_3 (dk_at dksX0_hasAxiom_1 19 rfl rfl)
theorem dX0_hasAxiom_44 : decode cX0_hasAxiom 44 = .ok (.istore_n 2, 1) := dk_61 (dk_at dksX0_hasAxiom_1 20 rfl rfl)
theorem dX0_hasAxiom_45 : decode cX0_hasAxiom 45 = .ok (.iconst 0, 1) := dk_3 (dk_at dksX0_hasAxiom_1 21 rfl rfl)
theorem dX0_hasAxiom_46 : decode cX0_hasAxiom 46 = .ok (.istore_n 3, 1) := dk_62 (dk_at dksX0_hasAxiom_1 22 rfl rfl)
theorem dX0_hasAxiom_47 : decode cX0_hasAxiom 47 = .ok (.iload_n 3, 1) := dk_29 (dk_at dksX0_hasAxiom_1 23 rfl rfl)
theorem dX0_hasAxiom_48 : decode cX0_hasAxiom 48 = .ok (.aload_n 0, 1) := dk_42 (dk_at dksX0_hasAxiom_2 0 rfl rfl)
theorem dX0_hasAxiom_49 : decode cX0_hasAxiom 49 = .ok (.getfield 578, 3) := dk_180 2 66 (dk_at dksX0_hasAxiom_2 1 rfl rfl)
theorem dX0_hasAxiom_52 : decode cX0_hasAxiom 52 = .ok (.iload_n 1, 1) := dk_27 (dk_at dksX0_hasAxiom_2 4 rfl rfl)
theorem dX0_hasAxiom_53 : decode cX0_hasAxiom 53 = .ok (.iaload, 1) := dk_46 (dk_at dksX0_hasAxiom_2 5 rfl rfl)
theorem dX0_hasAxiom_54 : decode cX0_hasAxiom 54 = .ok (.if_icmp .ge 24, 3) := dk_162 0 24 (dk_at dksX0_hasAxiom_2 6 rfl rfl)
theorem dX0_hasAxiom_57 : decode cX0_hasAxiom 57 = .ok (.iload_n 2, 1) := dk_28 (dk_at dksX0_hasAxiom_2 9 rfl rfl)
theorem dX0_hasAxiom_58 : decode cX0_hasAxiom 58 = .ok (.ifCond .ne 20, 3) := dk_154 0 20 (dk_at dksX0_hasAxiom_2 10 rfl rfl)
theorem dX0_hasAxiom_61 : decode cX0_hasAxiom 61 = .ok (.aload_n 0, 1) := dk_42 (dk_at dksX0_hasAxiom_2 13 rfl rfl)
theorem dX0_hasAxiom_62 : decode cX0_hasAxiom 62 = .ok (.aload_n 0, 1) := dk_42 (dk_at dksX0_hasAxiom_2 14 rfl rfl)
theorem dX0_hasAxiom_63 : decode cX0_hasAxiom 63 = .ok (.iload_n 1, 1) := dk_27 (dk_at dksX0_hasAxiom_2 15 rfl rfl)
theorem dX0_hasAxiom_64 : decode cX0_hasAxiom 64 = .ok (.iload_n 3, 1) := dk_29 (dk_at dksX0_hasAxiom_2 16 rfl rfl)
theorem dX0_hasAxiom_65 : decode cX0_hasAxiom 65 = .ok (.invokevirtual 621, 3) := dk_182 2 109 (dk_at dksX0_hasAxiom_2 17 rfl rfl)
theorem dX0_hasAxiom_68 : decode cX0_hasAxiom 68 = .ok (.invokevirtual 1353, 3) := dk_182 5 73 (dk_at dksX0_hasAxiom_2 20 rfl rfl)
theorem dX0_hasAxiom_71 : decode cX0_hasAxiom 71 = .ok (.istore_n 2, 1) := dk_61 (dk_at dksX0_hasAxiom_2 23 rfl rfl)
theorem dX0_hasAxiom_72 : decode cX0_hasAxiom 72 = .ok (.iinc 3 1, 3) := dk_132 3 1 (dk_at dksX0_hasAxiom_3 0 rfl rfl)
theorem dX0_hasAxiom_75 : decode cX0_hasAxiom 75 = .ok (.goto (-28), 3) := dk_167 255 228 (dk_at dksX0_hasAxiom_3 3 rfl rfl)
theorem dX0_hasAxiom_78 : decode cX0_hasAxiom 78 = .ok (.iload_n 2, 1) := dk_28 (dk_at dksX0_hasAxiom_3 6 rfl rfl)
theorem dX0_hasAxiom_79 : decode cX0_hasAxiom 79 = .ok (.ireturn, 1) := dk_172 (dk_at dksX0_hasAxiom_3 7 rfl rfl)
abbrev cX0_layPairs : ByteArray := prog_1_method_229_code
def yX0_layPairs : MethodName := ⟨RX0, "layPairs", "(I)V"⟩
def dkwX0_layPairs_6 : List UInt8 := [167, 255, 154, 132, 2, 1, 167, 255, 138, 177]
abbrev dktX0_layPairs_6 : List UInt8 := dkwX0_layPairs_6 ++ []
def dkwX0_layPairs_5 : List UInt8 := [180, 2, 183, 29, 46, 182, 5, 78, 153, 0, 7, 4, 167, 0, 4, 3, 182, 5, 81, 132, 3, 1]
abbrev dktX0_layPairs_5 : List UInt8 := dkwX0_layPairs_5 ++ dktX0_layPairs_6
def dkwX0_layPairs_4 : List UInt8 := [42, 21, 4, 21, 5, 42, 180, 2, 183, 29, 46, 28, 29, 161, 0, 21, 28, 29, 160, 0, 20, 42, 42]
abbrev dktX0_layPairs_4 : List UInt8 := dkwX0_layPairs_4 ++ dktX0_layPairs_5
def dkwX0_layPairs_3 : List UInt8 := [54, 4, 42, 42, 180, 2, 192, 28, 46, 182, 4, 252, 54, 5, 42, 42, 180, 2, 192, 29, 46, 181, 5, 43]
abbrev dktX0_layPairs_3 : List UInt8 := dkwX0_layPairs_3 ++ dktX0_layPairs_4
def dkwX0_layPairs_2 : List UInt8 := [28, 181, 5, 61, 42, 29, 181, 5, 67, 42, 3, 181, 3, 213, 42, 42, 180, 2, 183, 28, 46, 182, 4, 252]
abbrev dktX0_layPairs_2 : List UInt8 := dkwX0_layPairs_2 ++ dktX0_layPairs_3
def dkwX0_layPairs_1 : List UInt8 := [181, 5, 55, 3, 61, 28, 42, 180, 0, 157, 162, 0, 116, 3, 62, 29, 42, 180, 0, 157, 162, 0, 100, 42]
abbrev dktX0_layPairs_1 : List UInt8 := dkwX0_layPairs_1 ++ dktX0_layPairs_2
def dkwX0_layPairs_0 : List UInt8 := [42, 20, 5, 76, 181, 3, 112, 42, 3, 181, 4, 243, 42, 3, 181, 5, 52, 42, 3, 181, 4, 246, 42, 27]
abbrev dktX0_layPairs_0 : List UInt8 := dkwX0_layPairs_0 ++ dktX0_layPairs_1
theorem dksX0_layPairs_0 : cX0_layPairs.data.toList.drop 0 = dktX0_layPairs_0 := by decide +kernel
theorem dksX0_layPairs_1 : cX0_layPairs.data.toList.drop 24 = dktX0_layPairs_1 := dk_seg dksX0_layPairs_0 24 rfl rfl
theorem dksX0_layPairs_2 : cX0_layPairs.data.toList.drop 48 = dktX0_layPairs_2 := dk_seg dksX0_layPairs_1 24 rfl rfl
theorem dksX0_layPairs_3 : cX0_layPairs.data.toList.drop 72 = dktX0_layPairs_3 := dk_seg dksX0_layPairs_2 24 rfl rfl
theorem dksX0_layPairs_4 : cX0_layPairs.data.toList.drop 96 = dktX0_layPairs_4 := dk_seg dksX0_layPairs_3 24 rfl rfl
theorem dksX0_layPairs_5 : cX0_layPairs.data.toList.drop 119 = dktX0_layPairs_5 := dk_seg dksX0_layPairs_4 23 rfl rfl
theorem dksX0_layPairs_6 : cX0_layPairs.data.toList.drop 141 = dktX0_layPairs_6 := dk_seg dksX0_layPairs_5 22 rfl rfl
theorem dX0_layPairs_0 : decode cX0_layPairs 0 = .ok (.aload_n 0, 1) := dk_42 (dk_at dksX0_layPairs_0 0 rfl rfl)
theorem dX0_layPairs_1 : decode cX0_layPairs 1 = .ok (.ldc2_w 1356, 3) := dk_20 5 76 (dk_at dksX0_layPairs_0 1 rfl rfl)
theorem dX0_layPairs_4 : decode cX0_layPairs 4 = .ok (.putfield 880, 3) := dk_181 3 112 (dk_at dksX0_layPairs_0 4 rfl rfl)
theorem dX0_layPairs_7 : decode cX0_layPairs 7 = .ok (.aload_n 0, 1) := dk_42 (dk_at dksX0_layPairs_0 7 rfl rfl)
theorem dX0_layPairs_8 : decode cX0_layPairs 8 = .ok (.iconst 0, 1) := dk_3 (dk_at dksX0_layPairs_0 8 rfl rfl)
theorem dX0_layPairs_9 : decode cX0_layPairs 9 = .ok (.putfield 1267, 3) := dk_181 4 243 (dk_at dksX0_layPairs_0 9 rfl rfl)
theorem dX0_layPairs_12 : decode cX0_layPairs 12 = .ok (.aload_n 0, 1) := dk_42 (dk_at dksX0_layPairs_0 12 rfl rfl)
theorem dX0_layPairs_13 : decode cX0_layPairs 13 = .ok (.iconst 0, 1) := dk_3 (dk_at dksX0_layPairs_0 13 rfl rfl)
theorem dX0_layPairs_14 : decode cX0_layPairs 14 = .ok (.putfield 1332, 3) := dk_181 5 52 (dk_at dksX0_layPairs_0 14 rfl rfl)
theorem dX0_layPairs_17 : decode cX0_layPairs 17 = .ok (.aload_n 0, 1) := dk_42 (dk_at dksX0_layPairs_0 17 rfl rfl)
theorem dX0_layPairs_18 : decode cX0_layPairs 18 = .ok (.iconst 0, 1) := dk_3 (dk_at dksX0_layPairs_0 18 rfl rfl)
theorem dX0_layPairs_19 : decode cX0_layPairs 19 = .ok (.putfield 1270, 3) := dk_181 4 246 (dk_at dksX0_layPairs_0 19 rfl rfl)
theorem dX0_layPairs_22 : decode cX0_layPairs 22 = .ok (.aload_n 0, 1) := dk_42 (dk_at dksX0_layPairs_0 22 rfl rfl)
theorem dX0_layPairs_23 : decode cX0_layPairs 23 = .ok (.iload_n 1, 1) := dk_27 (dk_at dksX0_layPairs_0 23 rfl rfl)
theorem dX0_layPairs_24 : decode cX0_layPairs 24 = .ok (.putfield 1335, 3) := dk_181 5 55 (dk_at dksX0_layPairs_1 0 rfl rfl)
theorem dX0_layPairs_27 : decode cX0_layPairs 27 = .ok (.iconst 0, 1) := dk_3 (dk_at dksX0_layPairs_1 3 rfl rfl)
theorem dX0_layPairs_28 : decode cX0_layPairs 28 = .ok (.istore_n 2, 1) := dk_61 (dk_at dksX0_layPairs_1 4 rfl rfl)
theorem dX0_layPairs_29 : decode cX0_layPairs 29 = .ok (.iload_n 2, 1) := dk_28 (dk_at dksX0_layPairs_1 5 rfl rfl)
theorem dX0_layPairs_30 : decode cX0_layPairs 30 = .ok (.aload_n 0, 1) := dk_42 (dk_at dksX0_layPairs_1 6 rfl rfl)
theorem dX0_layPairs_31 : decode cX0_layPairs 31 = .ok (.getfield 157, 3) := dk_180 0 157 (dk_at dksX0_layPairs_1 7 rfl rfl)
theorem dX0_layPairs_34 : decode cX0_layPairs 34 = .ok (.if_icmp .ge 116, 3) := dk_162 0 116 (dk_at dksX0_layPairs_1 10 rfl rfl)
theorem dX0_layPairs_37 : decode cX0_layPairs 37 = .ok (.iconst 0, 1) := dk_3 (dk_at dksX0_layPairs_1 13 rfl rfl)
theorem dX0_layPairs_38 : decode cX0_layPairs 38 = .ok (.istore_n 3, 1) := dk_62 (dk_at dksX0_layPairs_1 14 rfl rfl)
theorem dX0_layPairs_39 : decode cX0_layPairs 39 = .ok (.iload_n 3, 1) := dk_29 (dk_at dksX0_layPairs_1 15 rfl rfl)
theorem dX0_layPairs_40 : decode cX0_layPairs 40 = .ok (.aload_n 0, 1) := dk_42 (dk_at dksX0_layPairs_1 16 rfl rfl)
theorem dX0_layPairs_41 : decode cX0_layPairs 41 = .ok (.getfield 157, 3) := dk_180 0 157 (dk_at dksX0_layPairs_1 17 rfl rfl)
theorem dX0_layPairs_44 : decode cX0_layPairs 44 = .ok (.if_icmp .ge 100, 3) := dk_162 0 100 (dk_at dksX0_layPairs_1 20 rfl rfl)
theorem dX0_layPairs_47 : decode cX0_layPairs 47 = .ok (.aload_n 0, 1) := dk_42 (dk_at dksX0_layPairs_1 23 rfl rfl)
theorem dX0_layPairs_48 : decode cX0_layPairs 48 = .ok (.iload_n 2, 1) := dk_28 (dk_at dksX0_layPairs_2 0 rfl rfl)
theorem dX0_layPairs_49 : decode cX0_layPairs 49 = .ok (.putfield 1341, 3) := dk_181 5 61 (dk_at dksX0_layPairs_2 1 rfl rfl)
theorem dX0_layPairs_52 : decode cX0_layPairs 52 = .ok (.aload_n 0, 1) := dk_42 (dk_at dksX0_layPairs_2 4 rfl rfl)
theorem dX0_layPairs_53 : decode cX0_layPairs 53 = .ok (.iload_n 3, 1) := dk_29 (dk_at dksX0_layPairs_2 5 rfl rfl)
theorem dX0_layPairs_54 : decode cX0_layPairs 54 = .ok (.putfield 1347, 3) := dk_181 5 67 (dk_at dksX0_layPairs_2 6 rfl rfl)
theorem dX0_layPairs_57 : decode cX0_layPairs 57 = .ok (.aload_n 0, 1) := dk_42 (dk_at dksX0_layPairs_2 9 rfl rfl)
theorem dX0_layPairs_58 : decode cX0_layPairs 58 = .ok (.iconst 0, 1) := dk_3 (dk_at dksX0_layPairs_2 10 rfl rfl)
theorem dX0_layPairs_59 : decode cX0_layPairs 59 = .ok (.putfield 981, 3) := dk_181 3 213 (dk_at dksX0_layPairs_2 11 rfl rfl)
theorem dX0_layPairs_62 : decode cX0_layPairs 62 = .ok (.aload_n 0, 1) := dk_42 (dk_at dksX0_layPairs_2 14 rfl rfl)
theorem dX0_layPairs_63 : decode cX0_layPairs 63 = .ok (.aload_n 0, 1) := dk_42 (dk_at dksX0_layPairs_2 15 rfl rfl)
theorem dX0_layPairs_64 : decode cX0_layPairs 64 = .ok (.getfield 695, 3) := dk_180 2 183 (dk_at dksX0_layPairs_2 16 rfl rfl)
theorem dX0_layPairs_67 : decode cX0_layPairs 67 = .ok (.iload_n 2, 1) := dk_28 (dk_at dksX0_layPairs_2 19 rfl rfl)
theorem dX0_layPairs_68 : decode cX0_layPairs 68 = .ok (.iaload, 1) := dk_46 (dk_at dksX0_layPairs_2 20 rfl rfl)
theorem dX0_layPairs_69 : decode cX0_layPairs 69 = .ok (.invokevirtual 1276, 3) := dk_182 4 252 (dk_at dksX0_layPairs_2 21 rfl rfl)
theorem dX0_layPairs_72 : decode cX0_layPairs 72 = .ok (.istore 4, 2) := dk_54 4 (dk_at dksX0_layPairs_3 0 rfl rfl)
theorem dX0_layPairs_74 : decode cX0_layPairs 74 = .ok (.aload_n 0, 1) := dk_42 (dk_at dksX0_layPairs_3 2 rfl rfl)
theorem dX0_layPairs_75 : decode cX0_layPairs 75 = .ok (.aload_n 0, 1) := dk_42 (dk_at dksX0_layPairs_3 3 rfl rfl)
theorem dX0_layPairs_76 : decode cX0_layPairs 76 = .ok (.getfield 704, 3) := dk_180 2 192 (dk_at dksX0_layPairs_3 4 rfl rfl)
theorem dX0_layPairs_79 : decode cX0_layPairs 79 = .ok (.iload_n 2, 1) := dk_28 (dk_at dksX0_layPairs_3 7 rfl rfl)
theorem dX0_layPairs_80 : decode cX0_layPairs 80 = .ok (.iaload, 1) := dk_46 (dk_at dksX0_layPairs_3 8 rfl rfl)
theorem dX0_layPairs_81 : decode cX0_layPairs 81 = .ok (.invokevirtual 1276, 3) := dk_182 4 252 (dk_at dksX0_layPairs_3 9 rfl rfl)
theorem dX0_layPairs_84 : decode cX0_layPairs 84 = .ok (.istore 5, 2) := dk_54 5 (dk_at dksX0_layPairs_3 12 rfl rfl)
theorem dX0_layPairs_86 : decode cX0_layPairs 86 = .ok (.aload_n 0, 1) := dk_42 (dk_at dksX0_layPairs_3 14 rfl rfl)
theorem dX0_layPairs_87 : decode cX0_layPairs 87 = .ok (.aload_n 0, 1) := dk_42 (dk_at dksX0_layPairs_3 15 rfl rfl)
theorem dX0_layPairs_88 : decode cX0_layPairs 88 = .ok (.getfield 704, 3) := dk_180 2 192 (dk_at dksX0_layPairs_3 16 rfl rfl)
theorem dX0_layPairs_91 : decode cX0_layPairs 91 = .ok (.iload_n 3, 1) := dk_29 (dk_at dksX0_layPairs_3 19 rfl rfl)
theorem dX0_layPairs_92 : decode cX0_layPairs 92 = .ok (.iaload, 1) := dk_46 (dk_at dksX0_layPairs_3 20 rfl rfl)
theorem dX0_layPairs_93 : decode cX0_layPairs 93 = .ok (.putfield 1323, 3) := dk_181 5 43 (dk_at dksX0_layPairs_3 21 rfl rfl)
theorem dX0_layPairs_96 : decode cX0_layPairs 96 = .ok (.aload_n 0, 1) := dk_42 (dk_at dksX0_layPairs_4 0 rfl rfl)
theorem dX0_layPairs_97 : decode cX0_layPairs 97 = .ok (.iload 4, 2) := dk_21 4 (dk_at dksX0_layPairs_4 1 rfl rfl)
theorem dX0_layPairs_99 : decode cX0_layPairs 99 = .ok (.iload 5, 2) := dk_21 5 (dk_at dksX0_layPairs_4 3 rfl rfl)
theorem dX0_layPairs_101 : decode cX0_layPairs 101 = .ok (.aload_n 0, 1) := dk_42 (dk_at dksX0_layPairs_4 5 rfl rfl)
theorem dX0_layPairs_102 : decode cX0_layPairs 102 = .ok (.getfield 695, 3) := dk_180 2 183 (dk_at dksX0_layPairs_4 6 rfl rfl)
theorem dX0_layPairs_105 : decode cX0_layPairs 105 = .ok (.iload_n 3, 1) := dk_29 (dk_at dksX0_layPairs_4 9 rfl rfl)
theorem dX0_layPairs_106 : decode cX0_layPairs 106 = .ok (.iaload, 1) := dk_46 (dk_at dksX0_layPairs_4 10 rfl rfl)
theorem dX0_layPairs_107 : decode cX0_layPairs 107 = .ok (.iload_n 2, 1) := dk_28 (dk_at dksX0_layPairs_4 11 rfl rfl)
theorem dX0_layPairs_108 : decode cX0_layPairs 108 = .ok (.iload_n 3, 1) := dk_29 (dk_at dksX0_layPairs_4 12 rfl rfl)
theorem dX0_layPairs_109 : decode cX0_layPairs 109 = .ok (.if_icmp .lt 21, 3) := dk_161 0 21 (dk_at dksX0_layPairs_4 13 rfl rfl)
theorem dX0_layPairs_112 : decode cX0_layPairs 112 = .ok (.iload_n 2, 1) := dk_28 (dk_at dksX0_layPairs_4 16 rfl rfl)
theorem dX0_layPairs_113 : decode cX0_layPairs 113 = .ok (.iload_n 3, 1) := dk_29 (dk_at dksX0_layPairs_4 17 rfl rfl)
theorem dX0_layPairs_114 : decode cX0_layPairs 114 = .ok (.if_icmp .ne 20, 3) := dk_160 0 20 (dk_at dksX0_layPairs_4 18 rfl rfl)
theorem dX0_layPairs_117 : decode cX0_layPairs 117 = .ok (.aload_n 0, 1) := dk_42 (dk_at dksX0_layPairs_4 21 rfl rfl)
theorem dX0_layPairs_118 : decode cX0_layPairs 118 = .ok (.aload_n 0, 1) := dk_42 (dk_at dksX0_layPairs_4 22 rfl rfl)
theorem dX0_layPairs_119 : decode cX0_layPairs 119 = .ok (.getfield 695, 3) := dk_180 2 183 (dk_at dksX0_layPairs_5 0 rfl rfl)
theorem dX0_layPairs_122 : decode cX0_layPairs 122 = .ok (.iload_n 3, 1) := dk_29 (dk_at dksX0_layPairs_5 3 rfl rfl)
theorem dX0_layPairs_123 : decode cX0_layPairs 123 = .ok (.iaload, 1) := dk_46 (dk_at dksX0_layPairs_5 4 rfl rfl)
theorem dX0_layPairs_124 : decode cX0_layPairs 124 = .ok (.invokevirtual 1358, 3) := dk_182 5 78 (dk_at dksX0_layPairs_5 5 rfl rfl)
theorem dX0_layPairs_127 : decode cX0_layPairs 127 = .ok (.ifCond .eq 7, 3) := dk_153 0 7 (dk_at dksX0_layPairs_5 8 rfl rfl)
theorem dX0_layPairs_130 : decode cX0_layPairs 130 = .ok (.iconst 1, 1) := dk_4 (dk_at dksX0_layPairs_5 11 rfl rfl)
theorem dX0_layPairs_131 : decode cX0_layPairs 131 = .ok (.goto 4, 3) := dk_167 0 4 (dk_at dksX0_layPairs_5 12 rfl rfl)
theorem dX0_layPairs_134 : decode cX0_layPairs 134 = .ok (.iconst 0, 1) := dk_3 (dk_at dksX0_layPairs_5 15 rfl rfl)
theorem dX0_layPairs_135 : decode cX0_layPairs 135 = .ok (.invokevirtual 1361, 3) := dk_182 5 81 (dk_at dksX0_layPairs_5 16 rfl rfl)
theorem dX0_layPairs_138 : decode cX0_layPairs 138 = .ok (.iinc 3 1, 3) := dk_132 3 1 (dk_at dksX0_layPairs_5 19 rfl rfl)
theorem dX0_layPairs_141 : decode cX0_layPairs 141 = .ok (.goto (-102), 3) := dk_167 255 154 (dk_at dksX0_layPairs_6 0 rfl rfl)
theorem dX0_layPairs_144 : decode cX0_layPairs 144 = .ok (.iinc 2 1, 3) := dk_132 2 1 (dk_at dksX0_layPairs_6 3 rfl rfl)
theorem dX0_layPairs_147 : decode cX0_layPairs 147 = .ok (.goto (-118), 3) := dk_167 255 138 (dk_at dksX0_layPairs_6 6 rfl rfl)
theorem dX0_layPairs_150 : decode cX0_layPairs 150 = .ok (.return_, 1) := dk_177 (dk_at dksX0_layPairs_6 9 rfl rfl)
abbrev cX0_apart : ByteArray := prog_1_method_215_code
def yX0_apart : MethodName := ⟨RX0, "apart", "(I)I"⟩
def dkwX0_apart_3 : List UInt8 := [28, 182, 2, 134, 172]
abbrev dktX0_apart_3 : List UInt8 := dkwX0_apart_3 ++ []
def dkwX0_apart_2 : List UInt8 := [182, 4, 252, 54, 4, 42, 21, 4, 182, 2, 131, 132, 3, 1, 167, 255, 225, 42, 42, 180, 2, 63, 27, 46]
abbrev dktX0_apart_2 : List UInt8 := dkwX0_apart_2 ++ dktX0_apart_3
def dkwX0_apart_1 : List UInt8 := [180, 2, 99, 61, 3, 62, 29, 42, 180, 2, 66, 27, 46, 162, 0, 27, 42, 42, 27, 29, 182, 2, 109]
abbrev dktX0_apart_1 : List UInt8 := dkwX0_apart_1 ++ dktX0_apart_2
def dkwX0_apart_0 : List UInt8 := [42, 180, 2, 63, 27, 46, 156, 0, 17, 42, 16, 29, 42, 180, 2, 63, 27, 46, 100, 182, 2, 137, 172, 42]
abbrev dktX0_apart_0 : List UInt8 := dkwX0_apart_0 ++ dktX0_apart_1
theorem dksX0_apart_0 : cX0_apart.data.toList.drop 0 = dktX0_apart_0 := by decide +kernel
theorem dksX0_apart_1 : cX0_apart.data.toList.drop 24 = dktX0_apart_1 := dk_seg dksX0_apart_0 24 rfl rfl
theorem dksX0_apart_2 : cX0_apart.data.toList.drop 47 = dktX0_apart_2 := dk_seg dksX0_apart_1 23 rfl rfl
theorem dksX0_apart_3 : cX0_apart.data.toList.drop 71 = dktX0_apart_3 := dk_seg dksX0_apart_2 24 rfl rfl
theorem dX0_apart_0 : decode cX0_apart 0 = .ok (.aload_n 0, 1) := dk_42 (dk_at dksX0_apart_0 0 rfl rfl)
theorem dX0_apart_1 : decode cX0_apart 1 = .ok (.getfield 575, 3) := dk_180 2 63 (dk_at dksX0_apart_0 1 rfl rfl)
theorem dX0_apart_4 : decode cX0_apart 4 = .ok (.iload_n 1, 1) := dk_27 (dk_at dksX0_apart_0 4 rfl rfl)
theorem dX0_apart_5 : decode cX0_apart 5 = .ok (.iaload, 1) := dk_46 (dk_at dksX0_apart_0 5 rfl rfl)
theorem dX0_apart_6 : decode cX0_apart 6 = .ok (.ifCond .ge 17, 3) := dk_156 0 17 (dk_at dksX0_apart_0 6 rfl rfl)
theorem dX0_apart_9 : decode cX0_apart 9 = .ok (.aload_n 0, 1) := dk_42 (dk_at dksX0_apart_0 9 rfl rfl)
theorem dX0_apart_10 : decode cX0_apart 10 = .ok (.bipush 29, 2) := dk_16 29 (dk_at dksX0_apart_0 10 rfl rfl)
theorem dX0_apart_12 : decode cX0_apart 12 = .ok (.aload_n 0, 1) := dk_42 (dk_at dksX0_apart_0 12 rfl rfl)
theorem dX0_apart_13 : decode cX0_apart 13 = .ok (.getfield 575, 3) := dk_180 2 63 (dk_at dksX0_apart_0 13 rfl rfl)
theorem dX0_apart_16 : decode cX0_apart 16 = .ok (.iload_n 1, 1) := dk_27 (dk_at dksX0_apart_0 16 rfl rfl)
theorem dX0_apart_17 : decode cX0_apart 17 = .ok (.iaload, 1) := dk_46 (dk_at dksX0_apart_0 17 rfl rfl)
theorem dX0_apart_18 : decode cX0_apart 18 = .ok (.isub, 1) := dk_100 (dk_at dksX0_apart_0 18 rfl rfl)
theorem dX0_apart_19 : decode cX0_apart 19 = .ok (.invokevirtual 649, 3) := dk_182 2 137 (dk_at dksX0_apart_0 19 rfl rfl)
theorem dX0_apart_22 : decode cX0_apart 22 = .ok (.ireturn, 1) := dk_172 (dk_at dksX0_apart_0 22 rfl rfl)
theorem dX0_apart_23 : decode cX0_apart 23 = .ok (.aload_n 0, 1) := dk_42 (dk_at dksX0_apart_0 23 rfl rfl)
theorem dX0_apart_24 : decode cX0_apart 24 = .ok (.getfield 611, 3) := dk_180 2 99 (dk_at dksX0_apart_1 0 rfl rfl)
theorem dX0_apart_27 : decode cX0_apart 27 = .ok (.istore_n 2, 1) := dk_61 (dk_at dksX0_apart_1 3 rfl rfl)
theorem dX0_apart_28 : decode cX0_apart 28 = .ok (.iconst 0, 1) := dk_3 (dk_at dksX0_apart_1 4 rfl rfl)
theorem dX0_apart_29 : decode cX0_apart 29 = .ok (.istore_n 3, 1) := dk_62 (dk_at dksX0_apart_1 5 rfl rfl)
theorem dX0_apart_30 : decode cX0_apart 30 = .ok (.iload_n 3, 1) := dk_29 (dk_at dksX0_apart_1 6 rfl rfl)
theorem dX0_apart_31 : decode cX0_apart 31 = .ok (.aload_n 0, 1) := dk_42 (dk_at dksX0_apart_1 7 rfl rfl)
theorem dX0_apart_32 : decode cX0_apart 32 = .ok (.getfield 578, 3) := dk_180 2 66 (dk_at dksX0_apart_1 8 rfl rfl)
theorem dX0_apart_35 : decode cX0_apart 35 = .ok (.iload_n 1, 1) := dk_27 (dk_at dksX0_apart_1 11 rfl rfl)
theorem dX0_apart_36 : decode cX0_apart 36 = .ok (.iaload, 1) := dk_46 (dk_at dksX0_apart_1 12 rfl rfl)
theorem dX0_apart_37 : decode cX0_apart 37 = .ok (.if_icmp .ge 27, 3) := dk_162 0 27 (dk_at dksX0_apart_1 13 rfl rfl)
theorem dX0_apart_40 : decode cX0_apart 40 = .ok (.aload_n 0, 1) := dk_42 (dk_at dksX0_apart_1 16 rfl rfl)
theorem dX0_apart_41 : decode cX0_apart 41 = .ok (.aload_n 0, 1) := dk_42 (dk_at dksX0_apart_1 17 rfl rfl)
theorem dX0_apart_42 : decode cX0_apart 42 = .ok (.iload_n 1, 1) := dk_27 (dk_at dksX0_apart_1 18 rfl rfl)
theorem dX0_apart_43 : decode cX0_apart 43 = .ok (.iload_n 3, 1) := dk_29 (dk_at dksX0_apart_1 19 rfl rfl)
theorem dX0_apart_44 : decode cX0_apart 44 = .ok (.invokevirtual 621, 3) := dk_182 2 109 (dk_at dksX0_apart_1 20 rfl rfl)
theorem dX0_apart_47 : decode cX0_apart 47 = .ok (.invokevirtual 1276, 3) := dk_182 4 252 (dk_at dksX0_apart_2 0 rfl rfl)
theorem dX0_apart_50 : decode cX0_apart 50 = .ok (.istore 4, 2) := dk_54 4 (dk_at dksX0_apart_2 3 rfl rfl)
theorem dX0_apart_52 : decode cX0_apart 52 = .ok (.aload_n 0, 1) := dk_42 (dk_at dksX0_apart_2 5 rfl rfl)
theorem dX0_apart_53 : decode cX0_apart 53 = .ok (.iload 4, 2) := dk_21 4 (dk_at dksX0_apart_2 6 rfl rfl)
theorem dX0_apart_55 : decode cX0_apart 55 = .ok (.invokevirtual 643, 3) := dk_182 2 131 (dk_at dksX0_apart_2 8 rfl rfl)
theorem dX0_apart_58 : decode cX0_apart 58 = .ok (.iinc 3 1, 3) := dk_132 3 1 (dk_at dksX0_apart_2 11 rfl rfl)
theorem dX0_apart_61 : decode cX0_apart 61 = .ok (.goto (-31), 3) := dk_167 255 225 (dk_at dksX0_apart_2 14 rfl rfl)
theorem dX0_apart_64 : decode cX0_apart 64 = .ok (.aload_n 0, 1) := dk_42 (dk_at dksX0_apart_2 17 rfl rfl)
theorem dX0_apart_65 : decode cX0_apart 65 = .ok (.aload_n 0, 1) := dk_42 (dk_at dksX0_apart_2 18 rfl rfl)
theorem dX0_apart_66 : decode cX0_apart 66 = .ok (.getfield 575, 3) := dk_180 2 63 (dk_at dksX0_apart_2 19 rfl rfl)
theorem dX0_apart_69 : decode cX0_apart 69 = .ok (.iload_n 1, 1) := dk_27 (dk_at dksX0_apart_2 22 rfl rfl)
theorem dX0_apart_70 : decode cX0_apart 70 = .ok (.iaload, 1) := dk_46 (dk_at dksX0_apart_2 23 rfl rfl)
theorem dX0_apart_71 : decode cX0_apart 71 = .ok (.iload_n 2, 1) := dk_28 (dk_at dksX0_apart_3 0 rfl rfl)
theorem dX0_apart_72 : decode cX0_apart 72 = .ok (.invokevirtual 646, 3) := dk_182 2 134 (dk_at dksX0_apart_3 1 rfl rfl)
theorem dX0_apart_75 : decode cX0_apart 75 = .ok (.ireturn, 1) := dk_172 (dk_at dksX0_apart_3 4 rfl rfl)
abbrev cX0_hasComm : ByteArray := prog_1_method_230_code
def yX0_hasComm : MethodName := ⟨RX0, "hasComm", "(I)Z"⟩
def dkwX0_hasComm_2 : List UInt8 := [29, 182, 2, 109, 182, 5, 78, 61, 132, 3, 1, 167, 255, 228, 28, 172]
abbrev dktX0_hasComm_2 : List UInt8 := dkwX0_hasComm_2 ++ []
def dkwX0_hasComm_1 : List UInt8 := [167, 0, 4, 3, 61, 3, 62, 29, 42, 180, 2, 66, 27, 46, 162, 0, 24, 28, 154, 0, 20, 42, 42, 27]
abbrev dktX0_hasComm_1 : List UInt8 := dkwX0_hasComm_1 ++ dktX0_hasComm_2
def dkwX0_hasComm_0 : List UInt8 := [42, 180, 2, 63, 27, 46, 155, 0, 21, 42, 180, 1, 232, 42, 180, 2, 63, 27, 46, 51, 153, 0, 7, 4]
abbrev dktX0_hasComm_0 : List UInt8 := dkwX0_hasComm_0 ++ dktX0_hasComm_1
theorem dksX0_hasComm_0 : cX0_hasComm.data.toList.drop 0 = dktX0_hasComm_0 := by decide +kernel
theorem dksX0_hasComm_1 : cX0_hasComm.data.toList.drop 24 = dktX0_hasComm_1 := dk_seg dksX0_hasComm_0 24 rfl rfl
theorem dksX0_hasComm_2 : cX0_hasComm.data.toList.drop 48 = dktX0_hasComm_2 := dk_seg dksX0_hasComm_1 24 rfl rfl
theorem dX0_hasComm_0 : decode cX0_hasComm 0 = .ok (.aload_n 0, 1) := dk_42 (dk_at dksX0_hasComm_0 0 rfl rfl)
theorem dX0_hasComm_1 : decode cX0_hasComm 1 = .ok (.getfield 575, 3) := dk_180 2 63 (dk_at dksX0_hasComm_0 1 rfl rfl)
theorem dX0_hasComm_4 : decode cX0_hasComm 4 = .ok (.iload_n 1, 1) := dk_27 (dk_at dksX0_hasComm_0 4 rfl rfl)
theorem dX0_hasComm_5 : decode cX0_hasComm 5 = .ok (.iaload, 1) := dk_46 (dk_at dksX0_hasComm_0 5 rfl rfl)
theorem dX0_hasComm_6 : decode cX0_hasComm 6 = .ok (.ifCond .lt 21, 3) := dk_155 0 21 (dk_at dksX0_hasComm_0 6 rfl rfl)
theorem dX0_hasComm_9 : decode cX0_hasComm 9 = .ok (.aload_n 0, 1) := dk_42 (dk_at dksX0_hasComm_0 9 rfl rfl)
theorem dX0_hasComm_10 : decode cX0_hasComm 10 = .ok (.getfield 488, 3) := dk_180 1 232 (dk_at dksX0_hasComm_0 10 rfl rfl)
theorem dX0_hasComm_13 : decode cX0_hasComm 13 = .ok (.aload_n 0, 1) := dk_42 (dk_at dksX0_hasComm_0 13 rfl rfl)
theorem dX0_hasComm_14 : decode cX0_hasComm 14 = .ok (.getfield 575, 3) := dk_180 2 63 (dk_at dksX0_hasComm_0 14 rfl rfl)
theorem dX0_hasComm_17 : decode cX0_hasComm 17 = .ok (.iload_n 1, 1) := dk_27 (dk_at dksX0_hasComm_0 17 rfl rfl)
theorem dX0_hasComm_18 : decode cX0_hasComm 18 = .ok (.iaload, 1) := dk_46 (dk_at dksX0_hasComm_0 18 rfl rfl)
theorem dX0_hasComm_19 : decode cX0_hasComm 19 = .ok (.baload, 1) := dk_51 (dk_at dksX0_hasComm_0 19 rfl rfl)
theorem dX0_hasComm_20 : decode cX0_hasComm 20 = .ok (.ifCond .eq 7, 3) := dk_153 0 7 (dk_at dksX0_hasComm_0 20 rfl rfl)
theorem dX0_hasComm_23 : decode cX0_hasComm 23 = .ok (.iconst 1, 1) := dk_4 (dk_at dksX0_hasComm_0 23 rfl rfl)
theorem dX0_hasComm_24 : decode cX0_hasComm 24 = .ok (.goto 4, 3) := dk_167 0 4 (dk_at dksX0_hasComm_1 0 rfl rfl)
theorem dX0_hasComm_27 : decode cX0_hasComm 27 = .ok (.iconst 0, 1) := dk_3 (dk_at dksX0_hasComm_1 3 rfl rfl)
theorem dX0_hasComm_28 : decode cX0_hasComm 28 = .ok (.istore_n 2, 1) := dk_61 (dk_at dksX0_hasComm_1 4 rfl rfl)
theorem dX0_hasComm_29 : decode cX0_hasComm 29 = .ok (.iconst 0, 1) := dk_3 (dk_at dksX0_hasComm_1 5 rfl rfl)
theorem dX0_hasComm_30 : decode cX0_hasComm 30 = .ok (.istore_n 3, 1) := dk_62 (dk_at dksX0_hasComm_1 6 rfl rfl)
theorem dX0_hasComm_31 : decode cX0_hasComm 31 = .ok (.iload_n 3, 1) := dk_29 (dk_at dksX0_hasComm_1 7 rfl rfl)
theorem dX0_hasComm_32 : decode cX0_hasComm 32 = .ok (.aload_n 0, 1) := dk_42 (dk_at dksX0_hasComm_1 8 rfl rfl)
theorem dX0_hasComm_33 : decode cX0_hasComm 33 = .ok (.getfield 578, 3) := dk_180 2 66 (dk_at dksX0_hasComm_1 9 rfl rfl)
theorem dX0_hasComm_36 : decode cX0_hasComm 36 = .ok (.iload_n 1, 1) := dk_27 (dk_at dksX0_hasComm_1 12 rfl rfl)
theorem dX0_hasComm_37 : decode cX0_hasComm 37 = .ok (.iaload, 1) := dk_46 (dk_at dksX0_hasComm_1 13 rfl rfl)
theorem dX0_hasComm_38 : decode cX0_hasComm 38 = .ok (.if_icmp .ge 24, 3) := dk_162 0 24 (dk_at dksX0_hasComm_1 14 rfl rfl)
theorem dX0_hasComm_41 : decode cX0_hasComm 41 = .ok (.iload_n 2, 1) := dk_28 (dk_at dksX0_hasComm_1 17 rfl rfl)
theorem dX0_hasComm_42 : decode cX0_hasComm 42 = .ok (.ifCond .ne 20, 3) := dk_154 0 20 (dk_at dksX0_hasComm_1 18 rfl rfl)
theorem dX0_hasComm_45 : decode cX0_hasComm 45 = .ok (.aload_n 0, 1) := dk_42 (dk_at dksX0_hasComm_1 21 rfl rfl)
theorem dX0_hasComm_46 : decode cX0_hasComm 46 = .ok (.aload_n 0, 1) := dk_42 (dk_at dksX0_hasComm_1 22 rfl rfl)
theorem dX0_hasComm_47 : decode cX0_hasComm 47 = .ok (.iload_n 1, 1) := dk_27 (dk_at dksX0_hasComm_1 23 rfl rfl)
theorem dX0_hasComm_48 : decode cX0_hasComm 48 = .ok (.iload_n 3, 1) := dk_29 (dk_at dksX0_hasComm_2 0 rfl rfl)
theorem dX0_hasComm_49 : decode cX0_hasComm 49 = .ok (.invokevirtual 621, 3) := dk_182 2 109 (dk_at dksX0_hasComm_2 1 rfl rfl)
theorem dX0_hasComm_52 : decode cX0_hasComm 52 = .ok (.invokevirtual 1358, 3) := dk_182 5 78 (dk_at dksX0_hasComm_2 4 rfl rfl)
theorem dX0_hasComm_55 : decode cX0_hasComm 55 = .ok (.istore_n 2, 1) := dk_61 (dk_at dksX0_hasComm_2 7 rfl rfl)
theorem dX0_hasComm_56 : decode cX0_hasComm 56 = .ok (.iinc 3 1, 3) := dk_132 3 1 (dk_at dksX0_hasComm_2 8 rfl rfl)
theorem dX0_hasComm_59 : decode cX0_hasComm 59 = .ok (.goto (-28), 3) := dk_167 255 228 (dk_at dksX0_hasComm_2 11 rfl rfl)
theorem dX0_hasComm_62 : decode cX0_hasComm 62 = .ok (.iload_n 2, 1) := dk_28 (dk_at dksX0_hasComm_2 14 rfl rfl)
theorem dX0_hasComm_63 : decode cX0_hasComm 63 = .ok (.ireturn, 1) := dk_172 (dk_at dksX0_hasComm_2 15 rfl rfl)
abbrev cX0_layPairsAt : ByteArray := prog_1_method_232_code
def yX0_layPairsAt : MethodName := ⟨RX0, "layPairsAt", "(IIIZ)V"⟩
def dkwX0_layPairsAt_5 : List UInt8 := [182, 2, 109, 4, 182, 5, 81, 42, 89, 180, 3, 213, 4, 100, 181, 3, 213, 132, 5, 1, 167, 255, 190, 177]
abbrev dktX0_layPairsAt_5 : List UInt8 := dkwX0_layPairsAt_5 ++ []
def dkwX0_layPairsAt_4 : List UInt8 := [180, 3, 228, 42, 89, 180, 3, 213, 90, 4, 96, 181, 3, 213, 21, 5, 79, 42, 27, 28, 42, 29, 21, 5]
abbrev dktX0_layPairsAt_4 : List UInt8 := dkwX0_layPairsAt_4 ++ dktX0_layPairsAt_5
def dkwX0_layPairsAt_3 : List UInt8 := [54, 5, 21, 5, 42, 180, 2, 66, 29, 46, 162, 0, 61, 42, 180, 3, 225, 42, 180, 3, 213, 29, 79, 42]
abbrev dktX0_layPairsAt_3 : List UInt8 := dkwX0_layPairsAt_3 ++ dktX0_layPairsAt_4
def dkwX0_layPairsAt_2 : List UInt8 := [180, 3, 8, 3, 27, 79, 42, 180, 3, 14, 3, 29, 79, 42, 3, 181, 5, 12, 42, 4, 182, 5, 15, 3]
abbrev dktX0_layPairsAt_2 : List UInt8 := dkwX0_layPairsAt_2 ++ dktX0_layPairsAt_3
def dkwX0_layPairsAt_1 : List UInt8 := [21, 5, 16, 60, 162, 0, 17, 42, 180, 4, 255, 21, 5, 3, 79, 132, 5, 1, 167, 255, 238, 42]
abbrev dktX0_layPairsAt_1 : List UInt8 := dkwX0_layPairsAt_1 ++ dktX0_layPairsAt_2
def dkwX0_layPairsAt_0 : List UInt8 := [42, 180, 2, 63, 29, 46, 156, 0, 4, 177, 21, 4, 153, 0, 56, 42, 28, 181, 5, 46, 3, 54, 5]
abbrev dktX0_layPairsAt_0 : List UInt8 := dkwX0_layPairsAt_0 ++ dktX0_layPairsAt_1
theorem dksX0_layPairsAt_0 : cX0_layPairsAt.data.toList.drop 0 = dktX0_layPairsAt_0 := by decide +kernel
theorem dksX0_layPairsAt_1 : cX0_layPairsAt.data.toList.drop 23 = dktX0_layPairsAt_1 := dk_seg dksX0_layPairsAt_0 23 rfl rfl
theorem dksX0_layPairsAt_2 : cX0_layPairsAt.data.toList.drop 45 = dktX0_layPairsAt_2 := dk_seg dksX0_layPairsAt_1 22 rfl rfl
theorem dksX0_layPairsAt_3 : cX0_layPairsAt.data.toList.drop 69 = dktX0_layPairsAt_3 := dk_seg dksX0_layPairsAt_2 24 rfl rfl
theorem dksX0_layPairsAt_4 : cX0_layPairsAt.data.toList.drop 93 = dktX0_layPairsAt_4 := dk_seg dksX0_layPairsAt_3 24 rfl rfl
theorem dksX0_layPairsAt_5 : cX0_layPairsAt.data.toList.drop 117 = dktX0_layPairsAt_5 := dk_seg dksX0_layPairsAt_4 24 rfl rfl
theorem dX0_layPairsAt_0 : decode cX0_layPairsAt 0 = .ok (.aload_n 0, 1) := dk_42 (dk_at dksX0_layPairsAt_0 0 rfl rfl)
theorem dX0_layPairsAt_1 : decode cX0_layPairsAt 1 = .ok (.getfield 575, 3) := dk_180 2 63 (dk_at dksX0_layPairsAt_0 1 rfl rfl)
theorem dX0_layPairsAt_4 : decode cX0_layPairsAt 4 = .ok (.iload_n 3, 1) := dk_29 (dk_at dksX0_layPairsAt_0 4 rfl rfl)
theorem dX0_layPairsAt_5 : decode cX0_layPairsAt 5 = .ok (.iaload, 1) := dk_46 (dk_at dksX0_layPairsAt_0 5 rfl rfl)
theorem dX0_layPairsAt_6 : decode cX0_layPairsAt 6 = .ok (.ifCond .ge 4, 3) := dk_156 0 4 (dk_at dksX0_layPairsAt_0 6 rfl rfl)
theorem dX0_layPairsAt_9 : decode cX0_layPairsAt 9 = .ok (.return_, 1) := dk_177 (dk_at dksX0_layPairsAt_0 9 rfl rfl)
theorem dX0_layPairsAt_10 : decode cX0_layPairsAt 10 = .ok (.iload 4, 2) := dk_21 4 (dk_at dksX0_layPairsAt_0 10 rfl rfl)
theorem dX0_layPairsAt_12 : decode cX0_layPairsAt 12 = .ok (.ifCond .eq 56, 3) := dk_153 0 56 (dk_at dksX0_layPairsAt_0 12 rfl rfl)
theorem dX0_layPairsAt_15 : decode cX0_layPairsAt 15 = .ok (.aload_n 0, 1) := dk_42 (dk_at dksX0_layPairsAt_0 15 rfl rfl)
theorem dX0_layPairsAt_16 : decode cX0_layPairsAt 16 = .ok (.iload_n 2, 1) := dk_28 (dk_at dksX0_layPairsAt_0 16 rfl rfl)
theorem dX0_layPairsAt_17 : decode cX0_layPairsAt 17 = .ok (.putfield 1326, 3) := dk_181 5 46 (dk_at dksX0_layPairsAt_0 17 rfl rfl)
theorem dX0_layPairsAt_20 : decode cX0_layPairsAt 20 = .ok (.iconst 0, 1) := dk_3 (dk_at dksX0_layPairsAt_0 20 rfl rfl)
theorem dX0_layPairsAt_21 : decode cX0_layPairsAt 21 = .ok (.istore 5, 2) := dk_54 5 (dk_at dksX0_layPairsAt_0 21 rfl rfl)
theorem dX0_layPairsAt_23 : decode cX0_layPairsAt 23 = .ok (.iload 5, 2) := dk_21 5 (dk_at dksX0_layPairsAt_1 0 rfl rfl)
theorem dX0_layPairsAt_25 : decode cX0_layPairsAt 25 = .ok (.bipush 60, 2) := dk_16 60 (dk_at dksX0_layPairsAt_1 2 rfl rfl)
theorem dX0_layPairsAt_27 : decode cX0_layPairsAt 27 = .ok (.if_icmp .ge 17, 3) := dk_162 0 17 (dk_at dksX0_layPairsAt_1 4 rfl rfl)
theorem dX0_layPairsAt_30 : decode cX0_layPairsAt 30 = .ok (.aload_n 0, 1) := dk_42 (dk_at dksX0_layPairsAt_1 7 rfl rfl)
theorem dX0_layPairsAt_31 : decode cX0_layPairsAt 31 = .ok (.getfield 1279, 3) := dk_180 4 255 (dk_at dksX0_layPairsAt_1 8 rfl rfl)
theorem dX0_layPairsAt_34 : decode cX0_layPairsAt 34 = .ok (.iload 5, 2) := dk_21 5 (dk_at dksX0_layPairsAt_1 11 rfl rfl)
theorem dX0_layPairsAt_36 : decode cX0_layPairsAt 36 = .ok (.iconst 0, 1) := dk_3 (dk_at dksX0_layPairsAt_1 13 rfl rfl)
theorem dX0_layPairsAt_37 : decode cX0_layPairsAt 37 = .ok (.iastore, 1) := dk_79 (dk_at dksX0_layPairsAt_1 14 rfl rfl)
theorem dX0_layPairsAt_38 : decode cX0_layPairsAt 38 = .ok (.iinc 5 1, 3) := dk_132 5 1 (dk_at dksX0_layPairsAt_1 15 rfl rfl)
theorem dX0_layPairsAt_41 : decode cX0_layPairsAt 41 = .ok (.goto (-18), 3) := dk_167 255 238 (dk_at dksX0_layPairsAt_1 18 rfl rfl)
theorem dX0_layPairsAt_44 : decode cX0_layPairsAt 44 = .ok (.aload_n 0, 1) := dk_42 (dk_at dksX0_layPairsAt_1 21 rfl rfl)
theorem dX0_layPairsAt_45 : decode cX0_layPairsAt 45 = .ok (.getfield 776, 3) := dk_180 3 8 (dk_at dksX0_layPairsAt_2 0 rfl rfl)
theorem dX0_layPairsAt_48 : decode cX0_layPairsAt 48 = .ok (.iconst 0, 1) := dk_3 (dk_at dksX0_layPairsAt_2 3 rfl rfl)
theorem dX0_layPairsAt_49 : decode cX0_layPairsAt 49 = .ok (.iload_n 1, 1) := dk_27 (dk_at dksX0_layPairsAt_2 4 rfl rfl)
theorem dX0_layPairsAt_50 : decode cX0_layPairsAt 50 = .ok (.iastore, 1) := dk_79 (dk_at dksX0_layPairsAt_2 5 rfl rfl)
theorem dX0_layPairsAt_51 : decode cX0_layPairsAt 51 = .ok (.aload_n 0, 1) := dk_42 (dk_at dksX0_layPairsAt_2 6 rfl rfl)
theorem dX0_layPairsAt_52 : decode cX0_layPairsAt 52 = .ok (.getfield 782, 3) := dk_180 3 14 (dk_at dksX0_layPairsAt_2 7 rfl rfl)
theorem dX0_layPairsAt_55 : decode cX0_layPairsAt 55 = .ok (.iconst 0, 1) := dk_3 (dk_at dksX0_layPairsAt_2 10 rfl rfl)
theorem dX0_layPairsAt_56 : decode cX0_layPairsAt 56 = .ok (.iload_n 3, 1) := dk_29 (dk_at dksX0_layPairsAt_2 11 rfl rfl)
theorem dX0_layPairsAt_57 : decode cX0_layPairsAt 57 = .ok (.iastore, 1) := dk_79 (dk_at dksX0_layPairsAt_2 12 rfl rfl)
theorem dX0_layPairsAt_58 : decode cX0_layPairsAt 58 = .ok (.aload_n 0, 1) := dk_42 (dk_at dksX0_layPairsAt_2 13 rfl rfl)
theorem dX0_layPairsAt_59 : decode cX0_layPairsAt 59 = .ok (.iconst 0, 1) := dk_3 (dk_at dksX0_layPairsAt_2 14 rfl rfl)
theorem dX0_layPairsAt_60 : decode cX0_layPairsAt 60 = .ok (.putfield 1292, 3) := dk_181 5 12 (dk_at dksX0_layPairsAt_2 15 rfl rfl)
theorem dX0_layPairsAt_63 : decode cX0_layPairsAt 63 = .ok (.aload_n 0, 1) := dk_42 (dk_at dksX0_layPairsAt_2 18 rfl rfl)
theorem dX0_layPairsAt_64 : decode cX0_layPairsAt 64 = .ok (.iconst 1, 1) := dk_4 (dk_at dksX0_layPairsAt_2 19 rfl rfl)
theorem dX0_layPairsAt_65 : decode cX0_layPairsAt 65 = .ok (.invokevirtual 1295, 3) := dk_182 5 15 (dk_at dksX0_layPairsAt_2 20 rfl rfl)
theorem dX0_layPairsAt_68 : decode cX0_layPairsAt 68 = .ok (.iconst 0, 1) := dk_3 (dk_at dksX0_layPairsAt_2 23 rfl rfl)
theorem dX0_layPairsAt_69 : decode cX0_layPairsAt 69 = .ok (.istore 5, 2) := dk_54 5 (dk_at dksX0_layPairsAt_3 0 rfl rfl)
theorem dX0_layPairsAt_71 : decode cX0_layPairsAt 71 = .ok (.iload 5, 2) := dk_21 5 (dk_at dksX0_layPairsAt_3 2 rfl rfl)
theorem dX0_layPairsAt_73 : decode cX0_layPairsAt 73 = .ok (.aload_n 0, 1) := dk_42 (dk_at dksX0_layPairsAt_3 4 rfl rfl)
theorem dX0_layPairsAt_74 : decode cX0_layPairsAt 74 = .ok (.getfield 578, 3) := dk_180 2 66 (dk_at dksX0_layPairsAt_3 5 rfl rfl)
theorem dX0_layPairsAt_77 : decode cX0_layPairsAt 77 = .ok (.iload_n 3, 1) := dk_29 (dk_at dksX0_layPairsAt_3 8 rfl rfl)
theorem dX0_layPairsAt_78 : decode cX0_layPairsAt 78 = .ok (.iaload, 1) := dk_46 (dk_at dksX0_layPairsAt_3 9 rfl rfl)
theorem dX0_layPairsAt_79 : decode cX0_layPairsAt 79 = .ok (.if_icmp .ge 61, 3) := dk_162 0 61 (dk_at dksX0_layPairsAt_3 10 rfl rfl)
theorem dX0_layPairsAt_82 : decode cX0_layPairsAt 82 = .ok (.aload_n 0, 1) := dk_42 (dk_at dksX0_layPairsAt_3 13 rfl rfl)
theorem dX0_layPairsAt_83 : decode cX0_layPairsAt 83 = .ok (.getfield 993, 3) := dk_180 3 225 (dk_at dksX0_layPairsAt_3 14 rfl rfl)
theorem dX0_layPairsAt_86 : decode cX0_layPairsAt 86 = .ok (.aload_n 0, 1) := dk_42 (dk_at dksX0_layPairsAt_3 17 rfl rfl)
theorem dX0_layPairsAt_87 : decode cX0_layPairsAt 87 = .ok (.getfield 981, 3) := dk_180 3 213 (dk_at dksX0_layPairsAt_3 18 rfl rfl)
theorem dX0_layPairsAt_90 : decode cX0_layPairsAt 90 = .ok (.iload_n 3, 1) := dk_29 (dk_at dksX0_layPairsAt_3 21 rfl rfl)
theorem dX0_layPairsAt_91 : decode cX0_layPairsAt 91 = .ok (.iastore, 1) := dk_79 (dk_at dksX0_layPairsAt_3 22 rfl rfl)
theorem dX0_layPairsAt_92 : decode cX0_layPairsAt 92 = .ok (.aload_n 0, 1) := dk_42 (dk_at dksX0_layPairsAt_3 23 rfl rfl)
theorem dX0_layPairsAt_93 : decode cX0_layPairsAt 93 = .ok (.getfield 996, 3) := dk_180 3 228 (dk_at dksX0_layPairsAt_4 0 rfl rfl)
theorem dX0_layPairsAt_96 : decode cX0_layPairsAt 96 = .ok (.aload_n 0, 1) := dk_42 (dk_at dksX0_layPairsAt_4 3 rfl rfl)
theorem dX0_layPairsAt_97 : decode cX0_layPairsAt 97 = .ok (.dup, 1) := dk_89 (dk_at dksX0_layPairsAt_4 4 rfl rfl)
theorem dX0_layPairsAt_98 : decode cX0_layPairsAt 98 = .ok (.getfield 981, 3) := dk_180 3 213 (dk_at dksX0_layPairsAt_4 5 rfl rfl)
theorem dX0_layPairsAt_101 : decode cX0_layPairsAt 101 = .ok (.dup_x1, 1) := dk_90 (dk_at dksX0_layPairsAt_4 8 rfl rfl)
theorem dX0_layPairsAt_102 : decode cX0_layPairsAt 102 = .ok (.iconst 1, 1) := dk_4 (dk_at dksX0_layPairsAt_4 9 rfl rfl)
theorem dX0_layPairsAt_103 : decode cX0_layPairsAt 103 = .ok (.iadd, 1) := dk_96 (dk_at dksX0_layPairsAt_4 10 rfl rfl)
theorem dX0_layPairsAt_104 : decode cX0_layPairsAt 104 = .ok (.putfield 981, 3) := dk_181 3 213 (dk_at dksX0_layPairsAt_4 11 rfl rfl)
theorem dX0_layPairsAt_107 : decode cX0_layPairsAt 107 = .ok (.iload 5, 2) := dk_21 5 (dk_at dksX0_layPairsAt_4 14 rfl rfl)
theorem dX0_layPairsAt_109 : decode cX0_layPairsAt 109 = .ok (.iastore, 1) := dk_79 (dk_at dksX0_layPairsAt_4 16 rfl rfl)
theorem dX0_layPairsAt_110 : decode cX0_layPairsAt 110 = .ok (.aload_n 0, 1) := dk_42 (dk_at dksX0_layPairsAt_4 17 rfl rfl)
theorem dX0_layPairsAt_111 : decode cX0_layPairsAt 111 = .ok (.iload_n 1, 1) := dk_27 (dk_at dksX0_layPairsAt_4 18 rfl rfl)
theorem dX0_layPairsAt_112 : decode cX0_layPairsAt 112 = .ok (.iload_n 2, 1) := dk_28 (dk_at dksX0_layPairsAt_4 19 rfl rfl)
theorem dX0_layPairsAt_113 : decode cX0_layPairsAt 113 = .ok (.aload_n 0, 1) := dk_42 (dk_at dksX0_layPairsAt_4 20 rfl rfl)
theorem dX0_layPairsAt_114 : decode cX0_layPairsAt 114 = .ok (.iload_n 3, 1) := dk_29 (dk_at dksX0_layPairsAt_4 21 rfl rfl)
theorem dX0_layPairsAt_115 : decode cX0_layPairsAt 115 = .ok (.iload 5, 2) := dk_21 5 (dk_at dksX0_layPairsAt_4 22 rfl rfl)
theorem dX0_layPairsAt_117 : decode cX0_layPairsAt 117 = .ok (.invokevirtual 621, 3) := dk_182 2 109 (dk_at dksX0_layPairsAt_5 0 rfl rfl)
theorem dX0_layPairsAt_120 : decode cX0_layPairsAt 120 = .ok (.iconst 1, 1) := dk_4 (dk_at dksX0_layPairsAt_5 3 rfl rfl)
theorem dX0_layPairsAt_121 : decode cX0_layPairsAt 121 = .ok (.invokevirtual 1361, 3) := dk_182 5 81 (dk_at dksX0_layPairsAt_5 4 rfl rfl)
theorem dX0_layPairsAt_124 : decode cX0_layPairsAt 124 = .ok (.aload_n 0, 1) := dk_42 (dk_at dksX0_layPairsAt_5 7 rfl rfl)
theorem dX0_layPairsAt_125 : decode cX0_layPairsAt 125 = .ok (.dup, 1) := dk_89 (dk_at dksX0_layPairsAt_5 8 rfl rfl)
theorem dX0_layPairsAt_126 : decode cX0_layPairsAt 126 = .ok (.getfield 981, 3) := dk_180 3 213 (dk_at dksX0_layPairsAt_5 9 rfl rfl)
theorem dX0_layPairsAt_129 : decode cX0_layPairsAt 129 = .ok (.iconst 1, 1) := dk_4 (dk_at dksX0_layPairsAt_5 12 rfl rfl)
theorem dX0_layPairsAt_130 : decode cX0_layPairsAt 130 = .ok (.isub, 1) := dk_100 (dk_at dksX0_layPairsAt_5 13 rfl rfl)
theorem dX0_layPairsAt_131 : decode cX0_layPairsAt 131 = .ok (.putfield 981, 3) := dk_181 3 213 (dk_at dksX0_layPairsAt_5 14 rfl rfl)
theorem dX0_layPairsAt_134 : decode cX0_layPairsAt 134 = .ok (.iinc 5 1, 3) := dk_132 5 1 (dk_at dksX0_layPairsAt_5 17 rfl rfl)
theorem dX0_layPairsAt_137 : decode cX0_layPairsAt 137 = .ok (.goto (-66), 3) := dk_167 255 190 (dk_at dksX0_layPairsAt_5 20 rfl rfl)
theorem dX0_layPairsAt_140 : decode cX0_layPairsAt 140 = .ok (.return_, 1) := dk_177 (dk_at dksX0_layPairsAt_5 23 rfl rfl)
abbrev cX0_unify : ByteArray := prog_1_method_221_code
def yX0_unify : MethodName := ⟨RX0, "unify", "(I)V"⟩
def dkwX0_unify_11 : List UInt8 := [180, 5, 12, 4, 100, 181, 5, 12, 177]
abbrev dktX0_unify_11 : List UInt8 := dkwX0_unify_11 ++ []
def dkwX0_unify_10 : List UInt8 := [27, 4, 100, 21, 4, 79, 42, 180, 3, 14, 27, 4, 100, 21, 5, 79, 42, 28, 29, 182, 5, 28, 42, 89]
abbrev dktX0_unify_10 : List UInt8 := dkwX0_unify_10 ++ dktX0_unify_11
def dkwX0_unify_9 : List UInt8 := [180, 2, 63, 21, 6, 46, 51, 153, 0, 13, 42, 27, 21, 6, 21, 7, 4, 182, 5, 24, 42, 180, 3, 8]
abbrev dktX0_unify_9 : List UInt8 := dkwX0_unify_9 ++ dktX0_unify_10
def dkwX0_unify_8 : List UInt8 := [180, 2, 63, 21, 7, 46, 160, 0, 38, 42, 27, 21, 6, 21, 7, 3, 182, 5, 24, 42, 180, 1, 232, 42]
abbrev dktX0_unify_8 : List UInt8 := dkwX0_unify_8 ++ dktX0_unify_9
def dkwX0_unify_7 : List UInt8 := [156, 0, 15, 42, 27, 21, 7, 21, 6, 182, 5, 21, 167, 0, 55, 42, 180, 2, 63, 21, 6, 46, 42]
abbrev dktX0_unify_7 : List UInt8 := dkwX0_unify_7 ++ dktX0_unify_8
def dkwX0_unify_6 : List UInt8 := [156, 0, 15, 42, 27, 21, 6, 21, 7, 182, 5, 21, 167, 0, 77, 42, 180, 2, 63, 21, 7, 46]
abbrev dktX0_unify_6 : List UInt8 := dkwX0_unify_6 ++ dktX0_unify_7
def dkwX0_unify_5 : List UInt8 := [156, 0, 15, 42, 27, 21, 6, 21, 7, 182, 5, 18, 167, 0, 99, 42, 180, 2, 63, 21, 6, 46]
abbrev dktX0_unify_5 : List UInt8 := dkwX0_unify_5 ++ dktX0_unify_6
def dkwX0_unify_4 : List UInt8 := [182, 5, 15, 167, 0, 131, 42, 180, 2, 63, 21, 6, 46, 156, 0, 25, 42, 180, 2, 63, 21, 7, 46]
abbrev dktX0_unify_4 : List UInt8 := dkwX0_unify_4 ++ dktX0_unify_5
def dkwX0_unify_3 : List UInt8 := [182, 5, 4, 54, 6, 42, 21, 5, 182, 5, 4, 54, 7, 21, 6, 21, 7, 160, 0, 13, 42, 27, 4, 100]
abbrev dktX0_unify_3 : List UInt8 := dkwX0_unify_3 ++ dktX0_unify_4
def dkwX0_unify_2 : List UInt8 := [180, 3, 8, 27, 4, 100, 46, 54, 4, 42, 180, 3, 14, 27, 4, 100, 46, 54, 5, 42, 21, 4]
abbrev dktX0_unify_2 : List UInt8 := dkwX0_unify_2 ++ dktX0_unify_3
def dkwX0_unify_1 : List UInt8 := [191, 42, 89, 180, 5, 12, 4, 96, 181, 5, 12, 42, 180, 0, 200, 61, 42, 180, 0, 203, 62, 42]
abbrev dktX0_unify_1 : List UInt8 := dkwX0_unify_1 ++ dktX0_unify_2
def dkwX0_unify_0 : List UInt8 := [27, 154, 0, 8, 42, 182, 5, 9, 177, 42, 180, 5, 12, 17, 0, 150, 160, 0, 9, 42, 8, 182, 2, 83]
abbrev dktX0_unify_0 : List UInt8 := dkwX0_unify_0 ++ dktX0_unify_1
theorem dksX0_unify_0 : cX0_unify.data.toList.drop 0 = dktX0_unify_0 := by decide +kernel
theorem dksX0_unify_1 : cX0_unify.data.toList.drop 24 = dktX0_unify_1 := dk_seg dksX0_unify_0 24 rfl rfl
theorem dksX0_unify_2 : cX0_unify.data.toList.drop 46 = dktX0_unify_2 := dk_seg dksX0_unify_1 22 rfl rfl
theorem dksX0_unify_3 : cX0_unify.data.toList.drop 68 = dktX0_unify_3 := dk_seg dksX0_unify_2 22 rfl rfl
theorem dksX0_unify_4 : cX0_unify.data.toList.drop 92 = dktX0_unify_4 := dk_seg dksX0_unify_3 24 rfl rfl
theorem dksX0_unify_5 : cX0_unify.data.toList.drop 115 = dktX0_unify_5 := dk_seg dksX0_unify_4 23 rfl rfl
theorem dksX0_unify_6 : cX0_unify.data.toList.drop 137 = dktX0_unify_6 := dk_seg dksX0_unify_5 22 rfl rfl
theorem dksX0_unify_7 : cX0_unify.data.toList.drop 159 = dktX0_unify_7 := dk_seg dksX0_unify_6 22 rfl rfl
theorem dksX0_unify_8 : cX0_unify.data.toList.drop 182 = dktX0_unify_8 := dk_seg dksX0_unify_7 23 rfl rfl
theorem dksX0_unify_9 : cX0_unify.data.toList.drop 206 = dktX0_unify_9 := dk_seg dksX0_unify_8 24 rfl rfl
theorem dksX0_unify_10 : cX0_unify.data.toList.drop 230 = dktX0_unify_10 := dk_seg dksX0_unify_9 24 rfl rfl
theorem dksX0_unify_11 : cX0_unify.data.toList.drop 254 = dktX0_unify_11 := dk_seg dksX0_unify_10 24 rfl rfl
theorem dX0_unify_0 : decode cX0_unify 0 = .ok (.iload_n 1, 1) := dk_27 (dk_at dksX0_unify_0 0 rfl rfl)
theorem dX0_unify_1 : decode cX0_unify 1 = .ok (.ifCond .ne 8, 3) := dk_154 0 8 (dk_at dksX0_unify_0 1 rfl rfl)
theorem dX0_unify_4 : decode cX0_unify 4 = .ok (.aload_n 0, 1) := dk_42 (dk_at dksX0_unify_0 4 rfl rfl)
theorem dX0_unify_5 : decode cX0_unify 5 = .ok (.invokevirtual 1289, 3) := dk_182 5 9 (dk_at dksX0_unify_0 5 rfl rfl)
theorem dX0_unify_8 : decode cX0_unify 8 = .ok (.return_, 1) := dk_177 (dk_at dksX0_unify_0 8 rfl rfl)
theorem dX0_unify_9 : decode cX0_unify 9 = .ok (.aload_n 0, 1) := dk_42 (dk_at dksX0_unify_0 9 rfl rfl)
theorem dX0_unify_10 : decode cX0_unify 10 = .ok (.getfield 1292, 3) := dk_180 5 12 (dk_at dksX0_unify_0 10 rfl rfl)
theorem dX0_unify_13 : decode cX0_unify 13 = .ok (.sipush 150, 3) := dk_17 0 150 (dk_at dksX0_unify_0 13 rfl rfl)
theorem dX0_unify_16 : decode cX0_unify 16 = .ok (.if_icmp .ne 9, 3) := dk_160 0 9 (dk_at dksX0_unify_0 16 rfl rfl)
theorem dX0_unify_19 : decode cX0_unify 19 = .ok (.aload_n 0, 1) := dk_42 (dk_at dksX0_unify_0 19 rfl rfl)
theorem dX0_unify_20 : decode cX0_unify 20 = .ok (.iconst 5, 1) := dk_8 (dk_at dksX0_unify_0 20 rfl rfl)
theorem dX0_unify_21 : decode cX0_unify 21 = .ok (.invokevirtual 595, 3) := dk_182 2 83 (dk_at dksX0_unify_0 21 rfl rfl)
theorem dX0_unify_24 : decode cX0_unify 24 = .ok (.athrow, 1) := dk_191 (dk_at dksX0_unify_1 0 rfl rfl)
theorem dX0_unify_25 : decode cX0_unify 25 = .ok (.aload_n 0, 1) := dk_42 (dk_at dksX0_unify_1 1 rfl rfl)
theorem dX0_unify_26 : decode cX0_unify 26 = .ok (.dup, 1) := dk_89 (dk_at dksX0_unify_1 2 rfl rfl)
theorem dX0_unify_27 : decode cX0_unify 27 = .ok (.getfield 1292, 3) := dk_180 5 12 (dk_at dksX0_unify_1 3 rfl rfl)
theorem dX0_unify_30 : decode cX0_unify 30 = .ok (.iconst 1, 1) := dk_4 (dk_at dksX0_unify_1 6 rfl rfl)
theorem dX0_unify_31 : decode cX0_unify 31 = .ok (.iadd, 1) := dk_96 (dk_at dksX0_unify_1 7 rfl rfl)
theorem dX0_unify_32 : decode cX0_unify 32 = .ok (.putfield 1292, 3) := dk_181 5 12 (dk_at dksX0_unify_1 8 rfl rfl)
theorem dX0_unify_35 : decode cX0_unify 35 = .ok (.aload_n 0, 1) := dk_42 (dk_at dksX0_unify_1 11 rfl rfl)
theorem dX0_unify_36 : decode cX0_unify 36 = .ok (.getfield 200, 3) := dk_180 0 200 (dk_at dksX0_unify_1 12 rfl rfl)
theorem dX0_unify_39 : decode cX0_unify 39 = .ok (.istore_n 2, 1) := dk_61 (dk_at dksX0_unify_1 15 rfl rfl)
theorem dX0_unify_40 : decode cX0_unify 40 = .ok (.aload_n 0, 1) := dk_42 (dk_at dksX0_unify_1 16 rfl rfl)
theorem dX0_unify_41 : decode cX0_unify 41 = .ok (.getfield 203, 3) := dk_180 0 203 (dk_at dksX0_unify_1 17 rfl rfl)
theorem dX0_unify_44 : decode cX0_unify 44 = .ok (.istore_n 3, 1) := dk_62 (dk_at dksX0_unify_1 20 rfl rfl)
theorem dX0_unify_45 : decode cX0_unify 45 = .ok (.aload_n 0, 1) := dk_42 (dk_at dksX0_unify_1 21 rfl rfl)
theorem dX0_unify_46 : decode cX0_unify 46 = .ok (.getfield 776, 3) := dk_180 3 8 (dk_at dksX0_unify_2 0 rfl rfl)
theorem dX0_unify_49 : decode cX0_unify 49 = .ok (.iload_n 1, 1) := dk_27 (dk_at dksX0_unify_2 3 rfl rfl)
theorem dX0_unify_50 : decode cX0_unify 50 = .ok (.iconst 1, 1) := dk_4 (dk_at dksX0_unify_2 4 rfl rfl)
theorem dX0_unify_51 : decode cX0_unify 51 = .ok (.isub, 1) := dk_100 (dk_at dksX0_unify_2 5 rfl rfl)
theorem dX0_unify_52 : decode cX0_unify 52 = .ok (.iaload, 1) := dk_46 (dk_at dksX0_unify_2 6 rfl rfl)
theorem dX0_unify_53 : decode cX0_unify 53 = .ok (.istore 4, 2) := dk_54 4 (dk_at dksX0_unify_2 7 rfl rfl)
theorem dX0_unify_55 : decode cX0_unify 55 = .ok (.aload_n 0, 1) := dk_42 (dk_at dksX0_unify_2 9 rfl rfl)
theorem dX0_unify_56 : decode cX0_unify 56 = .ok (.getfield 782, 3) := dk_180 3 14 (dk_at dksX0_unify_2 10 rfl rfl)
theorem dX0_unify_59 : decode cX0_unify 59 = .ok (.iload_n 1, 1) := dk_27 (dk_at dksX0_unify_2 13 rfl rfl)
theorem dX0_unify_60 : decode cX0_unify 60 = .ok (.iconst 1, 1) := dk_4 (dk_at dksX0_unify_2 14 rfl rfl)
theorem dX0_unify_61 : decode cX0_unify 61 = .ok (.isub, 1) := dk_100 (dk_at dksX0_unify_2 15 rfl rfl)
theorem dX0_unify_62 : decode cX0_unify 62 = .ok (.iaload, 1) := dk_46 (dk_at dksX0_unify_2 16 rfl rfl)
theorem dX0_unify_63 : decode cX0_unify 63 = .ok (.istore 5, 2) := dk_54 5 (dk_at dksX0_unify_2 17 rfl rfl)
theorem dX0_unify_65 : decode cX0_unify 65 = .ok (.aload_n 0, 1) := dk_42 (dk_at dksX0_unify_2 19 rfl rfl)
theorem dX0_unify_66 : decode cX0_unify 66 = .ok (.iload 4, 2) := dk_21 4 (dk_at dksX0_unify_2 20 rfl rfl)
theorem dX0_unify_68 : decode cX0_unify 68 = .ok (.invokevirtual 1284, 3) := dk_182 5 4 (dk_at dksX0_unify_3 0 rfl rfl)
theorem dX0_unify_71 : decode cX0_unify 71 = .ok (.istore 6, 2) := dk_54 6 (dk_at dksX0_unify_3 3 rfl rfl)
theorem dX0_unify_73 : decode cX0_unify 73 = .ok (.aload_n 0, 1) := dk_42 (dk_at dksX0_unify_3 5 rfl rfl)
theorem dX0_unify_74 : decode cX0_unify 74 = .ok (.iload 5, 2) := dk_21 5 (dk_at dksX0_unify_3 6 rfl rfl)
theorem dX0_unify_76 : decode cX0_unify 76 = .ok (.invokevirtual 1284, 3) := dk_182 5 4 (dk_at dksX0_unify_3 8 rfl rfl)
theorem dX0_unify_79 : decode cX0_unify 79 = .ok (.istore 7, 2) := dk_54 7 (dk_at dksX0_unify_3 11 rfl rfl)
theorem dX0_unify_81 : decode cX0_unify 81 = .ok (.iload 6, 2) := dk_21 6 (dk_at dksX0_unify_3 13 rfl rfl)
theorem dX0_unify_83 : decode cX0_unify 83 = .ok (.iload 7, 2) := dk_21 7 (dk_at dksX0_unify_3 15 rfl rfl)
theorem dX0_unify_85 : decode cX0_unify 85 = .ok (.if_icmp .ne 13, 3) := dk_160 0 13 (dk_at dksX0_unify_3 17 rfl rfl)
theorem dX0_unify_88 : decode cX0_unify 88 = .ok (.aload_n 0, 1) := dk_42 (dk_at dksX0_unify_3 20 rfl rfl)
theorem dX0_unify_89 : decode cX0_unify 89 = .ok (.iload_n 1, 1) := dk_27 (dk_at dksX0_unify_3 21 rfl rfl)
theorem dX0_unify_90 : decode cX0_unify 90 = .ok (.iconst 1, 1) := dk_4 (dk_at dksX0_unify_3 22 rfl rfl)
theorem dX0_unify_91 : decode cX0_unify 91 = .ok (.isub, 1) := dk_100 (dk_at dksX0_unify_3 23 rfl rfl)
theorem dX0_unify_92 : decode cX0_unify 92 = .ok (.invokevirtual 1295, 3) := dk_182 5 15 (dk_at dksX0_unify_4 0 rfl rfl)
theorem dX0_unify_95 : decode cX0_unify 95 = .ok (.goto 131, 3) := dk_167 0 131 (dk_at dksX0_unify_4 3 rfl rfl)
theorem dX0_unify_98 : decode cX0_unify 98 = .ok (.aload_n 0, 1) := dk_42 (dk_at dksX0_unify_4 6 rfl rfl)
theorem dX0_unify_99 : decode cX0_unify 99 = .ok (.getfield 575, 3) := dk_180 2 63 (dk_at dksX0_unify_4 7 rfl rfl)
theorem dX0_unify_102 : decode cX0_unify 102 = .ok (.iload 6, 2) := dk_21 6 (dk_at dksX0_unify_4 10 rfl rfl)
theorem dX0_unify_104 : decode cX0_unify 104 = .ok (.iaload, 1) := dk_46 (dk_at dksX0_unify_4 12 rfl rfl)
theorem dX0_unify_105 : decode cX0_unify 105 = .ok (.ifCond .ge 25, 3) := dk_156 0 25 (dk_at dksX0_unify_4 13 rfl rfl)
theorem dX0_unify_108 : decode cX0_unify 108 = .ok (.aload_n 0, 1) := dk_42 (dk_at dksX0_unify_4 16 rfl rfl)
theorem dX0_unify_109 : decode cX0_unify 109 = .ok (.getfield 575, 3) := dk_180 2 63 (dk_at dksX0_unify_4 17 rfl rfl)
theorem dX0_unify_112 : decode cX0_unify 112 = .ok (.iload 7, 2) := dk_21 7 (dk_at dksX0_unify_4 20 rfl rfl)
theorem dX0_unify_114 : decode cX0_unify 114 = .ok (.iaload, 1) := dk_46 (dk_at dksX0_unify_4 22 rfl rfl)
theorem dX0_unify_115 : decode cX0_unify 115 = .ok (.ifCond .ge 15, 3) := dk_156 0 15 (dk_at dksX0_unify_5 0 rfl rfl)
theorem dX0_unify_118 : decode cX0_unify 118 = .ok (.aload_n 0, 1) := dk_42 (dk_at dksX0_unify_5 3 rfl rfl)
theorem dX0_unify_119 : decode cX0_unify 119 = .ok (.iload_n 1, 1) := dk_27 (dk_at dksX0_unify_5 4 rfl rfl)
theorem dX0_unify_120 : decode cX0_unify 120 = .ok (.iload 6, 2) := dk_21 6 (dk_at dksX0_unify_5 5 rfl rfl)
theorem dX0_unify_122 : decode cX0_unify 122 = .ok (.iload 7, 2) := dk_21 7 (dk_at dksX0_unify_5 7 rfl rfl)
theorem dX0_unify_124 : decode cX0_unify 124 = .ok (.invokevirtual 1298, 3) := dk_182 5 18 (dk_at dksX0_unify_5 9 rfl rfl)
theorem dX0_unify_127 : decode cX0_unify 127 = .ok (.goto 99, 3) := dk_167 0 99 (dk_at dksX0_unify_5 12 rfl rfl)
theorem dX0_unify_130 : decode cX0_unify 130 = .ok (.aload_n 0, 1) := dk_42 (dk_at dksX0_unify_5 15 rfl rfl)
theorem dX0_unify_131 : decode cX0_unify 131 = .ok (.getfield 575, 3) := dk_180 2 63 (dk_at dksX0_unify_5 16 rfl rfl)
theorem dX0_unify_134 : decode cX0_unify 134 = .ok (.iload 6, 2) := dk_21 6 (dk_at dksX0_unify_5 19 rfl rfl)
theorem dX0_unify_136 : decode cX0_unify 136 = .ok (.iaload, 1) := dk_46 (dk_at dksX0_unify_5 21 rfl rfl)
theorem dX0_unify_137 : decode cX0_unify 137 = .ok (.ifCond .ge 15, 3) := dk_156 0 15 (dk_at dksX0_unify_6 0 rfl rfl)
theorem dX0_unify_140 : decode cX0_unify 140 = .ok (.aload_n 0, 1) := dk_42 (dk_at dksX0_unify_6 3 rfl rfl)
theorem dX0_unify_141 : decode cX0_unify 141 = .ok (.iload_n 1, 1) := dk_27 (dk_at dksX0_unify_6 4 rfl rfl)
theorem dX0_unify_142 : decode cX0_unify 142 = .ok (.iload 6, 2) := dk_21 6 (dk_at dksX0_unify_6 5 rfl rfl)
theorem dX0_unify_144 : decode cX0_unify 144 = .ok (.iload 7, 2) := dk_21 7 (dk_at dksX0_unify_6 7 rfl rfl)
theorem dX0_unify_146 : decode cX0_unify 146 = .ok (.invokevirtual 1301, 3) := dk_182 5 21 (dk_at dksX0_unify_6 9 rfl rfl)
theorem dX0_unify_149 : decode cX0_unify 149 = .ok (.goto 77, 3) := dk_167 0 77 (dk_at dksX0_unify_6 12 rfl rfl)
theorem dX0_unify_152 : decode cX0_unify 152 = .ok (.aload_n 0, 1) := dk_42 (dk_at dksX0_unify_6 15 rfl rfl)
theorem dX0_unify_153 : decode cX0_unify 153 = .ok (.getfield 575, 3) := dk_180 2 63 (dk_at dksX0_unify_6 16 rfl rfl)
theorem dX0_unify_156 : decode cX0_unify 156 = .ok (.iload 7, 2) := dk_21 7 (dk_at dksX0_unify_6 19 rfl rfl)
theorem dX0_unify_158 : decode cX0_unify 158 = .ok (.iaload, 1) := dk_46 (dk_at dksX0_unify_6 21 rfl rfl)
theorem dX0_unify_159 : decode cX0_unify 159 = .ok (.ifCond .ge 15, 3) := dk_156 0 15 (dk_at dksX0_unify_7 0 rfl rfl)
theorem dX0_unify_162 : decode cX0_unify 162 = .ok (.aload_n 0, 1) := dk_42 (dk_at dksX0_unify_7 3 rfl rfl)
theorem dX0_unify_163 : decode cX0_unify 163 = .ok (.iload_n 1, 1) := dk_27 (dk_at dksX0_unify_7 4 rfl rfl)
theorem dX0_unify_164 : decode cX0_unify 164 = .ok (.iload 7, 2) := dk_21 7 (dk_at dksX0_unify_7 5 rfl rfl)
theorem dX0_unify_166 : decode cX0_unify 166 = .ok (.iload 6, 2) := dk_21 6 (dk_at dksX0_unify_7 7 rfl rfl)
theorem dX0_unify_168 : decode cX0_unify 168 = .ok (.invokevirtual 1301, 3) := dk_182 5 21 (dk_at dksX0_unify_7 9 rfl rfl)
theorem dX0_unify_171 : decode cX0_unify 171 = .ok (.goto 55, 3) := dk_167 0 55 (dk_at dksX0_unify_7 12 rfl rfl)
theorem dX0_unify_174 : decode cX0_unify 174 = .ok (.aload_n 0, 1) := dk_42 (dk_at dksX0_unify_7 15 rfl rfl)
theorem dX0_unify_175 : decode cX0_unify 175 = .ok (.getfield 575, 3) := dk_180 2 63 (dk_at dksX0_unify_7 16 rfl rfl)
theorem dX0_unify_178 : decode cX0_unify 178 = .ok (.iload 6, 2) := dk_21 6 (dk_at dksX0_unify_7 19 rfl rfl)
theorem dX0_unify_180 : decode cX0_unify 180 = .ok (.iaload, 1) := dk_46 (dk_at dksX0_unify_7 21 rfl rfl)
theorem dX0_unify_181 : decode cX0_unify 181 = .ok (.aload_n 0, 1) := dk_42 (dk_at dksX0_unify_7 22 rfl rfl)
theorem dX0_unify_182 : decode cX0_unify 182 = .ok (.getfield 575, 3) := dk_180 2 63 (dk_at dksX0_unify_8 0 rfl rfl)
theorem dX0_unify_185 : decode cX0_unify 185 = .ok (.iload 7, 2) := dk_21 7 (dk_at dksX0_unify_8 3 rfl rfl)
theorem dX0_unify_187 : decode cX0_unify 187 = .ok (.iaload, 1) := dk_46 (dk_at dksX0_unify_8 5 rfl rfl)
theorem dX0_unify_188 : decode cX0_unify 188 = .ok (.if_icmp .ne 38, 3) := dk_160 0 38 (dk_at dksX0_unify_8 6 rfl rfl)
theorem dX0_unify_191 : decode cX0_unify 191 = .ok (.aload_n 0, 1) := dk_42 (dk_at dksX0_unify_8 9 rfl rfl)
theorem dX0_unify_192 : decode cX0_unify 192 = .ok (.iload_n 1, 1) := dk_27 (dk_at dksX0_unify_8 10 rfl rfl)
theorem dX0_unify_193 : decode cX0_unify 193 = .ok (.iload 6, 2) := dk_21 6 (dk_at dksX0_unify_8 11 rfl rfl)
theorem dX0_unify_195 : decode cX0_unify 195 = .ok (.iload 7, 2) := dk_21 7 (dk_at dksX0_unify_8 13 rfl rfl)
theorem dX0_unify_197 : decode cX0_unify 197 = .ok (.iconst 0, 1) := dk_3 (dk_at dksX0_unify_8 15 rfl rfl)
theorem dX0_unify_198 : decode cX0_unify 198 = .ok (.invokevirtual 1304, 3) := dk_182 5 24 (dk_at dksX0_unify_8 16 rfl rfl)
theorem dX0_unify_201 : decode cX0_unify 201 = .ok (.aload_n 0, 1) := dk_42 (dk_at dksX0_unify_8 19 rfl rfl)
theorem dX0_unify_202 : decode cX0_unify 202 = .ok (.getfield 488, 3) := dk_180 1 232 (dk_at dksX0_unify_8 20 rfl rfl)
theorem dX0_unify_205 : decode cX0_unify 205 = .ok (.aload_n 0, 1) := dk_42 (dk_at dksX0_unify_8 23 rfl rfl)
theorem dX0_unify_206 : decode cX0_unify 206 = .ok (.getfield 575, 3) := dk_180 2 63 (dk_at dksX0_unify_9 0 rfl rfl)
theorem dX0_unify_209 : decode cX0_unify 209 = .ok (.iload 6, 2) := dk_21 6 (dk_at dksX0_unify_9 3 rfl rfl)
theorem dX0_unify_211 : decode cX0_unify 211 = .ok (.iaload, 1) := dk_46 (dk_at dksX0_unify_9 5 rfl rfl)
theorem dX0_unify_212 : decode cX0_unify 212 = .ok (.baload, 1) := dk_51 (dk_at dksX0_unify_9 6 rfl rfl)
theorem dX0_unify_213 : decode cX0_unify 213 = .ok (.ifCond .eq 13, 3) := dk_153 0 13 (dk_at dksX0_unify_9 7 rfl rfl)
theorem dX0_unify_216 : decode cX0_unify 216 = .ok (.aload_n 0, 1) := dk_42 (dk_at dksX0_unify_9 10 rfl rfl)
theorem dX0_unify_217 : decode cX0_unify 217 = .ok (.iload_n 1, 1) := dk_27 (dk_at dksX0_unify_9 11 rfl rfl)
theorem dX0_unify_218 : decode cX0_unify 218 = .ok (.iload 6, 2) := dk_21 6 (dk_at dksX0_unify_9 12 rfl rfl)
theorem dX0_unify_220 : decode cX0_unify 220 = .ok (.iload 7, 2) := dk_21 7 (dk_at dksX0_unify_9 14 rfl rfl)
theorem dX0_unify_222 : decode cX0_unify 222 = .ok (.iconst 1, 1) := dk_4 (dk_at dksX0_unify_9 16 rfl rfl)
theorem dX0_unify_223 : decode cX0_unify 223 = .ok (.invokevirtual 1304, 3) := dk_182 5 24 (dk_at dksX0_unify_9 17 rfl rfl)
theorem dX0_unify_226 : decode cX0_unify 226 = .ok (.aload_n 0, 1) := dk_42 (dk_at dksX0_unify_9 20 rfl rfl)
theorem dX0_unify_227 : decode cX0_unify 227 = .ok (.getfield 776, 3) := dk_180 3 8 (dk_at dksX0_unify_9 21 rfl rfl)
theorem dX0_unify_230 : decode cX0_unify 230 = .ok (.iload_n 1, 1) := dk_27 (dk_at dksX0_unify_10 0 rfl rfl)
theorem dX0_unify_231 : decode cX0_unify 231 = .ok (.iconst 1, 1) := dk_4 (dk_at dksX0_unify_10 1 rfl rfl)
theorem dX0_unify_232 : decode cX0_unify 232 = .ok (.isub, 1) := dk_100 (dk_at dksX0_unify_10 2 rfl rfl)
theorem dX0_unify_233 : decode cX0_unify 233 = .ok (.iload 4, 2) := dk_21 4 (dk_at dksX0_unify_10 3 rfl rfl)
theorem dX0_unify_235 : decode cX0_unify 235 = .ok (.iastore, 1) := dk_79 (dk_at dksX0_unify_10 5 rfl rfl)
theorem dX0_unify_236 : decode cX0_unify 236 = .ok (.aload_n 0, 1) := dk_42 (dk_at dksX0_unify_10 6 rfl rfl)
theorem dX0_unify_237 : decode cX0_unify 237 = .ok (.getfield 782, 3) := dk_180 3 14 (dk_at dksX0_unify_10 7 rfl rfl)
theorem dX0_unify_240 : decode cX0_unify 240 = .ok (.iload_n 1, 1) := dk_27 (dk_at dksX0_unify_10 10 rfl rfl)
theorem dX0_unify_241 : decode cX0_unify 241 = .ok (.iconst 1, 1) := dk_4 (dk_at dksX0_unify_10 11 rfl rfl)
theorem dX0_unify_242 : decode cX0_unify 242 = .ok (.isub, 1) := dk_100 (dk_at dksX0_unify_10 12 rfl rfl)
theorem dX0_unify_243 : decode cX0_unify 243 = .ok (.iload 5, 2) := dk_21 5 (dk_at dksX0_unify_10 13 rfl rfl)
theorem dX0_unify_245 : decode cX0_unify 245 = .ok (.iastore, 1) := dk_79 (dk_at dksX0_unify_10 15 rfl rfl)
theorem dX0_unify_246 : decode cX0_unify 246 = .ok (.aload_n 0, 1) := dk_42 (dk_at dksX0_unify_10 16 rfl rfl)
theorem dX0_unify_247 : decode cX0_unify 247 = .ok (.iload_n 2, 1) := dk_28 (dk_at dksX0_unify_10 17 rfl rfl)
theorem dX0_unify_248 : decode cX0_unify 248 = .ok (.iload_n 3, 1) := dk_29 (dk_at dksX0_unify_10 18 rfl rfl)
theorem dX0_unify_249 : decode cX0_unify 249 = .ok (.invokevirtual 1308, 3) := dk_182 5 28 (dk_at dksX0_unify_10 19 rfl rfl)
theorem dX0_unify_252 : decode cX0_unify 252 = .ok (.aload_n 0, 1) := dk_42 (dk_at dksX0_unify_10 22 rfl rfl)
theorem dX0_unify_253 : decode cX0_unify 253 = .ok (.dup, 1) := dk_89 (dk_at dksX0_unify_10 23 rfl rfl)
theorem dX0_unify_254 : decode cX0_unify 254 = .ok (.getfield 1292, 3) := dk_180 5 12 (dk_at dksX0_unify_11 0 rfl rfl)
theorem dX0_unify_257 : decode cX0_unify 257 = .ok (.iconst 1, 1) := dk_4 (dk_at dksX0_unify_11 3 rfl rfl)
theorem dX0_unify_258 : decode cX0_unify 258 = .ok (.isub, 1) := dk_100 (dk_at dksX0_unify_11 4 rfl rfl)
theorem dX0_unify_259 : decode cX0_unify 259 = .ok (.putfield 1292, 3) := dk_181 5 12 (dk_at dksX0_unify_11 5 rfl rfl)
theorem dX0_unify_262 : decode cX0_unify 262 = .ok (.return_, 1) := dk_177 (dk_at dksX0_unify_11 8 rfl rfl)
abbrev cX0_meet : ByteArray := prog_1_method_226_code
def yX0_meet : MethodName := ⟨RX0, "meet", "()V"⟩
def dkwX0_meet_8 : List UInt8 := [132, 6, 1, 167, 255, 236, 177]
abbrev dktX0_meet_8 : List UInt8 := dkwX0_meet_8 ++ []
def dkwX0_meet_7 : List UInt8 := [182, 5, 28, 3, 54, 6, 21, 6, 42, 180, 0, 200, 162, 0, 17, 42, 180, 2, 87, 21, 6, 3, 79]
abbrev dktX0_meet_7 : List UInt8 := dkwX0_meet_7 ++ dktX0_meet_8
def dkwX0_meet_6 : List UInt8 := [42, 89, 180, 5, 52, 4, 96, 181, 5, 52, 42, 89, 180, 4, 243, 4, 96, 181, 4, 243, 42, 28, 29]
abbrev dktX0_meet_6 : List UInt8 := dkwX0_meet_6 ++ dktX0_meet_7
def dkwX0_meet_5 : List UInt8 := [180, 5, 58, 16, 80, 182, 2, 160, 42, 42, 180, 5, 61, 181, 5, 64, 42, 42, 180, 5, 67, 181, 5, 70]
abbrev dktX0_meet_5 : List UInt8 := dkwX0_meet_5 ++ dktX0_meet_6
def dkwX0_meet_4 : List UInt8 := [42, 180, 5, 55, 160, 0, 42, 42, 21, 4, 42, 180, 5, 58, 3, 182, 2, 160, 42, 21, 5, 42]
abbrev dktX0_meet_4 : List UInt8 := dkwX0_meet_4 ++ dktX0_meet_5
def dkwX0_meet_3 : List UInt8 := [42, 21, 5, 182, 3, 155, 54, 5, 42, 27, 181, 3, 11, 21, 4, 21, 5, 159, 0, 63, 42, 180, 5, 52]
abbrev dktX0_meet_3 : List UInt8 := dkwX0_meet_3 ++ dktX0_meet_4
def dkwX0_meet_2 : List UInt8 := [54, 4, 42, 42, 42, 180, 5, 46, 182, 5, 49, 182, 5, 4, 54, 5, 42, 21, 4, 182, 3, 155, 54, 4]
abbrev dktX0_meet_2 : List UInt8 := dkwX0_meet_2 ++ dktX0_meet_3
def dkwX0_meet_1 : List UInt8 := [42, 3, 181, 3, 121, 42, 3, 181, 3, 161, 42, 3, 181, 3, 158, 42, 42, 180, 5, 43, 182, 5, 4]
abbrev dktX0_meet_1 : List UInt8 := dkwX0_meet_1 ++ dktX0_meet_2
def dkwX0_meet_0 : List UInt8 := [42, 182, 4, 249, 42, 180, 3, 11, 60, 42, 180, 0, 200, 61, 42, 180, 0, 203, 62, 42, 3, 181, 3, 11]
abbrev dktX0_meet_0 : List UInt8 := dkwX0_meet_0 ++ dktX0_meet_1
theorem dksX0_meet_0 : cX0_meet.data.toList.drop 0 = dktX0_meet_0 := by decide +kernel
theorem dksX0_meet_1 : cX0_meet.data.toList.drop 24 = dktX0_meet_1 := dk_seg dksX0_meet_0 24 rfl rfl
theorem dksX0_meet_2 : cX0_meet.data.toList.drop 47 = dktX0_meet_2 := dk_seg dksX0_meet_1 23 rfl rfl
theorem dksX0_meet_3 : cX0_meet.data.toList.drop 71 = dktX0_meet_3 := dk_seg dksX0_meet_2 24 rfl rfl
theorem dksX0_meet_4 : cX0_meet.data.toList.drop 95 = dktX0_meet_4 := dk_seg dksX0_meet_3 24 rfl rfl
theorem dksX0_meet_5 : cX0_meet.data.toList.drop 117 = dktX0_meet_5 := dk_seg dksX0_meet_4 22 rfl rfl
theorem dksX0_meet_6 : cX0_meet.data.toList.drop 141 = dktX0_meet_6 := dk_seg dksX0_meet_5 24 rfl rfl
theorem dksX0_meet_7 : cX0_meet.data.toList.drop 164 = dktX0_meet_7 := dk_seg dksX0_meet_6 23 rfl rfl
theorem dksX0_meet_8 : cX0_meet.data.toList.drop 187 = dktX0_meet_8 := dk_seg dksX0_meet_7 23 rfl rfl
theorem dX0_meet_0 : decode cX0_meet 0 = .ok (.aload_n 0, 1) := dk_42 (dk_at dksX0_meet_0 0 rfl rfl)
theorem dX0_meet_1 : decode cX0_meet 1 = .ok (.invokevirtual 1273, 3) := dk_182 4 249 (dk_at dksX0_meet_0 1 rfl rfl)
theorem dX0_meet_4 : decode cX0_meet 4 = .ok (.aload_n 0, 1) := dk_42 (dk_at dksX0_meet_0 4 rfl rfl)
theorem dX0_meet_5 : decode cX0_meet 5 = .ok (.getfield 779, 3) := dk_180 3 11 (dk_at dksX0_meet_0 5 rfl rfl)
theorem dX0_meet_8 : decode cX0_meet 8 = .ok (.istore_n 1, 1) := dk_60 (dk_at dksX0_meet_0 8 rfl rfl)
theorem dX0_meet_9 : decode cX0_meet 9 = .ok (.aload_n 0, 1) := dk_42 (dk_at dksX0_meet_0 9 rfl rfl)
theorem dX0_meet_10 : decode cX0_meet 10 = .ok (.getfield 200, 3) := dk_180 0 200 (dk_at dksX0_meet_0 10 rfl rfl)
theorem dX0_meet_13 : decode cX0_meet 13 = .ok (.istore_n 2, 1) := dk_61 (dk_at dksX0_meet_0 13 rfl rfl)
theorem dX0_meet_14 : decode cX0_meet 14 = .ok (.aload_n 0, 1) := dk_42 (dk_at dksX0_meet_0 14 rfl rfl)
theorem dX0_meet_15 : decode cX0_meet 15 = .ok (.getfield 203, 3) := dk_180 0 203 (dk_at dksX0_meet_0 15 rfl rfl)
theorem dX0_meet_18 : decode cX0_meet 18 = .ok (.istore_n 3, 1) := dk_62 (dk_at dksX0_meet_0 18 rfl rfl)
theorem dX0_meet_19 : decode cX0_meet 19 = .ok (.aload_n 0, 1) := dk_42 (dk_at dksX0_meet_0 19 rfl rfl)
theorem dX0_meet_20 : decode cX0_meet 20 = .ok (.iconst 0, 1) := dk_3 (dk_at dksX0_meet_0 20 rfl rfl)
theorem dX0_meet_21 : decode cX0_meet 21 = .ok (.putfield 779, 3) := dk_181 3 11 (dk_at dksX0_meet_0 21 rfl rfl)
theorem dX0_meet_24 : decode cX0_meet 24 = .ok (.aload_n 0, 1) := dk_42 (dk_at dksX0_meet_1 0 rfl rfl)
theorem dX0_meet_25 : decode cX0_meet 25 = .ok (.iconst 0, 1) := dk_3 (dk_at dksX0_meet_1 1 rfl rfl)
theorem dX0_meet_26 : decode cX0_meet 26 = .ok (.putfield 889, 3) := dk_181 3 121 (dk_at dksX0_meet_1 2 rfl rfl)
theorem dX0_meet_29 : decode cX0_meet 29 = .ok (.aload_n 0, 1) := dk_42 (dk_at dksX0_meet_1 5 rfl rfl)
theorem dX0_meet_30 : decode cX0_meet 30 = .ok (.iconst 0, 1) := dk_3 (dk_at dksX0_meet_1 6 rfl rfl)
theorem dX0_meet_31 : decode cX0_meet 31 = .ok (.putfield 929, 3) := dk_181 3 161 (dk_at dksX0_meet_1 7 rfl rfl)
theorem dX0_meet_34 : decode cX0_meet 34 = .ok (.aload_n 0, 1) := dk_42 (dk_at dksX0_meet_1 10 rfl rfl)
theorem dX0_meet_35 : decode cX0_meet 35 = .ok (.iconst 0, 1) := dk_3 (dk_at dksX0_meet_1 11 rfl rfl)
theorem dX0_meet_36 : decode cX0_meet 36 = .ok (.putfield 926, 3) := dk_181 3 158 (dk_at dksX0_meet_1 12 rfl rfl)
theorem dX0_meet_39 : decode cX0_meet 39 = .ok (.aload_n 0, 1) := dk_42 (dk_at dksX0_meet_1 15 rfl rfl)
theorem dX0_meet_40 : decode cX0_meet 40 = .ok (.aload_n 0, 1) := dk_42 (dk_at dksX0_meet_1 16 rfl rfl)
theorem dX0_meet_41 : decode cX0_meet 41 = .ok (.getfield 1323, 3) := dk_180 5 43 (dk_at dksX0_meet_1 17 rfl rfl)
theorem dX0_meet_44 : decode cX0_meet 44 = .ok (.invokevirtual 1284, 3) := dk_182 5 4 (dk_at dksX0_meet_1 20 rfl rfl)
theorem dX0_meet_47 : decode cX0_meet 47 = .ok (.istore 4, 2) := dk_54 4 (dk_at dksX0_meet_2 0 rfl rfl)
theorem dX0_meet_49 : decode cX0_meet 49 = .ok (.aload_n 0, 1) := dk_42 (dk_at dksX0_meet_2 2 rfl rfl)
theorem dX0_meet_50 : decode cX0_meet 50 = .ok (.aload_n 0, 1) := dk_42 (dk_at dksX0_meet_2 3 rfl rfl)
theorem dX0_meet_51 : decode cX0_meet 51 = .ok (.aload_n 0, 1) := dk_42 (dk_at dksX0_meet_2 4 rfl rfl)
theorem dX0_meet_52 : decode cX0_meet 52 = .ok (.getfield 1326, 3) := dk_180 5 46 (dk_at dksX0_meet_2 5 rfl rfl)
theorem dX0_meet_55 : decode cX0_meet 55 = .ok (.invokevirtual 1329, 3) := dk_182 5 49 (dk_at dksX0_meet_2 8 rfl rfl)
theorem dX0_meet_58 : decode cX0_meet 58 = .ok (.invokevirtual 1284, 3) := dk_182 5 4 (dk_at dksX0_meet_2 11 rfl rfl)
theorem dX0_meet_61 : decode cX0_meet 61 = .ok (.istore 5, 2) := dk_54 5 (dk_at dksX0_meet_2 14 rfl rfl)
theorem dX0_meet_63 : decode cX0_meet 63 = .ok (.aload_n 0, 1) := dk_42 (dk_at dksX0_meet_2 16 rfl rfl)
theorem dX0_meet_64 : decode cX0_meet 64 = .ok (.iload 4, 2) := dk_21 4 (dk_at dksX0_meet_2 17 rfl rfl)
theorem dX0_meet_66 : decode cX0_meet 66 = .ok (.invokevirtual 923, 3) := dk_182 3 155 (dk_at dksX0_meet_2 19 rfl rfl)
theorem dX0_meet_69 : decode cX0_meet 69 = .ok (.istore 4, 2) := dk_54 4 (dk_at dksX0_meet_2 22 rfl rfl)
theorem dX0_meet_71 : decode cX0_meet 71 = .ok (.aload_n 0, 1) := dk_42 (dk_at dksX0_meet_3 0 rfl rfl)
theorem dX0_meet_72 : decode cX0_meet 72 = .ok (.iload 5, 2) := dk_21 5 (dk_at dksX0_meet_3 1 rfl rfl)
theorem dX0_meet_74 : decode cX0_meet 74 = .ok (.invokevirtual 923, 3) := dk_182 3 155 (dk_at dksX0_meet_3 3 rfl rfl)
theorem dX0_meet_77 : decode cX0_meet 77 = .ok (.istore 5, 2) := dk_54 5 (dk_at dksX0_meet_3 6 rfl rfl)
theorem dX0_meet_79 : decode cX0_meet 79 = .ok (.aload_n 0, 1) := dk_42 (dk_at dksX0_meet_3 8 rfl rfl)
theorem dX0_meet_80 : decode cX0_meet 80 = .ok (.iload_n 1, 1) := dk_27 (dk_at dksX0_meet_3 9 rfl rfl)
theorem dX0_meet_81 : decode cX0_meet 81 = .ok (.putfield 779, 3) := dk_181 3 11 (dk_at dksX0_meet_3 10 rfl rfl)
theorem dX0_meet_84 : decode cX0_meet 84 = .ok (.iload 4, 2) := dk_21 4 (dk_at dksX0_meet_3 13 rfl rfl)
theorem dX0_meet_86 : decode cX0_meet 86 = .ok (.iload 5, 2) := dk_21 5 (dk_at dksX0_meet_3 15 rfl rfl)
theorem dX0_meet_88 : decode cX0_meet 88 = .ok (.if_icmp .eq 63, 3) := dk_159 0 63 (dk_at dksX0_meet_3 17 rfl rfl)
theorem dX0_meet_91 : decode cX0_meet 91 = .ok (.aload_n 0, 1) := dk_42 (dk_at dksX0_meet_3 20 rfl rfl)
theorem dX0_meet_92 : decode cX0_meet 92 = .ok (.getfield 1332, 3) := dk_180 5 52 (dk_at dksX0_meet_3 21 rfl rfl)
theorem dX0_meet_95 : decode cX0_meet 95 = .ok (.aload_n 0, 1) := dk_42 (dk_at dksX0_meet_4 0 rfl rfl)
theorem dX0_meet_96 : decode cX0_meet 96 = .ok (.getfield 1335, 3) := dk_180 5 55 (dk_at dksX0_meet_4 1 rfl rfl)
theorem dX0_meet_99 : decode cX0_meet 99 = .ok (.if_icmp .ne 42, 3) := dk_160 0 42 (dk_at dksX0_meet_4 4 rfl rfl)
theorem dX0_meet_102 : decode cX0_meet 102 = .ok (.aload_n 0, 1) := dk_42 (dk_at dksX0_meet_4 7 rfl rfl)
theorem dX0_meet_103 : decode cX0_meet 103 = .ok (.iload 4, 2) := dk_21 4 (dk_at dksX0_meet_4 8 rfl rfl)
theorem dX0_meet_105 : decode cX0_meet 105 = .ok (.aload_n 0, 1) := dk_42 (dk_at dksX0_meet_4 10 rfl rfl)
theorem dX0_meet_106 : decode cX0_meet 106 = .ok (.getfield 1338, 3) := dk_180 5 58 (dk_at dksX0_meet_4 11 rfl rfl)
theorem dX0_meet_109 : decode cX0_meet 109 = .ok (.iconst 0, 1) := dk_3 (dk_at dksX0_meet_4 14 rfl rfl)
theorem dX0_meet_110 : decode cX0_meet 110 = .ok (.invokevirtual 672, 3) := dk_182 2 160 (dk_at dksX0_meet_4 15 rfl rfl)
theorem dX0_meet_113 : decode cX0_meet 113 = .ok (.aload_n 0, 1) := dk_42 (dk_at dksX0_meet_4 18 rfl rfl)
theorem dX0_meet_114 : decode cX0_meet 114 = .ok (.iload 5, 2) := dk_21 5 (dk_at dksX0_meet_4 19 rfl rfl)
theorem dX0_meet_116 : decode cX0_meet 116 = .ok (.aload_n 0, 1) := dk_42 (dk_at dksX0_meet_4 21 rfl rfl)
theorem dX0_meet_117 : decode cX0_meet 117 = .ok (.getfield 1338, 3) := dk_180 5 58 (dk_at dksX0_meet_5 0 rfl rfl)
theorem dX0_meet_120 : decode cX0_meet 120 = .ok (.bipush 80, 2) := dk_16 80 (dk_at dksX0_meet_5 3 rfl rfl)
theorem dX0_meet_122 : decode cX0_meet 122 = .ok (.invokevirtual 672, 3) := dk_182 2 160 (dk_at dksX0_meet_5 5 rfl rfl)
theorem dX0_meet_125 : decode cX0_meet 125 = .ok (.aload_n 0, 1) := dk_42 (dk_at dksX0_meet_5 8 rfl rfl)
theorem dX0_meet_126 : decode cX0_meet 126 = .ok (.aload_n 0, 1) := dk_42 (dk_at dksX0_meet_5 9 rfl rfl)
theorem dX0_meet_127 : decode cX0_meet 127 = .ok (.getfield 1341, 3) := dk_180 5 61 (dk_at dksX0_meet_5 10 rfl rfl)
theorem dX0_meet_130 : decode cX0_meet 130 = .ok (.putfield 1344, 3) := dk_181 5 64 (dk_at dksX0_meet_5 13 rfl rfl)
theorem dX0_meet_133 : decode cX0_meet 133 = .ok (.aload_n 0, 1) := dk_42 (dk_at dksX0_meet_5 16 rfl rfl)
theorem dX0_meet_134 : decode cX0_meet 134 = .ok (.aload_n 0, 1) := dk_42 (dk_at dksX0_meet_5 17 rfl rfl)
theorem dX0_meet_135 : decode cX0_meet 135 = .ok (.getfield 1347, 3) := dk_180 5 67 (dk_at dksX0_meet_5 18 rfl rfl)
theorem dX0_meet_138 : decode cX0_meet 138 = .ok (.putfield 1350, 3) := dk_181 5 70 (dk_at dksX0_meet_5 21 rfl rfl)
theorem dX0_meet_141 : decode cX0_meet 141 = .ok (.aload_n 0, 1) := dk_42 (dk_at dksX0_meet_6 0 rfl rfl)
theorem dX0_meet_142 : decode cX0_meet 142 = .ok (.dup, 1) := dk_89 (dk_at dksX0_meet_6 1 rfl rfl)
theorem dX0_meet_143 : decode cX0_meet 143 = .ok (.getfield 1332, 3) := dk_180 5 52 (dk_at dksX0_meet_6 2 rfl rfl)
theorem dX0_meet_146 : decode cX0_meet 146 = .ok (.iconst 1, 1) := dk_4 (dk_at dksX0_meet_6 5 rfl rfl)
theorem dX0_meet_147 : decode cX0_meet 147 = .ok (.iadd, 1) := dk_96 (dk_at dksX0_meet_6 6 rfl rfl)
theorem dX0_meet_148 : decode cX0_meet 148 = .ok (.putfield 1332, 3) := dk_181 5 52 (dk_at dksX0_meet_6 7 rfl rfl)
theorem dX0_meet_151 : decode cX0_meet 151 = .ok (.aload_n 0, 1) := dk_42 (dk_at dksX0_meet_6 10 rfl rfl)
theorem dX0_meet_152 : decode cX0_meet 152 = .ok (.dup, 1) := dk_89 (dk_at dksX0_meet_6 11 rfl rfl)
theorem dX0_meet_153 : decode cX0_meet 153 = .ok (.getfield 1267, 3) := dk_180 4 243 (dk_at dksX0_meet_6 12 rfl rfl)
theorem dX0_meet_156 : decode cX0_meet 156 = .ok (.iconst 1, 1) := dk_4 (dk_at dksX0_meet_6 15 rfl rfl)
theorem dX0_meet_157 : decode cX0_meet 157 = .ok (.iadd, 1) := dk_96 (dk_at dksX0_meet_6 16 rfl rfl)
theorem dX0_meet_158 : decode cX0_meet 158 = .ok (.putfield 1267, 3) := dk_181 4 243 (dk_at dksX0_meet_6 17 rfl rfl)
theorem dX0_meet_161 : decode cX0_meet 161 = .ok (.aload_n 0, 1) := dk_42 (dk_at dksX0_meet_6 20 rfl rfl)
theorem dX0_meet_162 : decode cX0_meet 162 = .ok (.iload_n 2, 1) := dk_28 (dk_at dksX0_meet_6 21 rfl rfl)
theorem dX0_meet_163 : decode cX0_meet 163 = .ok (.iload_n 3, 1) := dk_29 (dk_at dksX0_meet_6 22 rfl rfl)
theorem dX0_meet_164 : decode cX0_meet 164 = .ok (.invokevirtual 1308, 3) := dk_182 5 28 (dk_at dksX0_meet_7 0 rfl rfl)
theorem dX0_meet_167 : decode cX0_meet 167 = .ok (.iconst 0, 1) := dk_3 (dk_at dksX0_meet_7 3 rfl rfl)
theorem dX0_meet_168 : decode cX0_meet 168 = .ok (.istore 6, 2) := dk_54 6 (dk_at dksX0_meet_7 4 rfl rfl)
theorem dX0_meet_170 : decode cX0_meet 170 = .ok (.iload 6, 2) := dk_21 6 (dk_at dksX0_meet_7 6 rfl rfl)
theorem dX0_meet_172 : decode cX0_meet 172 = .ok (.aload_n 0, 1) := dk_42 (dk_at dksX0_meet_7 8 rfl rfl)
theorem dX0_meet_173 : decode cX0_meet 173 = .ok (.getfield 200, 3) := dk_180 0 200 (dk_at dksX0_meet_7 9 rfl rfl)
theorem dX0_meet_176 : decode cX0_meet 176 = .ok (.if_icmp .ge 17, 3) := dk_162 0 17 (dk_at dksX0_meet_7 12 rfl rfl)
theorem dX0_meet_179 : decode cX0_meet 179 = .ok (.aload_n 0, 1) := dk_42 (dk_at dksX0_meet_7 15 rfl rfl)
theorem dX0_meet_180 : decode cX0_meet 180 = .ok (.getfield 599, 3) := dk_180 2 87 (dk_at dksX0_meet_7 16 rfl rfl)
theorem dX0_meet_183 : decode cX0_meet 183 = .ok (.iload 6, 2) := dk_21 6 (dk_at dksX0_meet_7 19 rfl rfl)
theorem dX0_meet_185 : decode cX0_meet 185 = .ok (.iconst 0, 1) := dk_3 (dk_at dksX0_meet_7 21 rfl rfl)
theorem dX0_meet_186 : decode cX0_meet 186 = .ok (.iastore, 1) := dk_79 (dk_at dksX0_meet_7 22 rfl rfl)
theorem dX0_meet_187 : decode cX0_meet 187 = .ok (.iinc 6 1, 3) := dk_132 6 1 (dk_at dksX0_meet_8 0 rfl rfl)
theorem dX0_meet_190 : decode cX0_meet 190 = .ok (.goto (-20), 3) := dk_167 255 236 (dk_at dksX0_meet_8 3 rfl rfl)
theorem dX0_meet_193 : decode cX0_meet 193 = .ok (.return_, 1) := dk_177 (dk_at dksX0_meet_8 6 rfl rfl)
abbrev cX0_countWay : ByteArray := prog_1_method_212_code
def yX0_countWay : MethodName := ⟨RX0, "countWay", "()V"⟩
def dkwX0_countWay_0 : List UInt8 := [42, 180, 4, 243, 42, 180, 4, 246, 96, 17, 15, 160, 160, 0, 9, 42, 5, 182, 2, 83, 191, 177]
abbrev dktX0_countWay_0 : List UInt8 := dkwX0_countWay_0 ++ []
theorem dksX0_countWay_0 : cX0_countWay.data.toList.drop 0 = dktX0_countWay_0 := by decide +kernel
theorem dX0_countWay_0 : decode cX0_countWay 0 = .ok (.aload_n 0, 1) := dk_42 (dk_at dksX0_countWay_0 0 rfl rfl)
theorem dX0_countWay_1 : decode cX0_countWay 1 = .ok (.getfield 1267, 3) := dk_180 4 243 (dk_at dksX0_countWay_0 1 rfl rfl)
theorem dX0_countWay_4 : decode cX0_countWay 4 = .ok (.aload_n 0, 1) := dk_42 (dk_at dksX0_countWay_0 4 rfl rfl)
theorem dX0_countWay_5 : decode cX0_countWay 5 = .ok (.getfield 1270, 3) := dk_180 4 246 (dk_at dksX0_countWay_0 5 rfl rfl)
theorem dX0_countWay_8 : decode cX0_countWay 8 = .ok (.iadd, 1) := dk_96 (dk_at dksX0_countWay_0 8 rfl rfl)
theorem dX0_countWay_9 : decode cX0_countWay 9 = .ok (.sipush 4000, 3) := dk_17 15 160 (dk_at dksX0_countWay_0 9 rfl rfl)
theorem dX0_countWay_12 : decode cX0_countWay 12 = .ok (.if_icmp .ne 9, 3) := dk_160 0 9 (dk_at dksX0_countWay_0 12 rfl rfl)
theorem dX0_countWay_15 : decode cX0_countWay 15 = .ok (.aload_n 0, 1) := dk_42 (dk_at dksX0_countWay_0 15 rfl rfl)
theorem dX0_countWay_16 : decode cX0_countWay 16 = .ok (.iconst 2, 1) := dk_5 (dk_at dksX0_countWay_0 16 rfl rfl)
theorem dX0_countWay_17 : decode cX0_countWay 17 = .ok (.invokevirtual 595, 3) := dk_182 2 83 (dk_at dksX0_countWay_0 17 rfl rfl)
theorem dX0_countWay_20 : decode cX0_countWay 20 = .ok (.athrow, 1) := dk_191 (dk_at dksX0_countWay_0 20 rfl rfl)
theorem dX0_countWay_21 : decode cX0_countWay 21 = .ok (.return_, 1) := dk_177 (dk_at dksX0_countWay_0 21 rfl rfl)
abbrev cX0_given : ByteArray := prog_1_method_217_code
def yX0_given : MethodName := ⟨RX0, "given", "(I)I"⟩
def dkwX0_given_3 : List UInt8 := [182, 2, 134, 172]
abbrev dktX0_given_3 : List UInt8 := dkwX0_given_3 ++ []
def dkwX0_given_2 : List UInt8 := [54, 5, 42, 21, 5, 182, 2, 131, 132, 4, 1, 167, 255, 223, 42, 42, 180, 2, 63, 28, 46, 29]
abbrev dktX0_given_2 : List UInt8 := dkwX0_given_2 ++ dktX0_given_3
def dkwX0_given_1 : List UInt8 := [54, 4, 21, 4, 42, 180, 2, 66, 28, 46, 162, 0, 28, 42, 42, 28, 21, 4, 182, 2, 109, 182, 5, 4]
abbrev dktX0_given_1 : List UInt8 := dkwX0_given_1 ++ dktX0_given_2
def dkwX0_given_0 : List UInt8 := [42, 27, 182, 5, 2, 61, 42, 180, 2, 66, 28, 46, 154, 0, 5, 28, 172, 42, 180, 2, 99, 62, 3]
abbrev dktX0_given_0 : List UInt8 := dkwX0_given_0 ++ dktX0_given_1
theorem dksX0_given_0 : cX0_given.data.toList.drop 0 = dktX0_given_0 := by decide +kernel
theorem dksX0_given_1 : cX0_given.data.toList.drop 23 = dktX0_given_1 := dk_seg dksX0_given_0 23 rfl rfl
theorem dksX0_given_2 : cX0_given.data.toList.drop 47 = dktX0_given_2 := dk_seg dksX0_given_1 24 rfl rfl
theorem dksX0_given_3 : cX0_given.data.toList.drop 69 = dktX0_given_3 := dk_seg dksX0_given_2 22 rfl rfl
theorem dX0_given_0 : decode cX0_given 0 = .ok (.aload_n 0, 1) := dk_42 (dk_at dksX0_given_0 0 rfl rfl)
theorem dX0_given_1 : decode cX0_given 1 = .ok (.iload_n 1, 1) := dk_27 (dk_at dksX0_given_0 1 rfl rfl)
theorem dX0_given_2 : decode cX0_given 2 = .ok (.invokevirtual 1282, 3) := dk_182 5 2 (dk_at dksX0_given_0 2 rfl rfl)
theorem dX0_given_5 : decode cX0_given 5 = .ok (.istore_n 2, 1) := dk_61 (dk_at dksX0_given_0 5 rfl rfl)
theorem dX0_given_6 : decode cX0_given 6 = .ok (.aload_n 0, 1) := dk_42 (dk_at dksX0_given_0 6 rfl rfl)
theorem dX0_given_7 : decode cX0_given 7 = .ok (.getfield 578, 3) := dk_180 2 66 (dk_at dksX0_given_0 7 rfl rfl)
theorem dX0_given_10 : decode cX0_given 10 = .ok (.iload_n 2, 1) := dk_28 (dk_at dksX0_given_0 10 rfl rfl)
theorem dX0_given_11 : decode cX0_given 11 = .ok (.iaload, 1) := dk_46 (dk_at dksX0_given_0 11 rfl rfl)
theorem dX0_given_12 : decode cX0_given 12 = .ok (.ifCond .ne 5, 3) := dk_154 0 5 (dk_at dksX0_given_0 12 rfl rfl)
theorem dX0_given_15 : decode cX0_given 15 = .ok (.iload_n 2, 1) := dk_28 (dk_at dksX0_given_0 15 rfl rfl)
theorem dX0_given_16 : decode cX0_given 16 = .ok (.ireturn, 1) := dk_172 (dk_at dksX0_given_0 16 rfl rfl)
theorem dX0_given_17 : decode cX0_given 17 = .ok (.aload_n 0, 1) := dk_42 (dk_at dksX0_given_0 17 rfl rfl)
theorem dX0_given_18 : decode cX0_given 18 = .ok (.getfield 611, 3) := dk_180 2 99 (dk_at dksX0_given_0 18 rfl rfl)
theorem dX0_given_21 : decode cX0_given 21 = .ok (.istore_n 3, 1) := dk_62 (dk_at dksX0_given_0 21 rfl rfl)
theorem dX0_given_22 : decode cX0_given 22 = .ok (.iconst 0, 1) := dk_3 (dk_at dksX0_given_0 22 rfl rfl)
theorem dX0_given_23 : decode cX0_given 23 = .ok (.istore 4, 2) := dk_54 4 (dk_at dksX0_given_1 0 rfl rfl)
theorem dX0_given_25 : decode cX0_given 25 = .ok (.iload 4, 2) := dk_21 4 (dk_at dksX0_given_1 2 rfl rfl)
theorem dX0_given_27 : decode cX0_given 27 = .ok (.aload_n 0, 1) := dk_42 (dk_at dksX0_given_1 4 rfl rfl)
theorem dX0_given_28 : decode cX0_given 28 = .ok (.getfield 578, 3) := dk_180 2 66 (dk_at dksX0_given_1 5 rfl rfl)
theorem dX0_given_31 : decode cX0_given 31 = .ok (.iload_n 2, 1) := dk_28 (dk_at dksX0_given_1 8 rfl rfl)
theorem dX0_given_32 : decode cX0_given 32 = .ok (.iaload, 1) := dk_46 (dk_at dksX0_given_1 9 rfl rfl)
theorem dX0_given_33 : decode cX0_given 33 = .ok (.if_icmp .ge 28, 3) := dk_162 0 28 (dk_at dksX0_given_1 10 rfl rfl)
theorem dX0_given_36 : decode cX0_given 36 = .ok (.aload_n 0, 1) := dk_42 (dk_at dksX0_given_1 13 rfl rfl)
theorem dX0_given_37 : decode cX0_given 37 = .ok (.aload_n 0, 1) := dk_42 (dk_at dksX0_given_1 14 rfl rfl)
theorem dX0_given_38 : decode cX0_given 38 = .ok (.iload_n 2, 1) := dk_28 (dk_at dksX0_given_1 15 rfl rfl)
theorem dX0_given_39 : decode cX0_given 39 = .ok (.iload 4, 2) := dk_21 4 (dk_at dksX0_given_1 16 rfl rfl)
theorem dX0_given_41 : decode cX0_given 41 = .ok (.invokevirtual 621, 3) := dk_182 2 109 (dk_at dksX0_given_1 18 rfl rfl)
theorem dX0_given_44 : decode cX0_given 44 = .ok (.invokevirtual 1284, 3) := dk_182 5 4 (dk_at dksX0_given_1 21 rfl rfl)
theorem dX0_given_47 : decode cX0_given 47 = .ok (.istore 5, 2) := dk_54 5 (dk_at dksX0_given_2 0 rfl rfl)
theorem dX0_given_49 : decode cX0_given 49 = .ok (.aload_n 0, 1) := dk_42 (dk_at dksX0_given_2 2 rfl rfl)
theorem dX0_given_50 : decode cX0_given 50 = .ok (.iload 5, 2) := dk_21 5 (dk_at dksX0_given_2 3 rfl rfl)
theorem dX0_given_52 : decode cX0_given 52 = .ok (.invokevirtual 643, 3) := dk_182 2 131 (dk_at dksX0_given_2 5 rfl rfl)
theorem dX0_given_55 : decode cX0_given 55 = .ok (.iinc 4 1, 3) := dk_132 4 1 (dk_at dksX0_given_2 8 rfl rfl)
theorem dX0_given_58 : decode cX0_given 58 = .ok (.goto (-33), 3) := dk_167 255 223 (dk_at dksX0_given_2 11 rfl rfl)
theorem dX0_given_61 : decode cX0_given 61 = .ok (.aload_n 0, 1) := dk_42 (dk_at dksX0_given_2 14 rfl rfl)
theorem dX0_given_62 : decode cX0_given 62 = .ok (.aload_n 0, 1) := dk_42 (dk_at dksX0_given_2 15 rfl rfl)
theorem dX0_given_63 : decode cX0_given 63 = .ok (.getfield 575, 3) := dk_180 2 63 (dk_at dksX0_given_2 16 rfl rfl)
theorem dX0_given_66 : decode cX0_given 66 = .ok (.iload_n 2, 1) := dk_28 (dk_at dksX0_given_2 19 rfl rfl)
theorem dX0_given_67 : decode cX0_given 67 = .ok (.iaload, 1) := dk_46 (dk_at dksX0_given_2 20 rfl rfl)
theorem dX0_given_68 : decode cX0_given 68 = .ok (.iload_n 3, 1) := dk_29 (dk_at dksX0_given_2 21 rfl rfl)
theorem dX0_given_69 : decode cX0_given 69 = .ok (.invokevirtual 646, 3) := dk_182 2 134 (dk_at dksX0_given_3 0 rfl rfl)
theorem dX0_given_72 : decode cX0_given 72 = .ok (.ireturn, 1) := dk_172 (dk_at dksX0_given_3 3 rfl rfl)
abbrev cX0_walk : ByteArray := prog_1_method_216_code
def yX0_walk : MethodName := ⟨RX0, "walk", "(I)I"⟩
def dkwX0_walk_1 : List UInt8 := [153, 0, 20, 42, 180, 4, 255, 2, 42, 180, 2, 63, 28, 46, 100, 46, 61, 167, 255, 217, 28, 172]
abbrev dktX0_walk_1 : List UInt8 := dkwX0_walk_1 ++ []
def dkwX0_walk_0 : List UInt8 := [27, 61, 42, 180, 2, 63, 28, 46, 156, 0, 36, 42, 180, 4, 255, 2, 42, 180, 2, 63, 28, 46, 100, 46]
abbrev dktX0_walk_0 : List UInt8 := dkwX0_walk_0 ++ dktX0_walk_1
theorem dksX0_walk_0 : cX0_walk.data.toList.drop 0 = dktX0_walk_0 := by decide +kernel
theorem dksX0_walk_1 : cX0_walk.data.toList.drop 24 = dktX0_walk_1 := dk_seg dksX0_walk_0 24 rfl rfl
theorem dX0_walk_0 : decode cX0_walk 0 = .ok (.iload_n 1, 1) := dk_27 (dk_at dksX0_walk_0 0 rfl rfl)
theorem dX0_walk_1 : decode cX0_walk 1 = .ok (.istore_n 2, 1) := dk_61 (dk_at dksX0_walk_0 1 rfl rfl)
theorem dX0_walk_2 : decode cX0_walk 2 = .ok (.aload_n 0, 1) := dk_42 (dk_at dksX0_walk_0 2 rfl rfl)
theorem dX0_walk_3 : decode cX0_walk 3 = .ok (.getfield 575, 3) := dk_180 2 63 (dk_at dksX0_walk_0 3 rfl rfl)
theorem dX0_walk_6 : decode cX0_walk 6 = .ok (.iload_n 2, 1) := dk_28 (dk_at dksX0_walk_0 6 rfl rfl)
theorem dX0_walk_7 : decode cX0_walk 7 = .ok (.iaload, 1) := dk_46 (dk_at dksX0_walk_0 7 rfl rfl)
theorem dX0_walk_8 : decode cX0_walk 8 = .ok (.ifCond .ge 36, 3) := dk_156 0 36 (dk_at dksX0_walk_0 8 rfl rfl)
theorem dX0_walk_11 : decode cX0_walk 11 = .ok (.aload_n 0, 1) := dk_42 (dk_at dksX0_walk_0 11 rfl rfl)
theorem dX0_walk_12 : decode cX0_walk 12 = .ok (.getfield 1279, 3) := dk_180 4 255 (dk_at dksX0_walk_0 12 rfl rfl)
theorem dX0_walk_15 : decode cX0_walk 15 = .ok (.iconst (-1), 1) := dk_2 (dk_at dksX0_walk_0 15 rfl rfl)
theorem dX0_walk_16 : decode cX0_walk 16 = .ok (.aload_n 0, 1) := dk_42 (dk_at dksX0_walk_0 16 rfl rfl)
theorem dX0_walk_17 : decode cX0_walk 17 = .ok (.getfield 575, 3) := dk_180 2 63 (dk_at dksX0_walk_0 17 rfl rfl)
theorem dX0_walk_20 : decode cX0_walk 20 = .ok (.iload_n 2, 1) := dk_28 (dk_at dksX0_walk_0 20 rfl rfl)
theorem dX0_walk_21 : decode cX0_walk 21 = .ok (.iaload, 1) := dk_46 (dk_at dksX0_walk_0 21 rfl rfl)
theorem dX0_walk_22 : decode cX0_walk 22 = .ok (.isub, 1) := dk_100 (dk_at dksX0_walk_0 22 rfl rfl)
theorem dX0_walk_23 : decode cX0_walk 23 = .ok (.iaload, 1) := dk_46 (dk_at dksX0_walk_0 23 rfl rfl)
theorem dX0_walk_24 : decode cX0_walk 24 = .ok (.ifCond .eq 20, 3) := dk_153 0 20 (dk_at dksX0_walk_1 0 rfl rfl)
theorem dX0_walk_27 : decode cX0_walk 27 = .ok (.aload_n 0, 1) := dk_42 (dk_at dksX0_walk_1 3 rfl rfl)
theorem dX0_walk_28 : decode cX0_walk 28 = .ok (.getfield 1279, 3) := dk_180 4 255 (dk_at dksX0_walk_1 4 rfl rfl)
theorem dX0_walk_31 : decode cX0_walk 31 = .ok (.iconst (-1), 1) := dk_2 (dk_at dksX0_walk_1 7 rfl rfl)
theorem dX0_walk_32 : decode cX0_walk 32 = .ok (.aload_n 0, 1) := dk_42 (dk_at dksX0_walk_1 8 rfl rfl)
theorem dX0_walk_33 : decode cX0_walk 33 = .ok (.getfield 575, 3) := dk_180 2 63 (dk_at dksX0_walk_1 9 rfl rfl)
theorem dX0_walk_36 : decode cX0_walk 36 = .ok (.iload_n 2, 1) := dk_28 (dk_at dksX0_walk_1 12 rfl rfl)
theorem dX0_walk_37 : decode cX0_walk 37 = .ok (.iaload, 1) := dk_46 (dk_at dksX0_walk_1 13 rfl rfl)
theorem dX0_walk_38 : decode cX0_walk 38 = .ok (.isub, 1) := dk_100 (dk_at dksX0_walk_1 14 rfl rfl)
theorem dX0_walk_39 : decode cX0_walk 39 = .ok (.iaload, 1) := dk_46 (dk_at dksX0_walk_1 15 rfl rfl)
theorem dX0_walk_40 : decode cX0_walk 40 = .ok (.istore_n 2, 1) := dk_61 (dk_at dksX0_walk_1 16 rfl rfl)
theorem dX0_walk_41 : decode cX0_walk 41 = .ok (.goto (-39), 3) := dk_167 255 217 (dk_at dksX0_walk_1 17 rfl rfl)
theorem dX0_walk_44 : decode cX0_walk 44 = .ok (.iload_n 2, 1) := dk_28 (dk_at dksX0_walk_1 20 rfl rfl)
theorem dX0_walk_45 : decode cX0_walk 45 = .ok (.ireturn, 1) := dk_172 (dk_at dksX0_walk_1 21 rfl rfl)
abbrev cX0_leftWith : ByteArray := prog_1_method_231_code
def yX0_leftWith : MethodName := ⟨RX0, "leftWith", "(I)I"⟩
def dkwX0_leftWith_4 : List UInt8 := [132, 3, 255, 167, 255, 169, 28, 172]
abbrev dktX0_leftWith_4 : List UInt8 := dkwX0_leftWith_4 ++ []
def dkwX0_leftWith_3 : List UInt8 := [132, 5, 1, 167, 255, 206, 42, 42, 180, 2, 63, 42, 180, 3, 225, 29, 46, 46, 21, 4, 182, 2, 134, 61]
abbrev dktX0_leftWith_3 : List UInt8 := dkwX0_leftWith_3 ++ dktX0_leftWith_4
def dkwX0_leftWith_2 : List UInt8 := [160, 0, 7, 28, 167, 0, 15, 42, 42, 180, 3, 225, 29, 46, 21, 5, 182, 2, 109, 182, 2, 131]
abbrev dktX0_leftWith_2 : List UInt8 := dkwX0_leftWith_2 ++ dktX0_leftWith_3
def dkwX0_leftWith_1 : List UInt8 := [42, 180, 2, 66, 42, 180, 3, 225, 29, 46, 46, 162, 0, 40, 42, 21, 5, 42, 180, 3, 228, 29, 46]
abbrev dktX0_leftWith_1 : List UInt8 := dkwX0_leftWith_1 ++ dktX0_leftWith_2
def dkwX0_leftWith_0 : List UInt8 := [27, 61, 42, 180, 3, 213, 4, 100, 62, 29, 155, 0, 89, 42, 180, 2, 99, 54, 4, 3, 54, 5, 21, 5]
abbrev dktX0_leftWith_0 : List UInt8 := dkwX0_leftWith_0 ++ dktX0_leftWith_1
theorem dksX0_leftWith_0 : cX0_leftWith.data.toList.drop 0 = dktX0_leftWith_0 := by decide +kernel
theorem dksX0_leftWith_1 : cX0_leftWith.data.toList.drop 24 = dktX0_leftWith_1 := dk_seg dksX0_leftWith_0 24 rfl rfl
theorem dksX0_leftWith_2 : cX0_leftWith.data.toList.drop 47 = dktX0_leftWith_2 := dk_seg dksX0_leftWith_1 23 rfl rfl
theorem dksX0_leftWith_3 : cX0_leftWith.data.toList.drop 69 = dktX0_leftWith_3 := dk_seg dksX0_leftWith_2 22 rfl rfl
theorem dksX0_leftWith_4 : cX0_leftWith.data.toList.drop 93 = dktX0_leftWith_4 := dk_seg dksX0_leftWith_3 24 rfl rfl
theorem dX0_leftWith_0 : decode cX0_leftWith 0 = .ok (.iload_n 1, 1) := dk_27 (dk_at dksX0_leftWith_0 0 rfl rfl)
theorem dX0_leftWith_1 : decode cX0_leftWith 1 = .ok (.istore_n 2, 1) := dk_61 (dk_at dksX0_leftWith_0 1 rfl rfl)
theorem dX0_leftWith_2 : decode cX0_leftWith 2 = .ok (.aload_n 0, 1) := dk_42 (dk_at dksX0_leftWith_0 2 rfl rfl)
theorem dX0_leftWith_3 : decode cX0_leftWith 3 = .ok (.getfield 981, 3) := dk_180 3 213 (dk_at dksX0_leftWith_0 3 rfl rfl)
theorem dX0_leftWith_6 : decode cX0_leftWith 6 = .ok (.iconst 1, 1) := dk_4 (dk_at dksX0_leftWith_0 6 rfl rfl)
theorem dX0_leftWith_7 : decode cX0_leftWith 7 = .ok (.isub, 1) := dk_100 (dk_at dksX0_leftWith_0 7 rfl rfl)
theorem dX0_leftWith_8 : decode cX0_leftWith 8 = .ok (.istore_n 3, 1) := dk_62 (dk_at dksX0_leftWith_0 8 rfl rfl)
theorem dX0_leftWith_9 : decode cX0_leftWith 9 = .ok (.iload_n 3, 1) := dk_29 (dk_at dksX0_leftWith_0 9 rfl rfl)
theorem dX0_leftWith_10 : decode cX0_leftWith 10 = .ok (.ifCond .lt 89, 3) := dk_155 0 89 (dk_at dksX0_leftWith_0 10 rfl rfl)
theorem dX0_leftWith_13 : decode cX0_leftWith 13 = .ok (.aload_n 0, 1) := dk_42 (dk_at dksX0_leftWith_0 13 rfl rfl)
theorem dX0_leftWith_14 : decode cX0_leftWith 14 = .ok (.getfield 611, 3) := dk_180 2 99 (dk_at dksX0_leftWith_0 14 rfl rfl)
theorem dX0_leftWith_17 : decode cX0_leftWith 17 = .ok (.istore 4, 2) := dk_54 4 (dk_at dksX0_leftWith_0 17 rfl rfl)
theorem dX0_leftWith_19 : decode cX0_leftWith 19 = .ok (.iconst 0, 1) := dk_3 (dk_at dksX0_leftWith_0 19 rfl rfl)
theorem dX0_leftWith_20 : decode cX0_leftWith 20 = .ok (.istore 5, 2) := dk_54 5 (dk_at dksX0_leftWith_0 20 rfl rfl)
theorem dX0_leftWith_22 : decode cX0_leftWith 22 = .ok (.iload 5, 2) := dk_21 5 (dk_at dksX0_leftWith_0 22 rfl rfl)
theorem dX0_leftWith_24 : decode cX0_leftWith 24 = .ok (.aload_n 0, 1) := dk_42 (dk_at dksX0_leftWith_1 0 rfl rfl)
theorem dX0_leftWith_25 : decode cX0_leftWith 25 = .ok (.getfield 578, 3) := dk_180 2 66 (dk_at dksX0_leftWith_1 1 rfl rfl)
theorem dX0_leftWith_28 : decode cX0_leftWith 28 = .ok (.aload_n 0, 1) := dk_42 (dk_at dksX0_leftWith_1 4 rfl rfl)
theorem dX0_leftWith_29 : decode cX0_leftWith 29 = .ok (.getfield 993, 3) := dk_180 3 225 (dk_at dksX0_leftWith_1 5 rfl rfl)
theorem dX0_leftWith_32 : decode cX0_leftWith 32 = .ok (.iload_n 3, 1) := dk_29 (dk_at dksX0_leftWith_1 8 rfl rfl)
theorem dX0_leftWith_33 : decode cX0_leftWith 33 = .ok (.iaload, 1) := dk_46 (dk_at dksX0_leftWith_1 9 rfl rfl)
theorem dX0_leftWith_34 : decode cX0_leftWith 34 = .ok (.iaload, 1) := dk_46 (dk_at dksX0_leftWith_1 10 rfl rfl)
theorem dX0_leftWith_35 : decode cX0_leftWith 35 = .ok (.if_icmp .ge 40, 3) := dk_162 0 40 (dk_at dksX0_leftWith_1 11 rfl rfl)
theorem dX0_leftWith_38 : decode cX0_leftWith 38 = .ok (.aload_n 0, 1) := dk_42 (dk_at dksX0_leftWith_1 14 rfl rfl)
theorem dX0_leftWith_39 : decode cX0_leftWith 39 = .ok (.iload 5, 2) := dk_21 5 (dk_at dksX0_leftWith_1 15 rfl rfl)
theorem dX0_leftWith_41 : decode cX0_leftWith 41 = .ok (.aload_n 0, 1) := dk_42 (dk_at dksX0_leftWith_1 17 rfl rfl)
theorem dX0_leftWith_42 : decode cX0_leftWith 42 = .ok (.getfield 996, 3) := dk_180 3 228 (dk_at dksX0_leftWith_1 18 rfl rfl)
theorem dX0_leftWith_45 : decode cX0_leftWith 45 = .ok (.iload_n 3, 1) := dk_29 (dk_at dksX0_leftWith_1 21 rfl rfl)
theorem dX0_leftWith_46 : decode cX0_leftWith 46 = .ok (.iaload, 1) := dk_46 (dk_at dksX0_leftWith_1 22 rfl rfl)
theorem dX0_leftWith_47 : decode cX0_leftWith 47 = .ok (.if_icmp .ne 7, 3) := dk_160 0 7 (dk_at dksX0_leftWith_2 0 rfl rfl)
theorem dX0_leftWith_50 : decode cX0_leftWith 50 = .ok (.iload_n 2, 1) := dk_28 (dk_at dksX0_leftWith_2 3 rfl rfl)
theorem dX0_leftWith_51 : decode cX0_leftWith 51 = .ok (.goto 15, 3) := dk_167 0 15 (dk_at dksX0_leftWith_2 4 rfl rfl)
theorem dX0_leftWith_54 : decode cX0_leftWith 54 = .ok (.aload_n 0, 1) := dk_42 (dk_at dksX0_leftWith_2 7 rfl rfl)
theorem dX0_leftWith_55 : decode cX0_leftWith 55 = .ok (.aload_n 0, 1) := dk_42 (dk_at dksX0_leftWith_2 8 rfl rfl)
theorem dX0_leftWith_56 : decode cX0_leftWith 56 = .ok (.getfield 993, 3) := dk_180 3 225 (dk_at dksX0_leftWith_2 9 rfl rfl)
theorem dX0_leftWith_59 : decode cX0_leftWith 59 = .ok (.iload_n 3, 1) := dk_29 (dk_at dksX0_leftWith_2 12 rfl rfl)
theorem dX0_leftWith_60 : decode cX0_leftWith 60 = .ok (.iaload, 1) := dk_46 (dk_at dksX0_leftWith_2 13 rfl rfl)
theorem dX0_leftWith_61 : decode cX0_leftWith 61 = .ok (.iload 5, 2) := dk_21 5 (dk_at dksX0_leftWith_2 14 rfl rfl)
theorem dX0_leftWith_63 : decode cX0_leftWith 63 = .ok (.invokevirtual 621, 3) := dk_182 2 109 (dk_at dksX0_leftWith_2 16 rfl rfl)
theorem dX0_leftWith_66 : decode cX0_leftWith 66 = .ok (.invokevirtual 643, 3) := dk_182 2 131 (dk_at dksX0_leftWith_2 19 rfl rfl)
theorem dX0_leftWith_69 : decode cX0_leftWith 69 = .ok (.iinc 5 1, 3) := dk_132 5 1 (dk_at dksX0_leftWith_3 0 rfl rfl)
theorem dX0_leftWith_72 : decode cX0_leftWith 72 = .ok (.goto (-50), 3) := dk_167 255 206 (dk_at dksX0_leftWith_3 3 rfl rfl)
theorem dX0_leftWith_75 : decode cX0_leftWith 75 = .ok (.aload_n 0, 1) := dk_42 (dk_at dksX0_leftWith_3 6 rfl rfl)
theorem dX0_leftWith_76 : decode cX0_leftWith 76 = .ok (.aload_n 0, 1) := dk_42 (dk_at dksX0_leftWith_3 7 rfl rfl)
theorem dX0_leftWith_77 : decode cX0_leftWith 77 = .ok (.getfield 575, 3) := dk_180 2 63 (dk_at dksX0_leftWith_3 8 rfl rfl)
theorem dX0_leftWith_80 : decode cX0_leftWith 80 = .ok (.aload_n 0, 1) := dk_42 (dk_at dksX0_leftWith_3 11 rfl rfl)
theorem dX0_leftWith_81 : decode cX0_leftWith 81 = .ok (.getfield 993, 3) := dk_180 3 225 (dk_at dksX0_leftWith_3 12 rfl rfl)
theorem dX0_leftWith_84 : decode cX0_leftWith 84 = .ok (.iload_n 3, 1) := dk_29 (dk_at dksX0_leftWith_3 15 rfl rfl)
theorem dX0_leftWith_85 : decode cX0_leftWith 85 = .ok (.iaload, 1) := dk_46 (dk_at dksX0_leftWith_3 16 rfl rfl)
theorem dX0_leftWith_86 : decode cX0_leftWith 86 = .ok (.iaload, 1) := dk_46 (dk_at dksX0_leftWith_3 17 rfl rfl)
theorem dX0_leftWith_87 : decode cX0_leftWith 87 = .ok (.iload 4, 2) := dk_21 4 (dk_at dksX0_leftWith_3 18 rfl rfl)
theorem dX0_leftWith_89 : decode cX0_leftWith 89 = .ok (.invokevirtual 646, 3) := dk_182 2 134 (dk_at dksX0_leftWith_3 20 rfl rfl)
theorem dX0_leftWith_92 : decode cX0_leftWith 92 = .ok (.istore_n 2, 1) := dk_61 (dk_at dksX0_leftWith_3 23 rfl rfl)
theorem dX0_leftWith_93 : decode cX0_leftWith 93 = .ok (.iinc 3 (-1), 3) := dk_132 3 255 (dk_at dksX0_leftWith_4 0 rfl rfl)
theorem dX0_leftWith_96 : decode cX0_leftWith 96 = .ok (.goto (-87), 3) := dk_167 255 169 (dk_at dksX0_leftWith_4 3 rfl rfl)
theorem dX0_leftWith_99 : decode cX0_leftWith 99 = .ok (.iload_n 2, 1) := dk_28 (dk_at dksX0_leftWith_4 6 rfl rfl)
theorem dX0_leftWith_100 : decode cX0_leftWith 100 = .ok (.ireturn, 1) := dk_172 (dk_at dksX0_leftWith_4 7 rfl rfl)
abbrev cX0_dropTo : ByteArray := prog_1_method_214_code
def yX0_dropTo : MethodName := ⟨RX0, "dropTo", "(II)V"⟩
def dkwX0_dropTo_4 : List UInt8 := [167, 255, 171, 42, 27, 181, 0, 200, 42, 28, 181, 0, 203, 177]
abbrev dktX0_dropTo_4 : List UInt8 := dkwX0_dropTo_4 ++ []
def dkwX0_dropTo_3 : List UInt8 := [180, 2, 63, 29, 46, 42, 180, 2, 99, 21, 4, 182, 2, 59, 42, 180, 2, 75, 29, 46, 79, 132, 3, 255]
abbrev dktX0_dropTo_3 : List UInt8 := dkwX0_dropTo_3 ++ dktX0_dropTo_4
def dkwX0_dropTo_2 : List UInt8 := [180, 2, 72, 29, 46, 21, 5, 96, 46, 79, 132, 5, 1, 167, 255, 220, 42, 180, 2, 51, 42, 42]
abbrev dktX0_dropTo_2 : List UInt8 := dkwX0_dropTo_2 ++ dktX0_dropTo_3
def dkwX0_dropTo_1 : List UInt8 := [21, 5, 21, 4, 162, 0, 35, 42, 180, 2, 55, 42, 180, 2, 99, 21, 5, 96, 42, 180, 2, 69, 42]
abbrev dktX0_dropTo_1 : List UInt8 := dkwX0_dropTo_1 ++ dktX0_dropTo_2
def dkwX0_dropTo_0 : List UInt8 := [42, 180, 0, 200, 4, 100, 62, 29, 27, 161, 0, 86, 42, 180, 2, 66, 29, 46, 54, 4, 3, 54, 5]
abbrev dktX0_dropTo_0 : List UInt8 := dkwX0_dropTo_0 ++ dktX0_dropTo_1
theorem dksX0_dropTo_0 : cX0_dropTo.data.toList.drop 0 = dktX0_dropTo_0 := by decide +kernel
theorem dksX0_dropTo_1 : cX0_dropTo.data.toList.drop 23 = dktX0_dropTo_1 := dk_seg dksX0_dropTo_0 23 rfl rfl
theorem dksX0_dropTo_2 : cX0_dropTo.data.toList.drop 46 = dktX0_dropTo_2 := dk_seg dksX0_dropTo_1 23 rfl rfl
theorem dksX0_dropTo_3 : cX0_dropTo.data.toList.drop 68 = dktX0_dropTo_3 := dk_seg dksX0_dropTo_2 22 rfl rfl
theorem dksX0_dropTo_4 : cX0_dropTo.data.toList.drop 92 = dktX0_dropTo_4 := dk_seg dksX0_dropTo_3 24 rfl rfl
theorem dX0_dropTo_0 : decode cX0_dropTo 0 = .ok (.aload_n 0, 1) := dk_42 (dk_at dksX0_dropTo_0 0 rfl rfl)
theorem dX0_dropTo_1 : decode cX0_dropTo 1 = .ok (.getfield 200, 3) := dk_180 0 200 (dk_at dksX0_dropTo_0 1 rfl rfl)
theorem dX0_dropTo_4 : decode cX0_dropTo 4 = .ok (.iconst 1, 1) := dk_4 (dk_at dksX0_dropTo_0 4 rfl rfl)
theorem dX0_dropTo_5 : decode cX0_dropTo 5 = .ok (.isub, 1) := dk_100 (dk_at dksX0_dropTo_0 5 rfl rfl)
theorem dX0_dropTo_6 : decode cX0_dropTo 6 = .ok (.istore_n 3, 1) := dk_62 (dk_at dksX0_dropTo_0 6 rfl rfl)
theorem dX0_dropTo_7 : decode cX0_dropTo 7 = .ok (.iload_n 3, 1) := dk_29 (dk_at dksX0_dropTo_0 7 rfl rfl)
theorem dX0_dropTo_8 : decode cX0_dropTo 8 = .ok (.iload_n 1, 1) := dk_27 (dk_at dksX0_dropTo_0 8 rfl rfl)
theorem dX0_dropTo_9 : decode cX0_dropTo 9 = .ok (.if_icmp .lt 86, 3) := dk_161 0 86 (dk_at dksX0_dropTo_0 9 rfl rfl)
theorem dX0_dropTo_12 : decode cX0_dropTo 12 = .ok (.aload_n 0, 1) := dk_42 (dk_at dksX0_dropTo_0 12 rfl rfl)
theorem dX0_dropTo_13 : decode cX0_dropTo 13 = .ok (.getfield 578, 3) := dk_180 2 66 (dk_at dksX0_dropTo_0 13 rfl rfl)
theorem dX0_dropTo_16 : decode cX0_dropTo 16 = .ok (.iload_n 3, 1) := dk_29 (dk_at dksX0_dropTo_0 16 rfl rfl)
theorem dX0_dropTo_17 : decode cX0_dropTo 17 = .ok (.iaload, 1) := dk_46 (dk_at dksX0_dropTo_0 17 rfl rfl)
theorem dX0_dropTo_18 : decode cX0_dropTo 18 = .ok (.istore 4, 2) := dk_54 4 (dk_at dksX0_dropTo_0 18 rfl rfl)
theorem dX0_dropTo_20 : decode cX0_dropTo 20 = .ok (.iconst 0, 1) := dk_3 (dk_at dksX0_dropTo_0 20 rfl rfl)
theorem dX0_dropTo_21 : decode cX0_dropTo 21 = .ok (.istore 5, 2) := dk_54 5 (dk_at dksX0_dropTo_0 21 rfl rfl)
theorem dX0_dropTo_23 : decode cX0_dropTo 23 = .ok (.iload 5, 2) := dk_21 5 (dk_at dksX0_dropTo_1 0 rfl rfl)
theorem dX0_dropTo_25 : decode cX0_dropTo 25 = .ok (.iload 4, 2) := dk_21 4 (dk_at dksX0_dropTo_1 2 rfl rfl)
theorem dX0_dropTo_27 : decode cX0_dropTo 27 = .ok (.if_icmp .ge 35, 3) := dk_162 0 35 (dk_at dksX0_dropTo_1 4 rfl rfl)
theorem dX0_dropTo_30 : decode cX0_dropTo 30 = .ok (.aload_n 0, 1) := dk_42 (dk_at dksX0_dropTo_1 7 rfl rfl)
theorem dX0_dropTo_31 : decode cX0_dropTo 31 = .ok (.getfield 567, 3) := dk_180 2 55 (dk_at dksX0_dropTo_1 8 rfl rfl)
theorem dX0_dropTo_34 : decode cX0_dropTo 34 = .ok (.aload_n 0, 1) := dk_42 (dk_at dksX0_dropTo_1 11 rfl rfl)
theorem dX0_dropTo_35 : decode cX0_dropTo 35 = .ok (.getfield 611, 3) := dk_180 2 99 (dk_at dksX0_dropTo_1 12 rfl rfl)
theorem dX0_dropTo_38 : decode cX0_dropTo 38 = .ok (.iload 5, 2) := dk_21 5 (dk_at dksX0_dropTo_1 15 rfl rfl)
theorem dX0_dropTo_40 : decode cX0_dropTo 40 = .ok (.iadd, 1) := dk_96 (dk_at dksX0_dropTo_1 17 rfl rfl)
theorem dX0_dropTo_41 : decode cX0_dropTo 41 = .ok (.aload_n 0, 1) := dk_42 (dk_at dksX0_dropTo_1 18 rfl rfl)
theorem dX0_dropTo_42 : decode cX0_dropTo 42 = .ok (.getfield 581, 3) := dk_180 2 69 (dk_at dksX0_dropTo_1 19 rfl rfl)
theorem dX0_dropTo_45 : decode cX0_dropTo 45 = .ok (.aload_n 0, 1) := dk_42 (dk_at dksX0_dropTo_1 22 rfl rfl)
theorem dX0_dropTo_46 : decode cX0_dropTo 46 = .ok (.getfield 584, 3) := dk_180 2 72 (dk_at dksX0_dropTo_2 0 rfl rfl)
theorem dX0_dropTo_49 : decode cX0_dropTo 49 = .ok (.iload_n 3, 1) := dk_29 (dk_at dksX0_dropTo_2 3 rfl rfl)
theorem dX0_dropTo_50 : decode cX0_dropTo 50 = .ok (.iaload, 1) := dk_46 (dk_at dksX0_dropTo_2 4 rfl rfl)
theorem dX0_dropTo_51 : decode cX0_dropTo 51 = .ok (.iload 5, 2) := dk_21 5 (dk_at dksX0_dropTo_2 5 rfl rfl)
theorem dX0_dropTo_53 : decode cX0_dropTo 53 = .ok (.iadd, 1) := dk_96 (dk_at dksX0_dropTo_2 7 rfl rfl)
theorem dX0_dropTo_54 : decode cX0_dropTo 54 = .ok (.iaload, 1) := dk_46 (dk_at dksX0_dropTo_2 8 rfl rfl)
theorem dX0_dropTo_55 : decode cX0_dropTo 55 = .ok (.iastore, 1) := dk_79 (dk_at dksX0_dropTo_2 9 rfl rfl)
theorem dX0_dropTo_56 : decode cX0_dropTo 56 = .ok (.iinc 5 1, 3) := dk_132 5 1 (dk_at dksX0_dropTo_2 10 rfl rfl)
theorem dX0_dropTo_59 : decode cX0_dropTo 59 = .ok (.goto (-36), 3) := dk_167 255 220 (dk_at dksX0_dropTo_2 13 rfl rfl)
theorem dX0_dropTo_62 : decode cX0_dropTo 62 = .ok (.aload_n 0, 1) := dk_42 (dk_at dksX0_dropTo_2 16 rfl rfl)
theorem dX0_dropTo_63 : decode cX0_dropTo 63 = .ok (.getfield 563, 3) := dk_180 2 51 (dk_at dksX0_dropTo_2 17 rfl rfl)
theorem dX0_dropTo_66 : decode cX0_dropTo 66 = .ok (.aload_n 0, 1) := dk_42 (dk_at dksX0_dropTo_2 20 rfl rfl)
theorem dX0_dropTo_67 : decode cX0_dropTo 67 = .ok (.aload_n 0, 1) := dk_42 (dk_at dksX0_dropTo_2 21 rfl rfl)
theorem dX0_dropTo_68 : decode cX0_dropTo 68 = .ok (.getfield 575, 3) := dk_180 2 63 (dk_at dksX0_dropTo_3 0 rfl rfl)
theorem dX0_dropTo_71 : decode cX0_dropTo 71 = .ok (.iload_n 3, 1) := dk_29 (dk_at dksX0_dropTo_3 3 rfl rfl)
theorem dX0_dropTo_72 : decode cX0_dropTo 72 = .ok (.iaload, 1) := dk_46 (dk_at dksX0_dropTo_3 4 rfl rfl)
theorem dX0_dropTo_73 : decode cX0_dropTo 73 = .ok (.aload_n 0, 1) := dk_42 (dk_at dksX0_dropTo_3 5 rfl rfl)
theorem dX0_dropTo_74 : decode cX0_dropTo 74 = .ok (.getfield 611, 3) := dk_180 2 99 (dk_at dksX0_dropTo_3 6 rfl rfl)
theorem dX0_dropTo_77 : decode cX0_dropTo 77 = .ok (.iload 4, 2) := dk_21 4 (dk_at dksX0_dropTo_3 9 rfl rfl)
theorem dX0_dropTo_79 : decode cX0_dropTo 79 = .ok (.invokevirtual 571, 3) := dk_182 2 59 (dk_at dksX0_dropTo_3 11 rfl rfl)
theorem dX0_dropTo_82 : decode cX0_dropTo 82 = .ok (.aload_n 0, 1) := dk_42 (dk_at dksX0_dropTo_3 14 rfl rfl)
theorem dX0_dropTo_83 : decode cX0_dropTo 83 = .ok (.getfield 587, 3) := dk_180 2 75 (dk_at dksX0_dropTo_3 15 rfl rfl)
theorem dX0_dropTo_86 : decode cX0_dropTo 86 = .ok (.iload_n 3, 1) := dk_29 (dk_at dksX0_dropTo_3 18 rfl rfl)
theorem dX0_dropTo_87 : decode cX0_dropTo 87 = .ok (.iaload, 1) := dk_46 (dk_at dksX0_dropTo_3 19 rfl rfl)
theorem dX0_dropTo_88 : decode cX0_dropTo 88 = .ok (.iastore, 1) := dk_79 (dk_at dksX0_dropTo_3 20 rfl rfl)
theorem dX0_dropTo_89 : decode cX0_dropTo 89 = .ok (.iinc 3 (-1), 3) := dk_132 3 255 (dk_at dksX0_dropTo_3 21 rfl rfl)
theorem dX0_dropTo_92 : decode cX0_dropTo 92 = .ok (.goto (-85), 3) := dk_167 255 171 (dk_at dksX0_dropTo_4 0 rfl rfl)
theorem dX0_dropTo_95 : decode cX0_dropTo 95 = .ok (.aload_n 0, 1) := dk_42 (dk_at dksX0_dropTo_4 3 rfl rfl)
theorem dX0_dropTo_96 : decode cX0_dropTo 96 = .ok (.iload_n 1, 1) := dk_27 (dk_at dksX0_dropTo_4 4 rfl rfl)
theorem dX0_dropTo_97 : decode cX0_dropTo 97 = .ok (.putfield 200, 3) := dk_181 0 200 (dk_at dksX0_dropTo_4 5 rfl rfl)
theorem dX0_dropTo_100 : decode cX0_dropTo 100 = .ok (.aload_n 0, 1) := dk_42 (dk_at dksX0_dropTo_4 8 rfl rfl)
theorem dX0_dropTo_101 : decode cX0_dropTo 101 = .ok (.iload_n 2, 1) := dk_28 (dk_at dksX0_dropTo_4 9 rfl rfl)
theorem dX0_dropTo_102 : decode cX0_dropTo 102 = .ok (.putfield 203, 3) := dk_181 0 203 (dk_at dksX0_dropTo_4 10 rfl rfl)
theorem dX0_dropTo_105 : decode cX0_dropTo 105 = .ok (.return_, 1) := dk_177 (dk_at dksX0_dropTo_4 13 rfl rfl)
abbrev cX0_unifyVariables : ByteArray := prog_1_method_224_code
def yX0_unifyVariables : MethodName := ⟨RX0, "unifyVariables", "(III)V"⟩
def dkwX0_unifyVariables_3 : List UInt8 := [29, 46, 182, 5, 34, 153, 0, 7, 42, 182, 5, 37, 177]
abbrev dktX0_unifyVariables_3 : List UInt8 := dkwX0_unifyVariables_3 ++ []
def dkwX0_unifyVariables_2 : List UInt8 := [153, 0, 13, 42, 27, 28, 29, 182, 5, 31, 167, 0, 26, 42, 42, 180, 2, 90, 28, 46, 42, 180, 2, 90]
abbrev dktX0_unifyVariables_2 : List UInt8 := dkwX0_unifyVariables_2 ++ dktX0_unifyVariables_3
def dkwX0_unifyVariables_1 : List UInt8 := [182, 5, 31, 167, 0, 55, 42, 42, 180, 2, 90, 29, 46, 42, 180, 2, 90, 28, 46, 182, 1, 148]
abbrev dktX0_unifyVariables_1 : List UInt8 := dkwX0_unifyVariables_1 ++ dktX0_unifyVariables_2
def dkwX0_unifyVariables_0 : List UInt8 := [42, 42, 180, 2, 90, 28, 46, 42, 180, 2, 90, 29, 46, 182, 1, 148, 153, 0, 13, 42, 27, 29, 28]
abbrev dktX0_unifyVariables_0 : List UInt8 := dkwX0_unifyVariables_0 ++ dktX0_unifyVariables_1
theorem dksX0_unifyVariables_0 : cX0_unifyVariables.data.toList.drop 0 = dktX0_unifyVariables_0 := by decide +kernel
theorem dksX0_unifyVariables_1 : cX0_unifyVariables.data.toList.drop 23 = dktX0_unifyVariables_1 := dk_seg dksX0_unifyVariables_0 23 rfl rfl
theorem dksX0_unifyVariables_2 : cX0_unifyVariables.data.toList.drop 45 = dktX0_unifyVariables_2 := dk_seg dksX0_unifyVariables_1 22 rfl rfl
theorem dksX0_unifyVariables_3 : cX0_unifyVariables.data.toList.drop 69 = dktX0_unifyVariables_3 := dk_seg dksX0_unifyVariables_2 24 rfl rfl
theorem dX0_unifyVariables_0 : decode cX0_unifyVariables 0 = .ok (.aload_n 0, 1) := dk_42 (dk_at dksX0_unifyVariables_0 0 rfl rfl)
theorem dX0_unifyVariables_1 : decode cX0_unifyVariables 1 = .ok (.aload_n 0, 1) := dk_42 (dk_at dksX0_unifyVariables_0 1 rfl rfl)
theorem dX0_unifyVariables_2 : decode cX0_unifyVariables 2 = .ok (.getfield 602, 3) := dk_180 2 90 (dk_at dksX0_unifyVariables_0 2 rfl rfl)
theorem dX0_unifyVariables_5 : decode cX0_unifyVariables 5 = .ok (.iload_n 2, 1) := dk_28 (dk_at dksX0_unifyVariables_0 5 rfl rfl)
theorem dX0_unifyVariables_6 : decode cX0_unifyVariables 6 = .ok (.iaload, 1) := dk_46 (dk_at dksX0_unifyVariables_0 6 rfl rfl)
theorem dX0_unifyVariables_7 : decode cX0_unifyVariables 7 = .ok (.aload_n 0, 1) := dk_42 (dk_at dksX0_unifyVariables_0 7 rfl rfl)
theorem dX0_unifyVariables_8 : decode cX0_unifyVariables 8 = .ok (.getfield 602, 3) := dk_180 2 90 (dk_at dksX0_unifyVariables_0 8 rfl rfl)
theorem dX0_unifyVariables_11 : decode cX0_unifyVariables 11 = .ok (.iload_n 3, 1) := dk_29 (dk_at dksX0_unifyVariables_0 11 rfl rfl)
theorem dX0_unifyVariables_12 : decode cX0_unifyVariables 12 = .ok (.iaload, 1) := dk_46 (dk_at dksX0_unifyVariables_0 12 rfl rfl)
theorem dX0_unifyVariables_13 : decode cX0_unifyVariables 13 = .ok (.invokevirtual 404, 3) := dk_182 1 148 (dk_at dksX0_unifyVariables_0 13 rfl rfl)
theorem dX0_unifyVariables_16 : decode cX0_unifyVariables 16 = .ok (.ifCond .eq 13, 3) := dk_153 0 13 (dk_at dksX0_unifyVariables_0 16 rfl rfl)
theorem dX0_unifyVariables_19 : decode cX0_unifyVariables 19 = .ok (.aload_n 0, 1) := dk_42 (dk_at dksX0_unifyVariables_0 19 rfl rfl)
theorem dX0_unifyVariables_20 : decode cX0_unifyVariables 20 = .ok (.iload_n 1, 1) := dk_27 (dk_at dksX0_unifyVariables_0 20 rfl rfl)
theorem dX0_unifyVariables_21 : decode cX0_unifyVariables 21 = .ok (.iload_n 3, 1) := dk_29 (dk_at dksX0_unifyVariables_0 21 rfl rfl)
theorem dX0_unifyVariables_22 : decode cX0_unifyVariables 22 = .ok (.iload_n 2, 1) := dk_28 (dk_at dksX0_unifyVariables_0 22 rfl rfl)
theorem dX0_unifyVariables_23 : decode cX0_unifyVariables 23 = .ok (.invokevirtual 1311, 3) := dk_182 5 31 (dk_at dksX0_unifyVariables_1 0 rfl rfl)
theorem dX0_unifyVariables_26 : decode cX0_unifyVariables 26 = .ok (.goto 55, 3) := dk_167 0 55 (dk_at dksX0_unifyVariables_1 3 rfl rfl)
theorem dX0_unifyVariables_29 : decode cX0_unifyVariables 29 = .ok (.aload_n 0, 1) := dk_42 (dk_at dksX0_unifyVariables_1 6 rfl rfl)
theorem dX0_unifyVariables_30 : decode cX0_unifyVariables 30 = .ok (.aload_n 0, 1) := dk_42 (dk_at dksX0_unifyVariables_1 7 rfl rfl)
theorem dX0_unifyVariables_31 : decode cX0_unifyVariables 31 = .ok (.getfield 602, 3) := dk_180 2 90 (dk_at dksX0_unifyVariables_1 8 rfl rfl)
theorem dX0_unifyVariables_34 : decode cX0_unifyVariables 34 = .ok (.iload_n 3, 1) := dk_29 (dk_at dksX0_unifyVariables_1 11 rfl rfl)
theorem dX0_unifyVariables_35 : decode cX0_unifyVariables 35 = .ok (.iaload, 1) := dk_46 (dk_at dksX0_unifyVariables_1 12 rfl rfl)
theorem dX0_unifyVariables_36 : decode cX0_unifyVariables 36 = .ok (.aload_n 0, 1) := dk_42 (dk_at dksX0_unifyVariables_1 13 rfl rfl)
theorem dX0_unifyVariables_37 : decode cX0_unifyVariables 37 = .ok (.getfield 602, 3) := dk_180 2 90 (dk_at dksX0_unifyVariables_1 14 rfl rfl)
theorem dX0_unifyVariables_40 : decode cX0_unifyVariables 40 = .ok (.iload_n 2, 1) := dk_28 (dk_at dksX0_unifyVariables_1 17 rfl rfl)
theorem dX0_unifyVariables_41 : decode cX0_unifyVariables 41 = .ok (.iaload, 1) := dk_46 (dk_at dksX0_unifyVariables_1 18 rfl rfl)
theorem dX0_unifyVariables_42 : decode cX0_unifyVariables 42 = .ok (.invokevirtual 404, 3) := dk_182 1 148 (dk_at dksX0_unifyVariables_1 19 rfl rfl)
theorem dX0_unifyVariables_45 : decode cX0_unifyVariables 45 = .ok (.ifCond .eq 13, 3) := dk_153 0 13 (dk_at dksX0_unifyVariables_2 0 rfl rfl)
theorem dX0_unifyVariables_48 : decode cX0_unifyVariables 48 = .ok (.aload_n 0, 1) := dk_42 (dk_at dksX0_unifyVariables_2 3 rfl rfl)
theorem dX0_unifyVariables_49 : decode cX0_unifyVariables 49 = .ok (.iload_n 1, 1) := dk_27 (dk_at dksX0_unifyVariables_2 4 rfl rfl)
theorem dX0_unifyVariables_50 : decode cX0_unifyVariables 50 = .ok (.iload_n 2, 1) := dk_28 (dk_at dksX0_unifyVariables_2 5 rfl rfl)
theorem dX0_unifyVariables_51 : decode cX0_unifyVariables 51 = .ok (.iload_n 3, 1) := dk_29 (dk_at dksX0_unifyVariables_2 6 rfl rfl)
theorem dX0_unifyVariables_52 : decode cX0_unifyVariables 52 = .ok (.invokevirtual 1311, 3) := dk_182 5 31 (dk_at dksX0_unifyVariables_2 7 rfl rfl)
theorem dX0_unifyVariables_55 : decode cX0_unifyVariables 55 = .ok (.goto 26, 3) := dk_167 0 26 (dk_at dksX0_unifyVariables_2 10 rfl rfl)
theorem dX0_unifyVariables_58 : decode cX0_unifyVariables 58 = .ok (.aload_n 0, 1) := dk_42 (dk_at dksX0_unifyVariables_2 13 rfl rfl)
theorem dX0_unifyVariables_59 : decode cX0_unifyVariables 59 = .ok (.aload_n 0, 1) := dk_42 (dk_at dksX0_unifyVariables_2 14 rfl rfl)
theorem dX0_unifyVariables_60 : decode cX0_unifyVariables 60 = .ok (.getfield 602, 3) := dk_180 2 90 (dk_at dksX0_unifyVariables_2 15 rfl rfl)
theorem dX0_unifyVariables_63 : decode cX0_unifyVariables 63 = .ok (.iload_n 2, 1) := dk_28 (dk_at dksX0_unifyVariables_2 18 rfl rfl)
theorem dX0_unifyVariables_64 : decode cX0_unifyVariables 64 = .ok (.iaload, 1) := dk_46 (dk_at dksX0_unifyVariables_2 19 rfl rfl)
theorem dX0_unifyVariables_65 : decode cX0_unifyVariables 65 = .ok (.aload_n 0, 1) := dk_42 (dk_at dksX0_unifyVariables_2 20 rfl rfl)
theorem dX0_unifyVariables_66 : decode cX0_unifyVariables 66 = .ok (.getfield 602, 3) := dk_180 2 90 (dk_at dksX0_unifyVariables_2 21 rfl rfl)
theorem dX0_unifyVariables_69 : decode cX0_unifyVariables 69 = .ok (.iload_n 3, 1) := dk_29 (dk_at dksX0_unifyVariables_3 0 rfl rfl)
theorem dX0_unifyVariables_70 : decode cX0_unifyVariables 70 = .ok (.iaload, 1) := dk_46 (dk_at dksX0_unifyVariables_3 1 rfl rfl)
theorem dX0_unifyVariables_71 : decode cX0_unifyVariables 71 = .ok (.invokevirtual 1314, 3) := dk_182 5 34 (dk_at dksX0_unifyVariables_3 2 rfl rfl)
theorem dX0_unifyVariables_74 : decode cX0_unifyVariables 74 = .ok (.ifCond .eq 7, 3) := dk_153 0 7 (dk_at dksX0_unifyVariables_3 5 rfl rfl)
theorem dX0_unifyVariables_77 : decode cX0_unifyVariables 77 = .ok (.aload_n 0, 1) := dk_42 (dk_at dksX0_unifyVariables_3 8 rfl rfl)
theorem dX0_unifyVariables_78 : decode cX0_unifyVariables 78 = .ok (.invokevirtual 1317, 3) := dk_182 5 37 (dk_at dksX0_unifyVariables_3 9 rfl rfl)
theorem dX0_unifyVariables_81 : decode cX0_unifyVariables 81 = .ok (.return_, 1) := dk_177 (dk_at dksX0_unifyVariables_3 12 rfl rfl)
abbrev cX0_give : ByteArray := prog_1_method_223_code
def yX0_give : MethodName := ⟨RX0, "give", "(III)V"⟩
def dkwX0_give_1 : List UInt8 := [180, 4, 255, 2, 42, 180, 2, 63, 28, 46, 100, 3, 79, 177]
abbrev dktX0_give_1 : List UInt8 := dkwX0_give_1 ++ []
def dkwX0_give_0 : List UInt8 := [42, 180, 4, 255, 2, 42, 180, 2, 63, 28, 46, 100, 29, 79, 42, 27, 4, 100, 182, 5, 15, 42]
abbrev dktX0_give_0 : List UInt8 := dkwX0_give_0 ++ dktX0_give_1
theorem dksX0_give_0 : cX0_give.data.toList.drop 0 = dktX0_give_0 := by decide +kernel
theorem dksX0_give_1 : cX0_give.data.toList.drop 22 = dktX0_give_1 := dk_seg dksX0_give_0 22 rfl rfl
theorem dX0_give_0 : decode cX0_give 0 = .ok (.aload_n 0, 1) := dk_42 (dk_at dksX0_give_0 0 rfl rfl)
theorem dX0_give_1 : decode cX0_give 1 = .ok (.getfield 1279, 3) := dk_180 4 255 (dk_at dksX0_give_0 1 rfl rfl)
theorem dX0_give_4 : decode cX0_give 4 = .ok (.iconst (-1), 1) := dk_2 (dk_at dksX0_give_0 4 rfl rfl)
theorem dX0_give_5 : decode cX0_give 5 = .ok (.aload_n 0, 1) := dk_42 (dk_at dksX0_give_0 5 rfl rfl)
theorem dX0_give_6 : decode cX0_give 6 = .ok (.getfield 575, 3) := dk_180 2 63 (dk_at dksX0_give_0 6 rfl rfl)
theorem dX0_give_9 : decode cX0_give 9 = .ok (.iload_n 2, 1) := dk_28 (dk_at dksX0_give_0 9 rfl rfl)
theorem dX0_give_10 : decode cX0_give 10 = .ok (.iaload, 1) := dk_46 (dk_at dksX0_give_0 10 rfl rfl)
theorem dX0_give_11 : decode cX0_give 11 = .ok (.isub, 1) := dk_100 (dk_at dksX0_give_0 11 rfl rfl)
theorem dX0_give_12 : decode cX0_give 12 = .ok (.iload_n 3, 1) := dk_29 (dk_at dksX0_give_0 12 rfl rfl)
theorem dX0_give_13 : decode cX0_give 13 = .ok (.iastore, 1) := dk_79 (dk_at dksX0_give_0 13 rfl rfl)
theorem dX0_give_14 : decode cX0_give 14 = .ok (.aload_n 0, 1) := dk_42 (dk_at dksX0_give_0 14 rfl rfl)
theorem dX0_give_15 : decode cX0_give 15 = .ok (.iload_n 1, 1) := dk_27 (dk_at dksX0_give_0 15 rfl rfl)
theorem dX0_give_16 : decode cX0_give 16 = .ok (.iconst 1, 1) := dk_4 (dk_at dksX0_give_0 16 rfl rfl)
theorem dX0_give_17 : decode cX0_give 17 = .ok (.isub, 1) := dk_100 (dk_at dksX0_give_0 17 rfl rfl)
theorem dX0_give_18 : decode cX0_give 18 = .ok (.invokevirtual 1295, 3) := dk_182 5 15 (dk_at dksX0_give_0 18 rfl rfl)
theorem dX0_give_21 : decode cX0_give 21 = .ok (.aload_n 0, 1) := dk_42 (dk_at dksX0_give_0 21 rfl rfl)
theorem dX0_give_22 : decode cX0_give 22 = .ok (.getfield 1279, 3) := dk_180 4 255 (dk_at dksX0_give_1 0 rfl rfl)
theorem dX0_give_25 : decode cX0_give 25 = .ok (.iconst (-1), 1) := dk_2 (dk_at dksX0_give_1 3 rfl rfl)
theorem dX0_give_26 : decode cX0_give 26 = .ok (.aload_n 0, 1) := dk_42 (dk_at dksX0_give_1 4 rfl rfl)
theorem dX0_give_27 : decode cX0_give 27 = .ok (.getfield 575, 3) := dk_180 2 63 (dk_at dksX0_give_1 5 rfl rfl)
theorem dX0_give_30 : decode cX0_give 30 = .ok (.iload_n 2, 1) := dk_28 (dk_at dksX0_give_1 8 rfl rfl)
theorem dX0_give_31 : decode cX0_give 31 = .ok (.iaload, 1) := dk_46 (dk_at dksX0_give_1 9 rfl rfl)
theorem dX0_give_32 : decode cX0_give 32 = .ok (.isub, 1) := dk_100 (dk_at dksX0_give_1 10 rfl rfl)
theorem dX0_give_33 : decode cX0_give 33 = .ok (.iconst 0, 1) := dk_3 (dk_at dksX0_give_1 11 rfl rfl)
theorem dX0_give_34 : decode cX0_give 34 = .ok (.iastore, 1) := dk_79 (dk_at dksX0_give_1 12 rfl rfl)
theorem dX0_give_35 : decode cX0_give 35 = .ok (.return_, 1) := dk_177 (dk_at dksX0_give_1 13 rfl rfl)
abbrev cX0_hasSortBelow : ByteArray := prog_1_method_220_code
def yX0_hasSortBelow : MethodName := ⟨RX0, "hasSortBelow", "(II)Z"⟩
def dkwX0_hasSortBelow_1 : List UInt8 := [182, 1, 148, 153, 0, 5, 4, 172, 132, 3, 1, 167, 255, 225, 3, 172]
abbrev dktX0_hasSortBelow_1 : List UInt8 := dkwX0_hasSortBelow_1 ++ []
def dkwX0_hasSortBelow_0 : List UInt8 := [3, 62, 29, 42, 180, 0, 145, 162, 0, 29, 42, 29, 27, 182, 1, 148, 153, 0, 14, 42, 29, 28]
abbrev dktX0_hasSortBelow_0 : List UInt8 := dkwX0_hasSortBelow_0 ++ dktX0_hasSortBelow_1
theorem dksX0_hasSortBelow_0 : cX0_hasSortBelow.data.toList.drop 0 = dktX0_hasSortBelow_0 := by decide +kernel
theorem dksX0_hasSortBelow_1 : cX0_hasSortBelow.data.toList.drop 22 = dktX0_hasSortBelow_1 := dk_seg dksX0_hasSortBelow_0 22 rfl rfl
theorem dX0_hasSortBelow_0 : decode cX0_hasSortBelow 0 = .ok (.iconst 0, 1) := dk_3 (dk_at dksX0_hasSortBelow_0 0 rfl rfl)
theorem dX0_hasSortBelow_1 : decode cX0_hasSortBelow 1 = .ok (.istore_n 3, 1) := dk_62 (dk_at dksX0_hasSortBelow_0 1 rfl rfl)
theorem dX0_hasSortBelow_2 : decode cX0_hasSortBelow 2 = .ok (.iload_n 3, 1) := dk_29 (dk_at dksX0_hasSortBelow_0 2 rfl rfl)
theorem dX0_hasSortBelow_3 : decode cX0_hasSortBelow 3 = .ok (.aload_n 0, 1) := dk_42 (dk_at dksX0_hasSortBelow_0 3 rfl rfl)
theorem dX0_hasSortBelow_4 : decode cX0_hasSortBelow 4 = .ok (.getfield 145, 3) := dk_180 0 145 (dk_at dksX0_hasSortBelow_0 4 rfl rfl)
theorem dX0_hasSortBelow_7 : decode cX0_hasSortBelow 7 = .ok (.if_icmp .ge 29, 3) := dk_162 0 29 (dk_at dksX0_hasSortBelow_0 7 rfl rfl)
theorem dX0_hasSortBelow_10 : decode cX0_hasSortBelow 10 = .ok (.aload_n 0, 1) := dk_42 (dk_at dksX0_hasSortBelow_0 10 rfl rfl)
theorem dX0_hasSortBelow_11 : decode cX0_hasSortBelow 11 = .ok (.iload_n 3, 1) := dk_29 (dk_at dksX0_hasSortBelow_0 11 rfl rfl)
theorem dX0_hasSortBelow_12 : decode cX0_hasSortBelow 12 = .ok (.iload_n 1, 1) := dk_27 (dk_at dksX0_hasSortBelow_0 12 rfl rfl)
theorem dX0_hasSortBelow_13 : decode cX0_hasSortBelow 13 = .ok (.invokevirtual 404, 3) := dk_182 1 148 (dk_at dksX0_hasSortBelow_0 13 rfl rfl)
theorem dX0_hasSortBelow_16 : decode cX0_hasSortBelow 16 = .ok (.ifCond .eq 14, 3) := dk_153 0 14 (dk_at dksX0_hasSortBelow_0 16 rfl rfl)
theorem dX0_hasSortBelow_19 : decode cX0_hasSortBelow 19 = .ok (.aload_n 0, 1) := dk_42 (dk_at dksX0_hasSortBelow_0 19 rfl rfl)
theorem dX0_hasSortBelow_20 : decode cX0_hasSortBelow 20 = .ok (.iload_n 3, 1) := dk_29 (dk_at dksX0_hasSortBelow_0 20 rfl rfl)
theorem dX0_hasSortBelow_21 : decode cX0_hasSortBelow 21 = .ok (.iload_n 2, 1) := dk_28 (dk_at dksX0_hasSortBelow_0 21 rfl rfl)
theorem dX0_hasSortBelow_22 : decode cX0_hasSortBelow 22 = .ok (.invokevirtual 404, 3) := dk_182 1 148 (dk_at dksX0_hasSortBelow_1 0 rfl rfl)
theorem dX0_hasSortBelow_25 : decode cX0_hasSortBelow 25 = .ok (.ifCond .eq 5, 3) := dk_153 0 5 (dk_at dksX0_hasSortBelow_1 3 rfl rfl)
theorem dX0_hasSortBelow_28 : decode cX0_hasSortBelow 28 = .ok (.iconst 1, 1) := dk_4 (dk_at dksX0_hasSortBelow_1 6 rfl rfl)
theorem dX0_hasSortBelow_29 : decode cX0_hasSortBelow 29 = .ok (.ireturn, 1) := dk_172 (dk_at dksX0_hasSortBelow_1 7 rfl rfl)
theorem dX0_hasSortBelow_30 : decode cX0_hasSortBelow 30 = .ok (.iinc 3 1, 3) := dk_132 3 1 (dk_at dksX0_hasSortBelow_1 8 rfl rfl)
theorem dX0_hasSortBelow_33 : decode cX0_hasSortBelow 33 = .ok (.goto (-31), 3) := dk_167 255 225 (dk_at dksX0_hasSortBelow_1 11 rfl rfl)
theorem dX0_hasSortBelow_36 : decode cX0_hasSortBelow 36 = .ok (.iconst 0, 1) := dk_3 (dk_at dksX0_hasSortBelow_1 14 rfl rfl)
theorem dX0_hasSortBelow_37 : decode cX0_hasSortBelow 37 = .ok (.ireturn, 1) := dk_172 (dk_at dksX0_hasSortBelow_1 15 rfl rfl)
abbrev cX0_open : ByteArray := prog_1_method_213_code
def yX0_open : MethodName := ⟨RX0, "open", "()V"⟩
def dkwX0_open_0 : List UInt8 := [42, 182, 4, 249, 42, 89, 180, 4, 246, 4, 96, 181, 4, 246, 177]
abbrev dktX0_open_0 : List UInt8 := dkwX0_open_0 ++ []
theorem dksX0_open_0 : cX0_open.data.toList.drop 0 = dktX0_open_0 := by decide +kernel
theorem dX0_open_0 : decode cX0_open 0 = .ok (.aload_n 0, 1) := dk_42 (dk_at dksX0_open_0 0 rfl rfl)
theorem dX0_open_1 : decode cX0_open 1 = .ok (.invokevirtual 1273, 3) := dk_182 4 249 (dk_at dksX0_open_0 1 rfl rfl)
theorem dX0_open_4 : decode cX0_open 4 = .ok (.aload_n 0, 1) := dk_42 (dk_at dksX0_open_0 4 rfl rfl)
theorem dX0_open_5 : decode cX0_open 5 = .ok (.dup, 1) := dk_89 (dk_at dksX0_open_0 5 rfl rfl)
theorem dX0_open_6 : decode cX0_open 6 = .ok (.getfield 1270, 3) := dk_180 4 246 (dk_at dksX0_open_0 6 rfl rfl)
theorem dX0_open_9 : decode cX0_open 9 = .ok (.iconst 1, 1) := dk_4 (dk_at dksX0_open_0 9 rfl rfl)
theorem dX0_open_10 : decode cX0_open 10 = .ok (.iadd, 1) := dk_96 (dk_at dksX0_open_0 10 rfl rfl)
theorem dX0_open_11 : decode cX0_open 11 = .ok (.putfield 1270, 3) := dk_181 4 246 (dk_at dksX0_open_0 11 rfl rfl)
theorem dX0_open_14 : decode cX0_open 14 = .ok (.return_, 1) := dk_177 (dk_at dksX0_open_0 14 rfl rfl)
abbrev cX0_unifyVariable : ByteArray := prog_1_method_225_code
def yX0_unifyVariable : MethodName := ⟨RX0, "unifyVariable", "(III)V"⟩
def dkwX0_unifyVariable_3 : List UInt8 := [153, 0, 7, 42, 182, 5, 37, 177]
abbrev dktX0_unifyVariable_3 : List UInt8 := dkwX0_unifyVariable_3 ++ []
def dkwX0_unifyVariable_2 : List UInt8 := [28, 29, 182, 5, 31, 167, 0, 26, 42, 42, 180, 2, 63, 29, 46, 42, 180, 2, 90, 28, 46, 182, 5, 40]
abbrev dktX0_unifyVariable_2 : List UInt8 := dkwX0_unifyVariable_2 ++ dktX0_unifyVariable_3
def dkwX0_unifyVariable_1 : List UInt8 := [21, 4, 16, 254, 159, 0, 28, 42, 21, 4, 42, 180, 2, 90, 28, 46, 182, 1, 148, 153, 0, 13, 42, 27]
abbrev dktX0_unifyVariable_1 : List UInt8 := dkwX0_unifyVariable_1 ++ dktX0_unifyVariable_2
def dkwX0_unifyVariable_0 : List UInt8 := [42, 42, 180, 2, 63, 28, 46, 29, 182, 5, 6, 153, 0, 4, 177, 42, 180, 2, 90, 29, 46, 54, 4]
abbrev dktX0_unifyVariable_0 : List UInt8 := dkwX0_unifyVariable_0 ++ dktX0_unifyVariable_1
theorem dksX0_unifyVariable_0 : cX0_unifyVariable.data.toList.drop 0 = dktX0_unifyVariable_0 := by decide +kernel
theorem dksX0_unifyVariable_1 : cX0_unifyVariable.data.toList.drop 23 = dktX0_unifyVariable_1 := dk_seg dksX0_unifyVariable_0 23 rfl rfl
theorem dksX0_unifyVariable_2 : cX0_unifyVariable.data.toList.drop 47 = dktX0_unifyVariable_2 := dk_seg dksX0_unifyVariable_1 24 rfl rfl
theorem dksX0_unifyVariable_3 : cX0_unifyVariable.data.toList.drop 71 = dktX0_unifyVariable_3 := dk_seg dksX0_unifyVariable_2 24 rfl rfl
theorem dX0_unifyVariable_0 : decode cX0_unifyVariable 0 = .ok (.aload_n 0, 1) := dk_42 (dk_at dksX0_unifyVariable_0 0 rfl rfl)
theorem dX0_unifyVariable_1 : decode cX0_unifyVariable 1 = .ok (.aload_n 0, 1) := dk_42 (dk_at dksX0_unifyVariable_0 1 rfl rfl)
theorem dX0_unifyVariable_2 : decode cX0_unifyVariable 2 = .ok (.getfield 575, 3) := dk_180 2 63 (dk_at dksX0_unifyVariable_0 2 rfl rfl)
theorem dX0_unifyVariable_5 : decode cX0_unifyVariable 5 = .ok (.iload_n 2, 1) := dk_28 (dk_at dksX0_unifyVariable_0 5 rfl rfl)
theorem dX0_unifyVariable_6 : decode cX0_unifyVariable 6 = .ok (.iaload, 1) := dk_46 (dk_at dksX0_unifyVariable_0 6 rfl rfl)
theorem dX0_unifyVariable_7 : decode cX0_unifyVariable 7 = .ok (.iload_n 3, 1) := dk_29 (dk_at dksX0_unifyVariable_0 7 rfl rfl)
theorem dX0_unifyVariable_8 : decode cX0_unifyVariable 8 = .ok (.invokevirtual 1286, 3) := dk_182 5 6 (dk_at dksX0_unifyVariable_0 8 rfl rfl)
theorem dX0_unifyVariable_11 : decode cX0_unifyVariable 11 = .ok (.ifCond .eq 4, 3) := dk_153 0 4 (dk_at dksX0_unifyVariable_0 11 rfl rfl)
theorem dX0_unifyVariable_14 : decode cX0_unifyVariable 14 = .ok (.return_, 1) := dk_177 (dk_at dksX0_unifyVariable_0 14 rfl rfl)
theorem dX0_unifyVariable_15 : decode cX0_unifyVariable 15 = .ok (.aload_n 0, 1) := dk_42 (dk_at dksX0_unifyVariable_0 15 rfl rfl)
theorem dX0_unifyVariable_16 : decode cX0_unifyVariable 16 = .ok (.getfield 602, 3) := dk_180 2 90 (dk_at dksX0_unifyVariable_0 16 rfl rfl)
theorem dX0_unifyVariable_19 : decode cX0_unifyVariable 19 = .ok (.iload_n 3, 1) := dk_29 (dk_at dksX0_unifyVariable_0 19 rfl rfl)
theorem dX0_unifyVariable_20 : decode cX0_unifyVariable 20 = .ok (.iaload, 1) := dk_46 (dk_at dksX0_unifyVariable_0 20 rfl rfl)
theorem dX0_unifyVariable_21 : decode cX0_unifyVariable 21 = .ok (.istore 4, 2) := dk_54 4 (dk_at dksX0_unifyVariable_0 21 rfl rfl)
theorem dX0_unifyVariable_23 : decode cX0_unifyVariable 23 = .ok (.iload 4, 2) := dk_21 4 (dk_at dksX0_unifyVariable_1 0 rfl rfl)
theorem dX0_unifyVariable_25 : decode cX0_unifyVariable 25 = .ok (.bipush (-2), 2) := dk_16 254 (dk_at dksX0_unifyVariable_1 2 rfl rfl)
theorem dX0_unifyVariable_27 : decode cX0_unifyVariable 27 = .ok (.if_icmp .eq 28, 3) := dk_159 0 28 (dk_at dksX0_unifyVariable_1 4 rfl rfl)
theorem dX0_unifyVariable_30 : decode cX0_unifyVariable 30 = .ok (.aload_n 0, 1) := dk_42 (dk_at dksX0_unifyVariable_1 7 rfl rfl)
theorem dX0_unifyVariable_31 : decode cX0_unifyVariable 31 = .ok (.iload 4, 2) := dk_21 4 (dk_at dksX0_unifyVariable_1 8 rfl rfl)
theorem dX0_unifyVariable_33 : decode cX0_unifyVariable 33 = .ok (.aload_n 0, 1) := dk_42 (dk_at dksX0_unifyVariable_1 10 rfl rfl)
theorem dX0_unifyVariable_34 : decode cX0_unifyVariable 34 = .ok (.getfield 602, 3) := dk_180 2 90 (dk_at dksX0_unifyVariable_1 11 rfl rfl)
theorem dX0_unifyVariable_37 : decode cX0_unifyVariable 37 = .ok (.iload_n 2, 1) := dk_28 (dk_at dksX0_unifyVariable_1 14 rfl rfl)
theorem dX0_unifyVariable_38 : decode cX0_unifyVariable 38 = .ok (.iaload, 1) := dk_46 (dk_at dksX0_unifyVariable_1 15 rfl rfl)
theorem dX0_unifyVariable_39 : decode cX0_unifyVariable 39 = .ok (.invokevirtual 404, 3) := dk_182 1 148 (dk_at dksX0_unifyVariable_1 16 rfl rfl)
theorem dX0_unifyVariable_42 : decode cX0_unifyVariable 42 = .ok (.ifCond .eq 13, 3) := dk_153 0 13 (dk_at dksX0_unifyVariable_1 19 rfl rfl)
theorem dX0_unifyVariable_45 : decode cX0_unifyVariable 45 = .ok (.aload_n 0, 1) := dk_42 (dk_at dksX0_unifyVariable_1 22 rfl rfl)
theorem dX0_unifyVariable_46 : decode cX0_unifyVariable 46 = .ok (.iload_n 1, 1) := dk_27 (dk_at dksX0_unifyVariable_1 23 rfl rfl)
theorem dX0_unifyVariable_47 : decode cX0_unifyVariable 47 = .ok (.iload_n 2, 1) := dk_28 (dk_at dksX0_unifyVariable_2 0 rfl rfl)
theorem dX0_unifyVariable_48 : decode cX0_unifyVariable 48 = .ok (.iload_n 3, 1) := dk_29 (dk_at dksX0_unifyVariable_2 1 rfl rfl)
theorem dX0_unifyVariable_49 : decode cX0_unifyVariable 49 = .ok (.invokevirtual 1311, 3) := dk_182 5 31 (dk_at dksX0_unifyVariable_2 2 rfl rfl)
theorem dX0_unifyVariable_52 : decode cX0_unifyVariable 52 = .ok (.goto 26, 3) := dk_167 0 26 (dk_at dksX0_unifyVariable_2 5 rfl rfl)
theorem dX0_unifyVariable_55 : decode cX0_unifyVariable 55 = .ok (.aload_n 0, 1) := dk_42 (dk_at dksX0_unifyVariable_2 8 rfl rfl)
theorem dX0_unifyVariable_56 : decode cX0_unifyVariable 56 = .ok (.aload_n 0, 1) := dk_42 (dk_at dksX0_unifyVariable_2 9 rfl rfl)
theorem dX0_unifyVariable_57 : decode cX0_unifyVariable 57 = .ok (.getfield 575, 3) := dk_180 2 63 (dk_at dksX0_unifyVariable_2 10 rfl rfl)
theorem dX0_unifyVariable_60 : decode cX0_unifyVariable 60 = .ok (.iload_n 3, 1) := dk_29 (dk_at dksX0_unifyVariable_2 13 rfl rfl)
theorem dX0_unifyVariable_61 : decode cX0_unifyVariable 61 = .ok (.iaload, 1) := dk_46 (dk_at dksX0_unifyVariable_2 14 rfl rfl)
theorem dX0_unifyVariable_62 : decode cX0_unifyVariable 62 = .ok (.aload_n 0, 1) := dk_42 (dk_at dksX0_unifyVariable_2 15 rfl rfl)
theorem dX0_unifyVariable_63 : decode cX0_unifyVariable 63 = .ok (.getfield 602, 3) := dk_180 2 90 (dk_at dksX0_unifyVariable_2 16 rfl rfl)
theorem dX0_unifyVariable_66 : decode cX0_unifyVariable 66 = .ok (.iload_n 2, 1) := dk_28 (dk_at dksX0_unifyVariable_2 19 rfl rfl)
theorem dX0_unifyVariable_67 : decode cX0_unifyVariable 67 = .ok (.iaload, 1) := dk_46 (dk_at dksX0_unifyVariable_2 20 rfl rfl)
theorem dX0_unifyVariable_68 : decode cX0_unifyVariable 68 = .ok (.invokevirtual 1320, 3) := dk_182 5 40 (dk_at dksX0_unifyVariable_2 21 rfl rfl)
theorem dX0_unifyVariable_71 : decode cX0_unifyVariable 71 = .ok (.ifCond .eq 7, 3) := dk_153 0 7 (dk_at dksX0_unifyVariable_3 0 rfl rfl)
theorem dX0_unifyVariable_74 : decode cX0_unifyVariable 74 = .ok (.aload_n 0, 1) := dk_42 (dk_at dksX0_unifyVariable_3 3 rfl rfl)
theorem dX0_unifyVariable_75 : decode cX0_unifyVariable 75 = .ok (.invokevirtual 1317, 3) := dk_182 5 37 (dk_at dksX0_unifyVariable_3 4 rfl rfl)
theorem dX0_unifyVariable_78 : decode cX0_unifyVariable 78 = .ok (.return_, 1) := dk_177 (dk_at dksX0_unifyVariable_3 7 rfl rfl)
abbrev cX0_occurs : ByteArray := prog_1_method_218_code
def yX0_occurs : MethodName := ⟨RX0, "occurs", "(II)Z"⟩
def dkwX0_occurs_2 : List UInt8 := [62, 132, 4, 1, 167, 255, 225, 29, 172]
abbrev dktX0_occurs_2 : List UInt8 := dkwX0_occurs_2 ++ []
def dkwX0_occurs_1 : List UInt8 := [180, 2, 66, 28, 46, 162, 0, 26, 29, 154, 0, 22, 42, 27, 42, 28, 21, 4, 182, 2, 109, 182, 5, 6]
abbrev dktX0_occurs_1 : List UInt8 := dkwX0_occurs_1 ++ dktX0_occurs_2
def dkwX0_occurs_0 : List UInt8 := [42, 180, 2, 63, 28, 46, 27, 160, 0, 7, 4, 167, 0, 4, 3, 62, 3, 54, 4, 21, 4, 42]
abbrev dktX0_occurs_0 : List UInt8 := dkwX0_occurs_0 ++ dktX0_occurs_1
theorem dksX0_occurs_0 : cX0_occurs.data.toList.drop 0 = dktX0_occurs_0 := by decide +kernel
theorem dksX0_occurs_1 : cX0_occurs.data.toList.drop 22 = dktX0_occurs_1 := dk_seg dksX0_occurs_0 22 rfl rfl
theorem dksX0_occurs_2 : cX0_occurs.data.toList.drop 46 = dktX0_occurs_2 := dk_seg dksX0_occurs_1 24 rfl rfl
theorem dX0_occurs_0 : decode cX0_occurs 0 = .ok (.aload_n 0, 1) := dk_42 (dk_at dksX0_occurs_0 0 rfl rfl)
theorem dX0_occurs_1 : decode cX0_occurs 1 = .ok (.getfield 575, 3) := dk_180 2 63 (dk_at dksX0_occurs_0 1 rfl rfl)
theorem dX0_occurs_4 : decode cX0_occurs 4 = .ok (.iload_n 2, 1) := dk_28 (dk_at dksX0_occurs_0 4 rfl rfl)
theorem dX0_occurs_5 : decode cX0_occurs 5 = .ok (.iaload, 1) := dk_46 (dk_at dksX0_occurs_0 5 rfl rfl)
theorem dX0_occurs_6 : decode cX0_occurs 6 = .ok (.iload_n 1, 1) := dk_27 (dk_at dksX0_occurs_0 6 rfl rfl)
theorem dX0_occurs_7 : decode cX0_occurs 7 = .ok (.if_icmp .ne 7, 3) := dk_160 0 7 (dk_at dksX0_occurs_0 7 rfl rfl)
theorem dX0_occurs_10 : decode cX0_occurs 10 = .ok (.iconst 1, 1) := dk_4 (dk_at dksX0_occurs_0 10 rfl rfl)
theorem dX0_occurs_11 : decode cX0_occurs 11 = .ok (.goto 4, 3) := dk_167 0 4 (dk_at dksX0_occurs_0 11 rfl rfl)
theorem dX0_occurs_14 : decode cX0_occurs 14 = .ok (.iconst 0, 1) := dk_3 (dk_at dksX0_occurs_0 14 rfl rfl)
theorem dX0_occurs_15 : decode cX0_occurs 15 = .ok (.istore_n 3, 1) := dk_62 (dk_at dksX0_occurs_0 15 rfl rfl)
theorem dX0_occurs_16 : decode cX0_occurs 16 = .ok (.iconst 0, 1) := dk_3 (dk_at dksX0_occurs_0 16 rfl rfl)
theorem dX0_occurs_17 : decode cX0_occurs 17 = .ok (.istore 4, 2) := dk_54 4 (dk_at dksX0_occurs_0 17 rfl rfl)
theorem dX0_occurs_19 : decode cX0_occurs 19 = .ok (.iload 4, 2) := dk_21 4 (dk_at dksX0_occurs_0 19 rfl rfl)
theorem dX0_occurs_21 : decode cX0_occurs 21 = .ok (.aload_n 0, 1) := dk_42 (dk_at dksX0_occurs_0 21 rfl rfl)
theorem dX0_occurs_22 : decode cX0_occurs 22 = .ok (.getfield 578, 3) := dk_180 2 66 (dk_at dksX0_occurs_1 0 rfl rfl)
theorem dX0_occurs_25 : decode cX0_occurs 25 = .ok (.iload_n 2, 1) := dk_28 (dk_at dksX0_occurs_1 3 rfl rfl)
theorem dX0_occurs_26 : decode cX0_occurs 26 = .ok (.iaload, 1) := dk_46 (dk_at dksX0_occurs_1 4 rfl rfl)
theorem dX0_occurs_27 : decode cX0_occurs 27 = .ok (.if_icmp .ge 26, 3) := dk_162 0 26 (dk_at dksX0_occurs_1 5 rfl rfl)
theorem dX0_occurs_30 : decode cX0_occurs 30 = .ok (.iload_n 3, 1) := dk_29 (dk_at dksX0_occurs_1 8 rfl rfl)
theorem dX0_occurs_31 : decode cX0_occurs 31 = .ok (.ifCond .ne 22, 3) := dk_154 0 22 (dk_at dksX0_occurs_1 9 rfl rfl)
theorem dX0_occurs_34 : decode cX0_occurs 34 = .ok (.aload_n 0, 1) := dk_42 (dk_at dksX0_occurs_1 12 rfl rfl)
theorem dX0_occurs_35 : decode cX0_occurs 35 = .ok (.iload_n 1, 1) := dk_27 (dk_at dksX0_occurs_1 13 rfl rfl)
theorem dX0_occurs_36 : decode cX0_occurs 36 = .ok (.aload_n 0, 1) := dk_42 (dk_at dksX0_occurs_1 14 rfl rfl)
theorem dX0_occurs_37 : decode cX0_occurs 37 = .ok (.iload_n 2, 1) := dk_28 (dk_at dksX0_occurs_1 15 rfl rfl)
theorem dX0_occurs_38 : decode cX0_occurs 38 = .ok (.iload 4, 2) := dk_21 4 (dk_at dksX0_occurs_1 16 rfl rfl)
theorem dX0_occurs_40 : decode cX0_occurs 40 = .ok (.invokevirtual 621, 3) := dk_182 2 109 (dk_at dksX0_occurs_1 18 rfl rfl)
theorem dX0_occurs_43 : decode cX0_occurs 43 = .ok (.invokevirtual 1286, 3) := dk_182 5 6 (dk_at dksX0_occurs_1 21 rfl rfl)
theorem dX0_occurs_46 : decode cX0_occurs 46 = .ok (.istore_n 3, 1) := dk_62 (dk_at dksX0_occurs_2 0 rfl rfl)
theorem dX0_occurs_47 : decode cX0_occurs 47 = .ok (.iinc 4 1, 3) := dk_132 4 1 (dk_at dksX0_occurs_2 1 rfl rfl)
theorem dX0_occurs_50 : decode cX0_occurs 50 = .ok (.goto (-31), 3) := dk_167 255 225 (dk_at dksX0_occurs_2 4 rfl rfl)
theorem dX0_occurs_53 : decode cX0_occurs 53 = .ok (.iload_n 3, 1) := dk_29 (dk_at dksX0_occurs_2 7 rfl rfl)
theorem dX0_occurs_54 : decode cX0_occurs 54 = .ok (.ireturn, 1) := dk_172 (dk_at dksX0_occurs_2 8 rfl rfl)
abbrev cX0_hasRowBelow : ByteArray := prog_1_method_219_code
def yX0_hasRowBelow : MethodName := ⟨RX0, "hasRowBelow", "(II)Z"⟩
def dkwX0_hasRowBelow_1 : List UInt8 := [180, 1, 192, 29, 46, 28, 182, 1, 148, 153, 0, 5, 4, 172, 132, 3, 1, 167, 255, 219, 3, 172]
abbrev dktX0_hasRowBelow_1 : List UInt8 := dkwX0_hasRowBelow_1 ++ []
def dkwX0_hasRowBelow_0 : List UInt8 := [3, 62, 29, 42, 180, 0, 151, 162, 0, 35, 42, 180, 1, 195, 29, 46, 27, 160, 0, 19, 42, 42]
abbrev dktX0_hasRowBelow_0 : List UInt8 := dkwX0_hasRowBelow_0 ++ dktX0_hasRowBelow_1
theorem dksX0_hasRowBelow_0 : cX0_hasRowBelow.data.toList.drop 0 = dktX0_hasRowBelow_0 := by decide +kernel
theorem dksX0_hasRowBelow_1 : cX0_hasRowBelow.data.toList.drop 22 = dktX0_hasRowBelow_1 := dk_seg dksX0_hasRowBelow_0 22 rfl rfl
theorem dX0_hasRowBelow_0 : decode cX0_hasRowBelow 0 = .ok (.iconst 0, 1) := dk_3 (dk_at dksX0_hasRowBelow_0 0 rfl rfl)
theorem dX0_hasRowBelow_1 : decode cX0_hasRowBelow 1 = .ok (.istore_n 3, 1) := dk_62 (dk_at dksX0_hasRowBelow_0 1 rfl rfl)
theorem dX0_hasRowBelow_2 : decode cX0_hasRowBelow 2 = .ok (.iload_n 3, 1) := dk_29 (dk_at dksX0_hasRowBelow_0 2 rfl rfl)
theorem dX0_hasRowBelow_3 : decode cX0_hasRowBelow 3 = .ok (.aload_n 0, 1) := dk_42 (dk_at dksX0_hasRowBelow_0 3 rfl rfl)
theorem dX0_hasRowBelow_4 : decode cX0_hasRowBelow 4 = .ok (.getfield 151, 3) := dk_180 0 151 (dk_at dksX0_hasRowBelow_0 4 rfl rfl)
theorem dX0_hasRowBelow_7 : decode cX0_hasRowBelow 7 = .ok (.if_icmp .ge 35, 3) := dk_162 0 35 (dk_at dksX0_hasRowBelow_0 7 rfl rfl)
theorem dX0_hasRowBelow_10 : decode cX0_hasRowBelow 10 = .ok (.aload_n 0, 1) := dk_42 (dk_at dksX0_hasRowBelow_0 10 rfl rfl)
theorem dX0_hasRowBelow_11 : decode cX0_hasRowBelow 11 = .ok (.getfield 451, 3) := dk_180 1 195 (dk_at dksX0_hasRowBelow_0 11 rfl rfl)
theorem dX0_hasRowBelow_14 : decode cX0_hasRowBelow 14 = .ok (.iload_n 3, 1) := dk_29 (dk_at dksX0_hasRowBelow_0 14 rfl rfl)
theorem dX0_hasRowBelow_15 : decode cX0_hasRowBelow 15 = .ok (.iaload, 1) := dk_46 (dk_at dksX0_hasRowBelow_0 15 rfl rfl)
theorem dX0_hasRowBelow_16 : decode cX0_hasRowBelow 16 = .ok (.iload_n 1, 1) := dk_27 (dk_at dksX0_hasRowBelow_0 16 rfl rfl)
theorem dX0_hasRowBelow_17 : decode cX0_hasRowBelow 17 = .ok (.if_icmp .ne 19, 3) := dk_160 0 19 (dk_at dksX0_hasRowBelow_0 17 rfl rfl)
theorem dX0_hasRowBelow_20 : decode cX0_hasRowBelow 20 = .ok (.aload_n 0, 1) := dk_42 (dk_at dksX0_hasRowBelow_0 20 rfl rfl)
theorem dX0_hasRowBelow_21 : decode cX0_hasRowBelow 21 = .ok (.aload_n 0, 1) := dk_42 (dk_at dksX0_hasRowBelow_0 21 rfl rfl)
theorem dX0_hasRowBelow_22 : decode cX0_hasRowBelow 22 = .ok (.getfield 448, 3) := dk_180 1 192 (dk_at dksX0_hasRowBelow_1 0 rfl rfl)
theorem dX0_hasRowBelow_25 : decode cX0_hasRowBelow 25 = .ok (.iload_n 3, 1) := dk_29 (dk_at dksX0_hasRowBelow_1 3 rfl rfl)
theorem dX0_hasRowBelow_26 : decode cX0_hasRowBelow 26 = .ok (.iaload, 1) := dk_46 (dk_at dksX0_hasRowBelow_1 4 rfl rfl)
theorem dX0_hasRowBelow_27 : decode cX0_hasRowBelow 27 = .ok (.iload_n 2, 1) := dk_28 (dk_at dksX0_hasRowBelow_1 5 rfl rfl)
theorem dX0_hasRowBelow_28 : decode cX0_hasRowBelow 28 = .ok (.invokevirtual 404, 3) := dk_182 1 148 (dk_at dksX0_hasRowBelow_1 6 rfl rfl)
theorem dX0_hasRowBelow_31 : decode cX0_hasRowBelow 31 = .ok (.ifCond .eq 5, 3) := dk_153 0 5 (dk_at dksX0_hasRowBelow_1 9 rfl rfl)
theorem dX0_hasRowBelow_34 : decode cX0_hasRowBelow 34 = .ok (.iconst 1, 1) := dk_4 (dk_at dksX0_hasRowBelow_1 12 rfl rfl)
theorem dX0_hasRowBelow_35 : decode cX0_hasRowBelow 35 = .ok (.ireturn, 1) := dk_172 (dk_at dksX0_hasRowBelow_1 13 rfl rfl)
theorem dX0_hasRowBelow_36 : decode cX0_hasRowBelow 36 = .ok (.iinc 3 1, 3) := dk_132 3 1 (dk_at dksX0_hasRowBelow_1 14 rfl rfl)
theorem dX0_hasRowBelow_39 : decode cX0_hasRowBelow 39 = .ok (.goto (-37), 3) := dk_167 255 219 (dk_at dksX0_hasRowBelow_1 17 rfl rfl)
theorem dX0_hasRowBelow_42 : decode cX0_hasRowBelow 42 = .ok (.iconst 0, 1) := dk_3 (dk_at dksX0_hasRowBelow_1 20 rfl rfl)
theorem dX0_hasRowBelow_43 : decode cX0_hasRowBelow 43 = .ok (.ireturn, 1) := dk_172 (dk_at dksX0_hasRowBelow_1 21 rfl rfl)
abbrev cX0_unifyRows : ByteArray := prog_1_method_222_code
def yX0_unifyRows : MethodName := ⟨RX0, "unifyRows", "(IIIZ)V"⟩
def dkwX0_unifyRows_4 : List UInt8 := [182, 5, 15, 177]
abbrev dktX0_unifyRows_4 : List UInt8 := dkwX0_unifyRows_4 ++ []
def dkwX0_unifyRows_3 : List UInt8 := [167, 0, 5, 21, 6, 182, 2, 109, 79, 132, 6, 1, 167, 255, 185, 42, 27, 4, 100, 21, 5, 96]
abbrev dktX0_unifyRows_3 : List UInt8 := dkwX0_unifyRows_3 ++ dktX0_unifyRows_4
def dkwX0_unifyRows_2 : List UInt8 := [21, 5, 96, 4, 100, 21, 6, 100, 42, 29, 21, 4, 153, 0, 13, 21, 5, 4, 100, 21, 6, 100]
abbrev dktX0_unifyRows_2 : List UInt8 := dkwX0_unifyRows_2 ++ dktX0_unifyRows_3
def dkwX0_unifyRows_1 : List UInt8 := [100, 21, 5, 96, 4, 100, 21, 6, 100, 42, 28, 21, 6, 182, 2, 109, 79, 42, 180, 3, 14, 27, 4, 100]
abbrev dktX0_unifyRows_1 : List UInt8 := dkwX0_unifyRows_1 ++ dktX0_unifyRows_2
def dkwX0_unifyRows_0 : List UInt8 := [42, 180, 2, 66, 28, 46, 54, 5, 3, 54, 6, 21, 6, 21, 5, 162, 0, 70, 42, 180, 3, 8, 27, 4]
abbrev dktX0_unifyRows_0 : List UInt8 := dkwX0_unifyRows_0 ++ dktX0_unifyRows_1
theorem dksX0_unifyRows_0 : cX0_unifyRows.data.toList.drop 0 = dktX0_unifyRows_0 := by decide +kernel
theorem dksX0_unifyRows_1 : cX0_unifyRows.data.toList.drop 24 = dktX0_unifyRows_1 := dk_seg dksX0_unifyRows_0 24 rfl rfl
theorem dksX0_unifyRows_2 : cX0_unifyRows.data.toList.drop 48 = dktX0_unifyRows_2 := dk_seg dksX0_unifyRows_1 24 rfl rfl
theorem dksX0_unifyRows_3 : cX0_unifyRows.data.toList.drop 70 = dktX0_unifyRows_3 := dk_seg dksX0_unifyRows_2 22 rfl rfl
theorem dksX0_unifyRows_4 : cX0_unifyRows.data.toList.drop 92 = dktX0_unifyRows_4 := dk_seg dksX0_unifyRows_3 22 rfl rfl
theorem dX0_unifyRows_0 : decode cX0_unifyRows 0 = .ok (.aload_n 0, 1) := dk_42 (dk_at dksX0_unifyRows_0 0 rfl rfl)
theorem dX0_unifyRows_1 : decode cX0_unifyRows 1 = .ok (.getfield 578, 3) := dk_180 2 66 (dk_at dksX0_unifyRows_0 1 rfl rfl)
theorem dX0_unifyRows_4 : decode cX0_unifyRows 4 = .ok (.iload_n 2, 1) := dk_28 (dk_at dksX0_unifyRows_0 4 rfl rfl)
theorem dX0_unifyRows_5 : decode cX0_unifyRows 5 = .ok (.iaload, 1) := dk_46 (dk_at dksX0_unifyRows_0 5 rfl rfl)
theorem dX0_unifyRows_6 : decode cX0_unifyRows 6 = .ok (.istore 5, 2) := dk_54 5 (dk_at dksX0_unifyRows_0 6 rfl rfl)
theorem dX0_unifyRows_8 : decode cX0_unifyRows 8 = .ok (.iconst 0, 1) := dk_3 (dk_at dksX0_unifyRows_0 8 rfl rfl)
theorem dX0_unifyRows_9 : decode cX0_unifyRows 9 = .ok (.istore 6, 2) := dk_54 6 (dk_at dksX0_unifyRows_0 9 rfl rfl)
theorem dX0_unifyRows_11 : decode cX0_unifyRows 11 = .ok (.iload 6, 2) := dk_21 6 (dk_at dksX0_unifyRows_0 11 rfl rfl)
theorem dX0_unifyRows_13 : decode cX0_unifyRows 13 = .ok (.iload 5, 2) := dk_21 5 (dk_at dksX0_unifyRows_0 13 rfl rfl)
theorem dX0_unifyRows_15 : decode cX0_unifyRows 15 = .ok (.if_icmp .ge 70, 3) := dk_162 0 70 (dk_at dksX0_unifyRows_0 15 rfl rfl)
theorem dX0_unifyRows_18 : decode cX0_unifyRows 18 = .ok (.aload_n 0, 1) := dk_42 (dk_at dksX0_unifyRows_0 18 rfl rfl)
theorem dX0_unifyRows_19 : decode cX0_unifyRows 19 = .ok (.getfield 776, 3) := dk_180 3 8 (dk_at dksX0_unifyRows_0 19 rfl rfl)
theorem dX0_unifyRows_22 : decode cX0_unifyRows 22 = .ok (.iload_n 1, 1) := dk_27 (dk_at dksX0_unifyRows_0 22 rfl rfl)
theorem dX0_unifyRows_23 : decode cX0_unifyRows 23 = .ok (.iconst 1, 1) := dk_4 (dk_at dksX0_unifyRows_0 23 rfl rfl)
theorem dX0_unifyRows_24 : decode cX0_unifyRows 24 = .ok (.isub, 1) := dk_100 (dk_at dksX0_unifyRows_1 0 rfl rfl)
theorem dX0_unifyRows_25 : decode cX0_unifyRows 25 = .ok (.iload 5, 2) := dk_21 5 (dk_at dksX0_unifyRows_1 1 rfl rfl)
theorem dX0_unifyRows_27 : decode cX0_unifyRows 27 = .ok (.iadd, 1) := dk_96 (dk_at dksX0_unifyRows_1 3 rfl rfl)
theorem dX0_unifyRows_28 : decode cX0_unifyRows 28 = .ok (.iconst 1, 1) := dk_4 (dk_at dksX0_unifyRows_1 4 rfl rfl)
theorem dX0_unifyRows_29 : decode cX0_unifyRows 29 = .ok (.isub, 1) := dk_100 (dk_at dksX0_unifyRows_1 5 rfl rfl)
theorem dX0_unifyRows_30 : decode cX0_unifyRows 30 = .ok (.iload 6, 2) := dk_21 6 (dk_at dksX0_unifyRows_1 6 rfl rfl)
theorem dX0_unifyRows_32 : decode cX0_unifyRows 32 = .ok (.isub, 1) := dk_100 (dk_at dksX0_unifyRows_1 8 rfl rfl)
theorem dX0_unifyRows_33 : decode cX0_unifyRows 33 = .ok (.aload_n 0, 1) := dk_42 (dk_at dksX0_unifyRows_1 9 rfl rfl)
theorem dX0_unifyRows_34 : decode cX0_unifyRows 34 = .ok (.iload_n 2, 1) := dk_28 (dk_at dksX0_unifyRows_1 10 rfl rfl)
theorem dX0_unifyRows_35 : decode cX0_unifyRows 35 = .ok (.iload 6, 2) := dk_21 6 (dk_at dksX0_unifyRows_1 11 rfl rfl)
theorem dX0_unifyRows_37 : decode cX0_unifyRows 37 = .ok (.invokevirtual 621, 3) := dk_182 2 109 (dk_at dksX0_unifyRows_1 13 rfl rfl)
theorem dX0_unifyRows_40 : decode cX0_unifyRows 40 = .ok (.iastore, 1) := dk_79 (dk_at dksX0_unifyRows_1 16 rfl rfl)
theorem dX0_unifyRows_41 : decode cX0_unifyRows 41 = .ok (.aload_n 0, 1) := dk_42 (dk_at dksX0_unifyRows_1 17 rfl rfl)
theorem dX0_unifyRows_42 : decode cX0_unifyRows 42 = .ok (.getfield 782, 3) := dk_180 3 14 (dk_at dksX0_unifyRows_1 18 rfl rfl)
theorem dX0_unifyRows_45 : decode cX0_unifyRows 45 = .ok (.iload_n 1, 1) := dk_27 (dk_at dksX0_unifyRows_1 21 rfl rfl)
theorem dX0_unifyRows_46 : decode cX0_unifyRows 46 = .ok (.iconst 1, 1) := dk_4 (dk_at dksX0_unifyRows_1 22 rfl rfl)
theorem dX0_unifyRows_47 : decode cX0_unifyRows 47 = .ok (.isub, 1) := dk_100 (dk_at dksX0_unifyRows_1 23 rfl rfl)
theorem dX0_unifyRows_48 : decode cX0_unifyRows 48 = .ok (.iload 5, 2) := dk_21 5 (dk_at dksX0_unifyRows_2 0 rfl rfl)
theorem dX0_unifyRows_50 : decode cX0_unifyRows 50 = .ok (.iadd, 1) := dk_96 (dk_at dksX0_unifyRows_2 2 rfl rfl)
theorem dX0_unifyRows_51 : decode cX0_unifyRows 51 = .ok (.iconst 1, 1) := dk_4 (dk_at dksX0_unifyRows_2 3 rfl rfl)
theorem dX0_unifyRows_52 : decode cX0_unifyRows 52 = .ok (.isub, 1) := dk_100 (dk_at dksX0_unifyRows_2 4 rfl rfl)
theorem dX0_unifyRows_53 : decode cX0_unifyRows 53 = .ok (.iload 6, 2) := dk_21 6 (dk_at dksX0_unifyRows_2 5 rfl rfl)
theorem dX0_unifyRows_55 : decode cX0_unifyRows 55 = .ok (.isub, 1) := dk_100 (dk_at dksX0_unifyRows_2 7 rfl rfl)
theorem dX0_unifyRows_56 : decode cX0_unifyRows 56 = .ok (.aload_n 0, 1) := dk_42 (dk_at dksX0_unifyRows_2 8 rfl rfl)
theorem dX0_unifyRows_57 : decode cX0_unifyRows 57 = .ok (.iload_n 3, 1) := dk_29 (dk_at dksX0_unifyRows_2 9 rfl rfl)
theorem dX0_unifyRows_58 : decode cX0_unifyRows 58 = .ok (.iload 4, 2) := dk_21 4 (dk_at dksX0_unifyRows_2 10 rfl rfl)
theorem dX0_unifyRows_60 : decode cX0_unifyRows 60 = .ok (.ifCond .eq 13, 3) := dk_153 0 13 (dk_at dksX0_unifyRows_2 12 rfl rfl)
theorem dX0_unifyRows_63 : decode cX0_unifyRows 63 = .ok (.iload 5, 2) := dk_21 5 (dk_at dksX0_unifyRows_2 15 rfl rfl)
theorem dX0_unifyRows_65 : decode cX0_unifyRows 65 = .ok (.iconst 1, 1) := dk_4 (dk_at dksX0_unifyRows_2 17 rfl rfl)
theorem dX0_unifyRows_66 : decode cX0_unifyRows 66 = .ok (.isub, 1) := dk_100 (dk_at dksX0_unifyRows_2 18 rfl rfl)
theorem dX0_unifyRows_67 : decode cX0_unifyRows 67 = .ok (.iload 6, 2) := dk_21 6 (dk_at dksX0_unifyRows_2 19 rfl rfl)
theorem dX0_unifyRows_69 : decode cX0_unifyRows 69 = .ok (.isub, 1) := dk_100 (dk_at dksX0_unifyRows_2 21 rfl rfl)
theorem dX0_unifyRows_70 : decode cX0_unifyRows 70 = .ok (.goto 5, 3) := dk_167 0 5 (dk_at dksX0_unifyRows_3 0 rfl rfl)
theorem dX0_unifyRows_73 : decode cX0_unifyRows 73 = .ok (.iload 6, 2) := dk_21 6 (dk_at dksX0_unifyRows_3 3 rfl rfl)
theorem dX0_unifyRows_75 : decode cX0_unifyRows 75 = .ok (.invokevirtual 621, 3) := dk_182 2 109 (dk_at dksX0_unifyRows_3 5 rfl rfl)
theorem dX0_unifyRows_78 : decode cX0_unifyRows 78 = .ok (.iastore, 1) := dk_79 (dk_at dksX0_unifyRows_3 8 rfl rfl)
theorem dX0_unifyRows_79 : decode cX0_unifyRows 79 = .ok (.iinc 6 1, 3) := dk_132 6 1 (dk_at dksX0_unifyRows_3 9 rfl rfl)
theorem dX0_unifyRows_82 : decode cX0_unifyRows 82 = .ok (.goto (-71), 3) := dk_167 255 185 (dk_at dksX0_unifyRows_3 12 rfl rfl)
theorem dX0_unifyRows_85 : decode cX0_unifyRows 85 = .ok (.aload_n 0, 1) := dk_42 (dk_at dksX0_unifyRows_3 15 rfl rfl)
theorem dX0_unifyRows_86 : decode cX0_unifyRows 86 = .ok (.iload_n 1, 1) := dk_27 (dk_at dksX0_unifyRows_3 16 rfl rfl)
theorem dX0_unifyRows_87 : decode cX0_unifyRows 87 = .ok (.iconst 1, 1) := dk_4 (dk_at dksX0_unifyRows_3 17 rfl rfl)
theorem dX0_unifyRows_88 : decode cX0_unifyRows 88 = .ok (.isub, 1) := dk_100 (dk_at dksX0_unifyRows_3 18 rfl rfl)
theorem dX0_unifyRows_89 : decode cX0_unifyRows 89 = .ok (.iload 5, 2) := dk_21 5 (dk_at dksX0_unifyRows_3 19 rfl rfl)
theorem dX0_unifyRows_91 : decode cX0_unifyRows 91 = .ok (.iadd, 1) := dk_96 (dk_at dksX0_unifyRows_3 21 rfl rfl)
theorem dX0_unifyRows_92 : decode cX0_unifyRows 92 = .ok (.invokevirtual 1295, 3) := dk_182 5 15 (dk_at dksX0_unifyRows_4 0 rfl rfl)
theorem dX0_unifyRows_95 : decode cX0_unifyRows 95 = .ok (.return_, 1) := dk_177 (dk_at dksX0_unifyRows_4 3 rfl rfl)
abbrev cX0_pair : ByteArray := prog_1_method_234_code
def yX0_pair : MethodName := ⟨RX0, "pair", "(II)I"⟩
def dkwX0_pair_4 : List UInt8 := [160, 0, 7, 3, 167, 0, 5, 16, 80, 182, 2, 164, 182, 3, 253, 172, 78, 42, 45, 182, 4, 39, 172]
abbrev dktX0_pair_4 : List UInt8 := dkwX0_pair_4 ++ []
def dkwX0_pair_3 : List UInt8 := [180, 0, 178, 17, 0, 200, 160, 0, 8, 16, 253, 167, 0, 26, 42, 42, 42, 180, 5, 58, 28, 5]
abbrev dktX0_pair_3 : List UInt8 := dkwX0_pair_3 ++ dktX0_pair_4
def dkwX0_pair_2 : List UInt8 := [162, 0, 21, 28, 154, 0, 10, 42, 180, 5, 64, 167, 0, 48, 42, 180, 5, 70, 167, 0, 41, 42]
abbrev dktX0_pair_2 : List UInt8 := dkwX0_pair_2 ++ dktX0_pair_3
def dkwX0_pair_1 : List UInt8 := [154, 0, 5, 2, 172, 42, 27, 182, 5, 87, 27, 42, 180, 5, 52, 161, 0, 5, 2, 172, 28, 5]
abbrev dktX0_pair_1 : List UInt8 := dkwX0_pair_1 ++ dktX0_pair_2
def dkwX0_pair_0 : List UInt8 := [27, 155, 0, 12, 28, 3, 6, 184, 0, 20, 154, 0, 5, 2, 172, 42, 182, 3, 247, 42, 182, 5, 84]
abbrev dktX0_pair_0 : List UInt8 := dkwX0_pair_0 ++ dktX0_pair_1
theorem dksX0_pair_0 : cX0_pair.data.toList.drop 0 = dktX0_pair_0 := by decide +kernel
theorem dksX0_pair_1 : cX0_pair.data.toList.drop 23 = dktX0_pair_1 := dk_seg dksX0_pair_0 23 rfl rfl
theorem dksX0_pair_2 : cX0_pair.data.toList.drop 45 = dktX0_pair_2 := dk_seg dksX0_pair_1 22 rfl rfl
theorem dksX0_pair_3 : cX0_pair.data.toList.drop 67 = dktX0_pair_3 := dk_seg dksX0_pair_2 22 rfl rfl
theorem dksX0_pair_4 : cX0_pair.data.toList.drop 89 = dktX0_pair_4 := dk_seg dksX0_pair_3 22 rfl rfl
theorem dX0_pair_0 : decode cX0_pair 0 = .ok (.iload_n 1, 1) := dk_27 (dk_at dksX0_pair_0 0 rfl rfl)
theorem dX0_pair_1 : decode cX0_pair 1 = .ok (.ifCond .lt 12, 3) := dk_155 0 12 (dk_at dksX0_pair_0 1 rfl rfl)
theorem dX0_pair_4 : decode cX0_pair 4 = .ok (.iload_n 2, 1) := dk_28 (dk_at dksX0_pair_0 4 rfl rfl)
theorem dX0_pair_5 : decode cX0_pair 5 = .ok (.iconst 0, 1) := dk_3 (dk_at dksX0_pair_0 5 rfl rfl)
theorem dX0_pair_6 : decode cX0_pair 6 = .ok (.iconst 3, 1) := dk_6 (dk_at dksX0_pair_0 6 rfl rfl)
theorem dX0_pair_7 : decode cX0_pair 7 = .ok (.invokestatic 20, 3) := dk_184 0 20 (dk_at dksX0_pair_0 7 rfl rfl)
theorem dX0_pair_10 : decode cX0_pair 10 = .ok (.ifCond .ne 5, 3) := dk_154 0 5 (dk_at dksX0_pair_0 10 rfl rfl)
theorem dX0_pair_13 : decode cX0_pair 13 = .ok (.iconst (-1), 1) := dk_2 (dk_at dksX0_pair_0 13 rfl rfl)
theorem dX0_pair_14 : decode cX0_pair 14 = .ok (.ireturn, 1) := dk_172 (dk_at dksX0_pair_0 14 rfl rfl)
theorem dX0_pair_15 : decode cX0_pair 15 = .ok (.aload_n 0, 1) := dk_42 (dk_at dksX0_pair_0 15 rfl rfl)
theorem dX0_pair_16 : decode cX0_pair 16 = .ok (.invokevirtual 1015, 3) := dk_182 3 247 (dk_at dksX0_pair_0 16 rfl rfl)
theorem dX0_pair_19 : decode cX0_pair 19 = .ok (.aload_n 0, 1) := dk_42 (dk_at dksX0_pair_0 19 rfl rfl)
theorem dX0_pair_20 : decode cX0_pair 20 = .ok (.invokevirtual 1364, 3) := dk_182 5 84 (dk_at dksX0_pair_0 20 rfl rfl)
theorem dX0_pair_23 : decode cX0_pair 23 = .ok (.ifCond .ne 5, 3) := dk_154 0 5 (dk_at dksX0_pair_1 0 rfl rfl)
theorem dX0_pair_26 : decode cX0_pair 26 = .ok (.iconst (-1), 1) := dk_2 (dk_at dksX0_pair_1 3 rfl rfl)
theorem dX0_pair_27 : decode cX0_pair 27 = .ok (.ireturn, 1) := dk_172 (dk_at dksX0_pair_1 4 rfl rfl)
theorem dX0_pair_28 : decode cX0_pair 28 = .ok (.aload_n 0, 1) := dk_42 (dk_at dksX0_pair_1 5 rfl rfl)
theorem dX0_pair_29 : decode cX0_pair 29 = .ok (.iload_n 1, 1) := dk_27 (dk_at dksX0_pair_1 6 rfl rfl)
theorem dX0_pair_30 : decode cX0_pair 30 = .ok (.invokevirtual 1367, 3) := dk_182 5 87 (dk_at dksX0_pair_1 7 rfl rfl)
theorem dX0_pair_33 : decode cX0_pair 33 = .ok (.iload_n 1, 1) := dk_27 (dk_at dksX0_pair_1 10 rfl rfl)
theorem dX0_pair_34 : decode cX0_pair 34 = .ok (.aload_n 0, 1) := dk_42 (dk_at dksX0_pair_1 11 rfl rfl)
theorem dX0_pair_35 : decode cX0_pair 35 = .ok (.getfield 1332, 3) := dk_180 5 52 (dk_at dksX0_pair_1 12 rfl rfl)
theorem dX0_pair_38 : decode cX0_pair 38 = .ok (.if_icmp .lt 5, 3) := dk_161 0 5 (dk_at dksX0_pair_1 15 rfl rfl)
theorem dX0_pair_41 : decode cX0_pair 41 = .ok (.iconst (-1), 1) := dk_2 (dk_at dksX0_pair_1 18 rfl rfl)
theorem dX0_pair_42 : decode cX0_pair 42 = .ok (.ireturn, 1) := dk_172 (dk_at dksX0_pair_1 19 rfl rfl)
theorem dX0_pair_43 : decode cX0_pair 43 = .ok (.iload_n 2, 1) := dk_28 (dk_at dksX0_pair_1 20 rfl rfl)
theorem dX0_pair_44 : decode cX0_pair 44 = .ok (.iconst 2, 1) := dk_5 (dk_at dksX0_pair_1 21 rfl rfl)
theorem dX0_pair_45 : decode cX0_pair 45 = .ok (.if_icmp .ge 21, 3) := dk_162 0 21 (dk_at dksX0_pair_2 0 rfl rfl)
theorem dX0_pair_48 : decode cX0_pair 48 = .ok (.iload_n 2, 1) := dk_28 (dk_at dksX0_pair_2 3 rfl rfl)
theorem dX0_pair_49 : decode cX0_pair 49 = .ok (.ifCond .ne 10, 3) := dk_154 0 10 (dk_at dksX0_pair_2 4 rfl rfl)
theorem dX0_pair_52 : decode cX0_pair 52 = .ok (.aload_n 0, 1) := dk_42 (dk_at dksX0_pair_2 7 rfl rfl)
theorem dX0_pair_53 : decode cX0_pair 53 = .ok (.getfield 1344, 3) := dk_180 5 64 (dk_at dksX0_pair_2 8 rfl rfl)
theorem dX0_pair_56 : decode cX0_pair 56 = .ok (.goto 48, 3) := dk_167 0 48 (dk_at dksX0_pair_2 11 rfl rfl)
theorem dX0_pair_59 : decode cX0_pair 59 = .ok (.aload_n 0, 1) := dk_42 (dk_at dksX0_pair_2 14 rfl rfl)
theorem dX0_pair_60 : decode cX0_pair 60 = .ok (.getfield 1350, 3) := dk_180 5 70 (dk_at dksX0_pair_2 15 rfl rfl)
theorem dX0_pair_63 : decode cX0_pair 63 = .ok (.goto 41, 3) := dk_167 0 41 (dk_at dksX0_pair_2 18 rfl rfl)
theorem dX0_pair_66 : decode cX0_pair 66 = .ok (.aload_n 0, 1) := dk_42 (dk_at dksX0_pair_2 21 rfl rfl)
theorem dX0_pair_67 : decode cX0_pair 67 = .ok (.getfield 178, 3) := dk_180 0 178 (dk_at dksX0_pair_3 0 rfl rfl)
theorem dX0_pair_70 : decode cX0_pair 70 = .ok (.sipush 200, 3) := dk_17 0 200 (dk_at dksX0_pair_3 3 rfl rfl)
theorem dX0_pair_73 : decode cX0_pair 73 = .ok (.if_icmp .ne 8, 3) := dk_160 0 8 (dk_at dksX0_pair_3 6 rfl rfl)
theorem dX0_pair_76 : decode cX0_pair 76 = .ok (.bipush (-3), 2) := dk_16 253 (dk_at dksX0_pair_3 9 rfl rfl)
theorem dX0_pair_78 : decode cX0_pair 78 = .ok (.goto 26, 3) := dk_167 0 26 (dk_at dksX0_pair_3 11 rfl rfl)
theorem dX0_pair_81 : decode cX0_pair 81 = .ok (.aload_n 0, 1) := dk_42 (dk_at dksX0_pair_3 14 rfl rfl)
theorem dX0_pair_82 : decode cX0_pair 82 = .ok (.aload_n 0, 1) := dk_42 (dk_at dksX0_pair_3 15 rfl rfl)
theorem dX0_pair_83 : decode cX0_pair 83 = .ok (.aload_n 0, 1) := dk_42 (dk_at dksX0_pair_3 16 rfl rfl)
theorem dX0_pair_84 : decode cX0_pair 84 = .ok (.getfield 1338, 3) := dk_180 5 58 (dk_at dksX0_pair_3 17 rfl rfl)
theorem dX0_pair_87 : decode cX0_pair 87 = .ok (.iload_n 2, 1) := dk_28 (dk_at dksX0_pair_3 20 rfl rfl)
theorem dX0_pair_88 : decode cX0_pair 88 = .ok (.iconst 2, 1) := dk_5 (dk_at dksX0_pair_3 21 rfl rfl)
theorem dX0_pair_89 : decode cX0_pair 89 = .ok (.if_icmp .ne 7, 3) := dk_160 0 7 (dk_at dksX0_pair_4 0 rfl rfl)
theorem dX0_pair_92 : decode cX0_pair 92 = .ok (.iconst 0, 1) := dk_3 (dk_at dksX0_pair_4 3 rfl rfl)
theorem dX0_pair_93 : decode cX0_pair 93 = .ok (.goto 5, 3) := dk_167 0 5 (dk_at dksX0_pair_4 4 rfl rfl)
theorem dX0_pair_96 : decode cX0_pair 96 = .ok (.bipush 80, 2) := dk_16 80 (dk_at dksX0_pair_4 7 rfl rfl)
theorem dX0_pair_98 : decode cX0_pair 98 = .ok (.invokevirtual 676, 3) := dk_182 2 164 (dk_at dksX0_pair_4 9 rfl rfl)
theorem dX0_pair_101 : decode cX0_pair 101 = .ok (.invokevirtual 1021, 3) := dk_182 3 253 (dk_at dksX0_pair_4 12 rfl rfl)
theorem dX0_pair_104 : decode cX0_pair 104 = .ok (.ireturn, 1) := dk_172 (dk_at dksX0_pair_4 15 rfl rfl)
theorem dX0_pair_105 : decode cX0_pair 105 = .ok (.astore_n 3, 1) := dk_78 (dk_at dksX0_pair_4 16 rfl rfl)
theorem dX0_pair_106 : decode cX0_pair 106 = .ok (.aload_n 0, 1) := dk_42 (dk_at dksX0_pair_4 17 rfl rfl)
theorem dX0_pair_107 : decode cX0_pair 107 = .ok (.aload_n 3, 1) := dk_45 (dk_at dksX0_pair_4 18 rfl rfl)
theorem dX0_pair_108 : decode cX0_pair 108 = .ok (.invokevirtual 1063, 3) := dk_182 4 39 (dk_at dksX0_pair_4 19 rfl rfl)
theorem dX0_pair_111 : decode cX0_pair 111 = .ok (.ireturn, 1) := dk_172 (dk_at dksX0_pair_4 22 rfl rfl)
abbrev cX0_init : ByteArray := prog_1_method_235_code
def yX0_init : MethodName := ⟨RX0, "<init>", "()V"⟩
def dkwX0_init_46 : List UInt8 := [16, 60, 188, 10, 181, 4, 255, 42, 17, 0, 160, 188, 10, 181, 5, 58, 42, 182, 2, 207, 177]
abbrev dktX0_init_46 : List UInt8 := dkwX0_init_46 ++ []
def dkwX0_init_45 : List UInt8 := [188, 10, 181, 4, 207, 42, 17, 6, 64, 188, 10, 181, 4, 210, 42, 17, 6, 64, 188, 8, 181, 4, 213, 42]
abbrev dktX0_init_45 : List UInt8 := dkwX0_init_45 ++ dktX0_init_46
def dkwX0_init_44 : List UInt8 := [181, 4, 124, 42, 17, 78, 32, 188, 10, 181, 4, 165, 42, 7, 188, 10, 181, 4, 189, 42, 17, 6, 64]
abbrev dktX0_init_44 : List UInt8 := dkwX0_init_44 ++ dktX0_init_45
def dkwX0_init_43 : List UInt8 := [42, 17, 0, 200, 188, 10, 181, 4, 115, 42, 17, 0, 200, 188, 10, 181, 4, 121, 42, 17, 0, 200, 188, 10]
abbrev dktX0_init_43 : List UInt8 := dkwX0_init_43 ++ dktX0_init_44
def dkwX0_init_42 : List UInt8 := [42, 16, 120, 188, 10, 181, 4, 107, 42, 16, 120, 188, 10, 181, 4, 109, 42, 16, 120, 188, 10, 181, 4, 112]
abbrev dktX0_init_42 : List UInt8 := dkwX0_init_42 ++ dktX0_init_43
def dkwX0_init_41 : List UInt8 := [17, 28, 32, 188, 10, 181, 4, 91, 42, 16, 120, 188, 4, 181, 4, 97, 42, 16, 120, 188, 4, 181, 4, 100]
abbrev dktX0_init_41 : List UInt8 := dkwX0_init_41 ++ dktX0_init_42
def dkwX0_init_40 : List UInt8 := [188, 10, 181, 4, 79, 42, 16, 120, 188, 10, 181, 4, 82, 42, 16, 121, 188, 10, 181, 4, 85, 42]
abbrev dktX0_init_40 : List UInt8 := dkwX0_init_40 ++ dktX0_init_41
def dkwX0_init_39 : List UInt8 := [188, 10, 181, 4, 33, 42, 16, 120, 188, 10, 181, 4, 73, 42, 16, 120, 188, 10, 181, 4, 76, 42, 16, 120]
abbrev dktX0_init_39 : List UInt8 := dkwX0_init_39 ++ dktX0_init_40
def dkwX0_init_38 : List UInt8 := [181, 4, 64, 42, 16, 121, 188, 10, 181, 4, 67, 42, 17, 28, 32, 188, 10, 181, 4, 88, 42, 17, 0, 160]
abbrev dktX0_init_38 : List UInt8 := dkwX0_init_38 ++ dktX0_init_39
def dkwX0_init_37 : List UInt8 := [181, 4, 49, 42, 16, 120, 188, 10, 181, 4, 61, 42, 16, 120, 188, 10, 181, 4, 52, 42, 16, 120, 188, 10]
abbrev dktX0_init_37 : List UInt8 := dkwX0_init_37 ++ dktX0_init_38
def dkwX0_init_36 : List UInt8 := [181, 3, 225, 42, 16, 80, 188, 10, 181, 3, 228, 42, 16, 254, 181, 0, 181, 42, 17, 37, 128, 188, 10]
abbrev dktX0_init_36 : List UInt8 := dkwX0_init_36 ++ dktX0_init_37
def dkwX0_init_35 : List UInt8 := [181, 3, 195, 42, 16, 61, 188, 10, 181, 3, 237, 42, 16, 61, 188, 10, 181, 3, 239, 42, 16, 80, 188, 10]
abbrev dktX0_init_35 : List UInt8 := dkwX0_init_35 ++ dktX0_init_36
def dkwX0_init_34 : List UInt8 := [17, 1, 144, 188, 10, 181, 3, 63, 42, 17, 6, 64, 188, 10, 181, 3, 146, 42, 17, 35, 40, 188, 10]
abbrev dktX0_init_34 : List UInt8 := dkwX0_init_34 ++ dktX0_init_35
def dkwX0_init_33 : List UInt8 := [181, 3, 48, 42, 17, 1, 144, 188, 10, 181, 3, 57, 42, 17, 1, 144, 188, 10, 181, 3, 60, 42]
abbrev dktX0_init_33 : List UInt8 := dkwX0_init_33 ++ dktX0_init_34
def dkwX0_init_32 : List UInt8 := [17, 1, 144, 188, 10, 181, 3, 14, 42, 19, 5, 99, 188, 10, 181, 3, 84, 42, 17, 15, 160, 188, 10]
abbrev dktX0_init_32 : List UInt8 := dkwX0_init_32 ++ dktX0_init_33
def dkwX0_init_31 : List UInt8 := [188, 4, 181, 2, 171, 42, 16, 60, 188, 10, 181, 3, 39, 42, 17, 1, 144, 188, 10, 181, 3, 8, 42]
abbrev dktX0_init_31 : List UInt8 := dkwX0_init_31 ++ dktX0_init_32
def dkwX0_init_30 : List UInt8 := [181, 2, 192, 42, 17, 1, 164, 188, 10, 181, 2, 201, 42, 17, 1, 164, 188, 10, 181, 2, 198, 42, 16, 30]
abbrev dktX0_init_30 : List UInt8 := dkwX0_init_30 ++ dktX0_init_31
def dkwX0_init_29 : List UInt8 := [42, 17, 62, 128, 188, 10, 181, 2, 157, 42, 16, 70, 188, 10, 181, 2, 183, 42, 16, 70, 188, 10]
abbrev dktX0_init_29 : List UInt8 := dkwX0_init_29 ++ dktX0_init_30
def dkwX0_init_28 : List UInt8 := [17, 78, 32, 188, 10, 181, 2, 55, 42, 19, 2, 81, 188, 10, 181, 2, 87, 42, 6, 188, 10, 181, 2, 112]
abbrev dktX0_init_28 : List UInt8 := dkwX0_init_28 ++ dktX0_init_29
def dkwX0_init_27 : List UInt8 := [181, 2, 75, 42, 19, 2, 50, 188, 10, 181, 2, 51, 42, 19, 2, 82, 188, 10, 181, 2, 69, 42]
abbrev dktX0_init_27 : List UInt8 := dkwX0_init_27 ++ dktX0_init_28
def dkwX0_init_26 : List UInt8 := [19, 2, 81, 188, 10, 181, 2, 90, 42, 19, 2, 81, 188, 10, 181, 2, 78, 42, 19, 2, 81, 188, 10]
abbrev dktX0_init_26 : List UInt8 := dkwX0_init_26 ++ dktX0_init_27
def dkwX0_init_25 : List UInt8 := [188, 10, 181, 2, 63, 42, 19, 2, 81, 188, 10, 181, 2, 72, 42, 19, 2, 81, 188, 10, 181, 2, 66, 42]
abbrev dktX0_init_25 : List UInt8 := dkwX0_init_25 ++ dktX0_init_26
def dkwX0_init_24 : List UInt8 := [181, 2, 3, 42, 17, 4, 65, 188, 10, 181, 1, 250, 42, 6, 188, 10, 181, 2, 15, 42, 19, 2, 81]
abbrev dktX0_init_24 : List UInt8 := dkwX0_init_24 ++ dktX0_init_25
def dkwX0_init_23 : List UInt8 := [19, 5, 97, 188, 10, 181, 2, 9, 42, 19, 5, 98, 188, 10, 181, 2, 12, 42, 19, 5, 97, 188, 10]
abbrev dktX0_init_23 : List UInt8 := dkwX0_init_23 ++ dktX0_init_24
def dkwX0_init_22 : List UInt8 := [181, 1, 247, 42, 19, 5, 97, 188, 10, 181, 1, 253, 42, 19, 5, 97, 188, 10, 181, 2, 0, 42]
abbrev dktX0_init_22 : List UInt8 := dkwX0_init_22 ++ dktX0_init_23
def dkwX0_init_21 : List UInt8 := [181, 1, 223, 42, 4, 188, 8, 181, 1, 174, 42, 16, 30, 188, 10, 181, 1, 244, 42, 16, 30, 188, 10]
abbrev dktX0_init_21 : List UInt8 := dkwX0_init_21 ++ dktX0_init_22
def dkwX0_init_20 : List UInt8 := [181, 1, 229, 42, 16, 50, 188, 4, 181, 1, 232, 42, 16, 50, 188, 10, 181, 1, 235, 42, 16, 50, 188, 10]
abbrev dktX0_init_20 : List UInt8 := dkwX0_init_20 ++ dktX0_init_21
def dkwX0_init_19 : List UInt8 := [42, 16, 50, 188, 10, 181, 1, 226, 42, 17, 0, 150, 188, 10, 181, 1, 238, 42, 16, 50, 188, 4]
abbrev dktX0_init_19 : List UInt8 := dkwX0_init_19 ++ dktX0_init_20
def dkwX0_init_18 : List UInt8 := [42, 16, 50, 188, 4, 181, 1, 183, 42, 16, 50, 188, 10, 181, 1, 204, 42, 16, 50, 188, 10, 181, 1, 220]
abbrev dktX0_init_18 : List UInt8 := dkwX0_init_18 ++ dktX0_init_19
def dkwX0_init_17 : List UInt8 := [16, 50, 188, 10, 181, 1, 192, 42, 16, 50, 188, 10, 181, 1, 162, 42, 17, 2, 88, 188, 10, 181, 1, 165]
abbrev dktX0_init_17 : List UInt8 := dkwX0_init_17 ++ dktX0_init_18
def dkwX0_init_16 : List UInt8 := [188, 10, 181, 1, 195, 42, 17, 0, 150, 188, 10, 181, 1, 189, 42, 16, 50, 188, 10, 181, 1, 180, 42]
abbrev dktX0_init_16 : List UInt8 := dkwX0_init_16 ++ dktX0_init_17
def dkwX0_init_15 : List UInt8 := [188, 10, 181, 1, 136, 42, 16, 20, 188, 10, 181, 1, 142, 42, 16, 20, 188, 10, 181, 1, 145, 42, 16, 50]
abbrev dktX0_init_15 : List UInt8 := dkwX0_init_15 ++ dktX0_init_16
def dkwX0_init_14 : List UInt8 := [181, 1, 124, 42, 17, 1, 164, 188, 10, 181, 1, 130, 42, 17, 1, 164, 188, 10, 181, 1, 133, 42, 16, 20]
abbrev dktX0_init_14 : List UInt8 := dkwX0_init_14 ++ dktX0_init_15
def dkwX0_init_13 : List UInt8 := [17, 1, 164, 188, 10, 181, 1, 127, 42, 17, 1, 164, 188, 10, 181, 1, 121, 42, 17, 1, 164, 188, 10]
abbrev dktX0_init_13 : List UInt8 := dkwX0_init_13 ++ dktX0_init_14
def dkwX0_init_12 : List UInt8 := [188, 10, 181, 1, 112, 42, 16, 70, 188, 10, 181, 1, 115, 42, 16, 70, 188, 10, 181, 1, 100, 42]
abbrev dktX0_init_12 : List UInt8 := dkwX0_init_12 ++ dktX0_init_13
def dkwX0_init_11 : List UInt8 := [188, 10, 181, 1, 91, 42, 16, 70, 188, 10, 181, 1, 103, 42, 16, 70, 188, 10, 181, 1, 109, 42, 16, 70]
abbrev dktX0_init_11 : List UInt8 := dkwX0_init_11 ++ dktX0_init_12
def dkwX0_init_10 : List UInt8 := [188, 10, 181, 1, 84, 42, 16, 70, 188, 10, 181, 1, 94, 42, 16, 70, 188, 4, 181, 1, 87, 42, 16, 70]
abbrev dktX0_init_10 : List UInt8 := dkwX0_init_10 ++ dktX0_init_11
def dkwX0_init_9 : List UInt8 := [188, 10, 181, 1, 69, 42, 16, 50, 188, 10, 181, 1, 78, 42, 16, 30, 188, 10, 181, 1, 81, 42, 16, 30]
abbrev dktX0_init_9 : List UInt8 := dkwX0_init_9 ++ dktX0_init_10
def dkwX0_init_8 : List UInt8 := [188, 10, 181, 1, 37, 42, 16, 50, 188, 10, 181, 1, 56, 42, 16, 50, 188, 10, 181, 1, 64, 42, 16, 50]
abbrev dktX0_init_8 : List UInt8 := dkwX0_init_8 ++ dktX0_init_9
def dkwX0_init_7 : List UInt8 := [188, 10, 181, 1, 28, 42, 16, 50, 188, 10, 181, 1, 31, 42, 16, 50, 188, 10, 181, 1, 34, 42, 16, 50]
abbrev dktX0_init_7 : List UInt8 := dkwX0_init_7 ++ dktX0_init_8
def dkwX0_init_6 : List UInt8 := [181, 1, 19, 42, 17, 1, 204, 188, 10, 181, 1, 22, 42, 16, 50, 188, 10, 181, 1, 25, 42, 16, 50]
abbrev dktX0_init_6 : List UInt8 := dkwX0_init_6 ++ dktX0_init_7
def dkwX0_init_5 : List UInt8 := [17, 1, 204, 188, 10, 181, 1, 13, 42, 17, 1, 204, 188, 10, 181, 1, 16, 42, 17, 1, 204, 188, 10]
abbrev dktX0_init_5 : List UInt8 := dkwX0_init_5 ++ dktX0_init_6
def dkwX0_init_4 : List UInt8 := [181, 0, 75, 42, 16, 254, 181, 0, 30, 42, 16, 254, 181, 0, 33, 42, 16, 20, 188, 10, 181, 0, 255, 42]
abbrev dktX0_init_4 : List UInt8 := dkwX0_init_4 ++ dktX0_init_5
def dkwX0_init_3 : List UInt8 := [19, 5, 96, 188, 8, 181, 0, 82, 42, 17, 6, 164, 188, 10, 181, 0, 79, 42, 17, 6, 164, 188, 10]
abbrev dktX0_init_3 : List UInt8 := dkwX0_init_3 ++ dktX0_init_4
def dkwX0_init_2 : List UInt8 := [181, 0, 111, 42, 17, 3, 134, 188, 10, 181, 0, 114, 42, 17, 3, 134, 188, 10, 181, 0, 117, 42]
abbrev dktX0_init_2 : List UInt8 := dkwX0_init_2 ++ dktX0_init_3
def dkwX0_init_1 : List UInt8 := [42, 17, 23, 112, 188, 8, 181, 0, 27, 42, 17, 3, 134, 188, 10, 181, 0, 108, 42, 17, 3, 134, 188, 10]
abbrev dktX0_init_1 : List UInt8 := dkwX0_init_1 ++ dktX0_init_2
def dkwX0_init_0 : List UInt8 := [42, 183, 5, 90, 42, 187, 0, 8, 89, 183, 5, 95, 181, 0, 3, 42, 17, 23, 112, 188, 8, 181, 0, 16]
abbrev dktX0_init_0 : List UInt8 := dkwX0_init_0 ++ dktX0_init_1
theorem dksX0_init_0 : cX0_init.data.toList.drop 0 = dktX0_init_0 := by decide +kernel
theorem dksX0_init_1 : cX0_init.data.toList.drop 24 = dktX0_init_1 := dk_seg dksX0_init_0 24 rfl rfl
theorem dksX0_init_2 : cX0_init.data.toList.drop 48 = dktX0_init_2 := dk_seg dksX0_init_1 24 rfl rfl
theorem dksX0_init_3 : cX0_init.data.toList.drop 70 = dktX0_init_3 := dk_seg dksX0_init_2 22 rfl rfl
theorem dksX0_init_4 : cX0_init.data.toList.drop 93 = dktX0_init_4 := dk_seg dksX0_init_3 23 rfl rfl
theorem dksX0_init_5 : cX0_init.data.toList.drop 117 = dktX0_init_5 := dk_seg dksX0_init_4 24 rfl rfl
theorem dksX0_init_6 : cX0_init.data.toList.drop 140 = dktX0_init_6 := dk_seg dksX0_init_5 23 rfl rfl
theorem dksX0_init_7 : cX0_init.data.toList.drop 163 = dktX0_init_7 := dk_seg dksX0_init_6 23 rfl rfl
theorem dksX0_init_8 : cX0_init.data.toList.drop 187 = dktX0_init_8 := dk_seg dksX0_init_7 24 rfl rfl
theorem dksX0_init_9 : cX0_init.data.toList.drop 211 = dktX0_init_9 := dk_seg dksX0_init_8 24 rfl rfl
theorem dksX0_init_10 : cX0_init.data.toList.drop 235 = dktX0_init_10 := dk_seg dksX0_init_9 24 rfl rfl
theorem dksX0_init_11 : cX0_init.data.toList.drop 259 = dktX0_init_11 := dk_seg dksX0_init_10 24 rfl rfl
theorem dksX0_init_12 : cX0_init.data.toList.drop 283 = dktX0_init_12 := dk_seg dksX0_init_11 24 rfl rfl
theorem dksX0_init_13 : cX0_init.data.toList.drop 305 = dktX0_init_13 := dk_seg dksX0_init_12 22 rfl rfl
theorem dksX0_init_14 : cX0_init.data.toList.drop 328 = dktX0_init_14 := dk_seg dksX0_init_13 23 rfl rfl
theorem dksX0_init_15 : cX0_init.data.toList.drop 352 = dktX0_init_15 := dk_seg dksX0_init_14 24 rfl rfl
theorem dksX0_init_16 : cX0_init.data.toList.drop 376 = dktX0_init_16 := dk_seg dksX0_init_15 24 rfl rfl
theorem dksX0_init_17 : cX0_init.data.toList.drop 399 = dktX0_init_17 := dk_seg dksX0_init_16 23 rfl rfl
theorem dksX0_init_18 : cX0_init.data.toList.drop 423 = dktX0_init_18 := dk_seg dksX0_init_17 24 rfl rfl
theorem dksX0_init_19 : cX0_init.data.toList.drop 447 = dktX0_init_19 := dk_seg dksX0_init_18 24 rfl rfl
theorem dksX0_init_20 : cX0_init.data.toList.drop 469 = dktX0_init_20 := dk_seg dksX0_init_19 22 rfl rfl
theorem dksX0_init_21 : cX0_init.data.toList.drop 493 = dktX0_init_21 := dk_seg dksX0_init_20 24 rfl rfl
theorem dksX0_init_22 : cX0_init.data.toList.drop 516 = dktX0_init_22 := dk_seg dksX0_init_21 23 rfl rfl
theorem dksX0_init_23 : cX0_init.data.toList.drop 538 = dktX0_init_23 := dk_seg dksX0_init_22 22 rfl rfl
theorem dksX0_init_24 : cX0_init.data.toList.drop 561 = dktX0_init_24 := dk_seg dksX0_init_23 23 rfl rfl
theorem dksX0_init_25 : cX0_init.data.toList.drop 584 = dktX0_init_25 := dk_seg dksX0_init_24 23 rfl rfl
theorem dksX0_init_26 : cX0_init.data.toList.drop 608 = dktX0_init_26 := dk_seg dksX0_init_25 24 rfl rfl
theorem dksX0_init_27 : cX0_init.data.toList.drop 631 = dktX0_init_27 := dk_seg dksX0_init_26 23 rfl rfl
theorem dksX0_init_28 : cX0_init.data.toList.drop 653 = dktX0_init_28 := dk_seg dksX0_init_27 22 rfl rfl
theorem dksX0_init_29 : cX0_init.data.toList.drop 677 = dktX0_init_29 := dk_seg dksX0_init_28 24 rfl rfl
theorem dksX0_init_30 : cX0_init.data.toList.drop 699 = dktX0_init_30 := dk_seg dksX0_init_29 22 rfl rfl
theorem dksX0_init_31 : cX0_init.data.toList.drop 723 = dktX0_init_31 := dk_seg dksX0_init_30 24 rfl rfl
theorem dksX0_init_32 : cX0_init.data.toList.drop 746 = dktX0_init_32 := dk_seg dksX0_init_31 23 rfl rfl
theorem dksX0_init_33 : cX0_init.data.toList.drop 769 = dktX0_init_33 := dk_seg dksX0_init_32 23 rfl rfl
theorem dksX0_init_34 : cX0_init.data.toList.drop 791 = dktX0_init_34 := dk_seg dksX0_init_33 22 rfl rfl
theorem dksX0_init_35 : cX0_init.data.toList.drop 814 = dktX0_init_35 := dk_seg dksX0_init_34 23 rfl rfl
theorem dksX0_init_36 : cX0_init.data.toList.drop 838 = dktX0_init_36 := dk_seg dksX0_init_35 24 rfl rfl
theorem dksX0_init_37 : cX0_init.data.toList.drop 861 = dktX0_init_37 := dk_seg dksX0_init_36 23 rfl rfl
theorem dksX0_init_38 : cX0_init.data.toList.drop 885 = dktX0_init_38 := dk_seg dksX0_init_37 24 rfl rfl
theorem dksX0_init_39 : cX0_init.data.toList.drop 909 = dktX0_init_39 := dk_seg dksX0_init_38 24 rfl rfl
theorem dksX0_init_40 : cX0_init.data.toList.drop 933 = dktX0_init_40 := dk_seg dksX0_init_39 24 rfl rfl
theorem dksX0_init_41 : cX0_init.data.toList.drop 955 = dktX0_init_41 := dk_seg dksX0_init_40 22 rfl rfl
theorem dksX0_init_42 : cX0_init.data.toList.drop 979 = dktX0_init_42 := dk_seg dksX0_init_41 24 rfl rfl
theorem dksX0_init_43 : cX0_init.data.toList.drop 1003 = dktX0_init_43 := dk_seg dksX0_init_42 24 rfl rfl
theorem dksX0_init_44 : cX0_init.data.toList.drop 1027 = dktX0_init_44 := dk_seg dksX0_init_43 24 rfl rfl
theorem dksX0_init_45 : cX0_init.data.toList.drop 1050 = dktX0_init_45 := dk_seg dksX0_init_44 23 rfl rfl
theorem dksX0_init_46 : cX0_init.data.toList.drop 1074 = dktX0_init_46 := dk_seg dksX0_init_45 24 rfl rfl
theorem dX0_init_0 : decode cX0_init 0 = .ok (.aload_n 0, 1) := dk_42 (dk_at dksX0_init_0 0 rfl rfl)
theorem dX0_init_1 : decode cX0_init 1 = .ok (.invokespecial 1370, 3) := dk_183 5 90 (dk_at dksX0_init_0 1 rfl rfl)
theorem dX0_init_4 : decode cX0_init 4 = .ok (.aload_n 0, 1) := dk_42 (dk_at dksX0_init_0 4 rfl rfl)
theorem dX0_init_5 : decode cX0_init 5 = .ok (.new 8, 3) := dk_187 0 8 (dk_at dksX0_init_0 5 rfl rfl)
theorem dX0_init_8 : decode cX0_init 8 = .ok (.dup, 1) := dk_89 (dk_at dksX0_init_0 8 rfl rfl)
theorem dX0_init_9 : decode cX0_init 9 = .ok (.invokespecial 1375, 3) := dk_183 5 95 (dk_at dksX0_init_0 9 rfl rfl)
theorem dX0_init_12 : decode cX0_init 12 = .ok (.putfield 3, 3) := dk_181 0 3 (dk_at dksX0_init_0 12 rfl rfl)
theorem dX0_init_15 : decode cX0_init 15 = .ok (.aload_n 0, 1) := dk_42 (dk_at dksX0_init_0 15 rfl rfl)
theorem dX0_init_16 : decode cX0_init 16 = .ok (.sipush 6000, 3) := dk_17 23 112 (dk_at dksX0_init_0 16 rfl rfl)
theorem dX0_init_19 : decode cX0_init 19 = .ok (.newarray .byte, 2) := dk_188_8 (dk_at dksX0_init_0 19 rfl rfl)
theorem dX0_init_21 : decode cX0_init 21 = .ok (.putfield 16, 3) := dk_181 0 16 (dk_at dksX0_init_0 21 rfl rfl)
theorem dX0_init_24 : decode cX0_init 24 = .ok (.aload_n 0, 1) := dk_42 (dk_at dksX0_init_1 0 rfl rfl)
theorem dX0_init_25 : decode cX0_init 25 = .ok (.sipush 6000, 3) := dk_17 23 112 (dk_at dksX0_init_1 1 rfl rfl)
theorem dX0_init_28 : decode cX0_init 28 = .ok (.newarray .byte, 2) := dk_188_8 (dk_at dksX0_init_1 4 rfl rfl)
theorem dX0_init_30 : decode cX0_init 30 = .ok (.putfield 27, 3) := dk_181 0 27 (dk_at dksX0_init_1 6 rfl rfl)
theorem dX0_init_33 : decode cX0_init 33 = .ok (.aload_n 0, 1) := dk_42 (dk_at dksX0_init_1 9 rfl rfl)
theorem dX0_init_34 : decode cX0_init 34 = .ok (.sipush 902, 3) := dk_17 3 134 (dk_at dksX0_init_1 10 rfl rfl)
theorem dX0_init_37 : decode cX0_init 37 = .ok (.newarray .int, 2) := dk_188_10 (dk_at dksX0_init_1 13 rfl rfl)
theorem dX0_init_39 : decode cX0_init 39 = .ok (.putfield 108, 3) := dk_181 0 108 (dk_at dksX0_init_1 15 rfl rfl)
theorem dX0_init_42 : decode cX0_init 42 = .ok (.aload_n 0, 1) := dk_42 (dk_at dksX0_init_1 18 rfl rfl)
theorem dX0_init_43 : decode cX0_init 43 = .ok (.sipush 902, 3) := dk_17 3 134 (dk_at dksX0_init_1 19 rfl rfl)
theorem dX0_init_46 : decode cX0_init 46 = .ok (.newarray .int, 2) := dk_188_10 (dk_at dksX0_init_1 22 rfl rfl)
theorem dX0_init_48 : decode cX0_init 48 = .ok (.putfield 111, 3) := dk_181 0 111 (dk_at dksX0_init_2 0 rfl rfl)
theorem dX0_init_51 : decode cX0_init 51 = .ok (.aload_n 0, 1) := dk_42 (dk_at dksX0_init_2 3 rfl rfl)
theorem dX0_init_52 : decode cX0_init 52 = .ok (.sipush 902, 3) := dk_17 3 134 (dk_at dksX0_init_2 4 rfl rfl)
theorem dX0_init_55 : decode cX0_init 55 = .ok (.newarray .int, 2) := dk_188_10 (dk_at dksX0_init_2 7 rfl rfl)
theorem dX0_init_57 : decode cX0_init 57 = .ok (.putfield 114, 3) := dk_181 0 114 (dk_at dksX0_init_2 9 rfl rfl)
theorem dX0_init_60 : decode cX0_init 60 = .ok (.aload_n 0, 1) := dk_42 (dk_at dksX0_init_2 12 rfl rfl)
theorem dX0_init_61 : decode cX0_init 61 = .ok (.sipush 902, 3) := dk_17 3 134 (dk_at dksX0_init_2 13 rfl rfl)
theorem dX0_init_64 : decode cX0_init 64 = .ok (.newarray .int, 2) := dk_188_10 (dk_at dksX0_init_2 16 rfl rfl)
theorem dX0_init_66 : decode cX0_init 66 = .ok (.putfield 117, 3) := dk_181 0 117 (dk_at dksX0_init_2 18 rfl rfl)
theorem dX0_init_69 : decode cX0_init 69 = .ok (.aload_n 0, 1) := dk_42 (dk_at dksX0_init_2 21 rfl rfl)
theorem dX0_init_70 : decode cX0_init 70 = .ok (.ldc_w 1376, 3) := dk_19 5 96 (dk_at dksX0_init_3 0 rfl rfl)
theorem dX0_init_73 : decode cX0_init 73 = .ok (.newarray .byte, 2) := dk_188_8 (dk_at dksX0_init_3 3 rfl rfl)
theorem dX0_init_75 : decode cX0_init 75 = .ok (.putfield 82, 3) := dk_181 0 82 (dk_at dksX0_init_3 5 rfl rfl)
theorem dX0_init_78 : decode cX0_init 78 = .ok (.aload_n 0, 1) := dk_42 (dk_at dksX0_init_3 8 rfl rfl)
theorem dX0_init_79 : decode cX0_init 79 = .ok (.sipush 1700, 3) := dk_17 6 164 (dk_at dksX0_init_3 9 rfl rfl)
theorem dX0_init_82 : decode cX0_init 82 = .ok (.newarray .int, 2) := dk_188_10 (dk_at dksX0_init_3 12 rfl rfl)
theorem dX0_init_84 : decode cX0_init 84 = .ok (.putfield 79, 3) := dk_181 0 79 (dk_at dksX0_init_3 14 rfl rfl)
theorem dX0_init_87 : decode cX0_init 87 = .ok (.aload_n 0, 1) := dk_42 (dk_at dksX0_init_3 17 rfl rfl)
theorem dX0_init_88 : decode cX0_init 88 = .ok (.sipush 1700, 3) := dk_17 6 164 (dk_at dksX0_init_3 18 rfl rfl)
theorem dX0_init_91 : decode cX0_init 91 = .ok (.newarray .int, 2) := dk_188_10 (dk_at dksX0_init_3 21 rfl rfl)
theorem dX0_init_93 : decode cX0_init 93 = .ok (.putfield 75, 3) := dk_181 0 75 (dk_at dksX0_init_4 0 rfl rfl)
theorem dX0_init_96 : decode cX0_init 96 = .ok (.aload_n 0, 1) := dk_42 (dk_at dksX0_init_4 3 rfl rfl)
theorem dX0_init_97 : decode cX0_init 97 = .ok (.bipush (-2), 2) := dk_16 254 (dk_at dksX0_init_4 4 rfl rfl)
theorem dX0_init_99 : decode cX0_init 99 = .ok (.putfield 30, 3) := dk_181 0 30 (dk_at dksX0_init_4 6 rfl rfl)
theorem dX0_init_102 : decode cX0_init 102 = .ok (.aload_n 0, 1) := dk_42 (dk_at dksX0_init_4 9 rfl rfl)
theorem dX0_init_103 : decode cX0_init 103 = .ok (.bipush (-2), 2) := dk_16 254 (dk_at dksX0_init_4 10 rfl rfl)
theorem dX0_init_105 : decode cX0_init 105 = .ok (.putfield 33, 3) := dk_181 0 33 (dk_at dksX0_init_4 12 rfl rfl)
theorem dX0_init_108 : decode cX0_init 108 = .ok (.aload_n 0, 1) := dk_42 (dk_at dksX0_init_4 15 rfl rfl)
theorem dX0_init_109 : decode cX0_init 109 = .ok (.bipush 20, 2) := dk_16 20 (dk_at dksX0_init_4 16 rfl rfl)
theorem dX0_init_111 : decode cX0_init 111 = .ok (.newarray .int, 2) := dk_188_10 (dk_at dksX0_init_4 18 rfl rfl)
theorem dX0_init_113 : decode cX0_init 113 = .ok (.putfield 255, 3) := dk_181 0 255 (dk_at dksX0_init_4 20 rfl rfl)
theorem dX0_init_116 : decode cX0_init 116 = .ok (.aload_n 0, 1) := dk_42 (dk_at dksX0_init_4 23 rfl rfl)
theorem dX0_init_117 : decode cX0_init 117 = .ok (.sipush 460, 3) := dk_17 1 204 (dk_at dksX0_init_5 0 rfl rfl)
theorem dX0_init_120 : decode cX0_init 120 = .ok (.newarray .int, 2) := dk_188_10 (dk_at dksX0_init_5 3 rfl rfl)
theorem dX0_init_122 : decode cX0_init 122 = .ok (.putfield 269, 3) := dk_181 1 13 (dk_at dksX0_init_5 5 rfl rfl)
theorem dX0_init_125 : decode cX0_init 125 = .ok (.aload_n 0, 1) := dk_42 (dk_at dksX0_init_5 8 rfl rfl)
theorem dX0_init_126 : decode cX0_init 126 = .ok (.sipush 460, 3) := dk_17 1 204 (dk_at dksX0_init_5 9 rfl rfl)
theorem dX0_init_129 : decode cX0_init 129 = .ok (.newarray .int, 2) := dk_188_10 (dk_at dksX0_init_5 12 rfl rfl)
theorem dX0_init_131 : decode cX0_init 131 = .ok (.putfield 272, 3) := dk_181 1 16 (dk_at dksX0_init_5 14 rfl rfl)
theorem dX0_init_134 : decode cX0_init 134 = .ok (.aload_n 0, 1) := dk_42 (dk_at dksX0_init_5 17 rfl rfl)
theorem dX0_init_135 : decode cX0_init 135 = .ok (.sipush 460, 3) := dk_17 1 204 (dk_at dksX0_init_5 18 rfl rfl)
theorem dX0_init_138 : decode cX0_init 138 = .ok (.newarray .int, 2) := dk_188_10 (dk_at dksX0_init_5 21 rfl rfl)
theorem dX0_init_140 : decode cX0_init 140 = .ok (.putfield 275, 3) := dk_181 1 19 (dk_at dksX0_init_6 0 rfl rfl)
theorem dX0_init_143 : decode cX0_init 143 = .ok (.aload_n 0, 1) := dk_42 (dk_at dksX0_init_6 3 rfl rfl)
theorem dX0_init_144 : decode cX0_init 144 = .ok (.sipush 460, 3) := dk_17 1 204 (dk_at dksX0_init_6 4 rfl rfl)
theorem dX0_init_147 : decode cX0_init 147 = .ok (.newarray .int, 2) := dk_188_10 (dk_at dksX0_init_6 7 rfl rfl)
theorem dX0_init_149 : decode cX0_init 149 = .ok (.putfield 278, 3) := dk_181 1 22 (dk_at dksX0_init_6 9 rfl rfl)
theorem dX0_init_152 : decode cX0_init 152 = .ok (.aload_n 0, 1) := dk_42 (dk_at dksX0_init_6 12 rfl rfl)
theorem dX0_init_153 : decode cX0_init 153 = .ok (.bipush 50, 2) := dk_16 50 (dk_at dksX0_init_6 13 rfl rfl)
theorem dX0_init_155 : decode cX0_init 155 = .ok (.newarray .int, 2) := dk_188_10 (dk_at dksX0_init_6 15 rfl rfl)
theorem dX0_init_157 : decode cX0_init 157 = .ok (.putfield 281, 3) := dk_181 1 25 (dk_at dksX0_init_6 17 rfl rfl)
theorem dX0_init_160 : decode cX0_init 160 = .ok (.aload_n 0, 1) := dk_42 (dk_at dksX0_init_6 20 rfl rfl)
theorem dX0_init_161 : decode cX0_init 161 = .ok (.bipush 50, 2) := dk_16 50 (dk_at dksX0_init_6 21 rfl rfl)
theorem dX0_init_163 : decode cX0_init 163 = .ok (.newarray .int, 2) := dk_188_10 (dk_at dksX0_init_7 0 rfl rfl)
theorem dX0_init_165 : decode cX0_init 165 = .ok (.putfield 284, 3) := dk_181 1 28 (dk_at dksX0_init_7 2 rfl rfl)
theorem dX0_init_168 : decode cX0_init 168 = .ok (.aload_n 0, 1) := dk_42 (dk_at dksX0_init_7 5 rfl rfl)
theorem dX0_init_169 : decode cX0_init 169 = .ok (.bipush 50, 2) := dk_16 50 (dk_at dksX0_init_7 6 rfl rfl)
theorem dX0_init_171 : decode cX0_init 171 = .ok (.newarray .int, 2) := dk_188_10 (dk_at dksX0_init_7 8 rfl rfl)
theorem dX0_init_173 : decode cX0_init 173 = .ok (.putfield 287, 3) := dk_181 1 31 (dk_at dksX0_init_7 10 rfl rfl)
theorem dX0_init_176 : decode cX0_init 176 = .ok (.aload_n 0, 1) := dk_42 (dk_at dksX0_init_7 13 rfl rfl)
theorem dX0_init_177 : decode cX0_init 177 = .ok (.bipush 50, 2) := dk_16 50 (dk_at dksX0_init_7 14 rfl rfl)
theorem dX0_init_179 : decode cX0_init 179 = .ok (.newarray .int, 2) := dk_188_10 (dk_at dksX0_init_7 16 rfl rfl)
theorem dX0_init_181 : decode cX0_init 181 = .ok (.putfield 290, 3) := dk_181 1 34 (dk_at dksX0_init_7 18 rfl rfl)
theorem dX0_init_184 : decode cX0_init 184 = .ok (.aload_n 0, 1) := dk_42 (dk_at dksX0_init_7 21 rfl rfl)
theorem dX0_init_185 : decode cX0_init 185 = .ok (.bipush 50, 2) := dk_16 50 (dk_at dksX0_init_7 22 rfl rfl)
theorem dX0_init_187 : decode cX0_init 187 = .ok (.newarray .int, 2) := dk_188_10 (dk_at dksX0_init_8 0 rfl rfl)
theorem dX0_init_189 : decode cX0_init 189 = .ok (.putfield 293, 3) := dk_181 1 37 (dk_at dksX0_init_8 2 rfl rfl)
theorem dX0_init_192 : decode cX0_init 192 = .ok (.aload_n 0, 1) := dk_42 (dk_at dksX0_init_8 5 rfl rfl)
theorem dX0_init_193 : decode cX0_init 193 = .ok (.bipush 50, 2) := dk_16 50 (dk_at dksX0_init_8 6 rfl rfl)
theorem dX0_init_195 : decode cX0_init 195 = .ok (.newarray .int, 2) := dk_188_10 (dk_at dksX0_init_8 8 rfl rfl)
theorem dX0_init_197 : decode cX0_init 197 = .ok (.putfield 312, 3) := dk_181 1 56 (dk_at dksX0_init_8 10 rfl rfl)
theorem dX0_init_200 : decode cX0_init 200 = .ok (.aload_n 0, 1) := dk_42 (dk_at dksX0_init_8 13 rfl rfl)
theorem dX0_init_201 : decode cX0_init 201 = .ok (.bipush 50, 2) := dk_16 50 (dk_at dksX0_init_8 14 rfl rfl)
theorem dX0_init_203 : decode cX0_init 203 = .ok (.newarray .int, 2) := dk_188_10 (dk_at dksX0_init_8 16 rfl rfl)
theorem dX0_init_205 : decode cX0_init 205 = .ok (.putfield 320, 3) := dk_181 1 64 (dk_at dksX0_init_8 18 rfl rfl)
theorem dX0_init_208 : decode cX0_init 208 = .ok (.aload_n 0, 1) := dk_42 (dk_at dksX0_init_8 21 rfl rfl)
theorem dX0_init_209 : decode cX0_init 209 = .ok (.bipush 50, 2) := dk_16 50 (dk_at dksX0_init_8 22 rfl rfl)
theorem dX0_init_211 : decode cX0_init 211 = .ok (.newarray .int, 2) := dk_188_10 (dk_at dksX0_init_9 0 rfl rfl)
theorem dX0_init_213 : decode cX0_init 213 = .ok (.putfield 325, 3) := dk_181 1 69 (dk_at dksX0_init_9 2 rfl rfl)
theorem dX0_init_216 : decode cX0_init 216 = .ok (.aload_n 0, 1) := dk_42 (dk_at dksX0_init_9 5 rfl rfl)
theorem dX0_init_217 : decode cX0_init 217 = .ok (.bipush 50, 2) := dk_16 50 (dk_at dksX0_init_9 6 rfl rfl)
theorem dX0_init_219 : decode cX0_init 219 = .ok (.newarray .int, 2) := dk_188_10 (dk_at dksX0_init_9 8 rfl rfl)
theorem dX0_init_221 : decode cX0_init 221 = .ok (.putfield 334, 3) := dk_181 1 78 (dk_at dksX0_init_9 10 rfl rfl)
theorem dX0_init_224 : decode cX0_init 224 = .ok (.aload_n 0, 1) := dk_42 (dk_at dksX0_init_9 13 rfl rfl)
theorem dX0_init_225 : decode cX0_init 225 = .ok (.bipush 30, 2) := dk_16 30 (dk_at dksX0_init_9 14 rfl rfl)
theorem dX0_init_227 : decode cX0_init 227 = .ok (.newarray .int, 2) := dk_188_10 (dk_at dksX0_init_9 16 rfl rfl)
theorem dX0_init_229 : decode cX0_init 229 = .ok (.putfield 337, 3) := dk_181 1 81 (dk_at dksX0_init_9 18 rfl rfl)
theorem dX0_init_232 : decode cX0_init 232 = .ok (.aload_n 0, 1) := dk_42 (dk_at dksX0_init_9 21 rfl rfl)
theorem dX0_init_233 : decode cX0_init 233 = .ok (.bipush 30, 2) := dk_16 30 (dk_at dksX0_init_9 22 rfl rfl)
theorem dX0_init_235 : decode cX0_init 235 = .ok (.newarray .int, 2) := dk_188_10 (dk_at dksX0_init_10 0 rfl rfl)
theorem dX0_init_237 : decode cX0_init 237 = .ok (.putfield 340, 3) := dk_181 1 84 (dk_at dksX0_init_10 2 rfl rfl)
theorem dX0_init_240 : decode cX0_init 240 = .ok (.aload_n 0, 1) := dk_42 (dk_at dksX0_init_10 5 rfl rfl)
theorem dX0_init_241 : decode cX0_init 241 = .ok (.bipush 70, 2) := dk_16 70 (dk_at dksX0_init_10 6 rfl rfl)
theorem dX0_init_243 : decode cX0_init 243 = .ok (.newarray .int, 2) := dk_188_10 (dk_at dksX0_init_10 8 rfl rfl)
theorem dX0_init_245 : decode cX0_init 245 = .ok (.putfield 350, 3) := dk_181 1 94 (dk_at dksX0_init_10 10 rfl rfl)
theorem dX0_init_248 : decode cX0_init 248 = .ok (.aload_n 0, 1) := dk_42 (dk_at dksX0_init_10 13 rfl rfl)
theorem dX0_init_249 : decode cX0_init 249 = .ok (.bipush 70, 2) := dk_16 70 (dk_at dksX0_init_10 14 rfl rfl)
theorem dX0_init_251 : decode cX0_init 251 = .ok (.newarray .boolean, 2) := dk_188_4 (dk_at dksX0_init_10 16 rfl rfl)
theorem dX0_init_253 : decode cX0_init 253 = .ok (.putfield 343, 3) := dk_181 1 87 (dk_at dksX0_init_10 18 rfl rfl)
theorem dX0_init_256 : decode cX0_init 256 = .ok (.aload_n 0, 1) := dk_42 (dk_at dksX0_init_10 21 rfl rfl)
theorem dX0_init_257 : decode cX0_init 257 = .ok (.bipush 70, 2) := dk_16 70 (dk_at dksX0_init_10 22 rfl rfl)
theorem dX0_init_259 : decode cX0_init 259 = .ok (.newarray .int, 2) := dk_188_10 (dk_at dksX0_init_11 0 rfl rfl)
theorem dX0_init_261 : decode cX0_init 261 = .ok (.putfield 347, 3) := dk_181 1 91 (dk_at dksX0_init_11 2 rfl rfl)
theorem dX0_init_264 : decode cX0_init 264 = .ok (.aload_n 0, 1) := dk_42 (dk_at dksX0_init_11 5 rfl rfl)
theorem dX0_init_265 : decode cX0_init 265 = .ok (.bipush 70, 2) := dk_16 70 (dk_at dksX0_init_11 6 rfl rfl)
theorem dX0_init_267 : decode cX0_init 267 = .ok (.newarray .int, 2) := dk_188_10 (dk_at dksX0_init_11 8 rfl rfl)
theorem dX0_init_269 : decode cX0_init 269 = .ok (.putfield 359, 3) := dk_181 1 103 (dk_at dksX0_init_11 10 rfl rfl)
theorem dX0_init_272 : decode cX0_init 272 = .ok (.aload_n 0, 1) := dk_42 (dk_at dksX0_init_11 13 rfl rfl)
theorem dX0_init_273 : decode cX0_init 273 = .ok (.bipush 70, 2) := dk_16 70 (dk_at dksX0_init_11 14 rfl rfl)
theorem dX0_init_275 : decode cX0_init 275 = .ok (.newarray .int, 2) := dk_188_10 (dk_at dksX0_init_11 16 rfl rfl)
theorem dX0_init_277 : decode cX0_init 277 = .ok (.putfield 365, 3) := dk_181 1 109 (dk_at dksX0_init_11 18 rfl rfl)
theorem dX0_init_280 : decode cX0_init 280 = .ok (.aload_n 0, 1) := dk_42 (dk_at dksX0_init_11 21 rfl rfl)
theorem dX0_init_281 : decode cX0_init 281 = .ok (.bipush 70, 2) := dk_16 70 (dk_at dksX0_init_11 22 rfl rfl)
theorem dX0_init_283 : decode cX0_init 283 = .ok (.newarray .int, 2) := dk_188_10 (dk_at dksX0_init_12 0 rfl rfl)
theorem dX0_init_285 : decode cX0_init 285 = .ok (.putfield 368, 3) := dk_181 1 112 (dk_at dksX0_init_12 2 rfl rfl)
theorem dX0_init_288 : decode cX0_init 288 = .ok (.aload_n 0, 1) := dk_42 (dk_at dksX0_init_12 5 rfl rfl)
theorem dX0_init_289 : decode cX0_init 289 = .ok (.bipush 70, 2) := dk_16 70 (dk_at dksX0_init_12 6 rfl rfl)
theorem dX0_init_291 : decode cX0_init 291 = .ok (.newarray .int, 2) := dk_188_10 (dk_at dksX0_init_12 8 rfl rfl)
theorem dX0_init_293 : decode cX0_init 293 = .ok (.putfield 371, 3) := dk_181 1 115 (dk_at dksX0_init_12 10 rfl rfl)
theorem dX0_init_296 : decode cX0_init 296 = .ok (.aload_n 0, 1) := dk_42 (dk_at dksX0_init_12 13 rfl rfl)
theorem dX0_init_297 : decode cX0_init 297 = .ok (.bipush 70, 2) := dk_16 70 (dk_at dksX0_init_12 14 rfl rfl)
theorem dX0_init_299 : decode cX0_init 299 = .ok (.newarray .int, 2) := dk_188_10 (dk_at dksX0_init_12 16 rfl rfl)
theorem dX0_init_301 : decode cX0_init 301 = .ok (.putfield 356, 3) := dk_181 1 100 (dk_at dksX0_init_12 18 rfl rfl)
theorem dX0_init_304 : decode cX0_init 304 = .ok (.aload_n 0, 1) := dk_42 (dk_at dksX0_init_12 21 rfl rfl)
theorem dX0_init_305 : decode cX0_init 305 = .ok (.sipush 420, 3) := dk_17 1 164 (dk_at dksX0_init_13 0 rfl rfl)
theorem dX0_init_308 : decode cX0_init 308 = .ok (.newarray .int, 2) := dk_188_10 (dk_at dksX0_init_13 3 rfl rfl)
theorem dX0_init_310 : decode cX0_init 310 = .ok (.putfield 383, 3) := dk_181 1 127 (dk_at dksX0_init_13 5 rfl rfl)
theorem dX0_init_313 : decode cX0_init 313 = .ok (.aload_n 0, 1) := dk_42 (dk_at dksX0_init_13 8 rfl rfl)
theorem dX0_init_314 : decode cX0_init 314 = .ok (.sipush 420, 3) := dk_17 1 164 (dk_at dksX0_init_13 9 rfl rfl)
theorem dX0_init_317 : decode cX0_init 317 = .ok (.newarray .int, 2) := dk_188_10 (dk_at dksX0_init_13 12 rfl rfl)
theorem dX0_init_319 : decode cX0_init 319 = .ok (.putfield 377, 3) := dk_181 1 121 (dk_at dksX0_init_13 14 rfl rfl)
theorem dX0_init_322 : decode cX0_init 322 = .ok (.aload_n 0, 1) := dk_42 (dk_at dksX0_init_13 17 rfl rfl)
theorem dX0_init_323 : decode cX0_init 323 = .ok (.sipush 420, 3) := dk_17 1 164 (dk_at dksX0_init_13 18 rfl rfl)
theorem dX0_init_326 : decode cX0_init 326 = .ok (.newarray .int, 2) := dk_188_10 (dk_at dksX0_init_13 21 rfl rfl)
theorem dX0_init_328 : decode cX0_init 328 = .ok (.putfield 380, 3) := dk_181 1 124 (dk_at dksX0_init_14 0 rfl rfl)
theorem dX0_init_331 : decode cX0_init 331 = .ok (.aload_n 0, 1) := dk_42 (dk_at dksX0_init_14 3 rfl rfl)
theorem dX0_init_332 : decode cX0_init 332 = .ok (.sipush 420, 3) := dk_17 1 164 (dk_at dksX0_init_14 4 rfl rfl)
theorem dX0_init_335 : decode cX0_init 335 = .ok (.newarray .int, 2) := dk_188_10 (dk_at dksX0_init_14 7 rfl rfl)
theorem dX0_init_337 : decode cX0_init 337 = .ok (.putfield 386, 3) := dk_181 1 130 (dk_at dksX0_init_14 9 rfl rfl)
theorem dX0_init_340 : decode cX0_init 340 = .ok (.aload_n 0, 1) := dk_42 (dk_at dksX0_init_14 12 rfl rfl)
theorem dX0_init_341 : decode cX0_init 341 = .ok (.sipush 420, 3) := dk_17 1 164 (dk_at dksX0_init_14 13 rfl rfl)
theorem dX0_init_344 : decode cX0_init 344 = .ok (.newarray .int, 2) := dk_188_10 (dk_at dksX0_init_14 16 rfl rfl)
theorem dX0_init_346 : decode cX0_init 346 = .ok (.putfield 389, 3) := dk_181 1 133 (dk_at dksX0_init_14 18 rfl rfl)
theorem dX0_init_349 : decode cX0_init 349 = .ok (.aload_n 0, 1) := dk_42 (dk_at dksX0_init_14 21 rfl rfl)
theorem dX0_init_350 : decode cX0_init 350 = .ok (.bipush 20, 2) := dk_16 20 (dk_at dksX0_init_14 22 rfl rfl)
theorem dX0_init_352 : decode cX0_init 352 = .ok (.newarray .int, 2) := dk_188_10 (dk_at dksX0_init_15 0 rfl rfl)
theorem dX0_init_354 : decode cX0_init 354 = .ok (.putfield 392, 3) := dk_181 1 136 (dk_at dksX0_init_15 2 rfl rfl)
theorem dX0_init_357 : decode cX0_init 357 = .ok (.aload_n 0, 1) := dk_42 (dk_at dksX0_init_15 5 rfl rfl)
theorem dX0_init_358 : decode cX0_init 358 = .ok (.bipush 20, 2) := dk_16 20 (dk_at dksX0_init_15 6 rfl rfl)
theorem dX0_init_360 : decode cX0_init 360 = .ok (.newarray .int, 2) := dk_188_10 (dk_at dksX0_init_15 8 rfl rfl)
theorem dX0_init_362 : decode cX0_init 362 = .ok (.putfield 398, 3) := dk_181 1 142 (dk_at dksX0_init_15 10 rfl rfl)
theorem dX0_init_365 : decode cX0_init 365 = .ok (.aload_n 0, 1) := dk_42 (dk_at dksX0_init_15 13 rfl rfl)
theorem dX0_init_366 : decode cX0_init 366 = .ok (.bipush 20, 2) := dk_16 20 (dk_at dksX0_init_15 14 rfl rfl)
theorem dX0_init_368 : decode cX0_init 368 = .ok (.newarray .int, 2) := dk_188_10 (dk_at dksX0_init_15 16 rfl rfl)
theorem dX0_init_370 : decode cX0_init 370 = .ok (.putfield 401, 3) := dk_181 1 145 (dk_at dksX0_init_15 18 rfl rfl)
theorem dX0_init_373 : decode cX0_init 373 = .ok (.aload_n 0, 1) := dk_42 (dk_at dksX0_init_15 21 rfl rfl)
theorem dX0_init_374 : decode cX0_init 374 = .ok (.bipush 50, 2) := dk_16 50 (dk_at dksX0_init_15 22 rfl rfl)
theorem dX0_init_376 : decode cX0_init 376 = .ok (.newarray .int, 2) := dk_188_10 (dk_at dksX0_init_16 0 rfl rfl)
theorem dX0_init_378 : decode cX0_init 378 = .ok (.putfield 451, 3) := dk_181 1 195 (dk_at dksX0_init_16 2 rfl rfl)
theorem dX0_init_381 : decode cX0_init 381 = .ok (.aload_n 0, 1) := dk_42 (dk_at dksX0_init_16 5 rfl rfl)
theorem dX0_init_382 : decode cX0_init 382 = .ok (.sipush 150, 3) := dk_17 0 150 (dk_at dksX0_init_16 6 rfl rfl)
theorem dX0_init_385 : decode cX0_init 385 = .ok (.newarray .int, 2) := dk_188_10 (dk_at dksX0_init_16 9 rfl rfl)
theorem dX0_init_387 : decode cX0_init 387 = .ok (.putfield 445, 3) := dk_181 1 189 (dk_at dksX0_init_16 11 rfl rfl)
theorem dX0_init_390 : decode cX0_init 390 = .ok (.aload_n 0, 1) := dk_42 (dk_at dksX0_init_16 14 rfl rfl)
theorem dX0_init_391 : decode cX0_init 391 = .ok (.bipush 50, 2) := dk_16 50 (dk_at dksX0_init_16 15 rfl rfl)
theorem dX0_init_393 : decode cX0_init 393 = .ok (.newarray .int, 2) := dk_188_10 (dk_at dksX0_init_16 17 rfl rfl)
theorem dX0_init_395 : decode cX0_init 395 = .ok (.putfield 436, 3) := dk_181 1 180 (dk_at dksX0_init_16 19 rfl rfl)
theorem dX0_init_398 : decode cX0_init 398 = .ok (.aload_n 0, 1) := dk_42 (dk_at dksX0_init_16 22 rfl rfl)
theorem dX0_init_399 : decode cX0_init 399 = .ok (.bipush 50, 2) := dk_16 50 (dk_at dksX0_init_17 0 rfl rfl)
theorem dX0_init_401 : decode cX0_init 401 = .ok (.newarray .int, 2) := dk_188_10 (dk_at dksX0_init_17 2 rfl rfl)
theorem dX0_init_403 : decode cX0_init 403 = .ok (.putfield 448, 3) := dk_181 1 192 (dk_at dksX0_init_17 4 rfl rfl)
theorem dX0_init_406 : decode cX0_init 406 = .ok (.aload_n 0, 1) := dk_42 (dk_at dksX0_init_17 7 rfl rfl)
theorem dX0_init_407 : decode cX0_init 407 = .ok (.bipush 50, 2) := dk_16 50 (dk_at dksX0_init_17 8 rfl rfl)
theorem dX0_init_409 : decode cX0_init 409 = .ok (.newarray .int, 2) := dk_188_10 (dk_at dksX0_init_17 10 rfl rfl)
theorem dX0_init_411 : decode cX0_init 411 = .ok (.putfield 418, 3) := dk_181 1 162 (dk_at dksX0_init_17 12 rfl rfl)
theorem dX0_init_414 : decode cX0_init 414 = .ok (.aload_n 0, 1) := dk_42 (dk_at dksX0_init_17 15 rfl rfl)
theorem dX0_init_415 : decode cX0_init 415 = .ok (.sipush 600, 3) := dk_17 2 88 (dk_at dksX0_init_17 16 rfl rfl)
theorem dX0_init_418 : decode cX0_init 418 = .ok (.newarray .int, 2) := dk_188_10 (dk_at dksX0_init_17 19 rfl rfl)
theorem dX0_init_420 : decode cX0_init 420 = .ok (.putfield 421, 3) := dk_181 1 165 (dk_at dksX0_init_17 21 rfl rfl)
theorem dX0_init_423 : decode cX0_init 423 = .ok (.aload_n 0, 1) := dk_42 (dk_at dksX0_init_18 0 rfl rfl)
theorem dX0_init_424 : decode cX0_init 424 = .ok (.bipush 50, 2) := dk_16 50 (dk_at dksX0_init_18 1 rfl rfl)
theorem dX0_init_426 : decode cX0_init 426 = .ok (.newarray .boolean, 2) := dk_188_4 (dk_at dksX0_init_18 3 rfl rfl)
theorem dX0_init_428 : decode cX0_init 428 = .ok (.putfield 439, 3) := dk_181 1 183 (dk_at dksX0_init_18 5 rfl rfl)
theorem dX0_init_431 : decode cX0_init 431 = .ok (.aload_n 0, 1) := dk_42 (dk_at dksX0_init_18 8 rfl rfl)
theorem dX0_init_432 : decode cX0_init 432 = .ok (.bipush 50, 2) := dk_16 50 (dk_at dksX0_init_18 9 rfl rfl)
theorem dX0_init_434 : decode cX0_init 434 = .ok (.newarray .int, 2) := dk_188_10 (dk_at dksX0_init_18 11 rfl rfl)
theorem dX0_init_436 : decode cX0_init 436 = .ok (.putfield 460, 3) := dk_181 1 204 (dk_at dksX0_init_18 13 rfl rfl)
theorem dX0_init_439 : decode cX0_init 439 = .ok (.aload_n 0, 1) := dk_42 (dk_at dksX0_init_18 16 rfl rfl)
theorem dX0_init_440 : decode cX0_init 440 = .ok (.bipush 50, 2) := dk_16 50 (dk_at dksX0_init_18 17 rfl rfl)
theorem dX0_init_442 : decode cX0_init 442 = .ok (.newarray .int, 2) := dk_188_10 (dk_at dksX0_init_18 19 rfl rfl)
theorem dX0_init_444 : decode cX0_init 444 = .ok (.putfield 476, 3) := dk_181 1 220 (dk_at dksX0_init_18 21 rfl rfl)
theorem dX0_init_447 : decode cX0_init 447 = .ok (.aload_n 0, 1) := dk_42 (dk_at dksX0_init_19 0 rfl rfl)
theorem dX0_init_448 : decode cX0_init 448 = .ok (.bipush 50, 2) := dk_16 50 (dk_at dksX0_init_19 1 rfl rfl)
theorem dX0_init_450 : decode cX0_init 450 = .ok (.newarray .int, 2) := dk_188_10 (dk_at dksX0_init_19 3 rfl rfl)
theorem dX0_init_452 : decode cX0_init 452 = .ok (.putfield 482, 3) := dk_181 1 226 (dk_at dksX0_init_19 5 rfl rfl)
theorem dX0_init_455 : decode cX0_init 455 = .ok (.aload_n 0, 1) := dk_42 (dk_at dksX0_init_19 8 rfl rfl)
theorem dX0_init_456 : decode cX0_init 456 = .ok (.sipush 150, 3) := dk_17 0 150 (dk_at dksX0_init_19 9 rfl rfl)
theorem dX0_init_459 : decode cX0_init 459 = .ok (.newarray .int, 2) := dk_188_10 (dk_at dksX0_init_19 12 rfl rfl)
theorem dX0_init_461 : decode cX0_init 461 = .ok (.putfield 494, 3) := dk_181 1 238 (dk_at dksX0_init_19 14 rfl rfl)
theorem dX0_init_464 : decode cX0_init 464 = .ok (.aload_n 0, 1) := dk_42 (dk_at dksX0_init_19 17 rfl rfl)
theorem dX0_init_465 : decode cX0_init 465 = .ok (.bipush 50, 2) := dk_16 50 (dk_at dksX0_init_19 18 rfl rfl)
theorem dX0_init_467 : decode cX0_init 467 = .ok (.newarray .boolean, 2) := dk_188_4 (dk_at dksX0_init_19 20 rfl rfl)
theorem dX0_init_469 : decode cX0_init 469 = .ok (.putfield 485, 3) := dk_181 1 229 (dk_at dksX0_init_20 0 rfl rfl)
theorem dX0_init_472 : decode cX0_init 472 = .ok (.aload_n 0, 1) := dk_42 (dk_at dksX0_init_20 3 rfl rfl)
theorem dX0_init_473 : decode cX0_init 473 = .ok (.bipush 50, 2) := dk_16 50 (dk_at dksX0_init_20 4 rfl rfl)
theorem dX0_init_475 : decode cX0_init 475 = .ok (.newarray .boolean, 2) := dk_188_4 (dk_at dksX0_init_20 6 rfl rfl)
theorem dX0_init_477 : decode cX0_init 477 = .ok (.putfield 488, 3) := dk_181 1 232 (dk_at dksX0_init_20 8 rfl rfl)
theorem dX0_init_480 : decode cX0_init 480 = .ok (.aload_n 0, 1) := dk_42 (dk_at dksX0_init_20 11 rfl rfl)
theorem dX0_init_481 : decode cX0_init 481 = .ok (.bipush 50, 2) := dk_16 50 (dk_at dksX0_init_20 12 rfl rfl)
theorem dX0_init_483 : decode cX0_init 483 = .ok (.newarray .int, 2) := dk_188_10 (dk_at dksX0_init_20 14 rfl rfl)
theorem dX0_init_485 : decode cX0_init 485 = .ok (.putfield 491, 3) := dk_181 1 235 (dk_at dksX0_init_20 16 rfl rfl)
theorem dX0_init_488 : decode cX0_init 488 = .ok (.aload_n 0, 1) := dk_42 (dk_at dksX0_init_20 19 rfl rfl)
theorem dX0_init_489 : decode cX0_init 489 = .ok (.bipush 50, 2) := dk_16 50 (dk_at dksX0_init_20 20 rfl rfl)
theorem dX0_init_491 : decode cX0_init 491 = .ok (.newarray .int, 2) := dk_188_10 (dk_at dksX0_init_20 22 rfl rfl)
theorem dX0_init_493 : decode cX0_init 493 = .ok (.putfield 479, 3) := dk_181 1 223 (dk_at dksX0_init_21 0 rfl rfl)
theorem dX0_init_496 : decode cX0_init 496 = .ok (.aload_n 0, 1) := dk_42 (dk_at dksX0_init_21 3 rfl rfl)
theorem dX0_init_497 : decode cX0_init 497 = .ok (.iconst 1, 1) := dk_4 (dk_at dksX0_init_21 4 rfl rfl)
theorem dX0_init_498 : decode cX0_init 498 = .ok (.newarray .byte, 2) := dk_188_8 (dk_at dksX0_init_21 5 rfl rfl)
theorem dX0_init_500 : decode cX0_init 500 = .ok (.putfield 430, 3) := dk_181 1 174 (dk_at dksX0_init_21 7 rfl rfl)
theorem dX0_init_503 : decode cX0_init 503 = .ok (.aload_n 0, 1) := dk_42 (dk_at dksX0_init_21 10 rfl rfl)
theorem dX0_init_504 : decode cX0_init 504 = .ok (.bipush 30, 2) := dk_16 30 (dk_at dksX0_init_21 11 rfl rfl)
theorem dX0_init_506 : decode cX0_init 506 = .ok (.newarray .int, 2) := dk_188_10 (dk_at dksX0_init_21 13 rfl rfl)
theorem dX0_init_508 : decode cX0_init 508 = .ok (.putfield 500, 3) := dk_181 1 244 (dk_at dksX0_init_21 15 rfl rfl)
theorem dX0_init_511 : decode cX0_init 511 = .ok (.aload_n 0, 1) := dk_42 (dk_at dksX0_init_21 18 rfl rfl)
theorem dX0_init_512 : decode cX0_init 512 = .ok (.bipush 30, 2) := dk_16 30 (dk_at dksX0_init_21 19 rfl rfl)
theorem dX0_init_514 : decode cX0_init 514 = .ok (.newarray .int, 2) := dk_188_10 (dk_at dksX0_init_21 21 rfl rfl)
theorem dX0_init_516 : decode cX0_init 516 = .ok (.putfield 503, 3) := dk_181 1 247 (dk_at dksX0_init_22 0 rfl rfl)
theorem dX0_init_519 : decode cX0_init 519 = .ok (.aload_n 0, 1) := dk_42 (dk_at dksX0_init_22 3 rfl rfl)
theorem dX0_init_520 : decode cX0_init 520 = .ok (.ldc_w 1377, 3) := dk_19 5 97 (dk_at dksX0_init_22 4 rfl rfl)
theorem dX0_init_523 : decode cX0_init 523 = .ok (.newarray .int, 2) := dk_188_10 (dk_at dksX0_init_22 7 rfl rfl)
theorem dX0_init_525 : decode cX0_init 525 = .ok (.putfield 509, 3) := dk_181 1 253 (dk_at dksX0_init_22 9 rfl rfl)
theorem dX0_init_528 : decode cX0_init 528 = .ok (.aload_n 0, 1) := dk_42 (dk_at dksX0_init_22 12 rfl rfl)
theorem dX0_init_529 : decode cX0_init 529 = .ok (.ldc_w 1377, 3) := dk_19 5 97 (dk_at dksX0_init_22 13 rfl rfl)
theorem dX0_init_532 : decode cX0_init 532 = .ok (.newarray .int, 2) := dk_188_10 (dk_at dksX0_init_22 16 rfl rfl)
theorem dX0_init_534 : decode cX0_init 534 = .ok (.putfield 512, 3) := dk_181 2 0 (dk_at dksX0_init_22 18 rfl rfl)
theorem dX0_init_537 : decode cX0_init 537 = .ok (.aload_n 0, 1) := dk_42 (dk_at dksX0_init_22 21 rfl rfl)
theorem dX0_init_538 : decode cX0_init 538 = .ok (.ldc_w 1377, 3) := dk_19 5 97 (dk_at dksX0_init_23 0 rfl rfl)
theorem dX0_init_541 : decode cX0_init 541 = .ok (.newarray .int, 2) := dk_188_10 (dk_at dksX0_init_23 3 rfl rfl)
theorem dX0_init_543 : decode cX0_init 543 = .ok (.putfield 521, 3) := dk_181 2 9 (dk_at dksX0_init_23 5 rfl rfl)
theorem dX0_init_546 : decode cX0_init 546 = .ok (.aload_n 0, 1) := dk_42 (dk_at dksX0_init_23 8 rfl rfl)
theorem dX0_init_547 : decode cX0_init 547 = .ok (.ldc_w 1378, 3) := dk_19 5 98 (dk_at dksX0_init_23 9 rfl rfl)
theorem dX0_init_550 : decode cX0_init 550 = .ok (.newarray .int, 2) := dk_188_10 (dk_at dksX0_init_23 12 rfl rfl)
theorem dX0_init_552 : decode cX0_init 552 = .ok (.putfield 524, 3) := dk_181 2 12 (dk_at dksX0_init_23 14 rfl rfl)
theorem dX0_init_555 : decode cX0_init 555 = .ok (.aload_n 0, 1) := dk_42 (dk_at dksX0_init_23 17 rfl rfl)
theorem dX0_init_556 : decode cX0_init 556 = .ok (.ldc_w 1377, 3) := dk_19 5 97 (dk_at dksX0_init_23 18 rfl rfl)
theorem dX0_init_559 : decode cX0_init 559 = .ok (.newarray .int, 2) := dk_188_10 (dk_at dksX0_init_23 21 rfl rfl)
theorem dX0_init_561 : decode cX0_init 561 = .ok (.putfield 515, 3) := dk_181 2 3 (dk_at dksX0_init_24 0 rfl rfl)
theorem dX0_init_564 : decode cX0_init 564 = .ok (.aload_n 0, 1) := dk_42 (dk_at dksX0_init_24 3 rfl rfl)
theorem dX0_init_565 : decode cX0_init 565 = .ok (.sipush 1089, 3) := dk_17 4 65 (dk_at dksX0_init_24 4 rfl rfl)
theorem dX0_init_568 : decode cX0_init 568 = .ok (.newarray .int, 2) := dk_188_10 (dk_at dksX0_init_24 7 rfl rfl)
theorem dX0_init_570 : decode cX0_init 570 = .ok (.putfield 506, 3) := dk_181 1 250 (dk_at dksX0_init_24 9 rfl rfl)
theorem dX0_init_573 : decode cX0_init 573 = .ok (.aload_n 0, 1) := dk_42 (dk_at dksX0_init_24 12 rfl rfl)
theorem dX0_init_574 : decode cX0_init 574 = .ok (.iconst 3, 1) := dk_6 (dk_at dksX0_init_24 13 rfl rfl)
theorem dX0_init_575 : decode cX0_init 575 = .ok (.newarray .int, 2) := dk_188_10 (dk_at dksX0_init_24 14 rfl rfl)
theorem dX0_init_577 : decode cX0_init 577 = .ok (.putfield 527, 3) := dk_181 2 15 (dk_at dksX0_init_24 16 rfl rfl)
theorem dX0_init_580 : decode cX0_init 580 = .ok (.aload_n 0, 1) := dk_42 (dk_at dksX0_init_24 19 rfl rfl)
theorem dX0_init_581 : decode cX0_init 581 = .ok (.ldc_w 593, 3) := dk_19 2 81 (dk_at dksX0_init_24 20 rfl rfl)
theorem dX0_init_584 : decode cX0_init 584 = .ok (.newarray .int, 2) := dk_188_10 (dk_at dksX0_init_25 0 rfl rfl)
theorem dX0_init_586 : decode cX0_init 586 = .ok (.putfield 575, 3) := dk_181 2 63 (dk_at dksX0_init_25 2 rfl rfl)
theorem dX0_init_589 : decode cX0_init 589 = .ok (.aload_n 0, 1) := dk_42 (dk_at dksX0_init_25 5 rfl rfl)
theorem dX0_init_590 : decode cX0_init 590 = .ok (.ldc_w 593, 3) := dk_19 2 81 (dk_at dksX0_init_25 6 rfl rfl)
theorem dX0_init_593 : decode cX0_init 593 = .ok (.newarray .int, 2) := dk_188_10 (dk_at dksX0_init_25 9 rfl rfl)
theorem dX0_init_595 : decode cX0_init 595 = .ok (.putfield 584, 3) := dk_181 2 72 (dk_at dksX0_init_25 11 rfl rfl)
theorem dX0_init_598 : decode cX0_init 598 = .ok (.aload_n 0, 1) := dk_42 (dk_at dksX0_init_25 14 rfl rfl)
theorem dX0_init_599 : decode cX0_init 599 = .ok (.ldc_w 593, 3) := dk_19 2 81 (dk_at dksX0_init_25 15 rfl rfl)
theorem dX0_init_602 : decode cX0_init 602 = .ok (.newarray .int, 2) := dk_188_10 (dk_at dksX0_init_25 18 rfl rfl)
theorem dX0_init_604 : decode cX0_init 604 = .ok (.putfield 578, 3) := dk_181 2 66 (dk_at dksX0_init_25 20 rfl rfl)
theorem dX0_init_607 : decode cX0_init 607 = .ok (.aload_n 0, 1) := dk_42 (dk_at dksX0_init_25 23 rfl rfl)
theorem dX0_init_608 : decode cX0_init 608 = .ok (.ldc_w 593, 3) := dk_19 2 81 (dk_at dksX0_init_26 0 rfl rfl)
theorem dX0_init_611 : decode cX0_init 611 = .ok (.newarray .int, 2) := dk_188_10 (dk_at dksX0_init_26 3 rfl rfl)
theorem dX0_init_613 : decode cX0_init 613 = .ok (.putfield 602, 3) := dk_181 2 90 (dk_at dksX0_init_26 5 rfl rfl)
theorem dX0_init_616 : decode cX0_init 616 = .ok (.aload_n 0, 1) := dk_42 (dk_at dksX0_init_26 8 rfl rfl)
theorem dX0_init_617 : decode cX0_init 617 = .ok (.ldc_w 593, 3) := dk_19 2 81 (dk_at dksX0_init_26 9 rfl rfl)
theorem dX0_init_620 : decode cX0_init 620 = .ok (.newarray .int, 2) := dk_188_10 (dk_at dksX0_init_26 12 rfl rfl)
theorem dX0_init_622 : decode cX0_init 622 = .ok (.putfield 590, 3) := dk_181 2 78 (dk_at dksX0_init_26 14 rfl rfl)
theorem dX0_init_625 : decode cX0_init 625 = .ok (.aload_n 0, 1) := dk_42 (dk_at dksX0_init_26 17 rfl rfl)
theorem dX0_init_626 : decode cX0_init 626 = .ok (.ldc_w 593, 3) := dk_19 2 81 (dk_at dksX0_init_26 18 rfl rfl)
theorem dX0_init_629 : decode cX0_init 629 = .ok (.newarray .int, 2) := dk_188_10 (dk_at dksX0_init_26 21 rfl rfl)
theorem dX0_init_631 : decode cX0_init 631 = .ok (.putfield 587, 3) := dk_181 2 75 (dk_at dksX0_init_27 0 rfl rfl)
theorem dX0_init_634 : decode cX0_init 634 = .ok (.aload_n 0, 1) := dk_42 (dk_at dksX0_init_27 3 rfl rfl)
theorem dX0_init_635 : decode cX0_init 635 = .ok (.ldc_w 562, 3) := dk_19 2 50 (dk_at dksX0_init_27 4 rfl rfl)
theorem dX0_init_638 : decode cX0_init 638 = .ok (.newarray .int, 2) := dk_188_10 (dk_at dksX0_init_27 7 rfl rfl)
theorem dX0_init_640 : decode cX0_init 640 = .ok (.putfield 563, 3) := dk_181 2 51 (dk_at dksX0_init_27 9 rfl rfl)
theorem dX0_init_643 : decode cX0_init 643 = .ok (.aload_n 0, 1) := dk_42 (dk_at dksX0_init_27 12 rfl rfl)
theorem dX0_init_644 : decode cX0_init 644 = .ok (.ldc_w 594, 3) := dk_19 2 82 (dk_at dksX0_init_27 13 rfl rfl)
theorem dX0_init_647 : decode cX0_init 647 = .ok (.newarray .int, 2) := dk_188_10 (dk_at dksX0_init_27 16 rfl rfl)
theorem dX0_init_649 : decode cX0_init 649 = .ok (.putfield 581, 3) := dk_181 2 69 (dk_at dksX0_init_27 18 rfl rfl)
theorem dX0_init_652 : decode cX0_init 652 = .ok (.aload_n 0, 1) := dk_42 (dk_at dksX0_init_27 21 rfl rfl)
theorem dX0_init_653 : decode cX0_init 653 = .ok (.sipush 20000, 3) := dk_17 78 32 (dk_at dksX0_init_28 0 rfl rfl)
theorem dX0_init_656 : decode cX0_init 656 = .ok (.newarray .int, 2) := dk_188_10 (dk_at dksX0_init_28 3 rfl rfl)
theorem dX0_init_658 : decode cX0_init 658 = .ok (.putfield 567, 3) := dk_181 2 55 (dk_at dksX0_init_28 5 rfl rfl)
theorem dX0_init_661 : decode cX0_init 661 = .ok (.aload_n 0, 1) := dk_42 (dk_at dksX0_init_28 8 rfl rfl)
theorem dX0_init_662 : decode cX0_init 662 = .ok (.ldc_w 593, 3) := dk_19 2 81 (dk_at dksX0_init_28 9 rfl rfl)
theorem dX0_init_665 : decode cX0_init 665 = .ok (.newarray .int, 2) := dk_188_10 (dk_at dksX0_init_28 12 rfl rfl)
theorem dX0_init_667 : decode cX0_init 667 = .ok (.putfield 599, 3) := dk_181 2 87 (dk_at dksX0_init_28 14 rfl rfl)
theorem dX0_init_670 : decode cX0_init 670 = .ok (.aload_n 0, 1) := dk_42 (dk_at dksX0_init_28 17 rfl rfl)
theorem dX0_init_671 : decode cX0_init 671 = .ok (.iconst 3, 1) := dk_6 (dk_at dksX0_init_28 18 rfl rfl)
theorem dX0_init_672 : decode cX0_init 672 = .ok (.newarray .int, 2) := dk_188_10 (dk_at dksX0_init_28 19 rfl rfl)
theorem dX0_init_674 : decode cX0_init 674 = .ok (.putfield 624, 3) := dk_181 2 112 (dk_at dksX0_init_28 21 rfl rfl)
theorem dX0_init_677 : decode cX0_init 677 = .ok (.aload_n 0, 1) := dk_42 (dk_at dksX0_init_29 0 rfl rfl)
theorem dX0_init_678 : decode cX0_init 678 = .ok (.sipush 16000, 3) := dk_17 62 128 (dk_at dksX0_init_29 1 rfl rfl)
theorem dX0_init_681 : decode cX0_init 681 = .ok (.newarray .int, 2) := dk_188_10 (dk_at dksX0_init_29 4 rfl rfl)
theorem dX0_init_683 : decode cX0_init 683 = .ok (.putfield 669, 3) := dk_181 2 157 (dk_at dksX0_init_29 6 rfl rfl)
theorem dX0_init_686 : decode cX0_init 686 = .ok (.aload_n 0, 1) := dk_42 (dk_at dksX0_init_29 9 rfl rfl)
theorem dX0_init_687 : decode cX0_init 687 = .ok (.bipush 70, 2) := dk_16 70 (dk_at dksX0_init_29 10 rfl rfl)
theorem dX0_init_689 : decode cX0_init 689 = .ok (.newarray .int, 2) := dk_188_10 (dk_at dksX0_init_29 12 rfl rfl)
theorem dX0_init_691 : decode cX0_init 691 = .ok (.putfield 695, 3) := dk_181 2 183 (dk_at dksX0_init_29 14 rfl rfl)
theorem dX0_init_694 : decode cX0_init 694 = .ok (.aload_n 0, 1) := dk_42 (dk_at dksX0_init_29 17 rfl rfl)
theorem dX0_init_695 : decode cX0_init 695 = .ok (.bipush 70, 2) := dk_16 70 (dk_at dksX0_init_29 18 rfl rfl)
theorem dX0_init_697 : decode cX0_init 697 = .ok (.newarray .int, 2) := dk_188_10 (dk_at dksX0_init_29 20 rfl rfl)
theorem dX0_init_699 : decode cX0_init 699 = .ok (.putfield 704, 3) := dk_181 2 192 (dk_at dksX0_init_30 0 rfl rfl)
theorem dX0_init_702 : decode cX0_init 702 = .ok (.aload_n 0, 1) := dk_42 (dk_at dksX0_init_30 3 rfl rfl)
theorem dX0_init_703 : decode cX0_init 703 = .ok (.sipush 420, 3) := dk_17 1 164 (dk_at dksX0_init_30 4 rfl rfl)
theorem dX0_init_706 : decode cX0_init 706 = .ok (.newarray .int, 2) := dk_188_10 (dk_at dksX0_init_30 7 rfl rfl)
theorem dX0_init_708 : decode cX0_init 708 = .ok (.putfield 713, 3) := dk_181 2 201 (dk_at dksX0_init_30 9 rfl rfl)
theorem dX0_init_711 : decode cX0_init 711 = .ok (.aload_n 0, 1) := dk_42 (dk_at dksX0_init_30 12 rfl rfl)
theorem dX0_init_712 : decode cX0_init 712 = .ok (.sipush 420, 3) := dk_17 1 164 (dk_at dksX0_init_30 13 rfl rfl)
theorem dX0_init_715 : decode cX0_init 715 = .ok (.newarray .int, 2) := dk_188_10 (dk_at dksX0_init_30 16 rfl rfl)
theorem dX0_init_717 : decode cX0_init 717 = .ok (.putfield 710, 3) := dk_181 2 198 (dk_at dksX0_init_30 18 rfl rfl)
theorem dX0_init_720 : decode cX0_init 720 = .ok (.aload_n 0, 1) := dk_42 (dk_at dksX0_init_30 21 rfl rfl)
theorem dX0_init_721 : decode cX0_init 721 = .ok (.bipush 30, 2) := dk_16 30 (dk_at dksX0_init_30 22 rfl rfl)
theorem dX0_init_723 : decode cX0_init 723 = .ok (.newarray .boolean, 2) := dk_188_4 (dk_at dksX0_init_31 0 rfl rfl)
theorem dX0_init_725 : decode cX0_init 725 = .ok (.putfield 683, 3) := dk_181 2 171 (dk_at dksX0_init_31 2 rfl rfl)
theorem dX0_init_728 : decode cX0_init 728 = .ok (.aload_n 0, 1) := dk_42 (dk_at dksX0_init_31 5 rfl rfl)
theorem dX0_init_729 : decode cX0_init 729 = .ok (.bipush 60, 2) := dk_16 60 (dk_at dksX0_init_31 6 rfl rfl)
theorem dX0_init_731 : decode cX0_init 731 = .ok (.newarray .int, 2) := dk_188_10 (dk_at dksX0_init_31 8 rfl rfl)
theorem dX0_init_733 : decode cX0_init 733 = .ok (.putfield 807, 3) := dk_181 3 39 (dk_at dksX0_init_31 10 rfl rfl)
theorem dX0_init_736 : decode cX0_init 736 = .ok (.aload_n 0, 1) := dk_42 (dk_at dksX0_init_31 13 rfl rfl)
theorem dX0_init_737 : decode cX0_init 737 = .ok (.sipush 400, 3) := dk_17 1 144 (dk_at dksX0_init_31 14 rfl rfl)
theorem dX0_init_740 : decode cX0_init 740 = .ok (.newarray .int, 2) := dk_188_10 (dk_at dksX0_init_31 17 rfl rfl)
theorem dX0_init_742 : decode cX0_init 742 = .ok (.putfield 776, 3) := dk_181 3 8 (dk_at dksX0_init_31 19 rfl rfl)
theorem dX0_init_745 : decode cX0_init 745 = .ok (.aload_n 0, 1) := dk_42 (dk_at dksX0_init_31 22 rfl rfl)
theorem dX0_init_746 : decode cX0_init 746 = .ok (.sipush 400, 3) := dk_17 1 144 (dk_at dksX0_init_32 0 rfl rfl)
theorem dX0_init_749 : decode cX0_init 749 = .ok (.newarray .int, 2) := dk_188_10 (dk_at dksX0_init_32 3 rfl rfl)
theorem dX0_init_751 : decode cX0_init 751 = .ok (.putfield 782, 3) := dk_181 3 14 (dk_at dksX0_init_32 5 rfl rfl)
theorem dX0_init_754 : decode cX0_init 754 = .ok (.aload_n 0, 1) := dk_42 (dk_at dksX0_init_32 8 rfl rfl)
theorem dX0_init_755 : decode cX0_init 755 = .ok (.ldc_w 1379, 3) := dk_19 5 99 (dk_at dksX0_init_32 9 rfl rfl)
theorem dX0_init_758 : decode cX0_init 758 = .ok (.newarray .int, 2) := dk_188_10 (dk_at dksX0_init_32 12 rfl rfl)
theorem dX0_init_760 : decode cX0_init 760 = .ok (.putfield 852, 3) := dk_181 3 84 (dk_at dksX0_init_32 14 rfl rfl)
theorem dX0_init_763 : decode cX0_init 763 = .ok (.aload_n 0, 1) := dk_42 (dk_at dksX0_init_32 17 rfl rfl)
theorem dX0_init_764 : decode cX0_init 764 = .ok (.sipush 4000, 3) := dk_17 15 160 (dk_at dksX0_init_32 18 rfl rfl)
theorem dX0_init_767 : decode cX0_init 767 = .ok (.newarray .int, 2) := dk_188_10 (dk_at dksX0_init_32 21 rfl rfl)
theorem dX0_init_769 : decode cX0_init 769 = .ok (.putfield 816, 3) := dk_181 3 48 (dk_at dksX0_init_33 0 rfl rfl)
theorem dX0_init_772 : decode cX0_init 772 = .ok (.aload_n 0, 1) := dk_42 (dk_at dksX0_init_33 3 rfl rfl)
theorem dX0_init_773 : decode cX0_init 773 = .ok (.sipush 400, 3) := dk_17 1 144 (dk_at dksX0_init_33 4 rfl rfl)
theorem dX0_init_776 : decode cX0_init 776 = .ok (.newarray .int, 2) := dk_188_10 (dk_at dksX0_init_33 7 rfl rfl)
theorem dX0_init_778 : decode cX0_init 778 = .ok (.putfield 825, 3) := dk_181 3 57 (dk_at dksX0_init_33 9 rfl rfl)
theorem dX0_init_781 : decode cX0_init 781 = .ok (.aload_n 0, 1) := dk_42 (dk_at dksX0_init_33 12 rfl rfl)
theorem dX0_init_782 : decode cX0_init 782 = .ok (.sipush 400, 3) := dk_17 1 144 (dk_at dksX0_init_33 13 rfl rfl)
theorem dX0_init_785 : decode cX0_init 785 = .ok (.newarray .int, 2) := dk_188_10 (dk_at dksX0_init_33 16 rfl rfl)
theorem dX0_init_787 : decode cX0_init 787 = .ok (.putfield 828, 3) := dk_181 3 60 (dk_at dksX0_init_33 18 rfl rfl)
theorem dX0_init_790 : decode cX0_init 790 = .ok (.aload_n 0, 1) := dk_42 (dk_at dksX0_init_33 21 rfl rfl)
theorem dX0_init_791 : decode cX0_init 791 = .ok (.sipush 400, 3) := dk_17 1 144 (dk_at dksX0_init_34 0 rfl rfl)
theorem dX0_init_794 : decode cX0_init 794 = .ok (.newarray .int, 2) := dk_188_10 (dk_at dksX0_init_34 3 rfl rfl)
theorem dX0_init_796 : decode cX0_init 796 = .ok (.putfield 831, 3) := dk_181 3 63 (dk_at dksX0_init_34 5 rfl rfl)
theorem dX0_init_799 : decode cX0_init 799 = .ok (.aload_n 0, 1) := dk_42 (dk_at dksX0_init_34 8 rfl rfl)
theorem dX0_init_800 : decode cX0_init 800 = .ok (.sipush 1600, 3) := dk_17 6 64 (dk_at dksX0_init_34 9 rfl rfl)
theorem dX0_init_803 : decode cX0_init 803 = .ok (.newarray .int, 2) := dk_188_10 (dk_at dksX0_init_34 12 rfl rfl)
theorem dX0_init_805 : decode cX0_init 805 = .ok (.putfield 914, 3) := dk_181 3 146 (dk_at dksX0_init_34 14 rfl rfl)
theorem dX0_init_808 : decode cX0_init 808 = .ok (.aload_n 0, 1) := dk_42 (dk_at dksX0_init_34 17 rfl rfl)
theorem dX0_init_809 : decode cX0_init 809 = .ok (.sipush 9000, 3) := dk_17 35 40 (dk_at dksX0_init_34 18 rfl rfl)
theorem dX0_init_812 : decode cX0_init 812 = .ok (.newarray .int, 2) := dk_188_10 (dk_at dksX0_init_34 21 rfl rfl)
theorem dX0_init_814 : decode cX0_init 814 = .ok (.putfield 963, 3) := dk_181 3 195 (dk_at dksX0_init_35 0 rfl rfl)
theorem dX0_init_817 : decode cX0_init 817 = .ok (.aload_n 0, 1) := dk_42 (dk_at dksX0_init_35 3 rfl rfl)
theorem dX0_init_818 : decode cX0_init 818 = .ok (.bipush 61, 2) := dk_16 61 (dk_at dksX0_init_35 4 rfl rfl)
theorem dX0_init_820 : decode cX0_init 820 = .ok (.newarray .int, 2) := dk_188_10 (dk_at dksX0_init_35 6 rfl rfl)
theorem dX0_init_822 : decode cX0_init 822 = .ok (.putfield 1005, 3) := dk_181 3 237 (dk_at dksX0_init_35 8 rfl rfl)
theorem dX0_init_825 : decode cX0_init 825 = .ok (.aload_n 0, 1) := dk_42 (dk_at dksX0_init_35 11 rfl rfl)
theorem dX0_init_826 : decode cX0_init 826 = .ok (.bipush 61, 2) := dk_16 61 (dk_at dksX0_init_35 12 rfl rfl)
theorem dX0_init_828 : decode cX0_init 828 = .ok (.newarray .int, 2) := dk_188_10 (dk_at dksX0_init_35 14 rfl rfl)
theorem dX0_init_830 : decode cX0_init 830 = .ok (.putfield 1007, 3) := dk_181 3 239 (dk_at dksX0_init_35 16 rfl rfl)
theorem dX0_init_833 : decode cX0_init 833 = .ok (.aload_n 0, 1) := dk_42 (dk_at dksX0_init_35 19 rfl rfl)
theorem dX0_init_834 : decode cX0_init 834 = .ok (.bipush 80, 2) := dk_16 80 (dk_at dksX0_init_35 20 rfl rfl)
theorem dX0_init_836 : decode cX0_init 836 = .ok (.newarray .int, 2) := dk_188_10 (dk_at dksX0_init_35 22 rfl rfl)
theorem dX0_init_838 : decode cX0_init 838 = .ok (.putfield 993, 3) := dk_181 3 225 (dk_at dksX0_init_36 0 rfl rfl)
theorem dX0_init_841 : decode cX0_init 841 = .ok (.aload_n 0, 1) := dk_42 (dk_at dksX0_init_36 3 rfl rfl)
theorem dX0_init_842 : decode cX0_init 842 = .ok (.bipush 80, 2) := dk_16 80 (dk_at dksX0_init_36 4 rfl rfl)
theorem dX0_init_844 : decode cX0_init 844 = .ok (.newarray .int, 2) := dk_188_10 (dk_at dksX0_init_36 6 rfl rfl)
theorem dX0_init_846 : decode cX0_init 846 = .ok (.putfield 996, 3) := dk_181 3 228 (dk_at dksX0_init_36 8 rfl rfl)
theorem dX0_init_849 : decode cX0_init 849 = .ok (.aload_n 0, 1) := dk_42 (dk_at dksX0_init_36 11 rfl rfl)
theorem dX0_init_850 : decode cX0_init 850 = .ok (.bipush (-2), 2) := dk_16 254 (dk_at dksX0_init_36 12 rfl rfl)
theorem dX0_init_852 : decode cX0_init 852 = .ok (.putfield 181, 3) := dk_181 0 181 (dk_at dksX0_init_36 14 rfl rfl)
theorem dX0_init_855 : decode cX0_init 855 = .ok (.aload_n 0, 1) := dk_42 (dk_at dksX0_init_36 17 rfl rfl)
theorem dX0_init_856 : decode cX0_init 856 = .ok (.sipush 9600, 3) := dk_17 37 128 (dk_at dksX0_init_36 18 rfl rfl)
theorem dX0_init_859 : decode cX0_init 859 = .ok (.newarray .int, 2) := dk_188_10 (dk_at dksX0_init_36 21 rfl rfl)
theorem dX0_init_861 : decode cX0_init 861 = .ok (.putfield 1073, 3) := dk_181 4 49 (dk_at dksX0_init_37 0 rfl rfl)
theorem dX0_init_864 : decode cX0_init 864 = .ok (.aload_n 0, 1) := dk_42 (dk_at dksX0_init_37 3 rfl rfl)
theorem dX0_init_865 : decode cX0_init 865 = .ok (.bipush 120, 2) := dk_16 120 (dk_at dksX0_init_37 4 rfl rfl)
theorem dX0_init_867 : decode cX0_init 867 = .ok (.newarray .int, 2) := dk_188_10 (dk_at dksX0_init_37 6 rfl rfl)
theorem dX0_init_869 : decode cX0_init 869 = .ok (.putfield 1085, 3) := dk_181 4 61 (dk_at dksX0_init_37 8 rfl rfl)
theorem dX0_init_872 : decode cX0_init 872 = .ok (.aload_n 0, 1) := dk_42 (dk_at dksX0_init_37 11 rfl rfl)
theorem dX0_init_873 : decode cX0_init 873 = .ok (.bipush 120, 2) := dk_16 120 (dk_at dksX0_init_37 12 rfl rfl)
theorem dX0_init_875 : decode cX0_init 875 = .ok (.newarray .int, 2) := dk_188_10 (dk_at dksX0_init_37 14 rfl rfl)
theorem dX0_init_877 : decode cX0_init 877 = .ok (.putfield 1076, 3) := dk_181 4 52 (dk_at dksX0_init_37 16 rfl rfl)
theorem dX0_init_880 : decode cX0_init 880 = .ok (.aload_n 0, 1) := dk_42 (dk_at dksX0_init_37 19 rfl rfl)
theorem dX0_init_881 : decode cX0_init 881 = .ok (.bipush 120, 2) := dk_16 120 (dk_at dksX0_init_37 20 rfl rfl)
theorem dX0_init_883 : decode cX0_init 883 = .ok (.newarray .int, 2) := dk_188_10 (dk_at dksX0_init_37 22 rfl rfl)
theorem dX0_init_885 : decode cX0_init 885 = .ok (.putfield 1088, 3) := dk_181 4 64 (dk_at dksX0_init_38 0 rfl rfl)
theorem dX0_init_888 : decode cX0_init 888 = .ok (.aload_n 0, 1) := dk_42 (dk_at dksX0_init_38 3 rfl rfl)
theorem dX0_init_889 : decode cX0_init 889 = .ok (.bipush 121, 2) := dk_16 121 (dk_at dksX0_init_38 4 rfl rfl)
theorem dX0_init_891 : decode cX0_init 891 = .ok (.newarray .int, 2) := dk_188_10 (dk_at dksX0_init_38 6 rfl rfl)
theorem dX0_init_893 : decode cX0_init 893 = .ok (.putfield 1091, 3) := dk_181 4 67 (dk_at dksX0_init_38 8 rfl rfl)
theorem dX0_init_896 : decode cX0_init 896 = .ok (.aload_n 0, 1) := dk_42 (dk_at dksX0_init_38 11 rfl rfl)
theorem dX0_init_897 : decode cX0_init 897 = .ok (.sipush 7200, 3) := dk_17 28 32 (dk_at dksX0_init_38 12 rfl rfl)
theorem dX0_init_900 : decode cX0_init 900 = .ok (.newarray .int, 2) := dk_188_10 (dk_at dksX0_init_38 15 rfl rfl)
theorem dX0_init_902 : decode cX0_init 902 = .ok (.putfield 1112, 3) := dk_181 4 88 (dk_at dksX0_init_38 17 rfl rfl)
theorem dX0_init_905 : decode cX0_init 905 = .ok (.aload_n 0, 1) := dk_42 (dk_at dksX0_init_38 20 rfl rfl)
theorem dX0_init_906 : decode cX0_init 906 = .ok (.sipush 160, 3) := dk_17 0 160 (dk_at dksX0_init_38 21 rfl rfl)
theorem dX0_init_909 : decode cX0_init 909 = .ok (.newarray .int, 2) := dk_188_10 (dk_at dksX0_init_39 0 rfl rfl)
theorem dX0_init_911 : decode cX0_init 911 = .ok (.putfield 1057, 3) := dk_181 4 33 (dk_at dksX0_init_39 2 rfl rfl)
theorem dX0_init_914 : decode cX0_init 914 = .ok (.aload_n 0, 1) := dk_42 (dk_at dksX0_init_39 5 rfl rfl)
theorem dX0_init_915 : decode cX0_init 915 = .ok (.bipush 120, 2) := dk_16 120 (dk_at dksX0_init_39 6 rfl rfl)
theorem dX0_init_917 : decode cX0_init 917 = .ok (.newarray .int, 2) := dk_188_10 (dk_at dksX0_init_39 8 rfl rfl)
theorem dX0_init_919 : decode cX0_init 919 = .ok (.putfield 1097, 3) := dk_181 4 73 (dk_at dksX0_init_39 10 rfl rfl)
theorem dX0_init_922 : decode cX0_init 922 = .ok (.aload_n 0, 1) := dk_42 (dk_at dksX0_init_39 13 rfl rfl)
theorem dX0_init_923 : decode cX0_init 923 = .ok (.bipush 120, 2) := dk_16 120 (dk_at dksX0_init_39 14 rfl rfl)
theorem dX0_init_925 : decode cX0_init 925 = .ok (.newarray .int, 2) := dk_188_10 (dk_at dksX0_init_39 16 rfl rfl)
theorem dX0_init_927 : decode cX0_init 927 = .ok (.putfield 1100, 3) := dk_181 4 76 (dk_at dksX0_init_39 18 rfl rfl)
theorem dX0_init_930 : decode cX0_init 930 = .ok (.aload_n 0, 1) := dk_42 (dk_at dksX0_init_39 21 rfl rfl)
theorem dX0_init_931 : decode cX0_init 931 = .ok (.bipush 120, 2) := dk_16 120 (dk_at dksX0_init_39 22 rfl rfl)
theorem dX0_init_933 : decode cX0_init 933 = .ok (.newarray .int, 2) := dk_188_10 (dk_at dksX0_init_40 0 rfl rfl)
theorem dX0_init_935 : decode cX0_init 935 = .ok (.putfield 1103, 3) := dk_181 4 79 (dk_at dksX0_init_40 2 rfl rfl)
theorem dX0_init_938 : decode cX0_init 938 = .ok (.aload_n 0, 1) := dk_42 (dk_at dksX0_init_40 5 rfl rfl)
theorem dX0_init_939 : decode cX0_init 939 = .ok (.bipush 120, 2) := dk_16 120 (dk_at dksX0_init_40 6 rfl rfl)
theorem dX0_init_941 : decode cX0_init 941 = .ok (.newarray .int, 2) := dk_188_10 (dk_at dksX0_init_40 8 rfl rfl)
theorem dX0_init_943 : decode cX0_init 943 = .ok (.putfield 1106, 3) := dk_181 4 82 (dk_at dksX0_init_40 10 rfl rfl)
theorem dX0_init_946 : decode cX0_init 946 = .ok (.aload_n 0, 1) := dk_42 (dk_at dksX0_init_40 13 rfl rfl)
theorem dX0_init_947 : decode cX0_init 947 = .ok (.bipush 121, 2) := dk_16 121 (dk_at dksX0_init_40 14 rfl rfl)
theorem dX0_init_949 : decode cX0_init 949 = .ok (.newarray .int, 2) := dk_188_10 (dk_at dksX0_init_40 16 rfl rfl)
theorem dX0_init_951 : decode cX0_init 951 = .ok (.putfield 1109, 3) := dk_181 4 85 (dk_at dksX0_init_40 18 rfl rfl)
theorem dX0_init_954 : decode cX0_init 954 = .ok (.aload_n 0, 1) := dk_42 (dk_at dksX0_init_40 21 rfl rfl)
theorem dX0_init_955 : decode cX0_init 955 = .ok (.sipush 7200, 3) := dk_17 28 32 (dk_at dksX0_init_41 0 rfl rfl)
theorem dX0_init_958 : decode cX0_init 958 = .ok (.newarray .int, 2) := dk_188_10 (dk_at dksX0_init_41 3 rfl rfl)
theorem dX0_init_960 : decode cX0_init 960 = .ok (.putfield 1115, 3) := dk_181 4 91 (dk_at dksX0_init_41 5 rfl rfl)
theorem dX0_init_963 : decode cX0_init 963 = .ok (.aload_n 0, 1) := dk_42 (dk_at dksX0_init_41 8 rfl rfl)
theorem dX0_init_964 : decode cX0_init 964 = .ok (.bipush 120, 2) := dk_16 120 (dk_at dksX0_init_41 9 rfl rfl)
theorem dX0_init_966 : decode cX0_init 966 = .ok (.newarray .boolean, 2) := dk_188_4 (dk_at dksX0_init_41 11 rfl rfl)
theorem dX0_init_968 : decode cX0_init 968 = .ok (.putfield 1121, 3) := dk_181 4 97 (dk_at dksX0_init_41 13 rfl rfl)
theorem dX0_init_971 : decode cX0_init 971 = .ok (.aload_n 0, 1) := dk_42 (dk_at dksX0_init_41 16 rfl rfl)
theorem dX0_init_972 : decode cX0_init 972 = .ok (.bipush 120, 2) := dk_16 120 (dk_at dksX0_init_41 17 rfl rfl)
theorem dX0_init_974 : decode cX0_init 974 = .ok (.newarray .boolean, 2) := dk_188_4 (dk_at dksX0_init_41 19 rfl rfl)
theorem dX0_init_976 : decode cX0_init 976 = .ok (.putfield 1124, 3) := dk_181 4 100 (dk_at dksX0_init_41 21 rfl rfl)
theorem dX0_init_979 : decode cX0_init 979 = .ok (.aload_n 0, 1) := dk_42 (dk_at dksX0_init_42 0 rfl rfl)
theorem dX0_init_980 : decode cX0_init 980 = .ok (.bipush 120, 2) := dk_16 120 (dk_at dksX0_init_42 1 rfl rfl)
theorem dX0_init_982 : decode cX0_init 982 = .ok (.newarray .int, 2) := dk_188_10 (dk_at dksX0_init_42 3 rfl rfl)
theorem dX0_init_984 : decode cX0_init 984 = .ok (.putfield 1131, 3) := dk_181 4 107 (dk_at dksX0_init_42 5 rfl rfl)
theorem dX0_init_987 : decode cX0_init 987 = .ok (.aload_n 0, 1) := dk_42 (dk_at dksX0_init_42 8 rfl rfl)
theorem dX0_init_988 : decode cX0_init 988 = .ok (.bipush 120, 2) := dk_16 120 (dk_at dksX0_init_42 9 rfl rfl)
theorem dX0_init_990 : decode cX0_init 990 = .ok (.newarray .int, 2) := dk_188_10 (dk_at dksX0_init_42 11 rfl rfl)
theorem dX0_init_992 : decode cX0_init 992 = .ok (.putfield 1133, 3) := dk_181 4 109 (dk_at dksX0_init_42 13 rfl rfl)
theorem dX0_init_995 : decode cX0_init 995 = .ok (.aload_n 0, 1) := dk_42 (dk_at dksX0_init_42 16 rfl rfl)
theorem dX0_init_996 : decode cX0_init 996 = .ok (.bipush 120, 2) := dk_16 120 (dk_at dksX0_init_42 17 rfl rfl)
theorem dX0_init_998 : decode cX0_init 998 = .ok (.newarray .int, 2) := dk_188_10 (dk_at dksX0_init_42 19 rfl rfl)
theorem dX0_init_1000 : decode cX0_init 1000 = .ok (.putfield 1136, 3) := dk_181 4 112 (dk_at dksX0_init_42 21 rfl rfl)
theorem dX0_init_1003 : decode cX0_init 1003 = .ok (.aload_n 0, 1) := dk_42 (dk_at dksX0_init_43 0 rfl rfl)
theorem dX0_init_1004 : decode cX0_init 1004 = .ok (.sipush 200, 3) := dk_17 0 200 (dk_at dksX0_init_43 1 rfl rfl)
theorem dX0_init_1007 : decode cX0_init 1007 = .ok (.newarray .int, 2) := dk_188_10 (dk_at dksX0_init_43 4 rfl rfl)
theorem dX0_init_1009 : decode cX0_init 1009 = .ok (.putfield 1139, 3) := dk_181 4 115 (dk_at dksX0_init_43 6 rfl rfl)
theorem dX0_init_1012 : decode cX0_init 1012 = .ok (.aload_n 0, 1) := dk_42 (dk_at dksX0_init_43 9 rfl rfl)
theorem dX0_init_1013 : decode cX0_init 1013 = .ok (.sipush 200, 3) := dk_17 0 200 (dk_at dksX0_init_43 10 rfl rfl)
theorem dX0_init_1016 : decode cX0_init 1016 = .ok (.newarray .int, 2) := dk_188_10 (dk_at dksX0_init_43 13 rfl rfl)
theorem dX0_init_1018 : decode cX0_init 1018 = .ok (.putfield 1145, 3) := dk_181 4 121 (dk_at dksX0_init_43 15 rfl rfl)
theorem dX0_init_1021 : decode cX0_init 1021 = .ok (.aload_n 0, 1) := dk_42 (dk_at dksX0_init_43 18 rfl rfl)
theorem dX0_init_1022 : decode cX0_init 1022 = .ok (.sipush 200, 3) := dk_17 0 200 (dk_at dksX0_init_43 19 rfl rfl)
theorem dX0_init_1025 : decode cX0_init 1025 = .ok (.newarray .int, 2) := dk_188_10 (dk_at dksX0_init_43 22 rfl rfl)
theorem dX0_init_1027 : decode cX0_init 1027 = .ok (.putfield 1148, 3) := dk_181 4 124 (dk_at dksX0_init_44 0 rfl rfl)
theorem dX0_init_1030 : decode cX0_init 1030 = .ok (.aload_n 0, 1) := dk_42 (dk_at dksX0_init_44 3 rfl rfl)
theorem dX0_init_1031 : decode cX0_init 1031 = .ok (.sipush 20000, 3) := dk_17 78 32 (dk_at dksX0_init_44 4 rfl rfl)
theorem dX0_init_1034 : decode cX0_init 1034 = .ok (.newarray .int, 2) := dk_188_10 (dk_at dksX0_init_44 7 rfl rfl)
theorem dX0_init_1036 : decode cX0_init 1036 = .ok (.putfield 1189, 3) := dk_181 4 165 (dk_at dksX0_init_44 9 rfl rfl)
theorem dX0_init_1039 : decode cX0_init 1039 = .ok (.aload_n 0, 1) := dk_42 (dk_at dksX0_init_44 12 rfl rfl)
theorem dX0_init_1040 : decode cX0_init 1040 = .ok (.iconst 4, 1) := dk_7 (dk_at dksX0_init_44 13 rfl rfl)
theorem dX0_init_1041 : decode cX0_init 1041 = .ok (.newarray .int, 2) := dk_188_10 (dk_at dksX0_init_44 14 rfl rfl)
theorem dX0_init_1043 : decode cX0_init 1043 = .ok (.putfield 1213, 3) := dk_181 4 189 (dk_at dksX0_init_44 16 rfl rfl)
theorem dX0_init_1046 : decode cX0_init 1046 = .ok (.aload_n 0, 1) := dk_42 (dk_at dksX0_init_44 19 rfl rfl)
theorem dX0_init_1047 : decode cX0_init 1047 = .ok (.sipush 1600, 3) := dk_17 6 64 (dk_at dksX0_init_44 20 rfl rfl)
theorem dX0_init_1050 : decode cX0_init 1050 = .ok (.newarray .int, 2) := dk_188_10 (dk_at dksX0_init_45 0 rfl rfl)
theorem dX0_init_1052 : decode cX0_init 1052 = .ok (.putfield 1231, 3) := dk_181 4 207 (dk_at dksX0_init_45 2 rfl rfl)
theorem dX0_init_1055 : decode cX0_init 1055 = .ok (.aload_n 0, 1) := dk_42 (dk_at dksX0_init_45 5 rfl rfl)
theorem dX0_init_1056 : decode cX0_init 1056 = .ok (.sipush 1600, 3) := dk_17 6 64 (dk_at dksX0_init_45 6 rfl rfl)
theorem dX0_init_1059 : decode cX0_init 1059 = .ok (.newarray .int, 2) := dk_188_10 (dk_at dksX0_init_45 9 rfl rfl)
theorem dX0_init_1061 : decode cX0_init 1061 = .ok (.putfield 1234, 3) := dk_181 4 210 (dk_at dksX0_init_45 11 rfl rfl)
theorem dX0_init_1064 : decode cX0_init 1064 = .ok (.aload_n 0, 1) := dk_42 (dk_at dksX0_init_45 14 rfl rfl)
theorem dX0_init_1065 : decode cX0_init 1065 = .ok (.sipush 1600, 3) := dk_17 6 64 (dk_at dksX0_init_45 15 rfl rfl)
theorem dX0_init_1068 : decode cX0_init 1068 = .ok (.newarray .byte, 2) := dk_188_8 (dk_at dksX0_init_45 18 rfl rfl)
theorem dX0_init_1070 : decode cX0_init 1070 = .ok (.putfield 1237, 3) := dk_181 4 213 (dk_at dksX0_init_45 20 rfl rfl)
theorem dX0_init_1073 : decode cX0_init 1073 = .ok (.aload_n 0, 1) := dk_42 (dk_at dksX0_init_45 23 rfl rfl)
theorem dX0_init_1074 : decode cX0_init 1074 = .ok (.bipush 60, 2) := dk_16 60 (dk_at dksX0_init_46 0 rfl rfl)
theorem dX0_init_1076 : decode cX0_init 1076 = .ok (.newarray .int, 2) := dk_188_10 (dk_at dksX0_init_46 2 rfl rfl)
theorem dX0_init_1078 : decode cX0_init 1078 = .ok (.putfield 1279, 3) := dk_181 4 255 (dk_at dksX0_init_46 4 rfl rfl)
theorem dX0_init_1081 : decode cX0_init 1081 = .ok (.aload_n 0, 1) := dk_42 (dk_at dksX0_init_46 7 rfl rfl)
theorem dX0_init_1082 : decode cX0_init 1082 = .ok (.sipush 160, 3) := dk_17 0 160 (dk_at dksX0_init_46 8 rfl rfl)
theorem dX0_init_1085 : decode cX0_init 1085 = .ok (.newarray .int, 2) := dk_188_10 (dk_at dksX0_init_46 11 rfl rfl)
theorem dX0_init_1087 : decode cX0_init 1087 = .ok (.putfield 1338, 3) := dk_181 5 58 (dk_at dksX0_init_46 13 rfl rfl)
theorem dX0_init_1090 : decode cX0_init 1090 = .ok (.aload_n 0, 1) := dk_42 (dk_at dksX0_init_46 16 rfl rfl)
theorem dX0_init_1091 : decode cX0_init 1091 = .ok (.invokevirtual 719, 3) := dk_182 2 207 (dk_at dksX0_init_46 17 rfl rfl)
theorem dX0_init_1094 : decode cX0_init 1094 = .ok (.return_, 1) := dk_177 (dk_at dksX0_init_46 20 rfl rfl)
