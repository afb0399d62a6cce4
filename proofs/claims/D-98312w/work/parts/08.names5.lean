set_option maxRecDepth 100000
abbrev cX8_unit : ByteArray := prog_19_method_36_code
def yX8_unit : MethodName := ⟨RX8, "unit", "()V"⟩
def dkwX8_unit_3 : List UInt8 := [180, 0, 230, 46, 16, 31, 100, 182, 1, 71, 42, 182, 0, 248, 167, 0, 8, 42, 4, 182, 0, 242, 177]
abbrev dktX8_unit_3 : List UInt8 := dkwX8_unit_3 ++ []
def dkwX8_unit_2 : List UInt8 := [161, 0, 41, 42, 180, 0, 20, 42, 180, 0, 230, 46, 16, 36, 163, 0, 27, 42, 4, 42, 180, 0, 20, 42]
abbrev dktX8_unit_2 : List UInt8 := dkwX8_unit_2 ++ dktX8_unit_3
def dkwX8_unit_1 : List UInt8 := [182, 0, 248, 167, 0, 67, 42, 180, 0, 227, 154, 0, 55, 42, 180, 0, 20, 42, 180, 0, 230, 46, 16, 31]
abbrev dktX8_unit_1 : List UInt8 := dkwX8_unit_1 ++ dktX8_unit_2
def dkwX8_unit_0 : List UInt8 := [42, 5, 182, 0, 245, 153, 0, 24, 42, 3, 42, 180, 0, 27, 42, 180, 0, 230, 46, 182, 1, 71, 42]
abbrev dktX8_unit_0 : List UInt8 := dkwX8_unit_0 ++ dktX8_unit_1
theorem dksX8_unit_0 : cX8_unit.data.toList.drop 0 = dktX8_unit_0 := by decide +kernel
theorem dksX8_unit_1 : cX8_unit.data.toList.drop 23 = dktX8_unit_1 := dk_seg dksX8_unit_0 23 rfl rfl
theorem dksX8_unit_2 : cX8_unit.data.toList.drop 47 = dktX8_unit_2 := dk_seg dksX8_unit_1 24 rfl rfl
theorem dksX8_unit_3 : cX8_unit.data.toList.drop 71 = dktX8_unit_3 := dk_seg dksX8_unit_2 24 rfl rfl
theorem dX8_unit_0 : decode cX8_unit 0 = .ok (.aload_n 0, 1) := dk_42 (dk_at dksX8_unit_0 0 rfl rfl)
theorem dX8_unit_1 : decode cX8_unit 1 = .ok (.iconst 2, 1) := dk_5 (dk_at dksX8_unit_0 1 rfl rfl)
theorem dX8_unit_2 : decode cX8_unit 2 = .ok (.invokevirtual 245, 3) := dk_182 0 245 (dk_at dksX8_unit_0 2 rfl rfl)
theorem dX8_unit_5 : decode cX8_unit 5 = .ok (.ifCond .eq 24, 3) := dk_153 0 24 (dk_at dksX8_unit_0 5 rfl rfl)
theorem dX8_unit_8 : decode cX8_unit 8 = .ok (.aload_n 0, 1) := dk_42 (dk_at dksX8_unit_0 8 rfl rfl)
theorem dX8_unit_9 : decode cX8_unit 9 = .ok (.iconst 0, 1) := dk_3 (dk_at dksX8_unit_0 9 rfl rfl)
theorem dX8_unit_10 : decode cX8_unit 10 = .ok (.aload_n 0, 1) := dk_42 (dk_at dksX8_unit_0 10 rfl rfl)
theorem dX8_unit_11 : decode cX8_unit 11 = .ok (.getfield 27, 3) := dk_180 0 27 (dk_at dksX8_unit_0 11 rfl rfl)
theorem dX8_unit_14 : decode cX8_unit 14 = .ok (.aload_n 0, 1) := dk_42 (dk_at dksX8_unit_0 14 rfl rfl)
theorem dX8_unit_15 : decode cX8_unit 15 = .ok (.getfield 230, 3) := dk_180 0 230 (dk_at dksX8_unit_0 15 rfl rfl)
theorem dX8_unit_18 : decode cX8_unit 18 = .ok (.iaload, 1) := dk_46 (dk_at dksX8_unit_0 18 rfl rfl)
theorem dX8_unit_19 : decode cX8_unit 19 = .ok (.invokevirtual 327, 3) := dk_182 1 71 (dk_at dksX8_unit_0 19 rfl rfl)
theorem dX8_unit_22 : decode cX8_unit 22 = .ok (.aload_n 0, 1) := dk_42 (dk_at dksX8_unit_0 22 rfl rfl)
theorem dX8_unit_23 : decode cX8_unit 23 = .ok (.invokevirtual 248, 3) := dk_182 0 248 (dk_at dksX8_unit_1 0 rfl rfl)
theorem dX8_unit_26 : decode cX8_unit 26 = .ok (.goto 67, 3) := dk_167 0 67 (dk_at dksX8_unit_1 3 rfl rfl)
theorem dX8_unit_29 : decode cX8_unit 29 = .ok (.aload_n 0, 1) := dk_42 (dk_at dksX8_unit_1 6 rfl rfl)
theorem dX8_unit_30 : decode cX8_unit 30 = .ok (.getfield 227, 3) := dk_180 0 227 (dk_at dksX8_unit_1 7 rfl rfl)
theorem dX8_unit_33 : decode cX8_unit 33 = .ok (.ifCond .ne 55, 3) := dk_154 0 55 (dk_at dksX8_unit_1 10 rfl rfl)
theorem dX8_unit_36 : decode cX8_unit 36 = .ok (.aload_n 0, 1) := dk_42 (dk_at dksX8_unit_1 13 rfl rfl)
theorem dX8_unit_37 : decode cX8_unit 37 = .ok (.getfield 20, 3) := dk_180 0 20 (dk_at dksX8_unit_1 14 rfl rfl)
theorem dX8_unit_40 : decode cX8_unit 40 = .ok (.aload_n 0, 1) := dk_42 (dk_at dksX8_unit_1 17 rfl rfl)
theorem dX8_unit_41 : decode cX8_unit 41 = .ok (.getfield 230, 3) := dk_180 0 230 (dk_at dksX8_unit_1 18 rfl rfl)
theorem dX8_unit_44 : decode cX8_unit 44 = .ok (.iaload, 1) := dk_46 (dk_at dksX8_unit_1 21 rfl rfl)
theorem dX8_unit_45 : decode cX8_unit 45 = .ok (.bipush 31, 2) := dk_16 31 (dk_at dksX8_unit_1 22 rfl rfl)
theorem dX8_unit_47 : decode cX8_unit 47 = .ok (.if_icmp .lt 41, 3) := dk_161 0 41 (dk_at dksX8_unit_2 0 rfl rfl)
theorem dX8_unit_50 : decode cX8_unit 50 = .ok (.aload_n 0, 1) := dk_42 (dk_at dksX8_unit_2 3 rfl rfl)
theorem dX8_unit_51 : decode cX8_unit 51 = .ok (.getfield 20, 3) := dk_180 0 20 (dk_at dksX8_unit_2 4 rfl rfl)
theorem dX8_unit_54 : decode cX8_unit 54 = .ok (.aload_n 0, 1) := dk_42 (dk_at dksX8_unit_2 7 rfl rfl)
theorem dX8_unit_55 : decode cX8_unit 55 = .ok (.getfield 230, 3) := dk_180 0 230 (dk_at dksX8_unit_2 8 rfl rfl)
theorem dX8_unit_58 : decode cX8_unit 58 = .ok (.iaload, 1) := dk_46 (dk_at dksX8_unit_2 11 rfl rfl)
theorem dX8_unit_59 : decode cX8_unit 59 = .ok (.bipush 36, 2) := dk_16 36 (dk_at dksX8_unit_2 12 rfl rfl)
theorem dX8_unit_61 : decode cX8_unit 61 = .ok (.if_icmp .gt 27, 3) := dk_163 0 27 (dk_at dksX8_unit_2 14 rfl rfl)
theorem dX8_unit_64 : decode cX8_unit 64 = .ok (.aload_n 0, 1) := dk_42 (dk_at dksX8_unit_2 17 rfl rfl)
theorem dX8_unit_65 : decode cX8_unit 65 = .ok (.iconst 1, 1) := dk_4 (dk_at dksX8_unit_2 18 rfl rfl)
theorem dX8_unit_66 : decode cX8_unit 66 = .ok (.aload_n 0, 1) := dk_42 (dk_at dksX8_unit_2 19 rfl rfl)
theorem dX8_unit_67 : decode cX8_unit 67 = .ok (.getfield 20, 3) := dk_180 0 20 (dk_at dksX8_unit_2 20 rfl rfl)
theorem dX8_unit_70 : decode cX8_unit 70 = .ok (.aload_n 0, 1) := dk_42 (dk_at dksX8_unit_2 23 rfl rfl)
theorem dX8_unit_71 : decode cX8_unit 71 = .ok (.getfield 230, 3) := dk_180 0 230 (dk_at dksX8_unit_3 0 rfl rfl)
theorem dX8_unit_74 : decode cX8_unit 74 = .ok (.iaload, 1) := dk_46 (dk_at dksX8_unit_3 3 rfl rfl)
theorem dX8_unit_75 : decode cX8_unit 75 = .ok (.bipush 31, 2) := dk_16 31 (dk_at dksX8_unit_3 4 rfl rfl)
theorem dX8_unit_77 : decode cX8_unit 77 = .ok (.isub, 1) := dk_100 (dk_at dksX8_unit_3 6 rfl rfl)
theorem dX8_unit_78 : decode cX8_unit 78 = .ok (.invokevirtual 327, 3) := dk_182 1 71 (dk_at dksX8_unit_3 7 rfl rfl)
theorem dX8_unit_81 : decode cX8_unit 81 = .ok (.aload_n 0, 1) := dk_42 (dk_at dksX8_unit_3 10 rfl rfl)
theorem dX8_unit_82 : decode cX8_unit 82 = .ok (.invokevirtual 248, 3) := dk_182 0 248 (dk_at dksX8_unit_3 11 rfl rfl)
theorem dX8_unit_85 : decode cX8_unit 85 = .ok (.goto 8, 3) := dk_167 0 8 (dk_at dksX8_unit_3 14 rfl rfl)
theorem dX8_unit_88 : decode cX8_unit 88 = .ok (.aload_n 0, 1) := dk_42 (dk_at dksX8_unit_3 17 rfl rfl)
theorem dX8_unit_89 : decode cX8_unit 89 = .ok (.iconst 1, 1) := dk_4 (dk_at dksX8_unit_3 18 rfl rfl)
theorem dX8_unit_90 : decode cX8_unit 90 = .ok (.invokevirtual 242, 3) := dk_182 0 242 (dk_at dksX8_unit_3 19 rfl rfl)
theorem dX8_unit_93 : decode cX8_unit 93 = .ok (.return_, 1) := dk_177 (dk_at dksX8_unit_3 22 rfl rfl)
abbrev cX8_emit : ByteArray := prog_19_method_33_code
def yX8_emit : MethodName := ⟨RX8, "emit", "(II)V"⟩
def dkwX8_emit_1 : List UInt8 := [180, 1, 13, 4, 96, 181, 1, 13, 177]
abbrev dktX8_emit_1 : List UInt8 := dkwX8_emit_1 ++ []
def dkwX8_emit_0 : List UInt8 := [42, 180, 0, 107, 42, 180, 1, 13, 27, 79, 42, 180, 0, 110, 42, 180, 1, 13, 28, 79, 42, 89]
abbrev dktX8_emit_0 : List UInt8 := dkwX8_emit_0 ++ dktX8_emit_1
theorem dksX8_emit_0 : cX8_emit.data.toList.drop 0 = dktX8_emit_0 := by decide +kernel
theorem dksX8_emit_1 : cX8_emit.data.toList.drop 22 = dktX8_emit_1 := dk_seg dksX8_emit_0 22 rfl rfl
theorem dX8_emit_0 : decode cX8_emit 0 = .ok (.aload_n 0, 1) := dk_42 (dk_at dksX8_emit_0 0 rfl rfl)
theorem dX8_emit_1 : decode cX8_emit 1 = .ok (.getfield 107, 3) := dk_180 0 107 (dk_at dksX8_emit_0 1 rfl rfl)
theorem dX8_emit_4 : decode cX8_emit 4 = .ok (.aload_n 0, 1) := dk_42 (dk_at dksX8_emit_0 4 rfl rfl)
theorem dX8_emit_5 : decode cX8_emit 5 = .ok (.getfield 269, 3) := dk_180 1 13 (dk_at dksX8_emit_0 5 rfl rfl)
theorem dX8_emit_8 : decode cX8_emit 8 = .ok (.iload_n 1, 1) := dk_27 (dk_at dksX8_emit_0 8 rfl rfl)
theorem dX8_emit_9 : decode cX8_emit 9 = .ok (.iastore, 1) := dk_79 (dk_at dksX8_emit_0 9 rfl rfl)
theorem dX8_emit_10 : decode cX8_emit 10 = .ok (.aload_n 0, 1) := dk_42 (dk_at dksX8_emit_0 10 rfl rfl)
theorem dX8_emit_11 : decode cX8_emit 11 = .ok (.getfield 110, 3) := dk_180 0 110 (dk_at dksX8_emit_0 11 rfl rfl)
theorem dX8_emit_14 : decode cX8_emit 14 = .ok (.aload_n 0, 1) := dk_42 (dk_at dksX8_emit_0 14 rfl rfl)
theorem dX8_emit_15 : decode cX8_emit 15 = .ok (.getfield 269, 3) := dk_180 1 13 (dk_at dksX8_emit_0 15 rfl rfl)
theorem dX8_emit_18 : decode cX8_emit 18 = .ok (.iload_n 2, 1) := dk_28 (dk_at dksX8_emit_0 18 rfl rfl)
theorem dX8_emit_19 : decode cX8_emit 19 = .ok (.iastore, 1) := dk_79 (dk_at dksX8_emit_0 19 rfl rfl)
theorem dX8_emit_20 : decode cX8_emit 20 = .ok (.aload_n 0, 1) := dk_42 (dk_at dksX8_emit_0 20 rfl rfl)
theorem dX8_emit_21 : decode cX8_emit 21 = .ok (.dup, 1) := dk_89 (dk_at dksX8_emit_0 21 rfl rfl)
theorem dX8_emit_22 : decode cX8_emit 22 = .ok (.getfield 269, 3) := dk_180 1 13 (dk_at dksX8_emit_1 0 rfl rfl)
theorem dX8_emit_25 : decode cX8_emit 25 = .ok (.iconst 1, 1) := dk_4 (dk_at dksX8_emit_1 3 rfl rfl)
theorem dX8_emit_26 : decode cX8_emit 26 = .ok (.iadd, 1) := dk_96 (dk_at dksX8_emit_1 4 rfl rfl)
theorem dX8_emit_27 : decode cX8_emit 27 = .ok (.putfield 269, 3) := dk_181 1 13 (dk_at dksX8_emit_1 5 rfl rfl)
theorem dX8_emit_30 : decode cX8_emit 30 = .ok (.return_, 1) := dk_177 (dk_at dksX8_emit_1 8 rfl rfl)
abbrev cX8_comesOut : ByteArray := prog_19_method_34_code
def yX8_comesOut : MethodName := ⟨RX8, "comesOut", "(Z)V"⟩
def dkwX8_comesOut_4 : List UInt8 := [167, 255, 168, 177]
abbrev dktX8_comesOut_4 : List UInt8 := dkwX8_comesOut_4 ++ []
def dkwX8_comesOut_3 : List UInt8 := [160, 0, 7, 6, 167, 0, 14, 28, 16, 10, 160, 0, 7, 7, 167, 0, 4, 8, 3, 182, 1, 71]
abbrev dktX8_comesOut_3 : List UInt8 := dkwX8_comesOut_3 ++ dktX8_comesOut_4
def dkwX8_comesOut_2 : List UInt8 := [180, 1, 68, 4, 100, 181, 1, 68, 42, 28, 16, 8, 160, 0, 7, 5, 167, 0, 24, 28, 16, 9]
abbrev dktX8_comesOut_2 : List UInt8 := dkwX8_comesOut_2 ++ dktX8_comesOut_3
def dkwX8_comesOut_1 : List UInt8 := [159, 0, 19, 27, 153, 0, 16, 28, 16, 8, 159, 0, 9, 28, 16, 9, 160, 0, 4, 177, 42, 89]
abbrev dktX8_comesOut_1 : List UInt8 := dkwX8_comesOut_1 ++ dktX8_comesOut_2
def dkwX8_comesOut_0 : List UInt8 := [42, 180, 1, 68, 158, 0, 87, 42, 180, 0, 113, 42, 180, 1, 68, 4, 100, 46, 61, 28, 16, 6]
abbrev dktX8_comesOut_0 : List UInt8 := dkwX8_comesOut_0 ++ dktX8_comesOut_1
theorem dksX8_comesOut_0 : cX8_comesOut.data.toList.drop 0 = dktX8_comesOut_0 := by decide +kernel
theorem dksX8_comesOut_1 : cX8_comesOut.data.toList.drop 22 = dktX8_comesOut_1 := dk_seg dksX8_comesOut_0 22 rfl rfl
theorem dksX8_comesOut_2 : cX8_comesOut.data.toList.drop 44 = dktX8_comesOut_2 := dk_seg dksX8_comesOut_1 22 rfl rfl
theorem dksX8_comesOut_3 : cX8_comesOut.data.toList.drop 66 = dktX8_comesOut_3 := dk_seg dksX8_comesOut_2 22 rfl rfl
theorem dksX8_comesOut_4 : cX8_comesOut.data.toList.drop 88 = dktX8_comesOut_4 := dk_seg dksX8_comesOut_3 22 rfl rfl
theorem dX8_comesOut_0 : decode cX8_comesOut 0 = .ok (.aload_n 0, 1) := dk_42 (dk_at dksX8_comesOut_0 0 rfl rfl)
theorem dX8_comesOut_1 : decode cX8_comesOut 1 = .ok (.getfield 324, 3) := dk_180 1 68 (dk_at dksX8_comesOut_0 1 rfl rfl)
theorem dX8_comesOut_4 : decode cX8_comesOut 4 = .ok (.ifCond .le 87, 3) := dk_158 0 87 (dk_at dksX8_comesOut_0 4 rfl rfl)
theorem dX8_comesOut_7 : decode cX8_comesOut 7 = .ok (.aload_n 0, 1) := dk_42 (dk_at dksX8_comesOut_0 7 rfl rfl)
theorem dX8_comesOut_8 : decode cX8_comesOut 8 = .ok (.getfield 113, 3) := dk_180 0 113 (dk_at dksX8_comesOut_0 8 rfl rfl)
theorem dX8_comesOut_11 : decode cX8_comesOut 11 = .ok (.aload_n 0, 1) := dk_42 (dk_at dksX8_comesOut_0 11 rfl rfl)
theorem dX8_comesOut_12 : decode cX8_comesOut 12 = .ok (.getfield 324, 3) := dk_180 1 68 (dk_at dksX8_comesOut_0 12 rfl rfl)
theorem dX8_comesOut_15 : decode cX8_comesOut 15 = .ok (.iconst 1, 1) := dk_4 (dk_at dksX8_comesOut_0 15 rfl rfl)
theorem dX8_comesOut_16 : decode cX8_comesOut 16 = .ok (.isub, 1) := dk_100 (dk_at dksX8_comesOut_0 16 rfl rfl)
theorem dX8_comesOut_17 : decode cX8_comesOut 17 = .ok (.iaload, 1) := dk_46 (dk_at dksX8_comesOut_0 17 rfl rfl)
theorem dX8_comesOut_18 : decode cX8_comesOut 18 = .ok (.istore_n 2, 1) := dk_61 (dk_at dksX8_comesOut_0 18 rfl rfl)
theorem dX8_comesOut_19 : decode cX8_comesOut 19 = .ok (.iload_n 2, 1) := dk_28 (dk_at dksX8_comesOut_0 19 rfl rfl)
theorem dX8_comesOut_20 : decode cX8_comesOut 20 = .ok (.bipush 6, 2) := dk_16 6 (dk_at dksX8_comesOut_0 20 rfl rfl)
theorem dX8_comesOut_22 : decode cX8_comesOut 22 = .ok (.if_icmp .eq 19, 3) := dk_159 0 19 (dk_at dksX8_comesOut_1 0 rfl rfl)
theorem dX8_comesOut_25 : decode cX8_comesOut 25 = .ok (.iload_n 1, 1) := dk_27 (dk_at dksX8_comesOut_1 3 rfl rfl)
theorem dX8_comesOut_26 : decode cX8_comesOut 26 = .ok (.ifCond .eq 16, 3) := dk_153 0 16 (dk_at dksX8_comesOut_1 4 rfl rfl)
theorem dX8_comesOut_29 : decode cX8_comesOut 29 = .ok (.iload_n 2, 1) := dk_28 (dk_at dksX8_comesOut_1 7 rfl rfl)
theorem dX8_comesOut_30 : decode cX8_comesOut 30 = .ok (.bipush 8, 2) := dk_16 8 (dk_at dksX8_comesOut_1 8 rfl rfl)
theorem dX8_comesOut_32 : decode cX8_comesOut 32 = .ok (.if_icmp .eq 9, 3) := dk_159 0 9 (dk_at dksX8_comesOut_1 10 rfl rfl)
theorem dX8_comesOut_35 : decode cX8_comesOut 35 = .ok (.iload_n 2, 1) := dk_28 (dk_at dksX8_comesOut_1 13 rfl rfl)
theorem dX8_comesOut_36 : decode cX8_comesOut 36 = .ok (.bipush 9, 2) := dk_16 9 (dk_at dksX8_comesOut_1 14 rfl rfl)
theorem dX8_comesOut_38 : decode cX8_comesOut 38 = .ok (.if_icmp .ne 4, 3) := dk_160 0 4 (dk_at dksX8_comesOut_1 16 rfl rfl)
theorem dX8_comesOut_41 : decode cX8_comesOut 41 = .ok (.return_, 1) := dk_177 (dk_at dksX8_comesOut_1 19 rfl rfl)
theorem dX8_comesOut_42 : decode cX8_comesOut 42 = .ok (.aload_n 0, 1) := dk_42 (dk_at dksX8_comesOut_1 20 rfl rfl)
theorem dX8_comesOut_43 : decode cX8_comesOut 43 = .ok (.dup, 1) := dk_89 (dk_at dksX8_comesOut_1 21 rfl rfl)
theorem dX8_comesOut_44 : decode cX8_comesOut 44 = .ok (.getfield 324, 3) := dk_180 1 68 (dk_at dksX8_comesOut_2 0 rfl rfl)
theorem dX8_comesOut_47 : decode cX8_comesOut 47 = .ok (.iconst 1, 1) := dk_4 (dk_at dksX8_comesOut_2 3 rfl rfl)
theorem dX8_comesOut_48 : decode cX8_comesOut 48 = .ok (.isub, 1) := dk_100 (dk_at dksX8_comesOut_2 4 rfl rfl)
theorem dX8_comesOut_49 : decode cX8_comesOut 49 = .ok (.putfield 324, 3) := dk_181 1 68 (dk_at dksX8_comesOut_2 5 rfl rfl)
theorem dX8_comesOut_52 : decode cX8_comesOut 52 = .ok (.aload_n 0, 1) := dk_42 (dk_at dksX8_comesOut_2 8 rfl rfl)
theorem dX8_comesOut_53 : decode cX8_comesOut 53 = .ok (.iload_n 2, 1) := dk_28 (dk_at dksX8_comesOut_2 9 rfl rfl)
theorem dX8_comesOut_54 : decode cX8_comesOut 54 = .ok (.bipush 8, 2) := dk_16 8 (dk_at dksX8_comesOut_2 10 rfl rfl)
theorem dX8_comesOut_56 : decode cX8_comesOut 56 = .ok (.if_icmp .ne 7, 3) := dk_160 0 7 (dk_at dksX8_comesOut_2 12 rfl rfl)
theorem dX8_comesOut_59 : decode cX8_comesOut 59 = .ok (.iconst 2, 1) := dk_5 (dk_at dksX8_comesOut_2 15 rfl rfl)
theorem dX8_comesOut_60 : decode cX8_comesOut 60 = .ok (.goto 24, 3) := dk_167 0 24 (dk_at dksX8_comesOut_2 16 rfl rfl)
theorem dX8_comesOut_63 : decode cX8_comesOut 63 = .ok (.iload_n 2, 1) := dk_28 (dk_at dksX8_comesOut_2 19 rfl rfl)
theorem dX8_comesOut_64 : decode cX8_comesOut 64 = .ok (.bipush 9, 2) := dk_16 9 (dk_at dksX8_comesOut_2 20 rfl rfl)
theorem dX8_comesOut_66 : decode cX8_comesOut 66 = .ok (.if_icmp .ne 7, 3) := dk_160 0 7 (dk_at dksX8_comesOut_3 0 rfl rfl)
theorem dX8_comesOut_69 : decode cX8_comesOut 69 = .ok (.iconst 3, 1) := dk_6 (dk_at dksX8_comesOut_3 3 rfl rfl)
theorem dX8_comesOut_70 : decode cX8_comesOut 70 = .ok (.goto 14, 3) := dk_167 0 14 (dk_at dksX8_comesOut_3 4 rfl rfl)
theorem dX8_comesOut_73 : decode cX8_comesOut 73 = .ok (.iload_n 2, 1) := dk_28 (dk_at dksX8_comesOut_3 7 rfl rfl)
theorem dX8_comesOut_74 : decode cX8_comesOut 74 = .ok (.bipush 10, 2) := dk_16 10 (dk_at dksX8_comesOut_3 8 rfl rfl)
theorem dX8_comesOut_76 : decode cX8_comesOut 76 = .ok (.if_icmp .ne 7, 3) := dk_160 0 7 (dk_at dksX8_comesOut_3 10 rfl rfl)
theorem dX8_comesOut_79 : decode cX8_comesOut 79 = .ok (.iconst 4, 1) := dk_7 (dk_at dksX8_comesOut_3 13 rfl rfl)
theorem dX8_comesOut_80 : decode cX8_comesOut 80 = .ok (.goto 4, 3) := dk_167 0 4 (dk_at dksX8_comesOut_3 14 rfl rfl)
theorem dX8_comesOut_83 : decode cX8_comesOut 83 = .ok (.iconst 5, 1) := dk_8 (dk_at dksX8_comesOut_3 17 rfl rfl)
theorem dX8_comesOut_84 : decode cX8_comesOut 84 = .ok (.iconst 0, 1) := dk_3 (dk_at dksX8_comesOut_3 18 rfl rfl)
theorem dX8_comesOut_85 : decode cX8_comesOut 85 = .ok (.invokevirtual 327, 3) := dk_182 1 71 (dk_at dksX8_comesOut_3 19 rfl rfl)
theorem dX8_comesOut_88 : decode cX8_comesOut 88 = .ok (.goto (-88), 3) := dk_167 255 168 (dk_at dksX8_comesOut_4 0 rfl rfl)
theorem dX8_comesOut_91 : decode cX8_comesOut 91 = .ok (.return_, 1) := dk_177 (dk_at dksX8_comesOut_4 3 rfl rfl)
abbrev cX8_term : ByteArray := prog_19_method_32_code
def yX8_term : MethodName := ⟨RX8, "term", "()V"⟩
def dkwX8_term_1 : List UInt8 := [42, 180, 0, 104, 42, 180, 1, 10, 42, 180, 1, 13, 79, 42, 89, 180, 1, 10, 4, 96, 181, 1, 10, 177]
abbrev dktX8_term_1 : List UInt8 := dkwX8_term_1 ++ []
def dkwX8_term_0 : List UInt8 := [42, 180, 0, 101, 42, 180, 1, 10, 42, 180, 1, 13, 79, 42, 180, 0, 227, 154, 0, 7, 42, 182, 1, 62]
abbrev dktX8_term_0 : List UInt8 := dkwX8_term_0 ++ dktX8_term_1
theorem dksX8_term_0 : cX8_term.data.toList.drop 0 = dktX8_term_0 := by decide +kernel
theorem dksX8_term_1 : cX8_term.data.toList.drop 24 = dktX8_term_1 := dk_seg dksX8_term_0 24 rfl rfl
theorem dX8_term_0 : decode cX8_term 0 = .ok (.aload_n 0, 1) := dk_42 (dk_at dksX8_term_0 0 rfl rfl)
theorem dX8_term_1 : decode cX8_term 1 = .ok (.getfield 101, 3) := dk_180 0 101 (dk_at dksX8_term_0 1 rfl rfl)
theorem dX8_term_4 : decode cX8_term 4 = .ok (.aload_n 0, 1) := dk_42 (dk_at dksX8_term_0 4 rfl rfl)
theorem dX8_term_5 : decode cX8_term 5 = .ok (.getfield 266, 3) := dk_180 1 10 (dk_at dksX8_term_0 5 rfl rfl)
theorem dX8_term_8 : decode cX8_term 8 = .ok (.aload_n 0, 1) := dk_42 (dk_at dksX8_term_0 8 rfl rfl)
theorem dX8_term_9 : decode cX8_term 9 = .ok (.getfield 269, 3) := dk_180 1 13 (dk_at dksX8_term_0 9 rfl rfl)
theorem dX8_term_12 : decode cX8_term 12 = .ok (.iastore, 1) := dk_79 (dk_at dksX8_term_0 12 rfl rfl)
theorem dX8_term_13 : decode cX8_term 13 = .ok (.aload_n 0, 1) := dk_42 (dk_at dksX8_term_0 13 rfl rfl)
theorem dX8_term_14 : decode cX8_term 14 = .ok (.getfield 227, 3) := dk_180 0 227 (dk_at dksX8_term_0 14 rfl rfl)
theorem dX8_term_17 : decode cX8_term 17 = .ok (.ifCond .ne 7, 3) := dk_154 0 7 (dk_at dksX8_term_0 17 rfl rfl)
theorem dX8_term_20 : decode cX8_term 20 = .ok (.aload_n 0, 1) := dk_42 (dk_at dksX8_term_0 20 rfl rfl)
theorem dX8_term_21 : decode cX8_term 21 = .ok (.invokevirtual 318, 3) := dk_182 1 62 (dk_at dksX8_term_0 21 rfl rfl)
theorem dX8_term_24 : decode cX8_term 24 = .ok (.aload_n 0, 1) := dk_42 (dk_at dksX8_term_1 0 rfl rfl)
theorem dX8_term_25 : decode cX8_term 25 = .ok (.getfield 104, 3) := dk_180 0 104 (dk_at dksX8_term_1 1 rfl rfl)
theorem dX8_term_28 : decode cX8_term 28 = .ok (.aload_n 0, 1) := dk_42 (dk_at dksX8_term_1 4 rfl rfl)
theorem dX8_term_29 : decode cX8_term 29 = .ok (.getfield 266, 3) := dk_180 1 10 (dk_at dksX8_term_1 5 rfl rfl)
theorem dX8_term_32 : decode cX8_term 32 = .ok (.aload_n 0, 1) := dk_42 (dk_at dksX8_term_1 8 rfl rfl)
theorem dX8_term_33 : decode cX8_term 33 = .ok (.getfield 269, 3) := dk_180 1 13 (dk_at dksX8_term_1 9 rfl rfl)
theorem dX8_term_36 : decode cX8_term 36 = .ok (.iastore, 1) := dk_79 (dk_at dksX8_term_1 12 rfl rfl)
theorem dX8_term_37 : decode cX8_term 37 = .ok (.aload_n 0, 1) := dk_42 (dk_at dksX8_term_1 13 rfl rfl)
theorem dX8_term_38 : decode cX8_term 38 = .ok (.dup, 1) := dk_89 (dk_at dksX8_term_1 14 rfl rfl)
theorem dX8_term_39 : decode cX8_term 39 = .ok (.getfield 266, 3) := dk_180 1 10 (dk_at dksX8_term_1 15 rfl rfl)
theorem dX8_term_42 : decode cX8_term 42 = .ok (.iconst 1, 1) := dk_4 (dk_at dksX8_term_1 18 rfl rfl)
theorem dX8_term_43 : decode cX8_term 43 = .ok (.iadd, 1) := dk_96 (dk_at dksX8_term_1 19 rfl rfl)
theorem dX8_term_44 : decode cX8_term 44 = .ok (.putfield 266, 3) := dk_181 1 10 (dk_at dksX8_term_1 20 rfl rfl)
theorem dX8_term_47 : decode cX8_term 47 = .ok (.return_, 1) := dk_177 (dk_at dksX8_term_1 23 rfl rfl)
abbrev cX8_tellMirror : ByteArray := prog_19_method_30_code
def yX8_tellMirror : MethodName := ⟨RX8, "tellMirror", "()V"⟩
def dkwX8_tellMirror_3 : List UInt8 := [182, 1, 36, 42, 180, 0, 70, 42, 180, 1, 4, 92, 46, 4, 96, 79, 177]
abbrev dktX8_tellMirror_3 : List UInt8 := dkwX8_tellMirror_3 ++ []
def dkwX8_tellMirror_2 : List UInt8 := [182, 1, 33, 42, 180, 0, 227, 158, 0, 4, 177, 42, 28, 5, 42, 180, 0, 70, 42, 180, 1, 4, 46]
abbrev dktX8_tellMirror_2 : List UInt8 := dkwX8_tellMirror_2 ++ dktX8_tellMirror_3
def dkwX8_tellMirror_1 : List UInt8 := [180, 0, 73, 27, 42, 3, 182, 1, 46, 79, 42, 180, 0, 76, 27, 42, 4, 182, 1, 46, 79, 42, 7]
abbrev dktX8_tellMirror_1 : List UInt8 := dkwX8_tellMirror_1 ++ dktX8_tellMirror_2
def dkwX8_tellMirror_0 : List UInt8 := [16, 8, 42, 180, 1, 4, 104, 42, 180, 0, 70, 42, 180, 1, 4, 46, 96, 60, 42, 182, 1, 29, 61, 42]
abbrev dktX8_tellMirror_0 : List UInt8 := dkwX8_tellMirror_0 ++ dktX8_tellMirror_1
theorem dksX8_tellMirror_0 : cX8_tellMirror.data.toList.drop 0 = dktX8_tellMirror_0 := by decide +kernel
theorem dksX8_tellMirror_1 : cX8_tellMirror.data.toList.drop 24 = dktX8_tellMirror_1 := dk_seg dksX8_tellMirror_0 24 rfl rfl
theorem dksX8_tellMirror_2 : cX8_tellMirror.data.toList.drop 47 = dktX8_tellMirror_2 := dk_seg dksX8_tellMirror_1 23 rfl rfl
theorem dksX8_tellMirror_3 : cX8_tellMirror.data.toList.drop 70 = dktX8_tellMirror_3 := dk_seg dksX8_tellMirror_2 23 rfl rfl
theorem dX8_tellMirror_0 : decode cX8_tellMirror 0 = .ok (.bipush 8, 2) := dk_16 8 (dk_at dksX8_tellMirror_0 0 rfl rfl)
theorem dX8_tellMirror_2 : decode cX8_tellMirror 2 = .ok (.aload_n 0, 1) := dk_42 (dk_at dksX8_tellMirror_0 2 rfl rfl)
theorem dX8_tellMirror_3 : decode cX8_tellMirror 3 = .ok (.getfield 260, 3) := dk_180 1 4 (dk_at dksX8_tellMirror_0 3 rfl rfl)
theorem dX8_tellMirror_6 : decode cX8_tellMirror 6 = .ok (.imul, 1) := dk_104 (dk_at dksX8_tellMirror_0 6 rfl rfl)
theorem dX8_tellMirror_7 : decode cX8_tellMirror 7 = .ok (.aload_n 0, 1) := dk_42 (dk_at dksX8_tellMirror_0 7 rfl rfl)
theorem dX8_tellMirror_8 : decode cX8_tellMirror 8 = .ok (.getfield 70, 3) := dk_180 0 70 (dk_at dksX8_tellMirror_0 8 rfl rfl)
theorem dX8_tellMirror_11 : decode cX8_tellMirror 11 = .ok (.aload_n 0, 1) := dk_42 (dk_at dksX8_tellMirror_0 11 rfl rfl)
theorem dX8_tellMirror_12 : decode cX8_tellMirror 12 = .ok (.getfield 260, 3) := dk_180 1 4 (dk_at dksX8_tellMirror_0 12 rfl rfl)
theorem dX8_tellMirror_15 : decode cX8_tellMirror 15 = .ok (.iaload, 1) := dk_46 (dk_at dksX8_tellMirror_0 15 rfl rfl)
theorem dX8_tellMirror_16 : decode cX8_tellMirror 16 = .ok (.iadd, 1) := dk_96 (dk_at dksX8_tellMirror_0 16 rfl rfl)
theorem dX8_tellMirror_17 : decode cX8_tellMirror 17 = .ok (.istore_n 1, 1) := dk_60 (dk_at dksX8_tellMirror_0 17 rfl rfl)
theorem dX8_tellMirror_18 : decode cX8_tellMirror 18 = .ok (.aload_n 0, 1) := dk_42 (dk_at dksX8_tellMirror_0 18 rfl rfl)
theorem dX8_tellMirror_19 : decode cX8_tellMirror 19 = .ok (.invokevirtual 285, 3) := dk_182 1 29 (dk_at dksX8_tellMirror_0 19 rfl rfl)
theorem dX8_tellMirror_22 : decode cX8_tellMirror 22 = .ok (.istore_n 2, 1) := dk_61 (dk_at dksX8_tellMirror_0 22 rfl rfl)
theorem dX8_tellMirror_23 : decode cX8_tellMirror 23 = .ok (.aload_n 0, 1) := dk_42 (dk_at dksX8_tellMirror_0 23 rfl rfl)
theorem dX8_tellMirror_24 : decode cX8_tellMirror 24 = .ok (.getfield 73, 3) := dk_180 0 73 (dk_at dksX8_tellMirror_1 0 rfl rfl)
theorem dX8_tellMirror_27 : decode cX8_tellMirror 27 = .ok (.iload_n 1, 1) := dk_27 (dk_at dksX8_tellMirror_1 3 rfl rfl)
theorem dX8_tellMirror_28 : decode cX8_tellMirror 28 = .ok (.aload_n 0, 1) := dk_42 (dk_at dksX8_tellMirror_1 4 rfl rfl)
theorem dX8_tellMirror_29 : decode cX8_tellMirror 29 = .ok (.iconst 0, 1) := dk_3 (dk_at dksX8_tellMirror_1 5 rfl rfl)
theorem dX8_tellMirror_30 : decode cX8_tellMirror 30 = .ok (.invokevirtual 302, 3) := dk_182 1 46 (dk_at dksX8_tellMirror_1 6 rfl rfl)
theorem dX8_tellMirror_33 : decode cX8_tellMirror 33 = .ok (.iastore, 1) := dk_79 (dk_at dksX8_tellMirror_1 9 rfl rfl)
theorem dX8_tellMirror_34 : decode cX8_tellMirror 34 = .ok (.aload_n 0, 1) := dk_42 (dk_at dksX8_tellMirror_1 10 rfl rfl)
theorem dX8_tellMirror_35 : decode cX8_tellMirror 35 = .ok (.getfield 76, 3) := dk_180 0 76 (dk_at dksX8_tellMirror_1 11 rfl rfl)
theorem dX8_tellMirror_38 : decode cX8_tellMirror 38 = .ok (.iload_n 1, 1) := dk_27 (dk_at dksX8_tellMirror_1 14 rfl rfl)
theorem dX8_tellMirror_39 : decode cX8_tellMirror 39 = .ok (.aload_n 0, 1) := dk_42 (dk_at dksX8_tellMirror_1 15 rfl rfl)
theorem dX8_tellMirror_40 : decode cX8_tellMirror 40 = .ok (.iconst 1, 1) := dk_4 (dk_at dksX8_tellMirror_1 16 rfl rfl)
theorem dX8_tellMirror_41 : decode cX8_tellMirror 41 = .ok (.invokevirtual 302, 3) := dk_182 1 46 (dk_at dksX8_tellMirror_1 17 rfl rfl)
theorem dX8_tellMirror_44 : decode cX8_tellMirror 44 = .ok (.iastore, 1) := dk_79 (dk_at dksX8_tellMirror_1 20 rfl rfl)
theorem dX8_tellMirror_45 : decode cX8_tellMirror 45 = .ok (.aload_n 0, 1) := dk_42 (dk_at dksX8_tellMirror_1 21 rfl rfl)
theorem dX8_tellMirror_46 : decode cX8_tellMirror 46 = .ok (.iconst 4, 1) := dk_7 (dk_at dksX8_tellMirror_1 22 rfl rfl)
theorem dX8_tellMirror_47 : decode cX8_tellMirror 47 = .ok (.invokevirtual 289, 3) := dk_182 1 33 (dk_at dksX8_tellMirror_2 0 rfl rfl)
theorem dX8_tellMirror_50 : decode cX8_tellMirror 50 = .ok (.aload_n 0, 1) := dk_42 (dk_at dksX8_tellMirror_2 3 rfl rfl)
theorem dX8_tellMirror_51 : decode cX8_tellMirror 51 = .ok (.getfield 227, 3) := dk_180 0 227 (dk_at dksX8_tellMirror_2 4 rfl rfl)
theorem dX8_tellMirror_54 : decode cX8_tellMirror 54 = .ok (.ifCond .le 4, 3) := dk_158 0 4 (dk_at dksX8_tellMirror_2 7 rfl rfl)
theorem dX8_tellMirror_57 : decode cX8_tellMirror 57 = .ok (.return_, 1) := dk_177 (dk_at dksX8_tellMirror_2 10 rfl rfl)
theorem dX8_tellMirror_58 : decode cX8_tellMirror 58 = .ok (.aload_n 0, 1) := dk_42 (dk_at dksX8_tellMirror_2 11 rfl rfl)
theorem dX8_tellMirror_59 : decode cX8_tellMirror 59 = .ok (.iload_n 2, 1) := dk_28 (dk_at dksX8_tellMirror_2 12 rfl rfl)
theorem dX8_tellMirror_60 : decode cX8_tellMirror 60 = .ok (.iconst 2, 1) := dk_5 (dk_at dksX8_tellMirror_2 13 rfl rfl)
theorem dX8_tellMirror_61 : decode cX8_tellMirror 61 = .ok (.aload_n 0, 1) := dk_42 (dk_at dksX8_tellMirror_2 14 rfl rfl)
theorem dX8_tellMirror_62 : decode cX8_tellMirror 62 = .ok (.getfield 70, 3) := dk_180 0 70 (dk_at dksX8_tellMirror_2 15 rfl rfl)
theorem dX8_tellMirror_65 : decode cX8_tellMirror 65 = .ok (.aload_n 0, 1) := dk_42 (dk_at dksX8_tellMirror_2 18 rfl rfl)
theorem dX8_tellMirror_66 : decode cX8_tellMirror 66 = .ok (.getfield 260, 3) := dk_180 1 4 (dk_at dksX8_tellMirror_2 19 rfl rfl)
theorem dX8_tellMirror_69 : decode cX8_tellMirror 69 = .ok (.iaload, 1) := dk_46 (dk_at dksX8_tellMirror_2 22 rfl rfl)
theorem dX8_tellMirror_70 : decode cX8_tellMirror 70 = .ok (.invokevirtual 292, 3) := dk_182 1 36 (dk_at dksX8_tellMirror_3 0 rfl rfl)
theorem dX8_tellMirror_73 : decode cX8_tellMirror 73 = .ok (.aload_n 0, 1) := dk_42 (dk_at dksX8_tellMirror_3 3 rfl rfl)
theorem dX8_tellMirror_74 : decode cX8_tellMirror 74 = .ok (.getfield 70, 3) := dk_180 0 70 (dk_at dksX8_tellMirror_3 4 rfl rfl)
theorem dX8_tellMirror_77 : decode cX8_tellMirror 77 = .ok (.aload_n 0, 1) := dk_42 (dk_at dksX8_tellMirror_3 7 rfl rfl)
theorem dX8_tellMirror_78 : decode cX8_tellMirror 78 = .ok (.getfield 260, 3) := dk_180 1 4 (dk_at dksX8_tellMirror_3 8 rfl rfl)
theorem dX8_tellMirror_81 : decode cX8_tellMirror 81 = .ok (.dup2, 1) := dk_92 (dk_at dksX8_tellMirror_3 11 rfl rfl)
theorem dX8_tellMirror_82 : decode cX8_tellMirror 82 = .ok (.iaload, 1) := dk_46 (dk_at dksX8_tellMirror_3 12 rfl rfl)
theorem dX8_tellMirror_83 : decode cX8_tellMirror 83 = .ok (.iconst 1, 1) := dk_4 (dk_at dksX8_tellMirror_3 13 rfl rfl)
theorem dX8_tellMirror_84 : decode cX8_tellMirror 84 = .ok (.iadd, 1) := dk_96 (dk_at dksX8_tellMirror_3 14 rfl rfl)
theorem dX8_tellMirror_85 : decode cX8_tellMirror 85 = .ok (.iastore, 1) := dk_79 (dk_at dksX8_tellMirror_3 15 rfl rfl)
theorem dX8_tellMirror_86 : decode cX8_tellMirror 86 = .ok (.return_, 1) := dk_177 (dk_at dksX8_tellMirror_3 16 rfl rfl)
abbrev cX8_place : ByteArray := prog_19_method_21_code
def yX8_place : MethodName := ⟨RX8, "place", "()I"⟩
theorem dX8_place_0 : decode cX8_place 0 = .ok (.aload_n 0, 1) := by decide +kernel
theorem dX8_place_1 : decode cX8_place 1 = .ok (.getfield 37, 3) := by decide +kernel
theorem dX8_place_4 : decode cX8_place 4 = .ok (.ireturn, 1) := by decide +kernel
abbrev cX8_man : ByteArray := prog_19_method_65_code
def yX8_man : MethodName := ⟨RX8, "man", "(III)I"⟩
def dkwX8_man_1 : List UInt8 := [154, 0, 5, 2, 172, 42, 180, 0, 122, 16, 36, 28, 104, 16, 6, 29, 104, 96, 27, 96, 46, 172]
abbrev dktX8_man_1 : List UInt8 := dkwX8_man_1 ++ []
def dkwX8_man_0 : List UInt8 := [42, 27, 182, 1, 154, 153, 0, 20, 42, 28, 182, 1, 157, 153, 0, 12, 29, 3, 4, 184, 1, 85]
abbrev dktX8_man_0 : List UInt8 := dkwX8_man_0 ++ dktX8_man_1
theorem dksX8_man_0 : cX8_man.data.toList.drop 0 = dktX8_man_0 := by decide +kernel
theorem dksX8_man_1 : cX8_man.data.toList.drop 22 = dktX8_man_1 := dk_seg dksX8_man_0 22 rfl rfl
theorem dX8_man_0 : decode cX8_man 0 = .ok (.aload_n 0, 1) := dk_42 (dk_at dksX8_man_0 0 rfl rfl)
theorem dX8_man_1 : decode cX8_man 1 = .ok (.iload_n 1, 1) := dk_27 (dk_at dksX8_man_0 1 rfl rfl)
theorem dX8_man_2 : decode cX8_man 2 = .ok (.invokevirtual 410, 3) := dk_182 1 154 (dk_at dksX8_man_0 2 rfl rfl)
theorem dX8_man_5 : decode cX8_man 5 = .ok (.ifCond .eq 20, 3) := dk_153 0 20 (dk_at dksX8_man_0 5 rfl rfl)
theorem dX8_man_8 : decode cX8_man 8 = .ok (.aload_n 0, 1) := dk_42 (dk_at dksX8_man_0 8 rfl rfl)
theorem dX8_man_9 : decode cX8_man 9 = .ok (.iload_n 2, 1) := dk_28 (dk_at dksX8_man_0 9 rfl rfl)
theorem dX8_man_10 : decode cX8_man 10 = .ok (.invokevirtual 413, 3) := dk_182 1 157 (dk_at dksX8_man_0 10 rfl rfl)
theorem dX8_man_13 : decode cX8_man 13 = .ok (.ifCond .eq 12, 3) := dk_153 0 12 (dk_at dksX8_man_0 13 rfl rfl)
theorem dX8_man_16 : decode cX8_man 16 = .ok (.iload_n 3, 1) := dk_29 (dk_at dksX8_man_0 16 rfl rfl)
theorem dX8_man_17 : decode cX8_man 17 = .ok (.iconst 0, 1) := dk_3 (dk_at dksX8_man_0 17 rfl rfl)
theorem dX8_man_18 : decode cX8_man 18 = .ok (.iconst 1, 1) := dk_4 (dk_at dksX8_man_0 18 rfl rfl)
theorem dX8_man_19 : decode cX8_man 19 = .ok (.invokestatic 341, 3) := dk_184 1 85 (dk_at dksX8_man_0 19 rfl rfl)
theorem dX8_man_22 : decode cX8_man 22 = .ok (.ifCond .ne 5, 3) := dk_154 0 5 (dk_at dksX8_man_1 0 rfl rfl)
theorem dX8_man_25 : decode cX8_man 25 = .ok (.iconst (-1), 1) := dk_2 (dk_at dksX8_man_1 3 rfl rfl)
theorem dX8_man_26 : decode cX8_man 26 = .ok (.ireturn, 1) := dk_172 (dk_at dksX8_man_1 4 rfl rfl)
theorem dX8_man_27 : decode cX8_man 27 = .ok (.aload_n 0, 1) := dk_42 (dk_at dksX8_man_1 5 rfl rfl)
theorem dX8_man_28 : decode cX8_man 28 = .ok (.getfield 122, 3) := dk_180 0 122 (dk_at dksX8_man_1 6 rfl rfl)
theorem dX8_man_31 : decode cX8_man 31 = .ok (.bipush 36, 2) := dk_16 36 (dk_at dksX8_man_1 9 rfl rfl)
theorem dX8_man_33 : decode cX8_man 33 = .ok (.iload_n 2, 1) := dk_28 (dk_at dksX8_man_1 11 rfl rfl)
theorem dX8_man_34 : decode cX8_man 34 = .ok (.imul, 1) := dk_104 (dk_at dksX8_man_1 12 rfl rfl)
theorem dX8_man_35 : decode cX8_man 35 = .ok (.bipush 6, 2) := dk_16 6 (dk_at dksX8_man_1 13 rfl rfl)
theorem dX8_man_37 : decode cX8_man 37 = .ok (.iload_n 3, 1) := dk_29 (dk_at dksX8_man_1 15 rfl rfl)
theorem dX8_man_38 : decode cX8_man 38 = .ok (.imul, 1) := dk_104 (dk_at dksX8_man_1 16 rfl rfl)
theorem dX8_man_39 : decode cX8_man 39 = .ok (.iadd, 1) := dk_96 (dk_at dksX8_man_1 17 rfl rfl)
theorem dX8_man_40 : decode cX8_man 40 = .ok (.iload_n 1, 1) := dk_27 (dk_at dksX8_man_1 18 rfl rfl)
theorem dX8_man_41 : decode cX8_man 41 = .ok (.iadd, 1) := dk_96 (dk_at dksX8_man_1 19 rfl rfl)
theorem dX8_man_42 : decode cX8_man 42 = .ok (.iaload, 1) := dk_46 (dk_at dksX8_man_1 20 rfl rfl)
theorem dX8_man_43 : decode cX8_man 43 = .ok (.ireturn, 1) := dk_172 (dk_at dksX8_man_1 21 rfl rfl)
abbrev cX8_isMan : ByteArray := prog_19_method_40_code
def yX8_isMan : MethodName := ⟨RX8, "isMan", "(I)Z"⟩
def dkwX8_isMan_0 : List UInt8 := [27, 3, 42, 180, 0, 61, 42, 180, 1, 1, 46, 4, 100, 184, 1, 85, 172]
abbrev dktX8_isMan_0 : List UInt8 := dkwX8_isMan_0 ++ []
theorem dksX8_isMan_0 : cX8_isMan.data.toList.drop 0 = dktX8_isMan_0 := by decide +kernel
theorem dX8_isMan_0 : decode cX8_isMan 0 = .ok (.iload_n 1, 1) := dk_27 (dk_at dksX8_isMan_0 0 rfl rfl)
theorem dX8_isMan_1 : decode cX8_isMan 1 = .ok (.iconst 0, 1) := dk_3 (dk_at dksX8_isMan_0 1 rfl rfl)
theorem dX8_isMan_2 : decode cX8_isMan 2 = .ok (.aload_n 0, 1) := dk_42 (dk_at dksX8_isMan_0 2 rfl rfl)
theorem dX8_isMan_3 : decode cX8_isMan 3 = .ok (.getfield 61, 3) := dk_180 0 61 (dk_at dksX8_isMan_0 3 rfl rfl)
theorem dX8_isMan_6 : decode cX8_isMan 6 = .ok (.aload_n 0, 1) := dk_42 (dk_at dksX8_isMan_0 6 rfl rfl)
theorem dX8_isMan_7 : decode cX8_isMan 7 = .ok (.getfield 257, 3) := dk_180 1 1 (dk_at dksX8_isMan_0 7 rfl rfl)
theorem dX8_isMan_10 : decode cX8_isMan 10 = .ok (.iaload, 1) := dk_46 (dk_at dksX8_isMan_0 10 rfl rfl)
theorem dX8_isMan_11 : decode cX8_isMan 11 = .ok (.iconst 1, 1) := dk_4 (dk_at dksX8_isMan_0 11 rfl rfl)
theorem dX8_isMan_12 : decode cX8_isMan 12 = .ok (.isub, 1) := dk_100 (dk_at dksX8_isMan_0 12 rfl rfl)
theorem dX8_isMan_13 : decode cX8_isMan 13 = .ok (.invokestatic 341, 3) := dk_184 1 85 (dk_at dksX8_isMan_0 13 rfl rfl)
theorem dX8_isMan_16 : decode cX8_isMan 16 = .ok (.ireturn, 1) := dk_172 (dk_at dksX8_isMan_0 16 rfl rfl)
abbrev cX8_in : ByteArray := prog_19_method_38_code
def yX8_in : MethodName := ⟨RX8, "in", "(III)Z"⟩
def dkwX8_in_0 : List UInt8 := [26, 27, 161, 0, 12, 26, 28, 163, 0, 7, 4, 167, 0, 4, 3, 172]
abbrev dktX8_in_0 : List UInt8 := dkwX8_in_0 ++ []
theorem dksX8_in_0 : cX8_in.data.toList.drop 0 = dktX8_in_0 := by decide +kernel
theorem dX8_in_0 : decode cX8_in 0 = .ok (.iload_n 0, 1) := dk_26 (dk_at dksX8_in_0 0 rfl rfl)
theorem dX8_in_1 : decode cX8_in 1 = .ok (.iload_n 1, 1) := dk_27 (dk_at dksX8_in_0 1 rfl rfl)
theorem dX8_in_2 : decode cX8_in 2 = .ok (.if_icmp .lt 12, 3) := dk_161 0 12 (dk_at dksX8_in_0 2 rfl rfl)
theorem dX8_in_5 : decode cX8_in 5 = .ok (.iload_n 0, 1) := dk_26 (dk_at dksX8_in_0 5 rfl rfl)
theorem dX8_in_6 : decode cX8_in 6 = .ok (.iload_n 2, 1) := dk_28 (dk_at dksX8_in_0 6 rfl rfl)
theorem dX8_in_7 : decode cX8_in 7 = .ok (.if_icmp .gt 7, 3) := dk_163 0 7 (dk_at dksX8_in_0 7 rfl rfl)
theorem dX8_in_10 : decode cX8_in 10 = .ok (.iconst 1, 1) := dk_4 (dk_at dksX8_in_0 10 rfl rfl)
theorem dX8_in_11 : decode cX8_in 11 = .ok (.goto 4, 3) := dk_167 0 4 (dk_at dksX8_in_0 11 rfl rfl)
theorem dX8_in_14 : decode cX8_in 14 = .ok (.iconst 0, 1) := dk_3 (dk_at dksX8_in_0 14 rfl rfl)
theorem dX8_in_15 : decode cX8_in 15 = .ok (.ireturn, 1) := dk_172 (dk_at dksX8_in_0 15 rfl rfl)
abbrev cX8_isPast : ByteArray := prog_19_method_42_code
def yX8_isPast : MethodName := ⟨RX8, "isPast", "(I)Z"⟩
def dkwX8_isPast_0 : List UInt8 := [27, 3, 42, 180, 1, 89, 184, 1, 85, 172]
abbrev dktX8_isPast_0 : List UInt8 := dkwX8_isPast_0 ++ []
theorem dksX8_isPast_0 : cX8_isPast.data.toList.drop 0 = dktX8_isPast_0 := by decide +kernel
theorem dX8_isPast_0 : decode cX8_isPast 0 = .ok (.iload_n 1, 1) := dk_27 (dk_at dksX8_isPast_0 0 rfl rfl)
theorem dX8_isPast_1 : decode cX8_isPast 1 = .ok (.iconst 0, 1) := dk_3 (dk_at dksX8_isPast_0 1 rfl rfl)
theorem dX8_isPast_2 : decode cX8_isPast 2 = .ok (.aload_n 0, 1) := dk_42 (dk_at dksX8_isPast_0 2 rfl rfl)
theorem dX8_isPast_3 : decode cX8_isPast 3 = .ok (.getfield 345, 3) := dk_180 1 89 (dk_at dksX8_isPast_0 3 rfl rfl)
theorem dX8_isPast_6 : decode cX8_isPast 6 = .ok (.invokestatic 341, 3) := dk_184 1 85 (dk_at dksX8_isPast_0 6 rfl rfl)
theorem dX8_isPast_9 : decode cX8_isPast 9 = .ok (.ireturn, 1) := dk_172 (dk_at dksX8_isPast_0 9 rfl rfl)
abbrev cX8_mirror : ByteArray := prog_19_method_66_code
def yX8_mirror : MethodName := ⟨RX8, "mirror", "(III)I"⟩
def dkwX8_mirror_6 : List UInt8 := [16, 254, 167, 0, 10, 42, 27, 21, 4, 182, 1, 136, 172, 42, 27, 21, 4, 182, 1, 166, 172, 2, 172]
abbrev dktX8_mirror_6 : List UInt8 := dkwX8_mirror_6 ++ []
def dkwX8_mirror_5 : List UInt8 := [180, 0, 134, 27, 46, 28, 163, 0, 7, 4, 167, 0, 4, 3, 172, 21, 4, 172, 21, 4, 156, 0, 8]
abbrev dktX8_mirror_5 : List UInt8 := dkwX8_mirror_5 ++ dktX8_mirror_6
def dkwX8_mirror_4 : List UInt8 := [28, 182, 1, 132, 153, 0, 7, 4, 167, 0, 4, 3, 172, 42, 180, 0, 134, 27, 46, 2, 159, 0, 17, 42]
abbrev dktX8_mirror_4 : List UInt8 := dkwX8_mirror_4 ++ dktX8_mirror_5
def dkwX8_mirror_3 : List UInt8 := [42, 27, 28, 182, 1, 136, 172, 42, 180, 0, 131, 16, 36, 28, 104, 16, 28, 96, 27, 96, 46, 172, 42, 27]
abbrev dktX8_mirror_3 : List UInt8 := dkwX8_mirror_3 ++ dktX8_mirror_4
def dkwX8_mirror_2 : List UInt8 := [170, 0, 0, 0, 133, 0, 0, 0, 0, 0, 0, 0, 6, 0, 0, 0, 41, 0, 0, 0, 48, 0, 0, 0, 63, 0, 0, 0, 78, 0, 0, 0, 104, 0, 0, 0, 107, 0, 0, 0, 125]
abbrev dktX8_mirror_2 : List UInt8 := dkwX8_mirror_2 ++ dktX8_mirror_3
def dkwX8_mirror_1 : List UInt8 := [28, 182, 1, 139, 54, 4, 29]
abbrev dktX8_mirror_1 : List UInt8 := dkwX8_mirror_1 ++ dktX8_mirror_2
def dkwX8_mirror_0 : List UInt8 := [42, 27, 182, 1, 160, 153, 0, 11, 42, 28, 182, 1, 157, 154, 0, 5, 2, 172, 42, 182, 1, 163, 42, 27]
abbrev dktX8_mirror_0 : List UInt8 := dkwX8_mirror_0 ++ dktX8_mirror_1
theorem dksX8_mirror_0 : cX8_mirror.data.toList.drop 0 = dktX8_mirror_0 := by decide +kernel
theorem dksX8_mirror_1 : cX8_mirror.data.toList.drop 24 = dktX8_mirror_1 := dk_seg dksX8_mirror_0 24 rfl rfl
theorem dksX8_mirror_2 : cX8_mirror.data.toList.drop 31 = dktX8_mirror_2 := dk_seg dksX8_mirror_1 7 rfl rfl
theorem dksX8_mirror_3 : cX8_mirror.data.toList.drop 72 = dktX8_mirror_3 := dk_seg dksX8_mirror_2 41 rfl rfl
theorem dksX8_mirror_4 : cX8_mirror.data.toList.drop 96 = dktX8_mirror_4 := dk_seg dksX8_mirror_3 24 rfl rfl
theorem dksX8_mirror_5 : cX8_mirror.data.toList.drop 120 = dktX8_mirror_5 := dk_seg dksX8_mirror_4 24 rfl rfl
theorem dksX8_mirror_6 : cX8_mirror.data.toList.drop 143 = dktX8_mirror_6 := dk_seg dksX8_mirror_5 23 rfl rfl
theorem dX8_mirror_0 : decode cX8_mirror 0 = .ok (.aload_n 0, 1) := dk_42 (dk_at dksX8_mirror_0 0 rfl rfl)
theorem dX8_mirror_1 : decode cX8_mirror 1 = .ok (.iload_n 1, 1) := dk_27 (dk_at dksX8_mirror_0 1 rfl rfl)
theorem dX8_mirror_2 : decode cX8_mirror 2 = .ok (.invokevirtual 416, 3) := dk_182 1 160 (dk_at dksX8_mirror_0 2 rfl rfl)
theorem dX8_mirror_5 : decode cX8_mirror 5 = .ok (.ifCond .eq 11, 3) := dk_153 0 11 (dk_at dksX8_mirror_0 5 rfl rfl)
theorem dX8_mirror_8 : decode cX8_mirror 8 = .ok (.aload_n 0, 1) := dk_42 (dk_at dksX8_mirror_0 8 rfl rfl)
theorem dX8_mirror_9 : decode cX8_mirror 9 = .ok (.iload_n 2, 1) := dk_28 (dk_at dksX8_mirror_0 9 rfl rfl)
theorem dX8_mirror_10 : decode cX8_mirror 10 = .ok (.invokevirtual 413, 3) := dk_182 1 157 (dk_at dksX8_mirror_0 10 rfl rfl)
theorem dX8_mirror_13 : decode cX8_mirror 13 = .ok (.ifCond .ne 5, 3) := dk_154 0 5 (dk_at dksX8_mirror_0 13 rfl rfl)
theorem dX8_mirror_16 : decode cX8_mirror 16 = .ok (.iconst (-1), 1) := dk_2 (dk_at dksX8_mirror_0 16 rfl rfl)
theorem dX8_mirror_17 : decode cX8_mirror 17 = .ok (.ireturn, 1) := dk_172 (dk_at dksX8_mirror_0 17 rfl rfl)
theorem dX8_mirror_18 : decode cX8_mirror 18 = .ok (.aload_n 0, 1) := dk_42 (dk_at dksX8_mirror_0 18 rfl rfl)
theorem dX8_mirror_19 : decode cX8_mirror 19 = .ok (.invokevirtual 419, 3) := dk_182 1 163 (dk_at dksX8_mirror_0 19 rfl rfl)
theorem dX8_mirror_22 : decode cX8_mirror 22 = .ok (.aload_n 0, 1) := dk_42 (dk_at dksX8_mirror_0 22 rfl rfl)
theorem dX8_mirror_23 : decode cX8_mirror 23 = .ok (.iload_n 1, 1) := dk_27 (dk_at dksX8_mirror_0 23 rfl rfl)
theorem dX8_mirror_24 : decode cX8_mirror 24 = .ok (.iload_n 2, 1) := dk_28 (dk_at dksX8_mirror_1 0 rfl rfl)
theorem dX8_mirror_25 : decode cX8_mirror 25 = .ok (.invokevirtual 395, 3) := dk_182 1 139 (dk_at dksX8_mirror_1 1 rfl rfl)
theorem dX8_mirror_28 : decode cX8_mirror 28 = .ok (.istore 4, 2) := dk_54 4 (dk_at dksX8_mirror_1 4 rfl rfl)
theorem dX8_mirror_30 : decode cX8_mirror 30 = .ok (.iload_n 3, 1) := dk_29 (dk_at dksX8_mirror_1 6 rfl rfl)
theorem dX8_mirror_31 : decode cX8_mirror 31 = .ok (.tableswitch 133 0 6 #[41, 48, 63, 78, 104, 107, 125], 41) := by decide +kernel
theorem dX8_mirror_72 : decode cX8_mirror 72 = .ok (.aload_n 0, 1) := dk_42 (dk_at dksX8_mirror_3 0 rfl rfl)
theorem dX8_mirror_73 : decode cX8_mirror 73 = .ok (.iload_n 1, 1) := dk_27 (dk_at dksX8_mirror_3 1 rfl rfl)
theorem dX8_mirror_74 : decode cX8_mirror 74 = .ok (.iload_n 2, 1) := dk_28 (dk_at dksX8_mirror_3 2 rfl rfl)
theorem dX8_mirror_75 : decode cX8_mirror 75 = .ok (.invokevirtual 392, 3) := dk_182 1 136 (dk_at dksX8_mirror_3 3 rfl rfl)
theorem dX8_mirror_78 : decode cX8_mirror 78 = .ok (.ireturn, 1) := dk_172 (dk_at dksX8_mirror_3 6 rfl rfl)
theorem dX8_mirror_79 : decode cX8_mirror 79 = .ok (.aload_n 0, 1) := dk_42 (dk_at dksX8_mirror_3 7 rfl rfl)
theorem dX8_mirror_80 : decode cX8_mirror 80 = .ok (.getfield 131, 3) := dk_180 0 131 (dk_at dksX8_mirror_3 8 rfl rfl)
theorem dX8_mirror_83 : decode cX8_mirror 83 = .ok (.bipush 36, 2) := dk_16 36 (dk_at dksX8_mirror_3 11 rfl rfl)
theorem dX8_mirror_85 : decode cX8_mirror 85 = .ok (.iload_n 2, 1) := dk_28 (dk_at dksX8_mirror_3 13 rfl rfl)
theorem dX8_mirror_86 : decode cX8_mirror 86 = .ok (.imul, 1) := dk_104 (dk_at dksX8_mirror_3 14 rfl rfl)
theorem dX8_mirror_87 : decode cX8_mirror 87 = .ok (.bipush 28, 2) := dk_16 28 (dk_at dksX8_mirror_3 15 rfl rfl)
theorem dX8_mirror_89 : decode cX8_mirror 89 = .ok (.iadd, 1) := dk_96 (dk_at dksX8_mirror_3 17 rfl rfl)
theorem dX8_mirror_90 : decode cX8_mirror 90 = .ok (.iload_n 1, 1) := dk_27 (dk_at dksX8_mirror_3 18 rfl rfl)
theorem dX8_mirror_91 : decode cX8_mirror 91 = .ok (.iadd, 1) := dk_96 (dk_at dksX8_mirror_3 19 rfl rfl)
theorem dX8_mirror_92 : decode cX8_mirror 92 = .ok (.iaload, 1) := dk_46 (dk_at dksX8_mirror_3 20 rfl rfl)
theorem dX8_mirror_93 : decode cX8_mirror 93 = .ok (.ireturn, 1) := dk_172 (dk_at dksX8_mirror_3 21 rfl rfl)
theorem dX8_mirror_94 : decode cX8_mirror 94 = .ok (.aload_n 0, 1) := dk_42 (dk_at dksX8_mirror_3 22 rfl rfl)
theorem dX8_mirror_95 : decode cX8_mirror 95 = .ok (.iload_n 1, 1) := dk_27 (dk_at dksX8_mirror_3 23 rfl rfl)
theorem dX8_mirror_96 : decode cX8_mirror 96 = .ok (.iload_n 2, 1) := dk_28 (dk_at dksX8_mirror_4 0 rfl rfl)
theorem dX8_mirror_97 : decode cX8_mirror 97 = .ok (.invokevirtual 388, 3) := dk_182 1 132 (dk_at dksX8_mirror_4 1 rfl rfl)
theorem dX8_mirror_100 : decode cX8_mirror 100 = .ok (.ifCond .eq 7, 3) := dk_153 0 7 (dk_at dksX8_mirror_4 4 rfl rfl)
theorem dX8_mirror_103 : decode cX8_mirror 103 = .ok (.iconst 1, 1) := dk_4 (dk_at dksX8_mirror_4 7 rfl rfl)
theorem dX8_mirror_104 : decode cX8_mirror 104 = .ok (.goto 4, 3) := dk_167 0 4 (dk_at dksX8_mirror_4 8 rfl rfl)
theorem dX8_mirror_107 : decode cX8_mirror 107 = .ok (.iconst 0, 1) := dk_3 (dk_at dksX8_mirror_4 11 rfl rfl)
theorem dX8_mirror_108 : decode cX8_mirror 108 = .ok (.ireturn, 1) := dk_172 (dk_at dksX8_mirror_4 12 rfl rfl)
theorem dX8_mirror_109 : decode cX8_mirror 109 = .ok (.aload_n 0, 1) := dk_42 (dk_at dksX8_mirror_4 13 rfl rfl)
theorem dX8_mirror_110 : decode cX8_mirror 110 = .ok (.getfield 134, 3) := dk_180 0 134 (dk_at dksX8_mirror_4 14 rfl rfl)
theorem dX8_mirror_113 : decode cX8_mirror 113 = .ok (.iload_n 1, 1) := dk_27 (dk_at dksX8_mirror_4 17 rfl rfl)
theorem dX8_mirror_114 : decode cX8_mirror 114 = .ok (.iaload, 1) := dk_46 (dk_at dksX8_mirror_4 18 rfl rfl)
theorem dX8_mirror_115 : decode cX8_mirror 115 = .ok (.iconst (-1), 1) := dk_2 (dk_at dksX8_mirror_4 19 rfl rfl)
theorem dX8_mirror_116 : decode cX8_mirror 116 = .ok (.if_icmp .eq 17, 3) := dk_159 0 17 (dk_at dksX8_mirror_4 20 rfl rfl)
theorem dX8_mirror_119 : decode cX8_mirror 119 = .ok (.aload_n 0, 1) := dk_42 (dk_at dksX8_mirror_4 23 rfl rfl)
theorem dX8_mirror_120 : decode cX8_mirror 120 = .ok (.getfield 134, 3) := dk_180 0 134 (dk_at dksX8_mirror_5 0 rfl rfl)
theorem dX8_mirror_123 : decode cX8_mirror 123 = .ok (.iload_n 1, 1) := dk_27 (dk_at dksX8_mirror_5 3 rfl rfl)
theorem dX8_mirror_124 : decode cX8_mirror 124 = .ok (.iaload, 1) := dk_46 (dk_at dksX8_mirror_5 4 rfl rfl)
theorem dX8_mirror_125 : decode cX8_mirror 125 = .ok (.iload_n 2, 1) := dk_28 (dk_at dksX8_mirror_5 5 rfl rfl)
theorem dX8_mirror_126 : decode cX8_mirror 126 = .ok (.if_icmp .gt 7, 3) := dk_163 0 7 (dk_at dksX8_mirror_5 6 rfl rfl)
theorem dX8_mirror_129 : decode cX8_mirror 129 = .ok (.iconst 1, 1) := dk_4 (dk_at dksX8_mirror_5 9 rfl rfl)
theorem dX8_mirror_130 : decode cX8_mirror 130 = .ok (.goto 4, 3) := dk_167 0 4 (dk_at dksX8_mirror_5 10 rfl rfl)
theorem dX8_mirror_133 : decode cX8_mirror 133 = .ok (.iconst 0, 1) := dk_3 (dk_at dksX8_mirror_5 13 rfl rfl)
theorem dX8_mirror_134 : decode cX8_mirror 134 = .ok (.ireturn, 1) := dk_172 (dk_at dksX8_mirror_5 14 rfl rfl)
theorem dX8_mirror_135 : decode cX8_mirror 135 = .ok (.iload 4, 2) := dk_21 4 (dk_at dksX8_mirror_5 15 rfl rfl)
theorem dX8_mirror_137 : decode cX8_mirror 137 = .ok (.ireturn, 1) := dk_172 (dk_at dksX8_mirror_5 17 rfl rfl)
theorem dX8_mirror_138 : decode cX8_mirror 138 = .ok (.iload 4, 2) := dk_21 4 (dk_at dksX8_mirror_5 18 rfl rfl)
theorem dX8_mirror_140 : decode cX8_mirror 140 = .ok (.ifCond .ge 8, 3) := dk_156 0 8 (dk_at dksX8_mirror_5 20 rfl rfl)
theorem dX8_mirror_143 : decode cX8_mirror 143 = .ok (.bipush (-2), 2) := dk_16 254 (dk_at dksX8_mirror_6 0 rfl rfl)
theorem dX8_mirror_145 : decode cX8_mirror 145 = .ok (.goto 10, 3) := dk_167 0 10 (dk_at dksX8_mirror_6 2 rfl rfl)
theorem dX8_mirror_148 : decode cX8_mirror 148 = .ok (.aload_n 0, 1) := dk_42 (dk_at dksX8_mirror_6 5 rfl rfl)
theorem dX8_mirror_149 : decode cX8_mirror 149 = .ok (.iload_n 1, 1) := dk_27 (dk_at dksX8_mirror_6 6 rfl rfl)
theorem dX8_mirror_150 : decode cX8_mirror 150 = .ok (.iload 4, 2) := dk_21 4 (dk_at dksX8_mirror_6 7 rfl rfl)
theorem dX8_mirror_152 : decode cX8_mirror 152 = .ok (.invokevirtual 392, 3) := dk_182 1 136 (dk_at dksX8_mirror_6 9 rfl rfl)
theorem dX8_mirror_155 : decode cX8_mirror 155 = .ok (.ireturn, 1) := dk_172 (dk_at dksX8_mirror_6 12 rfl rfl)
theorem dX8_mirror_156 : decode cX8_mirror 156 = .ok (.aload_n 0, 1) := dk_42 (dk_at dksX8_mirror_6 13 rfl rfl)
theorem dX8_mirror_157 : decode cX8_mirror 157 = .ok (.iload_n 1, 1) := dk_27 (dk_at dksX8_mirror_6 14 rfl rfl)
theorem dX8_mirror_158 : decode cX8_mirror 158 = .ok (.iload 4, 2) := dk_21 4 (dk_at dksX8_mirror_6 15 rfl rfl)
theorem dX8_mirror_160 : decode cX8_mirror 160 = .ok (.invokevirtual 422, 3) := dk_182 1 166 (dk_at dksX8_mirror_6 17 rfl rfl)
theorem dX8_mirror_163 : decode cX8_mirror 163 = .ok (.ireturn, 1) := dk_172 (dk_at dksX8_mirror_6 20 rfl rfl)
theorem dX8_mirror_164 : decode cX8_mirror 164 = .ok (.iconst (-1), 1) := dk_2 (dk_at dksX8_mirror_6 21 rfl rfl)
theorem dX8_mirror_165 : decode cX8_mirror 165 = .ok (.ireturn, 1) := dk_172 (dk_at dksX8_mirror_6 22 rfl rfl)
abbrev cX8_isMirror : ByteArray := prog_19_method_41_code
def yX8_isMirror : MethodName := ⟨RX8, "isMirror", "(I)Z"⟩
def dkwX8_isMirror_0 : List UInt8 := [27, 3, 42, 180, 0, 70, 42, 180, 1, 1, 46, 4, 100, 184, 1, 85, 172]
abbrev dktX8_isMirror_0 : List UInt8 := dkwX8_isMirror_0 ++ []
theorem dksX8_isMirror_0 : cX8_isMirror.data.toList.drop 0 = dktX8_isMirror_0 := by decide +kernel
theorem dX8_isMirror_0 : decode cX8_isMirror 0 = .ok (.iload_n 1, 1) := dk_27 (dk_at dksX8_isMirror_0 0 rfl rfl)
theorem dX8_isMirror_1 : decode cX8_isMirror 1 = .ok (.iconst 0, 1) := dk_3 (dk_at dksX8_isMirror_0 1 rfl rfl)
theorem dX8_isMirror_2 : decode cX8_isMirror 2 = .ok (.aload_n 0, 1) := dk_42 (dk_at dksX8_isMirror_0 2 rfl rfl)
theorem dX8_isMirror_3 : decode cX8_isMirror 3 = .ok (.getfield 70, 3) := dk_180 0 70 (dk_at dksX8_isMirror_0 3 rfl rfl)
theorem dX8_isMirror_6 : decode cX8_isMirror 6 = .ok (.aload_n 0, 1) := dk_42 (dk_at dksX8_isMirror_0 6 rfl rfl)
theorem dX8_isMirror_7 : decode cX8_isMirror 7 = .ok (.getfield 257, 3) := dk_180 1 1 (dk_at dksX8_isMirror_0 7 rfl rfl)
theorem dX8_isMirror_10 : decode cX8_isMirror 10 = .ok (.iaload, 1) := dk_46 (dk_at dksX8_isMirror_0 10 rfl rfl)
theorem dX8_isMirror_11 : decode cX8_isMirror 11 = .ok (.iconst 1, 1) := dk_4 (dk_at dksX8_isMirror_0 11 rfl rfl)
theorem dX8_isMirror_12 : decode cX8_isMirror 12 = .ok (.isub, 1) := dk_100 (dk_at dksX8_isMirror_0 12 rfl rfl)
theorem dX8_isMirror_13 : decode cX8_isMirror 13 = .ok (.invokestatic 341, 3) := dk_184 1 85 (dk_at dksX8_isMirror_0 13 rfl rfl)
theorem dX8_isMirror_16 : decode cX8_isMirror 16 = .ok (.ireturn, 1) := dk_172 (dk_at dksX8_isMirror_0 16 rfl rfl)
abbrev cX8_copies : ByteArray := prog_19_method_46_code
def yX8_copies : MethodName := ⟨RX8, "copies", "()V"⟩
def dkwX8_copies_4 : List UInt8 := [181, 1, 95, 177]
abbrev dktX8_copies_4 : List UInt8 := dkwX8_copies_4 ++ []
def dkwX8_copies_3 : List UInt8 := [180, 0, 128, 27, 46, 79, 132, 1, 1, 167, 255, 223, 42, 42, 180, 0, 82, 42, 180, 1, 1, 46]
abbrev dktX8_copies_3 : List UInt8 := dkwX8_copies_3 ++ dktX8_copies_4
def dkwX8_copies_2 : List UInt8 := [16, 8, 162, 0, 33, 42, 180, 0, 134, 27, 42, 180, 0, 125, 27, 46, 79, 42, 180, 0, 137, 27, 42]
abbrev dktX8_copies_2 : List UInt8 := dkwX8_copies_2 ++ dktX8_copies_3
def dkwX8_copies_1 : List UInt8 := [180, 0, 122, 27, 46, 79, 132, 1, 1, 167, 255, 227, 42, 42, 180, 1, 89, 181, 1, 92, 3, 60, 27]
abbrev dktX8_copies_1 : List UInt8 := dkwX8_copies_1 ++ dktX8_copies_2
def dkwX8_copies_0 : List UInt8 := [3, 60, 27, 16, 36, 42, 180, 1, 89, 104, 16, 36, 96, 162, 0, 21, 42, 180, 0, 131, 27, 42]
abbrev dktX8_copies_0 : List UInt8 := dkwX8_copies_0 ++ dktX8_copies_1
theorem dksX8_copies_0 : cX8_copies.data.toList.drop 0 = dktX8_copies_0 := by decide +kernel
theorem dksX8_copies_1 : cX8_copies.data.toList.drop 22 = dktX8_copies_1 := dk_seg dksX8_copies_0 22 rfl rfl
theorem dksX8_copies_2 : cX8_copies.data.toList.drop 45 = dktX8_copies_2 := dk_seg dksX8_copies_1 23 rfl rfl
theorem dksX8_copies_3 : cX8_copies.data.toList.drop 68 = dktX8_copies_3 := dk_seg dksX8_copies_2 23 rfl rfl
theorem dksX8_copies_4 : cX8_copies.data.toList.drop 90 = dktX8_copies_4 := dk_seg dksX8_copies_3 22 rfl rfl
theorem dX8_copies_0 : decode cX8_copies 0 = .ok (.iconst 0, 1) := dk_3 (dk_at dksX8_copies_0 0 rfl rfl)
theorem dX8_copies_1 : decode cX8_copies 1 = .ok (.istore_n 1, 1) := dk_60 (dk_at dksX8_copies_0 1 rfl rfl)
theorem dX8_copies_2 : decode cX8_copies 2 = .ok (.iload_n 1, 1) := dk_27 (dk_at dksX8_copies_0 2 rfl rfl)
theorem dX8_copies_3 : decode cX8_copies 3 = .ok (.bipush 36, 2) := dk_16 36 (dk_at dksX8_copies_0 3 rfl rfl)
theorem dX8_copies_5 : decode cX8_copies 5 = .ok (.aload_n 0, 1) := dk_42 (dk_at dksX8_copies_0 5 rfl rfl)
theorem dX8_copies_6 : decode cX8_copies 6 = .ok (.getfield 345, 3) := dk_180 1 89 (dk_at dksX8_copies_0 6 rfl rfl)
theorem dX8_copies_9 : decode cX8_copies 9 = .ok (.imul, 1) := dk_104 (dk_at dksX8_copies_0 9 rfl rfl)
theorem dX8_copies_10 : decode cX8_copies 10 = .ok (.bipush 36, 2) := dk_16 36 (dk_at dksX8_copies_0 10 rfl rfl)
theorem dX8_copies_12 : decode cX8_copies 12 = .ok (.iadd, 1) := dk_96 (dk_at dksX8_copies_0 12 rfl rfl)
theorem dX8_copies_13 : decode cX8_copies 13 = .ok (.if_icmp .ge 21, 3) := dk_162 0 21 (dk_at dksX8_copies_0 13 rfl rfl)
theorem dX8_copies_16 : decode cX8_copies 16 = .ok (.aload_n 0, 1) := dk_42 (dk_at dksX8_copies_0 16 rfl rfl)
theorem dX8_copies_17 : decode cX8_copies 17 = .ok (.getfield 131, 3) := dk_180 0 131 (dk_at dksX8_copies_0 17 rfl rfl)
theorem dX8_copies_20 : decode cX8_copies 20 = .ok (.iload_n 1, 1) := dk_27 (dk_at dksX8_copies_0 20 rfl rfl)
theorem dX8_copies_21 : decode cX8_copies 21 = .ok (.aload_n 0, 1) := dk_42 (dk_at dksX8_copies_0 21 rfl rfl)
theorem dX8_copies_22 : decode cX8_copies 22 = .ok (.getfield 122, 3) := dk_180 0 122 (dk_at dksX8_copies_1 0 rfl rfl)
theorem dX8_copies_25 : decode cX8_copies 25 = .ok (.iload_n 1, 1) := dk_27 (dk_at dksX8_copies_1 3 rfl rfl)
theorem dX8_copies_26 : decode cX8_copies 26 = .ok (.iaload, 1) := dk_46 (dk_at dksX8_copies_1 4 rfl rfl)
theorem dX8_copies_27 : decode cX8_copies 27 = .ok (.iastore, 1) := dk_79 (dk_at dksX8_copies_1 5 rfl rfl)
theorem dX8_copies_28 : decode cX8_copies 28 = .ok (.iinc 1 1, 3) := dk_132 1 1 (dk_at dksX8_copies_1 6 rfl rfl)
theorem dX8_copies_31 : decode cX8_copies 31 = .ok (.goto (-29), 3) := dk_167 255 227 (dk_at dksX8_copies_1 9 rfl rfl)
theorem dX8_copies_34 : decode cX8_copies 34 = .ok (.aload_n 0, 1) := dk_42 (dk_at dksX8_copies_1 12 rfl rfl)
theorem dX8_copies_35 : decode cX8_copies 35 = .ok (.aload_n 0, 1) := dk_42 (dk_at dksX8_copies_1 13 rfl rfl)
theorem dX8_copies_36 : decode cX8_copies 36 = .ok (.getfield 345, 3) := dk_180 1 89 (dk_at dksX8_copies_1 14 rfl rfl)
theorem dX8_copies_39 : decode cX8_copies 39 = .ok (.putfield 348, 3) := dk_181 1 92 (dk_at dksX8_copies_1 17 rfl rfl)
theorem dX8_copies_42 : decode cX8_copies 42 = .ok (.iconst 0, 1) := dk_3 (dk_at dksX8_copies_1 20 rfl rfl)
theorem dX8_copies_43 : decode cX8_copies 43 = .ok (.istore_n 1, 1) := dk_60 (dk_at dksX8_copies_1 21 rfl rfl)
theorem dX8_copies_44 : decode cX8_copies 44 = .ok (.iload_n 1, 1) := dk_27 (dk_at dksX8_copies_1 22 rfl rfl)
theorem dX8_copies_45 : decode cX8_copies 45 = .ok (.bipush 8, 2) := dk_16 8 (dk_at dksX8_copies_2 0 rfl rfl)
theorem dX8_copies_47 : decode cX8_copies 47 = .ok (.if_icmp .ge 33, 3) := dk_162 0 33 (dk_at dksX8_copies_2 2 rfl rfl)
theorem dX8_copies_50 : decode cX8_copies 50 = .ok (.aload_n 0, 1) := dk_42 (dk_at dksX8_copies_2 5 rfl rfl)
theorem dX8_copies_51 : decode cX8_copies 51 = .ok (.getfield 134, 3) := dk_180 0 134 (dk_at dksX8_copies_2 6 rfl rfl)
theorem dX8_copies_54 : decode cX8_copies 54 = .ok (.iload_n 1, 1) := dk_27 (dk_at dksX8_copies_2 9 rfl rfl)
theorem dX8_copies_55 : decode cX8_copies 55 = .ok (.aload_n 0, 1) := dk_42 (dk_at dksX8_copies_2 10 rfl rfl)
theorem dX8_copies_56 : decode cX8_copies 56 = .ok (.getfield 125, 3) := dk_180 0 125 (dk_at dksX8_copies_2 11 rfl rfl)
theorem dX8_copies_59 : decode cX8_copies 59 = .ok (.iload_n 1, 1) := dk_27 (dk_at dksX8_copies_2 14 rfl rfl)
theorem dX8_copies_60 : decode cX8_copies 60 = .ok (.iaload, 1) := dk_46 (dk_at dksX8_copies_2 15 rfl rfl)
theorem dX8_copies_61 : decode cX8_copies 61 = .ok (.iastore, 1) := dk_79 (dk_at dksX8_copies_2 16 rfl rfl)
theorem dX8_copies_62 : decode cX8_copies 62 = .ok (.aload_n 0, 1) := dk_42 (dk_at dksX8_copies_2 17 rfl rfl)
theorem dX8_copies_63 : decode cX8_copies 63 = .ok (.getfield 137, 3) := dk_180 0 137 (dk_at dksX8_copies_2 18 rfl rfl)
theorem dX8_copies_66 : decode cX8_copies 66 = .ok (.iload_n 1, 1) := dk_27 (dk_at dksX8_copies_2 21 rfl rfl)
theorem dX8_copies_67 : decode cX8_copies 67 = .ok (.aload_n 0, 1) := dk_42 (dk_at dksX8_copies_2 22 rfl rfl)
theorem dX8_copies_68 : decode cX8_copies 68 = .ok (.getfield 128, 3) := dk_180 0 128 (dk_at dksX8_copies_3 0 rfl rfl)
theorem dX8_copies_71 : decode cX8_copies 71 = .ok (.iload_n 1, 1) := dk_27 (dk_at dksX8_copies_3 3 rfl rfl)
theorem dX8_copies_72 : decode cX8_copies 72 = .ok (.iaload, 1) := dk_46 (dk_at dksX8_copies_3 4 rfl rfl)
theorem dX8_copies_73 : decode cX8_copies 73 = .ok (.iastore, 1) := dk_79 (dk_at dksX8_copies_3 5 rfl rfl)
theorem dX8_copies_74 : decode cX8_copies 74 = .ok (.iinc 1 1, 3) := dk_132 1 1 (dk_at dksX8_copies_3 6 rfl rfl)
theorem dX8_copies_77 : decode cX8_copies 77 = .ok (.goto (-33), 3) := dk_167 255 223 (dk_at dksX8_copies_3 9 rfl rfl)
theorem dX8_copies_80 : decode cX8_copies 80 = .ok (.aload_n 0, 1) := dk_42 (dk_at dksX8_copies_3 12 rfl rfl)
theorem dX8_copies_81 : decode cX8_copies 81 = .ok (.aload_n 0, 1) := dk_42 (dk_at dksX8_copies_3 13 rfl rfl)
theorem dX8_copies_82 : decode cX8_copies 82 = .ok (.getfield 82, 3) := dk_180 0 82 (dk_at dksX8_copies_3 14 rfl rfl)
theorem dX8_copies_85 : decode cX8_copies 85 = .ok (.aload_n 0, 1) := dk_42 (dk_at dksX8_copies_3 17 rfl rfl)
theorem dX8_copies_86 : decode cX8_copies 86 = .ok (.getfield 257, 3) := dk_180 1 1 (dk_at dksX8_copies_3 18 rfl rfl)
theorem dX8_copies_89 : decode cX8_copies 89 = .ok (.iaload, 1) := dk_46 (dk_at dksX8_copies_3 21 rfl rfl)
theorem dX8_copies_90 : decode cX8_copies 90 = .ok (.putfield 351, 3) := dk_181 1 95 (dk_at dksX8_copies_4 0 rfl rfl)
theorem dX8_copies_93 : decode cX8_copies 93 = .ok (.return_, 1) := dk_177 (dk_at dksX8_copies_4 3 rfl rfl)
abbrev cX8_showsAt : ByteArray := prog_19_method_59_code
def yX8_showsAt : MethodName := ⟨RX8, "showsAt", "(II)I"⟩
def dkwX8_showsAt_3 : List UInt8 := [167, 0, 4, 29, 172]
abbrev dktX8_showsAt_3 : List UInt8 := dkwX8_showsAt_3 ++ []
def dkwX8_showsAt_2 : List UInt8 := [155, 0, 21, 42, 27, 28, 182, 1, 132, 154, 0, 12, 42, 27, 29, 182, 1, 132, 153, 0, 8, 16, 254]
abbrev dktX8_showsAt_2 : List UInt8 := dkwX8_showsAt_2 ++ dktX8_showsAt_3
def dkwX8_showsAt_1 : List UInt8 := [27, 46, 167, 0, 19, 28, 42, 180, 0, 131, 16, 36, 28, 104, 16, 28, 96, 27, 96, 46, 100, 62, 29]
abbrev dktX8_showsAt_1 : List UInt8 := dkwX8_showsAt_1 ++ dktX8_showsAt_2
def dkwX8_showsAt_0 : List UInt8 := [42, 180, 0, 134, 27, 46, 2, 159, 0, 22, 42, 180, 0, 134, 27, 46, 28, 163, 0, 12, 42, 180, 0, 137]
abbrev dktX8_showsAt_0 : List UInt8 := dkwX8_showsAt_0 ++ dktX8_showsAt_1
theorem dksX8_showsAt_0 : cX8_showsAt.data.toList.drop 0 = dktX8_showsAt_0 := by decide +kernel
theorem dksX8_showsAt_1 : cX8_showsAt.data.toList.drop 24 = dktX8_showsAt_1 := dk_seg dksX8_showsAt_0 24 rfl rfl
theorem dksX8_showsAt_2 : cX8_showsAt.data.toList.drop 47 = dktX8_showsAt_2 := dk_seg dksX8_showsAt_1 23 rfl rfl
theorem dksX8_showsAt_3 : cX8_showsAt.data.toList.drop 70 = dktX8_showsAt_3 := dk_seg dksX8_showsAt_2 23 rfl rfl
theorem dX8_showsAt_0 : decode cX8_showsAt 0 = .ok (.aload_n 0, 1) := dk_42 (dk_at dksX8_showsAt_0 0 rfl rfl)
theorem dX8_showsAt_1 : decode cX8_showsAt 1 = .ok (.getfield 134, 3) := dk_180 0 134 (dk_at dksX8_showsAt_0 1 rfl rfl)
theorem dX8_showsAt_4 : decode cX8_showsAt 4 = .ok (.iload_n 1, 1) := dk_27 (dk_at dksX8_showsAt_0 4 rfl rfl)
theorem dX8_showsAt_5 : decode cX8_showsAt 5 = .ok (.iaload, 1) := dk_46 (dk_at dksX8_showsAt_0 5 rfl rfl)
theorem dX8_showsAt_6 : decode cX8_showsAt 6 = .ok (.iconst (-1), 1) := dk_2 (dk_at dksX8_showsAt_0 6 rfl rfl)
theorem dX8_showsAt_7 : decode cX8_showsAt 7 = .ok (.if_icmp .eq 22, 3) := dk_159 0 22 (dk_at dksX8_showsAt_0 7 rfl rfl)
theorem dX8_showsAt_10 : decode cX8_showsAt 10 = .ok (.aload_n 0, 1) := dk_42 (dk_at dksX8_showsAt_0 10 rfl rfl)
theorem dX8_showsAt_11 : decode cX8_showsAt 11 = .ok (.getfield 134, 3) := dk_180 0 134 (dk_at dksX8_showsAt_0 11 rfl rfl)
theorem dX8_showsAt_14 : decode cX8_showsAt 14 = .ok (.iload_n 1, 1) := dk_27 (dk_at dksX8_showsAt_0 14 rfl rfl)
theorem dX8_showsAt_15 : decode cX8_showsAt 15 = .ok (.iaload, 1) := dk_46 (dk_at dksX8_showsAt_0 15 rfl rfl)
theorem dX8_showsAt_16 : decode cX8_showsAt 16 = .ok (.iload_n 2, 1) := dk_28 (dk_at dksX8_showsAt_0 16 rfl rfl)
theorem dX8_showsAt_17 : decode cX8_showsAt 17 = .ok (.if_icmp .gt 12, 3) := dk_163 0 12 (dk_at dksX8_showsAt_0 17 rfl rfl)
theorem dX8_showsAt_20 : decode cX8_showsAt 20 = .ok (.aload_n 0, 1) := dk_42 (dk_at dksX8_showsAt_0 20 rfl rfl)
theorem dX8_showsAt_21 : decode cX8_showsAt 21 = .ok (.getfield 137, 3) := dk_180 0 137 (dk_at dksX8_showsAt_0 21 rfl rfl)
theorem dX8_showsAt_24 : decode cX8_showsAt 24 = .ok (.iload_n 1, 1) := dk_27 (dk_at dksX8_showsAt_1 0 rfl rfl)
theorem dX8_showsAt_25 : decode cX8_showsAt 25 = .ok (.iaload, 1) := dk_46 (dk_at dksX8_showsAt_1 1 rfl rfl)
theorem dX8_showsAt_26 : decode cX8_showsAt 26 = .ok (.goto 19, 3) := dk_167 0 19 (dk_at dksX8_showsAt_1 2 rfl rfl)
theorem dX8_showsAt_29 : decode cX8_showsAt 29 = .ok (.iload_n 2, 1) := dk_28 (dk_at dksX8_showsAt_1 5 rfl rfl)
theorem dX8_showsAt_30 : decode cX8_showsAt 30 = .ok (.aload_n 0, 1) := dk_42 (dk_at dksX8_showsAt_1 6 rfl rfl)
theorem dX8_showsAt_31 : decode cX8_showsAt 31 = .ok (.getfield 131, 3) := dk_180 0 131 (dk_at dksX8_showsAt_1 7 rfl rfl)
theorem dX8_showsAt_34 : decode cX8_showsAt 34 = .ok (.bipush 36, 2) := dk_16 36 (dk_at dksX8_showsAt_1 10 rfl rfl)
theorem dX8_showsAt_36 : decode cX8_showsAt 36 = .ok (.iload_n 2, 1) := dk_28 (dk_at dksX8_showsAt_1 12 rfl rfl)
theorem dX8_showsAt_37 : decode cX8_showsAt 37 = .ok (.imul, 1) := dk_104 (dk_at dksX8_showsAt_1 13 rfl rfl)
theorem dX8_showsAt_38 : decode cX8_showsAt 38 = .ok (.bipush 28, 2) := dk_16 28 (dk_at dksX8_showsAt_1 14 rfl rfl)
theorem dX8_showsAt_40 : decode cX8_showsAt 40 = .ok (.iadd, 1) := dk_96 (dk_at dksX8_showsAt_1 16 rfl rfl)
theorem dX8_showsAt_41 : decode cX8_showsAt 41 = .ok (.iload_n 1, 1) := dk_27 (dk_at dksX8_showsAt_1 17 rfl rfl)
theorem dX8_showsAt_42 : decode cX8_showsAt 42 = .ok (.iadd, 1) := dk_96 (dk_at dksX8_showsAt_1 18 rfl rfl)
theorem dX8_showsAt_43 : decode cX8_showsAt 43 = .ok (.iaload, 1) := dk_46 (dk_at dksX8_showsAt_1 19 rfl rfl)
theorem dX8_showsAt_44 : decode cX8_showsAt 44 = .ok (.isub, 1) := dk_100 (dk_at dksX8_showsAt_1 20 rfl rfl)
theorem dX8_showsAt_45 : decode cX8_showsAt 45 = .ok (.istore_n 3, 1) := dk_62 (dk_at dksX8_showsAt_1 21 rfl rfl)
theorem dX8_showsAt_46 : decode cX8_showsAt 46 = .ok (.iload_n 3, 1) := dk_29 (dk_at dksX8_showsAt_1 22 rfl rfl)
theorem dX8_showsAt_47 : decode cX8_showsAt 47 = .ok (.ifCond .lt 21, 3) := dk_155 0 21 (dk_at dksX8_showsAt_2 0 rfl rfl)
theorem dX8_showsAt_50 : decode cX8_showsAt 50 = .ok (.aload_n 0, 1) := dk_42 (dk_at dksX8_showsAt_2 3 rfl rfl)
theorem dX8_showsAt_51 : decode cX8_showsAt 51 = .ok (.iload_n 1, 1) := dk_27 (dk_at dksX8_showsAt_2 4 rfl rfl)
theorem dX8_showsAt_52 : decode cX8_showsAt 52 = .ok (.iload_n 2, 1) := dk_28 (dk_at dksX8_showsAt_2 5 rfl rfl)
theorem dX8_showsAt_53 : decode cX8_showsAt 53 = .ok (.invokevirtual 388, 3) := dk_182 1 132 (dk_at dksX8_showsAt_2 6 rfl rfl)
theorem dX8_showsAt_56 : decode cX8_showsAt 56 = .ok (.ifCond .ne 12, 3) := dk_154 0 12 (dk_at dksX8_showsAt_2 9 rfl rfl)
theorem dX8_showsAt_59 : decode cX8_showsAt 59 = .ok (.aload_n 0, 1) := dk_42 (dk_at dksX8_showsAt_2 12 rfl rfl)
theorem dX8_showsAt_60 : decode cX8_showsAt 60 = .ok (.iload_n 1, 1) := dk_27 (dk_at dksX8_showsAt_2 13 rfl rfl)
theorem dX8_showsAt_61 : decode cX8_showsAt 61 = .ok (.iload_n 3, 1) := dk_29 (dk_at dksX8_showsAt_2 14 rfl rfl)
theorem dX8_showsAt_62 : decode cX8_showsAt 62 = .ok (.invokevirtual 388, 3) := dk_182 1 132 (dk_at dksX8_showsAt_2 15 rfl rfl)
theorem dX8_showsAt_65 : decode cX8_showsAt 65 = .ok (.ifCond .eq 8, 3) := dk_153 0 8 (dk_at dksX8_showsAt_2 18 rfl rfl)
theorem dX8_showsAt_68 : decode cX8_showsAt 68 = .ok (.bipush (-2), 2) := dk_16 254 (dk_at dksX8_showsAt_2 21 rfl rfl)
theorem dX8_showsAt_70 : decode cX8_showsAt 70 = .ok (.goto 4, 3) := dk_167 0 4 (dk_at dksX8_showsAt_3 0 rfl rfl)
theorem dX8_showsAt_73 : decode cX8_showsAt 73 = .ok (.iload_n 3, 1) := dk_29 (dk_at dksX8_showsAt_3 3 rfl rfl)
theorem dX8_showsAt_74 : decode cX8_showsAt 74 = .ok (.ireturn, 1) := dk_172 (dk_at dksX8_showsAt_3 4 rfl rfl)
abbrev cX8_isTurned : ByteArray := prog_19_method_58_code
def yX8_isTurned : MethodName := ⟨RX8, "isTurned", "(II)Z"⟩
def dkwX8_isTurned_0 : List UInt8 := [42, 180, 0, 131, 16, 36, 28, 104, 16, 20, 96, 27, 96, 46, 4, 160, 0, 7, 4, 167, 0, 4, 3, 172]
abbrev dktX8_isTurned_0 : List UInt8 := dkwX8_isTurned_0 ++ []
theorem dksX8_isTurned_0 : cX8_isTurned.data.toList.drop 0 = dktX8_isTurned_0 := by decide +kernel
theorem dX8_isTurned_0 : decode cX8_isTurned 0 = .ok (.aload_n 0, 1) := dk_42 (dk_at dksX8_isTurned_0 0 rfl rfl)
theorem dX8_isTurned_1 : decode cX8_isTurned 1 = .ok (.getfield 131, 3) := dk_180 0 131 (dk_at dksX8_isTurned_0 1 rfl rfl)
theorem dX8_isTurned_4 : decode cX8_isTurned 4 = .ok (.bipush 36, 2) := dk_16 36 (dk_at dksX8_isTurned_0 4 rfl rfl)
theorem dX8_isTurned_6 : decode cX8_isTurned 6 = .ok (.iload_n 2, 1) := dk_28 (dk_at dksX8_isTurned_0 6 rfl rfl)
theorem dX8_isTurned_7 : decode cX8_isTurned 7 = .ok (.imul, 1) := dk_104 (dk_at dksX8_isTurned_0 7 rfl rfl)
theorem dX8_isTurned_8 : decode cX8_isTurned 8 = .ok (.bipush 20, 2) := dk_16 20 (dk_at dksX8_isTurned_0 8 rfl rfl)
theorem dX8_isTurned_10 : decode cX8_isTurned 10 = .ok (.iadd, 1) := dk_96 (dk_at dksX8_isTurned_0 10 rfl rfl)
theorem dX8_isTurned_11 : decode cX8_isTurned 11 = .ok (.iload_n 1, 1) := dk_27 (dk_at dksX8_isTurned_0 11 rfl rfl)
theorem dX8_isTurned_12 : decode cX8_isTurned 12 = .ok (.iadd, 1) := dk_96 (dk_at dksX8_isTurned_0 12 rfl rfl)
theorem dX8_isTurned_13 : decode cX8_isTurned 13 = .ok (.iaload, 1) := dk_46 (dk_at dksX8_isTurned_0 13 rfl rfl)
theorem dX8_isTurned_14 : decode cX8_isTurned 14 = .ok (.iconst 1, 1) := dk_4 (dk_at dksX8_isTurned_0 14 rfl rfl)
theorem dX8_isTurned_15 : decode cX8_isTurned 15 = .ok (.if_icmp .ne 7, 3) := dk_160 0 7 (dk_at dksX8_isTurned_0 15 rfl rfl)
theorem dX8_isTurned_18 : decode cX8_isTurned 18 = .ok (.iconst 1, 1) := dk_4 (dk_at dksX8_isTurned_0 18 rfl rfl)
theorem dX8_isTurned_19 : decode cX8_isTurned 19 = .ok (.goto 4, 3) := dk_167 0 4 (dk_at dksX8_isTurned_0 19 rfl rfl)
theorem dX8_isTurned_22 : decode cX8_isTurned 22 = .ok (.iconst 0, 1) := dk_3 (dk_at dksX8_isTurned_0 22 rfl rfl)
theorem dX8_isTurned_23 : decode cX8_isTurned 23 = .ok (.ireturn, 1) := dk_172 (dk_at dksX8_isTurned_0 23 rfl rfl)
abbrev cX8_hungIn : ByteArray := prog_19_method_60_code
def yX8_hungIn : MethodName := ⟨RX8, "hungIn", "(II)I"⟩
def dkwX8_hungIn_0 : List UInt8 := [42, 180, 0, 131, 16, 36, 28, 104, 16, 12, 96, 27, 96, 46, 172]
abbrev dktX8_hungIn_0 : List UInt8 := dkwX8_hungIn_0 ++ []
theorem dksX8_hungIn_0 : cX8_hungIn.data.toList.drop 0 = dktX8_hungIn_0 := by decide +kernel
theorem dX8_hungIn_0 : decode cX8_hungIn 0 = .ok (.aload_n 0, 1) := dk_42 (dk_at dksX8_hungIn_0 0 rfl rfl)
theorem dX8_hungIn_1 : decode cX8_hungIn 1 = .ok (.getfield 131, 3) := dk_180 0 131 (dk_at dksX8_hungIn_0 1 rfl rfl)
theorem dX8_hungIn_4 : decode cX8_hungIn 4 = .ok (.bipush 36, 2) := dk_16 36 (dk_at dksX8_hungIn_0 4 rfl rfl)
theorem dX8_hungIn_6 : decode cX8_hungIn 6 = .ok (.iload_n 2, 1) := dk_28 (dk_at dksX8_hungIn_0 6 rfl rfl)
theorem dX8_hungIn_7 : decode cX8_hungIn 7 = .ok (.imul, 1) := dk_104 (dk_at dksX8_hungIn_0 7 rfl rfl)
theorem dX8_hungIn_8 : decode cX8_hungIn 8 = .ok (.bipush 12, 2) := dk_16 12 (dk_at dksX8_hungIn_0 8 rfl rfl)
theorem dX8_hungIn_10 : decode cX8_hungIn 10 = .ok (.iadd, 1) := dk_96 (dk_at dksX8_hungIn_0 10 rfl rfl)
theorem dX8_hungIn_11 : decode cX8_hungIn 11 = .ok (.iload_n 1, 1) := dk_27 (dk_at dksX8_hungIn_0 11 rfl rfl)
theorem dX8_hungIn_12 : decode cX8_hungIn 12 = .ok (.iadd, 1) := dk_96 (dk_at dksX8_hungIn_0 12 rfl rfl)
theorem dX8_hungIn_13 : decode cX8_hungIn 13 = .ok (.iaload, 1) := dk_46 (dk_at dksX8_hungIn_0 13 rfl rfl)
theorem dX8_hungIn_14 : decode cX8_hungIn 14 = .ok (.ireturn, 1) := dk_172 (dk_at dksX8_hungIn_0 14 rfl rfl)
abbrev cX8_menShown : ByteArray := prog_19_method_61_code
def yX8_menShown : MethodName := ⟨RX8, "menShown", "(II)I"⟩
def dkwX8_menShown_0 : List UInt8 := [28, 156, 0, 7, 3, 167, 0, 14, 42, 42, 27, 28, 182, 1, 136, 28, 182, 1, 110, 172]
abbrev dktX8_menShown_0 : List UInt8 := dkwX8_menShown_0 ++ []
theorem dksX8_menShown_0 : cX8_menShown.data.toList.drop 0 = dktX8_menShown_0 := by decide +kernel
theorem dX8_menShown_0 : decode cX8_menShown 0 = .ok (.iload_n 2, 1) := dk_28 (dk_at dksX8_menShown_0 0 rfl rfl)
theorem dX8_menShown_1 : decode cX8_menShown 1 = .ok (.ifCond .ge 7, 3) := dk_156 0 7 (dk_at dksX8_menShown_0 1 rfl rfl)
theorem dX8_menShown_4 : decode cX8_menShown 4 = .ok (.iconst 0, 1) := dk_3 (dk_at dksX8_menShown_0 4 rfl rfl)
theorem dX8_menShown_5 : decode cX8_menShown 5 = .ok (.goto 14, 3) := dk_167 0 14 (dk_at dksX8_menShown_0 5 rfl rfl)
theorem dX8_menShown_8 : decode cX8_menShown 8 = .ok (.aload_n 0, 1) := dk_42 (dk_at dksX8_menShown_0 8 rfl rfl)
theorem dX8_menShown_9 : decode cX8_menShown 9 = .ok (.aload_n 0, 1) := dk_42 (dk_at dksX8_menShown_0 9 rfl rfl)
theorem dX8_menShown_10 : decode cX8_menShown 10 = .ok (.iload_n 1, 1) := dk_27 (dk_at dksX8_menShown_0 10 rfl rfl)
theorem dX8_menShown_11 : decode cX8_menShown 11 = .ok (.iload_n 2, 1) := dk_28 (dk_at dksX8_menShown_0 11 rfl rfl)
theorem dX8_menShown_12 : decode cX8_menShown 12 = .ok (.invokevirtual 392, 3) := dk_182 1 136 (dk_at dksX8_menShown_0 12 rfl rfl)
theorem dX8_menShown_15 : decode cX8_menShown 15 = .ok (.iload_n 2, 1) := dk_28 (dk_at dksX8_menShown_0 15 rfl rfl)
theorem dX8_menShown_16 : decode cX8_menShown 16 = .ok (.invokevirtual 366, 3) := dk_182 1 110 (dk_at dksX8_menShown_0 16 rfl rfl)
theorem dX8_menShown_19 : decode cX8_menShown 19 = .ok (.ireturn, 1) := dk_172 (dk_at dksX8_menShown_0 19 rfl rfl)
abbrev cX8_minutes : ByteArray := prog_19_method_68_code
def yX8_minutes : MethodName := ⟨RX8, "minutes", "(I)I"⟩
def dkwX8_minutes_2 : List UInt8 := [42, 182, 1, 172, 42, 180, 1, 89, 172]
abbrev dktX8_minutes_2 : List UInt8 := dkwX8_minutes_2 ++ []
def dkwX8_minutes_1 : List UInt8 := [172, 27, 154, 0, 8, 42, 180, 1, 89, 172, 42, 182, 1, 163, 42, 42, 180, 1, 89, 27, 96, 182, 1, 169]
abbrev dktX8_minutes_1 : List UInt8 := dkwX8_minutes_1 ++ dktX8_minutes_2
def dkwX8_minutes_0 : List UInt8 := [27, 3, 17, 1, 43, 184, 1, 85, 153, 0, 15, 42, 180, 1, 89, 27, 96, 17, 1, 43, 164, 0, 5, 2]
abbrev dktX8_minutes_0 : List UInt8 := dkwX8_minutes_0 ++ dktX8_minutes_1
theorem dksX8_minutes_0 : cX8_minutes.data.toList.drop 0 = dktX8_minutes_0 := by decide +kernel
theorem dksX8_minutes_1 : cX8_minutes.data.toList.drop 24 = dktX8_minutes_1 := dk_seg dksX8_minutes_0 24 rfl rfl
theorem dksX8_minutes_2 : cX8_minutes.data.toList.drop 48 = dktX8_minutes_2 := dk_seg dksX8_minutes_1 24 rfl rfl
theorem dX8_minutes_0 : decode cX8_minutes 0 = .ok (.iload_n 1, 1) := dk_27 (dk_at dksX8_minutes_0 0 rfl rfl)
theorem dX8_minutes_1 : decode cX8_minutes 1 = .ok (.iconst 0, 1) := dk_3 (dk_at dksX8_minutes_0 1 rfl rfl)
theorem dX8_minutes_2 : decode cX8_minutes 2 = .ok (.sipush 299, 3) := dk_17 1 43 (dk_at dksX8_minutes_0 2 rfl rfl)
theorem dX8_minutes_5 : decode cX8_minutes 5 = .ok (.invokestatic 341, 3) := dk_184 1 85 (dk_at dksX8_minutes_0 5 rfl rfl)
theorem dX8_minutes_8 : decode cX8_minutes 8 = .ok (.ifCond .eq 15, 3) := dk_153 0 15 (dk_at dksX8_minutes_0 8 rfl rfl)
theorem dX8_minutes_11 : decode cX8_minutes 11 = .ok (.aload_n 0, 1) := dk_42 (dk_at dksX8_minutes_0 11 rfl rfl)
theorem dX8_minutes_12 : decode cX8_minutes 12 = .ok (.getfield 345, 3) := dk_180 1 89 (dk_at dksX8_minutes_0 12 rfl rfl)
theorem dX8_minutes_15 : decode cX8_minutes 15 = .ok (.iload_n 1, 1) := dk_27 (dk_at dksX8_minutes_0 15 rfl rfl)
theorem dX8_minutes_16 : decode cX8_minutes 16 = .ok (.iadd, 1) := dk_96 (dk_at dksX8_minutes_0 16 rfl rfl)
theorem dX8_minutes_17 : decode cX8_minutes 17 = .ok (.sipush 299, 3) := dk_17 1 43 (dk_at dksX8_minutes_0 17 rfl rfl)
theorem dX8_minutes_20 : decode cX8_minutes 20 = .ok (.if_icmp .le 5, 3) := dk_164 0 5 (dk_at dksX8_minutes_0 20 rfl rfl)
theorem dX8_minutes_23 : decode cX8_minutes 23 = .ok (.iconst (-1), 1) := dk_2 (dk_at dksX8_minutes_0 23 rfl rfl)
theorem dX8_minutes_24 : decode cX8_minutes 24 = .ok (.ireturn, 1) := dk_172 (dk_at dksX8_minutes_1 0 rfl rfl)
theorem dX8_minutes_25 : decode cX8_minutes 25 = .ok (.iload_n 1, 1) := dk_27 (dk_at dksX8_minutes_1 1 rfl rfl)
theorem dX8_minutes_26 : decode cX8_minutes 26 = .ok (.ifCond .ne 8, 3) := dk_154 0 8 (dk_at dksX8_minutes_1 2 rfl rfl)
theorem dX8_minutes_29 : decode cX8_minutes 29 = .ok (.aload_n 0, 1) := dk_42 (dk_at dksX8_minutes_1 5 rfl rfl)
theorem dX8_minutes_30 : decode cX8_minutes 30 = .ok (.getfield 345, 3) := dk_180 1 89 (dk_at dksX8_minutes_1 6 rfl rfl)
theorem dX8_minutes_33 : decode cX8_minutes 33 = .ok (.ireturn, 1) := dk_172 (dk_at dksX8_minutes_1 9 rfl rfl)
theorem dX8_minutes_34 : decode cX8_minutes 34 = .ok (.aload_n 0, 1) := dk_42 (dk_at dksX8_minutes_1 10 rfl rfl)
theorem dX8_minutes_35 : decode cX8_minutes 35 = .ok (.invokevirtual 419, 3) := dk_182 1 163 (dk_at dksX8_minutes_1 11 rfl rfl)
theorem dX8_minutes_38 : decode cX8_minutes 38 = .ok (.aload_n 0, 1) := dk_42 (dk_at dksX8_minutes_1 14 rfl rfl)
theorem dX8_minutes_39 : decode cX8_minutes 39 = .ok (.aload_n 0, 1) := dk_42 (dk_at dksX8_minutes_1 15 rfl rfl)
theorem dX8_minutes_40 : decode cX8_minutes 40 = .ok (.getfield 345, 3) := dk_180 1 89 (dk_at dksX8_minutes_1 16 rfl rfl)
theorem dX8_minutes_43 : decode cX8_minutes 43 = .ok (.iload_n 1, 1) := dk_27 (dk_at dksX8_minutes_1 19 rfl rfl)
theorem dX8_minutes_44 : decode cX8_minutes 44 = .ok (.iadd, 1) := dk_96 (dk_at dksX8_minutes_1 20 rfl rfl)
theorem dX8_minutes_45 : decode cX8_minutes 45 = .ok (.invokevirtual 425, 3) := dk_182 1 169 (dk_at dksX8_minutes_1 21 rfl rfl)
theorem dX8_minutes_48 : decode cX8_minutes 48 = .ok (.aload_n 0, 1) := dk_42 (dk_at dksX8_minutes_2 0 rfl rfl)
theorem dX8_minutes_49 : decode cX8_minutes 49 = .ok (.invokevirtual 428, 3) := dk_182 1 172 (dk_at dksX8_minutes_2 1 rfl rfl)
theorem dX8_minutes_52 : decode cX8_minutes 52 = .ok (.aload_n 0, 1) := dk_42 (dk_at dksX8_minutes_2 4 rfl rfl)
theorem dX8_minutes_53 : decode cX8_minutes 53 = .ok (.getfield 345, 3) := dk_180 1 89 (dk_at dksX8_minutes_2 5 rfl rfl)
theorem dX8_minutes_56 : decode cX8_minutes 56 = .ok (.ireturn, 1) := dk_172 (dk_at dksX8_minutes_2 8 rfl rfl)
abbrev cX8_goesTill : ByteArray := prog_19_method_64_code
def yX8_goesTill : MethodName := ⟨RX8, "goesTill", "(I)V"⟩
def dkwX8_goesTill_1 : List UInt8 := [167, 255, 234, 177]
abbrev dktX8_goesTill_1 : List UInt8 := dkwX8_goesTill_1 ++ []
def dkwX8_goesTill_0 : List UInt8 := [42, 180, 1, 92, 27, 162, 0, 20, 42, 180, 1, 92, 17, 1, 43, 162, 0, 10, 42, 182, 1, 151]
abbrev dktX8_goesTill_0 : List UInt8 := dkwX8_goesTill_0 ++ dktX8_goesTill_1
theorem dksX8_goesTill_0 : cX8_goesTill.data.toList.drop 0 = dktX8_goesTill_0 := by decide +kernel
theorem dksX8_goesTill_1 : cX8_goesTill.data.toList.drop 22 = dktX8_goesTill_1 := dk_seg dksX8_goesTill_0 22 rfl rfl
theorem dX8_goesTill_0 : decode cX8_goesTill 0 = .ok (.aload_n 0, 1) := dk_42 (dk_at dksX8_goesTill_0 0 rfl rfl)
theorem dX8_goesTill_1 : decode cX8_goesTill 1 = .ok (.getfield 348, 3) := dk_180 1 92 (dk_at dksX8_goesTill_0 1 rfl rfl)
theorem dX8_goesTill_4 : decode cX8_goesTill 4 = .ok (.iload_n 1, 1) := dk_27 (dk_at dksX8_goesTill_0 4 rfl rfl)
theorem dX8_goesTill_5 : decode cX8_goesTill 5 = .ok (.if_icmp .ge 20, 3) := dk_162 0 20 (dk_at dksX8_goesTill_0 5 rfl rfl)
theorem dX8_goesTill_8 : decode cX8_goesTill 8 = .ok (.aload_n 0, 1) := dk_42 (dk_at dksX8_goesTill_0 8 rfl rfl)
theorem dX8_goesTill_9 : decode cX8_goesTill 9 = .ok (.getfield 348, 3) := dk_180 1 92 (dk_at dksX8_goesTill_0 9 rfl rfl)
theorem dX8_goesTill_12 : decode cX8_goesTill 12 = .ok (.sipush 299, 3) := dk_17 1 43 (dk_at dksX8_goesTill_0 12 rfl rfl)
theorem dX8_goesTill_15 : decode cX8_goesTill 15 = .ok (.if_icmp .ge 10, 3) := dk_162 0 10 (dk_at dksX8_goesTill_0 15 rfl rfl)
theorem dX8_goesTill_18 : decode cX8_goesTill 18 = .ok (.aload_n 0, 1) := dk_42 (dk_at dksX8_goesTill_0 18 rfl rfl)
theorem dX8_goesTill_19 : decode cX8_goesTill 19 = .ok (.invokevirtual 407, 3) := dk_182 1 151 (dk_at dksX8_goesTill_0 19 rfl rfl)
theorem dX8_goesTill_22 : decode cX8_goesTill 22 = .ok (.goto (-22), 3) := dk_167 255 234 (dk_at dksX8_goesTill_1 0 rfl rfl)
theorem dX8_goesTill_25 : decode cX8_goesTill 25 = .ok (.return_, 1) := dk_177 (dk_at dksX8_goesTill_1 3 rfl rfl)
abbrev cX8_minuteGoes : ByteArray := prog_19_method_63_code
def yX8_minuteGoes : MethodName := ⟨RX8, "minuteGoes", "()V"⟩
def dkwX8_minuteGoes_6 : List UInt8 := [167, 255, 208, 177]
abbrev dktX8_minuteGoes_6 : List UInt8 := dkwX8_minuteGoes_6 ++ []
def dkwX8_minuteGoes_5 : List UInt8 := [182, 1, 145, 42, 180, 0, 79, 42, 180, 1, 1, 46, 162, 0, 8, 42, 29, 182, 1, 148, 132, 3, 1]
abbrev dktX8_minuteGoes_5 : List UInt8 := dkwX8_minuteGoes_5 ++ dktX8_minuteGoes_6
def dkwX8_minuteGoes_4 : List UInt8 := [42, 180, 0, 70, 42, 180, 1, 1, 46, 162, 0, 41, 42, 180, 0, 134, 29, 46, 2, 160, 0, 25, 42, 29]
abbrev dktX8_minuteGoes_4 : List UInt8 := dkwX8_minuteGoes_4 ++ dktX8_minuteGoes_5
def dkwX8_minuteGoes_3 : List UInt8 := [79, 132, 3, 1, 167, 255, 231, 42, 89, 180, 1, 92, 4, 96, 181, 1, 92, 42, 182, 1, 98, 3, 62, 29]
abbrev dktX8_minuteGoes_3 : List UInt8 := dkwX8_minuteGoes_3 ++ dktX8_minuteGoes_4
def dkwX8_minuteGoes_2 : List UInt8 := [16, 6, 62, 29, 16, 28, 162, 0, 25, 42, 180, 0, 131, 28, 29, 96, 42, 180, 0, 131, 27, 29, 96, 46]
abbrev dktX8_minuteGoes_2 : List UInt8 := dkwX8_minuteGoes_2 ++ dktX8_minuteGoes_3
def dkwX8_minuteGoes_1 : List UInt8 := [46, 162, 0, 22, 42, 180, 0, 131, 28, 29, 96, 42, 29, 182, 1, 142, 79, 132, 3, 1, 167, 255, 227]
abbrev dktX8_minuteGoes_1 : List UInt8 := dkwX8_minuteGoes_1 ++ dktX8_minuteGoes_2
def dkwX8_minuteGoes_0 : List UInt8 := [16, 36, 42, 180, 1, 92, 104, 60, 27, 16, 36, 96, 61, 3, 62, 29, 42, 180, 0, 61, 42, 180, 1, 1]
abbrev dktX8_minuteGoes_0 : List UInt8 := dkwX8_minuteGoes_0 ++ dktX8_minuteGoes_1
theorem dksX8_minuteGoes_0 : cX8_minuteGoes.data.toList.drop 0 = dktX8_minuteGoes_0 := by decide +kernel
theorem dksX8_minuteGoes_1 : cX8_minuteGoes.data.toList.drop 24 = dktX8_minuteGoes_1 := dk_seg dksX8_minuteGoes_0 24 rfl rfl
theorem dksX8_minuteGoes_2 : cX8_minuteGoes.data.toList.drop 47 = dktX8_minuteGoes_2 := dk_seg dksX8_minuteGoes_1 23 rfl rfl
theorem dksX8_minuteGoes_3 : cX8_minuteGoes.data.toList.drop 71 = dktX8_minuteGoes_3 := dk_seg dksX8_minuteGoes_2 24 rfl rfl
theorem dksX8_minuteGoes_4 : cX8_minuteGoes.data.toList.drop 95 = dktX8_minuteGoes_4 := dk_seg dksX8_minuteGoes_3 24 rfl rfl
theorem dksX8_minuteGoes_5 : cX8_minuteGoes.data.toList.drop 119 = dktX8_minuteGoes_5 := dk_seg dksX8_minuteGoes_4 24 rfl rfl
theorem dksX8_minuteGoes_6 : cX8_minuteGoes.data.toList.drop 142 = dktX8_minuteGoes_6 := dk_seg dksX8_minuteGoes_5 23 rfl rfl
theorem dX8_minuteGoes_0 : decode cX8_minuteGoes 0 = .ok (.bipush 36, 2) := dk_16 36 (dk_at dksX8_minuteGoes_0 0 rfl rfl)
theorem dX8_minuteGoes_2 : decode cX8_minuteGoes 2 = .ok (.aload_n 0, 1) := dk_42 (dk_at dksX8_minuteGoes_0 2 rfl rfl)
theorem dX8_minuteGoes_3 : decode cX8_minuteGoes 3 = .ok (.getfield 348, 3) := dk_180 1 92 (dk_at dksX8_minuteGoes_0 3 rfl rfl)
theorem dX8_minuteGoes_6 : decode cX8_minuteGoes 6 = .ok (.imul, 1) := dk_104 (dk_at dksX8_minuteGoes_0 6 rfl rfl)
theorem dX8_minuteGoes_7 : decode cX8_minuteGoes 7 = .ok (.istore_n 1, 1) := dk_60 (dk_at dksX8_minuteGoes_0 7 rfl rfl)
theorem dX8_minuteGoes_8 : decode cX8_minuteGoes 8 = .ok (.iload_n 1, 1) := dk_27 (dk_at dksX8_minuteGoes_0 8 rfl rfl)
theorem dX8_minuteGoes_9 : decode cX8_minuteGoes 9 = .ok (.bipush 36, 2) := dk_16 36 (dk_at dksX8_minuteGoes_0 9 rfl rfl)
theorem dX8_minuteGoes_11 : decode cX8_minuteGoes 11 = .ok (.iadd, 1) := dk_96 (dk_at dksX8_minuteGoes_0 11 rfl rfl)
theorem dX8_minuteGoes_12 : decode cX8_minuteGoes 12 = .ok (.istore_n 2, 1) := dk_61 (dk_at dksX8_minuteGoes_0 12 rfl rfl)
theorem dX8_minuteGoes_13 : decode cX8_minuteGoes 13 = .ok (.iconst 0, 1) := dk_3 (dk_at dksX8_minuteGoes_0 13 rfl rfl)
theorem dX8_minuteGoes_14 : decode cX8_minuteGoes 14 = .ok (.istore_n 3, 1) := dk_62 (dk_at dksX8_minuteGoes_0 14 rfl rfl)
theorem dX8_minuteGoes_15 : decode cX8_minuteGoes 15 = .ok (.iload_n 3, 1) := dk_29 (dk_at dksX8_minuteGoes_0 15 rfl rfl)
theorem dX8_minuteGoes_16 : decode cX8_minuteGoes 16 = .ok (.aload_n 0, 1) := dk_42 (dk_at dksX8_minuteGoes_0 16 rfl rfl)
theorem dX8_minuteGoes_17 : decode cX8_minuteGoes 17 = .ok (.getfield 61, 3) := dk_180 0 61 (dk_at dksX8_minuteGoes_0 17 rfl rfl)
theorem dX8_minuteGoes_20 : decode cX8_minuteGoes 20 = .ok (.aload_n 0, 1) := dk_42 (dk_at dksX8_minuteGoes_0 20 rfl rfl)
theorem dX8_minuteGoes_21 : decode cX8_minuteGoes 21 = .ok (.getfield 257, 3) := dk_180 1 1 (dk_at dksX8_minuteGoes_0 21 rfl rfl)
theorem dX8_minuteGoes_24 : decode cX8_minuteGoes 24 = .ok (.iaload, 1) := dk_46 (dk_at dksX8_minuteGoes_1 0 rfl rfl)
theorem dX8_minuteGoes_25 : decode cX8_minuteGoes 25 = .ok (.if_icmp .ge 22, 3) := dk_162 0 22 (dk_at dksX8_minuteGoes_1 1 rfl rfl)
theorem dX8_minuteGoes_28 : decode cX8_minuteGoes 28 = .ok (.aload_n 0, 1) := dk_42 (dk_at dksX8_minuteGoes_1 4 rfl rfl)
theorem dX8_minuteGoes_29 : decode cX8_minuteGoes 29 = .ok (.getfield 131, 3) := dk_180 0 131 (dk_at dksX8_minuteGoes_1 5 rfl rfl)
theorem dX8_minuteGoes_32 : decode cX8_minuteGoes 32 = .ok (.iload_n 2, 1) := dk_28 (dk_at dksX8_minuteGoes_1 8 rfl rfl)
theorem dX8_minuteGoes_33 : decode cX8_minuteGoes 33 = .ok (.iload_n 3, 1) := dk_29 (dk_at dksX8_minuteGoes_1 9 rfl rfl)
theorem dX8_minuteGoes_34 : decode cX8_minuteGoes 34 = .ok (.iadd, 1) := dk_96 (dk_at dksX8_minuteGoes_1 10 rfl rfl)
theorem dX8_minuteGoes_35 : decode cX8_minuteGoes 35 = .ok (.aload_n 0, 1) := dk_42 (dk_at dksX8_minuteGoes_1 11 rfl rfl)
theorem dX8_minuteGoes_36 : decode cX8_minuteGoes 36 = .ok (.iload_n 3, 1) := dk_29 (dk_at dksX8_minuteGoes_1 12 rfl rfl)
theorem dX8_minuteGoes_37 : decode cX8_minuteGoes 37 = .ok (.invokevirtual 398, 3) := dk_182 1 142 (dk_at dksX8_minuteGoes_1 13 rfl rfl)
theorem dX8_minuteGoes_40 : decode cX8_minuteGoes 40 = .ok (.iastore, 1) := dk_79 (dk_at dksX8_minuteGoes_1 16 rfl rfl)
theorem dX8_minuteGoes_41 : decode cX8_minuteGoes 41 = .ok (.iinc 3 1, 3) := dk_132 3 1 (dk_at dksX8_minuteGoes_1 17 rfl rfl)
theorem dX8_minuteGoes_44 : decode cX8_minuteGoes 44 = .ok (.goto (-29), 3) := dk_167 255 227 (dk_at dksX8_minuteGoes_1 20 rfl rfl)
theorem dX8_minuteGoes_47 : decode cX8_minuteGoes 47 = .ok (.bipush 6, 2) := dk_16 6 (dk_at dksX8_minuteGoes_2 0 rfl rfl)
theorem dX8_minuteGoes_49 : decode cX8_minuteGoes 49 = .ok (.istore_n 3, 1) := dk_62 (dk_at dksX8_minuteGoes_2 2 rfl rfl)
theorem dX8_minuteGoes_50 : decode cX8_minuteGoes 50 = .ok (.iload_n 3, 1) := dk_29 (dk_at dksX8_minuteGoes_2 3 rfl rfl)
theorem dX8_minuteGoes_51 : decode cX8_minuteGoes 51 = .ok (.bipush 28, 2) := dk_16 28 (dk_at dksX8_minuteGoes_2 4 rfl rfl)
theorem dX8_minuteGoes_53 : decode cX8_minuteGoes 53 = .ok (.if_icmp .ge 25, 3) := dk_162 0 25 (dk_at dksX8_minuteGoes_2 6 rfl rfl)
theorem dX8_minuteGoes_56 : decode cX8_minuteGoes 56 = .ok (.aload_n 0, 1) := dk_42 (dk_at dksX8_minuteGoes_2 9 rfl rfl)
theorem dX8_minuteGoes_57 : decode cX8_minuteGoes 57 = .ok (.getfield 131, 3) := dk_180 0 131 (dk_at dksX8_minuteGoes_2 10 rfl rfl)
theorem dX8_minuteGoes_60 : decode cX8_minuteGoes 60 = .ok (.iload_n 2, 1) := dk_28 (dk_at dksX8_minuteGoes_2 13 rfl rfl)
theorem dX8_minuteGoes_61 : decode cX8_minuteGoes 61 = .ok (.iload_n 3, 1) := dk_29 (dk_at dksX8_minuteGoes_2 14 rfl rfl)
theorem dX8_minuteGoes_62 : decode cX8_minuteGoes 62 = .ok (.iadd, 1) := dk_96 (dk_at dksX8_minuteGoes_2 15 rfl rfl)
theorem dX8_minuteGoes_63 : decode cX8_minuteGoes 63 = .ok (.aload_n 0, 1) := dk_42 (dk_at dksX8_minuteGoes_2 16 rfl rfl)
theorem dX8_minuteGoes_64 : decode cX8_minuteGoes 64 = .ok (.getfield 131, 3) := dk_180 0 131 (dk_at dksX8_minuteGoes_2 17 rfl rfl)
theorem dX8_minuteGoes_67 : decode cX8_minuteGoes 67 = .ok (.iload_n 1, 1) := dk_27 (dk_at dksX8_minuteGoes_2 20 rfl rfl)
theorem dX8_minuteGoes_68 : decode cX8_minuteGoes 68 = .ok (.iload_n 3, 1) := dk_29 (dk_at dksX8_minuteGoes_2 21 rfl rfl)
theorem dX8_minuteGoes_69 : decode cX8_minuteGoes 69 = .ok (.iadd, 1) := dk_96 (dk_at dksX8_minuteGoes_2 22 rfl rfl)
theorem dX8_minuteGoes_70 : decode cX8_minuteGoes 70 = .ok (.iaload, 1) := dk_46 (dk_at dksX8_minuteGoes_2 23 rfl rfl)
theorem dX8_minuteGoes_71 : decode cX8_minuteGoes 71 = .ok (.iastore, 1) := dk_79 (dk_at dksX8_minuteGoes_3 0 rfl rfl)
theorem dX8_minuteGoes_72 : decode cX8_minuteGoes 72 = .ok (.iinc 3 1, 3) := dk_132 3 1 (dk_at dksX8_minuteGoes_3 1 rfl rfl)
theorem dX8_minuteGoes_75 : decode cX8_minuteGoes 75 = .ok (.goto (-25), 3) := dk_167 255 231 (dk_at dksX8_minuteGoes_3 4 rfl rfl)
theorem dX8_minuteGoes_78 : decode cX8_minuteGoes 78 = .ok (.aload_n 0, 1) := dk_42 (dk_at dksX8_minuteGoes_3 7 rfl rfl)
theorem dX8_minuteGoes_79 : decode cX8_minuteGoes 79 = .ok (.dup, 1) := dk_89 (dk_at dksX8_minuteGoes_3 8 rfl rfl)
theorem dX8_minuteGoes_80 : decode cX8_minuteGoes 80 = .ok (.getfield 348, 3) := dk_180 1 92 (dk_at dksX8_minuteGoes_3 9 rfl rfl)
theorem dX8_minuteGoes_83 : decode cX8_minuteGoes 83 = .ok (.iconst 1, 1) := dk_4 (dk_at dksX8_minuteGoes_3 12 rfl rfl)
theorem dX8_minuteGoes_84 : decode cX8_minuteGoes 84 = .ok (.iadd, 1) := dk_96 (dk_at dksX8_minuteGoes_3 13 rfl rfl)
theorem dX8_minuteGoes_85 : decode cX8_minuteGoes 85 = .ok (.putfield 348, 3) := dk_181 1 92 (dk_at dksX8_minuteGoes_3 14 rfl rfl)
theorem dX8_minuteGoes_88 : decode cX8_minuteGoes 88 = .ok (.aload_n 0, 1) := dk_42 (dk_at dksX8_minuteGoes_3 17 rfl rfl)
theorem dX8_minuteGoes_89 : decode cX8_minuteGoes 89 = .ok (.invokevirtual 354, 3) := dk_182 1 98 (dk_at dksX8_minuteGoes_3 18 rfl rfl)
theorem dX8_minuteGoes_92 : decode cX8_minuteGoes 92 = .ok (.iconst 0, 1) := dk_3 (dk_at dksX8_minuteGoes_3 21 rfl rfl)
theorem dX8_minuteGoes_93 : decode cX8_minuteGoes 93 = .ok (.istore_n 3, 1) := dk_62 (dk_at dksX8_minuteGoes_3 22 rfl rfl)
theorem dX8_minuteGoes_94 : decode cX8_minuteGoes 94 = .ok (.iload_n 3, 1) := dk_29 (dk_at dksX8_minuteGoes_3 23 rfl rfl)
theorem dX8_minuteGoes_95 : decode cX8_minuteGoes 95 = .ok (.aload_n 0, 1) := dk_42 (dk_at dksX8_minuteGoes_4 0 rfl rfl)
theorem dX8_minuteGoes_96 : decode cX8_minuteGoes 96 = .ok (.getfield 70, 3) := dk_180 0 70 (dk_at dksX8_minuteGoes_4 1 rfl rfl)
theorem dX8_minuteGoes_99 : decode cX8_minuteGoes 99 = .ok (.aload_n 0, 1) := dk_42 (dk_at dksX8_minuteGoes_4 4 rfl rfl)
theorem dX8_minuteGoes_100 : decode cX8_minuteGoes 100 = .ok (.getfield 257, 3) := dk_180 1 1 (dk_at dksX8_minuteGoes_4 5 rfl rfl)
theorem dX8_minuteGoes_103 : decode cX8_minuteGoes 103 = .ok (.iaload, 1) := dk_46 (dk_at dksX8_minuteGoes_4 8 rfl rfl)
theorem dX8_minuteGoes_104 : decode cX8_minuteGoes 104 = .ok (.if_icmp .ge 41, 3) := dk_162 0 41 (dk_at dksX8_minuteGoes_4 9 rfl rfl)
theorem dX8_minuteGoes_107 : decode cX8_minuteGoes 107 = .ok (.aload_n 0, 1) := dk_42 (dk_at dksX8_minuteGoes_4 12 rfl rfl)
theorem dX8_minuteGoes_108 : decode cX8_minuteGoes 108 = .ok (.getfield 134, 3) := dk_180 0 134 (dk_at dksX8_minuteGoes_4 13 rfl rfl)
theorem dX8_minuteGoes_111 : decode cX8_minuteGoes 111 = .ok (.iload_n 3, 1) := dk_29 (dk_at dksX8_minuteGoes_4 16 rfl rfl)
theorem dX8_minuteGoes_112 : decode cX8_minuteGoes 112 = .ok (.iaload, 1) := dk_46 (dk_at dksX8_minuteGoes_4 17 rfl rfl)
theorem dX8_minuteGoes_113 : decode cX8_minuteGoes 113 = .ok (.iconst (-1), 1) := dk_2 (dk_at dksX8_minuteGoes_4 18 rfl rfl)
theorem dX8_minuteGoes_114 : decode cX8_minuteGoes 114 = .ok (.if_icmp .ne 25, 3) := dk_160 0 25 (dk_at dksX8_minuteGoes_4 19 rfl rfl)
theorem dX8_minuteGoes_117 : decode cX8_minuteGoes 117 = .ok (.aload_n 0, 1) := dk_42 (dk_at dksX8_minuteGoes_4 22 rfl rfl)
theorem dX8_minuteGoes_118 : decode cX8_minuteGoes 118 = .ok (.iload_n 3, 1) := dk_29 (dk_at dksX8_minuteGoes_4 23 rfl rfl)
theorem dX8_minuteGoes_119 : decode cX8_minuteGoes 119 = .ok (.invokevirtual 401, 3) := dk_182 1 145 (dk_at dksX8_minuteGoes_5 0 rfl rfl)
theorem dX8_minuteGoes_122 : decode cX8_minuteGoes 122 = .ok (.aload_n 0, 1) := dk_42 (dk_at dksX8_minuteGoes_5 3 rfl rfl)
theorem dX8_minuteGoes_123 : decode cX8_minuteGoes 123 = .ok (.getfield 79, 3) := dk_180 0 79 (dk_at dksX8_minuteGoes_5 4 rfl rfl)
theorem dX8_minuteGoes_126 : decode cX8_minuteGoes 126 = .ok (.aload_n 0, 1) := dk_42 (dk_at dksX8_minuteGoes_5 7 rfl rfl)
theorem dX8_minuteGoes_127 : decode cX8_minuteGoes 127 = .ok (.getfield 257, 3) := dk_180 1 1 (dk_at dksX8_minuteGoes_5 8 rfl rfl)
theorem dX8_minuteGoes_130 : decode cX8_minuteGoes 130 = .ok (.iaload, 1) := dk_46 (dk_at dksX8_minuteGoes_5 11 rfl rfl)
theorem dX8_minuteGoes_131 : decode cX8_minuteGoes 131 = .ok (.if_icmp .ge 8, 3) := dk_162 0 8 (dk_at dksX8_minuteGoes_5 12 rfl rfl)
theorem dX8_minuteGoes_134 : decode cX8_minuteGoes 134 = .ok (.aload_n 0, 1) := dk_42 (dk_at dksX8_minuteGoes_5 15 rfl rfl)
theorem dX8_minuteGoes_135 : decode cX8_minuteGoes 135 = .ok (.iload_n 3, 1) := dk_29 (dk_at dksX8_minuteGoes_5 16 rfl rfl)
theorem dX8_minuteGoes_136 : decode cX8_minuteGoes 136 = .ok (.invokevirtual 404, 3) := dk_182 1 148 (dk_at dksX8_minuteGoes_5 17 rfl rfl)
theorem dX8_minuteGoes_139 : decode cX8_minuteGoes 139 = .ok (.iinc 3 1, 3) := dk_132 3 1 (dk_at dksX8_minuteGoes_5 20 rfl rfl)
theorem dX8_minuteGoes_142 : decode cX8_minuteGoes 142 = .ok (.goto (-48), 3) := dk_167 255 208 (dk_at dksX8_minuteGoes_6 0 rfl rfl)
theorem dX8_minuteGoes_145 : decode cX8_minuteGoes 145 = .ok (.return_, 1) := dk_177 (dk_at dksX8_minuteGoes_6 3 rfl rfl)
abbrev cX8_goesTo : ByteArray := prog_19_method_57_code
def yX8_goesTo : MethodName := ⟨RX8, "goesTo", "(I)I"⟩
def dkwX8_goesTo_5 : List UInt8 := [96, 112, 54, 5, 21, 5, 154, 0, 7, 28, 167, 0, 10, 42, 28, 21, 5, 182, 1, 129, 172]
abbrev dktX8_goesTo_5 : List UInt8 := dkwX8_goesTo_5 ++ []
def dkwX8_goesTo_4 : List UInt8 := [4, 100, 79, 42, 27, 3, 182, 1, 116, 54, 4, 21, 4, 156, 0, 7, 3, 167, 0, 9, 21, 4, 29, 4]
abbrev dktX8_goesTo_4 : List UInt8 := dkwX8_goesTo_4 ++ dktX8_goesTo_5
def dkwX8_goesTo_3 : List UInt8 := [42, 180, 0, 116, 7, 29, 79, 42, 180, 0, 116, 8, 42, 28, 42, 180, 1, 92, 182, 1, 110, 184, 1, 113]
abbrev dktX8_goesTo_3 : List UInt8 := dkwX8_goesTo_3 ++ dktX8_goesTo_4
def dkwX8_goesTo_2 : List UInt8 := [180, 0, 131, 16, 36, 42, 180, 1, 92, 104, 16, 6, 96, 27, 96, 46, 79, 42, 180, 0, 116, 6, 27, 79]
abbrev dktX8_goesTo_2 : List UInt8 := dkwX8_goesTo_2 ++ dktX8_goesTo_3
def dkwX8_goesTo_1 : List UInt8 := [180, 0, 116, 3, 42, 180, 1, 92, 79, 42, 180, 0, 116, 4, 28, 79, 42, 180, 0, 116, 5, 42]
abbrev dktX8_goesTo_1 : List UInt8 := dkwX8_goesTo_1 ++ dktX8_goesTo_2
def dkwX8_goesTo_0 : List UInt8 := [42, 180, 0, 131, 16, 36, 42, 180, 1, 92, 104, 27, 96, 46, 61, 42, 28, 182, 1, 107, 62, 42]
abbrev dktX8_goesTo_0 : List UInt8 := dkwX8_goesTo_0 ++ dktX8_goesTo_1
theorem dksX8_goesTo_0 : cX8_goesTo.data.toList.drop 0 = dktX8_goesTo_0 := by decide +kernel
theorem dksX8_goesTo_1 : cX8_goesTo.data.toList.drop 22 = dktX8_goesTo_1 := dk_seg dksX8_goesTo_0 22 rfl rfl
theorem dksX8_goesTo_2 : cX8_goesTo.data.toList.drop 44 = dktX8_goesTo_2 := dk_seg dksX8_goesTo_1 22 rfl rfl
theorem dksX8_goesTo_3 : cX8_goesTo.data.toList.drop 68 = dktX8_goesTo_3 := dk_seg dksX8_goesTo_2 24 rfl rfl
theorem dksX8_goesTo_4 : cX8_goesTo.data.toList.drop 92 = dktX8_goesTo_4 := dk_seg dksX8_goesTo_3 24 rfl rfl
theorem dksX8_goesTo_5 : cX8_goesTo.data.toList.drop 116 = dktX8_goesTo_5 := dk_seg dksX8_goesTo_4 24 rfl rfl
theorem dX8_goesTo_0 : decode cX8_goesTo 0 = .ok (.aload_n 0, 1) := dk_42 (dk_at dksX8_goesTo_0 0 rfl rfl)
theorem dX8_goesTo_1 : decode cX8_goesTo 1 = .ok (.getfield 131, 3) := dk_180 0 131 (dk_at dksX8_goesTo_0 1 rfl rfl)
theorem dX8_goesTo_4 : decode cX8_goesTo 4 = .ok (.bipush 36, 2) := dk_16 36 (dk_at dksX8_goesTo_0 4 rfl rfl)
theorem dX8_goesTo_6 : decode cX8_goesTo 6 = .ok (.aload_n 0, 1) := dk_42 (dk_at dksX8_goesTo_0 6 rfl rfl)
theorem dX8_goesTo_7 : decode cX8_goesTo 7 = .ok (.getfield 348, 3) := dk_180 1 92 (dk_at dksX8_goesTo_0 7 rfl rfl)
theorem dX8_goesTo_10 : decode cX8_goesTo 10 = .ok (.imul, 1) := dk_104 (dk_at dksX8_goesTo_0 10 rfl rfl)
theorem dX8_goesTo_11 : decode cX8_goesTo 11 = .ok (.iload_n 1, 1) := dk_27 (dk_at dksX8_goesTo_0 11 rfl rfl)
theorem dX8_goesTo_12 : decode cX8_goesTo 12 = .ok (.iadd, 1) := dk_96 (dk_at dksX8_goesTo_0 12 rfl rfl)
theorem dX8_goesTo_13 : decode cX8_goesTo 13 = .ok (.iaload, 1) := dk_46 (dk_at dksX8_goesTo_0 13 rfl rfl)
theorem dX8_goesTo_14 : decode cX8_goesTo 14 = .ok (.istore_n 2, 1) := dk_61 (dk_at dksX8_goesTo_0 14 rfl rfl)
theorem dX8_goesTo_15 : decode cX8_goesTo 15 = .ok (.aload_n 0, 1) := dk_42 (dk_at dksX8_goesTo_0 15 rfl rfl)
theorem dX8_goesTo_16 : decode cX8_goesTo 16 = .ok (.iload_n 2, 1) := dk_28 (dk_at dksX8_goesTo_0 16 rfl rfl)
theorem dX8_goesTo_17 : decode cX8_goesTo 17 = .ok (.invokevirtual 363, 3) := dk_182 1 107 (dk_at dksX8_goesTo_0 17 rfl rfl)
theorem dX8_goesTo_20 : decode cX8_goesTo 20 = .ok (.istore_n 3, 1) := dk_62 (dk_at dksX8_goesTo_0 20 rfl rfl)
theorem dX8_goesTo_21 : decode cX8_goesTo 21 = .ok (.aload_n 0, 1) := dk_42 (dk_at dksX8_goesTo_0 21 rfl rfl)
theorem dX8_goesTo_22 : decode cX8_goesTo 22 = .ok (.getfield 116, 3) := dk_180 0 116 (dk_at dksX8_goesTo_1 0 rfl rfl)
theorem dX8_goesTo_25 : decode cX8_goesTo 25 = .ok (.iconst 0, 1) := dk_3 (dk_at dksX8_goesTo_1 3 rfl rfl)
theorem dX8_goesTo_26 : decode cX8_goesTo 26 = .ok (.aload_n 0, 1) := dk_42 (dk_at dksX8_goesTo_1 4 rfl rfl)
theorem dX8_goesTo_27 : decode cX8_goesTo 27 = .ok (.getfield 348, 3) := dk_180 1 92 (dk_at dksX8_goesTo_1 5 rfl rfl)
theorem dX8_goesTo_30 : decode cX8_goesTo 30 = .ok (.iastore, 1) := dk_79 (dk_at dksX8_goesTo_1 8 rfl rfl)
theorem dX8_goesTo_31 : decode cX8_goesTo 31 = .ok (.aload_n 0, 1) := dk_42 (dk_at dksX8_goesTo_1 9 rfl rfl)
theorem dX8_goesTo_32 : decode cX8_goesTo 32 = .ok (.getfield 116, 3) := dk_180 0 116 (dk_at dksX8_goesTo_1 10 rfl rfl)
theorem dX8_goesTo_35 : decode cX8_goesTo 35 = .ok (.iconst 1, 1) := dk_4 (dk_at dksX8_goesTo_1 13 rfl rfl)
theorem dX8_goesTo_36 : decode cX8_goesTo 36 = .ok (.iload_n 2, 1) := dk_28 (dk_at dksX8_goesTo_1 14 rfl rfl)
theorem dX8_goesTo_37 : decode cX8_goesTo 37 = .ok (.iastore, 1) := dk_79 (dk_at dksX8_goesTo_1 15 rfl rfl)
theorem dX8_goesTo_38 : decode cX8_goesTo 38 = .ok (.aload_n 0, 1) := dk_42 (dk_at dksX8_goesTo_1 16 rfl rfl)
theorem dX8_goesTo_39 : decode cX8_goesTo 39 = .ok (.getfield 116, 3) := dk_180 0 116 (dk_at dksX8_goesTo_1 17 rfl rfl)
theorem dX8_goesTo_42 : decode cX8_goesTo 42 = .ok (.iconst 2, 1) := dk_5 (dk_at dksX8_goesTo_1 20 rfl rfl)
theorem dX8_goesTo_43 : decode cX8_goesTo 43 = .ok (.aload_n 0, 1) := dk_42 (dk_at dksX8_goesTo_1 21 rfl rfl)
theorem dX8_goesTo_44 : decode cX8_goesTo 44 = .ok (.getfield 131, 3) := dk_180 0 131 (dk_at dksX8_goesTo_2 0 rfl rfl)
theorem dX8_goesTo_47 : decode cX8_goesTo 47 = .ok (.bipush 36, 2) := dk_16 36 (dk_at dksX8_goesTo_2 3 rfl rfl)
theorem dX8_goesTo_49 : decode cX8_goesTo 49 = .ok (.aload_n 0, 1) := dk_42 (dk_at dksX8_goesTo_2 5 rfl rfl)
theorem dX8_goesTo_50 : decode cX8_goesTo 50 = .ok (.getfield 348, 3) := dk_180 1 92 (dk_at dksX8_goesTo_2 6 rfl rfl)
theorem dX8_goesTo_53 : decode cX8_goesTo 53 = .ok (.imul, 1) := dk_104 (dk_at dksX8_goesTo_2 9 rfl rfl)
theorem dX8_goesTo_54 : decode cX8_goesTo 54 = .ok (.bipush 6, 2) := dk_16 6 (dk_at dksX8_goesTo_2 10 rfl rfl)
theorem dX8_goesTo_56 : decode cX8_goesTo 56 = .ok (.iadd, 1) := dk_96 (dk_at dksX8_goesTo_2 12 rfl rfl)
theorem dX8_goesTo_57 : decode cX8_goesTo 57 = .ok (.iload_n 1, 1) := dk_27 (dk_at dksX8_goesTo_2 13 rfl rfl)
theorem dX8_goesTo_58 : decode cX8_goesTo 58 = .ok (.iadd, 1) := dk_96 (dk_at dksX8_goesTo_2 14 rfl rfl)
theorem dX8_goesTo_59 : decode cX8_goesTo 59 = .ok (.iaload, 1) := dk_46 (dk_at dksX8_goesTo_2 15 rfl rfl)
theorem dX8_goesTo_60 : decode cX8_goesTo 60 = .ok (.iastore, 1) := dk_79 (dk_at dksX8_goesTo_2 16 rfl rfl)
theorem dX8_goesTo_61 : decode cX8_goesTo 61 = .ok (.aload_n 0, 1) := dk_42 (dk_at dksX8_goesTo_2 17 rfl rfl)
theorem dX8_goesTo_62 : decode cX8_goesTo 62 = .ok (.getfield 116, 3) := dk_180 0 116 (dk_at dksX8_goesTo_2 18 rfl rfl)
theorem dX8_goesTo_65 : decode cX8_goesTo 65 = .ok (.iconst 3, 1) := dk_6 (dk_at dksX8_goesTo_2 21 rfl rfl)
theorem dX8_goesTo_66 : decode cX8_goesTo 66 = .ok (.iload_n 1, 1) := dk_27 (dk_at dksX8_goesTo_2 22 rfl rfl)
theorem dX8_goesTo_67 : decode cX8_goesTo 67 = .ok (.iastore, 1) := dk_79 (dk_at dksX8_goesTo_2 23 rfl rfl)
theorem dX8_goesTo_68 : decode cX8_goesTo 68 = .ok (.aload_n 0, 1) := dk_42 (dk_at dksX8_goesTo_3 0 rfl rfl)
theorem dX8_goesTo_69 : decode cX8_goesTo 69 = .ok (.getfield 116, 3) := dk_180 0 116 (dk_at dksX8_goesTo_3 1 rfl rfl)
theorem dX8_goesTo_72 : decode cX8_goesTo 72 = .ok (.iconst 4, 1) := dk_7 (dk_at dksX8_goesTo_3 4 rfl rfl)
theorem dX8_goesTo_73 : decode cX8_goesTo 73 = .ok (.iload_n 3, 1) := dk_29 (dk_at dksX8_goesTo_3 5 rfl rfl)
theorem dX8_goesTo_74 : decode cX8_goesTo 74 = .ok (.iastore, 1) := dk_79 (dk_at dksX8_goesTo_3 6 rfl rfl)
theorem dX8_goesTo_75 : decode cX8_goesTo 75 = .ok (.aload_n 0, 1) := dk_42 (dk_at dksX8_goesTo_3 7 rfl rfl)
theorem dX8_goesTo_76 : decode cX8_goesTo 76 = .ok (.getfield 116, 3) := dk_180 0 116 (dk_at dksX8_goesTo_3 8 rfl rfl)
theorem dX8_goesTo_79 : decode cX8_goesTo 79 = .ok (.iconst 5, 1) := dk_8 (dk_at dksX8_goesTo_3 11 rfl rfl)
theorem dX8_goesTo_80 : decode cX8_goesTo 80 = .ok (.aload_n 0, 1) := dk_42 (dk_at dksX8_goesTo_3 12 rfl rfl)
theorem dX8_goesTo_81 : decode cX8_goesTo 81 = .ok (.iload_n 2, 1) := dk_28 (dk_at dksX8_goesTo_3 13 rfl rfl)
theorem dX8_goesTo_82 : decode cX8_goesTo 82 = .ok (.aload_n 0, 1) := dk_42 (dk_at dksX8_goesTo_3 14 rfl rfl)
theorem dX8_goesTo_83 : decode cX8_goesTo 83 = .ok (.getfield 348, 3) := dk_180 1 92 (dk_at dksX8_goesTo_3 15 rfl rfl)
theorem dX8_goesTo_86 : decode cX8_goesTo 86 = .ok (.invokevirtual 366, 3) := dk_182 1 110 (dk_at dksX8_goesTo_3 18 rfl rfl)
theorem dX8_goesTo_89 : decode cX8_goesTo 89 = .ok (.invokestatic 369, 3) := dk_184 1 113 (dk_at dksX8_goesTo_3 21 rfl rfl)
theorem dX8_goesTo_92 : decode cX8_goesTo 92 = .ok (.iconst 1, 1) := dk_4 (dk_at dksX8_goesTo_4 0 rfl rfl)
theorem dX8_goesTo_93 : decode cX8_goesTo 93 = .ok (.isub, 1) := dk_100 (dk_at dksX8_goesTo_4 1 rfl rfl)
theorem dX8_goesTo_94 : decode cX8_goesTo 94 = .ok (.iastore, 1) := dk_79 (dk_at dksX8_goesTo_4 2 rfl rfl)
theorem dX8_goesTo_95 : decode cX8_goesTo 95 = .ok (.aload_n 0, 1) := dk_42 (dk_at dksX8_goesTo_4 3 rfl rfl)
theorem dX8_goesTo_96 : decode cX8_goesTo 96 = .ok (.iload_n 1, 1) := dk_27 (dk_at dksX8_goesTo_4 4 rfl rfl)
theorem dX8_goesTo_97 : decode cX8_goesTo 97 = .ok (.iconst 0, 1) := dk_3 (dk_at dksX8_goesTo_4 5 rfl rfl)
theorem dX8_goesTo_98 : decode cX8_goesTo 98 = .ok (.invokevirtual 372, 3) := dk_182 1 116 (dk_at dksX8_goesTo_4 6 rfl rfl)
theorem dX8_goesTo_101 : decode cX8_goesTo 101 = .ok (.istore 4, 2) := dk_54 4 (dk_at dksX8_goesTo_4 9 rfl rfl)
theorem dX8_goesTo_103 : decode cX8_goesTo 103 = .ok (.iload 4, 2) := dk_21 4 (dk_at dksX8_goesTo_4 11 rfl rfl)
theorem dX8_goesTo_105 : decode cX8_goesTo 105 = .ok (.ifCond .ge 7, 3) := dk_156 0 7 (dk_at dksX8_goesTo_4 13 rfl rfl)
theorem dX8_goesTo_108 : decode cX8_goesTo 108 = .ok (.iconst 0, 1) := dk_3 (dk_at dksX8_goesTo_4 16 rfl rfl)
theorem dX8_goesTo_109 : decode cX8_goesTo 109 = .ok (.goto 9, 3) := dk_167 0 9 (dk_at dksX8_goesTo_4 17 rfl rfl)
theorem dX8_goesTo_112 : decode cX8_goesTo 112 = .ok (.iload 4, 2) := dk_21 4 (dk_at dksX8_goesTo_4 20 rfl rfl)
theorem dX8_goesTo_114 : decode cX8_goesTo 114 = .ok (.iload_n 3, 1) := dk_29 (dk_at dksX8_goesTo_4 22 rfl rfl)
theorem dX8_goesTo_115 : decode cX8_goesTo 115 = .ok (.iconst 1, 1) := dk_4 (dk_at dksX8_goesTo_4 23 rfl rfl)
theorem dX8_goesTo_116 : decode cX8_goesTo 116 = .ok (.iadd, 1) := dk_96 (dk_at dksX8_goesTo_5 0 rfl rfl)
theorem dX8_goesTo_117 : decode cX8_goesTo 117 = .ok (.irem, 1) := dk_112 (dk_at dksX8_goesTo_5 1 rfl rfl)
theorem dX8_goesTo_118 : decode cX8_goesTo 118 = .ok (.istore 5, 2) := dk_54 5 (dk_at dksX8_goesTo_5 2 rfl rfl)
theorem dX8_goesTo_120 : decode cX8_goesTo 120 = .ok (.iload 5, 2) := dk_21 5 (dk_at dksX8_goesTo_5 4 rfl rfl)
theorem dX8_goesTo_122 : decode cX8_goesTo 122 = .ok (.ifCond .ne 7, 3) := dk_154 0 7 (dk_at dksX8_goesTo_5 6 rfl rfl)
theorem dX8_goesTo_125 : decode cX8_goesTo 125 = .ok (.iload_n 2, 1) := dk_28 (dk_at dksX8_goesTo_5 9 rfl rfl)
theorem dX8_goesTo_126 : decode cX8_goesTo 126 = .ok (.goto 10, 3) := dk_167 0 10 (dk_at dksX8_goesTo_5 10 rfl rfl)
theorem dX8_goesTo_129 : decode cX8_goesTo 129 = .ok (.aload_n 0, 1) := dk_42 (dk_at dksX8_goesTo_5 13 rfl rfl)
theorem dX8_goesTo_130 : decode cX8_goesTo 130 = .ok (.iload_n 2, 1) := dk_28 (dk_at dksX8_goesTo_5 14 rfl rfl)
theorem dX8_goesTo_131 : decode cX8_goesTo 131 = .ok (.iload 5, 2) := dk_21 5 (dk_at dksX8_goesTo_5 15 rfl rfl)
theorem dX8_goesTo_133 : decode cX8_goesTo 133 = .ok (.invokevirtual 385, 3) := dk_182 1 129 (dk_at dksX8_goesTo_5 17 rfl rfl)
theorem dX8_goesTo_136 : decode cX8_goesTo 136 = .ok (.ireturn, 1) := dk_172 (dk_at dksX8_goesTo_5 20 rfl rfl)
abbrev cX8_through : ByteArray := prog_19_method_50_code
def yX8_through : MethodName := ⟨RX8, "through", "(II)I"⟩
def dkwX8_through_4 : List UInt8 := [167, 255, 168, 27, 172]
abbrev dktX8_through_4 : List UInt8 := dkwX8_through_4 ++ []
def dkwX8_through_3 : List UInt8 := [29, 28, 160, 0, 17, 21, 5, 27, 160, 0, 8, 21, 6, 167, 0, 5, 21, 5, 172, 132, 4, 1]
abbrev dktX8_through_3 : List UInt8 := dkwX8_through_3 ++ dktX8_through_4
def dkwX8_through_2 : List UInt8 := [21, 4, 96, 46, 54, 6, 21, 5, 27, 159, 0, 12, 21, 6, 27, 159, 0, 6, 167, 0, 25, 132, 3, 1]
abbrev dktX8_through_2 : List UInt8 := dkwX8_through_2 ++ dktX8_through_3
def dkwX8_through_1 : List UInt8 := [16, 12, 42, 180, 1, 1, 104, 21, 4, 96, 46, 54, 5, 42, 180, 0, 58, 16, 12, 42, 180, 1, 1, 104]
abbrev dktX8_through_1 : List UInt8 := dkwX8_through_1 ++ dktX8_through_2
def dkwX8_through_0 : List UInt8 := [3, 62, 3, 54, 4, 21, 4, 42, 180, 0, 52, 42, 180, 1, 1, 46, 162, 0, 80, 42, 180, 0, 55]
abbrev dktX8_through_0 : List UInt8 := dkwX8_through_0 ++ dktX8_through_1
theorem dksX8_through_0 : cX8_through.data.toList.drop 0 = dktX8_through_0 := by decide +kernel
theorem dksX8_through_1 : cX8_through.data.toList.drop 23 = dktX8_through_1 := dk_seg dksX8_through_0 23 rfl rfl
theorem dksX8_through_2 : cX8_through.data.toList.drop 47 = dktX8_through_2 := dk_seg dksX8_through_1 24 rfl rfl
theorem dksX8_through_3 : cX8_through.data.toList.drop 71 = dktX8_through_3 := dk_seg dksX8_through_2 24 rfl rfl
theorem dksX8_through_4 : cX8_through.data.toList.drop 93 = dktX8_through_4 := dk_seg dksX8_through_3 22 rfl rfl
theorem dX8_through_0 : decode cX8_through 0 = .ok (.iconst 0, 1) := dk_3 (dk_at dksX8_through_0 0 rfl rfl)
theorem dX8_through_1 : decode cX8_through 1 = .ok (.istore_n 3, 1) := dk_62 (dk_at dksX8_through_0 1 rfl rfl)
theorem dX8_through_2 : decode cX8_through 2 = .ok (.iconst 0, 1) := dk_3 (dk_at dksX8_through_0 2 rfl rfl)
theorem dX8_through_3 : decode cX8_through 3 = .ok (.istore 4, 2) := dk_54 4 (dk_at dksX8_through_0 3 rfl rfl)
theorem dX8_through_5 : decode cX8_through 5 = .ok (.iload 4, 2) := dk_21 4 (dk_at dksX8_through_0 5 rfl rfl)
theorem dX8_through_7 : decode cX8_through 7 = .ok (.aload_n 0, 1) := dk_42 (dk_at dksX8_through_0 7 rfl rfl)
theorem dX8_through_8 : decode cX8_through 8 = .ok (.getfield 52, 3) := dk_180 0 52 (dk_at dksX8_through_0 8 rfl rfl)
theorem dX8_through_11 : decode cX8_through 11 = .ok (.aload_n 0, 1) := dk_42 (dk_at dksX8_through_0 11 rfl rfl)
theorem dX8_through_12 : decode cX8_through 12 = .ok (.getfield 257, 3) := dk_180 1 1 (dk_at dksX8_through_0 12 rfl rfl)
theorem dX8_through_15 : decode cX8_through 15 = .ok (.iaload, 1) := dk_46 (dk_at dksX8_through_0 15 rfl rfl)
theorem dX8_through_16 : decode cX8_through 16 = .ok (.if_icmp .ge 80, 3) := dk_162 0 80 (dk_at dksX8_through_0 16 rfl rfl)
theorem dX8_through_19 : decode cX8_through 19 = .ok (.aload_n 0, 1) := dk_42 (dk_at dksX8_through_0 19 rfl rfl)
theorem dX8_through_20 : decode cX8_through 20 = .ok (.getfield 55, 3) := dk_180 0 55 (dk_at dksX8_through_0 20 rfl rfl)
theorem dX8_through_23 : decode cX8_through 23 = .ok (.bipush 12, 2) := dk_16 12 (dk_at dksX8_through_1 0 rfl rfl)
theorem dX8_through_25 : decode cX8_through 25 = .ok (.aload_n 0, 1) := dk_42 (dk_at dksX8_through_1 2 rfl rfl)
theorem dX8_through_26 : decode cX8_through 26 = .ok (.getfield 257, 3) := dk_180 1 1 (dk_at dksX8_through_1 3 rfl rfl)
theorem dX8_through_29 : decode cX8_through 29 = .ok (.imul, 1) := dk_104 (dk_at dksX8_through_1 6 rfl rfl)
theorem dX8_through_30 : decode cX8_through 30 = .ok (.iload 4, 2) := dk_21 4 (dk_at dksX8_through_1 7 rfl rfl)
theorem dX8_through_32 : decode cX8_through 32 = .ok (.iadd, 1) := dk_96 (dk_at dksX8_through_1 9 rfl rfl)
theorem dX8_through_33 : decode cX8_through 33 = .ok (.iaload, 1) := dk_46 (dk_at dksX8_through_1 10 rfl rfl)
theorem dX8_through_34 : decode cX8_through 34 = .ok (.istore 5, 2) := dk_54 5 (dk_at dksX8_through_1 11 rfl rfl)
theorem dX8_through_36 : decode cX8_through 36 = .ok (.aload_n 0, 1) := dk_42 (dk_at dksX8_through_1 13 rfl rfl)
theorem dX8_through_37 : decode cX8_through 37 = .ok (.getfield 58, 3) := dk_180 0 58 (dk_at dksX8_through_1 14 rfl rfl)
theorem dX8_through_40 : decode cX8_through 40 = .ok (.bipush 12, 2) := dk_16 12 (dk_at dksX8_through_1 17 rfl rfl)
theorem dX8_through_42 : decode cX8_through 42 = .ok (.aload_n 0, 1) := dk_42 (dk_at dksX8_through_1 19 rfl rfl)
theorem dX8_through_43 : decode cX8_through 43 = .ok (.getfield 257, 3) := dk_180 1 1 (dk_at dksX8_through_1 20 rfl rfl)
theorem dX8_through_46 : decode cX8_through 46 = .ok (.imul, 1) := dk_104 (dk_at dksX8_through_1 23 rfl rfl)
theorem dX8_through_47 : decode cX8_through 47 = .ok (.iload 4, 2) := dk_21 4 (dk_at dksX8_through_2 0 rfl rfl)
theorem dX8_through_49 : decode cX8_through 49 = .ok (.iadd, 1) := dk_96 (dk_at dksX8_through_2 2 rfl rfl)
theorem dX8_through_50 : decode cX8_through 50 = .ok (.iaload, 1) := dk_46 (dk_at dksX8_through_2 3 rfl rfl)
theorem dX8_through_51 : decode cX8_through 51 = .ok (.istore 6, 2) := dk_54 6 (dk_at dksX8_through_2 4 rfl rfl)
theorem dX8_through_53 : decode cX8_through 53 = .ok (.iload 5, 2) := dk_21 5 (dk_at dksX8_through_2 6 rfl rfl)
theorem dX8_through_55 : decode cX8_through 55 = .ok (.iload_n 1, 1) := dk_27 (dk_at dksX8_through_2 8 rfl rfl)
theorem dX8_through_56 : decode cX8_through 56 = .ok (.if_icmp .eq 12, 3) := dk_159 0 12 (dk_at dksX8_through_2 9 rfl rfl)
theorem dX8_through_59 : decode cX8_through 59 = .ok (.iload 6, 2) := dk_21 6 (dk_at dksX8_through_2 12 rfl rfl)
theorem dX8_through_61 : decode cX8_through 61 = .ok (.iload_n 1, 1) := dk_27 (dk_at dksX8_through_2 14 rfl rfl)
theorem dX8_through_62 : decode cX8_through 62 = .ok (.if_icmp .eq 6, 3) := dk_159 0 6 (dk_at dksX8_through_2 15 rfl rfl)
theorem dX8_through_65 : decode cX8_through 65 = .ok (.goto 25, 3) := dk_167 0 25 (dk_at dksX8_through_2 18 rfl rfl)
theorem dX8_through_68 : decode cX8_through 68 = .ok (.iinc 3 1, 3) := dk_132 3 1 (dk_at dksX8_through_2 21 rfl rfl)
theorem dX8_through_71 : decode cX8_through 71 = .ok (.iload_n 3, 1) := dk_29 (dk_at dksX8_through_3 0 rfl rfl)
theorem dX8_through_72 : decode cX8_through 72 = .ok (.iload_n 2, 1) := dk_28 (dk_at dksX8_through_3 1 rfl rfl)
theorem dX8_through_73 : decode cX8_through 73 = .ok (.if_icmp .ne 17, 3) := dk_160 0 17 (dk_at dksX8_through_3 2 rfl rfl)
theorem dX8_through_76 : decode cX8_through 76 = .ok (.iload 5, 2) := dk_21 5 (dk_at dksX8_through_3 5 rfl rfl)
theorem dX8_through_78 : decode cX8_through 78 = .ok (.iload_n 1, 1) := dk_27 (dk_at dksX8_through_3 7 rfl rfl)
theorem dX8_through_79 : decode cX8_through 79 = .ok (.if_icmp .ne 8, 3) := dk_160 0 8 (dk_at dksX8_through_3 8 rfl rfl)
theorem dX8_through_82 : decode cX8_through 82 = .ok (.iload 6, 2) := dk_21 6 (dk_at dksX8_through_3 11 rfl rfl)
theorem dX8_through_84 : decode cX8_through 84 = .ok (.goto 5, 3) := dk_167 0 5 (dk_at dksX8_through_3 13 rfl rfl)
theorem dX8_through_87 : decode cX8_through 87 = .ok (.iload 5, 2) := dk_21 5 (dk_at dksX8_through_3 16 rfl rfl)
theorem dX8_through_89 : decode cX8_through 89 = .ok (.ireturn, 1) := dk_172 (dk_at dksX8_through_3 18 rfl rfl)
theorem dX8_through_90 : decode cX8_through 90 = .ok (.iinc 4 1, 3) := dk_132 4 1 (dk_at dksX8_through_3 19 rfl rfl)
theorem dX8_through_93 : decode cX8_through 93 = .ok (.goto (-88), 3) := dk_167 255 168 (dk_at dksX8_through_4 0 rfl rfl)
theorem dX8_through_96 : decode cX8_through 96 = .ok (.iload_n 1, 1) := dk_27 (dk_at dksX8_through_4 3 rfl rfl)
theorem dX8_through_97 : decode cX8_through 97 = .ok (.ireturn, 1) := dk_172 (dk_at dksX8_through_4 4 rfl rfl)
abbrev cX8_lotOf : ByteArray := prog_19_method_56_code
def yX8_lotOf : MethodName := ⟨RX8, "lotOf", "(I)I"⟩
def dkwX8_lotOf_1 : List UInt8 := [16, 100, 112, 172]
abbrev dktX8_lotOf_1 : List UInt8 := dkwX8_lotOf_1 ++ []
def dkwX8_lotOf_0 : List UInt8 := [42, 180, 1, 95, 16, 43, 184, 1, 126, 16, 8, 42, 180, 1, 92, 104, 27, 96, 184, 1, 126, 4, 124]
abbrev dktX8_lotOf_0 : List UInt8 := dkwX8_lotOf_0 ++ dktX8_lotOf_1
theorem dksX8_lotOf_0 : cX8_lotOf.data.toList.drop 0 = dktX8_lotOf_0 := by decide +kernel
theorem dksX8_lotOf_1 : cX8_lotOf.data.toList.drop 23 = dktX8_lotOf_1 := dk_seg dksX8_lotOf_0 23 rfl rfl
theorem dX8_lotOf_0 : decode cX8_lotOf 0 = .ok (.aload_n 0, 1) := dk_42 (dk_at dksX8_lotOf_0 0 rfl rfl)
theorem dX8_lotOf_1 : decode cX8_lotOf 1 = .ok (.getfield 351, 3) := dk_180 1 95 (dk_at dksX8_lotOf_0 1 rfl rfl)
theorem dX8_lotOf_4 : decode cX8_lotOf 4 = .ok (.bipush 43, 2) := dk_16 43 (dk_at dksX8_lotOf_0 4 rfl rfl)
theorem dX8_lotOf_6 : decode cX8_lotOf 6 = .ok (.invokestatic 382, 3) := dk_184 1 126 (dk_at dksX8_lotOf_0 6 rfl rfl)
theorem dX8_lotOf_9 : decode cX8_lotOf 9 = .ok (.bipush 8, 2) := dk_16 8 (dk_at dksX8_lotOf_0 9 rfl rfl)
theorem dX8_lotOf_11 : decode cX8_lotOf 11 = .ok (.aload_n 0, 1) := dk_42 (dk_at dksX8_lotOf_0 11 rfl rfl)
theorem dX8_lotOf_12 : decode cX8_lotOf 12 = .ok (.getfield 348, 3) := dk_180 1 92 (dk_at dksX8_lotOf_0 12 rfl rfl)
theorem dX8_lotOf_15 : decode cX8_lotOf 15 = .ok (.imul, 1) := dk_104 (dk_at dksX8_lotOf_0 15 rfl rfl)
theorem dX8_lotOf_16 : decode cX8_lotOf 16 = .ok (.iload_n 1, 1) := dk_27 (dk_at dksX8_lotOf_0 16 rfl rfl)
theorem dX8_lotOf_17 : decode cX8_lotOf 17 = .ok (.iadd, 1) := dk_96 (dk_at dksX8_lotOf_0 17 rfl rfl)
theorem dX8_lotOf_18 : decode cX8_lotOf 18 = .ok (.invokestatic 382, 3) := dk_184 1 126 (dk_at dksX8_lotOf_0 18 rfl rfl)
theorem dX8_lotOf_21 : decode cX8_lotOf 21 = .ok (.iconst 1, 1) := dk_4 (dk_at dksX8_lotOf_0 21 rfl rfl)
theorem dX8_lotOf_22 : decode cX8_lotOf 22 = .ok (.iushr, 1) := dk_124 (dk_at dksX8_lotOf_0 22 rfl rfl)
theorem dX8_lotOf_23 : decode cX8_lotOf 23 = .ok (.bipush 100, 2) := dk_16 100 (dk_at dksX8_lotOf_1 0 rfl rfl)
theorem dX8_lotOf_25 : decode cX8_lotOf 25 = .ok (.irem, 1) := dk_112 (dk_at dksX8_lotOf_1 2 rfl rfl)
theorem dX8_lotOf_26 : decode cX8_lotOf 26 = .ok (.ireturn, 1) := dk_172 (dk_at dksX8_lotOf_1 3 rfl rfl)
abbrev cX8_mixed : ByteArray := prog_19_method_55_code
def yX8_mixed : MethodName := ⟨RX8, "mixed", "(II)I"⟩
def dkwX8_mixed_0 : List UInt8 := [26, 27, 130, 19, 1, 125, 104, 17, 48, 57, 96, 61, 28, 28, 16, 15, 124, 130, 172]
abbrev dktX8_mixed_0 : List UInt8 := dkwX8_mixed_0 ++ []
theorem dksX8_mixed_0 : cX8_mixed.data.toList.drop 0 = dktX8_mixed_0 := by decide +kernel
theorem dX8_mixed_0 : decode cX8_mixed 0 = .ok (.iload_n 0, 1) := dk_26 (dk_at dksX8_mixed_0 0 rfl rfl)
theorem dX8_mixed_1 : decode cX8_mixed 1 = .ok (.iload_n 1, 1) := dk_27 (dk_at dksX8_mixed_0 1 rfl rfl)
theorem dX8_mixed_2 : decode cX8_mixed 2 = .ok (.ixor, 1) := dk_130 (dk_at dksX8_mixed_0 2 rfl rfl)
theorem dX8_mixed_3 : decode cX8_mixed 3 = .ok (.ldc_w 381, 3) := dk_19 1 125 (dk_at dksX8_mixed_0 3 rfl rfl)
theorem dX8_mixed_6 : decode cX8_mixed 6 = .ok (.imul, 1) := dk_104 (dk_at dksX8_mixed_0 6 rfl rfl)
theorem dX8_mixed_7 : decode cX8_mixed 7 = .ok (.sipush 12345, 3) := dk_17 48 57 (dk_at dksX8_mixed_0 7 rfl rfl)
theorem dX8_mixed_10 : decode cX8_mixed 10 = .ok (.iadd, 1) := dk_96 (dk_at dksX8_mixed_0 10 rfl rfl)
theorem dX8_mixed_11 : decode cX8_mixed 11 = .ok (.istore_n 2, 1) := dk_61 (dk_at dksX8_mixed_0 11 rfl rfl)
theorem dX8_mixed_12 : decode cX8_mixed 12 = .ok (.iload_n 2, 1) := dk_28 (dk_at dksX8_mixed_0 12 rfl rfl)
theorem dX8_mixed_13 : decode cX8_mixed 13 = .ok (.iload_n 2, 1) := dk_28 (dk_at dksX8_mixed_0 13 rfl rfl)
theorem dX8_mixed_14 : decode cX8_mixed 14 = .ok (.bipush 15, 2) := dk_16 15 (dk_at dksX8_mixed_0 14 rfl rfl)
theorem dX8_mixed_16 : decode cX8_mixed 16 = .ok (.iushr, 1) := dk_124 (dk_at dksX8_mixed_0 16 rfl rfl)
theorem dX8_mixed_17 : decode cX8_mixed 17 = .ok (.ixor, 1) := dk_130 (dk_at dksX8_mixed_0 17 rfl rfl)
theorem dX8_mixed_18 : decode cX8_mixed 18 = .ok (.ireturn, 1) := dk_172 (dk_at dksX8_mixed_0 18 rfl rfl)
abbrev cX8_breaksNow : ByteArray := prog_19_method_62_code
def yX8_breaksNow : MethodName := ⟨RX8, "breaksNow", "(I)V"⟩
def dkwX8_breaksNow_1 : List UInt8 := [79, 177]
abbrev dktX8_breaksNow_1 : List UInt8 := dkwX8_breaksNow_1 ++ []
def dkwX8_breaksNow_0 : List UInt8 := [42, 180, 0, 137, 27, 42, 27, 42, 180, 1, 92, 182, 1, 139, 79, 42, 180, 0, 134, 27, 42, 180, 1, 92]
abbrev dktX8_breaksNow_0 : List UInt8 := dkwX8_breaksNow_0 ++ dktX8_breaksNow_1
theorem dksX8_breaksNow_0 : cX8_breaksNow.data.toList.drop 0 = dktX8_breaksNow_0 := by decide +kernel
theorem dksX8_breaksNow_1 : cX8_breaksNow.data.toList.drop 24 = dktX8_breaksNow_1 := dk_seg dksX8_breaksNow_0 24 rfl rfl
theorem dX8_breaksNow_0 : decode cX8_breaksNow 0 = .ok (.aload_n 0, 1) := dk_42 (dk_at dksX8_breaksNow_0 0 rfl rfl)
theorem dX8_breaksNow_1 : decode cX8_breaksNow 1 = .ok (.getfield 137, 3) := dk_180 0 137 (dk_at dksX8_breaksNow_0 1 rfl rfl)
theorem dX8_breaksNow_4 : decode cX8_breaksNow 4 = .ok (.iload_n 1, 1) := dk_27 (dk_at dksX8_breaksNow_0 4 rfl rfl)
theorem dX8_breaksNow_5 : decode cX8_breaksNow 5 = .ok (.aload_n 0, 1) := dk_42 (dk_at dksX8_breaksNow_0 5 rfl rfl)
theorem dX8_breaksNow_6 : decode cX8_breaksNow 6 = .ok (.iload_n 1, 1) := dk_27 (dk_at dksX8_breaksNow_0 6 rfl rfl)
theorem dX8_breaksNow_7 : decode cX8_breaksNow 7 = .ok (.aload_n 0, 1) := dk_42 (dk_at dksX8_breaksNow_0 7 rfl rfl)
theorem dX8_breaksNow_8 : decode cX8_breaksNow 8 = .ok (.getfield 348, 3) := dk_180 1 92 (dk_at dksX8_breaksNow_0 8 rfl rfl)
theorem dX8_breaksNow_11 : decode cX8_breaksNow 11 = .ok (.invokevirtual 395, 3) := dk_182 1 139 (dk_at dksX8_breaksNow_0 11 rfl rfl)
theorem dX8_breaksNow_14 : decode cX8_breaksNow 14 = .ok (.iastore, 1) := dk_79 (dk_at dksX8_breaksNow_0 14 rfl rfl)
theorem dX8_breaksNow_15 : decode cX8_breaksNow 15 = .ok (.aload_n 0, 1) := dk_42 (dk_at dksX8_breaksNow_0 15 rfl rfl)
theorem dX8_breaksNow_16 : decode cX8_breaksNow 16 = .ok (.getfield 134, 3) := dk_180 0 134 (dk_at dksX8_breaksNow_0 16 rfl rfl)
theorem dX8_breaksNow_19 : decode cX8_breaksNow 19 = .ok (.iload_n 1, 1) := dk_27 (dk_at dksX8_breaksNow_0 19 rfl rfl)
theorem dX8_breaksNow_20 : decode cX8_breaksNow 20 = .ok (.aload_n 0, 1) := dk_42 (dk_at dksX8_breaksNow_0 20 rfl rfl)
theorem dX8_breaksNow_21 : decode cX8_breaksNow 21 = .ok (.getfield 348, 3) := dk_180 1 92 (dk_at dksX8_breaksNow_0 21 rfl rfl)
theorem dX8_breaksNow_24 : decode cX8_breaksNow 24 = .ok (.iastore, 1) := dk_79 (dk_at dksX8_breaksNow_1 0 rfl rfl)
theorem dX8_breaksNow_25 : decode cX8_breaksNow 25 = .ok (.return_, 1) := dk_177 (dk_at dksX8_breaksNow_1 1 rfl rfl)
abbrev cX8_keeps : ByteArray := prog_19_method_67_code
def yX8_keeps : MethodName := ⟨RX8, "keeps", "()V"⟩
def dkwX8_keeps_7 : List UInt8 := [180, 1, 89, 182, 0, 187, 177]
abbrev dktX8_keeps_7 : List UInt8 := dkwX8_keeps_7 ++ []
def dkwX8_keeps_6 : List UInt8 := [180, 0, 128, 28, 46, 79, 132, 2, 1, 167, 255, 213, 42, 89, 180, 1, 19, 4, 96, 181, 1, 19, 42, 42]
abbrev dktX8_keeps_6 : List UInt8 := dkwX8_keeps_6 ++ dktX8_keeps_7
def dkwX8_keeps_5 : List UInt8 := [16, 37, 96, 28, 96, 42, 180, 0, 125, 28, 46, 79, 42, 180, 0, 140, 27, 16, 45, 96, 28, 96, 42]
abbrev dktX8_keeps_5 : List UInt8 := dkwX8_keeps_5 ++ dktX8_keeps_6
def dkwX8_keeps_4 : List UInt8 := [104, 28, 96, 46, 79, 132, 2, 1, 167, 255, 223, 3, 61, 28, 16, 8, 162, 0, 43, 42, 180, 0, 140, 27]
abbrev dktX8_keeps_4 : List UInt8 := dkwX8_keeps_4 ++ dktX8_keeps_5
def dkwX8_keeps_3 : List UInt8 := [16, 36, 162, 0, 33, 42, 180, 0, 140, 27, 4, 96, 28, 96, 42, 180, 0, 122, 16, 36, 42, 180, 1, 89]
abbrev dktX8_keeps_3 : List UInt8 := dkwX8_keeps_3 ++ dktX8_keeps_4
def dkwX8_keeps_2 : List UInt8 := [181, 1, 19, 16, 53, 42, 180, 1, 19, 104, 60, 42, 180, 0, 140, 27, 42, 180, 1, 89, 79, 3, 61, 28]
abbrev dktX8_keeps_2 : List UInt8 := dkwX8_keeps_2 ++ dktX8_keeps_3
def dkwX8_keeps_1 : List UInt8 := [180, 0, 140, 27, 16, 53, 96, 46, 79, 132, 1, 1, 167, 255, 231, 42, 89, 180, 1, 19, 4, 100]
abbrev dktX8_keeps_1 : List UInt8 := dkwX8_keeps_1 ++ dktX8_keeps_2
def dkwX8_keeps_0 : List UInt8 := [42, 180, 1, 19, 16, 20, 160, 0, 43, 3, 60, 27, 17, 3, 239, 162, 0, 24, 42, 180, 0, 140, 27, 42]
abbrev dktX8_keeps_0 : List UInt8 := dkwX8_keeps_0 ++ dktX8_keeps_1
theorem dksX8_keeps_0 : cX8_keeps.data.toList.drop 0 = dktX8_keeps_0 := by decide +kernel
theorem dksX8_keeps_1 : cX8_keeps.data.toList.drop 24 = dktX8_keeps_1 := dk_seg dksX8_keeps_0 24 rfl rfl
theorem dksX8_keeps_2 : cX8_keeps.data.toList.drop 46 = dktX8_keeps_2 := dk_seg dksX8_keeps_1 22 rfl rfl
theorem dksX8_keeps_3 : cX8_keeps.data.toList.drop 70 = dktX8_keeps_3 := dk_seg dksX8_keeps_2 24 rfl rfl
theorem dksX8_keeps_4 : cX8_keeps.data.toList.drop 94 = dktX8_keeps_4 := dk_seg dksX8_keeps_3 24 rfl rfl
theorem dksX8_keeps_5 : cX8_keeps.data.toList.drop 118 = dktX8_keeps_5 := dk_seg dksX8_keeps_4 24 rfl rfl
theorem dksX8_keeps_6 : cX8_keeps.data.toList.drop 141 = dktX8_keeps_6 := dk_seg dksX8_keeps_5 23 rfl rfl
theorem dksX8_keeps_7 : cX8_keeps.data.toList.drop 165 = dktX8_keeps_7 := dk_seg dksX8_keeps_6 24 rfl rfl
theorem dX8_keeps_0 : decode cX8_keeps 0 = .ok (.aload_n 0, 1) := dk_42 (dk_at dksX8_keeps_0 0 rfl rfl)
theorem dX8_keeps_1 : decode cX8_keeps 1 = .ok (.getfield 275, 3) := dk_180 1 19 (dk_at dksX8_keeps_0 1 rfl rfl)
theorem dX8_keeps_4 : decode cX8_keeps 4 = .ok (.bipush 20, 2) := dk_16 20 (dk_at dksX8_keeps_0 4 rfl rfl)
theorem dX8_keeps_6 : decode cX8_keeps 6 = .ok (.if_icmp .ne 43, 3) := dk_160 0 43 (dk_at dksX8_keeps_0 6 rfl rfl)
theorem dX8_keeps_9 : decode cX8_keeps 9 = .ok (.iconst 0, 1) := dk_3 (dk_at dksX8_keeps_0 9 rfl rfl)
theorem dX8_keeps_10 : decode cX8_keeps 10 = .ok (.istore_n 1, 1) := dk_60 (dk_at dksX8_keeps_0 10 rfl rfl)
theorem dX8_keeps_11 : decode cX8_keeps 11 = .ok (.iload_n 1, 1) := dk_27 (dk_at dksX8_keeps_0 11 rfl rfl)
theorem dX8_keeps_12 : decode cX8_keeps 12 = .ok (.sipush 1007, 3) := dk_17 3 239 (dk_at dksX8_keeps_0 12 rfl rfl)
theorem dX8_keeps_15 : decode cX8_keeps 15 = .ok (.if_icmp .ge 24, 3) := dk_162 0 24 (dk_at dksX8_keeps_0 15 rfl rfl)
theorem dX8_keeps_18 : decode cX8_keeps 18 = .ok (.aload_n 0, 1) := dk_42 (dk_at dksX8_keeps_0 18 rfl rfl)
theorem dX8_keeps_19 : decode cX8_keeps 19 = .ok (.getfield 140, 3) := dk_180 0 140 (dk_at dksX8_keeps_0 19 rfl rfl)
theorem dX8_keeps_22 : decode cX8_keeps 22 = .ok (.iload_n 1, 1) := dk_27 (dk_at dksX8_keeps_0 22 rfl rfl)
theorem dX8_keeps_23 : decode cX8_keeps 23 = .ok (.aload_n 0, 1) := dk_42 (dk_at dksX8_keeps_0 23 rfl rfl)
theorem dX8_keeps_24 : decode cX8_keeps 24 = .ok (.getfield 140, 3) := dk_180 0 140 (dk_at dksX8_keeps_1 0 rfl rfl)
theorem dX8_keeps_27 : decode cX8_keeps 27 = .ok (.iload_n 1, 1) := dk_27 (dk_at dksX8_keeps_1 3 rfl rfl)
theorem dX8_keeps_28 : decode cX8_keeps 28 = .ok (.bipush 53, 2) := dk_16 53 (dk_at dksX8_keeps_1 4 rfl rfl)
theorem dX8_keeps_30 : decode cX8_keeps 30 = .ok (.iadd, 1) := dk_96 (dk_at dksX8_keeps_1 6 rfl rfl)
theorem dX8_keeps_31 : decode cX8_keeps 31 = .ok (.iaload, 1) := dk_46 (dk_at dksX8_keeps_1 7 rfl rfl)
theorem dX8_keeps_32 : decode cX8_keeps 32 = .ok (.iastore, 1) := dk_79 (dk_at dksX8_keeps_1 8 rfl rfl)
theorem dX8_keeps_33 : decode cX8_keeps 33 = .ok (.iinc 1 1, 3) := dk_132 1 1 (dk_at dksX8_keeps_1 9 rfl rfl)
theorem dX8_keeps_36 : decode cX8_keeps 36 = .ok (.goto (-25), 3) := dk_167 255 231 (dk_at dksX8_keeps_1 12 rfl rfl)
theorem dX8_keeps_39 : decode cX8_keeps 39 = .ok (.aload_n 0, 1) := dk_42 (dk_at dksX8_keeps_1 15 rfl rfl)
theorem dX8_keeps_40 : decode cX8_keeps 40 = .ok (.dup, 1) := dk_89 (dk_at dksX8_keeps_1 16 rfl rfl)
theorem dX8_keeps_41 : decode cX8_keeps 41 = .ok (.getfield 275, 3) := dk_180 1 19 (dk_at dksX8_keeps_1 17 rfl rfl)
theorem dX8_keeps_44 : decode cX8_keeps 44 = .ok (.iconst 1, 1) := dk_4 (dk_at dksX8_keeps_1 20 rfl rfl)
theorem dX8_keeps_45 : decode cX8_keeps 45 = .ok (.isub, 1) := dk_100 (dk_at dksX8_keeps_1 21 rfl rfl)
theorem dX8_keeps_46 : decode cX8_keeps 46 = .ok (.putfield 275, 3) := dk_181 1 19 (dk_at dksX8_keeps_2 0 rfl rfl)
theorem dX8_keeps_49 : decode cX8_keeps 49 = .ok (.bipush 53, 2) := dk_16 53 (dk_at dksX8_keeps_2 3 rfl rfl)
theorem dX8_keeps_51 : decode cX8_keeps 51 = .ok (.aload_n 0, 1) := dk_42 (dk_at dksX8_keeps_2 5 rfl rfl)
theorem dX8_keeps_52 : decode cX8_keeps 52 = .ok (.getfield 275, 3) := dk_180 1 19 (dk_at dksX8_keeps_2 6 rfl rfl)
theorem dX8_keeps_55 : decode cX8_keeps 55 = .ok (.imul, 1) := dk_104 (dk_at dksX8_keeps_2 9 rfl rfl)
theorem dX8_keeps_56 : decode cX8_keeps 56 = .ok (.istore_n 1, 1) := dk_60 (dk_at dksX8_keeps_2 10 rfl rfl)
theorem dX8_keeps_57 : decode cX8_keeps 57 = .ok (.aload_n 0, 1) := dk_42 (dk_at dksX8_keeps_2 11 rfl rfl)
theorem dX8_keeps_58 : decode cX8_keeps 58 = .ok (.getfield 140, 3) := dk_180 0 140 (dk_at dksX8_keeps_2 12 rfl rfl)
theorem dX8_keeps_61 : decode cX8_keeps 61 = .ok (.iload_n 1, 1) := dk_27 (dk_at dksX8_keeps_2 15 rfl rfl)
theorem dX8_keeps_62 : decode cX8_keeps 62 = .ok (.aload_n 0, 1) := dk_42 (dk_at dksX8_keeps_2 16 rfl rfl)
theorem dX8_keeps_63 : decode cX8_keeps 63 = .ok (.getfield 345, 3) := dk_180 1 89 (dk_at dksX8_keeps_2 17 rfl rfl)
theorem dX8_keeps_66 : decode cX8_keeps 66 = .ok (.iastore, 1) := dk_79 (dk_at dksX8_keeps_2 20 rfl rfl)
theorem dX8_keeps_67 : decode cX8_keeps 67 = .ok (.iconst 0, 1) := dk_3 (dk_at dksX8_keeps_2 21 rfl rfl)
theorem dX8_keeps_68 : decode cX8_keeps 68 = .ok (.istore_n 2, 1) := dk_61 (dk_at dksX8_keeps_2 22 rfl rfl)
theorem dX8_keeps_69 : decode cX8_keeps 69 = .ok (.iload_n 2, 1) := dk_28 (dk_at dksX8_keeps_2 23 rfl rfl)
theorem dX8_keeps_70 : decode cX8_keeps 70 = .ok (.bipush 36, 2) := dk_16 36 (dk_at dksX8_keeps_3 0 rfl rfl)
theorem dX8_keeps_72 : decode cX8_keeps 72 = .ok (.if_icmp .ge 33, 3) := dk_162 0 33 (dk_at dksX8_keeps_3 2 rfl rfl)
theorem dX8_keeps_75 : decode cX8_keeps 75 = .ok (.aload_n 0, 1) := dk_42 (dk_at dksX8_keeps_3 5 rfl rfl)
theorem dX8_keeps_76 : decode cX8_keeps 76 = .ok (.getfield 140, 3) := dk_180 0 140 (dk_at dksX8_keeps_3 6 rfl rfl)
theorem dX8_keeps_79 : decode cX8_keeps 79 = .ok (.iload_n 1, 1) := dk_27 (dk_at dksX8_keeps_3 9 rfl rfl)
theorem dX8_keeps_80 : decode cX8_keeps 80 = .ok (.iconst 1, 1) := dk_4 (dk_at dksX8_keeps_3 10 rfl rfl)
theorem dX8_keeps_81 : decode cX8_keeps 81 = .ok (.iadd, 1) := dk_96 (dk_at dksX8_keeps_3 11 rfl rfl)
theorem dX8_keeps_82 : decode cX8_keeps 82 = .ok (.iload_n 2, 1) := dk_28 (dk_at dksX8_keeps_3 12 rfl rfl)
theorem dX8_keeps_83 : decode cX8_keeps 83 = .ok (.iadd, 1) := dk_96 (dk_at dksX8_keeps_3 13 rfl rfl)
theorem dX8_keeps_84 : decode cX8_keeps 84 = .ok (.aload_n 0, 1) := dk_42 (dk_at dksX8_keeps_3 14 rfl rfl)
theorem dX8_keeps_85 : decode cX8_keeps 85 = .ok (.getfield 122, 3) := dk_180 0 122 (dk_at dksX8_keeps_3 15 rfl rfl)
theorem dX8_keeps_88 : decode cX8_keeps 88 = .ok (.bipush 36, 2) := dk_16 36 (dk_at dksX8_keeps_3 18 rfl rfl)
theorem dX8_keeps_90 : decode cX8_keeps 90 = .ok (.aload_n 0, 1) := dk_42 (dk_at dksX8_keeps_3 20 rfl rfl)
theorem dX8_keeps_91 : decode cX8_keeps 91 = .ok (.getfield 345, 3) := dk_180 1 89 (dk_at dksX8_keeps_3 21 rfl rfl)
theorem dX8_keeps_94 : decode cX8_keeps 94 = .ok (.imul, 1) := dk_104 (dk_at dksX8_keeps_4 0 rfl rfl)
theorem dX8_keeps_95 : decode cX8_keeps 95 = .ok (.iload_n 2, 1) := dk_28 (dk_at dksX8_keeps_4 1 rfl rfl)
theorem dX8_keeps_96 : decode cX8_keeps 96 = .ok (.iadd, 1) := dk_96 (dk_at dksX8_keeps_4 2 rfl rfl)
theorem dX8_keeps_97 : decode cX8_keeps 97 = .ok (.iaload, 1) := dk_46 (dk_at dksX8_keeps_4 3 rfl rfl)
theorem dX8_keeps_98 : decode cX8_keeps 98 = .ok (.iastore, 1) := dk_79 (dk_at dksX8_keeps_4 4 rfl rfl)
theorem dX8_keeps_99 : decode cX8_keeps 99 = .ok (.iinc 2 1, 3) := dk_132 2 1 (dk_at dksX8_keeps_4 5 rfl rfl)
theorem dX8_keeps_102 : decode cX8_keeps 102 = .ok (.goto (-33), 3) := dk_167 255 223 (dk_at dksX8_keeps_4 8 rfl rfl)
theorem dX8_keeps_105 : decode cX8_keeps 105 = .ok (.iconst 0, 1) := dk_3 (dk_at dksX8_keeps_4 11 rfl rfl)
theorem dX8_keeps_106 : decode cX8_keeps 106 = .ok (.istore_n 2, 1) := dk_61 (dk_at dksX8_keeps_4 12 rfl rfl)
theorem dX8_keeps_107 : decode cX8_keeps 107 = .ok (.iload_n 2, 1) := dk_28 (dk_at dksX8_keeps_4 13 rfl rfl)
theorem dX8_keeps_108 : decode cX8_keeps 108 = .ok (.bipush 8, 2) := dk_16 8 (dk_at dksX8_keeps_4 14 rfl rfl)
theorem dX8_keeps_110 : decode cX8_keeps 110 = .ok (.if_icmp .ge 43, 3) := dk_162 0 43 (dk_at dksX8_keeps_4 16 rfl rfl)
theorem dX8_keeps_113 : decode cX8_keeps 113 = .ok (.aload_n 0, 1) := dk_42 (dk_at dksX8_keeps_4 19 rfl rfl)
theorem dX8_keeps_114 : decode cX8_keeps 114 = .ok (.getfield 140, 3) := dk_180 0 140 (dk_at dksX8_keeps_4 20 rfl rfl)
theorem dX8_keeps_117 : decode cX8_keeps 117 = .ok (.iload_n 1, 1) := dk_27 (dk_at dksX8_keeps_4 23 rfl rfl)
theorem dX8_keeps_118 : decode cX8_keeps 118 = .ok (.bipush 37, 2) := dk_16 37 (dk_at dksX8_keeps_5 0 rfl rfl)
theorem dX8_keeps_120 : decode cX8_keeps 120 = .ok (.iadd, 1) := dk_96 (dk_at dksX8_keeps_5 2 rfl rfl)
theorem dX8_keeps_121 : decode cX8_keeps 121 = .ok (.iload_n 2, 1) := dk_28 (dk_at dksX8_keeps_5 3 rfl rfl)
theorem dX8_keeps_122 : decode cX8_keeps 122 = .ok (.iadd, 1) := dk_96 (dk_at dksX8_keeps_5 4 rfl rfl)
theorem dX8_keeps_123 : decode cX8_keeps 123 = .ok (.aload_n 0, 1) := dk_42 (dk_at dksX8_keeps_5 5 rfl rfl)
theorem dX8_keeps_124 : decode cX8_keeps 124 = .ok (.getfield 125, 3) := dk_180 0 125 (dk_at dksX8_keeps_5 6 rfl rfl)
theorem dX8_keeps_127 : decode cX8_keeps 127 = .ok (.iload_n 2, 1) := dk_28 (dk_at dksX8_keeps_5 9 rfl rfl)
theorem dX8_keeps_128 : decode cX8_keeps 128 = .ok (.iaload, 1) := dk_46 (dk_at dksX8_keeps_5 10 rfl rfl)
theorem dX8_keeps_129 : decode cX8_keeps 129 = .ok (.iastore, 1) := dk_79 (dk_at dksX8_keeps_5 11 rfl rfl)
theorem dX8_keeps_130 : decode cX8_keeps 130 = .ok (.aload_n 0, 1) := dk_42 (dk_at dksX8_keeps_5 12 rfl rfl)
theorem dX8_keeps_131 : decode cX8_keeps 131 = .ok (.getfield 140, 3) := dk_180 0 140 (dk_at dksX8_keeps_5 13 rfl rfl)
theorem dX8_keeps_134 : decode cX8_keeps 134 = .ok (.iload_n 1, 1) := dk_27 (dk_at dksX8_keeps_5 16 rfl rfl)
theorem dX8_keeps_135 : decode cX8_keeps 135 = .ok (.bipush 45, 2) := dk_16 45 (dk_at dksX8_keeps_5 17 rfl rfl)
theorem dX8_keeps_137 : decode cX8_keeps 137 = .ok (.iadd, 1) := dk_96 (dk_at dksX8_keeps_5 19 rfl rfl)
theorem dX8_keeps_138 : decode cX8_keeps 138 = .ok (.iload_n 2, 1) := dk_28 (dk_at dksX8_keeps_5 20 rfl rfl)
theorem dX8_keeps_139 : decode cX8_keeps 139 = .ok (.iadd, 1) := dk_96 (dk_at dksX8_keeps_5 21 rfl rfl)
theorem dX8_keeps_140 : decode cX8_keeps 140 = .ok (.aload_n 0, 1) := dk_42 (dk_at dksX8_keeps_5 22 rfl rfl)
theorem dX8_keeps_141 : decode cX8_keeps 141 = .ok (.getfield 128, 3) := dk_180 0 128 (dk_at dksX8_keeps_6 0 rfl rfl)
theorem dX8_keeps_144 : decode cX8_keeps 144 = .ok (.iload_n 2, 1) := dk_28 (dk_at dksX8_keeps_6 3 rfl rfl)
theorem dX8_keeps_145 : decode cX8_keeps 145 = .ok (.iaload, 1) := dk_46 (dk_at dksX8_keeps_6 4 rfl rfl)
theorem dX8_keeps_146 : decode cX8_keeps 146 = .ok (.iastore, 1) := dk_79 (dk_at dksX8_keeps_6 5 rfl rfl)
theorem dX8_keeps_147 : decode cX8_keeps 147 = .ok (.iinc 2 1, 3) := dk_132 2 1 (dk_at dksX8_keeps_6 6 rfl rfl)
theorem dX8_keeps_150 : decode cX8_keeps 150 = .ok (.goto (-43), 3) := dk_167 255 213 (dk_at dksX8_keeps_6 9 rfl rfl)
theorem dX8_keeps_153 : decode cX8_keeps 153 = .ok (.aload_n 0, 1) := dk_42 (dk_at dksX8_keeps_6 12 rfl rfl)
theorem dX8_keeps_154 : decode cX8_keeps 154 = .ok (.dup, 1) := dk_89 (dk_at dksX8_keeps_6 13 rfl rfl)
theorem dX8_keeps_155 : decode cX8_keeps 155 = .ok (.getfield 275, 3) := dk_180 1 19 (dk_at dksX8_keeps_6 14 rfl rfl)
theorem dX8_keeps_158 : decode cX8_keeps 158 = .ok (.iconst 1, 1) := dk_4 (dk_at dksX8_keeps_6 17 rfl rfl)
theorem dX8_keeps_159 : decode cX8_keeps 159 = .ok (.iadd, 1) := dk_96 (dk_at dksX8_keeps_6 18 rfl rfl)
theorem dX8_keeps_160 : decode cX8_keeps 160 = .ok (.putfield 275, 3) := dk_181 1 19 (dk_at dksX8_keeps_6 19 rfl rfl)
theorem dX8_keeps_163 : decode cX8_keeps 163 = .ok (.aload_n 0, 1) := dk_42 (dk_at dksX8_keeps_6 22 rfl rfl)
theorem dX8_keeps_164 : decode cX8_keeps 164 = .ok (.aload_n 0, 1) := dk_42 (dk_at dksX8_keeps_6 23 rfl rfl)
theorem dX8_keeps_165 : decode cX8_keeps 165 = .ok (.getfield 345, 3) := dk_180 1 89 (dk_at dksX8_keeps_7 0 rfl rfl)
theorem dX8_keeps_168 : decode cX8_keeps 168 = .ok (.invokevirtual 187, 3) := dk_182 0 187 (dk_at dksX8_keeps_7 3 rfl rfl)
theorem dX8_keeps_171 : decode cX8_keeps 171 = .ok (.return_, 1) := dk_177 (dk_at dksX8_keeps_7 6 rfl rfl)
abbrev cX8_go : ByteArray := prog_19_method_71_code
def yX8_go : MethodName := ⟨RX8, "go", "(II)Z"⟩
def dkwX8_go_1 : List UInt8 := [164, 0, 5, 3, 172, 42, 27, 42, 42, 27, 182, 1, 175, 28, 182, 1, 129, 182, 1, 178, 4, 172]
abbrev dktX8_go_1 : List UInt8 := dkwX8_go_1 ++ []
def dkwX8_go_0 : List UInt8 := [42, 27, 182, 1, 154, 153, 0, 21, 28, 4, 161, 0, 16, 28, 42, 42, 27, 182, 1, 175, 182, 1, 107]
abbrev dktX8_go_0 : List UInt8 := dkwX8_go_0 ++ dktX8_go_1
theorem dksX8_go_0 : cX8_go.data.toList.drop 0 = dktX8_go_0 := by decide +kernel
theorem dksX8_go_1 : cX8_go.data.toList.drop 23 = dktX8_go_1 := dk_seg dksX8_go_0 23 rfl rfl
theorem dX8_go_0 : decode cX8_go 0 = .ok (.aload_n 0, 1) := dk_42 (dk_at dksX8_go_0 0 rfl rfl)
theorem dX8_go_1 : decode cX8_go 1 = .ok (.iload_n 1, 1) := dk_27 (dk_at dksX8_go_0 1 rfl rfl)
theorem dX8_go_2 : decode cX8_go 2 = .ok (.invokevirtual 410, 3) := dk_182 1 154 (dk_at dksX8_go_0 2 rfl rfl)
theorem dX8_go_5 : decode cX8_go 5 = .ok (.ifCond .eq 21, 3) := dk_153 0 21 (dk_at dksX8_go_0 5 rfl rfl)
theorem dX8_go_8 : decode cX8_go 8 = .ok (.iload_n 2, 1) := dk_28 (dk_at dksX8_go_0 8 rfl rfl)
theorem dX8_go_9 : decode cX8_go 9 = .ok (.iconst 1, 1) := dk_4 (dk_at dksX8_go_0 9 rfl rfl)
theorem dX8_go_10 : decode cX8_go 10 = .ok (.if_icmp .lt 16, 3) := dk_161 0 16 (dk_at dksX8_go_0 10 rfl rfl)
theorem dX8_go_13 : decode cX8_go 13 = .ok (.iload_n 2, 1) := dk_28 (dk_at dksX8_go_0 13 rfl rfl)
theorem dX8_go_14 : decode cX8_go 14 = .ok (.aload_n 0, 1) := dk_42 (dk_at dksX8_go_0 14 rfl rfl)
theorem dX8_go_15 : decode cX8_go 15 = .ok (.aload_n 0, 1) := dk_42 (dk_at dksX8_go_0 15 rfl rfl)
theorem dX8_go_16 : decode cX8_go 16 = .ok (.iload_n 1, 1) := dk_27 (dk_at dksX8_go_0 16 rfl rfl)
theorem dX8_go_17 : decode cX8_go 17 = .ok (.invokevirtual 431, 3) := dk_182 1 175 (dk_at dksX8_go_0 17 rfl rfl)
theorem dX8_go_20 : decode cX8_go 20 = .ok (.invokevirtual 363, 3) := dk_182 1 107 (dk_at dksX8_go_0 20 rfl rfl)
theorem dX8_go_23 : decode cX8_go 23 = .ok (.if_icmp .le 5, 3) := dk_164 0 5 (dk_at dksX8_go_1 0 rfl rfl)
theorem dX8_go_26 : decode cX8_go 26 = .ok (.iconst 0, 1) := dk_3 (dk_at dksX8_go_1 3 rfl rfl)
theorem dX8_go_27 : decode cX8_go 27 = .ok (.ireturn, 1) := dk_172 (dk_at dksX8_go_1 4 rfl rfl)
theorem dX8_go_28 : decode cX8_go 28 = .ok (.aload_n 0, 1) := dk_42 (dk_at dksX8_go_1 5 rfl rfl)
theorem dX8_go_29 : decode cX8_go 29 = .ok (.iload_n 1, 1) := dk_27 (dk_at dksX8_go_1 6 rfl rfl)
theorem dX8_go_30 : decode cX8_go 30 = .ok (.aload_n 0, 1) := dk_42 (dk_at dksX8_go_1 7 rfl rfl)
theorem dX8_go_31 : decode cX8_go 31 = .ok (.aload_n 0, 1) := dk_42 (dk_at dksX8_go_1 8 rfl rfl)
theorem dX8_go_32 : decode cX8_go 32 = .ok (.iload_n 1, 1) := dk_27 (dk_at dksX8_go_1 9 rfl rfl)
theorem dX8_go_33 : decode cX8_go 33 = .ok (.invokevirtual 431, 3) := dk_182 1 175 (dk_at dksX8_go_1 10 rfl rfl)
theorem dX8_go_36 : decode cX8_go 36 = .ok (.iload_n 2, 1) := dk_28 (dk_at dksX8_go_1 13 rfl rfl)
theorem dX8_go_37 : decode cX8_go 37 = .ok (.invokevirtual 385, 3) := dk_182 1 129 (dk_at dksX8_go_1 14 rfl rfl)
theorem dX8_go_40 : decode cX8_go 40 = .ok (.invokevirtual 434, 3) := dk_182 1 178 (dk_at dksX8_go_1 17 rfl rfl)
theorem dX8_go_43 : decode cX8_go 43 = .ok (.iconst 1, 1) := dk_4 (dk_at dksX8_go_1 20 rfl rfl)
theorem dX8_go_44 : decode cX8_go 44 = .ok (.ireturn, 1) := dk_172 (dk_at dksX8_go_1 21 rfl rfl)
abbrev cX8_nowOf : ByteArray := prog_19_method_70_code
def yX8_nowOf : MethodName := ⟨RX8, "nowOf", "(I)I"⟩
def dkwX8_nowOf_0 : List UInt8 := [42, 180, 0, 122, 16, 36, 42, 180, 1, 89, 104, 27, 96, 46, 172]
abbrev dktX8_nowOf_0 : List UInt8 := dkwX8_nowOf_0 ++ []
theorem dksX8_nowOf_0 : cX8_nowOf.data.toList.drop 0 = dktX8_nowOf_0 := by decide +kernel
theorem dX8_nowOf_0 : decode cX8_nowOf 0 = .ok (.aload_n 0, 1) := dk_42 (dk_at dksX8_nowOf_0 0 rfl rfl)
theorem dX8_nowOf_1 : decode cX8_nowOf 1 = .ok (.getfield 122, 3) := dk_180 0 122 (dk_at dksX8_nowOf_0 1 rfl rfl)
theorem dX8_nowOf_4 : decode cX8_nowOf 4 = .ok (.bipush 36, 2) := dk_16 36 (dk_at dksX8_nowOf_0 4 rfl rfl)
theorem dX8_nowOf_6 : decode cX8_nowOf 6 = .ok (.aload_n 0, 1) := dk_42 (dk_at dksX8_nowOf_0 6 rfl rfl)
theorem dX8_nowOf_7 : decode cX8_nowOf 7 = .ok (.getfield 345, 3) := dk_180 1 89 (dk_at dksX8_nowOf_0 7 rfl rfl)
theorem dX8_nowOf_10 : decode cX8_nowOf 10 = .ok (.imul, 1) := dk_104 (dk_at dksX8_nowOf_0 10 rfl rfl)
theorem dX8_nowOf_11 : decode cX8_nowOf 11 = .ok (.iload_n 1, 1) := dk_27 (dk_at dksX8_nowOf_0 11 rfl rfl)
theorem dX8_nowOf_12 : decode cX8_nowOf 12 = .ok (.iadd, 1) := dk_96 (dk_at dksX8_nowOf_0 12 rfl rfl)
theorem dX8_nowOf_13 : decode cX8_nowOf 13 = .ok (.iaload, 1) := dk_46 (dk_at dksX8_nowOf_0 13 rfl rfl)
theorem dX8_nowOf_14 : decode cX8_nowOf 14 = .ok (.ireturn, 1) := dk_172 (dk_at dksX8_nowOf_0 14 rfl rfl)
abbrev cX8_becomes : ByteArray := prog_19_method_69_code
def yX8_becomes : MethodName := ⟨RX8, "becomes", "(II)V"⟩
def dkwX8_becomes_1 : List UInt8 := [182, 1, 172, 177]
abbrev dktX8_becomes_1 : List UInt8 := dkwX8_becomes_1 ++ []
def dkwX8_becomes_0 : List UInt8 := [42, 182, 1, 163, 42, 180, 0, 131, 16, 36, 42, 180, 1, 92, 104, 27, 96, 28, 79, 42, 182, 1, 98, 42]
abbrev dktX8_becomes_0 : List UInt8 := dkwX8_becomes_0 ++ dktX8_becomes_1
theorem dksX8_becomes_0 : cX8_becomes.data.toList.drop 0 = dktX8_becomes_0 := by decide +kernel
theorem dksX8_becomes_1 : cX8_becomes.data.toList.drop 24 = dktX8_becomes_1 := dk_seg dksX8_becomes_0 24 rfl rfl
theorem dX8_becomes_0 : decode cX8_becomes 0 = .ok (.aload_n 0, 1) := dk_42 (dk_at dksX8_becomes_0 0 rfl rfl)
theorem dX8_becomes_1 : decode cX8_becomes 1 = .ok (.invokevirtual 419, 3) := dk_182 1 163 (dk_at dksX8_becomes_0 1 rfl rfl)
theorem dX8_becomes_4 : decode cX8_becomes 4 = .ok (.aload_n 0, 1) := dk_42 (dk_at dksX8_becomes_0 4 rfl rfl)
theorem dX8_becomes_5 : decode cX8_becomes 5 = .ok (.getfield 131, 3) := dk_180 0 131 (dk_at dksX8_becomes_0 5 rfl rfl)
theorem dX8_becomes_8 : decode cX8_becomes 8 = .ok (.bipush 36, 2) := dk_16 36 (dk_at dksX8_becomes_0 8 rfl rfl)
theorem dX8_becomes_10 : decode cX8_becomes 10 = .ok (.aload_n 0, 1) := dk_42 (dk_at dksX8_becomes_0 10 rfl rfl)
theorem dX8_becomes_11 : decode cX8_becomes 11 = .ok (.getfield 348, 3) := dk_180 1 92 (dk_at dksX8_becomes_0 11 rfl rfl)
theorem dX8_becomes_14 : decode cX8_becomes 14 = .ok (.imul, 1) := dk_104 (dk_at dksX8_becomes_0 14 rfl rfl)
theorem dX8_becomes_15 : decode cX8_becomes 15 = .ok (.iload_n 1, 1) := dk_27 (dk_at dksX8_becomes_0 15 rfl rfl)
theorem dX8_becomes_16 : decode cX8_becomes 16 = .ok (.iadd, 1) := dk_96 (dk_at dksX8_becomes_0 16 rfl rfl)
theorem dX8_becomes_17 : decode cX8_becomes 17 = .ok (.iload_n 2, 1) := dk_28 (dk_at dksX8_becomes_0 17 rfl rfl)
theorem dX8_becomes_18 : decode cX8_becomes 18 = .ok (.iastore, 1) := dk_79 (dk_at dksX8_becomes_0 18 rfl rfl)
theorem dX8_becomes_19 : decode cX8_becomes 19 = .ok (.aload_n 0, 1) := dk_42 (dk_at dksX8_becomes_0 19 rfl rfl)
theorem dX8_becomes_20 : decode cX8_becomes 20 = .ok (.invokevirtual 354, 3) := dk_182 1 98 (dk_at dksX8_becomes_0 20 rfl rfl)
theorem dX8_becomes_23 : decode cX8_becomes 23 = .ok (.aload_n 0, 1) := dk_42 (dk_at dksX8_becomes_0 23 rfl rfl)
theorem dX8_becomes_24 : decode cX8_becomes 24 = .ok (.invokevirtual 428, 3) := dk_182 1 172 (dk_at dksX8_becomes_1 0 rfl rfl)
theorem dX8_becomes_27 : decode cX8_becomes 27 = .ok (.return_, 1) := dk_177 (dk_at dksX8_becomes_1 3 rfl rfl)
abbrev cX8_raise : ByteArray := prog_19_method_72_code
def yX8_raise : MethodName := ⟨RX8, "raise", "(II)Z"⟩
def dkwX8_raise_1 : List UInt8 := [182, 1, 175, 28, 160, 0, 5, 3, 172, 42, 16, 6, 27, 96, 28, 182, 1, 178, 4, 172]
abbrev dktX8_raise_1 : List UInt8 := dkwX8_raise_1 ++ []
def dkwX8_raise_0 : List UInt8 := [42, 27, 182, 1, 154, 153, 0, 25, 28, 3, 16, 20, 184, 1, 85, 153, 0, 15, 42, 16, 6, 27, 96]
abbrev dktX8_raise_0 : List UInt8 := dkwX8_raise_0 ++ dktX8_raise_1
theorem dksX8_raise_0 : cX8_raise.data.toList.drop 0 = dktX8_raise_0 := by decide +kernel
theorem dksX8_raise_1 : cX8_raise.data.toList.drop 23 = dktX8_raise_1 := dk_seg dksX8_raise_0 23 rfl rfl
theorem dX8_raise_0 : decode cX8_raise 0 = .ok (.aload_n 0, 1) := dk_42 (dk_at dksX8_raise_0 0 rfl rfl)
theorem dX8_raise_1 : decode cX8_raise 1 = .ok (.iload_n 1, 1) := dk_27 (dk_at dksX8_raise_0 1 rfl rfl)
theorem dX8_raise_2 : decode cX8_raise 2 = .ok (.invokevirtual 410, 3) := dk_182 1 154 (dk_at dksX8_raise_0 2 rfl rfl)
theorem dX8_raise_5 : decode cX8_raise 5 = .ok (.ifCond .eq 25, 3) := dk_153 0 25 (dk_at dksX8_raise_0 5 rfl rfl)
theorem dX8_raise_8 : decode cX8_raise 8 = .ok (.iload_n 2, 1) := dk_28 (dk_at dksX8_raise_0 8 rfl rfl)
theorem dX8_raise_9 : decode cX8_raise 9 = .ok (.iconst 0, 1) := dk_3 (dk_at dksX8_raise_0 9 rfl rfl)
theorem dX8_raise_10 : decode cX8_raise 10 = .ok (.bipush 20, 2) := dk_16 20 (dk_at dksX8_raise_0 10 rfl rfl)
theorem dX8_raise_12 : decode cX8_raise 12 = .ok (.invokestatic 341, 3) := dk_184 1 85 (dk_at dksX8_raise_0 12 rfl rfl)
theorem dX8_raise_15 : decode cX8_raise 15 = .ok (.ifCond .eq 15, 3) := dk_153 0 15 (dk_at dksX8_raise_0 15 rfl rfl)
theorem dX8_raise_18 : decode cX8_raise 18 = .ok (.aload_n 0, 1) := dk_42 (dk_at dksX8_raise_0 18 rfl rfl)
theorem dX8_raise_19 : decode cX8_raise 19 = .ok (.bipush 6, 2) := dk_16 6 (dk_at dksX8_raise_0 19 rfl rfl)
theorem dX8_raise_21 : decode cX8_raise 21 = .ok (.iload_n 1, 1) := dk_27 (dk_at dksX8_raise_0 21 rfl rfl)
theorem dX8_raise_22 : decode cX8_raise 22 = .ok (.iadd, 1) := dk_96 (dk_at dksX8_raise_0 22 rfl rfl)
theorem dX8_raise_23 : decode cX8_raise 23 = .ok (.invokevirtual 431, 3) := dk_182 1 175 (dk_at dksX8_raise_1 0 rfl rfl)
theorem dX8_raise_26 : decode cX8_raise 26 = .ok (.iload_n 2, 1) := dk_28 (dk_at dksX8_raise_1 3 rfl rfl)
theorem dX8_raise_27 : decode cX8_raise 27 = .ok (.if_icmp .ne 5, 3) := dk_160 0 5 (dk_at dksX8_raise_1 4 rfl rfl)
theorem dX8_raise_30 : decode cX8_raise 30 = .ok (.iconst 0, 1) := dk_3 (dk_at dksX8_raise_1 7 rfl rfl)
theorem dX8_raise_31 : decode cX8_raise 31 = .ok (.ireturn, 1) := dk_172 (dk_at dksX8_raise_1 8 rfl rfl)
theorem dX8_raise_32 : decode cX8_raise 32 = .ok (.aload_n 0, 1) := dk_42 (dk_at dksX8_raise_1 9 rfl rfl)
theorem dX8_raise_33 : decode cX8_raise 33 = .ok (.bipush 6, 2) := dk_16 6 (dk_at dksX8_raise_1 10 rfl rfl)
theorem dX8_raise_35 : decode cX8_raise 35 = .ok (.iload_n 1, 1) := dk_27 (dk_at dksX8_raise_1 12 rfl rfl)
theorem dX8_raise_36 : decode cX8_raise 36 = .ok (.iadd, 1) := dk_96 (dk_at dksX8_raise_1 13 rfl rfl)
theorem dX8_raise_37 : decode cX8_raise 37 = .ok (.iload_n 2, 1) := dk_28 (dk_at dksX8_raise_1 14 rfl rfl)
theorem dX8_raise_38 : decode cX8_raise 38 = .ok (.invokevirtual 434, 3) := dk_182 1 178 (dk_at dksX8_raise_1 15 rfl rfl)
theorem dX8_raise_41 : decode cX8_raise 41 = .ok (.iconst 1, 1) := dk_4 (dk_at dksX8_raise_1 18 rfl rfl)
theorem dX8_raise_42 : decode cX8_raise 42 = .ok (.ireturn, 1) := dk_172 (dk_at dksX8_raise_1 19 rfl rfl)
abbrev cX8_carry : ByteArray := prog_19_method_73_code
def yX8_carry : MethodName := ⟨RX8, "carry", "(II)Z"⟩
def dkwX8_carry_1 : List UInt8 := [28, 160, 0, 5, 3, 172, 42, 16, 12, 27, 96, 28, 182, 1, 178, 4, 172]
abbrev dktX8_carry_1 : List UInt8 := dkwX8_carry_1 ++ []
def dkwX8_carry_0 : List UInt8 := [42, 27, 182, 1, 160, 153, 0, 23, 42, 28, 182, 1, 181, 153, 0, 15, 42, 16, 12, 27, 96, 182, 1, 175]
abbrev dktX8_carry_0 : List UInt8 := dkwX8_carry_0 ++ dktX8_carry_1
theorem dksX8_carry_0 : cX8_carry.data.toList.drop 0 = dktX8_carry_0 := by decide +kernel
theorem dksX8_carry_1 : cX8_carry.data.toList.drop 24 = dktX8_carry_1 := dk_seg dksX8_carry_0 24 rfl rfl
theorem dX8_carry_0 : decode cX8_carry 0 = .ok (.aload_n 0, 1) := dk_42 (dk_at dksX8_carry_0 0 rfl rfl)
theorem dX8_carry_1 : decode cX8_carry 1 = .ok (.iload_n 1, 1) := dk_27 (dk_at dksX8_carry_0 1 rfl rfl)
theorem dX8_carry_2 : decode cX8_carry 2 = .ok (.invokevirtual 416, 3) := dk_182 1 160 (dk_at dksX8_carry_0 2 rfl rfl)
theorem dX8_carry_5 : decode cX8_carry 5 = .ok (.ifCond .eq 23, 3) := dk_153 0 23 (dk_at dksX8_carry_0 5 rfl rfl)
theorem dX8_carry_8 : decode cX8_carry 8 = .ok (.aload_n 0, 1) := dk_42 (dk_at dksX8_carry_0 8 rfl rfl)
theorem dX8_carry_9 : decode cX8_carry 9 = .ok (.iload_n 2, 1) := dk_28 (dk_at dksX8_carry_0 9 rfl rfl)
theorem dX8_carry_10 : decode cX8_carry 10 = .ok (.invokevirtual 437, 3) := dk_182 1 181 (dk_at dksX8_carry_0 10 rfl rfl)
theorem dX8_carry_13 : decode cX8_carry 13 = .ok (.ifCond .eq 15, 3) := dk_153 0 15 (dk_at dksX8_carry_0 13 rfl rfl)
theorem dX8_carry_16 : decode cX8_carry 16 = .ok (.aload_n 0, 1) := dk_42 (dk_at dksX8_carry_0 16 rfl rfl)
theorem dX8_carry_17 : decode cX8_carry 17 = .ok (.bipush 12, 2) := dk_16 12 (dk_at dksX8_carry_0 17 rfl rfl)
theorem dX8_carry_19 : decode cX8_carry 19 = .ok (.iload_n 1, 1) := dk_27 (dk_at dksX8_carry_0 19 rfl rfl)
theorem dX8_carry_20 : decode cX8_carry 20 = .ok (.iadd, 1) := dk_96 (dk_at dksX8_carry_0 20 rfl rfl)
theorem dX8_carry_21 : decode cX8_carry 21 = .ok (.invokevirtual 431, 3) := dk_182 1 175 (dk_at dksX8_carry_0 21 rfl rfl)
theorem dX8_carry_24 : decode cX8_carry 24 = .ok (.iload_n 2, 1) := dk_28 (dk_at dksX8_carry_1 0 rfl rfl)
theorem dX8_carry_25 : decode cX8_carry 25 = .ok (.if_icmp .ne 5, 3) := dk_160 0 5 (dk_at dksX8_carry_1 1 rfl rfl)
theorem dX8_carry_28 : decode cX8_carry 28 = .ok (.iconst 0, 1) := dk_3 (dk_at dksX8_carry_1 4 rfl rfl)
theorem dX8_carry_29 : decode cX8_carry 29 = .ok (.ireturn, 1) := dk_172 (dk_at dksX8_carry_1 5 rfl rfl)
theorem dX8_carry_30 : decode cX8_carry 30 = .ok (.aload_n 0, 1) := dk_42 (dk_at dksX8_carry_1 6 rfl rfl)
theorem dX8_carry_31 : decode cX8_carry 31 = .ok (.bipush 12, 2) := dk_16 12 (dk_at dksX8_carry_1 7 rfl rfl)
theorem dX8_carry_33 : decode cX8_carry 33 = .ok (.iload_n 1, 1) := dk_27 (dk_at dksX8_carry_1 9 rfl rfl)
theorem dX8_carry_34 : decode cX8_carry 34 = .ok (.iadd, 1) := dk_96 (dk_at dksX8_carry_1 10 rfl rfl)
theorem dX8_carry_35 : decode cX8_carry 35 = .ok (.iload_n 2, 1) := dk_28 (dk_at dksX8_carry_1 11 rfl rfl)
theorem dX8_carry_36 : decode cX8_carry 36 = .ok (.invokevirtual 434, 3) := dk_182 1 178 (dk_at dksX8_carry_1 12 rfl rfl)
theorem dX8_carry_39 : decode cX8_carry 39 = .ok (.iconst 1, 1) := dk_4 (dk_at dksX8_carry_1 15 rfl rfl)
theorem dX8_carry_40 : decode cX8_carry 40 = .ok (.ireturn, 1) := dk_172 (dk_at dksX8_carry_1 16 rfl rfl)
abbrev cX8_isRoom : ByteArray := prog_19_method_39_code
def yX8_isRoom : MethodName := ⟨RX8, "isRoom", "(I)Z"⟩
def dkwX8_isRoom_0 : List UInt8 := [27, 3, 42, 180, 0, 49, 42, 180, 1, 1, 46, 4, 100, 184, 1, 85, 172]
abbrev dktX8_isRoom_0 : List UInt8 := dkwX8_isRoom_0 ++ []
theorem dksX8_isRoom_0 : cX8_isRoom.data.toList.drop 0 = dktX8_isRoom_0 := by decide +kernel
theorem dX8_isRoom_0 : decode cX8_isRoom 0 = .ok (.iload_n 1, 1) := dk_27 (dk_at dksX8_isRoom_0 0 rfl rfl)
theorem dX8_isRoom_1 : decode cX8_isRoom 1 = .ok (.iconst 0, 1) := dk_3 (dk_at dksX8_isRoom_0 1 rfl rfl)
theorem dX8_isRoom_2 : decode cX8_isRoom 2 = .ok (.aload_n 0, 1) := dk_42 (dk_at dksX8_isRoom_0 2 rfl rfl)
theorem dX8_isRoom_3 : decode cX8_isRoom 3 = .ok (.getfield 49, 3) := dk_180 0 49 (dk_at dksX8_isRoom_0 3 rfl rfl)
theorem dX8_isRoom_6 : decode cX8_isRoom 6 = .ok (.aload_n 0, 1) := dk_42 (dk_at dksX8_isRoom_0 6 rfl rfl)
theorem dX8_isRoom_7 : decode cX8_isRoom 7 = .ok (.getfield 257, 3) := dk_180 1 1 (dk_at dksX8_isRoom_0 7 rfl rfl)
theorem dX8_isRoom_10 : decode cX8_isRoom 10 = .ok (.iaload, 1) := dk_46 (dk_at dksX8_isRoom_0 10 rfl rfl)
theorem dX8_isRoom_11 : decode cX8_isRoom 11 = .ok (.iconst 1, 1) := dk_4 (dk_at dksX8_isRoom_0 11 rfl rfl)
theorem dX8_isRoom_12 : decode cX8_isRoom 12 = .ok (.isub, 1) := dk_100 (dk_at dksX8_isRoom_0 12 rfl rfl)
theorem dX8_isRoom_13 : decode cX8_isRoom 13 = .ok (.invokestatic 341, 3) := dk_184 1 85 (dk_at dksX8_isRoom_0 13 rfl rfl)
theorem dX8_isRoom_16 : decode cX8_isRoom 16 = .ok (.ireturn, 1) := dk_172 (dk_at dksX8_isRoom_0 16 rfl rfl)
abbrev cX8_turn : ByteArray := prog_19_method_74_code
def yX8_turn : MethodName := ⟨RX8, "turn", "(IZ)Z"⟩
def dkwX8_turn_2 : List UInt8 := [4, 172]
abbrev dktX8_turn_2 : List UInt8 := dkwX8_turn_2 ++ []
def dkwX8_turn_1 : List UInt8 := [3, 28, 160, 0, 5, 3, 172, 42, 16, 20, 27, 96, 28, 153, 0, 7, 4, 167, 0, 4, 3, 182, 1, 178]
abbrev dktX8_turn_1 : List UInt8 := dkwX8_turn_1 ++ dktX8_turn_2
def dkwX8_turn_0 : List UInt8 := [42, 27, 182, 1, 160, 153, 0, 24, 42, 16, 20, 27, 96, 182, 1, 175, 4, 160, 0, 7, 4, 167, 0, 4]
abbrev dktX8_turn_0 : List UInt8 := dkwX8_turn_0 ++ dktX8_turn_1
theorem dksX8_turn_0 : cX8_turn.data.toList.drop 0 = dktX8_turn_0 := by decide +kernel
theorem dksX8_turn_1 : cX8_turn.data.toList.drop 24 = dktX8_turn_1 := dk_seg dksX8_turn_0 24 rfl rfl
theorem dksX8_turn_2 : cX8_turn.data.toList.drop 48 = dktX8_turn_2 := dk_seg dksX8_turn_1 24 rfl rfl
theorem dX8_turn_0 : decode cX8_turn 0 = .ok (.aload_n 0, 1) := dk_42 (dk_at dksX8_turn_0 0 rfl rfl)
theorem dX8_turn_1 : decode cX8_turn 1 = .ok (.iload_n 1, 1) := dk_27 (dk_at dksX8_turn_0 1 rfl rfl)
theorem dX8_turn_2 : decode cX8_turn 2 = .ok (.invokevirtual 416, 3) := dk_182 1 160 (dk_at dksX8_turn_0 2 rfl rfl)
theorem dX8_turn_5 : decode cX8_turn 5 = .ok (.ifCond .eq 24, 3) := dk_153 0 24 (dk_at dksX8_turn_0 5 rfl rfl)
theorem dX8_turn_8 : decode cX8_turn 8 = .ok (.aload_n 0, 1) := dk_42 (dk_at dksX8_turn_0 8 rfl rfl)
theorem dX8_turn_9 : decode cX8_turn 9 = .ok (.bipush 20, 2) := dk_16 20 (dk_at dksX8_turn_0 9 rfl rfl)
theorem dX8_turn_11 : decode cX8_turn 11 = .ok (.iload_n 1, 1) := dk_27 (dk_at dksX8_turn_0 11 rfl rfl)
theorem dX8_turn_12 : decode cX8_turn 12 = .ok (.iadd, 1) := dk_96 (dk_at dksX8_turn_0 12 rfl rfl)
theorem dX8_turn_13 : decode cX8_turn 13 = .ok (.invokevirtual 431, 3) := dk_182 1 175 (dk_at dksX8_turn_0 13 rfl rfl)
theorem dX8_turn_16 : decode cX8_turn 16 = .ok (.iconst 1, 1) := dk_4 (dk_at dksX8_turn_0 16 rfl rfl)
theorem dX8_turn_17 : decode cX8_turn 17 = .ok (.if_icmp .ne 7, 3) := dk_160 0 7 (dk_at dksX8_turn_0 17 rfl rfl)
theorem dX8_turn_20 : decode cX8_turn 20 = .ok (.iconst 1, 1) := dk_4 (dk_at dksX8_turn_0 20 rfl rfl)
theorem dX8_turn_21 : decode cX8_turn 21 = .ok (.goto 4, 3) := dk_167 0 4 (dk_at dksX8_turn_0 21 rfl rfl)
theorem dX8_turn_24 : decode cX8_turn 24 = .ok (.iconst 0, 1) := dk_3 (dk_at dksX8_turn_1 0 rfl rfl)
theorem dX8_turn_25 : decode cX8_turn 25 = .ok (.iload_n 2, 1) := dk_28 (dk_at dksX8_turn_1 1 rfl rfl)
theorem dX8_turn_26 : decode cX8_turn 26 = .ok (.if_icmp .ne 5, 3) := dk_160 0 5 (dk_at dksX8_turn_1 2 rfl rfl)
theorem dX8_turn_29 : decode cX8_turn 29 = .ok (.iconst 0, 1) := dk_3 (dk_at dksX8_turn_1 5 rfl rfl)
theorem dX8_turn_30 : decode cX8_turn 30 = .ok (.ireturn, 1) := dk_172 (dk_at dksX8_turn_1 6 rfl rfl)
theorem dX8_turn_31 : decode cX8_turn 31 = .ok (.aload_n 0, 1) := dk_42 (dk_at dksX8_turn_1 7 rfl rfl)
theorem dX8_turn_32 : decode cX8_turn 32 = .ok (.bipush 20, 2) := dk_16 20 (dk_at dksX8_turn_1 8 rfl rfl)
theorem dX8_turn_34 : decode cX8_turn 34 = .ok (.iload_n 1, 1) := dk_27 (dk_at dksX8_turn_1 10 rfl rfl)
theorem dX8_turn_35 : decode cX8_turn 35 = .ok (.iadd, 1) := dk_96 (dk_at dksX8_turn_1 11 rfl rfl)
theorem dX8_turn_36 : decode cX8_turn 36 = .ok (.iload_n 2, 1) := dk_28 (dk_at dksX8_turn_1 12 rfl rfl)
theorem dX8_turn_37 : decode cX8_turn 37 = .ok (.ifCond .eq 7, 3) := dk_153 0 7 (dk_at dksX8_turn_1 13 rfl rfl)
theorem dX8_turn_40 : decode cX8_turn 40 = .ok (.iconst 1, 1) := dk_4 (dk_at dksX8_turn_1 16 rfl rfl)
theorem dX8_turn_41 : decode cX8_turn 41 = .ok (.goto 4, 3) := dk_167 0 4 (dk_at dksX8_turn_1 17 rfl rfl)
theorem dX8_turn_44 : decode cX8_turn 44 = .ok (.iconst 0, 1) := dk_3 (dk_at dksX8_turn_1 20 rfl rfl)
theorem dX8_turn_45 : decode cX8_turn 45 = .ok (.invokevirtual 434, 3) := dk_182 1 178 (dk_at dksX8_turn_1 21 rfl rfl)
theorem dX8_turn_48 : decode cX8_turn 48 = .ok (.iconst 1, 1) := dk_4 (dk_at dksX8_turn_2 0 rfl rfl)
theorem dX8_turn_49 : decode cX8_turn 49 = .ok (.ireturn, 1) := dk_172 (dk_at dksX8_turn_2 1 rfl rfl)
abbrev cX8_smash : ByteArray := prog_19_method_75_code
def yX8_smash : MethodName := ⟨RX8, "smash", "(I)Z"⟩
def dkwX8_smash_1 : List UInt8 := [42, 27, 182, 1, 148, 42, 182, 1, 172, 4, 172]
abbrev dktX8_smash_1 : List UInt8 := dkwX8_smash_1 ++ []
def dkwX8_smash_0 : List UInt8 := [42, 27, 182, 1, 160, 153, 0, 13, 42, 180, 0, 125, 27, 46, 2, 159, 0, 5, 3, 172, 42, 182, 1, 163]
abbrev dktX8_smash_0 : List UInt8 := dkwX8_smash_0 ++ dktX8_smash_1
theorem dksX8_smash_0 : cX8_smash.data.toList.drop 0 = dktX8_smash_0 := by decide +kernel
theorem dksX8_smash_1 : cX8_smash.data.toList.drop 24 = dktX8_smash_1 := dk_seg dksX8_smash_0 24 rfl rfl
theorem dX8_smash_0 : decode cX8_smash 0 = .ok (.aload_n 0, 1) := dk_42 (dk_at dksX8_smash_0 0 rfl rfl)
theorem dX8_smash_1 : decode cX8_smash 1 = .ok (.iload_n 1, 1) := dk_27 (dk_at dksX8_smash_0 1 rfl rfl)
theorem dX8_smash_2 : decode cX8_smash 2 = .ok (.invokevirtual 416, 3) := dk_182 1 160 (dk_at dksX8_smash_0 2 rfl rfl)
theorem dX8_smash_5 : decode cX8_smash 5 = .ok (.ifCond .eq 13, 3) := dk_153 0 13 (dk_at dksX8_smash_0 5 rfl rfl)
theorem dX8_smash_8 : decode cX8_smash 8 = .ok (.aload_n 0, 1) := dk_42 (dk_at dksX8_smash_0 8 rfl rfl)
theorem dX8_smash_9 : decode cX8_smash 9 = .ok (.getfield 125, 3) := dk_180 0 125 (dk_at dksX8_smash_0 9 rfl rfl)
theorem dX8_smash_12 : decode cX8_smash 12 = .ok (.iload_n 1, 1) := dk_27 (dk_at dksX8_smash_0 12 rfl rfl)
theorem dX8_smash_13 : decode cX8_smash 13 = .ok (.iaload, 1) := dk_46 (dk_at dksX8_smash_0 13 rfl rfl)
theorem dX8_smash_14 : decode cX8_smash 14 = .ok (.iconst (-1), 1) := dk_2 (dk_at dksX8_smash_0 14 rfl rfl)
theorem dX8_smash_15 : decode cX8_smash 15 = .ok (.if_icmp .eq 5, 3) := dk_159 0 5 (dk_at dksX8_smash_0 15 rfl rfl)
theorem dX8_smash_18 : decode cX8_smash 18 = .ok (.iconst 0, 1) := dk_3 (dk_at dksX8_smash_0 18 rfl rfl)
theorem dX8_smash_19 : decode cX8_smash 19 = .ok (.ireturn, 1) := dk_172 (dk_at dksX8_smash_0 19 rfl rfl)
theorem dX8_smash_20 : decode cX8_smash 20 = .ok (.aload_n 0, 1) := dk_42 (dk_at dksX8_smash_0 20 rfl rfl)
theorem dX8_smash_21 : decode cX8_smash 21 = .ok (.invokevirtual 419, 3) := dk_182 1 163 (dk_at dksX8_smash_0 21 rfl rfl)
theorem dX8_smash_24 : decode cX8_smash 24 = .ok (.aload_n 0, 1) := dk_42 (dk_at dksX8_smash_1 0 rfl rfl)
theorem dX8_smash_25 : decode cX8_smash 25 = .ok (.iload_n 1, 1) := dk_27 (dk_at dksX8_smash_1 1 rfl rfl)
theorem dX8_smash_26 : decode cX8_smash 26 = .ok (.invokevirtual 404, 3) := dk_182 1 148 (dk_at dksX8_smash_1 2 rfl rfl)
theorem dX8_smash_29 : decode cX8_smash 29 = .ok (.aload_n 0, 1) := dk_42 (dk_at dksX8_smash_1 5 rfl rfl)
theorem dX8_smash_30 : decode cX8_smash 30 = .ok (.invokevirtual 428, 3) := dk_182 1 172 (dk_at dksX8_smash_1 6 rfl rfl)
theorem dX8_smash_33 : decode cX8_smash 33 = .ok (.iconst 1, 1) := dk_4 (dk_at dksX8_smash_1 9 rfl rfl)
theorem dX8_smash_34 : decode cX8_smash 34 = .ok (.ireturn, 1) := dk_172 (dk_at dksX8_smash_1 10 rfl rfl)
abbrev cX8_undo : ByteArray := prog_19_method_76_code
def yX8_undo : MethodName := ⟨RX8, "undo", "()Z"⟩
def dkwX8_undo_5 : List UInt8 := [132, 2, 1, 167, 255, 213, 4, 172]
abbrev dktX8_undo_5 : List UInt8 := dkwX8_undo_5 ++ []
def dkwX8_undo_4 : List UInt8 := [16, 37, 96, 28, 96, 46, 79, 42, 180, 0, 128, 28, 42, 180, 0, 140, 27, 16, 45, 96, 28, 96, 46, 79]
abbrev dktX8_undo_4 : List UInt8 := dkwX8_undo_4 ++ dktX8_undo_5
def dkwX8_undo_3 : List UInt8 := [132, 2, 1, 167, 255, 223, 3, 61, 28, 16, 8, 162, 0, 43, 42, 180, 0, 125, 28, 42, 180, 0, 140, 27]
abbrev dktX8_undo_3 : List UInt8 := dkwX8_undo_3 ++ dktX8_undo_4
def dkwX8_undo_2 : List UInt8 := [180, 0, 122, 16, 36, 42, 180, 1, 89, 104, 28, 96, 42, 180, 0, 140, 27, 4, 96, 28, 96, 46, 79]
abbrev dktX8_undo_2 : List UInt8 := dkwX8_undo_2 ++ dktX8_undo_3
def dkwX8_undo_1 : List UInt8 := [180, 1, 19, 104, 60, 42, 42, 180, 0, 140, 27, 46, 181, 1, 89, 3, 61, 28, 16, 36, 162, 0, 33, 42]
abbrev dktX8_undo_1 : List UInt8 := dkwX8_undo_1 ++ dktX8_undo_2
def dkwX8_undo_0 : List UInt8 := [42, 180, 1, 19, 154, 0, 5, 3, 172, 42, 89, 180, 1, 19, 4, 100, 181, 1, 19, 16, 53, 42]
abbrev dktX8_undo_0 : List UInt8 := dkwX8_undo_0 ++ dktX8_undo_1
theorem dksX8_undo_0 : cX8_undo.data.toList.drop 0 = dktX8_undo_0 := by decide +kernel
theorem dksX8_undo_1 : cX8_undo.data.toList.drop 22 = dktX8_undo_1 := dk_seg dksX8_undo_0 22 rfl rfl
theorem dksX8_undo_2 : cX8_undo.data.toList.drop 46 = dktX8_undo_2 := dk_seg dksX8_undo_1 24 rfl rfl
theorem dksX8_undo_3 : cX8_undo.data.toList.drop 69 = dktX8_undo_3 := dk_seg dksX8_undo_2 23 rfl rfl
theorem dksX8_undo_4 : cX8_undo.data.toList.drop 93 = dktX8_undo_4 := dk_seg dksX8_undo_3 24 rfl rfl
theorem dksX8_undo_5 : cX8_undo.data.toList.drop 117 = dktX8_undo_5 := dk_seg dksX8_undo_4 24 rfl rfl
theorem dX8_undo_0 : decode cX8_undo 0 = .ok (.aload_n 0, 1) := dk_42 (dk_at dksX8_undo_0 0 rfl rfl)
theorem dX8_undo_1 : decode cX8_undo 1 = .ok (.getfield 275, 3) := dk_180 1 19 (dk_at dksX8_undo_0 1 rfl rfl)
theorem dX8_undo_4 : decode cX8_undo 4 = .ok (.ifCond .ne 5, 3) := dk_154 0 5 (dk_at dksX8_undo_0 4 rfl rfl)
theorem dX8_undo_7 : decode cX8_undo 7 = .ok (.iconst 0, 1) := dk_3 (dk_at dksX8_undo_0 7 rfl rfl)
theorem dX8_undo_8 : decode cX8_undo 8 = .ok (.ireturn, 1) := dk_172 (dk_at dksX8_undo_0 8 rfl rfl)
theorem dX8_undo_9 : decode cX8_undo 9 = .ok (.aload_n 0, 1) := dk_42 (dk_at dksX8_undo_0 9 rfl rfl)
theorem dX8_undo_10 : decode cX8_undo 10 = .ok (.dup, 1) := dk_89 (dk_at dksX8_undo_0 10 rfl rfl)
theorem dX8_undo_11 : decode cX8_undo 11 = .ok (.getfield 275, 3) := dk_180 1 19 (dk_at dksX8_undo_0 11 rfl rfl)
theorem dX8_undo_14 : decode cX8_undo 14 = .ok (.iconst 1, 1) := dk_4 (dk_at dksX8_undo_0 14 rfl rfl)
theorem dX8_undo_15 : decode cX8_undo 15 = .ok (.isub, 1) := dk_100 (dk_at dksX8_undo_0 15 rfl rfl)
theorem dX8_undo_16 : decode cX8_undo 16 = .ok (.putfield 275, 3) := dk_181 1 19 (dk_at dksX8_undo_0 16 rfl rfl)
theorem dX8_undo_19 : decode cX8_undo 19 = .ok (.bipush 53, 2) := dk_16 53 (dk_at dksX8_undo_0 19 rfl rfl)
theorem dX8_undo_21 : decode cX8_undo 21 = .ok (.aload_n 0, 1) := dk_42 (dk_at dksX8_undo_0 21 rfl rfl)
theorem dX8_undo_22 : decode cX8_undo 22 = .ok (.getfield 275, 3) := dk_180 1 19 (dk_at dksX8_undo_1 0 rfl rfl)
theorem dX8_undo_25 : decode cX8_undo 25 = .ok (.imul, 1) := dk_104 (dk_at dksX8_undo_1 3 rfl rfl)
theorem dX8_undo_26 : decode cX8_undo 26 = .ok (.istore_n 1, 1) := dk_60 (dk_at dksX8_undo_1 4 rfl rfl)
theorem dX8_undo_27 : decode cX8_undo 27 = .ok (.aload_n 0, 1) := dk_42 (dk_at dksX8_undo_1 5 rfl rfl)
theorem dX8_undo_28 : decode cX8_undo 28 = .ok (.aload_n 0, 1) := dk_42 (dk_at dksX8_undo_1 6 rfl rfl)
theorem dX8_undo_29 : decode cX8_undo 29 = .ok (.getfield 140, 3) := dk_180 0 140 (dk_at dksX8_undo_1 7 rfl rfl)
theorem dX8_undo_32 : decode cX8_undo 32 = .ok (.iload_n 1, 1) := dk_27 (dk_at dksX8_undo_1 10 rfl rfl)
theorem dX8_undo_33 : decode cX8_undo 33 = .ok (.iaload, 1) := dk_46 (dk_at dksX8_undo_1 11 rfl rfl)
theorem dX8_undo_34 : decode cX8_undo 34 = .ok (.putfield 345, 3) := dk_181 1 89 (dk_at dksX8_undo_1 12 rfl rfl)
theorem dX8_undo_37 : decode cX8_undo 37 = .ok (.iconst 0, 1) := dk_3 (dk_at dksX8_undo_1 15 rfl rfl)
theorem dX8_undo_38 : decode cX8_undo 38 = .ok (.istore_n 2, 1) := dk_61 (dk_at dksX8_undo_1 16 rfl rfl)
theorem dX8_undo_39 : decode cX8_undo 39 = .ok (.iload_n 2, 1) := dk_28 (dk_at dksX8_undo_1 17 rfl rfl)
theorem dX8_undo_40 : decode cX8_undo 40 = .ok (.bipush 36, 2) := dk_16 36 (dk_at dksX8_undo_1 18 rfl rfl)
theorem dX8_undo_42 : decode cX8_undo 42 = .ok (.if_icmp .ge 33, 3) := dk_162 0 33 (dk_at dksX8_undo_1 20 rfl rfl)
theorem dX8_undo_45 : decode cX8_undo 45 = .ok (.aload_n 0, 1) := dk_42 (dk_at dksX8_undo_1 23 rfl rfl)
theorem dX8_undo_46 : decode cX8_undo 46 = .ok (.getfield 122, 3) := dk_180 0 122 (dk_at dksX8_undo_2 0 rfl rfl)
theorem dX8_undo_49 : decode cX8_undo 49 = .ok (.bipush 36, 2) := dk_16 36 (dk_at dksX8_undo_2 3 rfl rfl)
theorem dX8_undo_51 : decode cX8_undo 51 = .ok (.aload_n 0, 1) := dk_42 (dk_at dksX8_undo_2 5 rfl rfl)
theorem dX8_undo_52 : decode cX8_undo 52 = .ok (.getfield 345, 3) := dk_180 1 89 (dk_at dksX8_undo_2 6 rfl rfl)
theorem dX8_undo_55 : decode cX8_undo 55 = .ok (.imul, 1) := dk_104 (dk_at dksX8_undo_2 9 rfl rfl)
theorem dX8_undo_56 : decode cX8_undo 56 = .ok (.iload_n 2, 1) := dk_28 (dk_at dksX8_undo_2 10 rfl rfl)
theorem dX8_undo_57 : decode cX8_undo 57 = .ok (.iadd, 1) := dk_96 (dk_at dksX8_undo_2 11 rfl rfl)
theorem dX8_undo_58 : decode cX8_undo 58 = .ok (.aload_n 0, 1) := dk_42 (dk_at dksX8_undo_2 12 rfl rfl)
theorem dX8_undo_59 : decode cX8_undo 59 = .ok (.getfield 140, 3) := dk_180 0 140 (dk_at dksX8_undo_2 13 rfl rfl)
theorem dX8_undo_62 : decode cX8_undo 62 = .ok (.iload_n 1, 1) := dk_27 (dk_at dksX8_undo_2 16 rfl rfl)
theorem dX8_undo_63 : decode cX8_undo 63 = .ok (.iconst 1, 1) := dk_4 (dk_at dksX8_undo_2 17 rfl rfl)
theorem dX8_undo_64 : decode cX8_undo 64 = .ok (.iadd, 1) := dk_96 (dk_at dksX8_undo_2 18 rfl rfl)
theorem dX8_undo_65 : decode cX8_undo 65 = .ok (.iload_n 2, 1) := dk_28 (dk_at dksX8_undo_2 19 rfl rfl)
theorem dX8_undo_66 : decode cX8_undo 66 = .ok (.iadd, 1) := dk_96 (dk_at dksX8_undo_2 20 rfl rfl)
theorem dX8_undo_67 : decode cX8_undo 67 = .ok (.iaload, 1) := dk_46 (dk_at dksX8_undo_2 21 rfl rfl)
theorem dX8_undo_68 : decode cX8_undo 68 = .ok (.iastore, 1) := dk_79 (dk_at dksX8_undo_2 22 rfl rfl)
theorem dX8_undo_69 : decode cX8_undo 69 = .ok (.iinc 2 1, 3) := dk_132 2 1 (dk_at dksX8_undo_3 0 rfl rfl)
theorem dX8_undo_72 : decode cX8_undo 72 = .ok (.goto (-33), 3) := dk_167 255 223 (dk_at dksX8_undo_3 3 rfl rfl)
theorem dX8_undo_75 : decode cX8_undo 75 = .ok (.iconst 0, 1) := dk_3 (dk_at dksX8_undo_3 6 rfl rfl)
theorem dX8_undo_76 : decode cX8_undo 76 = .ok (.istore_n 2, 1) := dk_61 (dk_at dksX8_undo_3 7 rfl rfl)
theorem dX8_undo_77 : decode cX8_undo 77 = .ok (.iload_n 2, 1) := dk_28 (dk_at dksX8_undo_3 8 rfl rfl)
theorem dX8_undo_78 : decode cX8_undo 78 = .ok (.bipush 8, 2) := dk_16 8 (dk_at dksX8_undo_3 9 rfl rfl)
theorem dX8_undo_80 : decode cX8_undo 80 = .ok (.if_icmp .ge 43, 3) := dk_162 0 43 (dk_at dksX8_undo_3 11 rfl rfl)
theorem dX8_undo_83 : decode cX8_undo 83 = .ok (.aload_n 0, 1) := dk_42 (dk_at dksX8_undo_3 14 rfl rfl)
theorem dX8_undo_84 : decode cX8_undo 84 = .ok (.getfield 125, 3) := dk_180 0 125 (dk_at dksX8_undo_3 15 rfl rfl)
theorem dX8_undo_87 : decode cX8_undo 87 = .ok (.iload_n 2, 1) := dk_28 (dk_at dksX8_undo_3 18 rfl rfl)
theorem dX8_undo_88 : decode cX8_undo 88 = .ok (.aload_n 0, 1) := dk_42 (dk_at dksX8_undo_3 19 rfl rfl)
theorem dX8_undo_89 : decode cX8_undo 89 = .ok (.getfield 140, 3) := dk_180 0 140 (dk_at dksX8_undo_3 20 rfl rfl)
theorem dX8_undo_92 : decode cX8_undo 92 = .ok (.iload_n 1, 1) := dk_27 (dk_at dksX8_undo_3 23 rfl rfl)
theorem dX8_undo_93 : decode cX8_undo 93 = .ok (.bipush 37, 2) := dk_16 37 (dk_at dksX8_undo_4 0 rfl rfl)
theorem dX8_undo_95 : decode cX8_undo 95 = .ok (.iadd, 1) := dk_96 (dk_at dksX8_undo_4 2 rfl rfl)
theorem dX8_undo_96 : decode cX8_undo 96 = .ok (.iload_n 2, 1) := dk_28 (dk_at dksX8_undo_4 3 rfl rfl)
theorem dX8_undo_97 : decode cX8_undo 97 = .ok (.iadd, 1) := dk_96 (dk_at dksX8_undo_4 4 rfl rfl)
theorem dX8_undo_98 : decode cX8_undo 98 = .ok (.iaload, 1) := dk_46 (dk_at dksX8_undo_4 5 rfl rfl)
theorem dX8_undo_99 : decode cX8_undo 99 = .ok (.iastore, 1) := dk_79 (dk_at dksX8_undo_4 6 rfl rfl)
theorem dX8_undo_100 : decode cX8_undo 100 = .ok (.aload_n 0, 1) := dk_42 (dk_at dksX8_undo_4 7 rfl rfl)
theorem dX8_undo_101 : decode cX8_undo 101 = .ok (.getfield 128, 3) := dk_180 0 128 (dk_at dksX8_undo_4 8 rfl rfl)
theorem dX8_undo_104 : decode cX8_undo 104 = .ok (.iload_n 2, 1) := dk_28 (dk_at dksX8_undo_4 11 rfl rfl)
theorem dX8_undo_105 : decode cX8_undo 105 = .ok (.aload_n 0, 1) := dk_42 (dk_at dksX8_undo_4 12 rfl rfl)
theorem dX8_undo_106 : decode cX8_undo 106 = .ok (.getfield 140, 3) := dk_180 0 140 (dk_at dksX8_undo_4 13 rfl rfl)
theorem dX8_undo_109 : decode cX8_undo 109 = .ok (.iload_n 1, 1) := dk_27 (dk_at dksX8_undo_4 16 rfl rfl)
theorem dX8_undo_110 : decode cX8_undo 110 = .ok (.bipush 45, 2) := dk_16 45 (dk_at dksX8_undo_4 17 rfl rfl)
theorem dX8_undo_112 : decode cX8_undo 112 = .ok (.iadd, 1) := dk_96 (dk_at dksX8_undo_4 19 rfl rfl)
theorem dX8_undo_113 : decode cX8_undo 113 = .ok (.iload_n 2, 1) := dk_28 (dk_at dksX8_undo_4 20 rfl rfl)
theorem dX8_undo_114 : decode cX8_undo 114 = .ok (.iadd, 1) := dk_96 (dk_at dksX8_undo_4 21 rfl rfl)
theorem dX8_undo_115 : decode cX8_undo 115 = .ok (.iaload, 1) := dk_46 (dk_at dksX8_undo_4 22 rfl rfl)
theorem dX8_undo_116 : decode cX8_undo 116 = .ok (.iastore, 1) := dk_79 (dk_at dksX8_undo_4 23 rfl rfl)
theorem dX8_undo_117 : decode cX8_undo 117 = .ok (.iinc 2 1, 3) := dk_132 2 1 (dk_at dksX8_undo_5 0 rfl rfl)
theorem dX8_undo_120 : decode cX8_undo 120 = .ok (.goto (-43), 3) := dk_167 255 213 (dk_at dksX8_undo_5 3 rfl rfl)
theorem dX8_undo_123 : decode cX8_undo 123 = .ok (.iconst 1, 1) := dk_4 (dk_at dksX8_undo_5 6 rfl rfl)
theorem dX8_undo_124 : decode cX8_undo 124 = .ok (.ireturn, 1) := dk_172 (dk_at dksX8_undo_5 7 rfl rfl)
abbrev cX8_look : ByteArray := prog_19_method_78_code
def yX8_look : MethodName := ⟨RX8, "look", "(IIII)I"⟩
def dkwX8_look_5 : List UInt8 := [21, 5, 21, 6, 182, 1, 136, 167, 0, 11, 42, 21, 5, 21, 6, 182, 1, 166, 172]
abbrev dktX8_look_5 : List UInt8 := dkwX8_look_5 ++ []
def dkwX8_look_4 : List UInt8 := [156, 0, 6, 16, 254, 172, 21, 4, 154, 0, 8, 21, 6, 167, 0, 28, 21, 4, 4, 160, 0, 14, 42]
abbrev dktX8_look_4 : List UInt8 := dkwX8_look_4 ++ dktX8_look_5
def dkwX8_look_3 : List UInt8 := [182, 1, 184, 54, 6, 29, 2, 159, 0, 13, 42, 28, 21, 6, 29, 182, 1, 184, 54, 6, 21, 6]
abbrev dktX8_look_3 : List UInt8 := dkwX8_look_3 ++ dktX8_look_4
def dkwX8_look_2 : List UInt8 := [160, 0, 7, 28, 167, 0, 4, 29, 54, 5, 42, 27, 42, 27, 42, 180, 1, 92, 182, 1, 139, 28]
abbrev dktX8_look_2 : List UInt8 := dkwX8_look_2 ++ dktX8_look_3
def dkwX8_look_1 : List UInt8 := [182, 1, 160, 153, 0, 13, 21, 4, 3, 5, 184, 1, 85, 154, 0, 5, 2, 172, 42, 182, 1, 163, 29, 2]
abbrev dktX8_look_1 : List UInt8 := dkwX8_look_1 ++ dktX8_look_2
def dkwX8_look_0 : List UInt8 := [42, 27, 182, 1, 160, 153, 0, 34, 42, 28, 182, 1, 160, 153, 0, 26, 29, 2, 159, 0, 11, 42, 29]
abbrev dktX8_look_0 : List UInt8 := dkwX8_look_0 ++ dktX8_look_1
theorem dksX8_look_0 : cX8_look.data.toList.drop 0 = dktX8_look_0 := by decide +kernel
theorem dksX8_look_1 : cX8_look.data.toList.drop 23 = dktX8_look_1 := dk_seg dksX8_look_0 23 rfl rfl
theorem dksX8_look_2 : cX8_look.data.toList.drop 47 = dktX8_look_2 := dk_seg dksX8_look_1 24 rfl rfl
theorem dksX8_look_3 : cX8_look.data.toList.drop 69 = dktX8_look_3 := dk_seg dksX8_look_2 22 rfl rfl
theorem dksX8_look_4 : cX8_look.data.toList.drop 91 = dktX8_look_4 := dk_seg dksX8_look_3 22 rfl rfl
theorem dksX8_look_5 : cX8_look.data.toList.drop 114 = dktX8_look_5 := dk_seg dksX8_look_4 23 rfl rfl
theorem dX8_look_0 : decode cX8_look 0 = .ok (.aload_n 0, 1) := dk_42 (dk_at dksX8_look_0 0 rfl rfl)
theorem dX8_look_1 : decode cX8_look 1 = .ok (.iload_n 1, 1) := dk_27 (dk_at dksX8_look_0 1 rfl rfl)
theorem dX8_look_2 : decode cX8_look 2 = .ok (.invokevirtual 416, 3) := dk_182 1 160 (dk_at dksX8_look_0 2 rfl rfl)
theorem dX8_look_5 : decode cX8_look 5 = .ok (.ifCond .eq 34, 3) := dk_153 0 34 (dk_at dksX8_look_0 5 rfl rfl)
theorem dX8_look_8 : decode cX8_look 8 = .ok (.aload_n 0, 1) := dk_42 (dk_at dksX8_look_0 8 rfl rfl)
theorem dX8_look_9 : decode cX8_look 9 = .ok (.iload_n 2, 1) := dk_28 (dk_at dksX8_look_0 9 rfl rfl)
theorem dX8_look_10 : decode cX8_look 10 = .ok (.invokevirtual 416, 3) := dk_182 1 160 (dk_at dksX8_look_0 10 rfl rfl)
theorem dX8_look_13 : decode cX8_look 13 = .ok (.ifCond .eq 26, 3) := dk_153 0 26 (dk_at dksX8_look_0 13 rfl rfl)
theorem dX8_look_16 : decode cX8_look 16 = .ok (.iload_n 3, 1) := dk_29 (dk_at dksX8_look_0 16 rfl rfl)
theorem dX8_look_17 : decode cX8_look 17 = .ok (.iconst (-1), 1) := dk_2 (dk_at dksX8_look_0 17 rfl rfl)
theorem dX8_look_18 : decode cX8_look 18 = .ok (.if_icmp .eq 11, 3) := dk_159 0 11 (dk_at dksX8_look_0 18 rfl rfl)
theorem dX8_look_21 : decode cX8_look 21 = .ok (.aload_n 0, 1) := dk_42 (dk_at dksX8_look_0 21 rfl rfl)
theorem dX8_look_22 : decode cX8_look 22 = .ok (.iload_n 3, 1) := dk_29 (dk_at dksX8_look_0 22 rfl rfl)
theorem dX8_look_23 : decode cX8_look 23 = .ok (.invokevirtual 416, 3) := dk_182 1 160 (dk_at dksX8_look_1 0 rfl rfl)
theorem dX8_look_26 : decode cX8_look 26 = .ok (.ifCond .eq 13, 3) := dk_153 0 13 (dk_at dksX8_look_1 3 rfl rfl)
theorem dX8_look_29 : decode cX8_look 29 = .ok (.iload 4, 2) := dk_21 4 (dk_at dksX8_look_1 6 rfl rfl)
theorem dX8_look_31 : decode cX8_look 31 = .ok (.iconst 0, 1) := dk_3 (dk_at dksX8_look_1 8 rfl rfl)
theorem dX8_look_32 : decode cX8_look 32 = .ok (.iconst 2, 1) := dk_5 (dk_at dksX8_look_1 9 rfl rfl)
theorem dX8_look_33 : decode cX8_look 33 = .ok (.invokestatic 341, 3) := dk_184 1 85 (dk_at dksX8_look_1 10 rfl rfl)
theorem dX8_look_36 : decode cX8_look 36 = .ok (.ifCond .ne 5, 3) := dk_154 0 5 (dk_at dksX8_look_1 13 rfl rfl)
theorem dX8_look_39 : decode cX8_look 39 = .ok (.iconst (-1), 1) := dk_2 (dk_at dksX8_look_1 16 rfl rfl)
theorem dX8_look_40 : decode cX8_look 40 = .ok (.ireturn, 1) := dk_172 (dk_at dksX8_look_1 17 rfl rfl)
theorem dX8_look_41 : decode cX8_look 41 = .ok (.aload_n 0, 1) := dk_42 (dk_at dksX8_look_1 18 rfl rfl)
theorem dX8_look_42 : decode cX8_look 42 = .ok (.invokevirtual 419, 3) := dk_182 1 163 (dk_at dksX8_look_1 19 rfl rfl)
theorem dX8_look_45 : decode cX8_look 45 = .ok (.iload_n 3, 1) := dk_29 (dk_at dksX8_look_1 22 rfl rfl)
theorem dX8_look_46 : decode cX8_look 46 = .ok (.iconst (-1), 1) := dk_2 (dk_at dksX8_look_1 23 rfl rfl)
theorem dX8_look_47 : decode cX8_look 47 = .ok (.if_icmp .ne 7, 3) := dk_160 0 7 (dk_at dksX8_look_2 0 rfl rfl)
theorem dX8_look_50 : decode cX8_look 50 = .ok (.iload_n 2, 1) := dk_28 (dk_at dksX8_look_2 3 rfl rfl)
theorem dX8_look_51 : decode cX8_look 51 = .ok (.goto 4, 3) := dk_167 0 4 (dk_at dksX8_look_2 4 rfl rfl)
theorem dX8_look_54 : decode cX8_look 54 = .ok (.iload_n 3, 1) := dk_29 (dk_at dksX8_look_2 7 rfl rfl)
theorem dX8_look_55 : decode cX8_look 55 = .ok (.istore 5, 2) := dk_54 5 (dk_at dksX8_look_2 8 rfl rfl)
theorem dX8_look_57 : decode cX8_look 57 = .ok (.aload_n 0, 1) := dk_42 (dk_at dksX8_look_2 10 rfl rfl)
theorem dX8_look_58 : decode cX8_look 58 = .ok (.iload_n 1, 1) := dk_27 (dk_at dksX8_look_2 11 rfl rfl)
theorem dX8_look_59 : decode cX8_look 59 = .ok (.aload_n 0, 1) := dk_42 (dk_at dksX8_look_2 12 rfl rfl)
theorem dX8_look_60 : decode cX8_look 60 = .ok (.iload_n 1, 1) := dk_27 (dk_at dksX8_look_2 13 rfl rfl)
theorem dX8_look_61 : decode cX8_look 61 = .ok (.aload_n 0, 1) := dk_42 (dk_at dksX8_look_2 14 rfl rfl)
theorem dX8_look_62 : decode cX8_look 62 = .ok (.getfield 348, 3) := dk_180 1 92 (dk_at dksX8_look_2 15 rfl rfl)
theorem dX8_look_65 : decode cX8_look 65 = .ok (.invokevirtual 395, 3) := dk_182 1 139 (dk_at dksX8_look_2 18 rfl rfl)
theorem dX8_look_68 : decode cX8_look 68 = .ok (.iload_n 2, 1) := dk_28 (dk_at dksX8_look_2 21 rfl rfl)
theorem dX8_look_69 : decode cX8_look 69 = .ok (.invokevirtual 440, 3) := dk_182 1 184 (dk_at dksX8_look_3 0 rfl rfl)
theorem dX8_look_72 : decode cX8_look 72 = .ok (.istore 6, 2) := dk_54 6 (dk_at dksX8_look_3 3 rfl rfl)
theorem dX8_look_74 : decode cX8_look 74 = .ok (.iload_n 3, 1) := dk_29 (dk_at dksX8_look_3 5 rfl rfl)
theorem dX8_look_75 : decode cX8_look 75 = .ok (.iconst (-1), 1) := dk_2 (dk_at dksX8_look_3 6 rfl rfl)
theorem dX8_look_76 : decode cX8_look 76 = .ok (.if_icmp .eq 13, 3) := dk_159 0 13 (dk_at dksX8_look_3 7 rfl rfl)
theorem dX8_look_79 : decode cX8_look 79 = .ok (.aload_n 0, 1) := dk_42 (dk_at dksX8_look_3 10 rfl rfl)
theorem dX8_look_80 : decode cX8_look 80 = .ok (.iload_n 2, 1) := dk_28 (dk_at dksX8_look_3 11 rfl rfl)
theorem dX8_look_81 : decode cX8_look 81 = .ok (.iload 6, 2) := dk_21 6 (dk_at dksX8_look_3 12 rfl rfl)
theorem dX8_look_83 : decode cX8_look 83 = .ok (.iload_n 3, 1) := dk_29 (dk_at dksX8_look_3 14 rfl rfl)
theorem dX8_look_84 : decode cX8_look 84 = .ok (.invokevirtual 440, 3) := dk_182 1 184 (dk_at dksX8_look_3 15 rfl rfl)
theorem dX8_look_87 : decode cX8_look 87 = .ok (.istore 6, 2) := dk_54 6 (dk_at dksX8_look_3 18 rfl rfl)
theorem dX8_look_89 : decode cX8_look 89 = .ok (.iload 6, 2) := dk_21 6 (dk_at dksX8_look_3 20 rfl rfl)
theorem dX8_look_91 : decode cX8_look 91 = .ok (.ifCond .ge 6, 3) := dk_156 0 6 (dk_at dksX8_look_4 0 rfl rfl)
theorem dX8_look_94 : decode cX8_look 94 = .ok (.bipush (-2), 2) := dk_16 254 (dk_at dksX8_look_4 3 rfl rfl)
theorem dX8_look_96 : decode cX8_look 96 = .ok (.ireturn, 1) := dk_172 (dk_at dksX8_look_4 5 rfl rfl)
theorem dX8_look_97 : decode cX8_look 97 = .ok (.iload 4, 2) := dk_21 4 (dk_at dksX8_look_4 6 rfl rfl)
theorem dX8_look_99 : decode cX8_look 99 = .ok (.ifCond .ne 8, 3) := dk_154 0 8 (dk_at dksX8_look_4 8 rfl rfl)
theorem dX8_look_102 : decode cX8_look 102 = .ok (.iload 6, 2) := dk_21 6 (dk_at dksX8_look_4 11 rfl rfl)
theorem dX8_look_104 : decode cX8_look 104 = .ok (.goto 28, 3) := dk_167 0 28 (dk_at dksX8_look_4 13 rfl rfl)
theorem dX8_look_107 : decode cX8_look 107 = .ok (.iload 4, 2) := dk_21 4 (dk_at dksX8_look_4 16 rfl rfl)
theorem dX8_look_109 : decode cX8_look 109 = .ok (.iconst 1, 1) := dk_4 (dk_at dksX8_look_4 18 rfl rfl)
theorem dX8_look_110 : decode cX8_look 110 = .ok (.if_icmp .ne 14, 3) := dk_160 0 14 (dk_at dksX8_look_4 19 rfl rfl)
theorem dX8_look_113 : decode cX8_look 113 = .ok (.aload_n 0, 1) := dk_42 (dk_at dksX8_look_4 22 rfl rfl)
theorem dX8_look_114 : decode cX8_look 114 = .ok (.iload 5, 2) := dk_21 5 (dk_at dksX8_look_5 0 rfl rfl)
theorem dX8_look_116 : decode cX8_look 116 = .ok (.iload 6, 2) := dk_21 6 (dk_at dksX8_look_5 2 rfl rfl)
theorem dX8_look_118 : decode cX8_look 118 = .ok (.invokevirtual 392, 3) := dk_182 1 136 (dk_at dksX8_look_5 4 rfl rfl)
theorem dX8_look_121 : decode cX8_look 121 = .ok (.goto 11, 3) := dk_167 0 11 (dk_at dksX8_look_5 7 rfl rfl)
theorem dX8_look_124 : decode cX8_look 124 = .ok (.aload_n 0, 1) := dk_42 (dk_at dksX8_look_5 10 rfl rfl)
theorem dX8_look_125 : decode cX8_look 125 = .ok (.iload 5, 2) := dk_21 5 (dk_at dksX8_look_5 11 rfl rfl)
theorem dX8_look_127 : decode cX8_look 127 = .ok (.iload 6, 2) := dk_21 6 (dk_at dksX8_look_5 13 rfl rfl)
theorem dX8_look_129 : decode cX8_look 129 = .ok (.invokevirtual 422, 3) := dk_182 1 166 (dk_at dksX8_look_5 15 rfl rfl)
theorem dX8_look_132 : decode cX8_look 132 = .ok (.ireturn, 1) := dk_172 (dk_at dksX8_look_5 18 rfl rfl)
abbrev cX8_seenIn : ByteArray := prog_19_method_77_code
def yX8_seenIn : MethodName := ⟨RX8, "seenIn", "(III)I"⟩
def dkwX8_seenIn_1 : List UInt8 := [16, 254, 167, 0, 9, 42, 29, 28, 182, 1, 139, 172]
abbrev dktX8_seenIn_1 : List UInt8 := dkwX8_seenIn_1 ++ []
def dkwX8_seenIn_0 : List UInt8 := [28, 155, 0, 23, 27, 29, 159, 0, 18, 42, 29, 28, 182, 1, 136, 42, 27, 28, 182, 1, 136, 159, 0, 8]
abbrev dktX8_seenIn_0 : List UInt8 := dkwX8_seenIn_0 ++ dktX8_seenIn_1
theorem dksX8_seenIn_0 : cX8_seenIn.data.toList.drop 0 = dktX8_seenIn_0 := by decide +kernel
theorem dksX8_seenIn_1 : cX8_seenIn.data.toList.drop 24 = dktX8_seenIn_1 := dk_seg dksX8_seenIn_0 24 rfl rfl
theorem dX8_seenIn_0 : decode cX8_seenIn 0 = .ok (.iload_n 2, 1) := dk_28 (dk_at dksX8_seenIn_0 0 rfl rfl)
theorem dX8_seenIn_1 : decode cX8_seenIn 1 = .ok (.ifCond .lt 23, 3) := dk_155 0 23 (dk_at dksX8_seenIn_0 1 rfl rfl)
theorem dX8_seenIn_4 : decode cX8_seenIn 4 = .ok (.iload_n 1, 1) := dk_27 (dk_at dksX8_seenIn_0 4 rfl rfl)
theorem dX8_seenIn_5 : decode cX8_seenIn 5 = .ok (.iload_n 3, 1) := dk_29 (dk_at dksX8_seenIn_0 5 rfl rfl)
theorem dX8_seenIn_6 : decode cX8_seenIn 6 = .ok (.if_icmp .eq 18, 3) := dk_159 0 18 (dk_at dksX8_seenIn_0 6 rfl rfl)
theorem dX8_seenIn_9 : decode cX8_seenIn 9 = .ok (.aload_n 0, 1) := dk_42 (dk_at dksX8_seenIn_0 9 rfl rfl)
theorem dX8_seenIn_10 : decode cX8_seenIn 10 = .ok (.iload_n 3, 1) := dk_29 (dk_at dksX8_seenIn_0 10 rfl rfl)
theorem dX8_seenIn_11 : decode cX8_seenIn 11 = .ok (.iload_n 2, 1) := dk_28 (dk_at dksX8_seenIn_0 11 rfl rfl)
theorem dX8_seenIn_12 : decode cX8_seenIn 12 = .ok (.invokevirtual 392, 3) := dk_182 1 136 (dk_at dksX8_seenIn_0 12 rfl rfl)
theorem dX8_seenIn_15 : decode cX8_seenIn 15 = .ok (.aload_n 0, 1) := dk_42 (dk_at dksX8_seenIn_0 15 rfl rfl)
theorem dX8_seenIn_16 : decode cX8_seenIn 16 = .ok (.iload_n 1, 1) := dk_27 (dk_at dksX8_seenIn_0 16 rfl rfl)
theorem dX8_seenIn_17 : decode cX8_seenIn 17 = .ok (.iload_n 2, 1) := dk_28 (dk_at dksX8_seenIn_0 17 rfl rfl)
theorem dX8_seenIn_18 : decode cX8_seenIn 18 = .ok (.invokevirtual 392, 3) := dk_182 1 136 (dk_at dksX8_seenIn_0 18 rfl rfl)
theorem dX8_seenIn_21 : decode cX8_seenIn 21 = .ok (.if_icmp .eq 8, 3) := dk_159 0 8 (dk_at dksX8_seenIn_0 21 rfl rfl)
theorem dX8_seenIn_24 : decode cX8_seenIn 24 = .ok (.bipush (-2), 2) := dk_16 254 (dk_at dksX8_seenIn_1 0 rfl rfl)
theorem dX8_seenIn_26 : decode cX8_seenIn 26 = .ok (.goto 9, 3) := dk_167 0 9 (dk_at dksX8_seenIn_1 2 rfl rfl)
theorem dX8_seenIn_29 : decode cX8_seenIn 29 = .ok (.aload_n 0, 1) := dk_42 (dk_at dksX8_seenIn_1 5 rfl rfl)
theorem dX8_seenIn_30 : decode cX8_seenIn 30 = .ok (.iload_n 3, 1) := dk_29 (dk_at dksX8_seenIn_1 6 rfl rfl)
theorem dX8_seenIn_31 : decode cX8_seenIn 31 = .ok (.iload_n 2, 1) := dk_28 (dk_at dksX8_seenIn_1 7 rfl rfl)
theorem dX8_seenIn_32 : decode cX8_seenIn 32 = .ok (.invokevirtual 395, 3) := dk_182 1 139 (dk_at dksX8_seenIn_1 8 rfl rfl)
theorem dX8_seenIn_35 : decode cX8_seenIn 35 = .ok (.ireturn, 1) := dk_172 (dk_at dksX8_seenIn_1 11 rfl rfl)
abbrev cX8_facing : ByteArray := prog_19_method_79_code
def yX8_facing : MethodName := ⟨RX8, "facing", "(III)I"⟩
def dkwX8_facing_4 : List UInt8 := [182, 1, 184, 54, 5, 167, 255, 203, 29, 2, 160, 0, 8, 21, 4, 167, 0, 4, 2, 172]
abbrev dktX8_facing_4 : List UInt8 := dkwX8_facing_4 ++ []
def dkwX8_facing_3 : List UInt8 := [21, 4, 5, 112, 4, 160, 0, 14, 42, 27, 21, 5, 28, 182, 1, 184, 167, 0, 11, 42, 28, 21, 5, 27]
abbrev dktX8_facing_3 : List UInt8 := dkwX8_facing_3 ++ dktX8_facing_4
def dkwX8_facing_2 : List UInt8 := [21, 4, 16, 20, 162, 0, 52, 21, 5, 155, 0, 47, 21, 4, 29, 160, 0, 6, 21, 5, 172, 132, 4, 1]
abbrev dktX8_facing_2 : List UInt8 := dkwX8_facing_2 ++ dktX8_facing_3
def dkwX8_facing_1 : List UInt8 := [162, 0, 5, 2, 172, 42, 182, 1, 163, 3, 54, 4, 42, 27, 42, 180, 1, 92, 182, 1, 139, 54, 5]
abbrev dktX8_facing_1 : List UInt8 := dkwX8_facing_1 ++ dktX8_facing_2
def dkwX8_facing_0 : List UInt8 := [42, 27, 182, 1, 160, 153, 0, 21, 42, 28, 182, 1, 160, 153, 0, 13, 27, 28, 159, 0, 8, 29, 2]
abbrev dktX8_facing_0 : List UInt8 := dkwX8_facing_0 ++ dktX8_facing_1
theorem dksX8_facing_0 : cX8_facing.data.toList.drop 0 = dktX8_facing_0 := by decide +kernel
theorem dksX8_facing_1 : cX8_facing.data.toList.drop 23 = dktX8_facing_1 := dk_seg dksX8_facing_0 23 rfl rfl
theorem dksX8_facing_2 : cX8_facing.data.toList.drop 46 = dktX8_facing_2 := dk_seg dksX8_facing_1 23 rfl rfl
theorem dksX8_facing_3 : cX8_facing.data.toList.drop 70 = dktX8_facing_3 := dk_seg dksX8_facing_2 24 rfl rfl
theorem dksX8_facing_4 : cX8_facing.data.toList.drop 94 = dktX8_facing_4 := dk_seg dksX8_facing_3 24 rfl rfl
theorem dX8_facing_0 : decode cX8_facing 0 = .ok (.aload_n 0, 1) := dk_42 (dk_at dksX8_facing_0 0 rfl rfl)
theorem dX8_facing_1 : decode cX8_facing 1 = .ok (.iload_n 1, 1) := dk_27 (dk_at dksX8_facing_0 1 rfl rfl)
theorem dX8_facing_2 : decode cX8_facing 2 = .ok (.invokevirtual 416, 3) := dk_182 1 160 (dk_at dksX8_facing_0 2 rfl rfl)
theorem dX8_facing_5 : decode cX8_facing 5 = .ok (.ifCond .eq 21, 3) := dk_153 0 21 (dk_at dksX8_facing_0 5 rfl rfl)
theorem dX8_facing_8 : decode cX8_facing 8 = .ok (.aload_n 0, 1) := dk_42 (dk_at dksX8_facing_0 8 rfl rfl)
theorem dX8_facing_9 : decode cX8_facing 9 = .ok (.iload_n 2, 1) := dk_28 (dk_at dksX8_facing_0 9 rfl rfl)
theorem dX8_facing_10 : decode cX8_facing 10 = .ok (.invokevirtual 416, 3) := dk_182 1 160 (dk_at dksX8_facing_0 10 rfl rfl)
theorem dX8_facing_13 : decode cX8_facing 13 = .ok (.ifCond .eq 13, 3) := dk_153 0 13 (dk_at dksX8_facing_0 13 rfl rfl)
theorem dX8_facing_16 : decode cX8_facing 16 = .ok (.iload_n 1, 1) := dk_27 (dk_at dksX8_facing_0 16 rfl rfl)
theorem dX8_facing_17 : decode cX8_facing 17 = .ok (.iload_n 2, 1) := dk_28 (dk_at dksX8_facing_0 17 rfl rfl)
theorem dX8_facing_18 : decode cX8_facing 18 = .ok (.if_icmp .eq 8, 3) := dk_159 0 8 (dk_at dksX8_facing_0 18 rfl rfl)
theorem dX8_facing_21 : decode cX8_facing 21 = .ok (.iload_n 3, 1) := dk_29 (dk_at dksX8_facing_0 21 rfl rfl)
theorem dX8_facing_22 : decode cX8_facing 22 = .ok (.iconst (-1), 1) := dk_2 (dk_at dksX8_facing_0 22 rfl rfl)
theorem dX8_facing_23 : decode cX8_facing 23 = .ok (.if_icmp .ge 5, 3) := dk_162 0 5 (dk_at dksX8_facing_1 0 rfl rfl)
theorem dX8_facing_26 : decode cX8_facing 26 = .ok (.iconst (-1), 1) := dk_2 (dk_at dksX8_facing_1 3 rfl rfl)
theorem dX8_facing_27 : decode cX8_facing 27 = .ok (.ireturn, 1) := dk_172 (dk_at dksX8_facing_1 4 rfl rfl)
theorem dX8_facing_28 : decode cX8_facing 28 = .ok (.aload_n 0, 1) := dk_42 (dk_at dksX8_facing_1 5 rfl rfl)
theorem dX8_facing_29 : decode cX8_facing 29 = .ok (.invokevirtual 419, 3) := dk_182 1 163 (dk_at dksX8_facing_1 6 rfl rfl)
theorem dX8_facing_32 : decode cX8_facing 32 = .ok (.iconst 0, 1) := dk_3 (dk_at dksX8_facing_1 9 rfl rfl)
theorem dX8_facing_33 : decode cX8_facing 33 = .ok (.istore 4, 2) := dk_54 4 (dk_at dksX8_facing_1 10 rfl rfl)
theorem dX8_facing_35 : decode cX8_facing 35 = .ok (.aload_n 0, 1) := dk_42 (dk_at dksX8_facing_1 12 rfl rfl)
theorem dX8_facing_36 : decode cX8_facing 36 = .ok (.iload_n 1, 1) := dk_27 (dk_at dksX8_facing_1 13 rfl rfl)
theorem dX8_facing_37 : decode cX8_facing 37 = .ok (.aload_n 0, 1) := dk_42 (dk_at dksX8_facing_1 14 rfl rfl)
theorem dX8_facing_38 : decode cX8_facing 38 = .ok (.getfield 348, 3) := dk_180 1 92 (dk_at dksX8_facing_1 15 rfl rfl)
theorem dX8_facing_41 : decode cX8_facing 41 = .ok (.invokevirtual 395, 3) := dk_182 1 139 (dk_at dksX8_facing_1 18 rfl rfl)
theorem dX8_facing_44 : decode cX8_facing 44 = .ok (.istore 5, 2) := dk_54 5 (dk_at dksX8_facing_1 21 rfl rfl)
theorem dX8_facing_46 : decode cX8_facing 46 = .ok (.iload 4, 2) := dk_21 4 (dk_at dksX8_facing_2 0 rfl rfl)
theorem dX8_facing_48 : decode cX8_facing 48 = .ok (.bipush 20, 2) := dk_16 20 (dk_at dksX8_facing_2 2 rfl rfl)
theorem dX8_facing_50 : decode cX8_facing 50 = .ok (.if_icmp .ge 52, 3) := dk_162 0 52 (dk_at dksX8_facing_2 4 rfl rfl)
theorem dX8_facing_53 : decode cX8_facing 53 = .ok (.iload 5, 2) := dk_21 5 (dk_at dksX8_facing_2 7 rfl rfl)
theorem dX8_facing_55 : decode cX8_facing 55 = .ok (.ifCond .lt 47, 3) := dk_155 0 47 (dk_at dksX8_facing_2 9 rfl rfl)
theorem dX8_facing_58 : decode cX8_facing 58 = .ok (.iload 4, 2) := dk_21 4 (dk_at dksX8_facing_2 12 rfl rfl)
theorem dX8_facing_60 : decode cX8_facing 60 = .ok (.iload_n 3, 1) := dk_29 (dk_at dksX8_facing_2 14 rfl rfl)
theorem dX8_facing_61 : decode cX8_facing 61 = .ok (.if_icmp .ne 6, 3) := dk_160 0 6 (dk_at dksX8_facing_2 15 rfl rfl)
theorem dX8_facing_64 : decode cX8_facing 64 = .ok (.iload 5, 2) := dk_21 5 (dk_at dksX8_facing_2 18 rfl rfl)
theorem dX8_facing_66 : decode cX8_facing 66 = .ok (.ireturn, 1) := dk_172 (dk_at dksX8_facing_2 20 rfl rfl)
theorem dX8_facing_67 : decode cX8_facing 67 = .ok (.iinc 4 1, 3) := dk_132 4 1 (dk_at dksX8_facing_2 21 rfl rfl)
theorem dX8_facing_70 : decode cX8_facing 70 = .ok (.iload 4, 2) := dk_21 4 (dk_at dksX8_facing_3 0 rfl rfl)
theorem dX8_facing_72 : decode cX8_facing 72 = .ok (.iconst 2, 1) := dk_5 (dk_at dksX8_facing_3 2 rfl rfl)
theorem dX8_facing_73 : decode cX8_facing 73 = .ok (.irem, 1) := dk_112 (dk_at dksX8_facing_3 3 rfl rfl)
theorem dX8_facing_74 : decode cX8_facing 74 = .ok (.iconst 1, 1) := dk_4 (dk_at dksX8_facing_3 4 rfl rfl)
theorem dX8_facing_75 : decode cX8_facing 75 = .ok (.if_icmp .ne 14, 3) := dk_160 0 14 (dk_at dksX8_facing_3 5 rfl rfl)
theorem dX8_facing_78 : decode cX8_facing 78 = .ok (.aload_n 0, 1) := dk_42 (dk_at dksX8_facing_3 8 rfl rfl)
theorem dX8_facing_79 : decode cX8_facing 79 = .ok (.iload_n 1, 1) := dk_27 (dk_at dksX8_facing_3 9 rfl rfl)
theorem dX8_facing_80 : decode cX8_facing 80 = .ok (.iload 5, 2) := dk_21 5 (dk_at dksX8_facing_3 10 rfl rfl)
theorem dX8_facing_82 : decode cX8_facing 82 = .ok (.iload_n 2, 1) := dk_28 (dk_at dksX8_facing_3 12 rfl rfl)
theorem dX8_facing_83 : decode cX8_facing 83 = .ok (.invokevirtual 440, 3) := dk_182 1 184 (dk_at dksX8_facing_3 13 rfl rfl)
theorem dX8_facing_86 : decode cX8_facing 86 = .ok (.goto 11, 3) := dk_167 0 11 (dk_at dksX8_facing_3 16 rfl rfl)
theorem dX8_facing_89 : decode cX8_facing 89 = .ok (.aload_n 0, 1) := dk_42 (dk_at dksX8_facing_3 19 rfl rfl)
theorem dX8_facing_90 : decode cX8_facing 90 = .ok (.iload_n 2, 1) := dk_28 (dk_at dksX8_facing_3 20 rfl rfl)
theorem dX8_facing_91 : decode cX8_facing 91 = .ok (.iload 5, 2) := dk_21 5 (dk_at dksX8_facing_3 21 rfl rfl)
theorem dX8_facing_93 : decode cX8_facing 93 = .ok (.iload_n 1, 1) := dk_27 (dk_at dksX8_facing_3 23 rfl rfl)
theorem dX8_facing_94 : decode cX8_facing 94 = .ok (.invokevirtual 440, 3) := dk_182 1 184 (dk_at dksX8_facing_4 0 rfl rfl)
theorem dX8_facing_97 : decode cX8_facing 97 = .ok (.istore 5, 2) := dk_54 5 (dk_at dksX8_facing_4 3 rfl rfl)
theorem dX8_facing_99 : decode cX8_facing 99 = .ok (.goto (-53), 3) := dk_167 255 203 (dk_at dksX8_facing_4 5 rfl rfl)
theorem dX8_facing_102 : decode cX8_facing 102 = .ok (.iload_n 3, 1) := dk_29 (dk_at dksX8_facing_4 8 rfl rfl)
theorem dX8_facing_103 : decode cX8_facing 103 = .ok (.iconst (-1), 1) := dk_2 (dk_at dksX8_facing_4 9 rfl rfl)
theorem dX8_facing_104 : decode cX8_facing 104 = .ok (.if_icmp .ne 8, 3) := dk_160 0 8 (dk_at dksX8_facing_4 10 rfl rfl)
theorem dX8_facing_107 : decode cX8_facing 107 = .ok (.iload 4, 2) := dk_21 4 (dk_at dksX8_facing_4 13 rfl rfl)
theorem dX8_facing_109 : decode cX8_facing 109 = .ok (.goto 4, 3) := dk_167 0 4 (dk_at dksX8_facing_4 15 rfl rfl)
theorem dX8_facing_112 : decode cX8_facing 112 = .ok (.iconst (-1), 1) := dk_2 (dk_at dksX8_facing_4 18 rfl rfl)
theorem dX8_facing_113 : decode cX8_facing 113 = .ok (.ireturn, 1) := dk_172 (dk_at dksX8_facing_4 19 rfl rfl)
abbrev cX8_deepest : ByteArray := prog_19_method_80_code
def yX8_deepest : MethodName := ⟨RX8, "deepest", "(II)I"⟩
def dkwX8_deepest_11 : List UInt8 := [132, 5, 1, 167, 255, 80, 28, 154, 0, 7, 29, 167, 0, 5, 21, 4, 172]
abbrev dktX8_deepest_11 : List UInt8 := dkwX8_deepest_11 ++ []
def dkwX8_deepest_10 : List UInt8 := [162, 0, 23, 42, 180, 0, 143, 21, 6, 42, 180, 0, 146, 21, 6, 51, 84, 132, 6, 1, 167, 255, 231]
abbrev dktX8_deepest_10 : List UInt8 := dkwX8_deepest_10 ++ dktX8_deepest_11
def dkwX8_deepest_9 : List UInt8 := [54, 4, 132, 7, 1, 167, 255, 181, 132, 6, 1, 167, 255, 151, 3, 54, 6, 21, 6, 17, 9, 96]
abbrev dktX8_deepest_9 : List UInt8 := dkwX8_deepest_9 ++ dktX8_deepest_10
def dkwX8_deepest_8 : List UInt8 := [21, 7, 104, 21, 8, 96, 4, 84, 21, 8, 155, 0, 16, 21, 8, 29, 162, 0, 10, 21, 8, 62, 21, 5]
abbrev dktX8_deepest_8 : List UInt8 := dkwX8_deepest_8 ++ dktX8_deepest_9
def dkwX8_deepest_7 : List UInt8 := [17, 1, 44, 112, 21, 7, 182, 1, 184, 54, 8, 21, 8, 155, 0, 18, 42, 180, 0, 146, 17, 1, 44]
abbrev dktX8_deepest_7 : List UInt8 := dkwX8_deepest_7 ++ dktX8_deepest_8
def dkwX8_deepest_6 : List UInt8 := [21, 7, 42, 180, 0, 70, 42, 180, 1, 1, 46, 162, 0, 67, 42, 21, 6, 17, 1, 44, 108, 21, 6]
abbrev dktX8_deepest_6 : List UInt8 := dkwX8_deepest_6 ++ dktX8_deepest_7
def dkwX8_deepest_5 : List UInt8 := [21, 6, 17, 9, 96, 162, 0, 103, 42, 180, 0, 143, 21, 6, 51, 154, 0, 6, 167, 0, 84, 3, 54, 7]
abbrev dktX8_deepest_5 : List UInt8 := dkwX8_deepest_5 ++ dktX8_deepest_6
def dkwX8_deepest_4 : List UInt8 := [17, 9, 96, 162, 0, 17, 42, 180, 0, 146, 21, 6, 3, 84, 132, 6, 1, 167, 255, 237, 3, 54, 6]
abbrev dktX8_deepest_4 : List UInt8 := dkwX8_deepest_4 ++ dktX8_deepest_5
def dkwX8_deepest_3 : List UInt8 := [17, 1, 44, 27, 104, 29, 96, 4, 84, 5, 54, 5, 21, 5, 8, 162, 0, 176, 3, 54, 6, 21, 6]
abbrev dktX8_deepest_3 : List UInt8 := dkwX8_deepest_3 ++ dktX8_deepest_4
def dkwX8_deepest_2 : List UInt8 := [17, 9, 96, 162, 0, 17, 42, 180, 0, 143, 21, 5, 3, 84, 132, 5, 1, 167, 255, 237, 42, 180, 0, 143]
abbrev dktX8_deepest_2 : List UInt8 := dkwX8_deepest_2 ++ dktX8_deepest_3
def dkwX8_deepest_1 : List UInt8 := [27, 42, 180, 1, 92, 182, 1, 139, 62, 29, 156, 0, 6, 16, 254, 172, 4, 54, 4, 3, 54, 5, 21, 5]
abbrev dktX8_deepest_1 : List UInt8 := dkwX8_deepest_1 ++ dktX8_deepest_2
def dkwX8_deepest_0 : List UInt8 := [42, 27, 182, 1, 160, 153, 0, 12, 28, 3, 4, 184, 1, 85, 154, 0, 5, 2, 172, 42, 182, 1, 163, 42]
abbrev dktX8_deepest_0 : List UInt8 := dkwX8_deepest_0 ++ dktX8_deepest_1
theorem dksX8_deepest_0 : cX8_deepest.data.toList.drop 0 = dktX8_deepest_0 := by decide +kernel
theorem dksX8_deepest_1 : cX8_deepest.data.toList.drop 24 = dktX8_deepest_1 := dk_seg dksX8_deepest_0 24 rfl rfl
theorem dksX8_deepest_2 : cX8_deepest.data.toList.drop 48 = dktX8_deepest_2 := dk_seg dksX8_deepest_1 24 rfl rfl
theorem dksX8_deepest_3 : cX8_deepest.data.toList.drop 72 = dktX8_deepest_3 := dk_seg dksX8_deepest_2 24 rfl rfl
theorem dksX8_deepest_4 : cX8_deepest.data.toList.drop 95 = dktX8_deepest_4 := dk_seg dksX8_deepest_3 23 rfl rfl
theorem dksX8_deepest_5 : cX8_deepest.data.toList.drop 118 = dktX8_deepest_5 := dk_seg dksX8_deepest_4 23 rfl rfl
theorem dksX8_deepest_6 : cX8_deepest.data.toList.drop 142 = dktX8_deepest_6 := dk_seg dksX8_deepest_5 24 rfl rfl
theorem dksX8_deepest_7 : cX8_deepest.data.toList.drop 165 = dktX8_deepest_7 := dk_seg dksX8_deepest_6 23 rfl rfl
theorem dksX8_deepest_8 : cX8_deepest.data.toList.drop 188 = dktX8_deepest_8 := dk_seg dksX8_deepest_7 23 rfl rfl
theorem dksX8_deepest_9 : cX8_deepest.data.toList.drop 212 = dktX8_deepest_9 := dk_seg dksX8_deepest_8 24 rfl rfl
theorem dksX8_deepest_10 : cX8_deepest.data.toList.drop 234 = dktX8_deepest_10 := dk_seg dksX8_deepest_9 22 rfl rfl
theorem dksX8_deepest_11 : cX8_deepest.data.toList.drop 257 = dktX8_deepest_11 := dk_seg dksX8_deepest_10 23 rfl rfl
theorem dX8_deepest_0 : decode cX8_deepest 0 = .ok (.aload_n 0, 1) := dk_42 (dk_at dksX8_deepest_0 0 rfl rfl)
theorem dX8_deepest_1 : decode cX8_deepest 1 = .ok (.iload_n 1, 1) := dk_27 (dk_at dksX8_deepest_0 1 rfl rfl)
theorem dX8_deepest_2 : decode cX8_deepest 2 = .ok (.invokevirtual 416, 3) := dk_182 1 160 (dk_at dksX8_deepest_0 2 rfl rfl)
theorem dX8_deepest_5 : decode cX8_deepest 5 = .ok (.ifCond .eq 12, 3) := dk_153 0 12 (dk_at dksX8_deepest_0 5 rfl rfl)
theorem dX8_deepest_8 : decode cX8_deepest 8 = .ok (.iload_n 2, 1) := dk_28 (dk_at dksX8_deepest_0 8 rfl rfl)
theorem dX8_deepest_9 : decode cX8_deepest 9 = .ok (.iconst 0, 1) := dk_3 (dk_at dksX8_deepest_0 9 rfl rfl)
theorem dX8_deepest_10 : decode cX8_deepest 10 = .ok (.iconst 1, 1) := dk_4 (dk_at dksX8_deepest_0 10 rfl rfl)
theorem dX8_deepest_11 : decode cX8_deepest 11 = .ok (.invokestatic 341, 3) := dk_184 1 85 (dk_at dksX8_deepest_0 11 rfl rfl)
theorem dX8_deepest_14 : decode cX8_deepest 14 = .ok (.ifCond .ne 5, 3) := dk_154 0 5 (dk_at dksX8_deepest_0 14 rfl rfl)
theorem dX8_deepest_17 : decode cX8_deepest 17 = .ok (.iconst (-1), 1) := dk_2 (dk_at dksX8_deepest_0 17 rfl rfl)
theorem dX8_deepest_18 : decode cX8_deepest 18 = .ok (.ireturn, 1) := dk_172 (dk_at dksX8_deepest_0 18 rfl rfl)
theorem dX8_deepest_19 : decode cX8_deepest 19 = .ok (.aload_n 0, 1) := dk_42 (dk_at dksX8_deepest_0 19 rfl rfl)
theorem dX8_deepest_20 : decode cX8_deepest 20 = .ok (.invokevirtual 419, 3) := dk_182 1 163 (dk_at dksX8_deepest_0 20 rfl rfl)
theorem dX8_deepest_23 : decode cX8_deepest 23 = .ok (.aload_n 0, 1) := dk_42 (dk_at dksX8_deepest_0 23 rfl rfl)
theorem dX8_deepest_24 : decode cX8_deepest 24 = .ok (.iload_n 1, 1) := dk_27 (dk_at dksX8_deepest_1 0 rfl rfl)
theorem dX8_deepest_25 : decode cX8_deepest 25 = .ok (.aload_n 0, 1) := dk_42 (dk_at dksX8_deepest_1 1 rfl rfl)
theorem dX8_deepest_26 : decode cX8_deepest 26 = .ok (.getfield 348, 3) := dk_180 1 92 (dk_at dksX8_deepest_1 2 rfl rfl)
theorem dX8_deepest_29 : decode cX8_deepest 29 = .ok (.invokevirtual 395, 3) := dk_182 1 139 (dk_at dksX8_deepest_1 5 rfl rfl)
theorem dX8_deepest_32 : decode cX8_deepest 32 = .ok (.istore_n 3, 1) := dk_62 (dk_at dksX8_deepest_1 8 rfl rfl)
theorem dX8_deepest_33 : decode cX8_deepest 33 = .ok (.iload_n 3, 1) := dk_29 (dk_at dksX8_deepest_1 9 rfl rfl)
theorem dX8_deepest_34 : decode cX8_deepest 34 = .ok (.ifCond .ge 6, 3) := dk_156 0 6 (dk_at dksX8_deepest_1 10 rfl rfl)
theorem dX8_deepest_37 : decode cX8_deepest 37 = .ok (.bipush (-2), 2) := dk_16 254 (dk_at dksX8_deepest_1 13 rfl rfl)
theorem dX8_deepest_39 : decode cX8_deepest 39 = .ok (.ireturn, 1) := dk_172 (dk_at dksX8_deepest_1 15 rfl rfl)
theorem dX8_deepest_40 : decode cX8_deepest 40 = .ok (.iconst 1, 1) := dk_4 (dk_at dksX8_deepest_1 16 rfl rfl)
theorem dX8_deepest_41 : decode cX8_deepest 41 = .ok (.istore 4, 2) := dk_54 4 (dk_at dksX8_deepest_1 17 rfl rfl)
theorem dX8_deepest_43 : decode cX8_deepest 43 = .ok (.iconst 0, 1) := dk_3 (dk_at dksX8_deepest_1 19 rfl rfl)
theorem dX8_deepest_44 : decode cX8_deepest 44 = .ok (.istore 5, 2) := dk_54 5 (dk_at dksX8_deepest_1 20 rfl rfl)
theorem dX8_deepest_46 : decode cX8_deepest 46 = .ok (.iload 5, 2) := dk_21 5 (dk_at dksX8_deepest_1 22 rfl rfl)
theorem dX8_deepest_48 : decode cX8_deepest 48 = .ok (.sipush 2400, 3) := dk_17 9 96 (dk_at dksX8_deepest_2 0 rfl rfl)
theorem dX8_deepest_51 : decode cX8_deepest 51 = .ok (.if_icmp .ge 17, 3) := dk_162 0 17 (dk_at dksX8_deepest_2 3 rfl rfl)
theorem dX8_deepest_54 : decode cX8_deepest 54 = .ok (.aload_n 0, 1) := dk_42 (dk_at dksX8_deepest_2 6 rfl rfl)
theorem dX8_deepest_55 : decode cX8_deepest 55 = .ok (.getfield 143, 3) := dk_180 0 143 (dk_at dksX8_deepest_2 7 rfl rfl)
theorem dX8_deepest_58 : decode cX8_deepest 58 = .ok (.iload 5, 2) := dk_21 5 (dk_at dksX8_deepest_2 10 rfl rfl)
theorem dX8_deepest_60 : decode cX8_deepest 60 = .ok (.iconst 0, 1) := dk_3 (dk_at dksX8_deepest_2 12 rfl rfl)
theorem dX8_deepest_61 : decode cX8_deepest 61 = .ok (.bastore, 1) := dk_84 (dk_at dksX8_deepest_2 13 rfl rfl)
theorem dX8_deepest_62 : decode cX8_deepest 62 = .ok (.iinc 5 1, 3) := dk_132 5 1 (dk_at dksX8_deepest_2 14 rfl rfl)
theorem dX8_deepest_65 : decode cX8_deepest 65 = .ok (.goto (-19), 3) := dk_167 255 237 (dk_at dksX8_deepest_2 17 rfl rfl)
theorem dX8_deepest_68 : decode cX8_deepest 68 = .ok (.aload_n 0, 1) := dk_42 (dk_at dksX8_deepest_2 20 rfl rfl)
theorem dX8_deepest_69 : decode cX8_deepest 69 = .ok (.getfield 143, 3) := dk_180 0 143 (dk_at dksX8_deepest_2 21 rfl rfl)
theorem dX8_deepest_72 : decode cX8_deepest 72 = .ok (.sipush 300, 3) := dk_17 1 44 (dk_at dksX8_deepest_3 0 rfl rfl)
theorem dX8_deepest_75 : decode cX8_deepest 75 = .ok (.iload_n 1, 1) := dk_27 (dk_at dksX8_deepest_3 3 rfl rfl)
theorem dX8_deepest_76 : decode cX8_deepest 76 = .ok (.imul, 1) := dk_104 (dk_at dksX8_deepest_3 4 rfl rfl)
theorem dX8_deepest_77 : decode cX8_deepest 77 = .ok (.iload_n 3, 1) := dk_29 (dk_at dksX8_deepest_3 5 rfl rfl)
theorem dX8_deepest_78 : decode cX8_deepest 78 = .ok (.iadd, 1) := dk_96 (dk_at dksX8_deepest_3 6 rfl rfl)
theorem dX8_deepest_79 : decode cX8_deepest 79 = .ok (.iconst 1, 1) := dk_4 (dk_at dksX8_deepest_3 7 rfl rfl)
theorem dX8_deepest_80 : decode cX8_deepest 80 = .ok (.bastore, 1) := dk_84 (dk_at dksX8_deepest_3 8 rfl rfl)
theorem dX8_deepest_81 : decode cX8_deepest 81 = .ok (.iconst 2, 1) := dk_5 (dk_at dksX8_deepest_3 9 rfl rfl)
theorem dX8_deepest_82 : decode cX8_deepest 82 = .ok (.istore 5, 2) := dk_54 5 (dk_at dksX8_deepest_3 10 rfl rfl)
theorem dX8_deepest_84 : decode cX8_deepest 84 = .ok (.iload 5, 2) := dk_21 5 (dk_at dksX8_deepest_3 12 rfl rfl)
theorem dX8_deepest_86 : decode cX8_deepest 86 = .ok (.iconst 5, 1) := dk_8 (dk_at dksX8_deepest_3 14 rfl rfl)
theorem dX8_deepest_87 : decode cX8_deepest 87 = .ok (.if_icmp .ge 176, 3) := dk_162 0 176 (dk_at dksX8_deepest_3 15 rfl rfl)
theorem dX8_deepest_90 : decode cX8_deepest 90 = .ok (.iconst 0, 1) := dk_3 (dk_at dksX8_deepest_3 18 rfl rfl)
theorem dX8_deepest_91 : decode cX8_deepest 91 = .ok (.istore 6, 2) := dk_54 6 (dk_at dksX8_deepest_3 19 rfl rfl)
theorem dX8_deepest_93 : decode cX8_deepest 93 = .ok (.iload 6, 2) := dk_21 6 (dk_at dksX8_deepest_3 21 rfl rfl)
theorem dX8_deepest_95 : decode cX8_deepest 95 = .ok (.sipush 2400, 3) := dk_17 9 96 (dk_at dksX8_deepest_4 0 rfl rfl)
theorem dX8_deepest_98 : decode cX8_deepest 98 = .ok (.if_icmp .ge 17, 3) := dk_162 0 17 (dk_at dksX8_deepest_4 3 rfl rfl)
theorem dX8_deepest_101 : decode cX8_deepest 101 = .ok (.aload_n 0, 1) := dk_42 (dk_at dksX8_deepest_4 6 rfl rfl)
theorem dX8_deepest_102 : decode cX8_deepest 102 = .ok (.getfield 146, 3) := dk_180 0 146 (dk_at dksX8_deepest_4 7 rfl rfl)
theorem dX8_deepest_105 : decode cX8_deepest 105 = .ok (.iload 6, 2) := dk_21 6 (dk_at dksX8_deepest_4 10 rfl rfl)
theorem dX8_deepest_107 : decode cX8_deepest 107 = .ok (.iconst 0, 1) := dk_3 (dk_at dksX8_deepest_4 12 rfl rfl)
theorem dX8_deepest_108 : decode cX8_deepest 108 = .ok (.bastore, 1) := dk_84 (dk_at dksX8_deepest_4 13 rfl rfl)
theorem dX8_deepest_109 : decode cX8_deepest 109 = .ok (.iinc 6 1, 3) := dk_132 6 1 (dk_at dksX8_deepest_4 14 rfl rfl)
theorem dX8_deepest_112 : decode cX8_deepest 112 = .ok (.goto (-19), 3) := dk_167 255 237 (dk_at dksX8_deepest_4 17 rfl rfl)
theorem dX8_deepest_115 : decode cX8_deepest 115 = .ok (.iconst 0, 1) := dk_3 (dk_at dksX8_deepest_4 20 rfl rfl)
theorem dX8_deepest_116 : decode cX8_deepest 116 = .ok (.istore 6, 2) := dk_54 6 (dk_at dksX8_deepest_4 21 rfl rfl)
theorem dX8_deepest_118 : decode cX8_deepest 118 = .ok (.iload 6, 2) := dk_21 6 (dk_at dksX8_deepest_5 0 rfl rfl)
theorem dX8_deepest_120 : decode cX8_deepest 120 = .ok (.sipush 2400, 3) := dk_17 9 96 (dk_at dksX8_deepest_5 2 rfl rfl)
theorem dX8_deepest_123 : decode cX8_deepest 123 = .ok (.if_icmp .ge 103, 3) := dk_162 0 103 (dk_at dksX8_deepest_5 5 rfl rfl)
theorem dX8_deepest_126 : decode cX8_deepest 126 = .ok (.aload_n 0, 1) := dk_42 (dk_at dksX8_deepest_5 8 rfl rfl)
theorem dX8_deepest_127 : decode cX8_deepest 127 = .ok (.getfield 143, 3) := dk_180 0 143 (dk_at dksX8_deepest_5 9 rfl rfl)
theorem dX8_deepest_130 : decode cX8_deepest 130 = .ok (.iload 6, 2) := dk_21 6 (dk_at dksX8_deepest_5 12 rfl rfl)
theorem dX8_deepest_132 : decode cX8_deepest 132 = .ok (.baload, 1) := dk_51 (dk_at dksX8_deepest_5 14 rfl rfl)
theorem dX8_deepest_133 : decode cX8_deepest 133 = .ok (.ifCond .ne 6, 3) := dk_154 0 6 (dk_at dksX8_deepest_5 15 rfl rfl)
theorem dX8_deepest_136 : decode cX8_deepest 136 = .ok (.goto 84, 3) := dk_167 0 84 (dk_at dksX8_deepest_5 18 rfl rfl)
theorem dX8_deepest_139 : decode cX8_deepest 139 = .ok (.iconst 0, 1) := dk_3 (dk_at dksX8_deepest_5 21 rfl rfl)
theorem dX8_deepest_140 : decode cX8_deepest 140 = .ok (.istore 7, 2) := dk_54 7 (dk_at dksX8_deepest_5 22 rfl rfl)
theorem dX8_deepest_142 : decode cX8_deepest 142 = .ok (.iload 7, 2) := dk_21 7 (dk_at dksX8_deepest_6 0 rfl rfl)
theorem dX8_deepest_144 : decode cX8_deepest 144 = .ok (.aload_n 0, 1) := dk_42 (dk_at dksX8_deepest_6 2 rfl rfl)
theorem dX8_deepest_145 : decode cX8_deepest 145 = .ok (.getfield 70, 3) := dk_180 0 70 (dk_at dksX8_deepest_6 3 rfl rfl)
theorem dX8_deepest_148 : decode cX8_deepest 148 = .ok (.aload_n 0, 1) := dk_42 (dk_at dksX8_deepest_6 6 rfl rfl)
theorem dX8_deepest_149 : decode cX8_deepest 149 = .ok (.getfield 257, 3) := dk_180 1 1 (dk_at dksX8_deepest_6 7 rfl rfl)
theorem dX8_deepest_152 : decode cX8_deepest 152 = .ok (.iaload, 1) := dk_46 (dk_at dksX8_deepest_6 10 rfl rfl)
theorem dX8_deepest_153 : decode cX8_deepest 153 = .ok (.if_icmp .ge 67, 3) := dk_162 0 67 (dk_at dksX8_deepest_6 11 rfl rfl)
theorem dX8_deepest_156 : decode cX8_deepest 156 = .ok (.aload_n 0, 1) := dk_42 (dk_at dksX8_deepest_6 14 rfl rfl)
theorem dX8_deepest_157 : decode cX8_deepest 157 = .ok (.iload 6, 2) := dk_21 6 (dk_at dksX8_deepest_6 15 rfl rfl)
theorem dX8_deepest_159 : decode cX8_deepest 159 = .ok (.sipush 300, 3) := dk_17 1 44 (dk_at dksX8_deepest_6 17 rfl rfl)
theorem dX8_deepest_162 : decode cX8_deepest 162 = .ok (.idiv, 1) := dk_108 (dk_at dksX8_deepest_6 20 rfl rfl)
theorem dX8_deepest_163 : decode cX8_deepest 163 = .ok (.iload 6, 2) := dk_21 6 (dk_at dksX8_deepest_6 21 rfl rfl)
theorem dX8_deepest_165 : decode cX8_deepest 165 = .ok (.sipush 300, 3) := dk_17 1 44 (dk_at dksX8_deepest_7 0 rfl rfl)
theorem dX8_deepest_168 : decode cX8_deepest 168 = .ok (.irem, 1) := dk_112 (dk_at dksX8_deepest_7 3 rfl rfl)
theorem dX8_deepest_169 : decode cX8_deepest 169 = .ok (.iload 7, 2) := dk_21 7 (dk_at dksX8_deepest_7 4 rfl rfl)
theorem dX8_deepest_171 : decode cX8_deepest 171 = .ok (.invokevirtual 440, 3) := dk_182 1 184 (dk_at dksX8_deepest_7 6 rfl rfl)
theorem dX8_deepest_174 : decode cX8_deepest 174 = .ok (.istore 8, 2) := dk_54 8 (dk_at dksX8_deepest_7 9 rfl rfl)
theorem dX8_deepest_176 : decode cX8_deepest 176 = .ok (.iload 8, 2) := dk_21 8 (dk_at dksX8_deepest_7 11 rfl rfl)
theorem dX8_deepest_178 : decode cX8_deepest 178 = .ok (.ifCond .lt 18, 3) := dk_155 0 18 (dk_at dksX8_deepest_7 13 rfl rfl)
theorem dX8_deepest_181 : decode cX8_deepest 181 = .ok (.aload_n 0, 1) := dk_42 (dk_at dksX8_deepest_7 16 rfl rfl)
theorem dX8_deepest_182 : decode cX8_deepest 182 = .ok (.getfield 146, 3) := dk_180 0 146 (dk_at dksX8_deepest_7 17 rfl rfl)
theorem dX8_deepest_185 : decode cX8_deepest 185 = .ok (.sipush 300, 3) := dk_17 1 44 (dk_at dksX8_deepest_7 20 rfl rfl)
theorem dX8_deepest_188 : decode cX8_deepest 188 = .ok (.iload 7, 2) := dk_21 7 (dk_at dksX8_deepest_8 0 rfl rfl)
theorem dX8_deepest_190 : decode cX8_deepest 190 = .ok (.imul, 1) := dk_104 (dk_at dksX8_deepest_8 2 rfl rfl)
theorem dX8_deepest_191 : decode cX8_deepest 191 = .ok (.iload 8, 2) := dk_21 8 (dk_at dksX8_deepest_8 3 rfl rfl)
theorem dX8_deepest_193 : decode cX8_deepest 193 = .ok (.iadd, 1) := dk_96 (dk_at dksX8_deepest_8 5 rfl rfl)
theorem dX8_deepest_194 : decode cX8_deepest 194 = .ok (.iconst 1, 1) := dk_4 (dk_at dksX8_deepest_8 6 rfl rfl)
theorem dX8_deepest_195 : decode cX8_deepest 195 = .ok (.bastore, 1) := dk_84 (dk_at dksX8_deepest_8 7 rfl rfl)
theorem dX8_deepest_196 : decode cX8_deepest 196 = .ok (.iload 8, 2) := dk_21 8 (dk_at dksX8_deepest_8 8 rfl rfl)
theorem dX8_deepest_198 : decode cX8_deepest 198 = .ok (.ifCond .lt 16, 3) := dk_155 0 16 (dk_at dksX8_deepest_8 10 rfl rfl)
theorem dX8_deepest_201 : decode cX8_deepest 201 = .ok (.iload 8, 2) := dk_21 8 (dk_at dksX8_deepest_8 13 rfl rfl)
theorem dX8_deepest_203 : decode cX8_deepest 203 = .ok (.iload_n 3, 1) := dk_29 (dk_at dksX8_deepest_8 15 rfl rfl)
theorem dX8_deepest_204 : decode cX8_deepest 204 = .ok (.if_icmp .ge 10, 3) := dk_162 0 10 (dk_at dksX8_deepest_8 16 rfl rfl)
theorem dX8_deepest_207 : decode cX8_deepest 207 = .ok (.iload 8, 2) := dk_21 8 (dk_at dksX8_deepest_8 19 rfl rfl)
theorem dX8_deepest_209 : decode cX8_deepest 209 = .ok (.istore_n 3, 1) := dk_62 (dk_at dksX8_deepest_8 21 rfl rfl)
theorem dX8_deepest_210 : decode cX8_deepest 210 = .ok (.iload 5, 2) := dk_21 5 (dk_at dksX8_deepest_8 22 rfl rfl)
theorem dX8_deepest_212 : decode cX8_deepest 212 = .ok (.istore 4, 2) := dk_54 4 (dk_at dksX8_deepest_9 0 rfl rfl)
theorem dX8_deepest_214 : decode cX8_deepest 214 = .ok (.iinc 7 1, 3) := dk_132 7 1 (dk_at dksX8_deepest_9 2 rfl rfl)
theorem dX8_deepest_217 : decode cX8_deepest 217 = .ok (.goto (-75), 3) := dk_167 255 181 (dk_at dksX8_deepest_9 5 rfl rfl)
theorem dX8_deepest_220 : decode cX8_deepest 220 = .ok (.iinc 6 1, 3) := dk_132 6 1 (dk_at dksX8_deepest_9 8 rfl rfl)
theorem dX8_deepest_223 : decode cX8_deepest 223 = .ok (.goto (-105), 3) := dk_167 255 151 (dk_at dksX8_deepest_9 11 rfl rfl)
theorem dX8_deepest_226 : decode cX8_deepest 226 = .ok (.iconst 0, 1) := dk_3 (dk_at dksX8_deepest_9 14 rfl rfl)
theorem dX8_deepest_227 : decode cX8_deepest 227 = .ok (.istore 6, 2) := dk_54 6 (dk_at dksX8_deepest_9 15 rfl rfl)
theorem dX8_deepest_229 : decode cX8_deepest 229 = .ok (.iload 6, 2) := dk_21 6 (dk_at dksX8_deepest_9 17 rfl rfl)
theorem dX8_deepest_231 : decode cX8_deepest 231 = .ok (.sipush 2400, 3) := dk_17 9 96 (dk_at dksX8_deepest_9 19 rfl rfl)
theorem dX8_deepest_234 : decode cX8_deepest 234 = .ok (.if_icmp .ge 23, 3) := dk_162 0 23 (dk_at dksX8_deepest_10 0 rfl rfl)
theorem dX8_deepest_237 : decode cX8_deepest 237 = .ok (.aload_n 0, 1) := dk_42 (dk_at dksX8_deepest_10 3 rfl rfl)
theorem dX8_deepest_238 : decode cX8_deepest 238 = .ok (.getfield 143, 3) := dk_180 0 143 (dk_at dksX8_deepest_10 4 rfl rfl)
theorem dX8_deepest_241 : decode cX8_deepest 241 = .ok (.iload 6, 2) := dk_21 6 (dk_at dksX8_deepest_10 7 rfl rfl)
theorem dX8_deepest_243 : decode cX8_deepest 243 = .ok (.aload_n 0, 1) := dk_42 (dk_at dksX8_deepest_10 9 rfl rfl)
theorem dX8_deepest_244 : decode cX8_deepest 244 = .ok (.getfield 146, 3) := dk_180 0 146 (dk_at dksX8_deepest_10 10 rfl rfl)
theorem dX8_deepest_247 : decode cX8_deepest 247 = .ok (.iload 6, 2) := dk_21 6 (dk_at dksX8_deepest_10 13 rfl rfl)
theorem dX8_deepest_249 : decode cX8_deepest 249 = .ok (.baload, 1) := dk_51 (dk_at dksX8_deepest_10 15 rfl rfl)
theorem dX8_deepest_250 : decode cX8_deepest 250 = .ok (.bastore, 1) := dk_84 (dk_at dksX8_deepest_10 16 rfl rfl)
theorem dX8_deepest_251 : decode cX8_deepest 251 = .ok (.iinc 6 1, 3) := dk_132 6 1 (dk_at dksX8_deepest_10 17 rfl rfl)
theorem dX8_deepest_254 : decode cX8_deepest 254 = .ok (.goto (-25), 3) := dk_167 255 231 (dk_at dksX8_deepest_10 20 rfl rfl)
theorem dX8_deepest_257 : decode cX8_deepest 257 = .ok (.iinc 5 1, 3) := dk_132 5 1 (dk_at dksX8_deepest_11 0 rfl rfl)
theorem dX8_deepest_260 : decode cX8_deepest 260 = .ok (.goto (-176), 3) := dk_167 255 80 (dk_at dksX8_deepest_11 3 rfl rfl)
theorem dX8_deepest_263 : decode cX8_deepest 263 = .ok (.iload_n 2, 1) := dk_28 (dk_at dksX8_deepest_11 6 rfl rfl)
theorem dX8_deepest_264 : decode cX8_deepest 264 = .ok (.ifCond .ne 7, 3) := dk_154 0 7 (dk_at dksX8_deepest_11 7 rfl rfl)
theorem dX8_deepest_267 : decode cX8_deepest 267 = .ok (.iload_n 3, 1) := dk_29 (dk_at dksX8_deepest_11 10 rfl rfl)
theorem dX8_deepest_268 : decode cX8_deepest 268 = .ok (.goto 5, 3) := dk_167 0 5 (dk_at dksX8_deepest_11 11 rfl rfl)
theorem dX8_deepest_271 : decode cX8_deepest 271 = .ok (.iload 4, 2) := dk_21 4 (dk_at dksX8_deepest_11 14 rfl rfl)
theorem dX8_deepest_273 : decode cX8_deepest 273 = .ok (.ireturn, 1) := dk_172 (dk_at dksX8_deepest_11 16 rfl rfl)
abbrev cX8_last : ByteArray := prog_19_method_81_code
def yX8_last : MethodName := ⟨RX8, "last", "(II)I"⟩
def dkwX8_last_2 : List UInt8 := [167, 255, 232, 16, 254, 172]
abbrev dktX8_last_2 : List UInt8 := dkwX8_last_2 ++ []
def dkwX8_last_1 : List UInt8 := [155, 0, 26, 42, 180, 0, 122, 16, 36, 29, 104, 27, 96, 46, 28, 160, 0, 5, 29, 172, 132, 3, 255]
abbrev dktX8_last_1 : List UInt8 := dkwX8_last_1 ++ dktX8_last_2
def dkwX8_last_0 : List UInt8 := [42, 27, 182, 1, 154, 153, 0, 11, 42, 28, 182, 1, 181, 154, 0, 5, 2, 172, 42, 180, 1, 89, 62, 29]
abbrev dktX8_last_0 : List UInt8 := dkwX8_last_0 ++ dktX8_last_1
theorem dksX8_last_0 : cX8_last.data.toList.drop 0 = dktX8_last_0 := by decide +kernel
theorem dksX8_last_1 : cX8_last.data.toList.drop 24 = dktX8_last_1 := dk_seg dksX8_last_0 24 rfl rfl
theorem dksX8_last_2 : cX8_last.data.toList.drop 47 = dktX8_last_2 := dk_seg dksX8_last_1 23 rfl rfl
theorem dX8_last_0 : decode cX8_last 0 = .ok (.aload_n 0, 1) := dk_42 (dk_at dksX8_last_0 0 rfl rfl)
theorem dX8_last_1 : decode cX8_last 1 = .ok (.iload_n 1, 1) := dk_27 (dk_at dksX8_last_0 1 rfl rfl)
theorem dX8_last_2 : decode cX8_last 2 = .ok (.invokevirtual 410, 3) := dk_182 1 154 (dk_at dksX8_last_0 2 rfl rfl)
theorem dX8_last_5 : decode cX8_last 5 = .ok (.ifCond .eq 11, 3) := dk_153 0 11 (dk_at dksX8_last_0 5 rfl rfl)
theorem dX8_last_8 : decode cX8_last 8 = .ok (.aload_n 0, 1) := dk_42 (dk_at dksX8_last_0 8 rfl rfl)
theorem dX8_last_9 : decode cX8_last 9 = .ok (.iload_n 2, 1) := dk_28 (dk_at dksX8_last_0 9 rfl rfl)
theorem dX8_last_10 : decode cX8_last 10 = .ok (.invokevirtual 437, 3) := dk_182 1 181 (dk_at dksX8_last_0 10 rfl rfl)
theorem dX8_last_13 : decode cX8_last 13 = .ok (.ifCond .ne 5, 3) := dk_154 0 5 (dk_at dksX8_last_0 13 rfl rfl)
theorem dX8_last_16 : decode cX8_last 16 = .ok (.iconst (-1), 1) := dk_2 (dk_at dksX8_last_0 16 rfl rfl)
theorem dX8_last_17 : decode cX8_last 17 = .ok (.ireturn, 1) := dk_172 (dk_at dksX8_last_0 17 rfl rfl)
theorem dX8_last_18 : decode cX8_last 18 = .ok (.aload_n 0, 1) := dk_42 (dk_at dksX8_last_0 18 rfl rfl)
theorem dX8_last_19 : decode cX8_last 19 = .ok (.getfield 345, 3) := dk_180 1 89 (dk_at dksX8_last_0 19 rfl rfl)
theorem dX8_last_22 : decode cX8_last 22 = .ok (.istore_n 3, 1) := dk_62 (dk_at dksX8_last_0 22 rfl rfl)
theorem dX8_last_23 : decode cX8_last 23 = .ok (.iload_n 3, 1) := dk_29 (dk_at dksX8_last_0 23 rfl rfl)
theorem dX8_last_24 : decode cX8_last 24 = .ok (.ifCond .lt 26, 3) := dk_155 0 26 (dk_at dksX8_last_1 0 rfl rfl)
theorem dX8_last_27 : decode cX8_last 27 = .ok (.aload_n 0, 1) := dk_42 (dk_at dksX8_last_1 3 rfl rfl)
theorem dX8_last_28 : decode cX8_last 28 = .ok (.getfield 122, 3) := dk_180 0 122 (dk_at dksX8_last_1 4 rfl rfl)
theorem dX8_last_31 : decode cX8_last 31 = .ok (.bipush 36, 2) := dk_16 36 (dk_at dksX8_last_1 7 rfl rfl)
theorem dX8_last_33 : decode cX8_last 33 = .ok (.iload_n 3, 1) := dk_29 (dk_at dksX8_last_1 9 rfl rfl)
theorem dX8_last_34 : decode cX8_last 34 = .ok (.imul, 1) := dk_104 (dk_at dksX8_last_1 10 rfl rfl)
theorem dX8_last_35 : decode cX8_last 35 = .ok (.iload_n 1, 1) := dk_27 (dk_at dksX8_last_1 11 rfl rfl)
theorem dX8_last_36 : decode cX8_last 36 = .ok (.iadd, 1) := dk_96 (dk_at dksX8_last_1 12 rfl rfl)
theorem dX8_last_37 : decode cX8_last 37 = .ok (.iaload, 1) := dk_46 (dk_at dksX8_last_1 13 rfl rfl)
theorem dX8_last_38 : decode cX8_last 38 = .ok (.iload_n 2, 1) := dk_28 (dk_at dksX8_last_1 14 rfl rfl)
theorem dX8_last_39 : decode cX8_last 39 = .ok (.if_icmp .ne 5, 3) := dk_160 0 5 (dk_at dksX8_last_1 15 rfl rfl)
theorem dX8_last_42 : decode cX8_last 42 = .ok (.iload_n 3, 1) := dk_29 (dk_at dksX8_last_1 18 rfl rfl)
theorem dX8_last_43 : decode cX8_last 43 = .ok (.ireturn, 1) := dk_172 (dk_at dksX8_last_1 19 rfl rfl)
theorem dX8_last_44 : decode cX8_last 44 = .ok (.iinc 3 (-1), 3) := dk_132 3 255 (dk_at dksX8_last_1 20 rfl rfl)
theorem dX8_last_47 : decode cX8_last 47 = .ok (.goto (-24), 3) := dk_167 255 232 (dk_at dksX8_last_2 0 rfl rfl)
theorem dX8_last_50 : decode cX8_last 50 = .ok (.bipush (-2), 2) := dk_16 254 (dk_at dksX8_last_2 3 rfl rfl)
theorem dX8_last_52 : decode cX8_last 52 = .ok (.ireturn, 1) := dk_172 (dk_at dksX8_last_2 5 rfl rfl)
abbrev cX8_visits : ByteArray := prog_19_method_82_code
def yX8_visits : MethodName := ⟨RX8, "visits", "(II)I"⟩
def dkwX8_visits_4 : List UInt8 := [167, 255, 188, 29, 172]
abbrev dktX8_visits_4 : List UInt8 := dkwX8_visits_4 ++ []
def dkwX8_visits_3 : List UInt8 := [100, 27, 96, 46, 21, 5, 159, 0, 15, 167, 0, 9, 21, 5, 28, 160, 0, 6, 132, 3, 1, 132, 4, 1]
abbrev dktX8_visits_3 : List UInt8 := dkwX8_visits_3 ++ dktX8_visits_4
def dkwX8_visits_2 : List UInt8 := [46, 54, 5, 28, 2, 160, 0, 31, 21, 4, 158, 0, 35, 42, 180, 0, 122, 16, 36, 21, 4, 104, 16, 36]
abbrev dktX8_visits_2 : List UInt8 := dkwX8_visits_2 ++ dktX8_visits_3
def dkwX8_visits_1 : List UInt8 := [62, 3, 54, 4, 21, 4, 42, 180, 1, 89, 163, 0, 65, 42, 180, 0, 122, 16, 36, 21, 4, 104, 27, 96]
abbrev dktX8_visits_1 : List UInt8 := dkwX8_visits_1 ++ dktX8_visits_2
def dkwX8_visits_0 : List UInt8 := [42, 27, 182, 1, 154, 153, 0, 16, 28, 2, 159, 0, 13, 42, 28, 182, 1, 181, 154, 0, 5, 2, 172, 3]
abbrev dktX8_visits_0 : List UInt8 := dkwX8_visits_0 ++ dktX8_visits_1
theorem dksX8_visits_0 : cX8_visits.data.toList.drop 0 = dktX8_visits_0 := by decide +kernel
theorem dksX8_visits_1 : cX8_visits.data.toList.drop 24 = dktX8_visits_1 := dk_seg dksX8_visits_0 24 rfl rfl
theorem dksX8_visits_2 : cX8_visits.data.toList.drop 48 = dktX8_visits_2 := dk_seg dksX8_visits_1 24 rfl rfl
theorem dksX8_visits_3 : cX8_visits.data.toList.drop 72 = dktX8_visits_3 := dk_seg dksX8_visits_2 24 rfl rfl
theorem dksX8_visits_4 : cX8_visits.data.toList.drop 96 = dktX8_visits_4 := dk_seg dksX8_visits_3 24 rfl rfl
theorem dX8_visits_0 : decode cX8_visits 0 = .ok (.aload_n 0, 1) := dk_42 (dk_at dksX8_visits_0 0 rfl rfl)
theorem dX8_visits_1 : decode cX8_visits 1 = .ok (.iload_n 1, 1) := dk_27 (dk_at dksX8_visits_0 1 rfl rfl)
theorem dX8_visits_2 : decode cX8_visits 2 = .ok (.invokevirtual 410, 3) := dk_182 1 154 (dk_at dksX8_visits_0 2 rfl rfl)
theorem dX8_visits_5 : decode cX8_visits 5 = .ok (.ifCond .eq 16, 3) := dk_153 0 16 (dk_at dksX8_visits_0 5 rfl rfl)
theorem dX8_visits_8 : decode cX8_visits 8 = .ok (.iload_n 2, 1) := dk_28 (dk_at dksX8_visits_0 8 rfl rfl)
theorem dX8_visits_9 : decode cX8_visits 9 = .ok (.iconst (-1), 1) := dk_2 (dk_at dksX8_visits_0 9 rfl rfl)
theorem dX8_visits_10 : decode cX8_visits 10 = .ok (.if_icmp .eq 13, 3) := dk_159 0 13 (dk_at dksX8_visits_0 10 rfl rfl)
theorem dX8_visits_13 : decode cX8_visits 13 = .ok (.aload_n 0, 1) := dk_42 (dk_at dksX8_visits_0 13 rfl rfl)
theorem dX8_visits_14 : decode cX8_visits 14 = .ok (.iload_n 2, 1) := dk_28 (dk_at dksX8_visits_0 14 rfl rfl)
theorem dX8_visits_15 : decode cX8_visits 15 = .ok (.invokevirtual 437, 3) := dk_182 1 181 (dk_at dksX8_visits_0 15 rfl rfl)
theorem dX8_visits_18 : decode cX8_visits 18 = .ok (.ifCond .ne 5, 3) := dk_154 0 5 (dk_at dksX8_visits_0 18 rfl rfl)
theorem dX8_visits_21 : decode cX8_visits 21 = .ok (.iconst (-1), 1) := dk_2 (dk_at dksX8_visits_0 21 rfl rfl)
theorem dX8_visits_22 : decode cX8_visits 22 = .ok (.ireturn, 1) := dk_172 (dk_at dksX8_visits_0 22 rfl rfl)
theorem dX8_visits_23 : decode cX8_visits 23 = .ok (.iconst 0, 1) := dk_3 (dk_at dksX8_visits_0 23 rfl rfl)
theorem dX8_visits_24 : decode cX8_visits 24 = .ok (.istore_n 3, 1) := dk_62 (dk_at dksX8_visits_1 0 rfl rfl)
theorem dX8_visits_25 : decode cX8_visits 25 = .ok (.iconst 0, 1) := dk_3 (dk_at dksX8_visits_1 1 rfl rfl)
theorem dX8_visits_26 : decode cX8_visits 26 = .ok (.istore 4, 2) := dk_54 4 (dk_at dksX8_visits_1 2 rfl rfl)
theorem dX8_visits_28 : decode cX8_visits 28 = .ok (.iload 4, 2) := dk_21 4 (dk_at dksX8_visits_1 4 rfl rfl)
theorem dX8_visits_30 : decode cX8_visits 30 = .ok (.aload_n 0, 1) := dk_42 (dk_at dksX8_visits_1 6 rfl rfl)
theorem dX8_visits_31 : decode cX8_visits 31 = .ok (.getfield 345, 3) := dk_180 1 89 (dk_at dksX8_visits_1 7 rfl rfl)
theorem dX8_visits_34 : decode cX8_visits 34 = .ok (.if_icmp .gt 65, 3) := dk_163 0 65 (dk_at dksX8_visits_1 10 rfl rfl)
theorem dX8_visits_37 : decode cX8_visits 37 = .ok (.aload_n 0, 1) := dk_42 (dk_at dksX8_visits_1 13 rfl rfl)
theorem dX8_visits_38 : decode cX8_visits 38 = .ok (.getfield 122, 3) := dk_180 0 122 (dk_at dksX8_visits_1 14 rfl rfl)
theorem dX8_visits_41 : decode cX8_visits 41 = .ok (.bipush 36, 2) := dk_16 36 (dk_at dksX8_visits_1 17 rfl rfl)
theorem dX8_visits_43 : decode cX8_visits 43 = .ok (.iload 4, 2) := dk_21 4 (dk_at dksX8_visits_1 19 rfl rfl)
theorem dX8_visits_45 : decode cX8_visits 45 = .ok (.imul, 1) := dk_104 (dk_at dksX8_visits_1 21 rfl rfl)
theorem dX8_visits_46 : decode cX8_visits 46 = .ok (.iload_n 1, 1) := dk_27 (dk_at dksX8_visits_1 22 rfl rfl)
theorem dX8_visits_47 : decode cX8_visits 47 = .ok (.iadd, 1) := dk_96 (dk_at dksX8_visits_1 23 rfl rfl)
theorem dX8_visits_48 : decode cX8_visits 48 = .ok (.iaload, 1) := dk_46 (dk_at dksX8_visits_2 0 rfl rfl)
theorem dX8_visits_49 : decode cX8_visits 49 = .ok (.istore 5, 2) := dk_54 5 (dk_at dksX8_visits_2 1 rfl rfl)
theorem dX8_visits_51 : decode cX8_visits 51 = .ok (.iload_n 2, 1) := dk_28 (dk_at dksX8_visits_2 3 rfl rfl)
theorem dX8_visits_52 : decode cX8_visits 52 = .ok (.iconst (-1), 1) := dk_2 (dk_at dksX8_visits_2 4 rfl rfl)
theorem dX8_visits_53 : decode cX8_visits 53 = .ok (.if_icmp .ne 31, 3) := dk_160 0 31 (dk_at dksX8_visits_2 5 rfl rfl)
theorem dX8_visits_56 : decode cX8_visits 56 = .ok (.iload 4, 2) := dk_21 4 (dk_at dksX8_visits_2 8 rfl rfl)
theorem dX8_visits_58 : decode cX8_visits 58 = .ok (.ifCond .le 35, 3) := dk_158 0 35 (dk_at dksX8_visits_2 10 rfl rfl)
theorem dX8_visits_61 : decode cX8_visits 61 = .ok (.aload_n 0, 1) := dk_42 (dk_at dksX8_visits_2 13 rfl rfl)
theorem dX8_visits_62 : decode cX8_visits 62 = .ok (.getfield 122, 3) := dk_180 0 122 (dk_at dksX8_visits_2 14 rfl rfl)
theorem dX8_visits_65 : decode cX8_visits 65 = .ok (.bipush 36, 2) := dk_16 36 (dk_at dksX8_visits_2 17 rfl rfl)
theorem dX8_visits_67 : decode cX8_visits 67 = .ok (.iload 4, 2) := dk_21 4 (dk_at dksX8_visits_2 19 rfl rfl)
theorem dX8_visits_69 : decode cX8_visits 69 = .ok (.imul, 1) := dk_104 (dk_at dksX8_visits_2 21 rfl rfl)
theorem dX8_visits_70 : decode cX8_visits 70 = .ok (.bipush 36, 2) := dk_16 36 (dk_at dksX8_visits_2 22 rfl rfl)
theorem dX8_visits_72 : decode cX8_visits 72 = .ok (.isub, 1) := dk_100 (dk_at dksX8_visits_3 0 rfl rfl)
theorem dX8_visits_73 : decode cX8_visits 73 = .ok (.iload_n 1, 1) := dk_27 (dk_at dksX8_visits_3 1 rfl rfl)
theorem dX8_visits_74 : decode cX8_visits 74 = .ok (.iadd, 1) := dk_96 (dk_at dksX8_visits_3 2 rfl rfl)
theorem dX8_visits_75 : decode cX8_visits 75 = .ok (.iaload, 1) := dk_46 (dk_at dksX8_visits_3 3 rfl rfl)
theorem dX8_visits_76 : decode cX8_visits 76 = .ok (.iload 5, 2) := dk_21 5 (dk_at dksX8_visits_3 4 rfl rfl)
theorem dX8_visits_78 : decode cX8_visits 78 = .ok (.if_icmp .eq 15, 3) := dk_159 0 15 (dk_at dksX8_visits_3 6 rfl rfl)
theorem dX8_visits_81 : decode cX8_visits 81 = .ok (.goto 9, 3) := dk_167 0 9 (dk_at dksX8_visits_3 9 rfl rfl)
theorem dX8_visits_84 : decode cX8_visits 84 = .ok (.iload 5, 2) := dk_21 5 (dk_at dksX8_visits_3 12 rfl rfl)
theorem dX8_visits_86 : decode cX8_visits 86 = .ok (.iload_n 2, 1) := dk_28 (dk_at dksX8_visits_3 14 rfl rfl)
theorem dX8_visits_87 : decode cX8_visits 87 = .ok (.if_icmp .ne 6, 3) := dk_160 0 6 (dk_at dksX8_visits_3 15 rfl rfl)
theorem dX8_visits_90 : decode cX8_visits 90 = .ok (.iinc 3 1, 3) := dk_132 3 1 (dk_at dksX8_visits_3 18 rfl rfl)
theorem dX8_visits_93 : decode cX8_visits 93 = .ok (.iinc 4 1, 3) := dk_132 4 1 (dk_at dksX8_visits_3 21 rfl rfl)
theorem dX8_visits_96 : decode cX8_visits 96 = .ok (.goto (-68), 3) := dk_167 255 188 (dk_at dksX8_visits_4 0 rfl rfl)
theorem dX8_visits_99 : decode cX8_visits 99 = .ok (.iload_n 3, 1) := dk_29 (dk_at dksX8_visits_4 3 rfl rfl)
theorem dX8_visits_100 : decode cX8_visits 100 = .ok (.ireturn, 1) := dk_172 (dk_at dksX8_visits_4 4 rfl rfl)
abbrev cX8_alone : ByteArray := prog_19_method_85_code
def yX8_alone : MethodName := ⟨RX8, "alone", "(IZ)I"⟩
def dkwX8_alone_3 : List UInt8 := [132, 5, 1, 167, 255, 215, 29, 172]
abbrev dktX8_alone_3 : List UInt8 := dkwX8_alone_3 ++ []
def dkwX8_alone_2 : List UInt8 := [153, 0, 10, 21, 4, 4, 96, 167, 0, 4, 3, 54, 4, 21, 4, 29, 164, 0, 6, 21, 4, 62]
abbrev dktX8_alone_2 : List UInt8 := dkwX8_alone_2 ++ dktX8_alone_3
def dkwX8_alone_1 : List UInt8 := [3, 62, 3, 54, 4, 3, 54, 5, 21, 5, 42, 180, 1, 92, 163, 0, 38, 42, 27, 21, 5, 182, 1, 187]
abbrev dktX8_alone_1 : List UInt8 := dkwX8_alone_1 ++ dktX8_alone_2
def dkwX8_alone_0 : List UInt8 := [42, 27, 182, 1, 154, 154, 0, 5, 2, 172, 42, 182, 1, 163, 28, 154, 0, 9, 42, 27, 182, 1, 190, 172]
abbrev dktX8_alone_0 : List UInt8 := dkwX8_alone_0 ++ dktX8_alone_1
theorem dksX8_alone_0 : cX8_alone.data.toList.drop 0 = dktX8_alone_0 := by decide +kernel
theorem dksX8_alone_1 : cX8_alone.data.toList.drop 24 = dktX8_alone_1 := dk_seg dksX8_alone_0 24 rfl rfl
theorem dksX8_alone_2 : cX8_alone.data.toList.drop 48 = dktX8_alone_2 := dk_seg dksX8_alone_1 24 rfl rfl
theorem dksX8_alone_3 : cX8_alone.data.toList.drop 70 = dktX8_alone_3 := dk_seg dksX8_alone_2 22 rfl rfl
theorem dX8_alone_0 : decode cX8_alone 0 = .ok (.aload_n 0, 1) := dk_42 (dk_at dksX8_alone_0 0 rfl rfl)
theorem dX8_alone_1 : decode cX8_alone 1 = .ok (.iload_n 1, 1) := dk_27 (dk_at dksX8_alone_0 1 rfl rfl)
theorem dX8_alone_2 : decode cX8_alone 2 = .ok (.invokevirtual 410, 3) := dk_182 1 154 (dk_at dksX8_alone_0 2 rfl rfl)
theorem dX8_alone_5 : decode cX8_alone 5 = .ok (.ifCond .ne 5, 3) := dk_154 0 5 (dk_at dksX8_alone_0 5 rfl rfl)
theorem dX8_alone_8 : decode cX8_alone 8 = .ok (.iconst (-1), 1) := dk_2 (dk_at dksX8_alone_0 8 rfl rfl)
theorem dX8_alone_9 : decode cX8_alone 9 = .ok (.ireturn, 1) := dk_172 (dk_at dksX8_alone_0 9 rfl rfl)
theorem dX8_alone_10 : decode cX8_alone 10 = .ok (.aload_n 0, 1) := dk_42 (dk_at dksX8_alone_0 10 rfl rfl)
theorem dX8_alone_11 : decode cX8_alone 11 = .ok (.invokevirtual 419, 3) := dk_182 1 163 (dk_at dksX8_alone_0 11 rfl rfl)
theorem dX8_alone_14 : decode cX8_alone 14 = .ok (.iload_n 2, 1) := dk_28 (dk_at dksX8_alone_0 14 rfl rfl)
theorem dX8_alone_15 : decode cX8_alone 15 = .ok (.ifCond .ne 9, 3) := dk_154 0 9 (dk_at dksX8_alone_0 15 rfl rfl)
theorem dX8_alone_18 : decode cX8_alone 18 = .ok (.aload_n 0, 1) := dk_42 (dk_at dksX8_alone_0 18 rfl rfl)
theorem dX8_alone_19 : decode cX8_alone 19 = .ok (.iload_n 1, 1) := dk_27 (dk_at dksX8_alone_0 19 rfl rfl)
theorem dX8_alone_20 : decode cX8_alone 20 = .ok (.invokevirtual 446, 3) := dk_182 1 190 (dk_at dksX8_alone_0 20 rfl rfl)
theorem dX8_alone_23 : decode cX8_alone 23 = .ok (.ireturn, 1) := dk_172 (dk_at dksX8_alone_0 23 rfl rfl)
theorem dX8_alone_24 : decode cX8_alone 24 = .ok (.iconst 0, 1) := dk_3 (dk_at dksX8_alone_1 0 rfl rfl)
theorem dX8_alone_25 : decode cX8_alone 25 = .ok (.istore_n 3, 1) := dk_62 (dk_at dksX8_alone_1 1 rfl rfl)
theorem dX8_alone_26 : decode cX8_alone 26 = .ok (.iconst 0, 1) := dk_3 (dk_at dksX8_alone_1 2 rfl rfl)
theorem dX8_alone_27 : decode cX8_alone 27 = .ok (.istore 4, 2) := dk_54 4 (dk_at dksX8_alone_1 3 rfl rfl)
theorem dX8_alone_29 : decode cX8_alone 29 = .ok (.iconst 0, 1) := dk_3 (dk_at dksX8_alone_1 5 rfl rfl)
theorem dX8_alone_30 : decode cX8_alone 30 = .ok (.istore 5, 2) := dk_54 5 (dk_at dksX8_alone_1 6 rfl rfl)
theorem dX8_alone_32 : decode cX8_alone 32 = .ok (.iload 5, 2) := dk_21 5 (dk_at dksX8_alone_1 8 rfl rfl)
theorem dX8_alone_34 : decode cX8_alone 34 = .ok (.aload_n 0, 1) := dk_42 (dk_at dksX8_alone_1 10 rfl rfl)
theorem dX8_alone_35 : decode cX8_alone 35 = .ok (.getfield 348, 3) := dk_180 1 92 (dk_at dksX8_alone_1 11 rfl rfl)
theorem dX8_alone_38 : decode cX8_alone 38 = .ok (.if_icmp .gt 38, 3) := dk_163 0 38 (dk_at dksX8_alone_1 14 rfl rfl)
theorem dX8_alone_41 : decode cX8_alone 41 = .ok (.aload_n 0, 1) := dk_42 (dk_at dksX8_alone_1 17 rfl rfl)
theorem dX8_alone_42 : decode cX8_alone 42 = .ok (.iload_n 1, 1) := dk_27 (dk_at dksX8_alone_1 18 rfl rfl)
theorem dX8_alone_43 : decode cX8_alone 43 = .ok (.iload 5, 2) := dk_21 5 (dk_at dksX8_alone_1 19 rfl rfl)
theorem dX8_alone_45 : decode cX8_alone 45 = .ok (.invokevirtual 443, 3) := dk_182 1 187 (dk_at dksX8_alone_1 21 rfl rfl)
theorem dX8_alone_48 : decode cX8_alone 48 = .ok (.ifCond .eq 10, 3) := dk_153 0 10 (dk_at dksX8_alone_2 0 rfl rfl)
theorem dX8_alone_51 : decode cX8_alone 51 = .ok (.iload 4, 2) := dk_21 4 (dk_at dksX8_alone_2 3 rfl rfl)
theorem dX8_alone_53 : decode cX8_alone 53 = .ok (.iconst 1, 1) := dk_4 (dk_at dksX8_alone_2 5 rfl rfl)
theorem dX8_alone_54 : decode cX8_alone 54 = .ok (.iadd, 1) := dk_96 (dk_at dksX8_alone_2 6 rfl rfl)
theorem dX8_alone_55 : decode cX8_alone 55 = .ok (.goto 4, 3) := dk_167 0 4 (dk_at dksX8_alone_2 7 rfl rfl)
theorem dX8_alone_58 : decode cX8_alone 58 = .ok (.iconst 0, 1) := dk_3 (dk_at dksX8_alone_2 10 rfl rfl)
theorem dX8_alone_59 : decode cX8_alone 59 = .ok (.istore 4, 2) := dk_54 4 (dk_at dksX8_alone_2 11 rfl rfl)
theorem dX8_alone_61 : decode cX8_alone 61 = .ok (.iload 4, 2) := dk_21 4 (dk_at dksX8_alone_2 13 rfl rfl)
theorem dX8_alone_63 : decode cX8_alone 63 = .ok (.iload_n 3, 1) := dk_29 (dk_at dksX8_alone_2 15 rfl rfl)
theorem dX8_alone_64 : decode cX8_alone 64 = .ok (.if_icmp .le 6, 3) := dk_164 0 6 (dk_at dksX8_alone_2 16 rfl rfl)
theorem dX8_alone_67 : decode cX8_alone 67 = .ok (.iload 4, 2) := dk_21 4 (dk_at dksX8_alone_2 19 rfl rfl)
theorem dX8_alone_69 : decode cX8_alone 69 = .ok (.istore_n 3, 1) := dk_62 (dk_at dksX8_alone_2 21 rfl rfl)
theorem dX8_alone_70 : decode cX8_alone 70 = .ok (.iinc 5 1, 3) := dk_132 5 1 (dk_at dksX8_alone_3 0 rfl rfl)
theorem dX8_alone_73 : decode cX8_alone 73 = .ok (.goto (-41), 3) := dk_167 255 215 (dk_at dksX8_alone_3 3 rfl rfl)
theorem dX8_alone_76 : decode cX8_alone 76 = .ok (.iload_n 3, 1) := dk_29 (dk_at dksX8_alone_3 6 rfl rfl)
theorem dX8_alone_77 : decode cX8_alone 77 = .ok (.ireturn, 1) := dk_172 (dk_at dksX8_alone_3 7 rfl rfl)
abbrev cX8_aloneOf : ByteArray := prog_19_method_84_code
def yX8_aloneOf : MethodName := ⟨RX8, "aloneOf", "(I)I"⟩
def dkwX8_aloneOf_1 : List UInt8 := [132, 3, 1, 167, 255, 233, 28, 172]
abbrev dktX8_aloneOf_1 : List UInt8 := dkwX8_aloneOf_1 ++ []
def dkwX8_aloneOf_0 : List UInt8 := [3, 61, 3, 62, 29, 42, 180, 1, 92, 163, 0, 21, 42, 27, 29, 182, 1, 187, 153, 0, 6, 132, 2, 1]
abbrev dktX8_aloneOf_0 : List UInt8 := dkwX8_aloneOf_0 ++ dktX8_aloneOf_1
theorem dksX8_aloneOf_0 : cX8_aloneOf.data.toList.drop 0 = dktX8_aloneOf_0 := by decide +kernel
theorem dksX8_aloneOf_1 : cX8_aloneOf.data.toList.drop 24 = dktX8_aloneOf_1 := dk_seg dksX8_aloneOf_0 24 rfl rfl
theorem dX8_aloneOf_0 : decode cX8_aloneOf 0 = .ok (.iconst 0, 1) := dk_3 (dk_at dksX8_aloneOf_0 0 rfl rfl)
theorem dX8_aloneOf_1 : decode cX8_aloneOf 1 = .ok (.istore_n 2, 1) := dk_61 (dk_at dksX8_aloneOf_0 1 rfl rfl)
theorem dX8_aloneOf_2 : decode cX8_aloneOf 2 = .ok (.iconst 0, 1) := dk_3 (dk_at dksX8_aloneOf_0 2 rfl rfl)
theorem dX8_aloneOf_3 : decode cX8_aloneOf 3 = .ok (.istore_n 3, 1) := dk_62 (dk_at dksX8_aloneOf_0 3 rfl rfl)
theorem dX8_aloneOf_4 : decode cX8_aloneOf 4 = .ok (.iload_n 3, 1) := dk_29 (dk_at dksX8_aloneOf_0 4 rfl rfl)
theorem dX8_aloneOf_5 : decode cX8_aloneOf 5 = .ok (.aload_n 0, 1) := dk_42 (dk_at dksX8_aloneOf_0 5 rfl rfl)
theorem dX8_aloneOf_6 : decode cX8_aloneOf 6 = .ok (.getfield 348, 3) := dk_180 1 92 (dk_at dksX8_aloneOf_0 6 rfl rfl)
theorem dX8_aloneOf_9 : decode cX8_aloneOf 9 = .ok (.if_icmp .gt 21, 3) := dk_163 0 21 (dk_at dksX8_aloneOf_0 9 rfl rfl)
theorem dX8_aloneOf_12 : decode cX8_aloneOf 12 = .ok (.aload_n 0, 1) := dk_42 (dk_at dksX8_aloneOf_0 12 rfl rfl)
theorem dX8_aloneOf_13 : decode cX8_aloneOf 13 = .ok (.iload_n 1, 1) := dk_27 (dk_at dksX8_aloneOf_0 13 rfl rfl)
theorem dX8_aloneOf_14 : decode cX8_aloneOf 14 = .ok (.iload_n 3, 1) := dk_29 (dk_at dksX8_aloneOf_0 14 rfl rfl)
theorem dX8_aloneOf_15 : decode cX8_aloneOf 15 = .ok (.invokevirtual 443, 3) := dk_182 1 187 (dk_at dksX8_aloneOf_0 15 rfl rfl)
theorem dX8_aloneOf_18 : decode cX8_aloneOf 18 = .ok (.ifCond .eq 6, 3) := dk_153 0 6 (dk_at dksX8_aloneOf_0 18 rfl rfl)
theorem dX8_aloneOf_21 : decode cX8_aloneOf 21 = .ok (.iinc 2 1, 3) := dk_132 2 1 (dk_at dksX8_aloneOf_0 21 rfl rfl)
theorem dX8_aloneOf_24 : decode cX8_aloneOf 24 = .ok (.iinc 3 1, 3) := dk_132 3 1 (dk_at dksX8_aloneOf_1 0 rfl rfl)
theorem dX8_aloneOf_27 : decode cX8_aloneOf 27 = .ok (.goto (-23), 3) := dk_167 255 233 (dk_at dksX8_aloneOf_1 3 rfl rfl)
theorem dX8_aloneOf_30 : decode cX8_aloneOf 30 = .ok (.iload_n 2, 1) := dk_28 (dk_at dksX8_aloneOf_1 6 rfl rfl)
theorem dX8_aloneOf_31 : decode cX8_aloneOf 31 = .ok (.ireturn, 1) := dk_172 (dk_at dksX8_aloneOf_1 7 rfl rfl)
abbrev cX8_isAlone : ByteArray := prog_19_method_83_code
def yX8_isAlone : MethodName := ⟨RX8, "isAlone", "(II)Z"⟩
def dkwX8_isAlone_1 : List UInt8 := [167, 0, 4, 3, 172]
abbrev dktX8_isAlone_1 : List UInt8 := dkwX8_isAlone_1 ++ []
def dkwX8_isAlone_0 : List UInt8 := [42, 42, 180, 0, 131, 16, 36, 28, 104, 27, 96, 46, 28, 182, 1, 110, 184, 1, 113, 4, 160, 0, 7, 4]
abbrev dktX8_isAlone_0 : List UInt8 := dkwX8_isAlone_0 ++ dktX8_isAlone_1
theorem dksX8_isAlone_0 : cX8_isAlone.data.toList.drop 0 = dktX8_isAlone_0 := by decide +kernel
theorem dksX8_isAlone_1 : cX8_isAlone.data.toList.drop 24 = dktX8_isAlone_1 := dk_seg dksX8_isAlone_0 24 rfl rfl
theorem dX8_isAlone_0 : decode cX8_isAlone 0 = .ok (.aload_n 0, 1) := dk_42 (dk_at dksX8_isAlone_0 0 rfl rfl)
theorem dX8_isAlone_1 : decode cX8_isAlone 1 = .ok (.aload_n 0, 1) := dk_42 (dk_at dksX8_isAlone_0 1 rfl rfl)
theorem dX8_isAlone_2 : decode cX8_isAlone 2 = .ok (.getfield 131, 3) := dk_180 0 131 (dk_at dksX8_isAlone_0 2 rfl rfl)
theorem dX8_isAlone_5 : decode cX8_isAlone 5 = .ok (.bipush 36, 2) := dk_16 36 (dk_at dksX8_isAlone_0 5 rfl rfl)
theorem dX8_isAlone_7 : decode cX8_isAlone 7 = .ok (.iload_n 2, 1) := dk_28 (dk_at dksX8_isAlone_0 7 rfl rfl)
theorem dX8_isAlone_8 : decode cX8_isAlone 8 = .ok (.imul, 1) := dk_104 (dk_at dksX8_isAlone_0 8 rfl rfl)
theorem dX8_isAlone_9 : decode cX8_isAlone 9 = .ok (.iload_n 1, 1) := dk_27 (dk_at dksX8_isAlone_0 9 rfl rfl)
theorem dX8_isAlone_10 : decode cX8_isAlone 10 = .ok (.iadd, 1) := dk_96 (dk_at dksX8_isAlone_0 10 rfl rfl)
theorem dX8_isAlone_11 : decode cX8_isAlone 11 = .ok (.iaload, 1) := dk_46 (dk_at dksX8_isAlone_0 11 rfl rfl)
theorem dX8_isAlone_12 : decode cX8_isAlone 12 = .ok (.iload_n 2, 1) := dk_28 (dk_at dksX8_isAlone_0 12 rfl rfl)
theorem dX8_isAlone_13 : decode cX8_isAlone 13 = .ok (.invokevirtual 366, 3) := dk_182 1 110 (dk_at dksX8_isAlone_0 13 rfl rfl)
theorem dX8_isAlone_16 : decode cX8_isAlone 16 = .ok (.invokestatic 369, 3) := dk_184 1 113 (dk_at dksX8_isAlone_0 16 rfl rfl)
theorem dX8_isAlone_19 : decode cX8_isAlone 19 = .ok (.iconst 1, 1) := dk_4 (dk_at dksX8_isAlone_0 19 rfl rfl)
theorem dX8_isAlone_20 : decode cX8_isAlone 20 = .ok (.if_icmp .ne 7, 3) := dk_160 0 7 (dk_at dksX8_isAlone_0 20 rfl rfl)
theorem dX8_isAlone_23 : decode cX8_isAlone 23 = .ok (.iconst 1, 1) := dk_4 (dk_at dksX8_isAlone_0 23 rfl rfl)
theorem dX8_isAlone_24 : decode cX8_isAlone 24 = .ok (.goto 4, 3) := dk_167 0 4 (dk_at dksX8_isAlone_1 0 rfl rfl)
theorem dX8_isAlone_27 : decode cX8_isAlone 27 = .ok (.iconst 0, 1) := dk_3 (dk_at dksX8_isAlone_1 3 rfl rfl)
theorem dX8_isAlone_28 : decode cX8_isAlone 28 = .ok (.ireturn, 1) := dk_172 (dk_at dksX8_isAlone_1 4 rfl rfl)
abbrev cX8_lonely : ByteArray := prog_19_method_86_code
def yX8_lonely : MethodName := ⟨RX8, "lonely", "()I"⟩
def dkwX8_lonely_2 : List UInt8 := [164, 0, 5, 28, 60, 132, 2, 1, 167, 255, 225, 27, 172]
abbrev dktX8_lonely_2 : List UInt8 := dkwX8_lonely_2 ++ []
def dkwX8_lonely_1 : List UInt8 := [42, 180, 0, 61, 42, 180, 1, 1, 46, 162, 0, 24, 42, 28, 182, 1, 190, 42, 27, 182, 1, 190]
abbrev dktX8_lonely_1 : List UInt8 := dkwX8_lonely_1 ++ dktX8_lonely_2
def dkwX8_lonely_0 : List UInt8 := [42, 180, 0, 61, 42, 180, 1, 1, 46, 154, 0, 6, 16, 254, 172, 42, 182, 1, 163, 3, 60, 4, 61, 28]
abbrev dktX8_lonely_0 : List UInt8 := dkwX8_lonely_0 ++ dktX8_lonely_1
theorem dksX8_lonely_0 : cX8_lonely.data.toList.drop 0 = dktX8_lonely_0 := by decide +kernel
theorem dksX8_lonely_1 : cX8_lonely.data.toList.drop 24 = dktX8_lonely_1 := dk_seg dksX8_lonely_0 24 rfl rfl
theorem dksX8_lonely_2 : cX8_lonely.data.toList.drop 46 = dktX8_lonely_2 := dk_seg dksX8_lonely_1 22 rfl rfl
theorem dX8_lonely_0 : decode cX8_lonely 0 = .ok (.aload_n 0, 1) := dk_42 (dk_at dksX8_lonely_0 0 rfl rfl)
theorem dX8_lonely_1 : decode cX8_lonely 1 = .ok (.getfield 61, 3) := dk_180 0 61 (dk_at dksX8_lonely_0 1 rfl rfl)
theorem dX8_lonely_4 : decode cX8_lonely 4 = .ok (.aload_n 0, 1) := dk_42 (dk_at dksX8_lonely_0 4 rfl rfl)
theorem dX8_lonely_5 : decode cX8_lonely 5 = .ok (.getfield 257, 3) := dk_180 1 1 (dk_at dksX8_lonely_0 5 rfl rfl)
theorem dX8_lonely_8 : decode cX8_lonely 8 = .ok (.iaload, 1) := dk_46 (dk_at dksX8_lonely_0 8 rfl rfl)
theorem dX8_lonely_9 : decode cX8_lonely 9 = .ok (.ifCond .ne 6, 3) := dk_154 0 6 (dk_at dksX8_lonely_0 9 rfl rfl)
theorem dX8_lonely_12 : decode cX8_lonely 12 = .ok (.bipush (-2), 2) := dk_16 254 (dk_at dksX8_lonely_0 12 rfl rfl)
theorem dX8_lonely_14 : decode cX8_lonely 14 = .ok (.ireturn, 1) := dk_172 (dk_at dksX8_lonely_0 14 rfl rfl)
theorem dX8_lonely_15 : decode cX8_lonely 15 = .ok (.aload_n 0, 1) := dk_42 (dk_at dksX8_lonely_0 15 rfl rfl)
theorem dX8_lonely_16 : decode cX8_lonely 16 = .ok (.invokevirtual 419, 3) := dk_182 1 163 (dk_at dksX8_lonely_0 16 rfl rfl)
theorem dX8_lonely_19 : decode cX8_lonely 19 = .ok (.iconst 0, 1) := dk_3 (dk_at dksX8_lonely_0 19 rfl rfl)
theorem dX8_lonely_20 : decode cX8_lonely 20 = .ok (.istore_n 1, 1) := dk_60 (dk_at dksX8_lonely_0 20 rfl rfl)
theorem dX8_lonely_21 : decode cX8_lonely 21 = .ok (.iconst 1, 1) := dk_4 (dk_at dksX8_lonely_0 21 rfl rfl)
theorem dX8_lonely_22 : decode cX8_lonely 22 = .ok (.istore_n 2, 1) := dk_61 (dk_at dksX8_lonely_0 22 rfl rfl)
theorem dX8_lonely_23 : decode cX8_lonely 23 = .ok (.iload_n 2, 1) := dk_28 (dk_at dksX8_lonely_0 23 rfl rfl)
theorem dX8_lonely_24 : decode cX8_lonely 24 = .ok (.aload_n 0, 1) := dk_42 (dk_at dksX8_lonely_1 0 rfl rfl)
theorem dX8_lonely_25 : decode cX8_lonely 25 = .ok (.getfield 61, 3) := dk_180 0 61 (dk_at dksX8_lonely_1 1 rfl rfl)
theorem dX8_lonely_28 : decode cX8_lonely 28 = .ok (.aload_n 0, 1) := dk_42 (dk_at dksX8_lonely_1 4 rfl rfl)
theorem dX8_lonely_29 : decode cX8_lonely 29 = .ok (.getfield 257, 3) := dk_180 1 1 (dk_at dksX8_lonely_1 5 rfl rfl)
theorem dX8_lonely_32 : decode cX8_lonely 32 = .ok (.iaload, 1) := dk_46 (dk_at dksX8_lonely_1 8 rfl rfl)
theorem dX8_lonely_33 : decode cX8_lonely 33 = .ok (.if_icmp .ge 24, 3) := dk_162 0 24 (dk_at dksX8_lonely_1 9 rfl rfl)
theorem dX8_lonely_36 : decode cX8_lonely 36 = .ok (.aload_n 0, 1) := dk_42 (dk_at dksX8_lonely_1 12 rfl rfl)
theorem dX8_lonely_37 : decode cX8_lonely 37 = .ok (.iload_n 2, 1) := dk_28 (dk_at dksX8_lonely_1 13 rfl rfl)
theorem dX8_lonely_38 : decode cX8_lonely 38 = .ok (.invokevirtual 446, 3) := dk_182 1 190 (dk_at dksX8_lonely_1 14 rfl rfl)
theorem dX8_lonely_41 : decode cX8_lonely 41 = .ok (.aload_n 0, 1) := dk_42 (dk_at dksX8_lonely_1 17 rfl rfl)
theorem dX8_lonely_42 : decode cX8_lonely 42 = .ok (.iload_n 1, 1) := dk_27 (dk_at dksX8_lonely_1 18 rfl rfl)
theorem dX8_lonely_43 : decode cX8_lonely 43 = .ok (.invokevirtual 446, 3) := dk_182 1 190 (dk_at dksX8_lonely_1 19 rfl rfl)
theorem dX8_lonely_46 : decode cX8_lonely 46 = .ok (.if_icmp .le 5, 3) := dk_164 0 5 (dk_at dksX8_lonely_2 0 rfl rfl)
theorem dX8_lonely_49 : decode cX8_lonely 49 = .ok (.iload_n 2, 1) := dk_28 (dk_at dksX8_lonely_2 3 rfl rfl)
theorem dX8_lonely_50 : decode cX8_lonely 50 = .ok (.istore_n 1, 1) := dk_60 (dk_at dksX8_lonely_2 4 rfl rfl)
theorem dX8_lonely_51 : decode cX8_lonely 51 = .ok (.iinc 2 1, 3) := dk_132 2 1 (dk_at dksX8_lonely_2 5 rfl rfl)
theorem dX8_lonely_54 : decode cX8_lonely 54 = .ok (.goto (-31), 3) := dk_167 255 225 (dk_at dksX8_lonely_2 8 rfl rfl)
theorem dX8_lonely_57 : decode cX8_lonely 57 = .ok (.iload_n 1, 1) := dk_27 (dk_at dksX8_lonely_2 11 rfl rfl)
theorem dX8_lonely_58 : decode cX8_lonely 58 = .ok (.ireturn, 1) := dk_172 (dk_at dksX8_lonely_2 12 rfl rfl)
abbrev cX8_together : ByteArray := prog_19_method_87_code
def yX8_together : MethodName := ⟨RX8, "together", "(III)I"⟩
def dkwX8_together_4 : List UInt8 := [154, 0, 8, 21, 4, 167, 0, 5, 21, 5, 172]
abbrev dktX8_together_4 : List UInt8 := dkwX8_together_4 ++ []
def dkwX8_together_3 : List UInt8 := [28, 96, 46, 159, 0, 6, 167, 0, 10, 132, 4, 1, 21, 6, 54, 5, 132, 6, 1, 167, 255, 207, 29]
abbrev dktX8_together_3 : List UInt8 := dkwX8_together_3 ++ dktX8_together_4
def dkwX8_together_2 : List UInt8 := [163, 0, 46, 42, 180, 0, 122, 16, 36, 21, 6, 104, 27, 96, 46, 42, 180, 0, 122, 16, 36, 21, 6, 104]
abbrev dktX8_together_2 : List UInt8 := dkwX8_together_2 ++ dktX8_together_3
def dkwX8_together_1 : List UInt8 := [184, 1, 85, 154, 0, 5, 2, 172, 3, 54, 4, 16, 254, 54, 5, 3, 54, 6, 21, 6, 42, 180, 1, 89]
abbrev dktX8_together_1 : List UInt8 := dkwX8_together_1 ++ dktX8_together_2
def dkwX8_together_0 : List UInt8 := [42, 27, 182, 1, 154, 153, 0, 25, 42, 28, 182, 1, 154, 153, 0, 17, 27, 28, 159, 0, 12, 29, 3, 4]
abbrev dktX8_together_0 : List UInt8 := dkwX8_together_0 ++ dktX8_together_1
theorem dksX8_together_0 : cX8_together.data.toList.drop 0 = dktX8_together_0 := by decide +kernel
theorem dksX8_together_1 : cX8_together.data.toList.drop 24 = dktX8_together_1 := dk_seg dksX8_together_0 24 rfl rfl
theorem dksX8_together_2 : cX8_together.data.toList.drop 48 = dktX8_together_2 := dk_seg dksX8_together_1 24 rfl rfl
theorem dksX8_together_3 : cX8_together.data.toList.drop 72 = dktX8_together_3 := dk_seg dksX8_together_2 24 rfl rfl
theorem dksX8_together_4 : cX8_together.data.toList.drop 95 = dktX8_together_4 := dk_seg dksX8_together_3 23 rfl rfl
theorem dX8_together_0 : decode cX8_together 0 = .ok (.aload_n 0, 1) := dk_42 (dk_at dksX8_together_0 0 rfl rfl)
theorem dX8_together_1 : decode cX8_together 1 = .ok (.iload_n 1, 1) := dk_27 (dk_at dksX8_together_0 1 rfl rfl)
theorem dX8_together_2 : decode cX8_together 2 = .ok (.invokevirtual 410, 3) := dk_182 1 154 (dk_at dksX8_together_0 2 rfl rfl)
theorem dX8_together_5 : decode cX8_together 5 = .ok (.ifCond .eq 25, 3) := dk_153 0 25 (dk_at dksX8_together_0 5 rfl rfl)
theorem dX8_together_8 : decode cX8_together 8 = .ok (.aload_n 0, 1) := dk_42 (dk_at dksX8_together_0 8 rfl rfl)
theorem dX8_together_9 : decode cX8_together 9 = .ok (.iload_n 2, 1) := dk_28 (dk_at dksX8_together_0 9 rfl rfl)
theorem dX8_together_10 : decode cX8_together 10 = .ok (.invokevirtual 410, 3) := dk_182 1 154 (dk_at dksX8_together_0 10 rfl rfl)
theorem dX8_together_13 : decode cX8_together 13 = .ok (.ifCond .eq 17, 3) := dk_153 0 17 (dk_at dksX8_together_0 13 rfl rfl)
theorem dX8_together_16 : decode cX8_together 16 = .ok (.iload_n 1, 1) := dk_27 (dk_at dksX8_together_0 16 rfl rfl)
theorem dX8_together_17 : decode cX8_together 17 = .ok (.iload_n 2, 1) := dk_28 (dk_at dksX8_together_0 17 rfl rfl)
theorem dX8_together_18 : decode cX8_together 18 = .ok (.if_icmp .eq 12, 3) := dk_159 0 12 (dk_at dksX8_together_0 18 rfl rfl)
theorem dX8_together_21 : decode cX8_together 21 = .ok (.iload_n 3, 1) := dk_29 (dk_at dksX8_together_0 21 rfl rfl)
theorem dX8_together_22 : decode cX8_together 22 = .ok (.iconst 0, 1) := dk_3 (dk_at dksX8_together_0 22 rfl rfl)
theorem dX8_together_23 : decode cX8_together 23 = .ok (.iconst 1, 1) := dk_4 (dk_at dksX8_together_0 23 rfl rfl)
theorem dX8_together_24 : decode cX8_together 24 = .ok (.invokestatic 341, 3) := dk_184 1 85 (dk_at dksX8_together_1 0 rfl rfl)
theorem dX8_together_27 : decode cX8_together 27 = .ok (.ifCond .ne 5, 3) := dk_154 0 5 (dk_at dksX8_together_1 3 rfl rfl)
theorem dX8_together_30 : decode cX8_together 30 = .ok (.iconst (-1), 1) := dk_2 (dk_at dksX8_together_1 6 rfl rfl)
theorem dX8_together_31 : decode cX8_together 31 = .ok (.ireturn, 1) := dk_172 (dk_at dksX8_together_1 7 rfl rfl)
theorem dX8_together_32 : decode cX8_together 32 = .ok (.iconst 0, 1) := dk_3 (dk_at dksX8_together_1 8 rfl rfl)
theorem dX8_together_33 : decode cX8_together 33 = .ok (.istore 4, 2) := dk_54 4 (dk_at dksX8_together_1 9 rfl rfl)
theorem dX8_together_35 : decode cX8_together 35 = .ok (.bipush (-2), 2) := dk_16 254 (dk_at dksX8_together_1 11 rfl rfl)
theorem dX8_together_37 : decode cX8_together 37 = .ok (.istore 5, 2) := dk_54 5 (dk_at dksX8_together_1 13 rfl rfl)
theorem dX8_together_39 : decode cX8_together 39 = .ok (.iconst 0, 1) := dk_3 (dk_at dksX8_together_1 15 rfl rfl)
theorem dX8_together_40 : decode cX8_together 40 = .ok (.istore 6, 2) := dk_54 6 (dk_at dksX8_together_1 16 rfl rfl)
theorem dX8_together_42 : decode cX8_together 42 = .ok (.iload 6, 2) := dk_21 6 (dk_at dksX8_together_1 18 rfl rfl)
theorem dX8_together_44 : decode cX8_together 44 = .ok (.aload_n 0, 1) := dk_42 (dk_at dksX8_together_1 20 rfl rfl)
theorem dX8_together_45 : decode cX8_together 45 = .ok (.getfield 345, 3) := dk_180 1 89 (dk_at dksX8_together_1 21 rfl rfl)
theorem dX8_together_48 : decode cX8_together 48 = .ok (.if_icmp .gt 46, 3) := dk_163 0 46 (dk_at dksX8_together_2 0 rfl rfl)
theorem dX8_together_51 : decode cX8_together 51 = .ok (.aload_n 0, 1) := dk_42 (dk_at dksX8_together_2 3 rfl rfl)
theorem dX8_together_52 : decode cX8_together 52 = .ok (.getfield 122, 3) := dk_180 0 122 (dk_at dksX8_together_2 4 rfl rfl)
theorem dX8_together_55 : decode cX8_together 55 = .ok (.bipush 36, 2) := dk_16 36 (dk_at dksX8_together_2 7 rfl rfl)
theorem dX8_together_57 : decode cX8_together 57 = .ok (.iload 6, 2) := dk_21 6 (dk_at dksX8_together_2 9 rfl rfl)
theorem dX8_together_59 : decode cX8_together 59 = .ok (.imul, 1) := dk_104 (dk_at dksX8_together_2 11 rfl rfl)
theorem dX8_together_60 : decode cX8_together 60 = .ok (.iload_n 1, 1) := dk_27 (dk_at dksX8_together_2 12 rfl rfl)
theorem dX8_together_61 : decode cX8_together 61 = .ok (.iadd, 1) := dk_96 (dk_at dksX8_together_2 13 rfl rfl)
theorem dX8_together_62 : decode cX8_together 62 = .ok (.iaload, 1) := dk_46 (dk_at dksX8_together_2 14 rfl rfl)
theorem dX8_together_63 : decode cX8_together 63 = .ok (.aload_n 0, 1) := dk_42 (dk_at dksX8_together_2 15 rfl rfl)
theorem dX8_together_64 : decode cX8_together 64 = .ok (.getfield 122, 3) := dk_180 0 122 (dk_at dksX8_together_2 16 rfl rfl)
theorem dX8_together_67 : decode cX8_together 67 = .ok (.bipush 36, 2) := dk_16 36 (dk_at dksX8_together_2 19 rfl rfl)
theorem dX8_together_69 : decode cX8_together 69 = .ok (.iload 6, 2) := dk_21 6 (dk_at dksX8_together_2 21 rfl rfl)
theorem dX8_together_71 : decode cX8_together 71 = .ok (.imul, 1) := dk_104 (dk_at dksX8_together_2 23 rfl rfl)
theorem dX8_together_72 : decode cX8_together 72 = .ok (.iload_n 2, 1) := dk_28 (dk_at dksX8_together_3 0 rfl rfl)
theorem dX8_together_73 : decode cX8_together 73 = .ok (.iadd, 1) := dk_96 (dk_at dksX8_together_3 1 rfl rfl)
theorem dX8_together_74 : decode cX8_together 74 = .ok (.iaload, 1) := dk_46 (dk_at dksX8_together_3 2 rfl rfl)
theorem dX8_together_75 : decode cX8_together 75 = .ok (.if_icmp .eq 6, 3) := dk_159 0 6 (dk_at dksX8_together_3 3 rfl rfl)
theorem dX8_together_78 : decode cX8_together 78 = .ok (.goto 10, 3) := dk_167 0 10 (dk_at dksX8_together_3 6 rfl rfl)
theorem dX8_together_81 : decode cX8_together 81 = .ok (.iinc 4 1, 3) := dk_132 4 1 (dk_at dksX8_together_3 9 rfl rfl)
theorem dX8_together_84 : decode cX8_together 84 = .ok (.iload 6, 2) := dk_21 6 (dk_at dksX8_together_3 12 rfl rfl)
theorem dX8_together_86 : decode cX8_together 86 = .ok (.istore 5, 2) := dk_54 5 (dk_at dksX8_together_3 14 rfl rfl)
theorem dX8_together_88 : decode cX8_together 88 = .ok (.iinc 6 1, 3) := dk_132 6 1 (dk_at dksX8_together_3 16 rfl rfl)
theorem dX8_together_91 : decode cX8_together 91 = .ok (.goto (-49), 3) := dk_167 255 207 (dk_at dksX8_together_3 19 rfl rfl)
theorem dX8_together_94 : decode cX8_together 94 = .ok (.iload_n 3, 1) := dk_29 (dk_at dksX8_together_3 22 rfl rfl)
theorem dX8_together_95 : decode cX8_together 95 = .ok (.ifCond .ne 8, 3) := dk_154 0 8 (dk_at dksX8_together_4 0 rfl rfl)
theorem dX8_together_98 : decode cX8_together 98 = .ok (.iload 4, 2) := dk_21 4 (dk_at dksX8_together_4 3 rfl rfl)
theorem dX8_together_100 : decode cX8_together 100 = .ok (.goto 5, 3) := dk_167 0 5 (dk_at dksX8_together_4 5 rfl rfl)
theorem dX8_together_103 : decode cX8_together 103 = .ok (.iload 5, 2) := dk_21 5 (dk_at dksX8_together_4 8 rfl rfl)
theorem dX8_together_105 : decode cX8_together 105 = .ok (.ireturn, 1) := dk_172 (dk_at dksX8_together_4 10 rfl rfl)
abbrev cX8_glimpses : ByteArray := prog_19_method_89_code
def yX8_glimpses : MethodName := ⟨RX8, "glimpses", "(III)I"⟩
def dkwX8_glimpses_4 : List UInt8 := [167, 0, 5, 21, 5, 172]
abbrev dktX8_glimpses_4 : List UInt8 := dkwX8_glimpses_4 ++ []
def dkwX8_glimpses_3 : List UInt8 := [154, 0, 7, 21, 6, 54, 5, 132, 4, 1, 132, 6, 1, 167, 255, 218, 29, 154, 0, 8, 21, 4]
abbrev dktX8_glimpses_3 : List UInt8 := dkwX8_glimpses_3 ++ dktX8_glimpses_4
def dkwX8_glimpses_2 : List UInt8 := [42, 180, 1, 92, 163, 0, 35, 42, 27, 28, 21, 6, 182, 1, 193, 154, 0, 6, 167, 0, 15, 21, 4]
abbrev dktX8_glimpses_2 : List UInt8 := dkwX8_glimpses_2 ++ dktX8_glimpses_3
def dkwX8_glimpses_1 : List UInt8 := [184, 1, 85, 154, 0, 5, 2, 172, 42, 182, 1, 163, 3, 54, 4, 16, 254, 54, 5, 3, 54, 6, 21, 6]
abbrev dktX8_glimpses_1 : List UInt8 := dkwX8_glimpses_1 ++ dktX8_glimpses_2
def dkwX8_glimpses_0 : List UInt8 := [42, 27, 182, 1, 154, 153, 0, 25, 42, 28, 182, 1, 154, 153, 0, 17, 27, 28, 159, 0, 12, 29, 3, 4]
abbrev dktX8_glimpses_0 : List UInt8 := dkwX8_glimpses_0 ++ dktX8_glimpses_1
theorem dksX8_glimpses_0 : cX8_glimpses.data.toList.drop 0 = dktX8_glimpses_0 := by decide +kernel
theorem dksX8_glimpses_1 : cX8_glimpses.data.toList.drop 24 = dktX8_glimpses_1 := dk_seg dksX8_glimpses_0 24 rfl rfl
theorem dksX8_glimpses_2 : cX8_glimpses.data.toList.drop 48 = dktX8_glimpses_2 := dk_seg dksX8_glimpses_1 24 rfl rfl
theorem dksX8_glimpses_3 : cX8_glimpses.data.toList.drop 71 = dktX8_glimpses_3 := dk_seg dksX8_glimpses_2 23 rfl rfl
theorem dksX8_glimpses_4 : cX8_glimpses.data.toList.drop 93 = dktX8_glimpses_4 := dk_seg dksX8_glimpses_3 22 rfl rfl
theorem dX8_glimpses_0 : decode cX8_glimpses 0 = .ok (.aload_n 0, 1) := dk_42 (dk_at dksX8_glimpses_0 0 rfl rfl)
theorem dX8_glimpses_1 : decode cX8_glimpses 1 = .ok (.iload_n 1, 1) := dk_27 (dk_at dksX8_glimpses_0 1 rfl rfl)
theorem dX8_glimpses_2 : decode cX8_glimpses 2 = .ok (.invokevirtual 410, 3) := dk_182 1 154 (dk_at dksX8_glimpses_0 2 rfl rfl)
theorem dX8_glimpses_5 : decode cX8_glimpses 5 = .ok (.ifCond .eq 25, 3) := dk_153 0 25 (dk_at dksX8_glimpses_0 5 rfl rfl)
theorem dX8_glimpses_8 : decode cX8_glimpses 8 = .ok (.aload_n 0, 1) := dk_42 (dk_at dksX8_glimpses_0 8 rfl rfl)
theorem dX8_glimpses_9 : decode cX8_glimpses 9 = .ok (.iload_n 2, 1) := dk_28 (dk_at dksX8_glimpses_0 9 rfl rfl)
theorem dX8_glimpses_10 : decode cX8_glimpses 10 = .ok (.invokevirtual 410, 3) := dk_182 1 154 (dk_at dksX8_glimpses_0 10 rfl rfl)
theorem dX8_glimpses_13 : decode cX8_glimpses 13 = .ok (.ifCond .eq 17, 3) := dk_153 0 17 (dk_at dksX8_glimpses_0 13 rfl rfl)
theorem dX8_glimpses_16 : decode cX8_glimpses 16 = .ok (.iload_n 1, 1) := dk_27 (dk_at dksX8_glimpses_0 16 rfl rfl)
theorem dX8_glimpses_17 : decode cX8_glimpses 17 = .ok (.iload_n 2, 1) := dk_28 (dk_at dksX8_glimpses_0 17 rfl rfl)
theorem dX8_glimpses_18 : decode cX8_glimpses 18 = .ok (.if_icmp .eq 12, 3) := dk_159 0 12 (dk_at dksX8_glimpses_0 18 rfl rfl)
theorem dX8_glimpses_21 : decode cX8_glimpses 21 = .ok (.iload_n 3, 1) := dk_29 (dk_at dksX8_glimpses_0 21 rfl rfl)
theorem dX8_glimpses_22 : decode cX8_glimpses 22 = .ok (.iconst 0, 1) := dk_3 (dk_at dksX8_glimpses_0 22 rfl rfl)
theorem dX8_glimpses_23 : decode cX8_glimpses 23 = .ok (.iconst 1, 1) := dk_4 (dk_at dksX8_glimpses_0 23 rfl rfl)
theorem dX8_glimpses_24 : decode cX8_glimpses 24 = .ok (.invokestatic 341, 3) := dk_184 1 85 (dk_at dksX8_glimpses_1 0 rfl rfl)
theorem dX8_glimpses_27 : decode cX8_glimpses 27 = .ok (.ifCond .ne 5, 3) := dk_154 0 5 (dk_at dksX8_glimpses_1 3 rfl rfl)
theorem dX8_glimpses_30 : decode cX8_glimpses 30 = .ok (.iconst (-1), 1) := dk_2 (dk_at dksX8_glimpses_1 6 rfl rfl)
theorem dX8_glimpses_31 : decode cX8_glimpses 31 = .ok (.ireturn, 1) := dk_172 (dk_at dksX8_glimpses_1 7 rfl rfl)
theorem dX8_glimpses_32 : decode cX8_glimpses 32 = .ok (.aload_n 0, 1) := dk_42 (dk_at dksX8_glimpses_1 8 rfl rfl)
theorem dX8_glimpses_33 : decode cX8_glimpses 33 = .ok (.invokevirtual 419, 3) := dk_182 1 163 (dk_at dksX8_glimpses_1 9 rfl rfl)
theorem dX8_glimpses_36 : decode cX8_glimpses 36 = .ok (.iconst 0, 1) := dk_3 (dk_at dksX8_glimpses_1 12 rfl rfl)
theorem dX8_glimpses_37 : decode cX8_glimpses 37 = .ok (.istore 4, 2) := dk_54 4 (dk_at dksX8_glimpses_1 13 rfl rfl)
theorem dX8_glimpses_39 : decode cX8_glimpses 39 = .ok (.bipush (-2), 2) := dk_16 254 (dk_at dksX8_glimpses_1 15 rfl rfl)
theorem dX8_glimpses_41 : decode cX8_glimpses 41 = .ok (.istore 5, 2) := dk_54 5 (dk_at dksX8_glimpses_1 17 rfl rfl)
theorem dX8_glimpses_43 : decode cX8_glimpses 43 = .ok (.iconst 0, 1) := dk_3 (dk_at dksX8_glimpses_1 19 rfl rfl)
theorem dX8_glimpses_44 : decode cX8_glimpses 44 = .ok (.istore 6, 2) := dk_54 6 (dk_at dksX8_glimpses_1 20 rfl rfl)
theorem dX8_glimpses_46 : decode cX8_glimpses 46 = .ok (.iload 6, 2) := dk_21 6 (dk_at dksX8_glimpses_1 22 rfl rfl)
theorem dX8_glimpses_48 : decode cX8_glimpses 48 = .ok (.aload_n 0, 1) := dk_42 (dk_at dksX8_glimpses_2 0 rfl rfl)
theorem dX8_glimpses_49 : decode cX8_glimpses 49 = .ok (.getfield 348, 3) := dk_180 1 92 (dk_at dksX8_glimpses_2 1 rfl rfl)
theorem dX8_glimpses_52 : decode cX8_glimpses 52 = .ok (.if_icmp .gt 35, 3) := dk_163 0 35 (dk_at dksX8_glimpses_2 4 rfl rfl)
theorem dX8_glimpses_55 : decode cX8_glimpses 55 = .ok (.aload_n 0, 1) := dk_42 (dk_at dksX8_glimpses_2 7 rfl rfl)
theorem dX8_glimpses_56 : decode cX8_glimpses 56 = .ok (.iload_n 1, 1) := dk_27 (dk_at dksX8_glimpses_2 8 rfl rfl)
theorem dX8_glimpses_57 : decode cX8_glimpses 57 = .ok (.iload_n 2, 1) := dk_28 (dk_at dksX8_glimpses_2 9 rfl rfl)
theorem dX8_glimpses_58 : decode cX8_glimpses 58 = .ok (.iload 6, 2) := dk_21 6 (dk_at dksX8_glimpses_2 10 rfl rfl)
theorem dX8_glimpses_60 : decode cX8_glimpses 60 = .ok (.invokevirtual 449, 3) := dk_182 1 193 (dk_at dksX8_glimpses_2 12 rfl rfl)
theorem dX8_glimpses_63 : decode cX8_glimpses 63 = .ok (.ifCond .ne 6, 3) := dk_154 0 6 (dk_at dksX8_glimpses_2 15 rfl rfl)
theorem dX8_glimpses_66 : decode cX8_glimpses 66 = .ok (.goto 15, 3) := dk_167 0 15 (dk_at dksX8_glimpses_2 18 rfl rfl)
theorem dX8_glimpses_69 : decode cX8_glimpses 69 = .ok (.iload 4, 2) := dk_21 4 (dk_at dksX8_glimpses_2 21 rfl rfl)
theorem dX8_glimpses_71 : decode cX8_glimpses 71 = .ok (.ifCond .ne 7, 3) := dk_154 0 7 (dk_at dksX8_glimpses_3 0 rfl rfl)
theorem dX8_glimpses_74 : decode cX8_glimpses 74 = .ok (.iload 6, 2) := dk_21 6 (dk_at dksX8_glimpses_3 3 rfl rfl)
theorem dX8_glimpses_76 : decode cX8_glimpses 76 = .ok (.istore 5, 2) := dk_54 5 (dk_at dksX8_glimpses_3 5 rfl rfl)
theorem dX8_glimpses_78 : decode cX8_glimpses 78 = .ok (.iinc 4 1, 3) := dk_132 4 1 (dk_at dksX8_glimpses_3 7 rfl rfl)
theorem dX8_glimpses_81 : decode cX8_glimpses 81 = .ok (.iinc 6 1, 3) := dk_132 6 1 (dk_at dksX8_glimpses_3 10 rfl rfl)
theorem dX8_glimpses_84 : decode cX8_glimpses 84 = .ok (.goto (-38), 3) := dk_167 255 218 (dk_at dksX8_glimpses_3 13 rfl rfl)
theorem dX8_glimpses_87 : decode cX8_glimpses 87 = .ok (.iload_n 3, 1) := dk_29 (dk_at dksX8_glimpses_3 16 rfl rfl)
theorem dX8_glimpses_88 : decode cX8_glimpses 88 = .ok (.ifCond .ne 8, 3) := dk_154 0 8 (dk_at dksX8_glimpses_3 17 rfl rfl)
theorem dX8_glimpses_91 : decode cX8_glimpses 91 = .ok (.iload 4, 2) := dk_21 4 (dk_at dksX8_glimpses_3 20 rfl rfl)
theorem dX8_glimpses_93 : decode cX8_glimpses 93 = .ok (.goto 5, 3) := dk_167 0 5 (dk_at dksX8_glimpses_4 0 rfl rfl)
theorem dX8_glimpses_96 : decode cX8_glimpses 96 = .ok (.iload 5, 2) := dk_21 5 (dk_at dksX8_glimpses_4 3 rfl rfl)
theorem dX8_glimpses_98 : decode cX8_glimpses 98 = .ok (.ireturn, 1) := dk_172 (dk_at dksX8_glimpses_4 5 rfl rfl)
abbrev cX8_isGlimpsed : ByteArray := prog_19_method_88_code
def yX8_isGlimpsed : MethodName := ⟨RX8, "isGlimpsed", "(III)Z"⟩
def dkwX8_isGlimpsed_2 : List UInt8 := [182, 1, 166, 28, 122, 4, 126, 4, 160, 0, 5, 4, 172, 132, 4, 1, 167, 255, 195, 3, 172]
abbrev dktX8_isGlimpsed_2 : List UInt8 := dkwX8_isGlimpsed_2 ++ []
def dkwX8_isGlimpsed_1 : List UInt8 := [42, 180, 0, 131, 16, 36, 29, 104, 27, 96, 46, 160, 0, 26, 42, 21, 4, 42, 21, 4, 29, 182, 1, 139]
abbrev dktX8_isGlimpsed_1 : List UInt8 := dkwX8_isGlimpsed_1 ++ dktX8_isGlimpsed_2
def dkwX8_isGlimpsed_0 : List UInt8 := [3, 54, 4, 21, 4, 42, 180, 0, 70, 42, 180, 1, 1, 46, 162, 0, 53, 42, 21, 4, 29, 182, 1, 136]
abbrev dktX8_isGlimpsed_0 : List UInt8 := dkwX8_isGlimpsed_0 ++ dktX8_isGlimpsed_1
theorem dksX8_isGlimpsed_0 : cX8_isGlimpsed.data.toList.drop 0 = dktX8_isGlimpsed_0 := by decide +kernel
theorem dksX8_isGlimpsed_1 : cX8_isGlimpsed.data.toList.drop 24 = dktX8_isGlimpsed_1 := dk_seg dksX8_isGlimpsed_0 24 rfl rfl
theorem dksX8_isGlimpsed_2 : cX8_isGlimpsed.data.toList.drop 48 = dktX8_isGlimpsed_2 := dk_seg dksX8_isGlimpsed_1 24 rfl rfl
theorem dX8_isGlimpsed_0 : decode cX8_isGlimpsed 0 = .ok (.iconst 0, 1) := dk_3 (dk_at dksX8_isGlimpsed_0 0 rfl rfl)
theorem dX8_isGlimpsed_1 : decode cX8_isGlimpsed 1 = .ok (.istore 4, 2) := dk_54 4 (dk_at dksX8_isGlimpsed_0 1 rfl rfl)
theorem dX8_isGlimpsed_3 : decode cX8_isGlimpsed 3 = .ok (.iload 4, 2) := dk_21 4 (dk_at dksX8_isGlimpsed_0 3 rfl rfl)
theorem dX8_isGlimpsed_5 : decode cX8_isGlimpsed 5 = .ok (.aload_n 0, 1) := dk_42 (dk_at dksX8_isGlimpsed_0 5 rfl rfl)
theorem dX8_isGlimpsed_6 : decode cX8_isGlimpsed 6 = .ok (.getfield 70, 3) := dk_180 0 70 (dk_at dksX8_isGlimpsed_0 6 rfl rfl)
theorem dX8_isGlimpsed_9 : decode cX8_isGlimpsed 9 = .ok (.aload_n 0, 1) := dk_42 (dk_at dksX8_isGlimpsed_0 9 rfl rfl)
theorem dX8_isGlimpsed_10 : decode cX8_isGlimpsed 10 = .ok (.getfield 257, 3) := dk_180 1 1 (dk_at dksX8_isGlimpsed_0 10 rfl rfl)
theorem dX8_isGlimpsed_13 : decode cX8_isGlimpsed 13 = .ok (.iaload, 1) := dk_46 (dk_at dksX8_isGlimpsed_0 13 rfl rfl)
theorem dX8_isGlimpsed_14 : decode cX8_isGlimpsed 14 = .ok (.if_icmp .ge 53, 3) := dk_162 0 53 (dk_at dksX8_isGlimpsed_0 14 rfl rfl)
theorem dX8_isGlimpsed_17 : decode cX8_isGlimpsed 17 = .ok (.aload_n 0, 1) := dk_42 (dk_at dksX8_isGlimpsed_0 17 rfl rfl)
theorem dX8_isGlimpsed_18 : decode cX8_isGlimpsed 18 = .ok (.iload 4, 2) := dk_21 4 (dk_at dksX8_isGlimpsed_0 18 rfl rfl)
theorem dX8_isGlimpsed_20 : decode cX8_isGlimpsed 20 = .ok (.iload_n 3, 1) := dk_29 (dk_at dksX8_isGlimpsed_0 20 rfl rfl)
theorem dX8_isGlimpsed_21 : decode cX8_isGlimpsed 21 = .ok (.invokevirtual 392, 3) := dk_182 1 136 (dk_at dksX8_isGlimpsed_0 21 rfl rfl)
theorem dX8_isGlimpsed_24 : decode cX8_isGlimpsed 24 = .ok (.aload_n 0, 1) := dk_42 (dk_at dksX8_isGlimpsed_1 0 rfl rfl)
theorem dX8_isGlimpsed_25 : decode cX8_isGlimpsed 25 = .ok (.getfield 131, 3) := dk_180 0 131 (dk_at dksX8_isGlimpsed_1 1 rfl rfl)
theorem dX8_isGlimpsed_28 : decode cX8_isGlimpsed 28 = .ok (.bipush 36, 2) := dk_16 36 (dk_at dksX8_isGlimpsed_1 4 rfl rfl)
theorem dX8_isGlimpsed_30 : decode cX8_isGlimpsed 30 = .ok (.iload_n 3, 1) := dk_29 (dk_at dksX8_isGlimpsed_1 6 rfl rfl)
theorem dX8_isGlimpsed_31 : decode cX8_isGlimpsed 31 = .ok (.imul, 1) := dk_104 (dk_at dksX8_isGlimpsed_1 7 rfl rfl)
theorem dX8_isGlimpsed_32 : decode cX8_isGlimpsed 32 = .ok (.iload_n 1, 1) := dk_27 (dk_at dksX8_isGlimpsed_1 8 rfl rfl)
theorem dX8_isGlimpsed_33 : decode cX8_isGlimpsed 33 = .ok (.iadd, 1) := dk_96 (dk_at dksX8_isGlimpsed_1 9 rfl rfl)
theorem dX8_isGlimpsed_34 : decode cX8_isGlimpsed 34 = .ok (.iaload, 1) := dk_46 (dk_at dksX8_isGlimpsed_1 10 rfl rfl)
theorem dX8_isGlimpsed_35 : decode cX8_isGlimpsed 35 = .ok (.if_icmp .ne 26, 3) := dk_160 0 26 (dk_at dksX8_isGlimpsed_1 11 rfl rfl)
theorem dX8_isGlimpsed_38 : decode cX8_isGlimpsed 38 = .ok (.aload_n 0, 1) := dk_42 (dk_at dksX8_isGlimpsed_1 14 rfl rfl)
theorem dX8_isGlimpsed_39 : decode cX8_isGlimpsed 39 = .ok (.iload 4, 2) := dk_21 4 (dk_at dksX8_isGlimpsed_1 15 rfl rfl)
theorem dX8_isGlimpsed_41 : decode cX8_isGlimpsed 41 = .ok (.aload_n 0, 1) := dk_42 (dk_at dksX8_isGlimpsed_1 17 rfl rfl)
theorem dX8_isGlimpsed_42 : decode cX8_isGlimpsed 42 = .ok (.iload 4, 2) := dk_21 4 (dk_at dksX8_isGlimpsed_1 18 rfl rfl)
theorem dX8_isGlimpsed_44 : decode cX8_isGlimpsed 44 = .ok (.iload_n 3, 1) := dk_29 (dk_at dksX8_isGlimpsed_1 20 rfl rfl)
theorem dX8_isGlimpsed_45 : decode cX8_isGlimpsed 45 = .ok (.invokevirtual 395, 3) := dk_182 1 139 (dk_at dksX8_isGlimpsed_1 21 rfl rfl)
theorem dX8_isGlimpsed_48 : decode cX8_isGlimpsed 48 = .ok (.invokevirtual 422, 3) := dk_182 1 166 (dk_at dksX8_isGlimpsed_2 0 rfl rfl)
theorem dX8_isGlimpsed_51 : decode cX8_isGlimpsed 51 = .ok (.iload_n 2, 1) := dk_28 (dk_at dksX8_isGlimpsed_2 3 rfl rfl)
theorem dX8_isGlimpsed_52 : decode cX8_isGlimpsed 52 = .ok (.ishr, 1) := dk_122 (dk_at dksX8_isGlimpsed_2 4 rfl rfl)
theorem dX8_isGlimpsed_53 : decode cX8_isGlimpsed 53 = .ok (.iconst 1, 1) := dk_4 (dk_at dksX8_isGlimpsed_2 5 rfl rfl)
theorem dX8_isGlimpsed_54 : decode cX8_isGlimpsed 54 = .ok (.iand, 1) := dk_126 (dk_at dksX8_isGlimpsed_2 6 rfl rfl)
theorem dX8_isGlimpsed_55 : decode cX8_isGlimpsed 55 = .ok (.iconst 1, 1) := dk_4 (dk_at dksX8_isGlimpsed_2 7 rfl rfl)
theorem dX8_isGlimpsed_56 : decode cX8_isGlimpsed 56 = .ok (.if_icmp .ne 5, 3) := dk_160 0 5 (dk_at dksX8_isGlimpsed_2 8 rfl rfl)
theorem dX8_isGlimpsed_59 : decode cX8_isGlimpsed 59 = .ok (.iconst 1, 1) := dk_4 (dk_at dksX8_isGlimpsed_2 11 rfl rfl)
theorem dX8_isGlimpsed_60 : decode cX8_isGlimpsed 60 = .ok (.ireturn, 1) := dk_172 (dk_at dksX8_isGlimpsed_2 12 rfl rfl)
theorem dX8_isGlimpsed_61 : decode cX8_isGlimpsed 61 = .ok (.iinc 4 1, 3) := dk_132 4 1 (dk_at dksX8_isGlimpsed_2 13 rfl rfl)
theorem dX8_isGlimpsed_64 : decode cX8_isGlimpsed 64 = .ok (.goto (-61), 3) := dk_167 255 195 (dk_at dksX8_isGlimpsed_2 16 rfl rfl)
theorem dX8_isGlimpsed_67 : decode cX8_isGlimpsed 67 = .ok (.iconst 0, 1) := dk_3 (dk_at dksX8_isGlimpsed_2 19 rfl rfl)
theorem dX8_isGlimpsed_68 : decode cX8_isGlimpsed 68 = .ok (.ireturn, 1) := dk_172 (dk_at dksX8_isGlimpsed_2 20 rfl rfl)
abbrev cX8_crowd : ByteArray := prog_19_method_90_code
def yX8_crowd : MethodName := ⟨RX8, "crowd", "(II)I"⟩
def dkwX8_crowd_4 : List UInt8 := [167, 0, 12, 42, 29, 27, 182, 1, 110, 184, 1, 113, 172]
abbrev dktX8_crowd_4 : List UInt8 := dkwX8_crowd_4 ++ []
def dkwX8_crowd_3 : List UInt8 := [182, 1, 110, 184, 1, 113, 164, 0, 6, 21, 4, 62, 132, 4, 1, 167, 255, 214, 28, 154, 0, 7, 29]
abbrev dktX8_crowd_3 : List UInt8 := dkwX8_crowd_3 ++ dktX8_crowd_4
def dkwX8_crowd_2 : List UInt8 := [180, 0, 49, 42, 180, 1, 1, 46, 162, 0, 34, 42, 21, 4, 27, 182, 1, 110, 184, 1, 113, 42, 29, 27]
abbrev dktX8_crowd_2 : List UInt8 := dkwX8_crowd_2 ++ dktX8_crowd_3
def dkwX8_crowd_1 : List UInt8 := [180, 1, 1, 46, 154, 0, 6, 16, 254, 172, 42, 182, 1, 163, 3, 62, 4, 54, 4, 21, 4, 42]
abbrev dktX8_crowd_1 : List UInt8 := dkwX8_crowd_1 ++ dktX8_crowd_2
def dkwX8_crowd_0 : List UInt8 := [42, 27, 182, 1, 157, 153, 0, 12, 28, 3, 4, 184, 1, 85, 154, 0, 5, 2, 172, 42, 180, 0, 49, 42]
abbrev dktX8_crowd_0 : List UInt8 := dkwX8_crowd_0 ++ dktX8_crowd_1
theorem dksX8_crowd_0 : cX8_crowd.data.toList.drop 0 = dktX8_crowd_0 := by decide +kernel
theorem dksX8_crowd_1 : cX8_crowd.data.toList.drop 24 = dktX8_crowd_1 := dk_seg dksX8_crowd_0 24 rfl rfl
theorem dksX8_crowd_2 : cX8_crowd.data.toList.drop 46 = dktX8_crowd_2 := dk_seg dksX8_crowd_1 22 rfl rfl
theorem dksX8_crowd_3 : cX8_crowd.data.toList.drop 70 = dktX8_crowd_3 := dk_seg dksX8_crowd_2 24 rfl rfl
theorem dksX8_crowd_4 : cX8_crowd.data.toList.drop 93 = dktX8_crowd_4 := dk_seg dksX8_crowd_3 23 rfl rfl
theorem dX8_crowd_0 : decode cX8_crowd 0 = .ok (.aload_n 0, 1) := dk_42 (dk_at dksX8_crowd_0 0 rfl rfl)
theorem dX8_crowd_1 : decode cX8_crowd 1 = .ok (.iload_n 1, 1) := dk_27 (dk_at dksX8_crowd_0 1 rfl rfl)
theorem dX8_crowd_2 : decode cX8_crowd 2 = .ok (.invokevirtual 413, 3) := dk_182 1 157 (dk_at dksX8_crowd_0 2 rfl rfl)
theorem dX8_crowd_5 : decode cX8_crowd 5 = .ok (.ifCond .eq 12, 3) := dk_153 0 12 (dk_at dksX8_crowd_0 5 rfl rfl)
theorem dX8_crowd_8 : decode cX8_crowd 8 = .ok (.iload_n 2, 1) := dk_28 (dk_at dksX8_crowd_0 8 rfl rfl)
theorem dX8_crowd_9 : decode cX8_crowd 9 = .ok (.iconst 0, 1) := dk_3 (dk_at dksX8_crowd_0 9 rfl rfl)
theorem dX8_crowd_10 : decode cX8_crowd 10 = .ok (.iconst 1, 1) := dk_4 (dk_at dksX8_crowd_0 10 rfl rfl)
theorem dX8_crowd_11 : decode cX8_crowd 11 = .ok (.invokestatic 341, 3) := dk_184 1 85 (dk_at dksX8_crowd_0 11 rfl rfl)
theorem dX8_crowd_14 : decode cX8_crowd 14 = .ok (.ifCond .ne 5, 3) := dk_154 0 5 (dk_at dksX8_crowd_0 14 rfl rfl)
theorem dX8_crowd_17 : decode cX8_crowd 17 = .ok (.iconst (-1), 1) := dk_2 (dk_at dksX8_crowd_0 17 rfl rfl)
theorem dX8_crowd_18 : decode cX8_crowd 18 = .ok (.ireturn, 1) := dk_172 (dk_at dksX8_crowd_0 18 rfl rfl)
theorem dX8_crowd_19 : decode cX8_crowd 19 = .ok (.aload_n 0, 1) := dk_42 (dk_at dksX8_crowd_0 19 rfl rfl)
theorem dX8_crowd_20 : decode cX8_crowd 20 = .ok (.getfield 49, 3) := dk_180 0 49 (dk_at dksX8_crowd_0 20 rfl rfl)
theorem dX8_crowd_23 : decode cX8_crowd 23 = .ok (.aload_n 0, 1) := dk_42 (dk_at dksX8_crowd_0 23 rfl rfl)
theorem dX8_crowd_24 : decode cX8_crowd 24 = .ok (.getfield 257, 3) := dk_180 1 1 (dk_at dksX8_crowd_1 0 rfl rfl)
theorem dX8_crowd_27 : decode cX8_crowd 27 = .ok (.iaload, 1) := dk_46 (dk_at dksX8_crowd_1 3 rfl rfl)
theorem dX8_crowd_28 : decode cX8_crowd 28 = .ok (.ifCond .ne 6, 3) := dk_154 0 6 (dk_at dksX8_crowd_1 4 rfl rfl)
theorem dX8_crowd_31 : decode cX8_crowd 31 = .ok (.bipush (-2), 2) := dk_16 254 (dk_at dksX8_crowd_1 7 rfl rfl)
theorem dX8_crowd_33 : decode cX8_crowd 33 = .ok (.ireturn, 1) := dk_172 (dk_at dksX8_crowd_1 9 rfl rfl)
theorem dX8_crowd_34 : decode cX8_crowd 34 = .ok (.aload_n 0, 1) := dk_42 (dk_at dksX8_crowd_1 10 rfl rfl)
theorem dX8_crowd_35 : decode cX8_crowd 35 = .ok (.invokevirtual 419, 3) := dk_182 1 163 (dk_at dksX8_crowd_1 11 rfl rfl)
theorem dX8_crowd_38 : decode cX8_crowd 38 = .ok (.iconst 0, 1) := dk_3 (dk_at dksX8_crowd_1 14 rfl rfl)
theorem dX8_crowd_39 : decode cX8_crowd 39 = .ok (.istore_n 3, 1) := dk_62 (dk_at dksX8_crowd_1 15 rfl rfl)
theorem dX8_crowd_40 : decode cX8_crowd 40 = .ok (.iconst 1, 1) := dk_4 (dk_at dksX8_crowd_1 16 rfl rfl)
theorem dX8_crowd_41 : decode cX8_crowd 41 = .ok (.istore 4, 2) := dk_54 4 (dk_at dksX8_crowd_1 17 rfl rfl)
theorem dX8_crowd_43 : decode cX8_crowd 43 = .ok (.iload 4, 2) := dk_21 4 (dk_at dksX8_crowd_1 19 rfl rfl)
theorem dX8_crowd_45 : decode cX8_crowd 45 = .ok (.aload_n 0, 1) := dk_42 (dk_at dksX8_crowd_1 21 rfl rfl)
theorem dX8_crowd_46 : decode cX8_crowd 46 = .ok (.getfield 49, 3) := dk_180 0 49 (dk_at dksX8_crowd_2 0 rfl rfl)
theorem dX8_crowd_49 : decode cX8_crowd 49 = .ok (.aload_n 0, 1) := dk_42 (dk_at dksX8_crowd_2 3 rfl rfl)
theorem dX8_crowd_50 : decode cX8_crowd 50 = .ok (.getfield 257, 3) := dk_180 1 1 (dk_at dksX8_crowd_2 4 rfl rfl)
theorem dX8_crowd_53 : decode cX8_crowd 53 = .ok (.iaload, 1) := dk_46 (dk_at dksX8_crowd_2 7 rfl rfl)
theorem dX8_crowd_54 : decode cX8_crowd 54 = .ok (.if_icmp .ge 34, 3) := dk_162 0 34 (dk_at dksX8_crowd_2 8 rfl rfl)
theorem dX8_crowd_57 : decode cX8_crowd 57 = .ok (.aload_n 0, 1) := dk_42 (dk_at dksX8_crowd_2 11 rfl rfl)
theorem dX8_crowd_58 : decode cX8_crowd 58 = .ok (.iload 4, 2) := dk_21 4 (dk_at dksX8_crowd_2 12 rfl rfl)
theorem dX8_crowd_60 : decode cX8_crowd 60 = .ok (.iload_n 1, 1) := dk_27 (dk_at dksX8_crowd_2 14 rfl rfl)
theorem dX8_crowd_61 : decode cX8_crowd 61 = .ok (.invokevirtual 366, 3) := dk_182 1 110 (dk_at dksX8_crowd_2 15 rfl rfl)
theorem dX8_crowd_64 : decode cX8_crowd 64 = .ok (.invokestatic 369, 3) := dk_184 1 113 (dk_at dksX8_crowd_2 18 rfl rfl)
theorem dX8_crowd_67 : decode cX8_crowd 67 = .ok (.aload_n 0, 1) := dk_42 (dk_at dksX8_crowd_2 21 rfl rfl)
theorem dX8_crowd_68 : decode cX8_crowd 68 = .ok (.iload_n 3, 1) := dk_29 (dk_at dksX8_crowd_2 22 rfl rfl)
theorem dX8_crowd_69 : decode cX8_crowd 69 = .ok (.iload_n 1, 1) := dk_27 (dk_at dksX8_crowd_2 23 rfl rfl)
theorem dX8_crowd_70 : decode cX8_crowd 70 = .ok (.invokevirtual 366, 3) := dk_182 1 110 (dk_at dksX8_crowd_3 0 rfl rfl)
theorem dX8_crowd_73 : decode cX8_crowd 73 = .ok (.invokestatic 369, 3) := dk_184 1 113 (dk_at dksX8_crowd_3 3 rfl rfl)
theorem dX8_crowd_76 : decode cX8_crowd 76 = .ok (.if_icmp .le 6, 3) := dk_164 0 6 (dk_at dksX8_crowd_3 6 rfl rfl)
theorem dX8_crowd_79 : decode cX8_crowd 79 = .ok (.iload 4, 2) := dk_21 4 (dk_at dksX8_crowd_3 9 rfl rfl)
theorem dX8_crowd_81 : decode cX8_crowd 81 = .ok (.istore_n 3, 1) := dk_62 (dk_at dksX8_crowd_3 11 rfl rfl)
theorem dX8_crowd_82 : decode cX8_crowd 82 = .ok (.iinc 4 1, 3) := dk_132 4 1 (dk_at dksX8_crowd_3 12 rfl rfl)
theorem dX8_crowd_85 : decode cX8_crowd 85 = .ok (.goto (-42), 3) := dk_167 255 214 (dk_at dksX8_crowd_3 15 rfl rfl)
theorem dX8_crowd_88 : decode cX8_crowd 88 = .ok (.iload_n 2, 1) := dk_28 (dk_at dksX8_crowd_3 18 rfl rfl)
theorem dX8_crowd_89 : decode cX8_crowd 89 = .ok (.ifCond .ne 7, 3) := dk_154 0 7 (dk_at dksX8_crowd_3 19 rfl rfl)
theorem dX8_crowd_92 : decode cX8_crowd 92 = .ok (.iload_n 3, 1) := dk_29 (dk_at dksX8_crowd_3 22 rfl rfl)
theorem dX8_crowd_93 : decode cX8_crowd 93 = .ok (.goto 12, 3) := dk_167 0 12 (dk_at dksX8_crowd_4 0 rfl rfl)
theorem dX8_crowd_96 : decode cX8_crowd 96 = .ok (.aload_n 0, 1) := dk_42 (dk_at dksX8_crowd_4 3 rfl rfl)
theorem dX8_crowd_97 : decode cX8_crowd 97 = .ok (.iload_n 3, 1) := dk_29 (dk_at dksX8_crowd_4 4 rfl rfl)
theorem dX8_crowd_98 : decode cX8_crowd 98 = .ok (.iload_n 1, 1) := dk_27 (dk_at dksX8_crowd_4 5 rfl rfl)
theorem dX8_crowd_99 : decode cX8_crowd 99 = .ok (.invokevirtual 366, 3) := dk_182 1 110 (dk_at dksX8_crowd_4 6 rfl rfl)
theorem dX8_crowd_102 : decode cX8_crowd 102 = .ok (.invokestatic 369, 3) := dk_184 1 113 (dk_at dksX8_crowd_4 9 rfl rfl)
theorem dX8_crowd_105 : decode cX8_crowd 105 = .ok (.ireturn, 1) := dk_172 (dk_at dksX8_crowd_4 12 rfl rfl)
abbrev cX8_ghosts : ByteArray := prog_19_method_91_code
def yX8_ghosts : MethodName := ⟨RX8, "ghosts", "(I)I"⟩
def dkwX8_ghosts_4 : List UInt8 := [167, 255, 180, 28, 172]
abbrev dktX8_ghosts_4 : List UInt8 := dkwX8_ghosts_4 ++ []
def dkwX8_ghosts_3 : List UInt8 := [42, 29, 21, 4, 182, 1, 136, 42, 180, 1, 92, 182, 1, 110, 2, 130, 126, 128, 61, 132, 3, 1]
abbrev dktX8_ghosts_3 : List UInt8 := dkwX8_ghosts_3 ++ dktX8_ghosts_4
def dkwX8_ghosts_2 : List UInt8 := [29, 42, 180, 1, 92, 182, 1, 139, 54, 4, 21, 4, 155, 0, 31, 28, 42, 29, 21, 4, 182, 1, 166, 42]
abbrev dktX8_ghosts_2 : List UInt8 := dkwX8_ghosts_2 ++ dktX8_ghosts_3
def dkwX8_ghosts_1 : List UInt8 := [180, 1, 1, 46, 162, 0, 69, 42, 29, 42, 180, 1, 92, 182, 1, 136, 27, 159, 0, 6, 167, 0, 47, 42]
abbrev dktX8_ghosts_1 : List UInt8 := dkwX8_ghosts_1 ++ dktX8_ghosts_2
def dkwX8_ghosts_0 : List UInt8 := [42, 27, 182, 1, 181, 154, 0, 5, 2, 172, 42, 182, 1, 163, 3, 61, 3, 62, 29, 42, 180, 0, 70, 42]
abbrev dktX8_ghosts_0 : List UInt8 := dkwX8_ghosts_0 ++ dktX8_ghosts_1
theorem dksX8_ghosts_0 : cX8_ghosts.data.toList.drop 0 = dktX8_ghosts_0 := by decide +kernel
theorem dksX8_ghosts_1 : cX8_ghosts.data.toList.drop 24 = dktX8_ghosts_1 := dk_seg dksX8_ghosts_0 24 rfl rfl
theorem dksX8_ghosts_2 : cX8_ghosts.data.toList.drop 48 = dktX8_ghosts_2 := dk_seg dksX8_ghosts_1 24 rfl rfl
theorem dksX8_ghosts_3 : cX8_ghosts.data.toList.drop 72 = dktX8_ghosts_3 := dk_seg dksX8_ghosts_2 24 rfl rfl
theorem dksX8_ghosts_4 : cX8_ghosts.data.toList.drop 94 = dktX8_ghosts_4 := dk_seg dksX8_ghosts_3 22 rfl rfl
theorem dX8_ghosts_0 : decode cX8_ghosts 0 = .ok (.aload_n 0, 1) := dk_42 (dk_at dksX8_ghosts_0 0 rfl rfl)
theorem dX8_ghosts_1 : decode cX8_ghosts 1 = .ok (.iload_n 1, 1) := dk_27 (dk_at dksX8_ghosts_0 1 rfl rfl)
theorem dX8_ghosts_2 : decode cX8_ghosts 2 = .ok (.invokevirtual 437, 3) := dk_182 1 181 (dk_at dksX8_ghosts_0 2 rfl rfl)
theorem dX8_ghosts_5 : decode cX8_ghosts 5 = .ok (.ifCond .ne 5, 3) := dk_154 0 5 (dk_at dksX8_ghosts_0 5 rfl rfl)
theorem dX8_ghosts_8 : decode cX8_ghosts 8 = .ok (.iconst (-1), 1) := dk_2 (dk_at dksX8_ghosts_0 8 rfl rfl)
theorem dX8_ghosts_9 : decode cX8_ghosts 9 = .ok (.ireturn, 1) := dk_172 (dk_at dksX8_ghosts_0 9 rfl rfl)
theorem dX8_ghosts_10 : decode cX8_ghosts 10 = .ok (.aload_n 0, 1) := dk_42 (dk_at dksX8_ghosts_0 10 rfl rfl)
theorem dX8_ghosts_11 : decode cX8_ghosts 11 = .ok (.invokevirtual 419, 3) := dk_182 1 163 (dk_at dksX8_ghosts_0 11 rfl rfl)
theorem dX8_ghosts_14 : decode cX8_ghosts 14 = .ok (.iconst 0, 1) := dk_3 (dk_at dksX8_ghosts_0 14 rfl rfl)
theorem dX8_ghosts_15 : decode cX8_ghosts 15 = .ok (.istore_n 2, 1) := dk_61 (dk_at dksX8_ghosts_0 15 rfl rfl)
theorem dX8_ghosts_16 : decode cX8_ghosts 16 = .ok (.iconst 0, 1) := dk_3 (dk_at dksX8_ghosts_0 16 rfl rfl)
theorem dX8_ghosts_17 : decode cX8_ghosts 17 = .ok (.istore_n 3, 1) := dk_62 (dk_at dksX8_ghosts_0 17 rfl rfl)
theorem dX8_ghosts_18 : decode cX8_ghosts 18 = .ok (.iload_n 3, 1) := dk_29 (dk_at dksX8_ghosts_0 18 rfl rfl)
theorem dX8_ghosts_19 : decode cX8_ghosts 19 = .ok (.aload_n 0, 1) := dk_42 (dk_at dksX8_ghosts_0 19 rfl rfl)
theorem dX8_ghosts_20 : decode cX8_ghosts 20 = .ok (.getfield 70, 3) := dk_180 0 70 (dk_at dksX8_ghosts_0 20 rfl rfl)
theorem dX8_ghosts_23 : decode cX8_ghosts 23 = .ok (.aload_n 0, 1) := dk_42 (dk_at dksX8_ghosts_0 23 rfl rfl)
theorem dX8_ghosts_24 : decode cX8_ghosts 24 = .ok (.getfield 257, 3) := dk_180 1 1 (dk_at dksX8_ghosts_1 0 rfl rfl)
theorem dX8_ghosts_27 : decode cX8_ghosts 27 = .ok (.iaload, 1) := dk_46 (dk_at dksX8_ghosts_1 3 rfl rfl)
theorem dX8_ghosts_28 : decode cX8_ghosts 28 = .ok (.if_icmp .ge 69, 3) := dk_162 0 69 (dk_at dksX8_ghosts_1 4 rfl rfl)
theorem dX8_ghosts_31 : decode cX8_ghosts 31 = .ok (.aload_n 0, 1) := dk_42 (dk_at dksX8_ghosts_1 7 rfl rfl)
theorem dX8_ghosts_32 : decode cX8_ghosts 32 = .ok (.iload_n 3, 1) := dk_29 (dk_at dksX8_ghosts_1 8 rfl rfl)
theorem dX8_ghosts_33 : decode cX8_ghosts 33 = .ok (.aload_n 0, 1) := dk_42 (dk_at dksX8_ghosts_1 9 rfl rfl)
theorem dX8_ghosts_34 : decode cX8_ghosts 34 = .ok (.getfield 348, 3) := dk_180 1 92 (dk_at dksX8_ghosts_1 10 rfl rfl)
theorem dX8_ghosts_37 : decode cX8_ghosts 37 = .ok (.invokevirtual 392, 3) := dk_182 1 136 (dk_at dksX8_ghosts_1 13 rfl rfl)
theorem dX8_ghosts_40 : decode cX8_ghosts 40 = .ok (.iload_n 1, 1) := dk_27 (dk_at dksX8_ghosts_1 16 rfl rfl)
theorem dX8_ghosts_41 : decode cX8_ghosts 41 = .ok (.if_icmp .eq 6, 3) := dk_159 0 6 (dk_at dksX8_ghosts_1 17 rfl rfl)
theorem dX8_ghosts_44 : decode cX8_ghosts 44 = .ok (.goto 47, 3) := dk_167 0 47 (dk_at dksX8_ghosts_1 20 rfl rfl)
theorem dX8_ghosts_47 : decode cX8_ghosts 47 = .ok (.aload_n 0, 1) := dk_42 (dk_at dksX8_ghosts_1 23 rfl rfl)
theorem dX8_ghosts_48 : decode cX8_ghosts 48 = .ok (.iload_n 3, 1) := dk_29 (dk_at dksX8_ghosts_2 0 rfl rfl)
theorem dX8_ghosts_49 : decode cX8_ghosts 49 = .ok (.aload_n 0, 1) := dk_42 (dk_at dksX8_ghosts_2 1 rfl rfl)
theorem dX8_ghosts_50 : decode cX8_ghosts 50 = .ok (.getfield 348, 3) := dk_180 1 92 (dk_at dksX8_ghosts_2 2 rfl rfl)
theorem dX8_ghosts_53 : decode cX8_ghosts 53 = .ok (.invokevirtual 395, 3) := dk_182 1 139 (dk_at dksX8_ghosts_2 5 rfl rfl)
theorem dX8_ghosts_56 : decode cX8_ghosts 56 = .ok (.istore 4, 2) := dk_54 4 (dk_at dksX8_ghosts_2 8 rfl rfl)
theorem dX8_ghosts_58 : decode cX8_ghosts 58 = .ok (.iload 4, 2) := dk_21 4 (dk_at dksX8_ghosts_2 10 rfl rfl)
theorem dX8_ghosts_60 : decode cX8_ghosts 60 = .ok (.ifCond .lt 31, 3) := dk_155 0 31 (dk_at dksX8_ghosts_2 12 rfl rfl)
theorem dX8_ghosts_63 : decode cX8_ghosts 63 = .ok (.iload_n 2, 1) := dk_28 (dk_at dksX8_ghosts_2 15 rfl rfl)
theorem dX8_ghosts_64 : decode cX8_ghosts 64 = .ok (.aload_n 0, 1) := dk_42 (dk_at dksX8_ghosts_2 16 rfl rfl)
theorem dX8_ghosts_65 : decode cX8_ghosts 65 = .ok (.iload_n 3, 1) := dk_29 (dk_at dksX8_ghosts_2 17 rfl rfl)
theorem dX8_ghosts_66 : decode cX8_ghosts 66 = .ok (.iload 4, 2) := dk_21 4 (dk_at dksX8_ghosts_2 18 rfl rfl)
theorem dX8_ghosts_68 : decode cX8_ghosts 68 = .ok (.invokevirtual 422, 3) := dk_182 1 166 (dk_at dksX8_ghosts_2 20 rfl rfl)
theorem dX8_ghosts_71 : decode cX8_ghosts 71 = .ok (.aload_n 0, 1) := dk_42 (dk_at dksX8_ghosts_2 23 rfl rfl)
theorem dX8_ghosts_72 : decode cX8_ghosts 72 = .ok (.aload_n 0, 1) := dk_42 (dk_at dksX8_ghosts_3 0 rfl rfl)
theorem dX8_ghosts_73 : decode cX8_ghosts 73 = .ok (.iload_n 3, 1) := dk_29 (dk_at dksX8_ghosts_3 1 rfl rfl)
theorem dX8_ghosts_74 : decode cX8_ghosts 74 = .ok (.iload 4, 2) := dk_21 4 (dk_at dksX8_ghosts_3 2 rfl rfl)
theorem dX8_ghosts_76 : decode cX8_ghosts 76 = .ok (.invokevirtual 392, 3) := dk_182 1 136 (dk_at dksX8_ghosts_3 4 rfl rfl)
theorem dX8_ghosts_79 : decode cX8_ghosts 79 = .ok (.aload_n 0, 1) := dk_42 (dk_at dksX8_ghosts_3 7 rfl rfl)
theorem dX8_ghosts_80 : decode cX8_ghosts 80 = .ok (.getfield 348, 3) := dk_180 1 92 (dk_at dksX8_ghosts_3 8 rfl rfl)
theorem dX8_ghosts_83 : decode cX8_ghosts 83 = .ok (.invokevirtual 366, 3) := dk_182 1 110 (dk_at dksX8_ghosts_3 11 rfl rfl)
theorem dX8_ghosts_86 : decode cX8_ghosts 86 = .ok (.iconst (-1), 1) := dk_2 (dk_at dksX8_ghosts_3 14 rfl rfl)
theorem dX8_ghosts_87 : decode cX8_ghosts 87 = .ok (.ixor, 1) := dk_130 (dk_at dksX8_ghosts_3 15 rfl rfl)
theorem dX8_ghosts_88 : decode cX8_ghosts 88 = .ok (.iand, 1) := dk_126 (dk_at dksX8_ghosts_3 16 rfl rfl)
theorem dX8_ghosts_89 : decode cX8_ghosts 89 = .ok (.ior, 1) := dk_128 (dk_at dksX8_ghosts_3 17 rfl rfl)
theorem dX8_ghosts_90 : decode cX8_ghosts 90 = .ok (.istore_n 2, 1) := dk_61 (dk_at dksX8_ghosts_3 18 rfl rfl)
theorem dX8_ghosts_91 : decode cX8_ghosts 91 = .ok (.iinc 3 1, 3) := dk_132 3 1 (dk_at dksX8_ghosts_3 19 rfl rfl)
theorem dX8_ghosts_94 : decode cX8_ghosts 94 = .ok (.goto (-76), 3) := dk_167 255 180 (dk_at dksX8_ghosts_4 0 rfl rfl)
theorem dX8_ghosts_97 : decode cX8_ghosts 97 = .ok (.iload_n 2, 1) := dk_28 (dk_at dksX8_ghosts_4 3 rfl rfl)
theorem dX8_ghosts_98 : decode cX8_ghosts 98 = .ok (.ireturn, 1) := dk_172 (dk_at dksX8_ghosts_4 4 rfl rfl)
abbrev cX8_oldest : ByteArray := prog_19_method_92_code
def yX8_oldest : MethodName := ⟨RX8, "oldest", "(I)I"⟩
def dkwX8_oldest_3 : List UInt8 := [21, 5, 62, 132, 4, 1, 167, 255, 203, 27, 154, 0, 7, 28, 167, 0, 4, 29, 172]
abbrev dktX8_oldest_3 : List UInt8 := dkwX8_oldest_3 ++ []
def dkwX8_oldest_2 : List UInt8 := [54, 5, 21, 5, 155, 0, 22, 28, 155, 0, 12, 21, 5, 29, 161, 0, 6, 167, 0, 9, 21, 4, 61]
abbrev dktX8_oldest_2 : List UInt8 := dkwX8_oldest_2 ++ dktX8_oldest_3
def dkwX8_oldest_1 : List UInt8 := [21, 4, 42, 180, 0, 70, 42, 180, 1, 1, 46, 162, 0, 45, 42, 21, 4, 42, 180, 1, 92, 182, 1, 139]
abbrev dktX8_oldest_1 : List UInt8 := dkwX8_oldest_1 ++ dktX8_oldest_2
def dkwX8_oldest_0 : List UInt8 := [27, 3, 4, 184, 1, 85, 154, 0, 5, 2, 172, 42, 182, 1, 163, 16, 254, 61, 16, 254, 62, 3, 54, 4]
abbrev dktX8_oldest_0 : List UInt8 := dkwX8_oldest_0 ++ dktX8_oldest_1
theorem dksX8_oldest_0 : cX8_oldest.data.toList.drop 0 = dktX8_oldest_0 := by decide +kernel
theorem dksX8_oldest_1 : cX8_oldest.data.toList.drop 24 = dktX8_oldest_1 := dk_seg dksX8_oldest_0 24 rfl rfl
theorem dksX8_oldest_2 : cX8_oldest.data.toList.drop 48 = dktX8_oldest_2 := dk_seg dksX8_oldest_1 24 rfl rfl
theorem dksX8_oldest_3 : cX8_oldest.data.toList.drop 71 = dktX8_oldest_3 := dk_seg dksX8_oldest_2 23 rfl rfl
theorem dX8_oldest_0 : decode cX8_oldest 0 = .ok (.iload_n 1, 1) := dk_27 (dk_at dksX8_oldest_0 0 rfl rfl)
theorem dX8_oldest_1 : decode cX8_oldest 1 = .ok (.iconst 0, 1) := dk_3 (dk_at dksX8_oldest_0 1 rfl rfl)
theorem dX8_oldest_2 : decode cX8_oldest 2 = .ok (.iconst 1, 1) := dk_4 (dk_at dksX8_oldest_0 2 rfl rfl)
theorem dX8_oldest_3 : decode cX8_oldest 3 = .ok (.invokestatic 341, 3) := dk_184 1 85 (dk_at dksX8_oldest_0 3 rfl rfl)
theorem dX8_oldest_6 : decode cX8_oldest 6 = .ok (.ifCond .ne 5, 3) := dk_154 0 5 (dk_at dksX8_oldest_0 6 rfl rfl)
theorem dX8_oldest_9 : decode cX8_oldest 9 = .ok (.iconst (-1), 1) := dk_2 (dk_at dksX8_oldest_0 9 rfl rfl)
theorem dX8_oldest_10 : decode cX8_oldest 10 = .ok (.ireturn, 1) := dk_172 (dk_at dksX8_oldest_0 10 rfl rfl)
theorem dX8_oldest_11 : decode cX8_oldest 11 = .ok (.aload_n 0, 1) := dk_42 (dk_at dksX8_oldest_0 11 rfl rfl)
theorem dX8_oldest_12 : decode cX8_oldest 12 = .ok (.invokevirtual 419, 3) := dk_182 1 163 (dk_at dksX8_oldest_0 12 rfl rfl)
theorem dX8_oldest_15 : decode cX8_oldest 15 = .ok (.bipush (-2), 2) := dk_16 254 (dk_at dksX8_oldest_0 15 rfl rfl)
theorem dX8_oldest_17 : decode cX8_oldest 17 = .ok (.istore_n 2, 1) := dk_61 (dk_at dksX8_oldest_0 17 rfl rfl)
theorem dX8_oldest_18 : decode cX8_oldest 18 = .ok (.bipush (-2), 2) := dk_16 254 (dk_at dksX8_oldest_0 18 rfl rfl)
theorem dX8_oldest_20 : decode cX8_oldest 20 = .ok (.istore_n 3, 1) := dk_62 (dk_at dksX8_oldest_0 20 rfl rfl)
theorem dX8_oldest_21 : decode cX8_oldest 21 = .ok (.iconst 0, 1) := dk_3 (dk_at dksX8_oldest_0 21 rfl rfl)
theorem dX8_oldest_22 : decode cX8_oldest 22 = .ok (.istore 4, 2) := dk_54 4 (dk_at dksX8_oldest_0 22 rfl rfl)
theorem dX8_oldest_24 : decode cX8_oldest 24 = .ok (.iload 4, 2) := dk_21 4 (dk_at dksX8_oldest_1 0 rfl rfl)
theorem dX8_oldest_26 : decode cX8_oldest 26 = .ok (.aload_n 0, 1) := dk_42 (dk_at dksX8_oldest_1 2 rfl rfl)
theorem dX8_oldest_27 : decode cX8_oldest 27 = .ok (.getfield 70, 3) := dk_180 0 70 (dk_at dksX8_oldest_1 3 rfl rfl)
theorem dX8_oldest_30 : decode cX8_oldest 30 = .ok (.aload_n 0, 1) := dk_42 (dk_at dksX8_oldest_1 6 rfl rfl)
theorem dX8_oldest_31 : decode cX8_oldest 31 = .ok (.getfield 257, 3) := dk_180 1 1 (dk_at dksX8_oldest_1 7 rfl rfl)
theorem dX8_oldest_34 : decode cX8_oldest 34 = .ok (.iaload, 1) := dk_46 (dk_at dksX8_oldest_1 10 rfl rfl)
theorem dX8_oldest_35 : decode cX8_oldest 35 = .ok (.if_icmp .ge 45, 3) := dk_162 0 45 (dk_at dksX8_oldest_1 11 rfl rfl)
theorem dX8_oldest_38 : decode cX8_oldest 38 = .ok (.aload_n 0, 1) := dk_42 (dk_at dksX8_oldest_1 14 rfl rfl)
theorem dX8_oldest_39 : decode cX8_oldest 39 = .ok (.iload 4, 2) := dk_21 4 (dk_at dksX8_oldest_1 15 rfl rfl)
theorem dX8_oldest_41 : decode cX8_oldest 41 = .ok (.aload_n 0, 1) := dk_42 (dk_at dksX8_oldest_1 17 rfl rfl)
theorem dX8_oldest_42 : decode cX8_oldest 42 = .ok (.getfield 348, 3) := dk_180 1 92 (dk_at dksX8_oldest_1 18 rfl rfl)
theorem dX8_oldest_45 : decode cX8_oldest 45 = .ok (.invokevirtual 395, 3) := dk_182 1 139 (dk_at dksX8_oldest_1 21 rfl rfl)
theorem dX8_oldest_48 : decode cX8_oldest 48 = .ok (.istore 5, 2) := dk_54 5 (dk_at dksX8_oldest_2 0 rfl rfl)
theorem dX8_oldest_50 : decode cX8_oldest 50 = .ok (.iload 5, 2) := dk_21 5 (dk_at dksX8_oldest_2 2 rfl rfl)
theorem dX8_oldest_52 : decode cX8_oldest 52 = .ok (.ifCond .lt 22, 3) := dk_155 0 22 (dk_at dksX8_oldest_2 4 rfl rfl)
theorem dX8_oldest_55 : decode cX8_oldest 55 = .ok (.iload_n 2, 1) := dk_28 (dk_at dksX8_oldest_2 7 rfl rfl)
theorem dX8_oldest_56 : decode cX8_oldest 56 = .ok (.ifCond .lt 12, 3) := dk_155 0 12 (dk_at dksX8_oldest_2 8 rfl rfl)
theorem dX8_oldest_59 : decode cX8_oldest 59 = .ok (.iload 5, 2) := dk_21 5 (dk_at dksX8_oldest_2 11 rfl rfl)
theorem dX8_oldest_61 : decode cX8_oldest 61 = .ok (.iload_n 3, 1) := dk_29 (dk_at dksX8_oldest_2 13 rfl rfl)
theorem dX8_oldest_62 : decode cX8_oldest 62 = .ok (.if_icmp .lt 6, 3) := dk_161 0 6 (dk_at dksX8_oldest_2 14 rfl rfl)
theorem dX8_oldest_65 : decode cX8_oldest 65 = .ok (.goto 9, 3) := dk_167 0 9 (dk_at dksX8_oldest_2 17 rfl rfl)
theorem dX8_oldest_68 : decode cX8_oldest 68 = .ok (.iload 4, 2) := dk_21 4 (dk_at dksX8_oldest_2 20 rfl rfl)
theorem dX8_oldest_70 : decode cX8_oldest 70 = .ok (.istore_n 2, 1) := dk_61 (dk_at dksX8_oldest_2 22 rfl rfl)
theorem dX8_oldest_71 : decode cX8_oldest 71 = .ok (.iload 5, 2) := dk_21 5 (dk_at dksX8_oldest_3 0 rfl rfl)
theorem dX8_oldest_73 : decode cX8_oldest 73 = .ok (.istore_n 3, 1) := dk_62 (dk_at dksX8_oldest_3 2 rfl rfl)
theorem dX8_oldest_74 : decode cX8_oldest 74 = .ok (.iinc 4 1, 3) := dk_132 4 1 (dk_at dksX8_oldest_3 3 rfl rfl)
theorem dX8_oldest_77 : decode cX8_oldest 77 = .ok (.goto (-53), 3) := dk_167 255 203 (dk_at dksX8_oldest_3 6 rfl rfl)
theorem dX8_oldest_80 : decode cX8_oldest 80 = .ok (.iload_n 1, 1) := dk_27 (dk_at dksX8_oldest_3 9 rfl rfl)
theorem dX8_oldest_81 : decode cX8_oldest 81 = .ok (.ifCond .ne 7, 3) := dk_154 0 7 (dk_at dksX8_oldest_3 10 rfl rfl)
theorem dX8_oldest_84 : decode cX8_oldest 84 = .ok (.iload_n 2, 1) := dk_28 (dk_at dksX8_oldest_3 13 rfl rfl)
theorem dX8_oldest_85 : decode cX8_oldest 85 = .ok (.goto 4, 3) := dk_167 0 4 (dk_at dksX8_oldest_3 14 rfl rfl)
theorem dX8_oldest_88 : decode cX8_oldest 88 = .ok (.iload_n 3, 1) := dk_29 (dk_at dksX8_oldest_3 17 rfl rfl)
theorem dX8_oldest_89 : decode cX8_oldest 89 = .ok (.ireturn, 1) := dk_172 (dk_at dksX8_oldest_3 18 rfl rfl)
abbrev cX8_shown : ByteArray := prog_19_method_93_code
def yX8_shown : MethodName := ⟨RX8, "shown", "(IZ)I"⟩
def dkwX8_shown_6 : List UInt8 := [21, 6, 46, 4, 164, 0, 6, 132, 5, 1, 132, 6, 1, 167, 255, 215, 21, 5, 172]
abbrev dktX8_shown_6 : List UInt8 := dkwX8_shown_6 ++ []
def dkwX8_shown_5 : List UInt8 := [163, 0, 40, 28, 153, 0, 16, 42, 180, 0, 149, 21, 6, 46, 154, 0, 20, 167, 0, 14, 42, 180, 0, 149]
abbrev dktX8_shown_5 : List UInt8 := dkwX8_shown_5 ++ dktX8_shown_6
def dkwX8_shown_4 : List UInt8 := [164, 0, 7, 21, 6, 54, 4, 132, 5, 1, 167, 255, 196, 3, 54, 5, 29, 54, 6, 21, 6, 21, 4]
abbrev dktX8_shown_4 : List UInt8 := dkwX8_shown_4 ++ dktX8_shown_5
def dkwX8_shown_3 : List UInt8 := [42, 180, 0, 149, 21, 6, 92, 46, 4, 96, 79, 21, 6, 29, 162, 0, 6, 21, 6, 62, 21, 6, 21, 4]
abbrev dktX8_shown_3 : List UInt8 := dkwX8_shown_3 ++ dktX8_shown_4
def dkwX8_shown_2 : List UInt8 := [42, 180, 1, 92, 163, 0, 57, 42, 27, 21, 5, 182, 1, 139, 54, 6, 21, 6, 156, 0, 6, 167, 0, 34]
abbrev dktX8_shown_2 : List UInt8 := dkwX8_shown_2 ++ dktX8_shown_3
def dkwX8_shown_1 : List UInt8 := [180, 0, 149, 29, 3, 79, 132, 3, 1, 167, 255, 239, 17, 1, 44, 62, 2, 54, 4, 3, 54, 5, 21, 5]
abbrev dktX8_shown_1 : List UInt8 := dkwX8_shown_1 ++ dktX8_shown_2
def dkwX8_shown_0 : List UInt8 := [42, 27, 182, 1, 160, 154, 0, 5, 2, 172, 42, 182, 1, 163, 3, 62, 29, 17, 1, 44, 162, 0, 16, 42]
abbrev dktX8_shown_0 : List UInt8 := dkwX8_shown_0 ++ dktX8_shown_1
theorem dksX8_shown_0 : cX8_shown.data.toList.drop 0 = dktX8_shown_0 := by decide +kernel
theorem dksX8_shown_1 : cX8_shown.data.toList.drop 24 = dktX8_shown_1 := dk_seg dksX8_shown_0 24 rfl rfl
theorem dksX8_shown_2 : cX8_shown.data.toList.drop 48 = dktX8_shown_2 := dk_seg dksX8_shown_1 24 rfl rfl
theorem dksX8_shown_3 : cX8_shown.data.toList.drop 72 = dktX8_shown_3 := dk_seg dksX8_shown_2 24 rfl rfl
theorem dksX8_shown_4 : cX8_shown.data.toList.drop 96 = dktX8_shown_4 := dk_seg dksX8_shown_3 24 rfl rfl
theorem dksX8_shown_5 : cX8_shown.data.toList.drop 119 = dktX8_shown_5 := dk_seg dksX8_shown_4 23 rfl rfl
theorem dksX8_shown_6 : cX8_shown.data.toList.drop 143 = dktX8_shown_6 := dk_seg dksX8_shown_5 24 rfl rfl
theorem dX8_shown_0 : decode cX8_shown 0 = .ok (.aload_n 0, 1) := dk_42 (dk_at dksX8_shown_0 0 rfl rfl)
theorem dX8_shown_1 : decode cX8_shown 1 = .ok (.iload_n 1, 1) := dk_27 (dk_at dksX8_shown_0 1 rfl rfl)
theorem dX8_shown_2 : decode cX8_shown 2 = .ok (.invokevirtual 416, 3) := dk_182 1 160 (dk_at dksX8_shown_0 2 rfl rfl)
theorem dX8_shown_5 : decode cX8_shown 5 = .ok (.ifCond .ne 5, 3) := dk_154 0 5 (dk_at dksX8_shown_0 5 rfl rfl)
theorem dX8_shown_8 : decode cX8_shown 8 = .ok (.iconst (-1), 1) := dk_2 (dk_at dksX8_shown_0 8 rfl rfl)
theorem dX8_shown_9 : decode cX8_shown 9 = .ok (.ireturn, 1) := dk_172 (dk_at dksX8_shown_0 9 rfl rfl)
theorem dX8_shown_10 : decode cX8_shown 10 = .ok (.aload_n 0, 1) := dk_42 (dk_at dksX8_shown_0 10 rfl rfl)
theorem dX8_shown_11 : decode cX8_shown 11 = .ok (.invokevirtual 419, 3) := dk_182 1 163 (dk_at dksX8_shown_0 11 rfl rfl)
theorem dX8_shown_14 : decode cX8_shown 14 = .ok (.iconst 0, 1) := dk_3 (dk_at dksX8_shown_0 14 rfl rfl)
theorem dX8_shown_15 : decode cX8_shown 15 = .ok (.istore_n 3, 1) := dk_62 (dk_at dksX8_shown_0 15 rfl rfl)
theorem dX8_shown_16 : decode cX8_shown 16 = .ok (.iload_n 3, 1) := dk_29 (dk_at dksX8_shown_0 16 rfl rfl)
theorem dX8_shown_17 : decode cX8_shown 17 = .ok (.sipush 300, 3) := dk_17 1 44 (dk_at dksX8_shown_0 17 rfl rfl)
theorem dX8_shown_20 : decode cX8_shown 20 = .ok (.if_icmp .ge 16, 3) := dk_162 0 16 (dk_at dksX8_shown_0 20 rfl rfl)
theorem dX8_shown_23 : decode cX8_shown 23 = .ok (.aload_n 0, 1) := dk_42 (dk_at dksX8_shown_0 23 rfl rfl)
theorem dX8_shown_24 : decode cX8_shown 24 = .ok (.getfield 149, 3) := dk_180 0 149 (dk_at dksX8_shown_1 0 rfl rfl)
theorem dX8_shown_27 : decode cX8_shown 27 = .ok (.iload_n 3, 1) := dk_29 (dk_at dksX8_shown_1 3 rfl rfl)
theorem dX8_shown_28 : decode cX8_shown 28 = .ok (.iconst 0, 1) := dk_3 (dk_at dksX8_shown_1 4 rfl rfl)
theorem dX8_shown_29 : decode cX8_shown 29 = .ok (.iastore, 1) := dk_79 (dk_at dksX8_shown_1 5 rfl rfl)
theorem dX8_shown_30 : decode cX8_shown 30 = .ok (.iinc 3 1, 3) := dk_132 3 1 (dk_at dksX8_shown_1 6 rfl rfl)
theorem dX8_shown_33 : decode cX8_shown 33 = .ok (.goto (-17), 3) := dk_167 255 239 (dk_at dksX8_shown_1 9 rfl rfl)
theorem dX8_shown_36 : decode cX8_shown 36 = .ok (.sipush 300, 3) := dk_17 1 44 (dk_at dksX8_shown_1 12 rfl rfl)
theorem dX8_shown_39 : decode cX8_shown 39 = .ok (.istore_n 3, 1) := dk_62 (dk_at dksX8_shown_1 15 rfl rfl)
theorem dX8_shown_40 : decode cX8_shown 40 = .ok (.iconst (-1), 1) := dk_2 (dk_at dksX8_shown_1 16 rfl rfl)
theorem dX8_shown_41 : decode cX8_shown 41 = .ok (.istore 4, 2) := dk_54 4 (dk_at dksX8_shown_1 17 rfl rfl)
theorem dX8_shown_43 : decode cX8_shown 43 = .ok (.iconst 0, 1) := dk_3 (dk_at dksX8_shown_1 19 rfl rfl)
theorem dX8_shown_44 : decode cX8_shown 44 = .ok (.istore 5, 2) := dk_54 5 (dk_at dksX8_shown_1 20 rfl rfl)
theorem dX8_shown_46 : decode cX8_shown 46 = .ok (.iload 5, 2) := dk_21 5 (dk_at dksX8_shown_1 22 rfl rfl)
theorem dX8_shown_48 : decode cX8_shown 48 = .ok (.aload_n 0, 1) := dk_42 (dk_at dksX8_shown_2 0 rfl rfl)
theorem dX8_shown_49 : decode cX8_shown 49 = .ok (.getfield 348, 3) := dk_180 1 92 (dk_at dksX8_shown_2 1 rfl rfl)
theorem dX8_shown_52 : decode cX8_shown 52 = .ok (.if_icmp .gt 57, 3) := dk_163 0 57 (dk_at dksX8_shown_2 4 rfl rfl)
theorem dX8_shown_55 : decode cX8_shown 55 = .ok (.aload_n 0, 1) := dk_42 (dk_at dksX8_shown_2 7 rfl rfl)
theorem dX8_shown_56 : decode cX8_shown 56 = .ok (.iload_n 1, 1) := dk_27 (dk_at dksX8_shown_2 8 rfl rfl)
theorem dX8_shown_57 : decode cX8_shown 57 = .ok (.iload 5, 2) := dk_21 5 (dk_at dksX8_shown_2 9 rfl rfl)
theorem dX8_shown_59 : decode cX8_shown 59 = .ok (.invokevirtual 395, 3) := dk_182 1 139 (dk_at dksX8_shown_2 11 rfl rfl)
theorem dX8_shown_62 : decode cX8_shown 62 = .ok (.istore 6, 2) := dk_54 6 (dk_at dksX8_shown_2 14 rfl rfl)
theorem dX8_shown_64 : decode cX8_shown 64 = .ok (.iload 6, 2) := dk_21 6 (dk_at dksX8_shown_2 16 rfl rfl)
theorem dX8_shown_66 : decode cX8_shown 66 = .ok (.ifCond .ge 6, 3) := dk_156 0 6 (dk_at dksX8_shown_2 18 rfl rfl)
theorem dX8_shown_69 : decode cX8_shown 69 = .ok (.goto 34, 3) := dk_167 0 34 (dk_at dksX8_shown_2 21 rfl rfl)
theorem dX8_shown_72 : decode cX8_shown 72 = .ok (.aload_n 0, 1) := dk_42 (dk_at dksX8_shown_3 0 rfl rfl)
theorem dX8_shown_73 : decode cX8_shown 73 = .ok (.getfield 149, 3) := dk_180 0 149 (dk_at dksX8_shown_3 1 rfl rfl)
theorem dX8_shown_76 : decode cX8_shown 76 = .ok (.iload 6, 2) := dk_21 6 (dk_at dksX8_shown_3 4 rfl rfl)
theorem dX8_shown_78 : decode cX8_shown 78 = .ok (.dup2, 1) := dk_92 (dk_at dksX8_shown_3 6 rfl rfl)
theorem dX8_shown_79 : decode cX8_shown 79 = .ok (.iaload, 1) := dk_46 (dk_at dksX8_shown_3 7 rfl rfl)
theorem dX8_shown_80 : decode cX8_shown 80 = .ok (.iconst 1, 1) := dk_4 (dk_at dksX8_shown_3 8 rfl rfl)
theorem dX8_shown_81 : decode cX8_shown 81 = .ok (.iadd, 1) := dk_96 (dk_at dksX8_shown_3 9 rfl rfl)
theorem dX8_shown_82 : decode cX8_shown 82 = .ok (.iastore, 1) := dk_79 (dk_at dksX8_shown_3 10 rfl rfl)
theorem dX8_shown_83 : decode cX8_shown 83 = .ok (.iload 6, 2) := dk_21 6 (dk_at dksX8_shown_3 11 rfl rfl)
theorem dX8_shown_85 : decode cX8_shown 85 = .ok (.iload_n 3, 1) := dk_29 (dk_at dksX8_shown_3 13 rfl rfl)
theorem dX8_shown_86 : decode cX8_shown 86 = .ok (.if_icmp .ge 6, 3) := dk_162 0 6 (dk_at dksX8_shown_3 14 rfl rfl)
theorem dX8_shown_89 : decode cX8_shown 89 = .ok (.iload 6, 2) := dk_21 6 (dk_at dksX8_shown_3 17 rfl rfl)
theorem dX8_shown_91 : decode cX8_shown 91 = .ok (.istore_n 3, 1) := dk_62 (dk_at dksX8_shown_3 19 rfl rfl)
theorem dX8_shown_92 : decode cX8_shown 92 = .ok (.iload 6, 2) := dk_21 6 (dk_at dksX8_shown_3 20 rfl rfl)
theorem dX8_shown_94 : decode cX8_shown 94 = .ok (.iload 4, 2) := dk_21 4 (dk_at dksX8_shown_3 22 rfl rfl)
theorem dX8_shown_96 : decode cX8_shown 96 = .ok (.if_icmp .le 7, 3) := dk_164 0 7 (dk_at dksX8_shown_4 0 rfl rfl)
theorem dX8_shown_99 : decode cX8_shown 99 = .ok (.iload 6, 2) := dk_21 6 (dk_at dksX8_shown_4 3 rfl rfl)
theorem dX8_shown_101 : decode cX8_shown 101 = .ok (.istore 4, 2) := dk_54 4 (dk_at dksX8_shown_4 5 rfl rfl)
theorem dX8_shown_103 : decode cX8_shown 103 = .ok (.iinc 5 1, 3) := dk_132 5 1 (dk_at dksX8_shown_4 7 rfl rfl)
theorem dX8_shown_106 : decode cX8_shown 106 = .ok (.goto (-60), 3) := dk_167 255 196 (dk_at dksX8_shown_4 10 rfl rfl)
theorem dX8_shown_109 : decode cX8_shown 109 = .ok (.iconst 0, 1) := dk_3 (dk_at dksX8_shown_4 13 rfl rfl)
theorem dX8_shown_110 : decode cX8_shown 110 = .ok (.istore 5, 2) := dk_54 5 (dk_at dksX8_shown_4 14 rfl rfl)
theorem dX8_shown_112 : decode cX8_shown 112 = .ok (.iload_n 3, 1) := dk_29 (dk_at dksX8_shown_4 16 rfl rfl)
theorem dX8_shown_113 : decode cX8_shown 113 = .ok (.istore 6, 2) := dk_54 6 (dk_at dksX8_shown_4 17 rfl rfl)
theorem dX8_shown_115 : decode cX8_shown 115 = .ok (.iload 6, 2) := dk_21 6 (dk_at dksX8_shown_4 19 rfl rfl)
theorem dX8_shown_117 : decode cX8_shown 117 = .ok (.iload 4, 2) := dk_21 4 (dk_at dksX8_shown_4 21 rfl rfl)
theorem dX8_shown_119 : decode cX8_shown 119 = .ok (.if_icmp .gt 40, 3) := dk_163 0 40 (dk_at dksX8_shown_5 0 rfl rfl)
theorem dX8_shown_122 : decode cX8_shown 122 = .ok (.iload_n 2, 1) := dk_28 (dk_at dksX8_shown_5 3 rfl rfl)
theorem dX8_shown_123 : decode cX8_shown 123 = .ok (.ifCond .eq 16, 3) := dk_153 0 16 (dk_at dksX8_shown_5 4 rfl rfl)
theorem dX8_shown_126 : decode cX8_shown 126 = .ok (.aload_n 0, 1) := dk_42 (dk_at dksX8_shown_5 7 rfl rfl)
theorem dX8_shown_127 : decode cX8_shown 127 = .ok (.getfield 149, 3) := dk_180 0 149 (dk_at dksX8_shown_5 8 rfl rfl)
theorem dX8_shown_130 : decode cX8_shown 130 = .ok (.iload 6, 2) := dk_21 6 (dk_at dksX8_shown_5 11 rfl rfl)
theorem dX8_shown_132 : decode cX8_shown 132 = .ok (.iaload, 1) := dk_46 (dk_at dksX8_shown_5 13 rfl rfl)
theorem dX8_shown_133 : decode cX8_shown 133 = .ok (.ifCond .ne 20, 3) := dk_154 0 20 (dk_at dksX8_shown_5 14 rfl rfl)
theorem dX8_shown_136 : decode cX8_shown 136 = .ok (.goto 14, 3) := dk_167 0 14 (dk_at dksX8_shown_5 17 rfl rfl)
theorem dX8_shown_139 : decode cX8_shown 139 = .ok (.aload_n 0, 1) := dk_42 (dk_at dksX8_shown_5 20 rfl rfl)
theorem dX8_shown_140 : decode cX8_shown 140 = .ok (.getfield 149, 3) := dk_180 0 149 (dk_at dksX8_shown_5 21 rfl rfl)
theorem dX8_shown_143 : decode cX8_shown 143 = .ok (.iload 6, 2) := dk_21 6 (dk_at dksX8_shown_6 0 rfl rfl)
theorem dX8_shown_145 : decode cX8_shown 145 = .ok (.iaload, 1) := dk_46 (dk_at dksX8_shown_6 2 rfl rfl)
theorem dX8_shown_146 : decode cX8_shown 146 = .ok (.iconst 1, 1) := dk_4 (dk_at dksX8_shown_6 3 rfl rfl)
theorem dX8_shown_147 : decode cX8_shown 147 = .ok (.if_icmp .le 6, 3) := dk_164 0 6 (dk_at dksX8_shown_6 4 rfl rfl)
theorem dX8_shown_150 : decode cX8_shown 150 = .ok (.iinc 5 1, 3) := dk_132 5 1 (dk_at dksX8_shown_6 7 rfl rfl)
theorem dX8_shown_153 : decode cX8_shown 153 = .ok (.iinc 6 1, 3) := dk_132 6 1 (dk_at dksX8_shown_6 10 rfl rfl)
theorem dX8_shown_156 : decode cX8_shown 156 = .ok (.goto (-41), 3) := dk_167 255 215 (dk_at dksX8_shown_6 13 rfl rfl)
theorem dX8_shown_159 : decode cX8_shown 159 = .ok (.iload 5, 2) := dk_21 5 (dk_at dksX8_shown_6 16 rfl rfl)
theorem dX8_shown_161 : decode cX8_shown 161 = .ok (.ireturn, 1) := dk_172 (dk_at dksX8_shown_6 18 rfl rfl)
abbrev cX8_rankFor : ByteArray := prog_19_method_94_code
def yX8_rankFor : MethodName := ⟨RX8, "rankFor", "(II)I"⟩
def dkwX8_rankFor_5 : List UInt8 := [16, 254, 172]
abbrev dktX8_rankFor_5 : List UInt8 := dkwX8_rankFor_5 ++ []
def dkwX8_rankFor_4 : List UInt8 := [42, 180, 1, 92, 42, 27, 29, 182, 1, 122, 100, 28, 160, 0, 5, 29, 172, 132, 3, 1, 167, 255, 199]
abbrev dktX8_rankFor_4 : List UInt8 := dkwX8_rankFor_4 ++ dktX8_rankFor_5
def dkwX8_rankFor_3 : List UInt8 := [180, 1, 92, 104, 16, 6, 96, 42, 180, 0, 76, 16, 8, 42, 180, 1, 1, 104, 27, 96, 46, 96, 29, 79]
abbrev dktX8_rankFor_3 : List UInt8 := dkwX8_rankFor_3 ++ dktX8_rankFor_4
def dkwX8_rankFor_2 : List UInt8 := [182, 1, 132, 153, 0, 6, 16, 254, 172, 3, 62, 29, 16, 20, 163, 0, 57, 42, 180, 0, 131, 16, 36, 42]
abbrev dktX8_rankFor_2 : List UInt8 := dkwX8_rankFor_2 ++ dktX8_rankFor_3
def dkwX8_rankFor_1 : List UInt8 := [180, 0, 134, 27, 46, 2, 160, 0, 24, 42, 27, 42, 180, 1, 92, 182, 1, 132, 154, 0, 12, 42, 27, 28]
abbrev dktX8_rankFor_1 : List UInt8 := dkwX8_rankFor_1 ++ dktX8_rankFor_2
def dkwX8_rankFor_0 : List UInt8 := [42, 27, 182, 1, 160, 153, 0, 11, 42, 28, 182, 1, 157, 154, 0, 5, 2, 172, 42, 182, 1, 163, 42]
abbrev dktX8_rankFor_0 : List UInt8 := dkwX8_rankFor_0 ++ dktX8_rankFor_1
theorem dksX8_rankFor_0 : cX8_rankFor.data.toList.drop 0 = dktX8_rankFor_0 := by decide +kernel
theorem dksX8_rankFor_1 : cX8_rankFor.data.toList.drop 23 = dktX8_rankFor_1 := dk_seg dksX8_rankFor_0 23 rfl rfl
theorem dksX8_rankFor_2 : cX8_rankFor.data.toList.drop 47 = dktX8_rankFor_2 := dk_seg dksX8_rankFor_1 24 rfl rfl
theorem dksX8_rankFor_3 : cX8_rankFor.data.toList.drop 71 = dktX8_rankFor_3 := dk_seg dksX8_rankFor_2 24 rfl rfl
theorem dksX8_rankFor_4 : cX8_rankFor.data.toList.drop 95 = dktX8_rankFor_4 := dk_seg dksX8_rankFor_3 24 rfl rfl
theorem dksX8_rankFor_5 : cX8_rankFor.data.toList.drop 118 = dktX8_rankFor_5 := dk_seg dksX8_rankFor_4 23 rfl rfl
theorem dX8_rankFor_0 : decode cX8_rankFor 0 = .ok (.aload_n 0, 1) := dk_42 (dk_at dksX8_rankFor_0 0 rfl rfl)
theorem dX8_rankFor_1 : decode cX8_rankFor 1 = .ok (.iload_n 1, 1) := dk_27 (dk_at dksX8_rankFor_0 1 rfl rfl)
theorem dX8_rankFor_2 : decode cX8_rankFor 2 = .ok (.invokevirtual 416, 3) := dk_182 1 160 (dk_at dksX8_rankFor_0 2 rfl rfl)
theorem dX8_rankFor_5 : decode cX8_rankFor 5 = .ok (.ifCond .eq 11, 3) := dk_153 0 11 (dk_at dksX8_rankFor_0 5 rfl rfl)
theorem dX8_rankFor_8 : decode cX8_rankFor 8 = .ok (.aload_n 0, 1) := dk_42 (dk_at dksX8_rankFor_0 8 rfl rfl)
theorem dX8_rankFor_9 : decode cX8_rankFor 9 = .ok (.iload_n 2, 1) := dk_28 (dk_at dksX8_rankFor_0 9 rfl rfl)
theorem dX8_rankFor_10 : decode cX8_rankFor 10 = .ok (.invokevirtual 413, 3) := dk_182 1 157 (dk_at dksX8_rankFor_0 10 rfl rfl)
theorem dX8_rankFor_13 : decode cX8_rankFor 13 = .ok (.ifCond .ne 5, 3) := dk_154 0 5 (dk_at dksX8_rankFor_0 13 rfl rfl)
theorem dX8_rankFor_16 : decode cX8_rankFor 16 = .ok (.iconst (-1), 1) := dk_2 (dk_at dksX8_rankFor_0 16 rfl rfl)
theorem dX8_rankFor_17 : decode cX8_rankFor 17 = .ok (.ireturn, 1) := dk_172 (dk_at dksX8_rankFor_0 17 rfl rfl)
theorem dX8_rankFor_18 : decode cX8_rankFor 18 = .ok (.aload_n 0, 1) := dk_42 (dk_at dksX8_rankFor_0 18 rfl rfl)
theorem dX8_rankFor_19 : decode cX8_rankFor 19 = .ok (.invokevirtual 419, 3) := dk_182 1 163 (dk_at dksX8_rankFor_0 19 rfl rfl)
theorem dX8_rankFor_22 : decode cX8_rankFor 22 = .ok (.aload_n 0, 1) := dk_42 (dk_at dksX8_rankFor_0 22 rfl rfl)
theorem dX8_rankFor_23 : decode cX8_rankFor 23 = .ok (.getfield 134, 3) := dk_180 0 134 (dk_at dksX8_rankFor_1 0 rfl rfl)
theorem dX8_rankFor_26 : decode cX8_rankFor 26 = .ok (.iload_n 1, 1) := dk_27 (dk_at dksX8_rankFor_1 3 rfl rfl)
theorem dX8_rankFor_27 : decode cX8_rankFor 27 = .ok (.iaload, 1) := dk_46 (dk_at dksX8_rankFor_1 4 rfl rfl)
theorem dX8_rankFor_28 : decode cX8_rankFor 28 = .ok (.iconst (-1), 1) := dk_2 (dk_at dksX8_rankFor_1 5 rfl rfl)
theorem dX8_rankFor_29 : decode cX8_rankFor 29 = .ok (.if_icmp .ne 24, 3) := dk_160 0 24 (dk_at dksX8_rankFor_1 6 rfl rfl)
theorem dX8_rankFor_32 : decode cX8_rankFor 32 = .ok (.aload_n 0, 1) := dk_42 (dk_at dksX8_rankFor_1 9 rfl rfl)
theorem dX8_rankFor_33 : decode cX8_rankFor 33 = .ok (.iload_n 1, 1) := dk_27 (dk_at dksX8_rankFor_1 10 rfl rfl)
theorem dX8_rankFor_34 : decode cX8_rankFor 34 = .ok (.aload_n 0, 1) := dk_42 (dk_at dksX8_rankFor_1 11 rfl rfl)
theorem dX8_rankFor_35 : decode cX8_rankFor 35 = .ok (.getfield 348, 3) := dk_180 1 92 (dk_at dksX8_rankFor_1 12 rfl rfl)
theorem dX8_rankFor_38 : decode cX8_rankFor 38 = .ok (.invokevirtual 388, 3) := dk_182 1 132 (dk_at dksX8_rankFor_1 15 rfl rfl)
theorem dX8_rankFor_41 : decode cX8_rankFor 41 = .ok (.ifCond .ne 12, 3) := dk_154 0 12 (dk_at dksX8_rankFor_1 18 rfl rfl)
theorem dX8_rankFor_44 : decode cX8_rankFor 44 = .ok (.aload_n 0, 1) := dk_42 (dk_at dksX8_rankFor_1 21 rfl rfl)
theorem dX8_rankFor_45 : decode cX8_rankFor 45 = .ok (.iload_n 1, 1) := dk_27 (dk_at dksX8_rankFor_1 22 rfl rfl)
theorem dX8_rankFor_46 : decode cX8_rankFor 46 = .ok (.iload_n 2, 1) := dk_28 (dk_at dksX8_rankFor_1 23 rfl rfl)
theorem dX8_rankFor_47 : decode cX8_rankFor 47 = .ok (.invokevirtual 388, 3) := dk_182 1 132 (dk_at dksX8_rankFor_2 0 rfl rfl)
theorem dX8_rankFor_50 : decode cX8_rankFor 50 = .ok (.ifCond .eq 6, 3) := dk_153 0 6 (dk_at dksX8_rankFor_2 3 rfl rfl)
theorem dX8_rankFor_53 : decode cX8_rankFor 53 = .ok (.bipush (-2), 2) := dk_16 254 (dk_at dksX8_rankFor_2 6 rfl rfl)
theorem dX8_rankFor_55 : decode cX8_rankFor 55 = .ok (.ireturn, 1) := dk_172 (dk_at dksX8_rankFor_2 8 rfl rfl)
theorem dX8_rankFor_56 : decode cX8_rankFor 56 = .ok (.iconst 0, 1) := dk_3 (dk_at dksX8_rankFor_2 9 rfl rfl)
theorem dX8_rankFor_57 : decode cX8_rankFor 57 = .ok (.istore_n 3, 1) := dk_62 (dk_at dksX8_rankFor_2 10 rfl rfl)
theorem dX8_rankFor_58 : decode cX8_rankFor 58 = .ok (.iload_n 3, 1) := dk_29 (dk_at dksX8_rankFor_2 11 rfl rfl)
theorem dX8_rankFor_59 : decode cX8_rankFor 59 = .ok (.bipush 20, 2) := dk_16 20 (dk_at dksX8_rankFor_2 12 rfl rfl)
theorem dX8_rankFor_61 : decode cX8_rankFor 61 = .ok (.if_icmp .gt 57, 3) := dk_163 0 57 (dk_at dksX8_rankFor_2 14 rfl rfl)
theorem dX8_rankFor_64 : decode cX8_rankFor 64 = .ok (.aload_n 0, 1) := dk_42 (dk_at dksX8_rankFor_2 17 rfl rfl)
theorem dX8_rankFor_65 : decode cX8_rankFor 65 = .ok (.getfield 131, 3) := dk_180 0 131 (dk_at dksX8_rankFor_2 18 rfl rfl)
theorem dX8_rankFor_68 : decode cX8_rankFor 68 = .ok (.bipush 36, 2) := dk_16 36 (dk_at dksX8_rankFor_2 21 rfl rfl)
theorem dX8_rankFor_70 : decode cX8_rankFor 70 = .ok (.aload_n 0, 1) := dk_42 (dk_at dksX8_rankFor_2 23 rfl rfl)
theorem dX8_rankFor_71 : decode cX8_rankFor 71 = .ok (.getfield 348, 3) := dk_180 1 92 (dk_at dksX8_rankFor_3 0 rfl rfl)
theorem dX8_rankFor_74 : decode cX8_rankFor 74 = .ok (.imul, 1) := dk_104 (dk_at dksX8_rankFor_3 3 rfl rfl)
theorem dX8_rankFor_75 : decode cX8_rankFor 75 = .ok (.bipush 6, 2) := dk_16 6 (dk_at dksX8_rankFor_3 4 rfl rfl)
theorem dX8_rankFor_77 : decode cX8_rankFor 77 = .ok (.iadd, 1) := dk_96 (dk_at dksX8_rankFor_3 6 rfl rfl)
theorem dX8_rankFor_78 : decode cX8_rankFor 78 = .ok (.aload_n 0, 1) := dk_42 (dk_at dksX8_rankFor_3 7 rfl rfl)
theorem dX8_rankFor_79 : decode cX8_rankFor 79 = .ok (.getfield 76, 3) := dk_180 0 76 (dk_at dksX8_rankFor_3 8 rfl rfl)
theorem dX8_rankFor_82 : decode cX8_rankFor 82 = .ok (.bipush 8, 2) := dk_16 8 (dk_at dksX8_rankFor_3 11 rfl rfl)
theorem dX8_rankFor_84 : decode cX8_rankFor 84 = .ok (.aload_n 0, 1) := dk_42 (dk_at dksX8_rankFor_3 13 rfl rfl)
theorem dX8_rankFor_85 : decode cX8_rankFor 85 = .ok (.getfield 257, 3) := dk_180 1 1 (dk_at dksX8_rankFor_3 14 rfl rfl)
theorem dX8_rankFor_88 : decode cX8_rankFor 88 = .ok (.imul, 1) := dk_104 (dk_at dksX8_rankFor_3 17 rfl rfl)
theorem dX8_rankFor_89 : decode cX8_rankFor 89 = .ok (.iload_n 1, 1) := dk_27 (dk_at dksX8_rankFor_3 18 rfl rfl)
theorem dX8_rankFor_90 : decode cX8_rankFor 90 = .ok (.iadd, 1) := dk_96 (dk_at dksX8_rankFor_3 19 rfl rfl)
theorem dX8_rankFor_91 : decode cX8_rankFor 91 = .ok (.iaload, 1) := dk_46 (dk_at dksX8_rankFor_3 20 rfl rfl)
theorem dX8_rankFor_92 : decode cX8_rankFor 92 = .ok (.iadd, 1) := dk_96 (dk_at dksX8_rankFor_3 21 rfl rfl)
theorem dX8_rankFor_93 : decode cX8_rankFor 93 = .ok (.iload_n 3, 1) := dk_29 (dk_at dksX8_rankFor_3 22 rfl rfl)
theorem dX8_rankFor_94 : decode cX8_rankFor 94 = .ok (.iastore, 1) := dk_79 (dk_at dksX8_rankFor_3 23 rfl rfl)
theorem dX8_rankFor_95 : decode cX8_rankFor 95 = .ok (.aload_n 0, 1) := dk_42 (dk_at dksX8_rankFor_4 0 rfl rfl)
theorem dX8_rankFor_96 : decode cX8_rankFor 96 = .ok (.getfield 348, 3) := dk_180 1 92 (dk_at dksX8_rankFor_4 1 rfl rfl)
theorem dX8_rankFor_99 : decode cX8_rankFor 99 = .ok (.aload_n 0, 1) := dk_42 (dk_at dksX8_rankFor_4 4 rfl rfl)
theorem dX8_rankFor_100 : decode cX8_rankFor 100 = .ok (.iload_n 1, 1) := dk_27 (dk_at dksX8_rankFor_4 5 rfl rfl)
theorem dX8_rankFor_101 : decode cX8_rankFor 101 = .ok (.iload_n 3, 1) := dk_29 (dk_at dksX8_rankFor_4 6 rfl rfl)
theorem dX8_rankFor_102 : decode cX8_rankFor 102 = .ok (.invokevirtual 378, 3) := dk_182 1 122 (dk_at dksX8_rankFor_4 7 rfl rfl)
theorem dX8_rankFor_105 : decode cX8_rankFor 105 = .ok (.isub, 1) := dk_100 (dk_at dksX8_rankFor_4 10 rfl rfl)
theorem dX8_rankFor_106 : decode cX8_rankFor 106 = .ok (.iload_n 2, 1) := dk_28 (dk_at dksX8_rankFor_4 11 rfl rfl)
theorem dX8_rankFor_107 : decode cX8_rankFor 107 = .ok (.if_icmp .ne 5, 3) := dk_160 0 5 (dk_at dksX8_rankFor_4 12 rfl rfl)
theorem dX8_rankFor_110 : decode cX8_rankFor 110 = .ok (.iload_n 3, 1) := dk_29 (dk_at dksX8_rankFor_4 15 rfl rfl)
theorem dX8_rankFor_111 : decode cX8_rankFor 111 = .ok (.ireturn, 1) := dk_172 (dk_at dksX8_rankFor_4 16 rfl rfl)
theorem dX8_rankFor_112 : decode cX8_rankFor 112 = .ok (.iinc 3 1, 3) := dk_132 3 1 (dk_at dksX8_rankFor_4 17 rfl rfl)
theorem dX8_rankFor_115 : decode cX8_rankFor 115 = .ok (.goto (-57), 3) := dk_167 255 199 (dk_at dksX8_rankFor_4 20 rfl rfl)
theorem dX8_rankFor_118 : decode cX8_rankFor 118 = .ok (.bipush (-2), 2) := dk_16 254 (dk_at dksX8_rankFor_5 0 rfl rfl)
theorem dX8_rankFor_120 : decode cX8_rankFor 120 = .ok (.ireturn, 1) := dk_172 (dk_at dksX8_rankFor_5 2 rfl rfl)
