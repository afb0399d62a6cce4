set_option maxRecDepth 100000
abbrev cX8_still : ByteArray := prog_19_method_97_code
def yX8_still : MethodName := ⟨RX8, "still", "(II)I"⟩
def dkwX8_still_3 : List UInt8 := [21, 4, 120, 128, 62, 132, 5, 1, 167, 255, 225, 132, 4, 1, 167, 255, 199, 29, 172]
abbrev dktX8_still_3 : List UInt8 := dkwX8_still_3 ++ []
def dkwX8_still_2 : List UInt8 := [21, 5, 17, 1, 43, 163, 0, 29, 42, 21, 4, 21, 5, 27, 28, 182, 1, 199, 153, 0, 10, 29, 4]
abbrev dktX8_still_2 : List UInt8 := dkwX8_still_2 ++ dktX8_still_3
def dkwX8_still_1 : List UInt8 := [3, 54, 4, 21, 4, 42, 180, 0, 70, 42, 180, 1, 1, 46, 162, 0, 49, 42, 180, 1, 89, 54, 5]
abbrev dktX8_still_1 : List UInt8 := dkwX8_still_1 ++ dktX8_still_2
def dkwX8_still_0 : List UInt8 := [42, 27, 182, 1, 181, 153, 0, 11, 42, 28, 182, 1, 157, 154, 0, 5, 2, 172, 42, 182, 1, 196, 3, 62]
abbrev dktX8_still_0 : List UInt8 := dkwX8_still_0 ++ dktX8_still_1
theorem dksX8_still_0 : cX8_still.data.toList.drop 0 = dktX8_still_0 := by decide +kernel
theorem dksX8_still_1 : cX8_still.data.toList.drop 24 = dktX8_still_1 := dk_seg dksX8_still_0 24 rfl rfl
theorem dksX8_still_2 : cX8_still.data.toList.drop 47 = dktX8_still_2 := dk_seg dksX8_still_1 23 rfl rfl
theorem dksX8_still_3 : cX8_still.data.toList.drop 70 = dktX8_still_3 := dk_seg dksX8_still_2 23 rfl rfl
theorem dX8_still_0 : decode cX8_still 0 = .ok (.aload_n 0, 1) := dk_42 (dk_at dksX8_still_0 0 rfl rfl)
theorem dX8_still_1 : decode cX8_still 1 = .ok (.iload_n 1, 1) := dk_27 (dk_at dksX8_still_0 1 rfl rfl)
theorem dX8_still_2 : decode cX8_still 2 = .ok (.invokevirtual 437, 3) := dk_182 1 181 (dk_at dksX8_still_0 2 rfl rfl)
theorem dX8_still_5 : decode cX8_still 5 = .ok (.ifCond .eq 11, 3) := dk_153 0 11 (dk_at dksX8_still_0 5 rfl rfl)
theorem dX8_still_8 : decode cX8_still 8 = .ok (.aload_n 0, 1) := dk_42 (dk_at dksX8_still_0 8 rfl rfl)
theorem dX8_still_9 : decode cX8_still 9 = .ok (.iload_n 2, 1) := dk_28 (dk_at dksX8_still_0 9 rfl rfl)
theorem dX8_still_10 : decode cX8_still 10 = .ok (.invokevirtual 413, 3) := dk_182 1 157 (dk_at dksX8_still_0 10 rfl rfl)
theorem dX8_still_13 : decode cX8_still 13 = .ok (.ifCond .ne 5, 3) := dk_154 0 5 (dk_at dksX8_still_0 13 rfl rfl)
theorem dX8_still_16 : decode cX8_still 16 = .ok (.iconst (-1), 1) := dk_2 (dk_at dksX8_still_0 16 rfl rfl)
theorem dX8_still_17 : decode cX8_still 17 = .ok (.ireturn, 1) := dk_172 (dk_at dksX8_still_0 17 rfl rfl)
theorem dX8_still_18 : decode cX8_still 18 = .ok (.aload_n 0, 1) := dk_42 (dk_at dksX8_still_0 18 rfl rfl)
theorem dX8_still_19 : decode cX8_still 19 = .ok (.invokevirtual 452, 3) := dk_182 1 196 (dk_at dksX8_still_0 19 rfl rfl)
theorem dX8_still_22 : decode cX8_still 22 = .ok (.iconst 0, 1) := dk_3 (dk_at dksX8_still_0 22 rfl rfl)
theorem dX8_still_23 : decode cX8_still 23 = .ok (.istore_n 3, 1) := dk_62 (dk_at dksX8_still_0 23 rfl rfl)
theorem dX8_still_24 : decode cX8_still 24 = .ok (.iconst 0, 1) := dk_3 (dk_at dksX8_still_1 0 rfl rfl)
theorem dX8_still_25 : decode cX8_still 25 = .ok (.istore 4, 2) := dk_54 4 (dk_at dksX8_still_1 1 rfl rfl)
theorem dX8_still_27 : decode cX8_still 27 = .ok (.iload 4, 2) := dk_21 4 (dk_at dksX8_still_1 3 rfl rfl)
theorem dX8_still_29 : decode cX8_still 29 = .ok (.aload_n 0, 1) := dk_42 (dk_at dksX8_still_1 5 rfl rfl)
theorem dX8_still_30 : decode cX8_still 30 = .ok (.getfield 70, 3) := dk_180 0 70 (dk_at dksX8_still_1 6 rfl rfl)
theorem dX8_still_33 : decode cX8_still 33 = .ok (.aload_n 0, 1) := dk_42 (dk_at dksX8_still_1 9 rfl rfl)
theorem dX8_still_34 : decode cX8_still 34 = .ok (.getfield 257, 3) := dk_180 1 1 (dk_at dksX8_still_1 10 rfl rfl)
theorem dX8_still_37 : decode cX8_still 37 = .ok (.iaload, 1) := dk_46 (dk_at dksX8_still_1 13 rfl rfl)
theorem dX8_still_38 : decode cX8_still 38 = .ok (.if_icmp .ge 49, 3) := dk_162 0 49 (dk_at dksX8_still_1 14 rfl rfl)
theorem dX8_still_41 : decode cX8_still 41 = .ok (.aload_n 0, 1) := dk_42 (dk_at dksX8_still_1 17 rfl rfl)
theorem dX8_still_42 : decode cX8_still 42 = .ok (.getfield 345, 3) := dk_180 1 89 (dk_at dksX8_still_1 18 rfl rfl)
theorem dX8_still_45 : decode cX8_still 45 = .ok (.istore 5, 2) := dk_54 5 (dk_at dksX8_still_1 21 rfl rfl)
theorem dX8_still_47 : decode cX8_still 47 = .ok (.iload 5, 2) := dk_21 5 (dk_at dksX8_still_2 0 rfl rfl)
theorem dX8_still_49 : decode cX8_still 49 = .ok (.sipush 299, 3) := dk_17 1 43 (dk_at dksX8_still_2 2 rfl rfl)
theorem dX8_still_52 : decode cX8_still 52 = .ok (.if_icmp .gt 29, 3) := dk_163 0 29 (dk_at dksX8_still_2 5 rfl rfl)
theorem dX8_still_55 : decode cX8_still 55 = .ok (.aload_n 0, 1) := dk_42 (dk_at dksX8_still_2 8 rfl rfl)
theorem dX8_still_56 : decode cX8_still 56 = .ok (.iload 4, 2) := dk_21 4 (dk_at dksX8_still_2 9 rfl rfl)
theorem dX8_still_58 : decode cX8_still 58 = .ok (.iload 5, 2) := dk_21 5 (dk_at dksX8_still_2 11 rfl rfl)
theorem dX8_still_60 : decode cX8_still 60 = .ok (.iload_n 1, 1) := dk_27 (dk_at dksX8_still_2 13 rfl rfl)
theorem dX8_still_61 : decode cX8_still 61 = .ok (.iload_n 2, 1) := dk_28 (dk_at dksX8_still_2 14 rfl rfl)
theorem dX8_still_62 : decode cX8_still 62 = .ok (.invokevirtual 455, 3) := dk_182 1 199 (dk_at dksX8_still_2 15 rfl rfl)
theorem dX8_still_65 : decode cX8_still 65 = .ok (.ifCond .eq 10, 3) := dk_153 0 10 (dk_at dksX8_still_2 18 rfl rfl)
theorem dX8_still_68 : decode cX8_still 68 = .ok (.iload_n 3, 1) := dk_29 (dk_at dksX8_still_2 21 rfl rfl)
theorem dX8_still_69 : decode cX8_still 69 = .ok (.iconst 1, 1) := dk_4 (dk_at dksX8_still_2 22 rfl rfl)
theorem dX8_still_70 : decode cX8_still 70 = .ok (.iload 4, 2) := dk_21 4 (dk_at dksX8_still_3 0 rfl rfl)
theorem dX8_still_72 : decode cX8_still 72 = .ok (.ishl, 1) := dk_120 (dk_at dksX8_still_3 2 rfl rfl)
theorem dX8_still_73 : decode cX8_still 73 = .ok (.ior, 1) := dk_128 (dk_at dksX8_still_3 3 rfl rfl)
theorem dX8_still_74 : decode cX8_still 74 = .ok (.istore_n 3, 1) := dk_62 (dk_at dksX8_still_3 4 rfl rfl)
theorem dX8_still_75 : decode cX8_still 75 = .ok (.iinc 5 1, 3) := dk_132 5 1 (dk_at dksX8_still_3 5 rfl rfl)
theorem dX8_still_78 : decode cX8_still 78 = .ok (.goto (-31), 3) := dk_167 255 225 (dk_at dksX8_still_3 8 rfl rfl)
theorem dX8_still_81 : decode cX8_still 81 = .ok (.iinc 4 1, 3) := dk_132 4 1 (dk_at dksX8_still_3 11 rfl rfl)
theorem dX8_still_84 : decode cX8_still 84 = .ok (.goto (-57), 3) := dk_167 255 199 (dk_at dksX8_still_3 14 rfl rfl)
theorem dX8_still_87 : decode cX8_still 87 = .ok (.iload_n 3, 1) := dk_29 (dk_at dksX8_still_3 17 rfl rfl)
theorem dX8_still_88 : decode cX8_still 88 = .ok (.ireturn, 1) := dk_172 (dk_at dksX8_still_3 18 rfl rfl)
abbrev cX8_fillsAll : ByteArray := prog_19_method_95_code
def yX8_fillsAll : MethodName := ⟨RX8, "fillsAll", "()V"⟩
def dkwX8_fillsAll_0 : List UInt8 := [42, 182, 1, 163, 42, 17, 1, 43, 182, 1, 169, 177]
abbrev dktX8_fillsAll_0 : List UInt8 := dkwX8_fillsAll_0 ++ []
theorem dksX8_fillsAll_0 : cX8_fillsAll.data.toList.drop 0 = dktX8_fillsAll_0 := by decide +kernel
theorem dX8_fillsAll_0 : decode cX8_fillsAll 0 = .ok (.aload_n 0, 1) := dk_42 (dk_at dksX8_fillsAll_0 0 rfl rfl)
theorem dX8_fillsAll_1 : decode cX8_fillsAll 1 = .ok (.invokevirtual 419, 3) := dk_182 1 163 (dk_at dksX8_fillsAll_0 1 rfl rfl)
theorem dX8_fillsAll_4 : decode cX8_fillsAll 4 = .ok (.aload_n 0, 1) := dk_42 (dk_at dksX8_fillsAll_0 4 rfl rfl)
theorem dX8_fillsAll_5 : decode cX8_fillsAll 5 = .ok (.sipush 299, 3) := dk_17 1 43 (dk_at dksX8_fillsAll_0 5 rfl rfl)
theorem dX8_fillsAll_8 : decode cX8_fillsAll 8 = .ok (.invokevirtual 425, 3) := dk_182 1 169 (dk_at dksX8_fillsAll_0 8 rfl rfl)
theorem dX8_fillsAll_11 : decode cX8_fillsAll 11 = .ok (.return_, 1) := dk_177 (dk_at dksX8_fillsAll_0 11 rfl rfl)
abbrev cX8_showsRoom : ByteArray := prog_19_method_96_code
def yX8_showsRoom : MethodName := ⟨RX8, "showsRoom", "(IIII)Z"⟩
def dkwX8_showsRoom_1 : List UInt8 := [167, 0, 4, 3, 172]
abbrev dktX8_showsRoom_1 : List UInt8 := dkwX8_showsRoom_1 ++ []
def dkwX8_showsRoom_0 : List UInt8 := [42, 27, 28, 182, 1, 139, 21, 4, 160, 0, 18, 42, 27, 21, 4, 182, 1, 136, 29, 160, 0, 7, 4]
abbrev dktX8_showsRoom_0 : List UInt8 := dkwX8_showsRoom_0 ++ dktX8_showsRoom_1
theorem dksX8_showsRoom_0 : cX8_showsRoom.data.toList.drop 0 = dktX8_showsRoom_0 := by decide +kernel
theorem dksX8_showsRoom_1 : cX8_showsRoom.data.toList.drop 23 = dktX8_showsRoom_1 := dk_seg dksX8_showsRoom_0 23 rfl rfl
theorem dX8_showsRoom_0 : decode cX8_showsRoom 0 = .ok (.aload_n 0, 1) := dk_42 (dk_at dksX8_showsRoom_0 0 rfl rfl)
theorem dX8_showsRoom_1 : decode cX8_showsRoom 1 = .ok (.iload_n 1, 1) := dk_27 (dk_at dksX8_showsRoom_0 1 rfl rfl)
theorem dX8_showsRoom_2 : decode cX8_showsRoom 2 = .ok (.iload_n 2, 1) := dk_28 (dk_at dksX8_showsRoom_0 2 rfl rfl)
theorem dX8_showsRoom_3 : decode cX8_showsRoom 3 = .ok (.invokevirtual 395, 3) := dk_182 1 139 (dk_at dksX8_showsRoom_0 3 rfl rfl)
theorem dX8_showsRoom_6 : decode cX8_showsRoom 6 = .ok (.iload 4, 2) := dk_21 4 (dk_at dksX8_showsRoom_0 6 rfl rfl)
theorem dX8_showsRoom_8 : decode cX8_showsRoom 8 = .ok (.if_icmp .ne 18, 3) := dk_160 0 18 (dk_at dksX8_showsRoom_0 8 rfl rfl)
theorem dX8_showsRoom_11 : decode cX8_showsRoom 11 = .ok (.aload_n 0, 1) := dk_42 (dk_at dksX8_showsRoom_0 11 rfl rfl)
theorem dX8_showsRoom_12 : decode cX8_showsRoom 12 = .ok (.iload_n 1, 1) := dk_27 (dk_at dksX8_showsRoom_0 12 rfl rfl)
theorem dX8_showsRoom_13 : decode cX8_showsRoom 13 = .ok (.iload 4, 2) := dk_21 4 (dk_at dksX8_showsRoom_0 13 rfl rfl)
theorem dX8_showsRoom_15 : decode cX8_showsRoom 15 = .ok (.invokevirtual 392, 3) := dk_182 1 136 (dk_at dksX8_showsRoom_0 15 rfl rfl)
theorem dX8_showsRoom_18 : decode cX8_showsRoom 18 = .ok (.iload_n 3, 1) := dk_29 (dk_at dksX8_showsRoom_0 18 rfl rfl)
theorem dX8_showsRoom_19 : decode cX8_showsRoom 19 = .ok (.if_icmp .ne 7, 3) := dk_160 0 7 (dk_at dksX8_showsRoom_0 19 rfl rfl)
theorem dX8_showsRoom_22 : decode cX8_showsRoom 22 = .ok (.iconst 1, 1) := dk_4 (dk_at dksX8_showsRoom_0 22 rfl rfl)
theorem dX8_showsRoom_23 : decode cX8_showsRoom 23 = .ok (.goto 4, 3) := dk_167 0 4 (dk_at dksX8_showsRoom_1 0 rfl rfl)
theorem dX8_showsRoom_26 : decode cX8_showsRoom 26 = .ok (.iconst 0, 1) := dk_3 (dk_at dksX8_showsRoom_1 3 rfl rfl)
theorem dX8_showsRoom_27 : decode cX8_showsRoom 27 = .ok (.ireturn, 1) := dk_172 (dk_at dksX8_showsRoom_1 4 rfl rfl)
abbrev cX8_soonest : ByteArray := prog_19_method_98_code
def yX8_soonest : MethodName := ⟨RX8, "soonest", "(III)I"⟩
def dkwX8_soonest_4 : List UInt8 := [132, 4, 1, 167, 255, 197, 16, 254, 172]
abbrev dktX8_soonest_4 : List UInt8 := dkwX8_soonest_4 ++ []
def dkwX8_soonest_3 : List UInt8 := [182, 1, 199, 153, 0, 15, 29, 154, 0, 8, 21, 4, 167, 0, 5, 21, 5, 172, 132, 5, 1, 167, 255, 214]
abbrev dktX8_soonest_3 : List UInt8 := dkwX8_soonest_3 ++ dktX8_soonest_4
def dkwX8_soonest_2 : List UInt8 := [54, 5, 21, 5, 42, 180, 0, 70, 42, 180, 1, 1, 46, 162, 0, 34, 42, 21, 5, 21, 4, 27, 28]
abbrev dktX8_soonest_2 : List UInt8 := dkwX8_soonest_2 ++ dktX8_soonest_3
def dkwX8_soonest_1 : List UInt8 := [154, 0, 5, 2, 172, 42, 182, 1, 196, 42, 180, 1, 89, 54, 4, 21, 4, 17, 1, 43, 163, 0, 57, 3]
abbrev dktX8_soonest_1 : List UInt8 := dkwX8_soonest_1 ++ dktX8_soonest_2
def dkwX8_soonest_0 : List UInt8 := [42, 27, 182, 1, 181, 153, 0, 20, 42, 28, 182, 1, 157, 153, 0, 12, 29, 3, 4, 184, 1, 85]
abbrev dktX8_soonest_0 : List UInt8 := dkwX8_soonest_0 ++ dktX8_soonest_1
theorem dksX8_soonest_0 : cX8_soonest.data.toList.drop 0 = dktX8_soonest_0 := by decide +kernel
theorem dksX8_soonest_1 : cX8_soonest.data.toList.drop 22 = dktX8_soonest_1 := dk_seg dksX8_soonest_0 22 rfl rfl
theorem dksX8_soonest_2 : cX8_soonest.data.toList.drop 46 = dktX8_soonest_2 := dk_seg dksX8_soonest_1 24 rfl rfl
theorem dksX8_soonest_3 : cX8_soonest.data.toList.drop 69 = dktX8_soonest_3 := dk_seg dksX8_soonest_2 23 rfl rfl
theorem dksX8_soonest_4 : cX8_soonest.data.toList.drop 93 = dktX8_soonest_4 := dk_seg dksX8_soonest_3 24 rfl rfl
theorem dX8_soonest_0 : decode cX8_soonest 0 = .ok (.aload_n 0, 1) := dk_42 (dk_at dksX8_soonest_0 0 rfl rfl)
theorem dX8_soonest_1 : decode cX8_soonest 1 = .ok (.iload_n 1, 1) := dk_27 (dk_at dksX8_soonest_0 1 rfl rfl)
theorem dX8_soonest_2 : decode cX8_soonest 2 = .ok (.invokevirtual 437, 3) := dk_182 1 181 (dk_at dksX8_soonest_0 2 rfl rfl)
theorem dX8_soonest_5 : decode cX8_soonest 5 = .ok (.ifCond .eq 20, 3) := dk_153 0 20 (dk_at dksX8_soonest_0 5 rfl rfl)
theorem dX8_soonest_8 : decode cX8_soonest 8 = .ok (.aload_n 0, 1) := dk_42 (dk_at dksX8_soonest_0 8 rfl rfl)
theorem dX8_soonest_9 : decode cX8_soonest 9 = .ok (.iload_n 2, 1) := dk_28 (dk_at dksX8_soonest_0 9 rfl rfl)
theorem dX8_soonest_10 : decode cX8_soonest 10 = .ok (.invokevirtual 413, 3) := dk_182 1 157 (dk_at dksX8_soonest_0 10 rfl rfl)
theorem dX8_soonest_13 : decode cX8_soonest 13 = .ok (.ifCond .eq 12, 3) := dk_153 0 12 (dk_at dksX8_soonest_0 13 rfl rfl)
theorem dX8_soonest_16 : decode cX8_soonest 16 = .ok (.iload_n 3, 1) := dk_29 (dk_at dksX8_soonest_0 16 rfl rfl)
theorem dX8_soonest_17 : decode cX8_soonest 17 = .ok (.iconst 0, 1) := dk_3 (dk_at dksX8_soonest_0 17 rfl rfl)
theorem dX8_soonest_18 : decode cX8_soonest 18 = .ok (.iconst 1, 1) := dk_4 (dk_at dksX8_soonest_0 18 rfl rfl)
theorem dX8_soonest_19 : decode cX8_soonest 19 = .ok (.invokestatic 341, 3) := dk_184 1 85 (dk_at dksX8_soonest_0 19 rfl rfl)
theorem dX8_soonest_22 : decode cX8_soonest 22 = .ok (.ifCond .ne 5, 3) := dk_154 0 5 (dk_at dksX8_soonest_1 0 rfl rfl)
theorem dX8_soonest_25 : decode cX8_soonest 25 = .ok (.iconst (-1), 1) := dk_2 (dk_at dksX8_soonest_1 3 rfl rfl)
theorem dX8_soonest_26 : decode cX8_soonest 26 = .ok (.ireturn, 1) := dk_172 (dk_at dksX8_soonest_1 4 rfl rfl)
theorem dX8_soonest_27 : decode cX8_soonest 27 = .ok (.aload_n 0, 1) := dk_42 (dk_at dksX8_soonest_1 5 rfl rfl)
theorem dX8_soonest_28 : decode cX8_soonest 28 = .ok (.invokevirtual 452, 3) := dk_182 1 196 (dk_at dksX8_soonest_1 6 rfl rfl)
theorem dX8_soonest_31 : decode cX8_soonest 31 = .ok (.aload_n 0, 1) := dk_42 (dk_at dksX8_soonest_1 9 rfl rfl)
theorem dX8_soonest_32 : decode cX8_soonest 32 = .ok (.getfield 345, 3) := dk_180 1 89 (dk_at dksX8_soonest_1 10 rfl rfl)
theorem dX8_soonest_35 : decode cX8_soonest 35 = .ok (.istore 4, 2) := dk_54 4 (dk_at dksX8_soonest_1 13 rfl rfl)
theorem dX8_soonest_37 : decode cX8_soonest 37 = .ok (.iload 4, 2) := dk_21 4 (dk_at dksX8_soonest_1 15 rfl rfl)
theorem dX8_soonest_39 : decode cX8_soonest 39 = .ok (.sipush 299, 3) := dk_17 1 43 (dk_at dksX8_soonest_1 17 rfl rfl)
theorem dX8_soonest_42 : decode cX8_soonest 42 = .ok (.if_icmp .gt 57, 3) := dk_163 0 57 (dk_at dksX8_soonest_1 20 rfl rfl)
theorem dX8_soonest_45 : decode cX8_soonest 45 = .ok (.iconst 0, 1) := dk_3 (dk_at dksX8_soonest_1 23 rfl rfl)
theorem dX8_soonest_46 : decode cX8_soonest 46 = .ok (.istore 5, 2) := dk_54 5 (dk_at dksX8_soonest_2 0 rfl rfl)
theorem dX8_soonest_48 : decode cX8_soonest 48 = .ok (.iload 5, 2) := dk_21 5 (dk_at dksX8_soonest_2 2 rfl rfl)
theorem dX8_soonest_50 : decode cX8_soonest 50 = .ok (.aload_n 0, 1) := dk_42 (dk_at dksX8_soonest_2 4 rfl rfl)
theorem dX8_soonest_51 : decode cX8_soonest 51 = .ok (.getfield 70, 3) := dk_180 0 70 (dk_at dksX8_soonest_2 5 rfl rfl)
theorem dX8_soonest_54 : decode cX8_soonest 54 = .ok (.aload_n 0, 1) := dk_42 (dk_at dksX8_soonest_2 8 rfl rfl)
theorem dX8_soonest_55 : decode cX8_soonest 55 = .ok (.getfield 257, 3) := dk_180 1 1 (dk_at dksX8_soonest_2 9 rfl rfl)
theorem dX8_soonest_58 : decode cX8_soonest 58 = .ok (.iaload, 1) := dk_46 (dk_at dksX8_soonest_2 12 rfl rfl)
theorem dX8_soonest_59 : decode cX8_soonest 59 = .ok (.if_icmp .ge 34, 3) := dk_162 0 34 (dk_at dksX8_soonest_2 13 rfl rfl)
theorem dX8_soonest_62 : decode cX8_soonest 62 = .ok (.aload_n 0, 1) := dk_42 (dk_at dksX8_soonest_2 16 rfl rfl)
theorem dX8_soonest_63 : decode cX8_soonest 63 = .ok (.iload 5, 2) := dk_21 5 (dk_at dksX8_soonest_2 17 rfl rfl)
theorem dX8_soonest_65 : decode cX8_soonest 65 = .ok (.iload 4, 2) := dk_21 4 (dk_at dksX8_soonest_2 19 rfl rfl)
theorem dX8_soonest_67 : decode cX8_soonest 67 = .ok (.iload_n 1, 1) := dk_27 (dk_at dksX8_soonest_2 21 rfl rfl)
theorem dX8_soonest_68 : decode cX8_soonest 68 = .ok (.iload_n 2, 1) := dk_28 (dk_at dksX8_soonest_2 22 rfl rfl)
theorem dX8_soonest_69 : decode cX8_soonest 69 = .ok (.invokevirtual 455, 3) := dk_182 1 199 (dk_at dksX8_soonest_3 0 rfl rfl)
theorem dX8_soonest_72 : decode cX8_soonest 72 = .ok (.ifCond .eq 15, 3) := dk_153 0 15 (dk_at dksX8_soonest_3 3 rfl rfl)
theorem dX8_soonest_75 : decode cX8_soonest 75 = .ok (.iload_n 3, 1) := dk_29 (dk_at dksX8_soonest_3 6 rfl rfl)
theorem dX8_soonest_76 : decode cX8_soonest 76 = .ok (.ifCond .ne 8, 3) := dk_154 0 8 (dk_at dksX8_soonest_3 7 rfl rfl)
theorem dX8_soonest_79 : decode cX8_soonest 79 = .ok (.iload 4, 2) := dk_21 4 (dk_at dksX8_soonest_3 10 rfl rfl)
theorem dX8_soonest_81 : decode cX8_soonest 81 = .ok (.goto 5, 3) := dk_167 0 5 (dk_at dksX8_soonest_3 12 rfl rfl)
theorem dX8_soonest_84 : decode cX8_soonest 84 = .ok (.iload 5, 2) := dk_21 5 (dk_at dksX8_soonest_3 15 rfl rfl)
theorem dX8_soonest_86 : decode cX8_soonest 86 = .ok (.ireturn, 1) := dk_172 (dk_at dksX8_soonest_3 17 rfl rfl)
theorem dX8_soonest_87 : decode cX8_soonest 87 = .ok (.iinc 5 1, 3) := dk_132 5 1 (dk_at dksX8_soonest_3 18 rfl rfl)
theorem dX8_soonest_90 : decode cX8_soonest 90 = .ok (.goto (-42), 3) := dk_167 255 214 (dk_at dksX8_soonest_3 21 rfl rfl)
theorem dX8_soonest_93 : decode cX8_soonest 93 = .ok (.iinc 4 1, 3) := dk_132 4 1 (dk_at dksX8_soonest_4 0 rfl rfl)
theorem dX8_soonest_96 : decode cX8_soonest 96 = .ok (.goto (-59), 3) := dk_167 255 197 (dk_at dksX8_soonest_4 3 rfl rfl)
theorem dX8_soonest_99 : decode cX8_soonest 99 = .ok (.bipush (-2), 2) := dk_16 254 (dk_at dksX8_soonest_4 6 rfl rfl)
theorem dX8_soonest_101 : decode cX8_soonest 101 = .ok (.ireturn, 1) := dk_172 (dk_at dksX8_soonest_4 8 rfl rfl)
abbrev cX8_seen : ByteArray := prog_19_method_101_code
def yX8_seen : MethodName := ⟨RX8, "seen", "(II)I"⟩
def dkwX8_seen_4 : List UInt8 := [29, 172]
abbrev dktX8_seen_4 : List UInt8 := dkwX8_seen_4 ++ []
def dkwX8_seen_3 : List UInt8 := [21, 4, 27, 182, 1, 206, 153, 0, 6, 132, 3, 1, 132, 5, 1, 167, 255, 224, 132, 4, 1, 167, 255, 206]
abbrev dktX8_seen_3 : List UInt8 := dkwX8_seen_3 ++ dktX8_seen_4
def dkwX8_seen_2 : List UInt8 := [163, 0, 47, 3, 54, 5, 21, 5, 42, 180, 0, 70, 42, 180, 1, 1, 46, 162, 0, 24, 42, 21, 5]
abbrev dktX8_seen_2 : List UInt8 := dkwX8_seen_2 ++ dktX8_seen_3
def dkwX8_seen_1 : List UInt8 := [180, 1, 89, 28, 96, 182, 1, 169, 3, 62, 42, 180, 1, 89, 54, 4, 21, 4, 42, 180, 1, 92]
abbrev dktX8_seen_1 : List UInt8 := dkwX8_seen_1 ++ dktX8_seen_2
def dkwX8_seen_0 : List UInt8 := [42, 27, 182, 1, 154, 153, 0, 10, 28, 184, 1, 203, 154, 0, 5, 2, 172, 42, 182, 1, 163, 42, 42]
abbrev dktX8_seen_0 : List UInt8 := dkwX8_seen_0 ++ dktX8_seen_1
theorem dksX8_seen_0 : cX8_seen.data.toList.drop 0 = dktX8_seen_0 := by decide +kernel
theorem dksX8_seen_1 : cX8_seen.data.toList.drop 23 = dktX8_seen_1 := dk_seg dksX8_seen_0 23 rfl rfl
theorem dksX8_seen_2 : cX8_seen.data.toList.drop 45 = dktX8_seen_2 := dk_seg dksX8_seen_1 22 rfl rfl
theorem dksX8_seen_3 : cX8_seen.data.toList.drop 68 = dktX8_seen_3 := dk_seg dksX8_seen_2 23 rfl rfl
theorem dksX8_seen_4 : cX8_seen.data.toList.drop 92 = dktX8_seen_4 := dk_seg dksX8_seen_3 24 rfl rfl
theorem dX8_seen_0 : decode cX8_seen 0 = .ok (.aload_n 0, 1) := dk_42 (dk_at dksX8_seen_0 0 rfl rfl)
theorem dX8_seen_1 : decode cX8_seen 1 = .ok (.iload_n 1, 1) := dk_27 (dk_at dksX8_seen_0 1 rfl rfl)
theorem dX8_seen_2 : decode cX8_seen 2 = .ok (.invokevirtual 410, 3) := dk_182 1 154 (dk_at dksX8_seen_0 2 rfl rfl)
theorem dX8_seen_5 : decode cX8_seen 5 = .ok (.ifCond .eq 10, 3) := dk_153 0 10 (dk_at dksX8_seen_0 5 rfl rfl)
theorem dX8_seen_8 : decode cX8_seen 8 = .ok (.iload_n 2, 1) := dk_28 (dk_at dksX8_seen_0 8 rfl rfl)
theorem dX8_seen_9 : decode cX8_seen 9 = .ok (.invokestatic 459, 3) := dk_184 1 203 (dk_at dksX8_seen_0 9 rfl rfl)
theorem dX8_seen_12 : decode cX8_seen 12 = .ok (.ifCond .ne 5, 3) := dk_154 0 5 (dk_at dksX8_seen_0 12 rfl rfl)
theorem dX8_seen_15 : decode cX8_seen 15 = .ok (.iconst (-1), 1) := dk_2 (dk_at dksX8_seen_0 15 rfl rfl)
theorem dX8_seen_16 : decode cX8_seen 16 = .ok (.ireturn, 1) := dk_172 (dk_at dksX8_seen_0 16 rfl rfl)
theorem dX8_seen_17 : decode cX8_seen 17 = .ok (.aload_n 0, 1) := dk_42 (dk_at dksX8_seen_0 17 rfl rfl)
theorem dX8_seen_18 : decode cX8_seen 18 = .ok (.invokevirtual 419, 3) := dk_182 1 163 (dk_at dksX8_seen_0 18 rfl rfl)
theorem dX8_seen_21 : decode cX8_seen 21 = .ok (.aload_n 0, 1) := dk_42 (dk_at dksX8_seen_0 21 rfl rfl)
theorem dX8_seen_22 : decode cX8_seen 22 = .ok (.aload_n 0, 1) := dk_42 (dk_at dksX8_seen_0 22 rfl rfl)
theorem dX8_seen_23 : decode cX8_seen 23 = .ok (.getfield 345, 3) := dk_180 1 89 (dk_at dksX8_seen_1 0 rfl rfl)
theorem dX8_seen_26 : decode cX8_seen 26 = .ok (.iload_n 2, 1) := dk_28 (dk_at dksX8_seen_1 3 rfl rfl)
theorem dX8_seen_27 : decode cX8_seen 27 = .ok (.iadd, 1) := dk_96 (dk_at dksX8_seen_1 4 rfl rfl)
theorem dX8_seen_28 : decode cX8_seen 28 = .ok (.invokevirtual 425, 3) := dk_182 1 169 (dk_at dksX8_seen_1 5 rfl rfl)
theorem dX8_seen_31 : decode cX8_seen 31 = .ok (.iconst 0, 1) := dk_3 (dk_at dksX8_seen_1 8 rfl rfl)
theorem dX8_seen_32 : decode cX8_seen 32 = .ok (.istore_n 3, 1) := dk_62 (dk_at dksX8_seen_1 9 rfl rfl)
theorem dX8_seen_33 : decode cX8_seen 33 = .ok (.aload_n 0, 1) := dk_42 (dk_at dksX8_seen_1 10 rfl rfl)
theorem dX8_seen_34 : decode cX8_seen 34 = .ok (.getfield 345, 3) := dk_180 1 89 (dk_at dksX8_seen_1 11 rfl rfl)
theorem dX8_seen_37 : decode cX8_seen 37 = .ok (.istore 4, 2) := dk_54 4 (dk_at dksX8_seen_1 14 rfl rfl)
theorem dX8_seen_39 : decode cX8_seen 39 = .ok (.iload 4, 2) := dk_21 4 (dk_at dksX8_seen_1 16 rfl rfl)
theorem dX8_seen_41 : decode cX8_seen 41 = .ok (.aload_n 0, 1) := dk_42 (dk_at dksX8_seen_1 18 rfl rfl)
theorem dX8_seen_42 : decode cX8_seen 42 = .ok (.getfield 348, 3) := dk_180 1 92 (dk_at dksX8_seen_1 19 rfl rfl)
theorem dX8_seen_45 : decode cX8_seen 45 = .ok (.if_icmp .gt 47, 3) := dk_163 0 47 (dk_at dksX8_seen_2 0 rfl rfl)
theorem dX8_seen_48 : decode cX8_seen 48 = .ok (.iconst 0, 1) := dk_3 (dk_at dksX8_seen_2 3 rfl rfl)
theorem dX8_seen_49 : decode cX8_seen 49 = .ok (.istore 5, 2) := dk_54 5 (dk_at dksX8_seen_2 4 rfl rfl)
theorem dX8_seen_51 : decode cX8_seen 51 = .ok (.iload 5, 2) := dk_21 5 (dk_at dksX8_seen_2 6 rfl rfl)
theorem dX8_seen_53 : decode cX8_seen 53 = .ok (.aload_n 0, 1) := dk_42 (dk_at dksX8_seen_2 8 rfl rfl)
theorem dX8_seen_54 : decode cX8_seen 54 = .ok (.getfield 70, 3) := dk_180 0 70 (dk_at dksX8_seen_2 9 rfl rfl)
theorem dX8_seen_57 : decode cX8_seen 57 = .ok (.aload_n 0, 1) := dk_42 (dk_at dksX8_seen_2 12 rfl rfl)
theorem dX8_seen_58 : decode cX8_seen 58 = .ok (.getfield 257, 3) := dk_180 1 1 (dk_at dksX8_seen_2 13 rfl rfl)
theorem dX8_seen_61 : decode cX8_seen 61 = .ok (.iaload, 1) := dk_46 (dk_at dksX8_seen_2 16 rfl rfl)
theorem dX8_seen_62 : decode cX8_seen 62 = .ok (.if_icmp .ge 24, 3) := dk_162 0 24 (dk_at dksX8_seen_2 17 rfl rfl)
theorem dX8_seen_65 : decode cX8_seen 65 = .ok (.aload_n 0, 1) := dk_42 (dk_at dksX8_seen_2 20 rfl rfl)
theorem dX8_seen_66 : decode cX8_seen 66 = .ok (.iload 5, 2) := dk_21 5 (dk_at dksX8_seen_2 21 rfl rfl)
theorem dX8_seen_68 : decode cX8_seen 68 = .ok (.iload 4, 2) := dk_21 4 (dk_at dksX8_seen_3 0 rfl rfl)
theorem dX8_seen_70 : decode cX8_seen 70 = .ok (.iload_n 1, 1) := dk_27 (dk_at dksX8_seen_3 2 rfl rfl)
theorem dX8_seen_71 : decode cX8_seen 71 = .ok (.invokevirtual 462, 3) := dk_182 1 206 (dk_at dksX8_seen_3 3 rfl rfl)
theorem dX8_seen_74 : decode cX8_seen 74 = .ok (.ifCond .eq 6, 3) := dk_153 0 6 (dk_at dksX8_seen_3 6 rfl rfl)
theorem dX8_seen_77 : decode cX8_seen 77 = .ok (.iinc 3 1, 3) := dk_132 3 1 (dk_at dksX8_seen_3 9 rfl rfl)
theorem dX8_seen_80 : decode cX8_seen 80 = .ok (.iinc 5 1, 3) := dk_132 5 1 (dk_at dksX8_seen_3 12 rfl rfl)
theorem dX8_seen_83 : decode cX8_seen 83 = .ok (.goto (-32), 3) := dk_167 255 224 (dk_at dksX8_seen_3 15 rfl rfl)
theorem dX8_seen_86 : decode cX8_seen 86 = .ok (.iinc 4 1, 3) := dk_132 4 1 (dk_at dksX8_seen_3 18 rfl rfl)
theorem dX8_seen_89 : decode cX8_seen 89 = .ok (.goto (-50), 3) := dk_167 255 206 (dk_at dksX8_seen_3 21 rfl rfl)
theorem dX8_seen_92 : decode cX8_seen 92 = .ok (.iload_n 3, 1) := dk_29 (dk_at dksX8_seen_4 0 rfl rfl)
theorem dX8_seen_93 : decode cX8_seen 93 = .ok (.ireturn, 1) := dk_172 (dk_at dksX8_seen_4 1 rfl rfl)
abbrev cX8_isLong : ByteArray := prog_19_method_99_code
def yX8_isLong : MethodName := ⟨RX8, "isLong", "(I)Z"⟩
def dkwX8_isLong_0 : List UInt8 := [26, 3, 17, 1, 43, 184, 1, 85, 172]
abbrev dktX8_isLong_0 : List UInt8 := dkwX8_isLong_0 ++ []
theorem dksX8_isLong_0 : cX8_isLong.data.toList.drop 0 = dktX8_isLong_0 := by decide +kernel
theorem dX8_isLong_0 : decode cX8_isLong 0 = .ok (.iload_n 0, 1) := dk_26 (dk_at dksX8_isLong_0 0 rfl rfl)
theorem dX8_isLong_1 : decode cX8_isLong 1 = .ok (.iconst 0, 1) := dk_3 (dk_at dksX8_isLong_0 1 rfl rfl)
theorem dX8_isLong_2 : decode cX8_isLong 2 = .ok (.sipush 299, 3) := dk_17 1 43 (dk_at dksX8_isLong_0 2 rfl rfl)
theorem dX8_isLong_5 : decode cX8_isLong 5 = .ok (.invokestatic 341, 3) := dk_184 1 85 (dk_at dksX8_isLong_0 5 rfl rfl)
theorem dX8_isLong_8 : decode cX8_isLong 8 = .ok (.ireturn, 1) := dk_172 (dk_at dksX8_isLong_0 8 rfl rfl)
abbrev cX8_isSeenIn : ByteArray := prog_19_method_100_code
def yX8_isSeenIn : MethodName := ⟨RX8, "isSeenIn", "(III)Z"⟩
def dkwX8_isSeenIn_1 : List UInt8 := [172]
abbrev dktX8_isSeenIn_1 : List UInt8 := dkwX8_isSeenIn_1 ++ []
def dkwX8_isSeenIn_0 : List UInt8 := [42, 27, 42, 27, 28, 182, 1, 139, 182, 1, 166, 29, 122, 4, 126, 4, 160, 0, 7, 4, 167, 0, 4, 3]
abbrev dktX8_isSeenIn_0 : List UInt8 := dkwX8_isSeenIn_0 ++ dktX8_isSeenIn_1
theorem dksX8_isSeenIn_0 : cX8_isSeenIn.data.toList.drop 0 = dktX8_isSeenIn_0 := by decide +kernel
theorem dksX8_isSeenIn_1 : cX8_isSeenIn.data.toList.drop 24 = dktX8_isSeenIn_1 := dk_seg dksX8_isSeenIn_0 24 rfl rfl
theorem dX8_isSeenIn_0 : decode cX8_isSeenIn 0 = .ok (.aload_n 0, 1) := dk_42 (dk_at dksX8_isSeenIn_0 0 rfl rfl)
theorem dX8_isSeenIn_1 : decode cX8_isSeenIn 1 = .ok (.iload_n 1, 1) := dk_27 (dk_at dksX8_isSeenIn_0 1 rfl rfl)
theorem dX8_isSeenIn_2 : decode cX8_isSeenIn 2 = .ok (.aload_n 0, 1) := dk_42 (dk_at dksX8_isSeenIn_0 2 rfl rfl)
theorem dX8_isSeenIn_3 : decode cX8_isSeenIn 3 = .ok (.iload_n 1, 1) := dk_27 (dk_at dksX8_isSeenIn_0 3 rfl rfl)
theorem dX8_isSeenIn_4 : decode cX8_isSeenIn 4 = .ok (.iload_n 2, 1) := dk_28 (dk_at dksX8_isSeenIn_0 4 rfl rfl)
theorem dX8_isSeenIn_5 : decode cX8_isSeenIn 5 = .ok (.invokevirtual 395, 3) := dk_182 1 139 (dk_at dksX8_isSeenIn_0 5 rfl rfl)
theorem dX8_isSeenIn_8 : decode cX8_isSeenIn 8 = .ok (.invokevirtual 422, 3) := dk_182 1 166 (dk_at dksX8_isSeenIn_0 8 rfl rfl)
theorem dX8_isSeenIn_11 : decode cX8_isSeenIn 11 = .ok (.iload_n 3, 1) := dk_29 (dk_at dksX8_isSeenIn_0 11 rfl rfl)
theorem dX8_isSeenIn_12 : decode cX8_isSeenIn 12 = .ok (.ishr, 1) := dk_122 (dk_at dksX8_isSeenIn_0 12 rfl rfl)
theorem dX8_isSeenIn_13 : decode cX8_isSeenIn 13 = .ok (.iconst 1, 1) := dk_4 (dk_at dksX8_isSeenIn_0 13 rfl rfl)
theorem dX8_isSeenIn_14 : decode cX8_isSeenIn 14 = .ok (.iand, 1) := dk_126 (dk_at dksX8_isSeenIn_0 14 rfl rfl)
theorem dX8_isSeenIn_15 : decode cX8_isSeenIn 15 = .ok (.iconst 1, 1) := dk_4 (dk_at dksX8_isSeenIn_0 15 rfl rfl)
theorem dX8_isSeenIn_16 : decode cX8_isSeenIn 16 = .ok (.if_icmp .ne 7, 3) := dk_160 0 7 (dk_at dksX8_isSeenIn_0 16 rfl rfl)
theorem dX8_isSeenIn_19 : decode cX8_isSeenIn 19 = .ok (.iconst 1, 1) := dk_4 (dk_at dksX8_isSeenIn_0 19 rfl rfl)
theorem dX8_isSeenIn_20 : decode cX8_isSeenIn 20 = .ok (.goto 4, 3) := dk_167 0 4 (dk_at dksX8_isSeenIn_0 20 rfl rfl)
theorem dX8_isSeenIn_23 : decode cX8_isSeenIn 23 = .ok (.iconst 0, 1) := dk_3 (dk_at dksX8_isSeenIn_0 23 rfl rfl)
theorem dX8_isSeenIn_24 : decode cX8_isSeenIn 24 = .ok (.ireturn, 1) := dk_172 (dk_at dksX8_isSeenIn_1 0 rfl rfl)
abbrev cX8_turned : ByteArray := prog_19_method_102_code
def yX8_turned : MethodName := ⟨RX8, "turned", "(II)I"⟩
def dkwX8_turned_4 : List UInt8 := [167, 0, 4, 29, 172]
abbrev dktX8_turned_4 : List UInt8 := dkwX8_turned_4 ++ []
def dkwX8_turned_3 : List UInt8 := [120, 128, 62, 132, 5, 1, 167, 255, 226, 132, 4, 1, 167, 255, 200, 28, 154, 0, 10, 29, 184, 1, 113]
abbrev dktX8_turned_3 : List UInt8 := dkwX8_turned_3 ++ dktX8_turned_4
def dkwX8_turned_2 : List UInt8 := [21, 5, 17, 1, 43, 163, 0, 28, 42, 21, 4, 21, 5, 27, 182, 1, 206, 153, 0, 10, 29, 4, 21, 4]
abbrev dktX8_turned_2 : List UInt8 := dkwX8_turned_2 ++ dktX8_turned_3
def dkwX8_turned_1 : List UInt8 := [62, 3, 54, 4, 21, 4, 42, 180, 0, 70, 42, 180, 1, 1, 46, 162, 0, 48, 42, 180, 1, 89, 54, 5]
abbrev dktX8_turned_1 : List UInt8 := dkwX8_turned_1 ++ dktX8_turned_2
def dkwX8_turned_0 : List UInt8 := [42, 27, 182, 1, 154, 153, 0, 12, 28, 3, 4, 184, 1, 85, 154, 0, 5, 2, 172, 42, 182, 1, 196, 3]
abbrev dktX8_turned_0 : List UInt8 := dkwX8_turned_0 ++ dktX8_turned_1
theorem dksX8_turned_0 : cX8_turned.data.toList.drop 0 = dktX8_turned_0 := by decide +kernel
theorem dksX8_turned_1 : cX8_turned.data.toList.drop 24 = dktX8_turned_1 := dk_seg dksX8_turned_0 24 rfl rfl
theorem dksX8_turned_2 : cX8_turned.data.toList.drop 48 = dktX8_turned_2 := dk_seg dksX8_turned_1 24 rfl rfl
theorem dksX8_turned_3 : cX8_turned.data.toList.drop 72 = dktX8_turned_3 := dk_seg dksX8_turned_2 24 rfl rfl
theorem dksX8_turned_4 : cX8_turned.data.toList.drop 95 = dktX8_turned_4 := dk_seg dksX8_turned_3 23 rfl rfl
theorem dX8_turned_0 : decode cX8_turned 0 = .ok (.aload_n 0, 1) := dk_42 (dk_at dksX8_turned_0 0 rfl rfl)
theorem dX8_turned_1 : decode cX8_turned 1 = .ok (.iload_n 1, 1) := dk_27 (dk_at dksX8_turned_0 1 rfl rfl)
theorem dX8_turned_2 : decode cX8_turned 2 = .ok (.invokevirtual 410, 3) := dk_182 1 154 (dk_at dksX8_turned_0 2 rfl rfl)
theorem dX8_turned_5 : decode cX8_turned 5 = .ok (.ifCond .eq 12, 3) := dk_153 0 12 (dk_at dksX8_turned_0 5 rfl rfl)
theorem dX8_turned_8 : decode cX8_turned 8 = .ok (.iload_n 2, 1) := dk_28 (dk_at dksX8_turned_0 8 rfl rfl)
theorem dX8_turned_9 : decode cX8_turned 9 = .ok (.iconst 0, 1) := dk_3 (dk_at dksX8_turned_0 9 rfl rfl)
theorem dX8_turned_10 : decode cX8_turned 10 = .ok (.iconst 1, 1) := dk_4 (dk_at dksX8_turned_0 10 rfl rfl)
theorem dX8_turned_11 : decode cX8_turned 11 = .ok (.invokestatic 341, 3) := dk_184 1 85 (dk_at dksX8_turned_0 11 rfl rfl)
theorem dX8_turned_14 : decode cX8_turned 14 = .ok (.ifCond .ne 5, 3) := dk_154 0 5 (dk_at dksX8_turned_0 14 rfl rfl)
theorem dX8_turned_17 : decode cX8_turned 17 = .ok (.iconst (-1), 1) := dk_2 (dk_at dksX8_turned_0 17 rfl rfl)
theorem dX8_turned_18 : decode cX8_turned 18 = .ok (.ireturn, 1) := dk_172 (dk_at dksX8_turned_0 18 rfl rfl)
theorem dX8_turned_19 : decode cX8_turned 19 = .ok (.aload_n 0, 1) := dk_42 (dk_at dksX8_turned_0 19 rfl rfl)
theorem dX8_turned_20 : decode cX8_turned 20 = .ok (.invokevirtual 452, 3) := dk_182 1 196 (dk_at dksX8_turned_0 20 rfl rfl)
theorem dX8_turned_23 : decode cX8_turned 23 = .ok (.iconst 0, 1) := dk_3 (dk_at dksX8_turned_0 23 rfl rfl)
theorem dX8_turned_24 : decode cX8_turned 24 = .ok (.istore_n 3, 1) := dk_62 (dk_at dksX8_turned_1 0 rfl rfl)
theorem dX8_turned_25 : decode cX8_turned 25 = .ok (.iconst 0, 1) := dk_3 (dk_at dksX8_turned_1 1 rfl rfl)
theorem dX8_turned_26 : decode cX8_turned 26 = .ok (.istore 4, 2) := dk_54 4 (dk_at dksX8_turned_1 2 rfl rfl)
theorem dX8_turned_28 : decode cX8_turned 28 = .ok (.iload 4, 2) := dk_21 4 (dk_at dksX8_turned_1 4 rfl rfl)
theorem dX8_turned_30 : decode cX8_turned 30 = .ok (.aload_n 0, 1) := dk_42 (dk_at dksX8_turned_1 6 rfl rfl)
theorem dX8_turned_31 : decode cX8_turned 31 = .ok (.getfield 70, 3) := dk_180 0 70 (dk_at dksX8_turned_1 7 rfl rfl)
theorem dX8_turned_34 : decode cX8_turned 34 = .ok (.aload_n 0, 1) := dk_42 (dk_at dksX8_turned_1 10 rfl rfl)
theorem dX8_turned_35 : decode cX8_turned 35 = .ok (.getfield 257, 3) := dk_180 1 1 (dk_at dksX8_turned_1 11 rfl rfl)
theorem dX8_turned_38 : decode cX8_turned 38 = .ok (.iaload, 1) := dk_46 (dk_at dksX8_turned_1 14 rfl rfl)
theorem dX8_turned_39 : decode cX8_turned 39 = .ok (.if_icmp .ge 48, 3) := dk_162 0 48 (dk_at dksX8_turned_1 15 rfl rfl)
theorem dX8_turned_42 : decode cX8_turned 42 = .ok (.aload_n 0, 1) := dk_42 (dk_at dksX8_turned_1 18 rfl rfl)
theorem dX8_turned_43 : decode cX8_turned 43 = .ok (.getfield 345, 3) := dk_180 1 89 (dk_at dksX8_turned_1 19 rfl rfl)
theorem dX8_turned_46 : decode cX8_turned 46 = .ok (.istore 5, 2) := dk_54 5 (dk_at dksX8_turned_1 22 rfl rfl)
theorem dX8_turned_48 : decode cX8_turned 48 = .ok (.iload 5, 2) := dk_21 5 (dk_at dksX8_turned_2 0 rfl rfl)
theorem dX8_turned_50 : decode cX8_turned 50 = .ok (.sipush 299, 3) := dk_17 1 43 (dk_at dksX8_turned_2 2 rfl rfl)
theorem dX8_turned_53 : decode cX8_turned 53 = .ok (.if_icmp .gt 28, 3) := dk_163 0 28 (dk_at dksX8_turned_2 5 rfl rfl)
theorem dX8_turned_56 : decode cX8_turned 56 = .ok (.aload_n 0, 1) := dk_42 (dk_at dksX8_turned_2 8 rfl rfl)
theorem dX8_turned_57 : decode cX8_turned 57 = .ok (.iload 4, 2) := dk_21 4 (dk_at dksX8_turned_2 9 rfl rfl)
theorem dX8_turned_59 : decode cX8_turned 59 = .ok (.iload 5, 2) := dk_21 5 (dk_at dksX8_turned_2 11 rfl rfl)
theorem dX8_turned_61 : decode cX8_turned 61 = .ok (.iload_n 1, 1) := dk_27 (dk_at dksX8_turned_2 13 rfl rfl)
theorem dX8_turned_62 : decode cX8_turned 62 = .ok (.invokevirtual 462, 3) := dk_182 1 206 (dk_at dksX8_turned_2 14 rfl rfl)
theorem dX8_turned_65 : decode cX8_turned 65 = .ok (.ifCond .eq 10, 3) := dk_153 0 10 (dk_at dksX8_turned_2 17 rfl rfl)
theorem dX8_turned_68 : decode cX8_turned 68 = .ok (.iload_n 3, 1) := dk_29 (dk_at dksX8_turned_2 20 rfl rfl)
theorem dX8_turned_69 : decode cX8_turned 69 = .ok (.iconst 1, 1) := dk_4 (dk_at dksX8_turned_2 21 rfl rfl)
theorem dX8_turned_70 : decode cX8_turned 70 = .ok (.iload 4, 2) := dk_21 4 (dk_at dksX8_turned_2 22 rfl rfl)
theorem dX8_turned_72 : decode cX8_turned 72 = .ok (.ishl, 1) := dk_120 (dk_at dksX8_turned_3 0 rfl rfl)
theorem dX8_turned_73 : decode cX8_turned 73 = .ok (.ior, 1) := dk_128 (dk_at dksX8_turned_3 1 rfl rfl)
theorem dX8_turned_74 : decode cX8_turned 74 = .ok (.istore_n 3, 1) := dk_62 (dk_at dksX8_turned_3 2 rfl rfl)
theorem dX8_turned_75 : decode cX8_turned 75 = .ok (.iinc 5 1, 3) := dk_132 5 1 (dk_at dksX8_turned_3 3 rfl rfl)
theorem dX8_turned_78 : decode cX8_turned 78 = .ok (.goto (-30), 3) := dk_167 255 226 (dk_at dksX8_turned_3 6 rfl rfl)
theorem dX8_turned_81 : decode cX8_turned 81 = .ok (.iinc 4 1, 3) := dk_132 4 1 (dk_at dksX8_turned_3 9 rfl rfl)
theorem dX8_turned_84 : decode cX8_turned 84 = .ok (.goto (-56), 3) := dk_167 255 200 (dk_at dksX8_turned_3 12 rfl rfl)
theorem dX8_turned_87 : decode cX8_turned 87 = .ok (.iload_n 2, 1) := dk_28 (dk_at dksX8_turned_3 15 rfl rfl)
theorem dX8_turned_88 : decode cX8_turned 88 = .ok (.ifCond .ne 10, 3) := dk_154 0 10 (dk_at dksX8_turned_3 16 rfl rfl)
theorem dX8_turned_91 : decode cX8_turned 91 = .ok (.iload_n 3, 1) := dk_29 (dk_at dksX8_turned_3 19 rfl rfl)
theorem dX8_turned_92 : decode cX8_turned 92 = .ok (.invokestatic 369, 3) := dk_184 1 113 (dk_at dksX8_turned_3 20 rfl rfl)
theorem dX8_turned_95 : decode cX8_turned 95 = .ok (.goto 4, 3) := dk_167 0 4 (dk_at dksX8_turned_4 0 rfl rfl)
theorem dX8_turned_98 : decode cX8_turned 98 = .ok (.iload_n 3, 1) := dk_29 (dk_at dksX8_turned_4 3 rfl rfl)
theorem dX8_turned_99 : decode cX8_turned 99 = .ok (.ireturn, 1) := dk_172 (dk_at dksX8_turned_4 4 rfl rfl)
abbrev cX8_willBe : ByteArray := prog_19_method_103_code
def yX8_willBe : MethodName := ⟨RX8, "willBe", "(II)I"⟩
def dkwX8_willBe_1 : List UInt8 := [180, 1, 89, 28, 96, 182, 1, 169, 42, 180, 0, 131, 16, 36, 42, 180, 1, 92, 104, 27, 96, 46, 172]
abbrev dktX8_willBe_1 : List UInt8 := dkwX8_willBe_1 ++ []
def dkwX8_willBe_0 : List UInt8 := [42, 27, 182, 1, 154, 153, 0, 10, 28, 184, 1, 203, 154, 0, 5, 2, 172, 42, 182, 1, 163, 42, 42]
abbrev dktX8_willBe_0 : List UInt8 := dkwX8_willBe_0 ++ dktX8_willBe_1
theorem dksX8_willBe_0 : cX8_willBe.data.toList.drop 0 = dktX8_willBe_0 := by decide +kernel
theorem dksX8_willBe_1 : cX8_willBe.data.toList.drop 23 = dktX8_willBe_1 := dk_seg dksX8_willBe_0 23 rfl rfl
theorem dX8_willBe_0 : decode cX8_willBe 0 = .ok (.aload_n 0, 1) := dk_42 (dk_at dksX8_willBe_0 0 rfl rfl)
theorem dX8_willBe_1 : decode cX8_willBe 1 = .ok (.iload_n 1, 1) := dk_27 (dk_at dksX8_willBe_0 1 rfl rfl)
theorem dX8_willBe_2 : decode cX8_willBe 2 = .ok (.invokevirtual 410, 3) := dk_182 1 154 (dk_at dksX8_willBe_0 2 rfl rfl)
theorem dX8_willBe_5 : decode cX8_willBe 5 = .ok (.ifCond .eq 10, 3) := dk_153 0 10 (dk_at dksX8_willBe_0 5 rfl rfl)
theorem dX8_willBe_8 : decode cX8_willBe 8 = .ok (.iload_n 2, 1) := dk_28 (dk_at dksX8_willBe_0 8 rfl rfl)
theorem dX8_willBe_9 : decode cX8_willBe 9 = .ok (.invokestatic 459, 3) := dk_184 1 203 (dk_at dksX8_willBe_0 9 rfl rfl)
theorem dX8_willBe_12 : decode cX8_willBe 12 = .ok (.ifCond .ne 5, 3) := dk_154 0 5 (dk_at dksX8_willBe_0 12 rfl rfl)
theorem dX8_willBe_15 : decode cX8_willBe 15 = .ok (.iconst (-1), 1) := dk_2 (dk_at dksX8_willBe_0 15 rfl rfl)
theorem dX8_willBe_16 : decode cX8_willBe 16 = .ok (.ireturn, 1) := dk_172 (dk_at dksX8_willBe_0 16 rfl rfl)
theorem dX8_willBe_17 : decode cX8_willBe 17 = .ok (.aload_n 0, 1) := dk_42 (dk_at dksX8_willBe_0 17 rfl rfl)
theorem dX8_willBe_18 : decode cX8_willBe 18 = .ok (.invokevirtual 419, 3) := dk_182 1 163 (dk_at dksX8_willBe_0 18 rfl rfl)
theorem dX8_willBe_21 : decode cX8_willBe 21 = .ok (.aload_n 0, 1) := dk_42 (dk_at dksX8_willBe_0 21 rfl rfl)
theorem dX8_willBe_22 : decode cX8_willBe 22 = .ok (.aload_n 0, 1) := dk_42 (dk_at dksX8_willBe_0 22 rfl rfl)
theorem dX8_willBe_23 : decode cX8_willBe 23 = .ok (.getfield 345, 3) := dk_180 1 89 (dk_at dksX8_willBe_1 0 rfl rfl)
theorem dX8_willBe_26 : decode cX8_willBe 26 = .ok (.iload_n 2, 1) := dk_28 (dk_at dksX8_willBe_1 3 rfl rfl)
theorem dX8_willBe_27 : decode cX8_willBe 27 = .ok (.iadd, 1) := dk_96 (dk_at dksX8_willBe_1 4 rfl rfl)
theorem dX8_willBe_28 : decode cX8_willBe 28 = .ok (.invokevirtual 425, 3) := dk_182 1 169 (dk_at dksX8_willBe_1 5 rfl rfl)
theorem dX8_willBe_31 : decode cX8_willBe 31 = .ok (.aload_n 0, 1) := dk_42 (dk_at dksX8_willBe_1 8 rfl rfl)
theorem dX8_willBe_32 : decode cX8_willBe 32 = .ok (.getfield 131, 3) := dk_180 0 131 (dk_at dksX8_willBe_1 9 rfl rfl)
theorem dX8_willBe_35 : decode cX8_willBe 35 = .ok (.bipush 36, 2) := dk_16 36 (dk_at dksX8_willBe_1 12 rfl rfl)
theorem dX8_willBe_37 : decode cX8_willBe 37 = .ok (.aload_n 0, 1) := dk_42 (dk_at dksX8_willBe_1 14 rfl rfl)
theorem dX8_willBe_38 : decode cX8_willBe 38 = .ok (.getfield 348, 3) := dk_180 1 92 (dk_at dksX8_willBe_1 15 rfl rfl)
theorem dX8_willBe_41 : decode cX8_willBe 41 = .ok (.imul, 1) := dk_104 (dk_at dksX8_willBe_1 18 rfl rfl)
theorem dX8_willBe_42 : decode cX8_willBe 42 = .ok (.iload_n 1, 1) := dk_27 (dk_at dksX8_willBe_1 19 rfl rfl)
theorem dX8_willBe_43 : decode cX8_willBe 43 = .ok (.iadd, 1) := dk_96 (dk_at dksX8_willBe_1 20 rfl rfl)
theorem dX8_willBe_44 : decode cX8_willBe 44 = .ok (.iaload, 1) := dk_46 (dk_at dksX8_willBe_1 21 rfl rfl)
theorem dX8_willBe_45 : decode cX8_willBe 45 = .ok (.ireturn, 1) := dk_172 (dk_at dksX8_willBe_1 22 rfl rfl)
abbrev cX8_odds : ByteArray := prog_19_method_104_code
def yX8_odds : MethodName := ⟨RX8, "odds", "(III)I"⟩
def dkwX8_odds_3 : List UInt8 := [46, 2, 159, 0, 6, 132, 4, 1, 132, 5, 1, 167, 255, 209, 21, 4, 172]
abbrev dktX8_odds_3 : List UInt8 := dkwX8_odds_3 ++ []
def dkwX8_odds_2 : List UInt8 := [180, 1, 95, 21, 5, 96, 181, 1, 95, 42, 42, 180, 1, 89, 28, 96, 182, 1, 169, 42, 180, 0, 134, 27]
abbrev dktX8_odds_2 : List UInt8 := dkwX8_odds_2 ++ dktX8_odds_3
def dkwX8_odds_1 : List UInt8 := [154, 0, 5, 2, 172, 3, 54, 4, 3, 54, 5, 21, 5, 29, 162, 0, 47, 42, 182, 1, 163, 42, 89]
abbrev dktX8_odds_1 : List UInt8 := dkwX8_odds_1 ++ dktX8_odds_2
def dkwX8_odds_0 : List UInt8 := [42, 27, 182, 1, 160, 153, 0, 20, 28, 184, 1, 203, 153, 0, 13, 29, 4, 16, 10, 184, 1, 85]
abbrev dktX8_odds_0 : List UInt8 := dkwX8_odds_0 ++ dktX8_odds_1
theorem dksX8_odds_0 : cX8_odds.data.toList.drop 0 = dktX8_odds_0 := by decide +kernel
theorem dksX8_odds_1 : cX8_odds.data.toList.drop 22 = dktX8_odds_1 := dk_seg dksX8_odds_0 22 rfl rfl
theorem dksX8_odds_2 : cX8_odds.data.toList.drop 45 = dktX8_odds_2 := dk_seg dksX8_odds_1 23 rfl rfl
theorem dksX8_odds_3 : cX8_odds.data.toList.drop 69 = dktX8_odds_3 := dk_seg dksX8_odds_2 24 rfl rfl
theorem dX8_odds_0 : decode cX8_odds 0 = .ok (.aload_n 0, 1) := dk_42 (dk_at dksX8_odds_0 0 rfl rfl)
theorem dX8_odds_1 : decode cX8_odds 1 = .ok (.iload_n 1, 1) := dk_27 (dk_at dksX8_odds_0 1 rfl rfl)
theorem dX8_odds_2 : decode cX8_odds 2 = .ok (.invokevirtual 416, 3) := dk_182 1 160 (dk_at dksX8_odds_0 2 rfl rfl)
theorem dX8_odds_5 : decode cX8_odds 5 = .ok (.ifCond .eq 20, 3) := dk_153 0 20 (dk_at dksX8_odds_0 5 rfl rfl)
theorem dX8_odds_8 : decode cX8_odds 8 = .ok (.iload_n 2, 1) := dk_28 (dk_at dksX8_odds_0 8 rfl rfl)
theorem dX8_odds_9 : decode cX8_odds 9 = .ok (.invokestatic 459, 3) := dk_184 1 203 (dk_at dksX8_odds_0 9 rfl rfl)
theorem dX8_odds_12 : decode cX8_odds 12 = .ok (.ifCond .eq 13, 3) := dk_153 0 13 (dk_at dksX8_odds_0 12 rfl rfl)
theorem dX8_odds_15 : decode cX8_odds 15 = .ok (.iload_n 3, 1) := dk_29 (dk_at dksX8_odds_0 15 rfl rfl)
theorem dX8_odds_16 : decode cX8_odds 16 = .ok (.iconst 1, 1) := dk_4 (dk_at dksX8_odds_0 16 rfl rfl)
theorem dX8_odds_17 : decode cX8_odds 17 = .ok (.bipush 10, 2) := dk_16 10 (dk_at dksX8_odds_0 17 rfl rfl)
theorem dX8_odds_19 : decode cX8_odds 19 = .ok (.invokestatic 341, 3) := dk_184 1 85 (dk_at dksX8_odds_0 19 rfl rfl)
theorem dX8_odds_22 : decode cX8_odds 22 = .ok (.ifCond .ne 5, 3) := dk_154 0 5 (dk_at dksX8_odds_1 0 rfl rfl)
theorem dX8_odds_25 : decode cX8_odds 25 = .ok (.iconst (-1), 1) := dk_2 (dk_at dksX8_odds_1 3 rfl rfl)
theorem dX8_odds_26 : decode cX8_odds 26 = .ok (.ireturn, 1) := dk_172 (dk_at dksX8_odds_1 4 rfl rfl)
theorem dX8_odds_27 : decode cX8_odds 27 = .ok (.iconst 0, 1) := dk_3 (dk_at dksX8_odds_1 5 rfl rfl)
theorem dX8_odds_28 : decode cX8_odds 28 = .ok (.istore 4, 2) := dk_54 4 (dk_at dksX8_odds_1 6 rfl rfl)
theorem dX8_odds_30 : decode cX8_odds 30 = .ok (.iconst 0, 1) := dk_3 (dk_at dksX8_odds_1 8 rfl rfl)
theorem dX8_odds_31 : decode cX8_odds 31 = .ok (.istore 5, 2) := dk_54 5 (dk_at dksX8_odds_1 9 rfl rfl)
theorem dX8_odds_33 : decode cX8_odds 33 = .ok (.iload 5, 2) := dk_21 5 (dk_at dksX8_odds_1 11 rfl rfl)
theorem dX8_odds_35 : decode cX8_odds 35 = .ok (.iload_n 3, 1) := dk_29 (dk_at dksX8_odds_1 13 rfl rfl)
theorem dX8_odds_36 : decode cX8_odds 36 = .ok (.if_icmp .ge 47, 3) := dk_162 0 47 (dk_at dksX8_odds_1 14 rfl rfl)
theorem dX8_odds_39 : decode cX8_odds 39 = .ok (.aload_n 0, 1) := dk_42 (dk_at dksX8_odds_1 17 rfl rfl)
theorem dX8_odds_40 : decode cX8_odds 40 = .ok (.invokevirtual 419, 3) := dk_182 1 163 (dk_at dksX8_odds_1 18 rfl rfl)
theorem dX8_odds_43 : decode cX8_odds 43 = .ok (.aload_n 0, 1) := dk_42 (dk_at dksX8_odds_1 21 rfl rfl)
theorem dX8_odds_44 : decode cX8_odds 44 = .ok (.dup, 1) := dk_89 (dk_at dksX8_odds_1 22 rfl rfl)
theorem dX8_odds_45 : decode cX8_odds 45 = .ok (.getfield 351, 3) := dk_180 1 95 (dk_at dksX8_odds_2 0 rfl rfl)
theorem dX8_odds_48 : decode cX8_odds 48 = .ok (.iload 5, 2) := dk_21 5 (dk_at dksX8_odds_2 3 rfl rfl)
theorem dX8_odds_50 : decode cX8_odds 50 = .ok (.iadd, 1) := dk_96 (dk_at dksX8_odds_2 5 rfl rfl)
theorem dX8_odds_51 : decode cX8_odds 51 = .ok (.putfield 351, 3) := dk_181 1 95 (dk_at dksX8_odds_2 6 rfl rfl)
theorem dX8_odds_54 : decode cX8_odds 54 = .ok (.aload_n 0, 1) := dk_42 (dk_at dksX8_odds_2 9 rfl rfl)
theorem dX8_odds_55 : decode cX8_odds 55 = .ok (.aload_n 0, 1) := dk_42 (dk_at dksX8_odds_2 10 rfl rfl)
theorem dX8_odds_56 : decode cX8_odds 56 = .ok (.getfield 345, 3) := dk_180 1 89 (dk_at dksX8_odds_2 11 rfl rfl)
theorem dX8_odds_59 : decode cX8_odds 59 = .ok (.iload_n 2, 1) := dk_28 (dk_at dksX8_odds_2 14 rfl rfl)
theorem dX8_odds_60 : decode cX8_odds 60 = .ok (.iadd, 1) := dk_96 (dk_at dksX8_odds_2 15 rfl rfl)
theorem dX8_odds_61 : decode cX8_odds 61 = .ok (.invokevirtual 425, 3) := dk_182 1 169 (dk_at dksX8_odds_2 16 rfl rfl)
theorem dX8_odds_64 : decode cX8_odds 64 = .ok (.aload_n 0, 1) := dk_42 (dk_at dksX8_odds_2 19 rfl rfl)
theorem dX8_odds_65 : decode cX8_odds 65 = .ok (.getfield 134, 3) := dk_180 0 134 (dk_at dksX8_odds_2 20 rfl rfl)
theorem dX8_odds_68 : decode cX8_odds 68 = .ok (.iload_n 1, 1) := dk_27 (dk_at dksX8_odds_2 23 rfl rfl)
theorem dX8_odds_69 : decode cX8_odds 69 = .ok (.iaload, 1) := dk_46 (dk_at dksX8_odds_3 0 rfl rfl)
theorem dX8_odds_70 : decode cX8_odds 70 = .ok (.iconst (-1), 1) := dk_2 (dk_at dksX8_odds_3 1 rfl rfl)
theorem dX8_odds_71 : decode cX8_odds 71 = .ok (.if_icmp .eq 6, 3) := dk_159 0 6 (dk_at dksX8_odds_3 2 rfl rfl)
theorem dX8_odds_74 : decode cX8_odds 74 = .ok (.iinc 4 1, 3) := dk_132 4 1 (dk_at dksX8_odds_3 5 rfl rfl)
theorem dX8_odds_77 : decode cX8_odds 77 = .ok (.iinc 5 1, 3) := dk_132 5 1 (dk_at dksX8_odds_3 8 rfl rfl)
theorem dX8_odds_80 : decode cX8_odds 80 = .ok (.goto (-47), 3) := dk_167 255 209 (dk_at dksX8_odds_3 11 rfl rfl)
theorem dX8_odds_83 : decode cX8_odds 83 = .ok (.iload 4, 2) := dk_21 4 (dk_at dksX8_odds_3 14 rfl rfl)
theorem dX8_odds_85 : decode cX8_odds 85 = .ok (.ireturn, 1) := dk_172 (dk_at dksX8_odds_3 16 rfl rfl)
abbrev cX8_view : ByteArray := prog_19_method_106_code
def yX8_view : MethodName := ⟨RX8, "view", "(IIII)I"⟩
def dkwX8_view_6 : List UInt8 := [167, 0, 5, 21, 6, 172, 132, 6, 1, 167, 255, 181, 132, 5, 1, 167, 255, 164, 16, 254, 172]
abbrev dktX8_view_6 : List UInt8 := dkwX8_view_6 ++ []
def dkwX8_view_5 : List UInt8 := [100, 163, 0, 29, 42, 21, 6, 21, 5, 28, 29, 182, 1, 199, 153, 0, 16, 21, 4, 154, 0, 8, 21, 5]
abbrev dktX8_view_5 : List UInt8 := dkwX8_view_5 ++ dktX8_view_6
def dkwX8_view_4 : List UInt8 := [42, 21, 6, 21, 5, 182, 1, 136, 46, 54, 7, 21, 7, 155, 0, 41, 21, 7, 21, 5, 42, 180, 1, 89]
abbrev dktX8_view_4 : List UInt8 := dkwX8_view_4 ++ dktX8_view_5
def dkwX8_view_3 : List UInt8 := [163, 0, 90, 3, 54, 6, 21, 6, 42, 180, 0, 70, 42, 180, 1, 1, 46, 162, 0, 67, 42, 180, 0, 152]
abbrev dktX8_view_3 : List UInt8 := dkwX8_view_3 ++ dktX8_view_4
def dkwX8_view_2 : List UInt8 := [180, 1, 89, 104, 27, 96, 46, 17, 0, 255, 182, 1, 209, 42, 180, 1, 89, 54, 5, 21, 5, 17, 1, 43]
abbrev dktX8_view_2 : List UInt8 := dkwX8_view_2 ++ dktX8_view_3
def dkwX8_view_1 : List UInt8 := [21, 4, 3, 4, 184, 1, 85, 154, 0, 5, 2, 172, 42, 182, 1, 196, 42, 42, 180, 0, 131, 16, 36, 42]
abbrev dktX8_view_1 : List UInt8 := dkwX8_view_1 ++ dktX8_view_2
def dkwX8_view_0 : List UInt8 := [42, 27, 182, 1, 154, 153, 0, 29, 42, 28, 182, 1, 181, 153, 0, 21, 42, 29, 182, 1, 157, 153, 0, 13]
abbrev dktX8_view_0 : List UInt8 := dkwX8_view_0 ++ dktX8_view_1
theorem dksX8_view_0 : cX8_view.data.toList.drop 0 = dktX8_view_0 := by decide +kernel
theorem dksX8_view_1 : cX8_view.data.toList.drop 24 = dktX8_view_1 := dk_seg dksX8_view_0 24 rfl rfl
theorem dksX8_view_2 : cX8_view.data.toList.drop 48 = dktX8_view_2 := dk_seg dksX8_view_1 24 rfl rfl
theorem dksX8_view_3 : cX8_view.data.toList.drop 72 = dktX8_view_3 := dk_seg dksX8_view_2 24 rfl rfl
theorem dksX8_view_4 : cX8_view.data.toList.drop 96 = dktX8_view_4 := dk_seg dksX8_view_3 24 rfl rfl
theorem dksX8_view_5 : cX8_view.data.toList.drop 120 = dktX8_view_5 := dk_seg dksX8_view_4 24 rfl rfl
theorem dksX8_view_6 : cX8_view.data.toList.drop 144 = dktX8_view_6 := dk_seg dksX8_view_5 24 rfl rfl
theorem dX8_view_0 : decode cX8_view 0 = .ok (.aload_n 0, 1) := dk_42 (dk_at dksX8_view_0 0 rfl rfl)
theorem dX8_view_1 : decode cX8_view 1 = .ok (.iload_n 1, 1) := dk_27 (dk_at dksX8_view_0 1 rfl rfl)
theorem dX8_view_2 : decode cX8_view 2 = .ok (.invokevirtual 410, 3) := dk_182 1 154 (dk_at dksX8_view_0 2 rfl rfl)
theorem dX8_view_5 : decode cX8_view 5 = .ok (.ifCond .eq 29, 3) := dk_153 0 29 (dk_at dksX8_view_0 5 rfl rfl)
theorem dX8_view_8 : decode cX8_view 8 = .ok (.aload_n 0, 1) := dk_42 (dk_at dksX8_view_0 8 rfl rfl)
theorem dX8_view_9 : decode cX8_view 9 = .ok (.iload_n 2, 1) := dk_28 (dk_at dksX8_view_0 9 rfl rfl)
theorem dX8_view_10 : decode cX8_view 10 = .ok (.invokevirtual 437, 3) := dk_182 1 181 (dk_at dksX8_view_0 10 rfl rfl)
theorem dX8_view_13 : decode cX8_view 13 = .ok (.ifCond .eq 21, 3) := dk_153 0 21 (dk_at dksX8_view_0 13 rfl rfl)
theorem dX8_view_16 : decode cX8_view 16 = .ok (.aload_n 0, 1) := dk_42 (dk_at dksX8_view_0 16 rfl rfl)
theorem dX8_view_17 : decode cX8_view 17 = .ok (.iload_n 3, 1) := dk_29 (dk_at dksX8_view_0 17 rfl rfl)
theorem dX8_view_18 : decode cX8_view 18 = .ok (.invokevirtual 413, 3) := dk_182 1 157 (dk_at dksX8_view_0 18 rfl rfl)
theorem dX8_view_21 : decode cX8_view 21 = .ok (.ifCond .eq 13, 3) := dk_153 0 13 (dk_at dksX8_view_0 21 rfl rfl)
theorem dX8_view_24 : decode cX8_view 24 = .ok (.iload 4, 2) := dk_21 4 (dk_at dksX8_view_1 0 rfl rfl)
theorem dX8_view_26 : decode cX8_view 26 = .ok (.iconst 0, 1) := dk_3 (dk_at dksX8_view_1 2 rfl rfl)
theorem dX8_view_27 : decode cX8_view 27 = .ok (.iconst 1, 1) := dk_4 (dk_at dksX8_view_1 3 rfl rfl)
theorem dX8_view_28 : decode cX8_view 28 = .ok (.invokestatic 341, 3) := dk_184 1 85 (dk_at dksX8_view_1 4 rfl rfl)
theorem dX8_view_31 : decode cX8_view 31 = .ok (.ifCond .ne 5, 3) := dk_154 0 5 (dk_at dksX8_view_1 7 rfl rfl)
theorem dX8_view_34 : decode cX8_view 34 = .ok (.iconst (-1), 1) := dk_2 (dk_at dksX8_view_1 10 rfl rfl)
theorem dX8_view_35 : decode cX8_view 35 = .ok (.ireturn, 1) := dk_172 (dk_at dksX8_view_1 11 rfl rfl)
theorem dX8_view_36 : decode cX8_view 36 = .ok (.aload_n 0, 1) := dk_42 (dk_at dksX8_view_1 12 rfl rfl)
theorem dX8_view_37 : decode cX8_view 37 = .ok (.invokevirtual 452, 3) := dk_182 1 196 (dk_at dksX8_view_1 13 rfl rfl)
theorem dX8_view_40 : decode cX8_view 40 = .ok (.aload_n 0, 1) := dk_42 (dk_at dksX8_view_1 16 rfl rfl)
theorem dX8_view_41 : decode cX8_view 41 = .ok (.aload_n 0, 1) := dk_42 (dk_at dksX8_view_1 17 rfl rfl)
theorem dX8_view_42 : decode cX8_view 42 = .ok (.getfield 131, 3) := dk_180 0 131 (dk_at dksX8_view_1 18 rfl rfl)
theorem dX8_view_45 : decode cX8_view 45 = .ok (.bipush 36, 2) := dk_16 36 (dk_at dksX8_view_1 21 rfl rfl)
theorem dX8_view_47 : decode cX8_view 47 = .ok (.aload_n 0, 1) := dk_42 (dk_at dksX8_view_1 23 rfl rfl)
theorem dX8_view_48 : decode cX8_view 48 = .ok (.getfield 345, 3) := dk_180 1 89 (dk_at dksX8_view_2 0 rfl rfl)
theorem dX8_view_51 : decode cX8_view 51 = .ok (.imul, 1) := dk_104 (dk_at dksX8_view_2 3 rfl rfl)
theorem dX8_view_52 : decode cX8_view 52 = .ok (.iload_n 1, 1) := dk_27 (dk_at dksX8_view_2 4 rfl rfl)
theorem dX8_view_53 : decode cX8_view 53 = .ok (.iadd, 1) := dk_96 (dk_at dksX8_view_2 5 rfl rfl)
theorem dX8_view_54 : decode cX8_view 54 = .ok (.iaload, 1) := dk_46 (dk_at dksX8_view_2 6 rfl rfl)
theorem dX8_view_55 : decode cX8_view 55 = .ok (.sipush 255, 3) := dk_17 0 255 (dk_at dksX8_view_2 7 rfl rfl)
theorem dX8_view_58 : decode cX8_view 58 = .ok (.invokevirtual 465, 3) := dk_182 1 209 (dk_at dksX8_view_2 10 rfl rfl)
theorem dX8_view_61 : decode cX8_view 61 = .ok (.aload_n 0, 1) := dk_42 (dk_at dksX8_view_2 13 rfl rfl)
theorem dX8_view_62 : decode cX8_view 62 = .ok (.getfield 345, 3) := dk_180 1 89 (dk_at dksX8_view_2 14 rfl rfl)
theorem dX8_view_65 : decode cX8_view 65 = .ok (.istore 5, 2) := dk_54 5 (dk_at dksX8_view_2 17 rfl rfl)
theorem dX8_view_67 : decode cX8_view 67 = .ok (.iload 5, 2) := dk_21 5 (dk_at dksX8_view_2 19 rfl rfl)
theorem dX8_view_69 : decode cX8_view 69 = .ok (.sipush 299, 3) := dk_17 1 43 (dk_at dksX8_view_2 21 rfl rfl)
theorem dX8_view_72 : decode cX8_view 72 = .ok (.if_icmp .gt 90, 3) := dk_163 0 90 (dk_at dksX8_view_3 0 rfl rfl)
theorem dX8_view_75 : decode cX8_view 75 = .ok (.iconst 0, 1) := dk_3 (dk_at dksX8_view_3 3 rfl rfl)
theorem dX8_view_76 : decode cX8_view 76 = .ok (.istore 6, 2) := dk_54 6 (dk_at dksX8_view_3 4 rfl rfl)
theorem dX8_view_78 : decode cX8_view 78 = .ok (.iload 6, 2) := dk_21 6 (dk_at dksX8_view_3 6 rfl rfl)
theorem dX8_view_80 : decode cX8_view 80 = .ok (.aload_n 0, 1) := dk_42 (dk_at dksX8_view_3 8 rfl rfl)
theorem dX8_view_81 : decode cX8_view 81 = .ok (.getfield 70, 3) := dk_180 0 70 (dk_at dksX8_view_3 9 rfl rfl)
theorem dX8_view_84 : decode cX8_view 84 = .ok (.aload_n 0, 1) := dk_42 (dk_at dksX8_view_3 12 rfl rfl)
theorem dX8_view_85 : decode cX8_view 85 = .ok (.getfield 257, 3) := dk_180 1 1 (dk_at dksX8_view_3 13 rfl rfl)
theorem dX8_view_88 : decode cX8_view 88 = .ok (.iaload, 1) := dk_46 (dk_at dksX8_view_3 16 rfl rfl)
theorem dX8_view_89 : decode cX8_view 89 = .ok (.if_icmp .ge 67, 3) := dk_162 0 67 (dk_at dksX8_view_3 17 rfl rfl)
theorem dX8_view_92 : decode cX8_view 92 = .ok (.aload_n 0, 1) := dk_42 (dk_at dksX8_view_3 20 rfl rfl)
theorem dX8_view_93 : decode cX8_view 93 = .ok (.getfield 152, 3) := dk_180 0 152 (dk_at dksX8_view_3 21 rfl rfl)
theorem dX8_view_96 : decode cX8_view 96 = .ok (.aload_n 0, 1) := dk_42 (dk_at dksX8_view_4 0 rfl rfl)
theorem dX8_view_97 : decode cX8_view 97 = .ok (.iload 6, 2) := dk_21 6 (dk_at dksX8_view_4 1 rfl rfl)
theorem dX8_view_99 : decode cX8_view 99 = .ok (.iload 5, 2) := dk_21 5 (dk_at dksX8_view_4 3 rfl rfl)
theorem dX8_view_101 : decode cX8_view 101 = .ok (.invokevirtual 392, 3) := dk_182 1 136 (dk_at dksX8_view_4 5 rfl rfl)
theorem dX8_view_104 : decode cX8_view 104 = .ok (.iaload, 1) := dk_46 (dk_at dksX8_view_4 8 rfl rfl)
theorem dX8_view_105 : decode cX8_view 105 = .ok (.istore 7, 2) := dk_54 7 (dk_at dksX8_view_4 9 rfl rfl)
theorem dX8_view_107 : decode cX8_view 107 = .ok (.iload 7, 2) := dk_21 7 (dk_at dksX8_view_4 11 rfl rfl)
theorem dX8_view_109 : decode cX8_view 109 = .ok (.ifCond .lt 41, 3) := dk_155 0 41 (dk_at dksX8_view_4 13 rfl rfl)
theorem dX8_view_112 : decode cX8_view 112 = .ok (.iload 7, 2) := dk_21 7 (dk_at dksX8_view_4 16 rfl rfl)
theorem dX8_view_114 : decode cX8_view 114 = .ok (.iload 5, 2) := dk_21 5 (dk_at dksX8_view_4 18 rfl rfl)
theorem dX8_view_116 : decode cX8_view 116 = .ok (.aload_n 0, 1) := dk_42 (dk_at dksX8_view_4 20 rfl rfl)
theorem dX8_view_117 : decode cX8_view 117 = .ok (.getfield 345, 3) := dk_180 1 89 (dk_at dksX8_view_4 21 rfl rfl)
theorem dX8_view_120 : decode cX8_view 120 = .ok (.isub, 1) := dk_100 (dk_at dksX8_view_5 0 rfl rfl)
theorem dX8_view_121 : decode cX8_view 121 = .ok (.if_icmp .gt 29, 3) := dk_163 0 29 (dk_at dksX8_view_5 1 rfl rfl)
theorem dX8_view_124 : decode cX8_view 124 = .ok (.aload_n 0, 1) := dk_42 (dk_at dksX8_view_5 4 rfl rfl)
theorem dX8_view_125 : decode cX8_view 125 = .ok (.iload 6, 2) := dk_21 6 (dk_at dksX8_view_5 5 rfl rfl)
theorem dX8_view_127 : decode cX8_view 127 = .ok (.iload 5, 2) := dk_21 5 (dk_at dksX8_view_5 7 rfl rfl)
theorem dX8_view_129 : decode cX8_view 129 = .ok (.iload_n 2, 1) := dk_28 (dk_at dksX8_view_5 9 rfl rfl)
theorem dX8_view_130 : decode cX8_view 130 = .ok (.iload_n 3, 1) := dk_29 (dk_at dksX8_view_5 10 rfl rfl)
theorem dX8_view_131 : decode cX8_view 131 = .ok (.invokevirtual 455, 3) := dk_182 1 199 (dk_at dksX8_view_5 11 rfl rfl)
theorem dX8_view_134 : decode cX8_view 134 = .ok (.ifCond .eq 16, 3) := dk_153 0 16 (dk_at dksX8_view_5 14 rfl rfl)
theorem dX8_view_137 : decode cX8_view 137 = .ok (.iload 4, 2) := dk_21 4 (dk_at dksX8_view_5 17 rfl rfl)
theorem dX8_view_139 : decode cX8_view 139 = .ok (.ifCond .ne 8, 3) := dk_154 0 8 (dk_at dksX8_view_5 19 rfl rfl)
theorem dX8_view_142 : decode cX8_view 142 = .ok (.iload 5, 2) := dk_21 5 (dk_at dksX8_view_5 22 rfl rfl)
theorem dX8_view_144 : decode cX8_view 144 = .ok (.goto 5, 3) := dk_167 0 5 (dk_at dksX8_view_6 0 rfl rfl)
theorem dX8_view_147 : decode cX8_view 147 = .ok (.iload 6, 2) := dk_21 6 (dk_at dksX8_view_6 3 rfl rfl)
theorem dX8_view_149 : decode cX8_view 149 = .ok (.ireturn, 1) := dk_172 (dk_at dksX8_view_6 5 rfl rfl)
theorem dX8_view_150 : decode cX8_view 150 = .ok (.iinc 6 1, 3) := dk_132 6 1 (dk_at dksX8_view_6 6 rfl rfl)
theorem dX8_view_153 : decode cX8_view 153 = .ok (.goto (-75), 3) := dk_167 255 181 (dk_at dksX8_view_6 9 rfl rfl)
theorem dX8_view_156 : decode cX8_view 156 = .ok (.iinc 5 1, 3) := dk_132 5 1 (dk_at dksX8_view_6 12 rfl rfl)
theorem dX8_view_159 : decode cX8_view 159 = .ok (.goto (-92), 3) := dk_167 255 164 (dk_at dksX8_view_6 15 rfl rfl)
theorem dX8_view_162 : decode cX8_view 162 = .ok (.bipush (-2), 2) := dk_16 254 (dk_at dksX8_view_6 18 rfl rfl)
theorem dX8_view_164 : decode cX8_view 164 = .ok (.ireturn, 1) := dk_172 (dk_at dksX8_view_6 20 rfl rfl)
abbrev cX8_fillsFar : ByteArray := prog_19_method_105_code
def yX8_fillsFar : MethodName := ⟨RX8, "fillsFar", "(II)V"⟩
def dkwX8_fillsFar_7 : List UInt8 := [42, 180, 0, 152, 21, 5, 29, 4, 96, 79, 132, 4, 1, 167, 255, 123, 132, 3, 1, 167, 255, 108, 177]
abbrev dktX8_fillsFar_7 : List UInt8 := dkwX8_fillsFar_7 ++ []
def dkwX8_fillsFar_6 : List UInt8 := [29, 160, 0, 33, 42, 180, 0, 152, 21, 5, 46, 156, 0, 23, 28, 21, 5, 122, 4, 126, 4, 160, 0, 13]
abbrev dktX8_fillsFar_6 : List UInt8 := dkwX8_fillsFar_6 ++ dktX8_fillsFar_7
def dkwX8_fillsFar_5 : List UInt8 := [122, 4, 126, 4, 160, 0, 13, 42, 180, 0, 152, 21, 6, 29, 4, 96, 79, 42, 180, 0, 152, 21, 6, 46]
abbrev dktX8_fillsFar_5 : List UInt8 := dkwX8_fillsFar_5 ++ dktX8_fillsFar_6
def dkwX8_fillsFar_4 : List UInt8 := [42, 180, 0, 152, 21, 5, 46, 29, 160, 0, 33, 42, 180, 0, 152, 21, 6, 46, 156, 0, 23, 28, 21, 6]
abbrev dktX8_fillsFar_4 : List UInt8 := dkwX8_fillsFar_4 ++ dktX8_fillsFar_5
def dkwX8_fillsFar_3 : List UInt8 := [104, 21, 4, 96, 46, 54, 5, 42, 180, 0, 58, 16, 12, 42, 180, 1, 1, 104, 21, 4, 96, 46, 54, 6]
abbrev dktX8_fillsFar_3 : List UInt8 := dkwX8_fillsFar_3 ++ dktX8_fillsFar_4
def dkwX8_fillsFar_2 : List UInt8 := [21, 4, 42, 180, 0, 52, 42, 180, 1, 1, 46, 162, 0, 125, 42, 180, 0, 55, 16, 12, 42, 180, 1, 1]
abbrev dktX8_fillsFar_2 : List UInt8 := dkwX8_fillsFar_2 ++ dktX8_fillsFar_3
def dkwX8_fillsFar_1 : List UInt8 := [4, 126, 154, 0, 4, 177, 42, 180, 0, 152, 27, 3, 79, 3, 62, 29, 16, 8, 162, 0, 148, 3, 54, 4]
abbrev dktX8_fillsFar_1 : List UInt8 := dkwX8_fillsFar_1 ++ dktX8_fillsFar_2
def dkwX8_fillsFar_0 : List UInt8 := [3, 62, 29, 16, 8, 162, 0, 16, 42, 180, 0, 152, 29, 2, 79, 132, 3, 1, 167, 255, 240, 28, 27, 122]
abbrev dktX8_fillsFar_0 : List UInt8 := dkwX8_fillsFar_0 ++ dktX8_fillsFar_1
theorem dksX8_fillsFar_0 : cX8_fillsFar.data.toList.drop 0 = dktX8_fillsFar_0 := by decide +kernel
theorem dksX8_fillsFar_1 : cX8_fillsFar.data.toList.drop 24 = dktX8_fillsFar_1 := dk_seg dksX8_fillsFar_0 24 rfl rfl
theorem dksX8_fillsFar_2 : cX8_fillsFar.data.toList.drop 48 = dktX8_fillsFar_2 := dk_seg dksX8_fillsFar_1 24 rfl rfl
theorem dksX8_fillsFar_3 : cX8_fillsFar.data.toList.drop 72 = dktX8_fillsFar_3 := dk_seg dksX8_fillsFar_2 24 rfl rfl
theorem dksX8_fillsFar_4 : cX8_fillsFar.data.toList.drop 96 = dktX8_fillsFar_4 := dk_seg dksX8_fillsFar_3 24 rfl rfl
theorem dksX8_fillsFar_5 : cX8_fillsFar.data.toList.drop 120 = dktX8_fillsFar_5 := dk_seg dksX8_fillsFar_4 24 rfl rfl
theorem dksX8_fillsFar_6 : cX8_fillsFar.data.toList.drop 144 = dktX8_fillsFar_6 := dk_seg dksX8_fillsFar_5 24 rfl rfl
theorem dksX8_fillsFar_7 : cX8_fillsFar.data.toList.drop 168 = dktX8_fillsFar_7 := dk_seg dksX8_fillsFar_6 24 rfl rfl
theorem dX8_fillsFar_0 : decode cX8_fillsFar 0 = .ok (.iconst 0, 1) := dk_3 (dk_at dksX8_fillsFar_0 0 rfl rfl)
theorem dX8_fillsFar_1 : decode cX8_fillsFar 1 = .ok (.istore_n 3, 1) := dk_62 (dk_at dksX8_fillsFar_0 1 rfl rfl)
theorem dX8_fillsFar_2 : decode cX8_fillsFar 2 = .ok (.iload_n 3, 1) := dk_29 (dk_at dksX8_fillsFar_0 2 rfl rfl)
theorem dX8_fillsFar_3 : decode cX8_fillsFar 3 = .ok (.bipush 8, 2) := dk_16 8 (dk_at dksX8_fillsFar_0 3 rfl rfl)
theorem dX8_fillsFar_5 : decode cX8_fillsFar 5 = .ok (.if_icmp .ge 16, 3) := dk_162 0 16 (dk_at dksX8_fillsFar_0 5 rfl rfl)
theorem dX8_fillsFar_8 : decode cX8_fillsFar 8 = .ok (.aload_n 0, 1) := dk_42 (dk_at dksX8_fillsFar_0 8 rfl rfl)
theorem dX8_fillsFar_9 : decode cX8_fillsFar 9 = .ok (.getfield 152, 3) := dk_180 0 152 (dk_at dksX8_fillsFar_0 9 rfl rfl)
theorem dX8_fillsFar_12 : decode cX8_fillsFar 12 = .ok (.iload_n 3, 1) := dk_29 (dk_at dksX8_fillsFar_0 12 rfl rfl)
theorem dX8_fillsFar_13 : decode cX8_fillsFar 13 = .ok (.iconst (-1), 1) := dk_2 (dk_at dksX8_fillsFar_0 13 rfl rfl)
theorem dX8_fillsFar_14 : decode cX8_fillsFar 14 = .ok (.iastore, 1) := dk_79 (dk_at dksX8_fillsFar_0 14 rfl rfl)
theorem dX8_fillsFar_15 : decode cX8_fillsFar 15 = .ok (.iinc 3 1, 3) := dk_132 3 1 (dk_at dksX8_fillsFar_0 15 rfl rfl)
theorem dX8_fillsFar_18 : decode cX8_fillsFar 18 = .ok (.goto (-16), 3) := dk_167 255 240 (dk_at dksX8_fillsFar_0 18 rfl rfl)
theorem dX8_fillsFar_21 : decode cX8_fillsFar 21 = .ok (.iload_n 2, 1) := dk_28 (dk_at dksX8_fillsFar_0 21 rfl rfl)
theorem dX8_fillsFar_22 : decode cX8_fillsFar 22 = .ok (.iload_n 1, 1) := dk_27 (dk_at dksX8_fillsFar_0 22 rfl rfl)
theorem dX8_fillsFar_23 : decode cX8_fillsFar 23 = .ok (.ishr, 1) := dk_122 (dk_at dksX8_fillsFar_0 23 rfl rfl)
theorem dX8_fillsFar_24 : decode cX8_fillsFar 24 = .ok (.iconst 1, 1) := dk_4 (dk_at dksX8_fillsFar_1 0 rfl rfl)
theorem dX8_fillsFar_25 : decode cX8_fillsFar 25 = .ok (.iand, 1) := dk_126 (dk_at dksX8_fillsFar_1 1 rfl rfl)
theorem dX8_fillsFar_26 : decode cX8_fillsFar 26 = .ok (.ifCond .ne 4, 3) := dk_154 0 4 (dk_at dksX8_fillsFar_1 2 rfl rfl)
theorem dX8_fillsFar_29 : decode cX8_fillsFar 29 = .ok (.return_, 1) := dk_177 (dk_at dksX8_fillsFar_1 5 rfl rfl)
theorem dX8_fillsFar_30 : decode cX8_fillsFar 30 = .ok (.aload_n 0, 1) := dk_42 (dk_at dksX8_fillsFar_1 6 rfl rfl)
theorem dX8_fillsFar_31 : decode cX8_fillsFar 31 = .ok (.getfield 152, 3) := dk_180 0 152 (dk_at dksX8_fillsFar_1 7 rfl rfl)
theorem dX8_fillsFar_34 : decode cX8_fillsFar 34 = .ok (.iload_n 1, 1) := dk_27 (dk_at dksX8_fillsFar_1 10 rfl rfl)
theorem dX8_fillsFar_35 : decode cX8_fillsFar 35 = .ok (.iconst 0, 1) := dk_3 (dk_at dksX8_fillsFar_1 11 rfl rfl)
theorem dX8_fillsFar_36 : decode cX8_fillsFar 36 = .ok (.iastore, 1) := dk_79 (dk_at dksX8_fillsFar_1 12 rfl rfl)
theorem dX8_fillsFar_37 : decode cX8_fillsFar 37 = .ok (.iconst 0, 1) := dk_3 (dk_at dksX8_fillsFar_1 13 rfl rfl)
theorem dX8_fillsFar_38 : decode cX8_fillsFar 38 = .ok (.istore_n 3, 1) := dk_62 (dk_at dksX8_fillsFar_1 14 rfl rfl)
theorem dX8_fillsFar_39 : decode cX8_fillsFar 39 = .ok (.iload_n 3, 1) := dk_29 (dk_at dksX8_fillsFar_1 15 rfl rfl)
theorem dX8_fillsFar_40 : decode cX8_fillsFar 40 = .ok (.bipush 8, 2) := dk_16 8 (dk_at dksX8_fillsFar_1 16 rfl rfl)
theorem dX8_fillsFar_42 : decode cX8_fillsFar 42 = .ok (.if_icmp .ge 148, 3) := dk_162 0 148 (dk_at dksX8_fillsFar_1 18 rfl rfl)
theorem dX8_fillsFar_45 : decode cX8_fillsFar 45 = .ok (.iconst 0, 1) := dk_3 (dk_at dksX8_fillsFar_1 21 rfl rfl)
theorem dX8_fillsFar_46 : decode cX8_fillsFar 46 = .ok (.istore 4, 2) := dk_54 4 (dk_at dksX8_fillsFar_1 22 rfl rfl)
theorem dX8_fillsFar_48 : decode cX8_fillsFar 48 = .ok (.iload 4, 2) := dk_21 4 (dk_at dksX8_fillsFar_2 0 rfl rfl)
theorem dX8_fillsFar_50 : decode cX8_fillsFar 50 = .ok (.aload_n 0, 1) := dk_42 (dk_at dksX8_fillsFar_2 2 rfl rfl)
theorem dX8_fillsFar_51 : decode cX8_fillsFar 51 = .ok (.getfield 52, 3) := dk_180 0 52 (dk_at dksX8_fillsFar_2 3 rfl rfl)
theorem dX8_fillsFar_54 : decode cX8_fillsFar 54 = .ok (.aload_n 0, 1) := dk_42 (dk_at dksX8_fillsFar_2 6 rfl rfl)
theorem dX8_fillsFar_55 : decode cX8_fillsFar 55 = .ok (.getfield 257, 3) := dk_180 1 1 (dk_at dksX8_fillsFar_2 7 rfl rfl)
theorem dX8_fillsFar_58 : decode cX8_fillsFar 58 = .ok (.iaload, 1) := dk_46 (dk_at dksX8_fillsFar_2 10 rfl rfl)
theorem dX8_fillsFar_59 : decode cX8_fillsFar 59 = .ok (.if_icmp .ge 125, 3) := dk_162 0 125 (dk_at dksX8_fillsFar_2 11 rfl rfl)
theorem dX8_fillsFar_62 : decode cX8_fillsFar 62 = .ok (.aload_n 0, 1) := dk_42 (dk_at dksX8_fillsFar_2 14 rfl rfl)
theorem dX8_fillsFar_63 : decode cX8_fillsFar 63 = .ok (.getfield 55, 3) := dk_180 0 55 (dk_at dksX8_fillsFar_2 15 rfl rfl)
theorem dX8_fillsFar_66 : decode cX8_fillsFar 66 = .ok (.bipush 12, 2) := dk_16 12 (dk_at dksX8_fillsFar_2 18 rfl rfl)
theorem dX8_fillsFar_68 : decode cX8_fillsFar 68 = .ok (.aload_n 0, 1) := dk_42 (dk_at dksX8_fillsFar_2 20 rfl rfl)
theorem dX8_fillsFar_69 : decode cX8_fillsFar 69 = .ok (.getfield 257, 3) := dk_180 1 1 (dk_at dksX8_fillsFar_2 21 rfl rfl)
theorem dX8_fillsFar_72 : decode cX8_fillsFar 72 = .ok (.imul, 1) := dk_104 (dk_at dksX8_fillsFar_3 0 rfl rfl)
theorem dX8_fillsFar_73 : decode cX8_fillsFar 73 = .ok (.iload 4, 2) := dk_21 4 (dk_at dksX8_fillsFar_3 1 rfl rfl)
theorem dX8_fillsFar_75 : decode cX8_fillsFar 75 = .ok (.iadd, 1) := dk_96 (dk_at dksX8_fillsFar_3 3 rfl rfl)
theorem dX8_fillsFar_76 : decode cX8_fillsFar 76 = .ok (.iaload, 1) := dk_46 (dk_at dksX8_fillsFar_3 4 rfl rfl)
theorem dX8_fillsFar_77 : decode cX8_fillsFar 77 = .ok (.istore 5, 2) := dk_54 5 (dk_at dksX8_fillsFar_3 5 rfl rfl)
theorem dX8_fillsFar_79 : decode cX8_fillsFar 79 = .ok (.aload_n 0, 1) := dk_42 (dk_at dksX8_fillsFar_3 7 rfl rfl)
theorem dX8_fillsFar_80 : decode cX8_fillsFar 80 = .ok (.getfield 58, 3) := dk_180 0 58 (dk_at dksX8_fillsFar_3 8 rfl rfl)
theorem dX8_fillsFar_83 : decode cX8_fillsFar 83 = .ok (.bipush 12, 2) := dk_16 12 (dk_at dksX8_fillsFar_3 11 rfl rfl)
theorem dX8_fillsFar_85 : decode cX8_fillsFar 85 = .ok (.aload_n 0, 1) := dk_42 (dk_at dksX8_fillsFar_3 13 rfl rfl)
theorem dX8_fillsFar_86 : decode cX8_fillsFar 86 = .ok (.getfield 257, 3) := dk_180 1 1 (dk_at dksX8_fillsFar_3 14 rfl rfl)
theorem dX8_fillsFar_89 : decode cX8_fillsFar 89 = .ok (.imul, 1) := dk_104 (dk_at dksX8_fillsFar_3 17 rfl rfl)
theorem dX8_fillsFar_90 : decode cX8_fillsFar 90 = .ok (.iload 4, 2) := dk_21 4 (dk_at dksX8_fillsFar_3 18 rfl rfl)
theorem dX8_fillsFar_92 : decode cX8_fillsFar 92 = .ok (.iadd, 1) := dk_96 (dk_at dksX8_fillsFar_3 20 rfl rfl)
theorem dX8_fillsFar_93 : decode cX8_fillsFar 93 = .ok (.iaload, 1) := dk_46 (dk_at dksX8_fillsFar_3 21 rfl rfl)
theorem dX8_fillsFar_94 : decode cX8_fillsFar 94 = .ok (.istore 6, 2) := dk_54 6 (dk_at dksX8_fillsFar_3 22 rfl rfl)
theorem dX8_fillsFar_96 : decode cX8_fillsFar 96 = .ok (.aload_n 0, 1) := dk_42 (dk_at dksX8_fillsFar_4 0 rfl rfl)
theorem dX8_fillsFar_97 : decode cX8_fillsFar 97 = .ok (.getfield 152, 3) := dk_180 0 152 (dk_at dksX8_fillsFar_4 1 rfl rfl)
theorem dX8_fillsFar_100 : decode cX8_fillsFar 100 = .ok (.iload 5, 2) := dk_21 5 (dk_at dksX8_fillsFar_4 4 rfl rfl)
theorem dX8_fillsFar_102 : decode cX8_fillsFar 102 = .ok (.iaload, 1) := dk_46 (dk_at dksX8_fillsFar_4 6 rfl rfl)
theorem dX8_fillsFar_103 : decode cX8_fillsFar 103 = .ok (.iload_n 3, 1) := dk_29 (dk_at dksX8_fillsFar_4 7 rfl rfl)
theorem dX8_fillsFar_104 : decode cX8_fillsFar 104 = .ok (.if_icmp .ne 33, 3) := dk_160 0 33 (dk_at dksX8_fillsFar_4 8 rfl rfl)
theorem dX8_fillsFar_107 : decode cX8_fillsFar 107 = .ok (.aload_n 0, 1) := dk_42 (dk_at dksX8_fillsFar_4 11 rfl rfl)
theorem dX8_fillsFar_108 : decode cX8_fillsFar 108 = .ok (.getfield 152, 3) := dk_180 0 152 (dk_at dksX8_fillsFar_4 12 rfl rfl)
theorem dX8_fillsFar_111 : decode cX8_fillsFar 111 = .ok (.iload 6, 2) := dk_21 6 (dk_at dksX8_fillsFar_4 15 rfl rfl)
theorem dX8_fillsFar_113 : decode cX8_fillsFar 113 = .ok (.iaload, 1) := dk_46 (dk_at dksX8_fillsFar_4 17 rfl rfl)
theorem dX8_fillsFar_114 : decode cX8_fillsFar 114 = .ok (.ifCond .ge 23, 3) := dk_156 0 23 (dk_at dksX8_fillsFar_4 18 rfl rfl)
theorem dX8_fillsFar_117 : decode cX8_fillsFar 117 = .ok (.iload_n 2, 1) := dk_28 (dk_at dksX8_fillsFar_4 21 rfl rfl)
theorem dX8_fillsFar_118 : decode cX8_fillsFar 118 = .ok (.iload 6, 2) := dk_21 6 (dk_at dksX8_fillsFar_4 22 rfl rfl)
theorem dX8_fillsFar_120 : decode cX8_fillsFar 120 = .ok (.ishr, 1) := dk_122 (dk_at dksX8_fillsFar_5 0 rfl rfl)
theorem dX8_fillsFar_121 : decode cX8_fillsFar 121 = .ok (.iconst 1, 1) := dk_4 (dk_at dksX8_fillsFar_5 1 rfl rfl)
theorem dX8_fillsFar_122 : decode cX8_fillsFar 122 = .ok (.iand, 1) := dk_126 (dk_at dksX8_fillsFar_5 2 rfl rfl)
theorem dX8_fillsFar_123 : decode cX8_fillsFar 123 = .ok (.iconst 1, 1) := dk_4 (dk_at dksX8_fillsFar_5 3 rfl rfl)
theorem dX8_fillsFar_124 : decode cX8_fillsFar 124 = .ok (.if_icmp .ne 13, 3) := dk_160 0 13 (dk_at dksX8_fillsFar_5 4 rfl rfl)
theorem dX8_fillsFar_127 : decode cX8_fillsFar 127 = .ok (.aload_n 0, 1) := dk_42 (dk_at dksX8_fillsFar_5 7 rfl rfl)
theorem dX8_fillsFar_128 : decode cX8_fillsFar 128 = .ok (.getfield 152, 3) := dk_180 0 152 (dk_at dksX8_fillsFar_5 8 rfl rfl)
theorem dX8_fillsFar_131 : decode cX8_fillsFar 131 = .ok (.iload 6, 2) := dk_21 6 (dk_at dksX8_fillsFar_5 11 rfl rfl)
theorem dX8_fillsFar_133 : decode cX8_fillsFar 133 = .ok (.iload_n 3, 1) := dk_29 (dk_at dksX8_fillsFar_5 13 rfl rfl)
theorem dX8_fillsFar_134 : decode cX8_fillsFar 134 = .ok (.iconst 1, 1) := dk_4 (dk_at dksX8_fillsFar_5 14 rfl rfl)
theorem dX8_fillsFar_135 : decode cX8_fillsFar 135 = .ok (.iadd, 1) := dk_96 (dk_at dksX8_fillsFar_5 15 rfl rfl)
theorem dX8_fillsFar_136 : decode cX8_fillsFar 136 = .ok (.iastore, 1) := dk_79 (dk_at dksX8_fillsFar_5 16 rfl rfl)
theorem dX8_fillsFar_137 : decode cX8_fillsFar 137 = .ok (.aload_n 0, 1) := dk_42 (dk_at dksX8_fillsFar_5 17 rfl rfl)
theorem dX8_fillsFar_138 : decode cX8_fillsFar 138 = .ok (.getfield 152, 3) := dk_180 0 152 (dk_at dksX8_fillsFar_5 18 rfl rfl)
theorem dX8_fillsFar_141 : decode cX8_fillsFar 141 = .ok (.iload 6, 2) := dk_21 6 (dk_at dksX8_fillsFar_5 21 rfl rfl)
theorem dX8_fillsFar_143 : decode cX8_fillsFar 143 = .ok (.iaload, 1) := dk_46 (dk_at dksX8_fillsFar_5 23 rfl rfl)
theorem dX8_fillsFar_144 : decode cX8_fillsFar 144 = .ok (.iload_n 3, 1) := dk_29 (dk_at dksX8_fillsFar_6 0 rfl rfl)
theorem dX8_fillsFar_145 : decode cX8_fillsFar 145 = .ok (.if_icmp .ne 33, 3) := dk_160 0 33 (dk_at dksX8_fillsFar_6 1 rfl rfl)
theorem dX8_fillsFar_148 : decode cX8_fillsFar 148 = .ok (.aload_n 0, 1) := dk_42 (dk_at dksX8_fillsFar_6 4 rfl rfl)
theorem dX8_fillsFar_149 : decode cX8_fillsFar 149 = .ok (.getfield 152, 3) := dk_180 0 152 (dk_at dksX8_fillsFar_6 5 rfl rfl)
theorem dX8_fillsFar_152 : decode cX8_fillsFar 152 = .ok (.iload 5, 2) := dk_21 5 (dk_at dksX8_fillsFar_6 8 rfl rfl)
theorem dX8_fillsFar_154 : decode cX8_fillsFar 154 = .ok (.iaload, 1) := dk_46 (dk_at dksX8_fillsFar_6 10 rfl rfl)
theorem dX8_fillsFar_155 : decode cX8_fillsFar 155 = .ok (.ifCond .ge 23, 3) := dk_156 0 23 (dk_at dksX8_fillsFar_6 11 rfl rfl)
theorem dX8_fillsFar_158 : decode cX8_fillsFar 158 = .ok (.iload_n 2, 1) := dk_28 (dk_at dksX8_fillsFar_6 14 rfl rfl)
theorem dX8_fillsFar_159 : decode cX8_fillsFar 159 = .ok (.iload 5, 2) := dk_21 5 (dk_at dksX8_fillsFar_6 15 rfl rfl)
theorem dX8_fillsFar_161 : decode cX8_fillsFar 161 = .ok (.ishr, 1) := dk_122 (dk_at dksX8_fillsFar_6 17 rfl rfl)
theorem dX8_fillsFar_162 : decode cX8_fillsFar 162 = .ok (.iconst 1, 1) := dk_4 (dk_at dksX8_fillsFar_6 18 rfl rfl)
theorem dX8_fillsFar_163 : decode cX8_fillsFar 163 = .ok (.iand, 1) := dk_126 (dk_at dksX8_fillsFar_6 19 rfl rfl)
theorem dX8_fillsFar_164 : decode cX8_fillsFar 164 = .ok (.iconst 1, 1) := dk_4 (dk_at dksX8_fillsFar_6 20 rfl rfl)
theorem dX8_fillsFar_165 : decode cX8_fillsFar 165 = .ok (.if_icmp .ne 13, 3) := dk_160 0 13 (dk_at dksX8_fillsFar_6 21 rfl rfl)
theorem dX8_fillsFar_168 : decode cX8_fillsFar 168 = .ok (.aload_n 0, 1) := dk_42 (dk_at dksX8_fillsFar_7 0 rfl rfl)
theorem dX8_fillsFar_169 : decode cX8_fillsFar 169 = .ok (.getfield 152, 3) := dk_180 0 152 (dk_at dksX8_fillsFar_7 1 rfl rfl)
theorem dX8_fillsFar_172 : decode cX8_fillsFar 172 = .ok (.iload 5, 2) := dk_21 5 (dk_at dksX8_fillsFar_7 4 rfl rfl)
theorem dX8_fillsFar_174 : decode cX8_fillsFar 174 = .ok (.iload_n 3, 1) := dk_29 (dk_at dksX8_fillsFar_7 6 rfl rfl)
theorem dX8_fillsFar_175 : decode cX8_fillsFar 175 = .ok (.iconst 1, 1) := dk_4 (dk_at dksX8_fillsFar_7 7 rfl rfl)
theorem dX8_fillsFar_176 : decode cX8_fillsFar 176 = .ok (.iadd, 1) := dk_96 (dk_at dksX8_fillsFar_7 8 rfl rfl)
theorem dX8_fillsFar_177 : decode cX8_fillsFar 177 = .ok (.iastore, 1) := dk_79 (dk_at dksX8_fillsFar_7 9 rfl rfl)
theorem dX8_fillsFar_178 : decode cX8_fillsFar 178 = .ok (.iinc 4 1, 3) := dk_132 4 1 (dk_at dksX8_fillsFar_7 10 rfl rfl)
theorem dX8_fillsFar_181 : decode cX8_fillsFar 181 = .ok (.goto (-133), 3) := dk_167 255 123 (dk_at dksX8_fillsFar_7 13 rfl rfl)
theorem dX8_fillsFar_184 : decode cX8_fillsFar 184 = .ok (.iinc 3 1, 3) := dk_132 3 1 (dk_at dksX8_fillsFar_7 16 rfl rfl)
theorem dX8_fillsFar_187 : decode cX8_fillsFar 187 = .ok (.goto (-148), 3) := dk_167 255 108 (dk_at dksX8_fillsFar_7 19 rfl rfl)
theorem dX8_fillsFar_190 : decode cX8_fillsFar 190 = .ok (.return_, 1) := dk_177 (dk_at dksX8_fillsFar_7 22 rfl rfl)
abbrev cX8_hidden : ByteArray := prog_19_method_108_code
def yX8_hidden : MethodName := ⟨RX8, "hidden", "(III)I"⟩
def dkwX8_hidden_5 : List UInt8 := [21, 5, 182, 1, 129, 172]
abbrev dktX8_hidden_5 : List UInt8 := dkwX8_hidden_5 ++ []
def dkwX8_hidden_4 : List UInt8 := [182, 1, 129, 46, 42, 180, 0, 152, 27, 46, 4, 100, 159, 0, 9, 132, 5, 1, 167, 255, 230, 42, 27]
abbrev dktX8_hidden_4 : List UInt8 := dkwX8_hidden_4 ++ dktX8_hidden_5
def dkwX8_hidden_3 : List UInt8 := [180, 0, 152, 27, 46, 172, 27, 28, 160, 0, 5, 27, 172, 4, 54, 5, 42, 180, 0, 152, 42, 27, 21, 5]
abbrev dktX8_hidden_3 : List UInt8 := dkwX8_hidden_3 ++ dktX8_hidden_4
def dkwX8_hidden_2 : List UInt8 := [21, 4, 182, 1, 209, 42, 180, 0, 152, 27, 46, 156, 0, 6, 16, 254, 172, 29, 154, 0, 10, 42]
abbrev dktX8_hidden_2 : List UInt8 := dkwX8_hidden_2 ++ dktX8_hidden_3
def dkwX8_hidden_1 : List UInt8 := [154, 0, 5, 2, 172, 42, 182, 1, 163, 17, 0, 255, 42, 182, 1, 212, 2, 130, 126, 54, 4, 42, 28]
abbrev dktX8_hidden_1 : List UInt8 := dkwX8_hidden_1 ++ dktX8_hidden_2
def dkwX8_hidden_0 : List UInt8 := [42, 27, 182, 1, 181, 153, 0, 20, 42, 28, 182, 1, 181, 153, 0, 12, 29, 3, 4, 184, 1, 85]
abbrev dktX8_hidden_0 : List UInt8 := dkwX8_hidden_0 ++ dktX8_hidden_1
theorem dksX8_hidden_0 : cX8_hidden.data.toList.drop 0 = dktX8_hidden_0 := by decide +kernel
theorem dksX8_hidden_1 : cX8_hidden.data.toList.drop 22 = dktX8_hidden_1 := dk_seg dksX8_hidden_0 22 rfl rfl
theorem dksX8_hidden_2 : cX8_hidden.data.toList.drop 45 = dktX8_hidden_2 := dk_seg dksX8_hidden_1 23 rfl rfl
theorem dksX8_hidden_3 : cX8_hidden.data.toList.drop 67 = dktX8_hidden_3 := dk_seg dksX8_hidden_2 22 rfl rfl
theorem dksX8_hidden_4 : cX8_hidden.data.toList.drop 91 = dktX8_hidden_4 := dk_seg dksX8_hidden_3 24 rfl rfl
theorem dksX8_hidden_5 : cX8_hidden.data.toList.drop 114 = dktX8_hidden_5 := dk_seg dksX8_hidden_4 23 rfl rfl
theorem dX8_hidden_0 : decode cX8_hidden 0 = .ok (.aload_n 0, 1) := dk_42 (dk_at dksX8_hidden_0 0 rfl rfl)
theorem dX8_hidden_1 : decode cX8_hidden 1 = .ok (.iload_n 1, 1) := dk_27 (dk_at dksX8_hidden_0 1 rfl rfl)
theorem dX8_hidden_2 : decode cX8_hidden 2 = .ok (.invokevirtual 437, 3) := dk_182 1 181 (dk_at dksX8_hidden_0 2 rfl rfl)
theorem dX8_hidden_5 : decode cX8_hidden 5 = .ok (.ifCond .eq 20, 3) := dk_153 0 20 (dk_at dksX8_hidden_0 5 rfl rfl)
theorem dX8_hidden_8 : decode cX8_hidden 8 = .ok (.aload_n 0, 1) := dk_42 (dk_at dksX8_hidden_0 8 rfl rfl)
theorem dX8_hidden_9 : decode cX8_hidden 9 = .ok (.iload_n 2, 1) := dk_28 (dk_at dksX8_hidden_0 9 rfl rfl)
theorem dX8_hidden_10 : decode cX8_hidden 10 = .ok (.invokevirtual 437, 3) := dk_182 1 181 (dk_at dksX8_hidden_0 10 rfl rfl)
theorem dX8_hidden_13 : decode cX8_hidden 13 = .ok (.ifCond .eq 12, 3) := dk_153 0 12 (dk_at dksX8_hidden_0 13 rfl rfl)
theorem dX8_hidden_16 : decode cX8_hidden 16 = .ok (.iload_n 3, 1) := dk_29 (dk_at dksX8_hidden_0 16 rfl rfl)
theorem dX8_hidden_17 : decode cX8_hidden 17 = .ok (.iconst 0, 1) := dk_3 (dk_at dksX8_hidden_0 17 rfl rfl)
theorem dX8_hidden_18 : decode cX8_hidden 18 = .ok (.iconst 1, 1) := dk_4 (dk_at dksX8_hidden_0 18 rfl rfl)
theorem dX8_hidden_19 : decode cX8_hidden 19 = .ok (.invokestatic 341, 3) := dk_184 1 85 (dk_at dksX8_hidden_0 19 rfl rfl)
theorem dX8_hidden_22 : decode cX8_hidden 22 = .ok (.ifCond .ne 5, 3) := dk_154 0 5 (dk_at dksX8_hidden_1 0 rfl rfl)
theorem dX8_hidden_25 : decode cX8_hidden 25 = .ok (.iconst (-1), 1) := dk_2 (dk_at dksX8_hidden_1 3 rfl rfl)
theorem dX8_hidden_26 : decode cX8_hidden 26 = .ok (.ireturn, 1) := dk_172 (dk_at dksX8_hidden_1 4 rfl rfl)
theorem dX8_hidden_27 : decode cX8_hidden 27 = .ok (.aload_n 0, 1) := dk_42 (dk_at dksX8_hidden_1 5 rfl rfl)
theorem dX8_hidden_28 : decode cX8_hidden 28 = .ok (.invokevirtual 419, 3) := dk_182 1 163 (dk_at dksX8_hidden_1 6 rfl rfl)
theorem dX8_hidden_31 : decode cX8_hidden 31 = .ok (.sipush 255, 3) := dk_17 0 255 (dk_at dksX8_hidden_1 9 rfl rfl)
theorem dX8_hidden_34 : decode cX8_hidden 34 = .ok (.aload_n 0, 1) := dk_42 (dk_at dksX8_hidden_1 12 rfl rfl)
theorem dX8_hidden_35 : decode cX8_hidden 35 = .ok (.invokevirtual 468, 3) := dk_182 1 212 (dk_at dksX8_hidden_1 13 rfl rfl)
theorem dX8_hidden_38 : decode cX8_hidden 38 = .ok (.iconst (-1), 1) := dk_2 (dk_at dksX8_hidden_1 16 rfl rfl)
theorem dX8_hidden_39 : decode cX8_hidden 39 = .ok (.ixor, 1) := dk_130 (dk_at dksX8_hidden_1 17 rfl rfl)
theorem dX8_hidden_40 : decode cX8_hidden 40 = .ok (.iand, 1) := dk_126 (dk_at dksX8_hidden_1 18 rfl rfl)
theorem dX8_hidden_41 : decode cX8_hidden 41 = .ok (.istore 4, 2) := dk_54 4 (dk_at dksX8_hidden_1 19 rfl rfl)
theorem dX8_hidden_43 : decode cX8_hidden 43 = .ok (.aload_n 0, 1) := dk_42 (dk_at dksX8_hidden_1 21 rfl rfl)
theorem dX8_hidden_44 : decode cX8_hidden 44 = .ok (.iload_n 2, 1) := dk_28 (dk_at dksX8_hidden_1 22 rfl rfl)
theorem dX8_hidden_45 : decode cX8_hidden 45 = .ok (.iload 4, 2) := dk_21 4 (dk_at dksX8_hidden_2 0 rfl rfl)
theorem dX8_hidden_47 : decode cX8_hidden 47 = .ok (.invokevirtual 465, 3) := dk_182 1 209 (dk_at dksX8_hidden_2 2 rfl rfl)
theorem dX8_hidden_50 : decode cX8_hidden 50 = .ok (.aload_n 0, 1) := dk_42 (dk_at dksX8_hidden_2 5 rfl rfl)
theorem dX8_hidden_51 : decode cX8_hidden 51 = .ok (.getfield 152, 3) := dk_180 0 152 (dk_at dksX8_hidden_2 6 rfl rfl)
theorem dX8_hidden_54 : decode cX8_hidden 54 = .ok (.iload_n 1, 1) := dk_27 (dk_at dksX8_hidden_2 9 rfl rfl)
theorem dX8_hidden_55 : decode cX8_hidden 55 = .ok (.iaload, 1) := dk_46 (dk_at dksX8_hidden_2 10 rfl rfl)
theorem dX8_hidden_56 : decode cX8_hidden 56 = .ok (.ifCond .ge 6, 3) := dk_156 0 6 (dk_at dksX8_hidden_2 11 rfl rfl)
theorem dX8_hidden_59 : decode cX8_hidden 59 = .ok (.bipush (-2), 2) := dk_16 254 (dk_at dksX8_hidden_2 14 rfl rfl)
theorem dX8_hidden_61 : decode cX8_hidden 61 = .ok (.ireturn, 1) := dk_172 (dk_at dksX8_hidden_2 16 rfl rfl)
theorem dX8_hidden_62 : decode cX8_hidden 62 = .ok (.iload_n 3, 1) := dk_29 (dk_at dksX8_hidden_2 17 rfl rfl)
theorem dX8_hidden_63 : decode cX8_hidden 63 = .ok (.ifCond .ne 10, 3) := dk_154 0 10 (dk_at dksX8_hidden_2 18 rfl rfl)
theorem dX8_hidden_66 : decode cX8_hidden 66 = .ok (.aload_n 0, 1) := dk_42 (dk_at dksX8_hidden_2 21 rfl rfl)
theorem dX8_hidden_67 : decode cX8_hidden 67 = .ok (.getfield 152, 3) := dk_180 0 152 (dk_at dksX8_hidden_3 0 rfl rfl)
theorem dX8_hidden_70 : decode cX8_hidden 70 = .ok (.iload_n 1, 1) := dk_27 (dk_at dksX8_hidden_3 3 rfl rfl)
theorem dX8_hidden_71 : decode cX8_hidden 71 = .ok (.iaload, 1) := dk_46 (dk_at dksX8_hidden_3 4 rfl rfl)
theorem dX8_hidden_72 : decode cX8_hidden 72 = .ok (.ireturn, 1) := dk_172 (dk_at dksX8_hidden_3 5 rfl rfl)
theorem dX8_hidden_73 : decode cX8_hidden 73 = .ok (.iload_n 1, 1) := dk_27 (dk_at dksX8_hidden_3 6 rfl rfl)
theorem dX8_hidden_74 : decode cX8_hidden 74 = .ok (.iload_n 2, 1) := dk_28 (dk_at dksX8_hidden_3 7 rfl rfl)
theorem dX8_hidden_75 : decode cX8_hidden 75 = .ok (.if_icmp .ne 5, 3) := dk_160 0 5 (dk_at dksX8_hidden_3 8 rfl rfl)
theorem dX8_hidden_78 : decode cX8_hidden 78 = .ok (.iload_n 1, 1) := dk_27 (dk_at dksX8_hidden_3 11 rfl rfl)
theorem dX8_hidden_79 : decode cX8_hidden 79 = .ok (.ireturn, 1) := dk_172 (dk_at dksX8_hidden_3 12 rfl rfl)
theorem dX8_hidden_80 : decode cX8_hidden 80 = .ok (.iconst 1, 1) := dk_4 (dk_at dksX8_hidden_3 13 rfl rfl)
theorem dX8_hidden_81 : decode cX8_hidden 81 = .ok (.istore 5, 2) := dk_54 5 (dk_at dksX8_hidden_3 14 rfl rfl)
theorem dX8_hidden_83 : decode cX8_hidden 83 = .ok (.aload_n 0, 1) := dk_42 (dk_at dksX8_hidden_3 16 rfl rfl)
theorem dX8_hidden_84 : decode cX8_hidden 84 = .ok (.getfield 152, 3) := dk_180 0 152 (dk_at dksX8_hidden_3 17 rfl rfl)
theorem dX8_hidden_87 : decode cX8_hidden 87 = .ok (.aload_n 0, 1) := dk_42 (dk_at dksX8_hidden_3 20 rfl rfl)
theorem dX8_hidden_88 : decode cX8_hidden 88 = .ok (.iload_n 1, 1) := dk_27 (dk_at dksX8_hidden_3 21 rfl rfl)
theorem dX8_hidden_89 : decode cX8_hidden 89 = .ok (.iload 5, 2) := dk_21 5 (dk_at dksX8_hidden_3 22 rfl rfl)
theorem dX8_hidden_91 : decode cX8_hidden 91 = .ok (.invokevirtual 385, 3) := dk_182 1 129 (dk_at dksX8_hidden_4 0 rfl rfl)
theorem dX8_hidden_94 : decode cX8_hidden 94 = .ok (.iaload, 1) := dk_46 (dk_at dksX8_hidden_4 3 rfl rfl)
theorem dX8_hidden_95 : decode cX8_hidden 95 = .ok (.aload_n 0, 1) := dk_42 (dk_at dksX8_hidden_4 4 rfl rfl)
theorem dX8_hidden_96 : decode cX8_hidden 96 = .ok (.getfield 152, 3) := dk_180 0 152 (dk_at dksX8_hidden_4 5 rfl rfl)
theorem dX8_hidden_99 : decode cX8_hidden 99 = .ok (.iload_n 1, 1) := dk_27 (dk_at dksX8_hidden_4 8 rfl rfl)
theorem dX8_hidden_100 : decode cX8_hidden 100 = .ok (.iaload, 1) := dk_46 (dk_at dksX8_hidden_4 9 rfl rfl)
theorem dX8_hidden_101 : decode cX8_hidden 101 = .ok (.iconst 1, 1) := dk_4 (dk_at dksX8_hidden_4 10 rfl rfl)
theorem dX8_hidden_102 : decode cX8_hidden 102 = .ok (.isub, 1) := dk_100 (dk_at dksX8_hidden_4 11 rfl rfl)
theorem dX8_hidden_103 : decode cX8_hidden 103 = .ok (.if_icmp .eq 9, 3) := dk_159 0 9 (dk_at dksX8_hidden_4 12 rfl rfl)
theorem dX8_hidden_106 : decode cX8_hidden 106 = .ok (.iinc 5 1, 3) := dk_132 5 1 (dk_at dksX8_hidden_4 15 rfl rfl)
theorem dX8_hidden_109 : decode cX8_hidden 109 = .ok (.goto (-26), 3) := dk_167 255 230 (dk_at dksX8_hidden_4 18 rfl rfl)
theorem dX8_hidden_112 : decode cX8_hidden 112 = .ok (.aload_n 0, 1) := dk_42 (dk_at dksX8_hidden_4 21 rfl rfl)
theorem dX8_hidden_113 : decode cX8_hidden 113 = .ok (.iload_n 1, 1) := dk_27 (dk_at dksX8_hidden_4 22 rfl rfl)
theorem dX8_hidden_114 : decode cX8_hidden 114 = .ok (.iload 5, 2) := dk_21 5 (dk_at dksX8_hidden_5 0 rfl rfl)
theorem dX8_hidden_116 : decode cX8_hidden 116 = .ok (.invokevirtual 385, 3) := dk_182 1 129 (dk_at dksX8_hidden_5 2 rfl rfl)
theorem dX8_hidden_119 : decode cX8_hidden 119 = .ok (.ireturn, 1) := dk_172 (dk_at dksX8_hidden_5 5 rfl rfl)
abbrev cX8_watched : ByteArray := prog_19_method_107_code
def yX8_watched : MethodName := ⟨RX8, "watched", "()I"⟩
def dkwX8_watched_2 : List UInt8 := [182, 1, 136, 120, 128, 60, 132, 2, 1, 167, 255, 204, 27, 172]
abbrev dktX8_watched_2 : List UInt8 := dkwX8_watched_2 ++ []
def dkwX8_watched_1 : List UInt8 := [182, 1, 132, 154, 0, 27, 42, 180, 0, 134, 28, 46, 2, 160, 0, 17, 27, 4, 42, 28, 42, 180, 1, 92]
abbrev dktX8_watched_1 : List UInt8 := dkwX8_watched_1 ++ dktX8_watched_2
def dkwX8_watched_0 : List UInt8 := [3, 60, 3, 61, 28, 42, 180, 0, 70, 42, 180, 1, 1, 46, 162, 0, 45, 42, 28, 42, 180, 1, 92]
abbrev dktX8_watched_0 : List UInt8 := dkwX8_watched_0 ++ dktX8_watched_1
theorem dksX8_watched_0 : cX8_watched.data.toList.drop 0 = dktX8_watched_0 := by decide +kernel
theorem dksX8_watched_1 : cX8_watched.data.toList.drop 23 = dktX8_watched_1 := dk_seg dksX8_watched_0 23 rfl rfl
theorem dksX8_watched_2 : cX8_watched.data.toList.drop 47 = dktX8_watched_2 := dk_seg dksX8_watched_1 24 rfl rfl
theorem dX8_watched_0 : decode cX8_watched 0 = .ok (.iconst 0, 1) := dk_3 (dk_at dksX8_watched_0 0 rfl rfl)
theorem dX8_watched_1 : decode cX8_watched 1 = .ok (.istore_n 1, 1) := dk_60 (dk_at dksX8_watched_0 1 rfl rfl)
theorem dX8_watched_2 : decode cX8_watched 2 = .ok (.iconst 0, 1) := dk_3 (dk_at dksX8_watched_0 2 rfl rfl)
theorem dX8_watched_3 : decode cX8_watched 3 = .ok (.istore_n 2, 1) := dk_61 (dk_at dksX8_watched_0 3 rfl rfl)
theorem dX8_watched_4 : decode cX8_watched 4 = .ok (.iload_n 2, 1) := dk_28 (dk_at dksX8_watched_0 4 rfl rfl)
theorem dX8_watched_5 : decode cX8_watched 5 = .ok (.aload_n 0, 1) := dk_42 (dk_at dksX8_watched_0 5 rfl rfl)
theorem dX8_watched_6 : decode cX8_watched 6 = .ok (.getfield 70, 3) := dk_180 0 70 (dk_at dksX8_watched_0 6 rfl rfl)
theorem dX8_watched_9 : decode cX8_watched 9 = .ok (.aload_n 0, 1) := dk_42 (dk_at dksX8_watched_0 9 rfl rfl)
theorem dX8_watched_10 : decode cX8_watched 10 = .ok (.getfield 257, 3) := dk_180 1 1 (dk_at dksX8_watched_0 10 rfl rfl)
theorem dX8_watched_13 : decode cX8_watched 13 = .ok (.iaload, 1) := dk_46 (dk_at dksX8_watched_0 13 rfl rfl)
theorem dX8_watched_14 : decode cX8_watched 14 = .ok (.if_icmp .ge 45, 3) := dk_162 0 45 (dk_at dksX8_watched_0 14 rfl rfl)
theorem dX8_watched_17 : decode cX8_watched 17 = .ok (.aload_n 0, 1) := dk_42 (dk_at dksX8_watched_0 17 rfl rfl)
theorem dX8_watched_18 : decode cX8_watched 18 = .ok (.iload_n 2, 1) := dk_28 (dk_at dksX8_watched_0 18 rfl rfl)
theorem dX8_watched_19 : decode cX8_watched 19 = .ok (.aload_n 0, 1) := dk_42 (dk_at dksX8_watched_0 19 rfl rfl)
theorem dX8_watched_20 : decode cX8_watched 20 = .ok (.getfield 348, 3) := dk_180 1 92 (dk_at dksX8_watched_0 20 rfl rfl)
theorem dX8_watched_23 : decode cX8_watched 23 = .ok (.invokevirtual 388, 3) := dk_182 1 132 (dk_at dksX8_watched_1 0 rfl rfl)
theorem dX8_watched_26 : decode cX8_watched 26 = .ok (.ifCond .ne 27, 3) := dk_154 0 27 (dk_at dksX8_watched_1 3 rfl rfl)
theorem dX8_watched_29 : decode cX8_watched 29 = .ok (.aload_n 0, 1) := dk_42 (dk_at dksX8_watched_1 6 rfl rfl)
theorem dX8_watched_30 : decode cX8_watched 30 = .ok (.getfield 134, 3) := dk_180 0 134 (dk_at dksX8_watched_1 7 rfl rfl)
theorem dX8_watched_33 : decode cX8_watched 33 = .ok (.iload_n 2, 1) := dk_28 (dk_at dksX8_watched_1 10 rfl rfl)
theorem dX8_watched_34 : decode cX8_watched 34 = .ok (.iaload, 1) := dk_46 (dk_at dksX8_watched_1 11 rfl rfl)
theorem dX8_watched_35 : decode cX8_watched 35 = .ok (.iconst (-1), 1) := dk_2 (dk_at dksX8_watched_1 12 rfl rfl)
theorem dX8_watched_36 : decode cX8_watched 36 = .ok (.if_icmp .ne 17, 3) := dk_160 0 17 (dk_at dksX8_watched_1 13 rfl rfl)
theorem dX8_watched_39 : decode cX8_watched 39 = .ok (.iload_n 1, 1) := dk_27 (dk_at dksX8_watched_1 16 rfl rfl)
theorem dX8_watched_40 : decode cX8_watched 40 = .ok (.iconst 1, 1) := dk_4 (dk_at dksX8_watched_1 17 rfl rfl)
theorem dX8_watched_41 : decode cX8_watched 41 = .ok (.aload_n 0, 1) := dk_42 (dk_at dksX8_watched_1 18 rfl rfl)
theorem dX8_watched_42 : decode cX8_watched 42 = .ok (.iload_n 2, 1) := dk_28 (dk_at dksX8_watched_1 19 rfl rfl)
theorem dX8_watched_43 : decode cX8_watched 43 = .ok (.aload_n 0, 1) := dk_42 (dk_at dksX8_watched_1 20 rfl rfl)
theorem dX8_watched_44 : decode cX8_watched 44 = .ok (.getfield 348, 3) := dk_180 1 92 (dk_at dksX8_watched_1 21 rfl rfl)
theorem dX8_watched_47 : decode cX8_watched 47 = .ok (.invokevirtual 392, 3) := dk_182 1 136 (dk_at dksX8_watched_2 0 rfl rfl)
theorem dX8_watched_50 : decode cX8_watched 50 = .ok (.ishl, 1) := dk_120 (dk_at dksX8_watched_2 3 rfl rfl)
theorem dX8_watched_51 : decode cX8_watched 51 = .ok (.ior, 1) := dk_128 (dk_at dksX8_watched_2 4 rfl rfl)
theorem dX8_watched_52 : decode cX8_watched 52 = .ok (.istore_n 1, 1) := dk_60 (dk_at dksX8_watched_2 5 rfl rfl)
theorem dX8_watched_53 : decode cX8_watched 53 = .ok (.iinc 2 1, 3) := dk_132 2 1 (dk_at dksX8_watched_2 6 rfl rfl)
theorem dX8_watched_56 : decode cX8_watched 56 = .ok (.goto (-52), 3) := dk_167 255 204 (dk_at dksX8_watched_2 9 rfl rfl)
theorem dX8_watched_59 : decode cX8_watched 59 = .ok (.iload_n 1, 1) := dk_27 (dk_at dksX8_watched_2 12 rfl rfl)
theorem dX8_watched_60 : decode cX8_watched 60 = .ok (.ireturn, 1) := dk_172 (dk_at dksX8_watched_2 13 rfl rfl)
abbrev cX8_stand : ByteArray := prog_19_method_110_code
def yX8_stand : MethodName := ⟨RX8, "stand", "(I)I"⟩
def dkwX8_stand_3 : List UInt8 := [167, 255, 219, 27, 154, 0, 7, 28, 167, 0, 11, 42, 28, 182, 1, 215, 184, 1, 113, 172]
abbrev dktX8_stand_3 : List UInt8 := dkwX8_stand_3 ++ []
def dkwX8_stand_2 : List UInt8 := [42, 29, 182, 1, 215, 184, 1, 113, 42, 28, 182, 1, 215, 184, 1, 113, 164, 0, 5, 29, 61, 132, 3, 1]
abbrev dktX8_stand_2 : List UInt8 := dkwX8_stand_2 ++ dktX8_stand_3
def dkwX8_stand_1 : List UInt8 := [16, 254, 172, 42, 182, 1, 163, 3, 61, 4, 62, 29, 42, 180, 0, 49, 42, 180, 1, 1, 46, 162, 0, 30]
abbrev dktX8_stand_1 : List UInt8 := dkwX8_stand_1 ++ dktX8_stand_2
def dkwX8_stand_0 : List UInt8 := [27, 3, 4, 184, 1, 85, 154, 0, 5, 2, 172, 42, 180, 0, 49, 42, 180, 1, 1, 46, 154, 0, 6]
abbrev dktX8_stand_0 : List UInt8 := dkwX8_stand_0 ++ dktX8_stand_1
theorem dksX8_stand_0 : cX8_stand.data.toList.drop 0 = dktX8_stand_0 := by decide +kernel
theorem dksX8_stand_1 : cX8_stand.data.toList.drop 23 = dktX8_stand_1 := dk_seg dksX8_stand_0 23 rfl rfl
theorem dksX8_stand_2 : cX8_stand.data.toList.drop 47 = dktX8_stand_2 := dk_seg dksX8_stand_1 24 rfl rfl
theorem dksX8_stand_3 : cX8_stand.data.toList.drop 71 = dktX8_stand_3 := dk_seg dksX8_stand_2 24 rfl rfl
theorem dX8_stand_0 : decode cX8_stand 0 = .ok (.iload_n 1, 1) := dk_27 (dk_at dksX8_stand_0 0 rfl rfl)
theorem dX8_stand_1 : decode cX8_stand 1 = .ok (.iconst 0, 1) := dk_3 (dk_at dksX8_stand_0 1 rfl rfl)
theorem dX8_stand_2 : decode cX8_stand 2 = .ok (.iconst 1, 1) := dk_4 (dk_at dksX8_stand_0 2 rfl rfl)
theorem dX8_stand_3 : decode cX8_stand 3 = .ok (.invokestatic 341, 3) := dk_184 1 85 (dk_at dksX8_stand_0 3 rfl rfl)
theorem dX8_stand_6 : decode cX8_stand 6 = .ok (.ifCond .ne 5, 3) := dk_154 0 5 (dk_at dksX8_stand_0 6 rfl rfl)
theorem dX8_stand_9 : decode cX8_stand 9 = .ok (.iconst (-1), 1) := dk_2 (dk_at dksX8_stand_0 9 rfl rfl)
theorem dX8_stand_10 : decode cX8_stand 10 = .ok (.ireturn, 1) := dk_172 (dk_at dksX8_stand_0 10 rfl rfl)
theorem dX8_stand_11 : decode cX8_stand 11 = .ok (.aload_n 0, 1) := dk_42 (dk_at dksX8_stand_0 11 rfl rfl)
theorem dX8_stand_12 : decode cX8_stand 12 = .ok (.getfield 49, 3) := dk_180 0 49 (dk_at dksX8_stand_0 12 rfl rfl)
theorem dX8_stand_15 : decode cX8_stand 15 = .ok (.aload_n 0, 1) := dk_42 (dk_at dksX8_stand_0 15 rfl rfl)
theorem dX8_stand_16 : decode cX8_stand 16 = .ok (.getfield 257, 3) := dk_180 1 1 (dk_at dksX8_stand_0 16 rfl rfl)
theorem dX8_stand_19 : decode cX8_stand 19 = .ok (.iaload, 1) := dk_46 (dk_at dksX8_stand_0 19 rfl rfl)
theorem dX8_stand_20 : decode cX8_stand 20 = .ok (.ifCond .ne 6, 3) := dk_154 0 6 (dk_at dksX8_stand_0 20 rfl rfl)
theorem dX8_stand_23 : decode cX8_stand 23 = .ok (.bipush (-2), 2) := dk_16 254 (dk_at dksX8_stand_1 0 rfl rfl)
theorem dX8_stand_25 : decode cX8_stand 25 = .ok (.ireturn, 1) := dk_172 (dk_at dksX8_stand_1 2 rfl rfl)
theorem dX8_stand_26 : decode cX8_stand 26 = .ok (.aload_n 0, 1) := dk_42 (dk_at dksX8_stand_1 3 rfl rfl)
theorem dX8_stand_27 : decode cX8_stand 27 = .ok (.invokevirtual 419, 3) := dk_182 1 163 (dk_at dksX8_stand_1 4 rfl rfl)
theorem dX8_stand_30 : decode cX8_stand 30 = .ok (.iconst 0, 1) := dk_3 (dk_at dksX8_stand_1 7 rfl rfl)
theorem dX8_stand_31 : decode cX8_stand 31 = .ok (.istore_n 2, 1) := dk_61 (dk_at dksX8_stand_1 8 rfl rfl)
theorem dX8_stand_32 : decode cX8_stand 32 = .ok (.iconst 1, 1) := dk_4 (dk_at dksX8_stand_1 9 rfl rfl)
theorem dX8_stand_33 : decode cX8_stand 33 = .ok (.istore_n 3, 1) := dk_62 (dk_at dksX8_stand_1 10 rfl rfl)
theorem dX8_stand_34 : decode cX8_stand 34 = .ok (.iload_n 3, 1) := dk_29 (dk_at dksX8_stand_1 11 rfl rfl)
theorem dX8_stand_35 : decode cX8_stand 35 = .ok (.aload_n 0, 1) := dk_42 (dk_at dksX8_stand_1 12 rfl rfl)
theorem dX8_stand_36 : decode cX8_stand 36 = .ok (.getfield 49, 3) := dk_180 0 49 (dk_at dksX8_stand_1 13 rfl rfl)
theorem dX8_stand_39 : decode cX8_stand 39 = .ok (.aload_n 0, 1) := dk_42 (dk_at dksX8_stand_1 16 rfl rfl)
theorem dX8_stand_40 : decode cX8_stand 40 = .ok (.getfield 257, 3) := dk_180 1 1 (dk_at dksX8_stand_1 17 rfl rfl)
theorem dX8_stand_43 : decode cX8_stand 43 = .ok (.iaload, 1) := dk_46 (dk_at dksX8_stand_1 20 rfl rfl)
theorem dX8_stand_44 : decode cX8_stand 44 = .ok (.if_icmp .ge 30, 3) := dk_162 0 30 (dk_at dksX8_stand_1 21 rfl rfl)
theorem dX8_stand_47 : decode cX8_stand 47 = .ok (.aload_n 0, 1) := dk_42 (dk_at dksX8_stand_2 0 rfl rfl)
theorem dX8_stand_48 : decode cX8_stand 48 = .ok (.iload_n 3, 1) := dk_29 (dk_at dksX8_stand_2 1 rfl rfl)
theorem dX8_stand_49 : decode cX8_stand 49 = .ok (.invokevirtual 471, 3) := dk_182 1 215 (dk_at dksX8_stand_2 2 rfl rfl)
theorem dX8_stand_52 : decode cX8_stand 52 = .ok (.invokestatic 369, 3) := dk_184 1 113 (dk_at dksX8_stand_2 5 rfl rfl)
theorem dX8_stand_55 : decode cX8_stand 55 = .ok (.aload_n 0, 1) := dk_42 (dk_at dksX8_stand_2 8 rfl rfl)
theorem dX8_stand_56 : decode cX8_stand 56 = .ok (.iload_n 2, 1) := dk_28 (dk_at dksX8_stand_2 9 rfl rfl)
theorem dX8_stand_57 : decode cX8_stand 57 = .ok (.invokevirtual 471, 3) := dk_182 1 215 (dk_at dksX8_stand_2 10 rfl rfl)
theorem dX8_stand_60 : decode cX8_stand 60 = .ok (.invokestatic 369, 3) := dk_184 1 113 (dk_at dksX8_stand_2 13 rfl rfl)
theorem dX8_stand_63 : decode cX8_stand 63 = .ok (.if_icmp .le 5, 3) := dk_164 0 5 (dk_at dksX8_stand_2 16 rfl rfl)
theorem dX8_stand_66 : decode cX8_stand 66 = .ok (.iload_n 3, 1) := dk_29 (dk_at dksX8_stand_2 19 rfl rfl)
theorem dX8_stand_67 : decode cX8_stand 67 = .ok (.istore_n 2, 1) := dk_61 (dk_at dksX8_stand_2 20 rfl rfl)
theorem dX8_stand_68 : decode cX8_stand 68 = .ok (.iinc 3 1, 3) := dk_132 3 1 (dk_at dksX8_stand_2 21 rfl rfl)
theorem dX8_stand_71 : decode cX8_stand 71 = .ok (.goto (-37), 3) := dk_167 255 219 (dk_at dksX8_stand_3 0 rfl rfl)
theorem dX8_stand_74 : decode cX8_stand 74 = .ok (.iload_n 1, 1) := dk_27 (dk_at dksX8_stand_3 3 rfl rfl)
theorem dX8_stand_75 : decode cX8_stand 75 = .ok (.ifCond .ne 7, 3) := dk_154 0 7 (dk_at dksX8_stand_3 4 rfl rfl)
theorem dX8_stand_78 : decode cX8_stand 78 = .ok (.iload_n 2, 1) := dk_28 (dk_at dksX8_stand_3 7 rfl rfl)
theorem dX8_stand_79 : decode cX8_stand 79 = .ok (.goto 11, 3) := dk_167 0 11 (dk_at dksX8_stand_3 8 rfl rfl)
theorem dX8_stand_82 : decode cX8_stand 82 = .ok (.aload_n 0, 1) := dk_42 (dk_at dksX8_stand_3 11 rfl rfl)
theorem dX8_stand_83 : decode cX8_stand 83 = .ok (.iload_n 2, 1) := dk_28 (dk_at dksX8_stand_3 12 rfl rfl)
theorem dX8_stand_84 : decode cX8_stand 84 = .ok (.invokevirtual 471, 3) := dk_182 1 215 (dk_at dksX8_stand_3 13 rfl rfl)
theorem dX8_stand_87 : decode cX8_stand 87 = .ok (.invokestatic 369, 3) := dk_184 1 113 (dk_at dksX8_stand_3 16 rfl rfl)
theorem dX8_stand_90 : decode cX8_stand 90 = .ok (.ireturn, 1) := dk_172 (dk_at dksX8_stand_3 19 rfl rfl)
abbrev cX8_seenFrom : ByteArray := prog_19_method_109_code
def yX8_seenFrom : MethodName := ⟨RX8, "seenFrom", "(I)I"⟩
def dkwX8_seenFrom_2 : List UInt8 := [132, 3, 1, 167, 255, 210, 28, 172]
abbrev dktX8_seenFrom_2 : List UInt8 := dkwX8_seenFrom_2 ++ []
def dkwX8_seenFrom_1 : List UInt8 := [182, 1, 136, 27, 160, 0, 20, 28, 42, 29, 42, 29, 42, 180, 1, 92, 182, 1, 139, 182, 1, 166, 128, 61]
abbrev dktX8_seenFrom_1 : List UInt8 := dkwX8_seenFrom_1 ++ dktX8_seenFrom_2
def dkwX8_seenFrom_0 : List UInt8 := [3, 61, 3, 62, 29, 42, 180, 0, 70, 42, 180, 1, 1, 46, 162, 0, 39, 42, 29, 42, 180, 1, 92]
abbrev dktX8_seenFrom_0 : List UInt8 := dkwX8_seenFrom_0 ++ dktX8_seenFrom_1
theorem dksX8_seenFrom_0 : cX8_seenFrom.data.toList.drop 0 = dktX8_seenFrom_0 := by decide +kernel
theorem dksX8_seenFrom_1 : cX8_seenFrom.data.toList.drop 23 = dktX8_seenFrom_1 := dk_seg dksX8_seenFrom_0 23 rfl rfl
theorem dksX8_seenFrom_2 : cX8_seenFrom.data.toList.drop 47 = dktX8_seenFrom_2 := dk_seg dksX8_seenFrom_1 24 rfl rfl
theorem dX8_seenFrom_0 : decode cX8_seenFrom 0 = .ok (.iconst 0, 1) := dk_3 (dk_at dksX8_seenFrom_0 0 rfl rfl)
theorem dX8_seenFrom_1 : decode cX8_seenFrom 1 = .ok (.istore_n 2, 1) := dk_61 (dk_at dksX8_seenFrom_0 1 rfl rfl)
theorem dX8_seenFrom_2 : decode cX8_seenFrom 2 = .ok (.iconst 0, 1) := dk_3 (dk_at dksX8_seenFrom_0 2 rfl rfl)
theorem dX8_seenFrom_3 : decode cX8_seenFrom 3 = .ok (.istore_n 3, 1) := dk_62 (dk_at dksX8_seenFrom_0 3 rfl rfl)
theorem dX8_seenFrom_4 : decode cX8_seenFrom 4 = .ok (.iload_n 3, 1) := dk_29 (dk_at dksX8_seenFrom_0 4 rfl rfl)
theorem dX8_seenFrom_5 : decode cX8_seenFrom 5 = .ok (.aload_n 0, 1) := dk_42 (dk_at dksX8_seenFrom_0 5 rfl rfl)
theorem dX8_seenFrom_6 : decode cX8_seenFrom 6 = .ok (.getfield 70, 3) := dk_180 0 70 (dk_at dksX8_seenFrom_0 6 rfl rfl)
theorem dX8_seenFrom_9 : decode cX8_seenFrom 9 = .ok (.aload_n 0, 1) := dk_42 (dk_at dksX8_seenFrom_0 9 rfl rfl)
theorem dX8_seenFrom_10 : decode cX8_seenFrom 10 = .ok (.getfield 257, 3) := dk_180 1 1 (dk_at dksX8_seenFrom_0 10 rfl rfl)
theorem dX8_seenFrom_13 : decode cX8_seenFrom 13 = .ok (.iaload, 1) := dk_46 (dk_at dksX8_seenFrom_0 13 rfl rfl)
theorem dX8_seenFrom_14 : decode cX8_seenFrom 14 = .ok (.if_icmp .ge 39, 3) := dk_162 0 39 (dk_at dksX8_seenFrom_0 14 rfl rfl)
theorem dX8_seenFrom_17 : decode cX8_seenFrom 17 = .ok (.aload_n 0, 1) := dk_42 (dk_at dksX8_seenFrom_0 17 rfl rfl)
theorem dX8_seenFrom_18 : decode cX8_seenFrom 18 = .ok (.iload_n 3, 1) := dk_29 (dk_at dksX8_seenFrom_0 18 rfl rfl)
theorem dX8_seenFrom_19 : decode cX8_seenFrom 19 = .ok (.aload_n 0, 1) := dk_42 (dk_at dksX8_seenFrom_0 19 rfl rfl)
theorem dX8_seenFrom_20 : decode cX8_seenFrom 20 = .ok (.getfield 348, 3) := dk_180 1 92 (dk_at dksX8_seenFrom_0 20 rfl rfl)
theorem dX8_seenFrom_23 : decode cX8_seenFrom 23 = .ok (.invokevirtual 392, 3) := dk_182 1 136 (dk_at dksX8_seenFrom_1 0 rfl rfl)
theorem dX8_seenFrom_26 : decode cX8_seenFrom 26 = .ok (.iload_n 1, 1) := dk_27 (dk_at dksX8_seenFrom_1 3 rfl rfl)
theorem dX8_seenFrom_27 : decode cX8_seenFrom 27 = .ok (.if_icmp .ne 20, 3) := dk_160 0 20 (dk_at dksX8_seenFrom_1 4 rfl rfl)
theorem dX8_seenFrom_30 : decode cX8_seenFrom 30 = .ok (.iload_n 2, 1) := dk_28 (dk_at dksX8_seenFrom_1 7 rfl rfl)
theorem dX8_seenFrom_31 : decode cX8_seenFrom 31 = .ok (.aload_n 0, 1) := dk_42 (dk_at dksX8_seenFrom_1 8 rfl rfl)
theorem dX8_seenFrom_32 : decode cX8_seenFrom 32 = .ok (.iload_n 3, 1) := dk_29 (dk_at dksX8_seenFrom_1 9 rfl rfl)
theorem dX8_seenFrom_33 : decode cX8_seenFrom 33 = .ok (.aload_n 0, 1) := dk_42 (dk_at dksX8_seenFrom_1 10 rfl rfl)
theorem dX8_seenFrom_34 : decode cX8_seenFrom 34 = .ok (.iload_n 3, 1) := dk_29 (dk_at dksX8_seenFrom_1 11 rfl rfl)
theorem dX8_seenFrom_35 : decode cX8_seenFrom 35 = .ok (.aload_n 0, 1) := dk_42 (dk_at dksX8_seenFrom_1 12 rfl rfl)
theorem dX8_seenFrom_36 : decode cX8_seenFrom 36 = .ok (.getfield 348, 3) := dk_180 1 92 (dk_at dksX8_seenFrom_1 13 rfl rfl)
theorem dX8_seenFrom_39 : decode cX8_seenFrom 39 = .ok (.invokevirtual 395, 3) := dk_182 1 139 (dk_at dksX8_seenFrom_1 16 rfl rfl)
theorem dX8_seenFrom_42 : decode cX8_seenFrom 42 = .ok (.invokevirtual 422, 3) := dk_182 1 166 (dk_at dksX8_seenFrom_1 19 rfl rfl)
theorem dX8_seenFrom_45 : decode cX8_seenFrom 45 = .ok (.ior, 1) := dk_128 (dk_at dksX8_seenFrom_1 22 rfl rfl)
theorem dX8_seenFrom_46 : decode cX8_seenFrom 46 = .ok (.istore_n 2, 1) := dk_61 (dk_at dksX8_seenFrom_1 23 rfl rfl)
theorem dX8_seenFrom_47 : decode cX8_seenFrom 47 = .ok (.iinc 3 1, 3) := dk_132 3 1 (dk_at dksX8_seenFrom_2 0 rfl rfl)
theorem dX8_seenFrom_50 : decode cX8_seenFrom 50 = .ok (.goto (-46), 3) := dk_167 255 210 (dk_at dksX8_seenFrom_2 3 rfl rfl)
theorem dX8_seenFrom_53 : decode cX8_seenFrom 53 = .ok (.iload_n 2, 1) := dk_28 (dk_at dksX8_seenFrom_2 6 rfl rfl)
theorem dX8_seenFrom_54 : decode cX8_seenFrom 54 = .ok (.ireturn, 1) := dk_172 (dk_at dksX8_seenFrom_2 7 rfl rfl)
abbrev cX8_rests : ByteArray := prog_19_method_113_code
def yX8_rests : MethodName := ⟨RX8, "rests", "(III)I"⟩
def dkwX8_rests_5 : List UInt8 := [167, 255, 177, 29, 2, 160, 0, 8, 21, 4, 167, 0, 4, 2, 172]
abbrev dktX8_rests_5 : List UInt8 := dkwX8_rests_5 ++ []
def dkwX8_rests_4 : List UInt8 := [160, 0, 12, 16, 10, 21, 5, 104, 21, 6, 96, 172, 132, 4, 1, 132, 6, 1, 167, 255, 200, 132, 5, 1]
abbrev dktX8_rests_4 : List UInt8 := dkwX8_rests_4 ++ dktX8_rests_5
def dkwX8_rests_3 : List UInt8 := [42, 21, 5, 21, 6, 4, 27, 120, 4, 28, 120, 128, 182, 1, 221, 154, 0, 6, 167, 0, 21, 21, 4, 29]
abbrev dktX8_rests_3 : List UInt8 := dkwX8_rests_3 ++ dktX8_rests_4
def dkwX8_rests_2 : List UInt8 := [180, 1, 1, 46, 162, 0, 71, 3, 54, 6, 21, 6, 42, 180, 0, 49, 42, 180, 1, 1, 46, 162, 0, 48]
abbrev dktX8_rests_2 : List UInt8 := dkwX8_rests_2 ++ dktX8_rests_3
def dkwX8_rests_1 : List UInt8 := [162, 0, 5, 2, 172, 42, 182, 1, 163, 3, 54, 4, 3, 54, 5, 21, 5, 42, 180, 0, 49, 42]
abbrev dktX8_rests_1 : List UInt8 := dkwX8_rests_1 ++ dktX8_rests_2
def dkwX8_rests_0 : List UInt8 := [42, 27, 182, 1, 154, 153, 0, 21, 42, 28, 182, 1, 154, 153, 0, 13, 27, 28, 159, 0, 8, 29, 2]
abbrev dktX8_rests_0 : List UInt8 := dkwX8_rests_0 ++ dktX8_rests_1
theorem dksX8_rests_0 : cX8_rests.data.toList.drop 0 = dktX8_rests_0 := by decide +kernel
theorem dksX8_rests_1 : cX8_rests.data.toList.drop 23 = dktX8_rests_1 := dk_seg dksX8_rests_0 23 rfl rfl
theorem dksX8_rests_2 : cX8_rests.data.toList.drop 45 = dktX8_rests_2 := dk_seg dksX8_rests_1 22 rfl rfl
theorem dksX8_rests_3 : cX8_rests.data.toList.drop 69 = dktX8_rests_3 := dk_seg dksX8_rests_2 24 rfl rfl
theorem dksX8_rests_4 : cX8_rests.data.toList.drop 93 = dktX8_rests_4 := dk_seg dksX8_rests_3 24 rfl rfl
theorem dksX8_rests_5 : cX8_rests.data.toList.drop 117 = dktX8_rests_5 := dk_seg dksX8_rests_4 24 rfl rfl
theorem dX8_rests_0 : decode cX8_rests 0 = .ok (.aload_n 0, 1) := dk_42 (dk_at dksX8_rests_0 0 rfl rfl)
theorem dX8_rests_1 : decode cX8_rests 1 = .ok (.iload_n 1, 1) := dk_27 (dk_at dksX8_rests_0 1 rfl rfl)
theorem dX8_rests_2 : decode cX8_rests 2 = .ok (.invokevirtual 410, 3) := dk_182 1 154 (dk_at dksX8_rests_0 2 rfl rfl)
theorem dX8_rests_5 : decode cX8_rests 5 = .ok (.ifCond .eq 21, 3) := dk_153 0 21 (dk_at dksX8_rests_0 5 rfl rfl)
theorem dX8_rests_8 : decode cX8_rests 8 = .ok (.aload_n 0, 1) := dk_42 (dk_at dksX8_rests_0 8 rfl rfl)
theorem dX8_rests_9 : decode cX8_rests 9 = .ok (.iload_n 2, 1) := dk_28 (dk_at dksX8_rests_0 9 rfl rfl)
theorem dX8_rests_10 : decode cX8_rests 10 = .ok (.invokevirtual 410, 3) := dk_182 1 154 (dk_at dksX8_rests_0 10 rfl rfl)
theorem dX8_rests_13 : decode cX8_rests 13 = .ok (.ifCond .eq 13, 3) := dk_153 0 13 (dk_at dksX8_rests_0 13 rfl rfl)
theorem dX8_rests_16 : decode cX8_rests 16 = .ok (.iload_n 1, 1) := dk_27 (dk_at dksX8_rests_0 16 rfl rfl)
theorem dX8_rests_17 : decode cX8_rests 17 = .ok (.iload_n 2, 1) := dk_28 (dk_at dksX8_rests_0 17 rfl rfl)
theorem dX8_rests_18 : decode cX8_rests 18 = .ok (.if_icmp .eq 8, 3) := dk_159 0 8 (dk_at dksX8_rests_0 18 rfl rfl)
theorem dX8_rests_21 : decode cX8_rests 21 = .ok (.iload_n 3, 1) := dk_29 (dk_at dksX8_rests_0 21 rfl rfl)
theorem dX8_rests_22 : decode cX8_rests 22 = .ok (.iconst (-1), 1) := dk_2 (dk_at dksX8_rests_0 22 rfl rfl)
theorem dX8_rests_23 : decode cX8_rests 23 = .ok (.if_icmp .ge 5, 3) := dk_162 0 5 (dk_at dksX8_rests_1 0 rfl rfl)
theorem dX8_rests_26 : decode cX8_rests 26 = .ok (.iconst (-1), 1) := dk_2 (dk_at dksX8_rests_1 3 rfl rfl)
theorem dX8_rests_27 : decode cX8_rests 27 = .ok (.ireturn, 1) := dk_172 (dk_at dksX8_rests_1 4 rfl rfl)
theorem dX8_rests_28 : decode cX8_rests 28 = .ok (.aload_n 0, 1) := dk_42 (dk_at dksX8_rests_1 5 rfl rfl)
theorem dX8_rests_29 : decode cX8_rests 29 = .ok (.invokevirtual 419, 3) := dk_182 1 163 (dk_at dksX8_rests_1 6 rfl rfl)
theorem dX8_rests_32 : decode cX8_rests 32 = .ok (.iconst 0, 1) := dk_3 (dk_at dksX8_rests_1 9 rfl rfl)
theorem dX8_rests_33 : decode cX8_rests 33 = .ok (.istore 4, 2) := dk_54 4 (dk_at dksX8_rests_1 10 rfl rfl)
theorem dX8_rests_35 : decode cX8_rests 35 = .ok (.iconst 0, 1) := dk_3 (dk_at dksX8_rests_1 12 rfl rfl)
theorem dX8_rests_36 : decode cX8_rests 36 = .ok (.istore 5, 2) := dk_54 5 (dk_at dksX8_rests_1 13 rfl rfl)
theorem dX8_rests_38 : decode cX8_rests 38 = .ok (.iload 5, 2) := dk_21 5 (dk_at dksX8_rests_1 15 rfl rfl)
theorem dX8_rests_40 : decode cX8_rests 40 = .ok (.aload_n 0, 1) := dk_42 (dk_at dksX8_rests_1 17 rfl rfl)
theorem dX8_rests_41 : decode cX8_rests 41 = .ok (.getfield 49, 3) := dk_180 0 49 (dk_at dksX8_rests_1 18 rfl rfl)
theorem dX8_rests_44 : decode cX8_rests 44 = .ok (.aload_n 0, 1) := dk_42 (dk_at dksX8_rests_1 21 rfl rfl)
theorem dX8_rests_45 : decode cX8_rests 45 = .ok (.getfield 257, 3) := dk_180 1 1 (dk_at dksX8_rests_2 0 rfl rfl)
theorem dX8_rests_48 : decode cX8_rests 48 = .ok (.iaload, 1) := dk_46 (dk_at dksX8_rests_2 3 rfl rfl)
theorem dX8_rests_49 : decode cX8_rests 49 = .ok (.if_icmp .ge 71, 3) := dk_162 0 71 (dk_at dksX8_rests_2 4 rfl rfl)
theorem dX8_rests_52 : decode cX8_rests 52 = .ok (.iconst 0, 1) := dk_3 (dk_at dksX8_rests_2 7 rfl rfl)
theorem dX8_rests_53 : decode cX8_rests 53 = .ok (.istore 6, 2) := dk_54 6 (dk_at dksX8_rests_2 8 rfl rfl)
theorem dX8_rests_55 : decode cX8_rests 55 = .ok (.iload 6, 2) := dk_21 6 (dk_at dksX8_rests_2 10 rfl rfl)
theorem dX8_rests_57 : decode cX8_rests 57 = .ok (.aload_n 0, 1) := dk_42 (dk_at dksX8_rests_2 12 rfl rfl)
theorem dX8_rests_58 : decode cX8_rests 58 = .ok (.getfield 49, 3) := dk_180 0 49 (dk_at dksX8_rests_2 13 rfl rfl)
theorem dX8_rests_61 : decode cX8_rests 61 = .ok (.aload_n 0, 1) := dk_42 (dk_at dksX8_rests_2 16 rfl rfl)
theorem dX8_rests_62 : decode cX8_rests 62 = .ok (.getfield 257, 3) := dk_180 1 1 (dk_at dksX8_rests_2 17 rfl rfl)
theorem dX8_rests_65 : decode cX8_rests 65 = .ok (.iaload, 1) := dk_46 (dk_at dksX8_rests_2 20 rfl rfl)
theorem dX8_rests_66 : decode cX8_rests 66 = .ok (.if_icmp .ge 48, 3) := dk_162 0 48 (dk_at dksX8_rests_2 21 rfl rfl)
theorem dX8_rests_69 : decode cX8_rests 69 = .ok (.aload_n 0, 1) := dk_42 (dk_at dksX8_rests_3 0 rfl rfl)
theorem dX8_rests_70 : decode cX8_rests 70 = .ok (.iload 5, 2) := dk_21 5 (dk_at dksX8_rests_3 1 rfl rfl)
theorem dX8_rests_72 : decode cX8_rests 72 = .ok (.iload 6, 2) := dk_21 6 (dk_at dksX8_rests_3 3 rfl rfl)
theorem dX8_rests_74 : decode cX8_rests 74 = .ok (.iconst 1, 1) := dk_4 (dk_at dksX8_rests_3 5 rfl rfl)
theorem dX8_rests_75 : decode cX8_rests 75 = .ok (.iload_n 1, 1) := dk_27 (dk_at dksX8_rests_3 6 rfl rfl)
theorem dX8_rests_76 : decode cX8_rests 76 = .ok (.ishl, 1) := dk_120 (dk_at dksX8_rests_3 7 rfl rfl)
theorem dX8_rests_77 : decode cX8_rests 77 = .ok (.iconst 1, 1) := dk_4 (dk_at dksX8_rests_3 8 rfl rfl)
theorem dX8_rests_78 : decode cX8_rests 78 = .ok (.iload_n 2, 1) := dk_28 (dk_at dksX8_rests_3 9 rfl rfl)
theorem dX8_rests_79 : decode cX8_rests 79 = .ok (.ishl, 1) := dk_120 (dk_at dksX8_rests_3 10 rfl rfl)
theorem dX8_rests_80 : decode cX8_rests 80 = .ok (.ior, 1) := dk_128 (dk_at dksX8_rests_3 11 rfl rfl)
theorem dX8_rests_81 : decode cX8_rests 81 = .ok (.invokevirtual 477, 3) := dk_182 1 221 (dk_at dksX8_rests_3 12 rfl rfl)
theorem dX8_rests_84 : decode cX8_rests 84 = .ok (.ifCond .ne 6, 3) := dk_154 0 6 (dk_at dksX8_rests_3 15 rfl rfl)
theorem dX8_rests_87 : decode cX8_rests 87 = .ok (.goto 21, 3) := dk_167 0 21 (dk_at dksX8_rests_3 18 rfl rfl)
theorem dX8_rests_90 : decode cX8_rests 90 = .ok (.iload 4, 2) := dk_21 4 (dk_at dksX8_rests_3 21 rfl rfl)
theorem dX8_rests_92 : decode cX8_rests 92 = .ok (.iload_n 3, 1) := dk_29 (dk_at dksX8_rests_3 23 rfl rfl)
theorem dX8_rests_93 : decode cX8_rests 93 = .ok (.if_icmp .ne 12, 3) := dk_160 0 12 (dk_at dksX8_rests_4 0 rfl rfl)
theorem dX8_rests_96 : decode cX8_rests 96 = .ok (.bipush 10, 2) := dk_16 10 (dk_at dksX8_rests_4 3 rfl rfl)
theorem dX8_rests_98 : decode cX8_rests 98 = .ok (.iload 5, 2) := dk_21 5 (dk_at dksX8_rests_4 5 rfl rfl)
theorem dX8_rests_100 : decode cX8_rests 100 = .ok (.imul, 1) := dk_104 (dk_at dksX8_rests_4 7 rfl rfl)
theorem dX8_rests_101 : decode cX8_rests 101 = .ok (.iload 6, 2) := dk_21 6 (dk_at dksX8_rests_4 8 rfl rfl)
theorem dX8_rests_103 : decode cX8_rests 103 = .ok (.iadd, 1) := dk_96 (dk_at dksX8_rests_4 10 rfl rfl)
theorem dX8_rests_104 : decode cX8_rests 104 = .ok (.ireturn, 1) := dk_172 (dk_at dksX8_rests_4 11 rfl rfl)
theorem dX8_rests_105 : decode cX8_rests 105 = .ok (.iinc 4 1, 3) := dk_132 4 1 (dk_at dksX8_rests_4 12 rfl rfl)
theorem dX8_rests_108 : decode cX8_rests 108 = .ok (.iinc 6 1, 3) := dk_132 6 1 (dk_at dksX8_rests_4 15 rfl rfl)
theorem dX8_rests_111 : decode cX8_rests 111 = .ok (.goto (-56), 3) := dk_167 255 200 (dk_at dksX8_rests_4 18 rfl rfl)
theorem dX8_rests_114 : decode cX8_rests 114 = .ok (.iinc 5 1, 3) := dk_132 5 1 (dk_at dksX8_rests_4 21 rfl rfl)
theorem dX8_rests_117 : decode cX8_rests 117 = .ok (.goto (-79), 3) := dk_167 255 177 (dk_at dksX8_rests_5 0 rfl rfl)
theorem dX8_rests_120 : decode cX8_rests 120 = .ok (.iload_n 3, 1) := dk_29 (dk_at dksX8_rests_5 3 rfl rfl)
theorem dX8_rests_121 : decode cX8_rests 121 = .ok (.iconst (-1), 1) := dk_2 (dk_at dksX8_rests_5 4 rfl rfl)
theorem dX8_rests_122 : decode cX8_rests 122 = .ok (.if_icmp .ne 8, 3) := dk_160 0 8 (dk_at dksX8_rests_5 5 rfl rfl)
theorem dX8_rests_125 : decode cX8_rests 125 = .ok (.iload 4, 2) := dk_21 4 (dk_at dksX8_rests_5 8 rfl rfl)
theorem dX8_rests_127 : decode cX8_rests 127 = .ok (.goto 4, 3) := dk_167 0 4 (dk_at dksX8_rests_5 10 rfl rfl)
theorem dX8_rests_130 : decode cX8_rests 130 = .ok (.iconst (-1), 1) := dk_2 (dk_at dksX8_rests_5 13 rfl rfl)
theorem dX8_rests_131 : decode cX8_rests 131 = .ok (.ireturn, 1) := dk_172 (dk_at dksX8_rests_5 14 rfl rfl)
abbrev cX8_isResting : ByteArray := prog_19_method_112_code
def yX8_isResting : MethodName := ⟨RX8, "isResting", "(III)Z"⟩
def dkwX8_isResting_2 : List UInt8 := [29, 182, 1, 218, 164, 0, 5, 3, 172, 132, 4, 1, 167, 255, 201, 4, 172]
abbrev dktX8_isResting_2 : List UInt8 := dkwX8_isResting_2 ++ []
def dkwX8_isResting_1 : List UInt8 := [182, 1, 218, 42, 27, 28, 29, 182, 1, 218, 163, 0, 21, 42, 21, 4, 27, 29, 182, 1, 218, 42, 28, 27]
abbrev dktX8_isResting_1 : List UInt8 := dkwX8_isResting_1 ++ dktX8_isResting_2
def dkwX8_isResting_0 : List UInt8 := [3, 54, 4, 21, 4, 42, 180, 0, 49, 42, 180, 1, 1, 46, 162, 0, 47, 42, 21, 4, 28, 29]
abbrev dktX8_isResting_0 : List UInt8 := dkwX8_isResting_0 ++ dktX8_isResting_1
theorem dksX8_isResting_0 : cX8_isResting.data.toList.drop 0 = dktX8_isResting_0 := by decide +kernel
theorem dksX8_isResting_1 : cX8_isResting.data.toList.drop 22 = dktX8_isResting_1 := dk_seg dksX8_isResting_0 22 rfl rfl
theorem dksX8_isResting_2 : cX8_isResting.data.toList.drop 46 = dktX8_isResting_2 := dk_seg dksX8_isResting_1 24 rfl rfl
theorem dX8_isResting_0 : decode cX8_isResting 0 = .ok (.iconst 0, 1) := dk_3 (dk_at dksX8_isResting_0 0 rfl rfl)
theorem dX8_isResting_1 : decode cX8_isResting 1 = .ok (.istore 4, 2) := dk_54 4 (dk_at dksX8_isResting_0 1 rfl rfl)
theorem dX8_isResting_3 : decode cX8_isResting 3 = .ok (.iload 4, 2) := dk_21 4 (dk_at dksX8_isResting_0 3 rfl rfl)
theorem dX8_isResting_5 : decode cX8_isResting 5 = .ok (.aload_n 0, 1) := dk_42 (dk_at dksX8_isResting_0 5 rfl rfl)
theorem dX8_isResting_6 : decode cX8_isResting 6 = .ok (.getfield 49, 3) := dk_180 0 49 (dk_at dksX8_isResting_0 6 rfl rfl)
theorem dX8_isResting_9 : decode cX8_isResting 9 = .ok (.aload_n 0, 1) := dk_42 (dk_at dksX8_isResting_0 9 rfl rfl)
theorem dX8_isResting_10 : decode cX8_isResting 10 = .ok (.getfield 257, 3) := dk_180 1 1 (dk_at dksX8_isResting_0 10 rfl rfl)
theorem dX8_isResting_13 : decode cX8_isResting 13 = .ok (.iaload, 1) := dk_46 (dk_at dksX8_isResting_0 13 rfl rfl)
theorem dX8_isResting_14 : decode cX8_isResting 14 = .ok (.if_icmp .ge 47, 3) := dk_162 0 47 (dk_at dksX8_isResting_0 14 rfl rfl)
theorem dX8_isResting_17 : decode cX8_isResting 17 = .ok (.aload_n 0, 1) := dk_42 (dk_at dksX8_isResting_0 17 rfl rfl)
theorem dX8_isResting_18 : decode cX8_isResting 18 = .ok (.iload 4, 2) := dk_21 4 (dk_at dksX8_isResting_0 18 rfl rfl)
theorem dX8_isResting_20 : decode cX8_isResting 20 = .ok (.iload_n 2, 1) := dk_28 (dk_at dksX8_isResting_0 20 rfl rfl)
theorem dX8_isResting_21 : decode cX8_isResting 21 = .ok (.iload_n 3, 1) := dk_29 (dk_at dksX8_isResting_0 21 rfl rfl)
theorem dX8_isResting_22 : decode cX8_isResting 22 = .ok (.invokevirtual 474, 3) := dk_182 1 218 (dk_at dksX8_isResting_1 0 rfl rfl)
theorem dX8_isResting_25 : decode cX8_isResting 25 = .ok (.aload_n 0, 1) := dk_42 (dk_at dksX8_isResting_1 3 rfl rfl)
theorem dX8_isResting_26 : decode cX8_isResting 26 = .ok (.iload_n 1, 1) := dk_27 (dk_at dksX8_isResting_1 4 rfl rfl)
theorem dX8_isResting_27 : decode cX8_isResting 27 = .ok (.iload_n 2, 1) := dk_28 (dk_at dksX8_isResting_1 5 rfl rfl)
theorem dX8_isResting_28 : decode cX8_isResting 28 = .ok (.iload_n 3, 1) := dk_29 (dk_at dksX8_isResting_1 6 rfl rfl)
theorem dX8_isResting_29 : decode cX8_isResting 29 = .ok (.invokevirtual 474, 3) := dk_182 1 218 (dk_at dksX8_isResting_1 7 rfl rfl)
theorem dX8_isResting_32 : decode cX8_isResting 32 = .ok (.if_icmp .gt 21, 3) := dk_163 0 21 (dk_at dksX8_isResting_1 10 rfl rfl)
theorem dX8_isResting_35 : decode cX8_isResting 35 = .ok (.aload_n 0, 1) := dk_42 (dk_at dksX8_isResting_1 13 rfl rfl)
theorem dX8_isResting_36 : decode cX8_isResting 36 = .ok (.iload 4, 2) := dk_21 4 (dk_at dksX8_isResting_1 14 rfl rfl)
theorem dX8_isResting_38 : decode cX8_isResting 38 = .ok (.iload_n 1, 1) := dk_27 (dk_at dksX8_isResting_1 16 rfl rfl)
theorem dX8_isResting_39 : decode cX8_isResting 39 = .ok (.iload_n 3, 1) := dk_29 (dk_at dksX8_isResting_1 17 rfl rfl)
theorem dX8_isResting_40 : decode cX8_isResting 40 = .ok (.invokevirtual 474, 3) := dk_182 1 218 (dk_at dksX8_isResting_1 18 rfl rfl)
theorem dX8_isResting_43 : decode cX8_isResting 43 = .ok (.aload_n 0, 1) := dk_42 (dk_at dksX8_isResting_1 21 rfl rfl)
theorem dX8_isResting_44 : decode cX8_isResting 44 = .ok (.iload_n 2, 1) := dk_28 (dk_at dksX8_isResting_1 22 rfl rfl)
theorem dX8_isResting_45 : decode cX8_isResting 45 = .ok (.iload_n 1, 1) := dk_27 (dk_at dksX8_isResting_1 23 rfl rfl)
theorem dX8_isResting_46 : decode cX8_isResting 46 = .ok (.iload_n 3, 1) := dk_29 (dk_at dksX8_isResting_2 0 rfl rfl)
theorem dX8_isResting_47 : decode cX8_isResting 47 = .ok (.invokevirtual 474, 3) := dk_182 1 218 (dk_at dksX8_isResting_2 1 rfl rfl)
theorem dX8_isResting_50 : decode cX8_isResting 50 = .ok (.if_icmp .le 5, 3) := dk_164 0 5 (dk_at dksX8_isResting_2 4 rfl rfl)
theorem dX8_isResting_53 : decode cX8_isResting 53 = .ok (.iconst 0, 1) := dk_3 (dk_at dksX8_isResting_2 7 rfl rfl)
theorem dX8_isResting_54 : decode cX8_isResting 54 = .ok (.ireturn, 1) := dk_172 (dk_at dksX8_isResting_2 8 rfl rfl)
theorem dX8_isResting_55 : decode cX8_isResting 55 = .ok (.iinc 4 1, 3) := dk_132 4 1 (dk_at dksX8_isResting_2 9 rfl rfl)
theorem dX8_isResting_58 : decode cX8_isResting 58 = .ok (.goto (-55), 3) := dk_167 255 201 (dk_at dksX8_isResting_2 12 rfl rfl)
theorem dX8_isResting_61 : decode cX8_isResting 61 = .ok (.iconst 1, 1) := dk_4 (dk_at dksX8_isResting_2 15 rfl rfl)
theorem dX8_isResting_62 : decode cX8_isResting 62 = .ok (.ireturn, 1) := dk_172 (dk_at dksX8_isResting_2 16 rfl rfl)
abbrev cX8_hasIn : ByteArray := prog_19_method_111_code
def yX8_hasIn : MethodName := ⟨RX8, "hasIn", "(III)I"⟩
def dkwX8_hasIn_0 : List UInt8 := [42, 27, 182, 1, 215, 29, 2, 130, 126, 184, 1, 113, 27, 28, 160, 0, 7, 5, 167, 0, 4, 3, 100, 172]
abbrev dktX8_hasIn_0 : List UInt8 := dkwX8_hasIn_0 ++ []
theorem dksX8_hasIn_0 : cX8_hasIn.data.toList.drop 0 = dktX8_hasIn_0 := by decide +kernel
theorem dX8_hasIn_0 : decode cX8_hasIn 0 = .ok (.aload_n 0, 1) := dk_42 (dk_at dksX8_hasIn_0 0 rfl rfl)
theorem dX8_hasIn_1 : decode cX8_hasIn 1 = .ok (.iload_n 1, 1) := dk_27 (dk_at dksX8_hasIn_0 1 rfl rfl)
theorem dX8_hasIn_2 : decode cX8_hasIn 2 = .ok (.invokevirtual 471, 3) := dk_182 1 215 (dk_at dksX8_hasIn_0 2 rfl rfl)
theorem dX8_hasIn_5 : decode cX8_hasIn 5 = .ok (.iload_n 3, 1) := dk_29 (dk_at dksX8_hasIn_0 5 rfl rfl)
theorem dX8_hasIn_6 : decode cX8_hasIn 6 = .ok (.iconst (-1), 1) := dk_2 (dk_at dksX8_hasIn_0 6 rfl rfl)
theorem dX8_hasIn_7 : decode cX8_hasIn 7 = .ok (.ixor, 1) := dk_130 (dk_at dksX8_hasIn_0 7 rfl rfl)
theorem dX8_hasIn_8 : decode cX8_hasIn 8 = .ok (.iand, 1) := dk_126 (dk_at dksX8_hasIn_0 8 rfl rfl)
theorem dX8_hasIn_9 : decode cX8_hasIn 9 = .ok (.invokestatic 369, 3) := dk_184 1 113 (dk_at dksX8_hasIn_0 9 rfl rfl)
theorem dX8_hasIn_12 : decode cX8_hasIn 12 = .ok (.iload_n 1, 1) := dk_27 (dk_at dksX8_hasIn_0 12 rfl rfl)
theorem dX8_hasIn_13 : decode cX8_hasIn 13 = .ok (.iload_n 2, 1) := dk_28 (dk_at dksX8_hasIn_0 13 rfl rfl)
theorem dX8_hasIn_14 : decode cX8_hasIn 14 = .ok (.if_icmp .ne 7, 3) := dk_160 0 7 (dk_at dksX8_hasIn_0 14 rfl rfl)
theorem dX8_hasIn_17 : decode cX8_hasIn 17 = .ok (.iconst 2, 1) := dk_5 (dk_at dksX8_hasIn_0 17 rfl rfl)
theorem dX8_hasIn_18 : decode cX8_hasIn 18 = .ok (.goto 4, 3) := dk_167 0 4 (dk_at dksX8_hasIn_0 18 rfl rfl)
theorem dX8_hasIn_21 : decode cX8_hasIn 21 = .ok (.iconst 0, 1) := dk_3 (dk_at dksX8_hasIn_0 21 rfl rfl)
theorem dX8_hasIn_22 : decode cX8_hasIn 22 = .ok (.isub, 1) := dk_100 (dk_at dksX8_hasIn_0 22 rfl rfl)
theorem dX8_hasIn_23 : decode cX8_hasIn 23 = .ok (.ireturn, 1) := dk_172 (dk_at dksX8_hasIn_0 23 rfl rfl)
abbrev cX8_jolt : ByteArray := prog_19_method_114_code
def yX8_jolt : MethodName := ⟨RX8, "jolt", "(III)I"⟩
def dkwX8_jolt_8 : List UInt8 := [167, 0, 5, 21, 7, 172]
abbrev dktX8_jolt_8 : List UInt8 := dkwX8_jolt_8 ++ []
def dkwX8_jolt_7 : List UInt8 := [132, 8, 1, 167, 255, 137, 29, 154, 0, 8, 21, 5, 167, 0, 15, 29, 4, 160, 0, 8, 21, 6]
abbrev dktX8_jolt_7 : List UInt8 := dkwX8_jolt_7 ++ dktX8_jolt_8
def dkwX8_jolt_6 : List UInt8 := [54, 4, 21, 9, 158, 0, 13, 21, 6, 21, 9, 96, 54, 6, 167, 0, 10, 21, 7, 21, 9, 100, 54, 7]
abbrev dktX8_jolt_6 : List UInt8 := dkwX8_jolt_6 ++ dktX8_jolt_7
def dkwX8_jolt_5 : List UInt8 := [21, 8, 96, 46, 100, 54, 9, 21, 4, 153, 0, 10, 21, 9, 21, 5, 164, 0, 7, 21, 9, 54, 5, 4]
abbrev dktX8_jolt_5 : List UInt8 := dkwX8_jolt_5 ++ dktX8_jolt_6
def dkwX8_jolt_4 : List UInt8 := [167, 0, 72, 42, 21, 8, 28, 182, 1, 122, 42, 180, 0, 131, 16, 36, 42, 180, 1, 92, 104, 16, 28, 96]
abbrev dktX8_jolt_4 : List UInt8 := dkwX8_jolt_4 ++ dktX8_jolt_5
def dkwX8_jolt_3 : List UInt8 := [180, 1, 1, 104, 21, 8, 96, 46, 27, 160, 0, 86, 42, 180, 0, 134, 21, 8, 46, 2, 159, 0, 6]
abbrev dktX8_jolt_3 : List UInt8 := dkwX8_jolt_3 ++ dktX8_jolt_4
def dkwX8_jolt_2 : List UInt8 := [54, 8, 21, 8, 42, 180, 0, 70, 42, 180, 1, 1, 46, 162, 0, 111, 42, 180, 0, 76, 16, 8, 42]
abbrev dktX8_jolt_2 : List UInt8 := dkwX8_jolt_2 ++ dktX8_jolt_3
def dkwX8_jolt_1 : List UInt8 := [154, 0, 7, 17, 252, 24, 172, 42, 182, 1, 163, 3, 54, 4, 3, 54, 5, 3, 54, 6, 3, 54, 7, 3]
abbrev dktX8_jolt_1 : List UInt8 := dkwX8_jolt_1 ++ dktX8_jolt_2
def dkwX8_jolt_0 : List UInt8 := [42, 27, 182, 1, 154, 153, 0, 22, 28, 3, 16, 20, 184, 1, 85, 153, 0, 12, 29, 3, 5, 184, 1, 85]
abbrev dktX8_jolt_0 : List UInt8 := dkwX8_jolt_0 ++ dktX8_jolt_1
theorem dksX8_jolt_0 : cX8_jolt.data.toList.drop 0 = dktX8_jolt_0 := by decide +kernel
theorem dksX8_jolt_1 : cX8_jolt.data.toList.drop 24 = dktX8_jolt_1 := dk_seg dksX8_jolt_0 24 rfl rfl
theorem dksX8_jolt_2 : cX8_jolt.data.toList.drop 48 = dktX8_jolt_2 := dk_seg dksX8_jolt_1 24 rfl rfl
theorem dksX8_jolt_3 : cX8_jolt.data.toList.drop 71 = dktX8_jolt_3 := dk_seg dksX8_jolt_2 23 rfl rfl
theorem dksX8_jolt_4 : cX8_jolt.data.toList.drop 94 = dktX8_jolt_4 := dk_seg dksX8_jolt_3 23 rfl rfl
theorem dksX8_jolt_5 : cX8_jolt.data.toList.drop 118 = dktX8_jolt_5 := dk_seg dksX8_jolt_4 24 rfl rfl
theorem dksX8_jolt_6 : cX8_jolt.data.toList.drop 142 = dktX8_jolt_6 := dk_seg dksX8_jolt_5 24 rfl rfl
theorem dksX8_jolt_7 : cX8_jolt.data.toList.drop 166 = dktX8_jolt_7 := dk_seg dksX8_jolt_6 24 rfl rfl
theorem dksX8_jolt_8 : cX8_jolt.data.toList.drop 188 = dktX8_jolt_8 := dk_seg dksX8_jolt_7 22 rfl rfl
theorem dX8_jolt_0 : decode cX8_jolt 0 = .ok (.aload_n 0, 1) := dk_42 (dk_at dksX8_jolt_0 0 rfl rfl)
theorem dX8_jolt_1 : decode cX8_jolt 1 = .ok (.iload_n 1, 1) := dk_27 (dk_at dksX8_jolt_0 1 rfl rfl)
theorem dX8_jolt_2 : decode cX8_jolt 2 = .ok (.invokevirtual 410, 3) := dk_182 1 154 (dk_at dksX8_jolt_0 2 rfl rfl)
theorem dX8_jolt_5 : decode cX8_jolt 5 = .ok (.ifCond .eq 22, 3) := dk_153 0 22 (dk_at dksX8_jolt_0 5 rfl rfl)
theorem dX8_jolt_8 : decode cX8_jolt 8 = .ok (.iload_n 2, 1) := dk_28 (dk_at dksX8_jolt_0 8 rfl rfl)
theorem dX8_jolt_9 : decode cX8_jolt 9 = .ok (.iconst 0, 1) := dk_3 (dk_at dksX8_jolt_0 9 rfl rfl)
theorem dX8_jolt_10 : decode cX8_jolt 10 = .ok (.bipush 20, 2) := dk_16 20 (dk_at dksX8_jolt_0 10 rfl rfl)
theorem dX8_jolt_12 : decode cX8_jolt 12 = .ok (.invokestatic 341, 3) := dk_184 1 85 (dk_at dksX8_jolt_0 12 rfl rfl)
theorem dX8_jolt_15 : decode cX8_jolt 15 = .ok (.ifCond .eq 12, 3) := dk_153 0 12 (dk_at dksX8_jolt_0 15 rfl rfl)
theorem dX8_jolt_18 : decode cX8_jolt 18 = .ok (.iload_n 3, 1) := dk_29 (dk_at dksX8_jolt_0 18 rfl rfl)
theorem dX8_jolt_19 : decode cX8_jolt 19 = .ok (.iconst 0, 1) := dk_3 (dk_at dksX8_jolt_0 19 rfl rfl)
theorem dX8_jolt_20 : decode cX8_jolt 20 = .ok (.iconst 2, 1) := dk_5 (dk_at dksX8_jolt_0 20 rfl rfl)
theorem dX8_jolt_21 : decode cX8_jolt 21 = .ok (.invokestatic 341, 3) := dk_184 1 85 (dk_at dksX8_jolt_0 21 rfl rfl)
theorem dX8_jolt_24 : decode cX8_jolt 24 = .ok (.ifCond .ne 7, 3) := dk_154 0 7 (dk_at dksX8_jolt_1 0 rfl rfl)
theorem dX8_jolt_27 : decode cX8_jolt 27 = .ok (.sipush (-1000), 3) := dk_17 252 24 (dk_at dksX8_jolt_1 3 rfl rfl)
theorem dX8_jolt_30 : decode cX8_jolt 30 = .ok (.ireturn, 1) := dk_172 (dk_at dksX8_jolt_1 6 rfl rfl)
theorem dX8_jolt_31 : decode cX8_jolt 31 = .ok (.aload_n 0, 1) := dk_42 (dk_at dksX8_jolt_1 7 rfl rfl)
theorem dX8_jolt_32 : decode cX8_jolt 32 = .ok (.invokevirtual 419, 3) := dk_182 1 163 (dk_at dksX8_jolt_1 8 rfl rfl)
theorem dX8_jolt_35 : decode cX8_jolt 35 = .ok (.iconst 0, 1) := dk_3 (dk_at dksX8_jolt_1 11 rfl rfl)
theorem dX8_jolt_36 : decode cX8_jolt 36 = .ok (.istore 4, 2) := dk_54 4 (dk_at dksX8_jolt_1 12 rfl rfl)
theorem dX8_jolt_38 : decode cX8_jolt 38 = .ok (.iconst 0, 1) := dk_3 (dk_at dksX8_jolt_1 14 rfl rfl)
theorem dX8_jolt_39 : decode cX8_jolt 39 = .ok (.istore 5, 2) := dk_54 5 (dk_at dksX8_jolt_1 15 rfl rfl)
theorem dX8_jolt_41 : decode cX8_jolt 41 = .ok (.iconst 0, 1) := dk_3 (dk_at dksX8_jolt_1 17 rfl rfl)
theorem dX8_jolt_42 : decode cX8_jolt 42 = .ok (.istore 6, 2) := dk_54 6 (dk_at dksX8_jolt_1 18 rfl rfl)
theorem dX8_jolt_44 : decode cX8_jolt 44 = .ok (.iconst 0, 1) := dk_3 (dk_at dksX8_jolt_1 20 rfl rfl)
theorem dX8_jolt_45 : decode cX8_jolt 45 = .ok (.istore 7, 2) := dk_54 7 (dk_at dksX8_jolt_1 21 rfl rfl)
theorem dX8_jolt_47 : decode cX8_jolt 47 = .ok (.iconst 0, 1) := dk_3 (dk_at dksX8_jolt_1 23 rfl rfl)
theorem dX8_jolt_48 : decode cX8_jolt 48 = .ok (.istore 8, 2) := dk_54 8 (dk_at dksX8_jolt_2 0 rfl rfl)
theorem dX8_jolt_50 : decode cX8_jolt 50 = .ok (.iload 8, 2) := dk_21 8 (dk_at dksX8_jolt_2 2 rfl rfl)
theorem dX8_jolt_52 : decode cX8_jolt 52 = .ok (.aload_n 0, 1) := dk_42 (dk_at dksX8_jolt_2 4 rfl rfl)
theorem dX8_jolt_53 : decode cX8_jolt 53 = .ok (.getfield 70, 3) := dk_180 0 70 (dk_at dksX8_jolt_2 5 rfl rfl)
theorem dX8_jolt_56 : decode cX8_jolt 56 = .ok (.aload_n 0, 1) := dk_42 (dk_at dksX8_jolt_2 8 rfl rfl)
theorem dX8_jolt_57 : decode cX8_jolt 57 = .ok (.getfield 257, 3) := dk_180 1 1 (dk_at dksX8_jolt_2 9 rfl rfl)
theorem dX8_jolt_60 : decode cX8_jolt 60 = .ok (.iaload, 1) := dk_46 (dk_at dksX8_jolt_2 12 rfl rfl)
theorem dX8_jolt_61 : decode cX8_jolt 61 = .ok (.if_icmp .ge 111, 3) := dk_162 0 111 (dk_at dksX8_jolt_2 13 rfl rfl)
theorem dX8_jolt_64 : decode cX8_jolt 64 = .ok (.aload_n 0, 1) := dk_42 (dk_at dksX8_jolt_2 16 rfl rfl)
theorem dX8_jolt_65 : decode cX8_jolt 65 = .ok (.getfield 76, 3) := dk_180 0 76 (dk_at dksX8_jolt_2 17 rfl rfl)
theorem dX8_jolt_68 : decode cX8_jolt 68 = .ok (.bipush 8, 2) := dk_16 8 (dk_at dksX8_jolt_2 20 rfl rfl)
theorem dX8_jolt_70 : decode cX8_jolt 70 = .ok (.aload_n 0, 1) := dk_42 (dk_at dksX8_jolt_2 22 rfl rfl)
theorem dX8_jolt_71 : decode cX8_jolt 71 = .ok (.getfield 257, 3) := dk_180 1 1 (dk_at dksX8_jolt_3 0 rfl rfl)
theorem dX8_jolt_74 : decode cX8_jolt 74 = .ok (.imul, 1) := dk_104 (dk_at dksX8_jolt_3 3 rfl rfl)
theorem dX8_jolt_75 : decode cX8_jolt 75 = .ok (.iload 8, 2) := dk_21 8 (dk_at dksX8_jolt_3 4 rfl rfl)
theorem dX8_jolt_77 : decode cX8_jolt 77 = .ok (.iadd, 1) := dk_96 (dk_at dksX8_jolt_3 6 rfl rfl)
theorem dX8_jolt_78 : decode cX8_jolt 78 = .ok (.iaload, 1) := dk_46 (dk_at dksX8_jolt_3 7 rfl rfl)
theorem dX8_jolt_79 : decode cX8_jolt 79 = .ok (.iload_n 1, 1) := dk_27 (dk_at dksX8_jolt_3 8 rfl rfl)
theorem dX8_jolt_80 : decode cX8_jolt 80 = .ok (.if_icmp .ne 86, 3) := dk_160 0 86 (dk_at dksX8_jolt_3 9 rfl rfl)
theorem dX8_jolt_83 : decode cX8_jolt 83 = .ok (.aload_n 0, 1) := dk_42 (dk_at dksX8_jolt_3 12 rfl rfl)
theorem dX8_jolt_84 : decode cX8_jolt 84 = .ok (.getfield 134, 3) := dk_180 0 134 (dk_at dksX8_jolt_3 13 rfl rfl)
theorem dX8_jolt_87 : decode cX8_jolt 87 = .ok (.iload 8, 2) := dk_21 8 (dk_at dksX8_jolt_3 16 rfl rfl)
theorem dX8_jolt_89 : decode cX8_jolt 89 = .ok (.iaload, 1) := dk_46 (dk_at dksX8_jolt_3 18 rfl rfl)
theorem dX8_jolt_90 : decode cX8_jolt 90 = .ok (.iconst (-1), 1) := dk_2 (dk_at dksX8_jolt_3 19 rfl rfl)
theorem dX8_jolt_91 : decode cX8_jolt 91 = .ok (.if_icmp .eq 6, 3) := dk_159 0 6 (dk_at dksX8_jolt_3 20 rfl rfl)
theorem dX8_jolt_94 : decode cX8_jolt 94 = .ok (.goto 72, 3) := dk_167 0 72 (dk_at dksX8_jolt_4 0 rfl rfl)
theorem dX8_jolt_97 : decode cX8_jolt 97 = .ok (.aload_n 0, 1) := dk_42 (dk_at dksX8_jolt_4 3 rfl rfl)
theorem dX8_jolt_98 : decode cX8_jolt 98 = .ok (.iload 8, 2) := dk_21 8 (dk_at dksX8_jolt_4 4 rfl rfl)
theorem dX8_jolt_100 : decode cX8_jolt 100 = .ok (.iload_n 2, 1) := dk_28 (dk_at dksX8_jolt_4 6 rfl rfl)
theorem dX8_jolt_101 : decode cX8_jolt 101 = .ok (.invokevirtual 378, 3) := dk_182 1 122 (dk_at dksX8_jolt_4 7 rfl rfl)
theorem dX8_jolt_104 : decode cX8_jolt 104 = .ok (.aload_n 0, 1) := dk_42 (dk_at dksX8_jolt_4 10 rfl rfl)
theorem dX8_jolt_105 : decode cX8_jolt 105 = .ok (.getfield 131, 3) := dk_180 0 131 (dk_at dksX8_jolt_4 11 rfl rfl)
theorem dX8_jolt_108 : decode cX8_jolt 108 = .ok (.bipush 36, 2) := dk_16 36 (dk_at dksX8_jolt_4 14 rfl rfl)
theorem dX8_jolt_110 : decode cX8_jolt 110 = .ok (.aload_n 0, 1) := dk_42 (dk_at dksX8_jolt_4 16 rfl rfl)
theorem dX8_jolt_111 : decode cX8_jolt 111 = .ok (.getfield 348, 3) := dk_180 1 92 (dk_at dksX8_jolt_4 17 rfl rfl)
theorem dX8_jolt_114 : decode cX8_jolt 114 = .ok (.imul, 1) := dk_104 (dk_at dksX8_jolt_4 20 rfl rfl)
theorem dX8_jolt_115 : decode cX8_jolt 115 = .ok (.bipush 28, 2) := dk_16 28 (dk_at dksX8_jolt_4 21 rfl rfl)
theorem dX8_jolt_117 : decode cX8_jolt 117 = .ok (.iadd, 1) := dk_96 (dk_at dksX8_jolt_4 23 rfl rfl)
theorem dX8_jolt_118 : decode cX8_jolt 118 = .ok (.iload 8, 2) := dk_21 8 (dk_at dksX8_jolt_5 0 rfl rfl)
theorem dX8_jolt_120 : decode cX8_jolt 120 = .ok (.iadd, 1) := dk_96 (dk_at dksX8_jolt_5 2 rfl rfl)
theorem dX8_jolt_121 : decode cX8_jolt 121 = .ok (.iaload, 1) := dk_46 (dk_at dksX8_jolt_5 3 rfl rfl)
theorem dX8_jolt_122 : decode cX8_jolt 122 = .ok (.isub, 1) := dk_100 (dk_at dksX8_jolt_5 4 rfl rfl)
theorem dX8_jolt_123 : decode cX8_jolt 123 = .ok (.istore 9, 2) := dk_54 9 (dk_at dksX8_jolt_5 5 rfl rfl)
theorem dX8_jolt_125 : decode cX8_jolt 125 = .ok (.iload 4, 2) := dk_21 4 (dk_at dksX8_jolt_5 7 rfl rfl)
theorem dX8_jolt_127 : decode cX8_jolt 127 = .ok (.ifCond .eq 10, 3) := dk_153 0 10 (dk_at dksX8_jolt_5 9 rfl rfl)
theorem dX8_jolt_130 : decode cX8_jolt 130 = .ok (.iload 9, 2) := dk_21 9 (dk_at dksX8_jolt_5 12 rfl rfl)
theorem dX8_jolt_132 : decode cX8_jolt 132 = .ok (.iload 5, 2) := dk_21 5 (dk_at dksX8_jolt_5 14 rfl rfl)
theorem dX8_jolt_134 : decode cX8_jolt 134 = .ok (.if_icmp .le 7, 3) := dk_164 0 7 (dk_at dksX8_jolt_5 16 rfl rfl)
theorem dX8_jolt_137 : decode cX8_jolt 137 = .ok (.iload 9, 2) := dk_21 9 (dk_at dksX8_jolt_5 19 rfl rfl)
theorem dX8_jolt_139 : decode cX8_jolt 139 = .ok (.istore 5, 2) := dk_54 5 (dk_at dksX8_jolt_5 21 rfl rfl)
theorem dX8_jolt_141 : decode cX8_jolt 141 = .ok (.iconst 1, 1) := dk_4 (dk_at dksX8_jolt_5 23 rfl rfl)
theorem dX8_jolt_142 : decode cX8_jolt 142 = .ok (.istore 4, 2) := dk_54 4 (dk_at dksX8_jolt_6 0 rfl rfl)
theorem dX8_jolt_144 : decode cX8_jolt 144 = .ok (.iload 9, 2) := dk_21 9 (dk_at dksX8_jolt_6 2 rfl rfl)
theorem dX8_jolt_146 : decode cX8_jolt 146 = .ok (.ifCond .le 13, 3) := dk_158 0 13 (dk_at dksX8_jolt_6 4 rfl rfl)
theorem dX8_jolt_149 : decode cX8_jolt 149 = .ok (.iload 6, 2) := dk_21 6 (dk_at dksX8_jolt_6 7 rfl rfl)
theorem dX8_jolt_151 : decode cX8_jolt 151 = .ok (.iload 9, 2) := dk_21 9 (dk_at dksX8_jolt_6 9 rfl rfl)
theorem dX8_jolt_153 : decode cX8_jolt 153 = .ok (.iadd, 1) := dk_96 (dk_at dksX8_jolt_6 11 rfl rfl)
theorem dX8_jolt_154 : decode cX8_jolt 154 = .ok (.istore 6, 2) := dk_54 6 (dk_at dksX8_jolt_6 12 rfl rfl)
theorem dX8_jolt_156 : decode cX8_jolt 156 = .ok (.goto 10, 3) := dk_167 0 10 (dk_at dksX8_jolt_6 14 rfl rfl)
theorem dX8_jolt_159 : decode cX8_jolt 159 = .ok (.iload 7, 2) := dk_21 7 (dk_at dksX8_jolt_6 17 rfl rfl)
theorem dX8_jolt_161 : decode cX8_jolt 161 = .ok (.iload 9, 2) := dk_21 9 (dk_at dksX8_jolt_6 19 rfl rfl)
theorem dX8_jolt_163 : decode cX8_jolt 163 = .ok (.isub, 1) := dk_100 (dk_at dksX8_jolt_6 21 rfl rfl)
theorem dX8_jolt_164 : decode cX8_jolt 164 = .ok (.istore 7, 2) := dk_54 7 (dk_at dksX8_jolt_6 22 rfl rfl)
theorem dX8_jolt_166 : decode cX8_jolt 166 = .ok (.iinc 8 1, 3) := dk_132 8 1 (dk_at dksX8_jolt_7 0 rfl rfl)
theorem dX8_jolt_169 : decode cX8_jolt 169 = .ok (.goto (-119), 3) := dk_167 255 137 (dk_at dksX8_jolt_7 3 rfl rfl)
theorem dX8_jolt_172 : decode cX8_jolt 172 = .ok (.iload_n 3, 1) := dk_29 (dk_at dksX8_jolt_7 6 rfl rfl)
theorem dX8_jolt_173 : decode cX8_jolt 173 = .ok (.ifCond .ne 8, 3) := dk_154 0 8 (dk_at dksX8_jolt_7 7 rfl rfl)
theorem dX8_jolt_176 : decode cX8_jolt 176 = .ok (.iload 5, 2) := dk_21 5 (dk_at dksX8_jolt_7 10 rfl rfl)
theorem dX8_jolt_178 : decode cX8_jolt 178 = .ok (.goto 15, 3) := dk_167 0 15 (dk_at dksX8_jolt_7 12 rfl rfl)
theorem dX8_jolt_181 : decode cX8_jolt 181 = .ok (.iload_n 3, 1) := dk_29 (dk_at dksX8_jolt_7 15 rfl rfl)
theorem dX8_jolt_182 : decode cX8_jolt 182 = .ok (.iconst 1, 1) := dk_4 (dk_at dksX8_jolt_7 16 rfl rfl)
theorem dX8_jolt_183 : decode cX8_jolt 183 = .ok (.if_icmp .ne 8, 3) := dk_160 0 8 (dk_at dksX8_jolt_7 17 rfl rfl)
theorem dX8_jolt_186 : decode cX8_jolt 186 = .ok (.iload 6, 2) := dk_21 6 (dk_at dksX8_jolt_7 20 rfl rfl)
theorem dX8_jolt_188 : decode cX8_jolt 188 = .ok (.goto 5, 3) := dk_167 0 5 (dk_at dksX8_jolt_8 0 rfl rfl)
theorem dX8_jolt_191 : decode cX8_jolt 191 = .ok (.iload 7, 2) := dk_21 7 (dk_at dksX8_jolt_8 3 rfl rfl)
theorem dX8_jolt_193 : decode cX8_jolt 193 = .ok (.ireturn, 1) := dk_172 (dk_at dksX8_jolt_8 5 rfl rfl)
abbrev cX8_tell : ByteArray := prog_19_method_115_code
def yX8_tell : MethodName := ⟨RX8, "tell", "(IIIZ)I"⟩
def dkwX8_tell_3 : List UInt8 := [180, 1, 22, 21, 4, 84, 42, 89, 180, 1, 22, 4, 96, 181, 1, 22, 42, 180, 1, 22, 4, 100, 172]
abbrev dktX8_tell_3 : List UInt8 := dkwX8_tell_3 ++ []
def dkwX8_tell_2 : List UInt8 := [180, 0, 158, 42, 180, 1, 22, 28, 79, 42, 180, 0, 161, 42, 180, 1, 22, 29, 79, 42, 180, 0, 164, 42]
abbrev dktX8_tell_2 : List UInt8 := dkwX8_tell_2 ++ dktX8_tell_3
def dkwX8_tell_1 : List UInt8 := [153, 0, 11, 42, 29, 182, 1, 154, 154, 0, 5, 2, 172, 42, 180, 0, 155, 42, 180, 1, 22, 27, 79, 42]
abbrev dktX8_tell_1 : List UInt8 := dkwX8_tell_1 ++ dktX8_tell_2
def dkwX8_tell_0 : List UInt8 := [42, 180, 1, 22, 16, 20, 159, 0, 29, 42, 27, 182, 1, 160, 153, 0, 21, 28, 3, 16, 99, 184, 1, 85]
abbrev dktX8_tell_0 : List UInt8 := dkwX8_tell_0 ++ dktX8_tell_1
theorem dksX8_tell_0 : cX8_tell.data.toList.drop 0 = dktX8_tell_0 := by decide +kernel
theorem dksX8_tell_1 : cX8_tell.data.toList.drop 24 = dktX8_tell_1 := dk_seg dksX8_tell_0 24 rfl rfl
theorem dksX8_tell_2 : cX8_tell.data.toList.drop 48 = dktX8_tell_2 := dk_seg dksX8_tell_1 24 rfl rfl
theorem dksX8_tell_3 : cX8_tell.data.toList.drop 72 = dktX8_tell_3 := dk_seg dksX8_tell_2 24 rfl rfl
theorem dX8_tell_0 : decode cX8_tell 0 = .ok (.aload_n 0, 1) := dk_42 (dk_at dksX8_tell_0 0 rfl rfl)
theorem dX8_tell_1 : decode cX8_tell 1 = .ok (.getfield 278, 3) := dk_180 1 22 (dk_at dksX8_tell_0 1 rfl rfl)
theorem dX8_tell_4 : decode cX8_tell 4 = .ok (.bipush 20, 2) := dk_16 20 (dk_at dksX8_tell_0 4 rfl rfl)
theorem dX8_tell_6 : decode cX8_tell 6 = .ok (.if_icmp .eq 29, 3) := dk_159 0 29 (dk_at dksX8_tell_0 6 rfl rfl)
theorem dX8_tell_9 : decode cX8_tell 9 = .ok (.aload_n 0, 1) := dk_42 (dk_at dksX8_tell_0 9 rfl rfl)
theorem dX8_tell_10 : decode cX8_tell 10 = .ok (.iload_n 1, 1) := dk_27 (dk_at dksX8_tell_0 10 rfl rfl)
theorem dX8_tell_11 : decode cX8_tell 11 = .ok (.invokevirtual 416, 3) := dk_182 1 160 (dk_at dksX8_tell_0 11 rfl rfl)
theorem dX8_tell_14 : decode cX8_tell 14 = .ok (.ifCond .eq 21, 3) := dk_153 0 21 (dk_at dksX8_tell_0 14 rfl rfl)
theorem dX8_tell_17 : decode cX8_tell 17 = .ok (.iload_n 2, 1) := dk_28 (dk_at dksX8_tell_0 17 rfl rfl)
theorem dX8_tell_18 : decode cX8_tell 18 = .ok (.iconst 0, 1) := dk_3 (dk_at dksX8_tell_0 18 rfl rfl)
theorem dX8_tell_19 : decode cX8_tell 19 = .ok (.bipush 99, 2) := dk_16 99 (dk_at dksX8_tell_0 19 rfl rfl)
theorem dX8_tell_21 : decode cX8_tell 21 = .ok (.invokestatic 341, 3) := dk_184 1 85 (dk_at dksX8_tell_0 21 rfl rfl)
theorem dX8_tell_24 : decode cX8_tell 24 = .ok (.ifCond .eq 11, 3) := dk_153 0 11 (dk_at dksX8_tell_1 0 rfl rfl)
theorem dX8_tell_27 : decode cX8_tell 27 = .ok (.aload_n 0, 1) := dk_42 (dk_at dksX8_tell_1 3 rfl rfl)
theorem dX8_tell_28 : decode cX8_tell 28 = .ok (.iload_n 3, 1) := dk_29 (dk_at dksX8_tell_1 4 rfl rfl)
theorem dX8_tell_29 : decode cX8_tell 29 = .ok (.invokevirtual 410, 3) := dk_182 1 154 (dk_at dksX8_tell_1 5 rfl rfl)
theorem dX8_tell_32 : decode cX8_tell 32 = .ok (.ifCond .ne 5, 3) := dk_154 0 5 (dk_at dksX8_tell_1 8 rfl rfl)
theorem dX8_tell_35 : decode cX8_tell 35 = .ok (.iconst (-1), 1) := dk_2 (dk_at dksX8_tell_1 11 rfl rfl)
theorem dX8_tell_36 : decode cX8_tell 36 = .ok (.ireturn, 1) := dk_172 (dk_at dksX8_tell_1 12 rfl rfl)
theorem dX8_tell_37 : decode cX8_tell 37 = .ok (.aload_n 0, 1) := dk_42 (dk_at dksX8_tell_1 13 rfl rfl)
theorem dX8_tell_38 : decode cX8_tell 38 = .ok (.getfield 155, 3) := dk_180 0 155 (dk_at dksX8_tell_1 14 rfl rfl)
theorem dX8_tell_41 : decode cX8_tell 41 = .ok (.aload_n 0, 1) := dk_42 (dk_at dksX8_tell_1 17 rfl rfl)
theorem dX8_tell_42 : decode cX8_tell 42 = .ok (.getfield 278, 3) := dk_180 1 22 (dk_at dksX8_tell_1 18 rfl rfl)
theorem dX8_tell_45 : decode cX8_tell 45 = .ok (.iload_n 1, 1) := dk_27 (dk_at dksX8_tell_1 21 rfl rfl)
theorem dX8_tell_46 : decode cX8_tell 46 = .ok (.iastore, 1) := dk_79 (dk_at dksX8_tell_1 22 rfl rfl)
theorem dX8_tell_47 : decode cX8_tell 47 = .ok (.aload_n 0, 1) := dk_42 (dk_at dksX8_tell_1 23 rfl rfl)
theorem dX8_tell_48 : decode cX8_tell 48 = .ok (.getfield 158, 3) := dk_180 0 158 (dk_at dksX8_tell_2 0 rfl rfl)
theorem dX8_tell_51 : decode cX8_tell 51 = .ok (.aload_n 0, 1) := dk_42 (dk_at dksX8_tell_2 3 rfl rfl)
theorem dX8_tell_52 : decode cX8_tell 52 = .ok (.getfield 278, 3) := dk_180 1 22 (dk_at dksX8_tell_2 4 rfl rfl)
theorem dX8_tell_55 : decode cX8_tell 55 = .ok (.iload_n 2, 1) := dk_28 (dk_at dksX8_tell_2 7 rfl rfl)
theorem dX8_tell_56 : decode cX8_tell 56 = .ok (.iastore, 1) := dk_79 (dk_at dksX8_tell_2 8 rfl rfl)
theorem dX8_tell_57 : decode cX8_tell 57 = .ok (.aload_n 0, 1) := dk_42 (dk_at dksX8_tell_2 9 rfl rfl)
theorem dX8_tell_58 : decode cX8_tell 58 = .ok (.getfield 161, 3) := dk_180 0 161 (dk_at dksX8_tell_2 10 rfl rfl)
theorem dX8_tell_61 : decode cX8_tell 61 = .ok (.aload_n 0, 1) := dk_42 (dk_at dksX8_tell_2 13 rfl rfl)
theorem dX8_tell_62 : decode cX8_tell 62 = .ok (.getfield 278, 3) := dk_180 1 22 (dk_at dksX8_tell_2 14 rfl rfl)
theorem dX8_tell_65 : decode cX8_tell 65 = .ok (.iload_n 3, 1) := dk_29 (dk_at dksX8_tell_2 17 rfl rfl)
theorem dX8_tell_66 : decode cX8_tell 66 = .ok (.iastore, 1) := dk_79 (dk_at dksX8_tell_2 18 rfl rfl)
theorem dX8_tell_67 : decode cX8_tell 67 = .ok (.aload_n 0, 1) := dk_42 (dk_at dksX8_tell_2 19 rfl rfl)
theorem dX8_tell_68 : decode cX8_tell 68 = .ok (.getfield 164, 3) := dk_180 0 164 (dk_at dksX8_tell_2 20 rfl rfl)
theorem dX8_tell_71 : decode cX8_tell 71 = .ok (.aload_n 0, 1) := dk_42 (dk_at dksX8_tell_2 23 rfl rfl)
theorem dX8_tell_72 : decode cX8_tell 72 = .ok (.getfield 278, 3) := dk_180 1 22 (dk_at dksX8_tell_3 0 rfl rfl)
theorem dX8_tell_75 : decode cX8_tell 75 = .ok (.iload 4, 2) := dk_21 4 (dk_at dksX8_tell_3 3 rfl rfl)
theorem dX8_tell_77 : decode cX8_tell 77 = .ok (.bastore, 1) := dk_84 (dk_at dksX8_tell_3 5 rfl rfl)
theorem dX8_tell_78 : decode cX8_tell 78 = .ok (.aload_n 0, 1) := dk_42 (dk_at dksX8_tell_3 6 rfl rfl)
theorem dX8_tell_79 : decode cX8_tell 79 = .ok (.dup, 1) := dk_89 (dk_at dksX8_tell_3 7 rfl rfl)
theorem dX8_tell_80 : decode cX8_tell 80 = .ok (.getfield 278, 3) := dk_180 1 22 (dk_at dksX8_tell_3 8 rfl rfl)
theorem dX8_tell_83 : decode cX8_tell 83 = .ok (.iconst 1, 1) := dk_4 (dk_at dksX8_tell_3 11 rfl rfl)
theorem dX8_tell_84 : decode cX8_tell 84 = .ok (.iadd, 1) := dk_96 (dk_at dksX8_tell_3 12 rfl rfl)
theorem dX8_tell_85 : decode cX8_tell 85 = .ok (.putfield 278, 3) := dk_181 1 22 (dk_at dksX8_tell_3 13 rfl rfl)
theorem dX8_tell_88 : decode cX8_tell 88 = .ok (.aload_n 0, 1) := dk_42 (dk_at dksX8_tell_3 16 rfl rfl)
theorem dX8_tell_89 : decode cX8_tell 89 = .ok (.getfield 278, 3) := dk_180 1 22 (dk_at dksX8_tell_3 17 rfl rfl)
theorem dX8_tell_92 : decode cX8_tell 92 = .ok (.iconst 1, 1) := dk_4 (dk_at dksX8_tell_3 20 rfl rfl)
theorem dX8_tell_93 : decode cX8_tell 93 = .ok (.isub, 1) := dk_100 (dk_at dksX8_tell_3 21 rfl rfl)
theorem dX8_tell_94 : decode cX8_tell 94 = .ok (.ireturn, 1) := dk_172 (dk_at dksX8_tell_3 22 rfl rfl)
abbrev cX8_forget : ByteArray := prog_19_method_116_code
def yX8_forget : MethodName := ⟨RX8, "forget", "()I"⟩
def dkwX8_forget_0 : List UInt8 := [42, 180, 1, 22, 60, 42, 3, 181, 1, 22, 27, 172]
abbrev dktX8_forget_0 : List UInt8 := dkwX8_forget_0 ++ []
theorem dksX8_forget_0 : cX8_forget.data.toList.drop 0 = dktX8_forget_0 := by decide +kernel
theorem dX8_forget_0 : decode cX8_forget 0 = .ok (.aload_n 0, 1) := dk_42 (dk_at dksX8_forget_0 0 rfl rfl)
theorem dX8_forget_1 : decode cX8_forget 1 = .ok (.getfield 278, 3) := dk_180 1 22 (dk_at dksX8_forget_0 1 rfl rfl)
theorem dX8_forget_4 : decode cX8_forget 4 = .ok (.istore_n 1, 1) := dk_60 (dk_at dksX8_forget_0 4 rfl rfl)
theorem dX8_forget_5 : decode cX8_forget 5 = .ok (.aload_n 0, 1) := dk_42 (dk_at dksX8_forget_0 5 rfl rfl)
theorem dX8_forget_6 : decode cX8_forget 6 = .ok (.iconst 0, 1) := dk_3 (dk_at dksX8_forget_0 6 rfl rfl)
theorem dX8_forget_7 : decode cX8_forget 7 = .ok (.putfield 278, 3) := dk_181 1 22 (dk_at dksX8_forget_0 7 rfl rfl)
theorem dX8_forget_10 : decode cX8_forget 10 = .ok (.iload_n 1, 1) := dk_27 (dk_at dksX8_forget_0 10 rfl rfl)
theorem dX8_forget_11 : decode cX8_forget 11 = .ok (.ireturn, 1) := dk_172 (dk_at dksX8_forget_0 11 rfl rfl)
abbrev cX8_began : ByteArray := prog_19_method_118_code
def yX8_began : MethodName := ⟨RX8, "began", "(III)I"⟩
def dkwX8_began_3 : List UInt8 := [21, 5, 172, 132, 4, 1, 132, 5, 1, 167, 255, 213, 29, 2, 160, 0, 8, 21, 4, 167, 0, 4, 2, 172]
abbrev dktX8_began_3 : List UInt8 := dkwX8_began_3 ++ []
def dkwX8_began_2 : List UInt8 := [162, 0, 35, 42, 27, 21, 5, 28, 182, 1, 224, 154, 0, 6, 167, 0, 15, 21, 4, 29, 160, 0, 6]
abbrev dktX8_began_2 : List UInt8 := dkwX8_began_2 ++ dktX8_began_3
def dkwX8_began_1 : List UInt8 := [162, 0, 5, 2, 172, 3, 54, 4, 3, 54, 5, 21, 5, 42, 180, 0, 49, 42, 180, 1, 1, 46]
abbrev dktX8_began_1 : List UInt8 := dkwX8_began_1 ++ dktX8_began_2
def dkwX8_began_0 : List UInt8 := [42, 27, 182, 1, 154, 153, 0, 20, 28, 3, 42, 180, 1, 22, 184, 1, 85, 153, 0, 8, 29, 2]
abbrev dktX8_began_0 : List UInt8 := dkwX8_began_0 ++ dktX8_began_1
theorem dksX8_began_0 : cX8_began.data.toList.drop 0 = dktX8_began_0 := by decide +kernel
theorem dksX8_began_1 : cX8_began.data.toList.drop 22 = dktX8_began_1 := dk_seg dksX8_began_0 22 rfl rfl
theorem dksX8_began_2 : cX8_began.data.toList.drop 44 = dktX8_began_2 := dk_seg dksX8_began_1 22 rfl rfl
theorem dksX8_began_3 : cX8_began.data.toList.drop 67 = dktX8_began_3 := dk_seg dksX8_began_2 23 rfl rfl
theorem dX8_began_0 : decode cX8_began 0 = .ok (.aload_n 0, 1) := dk_42 (dk_at dksX8_began_0 0 rfl rfl)
theorem dX8_began_1 : decode cX8_began 1 = .ok (.iload_n 1, 1) := dk_27 (dk_at dksX8_began_0 1 rfl rfl)
theorem dX8_began_2 : decode cX8_began 2 = .ok (.invokevirtual 410, 3) := dk_182 1 154 (dk_at dksX8_began_0 2 rfl rfl)
theorem dX8_began_5 : decode cX8_began 5 = .ok (.ifCond .eq 20, 3) := dk_153 0 20 (dk_at dksX8_began_0 5 rfl rfl)
theorem dX8_began_8 : decode cX8_began 8 = .ok (.iload_n 2, 1) := dk_28 (dk_at dksX8_began_0 8 rfl rfl)
theorem dX8_began_9 : decode cX8_began 9 = .ok (.iconst 0, 1) := dk_3 (dk_at dksX8_began_0 9 rfl rfl)
theorem dX8_began_10 : decode cX8_began 10 = .ok (.aload_n 0, 1) := dk_42 (dk_at dksX8_began_0 10 rfl rfl)
theorem dX8_began_11 : decode cX8_began 11 = .ok (.getfield 278, 3) := dk_180 1 22 (dk_at dksX8_began_0 11 rfl rfl)
theorem dX8_began_14 : decode cX8_began 14 = .ok (.invokestatic 341, 3) := dk_184 1 85 (dk_at dksX8_began_0 14 rfl rfl)
theorem dX8_began_17 : decode cX8_began 17 = .ok (.ifCond .eq 8, 3) := dk_153 0 8 (dk_at dksX8_began_0 17 rfl rfl)
theorem dX8_began_20 : decode cX8_began 20 = .ok (.iload_n 3, 1) := dk_29 (dk_at dksX8_began_0 20 rfl rfl)
theorem dX8_began_21 : decode cX8_began 21 = .ok (.iconst (-1), 1) := dk_2 (dk_at dksX8_began_0 21 rfl rfl)
theorem dX8_began_22 : decode cX8_began 22 = .ok (.if_icmp .ge 5, 3) := dk_162 0 5 (dk_at dksX8_began_1 0 rfl rfl)
theorem dX8_began_25 : decode cX8_began 25 = .ok (.iconst (-1), 1) := dk_2 (dk_at dksX8_began_1 3 rfl rfl)
theorem dX8_began_26 : decode cX8_began 26 = .ok (.ireturn, 1) := dk_172 (dk_at dksX8_began_1 4 rfl rfl)
theorem dX8_began_27 : decode cX8_began 27 = .ok (.iconst 0, 1) := dk_3 (dk_at dksX8_began_1 5 rfl rfl)
theorem dX8_began_28 : decode cX8_began 28 = .ok (.istore 4, 2) := dk_54 4 (dk_at dksX8_began_1 6 rfl rfl)
theorem dX8_began_30 : decode cX8_began 30 = .ok (.iconst 0, 1) := dk_3 (dk_at dksX8_began_1 8 rfl rfl)
theorem dX8_began_31 : decode cX8_began 31 = .ok (.istore 5, 2) := dk_54 5 (dk_at dksX8_began_1 9 rfl rfl)
theorem dX8_began_33 : decode cX8_began 33 = .ok (.iload 5, 2) := dk_21 5 (dk_at dksX8_began_1 11 rfl rfl)
theorem dX8_began_35 : decode cX8_began 35 = .ok (.aload_n 0, 1) := dk_42 (dk_at dksX8_began_1 13 rfl rfl)
theorem dX8_began_36 : decode cX8_began 36 = .ok (.getfield 49, 3) := dk_180 0 49 (dk_at dksX8_began_1 14 rfl rfl)
theorem dX8_began_39 : decode cX8_began 39 = .ok (.aload_n 0, 1) := dk_42 (dk_at dksX8_began_1 17 rfl rfl)
theorem dX8_began_40 : decode cX8_began 40 = .ok (.getfield 257, 3) := dk_180 1 1 (dk_at dksX8_began_1 18 rfl rfl)
theorem dX8_began_43 : decode cX8_began 43 = .ok (.iaload, 1) := dk_46 (dk_at dksX8_began_1 21 rfl rfl)
theorem dX8_began_44 : decode cX8_began 44 = .ok (.if_icmp .ge 35, 3) := dk_162 0 35 (dk_at dksX8_began_2 0 rfl rfl)
theorem dX8_began_47 : decode cX8_began 47 = .ok (.aload_n 0, 1) := dk_42 (dk_at dksX8_began_2 3 rfl rfl)
theorem dX8_began_48 : decode cX8_began 48 = .ok (.iload_n 1, 1) := dk_27 (dk_at dksX8_began_2 4 rfl rfl)
theorem dX8_began_49 : decode cX8_began 49 = .ok (.iload 5, 2) := dk_21 5 (dk_at dksX8_began_2 5 rfl rfl)
theorem dX8_began_51 : decode cX8_began 51 = .ok (.iload_n 2, 1) := dk_28 (dk_at dksX8_began_2 7 rfl rfl)
theorem dX8_began_52 : decode cX8_began 52 = .ok (.invokevirtual 480, 3) := dk_182 1 224 (dk_at dksX8_began_2 8 rfl rfl)
theorem dX8_began_55 : decode cX8_began 55 = .ok (.ifCond .ne 6, 3) := dk_154 0 6 (dk_at dksX8_began_2 11 rfl rfl)
theorem dX8_began_58 : decode cX8_began 58 = .ok (.goto 15, 3) := dk_167 0 15 (dk_at dksX8_began_2 14 rfl rfl)
theorem dX8_began_61 : decode cX8_began 61 = .ok (.iload 4, 2) := dk_21 4 (dk_at dksX8_began_2 17 rfl rfl)
theorem dX8_began_63 : decode cX8_began 63 = .ok (.iload_n 3, 1) := dk_29 (dk_at dksX8_began_2 19 rfl rfl)
theorem dX8_began_64 : decode cX8_began 64 = .ok (.if_icmp .ne 6, 3) := dk_160 0 6 (dk_at dksX8_began_2 20 rfl rfl)
theorem dX8_began_67 : decode cX8_began 67 = .ok (.iload 5, 2) := dk_21 5 (dk_at dksX8_began_3 0 rfl rfl)
theorem dX8_began_69 : decode cX8_began 69 = .ok (.ireturn, 1) := dk_172 (dk_at dksX8_began_3 2 rfl rfl)
theorem dX8_began_70 : decode cX8_began 70 = .ok (.iinc 4 1, 3) := dk_132 4 1 (dk_at dksX8_began_3 3 rfl rfl)
theorem dX8_began_73 : decode cX8_began 73 = .ok (.iinc 5 1, 3) := dk_132 5 1 (dk_at dksX8_began_3 6 rfl rfl)
theorem dX8_began_76 : decode cX8_began 76 = .ok (.goto (-43), 3) := dk_167 255 213 (dk_at dksX8_began_3 9 rfl rfl)
theorem dX8_began_79 : decode cX8_began 79 = .ok (.iload_n 3, 1) := dk_29 (dk_at dksX8_began_3 12 rfl rfl)
theorem dX8_began_80 : decode cX8_began 80 = .ok (.iconst (-1), 1) := dk_2 (dk_at dksX8_began_3 13 rfl rfl)
theorem dX8_began_81 : decode cX8_began 81 = .ok (.if_icmp .ne 8, 3) := dk_160 0 8 (dk_at dksX8_began_3 14 rfl rfl)
theorem dX8_began_84 : decode cX8_began 84 = .ok (.iload 4, 2) := dk_21 4 (dk_at dksX8_began_3 17 rfl rfl)
theorem dX8_began_86 : decode cX8_began 86 = .ok (.goto 4, 3) := dk_167 0 4 (dk_at dksX8_began_3 19 rfl rfl)
theorem dX8_began_89 : decode cX8_began 89 = .ok (.iconst (-1), 1) := dk_2 (dk_at dksX8_began_3 22 rfl rfl)
theorem dX8_began_90 : decode cX8_began 90 = .ok (.ireturn, 1) := dk_172 (dk_at dksX8_began_3 23 rfl rfl)
abbrev cX8_isSo : ByteArray := prog_19_method_117_code
def yX8_isSo : MethodName := ⟨RX8, "isSo", "(III)Z"⟩
def dkwX8_isSo_4 : List UInt8 := [172, 132, 5, 1, 167, 255, 210, 4, 172]
abbrev dktX8_isSo_4 : List UInt8 := dkwX8_isSo_4 ++ []
def dkwX8_isSo_3 : List UInt8 := [21, 5, 46, 42, 180, 0, 161, 21, 5, 46, 182, 1, 206, 42, 180, 0, 164, 21, 5, 51, 159, 0, 5, 3]
abbrev dktX8_isSo_3 : List UInt8 := dkwX8_isSo_3 ++ dktX8_isSo_4
def dkwX8_isSo_2 : List UInt8 := [182, 1, 169, 3, 54, 5, 21, 5, 29, 162, 0, 46, 42, 42, 180, 0, 155, 21, 5, 46, 42, 180, 0, 158]
abbrev dktX8_isSo_2 : List UInt8 := dkwX8_isSo_2 ++ dktX8_isSo_3
def dkwX8_isSo_1 : List UInt8 := [46, 21, 4, 164, 0, 12, 42, 180, 0, 158, 21, 5, 46, 54, 4, 132, 5, 1, 167, 255, 226, 42, 21, 4]
abbrev dktX8_isSo_1 : List UInt8 := dkwX8_isSo_1 ++ dktX8_isSo_2
def dkwX8_isSo_0 : List UInt8 := [42, 27, 28, 182, 1, 101, 3, 54, 4, 3, 54, 5, 21, 5, 29, 162, 0, 30, 42, 180, 0, 158, 21, 5]
abbrev dktX8_isSo_0 : List UInt8 := dkwX8_isSo_0 ++ dktX8_isSo_1
theorem dksX8_isSo_0 : cX8_isSo.data.toList.drop 0 = dktX8_isSo_0 := by decide +kernel
theorem dksX8_isSo_1 : cX8_isSo.data.toList.drop 24 = dktX8_isSo_1 := dk_seg dksX8_isSo_0 24 rfl rfl
theorem dksX8_isSo_2 : cX8_isSo.data.toList.drop 48 = dktX8_isSo_2 := dk_seg dksX8_isSo_1 24 rfl rfl
theorem dksX8_isSo_3 : cX8_isSo.data.toList.drop 72 = dktX8_isSo_3 := dk_seg dksX8_isSo_2 24 rfl rfl
theorem dksX8_isSo_4 : cX8_isSo.data.toList.drop 96 = dktX8_isSo_4 := dk_seg dksX8_isSo_3 24 rfl rfl
theorem dX8_isSo_0 : decode cX8_isSo 0 = .ok (.aload_n 0, 1) := dk_42 (dk_at dksX8_isSo_0 0 rfl rfl)
theorem dX8_isSo_1 : decode cX8_isSo 1 = .ok (.iload_n 1, 1) := dk_27 (dk_at dksX8_isSo_0 1 rfl rfl)
theorem dX8_isSo_2 : decode cX8_isSo 2 = .ok (.iload_n 2, 1) := dk_28 (dk_at dksX8_isSo_0 2 rfl rfl)
theorem dX8_isSo_3 : decode cX8_isSo 3 = .ok (.invokevirtual 357, 3) := dk_182 1 101 (dk_at dksX8_isSo_0 3 rfl rfl)
theorem dX8_isSo_6 : decode cX8_isSo 6 = .ok (.iconst 0, 1) := dk_3 (dk_at dksX8_isSo_0 6 rfl rfl)
theorem dX8_isSo_7 : decode cX8_isSo 7 = .ok (.istore 4, 2) := dk_54 4 (dk_at dksX8_isSo_0 7 rfl rfl)
theorem dX8_isSo_9 : decode cX8_isSo 9 = .ok (.iconst 0, 1) := dk_3 (dk_at dksX8_isSo_0 9 rfl rfl)
theorem dX8_isSo_10 : decode cX8_isSo 10 = .ok (.istore 5, 2) := dk_54 5 (dk_at dksX8_isSo_0 10 rfl rfl)
theorem dX8_isSo_12 : decode cX8_isSo 12 = .ok (.iload 5, 2) := dk_21 5 (dk_at dksX8_isSo_0 12 rfl rfl)
theorem dX8_isSo_14 : decode cX8_isSo 14 = .ok (.iload_n 3, 1) := dk_29 (dk_at dksX8_isSo_0 14 rfl rfl)
theorem dX8_isSo_15 : decode cX8_isSo 15 = .ok (.if_icmp .ge 30, 3) := dk_162 0 30 (dk_at dksX8_isSo_0 15 rfl rfl)
theorem dX8_isSo_18 : decode cX8_isSo 18 = .ok (.aload_n 0, 1) := dk_42 (dk_at dksX8_isSo_0 18 rfl rfl)
theorem dX8_isSo_19 : decode cX8_isSo 19 = .ok (.getfield 158, 3) := dk_180 0 158 (dk_at dksX8_isSo_0 19 rfl rfl)
theorem dX8_isSo_22 : decode cX8_isSo 22 = .ok (.iload 5, 2) := dk_21 5 (dk_at dksX8_isSo_0 22 rfl rfl)
theorem dX8_isSo_24 : decode cX8_isSo 24 = .ok (.iaload, 1) := dk_46 (dk_at dksX8_isSo_1 0 rfl rfl)
theorem dX8_isSo_25 : decode cX8_isSo 25 = .ok (.iload 4, 2) := dk_21 4 (dk_at dksX8_isSo_1 1 rfl rfl)
theorem dX8_isSo_27 : decode cX8_isSo 27 = .ok (.if_icmp .le 12, 3) := dk_164 0 12 (dk_at dksX8_isSo_1 3 rfl rfl)
theorem dX8_isSo_30 : decode cX8_isSo 30 = .ok (.aload_n 0, 1) := dk_42 (dk_at dksX8_isSo_1 6 rfl rfl)
theorem dX8_isSo_31 : decode cX8_isSo 31 = .ok (.getfield 158, 3) := dk_180 0 158 (dk_at dksX8_isSo_1 7 rfl rfl)
theorem dX8_isSo_34 : decode cX8_isSo 34 = .ok (.iload 5, 2) := dk_21 5 (dk_at dksX8_isSo_1 10 rfl rfl)
theorem dX8_isSo_36 : decode cX8_isSo 36 = .ok (.iaload, 1) := dk_46 (dk_at dksX8_isSo_1 12 rfl rfl)
theorem dX8_isSo_37 : decode cX8_isSo 37 = .ok (.istore 4, 2) := dk_54 4 (dk_at dksX8_isSo_1 13 rfl rfl)
theorem dX8_isSo_39 : decode cX8_isSo 39 = .ok (.iinc 5 1, 3) := dk_132 5 1 (dk_at dksX8_isSo_1 15 rfl rfl)
theorem dX8_isSo_42 : decode cX8_isSo 42 = .ok (.goto (-30), 3) := dk_167 255 226 (dk_at dksX8_isSo_1 18 rfl rfl)
theorem dX8_isSo_45 : decode cX8_isSo 45 = .ok (.aload_n 0, 1) := dk_42 (dk_at dksX8_isSo_1 21 rfl rfl)
theorem dX8_isSo_46 : decode cX8_isSo 46 = .ok (.iload 4, 2) := dk_21 4 (dk_at dksX8_isSo_1 22 rfl rfl)
theorem dX8_isSo_48 : decode cX8_isSo 48 = .ok (.invokevirtual 425, 3) := dk_182 1 169 (dk_at dksX8_isSo_2 0 rfl rfl)
theorem dX8_isSo_51 : decode cX8_isSo 51 = .ok (.iconst 0, 1) := dk_3 (dk_at dksX8_isSo_2 3 rfl rfl)
theorem dX8_isSo_52 : decode cX8_isSo 52 = .ok (.istore 5, 2) := dk_54 5 (dk_at dksX8_isSo_2 4 rfl rfl)
theorem dX8_isSo_54 : decode cX8_isSo 54 = .ok (.iload 5, 2) := dk_21 5 (dk_at dksX8_isSo_2 6 rfl rfl)
theorem dX8_isSo_56 : decode cX8_isSo 56 = .ok (.iload_n 3, 1) := dk_29 (dk_at dksX8_isSo_2 8 rfl rfl)
theorem dX8_isSo_57 : decode cX8_isSo 57 = .ok (.if_icmp .ge 46, 3) := dk_162 0 46 (dk_at dksX8_isSo_2 9 rfl rfl)
theorem dX8_isSo_60 : decode cX8_isSo 60 = .ok (.aload_n 0, 1) := dk_42 (dk_at dksX8_isSo_2 12 rfl rfl)
theorem dX8_isSo_61 : decode cX8_isSo 61 = .ok (.aload_n 0, 1) := dk_42 (dk_at dksX8_isSo_2 13 rfl rfl)
theorem dX8_isSo_62 : decode cX8_isSo 62 = .ok (.getfield 155, 3) := dk_180 0 155 (dk_at dksX8_isSo_2 14 rfl rfl)
theorem dX8_isSo_65 : decode cX8_isSo 65 = .ok (.iload 5, 2) := dk_21 5 (dk_at dksX8_isSo_2 17 rfl rfl)
theorem dX8_isSo_67 : decode cX8_isSo 67 = .ok (.iaload, 1) := dk_46 (dk_at dksX8_isSo_2 19 rfl rfl)
theorem dX8_isSo_68 : decode cX8_isSo 68 = .ok (.aload_n 0, 1) := dk_42 (dk_at dksX8_isSo_2 20 rfl rfl)
theorem dX8_isSo_69 : decode cX8_isSo 69 = .ok (.getfield 158, 3) := dk_180 0 158 (dk_at dksX8_isSo_2 21 rfl rfl)
theorem dX8_isSo_72 : decode cX8_isSo 72 = .ok (.iload 5, 2) := dk_21 5 (dk_at dksX8_isSo_3 0 rfl rfl)
theorem dX8_isSo_74 : decode cX8_isSo 74 = .ok (.iaload, 1) := dk_46 (dk_at dksX8_isSo_3 2 rfl rfl)
theorem dX8_isSo_75 : decode cX8_isSo 75 = .ok (.aload_n 0, 1) := dk_42 (dk_at dksX8_isSo_3 3 rfl rfl)
theorem dX8_isSo_76 : decode cX8_isSo 76 = .ok (.getfield 161, 3) := dk_180 0 161 (dk_at dksX8_isSo_3 4 rfl rfl)
theorem dX8_isSo_79 : decode cX8_isSo 79 = .ok (.iload 5, 2) := dk_21 5 (dk_at dksX8_isSo_3 7 rfl rfl)
theorem dX8_isSo_81 : decode cX8_isSo 81 = .ok (.iaload, 1) := dk_46 (dk_at dksX8_isSo_3 9 rfl rfl)
theorem dX8_isSo_82 : decode cX8_isSo 82 = .ok (.invokevirtual 462, 3) := dk_182 1 206 (dk_at dksX8_isSo_3 10 rfl rfl)
theorem dX8_isSo_85 : decode cX8_isSo 85 = .ok (.aload_n 0, 1) := dk_42 (dk_at dksX8_isSo_3 13 rfl rfl)
theorem dX8_isSo_86 : decode cX8_isSo 86 = .ok (.getfield 164, 3) := dk_180 0 164 (dk_at dksX8_isSo_3 14 rfl rfl)
theorem dX8_isSo_89 : decode cX8_isSo 89 = .ok (.iload 5, 2) := dk_21 5 (dk_at dksX8_isSo_3 17 rfl rfl)
theorem dX8_isSo_91 : decode cX8_isSo 91 = .ok (.baload, 1) := dk_51 (dk_at dksX8_isSo_3 19 rfl rfl)
theorem dX8_isSo_92 : decode cX8_isSo 92 = .ok (.if_icmp .eq 5, 3) := dk_159 0 5 (dk_at dksX8_isSo_3 20 rfl rfl)
theorem dX8_isSo_95 : decode cX8_isSo 95 = .ok (.iconst 0, 1) := dk_3 (dk_at dksX8_isSo_3 23 rfl rfl)
theorem dX8_isSo_96 : decode cX8_isSo 96 = .ok (.ireturn, 1) := dk_172 (dk_at dksX8_isSo_4 0 rfl rfl)
theorem dX8_isSo_97 : decode cX8_isSo 97 = .ok (.iinc 5 1, 3) := dk_132 5 1 (dk_at dksX8_isSo_4 1 rfl rfl)
theorem dX8_isSo_100 : decode cX8_isSo 100 = .ok (.goto (-46), 3) := dk_167 255 210 (dk_at dksX8_isSo_4 4 rfl rfl)
theorem dX8_isSo_103 : decode cX8_isSo 103 = .ok (.iconst 1, 1) := dk_4 (dk_at dksX8_isSo_4 7 rfl rfl)
theorem dX8_isSo_104 : decode cX8_isSo 104 = .ok (.ireturn, 1) := dk_172 (dk_at dksX8_isSo_4 8 rfl rfl)
abbrev cX8_hold : ByteArray := prog_19_method_119_code
def yX8_hold : MethodName := ⟨RX8, "hold", "(I)Z"⟩
def dkwX8_hold_5 : List UInt8 := [46, 79, 132, 2, 1, 167, 255, 208, 4, 172]
abbrev dktX8_hold_5 : List UInt8 := dkwX8_hold_5 ++ []
def dkwX8_hold_4 : List UInt8 := [180, 0, 125, 28, 46, 79, 42, 180, 0, 173, 16, 17, 27, 104, 16, 9, 96, 28, 96, 42, 180, 0, 128, 28]
abbrev dktX8_hold_4 : List UInt8 := dkwX8_hold_4 ++ dktX8_hold_5
def dkwX8_hold_3 : List UInt8 := [79, 3, 61, 28, 16, 8, 162, 0, 48, 42, 180, 0, 173, 16, 17, 27, 104, 4, 96, 28, 96, 42]
abbrev dktX8_hold_3 : List UInt8 := dkwX8_hold_3 ++ dktX8_hold_4
def dkwX8_hold_2 : List UInt8 := [180, 0, 122, 28, 46, 79, 132, 2, 1, 167, 255, 221, 42, 180, 0, 173, 16, 17, 27, 104, 42, 180, 1, 89]
abbrev dktX8_hold_2 : List UInt8 := dkwX8_hold_2 ++ dktX8_hold_3
def dkwX8_hold_1 : List UInt8 := [180, 1, 89, 104, 16, 36, 96, 162, 0, 27, 42, 180, 0, 170, 17, 42, 48, 27, 104, 28, 96, 42]
abbrev dktX8_hold_1 : List UInt8 := dkwX8_hold_1 ++ dktX8_hold_2
def dkwX8_hold_0 : List UInt8 := [27, 3, 5, 184, 1, 85, 154, 0, 5, 3, 172, 42, 180, 0, 167, 27, 4, 84, 3, 61, 28, 16, 36, 42]
abbrev dktX8_hold_0 : List UInt8 := dkwX8_hold_0 ++ dktX8_hold_1
theorem dksX8_hold_0 : cX8_hold.data.toList.drop 0 = dktX8_hold_0 := by decide +kernel
theorem dksX8_hold_1 : cX8_hold.data.toList.drop 24 = dktX8_hold_1 := dk_seg dksX8_hold_0 24 rfl rfl
theorem dksX8_hold_2 : cX8_hold.data.toList.drop 46 = dktX8_hold_2 := dk_seg dksX8_hold_1 22 rfl rfl
theorem dksX8_hold_3 : cX8_hold.data.toList.drop 70 = dktX8_hold_3 := dk_seg dksX8_hold_2 24 rfl rfl
theorem dksX8_hold_4 : cX8_hold.data.toList.drop 92 = dktX8_hold_4 := dk_seg dksX8_hold_3 22 rfl rfl
theorem dksX8_hold_5 : cX8_hold.data.toList.drop 116 = dktX8_hold_5 := dk_seg dksX8_hold_4 24 rfl rfl
theorem dX8_hold_0 : decode cX8_hold 0 = .ok (.iload_n 1, 1) := dk_27 (dk_at dksX8_hold_0 0 rfl rfl)
theorem dX8_hold_1 : decode cX8_hold 1 = .ok (.iconst 0, 1) := dk_3 (dk_at dksX8_hold_0 1 rfl rfl)
theorem dX8_hold_2 : decode cX8_hold 2 = .ok (.iconst 2, 1) := dk_5 (dk_at dksX8_hold_0 2 rfl rfl)
theorem dX8_hold_3 : decode cX8_hold 3 = .ok (.invokestatic 341, 3) := dk_184 1 85 (dk_at dksX8_hold_0 3 rfl rfl)
theorem dX8_hold_6 : decode cX8_hold 6 = .ok (.ifCond .ne 5, 3) := dk_154 0 5 (dk_at dksX8_hold_0 6 rfl rfl)
theorem dX8_hold_9 : decode cX8_hold 9 = .ok (.iconst 0, 1) := dk_3 (dk_at dksX8_hold_0 9 rfl rfl)
theorem dX8_hold_10 : decode cX8_hold 10 = .ok (.ireturn, 1) := dk_172 (dk_at dksX8_hold_0 10 rfl rfl)
theorem dX8_hold_11 : decode cX8_hold 11 = .ok (.aload_n 0, 1) := dk_42 (dk_at dksX8_hold_0 11 rfl rfl)
theorem dX8_hold_12 : decode cX8_hold 12 = .ok (.getfield 167, 3) := dk_180 0 167 (dk_at dksX8_hold_0 12 rfl rfl)
theorem dX8_hold_15 : decode cX8_hold 15 = .ok (.iload_n 1, 1) := dk_27 (dk_at dksX8_hold_0 15 rfl rfl)
theorem dX8_hold_16 : decode cX8_hold 16 = .ok (.iconst 1, 1) := dk_4 (dk_at dksX8_hold_0 16 rfl rfl)
theorem dX8_hold_17 : decode cX8_hold 17 = .ok (.bastore, 1) := dk_84 (dk_at dksX8_hold_0 17 rfl rfl)
theorem dX8_hold_18 : decode cX8_hold 18 = .ok (.iconst 0, 1) := dk_3 (dk_at dksX8_hold_0 18 rfl rfl)
theorem dX8_hold_19 : decode cX8_hold 19 = .ok (.istore_n 2, 1) := dk_61 (dk_at dksX8_hold_0 19 rfl rfl)
theorem dX8_hold_20 : decode cX8_hold 20 = .ok (.iload_n 2, 1) := dk_28 (dk_at dksX8_hold_0 20 rfl rfl)
theorem dX8_hold_21 : decode cX8_hold 21 = .ok (.bipush 36, 2) := dk_16 36 (dk_at dksX8_hold_0 21 rfl rfl)
theorem dX8_hold_23 : decode cX8_hold 23 = .ok (.aload_n 0, 1) := dk_42 (dk_at dksX8_hold_0 23 rfl rfl)
theorem dX8_hold_24 : decode cX8_hold 24 = .ok (.getfield 345, 3) := dk_180 1 89 (dk_at dksX8_hold_1 0 rfl rfl)
theorem dX8_hold_27 : decode cX8_hold 27 = .ok (.imul, 1) := dk_104 (dk_at dksX8_hold_1 3 rfl rfl)
theorem dX8_hold_28 : decode cX8_hold 28 = .ok (.bipush 36, 2) := dk_16 36 (dk_at dksX8_hold_1 4 rfl rfl)
theorem dX8_hold_30 : decode cX8_hold 30 = .ok (.iadd, 1) := dk_96 (dk_at dksX8_hold_1 6 rfl rfl)
theorem dX8_hold_31 : decode cX8_hold 31 = .ok (.if_icmp .ge 27, 3) := dk_162 0 27 (dk_at dksX8_hold_1 7 rfl rfl)
theorem dX8_hold_34 : decode cX8_hold 34 = .ok (.aload_n 0, 1) := dk_42 (dk_at dksX8_hold_1 10 rfl rfl)
theorem dX8_hold_35 : decode cX8_hold 35 = .ok (.getfield 170, 3) := dk_180 0 170 (dk_at dksX8_hold_1 11 rfl rfl)
theorem dX8_hold_38 : decode cX8_hold 38 = .ok (.sipush 10800, 3) := dk_17 42 48 (dk_at dksX8_hold_1 14 rfl rfl)
theorem dX8_hold_41 : decode cX8_hold 41 = .ok (.iload_n 1, 1) := dk_27 (dk_at dksX8_hold_1 17 rfl rfl)
theorem dX8_hold_42 : decode cX8_hold 42 = .ok (.imul, 1) := dk_104 (dk_at dksX8_hold_1 18 rfl rfl)
theorem dX8_hold_43 : decode cX8_hold 43 = .ok (.iload_n 2, 1) := dk_28 (dk_at dksX8_hold_1 19 rfl rfl)
theorem dX8_hold_44 : decode cX8_hold 44 = .ok (.iadd, 1) := dk_96 (dk_at dksX8_hold_1 20 rfl rfl)
theorem dX8_hold_45 : decode cX8_hold 45 = .ok (.aload_n 0, 1) := dk_42 (dk_at dksX8_hold_1 21 rfl rfl)
theorem dX8_hold_46 : decode cX8_hold 46 = .ok (.getfield 122, 3) := dk_180 0 122 (dk_at dksX8_hold_2 0 rfl rfl)
theorem dX8_hold_49 : decode cX8_hold 49 = .ok (.iload_n 2, 1) := dk_28 (dk_at dksX8_hold_2 3 rfl rfl)
theorem dX8_hold_50 : decode cX8_hold 50 = .ok (.iaload, 1) := dk_46 (dk_at dksX8_hold_2 4 rfl rfl)
theorem dX8_hold_51 : decode cX8_hold 51 = .ok (.iastore, 1) := dk_79 (dk_at dksX8_hold_2 5 rfl rfl)
theorem dX8_hold_52 : decode cX8_hold 52 = .ok (.iinc 2 1, 3) := dk_132 2 1 (dk_at dksX8_hold_2 6 rfl rfl)
theorem dX8_hold_55 : decode cX8_hold 55 = .ok (.goto (-35), 3) := dk_167 255 221 (dk_at dksX8_hold_2 9 rfl rfl)
theorem dX8_hold_58 : decode cX8_hold 58 = .ok (.aload_n 0, 1) := dk_42 (dk_at dksX8_hold_2 12 rfl rfl)
theorem dX8_hold_59 : decode cX8_hold 59 = .ok (.getfield 173, 3) := dk_180 0 173 (dk_at dksX8_hold_2 13 rfl rfl)
theorem dX8_hold_62 : decode cX8_hold 62 = .ok (.bipush 17, 2) := dk_16 17 (dk_at dksX8_hold_2 16 rfl rfl)
theorem dX8_hold_64 : decode cX8_hold 64 = .ok (.iload_n 1, 1) := dk_27 (dk_at dksX8_hold_2 18 rfl rfl)
theorem dX8_hold_65 : decode cX8_hold 65 = .ok (.imul, 1) := dk_104 (dk_at dksX8_hold_2 19 rfl rfl)
theorem dX8_hold_66 : decode cX8_hold 66 = .ok (.aload_n 0, 1) := dk_42 (dk_at dksX8_hold_2 20 rfl rfl)
theorem dX8_hold_67 : decode cX8_hold 67 = .ok (.getfield 345, 3) := dk_180 1 89 (dk_at dksX8_hold_2 21 rfl rfl)
theorem dX8_hold_70 : decode cX8_hold 70 = .ok (.iastore, 1) := dk_79 (dk_at dksX8_hold_3 0 rfl rfl)
theorem dX8_hold_71 : decode cX8_hold 71 = .ok (.iconst 0, 1) := dk_3 (dk_at dksX8_hold_3 1 rfl rfl)
theorem dX8_hold_72 : decode cX8_hold 72 = .ok (.istore_n 2, 1) := dk_61 (dk_at dksX8_hold_3 2 rfl rfl)
theorem dX8_hold_73 : decode cX8_hold 73 = .ok (.iload_n 2, 1) := dk_28 (dk_at dksX8_hold_3 3 rfl rfl)
theorem dX8_hold_74 : decode cX8_hold 74 = .ok (.bipush 8, 2) := dk_16 8 (dk_at dksX8_hold_3 4 rfl rfl)
theorem dX8_hold_76 : decode cX8_hold 76 = .ok (.if_icmp .ge 48, 3) := dk_162 0 48 (dk_at dksX8_hold_3 6 rfl rfl)
theorem dX8_hold_79 : decode cX8_hold 79 = .ok (.aload_n 0, 1) := dk_42 (dk_at dksX8_hold_3 9 rfl rfl)
theorem dX8_hold_80 : decode cX8_hold 80 = .ok (.getfield 173, 3) := dk_180 0 173 (dk_at dksX8_hold_3 10 rfl rfl)
theorem dX8_hold_83 : decode cX8_hold 83 = .ok (.bipush 17, 2) := dk_16 17 (dk_at dksX8_hold_3 13 rfl rfl)
theorem dX8_hold_85 : decode cX8_hold 85 = .ok (.iload_n 1, 1) := dk_27 (dk_at dksX8_hold_3 15 rfl rfl)
theorem dX8_hold_86 : decode cX8_hold 86 = .ok (.imul, 1) := dk_104 (dk_at dksX8_hold_3 16 rfl rfl)
theorem dX8_hold_87 : decode cX8_hold 87 = .ok (.iconst 1, 1) := dk_4 (dk_at dksX8_hold_3 17 rfl rfl)
theorem dX8_hold_88 : decode cX8_hold 88 = .ok (.iadd, 1) := dk_96 (dk_at dksX8_hold_3 18 rfl rfl)
theorem dX8_hold_89 : decode cX8_hold 89 = .ok (.iload_n 2, 1) := dk_28 (dk_at dksX8_hold_3 19 rfl rfl)
theorem dX8_hold_90 : decode cX8_hold 90 = .ok (.iadd, 1) := dk_96 (dk_at dksX8_hold_3 20 rfl rfl)
theorem dX8_hold_91 : decode cX8_hold 91 = .ok (.aload_n 0, 1) := dk_42 (dk_at dksX8_hold_3 21 rfl rfl)
theorem dX8_hold_92 : decode cX8_hold 92 = .ok (.getfield 125, 3) := dk_180 0 125 (dk_at dksX8_hold_4 0 rfl rfl)
theorem dX8_hold_95 : decode cX8_hold 95 = .ok (.iload_n 2, 1) := dk_28 (dk_at dksX8_hold_4 3 rfl rfl)
theorem dX8_hold_96 : decode cX8_hold 96 = .ok (.iaload, 1) := dk_46 (dk_at dksX8_hold_4 4 rfl rfl)
theorem dX8_hold_97 : decode cX8_hold 97 = .ok (.iastore, 1) := dk_79 (dk_at dksX8_hold_4 5 rfl rfl)
theorem dX8_hold_98 : decode cX8_hold 98 = .ok (.aload_n 0, 1) := dk_42 (dk_at dksX8_hold_4 6 rfl rfl)
theorem dX8_hold_99 : decode cX8_hold 99 = .ok (.getfield 173, 3) := dk_180 0 173 (dk_at dksX8_hold_4 7 rfl rfl)
theorem dX8_hold_102 : decode cX8_hold 102 = .ok (.bipush 17, 2) := dk_16 17 (dk_at dksX8_hold_4 10 rfl rfl)
theorem dX8_hold_104 : decode cX8_hold 104 = .ok (.iload_n 1, 1) := dk_27 (dk_at dksX8_hold_4 12 rfl rfl)
theorem dX8_hold_105 : decode cX8_hold 105 = .ok (.imul, 1) := dk_104 (dk_at dksX8_hold_4 13 rfl rfl)
theorem dX8_hold_106 : decode cX8_hold 106 = .ok (.bipush 9, 2) := dk_16 9 (dk_at dksX8_hold_4 14 rfl rfl)
theorem dX8_hold_108 : decode cX8_hold 108 = .ok (.iadd, 1) := dk_96 (dk_at dksX8_hold_4 16 rfl rfl)
theorem dX8_hold_109 : decode cX8_hold 109 = .ok (.iload_n 2, 1) := dk_28 (dk_at dksX8_hold_4 17 rfl rfl)
theorem dX8_hold_110 : decode cX8_hold 110 = .ok (.iadd, 1) := dk_96 (dk_at dksX8_hold_4 18 rfl rfl)
theorem dX8_hold_111 : decode cX8_hold 111 = .ok (.aload_n 0, 1) := dk_42 (dk_at dksX8_hold_4 19 rfl rfl)
theorem dX8_hold_112 : decode cX8_hold 112 = .ok (.getfield 128, 3) := dk_180 0 128 (dk_at dksX8_hold_4 20 rfl rfl)
theorem dX8_hold_115 : decode cX8_hold 115 = .ok (.iload_n 2, 1) := dk_28 (dk_at dksX8_hold_4 23 rfl rfl)
theorem dX8_hold_116 : decode cX8_hold 116 = .ok (.iaload, 1) := dk_46 (dk_at dksX8_hold_5 0 rfl rfl)
theorem dX8_hold_117 : decode cX8_hold 117 = .ok (.iastore, 1) := dk_79 (dk_at dksX8_hold_5 1 rfl rfl)
theorem dX8_hold_118 : decode cX8_hold 118 = .ok (.iinc 2 1, 3) := dk_132 2 1 (dk_at dksX8_hold_5 2 rfl rfl)
theorem dX8_hold_121 : decode cX8_hold 121 = .ok (.goto (-48), 3) := dk_167 255 208 (dk_at dksX8_hold_5 5 rfl rfl)
theorem dX8_hold_124 : decode cX8_hold 124 = .ok (.iconst 1, 1) := dk_4 (dk_at dksX8_hold_5 8 rfl rfl)
theorem dX8_hold_125 : decode cX8_hold 125 = .ok (.ireturn, 1) := dk_172 (dk_at dksX8_hold_5 9 rfl rfl)
abbrev cX8_restore : ByteArray := prog_19_method_120_code
def yX8_restore : MethodName := ⟨RX8, "restore", "(I)Z"⟩
def dkwX8_restore_5 : List UInt8 := [46, 79, 132, 2, 1, 167, 255, 208, 42, 3, 181, 1, 19, 4, 172]
abbrev dktX8_restore_5 : List UInt8 := dkwX8_restore_5 ++ []
def dkwX8_restore_4 : List UInt8 := [4, 96, 28, 96, 46, 79, 42, 180, 0, 128, 28, 42, 180, 0, 173, 16, 17, 27, 104, 16, 9, 96, 28, 96]
abbrev dktX8_restore_4 : List UInt8 := dkwX8_restore_4 ++ dktX8_restore_5
def dkwX8_restore_3 : List UInt8 := [167, 255, 221, 3, 61, 28, 16, 8, 162, 0, 48, 42, 180, 0, 125, 28, 42, 180, 0, 173, 16, 17, 27, 104]
abbrev dktX8_restore_3 : List UInt8 := dkwX8_restore_3 ++ dktX8_restore_4
def dkwX8_restore_2 : List UInt8 := [162, 0, 27, 42, 180, 0, 122, 28, 42, 180, 0, 170, 17, 42, 48, 27, 104, 28, 96, 46, 79, 132, 2, 1]
abbrev dktX8_restore_2 : List UInt8 := dkwX8_restore_2 ++ dktX8_restore_3
def dkwX8_restore_1 : List UInt8 := [180, 0, 173, 16, 17, 27, 104, 46, 181, 1, 89, 3, 61, 28, 16, 36, 42, 180, 1, 89, 104, 16, 36, 96]
abbrev dktX8_restore_1 : List UInt8 := dkwX8_restore_1 ++ dktX8_restore_2
def dkwX8_restore_0 : List UInt8 := [27, 3, 5, 184, 1, 85, 153, 0, 12, 42, 180, 0, 167, 27, 51, 154, 0, 5, 3, 172, 42, 42]
abbrev dktX8_restore_0 : List UInt8 := dkwX8_restore_0 ++ dktX8_restore_1
theorem dksX8_restore_0 : cX8_restore.data.toList.drop 0 = dktX8_restore_0 := by decide +kernel
theorem dksX8_restore_1 : cX8_restore.data.toList.drop 22 = dktX8_restore_1 := dk_seg dksX8_restore_0 22 rfl rfl
theorem dksX8_restore_2 : cX8_restore.data.toList.drop 46 = dktX8_restore_2 := dk_seg dksX8_restore_1 24 rfl rfl
theorem dksX8_restore_3 : cX8_restore.data.toList.drop 70 = dktX8_restore_3 := dk_seg dksX8_restore_2 24 rfl rfl
theorem dksX8_restore_4 : cX8_restore.data.toList.drop 94 = dktX8_restore_4 := dk_seg dksX8_restore_3 24 rfl rfl
theorem dksX8_restore_5 : cX8_restore.data.toList.drop 118 = dktX8_restore_5 := dk_seg dksX8_restore_4 24 rfl rfl
theorem dX8_restore_0 : decode cX8_restore 0 = .ok (.iload_n 1, 1) := dk_27 (dk_at dksX8_restore_0 0 rfl rfl)
theorem dX8_restore_1 : decode cX8_restore 1 = .ok (.iconst 0, 1) := dk_3 (dk_at dksX8_restore_0 1 rfl rfl)
theorem dX8_restore_2 : decode cX8_restore 2 = .ok (.iconst 2, 1) := dk_5 (dk_at dksX8_restore_0 2 rfl rfl)
theorem dX8_restore_3 : decode cX8_restore 3 = .ok (.invokestatic 341, 3) := dk_184 1 85 (dk_at dksX8_restore_0 3 rfl rfl)
theorem dX8_restore_6 : decode cX8_restore 6 = .ok (.ifCond .eq 12, 3) := dk_153 0 12 (dk_at dksX8_restore_0 6 rfl rfl)
theorem dX8_restore_9 : decode cX8_restore 9 = .ok (.aload_n 0, 1) := dk_42 (dk_at dksX8_restore_0 9 rfl rfl)
theorem dX8_restore_10 : decode cX8_restore 10 = .ok (.getfield 167, 3) := dk_180 0 167 (dk_at dksX8_restore_0 10 rfl rfl)
theorem dX8_restore_13 : decode cX8_restore 13 = .ok (.iload_n 1, 1) := dk_27 (dk_at dksX8_restore_0 13 rfl rfl)
theorem dX8_restore_14 : decode cX8_restore 14 = .ok (.baload, 1) := dk_51 (dk_at dksX8_restore_0 14 rfl rfl)
theorem dX8_restore_15 : decode cX8_restore 15 = .ok (.ifCond .ne 5, 3) := dk_154 0 5 (dk_at dksX8_restore_0 15 rfl rfl)
theorem dX8_restore_18 : decode cX8_restore 18 = .ok (.iconst 0, 1) := dk_3 (dk_at dksX8_restore_0 18 rfl rfl)
theorem dX8_restore_19 : decode cX8_restore 19 = .ok (.ireturn, 1) := dk_172 (dk_at dksX8_restore_0 19 rfl rfl)
theorem dX8_restore_20 : decode cX8_restore 20 = .ok (.aload_n 0, 1) := dk_42 (dk_at dksX8_restore_0 20 rfl rfl)
theorem dX8_restore_21 : decode cX8_restore 21 = .ok (.aload_n 0, 1) := dk_42 (dk_at dksX8_restore_0 21 rfl rfl)
theorem dX8_restore_22 : decode cX8_restore 22 = .ok (.getfield 173, 3) := dk_180 0 173 (dk_at dksX8_restore_1 0 rfl rfl)
theorem dX8_restore_25 : decode cX8_restore 25 = .ok (.bipush 17, 2) := dk_16 17 (dk_at dksX8_restore_1 3 rfl rfl)
theorem dX8_restore_27 : decode cX8_restore 27 = .ok (.iload_n 1, 1) := dk_27 (dk_at dksX8_restore_1 5 rfl rfl)
theorem dX8_restore_28 : decode cX8_restore 28 = .ok (.imul, 1) := dk_104 (dk_at dksX8_restore_1 6 rfl rfl)
theorem dX8_restore_29 : decode cX8_restore 29 = .ok (.iaload, 1) := dk_46 (dk_at dksX8_restore_1 7 rfl rfl)
theorem dX8_restore_30 : decode cX8_restore 30 = .ok (.putfield 345, 3) := dk_181 1 89 (dk_at dksX8_restore_1 8 rfl rfl)
theorem dX8_restore_33 : decode cX8_restore 33 = .ok (.iconst 0, 1) := dk_3 (dk_at dksX8_restore_1 11 rfl rfl)
theorem dX8_restore_34 : decode cX8_restore 34 = .ok (.istore_n 2, 1) := dk_61 (dk_at dksX8_restore_1 12 rfl rfl)
theorem dX8_restore_35 : decode cX8_restore 35 = .ok (.iload_n 2, 1) := dk_28 (dk_at dksX8_restore_1 13 rfl rfl)
theorem dX8_restore_36 : decode cX8_restore 36 = .ok (.bipush 36, 2) := dk_16 36 (dk_at dksX8_restore_1 14 rfl rfl)
theorem dX8_restore_38 : decode cX8_restore 38 = .ok (.aload_n 0, 1) := dk_42 (dk_at dksX8_restore_1 16 rfl rfl)
theorem dX8_restore_39 : decode cX8_restore 39 = .ok (.getfield 345, 3) := dk_180 1 89 (dk_at dksX8_restore_1 17 rfl rfl)
theorem dX8_restore_42 : decode cX8_restore 42 = .ok (.imul, 1) := dk_104 (dk_at dksX8_restore_1 20 rfl rfl)
theorem dX8_restore_43 : decode cX8_restore 43 = .ok (.bipush 36, 2) := dk_16 36 (dk_at dksX8_restore_1 21 rfl rfl)
theorem dX8_restore_45 : decode cX8_restore 45 = .ok (.iadd, 1) := dk_96 (dk_at dksX8_restore_1 23 rfl rfl)
theorem dX8_restore_46 : decode cX8_restore 46 = .ok (.if_icmp .ge 27, 3) := dk_162 0 27 (dk_at dksX8_restore_2 0 rfl rfl)
theorem dX8_restore_49 : decode cX8_restore 49 = .ok (.aload_n 0, 1) := dk_42 (dk_at dksX8_restore_2 3 rfl rfl)
theorem dX8_restore_50 : decode cX8_restore 50 = .ok (.getfield 122, 3) := dk_180 0 122 (dk_at dksX8_restore_2 4 rfl rfl)
theorem dX8_restore_53 : decode cX8_restore 53 = .ok (.iload_n 2, 1) := dk_28 (dk_at dksX8_restore_2 7 rfl rfl)
theorem dX8_restore_54 : decode cX8_restore 54 = .ok (.aload_n 0, 1) := dk_42 (dk_at dksX8_restore_2 8 rfl rfl)
theorem dX8_restore_55 : decode cX8_restore 55 = .ok (.getfield 170, 3) := dk_180 0 170 (dk_at dksX8_restore_2 9 rfl rfl)
theorem dX8_restore_58 : decode cX8_restore 58 = .ok (.sipush 10800, 3) := dk_17 42 48 (dk_at dksX8_restore_2 12 rfl rfl)
theorem dX8_restore_61 : decode cX8_restore 61 = .ok (.iload_n 1, 1) := dk_27 (dk_at dksX8_restore_2 15 rfl rfl)
theorem dX8_restore_62 : decode cX8_restore 62 = .ok (.imul, 1) := dk_104 (dk_at dksX8_restore_2 16 rfl rfl)
theorem dX8_restore_63 : decode cX8_restore 63 = .ok (.iload_n 2, 1) := dk_28 (dk_at dksX8_restore_2 17 rfl rfl)
theorem dX8_restore_64 : decode cX8_restore 64 = .ok (.iadd, 1) := dk_96 (dk_at dksX8_restore_2 18 rfl rfl)
theorem dX8_restore_65 : decode cX8_restore 65 = .ok (.iaload, 1) := dk_46 (dk_at dksX8_restore_2 19 rfl rfl)
theorem dX8_restore_66 : decode cX8_restore 66 = .ok (.iastore, 1) := dk_79 (dk_at dksX8_restore_2 20 rfl rfl)
theorem dX8_restore_67 : decode cX8_restore 67 = .ok (.iinc 2 1, 3) := dk_132 2 1 (dk_at dksX8_restore_2 21 rfl rfl)
theorem dX8_restore_70 : decode cX8_restore 70 = .ok (.goto (-35), 3) := dk_167 255 221 (dk_at dksX8_restore_3 0 rfl rfl)
theorem dX8_restore_73 : decode cX8_restore 73 = .ok (.iconst 0, 1) := dk_3 (dk_at dksX8_restore_3 3 rfl rfl)
theorem dX8_restore_74 : decode cX8_restore 74 = .ok (.istore_n 2, 1) := dk_61 (dk_at dksX8_restore_3 4 rfl rfl)
theorem dX8_restore_75 : decode cX8_restore 75 = .ok (.iload_n 2, 1) := dk_28 (dk_at dksX8_restore_3 5 rfl rfl)
theorem dX8_restore_76 : decode cX8_restore 76 = .ok (.bipush 8, 2) := dk_16 8 (dk_at dksX8_restore_3 6 rfl rfl)
theorem dX8_restore_78 : decode cX8_restore 78 = .ok (.if_icmp .ge 48, 3) := dk_162 0 48 (dk_at dksX8_restore_3 8 rfl rfl)
theorem dX8_restore_81 : decode cX8_restore 81 = .ok (.aload_n 0, 1) := dk_42 (dk_at dksX8_restore_3 11 rfl rfl)
theorem dX8_restore_82 : decode cX8_restore 82 = .ok (.getfield 125, 3) := dk_180 0 125 (dk_at dksX8_restore_3 12 rfl rfl)
theorem dX8_restore_85 : decode cX8_restore 85 = .ok (.iload_n 2, 1) := dk_28 (dk_at dksX8_restore_3 15 rfl rfl)
theorem dX8_restore_86 : decode cX8_restore 86 = .ok (.aload_n 0, 1) := dk_42 (dk_at dksX8_restore_3 16 rfl rfl)
theorem dX8_restore_87 : decode cX8_restore 87 = .ok (.getfield 173, 3) := dk_180 0 173 (dk_at dksX8_restore_3 17 rfl rfl)
theorem dX8_restore_90 : decode cX8_restore 90 = .ok (.bipush 17, 2) := dk_16 17 (dk_at dksX8_restore_3 20 rfl rfl)
theorem dX8_restore_92 : decode cX8_restore 92 = .ok (.iload_n 1, 1) := dk_27 (dk_at dksX8_restore_3 22 rfl rfl)
theorem dX8_restore_93 : decode cX8_restore 93 = .ok (.imul, 1) := dk_104 (dk_at dksX8_restore_3 23 rfl rfl)
theorem dX8_restore_94 : decode cX8_restore 94 = .ok (.iconst 1, 1) := dk_4 (dk_at dksX8_restore_4 0 rfl rfl)
theorem dX8_restore_95 : decode cX8_restore 95 = .ok (.iadd, 1) := dk_96 (dk_at dksX8_restore_4 1 rfl rfl)
theorem dX8_restore_96 : decode cX8_restore 96 = .ok (.iload_n 2, 1) := dk_28 (dk_at dksX8_restore_4 2 rfl rfl)
theorem dX8_restore_97 : decode cX8_restore 97 = .ok (.iadd, 1) := dk_96 (dk_at dksX8_restore_4 3 rfl rfl)
theorem dX8_restore_98 : decode cX8_restore 98 = .ok (.iaload, 1) := dk_46 (dk_at dksX8_restore_4 4 rfl rfl)
theorem dX8_restore_99 : decode cX8_restore 99 = .ok (.iastore, 1) := dk_79 (dk_at dksX8_restore_4 5 rfl rfl)
theorem dX8_restore_100 : decode cX8_restore 100 = .ok (.aload_n 0, 1) := dk_42 (dk_at dksX8_restore_4 6 rfl rfl)
theorem dX8_restore_101 : decode cX8_restore 101 = .ok (.getfield 128, 3) := dk_180 0 128 (dk_at dksX8_restore_4 7 rfl rfl)
theorem dX8_restore_104 : decode cX8_restore 104 = .ok (.iload_n 2, 1) := dk_28 (dk_at dksX8_restore_4 10 rfl rfl)
theorem dX8_restore_105 : decode cX8_restore 105 = .ok (.aload_n 0, 1) := dk_42 (dk_at dksX8_restore_4 11 rfl rfl)
theorem dX8_restore_106 : decode cX8_restore 106 = .ok (.getfield 173, 3) := dk_180 0 173 (dk_at dksX8_restore_4 12 rfl rfl)
theorem dX8_restore_109 : decode cX8_restore 109 = .ok (.bipush 17, 2) := dk_16 17 (dk_at dksX8_restore_4 15 rfl rfl)
theorem dX8_restore_111 : decode cX8_restore 111 = .ok (.iload_n 1, 1) := dk_27 (dk_at dksX8_restore_4 17 rfl rfl)
theorem dX8_restore_112 : decode cX8_restore 112 = .ok (.imul, 1) := dk_104 (dk_at dksX8_restore_4 18 rfl rfl)
theorem dX8_restore_113 : decode cX8_restore 113 = .ok (.bipush 9, 2) := dk_16 9 (dk_at dksX8_restore_4 19 rfl rfl)
theorem dX8_restore_115 : decode cX8_restore 115 = .ok (.iadd, 1) := dk_96 (dk_at dksX8_restore_4 21 rfl rfl)
theorem dX8_restore_116 : decode cX8_restore 116 = .ok (.iload_n 2, 1) := dk_28 (dk_at dksX8_restore_4 22 rfl rfl)
theorem dX8_restore_117 : decode cX8_restore 117 = .ok (.iadd, 1) := dk_96 (dk_at dksX8_restore_4 23 rfl rfl)
theorem dX8_restore_118 : decode cX8_restore 118 = .ok (.iaload, 1) := dk_46 (dk_at dksX8_restore_5 0 rfl rfl)
theorem dX8_restore_119 : decode cX8_restore 119 = .ok (.iastore, 1) := dk_79 (dk_at dksX8_restore_5 1 rfl rfl)
theorem dX8_restore_120 : decode cX8_restore 120 = .ok (.iinc 2 1, 3) := dk_132 2 1 (dk_at dksX8_restore_5 2 rfl rfl)
theorem dX8_restore_123 : decode cX8_restore 123 = .ok (.goto (-48), 3) := dk_167 255 208 (dk_at dksX8_restore_5 5 rfl rfl)
theorem dX8_restore_126 : decode cX8_restore 126 = .ok (.aload_n 0, 1) := dk_42 (dk_at dksX8_restore_5 8 rfl rfl)
theorem dX8_restore_127 : decode cX8_restore 127 = .ok (.iconst 0, 1) := dk_3 (dk_at dksX8_restore_5 9 rfl rfl)
theorem dX8_restore_128 : decode cX8_restore 128 = .ok (.putfield 275, 3) := dk_181 1 19 (dk_at dksX8_restore_5 10 rfl rfl)
theorem dX8_restore_131 : decode cX8_restore 131 = .ok (.iconst 1, 1) := dk_4 (dk_at dksX8_restore_5 13 rfl rfl)
theorem dX8_restore_132 : decode cX8_restore 132 = .ok (.ireturn, 1) := dk_172 (dk_at dksX8_restore_5 14 rfl rfl)
abbrev cX8_count : ByteArray := prog_19_method_121_code
def yX8_count : MethodName := ⟨RX8, "count", "(I)I"⟩
def dkwX8_count_8 : List UInt8 := [4, 167, 0, 4, 3, 96, 42, 180, 0, 167, 5, 51, 153, 0, 7, 4, 167, 0, 4, 3, 96, 172, 2, 172]
abbrev dktX8_count_8 : List UInt8 := dkwX8_count_8 ++ []
def dkwX8_count_7 : List UInt8 := [172, 42, 180, 0, 167, 3, 51, 153, 0, 7, 4, 167, 0, 4, 3, 42, 180, 0, 167, 4, 51, 153, 0, 7]
abbrev dktX8_count_7 : List UInt8 := dkwX8_count_7 ++ dktX8_count_8
def dkwX8_count_6 : List UInt8 := [128, 61, 132, 3, 1, 167, 255, 204, 28, 172, 42, 180, 0, 190, 172, 42, 180, 1, 19, 172, 42, 180, 1, 22]
abbrev dktX8_count_6 : List UInt8 := dkwX8_count_6 ++ dktX8_count_7
def dkwX8_count_5 : List UInt8 := [46, 2, 159, 0, 24, 167, 0, 15, 42, 16, 20, 29, 96, 182, 1, 175, 4, 160, 0, 9, 28, 4, 29, 120]
abbrev dktX8_count_5 : List UInt8 := dkwX8_count_5 ++ dktX8_count_6
def dkwX8_count_4 : List UInt8 := [62, 29, 42, 180, 0, 70, 42, 180, 1, 1, 46, 162, 0, 45, 27, 8, 160, 0, 16, 42, 180, 0, 125, 29]
abbrev dktX8_count_4 : List UInt8 := dkwX8_count_4 ++ dktX8_count_5
def dkwX8_count_3 : List UInt8 := [42, 180, 1, 1, 46, 172, 42, 180, 0, 70, 42, 180, 1, 1, 46, 172, 42, 180, 1, 89, 172, 3, 61, 3]
abbrev dktX8_count_3 : List UInt8 := dkwX8_count_3 ++ dktX8_count_4
def dkwX8_count_2 : List UInt8 := [42, 180, 0, 49, 42, 180, 1, 1, 46, 172, 42, 180, 0, 52, 42, 180, 1, 1, 46, 172, 42, 180, 0, 61]
abbrev dktX8_count_2 : List UInt8 := dkwX8_count_2 ++ dktX8_count_3
def dkwX8_count_1 : List UInt8 := [170, 0, 0, 0, 0, 0, 225, 0, 0, 0, 0, 0, 0, 0, 10, 0, 0, 0, 59, 0, 0, 0, 69, 0, 0, 0, 79, 0, 0, 0, 89, 0, 0, 0, 99, 0, 0, 0, 104, 0, 0, 0, 104, 0, 0, 0, 165, 0, 0, 0, 170, 0, 0, 0, 175, 0, 0, 0, 180]
abbrev dktX8_count_1 : List UInt8 := dkwX8_count_1 ++ dktX8_count_2
def dkwX8_count_0 : List UInt8 := [27]
abbrev dktX8_count_0 : List UInt8 := dkwX8_count_0 ++ dktX8_count_1
theorem dksX8_count_0 : cX8_count.data.toList.drop 0 = dktX8_count_0 := by decide +kernel
theorem dksX8_count_1 : cX8_count.data.toList.drop 1 = dktX8_count_1 := dk_seg dksX8_count_0 1 rfl rfl
theorem dksX8_count_2 : cX8_count.data.toList.drop 60 = dktX8_count_2 := dk_seg dksX8_count_1 59 rfl rfl
theorem dksX8_count_3 : cX8_count.data.toList.drop 84 = dktX8_count_3 := dk_seg dksX8_count_2 24 rfl rfl
theorem dksX8_count_4 : cX8_count.data.toList.drop 108 = dktX8_count_4 := dk_seg dksX8_count_3 24 rfl rfl
theorem dksX8_count_5 : cX8_count.data.toList.drop 132 = dktX8_count_5 := dk_seg dksX8_count_4 24 rfl rfl
theorem dksX8_count_6 : cX8_count.data.toList.drop 156 = dktX8_count_6 := dk_seg dksX8_count_5 24 rfl rfl
theorem dksX8_count_7 : cX8_count.data.toList.drop 180 = dktX8_count_7 := dk_seg dksX8_count_6 24 rfl rfl
theorem dksX8_count_8 : cX8_count.data.toList.drop 204 = dktX8_count_8 := dk_seg dksX8_count_7 24 rfl rfl
theorem dX8_count_0 : decode cX8_count 0 = .ok (.iload_n 1, 1) := dk_27 (dk_at dksX8_count_0 0 rfl rfl)
theorem dX8_count_1 : decode cX8_count 1 = .ok (.tableswitch 225 0 10 #[59, 69, 79, 89, 99, 104, 104, 165, 170, 175, 180], 59) := by decide +kernel
theorem dX8_count_60 : decode cX8_count 60 = .ok (.aload_n 0, 1) := dk_42 (dk_at dksX8_count_2 0 rfl rfl)
theorem dX8_count_61 : decode cX8_count 61 = .ok (.getfield 49, 3) := dk_180 0 49 (dk_at dksX8_count_2 1 rfl rfl)
theorem dX8_count_64 : decode cX8_count 64 = .ok (.aload_n 0, 1) := dk_42 (dk_at dksX8_count_2 4 rfl rfl)
theorem dX8_count_65 : decode cX8_count 65 = .ok (.getfield 257, 3) := dk_180 1 1 (dk_at dksX8_count_2 5 rfl rfl)
theorem dX8_count_68 : decode cX8_count 68 = .ok (.iaload, 1) := dk_46 (dk_at dksX8_count_2 8 rfl rfl)
theorem dX8_count_69 : decode cX8_count 69 = .ok (.ireturn, 1) := dk_172 (dk_at dksX8_count_2 9 rfl rfl)
theorem dX8_count_70 : decode cX8_count 70 = .ok (.aload_n 0, 1) := dk_42 (dk_at dksX8_count_2 10 rfl rfl)
theorem dX8_count_71 : decode cX8_count 71 = .ok (.getfield 52, 3) := dk_180 0 52 (dk_at dksX8_count_2 11 rfl rfl)
theorem dX8_count_74 : decode cX8_count 74 = .ok (.aload_n 0, 1) := dk_42 (dk_at dksX8_count_2 14 rfl rfl)
theorem dX8_count_75 : decode cX8_count 75 = .ok (.getfield 257, 3) := dk_180 1 1 (dk_at dksX8_count_2 15 rfl rfl)
theorem dX8_count_78 : decode cX8_count 78 = .ok (.iaload, 1) := dk_46 (dk_at dksX8_count_2 18 rfl rfl)
theorem dX8_count_79 : decode cX8_count 79 = .ok (.ireturn, 1) := dk_172 (dk_at dksX8_count_2 19 rfl rfl)
theorem dX8_count_80 : decode cX8_count 80 = .ok (.aload_n 0, 1) := dk_42 (dk_at dksX8_count_2 20 rfl rfl)
theorem dX8_count_81 : decode cX8_count 81 = .ok (.getfield 61, 3) := dk_180 0 61 (dk_at dksX8_count_2 21 rfl rfl)
theorem dX8_count_84 : decode cX8_count 84 = .ok (.aload_n 0, 1) := dk_42 (dk_at dksX8_count_3 0 rfl rfl)
theorem dX8_count_85 : decode cX8_count 85 = .ok (.getfield 257, 3) := dk_180 1 1 (dk_at dksX8_count_3 1 rfl rfl)
theorem dX8_count_88 : decode cX8_count 88 = .ok (.iaload, 1) := dk_46 (dk_at dksX8_count_3 4 rfl rfl)
theorem dX8_count_89 : decode cX8_count 89 = .ok (.ireturn, 1) := dk_172 (dk_at dksX8_count_3 5 rfl rfl)
theorem dX8_count_90 : decode cX8_count 90 = .ok (.aload_n 0, 1) := dk_42 (dk_at dksX8_count_3 6 rfl rfl)
theorem dX8_count_91 : decode cX8_count 91 = .ok (.getfield 70, 3) := dk_180 0 70 (dk_at dksX8_count_3 7 rfl rfl)
theorem dX8_count_94 : decode cX8_count 94 = .ok (.aload_n 0, 1) := dk_42 (dk_at dksX8_count_3 10 rfl rfl)
theorem dX8_count_95 : decode cX8_count 95 = .ok (.getfield 257, 3) := dk_180 1 1 (dk_at dksX8_count_3 11 rfl rfl)
theorem dX8_count_98 : decode cX8_count 98 = .ok (.iaload, 1) := dk_46 (dk_at dksX8_count_3 14 rfl rfl)
theorem dX8_count_99 : decode cX8_count 99 = .ok (.ireturn, 1) := dk_172 (dk_at dksX8_count_3 15 rfl rfl)
theorem dX8_count_100 : decode cX8_count 100 = .ok (.aload_n 0, 1) := dk_42 (dk_at dksX8_count_3 16 rfl rfl)
theorem dX8_count_101 : decode cX8_count 101 = .ok (.getfield 345, 3) := dk_180 1 89 (dk_at dksX8_count_3 17 rfl rfl)
theorem dX8_count_104 : decode cX8_count 104 = .ok (.ireturn, 1) := dk_172 (dk_at dksX8_count_3 20 rfl rfl)
theorem dX8_count_105 : decode cX8_count 105 = .ok (.iconst 0, 1) := dk_3 (dk_at dksX8_count_3 21 rfl rfl)
theorem dX8_count_106 : decode cX8_count 106 = .ok (.istore_n 2, 1) := dk_61 (dk_at dksX8_count_3 22 rfl rfl)
theorem dX8_count_107 : decode cX8_count 107 = .ok (.iconst 0, 1) := dk_3 (dk_at dksX8_count_3 23 rfl rfl)
theorem dX8_count_108 : decode cX8_count 108 = .ok (.istore_n 3, 1) := dk_62 (dk_at dksX8_count_4 0 rfl rfl)
theorem dX8_count_109 : decode cX8_count 109 = .ok (.iload_n 3, 1) := dk_29 (dk_at dksX8_count_4 1 rfl rfl)
theorem dX8_count_110 : decode cX8_count 110 = .ok (.aload_n 0, 1) := dk_42 (dk_at dksX8_count_4 2 rfl rfl)
theorem dX8_count_111 : decode cX8_count 111 = .ok (.getfield 70, 3) := dk_180 0 70 (dk_at dksX8_count_4 3 rfl rfl)
theorem dX8_count_114 : decode cX8_count 114 = .ok (.aload_n 0, 1) := dk_42 (dk_at dksX8_count_4 6 rfl rfl)
theorem dX8_count_115 : decode cX8_count 115 = .ok (.getfield 257, 3) := dk_180 1 1 (dk_at dksX8_count_4 7 rfl rfl)
theorem dX8_count_118 : decode cX8_count 118 = .ok (.iaload, 1) := dk_46 (dk_at dksX8_count_4 10 rfl rfl)
theorem dX8_count_119 : decode cX8_count 119 = .ok (.if_icmp .ge 45, 3) := dk_162 0 45 (dk_at dksX8_count_4 11 rfl rfl)
theorem dX8_count_122 : decode cX8_count 122 = .ok (.iload_n 1, 1) := dk_27 (dk_at dksX8_count_4 14 rfl rfl)
theorem dX8_count_123 : decode cX8_count 123 = .ok (.iconst 5, 1) := dk_8 (dk_at dksX8_count_4 15 rfl rfl)
theorem dX8_count_124 : decode cX8_count 124 = .ok (.if_icmp .ne 16, 3) := dk_160 0 16 (dk_at dksX8_count_4 16 rfl rfl)
theorem dX8_count_127 : decode cX8_count 127 = .ok (.aload_n 0, 1) := dk_42 (dk_at dksX8_count_4 19 rfl rfl)
theorem dX8_count_128 : decode cX8_count 128 = .ok (.getfield 125, 3) := dk_180 0 125 (dk_at dksX8_count_4 20 rfl rfl)
theorem dX8_count_131 : decode cX8_count 131 = .ok (.iload_n 3, 1) := dk_29 (dk_at dksX8_count_4 23 rfl rfl)
theorem dX8_count_132 : decode cX8_count 132 = .ok (.iaload, 1) := dk_46 (dk_at dksX8_count_5 0 rfl rfl)
theorem dX8_count_133 : decode cX8_count 133 = .ok (.iconst (-1), 1) := dk_2 (dk_at dksX8_count_5 1 rfl rfl)
theorem dX8_count_134 : decode cX8_count 134 = .ok (.if_icmp .eq 24, 3) := dk_159 0 24 (dk_at dksX8_count_5 2 rfl rfl)
theorem dX8_count_137 : decode cX8_count 137 = .ok (.goto 15, 3) := dk_167 0 15 (dk_at dksX8_count_5 5 rfl rfl)
theorem dX8_count_140 : decode cX8_count 140 = .ok (.aload_n 0, 1) := dk_42 (dk_at dksX8_count_5 8 rfl rfl)
theorem dX8_count_141 : decode cX8_count 141 = .ok (.bipush 20, 2) := dk_16 20 (dk_at dksX8_count_5 9 rfl rfl)
theorem dX8_count_143 : decode cX8_count 143 = .ok (.iload_n 3, 1) := dk_29 (dk_at dksX8_count_5 11 rfl rfl)
theorem dX8_count_144 : decode cX8_count 144 = .ok (.iadd, 1) := dk_96 (dk_at dksX8_count_5 12 rfl rfl)
theorem dX8_count_145 : decode cX8_count 145 = .ok (.invokevirtual 431, 3) := dk_182 1 175 (dk_at dksX8_count_5 13 rfl rfl)
theorem dX8_count_148 : decode cX8_count 148 = .ok (.iconst 1, 1) := dk_4 (dk_at dksX8_count_5 16 rfl rfl)
theorem dX8_count_149 : decode cX8_count 149 = .ok (.if_icmp .ne 9, 3) := dk_160 0 9 (dk_at dksX8_count_5 17 rfl rfl)
theorem dX8_count_152 : decode cX8_count 152 = .ok (.iload_n 2, 1) := dk_28 (dk_at dksX8_count_5 20 rfl rfl)
theorem dX8_count_153 : decode cX8_count 153 = .ok (.iconst 1, 1) := dk_4 (dk_at dksX8_count_5 21 rfl rfl)
theorem dX8_count_154 : decode cX8_count 154 = .ok (.iload_n 3, 1) := dk_29 (dk_at dksX8_count_5 22 rfl rfl)
theorem dX8_count_155 : decode cX8_count 155 = .ok (.ishl, 1) := dk_120 (dk_at dksX8_count_5 23 rfl rfl)
theorem dX8_count_156 : decode cX8_count 156 = .ok (.ior, 1) := dk_128 (dk_at dksX8_count_6 0 rfl rfl)
theorem dX8_count_157 : decode cX8_count 157 = .ok (.istore_n 2, 1) := dk_61 (dk_at dksX8_count_6 1 rfl rfl)
theorem dX8_count_158 : decode cX8_count 158 = .ok (.iinc 3 1, 3) := dk_132 3 1 (dk_at dksX8_count_6 2 rfl rfl)
theorem dX8_count_161 : decode cX8_count 161 = .ok (.goto (-52), 3) := dk_167 255 204 (dk_at dksX8_count_6 5 rfl rfl)
theorem dX8_count_164 : decode cX8_count 164 = .ok (.iload_n 2, 1) := dk_28 (dk_at dksX8_count_6 8 rfl rfl)
theorem dX8_count_165 : decode cX8_count 165 = .ok (.ireturn, 1) := dk_172 (dk_at dksX8_count_6 9 rfl rfl)
theorem dX8_count_166 : decode cX8_count 166 = .ok (.aload_n 0, 1) := dk_42 (dk_at dksX8_count_6 10 rfl rfl)
theorem dX8_count_167 : decode cX8_count 167 = .ok (.getfield 190, 3) := dk_180 0 190 (dk_at dksX8_count_6 11 rfl rfl)
theorem dX8_count_170 : decode cX8_count 170 = .ok (.ireturn, 1) := dk_172 (dk_at dksX8_count_6 14 rfl rfl)
theorem dX8_count_171 : decode cX8_count 171 = .ok (.aload_n 0, 1) := dk_42 (dk_at dksX8_count_6 15 rfl rfl)
theorem dX8_count_172 : decode cX8_count 172 = .ok (.getfield 275, 3) := dk_180 1 19 (dk_at dksX8_count_6 16 rfl rfl)
theorem dX8_count_175 : decode cX8_count 175 = .ok (.ireturn, 1) := dk_172 (dk_at dksX8_count_6 19 rfl rfl)
theorem dX8_count_176 : decode cX8_count 176 = .ok (.aload_n 0, 1) := dk_42 (dk_at dksX8_count_6 20 rfl rfl)
theorem dX8_count_177 : decode cX8_count 177 = .ok (.getfield 278, 3) := dk_180 1 22 (dk_at dksX8_count_6 21 rfl rfl)
theorem dX8_count_180 : decode cX8_count 180 = .ok (.ireturn, 1) := dk_172 (dk_at dksX8_count_7 0 rfl rfl)
theorem dX8_count_181 : decode cX8_count 181 = .ok (.aload_n 0, 1) := dk_42 (dk_at dksX8_count_7 1 rfl rfl)
theorem dX8_count_182 : decode cX8_count 182 = .ok (.getfield 167, 3) := dk_180 0 167 (dk_at dksX8_count_7 2 rfl rfl)
theorem dX8_count_185 : decode cX8_count 185 = .ok (.iconst 0, 1) := dk_3 (dk_at dksX8_count_7 5 rfl rfl)
theorem dX8_count_186 : decode cX8_count 186 = .ok (.baload, 1) := dk_51 (dk_at dksX8_count_7 6 rfl rfl)
theorem dX8_count_187 : decode cX8_count 187 = .ok (.ifCond .eq 7, 3) := dk_153 0 7 (dk_at dksX8_count_7 7 rfl rfl)
theorem dX8_count_190 : decode cX8_count 190 = .ok (.iconst 1, 1) := dk_4 (dk_at dksX8_count_7 10 rfl rfl)
theorem dX8_count_191 : decode cX8_count 191 = .ok (.goto 4, 3) := dk_167 0 4 (dk_at dksX8_count_7 11 rfl rfl)
theorem dX8_count_194 : decode cX8_count 194 = .ok (.iconst 0, 1) := dk_3 (dk_at dksX8_count_7 14 rfl rfl)
theorem dX8_count_195 : decode cX8_count 195 = .ok (.aload_n 0, 1) := dk_42 (dk_at dksX8_count_7 15 rfl rfl)
theorem dX8_count_196 : decode cX8_count 196 = .ok (.getfield 167, 3) := dk_180 0 167 (dk_at dksX8_count_7 16 rfl rfl)
theorem dX8_count_199 : decode cX8_count 199 = .ok (.iconst 1, 1) := dk_4 (dk_at dksX8_count_7 19 rfl rfl)
theorem dX8_count_200 : decode cX8_count 200 = .ok (.baload, 1) := dk_51 (dk_at dksX8_count_7 20 rfl rfl)
theorem dX8_count_201 : decode cX8_count 201 = .ok (.ifCond .eq 7, 3) := dk_153 0 7 (dk_at dksX8_count_7 21 rfl rfl)
theorem dX8_count_204 : decode cX8_count 204 = .ok (.iconst 1, 1) := dk_4 (dk_at dksX8_count_8 0 rfl rfl)
theorem dX8_count_205 : decode cX8_count 205 = .ok (.goto 4, 3) := dk_167 0 4 (dk_at dksX8_count_8 1 rfl rfl)
theorem dX8_count_208 : decode cX8_count 208 = .ok (.iconst 0, 1) := dk_3 (dk_at dksX8_count_8 4 rfl rfl)
theorem dX8_count_209 : decode cX8_count 209 = .ok (.iadd, 1) := dk_96 (dk_at dksX8_count_8 5 rfl rfl)
theorem dX8_count_210 : decode cX8_count 210 = .ok (.aload_n 0, 1) := dk_42 (dk_at dksX8_count_8 6 rfl rfl)
theorem dX8_count_211 : decode cX8_count 211 = .ok (.getfield 167, 3) := dk_180 0 167 (dk_at dksX8_count_8 7 rfl rfl)
theorem dX8_count_214 : decode cX8_count 214 = .ok (.iconst 2, 1) := dk_5 (dk_at dksX8_count_8 10 rfl rfl)
theorem dX8_count_215 : decode cX8_count 215 = .ok (.baload, 1) := dk_51 (dk_at dksX8_count_8 11 rfl rfl)
theorem dX8_count_216 : decode cX8_count 216 = .ok (.ifCond .eq 7, 3) := dk_153 0 7 (dk_at dksX8_count_8 12 rfl rfl)
theorem dX8_count_219 : decode cX8_count 219 = .ok (.iconst 1, 1) := dk_4 (dk_at dksX8_count_8 15 rfl rfl)
theorem dX8_count_220 : decode cX8_count 220 = .ok (.goto 4, 3) := dk_167 0 4 (dk_at dksX8_count_8 16 rfl rfl)
theorem dX8_count_223 : decode cX8_count 223 = .ok (.iconst 0, 1) := dk_3 (dk_at dksX8_count_8 19 rfl rfl)
theorem dX8_count_224 : decode cX8_count 224 = .ok (.iadd, 1) := dk_96 (dk_at dksX8_count_8 20 rfl rfl)
theorem dX8_count_225 : decode cX8_count 225 = .ok (.ireturn, 1) := dk_172 (dk_at dksX8_count_8 21 rfl rfl)
theorem dX8_count_226 : decode cX8_count 226 = .ok (.iconst (-1), 1) := dk_2 (dk_at dksX8_count_8 22 rfl rfl)
theorem dX8_count_227 : decode cX8_count 227 = .ok (.ireturn, 1) := dk_172 (dk_at dksX8_count_8 23 rfl rfl)
theorem q139 : (Jvm.Cond.initialized "LateMirrorsModel") ∈ lw_all := lw_g (lw_at lw_m1 19 rfl) rfl
theorem q995 : (Jvm.Cond.selects "LateMirrorsModel" ({ cls := "java/lang/Object", name := "getClass", desc := "()Ljava/lang/Class;" } : Jvm.MethodName) ({ cls := "java/lang/Object", name := "getClass", desc := "()Ljava/lang/Class;" } : Jvm.MethodName)) ∈ lw_all := lw_g (lw_at lw_m4 155 rfl) rfl
theorem q1482 : (Jvm.Cond.instantiable "LateMirrorsModel" (75 : Nat)) ∈ lw_all := lw_g (lw_at lw_m6 162 rfl) rfl
theorem q1484 : (Jvm.Cond.instanceMethod ({ cls := "LateMirrorsModel", name := "<init>", desc := "()V" } : Jvm.MethodName)) ∈ lw_all := lw_g (lw_at lw_m6 164 rfl) rfl
theorem q1485 : (Jvm.Cond.code ({ cls := "LateMirrorsModel", name := "<init>", desc := "()V" } : Jvm.MethodName) prog_19_method_2_code (1 : Nat) (Option.none : Option Jvm.ClassFile.FieldType)) ∈ lw_all := lw_g (lw_at lw_m6 165 rfl) rfl
theorem q1486 : (Jvm.Cond.methodLink "LateMirrorsModel" (7 : Nat) ({ cls := "java/lang/Object", name := "<init>", desc := "()V" } : Jvm.MethodName)) ∈ lw_all := lw_g (lw_at lw_m6 166 rfl) rfl
theorem q1487 : (Jvm.Cond.methodLink "LateMirrorsModel" (176 : Nat) ({ cls := "LateMirrorsModel", name := "plain", desc := "(I)V" } : Jvm.MethodName)) ∈ lw_all := lw_g (lw_at lw_m6 167 rfl) rfl
theorem q1488 : (Jvm.Cond.privateMethod ({ cls := "LateMirrorsModel", name := "plain", desc := "(I)V" } : Jvm.MethodName)) ∈ lw_tbl := lw_at lw_m6 168 rfl
theorem q1489 : (Jvm.Cond.instanceMethod ({ cls := "LateMirrorsModel", name := "plain", desc := "(I)V" } : Jvm.MethodName)) ∈ lw_all := lw_g (lw_at lw_m6 169 rfl) rfl
theorem q1490 : (Jvm.Cond.code ({ cls := "LateMirrorsModel", name := "plain", desc := "(I)V" } : Jvm.MethodName) prog_19_method_19_code (3 : Nat) (Option.none : Option Jvm.ClassFile.FieldType)) ∈ lw_all := lw_g (lw_at lw_m6 170 rfl) rfl
theorem q1491 : (Jvm.Cond.methodLink "LateMirrorsModel" (180 : Nat) ({ cls := "LateMirrorsModel", name := "word", desc := "(IIIIIII)J" } : Jvm.MethodName)) ∈ lw_all := lw_g (lw_at lw_m6 171 rfl) rfl
theorem q1492 : (Jvm.Cond.static ({ cls := "LateMirrorsModel", name := "word", desc := "(IIIIIII)J" } : Jvm.MethodName)) ∈ lw_all := lw_g (lw_at lw_m6 172 rfl) rfl
theorem q1493 : (Jvm.Cond.code ({ cls := "LateMirrorsModel", name := "word", desc := "(IIIIIII)J" } : Jvm.MethodName) prog_19_method_10_code (7 : Nat) (Option.some Jvm.ClassFile.FieldType.long)) ∈ lw_all := lw_g (lw_at lw_m6 173 rfl) rfl
theorem q1494 : (Jvm.Cond.methodLink "LateMirrorsModel" (201 : Nat) ({ cls := "LateMirrorsModel", name := "appends", desc := "(JI)J" } : Jvm.MethodName)) ∈ lw_all := lw_g (lw_at lw_m6 174 rfl) rfl
theorem q1495 : (Jvm.Cond.static ({ cls := "LateMirrorsModel", name := "appends", desc := "(JI)J" } : Jvm.MethodName)) ∈ lw_all := lw_g (lw_at lw_m6 175 rfl) rfl
theorem q1496 : (Jvm.Cond.code ({ cls := "LateMirrorsModel", name := "appends", desc := "(JI)J" } : Jvm.MethodName) prog_19_method_9_code (3 : Nat) (Option.some Jvm.ClassFile.FieldType.long)) ∈ lw_all := lw_g (lw_at lw_m6 176 rfl) rfl
theorem q1497 : (Jvm.Cond.constantLong "LateMirrorsModel" (199 : Nat) (27 : Int64)) ∈ lw_all := lw_g (lw_at lw_m6 177 rfl) rfl
theorem q1498 : (Jvm.Cond.methodLink "LateMirrorsModel" (184 : Nat) ({ cls := "LateMirrorsModel", name := "begins", desc := "()V" } : Jvm.MethodName)) ∈ lw_all := lw_g (lw_at lw_m6 178 rfl) rfl
theorem q1499 : (Jvm.Cond.privateMethod ({ cls := "LateMirrorsModel", name := "begins", desc := "()V" } : Jvm.MethodName)) ∈ lw_tbl := lw_at lw_m6 179 rfl
theorem q1500 : (Jvm.Cond.instanceMethod ({ cls := "LateMirrorsModel", name := "begins", desc := "()V" } : Jvm.MethodName)) ∈ lw_all := lw_g (lw_at lw_m6 180 rfl) rfl
theorem q1501 : (Jvm.Cond.code ({ cls := "LateMirrorsModel", name := "begins", desc := "()V" } : Jvm.MethodName) prog_19_method_44_code (1 : Nat) (Option.none : Option Jvm.ClassFile.FieldType)) ∈ lw_all := lw_g (lw_at lw_m6 181 rfl) rfl
theorem q1502 : (Jvm.Cond.methodLink "LateMirrorsModel" (357 : Nat) ({ cls := "LateMirrorsModel", name := "beginsWith", desc := "(II)V" } : Jvm.MethodName)) ∈ lw_all := lw_g (lw_at lw_m6 182 rfl) rfl
theorem q1503 : (Jvm.Cond.privateMethod ({ cls := "LateMirrorsModel", name := "beginsWith", desc := "(II)V" } : Jvm.MethodName)) ∈ lw_tbl := lw_at lw_m6 183 rfl
theorem q1504 : (Jvm.Cond.instanceMethod ({ cls := "LateMirrorsModel", name := "beginsWith", desc := "(II)V" } : Jvm.MethodName)) ∈ lw_all := lw_g (lw_at lw_m6 184 rfl) rfl
theorem q1505 : (Jvm.Cond.code ({ cls := "LateMirrorsModel", name := "beginsWith", desc := "(II)V" } : Jvm.MethodName) prog_19_method_43_code (4 : Nat) (Option.none : Option Jvm.ClassFile.FieldType)) ∈ lw_all := lw_g (lw_at lw_m6 185 rfl) rfl
theorem q1506 : (Jvm.Cond.methodLink "LateMirrorsModel" (354 : Nat) ({ cls := "LateMirrorsModel", name := "fillsLate", desc := "()V" } : Jvm.MethodName)) ∈ lw_all := lw_g (lw_at lw_m6 186 rfl) rfl
theorem q1507 : (Jvm.Cond.privateMethod ({ cls := "LateMirrorsModel", name := "fillsLate", desc := "()V" } : Jvm.MethodName)) ∈ lw_tbl := lw_at lw_m6 187 rfl
theorem q1508 : (Jvm.Cond.instanceMethod ({ cls := "LateMirrorsModel", name := "fillsLate", desc := "()V" } : Jvm.MethodName)) ∈ lw_all := lw_g (lw_at lw_m6 188 rfl) rfl
theorem q1509 : (Jvm.Cond.code ({ cls := "LateMirrorsModel", name := "fillsLate", desc := "()V" } : Jvm.MethodName) prog_19_method_54_code (2 : Nat) (Option.none : Option Jvm.ClassFile.FieldType)) ∈ lw_all := lw_g (lw_at lw_m6 189 rfl) rfl
theorem q1510 : (Jvm.Cond.methodLink "LateMirrorsModel" (375 : Nat) ({ cls := "LateMirrorsModel", name := "rankOfOwner", desc := "(I)I" } : Jvm.MethodName)) ∈ lw_all := lw_g (lw_at lw_m6 190 rfl) rfl
theorem q1511 : (Jvm.Cond.privateMethod ({ cls := "LateMirrorsModel", name := "rankOfOwner", desc := "(I)I" } : Jvm.MethodName)) ∈ lw_tbl := lw_at lw_m6 191 rfl
theorem q1512 : (Jvm.Cond.instanceMethod ({ cls := "LateMirrorsModel", name := "rankOfOwner", desc := "(I)I" } : Jvm.MethodName)) ∈ lw_all := lw_g (lw_at lw_m6 192 rfl) rfl
theorem q1513 : (Jvm.Cond.code ({ cls := "LateMirrorsModel", name := "rankOfOwner", desc := "(I)I" } : Jvm.MethodName) prog_19_method_53_code (2 : Nat) (Option.some Jvm.ClassFile.FieldType.int)) ∈ lw_all := lw_g (lw_at lw_m6 193 rfl) rfl
theorem q1514 : (Jvm.Cond.methodLink "LateMirrorsModel" (378 : Nat) ({ cls := "LateMirrorsModel", name := "lateBy", desc := "(II)I" } : Jvm.MethodName)) ∈ lw_all := lw_g (lw_at lw_m6 194 rfl) rfl
theorem q1515 : (Jvm.Cond.privateMethod ({ cls := "LateMirrorsModel", name := "lateBy", desc := "(II)I" } : Jvm.MethodName)) ∈ lw_tbl := lw_at lw_m6 195 rfl
theorem q1516 : (Jvm.Cond.instanceMethod ({ cls := "LateMirrorsModel", name := "lateBy", desc := "(II)I" } : Jvm.MethodName)) ∈ lw_all := lw_g (lw_at lw_m6 196 rfl) rfl
theorem q1517 : (Jvm.Cond.code ({ cls := "LateMirrorsModel", name := "lateBy", desc := "(II)I" } : Jvm.MethodName) prog_19_method_52_code (5 : Nat) (Option.some Jvm.ClassFile.FieldType.int)) ∈ lw_all := lw_g (lw_at lw_m6 197 rfl) rfl
theorem q1518 : (Jvm.Cond.methodLink "LateMirrorsModel" (363 : Nat) ({ cls := "LateMirrorsModel", name := "waysOf", desc := "(I)I" } : Jvm.MethodName)) ∈ lw_all := lw_g (lw_at lw_m6 198 rfl) rfl
theorem q1519 : (Jvm.Cond.privateMethod ({ cls := "LateMirrorsModel", name := "waysOf", desc := "(I)I" } : Jvm.MethodName)) ∈ lw_tbl := lw_at lw_m6 199 rfl
theorem q1520 : (Jvm.Cond.instanceMethod ({ cls := "LateMirrorsModel", name := "waysOf", desc := "(I)I" } : Jvm.MethodName)) ∈ lw_all := lw_g (lw_at lw_m6 200 rfl) rfl
theorem q1521 : (Jvm.Cond.code ({ cls := "LateMirrorsModel", name := "waysOf", desc := "(I)I" } : Jvm.MethodName) prog_19_method_49_code (4 : Nat) (Option.some Jvm.ClassFile.FieldType.int)) ∈ lw_all := lw_g (lw_at lw_m6 201 rfl) rfl
theorem q1522 : (Jvm.Cond.methodLink "LateMirrorsModel" (366 : Nat) ({ cls := "LateMirrorsModel", name := "menIn", desc := "(II)I" } : Jvm.MethodName)) ∈ lw_all := lw_g (lw_at lw_m6 202 rfl) rfl
theorem q1523 : (Jvm.Cond.privateMethod ({ cls := "LateMirrorsModel", name := "menIn", desc := "(II)I" } : Jvm.MethodName)) ∈ lw_tbl := lw_at lw_m6 203 rfl
theorem q1524 : (Jvm.Cond.instanceMethod ({ cls := "LateMirrorsModel", name := "menIn", desc := "(II)I" } : Jvm.MethodName)) ∈ lw_all := lw_g (lw_at lw_m6 204 rfl) rfl
theorem q1525 : (Jvm.Cond.code ({ cls := "LateMirrorsModel", name := "menIn", desc := "(II)I" } : Jvm.MethodName) prog_19_method_47_code (5 : Nat) (Option.some Jvm.ClassFile.FieldType.int)) ∈ lw_all := lw_g (lw_at lw_m6 205 rfl) rfl
theorem q1526 : (Jvm.Cond.methodLink "LateMirrorsModel" (369 : Nat) ({ cls := "LateMirrorsModel", name := "bits", desc := "(I)I" } : Jvm.MethodName)) ∈ lw_all := lw_g (lw_at lw_m6 206 rfl) rfl
theorem q1527 : (Jvm.Cond.static ({ cls := "LateMirrorsModel", name := "bits", desc := "(I)I" } : Jvm.MethodName)) ∈ lw_all := lw_g (lw_at lw_m6 207 rfl) rfl
theorem q1528 : (Jvm.Cond.code ({ cls := "LateMirrorsModel", name := "bits", desc := "(I)I" } : Jvm.MethodName) prog_19_method_48_code (3 : Nat) (Option.some Jvm.ClassFile.FieldType.int)) ∈ lw_all := lw_g (lw_at lw_m6 208 rfl) rfl
theorem q1529 : (Jvm.Cond.methodLink "LateMirrorsModel" (372 : Nat) ({ cls := "LateMirrorsModel", name := "tells", desc := "(II)I" } : Jvm.MethodName)) ∈ lw_all := lw_g (lw_at lw_m6 209 rfl) rfl
theorem q1530 : (Jvm.Cond.privateMethod ({ cls := "LateMirrorsModel", name := "tells", desc := "(II)I" } : Jvm.MethodName)) ∈ lw_tbl := lw_at lw_m6 210 rfl
theorem q1531 : (Jvm.Cond.instanceMethod ({ cls := "LateMirrorsModel", name := "tells", desc := "(II)I" } : Jvm.MethodName)) ∈ lw_all := lw_g (lw_at lw_m6 211 rfl) rfl
theorem q1532 : (Jvm.Cond.code ({ cls := "LateMirrorsModel", name := "tells", desc := "(II)I" } : Jvm.MethodName) prog_19_method_51_code (7 : Nat) (Option.some Jvm.ClassFile.FieldType.int)) ∈ lw_all := lw_g (lw_at lw_m6 212 rfl) rfl
theorem q1533 : (Jvm.Cond.methodLink "LateMirrorsModel" (360 : Nat) ({ cls := "LateMirrorsModel", name := "termOf", desc := "(II)I" } : Jvm.MethodName)) ∈ lw_all := lw_g (lw_at lw_m6 213 rfl) rfl
theorem q1534 : (Jvm.Cond.privateMethod ({ cls := "LateMirrorsModel", name := "termOf", desc := "(II)I" } : Jvm.MethodName)) ∈ lw_tbl := lw_at lw_m6 214 rfl
theorem q1535 : (Jvm.Cond.instanceMethod ({ cls := "LateMirrorsModel", name := "termOf", desc := "(II)I" } : Jvm.MethodName)) ∈ lw_all := lw_g (lw_at lw_m6 215 rfl) rfl
theorem q1536 : (Jvm.Cond.code ({ cls := "LateMirrorsModel", name := "termOf", desc := "(II)I" } : Jvm.MethodName) prog_19_method_37_code (8 : Nat) (Option.some Jvm.ClassFile.FieldType.int)) ∈ lw_all := lw_g (lw_at lw_m6 216 rfl) rfl
theorem q1537 : (Jvm.Cond.methodLink "LateMirrorsModel" (187 : Nat) ({ cls := "LateMirrorsModel", name := "keepsRows", desc := "(I)V" } : Jvm.MethodName)) ∈ lw_all := lw_g (lw_at lw_m6 217 rfl) rfl
theorem q1538 : (Jvm.Cond.privateMethod ({ cls := "LateMirrorsModel", name := "keepsRows", desc := "(I)V" } : Jvm.MethodName)) ∈ lw_tbl := lw_at lw_m6 218 rfl
theorem q1539 : (Jvm.Cond.instanceMethod ({ cls := "LateMirrorsModel", name := "keepsRows", desc := "(I)V" } : Jvm.MethodName)) ∈ lw_all := lw_g (lw_at lw_m6 219 rfl) rfl
theorem q1540 : (Jvm.Cond.code ({ cls := "LateMirrorsModel", name := "keepsRows", desc := "(I)V" } : Jvm.MethodName) prog_19_method_45_code (3 : Nat) (Option.none : Option Jvm.ClassFile.FieldType)) ∈ lw_all := lw_g (lw_at lw_m6 220 rfl) rfl
theorem q1541 : (Jvm.Cond.fieldLink "LateMirrorsModel" (13 : Nat) "LateMirrorsModel" "tape" "[B") ∈ lw_all := lw_g (lw_at lw_m6 221 rfl) rfl
theorem q1542 : (Jvm.Cond.fieldLink "LateMirrorsModel" (190 : Nat) "LateMirrorsModel" "taped" "I") ∈ lw_all := lw_g (lw_at lw_m6 222 rfl) rfl
theorem q1543 : (Jvm.Cond.fieldLink "LateMirrorsModel" (17 : Nat) "LateMirrorsModel" "text" "[B") ∈ lw_all := lw_g (lw_at lw_m6 223 rfl) rfl
theorem q1544 : (Jvm.Cond.fieldLink "LateMirrorsModel" (196 : Nat) "LateMirrorsModel" "size" "I") ∈ lw_all := lw_g (lw_at lw_m6 224 rfl) rfl
theorem q1545 : (Jvm.Cond.fieldLink "LateMirrorsModel" (20 : Nat) "LateMirrorsModel" "tKind" "[I") ∈ lw_all := lw_g (lw_at lw_m6 225 rfl) rfl
theorem q1546 : (Jvm.Cond.fieldLink "LateMirrorsModel" (24 : Nat) "LateMirrorsModel" "tPlace" "[I") ∈ lw_all := lw_g (lw_at lw_m6 226 rfl) rfl
theorem q1547 : (Jvm.Cond.fieldLink "LateMirrorsModel" (27 : Nat) "LateMirrorsModel" "tValue" "[I") ∈ lw_all := lw_g (lw_at lw_m6 227 rfl) rfl
theorem q1548 : (Jvm.Cond.fieldLink "LateMirrorsModel" (30 : Nat) "LateMirrorsModel" "tName" "[J") ∈ lw_all := lw_g (lw_at lw_m6 228 rfl) rfl
theorem q1549 : (Jvm.Cond.fieldLink "LateMirrorsModel" (34 : Nat) "LateMirrorsModel" "keys" "[J") ∈ lw_all := lw_g (lw_at lw_m6 229 rfl) rfl
theorem q1550 : (Jvm.Cond.fieldLink "LateMirrorsModel" (205 : Nat) "LateMirrorsModel" "tokens" "I") ∈ lw_all := lw_g (lw_at lw_m6 230 rfl) rfl
theorem q1551 : (Jvm.Cond.fieldLink "LateMirrorsModel" (230 : Nat) "LateMirrorsModel" "t" "I") ∈ lw_all := lw_g (lw_at lw_m6 231 rfl) rfl
theorem q1552 : (Jvm.Cond.fieldLink "LateMirrorsModel" (254 : Nat) "LateMirrorsModel" "open" "I") ∈ lw_all := lw_g (lw_at lw_m6 232 rfl) rfl
theorem q1553 : (Jvm.Cond.fieldLink "LateMirrorsModel" (227 : Nat) "LateMirrorsModel" "fault" "I") ∈ lw_all := lw_g (lw_at lw_m6 233 rfl) rfl
theorem q1554 : (Jvm.Cond.fieldLink "LateMirrorsModel" (233 : Nat) "LateMirrorsModel" "faultPlace" "I") ∈ lw_all := lw_g (lw_at lw_m6 234 rfl) rfl
theorem q1555 : (Jvm.Cond.fieldLink "LateMirrorsModel" (236 : Nat) "LateMirrorsModel" "worst" "I") ∈ lw_all := lw_g (lw_at lw_m6 235 rfl) rfl
theorem q1556 : (Jvm.Cond.fieldLink "LateMirrorsModel" (239 : Nat) "LateMirrorsModel" "worstPlace" "I") ∈ lw_all := lw_g (lw_at lw_m6 236 rfl) rfl
theorem q1557 : (Jvm.Cond.fieldLink "LateMirrorsModel" (37 : Nat) "LateMirrorsModel" "place" "I") ∈ lw_all := lw_g (lw_at lw_m6 237 rfl) rfl
theorem q1558 : (Jvm.Cond.fieldLink "LateMirrorsModel" (257 : Nat) "LateMirrorsModel" "live" "I") ∈ lw_all := lw_g (lw_at lw_m6 238 rfl) rfl
theorem q1559 : (Jvm.Cond.fieldLink "LateMirrorsModel" (260 : Nat) "LateMirrorsModel" "side" "I") ∈ lw_all := lw_g (lw_at lw_m6 239 rfl) rfl
theorem q1560 : (Jvm.Cond.fieldLink "LateMirrorsModel" (263 : Nat) "LateMirrorsModel" "names" "I") ∈ lw_all := lw_g (lw_at lw_m7 0 rfl) rfl
theorem q1561 : (Jvm.Cond.fieldLink "LateMirrorsModel" (40 : Nat) "LateMirrorsModel" "nameOf" "[J") ∈ lw_all := lw_g (lw_at lw_m7 1 rfl) rfl
theorem q1562 : (Jvm.Cond.fieldLink "LateMirrorsModel" (43 : Nat) "LateMirrorsModel" "nameSort" "[I") ∈ lw_all := lw_g (lw_at lw_m7 2 rfl) rfl
theorem q1563 : (Jvm.Cond.fieldLink "LateMirrorsModel" (46 : Nat) "LateMirrorsModel" "nameAt" "[I") ∈ lw_all := lw_g (lw_at lw_m7 3 rfl) rfl
theorem q1564 : (Jvm.Cond.fieldLink "LateMirrorsModel" (49 : Nat) "LateMirrorsModel" "rooms" "[I") ∈ lw_all := lw_g (lw_at lw_m7 4 rfl) rfl
theorem q1565 : (Jvm.Cond.fieldLink "LateMirrorsModel" (52 : Nat) "LateMirrorsModel" "doors" "[I") ∈ lw_all := lw_g (lw_at lw_m7 5 rfl) rfl
theorem q1566 : (Jvm.Cond.fieldLink "LateMirrorsModel" (55 : Nat) "LateMirrorsModel" "doorFrom" "[I") ∈ lw_all := lw_g (lw_at lw_m7 6 rfl) rfl
theorem q1567 : (Jvm.Cond.fieldLink "LateMirrorsModel" (58 : Nat) "LateMirrorsModel" "doorTo" "[I") ∈ lw_all := lw_g (lw_at lw_m7 7 rfl) rfl
theorem q1568 : (Jvm.Cond.fieldLink "LateMirrorsModel" (61 : Nat) "LateMirrorsModel" "men" "[I") ∈ lw_all := lw_g (lw_at lw_m7 8 rfl) rfl
theorem q1569 : (Jvm.Cond.fieldLink "LateMirrorsModel" (64 : Nat) "LateMirrorsModel" "rankTold" "[I") ∈ lw_all := lw_g (lw_at lw_m7 9 rfl) rfl
theorem q1570 : (Jvm.Cond.fieldLink "LateMirrorsModel" (67 : Nat) "LateMirrorsModel" "roomTold" "[I") ∈ lw_all := lw_g (lw_at lw_m7 10 rfl) rfl
theorem q1571 : (Jvm.Cond.fieldLink "LateMirrorsModel" (70 : Nat) "LateMirrorsModel" "mirrors" "[I") ∈ lw_all := lw_g (lw_at lw_m7 11 rfl) rfl
theorem q1572 : (Jvm.Cond.fieldLink "LateMirrorsModel" (73 : Nat) "LateMirrorsModel" "hangsTold" "[I") ∈ lw_all := lw_g (lw_at lw_m7 12 rfl) rfl
theorem q1573 : (Jvm.Cond.fieldLink "LateMirrorsModel" (76 : Nat) "LateMirrorsModel" "ownerOf" "[I") ∈ lw_all := lw_g (lw_at lw_m7 13 rfl) rfl
theorem q1574 : (Jvm.Cond.fieldLink "LateMirrorsModel" (79 : Nat) "LateMirrorsModel" "breaks" "[I") ∈ lw_all := lw_g (lw_at lw_m7 14 rfl) rfl
theorem q1575 : (Jvm.Cond.fieldLink "LateMirrorsModel" (82 : Nat) "LateMirrorsModel" "seed" "[I") ∈ lw_all := lw_g (lw_at lw_m7 15 rfl) rfl
theorem q1576 : (Jvm.Cond.fieldLink "LateMirrorsModel" (85 : Nat) "LateMirrorsModel" "lawFirst" "[I") ∈ lw_all := lw_g (lw_at lw_m7 16 rfl) rfl
theorem q1577 : (Jvm.Cond.fieldLink "LateMirrorsModel" (88 : Nat) "LateMirrorsModel" "lawLast" "[I") ∈ lw_all := lw_g (lw_at lw_m7 17 rfl) rfl
theorem q1578 : (Jvm.Cond.fieldLink "LateMirrorsModel" (266 : Nat) "LateMirrorsModel" "branches" "I") ∈ lw_all := lw_g (lw_at lw_m7 18 rfl) rfl
theorem q1579 : (Jvm.Cond.fieldLink "LateMirrorsModel" (91 : Nat) "LateMirrorsModel" "hasTest" "[Z") ∈ lw_all := lw_g (lw_at lw_m7 19 rfl) rfl
theorem q1580 : (Jvm.Cond.fieldLink "LateMirrorsModel" (95 : Nat) "LateMirrorsModel" "testFrom" "[I") ∈ lw_all := lw_g (lw_at lw_m7 20 rfl) rfl
theorem q1581 : (Jvm.Cond.fieldLink "LateMirrorsModel" (98 : Nat) "LateMirrorsModel" "testMid" "[I") ∈ lw_all := lw_g (lw_at lw_m7 21 rfl) rfl
theorem q1582 : (Jvm.Cond.fieldLink "LateMirrorsModel" (101 : Nat) "LateMirrorsModel" "testTo" "[I") ∈ lw_all := lw_g (lw_at lw_m7 22 rfl) rfl
theorem q1583 : (Jvm.Cond.fieldLink "LateMirrorsModel" (104 : Nat) "LateMirrorsModel" "termTo" "[I") ∈ lw_all := lw_g (lw_at lw_m7 23 rfl) rfl
theorem q1584 : (Jvm.Cond.fieldLink "LateMirrorsModel" (269 : Nat) "LateMirrorsModel" "codes" "I") ∈ lw_all := lw_g (lw_at lw_m7 24 rfl) rfl
theorem q1585 : (Jvm.Cond.fieldLink "LateMirrorsModel" (107 : Nat) "LateMirrorsModel" "code" "[I") ∈ lw_all := lw_g (lw_at lw_m7 25 rfl) rfl
theorem q1586 : (Jvm.Cond.fieldLink "LateMirrorsModel" (110 : Nat) "LateMirrorsModel" "codeInt" "[I") ∈ lw_all := lw_g (lw_at lw_m7 26 rfl) rfl
theorem q1587 : (Jvm.Cond.fieldLink "LateMirrorsModel" (113 : Nat) "LateMirrorsModel" "waits" "[I") ∈ lw_all := lw_g (lw_at lw_m7 27 rfl) rfl
theorem q1588 : (Jvm.Cond.fieldLink "LateMirrorsModel" (324 : Nat) "LateMirrorsModel" "waiting" "I") ∈ lw_all := lw_g (lw_at lw_m7 28 rfl) rfl
theorem q1589 : (Jvm.Cond.fieldLink "LateMirrorsModel" (116 : Nat) "LateMirrorsModel" "variables" "[I") ∈ lw_all := lw_g (lw_at lw_m7 29 rfl) rfl
theorem q1590 : (Jvm.Cond.fieldLink "LateMirrorsModel" (119 : Nat) "LateMirrorsModel" "pile" "[I") ∈ lw_all := lw_g (lw_at lw_m7 30 rfl) rfl
theorem q1591 : (Jvm.Cond.fieldLink "LateMirrorsModel" (337 : Nat) "LateMirrorsModel" "isBroken" "Z") ∈ lw_all := lw_g (lw_at lw_m7 31 rfl) rfl
theorem q1592 : (Jvm.Cond.fieldLink "LateMirrorsModel" (122 : Nat) "LateMirrorsModel" "past" "[I") ∈ lw_all := lw_g (lw_at lw_m7 32 rfl) rfl
theorem q1593 : (Jvm.Cond.fieldLink "LateMirrorsModel" (345 : Nat) "LateMirrorsModel" "minuteNow" "I") ∈ lw_all := lw_g (lw_at lw_m7 33 rfl) rfl
theorem q1594 : (Jvm.Cond.fieldLink "LateMirrorsModel" (125 : Nat) "LateMirrorsModel" "brokeNow" "[I") ∈ lw_all := lw_g (lw_at lw_m7 34 rfl) rfl
theorem q1595 : (Jvm.Cond.fieldLink "LateMirrorsModel" (128 : Nat) "LateMirrorsModel" "brokeShows" "[I") ∈ lw_all := lw_g (lw_at lw_m7 35 rfl) rfl
theorem q1596 : (Jvm.Cond.fieldLink "LateMirrorsModel" (131 : Nat) "LateMirrorsModel" "row" "[I") ∈ lw_all := lw_g (lw_at lw_m7 36 rfl) rfl
theorem q1597 : (Jvm.Cond.fieldLink "LateMirrorsModel" (348 : Nat) "LateMirrorsModel" "minute" "I") ∈ lw_all := lw_g (lw_at lw_m7 37 rfl) rfl
theorem q1598 : (Jvm.Cond.fieldLink "LateMirrorsModel" (134 : Nat) "LateMirrorsModel" "broke" "[I") ∈ lw_all := lw_g (lw_at lw_m7 38 rfl) rfl
theorem q1599 : (Jvm.Cond.fieldLink "LateMirrorsModel" (137 : Nat) "LateMirrorsModel" "shows" "[I") ∈ lw_all := lw_g (lw_at lw_m7 39 rfl) rfl
theorem q1600 : (Jvm.Cond.fieldLink "LateMirrorsModel" (351 : Nat) "LateMirrorsModel" "lots" "I") ∈ lw_all := lw_g (lw_at lw_m7 40 rfl) rfl
theorem q1601 : (Jvm.Cond.fieldLink "LateMirrorsModel" (275 : Nat) "LateMirrorsModel" "undos" "I") ∈ lw_all := lw_g (lw_at lw_m7 41 rfl) rfl
theorem q1602 : (Jvm.Cond.fieldLink "LateMirrorsModel" (140 : Nat) "LateMirrorsModel" "history" "[I") ∈ lw_all := lw_g (lw_at lw_m7 42 rfl) rfl
theorem q1603 : (Jvm.Cond.fieldLink "LateMirrorsModel" (143 : Nat) "LateMirrorsModel" "isLooked" "[Z") ∈ lw_all := lw_g (lw_at lw_m7 43 rfl) rfl
theorem q1604 : (Jvm.Cond.fieldLink "LateMirrorsModel" (146 : Nat) "LateMirrorsModel" "isLookedThen" "[Z") ∈ lw_all := lw_g (lw_at lw_m7 44 rfl) rfl
theorem q1605 : (Jvm.Cond.fieldLink "LateMirrorsModel" (149 : Nat) "LateMirrorsModel" "shownAt" "[I") ∈ lw_all := lw_g (lw_at lw_m7 45 rfl) rfl
theorem q1606 : (Jvm.Cond.fieldLink "LateMirrorsModel" (152 : Nat) "LateMirrorsModel" "farOf" "[I") ∈ lw_all := lw_g (lw_at lw_m7 46 rfl) rfl
theorem q1607 : (Jvm.Cond.fieldLink "LateMirrorsModel" (278 : Nat) "LateMirrorsModel" "told" "I") ∈ lw_all := lw_g (lw_at lw_m7 47 rfl) rfl
theorem q1608 : (Jvm.Cond.fieldLink "LateMirrorsModel" (155 : Nat) "LateMirrorsModel" "toldMirror" "[I") ∈ lw_all := lw_g (lw_at lw_m7 48 rfl) rfl
theorem q1609 : (Jvm.Cond.fieldLink "LateMirrorsModel" (158 : Nat) "LateMirrorsModel" "toldMinute" "[I") ∈ lw_all := lw_g (lw_at lw_m7 49 rfl) rfl
theorem q1610 : (Jvm.Cond.fieldLink "LateMirrorsModel" (161 : Nat) "LateMirrorsModel" "toldMan" "[I") ∈ lw_all := lw_g (lw_at lw_m7 50 rfl) rfl
theorem q1611 : (Jvm.Cond.fieldLink "LateMirrorsModel" (164 : Nat) "LateMirrorsModel" "toldThere" "[Z") ∈ lw_all := lw_g (lw_at lw_m7 51 rfl) rfl
theorem q1612 : (Jvm.Cond.fieldLink "LateMirrorsModel" (167 : Nat) "LateMirrorsModel" "isHeld" "[Z") ∈ lw_all := lw_g (lw_at lw_m7 52 rfl) rfl
theorem q1613 : (Jvm.Cond.fieldLink "LateMirrorsModel" (170 : Nat) "LateMirrorsModel" "held" "[I") ∈ lw_all := lw_g (lw_at lw_m7 53 rfl) rfl
theorem q1614 : (Jvm.Cond.fieldLink "LateMirrorsModel" (173 : Nat) "LateMirrorsModel" "heldToo" "[I") ∈ lw_all := lw_g (lw_at lw_m7 54 rfl) rfl
theorem q1615 : (Jvm.Cond.lays "LateMirrorsModel" "LateMirrorsModel" "thrown" "I") ∈ lw_all := lw_g (lw_at lw_m7 55 rfl) rfl
theorem q1616 : (Jvm.Cond.soleField "LateMirrorsModel" "thrown") ∈ lw_all := lw_g (lw_at lw_m7 56 rfl) rfl
theorem q1617 : (Jvm.Cond.laysFinal "LateMirrorsModel" "LateMirrorsModel" "tape" "[B") ∈ lw_all := lw_g (lw_at lw_m7 57 rfl) rfl
theorem q1618 : (Jvm.Cond.soleField "LateMirrorsModel" "tape") ∈ lw_all := lw_g (lw_at lw_m7 58 rfl) rfl
theorem q1619 : (Jvm.Cond.lays "LateMirrorsModel" "LateMirrorsModel" "taped" "I") ∈ lw_all := lw_g (lw_at lw_m7 59 rfl) rfl
theorem q1620 : (Jvm.Cond.soleField "LateMirrorsModel" "taped") ∈ lw_all := lw_g (lw_at lw_m7 60 rfl) rfl
theorem q1621 : (Jvm.Cond.laysFinal "LateMirrorsModel" "LateMirrorsModel" "text" "[B") ∈ lw_all := lw_g (lw_at lw_m7 61 rfl) rfl
theorem q1622 : (Jvm.Cond.soleField "LateMirrorsModel" "text") ∈ lw_all := lw_g (lw_at lw_m7 62 rfl) rfl
theorem q1623 : (Jvm.Cond.lays "LateMirrorsModel" "LateMirrorsModel" "size" "I") ∈ lw_all := lw_g (lw_at lw_m7 63 rfl) rfl
theorem q1624 : (Jvm.Cond.soleField "LateMirrorsModel" "size") ∈ lw_all := lw_g (lw_at lw_m7 64 rfl) rfl
theorem q1625 : (Jvm.Cond.laysFinal "LateMirrorsModel" "LateMirrorsModel" "tKind" "[I") ∈ lw_all := lw_g (lw_at lw_m7 65 rfl) rfl
theorem q1626 : (Jvm.Cond.soleField "LateMirrorsModel" "tKind") ∈ lw_all := lw_g (lw_at lw_m7 66 rfl) rfl
theorem q1627 : (Jvm.Cond.laysFinal "LateMirrorsModel" "LateMirrorsModel" "tPlace" "[I") ∈ lw_all := lw_g (lw_at lw_m7 67 rfl) rfl
theorem q1628 : (Jvm.Cond.soleField "LateMirrorsModel" "tPlace") ∈ lw_all := lw_g (lw_at lw_m7 68 rfl) rfl
theorem q1629 : (Jvm.Cond.laysFinal "LateMirrorsModel" "LateMirrorsModel" "tValue" "[I") ∈ lw_all := lw_g (lw_at lw_m7 69 rfl) rfl
theorem q1630 : (Jvm.Cond.soleField "LateMirrorsModel" "tValue") ∈ lw_all := lw_g (lw_at lw_m7 70 rfl) rfl
theorem q1631 : (Jvm.Cond.laysFinal "LateMirrorsModel" "LateMirrorsModel" "tName" "[J") ∈ lw_all := lw_g (lw_at lw_m7 71 rfl) rfl
theorem q1632 : (Jvm.Cond.soleField "LateMirrorsModel" "tName") ∈ lw_all := lw_g (lw_at lw_m7 72 rfl) rfl
theorem q1633 : (Jvm.Cond.laysFinal "LateMirrorsModel" "LateMirrorsModel" "keys" "[J") ∈ lw_all := lw_g (lw_at lw_m7 73 rfl) rfl
theorem q1634 : (Jvm.Cond.soleField "LateMirrorsModel" "keys") ∈ lw_all := lw_g (lw_at lw_m7 74 rfl) rfl
theorem q1635 : (Jvm.Cond.lays "LateMirrorsModel" "LateMirrorsModel" "tokens" "I") ∈ lw_all := lw_g (lw_at lw_m7 75 rfl) rfl
theorem q1636 : (Jvm.Cond.soleField "LateMirrorsModel" "tokens") ∈ lw_all := lw_g (lw_at lw_m7 76 rfl) rfl
theorem q1637 : (Jvm.Cond.lays "LateMirrorsModel" "LateMirrorsModel" "t" "I") ∈ lw_all := lw_g (lw_at lw_m7 77 rfl) rfl
theorem q1638 : (Jvm.Cond.soleField "LateMirrorsModel" "t") ∈ lw_all := lw_g (lw_at lw_m7 78 rfl) rfl
theorem q1639 : (Jvm.Cond.lays "LateMirrorsModel" "LateMirrorsModel" "open" "I") ∈ lw_all := lw_g (lw_at lw_m7 79 rfl) rfl
theorem q1640 : (Jvm.Cond.soleField "LateMirrorsModel" "open") ∈ lw_all := lw_g (lw_at lw_m7 80 rfl) rfl
theorem q1641 : (Jvm.Cond.lays "LateMirrorsModel" "LateMirrorsModel" "fault" "I") ∈ lw_all := lw_g (lw_at lw_m7 81 rfl) rfl
theorem q1642 : (Jvm.Cond.soleField "LateMirrorsModel" "fault") ∈ lw_all := lw_g (lw_at lw_m7 82 rfl) rfl
theorem q1643 : (Jvm.Cond.lays "LateMirrorsModel" "LateMirrorsModel" "faultPlace" "I") ∈ lw_all := lw_g (lw_at lw_m7 83 rfl) rfl
theorem q1644 : (Jvm.Cond.soleField "LateMirrorsModel" "faultPlace") ∈ lw_all := lw_g (lw_at lw_m7 84 rfl) rfl
theorem q1645 : (Jvm.Cond.lays "LateMirrorsModel" "LateMirrorsModel" "worst" "I") ∈ lw_all := lw_g (lw_at lw_m7 85 rfl) rfl
theorem q1646 : (Jvm.Cond.soleField "LateMirrorsModel" "worst") ∈ lw_all := lw_g (lw_at lw_m7 86 rfl) rfl
theorem q1647 : (Jvm.Cond.lays "LateMirrorsModel" "LateMirrorsModel" "worstPlace" "I") ∈ lw_all := lw_g (lw_at lw_m7 87 rfl) rfl
theorem q1648 : (Jvm.Cond.soleField "LateMirrorsModel" "worstPlace") ∈ lw_all := lw_g (lw_at lw_m7 88 rfl) rfl
theorem q1649 : (Jvm.Cond.lays "LateMirrorsModel" "LateMirrorsModel" "place" "I") ∈ lw_all := lw_g (lw_at lw_m7 89 rfl) rfl
theorem q1650 : (Jvm.Cond.soleField "LateMirrorsModel" "place") ∈ lw_all := lw_g (lw_at lw_m7 90 rfl) rfl
theorem q1651 : (Jvm.Cond.lays "LateMirrorsModel" "LateMirrorsModel" "live" "I") ∈ lw_all := lw_g (lw_at lw_m7 91 rfl) rfl
theorem q1652 : (Jvm.Cond.soleField "LateMirrorsModel" "live") ∈ lw_all := lw_g (lw_at lw_m7 92 rfl) rfl
theorem q1653 : (Jvm.Cond.lays "LateMirrorsModel" "LateMirrorsModel" "side" "I") ∈ lw_all := lw_g (lw_at lw_m7 93 rfl) rfl
theorem q1654 : (Jvm.Cond.soleField "LateMirrorsModel" "side") ∈ lw_all := lw_g (lw_at lw_m7 94 rfl) rfl
theorem q1655 : (Jvm.Cond.lays "LateMirrorsModel" "LateMirrorsModel" "names" "I") ∈ lw_all := lw_g (lw_at lw_m7 95 rfl) rfl
theorem q1656 : (Jvm.Cond.soleField "LateMirrorsModel" "names") ∈ lw_all := lw_g (lw_at lw_m7 96 rfl) rfl
theorem q1657 : (Jvm.Cond.laysFinal "LateMirrorsModel" "LateMirrorsModel" "nameOf" "[J") ∈ lw_all := lw_g (lw_at lw_m7 97 rfl) rfl
theorem q1658 : (Jvm.Cond.soleField "LateMirrorsModel" "nameOf") ∈ lw_all := lw_g (lw_at lw_m7 98 rfl) rfl
theorem q1659 : (Jvm.Cond.laysFinal "LateMirrorsModel" "LateMirrorsModel" "nameSort" "[I") ∈ lw_all := lw_g (lw_at lw_m7 99 rfl) rfl
theorem q1660 : (Jvm.Cond.soleField "LateMirrorsModel" "nameSort") ∈ lw_all := lw_g (lw_at lw_m7 100 rfl) rfl
theorem q1661 : (Jvm.Cond.laysFinal "LateMirrorsModel" "LateMirrorsModel" "nameAt" "[I") ∈ lw_all := lw_g (lw_at lw_m7 101 rfl) rfl
theorem q1662 : (Jvm.Cond.soleField "LateMirrorsModel" "nameAt") ∈ lw_all := lw_g (lw_at lw_m7 102 rfl) rfl
theorem q1663 : (Jvm.Cond.laysFinal "LateMirrorsModel" "LateMirrorsModel" "rooms" "[I") ∈ lw_all := lw_g (lw_at lw_m7 103 rfl) rfl
theorem q1664 : (Jvm.Cond.soleField "LateMirrorsModel" "rooms") ∈ lw_all := lw_g (lw_at lw_m7 104 rfl) rfl
theorem q1665 : (Jvm.Cond.laysFinal "LateMirrorsModel" "LateMirrorsModel" "doors" "[I") ∈ lw_all := lw_g (lw_at lw_m7 105 rfl) rfl
theorem q1666 : (Jvm.Cond.soleField "LateMirrorsModel" "doors") ∈ lw_all := lw_g (lw_at lw_m7 106 rfl) rfl
theorem q1667 : (Jvm.Cond.laysFinal "LateMirrorsModel" "LateMirrorsModel" "doorFrom" "[I") ∈ lw_all := lw_g (lw_at lw_m7 107 rfl) rfl
theorem q1668 : (Jvm.Cond.soleField "LateMirrorsModel" "doorFrom") ∈ lw_all := lw_g (lw_at lw_m7 108 rfl) rfl
theorem q1669 : (Jvm.Cond.laysFinal "LateMirrorsModel" "LateMirrorsModel" "doorTo" "[I") ∈ lw_all := lw_g (lw_at lw_m7 109 rfl) rfl
theorem q1670 : (Jvm.Cond.soleField "LateMirrorsModel" "doorTo") ∈ lw_all := lw_g (lw_at lw_m7 110 rfl) rfl
theorem q1671 : (Jvm.Cond.laysFinal "LateMirrorsModel" "LateMirrorsModel" "men" "[I") ∈ lw_all := lw_g (lw_at lw_m7 111 rfl) rfl
theorem q1672 : (Jvm.Cond.soleField "LateMirrorsModel" "men") ∈ lw_all := lw_g (lw_at lw_m7 112 rfl) rfl
theorem q1673 : (Jvm.Cond.laysFinal "LateMirrorsModel" "LateMirrorsModel" "rankTold" "[I") ∈ lw_all := lw_g (lw_at lw_m7 113 rfl) rfl
theorem q1674 : (Jvm.Cond.soleField "LateMirrorsModel" "rankTold") ∈ lw_all := lw_g (lw_at lw_m7 114 rfl) rfl
theorem q1675 : (Jvm.Cond.laysFinal "LateMirrorsModel" "LateMirrorsModel" "roomTold" "[I") ∈ lw_all := lw_g (lw_at lw_m7 115 rfl) rfl
theorem q1676 : (Jvm.Cond.soleField "LateMirrorsModel" "roomTold") ∈ lw_all := lw_g (lw_at lw_m7 116 rfl) rfl
theorem q1677 : (Jvm.Cond.laysFinal "LateMirrorsModel" "LateMirrorsModel" "mirrors" "[I") ∈ lw_all := lw_g (lw_at lw_m7 117 rfl) rfl
theorem q1678 : (Jvm.Cond.soleField "LateMirrorsModel" "mirrors") ∈ lw_all := lw_g (lw_at lw_m7 118 rfl) rfl
theorem q1679 : (Jvm.Cond.laysFinal "LateMirrorsModel" "LateMirrorsModel" "hangsTold" "[I") ∈ lw_all := lw_g (lw_at lw_m7 119 rfl) rfl
theorem q1680 : (Jvm.Cond.soleField "LateMirrorsModel" "hangsTold") ∈ lw_all := lw_g (lw_at lw_m7 120 rfl) rfl
theorem q1681 : (Jvm.Cond.laysFinal "LateMirrorsModel" "LateMirrorsModel" "ownerOf" "[I") ∈ lw_all := lw_g (lw_at lw_m7 121 rfl) rfl
theorem q1682 : (Jvm.Cond.soleField "LateMirrorsModel" "ownerOf") ∈ lw_all := lw_g (lw_at lw_m7 122 rfl) rfl
theorem q1683 : (Jvm.Cond.laysFinal "LateMirrorsModel" "LateMirrorsModel" "breaks" "[I") ∈ lw_all := lw_g (lw_at lw_m7 123 rfl) rfl
theorem q1684 : (Jvm.Cond.soleField "LateMirrorsModel" "breaks") ∈ lw_all := lw_g (lw_at lw_m7 124 rfl) rfl
theorem q1685 : (Jvm.Cond.laysFinal "LateMirrorsModel" "LateMirrorsModel" "seed" "[I") ∈ lw_all := lw_g (lw_at lw_m7 125 rfl) rfl
theorem q1686 : (Jvm.Cond.soleField "LateMirrorsModel" "seed") ∈ lw_all := lw_g (lw_at lw_m7 126 rfl) rfl
theorem q1687 : (Jvm.Cond.laysFinal "LateMirrorsModel" "LateMirrorsModel" "lawFirst" "[I") ∈ lw_all := lw_g (lw_at lw_m7 127 rfl) rfl
theorem q1688 : (Jvm.Cond.soleField "LateMirrorsModel" "lawFirst") ∈ lw_all := lw_g (lw_at lw_m7 128 rfl) rfl
theorem q1689 : (Jvm.Cond.laysFinal "LateMirrorsModel" "LateMirrorsModel" "lawLast" "[I") ∈ lw_all := lw_g (lw_at lw_m7 129 rfl) rfl
theorem q1690 : (Jvm.Cond.soleField "LateMirrorsModel" "lawLast") ∈ lw_all := lw_g (lw_at lw_m7 130 rfl) rfl
theorem q1691 : (Jvm.Cond.lays "LateMirrorsModel" "LateMirrorsModel" "branches" "I") ∈ lw_all := lw_g (lw_at lw_m7 131 rfl) rfl
theorem q1692 : (Jvm.Cond.soleField "LateMirrorsModel" "branches") ∈ lw_all := lw_g (lw_at lw_m7 132 rfl) rfl
theorem q1693 : (Jvm.Cond.laysFinal "LateMirrorsModel" "LateMirrorsModel" "hasTest" "[Z") ∈ lw_all := lw_g (lw_at lw_m7 133 rfl) rfl
theorem q1694 : (Jvm.Cond.soleField "LateMirrorsModel" "hasTest") ∈ lw_all := lw_g (lw_at lw_m7 134 rfl) rfl
theorem q1695 : (Jvm.Cond.laysFinal "LateMirrorsModel" "LateMirrorsModel" "testFrom" "[I") ∈ lw_all := lw_g (lw_at lw_m7 135 rfl) rfl
theorem q1696 : (Jvm.Cond.soleField "LateMirrorsModel" "testFrom") ∈ lw_all := lw_g (lw_at lw_m7 136 rfl) rfl
theorem q1697 : (Jvm.Cond.laysFinal "LateMirrorsModel" "LateMirrorsModel" "testMid" "[I") ∈ lw_all := lw_g (lw_at lw_m7 137 rfl) rfl
theorem q1698 : (Jvm.Cond.soleField "LateMirrorsModel" "testMid") ∈ lw_all := lw_g (lw_at lw_m7 138 rfl) rfl
theorem q1699 : (Jvm.Cond.laysFinal "LateMirrorsModel" "LateMirrorsModel" "testTo" "[I") ∈ lw_all := lw_g (lw_at lw_m7 139 rfl) rfl
theorem q1700 : (Jvm.Cond.soleField "LateMirrorsModel" "testTo") ∈ lw_all := lw_g (lw_at lw_m7 140 rfl) rfl
theorem q1701 : (Jvm.Cond.laysFinal "LateMirrorsModel" "LateMirrorsModel" "termTo" "[I") ∈ lw_all := lw_g (lw_at lw_m7 141 rfl) rfl
theorem q1702 : (Jvm.Cond.soleField "LateMirrorsModel" "termTo") ∈ lw_all := lw_g (lw_at lw_m7 142 rfl) rfl
theorem q1703 : (Jvm.Cond.lays "LateMirrorsModel" "LateMirrorsModel" "codes" "I") ∈ lw_all := lw_g (lw_at lw_m7 143 rfl) rfl
theorem q1704 : (Jvm.Cond.soleField "LateMirrorsModel" "codes") ∈ lw_all := lw_g (lw_at lw_m7 144 rfl) rfl
theorem q1705 : (Jvm.Cond.laysFinal "LateMirrorsModel" "LateMirrorsModel" "code" "[I") ∈ lw_all := lw_g (lw_at lw_m7 145 rfl) rfl
theorem q1706 : (Jvm.Cond.soleField "LateMirrorsModel" "code") ∈ lw_all := lw_g (lw_at lw_m7 146 rfl) rfl
theorem q1707 : (Jvm.Cond.laysFinal "LateMirrorsModel" "LateMirrorsModel" "codeInt" "[I") ∈ lw_all := lw_g (lw_at lw_m7 147 rfl) rfl
theorem q1708 : (Jvm.Cond.soleField "LateMirrorsModel" "codeInt") ∈ lw_all := lw_g (lw_at lw_m7 148 rfl) rfl
theorem q1709 : (Jvm.Cond.laysFinal "LateMirrorsModel" "LateMirrorsModel" "waits" "[I") ∈ lw_all := lw_g (lw_at lw_m7 149 rfl) rfl
theorem q1710 : (Jvm.Cond.soleField "LateMirrorsModel" "waits") ∈ lw_all := lw_g (lw_at lw_m7 150 rfl) rfl
theorem q1711 : (Jvm.Cond.lays "LateMirrorsModel" "LateMirrorsModel" "waiting" "I") ∈ lw_all := lw_g (lw_at lw_m7 151 rfl) rfl
theorem q1712 : (Jvm.Cond.soleField "LateMirrorsModel" "waiting") ∈ lw_all := lw_g (lw_at lw_m7 152 rfl) rfl
theorem q1713 : (Jvm.Cond.laysFinal "LateMirrorsModel" "LateMirrorsModel" "variables" "[I") ∈ lw_all := lw_g (lw_at lw_m7 153 rfl) rfl
theorem q1714 : (Jvm.Cond.soleField "LateMirrorsModel" "variables") ∈ lw_all := lw_g (lw_at lw_m7 154 rfl) rfl
theorem q1715 : (Jvm.Cond.laysFinal "LateMirrorsModel" "LateMirrorsModel" "pile" "[I") ∈ lw_all := lw_g (lw_at lw_m7 155 rfl) rfl
theorem q1716 : (Jvm.Cond.soleField "LateMirrorsModel" "pile") ∈ lw_all := lw_g (lw_at lw_m7 156 rfl) rfl
theorem q1717 : (Jvm.Cond.lays "LateMirrorsModel" "LateMirrorsModel" "isBroken" "Z") ∈ lw_all := lw_g (lw_at lw_m7 157 rfl) rfl
theorem q1718 : (Jvm.Cond.soleField "LateMirrorsModel" "isBroken") ∈ lw_all := lw_g (lw_at lw_m7 158 rfl) rfl
theorem q1719 : (Jvm.Cond.laysFinal "LateMirrorsModel" "LateMirrorsModel" "past" "[I") ∈ lw_all := lw_g (lw_at lw_m7 159 rfl) rfl
theorem q1720 : (Jvm.Cond.soleField "LateMirrorsModel" "past") ∈ lw_all := lw_g (lw_at lw_m7 160 rfl) rfl
theorem q1721 : (Jvm.Cond.lays "LateMirrorsModel" "LateMirrorsModel" "minuteNow" "I") ∈ lw_all := lw_g (lw_at lw_m7 161 rfl) rfl
theorem q1722 : (Jvm.Cond.soleField "LateMirrorsModel" "minuteNow") ∈ lw_all := lw_g (lw_at lw_m7 162 rfl) rfl
theorem q1723 : (Jvm.Cond.laysFinal "LateMirrorsModel" "LateMirrorsModel" "brokeNow" "[I") ∈ lw_all := lw_g (lw_at lw_m7 163 rfl) rfl
theorem q1724 : (Jvm.Cond.soleField "LateMirrorsModel" "brokeNow") ∈ lw_all := lw_g (lw_at lw_m7 164 rfl) rfl
theorem q1725 : (Jvm.Cond.laysFinal "LateMirrorsModel" "LateMirrorsModel" "brokeShows" "[I") ∈ lw_all := lw_g (lw_at lw_m7 165 rfl) rfl
theorem q1726 : (Jvm.Cond.soleField "LateMirrorsModel" "brokeShows") ∈ lw_all := lw_g (lw_at lw_m7 166 rfl) rfl
theorem q1727 : (Jvm.Cond.laysFinal "LateMirrorsModel" "LateMirrorsModel" "row" "[I") ∈ lw_all := lw_g (lw_at lw_m7 167 rfl) rfl
theorem q1728 : (Jvm.Cond.soleField "LateMirrorsModel" "row") ∈ lw_all := lw_g (lw_at lw_m7 168 rfl) rfl
theorem q1729 : (Jvm.Cond.lays "LateMirrorsModel" "LateMirrorsModel" "minute" "I") ∈ lw_all := lw_g (lw_at lw_m7 169 rfl) rfl
theorem q1730 : (Jvm.Cond.soleField "LateMirrorsModel" "minute") ∈ lw_all := lw_g (lw_at lw_m7 170 rfl) rfl
theorem q1731 : (Jvm.Cond.laysFinal "LateMirrorsModel" "LateMirrorsModel" "broke" "[I") ∈ lw_all := lw_g (lw_at lw_m7 171 rfl) rfl
theorem q1732 : (Jvm.Cond.soleField "LateMirrorsModel" "broke") ∈ lw_all := lw_g (lw_at lw_m7 172 rfl) rfl
theorem q1733 : (Jvm.Cond.laysFinal "LateMirrorsModel" "LateMirrorsModel" "shows" "[I") ∈ lw_all := lw_g (lw_at lw_m7 173 rfl) rfl
theorem q1734 : (Jvm.Cond.soleField "LateMirrorsModel" "shows") ∈ lw_all := lw_g (lw_at lw_m7 174 rfl) rfl
theorem q1735 : (Jvm.Cond.lays "LateMirrorsModel" "LateMirrorsModel" "lots" "I") ∈ lw_all := lw_g (lw_at lw_m7 175 rfl) rfl
theorem q1736 : (Jvm.Cond.soleField "LateMirrorsModel" "lots") ∈ lw_all := lw_g (lw_at lw_m7 176 rfl) rfl
theorem q1737 : (Jvm.Cond.lays "LateMirrorsModel" "LateMirrorsModel" "undos" "I") ∈ lw_all := lw_g (lw_at lw_m7 177 rfl) rfl
theorem q1738 : (Jvm.Cond.soleField "LateMirrorsModel" "undos") ∈ lw_all := lw_g (lw_at lw_m7 178 rfl) rfl
theorem q1739 : (Jvm.Cond.laysFinal "LateMirrorsModel" "LateMirrorsModel" "history" "[I") ∈ lw_all := lw_g (lw_at lw_m7 179 rfl) rfl
theorem q1740 : (Jvm.Cond.soleField "LateMirrorsModel" "history") ∈ lw_all := lw_g (lw_at lw_m7 180 rfl) rfl
theorem q1741 : (Jvm.Cond.laysFinal "LateMirrorsModel" "LateMirrorsModel" "isLooked" "[Z") ∈ lw_all := lw_g (lw_at lw_m7 181 rfl) rfl
theorem q1742 : (Jvm.Cond.soleField "LateMirrorsModel" "isLooked") ∈ lw_all := lw_g (lw_at lw_m7 182 rfl) rfl
theorem q1743 : (Jvm.Cond.laysFinal "LateMirrorsModel" "LateMirrorsModel" "isLookedThen" "[Z") ∈ lw_all := lw_g (lw_at lw_m7 183 rfl) rfl
theorem q1744 : (Jvm.Cond.soleField "LateMirrorsModel" "isLookedThen") ∈ lw_all := lw_g (lw_at lw_m7 184 rfl) rfl
theorem q1745 : (Jvm.Cond.laysFinal "LateMirrorsModel" "LateMirrorsModel" "shownAt" "[I") ∈ lw_all := lw_g (lw_at lw_m7 185 rfl) rfl
theorem q1746 : (Jvm.Cond.soleField "LateMirrorsModel" "shownAt") ∈ lw_all := lw_g (lw_at lw_m7 186 rfl) rfl
theorem q1747 : (Jvm.Cond.laysFinal "LateMirrorsModel" "LateMirrorsModel" "farOf" "[I") ∈ lw_all := lw_g (lw_at lw_m7 187 rfl) rfl
theorem q1748 : (Jvm.Cond.soleField "LateMirrorsModel" "farOf") ∈ lw_all := lw_g (lw_at lw_m7 188 rfl) rfl
theorem q1749 : (Jvm.Cond.lays "LateMirrorsModel" "LateMirrorsModel" "told" "I") ∈ lw_all := lw_g (lw_at lw_m7 189 rfl) rfl
theorem q1750 : (Jvm.Cond.soleField "LateMirrorsModel" "told") ∈ lw_all := lw_g (lw_at lw_m7 190 rfl) rfl
theorem q1751 : (Jvm.Cond.laysFinal "LateMirrorsModel" "LateMirrorsModel" "toldMirror" "[I") ∈ lw_all := lw_g (lw_at lw_m7 191 rfl) rfl
theorem q1752 : (Jvm.Cond.soleField "LateMirrorsModel" "toldMirror") ∈ lw_all := lw_g (lw_at lw_m7 192 rfl) rfl
theorem q1753 : (Jvm.Cond.laysFinal "LateMirrorsModel" "LateMirrorsModel" "toldMinute" "[I") ∈ lw_all := lw_g (lw_at lw_m7 193 rfl) rfl
theorem q1754 : (Jvm.Cond.soleField "LateMirrorsModel" "toldMinute") ∈ lw_all := lw_g (lw_at lw_m7 194 rfl) rfl
theorem q1755 : (Jvm.Cond.laysFinal "LateMirrorsModel" "LateMirrorsModel" "toldMan" "[I") ∈ lw_all := lw_g (lw_at lw_m7 195 rfl) rfl
theorem q1756 : (Jvm.Cond.soleField "LateMirrorsModel" "toldMan") ∈ lw_all := lw_g (lw_at lw_m7 196 rfl) rfl
theorem q1757 : (Jvm.Cond.laysFinal "LateMirrorsModel" "LateMirrorsModel" "toldThere" "[Z") ∈ lw_all := lw_g (lw_at lw_m7 197 rfl) rfl
theorem q1758 : (Jvm.Cond.soleField "LateMirrorsModel" "toldThere") ∈ lw_all := lw_g (lw_at lw_m7 198 rfl) rfl
theorem q1759 : (Jvm.Cond.laysFinal "LateMirrorsModel" "LateMirrorsModel" "isHeld" "[Z") ∈ lw_all := lw_g (lw_at lw_m7 199 rfl) rfl
theorem q1760 : (Jvm.Cond.soleField "LateMirrorsModel" "isHeld") ∈ lw_all := lw_g (lw_at lw_m7 200 rfl) rfl
theorem q1761 : (Jvm.Cond.laysFinal "LateMirrorsModel" "LateMirrorsModel" "held" "[I") ∈ lw_all := lw_g (lw_at lw_m7 201 rfl) rfl
theorem q1762 : (Jvm.Cond.soleField "LateMirrorsModel" "held") ∈ lw_all := lw_g (lw_at lw_m7 202 rfl) rfl
theorem q1763 : (Jvm.Cond.laysFinal "LateMirrorsModel" "LateMirrorsModel" "heldToo" "[I") ∈ lw_all := lw_g (lw_at lw_m7 203 rfl) rfl
theorem q1764 : (Jvm.Cond.soleField "LateMirrorsModel" "heldToo") ∈ lw_all := lw_g (lw_at lw_m7 204 rfl) rfl
theorem q1765 : (Jvm.Cond.superclass "LateMirrorsModel" "java/lang/Object") ∈ lw_all := lw_g (lw_at lw_m7 205 rfl) rfl
theorem q1768 : (Jvm.Cond.instanceMethod ({ cls := "LateMirrorsModel", name := "feed", desc := "(IIIII)I" } : Jvm.MethodName)) ∈ lw_all := lw_g (lw_at lw_m7 208 rfl) rfl
theorem q1769 : (Jvm.Cond.selects "LateMirrorsModel" ({ cls := "LateMirrorsModel", name := "feed", desc := "(IIIII)I" } : Jvm.MethodName) ({ cls := "LateMirrorsModel", name := "feed", desc := "(IIIII)I" } : Jvm.MethodName)) ∈ lw_all := lw_g (lw_at lw_m7 209 rfl) rfl
theorem q1770 : (Jvm.Cond.code ({ cls := "LateMirrorsModel", name := "feed", desc := "(IIIII)I" } : Jvm.MethodName) prog_19_method_3_code (6 : Nat) (Option.some Jvm.ClassFile.FieldType.int)) ∈ lw_all := lw_g (lw_at lw_m7 210 rfl) rfl
theorem q1771 : (Jvm.Cond.methodLink "LateMirrorsModel" (193 : Nat) ({ cls := "LateMirrorsModel", name := "put", desc := "(I)V" } : Jvm.MethodName)) ∈ lw_all := lw_g (lw_at lw_m7 211 rfl) rfl
theorem q1772 : (Jvm.Cond.privateMethod ({ cls := "LateMirrorsModel", name := "put", desc := "(I)V" } : Jvm.MethodName)) ∈ lw_tbl := lw_at lw_m7 212 rfl
theorem q1773 : (Jvm.Cond.instanceMethod ({ cls := "LateMirrorsModel", name := "put", desc := "(I)V" } : Jvm.MethodName)) ∈ lw_all := lw_g (lw_at lw_m7 213 rfl) rfl
theorem q1774 : (Jvm.Cond.code ({ cls := "LateMirrorsModel", name := "put", desc := "(I)V" } : Jvm.MethodName) prog_19_method_4_code (3 : Nat) (Option.none : Option Jvm.ClassFile.FieldType)) ∈ lw_all := lw_g (lw_at lw_m7 214 rfl) rfl
theorem q1776 : (Jvm.Cond.instanceMethod ({ cls := "LateMirrorsModel", name := "back", desc := "(I)I" } : Jvm.MethodName)) ∈ lw_all := lw_g (lw_at lw_m7 216 rfl) rfl
theorem q1777 : (Jvm.Cond.selects "LateMirrorsModel" ({ cls := "LateMirrorsModel", name := "back", desc := "(I)I" } : Jvm.MethodName) ({ cls := "LateMirrorsModel", name := "back", desc := "(I)I" } : Jvm.MethodName)) ∈ lw_all := lw_g (lw_at lw_m7 217 rfl) rfl
theorem q1778 : (Jvm.Cond.code ({ cls := "LateMirrorsModel", name := "back", desc := "(I)I" } : Jvm.MethodName) prog_19_method_5_code (2 : Nat) (Option.some Jvm.ClassFile.FieldType.int)) ∈ lw_all := lw_g (lw_at lw_m7 218 rfl) rfl
theorem q1780 : (Jvm.Cond.instanceMethod ({ cls := "LateMirrorsModel", name := "read", desc := "()I" } : Jvm.MethodName)) ∈ lw_all := lw_g (lw_at lw_m7 220 rfl) rfl
theorem q1781 : (Jvm.Cond.selects "LateMirrorsModel" ({ cls := "LateMirrorsModel", name := "read", desc := "()I" } : Jvm.MethodName) ({ cls := "LateMirrorsModel", name := "read", desc := "()I" } : Jvm.MethodName)) ∈ lw_all := lw_g (lw_at lw_m7 221 rfl) rfl
theorem q1782 : (Jvm.Cond.code ({ cls := "LateMirrorsModel", name := "read", desc := "()I" } : Jvm.MethodName) prog_19_method_20_code (2 : Nat) (Option.some Jvm.ClassFile.FieldType.int)) ∈ lw_all := lw_g (lw_at lw_m7 222 rfl) rfl
theorem q1783 : (Jvm.Cond.methodLink "LateMirrorsModel" (251 : Nat) ({ cls := "LateMirrorsModel", name := "cut", desc := "()V" } : Jvm.MethodName)) ∈ lw_all := lw_g (lw_at lw_m7 223 rfl) rfl
theorem q1784 : (Jvm.Cond.privateMethod ({ cls := "LateMirrorsModel", name := "cut", desc := "()V" } : Jvm.MethodName)) ∈ lw_tbl := lw_at lw_m7 224 rfl
theorem q1785 : (Jvm.Cond.instanceMethod ({ cls := "LateMirrorsModel", name := "cut", desc := "()V" } : Jvm.MethodName)) ∈ lw_all := lw_g (lw_at lw_m7 225 rfl) rfl
theorem q1786 : (Jvm.Cond.code ({ cls := "LateMirrorsModel", name := "cut", desc := "()V" } : Jvm.MethodName) prog_19_method_12_code (8 : Nat) (Option.none : Option Jvm.ClassFile.FieldType)) ∈ lw_all := lw_g (lw_at lw_m7 226 rfl) rfl
theorem q1787 : (Jvm.Cond.methodLink "LateMirrorsModel" (208 : Nat) ({ cls := "LateMirrorsModel", name := "byteAt", desc := "(I)I" } : Jvm.MethodName)) ∈ lw_all := lw_g (lw_at lw_m7 227 rfl) rfl
theorem q1788 : (Jvm.Cond.privateMethod ({ cls := "LateMirrorsModel", name := "byteAt", desc := "(I)I" } : Jvm.MethodName)) ∈ lw_tbl := lw_at lw_m7 228 rfl
theorem q1789 : (Jvm.Cond.instanceMethod ({ cls := "LateMirrorsModel", name := "byteAt", desc := "(I)I" } : Jvm.MethodName)) ∈ lw_all := lw_g (lw_at lw_m7 229 rfl) rfl
theorem q1790 : (Jvm.Cond.code ({ cls := "LateMirrorsModel", name := "byteAt", desc := "(I)I" } : Jvm.MethodName) prog_19_method_6_code (2 : Nat) (Option.some Jvm.ClassFile.FieldType.int)) ∈ lw_all := lw_g (lw_at lw_m7 230 rfl) rfl
theorem q1791 : (Jvm.Cond.methodLink "LateMirrorsModel" (212 : Nat) ({ cls := "LateMirrorsModel", name := "token", desc := "(IIIJ)V" } : Jvm.MethodName)) ∈ lw_all := lw_g (lw_at lw_m7 231 rfl) rfl
theorem q1792 : (Jvm.Cond.privateMethod ({ cls := "LateMirrorsModel", name := "token", desc := "(IIIJ)V" } : Jvm.MethodName)) ∈ lw_tbl := lw_at lw_m7 232 rfl
theorem q1793 : (Jvm.Cond.instanceMethod ({ cls := "LateMirrorsModel", name := "token", desc := "(IIIJ)V" } : Jvm.MethodName)) ∈ lw_all := lw_g (lw_at lw_m7 233 rfl) rfl
theorem q1794 : (Jvm.Cond.code ({ cls := "LateMirrorsModel", name := "token", desc := "(IIIJ)V" } : Jvm.MethodName) prog_19_method_11_code (6 : Nat) (Option.none : Option Jvm.ClassFile.FieldType)) ∈ lw_all := lw_g (lw_at lw_m7 234 rfl) rfl
theorem q1795 : (Jvm.Cond.methodLink "LateMirrorsModel" (216 : Nat) ({ cls := "LateMirrorsModel", name := "isLetter", desc := "(I)Z" } : Jvm.MethodName)) ∈ lw_all := lw_g (lw_at lw_m7 235 rfl) rfl
theorem q1796 : (Jvm.Cond.static ({ cls := "LateMirrorsModel", name := "isLetter", desc := "(I)Z" } : Jvm.MethodName)) ∈ lw_all := lw_g (lw_at lw_m7 236 rfl) rfl
theorem q1797 : (Jvm.Cond.code ({ cls := "LateMirrorsModel", name := "isLetter", desc := "(I)Z" } : Jvm.MethodName) prog_19_method_8_code (1 : Nat) (Option.some Jvm.ClassFile.FieldType.boolean)) ∈ lw_all := lw_g (lw_at lw_m7 237 rfl) rfl
theorem q1798 : (Jvm.Cond.methodLink "LateMirrorsModel" (220 : Nat) ({ cls := "LateMirrorsModel", name := "isDigit", desc := "(I)Z" } : Jvm.MethodName)) ∈ lw_all := lw_g (lw_at lw_m7 238 rfl) rfl
theorem q1799 : (Jvm.Cond.static ({ cls := "LateMirrorsModel", name := "isDigit", desc := "(I)Z" } : Jvm.MethodName)) ∈ lw_all := lw_g (lw_at lw_m7 239 rfl) rfl
theorem q1800 : (Jvm.Cond.code ({ cls := "LateMirrorsModel", name := "isDigit", desc := "(I)Z" } : Jvm.MethodName) prog_19_method_7_code (1 : Nat) (Option.some Jvm.ClassFile.FieldType.boolean)) ∈ lw_all := lw_g (lw_at lw_m8 0 rfl) rfl
theorem q1801 : (Jvm.Cond.methodLink "LateMirrorsModel" (223 : Nat) ({ cls := "LateMirrorsModel", name := "sign", desc := "(III)I" } : Jvm.MethodName)) ∈ lw_all := lw_g (lw_at lw_m8 1 rfl) rfl
theorem q1802 : (Jvm.Cond.privateMethod ({ cls := "LateMirrorsModel", name := "sign", desc := "(III)I" } : Jvm.MethodName)) ∈ lw_tbl := lw_at lw_m8 2 rfl
theorem q1803 : (Jvm.Cond.instanceMethod ({ cls := "LateMirrorsModel", name := "sign", desc := "(III)I" } : Jvm.MethodName)) ∈ lw_all := lw_g (lw_at lw_m8 3 rfl) rfl
theorem q1804 : (Jvm.Cond.code ({ cls := "LateMirrorsModel", name := "sign", desc := "(III)I" } : Jvm.MethodName) prog_19_method_13_code (5 : Nat) (Option.some Jvm.ClassFile.FieldType.int)) ∈ lw_all := lw_g (lw_at lw_m8 4 rfl) rfl
theorem q1805 : (Jvm.Cond.methodLink "LateMirrorsModel" (245 : Nat) ({ cls := "LateMirrorsModel", name := "is", desc := "(I)Z" } : Jvm.MethodName)) ∈ lw_all := lw_g (lw_at lw_m8 5 rfl) rfl
theorem q1806 : (Jvm.Cond.privateMethod ({ cls := "LateMirrorsModel", name := "is", desc := "(I)Z" } : Jvm.MethodName)) ∈ lw_tbl := lw_at lw_m8 6 rfl
theorem q1807 : (Jvm.Cond.instanceMethod ({ cls := "LateMirrorsModel", name := "is", desc := "(I)Z" } : Jvm.MethodName)) ∈ lw_all := lw_g (lw_at lw_m8 7 rfl) rfl
theorem q1808 : (Jvm.Cond.code ({ cls := "LateMirrorsModel", name := "is", desc := "(I)Z" } : Jvm.MethodName) prog_19_method_14_code (2 : Nat) (Option.some Jvm.ClassFile.FieldType.boolean)) ∈ lw_all := lw_g (lw_at lw_m8 8 rfl) rfl
theorem q1809 : (Jvm.Cond.methodLink "LateMirrorsModel" (272 : Nat) ({ cls := "LateMirrorsModel", name := "tellOne", desc := "()V" } : Jvm.MethodName)) ∈ lw_all := lw_g (lw_at lw_m8 9 rfl) rfl
theorem q1810 : (Jvm.Cond.privateMethod ({ cls := "LateMirrorsModel", name := "tellOne", desc := "()V" } : Jvm.MethodName)) ∈ lw_tbl := lw_at lw_m8 10 rfl
theorem q1811 : (Jvm.Cond.instanceMethod ({ cls := "LateMirrorsModel", name := "tellOne", desc := "()V" } : Jvm.MethodName)) ∈ lw_all := lw_g (lw_at lw_m8 11 rfl) rfl
theorem q1812 : (Jvm.Cond.code ({ cls := "LateMirrorsModel", name := "tellOne", desc := "()V" } : Jvm.MethodName) prog_19_method_23_code (2 : Nat) (Option.none : Option Jvm.ClassFile.FieldType)) ∈ lw_all := lw_g (lw_at lw_m8 12 rfl) rfl
theorem q1813 : (Jvm.Cond.methodLink "LateMirrorsModel" (281 : Nat) ({ cls := "LateMirrorsModel", name := "roomFor", desc := "(II)V" } : Jvm.MethodName)) ∈ lw_all := lw_g (lw_at lw_m8 13 rfl) rfl
theorem q1814 : (Jvm.Cond.privateMethod ({ cls := "LateMirrorsModel", name := "roomFor", desc := "(II)V" } : Jvm.MethodName)) ∈ lw_tbl := lw_at lw_m8 14 rfl
theorem q1815 : (Jvm.Cond.instanceMethod ({ cls := "LateMirrorsModel", name := "roomFor", desc := "(II)V" } : Jvm.MethodName)) ∈ lw_all := lw_g (lw_at lw_m8 15 rfl) rfl
theorem q1816 : (Jvm.Cond.code ({ cls := "LateMirrorsModel", name := "roomFor", desc := "(II)V" } : Jvm.MethodName) prog_19_method_22_code (3 : Nat) (Option.none : Option Jvm.ClassFile.FieldType)) ∈ lw_all := lw_g (lw_at lw_m8 16 rfl) rfl
theorem q1817 : (Jvm.Cond.methodLink "LateMirrorsModel" (242 : Nat) ({ cls := "LateMirrorsModel", name := "fail", desc := "(I)V" } : Jvm.MethodName)) ∈ lw_all := lw_g (lw_at lw_m8 17 rfl) rfl
theorem q1818 : (Jvm.Cond.privateMethod ({ cls := "LateMirrorsModel", name := "fail", desc := "(I)V" } : Jvm.MethodName)) ∈ lw_tbl := lw_at lw_m8 18 rfl
theorem q1819 : (Jvm.Cond.instanceMethod ({ cls := "LateMirrorsModel", name := "fail", desc := "(I)V" } : Jvm.MethodName)) ∈ lw_all := lw_g (lw_at lw_m8 19 rfl) rfl
theorem q1820 : (Jvm.Cond.code ({ cls := "LateMirrorsModel", name := "fail", desc := "(I)V" } : Jvm.MethodName) prog_19_method_15_code (2 : Nat) (Option.none : Option Jvm.ClassFile.FieldType)) ∈ lw_all := lw_g (lw_at lw_m8 20 rfl) rfl
theorem q1821 : (Jvm.Cond.methodLink "LateMirrorsModel" (248 : Nat) ({ cls := "LateMirrorsModel", name := "goesOn", desc := "()V" } : Jvm.MethodName)) ∈ lw_all := lw_g (lw_at lw_m8 21 rfl) rfl
theorem q1822 : (Jvm.Cond.privateMethod ({ cls := "LateMirrorsModel", name := "goesOn", desc := "()V" } : Jvm.MethodName)) ∈ lw_tbl := lw_at lw_m8 22 rfl
theorem q1823 : (Jvm.Cond.instanceMethod ({ cls := "LateMirrorsModel", name := "goesOn", desc := "()V" } : Jvm.MethodName)) ∈ lw_all := lw_g (lw_at lw_m8 23 rfl) rfl
theorem q1824 : (Jvm.Cond.code ({ cls := "LateMirrorsModel", name := "goesOn", desc := "()V" } : Jvm.MethodName) prog_19_method_17_code (1 : Nat) (Option.none : Option Jvm.ClassFile.FieldType)) ∈ lw_all := lw_g (lw_at lw_m8 24 rfl) rfl
theorem q1825 : (Jvm.Cond.methodLink "LateMirrorsModel" (285 : Nat) ({ cls := "LateMirrorsModel", name := "named", desc := "()I" } : Jvm.MethodName)) ∈ lw_all := lw_g (lw_at lw_m8 25 rfl) rfl
theorem q1826 : (Jvm.Cond.privateMethod ({ cls := "LateMirrorsModel", name := "named", desc := "()I" } : Jvm.MethodName)) ∈ lw_tbl := lw_at lw_m8 26 rfl
theorem q1827 : (Jvm.Cond.instanceMethod ({ cls := "LateMirrorsModel", name := "named", desc := "()I" } : Jvm.MethodName)) ∈ lw_all := lw_g (lw_at lw_m8 27 rfl) rfl
theorem q1828 : (Jvm.Cond.code ({ cls := "LateMirrorsModel", name := "named", desc := "()I" } : Jvm.MethodName) prog_19_method_24_code (3 : Nat) (Option.some Jvm.ClassFile.FieldType.int)) ∈ lw_all := lw_g (lw_at lw_m8 28 rfl) rfl
theorem q1829 : (Jvm.Cond.methodLink "LateMirrorsModel" (289 : Nat) ({ cls := "LateMirrorsModel", name := "must", desc := "(I)V" } : Jvm.MethodName)) ∈ lw_all := lw_g (lw_at lw_m8 29 rfl) rfl
theorem q1830 : (Jvm.Cond.privateMethod ({ cls := "LateMirrorsModel", name := "must", desc := "(I)V" } : Jvm.MethodName)) ∈ lw_tbl := lw_at lw_m8 30 rfl
theorem q1831 : (Jvm.Cond.instanceMethod ({ cls := "LateMirrorsModel", name := "must", desc := "(I)V" } : Jvm.MethodName)) ∈ lw_all := lw_g (lw_at lw_m8 31 rfl) rfl
theorem q1832 : (Jvm.Cond.code ({ cls := "LateMirrorsModel", name := "must", desc := "(I)V" } : Jvm.MethodName) prog_19_method_18_code (2 : Nat) (Option.none : Option Jvm.ClassFile.FieldType)) ∈ lw_all := lw_g (lw_at lw_m8 32 rfl) rfl
theorem q1833 : (Jvm.Cond.methodLink "LateMirrorsModel" (315 : Nat) ({ cls := "LateMirrorsModel", name := "wrong", desc := "(II)V" } : Jvm.MethodName)) ∈ lw_all := lw_g (lw_at lw_m8 33 rfl) rfl
theorem q1834 : (Jvm.Cond.privateMethod ({ cls := "LateMirrorsModel", name := "wrong", desc := "(II)V" } : Jvm.MethodName)) ∈ lw_tbl := lw_at lw_m8 34 rfl
theorem q1835 : (Jvm.Cond.instanceMethod ({ cls := "LateMirrorsModel", name := "wrong", desc := "(II)V" } : Jvm.MethodName)) ∈ lw_all := lw_g (lw_at lw_m8 35 rfl) rfl
theorem q1836 : (Jvm.Cond.code ({ cls := "LateMirrorsModel", name := "wrong", desc := "(II)V" } : Jvm.MethodName) prog_19_method_16_code (4 : Nat) (Option.none : Option Jvm.ClassFile.FieldType)) ∈ lw_all := lw_g (lw_at lw_m8 36 rfl) rfl
theorem q1837 : (Jvm.Cond.methodLink "LateMirrorsModel" (292 : Nat) ({ cls := "LateMirrorsModel", name := "notes", desc := "(III)V" } : Jvm.MethodName)) ∈ lw_all := lw_g (lw_at lw_m8 37 rfl) rfl
theorem q1838 : (Jvm.Cond.privateMethod ({ cls := "LateMirrorsModel", name := "notes", desc := "(III)V" } : Jvm.MethodName)) ∈ lw_tbl := lw_at lw_m8 38 rfl
theorem q1839 : (Jvm.Cond.instanceMethod ({ cls := "LateMirrorsModel", name := "notes", desc := "(III)V" } : Jvm.MethodName)) ∈ lw_all := lw_g (lw_at lw_m8 39 rfl) rfl
theorem q1840 : (Jvm.Cond.code ({ cls := "LateMirrorsModel", name := "notes", desc := "(III)V" } : Jvm.MethodName) prog_19_method_25_code (4 : Nat) (Option.none : Option Jvm.ClassFile.FieldType)) ∈ lw_all := lw_g (lw_at lw_m8 40 rfl) rfl
theorem q1841 : (Jvm.Cond.methodLink "LateMirrorsModel" (296 : Nat) ({ cls := "LateMirrorsModel", name := "tellDoor", desc := "()V" } : Jvm.MethodName)) ∈ lw_all := lw_g (lw_at lw_m8 41 rfl) rfl
theorem q1842 : (Jvm.Cond.privateMethod ({ cls := "LateMirrorsModel", name := "tellDoor", desc := "()V" } : Jvm.MethodName)) ∈ lw_tbl := lw_at lw_m8 42 rfl
theorem q1843 : (Jvm.Cond.instanceMethod ({ cls := "LateMirrorsModel", name := "tellDoor", desc := "()V" } : Jvm.MethodName)) ∈ lw_all := lw_g (lw_at lw_m8 43 rfl) rfl
theorem q1844 : (Jvm.Cond.code ({ cls := "LateMirrorsModel", name := "tellDoor", desc := "()V" } : Jvm.MethodName) prog_19_method_28_code (3 : Nat) (Option.none : Option Jvm.ClassFile.FieldType)) ∈ lw_all := lw_g (lw_at lw_m8 44 rfl) rfl
theorem q1845 : (Jvm.Cond.methodLink "LateMirrorsModel" (302 : Nat) ({ cls := "LateMirrorsModel", name := "known", desc := "(I)I" } : Jvm.MethodName)) ∈ lw_all := lw_g (lw_at lw_m8 45 rfl) rfl
theorem q1846 : (Jvm.Cond.privateMethod ({ cls := "LateMirrorsModel", name := "known", desc := "(I)I" } : Jvm.MethodName)) ∈ lw_tbl := lw_at lw_m8 46 rfl
theorem q1847 : (Jvm.Cond.instanceMethod ({ cls := "LateMirrorsModel", name := "known", desc := "(I)I" } : Jvm.MethodName)) ∈ lw_all := lw_g (lw_at lw_m8 47 rfl) rfl
theorem q1848 : (Jvm.Cond.code ({ cls := "LateMirrorsModel", name := "known", desc := "(I)I" } : Jvm.MethodName) prog_19_method_26_code (4 : Nat) (Option.some Jvm.ClassFile.FieldType.int)) ∈ lw_all := lw_g (lw_at lw_m8 48 rfl) rfl
theorem q1849 : (Jvm.Cond.methodLink "LateMirrorsModel" (299 : Nat) ({ cls := "LateMirrorsModel", name := "tellMan", desc := "()V" } : Jvm.MethodName)) ∈ lw_all := lw_g (lw_at lw_m8 49 rfl) rfl
theorem q1850 : (Jvm.Cond.privateMethod ({ cls := "LateMirrorsModel", name := "tellMan", desc := "()V" } : Jvm.MethodName)) ∈ lw_tbl := lw_at lw_m8 50 rfl
theorem q1851 : (Jvm.Cond.instanceMethod ({ cls := "LateMirrorsModel", name := "tellMan", desc := "()V" } : Jvm.MethodName)) ∈ lw_all := lw_g (lw_at lw_m8 51 rfl) rfl
theorem q1852 : (Jvm.Cond.code ({ cls := "LateMirrorsModel", name := "tellMan", desc := "()V" } : Jvm.MethodName) prog_19_method_29_code (3 : Nat) (Option.none : Option Jvm.ClassFile.FieldType)) ∈ lw_all := lw_g (lw_at lw_m8 52 rfl) rfl
theorem q1853 : (Jvm.Cond.methodLink "LateMirrorsModel" (311 : Nat) ({ cls := "LateMirrorsModel", name := "bounded", desc := "(II)I" } : Jvm.MethodName)) ∈ lw_all := lw_g (lw_at lw_m8 53 rfl) rfl
theorem q1854 : (Jvm.Cond.privateMethod ({ cls := "LateMirrorsModel", name := "bounded", desc := "(II)I" } : Jvm.MethodName)) ∈ lw_tbl := lw_at lw_m8 54 rfl
theorem q1855 : (Jvm.Cond.instanceMethod ({ cls := "LateMirrorsModel", name := "bounded", desc := "(II)I" } : Jvm.MethodName)) ∈ lw_all := lw_g (lw_at lw_m8 55 rfl) rfl
theorem q1856 : (Jvm.Cond.code ({ cls := "LateMirrorsModel", name := "bounded", desc := "(II)I" } : Jvm.MethodName) prog_19_method_27_code (4 : Nat) (Option.some Jvm.ClassFile.FieldType.int)) ∈ lw_all := lw_g (lw_at lw_m8 56 rfl) rfl
theorem q1857 : (Jvm.Cond.methodLink "LateMirrorsModel" (305 : Nat) ({ cls := "LateMirrorsModel", name := "tellLaw", desc := "(I)V" } : Jvm.MethodName)) ∈ lw_all := lw_g (lw_at lw_m8 57 rfl) rfl
theorem q1858 : (Jvm.Cond.privateMethod ({ cls := "LateMirrorsModel", name := "tellLaw", desc := "(I)V" } : Jvm.MethodName)) ∈ lw_tbl := lw_at lw_m8 58 rfl
theorem q1859 : (Jvm.Cond.instanceMethod ({ cls := "LateMirrorsModel", name := "tellLaw", desc := "(I)V" } : Jvm.MethodName)) ∈ lw_all := lw_g (lw_at lw_m8 59 rfl) rfl
theorem q1860 : (Jvm.Cond.code ({ cls := "LateMirrorsModel", name := "tellLaw", desc := "(I)V" } : Jvm.MethodName) prog_19_method_31_code (4 : Nat) (Option.none : Option Jvm.ClassFile.FieldType)) ∈ lw_all := lw_g (lw_at lw_m8 60 rfl) rfl
theorem q1861 : (Jvm.Cond.methodLink "LateMirrorsModel" (318 : Nat) ({ cls := "LateMirrorsModel", name := "expression", desc := "()V" } : Jvm.MethodName)) ∈ lw_all := lw_g (lw_at lw_m8 61 rfl) rfl
theorem q1862 : (Jvm.Cond.privateMethod ({ cls := "LateMirrorsModel", name := "expression", desc := "()V" } : Jvm.MethodName)) ∈ lw_tbl := lw_at lw_m8 62 rfl
theorem q1863 : (Jvm.Cond.instanceMethod ({ cls := "LateMirrorsModel", name := "expression", desc := "()V" } : Jvm.MethodName)) ∈ lw_all := lw_g (lw_at lw_m8 63 rfl) rfl
theorem q1864 : (Jvm.Cond.code ({ cls := "LateMirrorsModel", name := "expression", desc := "()V" } : Jvm.MethodName) prog_19_method_35_code (3 : Nat) (Option.none : Option Jvm.ClassFile.FieldType)) ∈ lw_all := lw_g (lw_at lw_m8 64 rfl) rfl
theorem q1865 : (Jvm.Cond.methodLink "LateMirrorsModel" (330 : Nat) ({ cls := "LateMirrorsModel", name := "unit", desc := "()V" } : Jvm.MethodName)) ∈ lw_all := lw_g (lw_at lw_m8 65 rfl) rfl
theorem q1866 : (Jvm.Cond.privateMethod ({ cls := "LateMirrorsModel", name := "unit", desc := "()V" } : Jvm.MethodName)) ∈ lw_tbl := lw_at lw_m8 66 rfl
theorem q1867 : (Jvm.Cond.instanceMethod ({ cls := "LateMirrorsModel", name := "unit", desc := "()V" } : Jvm.MethodName)) ∈ lw_all := lw_g (lw_at lw_m8 67 rfl) rfl
theorem q1868 : (Jvm.Cond.code ({ cls := "LateMirrorsModel", name := "unit", desc := "()V" } : Jvm.MethodName) prog_19_method_36_code (1 : Nat) (Option.none : Option Jvm.ClassFile.FieldType)) ∈ lw_all := lw_g (lw_at lw_m8 68 rfl) rfl
theorem q1869 : (Jvm.Cond.methodLink "LateMirrorsModel" (327 : Nat) ({ cls := "LateMirrorsModel", name := "emit", desc := "(II)V" } : Jvm.MethodName)) ∈ lw_all := lw_g (lw_at lw_m8 69 rfl) rfl
theorem q1870 : (Jvm.Cond.privateMethod ({ cls := "LateMirrorsModel", name := "emit", desc := "(II)V" } : Jvm.MethodName)) ∈ lw_tbl := lw_at lw_m8 70 rfl
theorem q1871 : (Jvm.Cond.instanceMethod ({ cls := "LateMirrorsModel", name := "emit", desc := "(II)V" } : Jvm.MethodName)) ∈ lw_all := lw_g (lw_at lw_m8 71 rfl) rfl
theorem q1872 : (Jvm.Cond.code ({ cls := "LateMirrorsModel", name := "emit", desc := "(II)V" } : Jvm.MethodName) prog_19_method_33_code (3 : Nat) (Option.none : Option Jvm.ClassFile.FieldType)) ∈ lw_all := lw_g (lw_at lw_m8 72 rfl) rfl
theorem q1873 : (Jvm.Cond.methodLink "LateMirrorsModel" (333 : Nat) ({ cls := "LateMirrorsModel", name := "comesOut", desc := "(Z)V" } : Jvm.MethodName)) ∈ lw_all := lw_g (lw_at lw_m8 73 rfl) rfl
theorem q1874 : (Jvm.Cond.privateMethod ({ cls := "LateMirrorsModel", name := "comesOut", desc := "(Z)V" } : Jvm.MethodName)) ∈ lw_tbl := lw_at lw_m8 74 rfl
theorem q1875 : (Jvm.Cond.instanceMethod ({ cls := "LateMirrorsModel", name := "comesOut", desc := "(Z)V" } : Jvm.MethodName)) ∈ lw_all := lw_g (lw_at lw_m8 75 rfl) rfl
theorem q1876 : (Jvm.Cond.code ({ cls := "LateMirrorsModel", name := "comesOut", desc := "(Z)V" } : Jvm.MethodName) prog_19_method_34_code (3 : Nat) (Option.none : Option Jvm.ClassFile.FieldType)) ∈ lw_all := lw_g (lw_at lw_m8 76 rfl) rfl
theorem q1877 : (Jvm.Cond.methodLink "LateMirrorsModel" (321 : Nat) ({ cls := "LateMirrorsModel", name := "term", desc := "()V" } : Jvm.MethodName)) ∈ lw_all := lw_g (lw_at lw_m8 77 rfl) rfl
theorem q1878 : (Jvm.Cond.privateMethod ({ cls := "LateMirrorsModel", name := "term", desc := "()V" } : Jvm.MethodName)) ∈ lw_tbl := lw_at lw_m8 78 rfl
theorem q1879 : (Jvm.Cond.instanceMethod ({ cls := "LateMirrorsModel", name := "term", desc := "()V" } : Jvm.MethodName)) ∈ lw_all := lw_g (lw_at lw_m8 79 rfl) rfl
theorem q1880 : (Jvm.Cond.code ({ cls := "LateMirrorsModel", name := "term", desc := "()V" } : Jvm.MethodName) prog_19_method_32_code (1 : Nat) (Option.none : Option Jvm.ClassFile.FieldType)) ∈ lw_all := lw_g (lw_at lw_m8 80 rfl) rfl
theorem q1881 : (Jvm.Cond.methodLink "LateMirrorsModel" (308 : Nat) ({ cls := "LateMirrorsModel", name := "tellMirror", desc := "()V" } : Jvm.MethodName)) ∈ lw_all := lw_g (lw_at lw_m8 81 rfl) rfl
theorem q1882 : (Jvm.Cond.privateMethod ({ cls := "LateMirrorsModel", name := "tellMirror", desc := "()V" } : Jvm.MethodName)) ∈ lw_tbl := lw_at lw_m8 82 rfl
theorem q1883 : (Jvm.Cond.instanceMethod ({ cls := "LateMirrorsModel", name := "tellMirror", desc := "()V" } : Jvm.MethodName)) ∈ lw_all := lw_g (lw_at lw_m8 83 rfl) rfl
theorem q1884 : (Jvm.Cond.code ({ cls := "LateMirrorsModel", name := "tellMirror", desc := "()V" } : Jvm.MethodName) prog_19_method_30_code (3 : Nat) (Option.none : Option Jvm.ClassFile.FieldType)) ∈ lw_all := lw_g (lw_at lw_m8 84 rfl) rfl
theorem q1886 : (Jvm.Cond.instanceMethod ({ cls := "LateMirrorsModel", name := "place", desc := "()I" } : Jvm.MethodName)) ∈ lw_all := lw_g (lw_at lw_m8 86 rfl) rfl
theorem q1887 : (Jvm.Cond.selects "LateMirrorsModel" ({ cls := "LateMirrorsModel", name := "place", desc := "()I" } : Jvm.MethodName) ({ cls := "LateMirrorsModel", name := "place", desc := "()I" } : Jvm.MethodName)) ∈ lw_all := lw_g (lw_at lw_m8 87 rfl) rfl
theorem q1888 : (Jvm.Cond.code ({ cls := "LateMirrorsModel", name := "place", desc := "()I" } : Jvm.MethodName) prog_19_method_21_code (1 : Nat) (Option.some Jvm.ClassFile.FieldType.int)) ∈ lw_all := lw_g (lw_at lw_m8 88 rfl) rfl
theorem q1890 : (Jvm.Cond.instanceMethod ({ cls := "LateMirrorsModel", name := "man", desc := "(III)I" } : Jvm.MethodName)) ∈ lw_all := lw_g (lw_at lw_m8 90 rfl) rfl
theorem q1891 : (Jvm.Cond.selects "LateMirrorsModel" ({ cls := "LateMirrorsModel", name := "man", desc := "(III)I" } : Jvm.MethodName) ({ cls := "LateMirrorsModel", name := "man", desc := "(III)I" } : Jvm.MethodName)) ∈ lw_all := lw_g (lw_at lw_m8 91 rfl) rfl
theorem q1892 : (Jvm.Cond.code ({ cls := "LateMirrorsModel", name := "man", desc := "(III)I" } : Jvm.MethodName) prog_19_method_65_code (4 : Nat) (Option.some Jvm.ClassFile.FieldType.int)) ∈ lw_all := lw_g (lw_at lw_m8 92 rfl) rfl
theorem q1893 : (Jvm.Cond.methodLink "LateMirrorsModel" (410 : Nat) ({ cls := "LateMirrorsModel", name := "isMan", desc := "(I)Z" } : Jvm.MethodName)) ∈ lw_all := lw_g (lw_at lw_m8 93 rfl) rfl
theorem q1894 : (Jvm.Cond.privateMethod ({ cls := "LateMirrorsModel", name := "isMan", desc := "(I)Z" } : Jvm.MethodName)) ∈ lw_tbl := lw_at lw_m8 94 rfl
theorem q1895 : (Jvm.Cond.instanceMethod ({ cls := "LateMirrorsModel", name := "isMan", desc := "(I)Z" } : Jvm.MethodName)) ∈ lw_all := lw_g (lw_at lw_m8 95 rfl) rfl
theorem q1896 : (Jvm.Cond.code ({ cls := "LateMirrorsModel", name := "isMan", desc := "(I)Z" } : Jvm.MethodName) prog_19_method_40_code (2 : Nat) (Option.some Jvm.ClassFile.FieldType.boolean)) ∈ lw_all := lw_g (lw_at lw_m8 96 rfl) rfl
theorem q1897 : (Jvm.Cond.methodLink "LateMirrorsModel" (341 : Nat) ({ cls := "LateMirrorsModel", name := "in", desc := "(III)Z" } : Jvm.MethodName)) ∈ lw_all := lw_g (lw_at lw_m8 97 rfl) rfl
theorem q1898 : (Jvm.Cond.static ({ cls := "LateMirrorsModel", name := "in", desc := "(III)Z" } : Jvm.MethodName)) ∈ lw_all := lw_g (lw_at lw_m8 98 rfl) rfl
theorem q1899 : (Jvm.Cond.code ({ cls := "LateMirrorsModel", name := "in", desc := "(III)Z" } : Jvm.MethodName) prog_19_method_38_code (3 : Nat) (Option.some Jvm.ClassFile.FieldType.boolean)) ∈ lw_all := lw_g (lw_at lw_m8 99 rfl) rfl
theorem q1900 : (Jvm.Cond.methodLink "LateMirrorsModel" (413 : Nat) ({ cls := "LateMirrorsModel", name := "isPast", desc := "(I)Z" } : Jvm.MethodName)) ∈ lw_all := lw_g (lw_at lw_m8 100 rfl) rfl
theorem q1901 : (Jvm.Cond.privateMethod ({ cls := "LateMirrorsModel", name := "isPast", desc := "(I)Z" } : Jvm.MethodName)) ∈ lw_tbl := lw_at lw_m8 101 rfl
theorem q1902 : (Jvm.Cond.instanceMethod ({ cls := "LateMirrorsModel", name := "isPast", desc := "(I)Z" } : Jvm.MethodName)) ∈ lw_all := lw_g (lw_at lw_m8 102 rfl) rfl
theorem q1903 : (Jvm.Cond.code ({ cls := "LateMirrorsModel", name := "isPast", desc := "(I)Z" } : Jvm.MethodName) prog_19_method_42_code (2 : Nat) (Option.some Jvm.ClassFile.FieldType.boolean)) ∈ lw_all := lw_g (lw_at lw_m8 103 rfl) rfl
theorem q1905 : (Jvm.Cond.instanceMethod ({ cls := "LateMirrorsModel", name := "mirror", desc := "(III)I" } : Jvm.MethodName)) ∈ lw_all := lw_g (lw_at lw_m8 105 rfl) rfl
theorem q1906 : (Jvm.Cond.selects "LateMirrorsModel" ({ cls := "LateMirrorsModel", name := "mirror", desc := "(III)I" } : Jvm.MethodName) ({ cls := "LateMirrorsModel", name := "mirror", desc := "(III)I" } : Jvm.MethodName)) ∈ lw_all := lw_g (lw_at lw_m8 106 rfl) rfl
theorem q1907 : (Jvm.Cond.code ({ cls := "LateMirrorsModel", name := "mirror", desc := "(III)I" } : Jvm.MethodName) prog_19_method_66_code (5 : Nat) (Option.some Jvm.ClassFile.FieldType.int)) ∈ lw_all := lw_g (lw_at lw_m8 107 rfl) rfl
theorem q1908 : (Jvm.Cond.methodLink "LateMirrorsModel" (416 : Nat) ({ cls := "LateMirrorsModel", name := "isMirror", desc := "(I)Z" } : Jvm.MethodName)) ∈ lw_all := lw_g (lw_at lw_m8 108 rfl) rfl
theorem q1909 : (Jvm.Cond.privateMethod ({ cls := "LateMirrorsModel", name := "isMirror", desc := "(I)Z" } : Jvm.MethodName)) ∈ lw_tbl := lw_at lw_m8 109 rfl
theorem q1910 : (Jvm.Cond.instanceMethod ({ cls := "LateMirrorsModel", name := "isMirror", desc := "(I)Z" } : Jvm.MethodName)) ∈ lw_all := lw_g (lw_at lw_m8 110 rfl) rfl
theorem q1911 : (Jvm.Cond.code ({ cls := "LateMirrorsModel", name := "isMirror", desc := "(I)Z" } : Jvm.MethodName) prog_19_method_41_code (2 : Nat) (Option.some Jvm.ClassFile.FieldType.boolean)) ∈ lw_all := lw_g (lw_at lw_m8 111 rfl) rfl
theorem q1912 : (Jvm.Cond.methodLink "LateMirrorsModel" (419 : Nat) ({ cls := "LateMirrorsModel", name := "copies", desc := "()V" } : Jvm.MethodName)) ∈ lw_all := lw_g (lw_at lw_m8 112 rfl) rfl
theorem q1913 : (Jvm.Cond.privateMethod ({ cls := "LateMirrorsModel", name := "copies", desc := "()V" } : Jvm.MethodName)) ∈ lw_tbl := lw_at lw_m8 113 rfl
theorem q1914 : (Jvm.Cond.instanceMethod ({ cls := "LateMirrorsModel", name := "copies", desc := "()V" } : Jvm.MethodName)) ∈ lw_all := lw_g (lw_at lw_m8 114 rfl) rfl
theorem q1915 : (Jvm.Cond.code ({ cls := "LateMirrorsModel", name := "copies", desc := "()V" } : Jvm.MethodName) prog_19_method_46_code (2 : Nat) (Option.none : Option Jvm.ClassFile.FieldType)) ∈ lw_all := lw_g (lw_at lw_m8 115 rfl) rfl
theorem q1916 : (Jvm.Cond.methodLink "LateMirrorsModel" (395 : Nat) ({ cls := "LateMirrorsModel", name := "showsAt", desc := "(II)I" } : Jvm.MethodName)) ∈ lw_all := lw_g (lw_at lw_m8 116 rfl) rfl
theorem q1917 : (Jvm.Cond.privateMethod ({ cls := "LateMirrorsModel", name := "showsAt", desc := "(II)I" } : Jvm.MethodName)) ∈ lw_tbl := lw_at lw_m8 117 rfl
theorem q1918 : (Jvm.Cond.instanceMethod ({ cls := "LateMirrorsModel", name := "showsAt", desc := "(II)I" } : Jvm.MethodName)) ∈ lw_all := lw_g (lw_at lw_m8 118 rfl) rfl
theorem q1919 : (Jvm.Cond.code ({ cls := "LateMirrorsModel", name := "showsAt", desc := "(II)I" } : Jvm.MethodName) prog_19_method_59_code (4 : Nat) (Option.some Jvm.ClassFile.FieldType.int)) ∈ lw_all := lw_g (lw_at lw_m8 119 rfl) rfl
theorem q1920 : (Jvm.Cond.methodLink "LateMirrorsModel" (388 : Nat) ({ cls := "LateMirrorsModel", name := "isTurned", desc := "(II)Z" } : Jvm.MethodName)) ∈ lw_all := lw_g (lw_at lw_m8 120 rfl) rfl
theorem q1921 : (Jvm.Cond.privateMethod ({ cls := "LateMirrorsModel", name := "isTurned", desc := "(II)Z" } : Jvm.MethodName)) ∈ lw_tbl := lw_at lw_m8 121 rfl
theorem q1922 : (Jvm.Cond.instanceMethod ({ cls := "LateMirrorsModel", name := "isTurned", desc := "(II)Z" } : Jvm.MethodName)) ∈ lw_all := lw_g (lw_at lw_m8 122 rfl) rfl
theorem q1923 : (Jvm.Cond.code ({ cls := "LateMirrorsModel", name := "isTurned", desc := "(II)Z" } : Jvm.MethodName) prog_19_method_58_code (3 : Nat) (Option.some Jvm.ClassFile.FieldType.boolean)) ∈ lw_all := lw_g (lw_at lw_m8 123 rfl) rfl
theorem q1924 : (Jvm.Cond.methodLink "LateMirrorsModel" (392 : Nat) ({ cls := "LateMirrorsModel", name := "hungIn", desc := "(II)I" } : Jvm.MethodName)) ∈ lw_all := lw_g (lw_at lw_m8 124 rfl) rfl
theorem q1925 : (Jvm.Cond.privateMethod ({ cls := "LateMirrorsModel", name := "hungIn", desc := "(II)I" } : Jvm.MethodName)) ∈ lw_tbl := lw_at lw_m8 125 rfl
theorem q1926 : (Jvm.Cond.instanceMethod ({ cls := "LateMirrorsModel", name := "hungIn", desc := "(II)I" } : Jvm.MethodName)) ∈ lw_all := lw_g (lw_at lw_m8 126 rfl) rfl
theorem q1927 : (Jvm.Cond.code ({ cls := "LateMirrorsModel", name := "hungIn", desc := "(II)I" } : Jvm.MethodName) prog_19_method_60_code (3 : Nat) (Option.some Jvm.ClassFile.FieldType.int)) ∈ lw_all := lw_g (lw_at lw_m8 127 rfl) rfl
theorem q1928 : (Jvm.Cond.methodLink "LateMirrorsModel" (422 : Nat) ({ cls := "LateMirrorsModel", name := "menShown", desc := "(II)I" } : Jvm.MethodName)) ∈ lw_all := lw_g (lw_at lw_m8 128 rfl) rfl
theorem q1929 : (Jvm.Cond.privateMethod ({ cls := "LateMirrorsModel", name := "menShown", desc := "(II)I" } : Jvm.MethodName)) ∈ lw_tbl := lw_at lw_m8 129 rfl
theorem q1930 : (Jvm.Cond.instanceMethod ({ cls := "LateMirrorsModel", name := "menShown", desc := "(II)I" } : Jvm.MethodName)) ∈ lw_all := lw_g (lw_at lw_m8 130 rfl) rfl
theorem q1931 : (Jvm.Cond.code ({ cls := "LateMirrorsModel", name := "menShown", desc := "(II)I" } : Jvm.MethodName) prog_19_method_61_code (3 : Nat) (Option.some Jvm.ClassFile.FieldType.int)) ∈ lw_all := lw_g (lw_at lw_m8 131 rfl) rfl
theorem q1933 : (Jvm.Cond.instanceMethod ({ cls := "LateMirrorsModel", name := "minutes", desc := "(I)I" } : Jvm.MethodName)) ∈ lw_all := lw_g (lw_at lw_m8 133 rfl) rfl
theorem q1934 : (Jvm.Cond.selects "LateMirrorsModel" ({ cls := "LateMirrorsModel", name := "minutes", desc := "(I)I" } : Jvm.MethodName) ({ cls := "LateMirrorsModel", name := "minutes", desc := "(I)I" } : Jvm.MethodName)) ∈ lw_all := lw_g (lw_at lw_m8 134 rfl) rfl
theorem q1935 : (Jvm.Cond.code ({ cls := "LateMirrorsModel", name := "minutes", desc := "(I)I" } : Jvm.MethodName) prog_19_method_68_code (2 : Nat) (Option.some Jvm.ClassFile.FieldType.int)) ∈ lw_all := lw_g (lw_at lw_m8 135 rfl) rfl
theorem q1936 : (Jvm.Cond.methodLink "LateMirrorsModel" (425 : Nat) ({ cls := "LateMirrorsModel", name := "goesTill", desc := "(I)V" } : Jvm.MethodName)) ∈ lw_all := lw_g (lw_at lw_m8 136 rfl) rfl
theorem q1937 : (Jvm.Cond.privateMethod ({ cls := "LateMirrorsModel", name := "goesTill", desc := "(I)V" } : Jvm.MethodName)) ∈ lw_tbl := lw_at lw_m8 137 rfl
theorem q1938 : (Jvm.Cond.instanceMethod ({ cls := "LateMirrorsModel", name := "goesTill", desc := "(I)V" } : Jvm.MethodName)) ∈ lw_all := lw_g (lw_at lw_m8 138 rfl) rfl
theorem q1939 : (Jvm.Cond.code ({ cls := "LateMirrorsModel", name := "goesTill", desc := "(I)V" } : Jvm.MethodName) prog_19_method_64_code (2 : Nat) (Option.none : Option Jvm.ClassFile.FieldType)) ∈ lw_all := lw_g (lw_at lw_m8 139 rfl) rfl
theorem q1940 : (Jvm.Cond.methodLink "LateMirrorsModel" (407 : Nat) ({ cls := "LateMirrorsModel", name := "minuteGoes", desc := "()V" } : Jvm.MethodName)) ∈ lw_all := lw_g (lw_at lw_m8 140 rfl) rfl
theorem q1941 : (Jvm.Cond.privateMethod ({ cls := "LateMirrorsModel", name := "minuteGoes", desc := "()V" } : Jvm.MethodName)) ∈ lw_tbl := lw_at lw_m8 141 rfl
theorem q1942 : (Jvm.Cond.instanceMethod ({ cls := "LateMirrorsModel", name := "minuteGoes", desc := "()V" } : Jvm.MethodName)) ∈ lw_all := lw_g (lw_at lw_m8 142 rfl) rfl
theorem q1943 : (Jvm.Cond.code ({ cls := "LateMirrorsModel", name := "minuteGoes", desc := "()V" } : Jvm.MethodName) prog_19_method_63_code (4 : Nat) (Option.none : Option Jvm.ClassFile.FieldType)) ∈ lw_all := lw_g (lw_at lw_m8 143 rfl) rfl
theorem q1944 : (Jvm.Cond.methodLink "LateMirrorsModel" (398 : Nat) ({ cls := "LateMirrorsModel", name := "goesTo", desc := "(I)I" } : Jvm.MethodName)) ∈ lw_all := lw_g (lw_at lw_m8 144 rfl) rfl
theorem q1945 : (Jvm.Cond.privateMethod ({ cls := "LateMirrorsModel", name := "goesTo", desc := "(I)I" } : Jvm.MethodName)) ∈ lw_tbl := lw_at lw_m8 145 rfl
theorem q1946 : (Jvm.Cond.instanceMethod ({ cls := "LateMirrorsModel", name := "goesTo", desc := "(I)I" } : Jvm.MethodName)) ∈ lw_all := lw_g (lw_at lw_m8 146 rfl) rfl
theorem q1947 : (Jvm.Cond.code ({ cls := "LateMirrorsModel", name := "goesTo", desc := "(I)I" } : Jvm.MethodName) prog_19_method_57_code (6 : Nat) (Option.some Jvm.ClassFile.FieldType.int)) ∈ lw_all := lw_g (lw_at lw_m8 147 rfl) rfl
theorem q1948 : (Jvm.Cond.methodLink "LateMirrorsModel" (385 : Nat) ({ cls := "LateMirrorsModel", name := "through", desc := "(II)I" } : Jvm.MethodName)) ∈ lw_all := lw_g (lw_at lw_m8 148 rfl) rfl
theorem q1949 : (Jvm.Cond.privateMethod ({ cls := "LateMirrorsModel", name := "through", desc := "(II)I" } : Jvm.MethodName)) ∈ lw_tbl := lw_at lw_m8 149 rfl
theorem q1950 : (Jvm.Cond.instanceMethod ({ cls := "LateMirrorsModel", name := "through", desc := "(II)I" } : Jvm.MethodName)) ∈ lw_all := lw_g (lw_at lw_m8 150 rfl) rfl
theorem q1951 : (Jvm.Cond.code ({ cls := "LateMirrorsModel", name := "through", desc := "(II)I" } : Jvm.MethodName) prog_19_method_50_code (7 : Nat) (Option.some Jvm.ClassFile.FieldType.int)) ∈ lw_all := lw_g (lw_at lw_m8 151 rfl) rfl
theorem q1952 : (Jvm.Cond.methodLink "LateMirrorsModel" (401 : Nat) ({ cls := "LateMirrorsModel", name := "lotOf", desc := "(I)I" } : Jvm.MethodName)) ∈ lw_all := lw_g (lw_at lw_m8 152 rfl) rfl
theorem q1953 : (Jvm.Cond.privateMethod ({ cls := "LateMirrorsModel", name := "lotOf", desc := "(I)I" } : Jvm.MethodName)) ∈ lw_tbl := lw_at lw_m8 153 rfl
theorem q1954 : (Jvm.Cond.instanceMethod ({ cls := "LateMirrorsModel", name := "lotOf", desc := "(I)I" } : Jvm.MethodName)) ∈ lw_all := lw_g (lw_at lw_m8 154 rfl) rfl
theorem q1955 : (Jvm.Cond.code ({ cls := "LateMirrorsModel", name := "lotOf", desc := "(I)I" } : Jvm.MethodName) prog_19_method_56_code (2 : Nat) (Option.some Jvm.ClassFile.FieldType.int)) ∈ lw_all := lw_g (lw_at lw_m8 155 rfl) rfl
theorem q1956 : (Jvm.Cond.methodLink "LateMirrorsModel" (382 : Nat) ({ cls := "LateMirrorsModel", name := "mixed", desc := "(II)I" } : Jvm.MethodName)) ∈ lw_all := lw_g (lw_at lw_m8 156 rfl) rfl
theorem q1957 : (Jvm.Cond.static ({ cls := "LateMirrorsModel", name := "mixed", desc := "(II)I" } : Jvm.MethodName)) ∈ lw_all := lw_g (lw_at lw_m8 157 rfl) rfl
theorem q1958 : (Jvm.Cond.code ({ cls := "LateMirrorsModel", name := "mixed", desc := "(II)I" } : Jvm.MethodName) prog_19_method_55_code (3 : Nat) (Option.some Jvm.ClassFile.FieldType.int)) ∈ lw_all := lw_g (lw_at lw_m8 158 rfl) rfl
theorem q1959 : (Jvm.Cond.constant "LateMirrorsModel" (381 : Nat) (1103515245 : Int32)) ∈ lw_all := lw_g (lw_at lw_m8 159 rfl) rfl
theorem q1960 : (Jvm.Cond.methodLink "LateMirrorsModel" (404 : Nat) ({ cls := "LateMirrorsModel", name := "breaksNow", desc := "(I)V" } : Jvm.MethodName)) ∈ lw_all := lw_g (lw_at lw_m8 160 rfl) rfl
theorem q1961 : (Jvm.Cond.privateMethod ({ cls := "LateMirrorsModel", name := "breaksNow", desc := "(I)V" } : Jvm.MethodName)) ∈ lw_tbl := lw_at lw_m8 161 rfl
theorem q1962 : (Jvm.Cond.instanceMethod ({ cls := "LateMirrorsModel", name := "breaksNow", desc := "(I)V" } : Jvm.MethodName)) ∈ lw_all := lw_g (lw_at lw_m8 162 rfl) rfl
theorem q1963 : (Jvm.Cond.code ({ cls := "LateMirrorsModel", name := "breaksNow", desc := "(I)V" } : Jvm.MethodName) prog_19_method_62_code (2 : Nat) (Option.none : Option Jvm.ClassFile.FieldType)) ∈ lw_all := lw_g (lw_at lw_m8 163 rfl) rfl
theorem q1964 : (Jvm.Cond.methodLink "LateMirrorsModel" (428 : Nat) ({ cls := "LateMirrorsModel", name := "keeps", desc := "()V" } : Jvm.MethodName)) ∈ lw_all := lw_g (lw_at lw_m8 164 rfl) rfl
theorem q1965 : (Jvm.Cond.privateMethod ({ cls := "LateMirrorsModel", name := "keeps", desc := "()V" } : Jvm.MethodName)) ∈ lw_tbl := lw_at lw_m8 165 rfl
theorem q1966 : (Jvm.Cond.instanceMethod ({ cls := "LateMirrorsModel", name := "keeps", desc := "()V" } : Jvm.MethodName)) ∈ lw_all := lw_g (lw_at lw_m8 166 rfl) rfl
theorem q1967 : (Jvm.Cond.code ({ cls := "LateMirrorsModel", name := "keeps", desc := "()V" } : Jvm.MethodName) prog_19_method_67_code (3 : Nat) (Option.none : Option Jvm.ClassFile.FieldType)) ∈ lw_all := lw_g (lw_at lw_m8 167 rfl) rfl
theorem q1969 : (Jvm.Cond.instanceMethod ({ cls := "LateMirrorsModel", name := "go", desc := "(II)Z" } : Jvm.MethodName)) ∈ lw_all := lw_g (lw_at lw_m8 169 rfl) rfl
theorem q1970 : (Jvm.Cond.selects "LateMirrorsModel" ({ cls := "LateMirrorsModel", name := "go", desc := "(II)Z" } : Jvm.MethodName) ({ cls := "LateMirrorsModel", name := "go", desc := "(II)Z" } : Jvm.MethodName)) ∈ lw_all := lw_g (lw_at lw_m8 170 rfl) rfl
theorem q1971 : (Jvm.Cond.code ({ cls := "LateMirrorsModel", name := "go", desc := "(II)Z" } : Jvm.MethodName) prog_19_method_71_code (3 : Nat) (Option.some Jvm.ClassFile.FieldType.boolean)) ∈ lw_all := lw_g (lw_at lw_m8 171 rfl) rfl
theorem q1972 : (Jvm.Cond.methodLink "LateMirrorsModel" (431 : Nat) ({ cls := "LateMirrorsModel", name := "nowOf", desc := "(I)I" } : Jvm.MethodName)) ∈ lw_all := lw_g (lw_at lw_m8 172 rfl) rfl
theorem q1973 : (Jvm.Cond.privateMethod ({ cls := "LateMirrorsModel", name := "nowOf", desc := "(I)I" } : Jvm.MethodName)) ∈ lw_tbl := lw_at lw_m8 173 rfl
theorem q1974 : (Jvm.Cond.instanceMethod ({ cls := "LateMirrorsModel", name := "nowOf", desc := "(I)I" } : Jvm.MethodName)) ∈ lw_all := lw_g (lw_at lw_m8 174 rfl) rfl
theorem q1975 : (Jvm.Cond.code ({ cls := "LateMirrorsModel", name := "nowOf", desc := "(I)I" } : Jvm.MethodName) prog_19_method_70_code (2 : Nat) (Option.some Jvm.ClassFile.FieldType.int)) ∈ lw_all := lw_g (lw_at lw_m8 175 rfl) rfl
theorem q1976 : (Jvm.Cond.methodLink "LateMirrorsModel" (434 : Nat) ({ cls := "LateMirrorsModel", name := "becomes", desc := "(II)V" } : Jvm.MethodName)) ∈ lw_all := lw_g (lw_at lw_m8 176 rfl) rfl
theorem q1977 : (Jvm.Cond.privateMethod ({ cls := "LateMirrorsModel", name := "becomes", desc := "(II)V" } : Jvm.MethodName)) ∈ lw_tbl := lw_at lw_m8 177 rfl
theorem q1978 : (Jvm.Cond.instanceMethod ({ cls := "LateMirrorsModel", name := "becomes", desc := "(II)V" } : Jvm.MethodName)) ∈ lw_all := lw_g (lw_at lw_m8 178 rfl) rfl
theorem q1979 : (Jvm.Cond.code ({ cls := "LateMirrorsModel", name := "becomes", desc := "(II)V" } : Jvm.MethodName) prog_19_method_69_code (3 : Nat) (Option.none : Option Jvm.ClassFile.FieldType)) ∈ lw_all := lw_g (lw_at lw_m8 179 rfl) rfl
theorem q1981 : (Jvm.Cond.instanceMethod ({ cls := "LateMirrorsModel", name := "raise", desc := "(II)Z" } : Jvm.MethodName)) ∈ lw_all := lw_g (lw_at lw_m8 181 rfl) rfl
theorem q1982 : (Jvm.Cond.selects "LateMirrorsModel" ({ cls := "LateMirrorsModel", name := "raise", desc := "(II)Z" } : Jvm.MethodName) ({ cls := "LateMirrorsModel", name := "raise", desc := "(II)Z" } : Jvm.MethodName)) ∈ lw_all := lw_g (lw_at lw_m8 182 rfl) rfl
theorem q1983 : (Jvm.Cond.code ({ cls := "LateMirrorsModel", name := "raise", desc := "(II)Z" } : Jvm.MethodName) prog_19_method_72_code (3 : Nat) (Option.some Jvm.ClassFile.FieldType.boolean)) ∈ lw_all := lw_g (lw_at lw_m8 183 rfl) rfl
theorem q1985 : (Jvm.Cond.instanceMethod ({ cls := "LateMirrorsModel", name := "carry", desc := "(II)Z" } : Jvm.MethodName)) ∈ lw_all := lw_g (lw_at lw_m8 185 rfl) rfl
theorem q1986 : (Jvm.Cond.selects "LateMirrorsModel" ({ cls := "LateMirrorsModel", name := "carry", desc := "(II)Z" } : Jvm.MethodName) ({ cls := "LateMirrorsModel", name := "carry", desc := "(II)Z" } : Jvm.MethodName)) ∈ lw_all := lw_g (lw_at lw_m8 186 rfl) rfl
theorem q1987 : (Jvm.Cond.code ({ cls := "LateMirrorsModel", name := "carry", desc := "(II)Z" } : Jvm.MethodName) prog_19_method_73_code (3 : Nat) (Option.some Jvm.ClassFile.FieldType.boolean)) ∈ lw_all := lw_g (lw_at lw_m8 187 rfl) rfl
theorem q1988 : (Jvm.Cond.methodLink "LateMirrorsModel" (437 : Nat) ({ cls := "LateMirrorsModel", name := "isRoom", desc := "(I)Z" } : Jvm.MethodName)) ∈ lw_all := lw_g (lw_at lw_m8 188 rfl) rfl
theorem q1989 : (Jvm.Cond.privateMethod ({ cls := "LateMirrorsModel", name := "isRoom", desc := "(I)Z" } : Jvm.MethodName)) ∈ lw_tbl := lw_at lw_m8 189 rfl
theorem q1990 : (Jvm.Cond.instanceMethod ({ cls := "LateMirrorsModel", name := "isRoom", desc := "(I)Z" } : Jvm.MethodName)) ∈ lw_all := lw_g (lw_at lw_m8 190 rfl) rfl
theorem q1991 : (Jvm.Cond.code ({ cls := "LateMirrorsModel", name := "isRoom", desc := "(I)Z" } : Jvm.MethodName) prog_19_method_39_code (2 : Nat) (Option.some Jvm.ClassFile.FieldType.boolean)) ∈ lw_all := lw_g (lw_at lw_m8 191 rfl) rfl
theorem q1993 : (Jvm.Cond.instanceMethod ({ cls := "LateMirrorsModel", name := "turn", desc := "(IZ)Z" } : Jvm.MethodName)) ∈ lw_all := lw_g (lw_at lw_m8 193 rfl) rfl
theorem q1994 : (Jvm.Cond.selects "LateMirrorsModel" ({ cls := "LateMirrorsModel", name := "turn", desc := "(IZ)Z" } : Jvm.MethodName) ({ cls := "LateMirrorsModel", name := "turn", desc := "(IZ)Z" } : Jvm.MethodName)) ∈ lw_all := lw_g (lw_at lw_m8 194 rfl) rfl
theorem q1995 : (Jvm.Cond.code ({ cls := "LateMirrorsModel", name := "turn", desc := "(IZ)Z" } : Jvm.MethodName) prog_19_method_74_code (3 : Nat) (Option.some Jvm.ClassFile.FieldType.boolean)) ∈ lw_all := lw_g (lw_at lw_m8 195 rfl) rfl
theorem q1997 : (Jvm.Cond.instanceMethod ({ cls := "LateMirrorsModel", name := "smash", desc := "(I)Z" } : Jvm.MethodName)) ∈ lw_all := lw_g (lw_at lw_m8 197 rfl) rfl
theorem q1998 : (Jvm.Cond.selects "LateMirrorsModel" ({ cls := "LateMirrorsModel", name := "smash", desc := "(I)Z" } : Jvm.MethodName) ({ cls := "LateMirrorsModel", name := "smash", desc := "(I)Z" } : Jvm.MethodName)) ∈ lw_all := lw_g (lw_at lw_m8 198 rfl) rfl
theorem q1999 : (Jvm.Cond.code ({ cls := "LateMirrorsModel", name := "smash", desc := "(I)Z" } : Jvm.MethodName) prog_19_method_75_code (2 : Nat) (Option.some Jvm.ClassFile.FieldType.boolean)) ∈ lw_all := lw_g (lw_at lw_m8 199 rfl) rfl
theorem q2001 : (Jvm.Cond.instanceMethod ({ cls := "LateMirrorsModel", name := "undo", desc := "()Z" } : Jvm.MethodName)) ∈ lw_all := lw_g (lw_at lw_m8 201 rfl) rfl
theorem q2002 : (Jvm.Cond.selects "LateMirrorsModel" ({ cls := "LateMirrorsModel", name := "undo", desc := "()Z" } : Jvm.MethodName) ({ cls := "LateMirrorsModel", name := "undo", desc := "()Z" } : Jvm.MethodName)) ∈ lw_all := lw_g (lw_at lw_m8 202 rfl) rfl
theorem q2003 : (Jvm.Cond.code ({ cls := "LateMirrorsModel", name := "undo", desc := "()Z" } : Jvm.MethodName) prog_19_method_76_code (3 : Nat) (Option.some Jvm.ClassFile.FieldType.boolean)) ∈ lw_all := lw_g (lw_at lw_m8 203 rfl) rfl
theorem q2005 : (Jvm.Cond.instanceMethod ({ cls := "LateMirrorsModel", name := "look", desc := "(IIII)I" } : Jvm.MethodName)) ∈ lw_all := lw_g (lw_at lw_m8 205 rfl) rfl
theorem q2006 : (Jvm.Cond.selects "LateMirrorsModel" ({ cls := "LateMirrorsModel", name := "look", desc := "(IIII)I" } : Jvm.MethodName) ({ cls := "LateMirrorsModel", name := "look", desc := "(IIII)I" } : Jvm.MethodName)) ∈ lw_all := lw_g (lw_at lw_m8 206 rfl) rfl
theorem q2007 : (Jvm.Cond.code ({ cls := "LateMirrorsModel", name := "look", desc := "(IIII)I" } : Jvm.MethodName) prog_19_method_78_code (7 : Nat) (Option.some Jvm.ClassFile.FieldType.int)) ∈ lw_all := lw_g (lw_at lw_m8 207 rfl) rfl
theorem q2008 : (Jvm.Cond.methodLink "LateMirrorsModel" (440 : Nat) ({ cls := "LateMirrorsModel", name := "seenIn", desc := "(III)I" } : Jvm.MethodName)) ∈ lw_all := lw_g (lw_at lw_m8 208 rfl) rfl
theorem q2009 : (Jvm.Cond.privateMethod ({ cls := "LateMirrorsModel", name := "seenIn", desc := "(III)I" } : Jvm.MethodName)) ∈ lw_tbl := lw_at lw_m8 209 rfl
theorem q2010 : (Jvm.Cond.instanceMethod ({ cls := "LateMirrorsModel", name := "seenIn", desc := "(III)I" } : Jvm.MethodName)) ∈ lw_all := lw_g (lw_at lw_m8 210 rfl) rfl
theorem q2011 : (Jvm.Cond.code ({ cls := "LateMirrorsModel", name := "seenIn", desc := "(III)I" } : Jvm.MethodName) prog_19_method_77_code (4 : Nat) (Option.some Jvm.ClassFile.FieldType.int)) ∈ lw_all := lw_g (lw_at lw_m8 211 rfl) rfl
theorem q2013 : (Jvm.Cond.instanceMethod ({ cls := "LateMirrorsModel", name := "facing", desc := "(III)I" } : Jvm.MethodName)) ∈ lw_all := lw_g (lw_at lw_m8 213 rfl) rfl
theorem q2014 : (Jvm.Cond.selects "LateMirrorsModel" ({ cls := "LateMirrorsModel", name := "facing", desc := "(III)I" } : Jvm.MethodName) ({ cls := "LateMirrorsModel", name := "facing", desc := "(III)I" } : Jvm.MethodName)) ∈ lw_all := lw_g (lw_at lw_m8 214 rfl) rfl
theorem q2015 : (Jvm.Cond.code ({ cls := "LateMirrorsModel", name := "facing", desc := "(III)I" } : Jvm.MethodName) prog_19_method_79_code (6 : Nat) (Option.some Jvm.ClassFile.FieldType.int)) ∈ lw_all := lw_g (lw_at lw_m8 215 rfl) rfl
theorem q2017 : (Jvm.Cond.instanceMethod ({ cls := "LateMirrorsModel", name := "deepest", desc := "(II)I" } : Jvm.MethodName)) ∈ lw_all := lw_g (lw_at lw_m8 217 rfl) rfl
theorem q2018 : (Jvm.Cond.selects "LateMirrorsModel" ({ cls := "LateMirrorsModel", name := "deepest", desc := "(II)I" } : Jvm.MethodName) ({ cls := "LateMirrorsModel", name := "deepest", desc := "(II)I" } : Jvm.MethodName)) ∈ lw_all := lw_g (lw_at lw_m8 218 rfl) rfl
theorem q2019 : (Jvm.Cond.code ({ cls := "LateMirrorsModel", name := "deepest", desc := "(II)I" } : Jvm.MethodName) prog_19_method_80_code (9 : Nat) (Option.some Jvm.ClassFile.FieldType.int)) ∈ lw_all := lw_g (lw_at lw_m8 219 rfl) rfl
theorem q2021 : (Jvm.Cond.instanceMethod ({ cls := "LateMirrorsModel", name := "last", desc := "(II)I" } : Jvm.MethodName)) ∈ lw_all := lw_g (lw_at lw_m8 221 rfl) rfl
theorem q2022 : (Jvm.Cond.selects "LateMirrorsModel" ({ cls := "LateMirrorsModel", name := "last", desc := "(II)I" } : Jvm.MethodName) ({ cls := "LateMirrorsModel", name := "last", desc := "(II)I" } : Jvm.MethodName)) ∈ lw_all := lw_g (lw_at lw_m8 222 rfl) rfl
theorem q2023 : (Jvm.Cond.code ({ cls := "LateMirrorsModel", name := "last", desc := "(II)I" } : Jvm.MethodName) prog_19_method_81_code (4 : Nat) (Option.some Jvm.ClassFile.FieldType.int)) ∈ lw_all := lw_g (lw_at lw_m8 223 rfl) rfl
theorem q2025 : (Jvm.Cond.instanceMethod ({ cls := "LateMirrorsModel", name := "visits", desc := "(II)I" } : Jvm.MethodName)) ∈ lw_all := lw_g (lw_at lw_m8 225 rfl) rfl
theorem q2026 : (Jvm.Cond.selects "LateMirrorsModel" ({ cls := "LateMirrorsModel", name := "visits", desc := "(II)I" } : Jvm.MethodName) ({ cls := "LateMirrorsModel", name := "visits", desc := "(II)I" } : Jvm.MethodName)) ∈ lw_all := lw_g (lw_at lw_m8 226 rfl) rfl
theorem q2027 : (Jvm.Cond.code ({ cls := "LateMirrorsModel", name := "visits", desc := "(II)I" } : Jvm.MethodName) prog_19_method_82_code (6 : Nat) (Option.some Jvm.ClassFile.FieldType.int)) ∈ lw_all := lw_g (lw_at lw_m8 227 rfl) rfl
theorem q2029 : (Jvm.Cond.instanceMethod ({ cls := "LateMirrorsModel", name := "alone", desc := "(IZ)I" } : Jvm.MethodName)) ∈ lw_all := lw_g (lw_at lw_m8 229 rfl) rfl
theorem q2030 : (Jvm.Cond.selects "LateMirrorsModel" ({ cls := "LateMirrorsModel", name := "alone", desc := "(IZ)I" } : Jvm.MethodName) ({ cls := "LateMirrorsModel", name := "alone", desc := "(IZ)I" } : Jvm.MethodName)) ∈ lw_all := lw_g (lw_at lw_m8 230 rfl) rfl
theorem q2031 : (Jvm.Cond.code ({ cls := "LateMirrorsModel", name := "alone", desc := "(IZ)I" } : Jvm.MethodName) prog_19_method_85_code (6 : Nat) (Option.some Jvm.ClassFile.FieldType.int)) ∈ lw_all := lw_g (lw_at lw_m8 231 rfl) rfl
theorem q2032 : (Jvm.Cond.methodLink "LateMirrorsModel" (446 : Nat) ({ cls := "LateMirrorsModel", name := "aloneOf", desc := "(I)I" } : Jvm.MethodName)) ∈ lw_all := lw_g (lw_at lw_m8 232 rfl) rfl
theorem q2033 : (Jvm.Cond.privateMethod ({ cls := "LateMirrorsModel", name := "aloneOf", desc := "(I)I" } : Jvm.MethodName)) ∈ lw_tbl := lw_at lw_m8 233 rfl
theorem q2034 : (Jvm.Cond.instanceMethod ({ cls := "LateMirrorsModel", name := "aloneOf", desc := "(I)I" } : Jvm.MethodName)) ∈ lw_all := lw_g (lw_at lw_m8 234 rfl) rfl
theorem q2035 : (Jvm.Cond.code ({ cls := "LateMirrorsModel", name := "aloneOf", desc := "(I)I" } : Jvm.MethodName) prog_19_method_84_code (4 : Nat) (Option.some Jvm.ClassFile.FieldType.int)) ∈ lw_all := lw_g (lw_at lw_m8 235 rfl) rfl
theorem q2036 : (Jvm.Cond.methodLink "LateMirrorsModel" (443 : Nat) ({ cls := "LateMirrorsModel", name := "isAlone", desc := "(II)Z" } : Jvm.MethodName)) ∈ lw_all := lw_g (lw_at lw_m8 236 rfl) rfl
theorem q2037 : (Jvm.Cond.privateMethod ({ cls := "LateMirrorsModel", name := "isAlone", desc := "(II)Z" } : Jvm.MethodName)) ∈ lw_tbl := lw_at lw_m8 237 rfl
theorem q2038 : (Jvm.Cond.instanceMethod ({ cls := "LateMirrorsModel", name := "isAlone", desc := "(II)Z" } : Jvm.MethodName)) ∈ lw_all := lw_g (lw_at lw_m8 238 rfl) rfl
theorem q2039 : (Jvm.Cond.code ({ cls := "LateMirrorsModel", name := "isAlone", desc := "(II)Z" } : Jvm.MethodName) prog_19_method_83_code (3 : Nat) (Option.some Jvm.ClassFile.FieldType.boolean)) ∈ lw_all := lw_g (lw_at lw_m8 239 rfl) rfl
theorem q2041 : (Jvm.Cond.instanceMethod ({ cls := "LateMirrorsModel", name := "lonely", desc := "()I" } : Jvm.MethodName)) ∈ lw_all := lw_g (lw_at lw_m9 1 rfl) rfl
theorem q2042 : (Jvm.Cond.selects "LateMirrorsModel" ({ cls := "LateMirrorsModel", name := "lonely", desc := "()I" } : Jvm.MethodName) ({ cls := "LateMirrorsModel", name := "lonely", desc := "()I" } : Jvm.MethodName)) ∈ lw_all := lw_g (lw_at lw_m9 2 rfl) rfl
theorem q2043 : (Jvm.Cond.code ({ cls := "LateMirrorsModel", name := "lonely", desc := "()I" } : Jvm.MethodName) prog_19_method_86_code (3 : Nat) (Option.some Jvm.ClassFile.FieldType.int)) ∈ lw_all := lw_g (lw_at lw_m9 3 rfl) rfl
theorem q2045 : (Jvm.Cond.instanceMethod ({ cls := "LateMirrorsModel", name := "together", desc := "(III)I" } : Jvm.MethodName)) ∈ lw_all := lw_g (lw_at lw_m9 5 rfl) rfl
theorem q2046 : (Jvm.Cond.selects "LateMirrorsModel" ({ cls := "LateMirrorsModel", name := "together", desc := "(III)I" } : Jvm.MethodName) ({ cls := "LateMirrorsModel", name := "together", desc := "(III)I" } : Jvm.MethodName)) ∈ lw_all := lw_g (lw_at lw_m9 6 rfl) rfl
theorem q2047 : (Jvm.Cond.code ({ cls := "LateMirrorsModel", name := "together", desc := "(III)I" } : Jvm.MethodName) prog_19_method_87_code (7 : Nat) (Option.some Jvm.ClassFile.FieldType.int)) ∈ lw_all := lw_g (lw_at lw_m9 7 rfl) rfl
theorem q2049 : (Jvm.Cond.instanceMethod ({ cls := "LateMirrorsModel", name := "glimpses", desc := "(III)I" } : Jvm.MethodName)) ∈ lw_all := lw_g (lw_at lw_m9 9 rfl) rfl
theorem q2050 : (Jvm.Cond.selects "LateMirrorsModel" ({ cls := "LateMirrorsModel", name := "glimpses", desc := "(III)I" } : Jvm.MethodName) ({ cls := "LateMirrorsModel", name := "glimpses", desc := "(III)I" } : Jvm.MethodName)) ∈ lw_all := lw_g (lw_at lw_m9 10 rfl) rfl
theorem q2051 : (Jvm.Cond.code ({ cls := "LateMirrorsModel", name := "glimpses", desc := "(III)I" } : Jvm.MethodName) prog_19_method_89_code (7 : Nat) (Option.some Jvm.ClassFile.FieldType.int)) ∈ lw_all := lw_g (lw_at lw_m9 11 rfl) rfl
theorem q2052 : (Jvm.Cond.methodLink "LateMirrorsModel" (449 : Nat) ({ cls := "LateMirrorsModel", name := "isGlimpsed", desc := "(III)Z" } : Jvm.MethodName)) ∈ lw_all := lw_g (lw_at lw_m9 12 rfl) rfl
theorem q2053 : (Jvm.Cond.privateMethod ({ cls := "LateMirrorsModel", name := "isGlimpsed", desc := "(III)Z" } : Jvm.MethodName)) ∈ lw_tbl := lw_at lw_m9 13 rfl
theorem q2054 : (Jvm.Cond.instanceMethod ({ cls := "LateMirrorsModel", name := "isGlimpsed", desc := "(III)Z" } : Jvm.MethodName)) ∈ lw_all := lw_g (lw_at lw_m9 14 rfl) rfl
theorem q2055 : (Jvm.Cond.code ({ cls := "LateMirrorsModel", name := "isGlimpsed", desc := "(III)Z" } : Jvm.MethodName) prog_19_method_88_code (5 : Nat) (Option.some Jvm.ClassFile.FieldType.boolean)) ∈ lw_all := lw_g (lw_at lw_m9 15 rfl) rfl
theorem q2057 : (Jvm.Cond.instanceMethod ({ cls := "LateMirrorsModel", name := "crowd", desc := "(II)I" } : Jvm.MethodName)) ∈ lw_all := lw_g (lw_at lw_m9 17 rfl) rfl
theorem q2058 : (Jvm.Cond.selects "LateMirrorsModel" ({ cls := "LateMirrorsModel", name := "crowd", desc := "(II)I" } : Jvm.MethodName) ({ cls := "LateMirrorsModel", name := "crowd", desc := "(II)I" } : Jvm.MethodName)) ∈ lw_all := lw_g (lw_at lw_m9 18 rfl) rfl
theorem q2059 : (Jvm.Cond.code ({ cls := "LateMirrorsModel", name := "crowd", desc := "(II)I" } : Jvm.MethodName) prog_19_method_90_code (5 : Nat) (Option.some Jvm.ClassFile.FieldType.int)) ∈ lw_all := lw_g (lw_at lw_m9 19 rfl) rfl
theorem q2061 : (Jvm.Cond.instanceMethod ({ cls := "LateMirrorsModel", name := "ghosts", desc := "(I)I" } : Jvm.MethodName)) ∈ lw_all := lw_g (lw_at lw_m9 21 rfl) rfl
theorem q2062 : (Jvm.Cond.selects "LateMirrorsModel" ({ cls := "LateMirrorsModel", name := "ghosts", desc := "(I)I" } : Jvm.MethodName) ({ cls := "LateMirrorsModel", name := "ghosts", desc := "(I)I" } : Jvm.MethodName)) ∈ lw_all := lw_g (lw_at lw_m9 22 rfl) rfl
theorem q2063 : (Jvm.Cond.code ({ cls := "LateMirrorsModel", name := "ghosts", desc := "(I)I" } : Jvm.MethodName) prog_19_method_91_code (5 : Nat) (Option.some Jvm.ClassFile.FieldType.int)) ∈ lw_all := lw_g (lw_at lw_m9 23 rfl) rfl
theorem q2065 : (Jvm.Cond.instanceMethod ({ cls := "LateMirrorsModel", name := "oldest", desc := "(I)I" } : Jvm.MethodName)) ∈ lw_all := lw_g (lw_at lw_m9 25 rfl) rfl
theorem q2066 : (Jvm.Cond.selects "LateMirrorsModel" ({ cls := "LateMirrorsModel", name := "oldest", desc := "(I)I" } : Jvm.MethodName) ({ cls := "LateMirrorsModel", name := "oldest", desc := "(I)I" } : Jvm.MethodName)) ∈ lw_all := lw_g (lw_at lw_m9 26 rfl) rfl
theorem q2067 : (Jvm.Cond.code ({ cls := "LateMirrorsModel", name := "oldest", desc := "(I)I" } : Jvm.MethodName) prog_19_method_92_code (6 : Nat) (Option.some Jvm.ClassFile.FieldType.int)) ∈ lw_all := lw_g (lw_at lw_m9 27 rfl) rfl
theorem q2069 : (Jvm.Cond.instanceMethod ({ cls := "LateMirrorsModel", name := "shown", desc := "(IZ)I" } : Jvm.MethodName)) ∈ lw_all := lw_g (lw_at lw_m9 29 rfl) rfl
theorem q2070 : (Jvm.Cond.selects "LateMirrorsModel" ({ cls := "LateMirrorsModel", name := "shown", desc := "(IZ)I" } : Jvm.MethodName) ({ cls := "LateMirrorsModel", name := "shown", desc := "(IZ)I" } : Jvm.MethodName)) ∈ lw_all := lw_g (lw_at lw_m9 30 rfl) rfl
theorem q2071 : (Jvm.Cond.code ({ cls := "LateMirrorsModel", name := "shown", desc := "(IZ)I" } : Jvm.MethodName) prog_19_method_93_code (7 : Nat) (Option.some Jvm.ClassFile.FieldType.int)) ∈ lw_all := lw_g (lw_at lw_m9 31 rfl) rfl
theorem q2073 : (Jvm.Cond.instanceMethod ({ cls := "LateMirrorsModel", name := "rankFor", desc := "(II)I" } : Jvm.MethodName)) ∈ lw_all := lw_g (lw_at lw_m9 33 rfl) rfl
theorem q2074 : (Jvm.Cond.selects "LateMirrorsModel" ({ cls := "LateMirrorsModel", name := "rankFor", desc := "(II)I" } : Jvm.MethodName) ({ cls := "LateMirrorsModel", name := "rankFor", desc := "(II)I" } : Jvm.MethodName)) ∈ lw_all := lw_g (lw_at lw_m9 34 rfl) rfl
theorem q2075 : (Jvm.Cond.code ({ cls := "LateMirrorsModel", name := "rankFor", desc := "(II)I" } : Jvm.MethodName) prog_19_method_94_code (4 : Nat) (Option.some Jvm.ClassFile.FieldType.int)) ∈ lw_all := lw_g (lw_at lw_m9 35 rfl) rfl
theorem q2077 : (Jvm.Cond.instanceMethod ({ cls := "LateMirrorsModel", name := "still", desc := "(II)I" } : Jvm.MethodName)) ∈ lw_all := lw_g (lw_at lw_m9 37 rfl) rfl
theorem q2078 : (Jvm.Cond.selects "LateMirrorsModel" ({ cls := "LateMirrorsModel", name := "still", desc := "(II)I" } : Jvm.MethodName) ({ cls := "LateMirrorsModel", name := "still", desc := "(II)I" } : Jvm.MethodName)) ∈ lw_all := lw_g (lw_at lw_m9 38 rfl) rfl
theorem q2079 : (Jvm.Cond.code ({ cls := "LateMirrorsModel", name := "still", desc := "(II)I" } : Jvm.MethodName) prog_19_method_97_code (6 : Nat) (Option.some Jvm.ClassFile.FieldType.int)) ∈ lw_all := lw_g (lw_at lw_m9 39 rfl) rfl
theorem q2080 : (Jvm.Cond.methodLink "LateMirrorsModel" (452 : Nat) ({ cls := "LateMirrorsModel", name := "fillsAll", desc := "()V" } : Jvm.MethodName)) ∈ lw_all := lw_g (lw_at lw_m9 40 rfl) rfl
theorem q2081 : (Jvm.Cond.privateMethod ({ cls := "LateMirrorsModel", name := "fillsAll", desc := "()V" } : Jvm.MethodName)) ∈ lw_tbl := lw_at lw_m9 41 rfl
theorem q2082 : (Jvm.Cond.instanceMethod ({ cls := "LateMirrorsModel", name := "fillsAll", desc := "()V" } : Jvm.MethodName)) ∈ lw_all := lw_g (lw_at lw_m9 42 rfl) rfl
theorem q2083 : (Jvm.Cond.code ({ cls := "LateMirrorsModel", name := "fillsAll", desc := "()V" } : Jvm.MethodName) prog_19_method_95_code (1 : Nat) (Option.none : Option Jvm.ClassFile.FieldType)) ∈ lw_all := lw_g (lw_at lw_m9 43 rfl) rfl
theorem q2084 : (Jvm.Cond.methodLink "LateMirrorsModel" (455 : Nat) ({ cls := "LateMirrorsModel", name := "showsRoom", desc := "(IIII)Z" } : Jvm.MethodName)) ∈ lw_all := lw_g (lw_at lw_m9 44 rfl) rfl
theorem q2085 : (Jvm.Cond.privateMethod ({ cls := "LateMirrorsModel", name := "showsRoom", desc := "(IIII)Z" } : Jvm.MethodName)) ∈ lw_tbl := lw_at lw_m9 45 rfl
theorem q2086 : (Jvm.Cond.instanceMethod ({ cls := "LateMirrorsModel", name := "showsRoom", desc := "(IIII)Z" } : Jvm.MethodName)) ∈ lw_all := lw_g (lw_at lw_m9 46 rfl) rfl
theorem q2087 : (Jvm.Cond.code ({ cls := "LateMirrorsModel", name := "showsRoom", desc := "(IIII)Z" } : Jvm.MethodName) prog_19_method_96_code (5 : Nat) (Option.some Jvm.ClassFile.FieldType.boolean)) ∈ lw_all := lw_g (lw_at lw_m9 47 rfl) rfl
theorem q2089 : (Jvm.Cond.instanceMethod ({ cls := "LateMirrorsModel", name := "soonest", desc := "(III)I" } : Jvm.MethodName)) ∈ lw_all := lw_g (lw_at lw_m9 49 rfl) rfl
theorem q2090 : (Jvm.Cond.selects "LateMirrorsModel" ({ cls := "LateMirrorsModel", name := "soonest", desc := "(III)I" } : Jvm.MethodName) ({ cls := "LateMirrorsModel", name := "soonest", desc := "(III)I" } : Jvm.MethodName)) ∈ lw_all := lw_g (lw_at lw_m9 50 rfl) rfl
theorem q2091 : (Jvm.Cond.code ({ cls := "LateMirrorsModel", name := "soonest", desc := "(III)I" } : Jvm.MethodName) prog_19_method_98_code (6 : Nat) (Option.some Jvm.ClassFile.FieldType.int)) ∈ lw_all := lw_g (lw_at lw_m9 51 rfl) rfl
theorem q2093 : (Jvm.Cond.instanceMethod ({ cls := "LateMirrorsModel", name := "seen", desc := "(II)I" } : Jvm.MethodName)) ∈ lw_all := lw_g (lw_at lw_m9 53 rfl) rfl
theorem q2094 : (Jvm.Cond.selects "LateMirrorsModel" ({ cls := "LateMirrorsModel", name := "seen", desc := "(II)I" } : Jvm.MethodName) ({ cls := "LateMirrorsModel", name := "seen", desc := "(II)I" } : Jvm.MethodName)) ∈ lw_all := lw_g (lw_at lw_m9 54 rfl) rfl
theorem q2095 : (Jvm.Cond.code ({ cls := "LateMirrorsModel", name := "seen", desc := "(II)I" } : Jvm.MethodName) prog_19_method_101_code (6 : Nat) (Option.some Jvm.ClassFile.FieldType.int)) ∈ lw_all := lw_g (lw_at lw_m9 55 rfl) rfl
theorem q2096 : (Jvm.Cond.methodLink "LateMirrorsModel" (459 : Nat) ({ cls := "LateMirrorsModel", name := "isLong", desc := "(I)Z" } : Jvm.MethodName)) ∈ lw_all := lw_g (lw_at lw_m9 56 rfl) rfl
theorem q2097 : (Jvm.Cond.static ({ cls := "LateMirrorsModel", name := "isLong", desc := "(I)Z" } : Jvm.MethodName)) ∈ lw_all := lw_g (lw_at lw_m9 57 rfl) rfl
theorem q2098 : (Jvm.Cond.code ({ cls := "LateMirrorsModel", name := "isLong", desc := "(I)Z" } : Jvm.MethodName) prog_19_method_99_code (1 : Nat) (Option.some Jvm.ClassFile.FieldType.boolean)) ∈ lw_all := lw_g (lw_at lw_m9 58 rfl) rfl
theorem q2099 : (Jvm.Cond.methodLink "LateMirrorsModel" (462 : Nat) ({ cls := "LateMirrorsModel", name := "isSeenIn", desc := "(III)Z" } : Jvm.MethodName)) ∈ lw_all := lw_g (lw_at lw_m9 59 rfl) rfl
theorem q2100 : (Jvm.Cond.privateMethod ({ cls := "LateMirrorsModel", name := "isSeenIn", desc := "(III)Z" } : Jvm.MethodName)) ∈ lw_tbl := lw_at lw_m9 60 rfl
theorem q2101 : (Jvm.Cond.instanceMethod ({ cls := "LateMirrorsModel", name := "isSeenIn", desc := "(III)Z" } : Jvm.MethodName)) ∈ lw_all := lw_g (lw_at lw_m9 61 rfl) rfl
theorem q2102 : (Jvm.Cond.code ({ cls := "LateMirrorsModel", name := "isSeenIn", desc := "(III)Z" } : Jvm.MethodName) prog_19_method_100_code (4 : Nat) (Option.some Jvm.ClassFile.FieldType.boolean)) ∈ lw_all := lw_g (lw_at lw_m9 62 rfl) rfl
theorem q2104 : (Jvm.Cond.instanceMethod ({ cls := "LateMirrorsModel", name := "turned", desc := "(II)I" } : Jvm.MethodName)) ∈ lw_all := lw_g (lw_at lw_m9 64 rfl) rfl
theorem q2105 : (Jvm.Cond.selects "LateMirrorsModel" ({ cls := "LateMirrorsModel", name := "turned", desc := "(II)I" } : Jvm.MethodName) ({ cls := "LateMirrorsModel", name := "turned", desc := "(II)I" } : Jvm.MethodName)) ∈ lw_all := lw_g (lw_at lw_m9 65 rfl) rfl
theorem q2106 : (Jvm.Cond.code ({ cls := "LateMirrorsModel", name := "turned", desc := "(II)I" } : Jvm.MethodName) prog_19_method_102_code (6 : Nat) (Option.some Jvm.ClassFile.FieldType.int)) ∈ lw_all := lw_g (lw_at lw_m9 66 rfl) rfl
theorem q2108 : (Jvm.Cond.instanceMethod ({ cls := "LateMirrorsModel", name := "willBe", desc := "(II)I" } : Jvm.MethodName)) ∈ lw_all := lw_g (lw_at lw_m9 68 rfl) rfl
theorem q2109 : (Jvm.Cond.selects "LateMirrorsModel" ({ cls := "LateMirrorsModel", name := "willBe", desc := "(II)I" } : Jvm.MethodName) ({ cls := "LateMirrorsModel", name := "willBe", desc := "(II)I" } : Jvm.MethodName)) ∈ lw_all := lw_g (lw_at lw_m9 69 rfl) rfl
theorem q2110 : (Jvm.Cond.code ({ cls := "LateMirrorsModel", name := "willBe", desc := "(II)I" } : Jvm.MethodName) prog_19_method_103_code (3 : Nat) (Option.some Jvm.ClassFile.FieldType.int)) ∈ lw_all := lw_g (lw_at lw_m9 70 rfl) rfl
theorem q2112 : (Jvm.Cond.instanceMethod ({ cls := "LateMirrorsModel", name := "odds", desc := "(III)I" } : Jvm.MethodName)) ∈ lw_all := lw_g (lw_at lw_m9 72 rfl) rfl
theorem q2113 : (Jvm.Cond.selects "LateMirrorsModel" ({ cls := "LateMirrorsModel", name := "odds", desc := "(III)I" } : Jvm.MethodName) ({ cls := "LateMirrorsModel", name := "odds", desc := "(III)I" } : Jvm.MethodName)) ∈ lw_all := lw_g (lw_at lw_m9 73 rfl) rfl
theorem q2114 : (Jvm.Cond.code ({ cls := "LateMirrorsModel", name := "odds", desc := "(III)I" } : Jvm.MethodName) prog_19_method_104_code (6 : Nat) (Option.some Jvm.ClassFile.FieldType.int)) ∈ lw_all := lw_g (lw_at lw_m9 74 rfl) rfl
theorem q2116 : (Jvm.Cond.instanceMethod ({ cls := "LateMirrorsModel", name := "view", desc := "(IIII)I" } : Jvm.MethodName)) ∈ lw_all := lw_g (lw_at lw_m9 76 rfl) rfl
theorem q2117 : (Jvm.Cond.selects "LateMirrorsModel" ({ cls := "LateMirrorsModel", name := "view", desc := "(IIII)I" } : Jvm.MethodName) ({ cls := "LateMirrorsModel", name := "view", desc := "(IIII)I" } : Jvm.MethodName)) ∈ lw_all := lw_g (lw_at lw_m9 77 rfl) rfl
theorem q2118 : (Jvm.Cond.code ({ cls := "LateMirrorsModel", name := "view", desc := "(IIII)I" } : Jvm.MethodName) prog_19_method_106_code (8 : Nat) (Option.some Jvm.ClassFile.FieldType.int)) ∈ lw_all := lw_g (lw_at lw_m9 78 rfl) rfl
theorem q2119 : (Jvm.Cond.methodLink "LateMirrorsModel" (465 : Nat) ({ cls := "LateMirrorsModel", name := "fillsFar", desc := "(II)V" } : Jvm.MethodName)) ∈ lw_all := lw_g (lw_at lw_m9 79 rfl) rfl
theorem q2120 : (Jvm.Cond.privateMethod ({ cls := "LateMirrorsModel", name := "fillsFar", desc := "(II)V" } : Jvm.MethodName)) ∈ lw_tbl := lw_at lw_m9 80 rfl
theorem q2121 : (Jvm.Cond.instanceMethod ({ cls := "LateMirrorsModel", name := "fillsFar", desc := "(II)V" } : Jvm.MethodName)) ∈ lw_all := lw_g (lw_at lw_m9 81 rfl) rfl
theorem q2122 : (Jvm.Cond.code ({ cls := "LateMirrorsModel", name := "fillsFar", desc := "(II)V" } : Jvm.MethodName) prog_19_method_105_code (7 : Nat) (Option.none : Option Jvm.ClassFile.FieldType)) ∈ lw_all := lw_g (lw_at lw_m9 82 rfl) rfl
theorem q2124 : (Jvm.Cond.instanceMethod ({ cls := "LateMirrorsModel", name := "hidden", desc := "(III)I" } : Jvm.MethodName)) ∈ lw_all := lw_g (lw_at lw_m9 84 rfl) rfl
theorem q2125 : (Jvm.Cond.selects "LateMirrorsModel" ({ cls := "LateMirrorsModel", name := "hidden", desc := "(III)I" } : Jvm.MethodName) ({ cls := "LateMirrorsModel", name := "hidden", desc := "(III)I" } : Jvm.MethodName)) ∈ lw_all := lw_g (lw_at lw_m9 85 rfl) rfl
theorem q2126 : (Jvm.Cond.code ({ cls := "LateMirrorsModel", name := "hidden", desc := "(III)I" } : Jvm.MethodName) prog_19_method_108_code (6 : Nat) (Option.some Jvm.ClassFile.FieldType.int)) ∈ lw_all := lw_g (lw_at lw_m9 86 rfl) rfl
theorem q2127 : (Jvm.Cond.methodLink "LateMirrorsModel" (468 : Nat) ({ cls := "LateMirrorsModel", name := "watched", desc := "()I" } : Jvm.MethodName)) ∈ lw_all := lw_g (lw_at lw_m9 87 rfl) rfl
theorem q2128 : (Jvm.Cond.privateMethod ({ cls := "LateMirrorsModel", name := "watched", desc := "()I" } : Jvm.MethodName)) ∈ lw_tbl := lw_at lw_m9 88 rfl
theorem q2129 : (Jvm.Cond.instanceMethod ({ cls := "LateMirrorsModel", name := "watched", desc := "()I" } : Jvm.MethodName)) ∈ lw_all := lw_g (lw_at lw_m9 89 rfl) rfl
theorem q2130 : (Jvm.Cond.code ({ cls := "LateMirrorsModel", name := "watched", desc := "()I" } : Jvm.MethodName) prog_19_method_107_code (3 : Nat) (Option.some Jvm.ClassFile.FieldType.int)) ∈ lw_all := lw_g (lw_at lw_m9 90 rfl) rfl
theorem q2132 : (Jvm.Cond.instanceMethod ({ cls := "LateMirrorsModel", name := "stand", desc := "(I)I" } : Jvm.MethodName)) ∈ lw_all := lw_g (lw_at lw_m9 92 rfl) rfl
theorem q2133 : (Jvm.Cond.selects "LateMirrorsModel" ({ cls := "LateMirrorsModel", name := "stand", desc := "(I)I" } : Jvm.MethodName) ({ cls := "LateMirrorsModel", name := "stand", desc := "(I)I" } : Jvm.MethodName)) ∈ lw_all := lw_g (lw_at lw_m9 93 rfl) rfl
theorem q2134 : (Jvm.Cond.code ({ cls := "LateMirrorsModel", name := "stand", desc := "(I)I" } : Jvm.MethodName) prog_19_method_110_code (4 : Nat) (Option.some Jvm.ClassFile.FieldType.int)) ∈ lw_all := lw_g (lw_at lw_m9 94 rfl) rfl
theorem q2135 : (Jvm.Cond.methodLink "LateMirrorsModel" (471 : Nat) ({ cls := "LateMirrorsModel", name := "seenFrom", desc := "(I)I" } : Jvm.MethodName)) ∈ lw_all := lw_g (lw_at lw_m9 95 rfl) rfl
theorem q2136 : (Jvm.Cond.privateMethod ({ cls := "LateMirrorsModel", name := "seenFrom", desc := "(I)I" } : Jvm.MethodName)) ∈ lw_tbl := lw_at lw_m9 96 rfl
theorem q2137 : (Jvm.Cond.instanceMethod ({ cls := "LateMirrorsModel", name := "seenFrom", desc := "(I)I" } : Jvm.MethodName)) ∈ lw_all := lw_g (lw_at lw_m9 97 rfl) rfl
theorem q2138 : (Jvm.Cond.code ({ cls := "LateMirrorsModel", name := "seenFrom", desc := "(I)I" } : Jvm.MethodName) prog_19_method_109_code (4 : Nat) (Option.some Jvm.ClassFile.FieldType.int)) ∈ lw_all := lw_g (lw_at lw_m9 98 rfl) rfl
theorem q2140 : (Jvm.Cond.instanceMethod ({ cls := "LateMirrorsModel", name := "rests", desc := "(III)I" } : Jvm.MethodName)) ∈ lw_all := lw_g (lw_at lw_m9 100 rfl) rfl
theorem q2141 : (Jvm.Cond.selects "LateMirrorsModel" ({ cls := "LateMirrorsModel", name := "rests", desc := "(III)I" } : Jvm.MethodName) ({ cls := "LateMirrorsModel", name := "rests", desc := "(III)I" } : Jvm.MethodName)) ∈ lw_all := lw_g (lw_at lw_m9 101 rfl) rfl
theorem q2142 : (Jvm.Cond.code ({ cls := "LateMirrorsModel", name := "rests", desc := "(III)I" } : Jvm.MethodName) prog_19_method_113_code (7 : Nat) (Option.some Jvm.ClassFile.FieldType.int)) ∈ lw_all := lw_g (lw_at lw_m9 102 rfl) rfl
theorem q2143 : (Jvm.Cond.methodLink "LateMirrorsModel" (477 : Nat) ({ cls := "LateMirrorsModel", name := "isResting", desc := "(III)Z" } : Jvm.MethodName)) ∈ lw_all := lw_g (lw_at lw_m9 103 rfl) rfl
theorem q2144 : (Jvm.Cond.privateMethod ({ cls := "LateMirrorsModel", name := "isResting", desc := "(III)Z" } : Jvm.MethodName)) ∈ lw_tbl := lw_at lw_m9 104 rfl
theorem q2145 : (Jvm.Cond.instanceMethod ({ cls := "LateMirrorsModel", name := "isResting", desc := "(III)Z" } : Jvm.MethodName)) ∈ lw_all := lw_g (lw_at lw_m9 105 rfl) rfl
theorem q2146 : (Jvm.Cond.code ({ cls := "LateMirrorsModel", name := "isResting", desc := "(III)Z" } : Jvm.MethodName) prog_19_method_112_code (5 : Nat) (Option.some Jvm.ClassFile.FieldType.boolean)) ∈ lw_all := lw_g (lw_at lw_m9 106 rfl) rfl
theorem q2147 : (Jvm.Cond.methodLink "LateMirrorsModel" (474 : Nat) ({ cls := "LateMirrorsModel", name := "hasIn", desc := "(III)I" } : Jvm.MethodName)) ∈ lw_all := lw_g (lw_at lw_m9 107 rfl) rfl
theorem q2148 : (Jvm.Cond.privateMethod ({ cls := "LateMirrorsModel", name := "hasIn", desc := "(III)I" } : Jvm.MethodName)) ∈ lw_tbl := lw_at lw_m9 108 rfl
theorem q2149 : (Jvm.Cond.instanceMethod ({ cls := "LateMirrorsModel", name := "hasIn", desc := "(III)I" } : Jvm.MethodName)) ∈ lw_all := lw_g (lw_at lw_m9 109 rfl) rfl
theorem q2150 : (Jvm.Cond.code ({ cls := "LateMirrorsModel", name := "hasIn", desc := "(III)I" } : Jvm.MethodName) prog_19_method_111_code (4 : Nat) (Option.some Jvm.ClassFile.FieldType.int)) ∈ lw_all := lw_g (lw_at lw_m9 110 rfl) rfl
theorem q2152 : (Jvm.Cond.instanceMethod ({ cls := "LateMirrorsModel", name := "jolt", desc := "(III)I" } : Jvm.MethodName)) ∈ lw_all := lw_g (lw_at lw_m9 112 rfl) rfl
theorem q2153 : (Jvm.Cond.selects "LateMirrorsModel" ({ cls := "LateMirrorsModel", name := "jolt", desc := "(III)I" } : Jvm.MethodName) ({ cls := "LateMirrorsModel", name := "jolt", desc := "(III)I" } : Jvm.MethodName)) ∈ lw_all := lw_g (lw_at lw_m9 113 rfl) rfl
theorem q2154 : (Jvm.Cond.code ({ cls := "LateMirrorsModel", name := "jolt", desc := "(III)I" } : Jvm.MethodName) prog_19_method_114_code (10 : Nat) (Option.some Jvm.ClassFile.FieldType.int)) ∈ lw_all := lw_g (lw_at lw_m9 114 rfl) rfl
theorem q2156 : (Jvm.Cond.instanceMethod ({ cls := "LateMirrorsModel", name := "tell", desc := "(IIIZ)I" } : Jvm.MethodName)) ∈ lw_all := lw_g (lw_at lw_m9 116 rfl) rfl
theorem q2157 : (Jvm.Cond.selects "LateMirrorsModel" ({ cls := "LateMirrorsModel", name := "tell", desc := "(IIIZ)I" } : Jvm.MethodName) ({ cls := "LateMirrorsModel", name := "tell", desc := "(IIIZ)I" } : Jvm.MethodName)) ∈ lw_all := lw_g (lw_at lw_m9 117 rfl) rfl
theorem q2158 : (Jvm.Cond.code ({ cls := "LateMirrorsModel", name := "tell", desc := "(IIIZ)I" } : Jvm.MethodName) prog_19_method_115_code (5 : Nat) (Option.some Jvm.ClassFile.FieldType.int)) ∈ lw_all := lw_g (lw_at lw_m9 118 rfl) rfl
theorem q2160 : (Jvm.Cond.instanceMethod ({ cls := "LateMirrorsModel", name := "forget", desc := "()I" } : Jvm.MethodName)) ∈ lw_all := lw_g (lw_at lw_m9 120 rfl) rfl
theorem q2161 : (Jvm.Cond.selects "LateMirrorsModel" ({ cls := "LateMirrorsModel", name := "forget", desc := "()I" } : Jvm.MethodName) ({ cls := "LateMirrorsModel", name := "forget", desc := "()I" } : Jvm.MethodName)) ∈ lw_all := lw_g (lw_at lw_m9 121 rfl) rfl
theorem q2162 : (Jvm.Cond.code ({ cls := "LateMirrorsModel", name := "forget", desc := "()I" } : Jvm.MethodName) prog_19_method_116_code (2 : Nat) (Option.some Jvm.ClassFile.FieldType.int)) ∈ lw_all := lw_g (lw_at lw_m9 122 rfl) rfl
theorem q2164 : (Jvm.Cond.instanceMethod ({ cls := "LateMirrorsModel", name := "began", desc := "(III)I" } : Jvm.MethodName)) ∈ lw_all := lw_g (lw_at lw_m9 124 rfl) rfl
theorem q2165 : (Jvm.Cond.selects "LateMirrorsModel" ({ cls := "LateMirrorsModel", name := "began", desc := "(III)I" } : Jvm.MethodName) ({ cls := "LateMirrorsModel", name := "began", desc := "(III)I" } : Jvm.MethodName)) ∈ lw_all := lw_g (lw_at lw_m9 125 rfl) rfl
theorem q2166 : (Jvm.Cond.code ({ cls := "LateMirrorsModel", name := "began", desc := "(III)I" } : Jvm.MethodName) prog_19_method_118_code (6 : Nat) (Option.some Jvm.ClassFile.FieldType.int)) ∈ lw_all := lw_g (lw_at lw_m9 126 rfl) rfl
theorem q2167 : (Jvm.Cond.methodLink "LateMirrorsModel" (480 : Nat) ({ cls := "LateMirrorsModel", name := "isSo", desc := "(III)Z" } : Jvm.MethodName)) ∈ lw_all := lw_g (lw_at lw_m9 127 rfl) rfl
theorem q2168 : (Jvm.Cond.privateMethod ({ cls := "LateMirrorsModel", name := "isSo", desc := "(III)Z" } : Jvm.MethodName)) ∈ lw_tbl := lw_at lw_m9 128 rfl
theorem q2169 : (Jvm.Cond.instanceMethod ({ cls := "LateMirrorsModel", name := "isSo", desc := "(III)Z" } : Jvm.MethodName)) ∈ lw_all := lw_g (lw_at lw_m9 129 rfl) rfl
theorem q2170 : (Jvm.Cond.code ({ cls := "LateMirrorsModel", name := "isSo", desc := "(III)Z" } : Jvm.MethodName) prog_19_method_117_code (6 : Nat) (Option.some Jvm.ClassFile.FieldType.boolean)) ∈ lw_all := lw_g (lw_at lw_m9 130 rfl) rfl
theorem q2172 : (Jvm.Cond.instanceMethod ({ cls := "LateMirrorsModel", name := "hold", desc := "(I)Z" } : Jvm.MethodName)) ∈ lw_all := lw_g (lw_at lw_m9 132 rfl) rfl
theorem q2173 : (Jvm.Cond.selects "LateMirrorsModel" ({ cls := "LateMirrorsModel", name := "hold", desc := "(I)Z" } : Jvm.MethodName) ({ cls := "LateMirrorsModel", name := "hold", desc := "(I)Z" } : Jvm.MethodName)) ∈ lw_all := lw_g (lw_at lw_m9 133 rfl) rfl
theorem q2174 : (Jvm.Cond.code ({ cls := "LateMirrorsModel", name := "hold", desc := "(I)Z" } : Jvm.MethodName) prog_19_method_119_code (3 : Nat) (Option.some Jvm.ClassFile.FieldType.boolean)) ∈ lw_all := lw_g (lw_at lw_m9 134 rfl) rfl
theorem q2176 : (Jvm.Cond.instanceMethod ({ cls := "LateMirrorsModel", name := "restore", desc := "(I)Z" } : Jvm.MethodName)) ∈ lw_all := lw_g (lw_at lw_m9 136 rfl) rfl
theorem q2177 : (Jvm.Cond.selects "LateMirrorsModel" ({ cls := "LateMirrorsModel", name := "restore", desc := "(I)Z" } : Jvm.MethodName) ({ cls := "LateMirrorsModel", name := "restore", desc := "(I)Z" } : Jvm.MethodName)) ∈ lw_all := lw_g (lw_at lw_m9 137 rfl) rfl
theorem q2178 : (Jvm.Cond.code ({ cls := "LateMirrorsModel", name := "restore", desc := "(I)Z" } : Jvm.MethodName) prog_19_method_120_code (3 : Nat) (Option.some Jvm.ClassFile.FieldType.boolean)) ∈ lw_all := lw_g (lw_at lw_m9 138 rfl) rfl
theorem q2180 : (Jvm.Cond.instanceMethod ({ cls := "LateMirrorsModel", name := "count", desc := "(I)I" } : Jvm.MethodName)) ∈ lw_all := lw_g (lw_at lw_m9 140 rfl) rfl
theorem q2181 : (Jvm.Cond.selects "LateMirrorsModel" ({ cls := "LateMirrorsModel", name := "count", desc := "(I)I" } : Jvm.MethodName) ({ cls := "LateMirrorsModel", name := "count", desc := "(I)I" } : Jvm.MethodName)) ∈ lw_all := lw_g (lw_at lw_m9 141 rfl) rfl
theorem q2182 : (Jvm.Cond.code ({ cls := "LateMirrorsModel", name := "count", desc := "(I)I" } : Jvm.MethodName) prog_19_method_121_code (4 : Nat) (Option.some Jvm.ClassFile.FieldType.int)) ∈ lw_all := lw_g (lw_at lw_m9 142 rfl) rfl
theorem q2203 : (Jvm.Cond.castable "LateMirrorsModel" "java/lang/Object") ∈ lw_tbl := lw_at lw_m9 163 rfl
theorem in_X8 : ∀ w ∈ wsX80, w ∈ lw_all := lw_in wsX80 [1615, 1617, 1619, 1621, 1623, 1625, 1627, 1629, 1631, 1633, 1635, 1637, 1639, 1641, 1643, 1645, 1647, 1649, 1651, 1653, 1655, 1657, 1659, 1661, 1663, 1665, 1667, 1669, 1671, 1673, 1675, 1677, 1679, 1681, 1683, 1685, 1687, 1689, 1691, 1693, 1695, 1697, 1699, 1701, 1703, 1705, 1707, 1709, 1711, 1713, 1715, 1717, 1719, 1721, 1723, 1725, 1727, 1729, 1731, 1733, 1735, 1737, 1739, 1741, 1743, 1745, 1747, 1749, 1751, 1753, 1755, 1757, 1759, 1761, 1763] (by decide +kernel) (by decide +kernel)
