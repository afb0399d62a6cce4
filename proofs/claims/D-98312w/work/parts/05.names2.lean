/-! LateMirrors$Parser -/
set_option maxRecDepth 100000
def RX3 : String := "LateMirrors$Parser"
def TX3 : u_T := fun k => match k with
  | 0 => ("LateMirrors$Parser", "t", "LLateMirrors$Tokens;", true)
  | 1 => ("LateMirrors$Parser", "fault", "LLateMirrors$Fault;", true)
  | 2 => ("LateMirrors$Parser", "text", "LLateMirrors$Text;", false)
  | 3 => ("LateMirrors$Parser", "at", "I", false)
  | 4 => ("LateMirrors$Parser", "open", "I", false)
  | 5 => ("LateMirrors$Parser", "worst", "I", false)
  | _ => ("LateMirrors$Parser", "worstToken", "I", false)
def tyX3 : Nat → FieldType := fun k => match k with
  | 0 => .object "LateMirrors$Tokens"
  | 1 => .object "LateMirrors$Fault"
  | 2 => .object "LateMirrors$Text"
  | 3 => .int
  | 4 => .int
  | 5 => .int
  | _ => .int
abbrev wsX30 : List Cond := u_ws RX3 TX3 7
theorem nmX3 : ∀ a, a < 7 → ∀ b, b < 7 → a ≠ b → (TX3 a).2.1 ≠ (TX3 b).2.1 := by decide +kernel
theorem tyX3_ok : ∀ k, k < 7 → parseFieldDescriptor (TX3 k).2.2.1 = some (tyX3 k) := by decide +kernel
abbrev cX3_init : ByteArray := prog_12_method_1_code
def yX3_init : MethodName := ⟨RX3, "<init>", "(LLateMirrors$Tokens;LLateMirrors$Fault;)V"⟩
def dkwX3_init_0 : List UInt8 := [42, 183, 0, 3, 42, 43, 181, 0, 9, 42, 44, 181, 0, 15, 177]
abbrev dktX3_init_0 : List UInt8 := dkwX3_init_0 ++ []
theorem dksX3_init_0 : cX3_init.data.toList.drop 0 = dktX3_init_0 := by decide +kernel
theorem dX3_init_0 : decode cX3_init 0 = .ok (.aload_n 0, 1) := dk_42 (dk_at dksX3_init_0 0 rfl rfl)
theorem dX3_init_1 : decode cX3_init 1 = .ok (.invokespecial 3, 3) := dk_183 0 3 (dk_at dksX3_init_0 1 rfl rfl)
theorem dX3_init_4 : decode cX3_init 4 = .ok (.aload_n 0, 1) := dk_42 (dk_at dksX3_init_0 4 rfl rfl)
theorem dX3_init_5 : decode cX3_init 5 = .ok (.aload_n 1, 1) := dk_43 (dk_at dksX3_init_0 5 rfl rfl)
theorem dX3_init_6 : decode cX3_init 6 = .ok (.putfield 9, 3) := dk_181 0 9 (dk_at dksX3_init_0 6 rfl rfl)
theorem dX3_init_9 : decode cX3_init 9 = .ok (.aload_n 0, 1) := dk_42 (dk_at dksX3_init_0 9 rfl rfl)
theorem dX3_init_10 : decode cX3_init 10 = .ok (.aload_n 2, 1) := dk_44 (dk_at dksX3_init_0 10 rfl rfl)
theorem dX3_init_11 : decode cX3_init 11 = .ok (.putfield 15, 3) := dk_181 0 15 (dk_at dksX3_init_0 11 rfl rfl)
theorem dX3_init_14 : decode cX3_init 14 = .ok (.return_, 1) := dk_177 (dk_at dksX3_init_0 14 rfl rfl)
abbrev cX3_read : ByteArray := prog_12_method_16_code
def yX3_read : MethodName := ⟨RX3, "read", "()LLateMirrors$Text;"⟩
def dkwX3_read_3 : List UInt8 := [182, 0, 35, 191, 42, 180, 0, 83, 176]
abbrev dktX3_read_3 : List UInt8 := dkwX3_read_3 ++ []
def dkwX3_read_2 : List UInt8 := [182, 0, 105, 167, 255, 238, 42, 180, 0, 38, 153, 0, 16, 42, 42, 180, 0, 38, 42, 180, 0, 41]
abbrev dktX3_read_2 : List UInt8 := dkwX3_read_2 ++ dktX3_read_3
def dkwX3_read_1 : List UInt8 := [3, 181, 0, 99, 42, 3, 181, 0, 38, 42, 182, 0, 65, 7, 159, 0, 16, 42, 182, 0, 102, 42, 16, 59]
abbrev dktX3_read_1 : List UInt8 := dkwX3_read_1 ++ dktX3_read_2
def dkwX3_read_0 : List UInt8 := [42, 180, 0, 9, 182, 0, 95, 42, 187, 0, 87, 89, 183, 0, 98, 181, 0, 83, 42, 3, 181, 0, 31, 42]
abbrev dktX3_read_0 : List UInt8 := dkwX3_read_0 ++ dktX3_read_1
theorem dksX3_read_0 : cX3_read.data.toList.drop 0 = dktX3_read_0 := by decide +kernel
theorem dksX3_read_1 : cX3_read.data.toList.drop 24 = dktX3_read_1 := dk_seg dksX3_read_0 24 rfl rfl
theorem dksX3_read_2 : cX3_read.data.toList.drop 48 = dktX3_read_2 := dk_seg dksX3_read_1 24 rfl rfl
theorem dksX3_read_3 : cX3_read.data.toList.drop 70 = dktX3_read_3 := dk_seg dksX3_read_2 22 rfl rfl
theorem dX3_read_0 : decode cX3_read 0 = .ok (.aload_n 0, 1) := dk_42 (dk_at dksX3_read_0 0 rfl rfl)
theorem dX3_read_1 : decode cX3_read 1 = .ok (.getfield 9, 3) := dk_180 0 9 (dk_at dksX3_read_0 1 rfl rfl)
theorem dX3_read_4 : decode cX3_read 4 = .ok (.invokevirtual 95, 3) := dk_182 0 95 (dk_at dksX3_read_0 4 rfl rfl)
theorem dX3_read_7 : decode cX3_read 7 = .ok (.aload_n 0, 1) := dk_42 (dk_at dksX3_read_0 7 rfl rfl)
theorem dX3_read_8 : decode cX3_read 8 = .ok (.new 87, 3) := dk_187 0 87 (dk_at dksX3_read_0 8 rfl rfl)
theorem dX3_read_11 : decode cX3_read 11 = .ok (.dup, 1) := dk_89 (dk_at dksX3_read_0 11 rfl rfl)
theorem dX3_read_12 : decode cX3_read 12 = .ok (.invokespecial 98, 3) := dk_183 0 98 (dk_at dksX3_read_0 12 rfl rfl)
theorem dX3_read_15 : decode cX3_read 15 = .ok (.putfield 83, 3) := dk_181 0 83 (dk_at dksX3_read_0 15 rfl rfl)
theorem dX3_read_18 : decode cX3_read 18 = .ok (.aload_n 0, 1) := dk_42 (dk_at dksX3_read_0 18 rfl rfl)
theorem dX3_read_19 : decode cX3_read 19 = .ok (.iconst 0, 1) := dk_3 (dk_at dksX3_read_0 19 rfl rfl)
theorem dX3_read_20 : decode cX3_read 20 = .ok (.putfield 31, 3) := dk_181 0 31 (dk_at dksX3_read_0 20 rfl rfl)
theorem dX3_read_23 : decode cX3_read 23 = .ok (.aload_n 0, 1) := dk_42 (dk_at dksX3_read_0 23 rfl rfl)
theorem dX3_read_24 : decode cX3_read 24 = .ok (.iconst 0, 1) := dk_3 (dk_at dksX3_read_1 0 rfl rfl)
theorem dX3_read_25 : decode cX3_read 25 = .ok (.putfield 99, 3) := dk_181 0 99 (dk_at dksX3_read_1 1 rfl rfl)
theorem dX3_read_28 : decode cX3_read 28 = .ok (.aload_n 0, 1) := dk_42 (dk_at dksX3_read_1 4 rfl rfl)
theorem dX3_read_29 : decode cX3_read 29 = .ok (.iconst 0, 1) := dk_3 (dk_at dksX3_read_1 5 rfl rfl)
theorem dX3_read_30 : decode cX3_read 30 = .ok (.putfield 38, 3) := dk_181 0 38 (dk_at dksX3_read_1 6 rfl rfl)
theorem dX3_read_33 : decode cX3_read 33 = .ok (.aload_n 0, 1) := dk_42 (dk_at dksX3_read_1 9 rfl rfl)
theorem dX3_read_34 : decode cX3_read 34 = .ok (.invokevirtual 65, 3) := dk_182 0 65 (dk_at dksX3_read_1 10 rfl rfl)
theorem dX3_read_37 : decode cX3_read 37 = .ok (.iconst 4, 1) := dk_7 (dk_at dksX3_read_1 13 rfl rfl)
theorem dX3_read_38 : decode cX3_read 38 = .ok (.if_icmp .eq 16, 3) := dk_159 0 16 (dk_at dksX3_read_1 14 rfl rfl)
theorem dX3_read_41 : decode cX3_read 41 = .ok (.aload_n 0, 1) := dk_42 (dk_at dksX3_read_1 17 rfl rfl)
theorem dX3_read_42 : decode cX3_read 42 = .ok (.invokevirtual 102, 3) := dk_182 0 102 (dk_at dksX3_read_1 18 rfl rfl)
theorem dX3_read_45 : decode cX3_read 45 = .ok (.aload_n 0, 1) := dk_42 (dk_at dksX3_read_1 21 rfl rfl)
theorem dX3_read_46 : decode cX3_read 46 = .ok (.bipush 59, 2) := dk_16 59 (dk_at dksX3_read_1 22 rfl rfl)
theorem dX3_read_48 : decode cX3_read 48 = .ok (.invokevirtual 105, 3) := dk_182 0 105 (dk_at dksX3_read_2 0 rfl rfl)
theorem dX3_read_51 : decode cX3_read 51 = .ok (.goto (-18), 3) := dk_167 255 238 (dk_at dksX3_read_2 3 rfl rfl)
theorem dX3_read_54 : decode cX3_read 54 = .ok (.aload_n 0, 1) := dk_42 (dk_at dksX3_read_2 6 rfl rfl)
theorem dX3_read_55 : decode cX3_read 55 = .ok (.getfield 38, 3) := dk_180 0 38 (dk_at dksX3_read_2 7 rfl rfl)
theorem dX3_read_58 : decode cX3_read 58 = .ok (.ifCond .eq 16, 3) := dk_153 0 16 (dk_at dksX3_read_2 10 rfl rfl)
theorem dX3_read_61 : decode cX3_read 61 = .ok (.aload_n 0, 1) := dk_42 (dk_at dksX3_read_2 13 rfl rfl)
theorem dX3_read_62 : decode cX3_read 62 = .ok (.aload_n 0, 1) := dk_42 (dk_at dksX3_read_2 14 rfl rfl)
theorem dX3_read_63 : decode cX3_read 63 = .ok (.getfield 38, 3) := dk_180 0 38 (dk_at dksX3_read_2 15 rfl rfl)
theorem dX3_read_66 : decode cX3_read 66 = .ok (.aload_n 0, 1) := dk_42 (dk_at dksX3_read_2 18 rfl rfl)
theorem dX3_read_67 : decode cX3_read 67 = .ok (.getfield 41, 3) := dk_180 0 41 (dk_at dksX3_read_2 19 rfl rfl)
theorem dX3_read_70 : decode cX3_read 70 = .ok (.invokevirtual 35, 3) := dk_182 0 35 (dk_at dksX3_read_3 0 rfl rfl)
theorem dX3_read_73 : decode cX3_read 73 = .ok (.athrow, 1) := dk_191 (dk_at dksX3_read_3 3 rfl rfl)
theorem dX3_read_74 : decode cX3_read 74 = .ok (.aload_n 0, 1) := dk_42 (dk_at dksX3_read_3 4 rfl rfl)
theorem dX3_read_75 : decode cX3_read 75 = .ok (.getfield 83, 3) := dk_180 0 83 (dk_at dksX3_read_3 5 rfl rfl)
theorem dX3_read_78 : decode cX3_read 78 = .ok (.areturn, 1) := dk_176 (dk_at dksX3_read_3 8 rfl rfl)
abbrev cX3_sort : ByteArray := prog_12_method_5_code
def yX3_sort : MethodName := ⟨RX3, "sort", "()I"⟩
def dkwX3_sort_1 : List UInt8 := [180, 0, 9, 180, 0, 44, 42, 180, 0, 31, 51, 172]
abbrev dktX3_sort_1 : List UInt8 := dkwX3_sort_1 ++ []
def dkwX3_sort_0 : List UInt8 := [42, 180, 0, 9, 180, 0, 44, 42, 180, 0, 31, 51, 8, 160, 0, 9, 42, 4, 182, 0, 48, 191, 42]
abbrev dktX3_sort_0 : List UInt8 := dkwX3_sort_0 ++ dktX3_sort_1
theorem dksX3_sort_0 : cX3_sort.data.toList.drop 0 = dktX3_sort_0 := by decide +kernel
theorem dksX3_sort_1 : cX3_sort.data.toList.drop 23 = dktX3_sort_1 := dk_seg dksX3_sort_0 23 rfl rfl
theorem dX3_sort_0 : decode cX3_sort 0 = .ok (.aload_n 0, 1) := dk_42 (dk_at dksX3_sort_0 0 rfl rfl)
theorem dX3_sort_1 : decode cX3_sort 1 = .ok (.getfield 9, 3) := dk_180 0 9 (dk_at dksX3_sort_0 1 rfl rfl)
theorem dX3_sort_4 : decode cX3_sort 4 = .ok (.getfield 44, 3) := dk_180 0 44 (dk_at dksX3_sort_0 4 rfl rfl)
theorem dX3_sort_7 : decode cX3_sort 7 = .ok (.aload_n 0, 1) := dk_42 (dk_at dksX3_sort_0 7 rfl rfl)
theorem dX3_sort_8 : decode cX3_sort 8 = .ok (.getfield 31, 3) := dk_180 0 31 (dk_at dksX3_sort_0 8 rfl rfl)
theorem dX3_sort_11 : decode cX3_sort 11 = .ok (.baload, 1) := dk_51 (dk_at dksX3_sort_0 11 rfl rfl)
theorem dX3_sort_12 : decode cX3_sort 12 = .ok (.iconst 5, 1) := dk_8 (dk_at dksX3_sort_0 12 rfl rfl)
theorem dX3_sort_13 : decode cX3_sort 13 = .ok (.if_icmp .ne 9, 3) := dk_160 0 9 (dk_at dksX3_sort_0 13 rfl rfl)
theorem dX3_sort_16 : decode cX3_sort 16 = .ok (.aload_n 0, 1) := dk_42 (dk_at dksX3_sort_0 16 rfl rfl)
theorem dX3_sort_17 : decode cX3_sort 17 = .ok (.iconst 1, 1) := dk_4 (dk_at dksX3_sort_0 17 rfl rfl)
theorem dX3_sort_18 : decode cX3_sort 18 = .ok (.invokevirtual 48, 3) := dk_182 0 48 (dk_at dksX3_sort_0 18 rfl rfl)
theorem dX3_sort_21 : decode cX3_sort 21 = .ok (.athrow, 1) := dk_191 (dk_at dksX3_sort_0 21 rfl rfl)
theorem dX3_sort_22 : decode cX3_sort 22 = .ok (.aload_n 0, 1) := dk_42 (dk_at dksX3_sort_0 22 rfl rfl)
theorem dX3_sort_23 : decode cX3_sort 23 = .ok (.getfield 9, 3) := dk_180 0 9 (dk_at dksX3_sort_1 0 rfl rfl)
theorem dX3_sort_26 : decode cX3_sort 26 = .ok (.getfield 44, 3) := dk_180 0 44 (dk_at dksX3_sort_1 3 rfl rfl)
theorem dX3_sort_29 : decode cX3_sort 29 = .ok (.aload_n 0, 1) := dk_42 (dk_at dksX3_sort_1 6 rfl rfl)
theorem dX3_sort_30 : decode cX3_sort 30 = .ok (.getfield 31, 3) := dk_180 0 31 (dk_at dksX3_sort_1 7 rfl rfl)
theorem dX3_sort_33 : decode cX3_sort 33 = .ok (.baload, 1) := dk_51 (dk_at dksX3_sort_1 10 rfl rfl)
theorem dX3_sort_34 : decode cX3_sort 34 = .ok (.ireturn, 1) := dk_172 (dk_at dksX3_sort_1 11 rfl rfl)
abbrev cX3_wrong : ByteArray := prog_12_method_3_code
def yX3_wrong : MethodName := ⟨RX3, "wrong", "(I)LLateMirrors$Fault;"⟩
def dkwX3_wrong_0 : List UInt8 := [42, 27, 42, 180, 0, 31, 182, 0, 35, 176]
abbrev dktX3_wrong_0 : List UInt8 := dkwX3_wrong_0 ++ []
theorem dksX3_wrong_0 : cX3_wrong.data.toList.drop 0 = dktX3_wrong_0 := by decide +kernel
theorem dX3_wrong_0 : decode cX3_wrong 0 = .ok (.aload_n 0, 1) := dk_42 (dk_at dksX3_wrong_0 0 rfl rfl)
theorem dX3_wrong_1 : decode cX3_wrong 1 = .ok (.iload_n 1, 1) := dk_27 (dk_at dksX3_wrong_0 1 rfl rfl)
theorem dX3_wrong_2 : decode cX3_wrong 2 = .ok (.aload_n 0, 1) := dk_42 (dk_at dksX3_wrong_0 2 rfl rfl)
theorem dX3_wrong_3 : decode cX3_wrong 3 = .ok (.getfield 31, 3) := dk_180 0 31 (dk_at dksX3_wrong_0 3 rfl rfl)
theorem dX3_wrong_6 : decode cX3_wrong 6 = .ok (.invokevirtual 35, 3) := dk_182 0 35 (dk_at dksX3_wrong_0 6 rfl rfl)
theorem dX3_wrong_9 : decode cX3_wrong 9 = .ok (.areturn, 1) := dk_176 (dk_at dksX3_wrong_0 9 rfl rfl)
abbrev cX3_wrongAt : ByteArray := prog_12_method_2_code
def yX3_wrongAt : MethodName := ⟨RX3, "wrongAt", "(II)LLateMirrors$Fault;"⟩
def dkwX3_wrongAt_0 : List UInt8 := [42, 180, 0, 15, 27, 42, 180, 0, 9, 180, 0, 19, 28, 53, 182, 0, 25, 176]
abbrev dktX3_wrongAt_0 : List UInt8 := dkwX3_wrongAt_0 ++ []
theorem dksX3_wrongAt_0 : cX3_wrongAt.data.toList.drop 0 = dktX3_wrongAt_0 := by decide +kernel
theorem dX3_wrongAt_0 : decode cX3_wrongAt 0 = .ok (.aload_n 0, 1) := dk_42 (dk_at dksX3_wrongAt_0 0 rfl rfl)
theorem dX3_wrongAt_1 : decode cX3_wrongAt 1 = .ok (.getfield 15, 3) := dk_180 0 15 (dk_at dksX3_wrongAt_0 1 rfl rfl)
theorem dX3_wrongAt_4 : decode cX3_wrongAt 4 = .ok (.iload_n 1, 1) := dk_27 (dk_at dksX3_wrongAt_0 4 rfl rfl)
theorem dX3_wrongAt_5 : decode cX3_wrongAt 5 = .ok (.aload_n 0, 1) := dk_42 (dk_at dksX3_wrongAt_0 5 rfl rfl)
theorem dX3_wrongAt_6 : decode cX3_wrongAt 6 = .ok (.getfield 9, 3) := dk_180 0 9 (dk_at dksX3_wrongAt_0 6 rfl rfl)
theorem dX3_wrongAt_9 : decode cX3_wrongAt 9 = .ok (.getfield 19, 3) := dk_180 0 19 (dk_at dksX3_wrongAt_0 9 rfl rfl)
theorem dX3_wrongAt_12 : decode cX3_wrongAt 12 = .ok (.iload_n 2, 1) := dk_28 (dk_at dksX3_wrongAt_0 12 rfl rfl)
theorem dX3_wrongAt_13 : decode cX3_wrongAt 13 = .ok (.saload, 1) := dk_53 (dk_at dksX3_wrongAt_0 13 rfl rfl)
theorem dX3_wrongAt_14 : decode cX3_wrongAt 14 = .ok (.invokevirtual 25, 3) := dk_182 0 25 (dk_at dksX3_wrongAt_0 14 rfl rfl)
theorem dX3_wrongAt_17 : decode cX3_wrongAt 17 = .ok (.areturn, 1) := dk_176 (dk_at dksX3_wrongAt_0 17 rfl rfl)
abbrev cX3_told : ByteArray := prog_12_method_17_code
def yX3_told : MethodName := ⟨RX3, "told", "()V"⟩
def dkwX3_told_16 : List UInt8 := [177]
abbrev dktX3_told_16 : List UInt8 := dkwX3_told_16 ++ []
def dkwX3_told_15 : List UInt8 := [42, 180, 0, 83, 42, 3, 17, 39, 15, 182, 0, 143, 181, 0, 184, 167, 0, 9, 42, 4, 182, 0, 48, 191]
abbrev dktX3_told_15 : List UInt8 := dkwX3_told_15 ++ dktX3_told_16
def dkwX3_told_14 : List UInt8 := [182, 0, 59, 42, 180, 0, 83, 42, 3, 16, 100, 182, 0, 143, 181, 0, 181, 167, 0, 31, 42, 182, 0, 59]
abbrev dktX3_told_14 : List UInt8 := dkwX3_told_14 ++ dktX3_told_15
def dkwX3_told_13 : List UInt8 := [167, 0, 70, 42, 182, 0, 59, 42, 180, 0, 83, 42, 182, 0, 156, 181, 0, 178, 167, 0, 52, 42]
abbrev dktX3_told_13 : List UInt8 := dkwX3_told_13 ++ dktX3_told_14
def dkwX3_told_12 : List UInt8 := [180, 0, 83, 180, 0, 137, 182, 0, 149, 181, 0, 175, 42, 180, 0, 83, 180, 0, 168, 44, 182, 0, 130, 87]
abbrev dktX3_told_12 : List UInt8 := dkwX3_told_12 ++ dktX3_told_13
def dkwX3_told_11 : List UInt8 := [183, 0, 173, 77, 44, 42, 42, 180, 0, 83, 180, 0, 109, 182, 0, 149, 181, 0, 174, 44, 42, 42]
abbrev dktX3_told_11 : List UInt8 := dkwX3_told_11 ++ dktX3_told_12
def dkwX3_told_10 : List UInt8 := [42, 42, 180, 0, 83, 180, 0, 168, 182, 0, 113, 16, 8, 182, 0, 118, 187, 0, 171, 89, 42, 182, 0, 123]
abbrev dktX3_told_10 : List UInt8 := dkwX3_told_10 ++ dktX3_told_11
def dkwX3_told_9 : List UInt8 := [155, 0, 164, 42, 180, 0, 83, 180, 0, 137, 28, 182, 0, 160, 192, 0, 140, 45, 181, 0, 164, 167, 0, 143]
abbrev dktX3_told_9 : List UInt8 := dkwX3_told_9 ++ dktX3_told_10
def dkwX3_told_8 : List UInt8 := [42, 182, 0, 59, 42, 42, 180, 0, 83, 180, 0, 137, 182, 0, 149, 61, 42, 182, 0, 156, 78, 28]
abbrev dktX3_told_8 : List UInt8 := dkwX3_told_8 ++ dktX3_told_9
def dkwX3_told_7 : List UInt8 := [180, 0, 109, 182, 0, 149, 181, 0, 153, 42, 180, 0, 83, 180, 0, 137, 44, 182, 0, 130, 87, 167, 0, 189]
abbrev dktX3_told_7 : List UInt8 := dkwX3_told_7 ++ dktX3_told_8
def dkwX3_told_6 : List UInt8 := [182, 0, 123, 183, 0, 142, 77, 44, 42, 3, 16, 20, 182, 0, 143, 181, 0, 146, 44, 42, 42, 180, 0, 83]
abbrev dktX3_told_6 : List UInt8 := dkwX3_told_6 ++ dktX3_told_7
def dkwX3_told_5 : List UInt8 := [167, 1, 2, 42, 42, 180, 0, 83, 180, 0, 137, 182, 0, 113, 16, 6, 182, 0, 118, 187, 0, 140, 89, 42]
abbrev dktX3_told_5 : List UInt8 := dkwX3_told_5 ++ dktX3_told_6
def dkwX3_told_4 : List UInt8 := [187, 0, 121, 89, 42, 182, 0, 123, 183, 0, 127, 182, 0, 130, 87, 167, 1, 9, 42, 182, 0, 134]
abbrev dktX3_told_4 : List UInt8 := dkwX3_told_4 ++ dktX3_told_5
def dkwX3_told_3 : List UInt8 := [42, 42, 180, 0, 83, 180, 0, 109, 182, 0, 113, 16, 8, 182, 0, 118, 42, 180, 0, 83, 180, 0, 109]
abbrev dktX3_told_3 : List UInt8 := dkwX3_told_3 ++ dktX3_told_4
def dkwX3_told_2 : List UInt8 := [170, 0, 0, 0, 1, 87, 0, 0, 0, 0, 0, 0, 0, 7, 0, 0, 0, 46, 0, 0, 0, 87, 0, 0, 0, 94, 0, 0, 0, 163, 0, 0, 0, 209, 0, 0, 1, 26, 0, 0, 1, 44, 0, 0, 1, 65]
abbrev dktX3_told_2 : List UInt8 := dkwX3_told_2 ++ dktX3_told_3
def dkwX3_told_1 : List UInt8 := [60, 27]
abbrev dktX3_told_1 : List UInt8 := dkwX3_told_1 ++ dktX3_told_2
def dkwX3_told_0 : List UInt8 := [42, 182, 0, 65, 6, 160, 0, 18, 42, 180, 0, 9, 180, 0, 52, 42, 180, 0, 31, 53, 167, 0, 4, 2]
abbrev dktX3_told_0 : List UInt8 := dkwX3_told_0 ++ dktX3_told_1
theorem dksX3_told_0 : cX3_told.data.toList.drop 0 = dktX3_told_0 := by decide +kernel
theorem dksX3_told_1 : cX3_told.data.toList.drop 24 = dktX3_told_1 := dk_seg dksX3_told_0 24 rfl rfl
theorem dksX3_told_2 : cX3_told.data.toList.drop 26 = dktX3_told_2 := dk_seg dksX3_told_1 2 rfl rfl
theorem dksX3_told_3 : cX3_told.data.toList.drop 72 = dktX3_told_3 := dk_seg dksX3_told_2 46 rfl rfl
theorem dksX3_told_4 : cX3_told.data.toList.drop 95 = dktX3_told_4 := dk_seg dksX3_told_3 23 rfl rfl
theorem dksX3_told_5 : cX3_told.data.toList.drop 117 = dktX3_told_5 := dk_seg dksX3_told_4 22 rfl rfl
theorem dksX3_told_6 : cX3_told.data.toList.drop 141 = dktX3_told_6 := dk_seg dksX3_told_5 24 rfl rfl
theorem dksX3_told_7 : cX3_told.data.toList.drop 165 = dktX3_told_7 := dk_seg dksX3_told_6 24 rfl rfl
theorem dksX3_told_8 : cX3_told.data.toList.drop 189 = dktX3_told_8 := dk_seg dksX3_told_7 24 rfl rfl
theorem dksX3_told_9 : cX3_told.data.toList.drop 211 = dktX3_told_9 := dk_seg dksX3_told_8 22 rfl rfl
theorem dksX3_told_10 : cX3_told.data.toList.drop 235 = dktX3_told_10 := dk_seg dksX3_told_9 24 rfl rfl
theorem dksX3_told_11 : cX3_told.data.toList.drop 259 = dktX3_told_11 := dk_seg dksX3_told_10 24 rfl rfl
theorem dksX3_told_12 : cX3_told.data.toList.drop 281 = dktX3_told_12 := dk_seg dksX3_told_11 22 rfl rfl
theorem dksX3_told_13 : cX3_told.data.toList.drop 305 = dktX3_told_13 := dk_seg dksX3_told_12 24 rfl rfl
theorem dksX3_told_14 : cX3_told.data.toList.drop 327 = dktX3_told_14 := dk_seg dksX3_told_13 22 rfl rfl
theorem dksX3_told_15 : cX3_told.data.toList.drop 351 = dktX3_told_15 := dk_seg dksX3_told_14 24 rfl rfl
theorem dksX3_told_16 : cX3_told.data.toList.drop 375 = dktX3_told_16 := dk_seg dksX3_told_15 24 rfl rfl
theorem dX3_told_0 : decode cX3_told 0 = .ok (.aload_n 0, 1) := dk_42 (dk_at dksX3_told_0 0 rfl rfl)
theorem dX3_told_1 : decode cX3_told 1 = .ok (.invokevirtual 65, 3) := dk_182 0 65 (dk_at dksX3_told_0 1 rfl rfl)
theorem dX3_told_4 : decode cX3_told 4 = .ok (.iconst 3, 1) := dk_6 (dk_at dksX3_told_0 4 rfl rfl)
theorem dX3_told_5 : decode cX3_told 5 = .ok (.if_icmp .ne 18, 3) := dk_160 0 18 (dk_at dksX3_told_0 5 rfl rfl)
theorem dX3_told_8 : decode cX3_told 8 = .ok (.aload_n 0, 1) := dk_42 (dk_at dksX3_told_0 8 rfl rfl)
theorem dX3_told_9 : decode cX3_told 9 = .ok (.getfield 9, 3) := dk_180 0 9 (dk_at dksX3_told_0 9 rfl rfl)
theorem dX3_told_12 : decode cX3_told 12 = .ok (.getfield 52, 3) := dk_180 0 52 (dk_at dksX3_told_0 12 rfl rfl)
theorem dX3_told_15 : decode cX3_told 15 = .ok (.aload_n 0, 1) := dk_42 (dk_at dksX3_told_0 15 rfl rfl)
theorem dX3_told_16 : decode cX3_told 16 = .ok (.getfield 31, 3) := dk_180 0 31 (dk_at dksX3_told_0 16 rfl rfl)
theorem dX3_told_19 : decode cX3_told 19 = .ok (.saload, 1) := dk_53 (dk_at dksX3_told_0 19 rfl rfl)
theorem dX3_told_20 : decode cX3_told 20 = .ok (.goto 4, 3) := dk_167 0 4 (dk_at dksX3_told_0 20 rfl rfl)
theorem dX3_told_23 : decode cX3_told 23 = .ok (.iconst (-1), 1) := dk_2 (dk_at dksX3_told_0 23 rfl rfl)
theorem dX3_told_24 : decode cX3_told 24 = .ok (.istore_n 1, 1) := dk_60 (dk_at dksX3_told_1 0 rfl rfl)
theorem dX3_told_25 : decode cX3_told 25 = .ok (.iload_n 1, 1) := dk_27 (dk_at dksX3_told_1 1 rfl rfl)
theorem dX3_told_26 : decode cX3_told 26 = .ok (.tableswitch 343 0 7 #[46, 87, 94, 163, 209, 282, 300, 321], 46) := by decide +kernel
theorem dX3_told_72 : decode cX3_told 72 = .ok (.aload_n 0, 1) := dk_42 (dk_at dksX3_told_3 0 rfl rfl)
theorem dX3_told_73 : decode cX3_told 73 = .ok (.aload_n 0, 1) := dk_42 (dk_at dksX3_told_3 1 rfl rfl)
theorem dX3_told_74 : decode cX3_told 74 = .ok (.getfield 83, 3) := dk_180 0 83 (dk_at dksX3_told_3 2 rfl rfl)
theorem dX3_told_77 : decode cX3_told 77 = .ok (.getfield 109, 3) := dk_180 0 109 (dk_at dksX3_told_3 5 rfl rfl)
theorem dX3_told_80 : decode cX3_told 80 = .ok (.invokevirtual 113, 3) := dk_182 0 113 (dk_at dksX3_told_3 8 rfl rfl)
theorem dX3_told_83 : decode cX3_told 83 = .ok (.bipush 8, 2) := dk_16 8 (dk_at dksX3_told_3 11 rfl rfl)
theorem dX3_told_85 : decode cX3_told 85 = .ok (.invokevirtual 118, 3) := dk_182 0 118 (dk_at dksX3_told_3 13 rfl rfl)
theorem dX3_told_88 : decode cX3_told 88 = .ok (.aload_n 0, 1) := dk_42 (dk_at dksX3_told_3 16 rfl rfl)
theorem dX3_told_89 : decode cX3_told 89 = .ok (.getfield 83, 3) := dk_180 0 83 (dk_at dksX3_told_3 17 rfl rfl)
theorem dX3_told_92 : decode cX3_told 92 = .ok (.getfield 109, 3) := dk_180 0 109 (dk_at dksX3_told_3 20 rfl rfl)
theorem dX3_told_95 : decode cX3_told 95 = .ok (.new 121, 3) := dk_187 0 121 (dk_at dksX3_told_4 0 rfl rfl)
theorem dX3_told_98 : decode cX3_told 98 = .ok (.dup, 1) := dk_89 (dk_at dksX3_told_4 3 rfl rfl)
theorem dX3_told_99 : decode cX3_told 99 = .ok (.aload_n 0, 1) := dk_42 (dk_at dksX3_told_4 4 rfl rfl)
theorem dX3_told_100 : decode cX3_told 100 = .ok (.invokevirtual 123, 3) := dk_182 0 123 (dk_at dksX3_told_4 5 rfl rfl)
theorem dX3_told_103 : decode cX3_told 103 = .ok (.invokespecial 127, 3) := dk_183 0 127 (dk_at dksX3_told_4 8 rfl rfl)
theorem dX3_told_106 : decode cX3_told 106 = .ok (.invokevirtual 130, 3) := dk_182 0 130 (dk_at dksX3_told_4 11 rfl rfl)
theorem dX3_told_109 : decode cX3_told 109 = .ok (.pop, 1) := dk_87 (dk_at dksX3_told_4 14 rfl rfl)
theorem dX3_told_110 : decode cX3_told 110 = .ok (.goto 265, 3) := dk_167 1 9 (dk_at dksX3_told_4 15 rfl rfl)
theorem dX3_told_113 : decode cX3_told 113 = .ok (.aload_n 0, 1) := dk_42 (dk_at dksX3_told_4 18 rfl rfl)
theorem dX3_told_114 : decode cX3_told 114 = .ok (.invokevirtual 134, 3) := dk_182 0 134 (dk_at dksX3_told_4 19 rfl rfl)
theorem dX3_told_117 : decode cX3_told 117 = .ok (.goto 258, 3) := dk_167 1 2 (dk_at dksX3_told_5 0 rfl rfl)
theorem dX3_told_120 : decode cX3_told 120 = .ok (.aload_n 0, 1) := dk_42 (dk_at dksX3_told_5 3 rfl rfl)
theorem dX3_told_121 : decode cX3_told 121 = .ok (.aload_n 0, 1) := dk_42 (dk_at dksX3_told_5 4 rfl rfl)
theorem dX3_told_122 : decode cX3_told 122 = .ok (.getfield 83, 3) := dk_180 0 83 (dk_at dksX3_told_5 5 rfl rfl)
theorem dX3_told_125 : decode cX3_told 125 = .ok (.getfield 137, 3) := dk_180 0 137 (dk_at dksX3_told_5 8 rfl rfl)
theorem dX3_told_128 : decode cX3_told 128 = .ok (.invokevirtual 113, 3) := dk_182 0 113 (dk_at dksX3_told_5 11 rfl rfl)
theorem dX3_told_131 : decode cX3_told 131 = .ok (.bipush 6, 2) := dk_16 6 (dk_at dksX3_told_5 14 rfl rfl)
theorem dX3_told_133 : decode cX3_told 133 = .ok (.invokevirtual 118, 3) := dk_182 0 118 (dk_at dksX3_told_5 16 rfl rfl)
theorem dX3_told_136 : decode cX3_told 136 = .ok (.new 140, 3) := dk_187 0 140 (dk_at dksX3_told_5 19 rfl rfl)
theorem dX3_told_139 : decode cX3_told 139 = .ok (.dup, 1) := dk_89 (dk_at dksX3_told_5 22 rfl rfl)
theorem dX3_told_140 : decode cX3_told 140 = .ok (.aload_n 0, 1) := dk_42 (dk_at dksX3_told_5 23 rfl rfl)
theorem dX3_told_141 : decode cX3_told 141 = .ok (.invokevirtual 123, 3) := dk_182 0 123 (dk_at dksX3_told_6 0 rfl rfl)
theorem dX3_told_144 : decode cX3_told 144 = .ok (.invokespecial 142, 3) := dk_183 0 142 (dk_at dksX3_told_6 3 rfl rfl)
theorem dX3_told_147 : decode cX3_told 147 = .ok (.astore_n 2, 1) := dk_77 (dk_at dksX3_told_6 6 rfl rfl)
theorem dX3_told_148 : decode cX3_told 148 = .ok (.aload_n 2, 1) := dk_44 (dk_at dksX3_told_6 7 rfl rfl)
theorem dX3_told_149 : decode cX3_told 149 = .ok (.aload_n 0, 1) := dk_42 (dk_at dksX3_told_6 8 rfl rfl)
theorem dX3_told_150 : decode cX3_told 150 = .ok (.iconst 0, 1) := dk_3 (dk_at dksX3_told_6 9 rfl rfl)
theorem dX3_told_151 : decode cX3_told 151 = .ok (.bipush 20, 2) := dk_16 20 (dk_at dksX3_told_6 10 rfl rfl)
theorem dX3_told_153 : decode cX3_told 153 = .ok (.invokevirtual 143, 3) := dk_182 0 143 (dk_at dksX3_told_6 12 rfl rfl)
theorem dX3_told_156 : decode cX3_told 156 = .ok (.putfield 146, 3) := dk_181 0 146 (dk_at dksX3_told_6 15 rfl rfl)
theorem dX3_told_159 : decode cX3_told 159 = .ok (.aload_n 2, 1) := dk_44 (dk_at dksX3_told_6 18 rfl rfl)
theorem dX3_told_160 : decode cX3_told 160 = .ok (.aload_n 0, 1) := dk_42 (dk_at dksX3_told_6 19 rfl rfl)
theorem dX3_told_161 : decode cX3_told 161 = .ok (.aload_n 0, 1) := dk_42 (dk_at dksX3_told_6 20 rfl rfl)
theorem dX3_told_162 : decode cX3_told 162 = .ok (.getfield 83, 3) := dk_180 0 83 (dk_at dksX3_told_6 21 rfl rfl)
theorem dX3_told_165 : decode cX3_told 165 = .ok (.getfield 109, 3) := dk_180 0 109 (dk_at dksX3_told_7 0 rfl rfl)
theorem dX3_told_168 : decode cX3_told 168 = .ok (.invokevirtual 149, 3) := dk_182 0 149 (dk_at dksX3_told_7 3 rfl rfl)
theorem dX3_told_171 : decode cX3_told 171 = .ok (.putfield 153, 3) := dk_181 0 153 (dk_at dksX3_told_7 6 rfl rfl)
theorem dX3_told_174 : decode cX3_told 174 = .ok (.aload_n 0, 1) := dk_42 (dk_at dksX3_told_7 9 rfl rfl)
theorem dX3_told_175 : decode cX3_told 175 = .ok (.getfield 83, 3) := dk_180 0 83 (dk_at dksX3_told_7 10 rfl rfl)
theorem dX3_told_178 : decode cX3_told 178 = .ok (.getfield 137, 3) := dk_180 0 137 (dk_at dksX3_told_7 13 rfl rfl)
theorem dX3_told_181 : decode cX3_told 181 = .ok (.aload_n 2, 1) := dk_44 (dk_at dksX3_told_7 16 rfl rfl)
theorem dX3_told_182 : decode cX3_told 182 = .ok (.invokevirtual 130, 3) := dk_182 0 130 (dk_at dksX3_told_7 17 rfl rfl)
theorem dX3_told_185 : decode cX3_told 185 = .ok (.pop, 1) := dk_87 (dk_at dksX3_told_7 20 rfl rfl)
theorem dX3_told_186 : decode cX3_told 186 = .ok (.goto 189, 3) := dk_167 0 189 (dk_at dksX3_told_7 21 rfl rfl)
theorem dX3_told_189 : decode cX3_told 189 = .ok (.aload_n 0, 1) := dk_42 (dk_at dksX3_told_8 0 rfl rfl)
theorem dX3_told_190 : decode cX3_told 190 = .ok (.invokevirtual 59, 3) := dk_182 0 59 (dk_at dksX3_told_8 1 rfl rfl)
theorem dX3_told_193 : decode cX3_told 193 = .ok (.aload_n 0, 1) := dk_42 (dk_at dksX3_told_8 4 rfl rfl)
theorem dX3_told_194 : decode cX3_told 194 = .ok (.aload_n 0, 1) := dk_42 (dk_at dksX3_told_8 5 rfl rfl)
theorem dX3_told_195 : decode cX3_told 195 = .ok (.getfield 83, 3) := dk_180 0 83 (dk_at dksX3_told_8 6 rfl rfl)
theorem dX3_told_198 : decode cX3_told 198 = .ok (.getfield 137, 3) := dk_180 0 137 (dk_at dksX3_told_8 9 rfl rfl)
theorem dX3_told_201 : decode cX3_told 201 = .ok (.invokevirtual 149, 3) := dk_182 0 149 (dk_at dksX3_told_8 12 rfl rfl)
theorem dX3_told_204 : decode cX3_told 204 = .ok (.istore_n 2, 1) := dk_61 (dk_at dksX3_told_8 15 rfl rfl)
theorem dX3_told_205 : decode cX3_told 205 = .ok (.aload_n 0, 1) := dk_42 (dk_at dksX3_told_8 16 rfl rfl)
theorem dX3_told_206 : decode cX3_told 206 = .ok (.invokevirtual 156, 3) := dk_182 0 156 (dk_at dksX3_told_8 17 rfl rfl)
theorem dX3_told_209 : decode cX3_told 209 = .ok (.astore_n 3, 1) := dk_78 (dk_at dksX3_told_8 20 rfl rfl)
theorem dX3_told_210 : decode cX3_told 210 = .ok (.iload_n 2, 1) := dk_28 (dk_at dksX3_told_8 21 rfl rfl)
theorem dX3_told_211 : decode cX3_told 211 = .ok (.ifCond .lt 164, 3) := dk_155 0 164 (dk_at dksX3_told_9 0 rfl rfl)
theorem dX3_told_214 : decode cX3_told 214 = .ok (.aload_n 0, 1) := dk_42 (dk_at dksX3_told_9 3 rfl rfl)
theorem dX3_told_215 : decode cX3_told 215 = .ok (.getfield 83, 3) := dk_180 0 83 (dk_at dksX3_told_9 4 rfl rfl)
theorem dX3_told_218 : decode cX3_told 218 = .ok (.getfield 137, 3) := dk_180 0 137 (dk_at dksX3_told_9 7 rfl rfl)
theorem dX3_told_221 : decode cX3_told 221 = .ok (.iload_n 2, 1) := dk_28 (dk_at dksX3_told_9 10 rfl rfl)
theorem dX3_told_222 : decode cX3_told 222 = .ok (.invokevirtual 160, 3) := dk_182 0 160 (dk_at dksX3_told_9 11 rfl rfl)
theorem dX3_told_225 : decode cX3_told 225 = .ok (.checkcast 140, 3) := dk_192 0 140 (dk_at dksX3_told_9 14 rfl rfl)
theorem dX3_told_228 : decode cX3_told 228 = .ok (.aload_n 3, 1) := dk_45 (dk_at dksX3_told_9 17 rfl rfl)
theorem dX3_told_229 : decode cX3_told 229 = .ok (.putfield 164, 3) := dk_181 0 164 (dk_at dksX3_told_9 18 rfl rfl)
theorem dX3_told_232 : decode cX3_told 232 = .ok (.goto 143, 3) := dk_167 0 143 (dk_at dksX3_told_9 21 rfl rfl)
theorem dX3_told_235 : decode cX3_told 235 = .ok (.aload_n 0, 1) := dk_42 (dk_at dksX3_told_10 0 rfl rfl)
theorem dX3_told_236 : decode cX3_told 236 = .ok (.aload_n 0, 1) := dk_42 (dk_at dksX3_told_10 1 rfl rfl)
theorem dX3_told_237 : decode cX3_told 237 = .ok (.getfield 83, 3) := dk_180 0 83 (dk_at dksX3_told_10 2 rfl rfl)
theorem dX3_told_240 : decode cX3_told 240 = .ok (.getfield 168, 3) := dk_180 0 168 (dk_at dksX3_told_10 5 rfl rfl)
theorem dX3_told_243 : decode cX3_told 243 = .ok (.invokevirtual 113, 3) := dk_182 0 113 (dk_at dksX3_told_10 8 rfl rfl)
theorem dX3_told_246 : decode cX3_told 246 = .ok (.bipush 8, 2) := dk_16 8 (dk_at dksX3_told_10 11 rfl rfl)
theorem dX3_told_248 : decode cX3_told 248 = .ok (.invokevirtual 118, 3) := dk_182 0 118 (dk_at dksX3_told_10 13 rfl rfl)
theorem dX3_told_251 : decode cX3_told 251 = .ok (.new 171, 3) := dk_187 0 171 (dk_at dksX3_told_10 16 rfl rfl)
theorem dX3_told_254 : decode cX3_told 254 = .ok (.dup, 1) := dk_89 (dk_at dksX3_told_10 19 rfl rfl)
theorem dX3_told_255 : decode cX3_told 255 = .ok (.aload_n 0, 1) := dk_42 (dk_at dksX3_told_10 20 rfl rfl)
theorem dX3_told_256 : decode cX3_told 256 = .ok (.invokevirtual 123, 3) := dk_182 0 123 (dk_at dksX3_told_10 21 rfl rfl)
theorem dX3_told_259 : decode cX3_told 259 = .ok (.invokespecial 173, 3) := dk_183 0 173 (dk_at dksX3_told_11 0 rfl rfl)
theorem dX3_told_262 : decode cX3_told 262 = .ok (.astore_n 2, 1) := dk_77 (dk_at dksX3_told_11 3 rfl rfl)
theorem dX3_told_263 : decode cX3_told 263 = .ok (.aload_n 2, 1) := dk_44 (dk_at dksX3_told_11 4 rfl rfl)
theorem dX3_told_264 : decode cX3_told 264 = .ok (.aload_n 0, 1) := dk_42 (dk_at dksX3_told_11 5 rfl rfl)
theorem dX3_told_265 : decode cX3_told 265 = .ok (.aload_n 0, 1) := dk_42 (dk_at dksX3_told_11 6 rfl rfl)
theorem dX3_told_266 : decode cX3_told 266 = .ok (.getfield 83, 3) := dk_180 0 83 (dk_at dksX3_told_11 7 rfl rfl)
theorem dX3_told_269 : decode cX3_told 269 = .ok (.getfield 109, 3) := dk_180 0 109 (dk_at dksX3_told_11 10 rfl rfl)
theorem dX3_told_272 : decode cX3_told 272 = .ok (.invokevirtual 149, 3) := dk_182 0 149 (dk_at dksX3_told_11 13 rfl rfl)
theorem dX3_told_275 : decode cX3_told 275 = .ok (.putfield 174, 3) := dk_181 0 174 (dk_at dksX3_told_11 16 rfl rfl)
theorem dX3_told_278 : decode cX3_told 278 = .ok (.aload_n 2, 1) := dk_44 (dk_at dksX3_told_11 19 rfl rfl)
theorem dX3_told_279 : decode cX3_told 279 = .ok (.aload_n 0, 1) := dk_42 (dk_at dksX3_told_11 20 rfl rfl)
theorem dX3_told_280 : decode cX3_told 280 = .ok (.aload_n 0, 1) := dk_42 (dk_at dksX3_told_11 21 rfl rfl)
theorem dX3_told_281 : decode cX3_told 281 = .ok (.getfield 83, 3) := dk_180 0 83 (dk_at dksX3_told_12 0 rfl rfl)
theorem dX3_told_284 : decode cX3_told 284 = .ok (.getfield 137, 3) := dk_180 0 137 (dk_at dksX3_told_12 3 rfl rfl)
theorem dX3_told_287 : decode cX3_told 287 = .ok (.invokevirtual 149, 3) := dk_182 0 149 (dk_at dksX3_told_12 6 rfl rfl)
theorem dX3_told_290 : decode cX3_told 290 = .ok (.putfield 175, 3) := dk_181 0 175 (dk_at dksX3_told_12 9 rfl rfl)
theorem dX3_told_293 : decode cX3_told 293 = .ok (.aload_n 0, 1) := dk_42 (dk_at dksX3_told_12 12 rfl rfl)
theorem dX3_told_294 : decode cX3_told 294 = .ok (.getfield 83, 3) := dk_180 0 83 (dk_at dksX3_told_12 13 rfl rfl)
theorem dX3_told_297 : decode cX3_told 297 = .ok (.getfield 168, 3) := dk_180 0 168 (dk_at dksX3_told_12 16 rfl rfl)
theorem dX3_told_300 : decode cX3_told 300 = .ok (.aload_n 2, 1) := dk_44 (dk_at dksX3_told_12 19 rfl rfl)
theorem dX3_told_301 : decode cX3_told 301 = .ok (.invokevirtual 130, 3) := dk_182 0 130 (dk_at dksX3_told_12 20 rfl rfl)
theorem dX3_told_304 : decode cX3_told 304 = .ok (.pop, 1) := dk_87 (dk_at dksX3_told_12 23 rfl rfl)
theorem dX3_told_305 : decode cX3_told 305 = .ok (.goto 70, 3) := dk_167 0 70 (dk_at dksX3_told_13 0 rfl rfl)
theorem dX3_told_308 : decode cX3_told 308 = .ok (.aload_n 0, 1) := dk_42 (dk_at dksX3_told_13 3 rfl rfl)
theorem dX3_told_309 : decode cX3_told 309 = .ok (.invokevirtual 59, 3) := dk_182 0 59 (dk_at dksX3_told_13 4 rfl rfl)
theorem dX3_told_312 : decode cX3_told 312 = .ok (.aload_n 0, 1) := dk_42 (dk_at dksX3_told_13 7 rfl rfl)
theorem dX3_told_313 : decode cX3_told 313 = .ok (.getfield 83, 3) := dk_180 0 83 (dk_at dksX3_told_13 8 rfl rfl)
theorem dX3_told_316 : decode cX3_told 316 = .ok (.aload_n 0, 1) := dk_42 (dk_at dksX3_told_13 11 rfl rfl)
theorem dX3_told_317 : decode cX3_told 317 = .ok (.invokevirtual 156, 3) := dk_182 0 156 (dk_at dksX3_told_13 12 rfl rfl)
theorem dX3_told_320 : decode cX3_told 320 = .ok (.putfield 178, 3) := dk_181 0 178 (dk_at dksX3_told_13 15 rfl rfl)
theorem dX3_told_323 : decode cX3_told 323 = .ok (.goto 52, 3) := dk_167 0 52 (dk_at dksX3_told_13 18 rfl rfl)
theorem dX3_told_326 : decode cX3_told 326 = .ok (.aload_n 0, 1) := dk_42 (dk_at dksX3_told_13 21 rfl rfl)
theorem dX3_told_327 : decode cX3_told 327 = .ok (.invokevirtual 59, 3) := dk_182 0 59 (dk_at dksX3_told_14 0 rfl rfl)
theorem dX3_told_330 : decode cX3_told 330 = .ok (.aload_n 0, 1) := dk_42 (dk_at dksX3_told_14 3 rfl rfl)
theorem dX3_told_331 : decode cX3_told 331 = .ok (.getfield 83, 3) := dk_180 0 83 (dk_at dksX3_told_14 4 rfl rfl)
theorem dX3_told_334 : decode cX3_told 334 = .ok (.aload_n 0, 1) := dk_42 (dk_at dksX3_told_14 7 rfl rfl)
theorem dX3_told_335 : decode cX3_told 335 = .ok (.iconst 0, 1) := dk_3 (dk_at dksX3_told_14 8 rfl rfl)
theorem dX3_told_336 : decode cX3_told 336 = .ok (.bipush 100, 2) := dk_16 100 (dk_at dksX3_told_14 9 rfl rfl)
theorem dX3_told_338 : decode cX3_told 338 = .ok (.invokevirtual 143, 3) := dk_182 0 143 (dk_at dksX3_told_14 11 rfl rfl)
theorem dX3_told_341 : decode cX3_told 341 = .ok (.putfield 181, 3) := dk_181 0 181 (dk_at dksX3_told_14 14 rfl rfl)
theorem dX3_told_344 : decode cX3_told 344 = .ok (.goto 31, 3) := dk_167 0 31 (dk_at dksX3_told_14 17 rfl rfl)
theorem dX3_told_347 : decode cX3_told 347 = .ok (.aload_n 0, 1) := dk_42 (dk_at dksX3_told_14 20 rfl rfl)
theorem dX3_told_348 : decode cX3_told 348 = .ok (.invokevirtual 59, 3) := dk_182 0 59 (dk_at dksX3_told_14 21 rfl rfl)
theorem dX3_told_351 : decode cX3_told 351 = .ok (.aload_n 0, 1) := dk_42 (dk_at dksX3_told_15 0 rfl rfl)
theorem dX3_told_352 : decode cX3_told 352 = .ok (.getfield 83, 3) := dk_180 0 83 (dk_at dksX3_told_15 1 rfl rfl)
theorem dX3_told_355 : decode cX3_told 355 = .ok (.aload_n 0, 1) := dk_42 (dk_at dksX3_told_15 4 rfl rfl)
theorem dX3_told_356 : decode cX3_told 356 = .ok (.iconst 0, 1) := dk_3 (dk_at dksX3_told_15 5 rfl rfl)
theorem dX3_told_357 : decode cX3_told 357 = .ok (.sipush 9999, 3) := dk_17 39 15 (dk_at dksX3_told_15 6 rfl rfl)
theorem dX3_told_360 : decode cX3_told 360 = .ok (.invokevirtual 143, 3) := dk_182 0 143 (dk_at dksX3_told_15 9 rfl rfl)
theorem dX3_told_363 : decode cX3_told 363 = .ok (.putfield 184, 3) := dk_181 0 184 (dk_at dksX3_told_15 12 rfl rfl)
theorem dX3_told_366 : decode cX3_told 366 = .ok (.goto 9, 3) := dk_167 0 9 (dk_at dksX3_told_15 15 rfl rfl)
theorem dX3_told_369 : decode cX3_told 369 = .ok (.aload_n 0, 1) := dk_42 (dk_at dksX3_told_15 18 rfl rfl)
theorem dX3_told_370 : decode cX3_told 370 = .ok (.iconst 1, 1) := dk_4 (dk_at dksX3_told_15 19 rfl rfl)
theorem dX3_told_371 : decode cX3_told 371 = .ok (.invokevirtual 48, 3) := dk_182 0 48 (dk_at dksX3_told_15 20 rfl rfl)
theorem dX3_told_374 : decode cX3_told 374 = .ok (.athrow, 1) := dk_191 (dk_at dksX3_told_15 23 rfl rfl)
theorem dX3_told_375 : decode cX3_told 375 = .ok (.return_, 1) := dk_177 (dk_at dksX3_told_16 0 rfl rfl)
abbrev cX3_begins : ByteArray := prog_12_method_15_code
def yX3_begins : MethodName := ⟨RX3, "begins", "(II)V"⟩
def dkwX3_begins_0 : List UInt8 := [27, 28, 160, 0, 9, 42, 5, 182, 0, 48, 191, 42, 182, 0, 59, 177]
abbrev dktX3_begins_0 : List UInt8 := dkwX3_begins_0 ++ []
theorem dksX3_begins_0 : cX3_begins.data.toList.drop 0 = dktX3_begins_0 := by decide +kernel
theorem dX3_begins_0 : decode cX3_begins 0 = .ok (.iload_n 1, 1) := dk_27 (dk_at dksX3_begins_0 0 rfl rfl)
theorem dX3_begins_1 : decode cX3_begins 1 = .ok (.iload_n 2, 1) := dk_28 (dk_at dksX3_begins_0 1 rfl rfl)
theorem dX3_begins_2 : decode cX3_begins 2 = .ok (.if_icmp .ne 9, 3) := dk_160 0 9 (dk_at dksX3_begins_0 2 rfl rfl)
theorem dX3_begins_5 : decode cX3_begins 5 = .ok (.aload_n 0, 1) := dk_42 (dk_at dksX3_begins_0 5 rfl rfl)
theorem dX3_begins_6 : decode cX3_begins 6 = .ok (.iconst 2, 1) := dk_5 (dk_at dksX3_begins_0 6 rfl rfl)
theorem dX3_begins_7 : decode cX3_begins 7 = .ok (.invokevirtual 48, 3) := dk_182 0 48 (dk_at dksX3_begins_0 7 rfl rfl)
theorem dX3_begins_10 : decode cX3_begins 10 = .ok (.athrow, 1) := dk_191 (dk_at dksX3_begins_0 10 rfl rfl)
theorem dX3_begins_11 : decode cX3_begins 11 = .ok (.aload_n 0, 1) := dk_42 (dk_at dksX3_begins_0 11 rfl rfl)
theorem dX3_begins_12 : decode cX3_begins 12 = .ok (.invokevirtual 59, 3) := dk_182 0 59 (dk_at dksX3_begins_0 12 rfl rfl)
theorem dX3_begins_15 : decode cX3_begins 15 = .ok (.return_, 1) := dk_177 (dk_at dksX3_begins_0 15 rfl rfl)
abbrev cX3_pass : ByteArray := prog_12_method_6_code
def yX3_pass : MethodName := ⟨RX3, "pass", "()V"⟩
def dkwX3_pass_1 : List UInt8 := [181, 0, 31, 177]
abbrev dktX3_pass_1 : List UInt8 := dkwX3_pass_1 ++ []
def dkwX3_pass_0 : List UInt8 := [42, 180, 0, 31, 17, 1, 144, 161, 0, 9, 42, 5, 182, 0, 48, 191, 42, 89, 180, 0, 31, 4, 96]
abbrev dktX3_pass_0 : List UInt8 := dkwX3_pass_0 ++ dktX3_pass_1
theorem dksX3_pass_0 : cX3_pass.data.toList.drop 0 = dktX3_pass_0 := by decide +kernel
theorem dksX3_pass_1 : cX3_pass.data.toList.drop 23 = dktX3_pass_1 := dk_seg dksX3_pass_0 23 rfl rfl
theorem dX3_pass_0 : decode cX3_pass 0 = .ok (.aload_n 0, 1) := dk_42 (dk_at dksX3_pass_0 0 rfl rfl)
theorem dX3_pass_1 : decode cX3_pass 1 = .ok (.getfield 31, 3) := dk_180 0 31 (dk_at dksX3_pass_0 1 rfl rfl)
theorem dX3_pass_4 : decode cX3_pass 4 = .ok (.sipush 400, 3) := dk_17 1 144 (dk_at dksX3_pass_0 4 rfl rfl)
theorem dX3_pass_7 : decode cX3_pass 7 = .ok (.if_icmp .lt 9, 3) := dk_161 0 9 (dk_at dksX3_pass_0 7 rfl rfl)
theorem dX3_pass_10 : decode cX3_pass 10 = .ok (.aload_n 0, 1) := dk_42 (dk_at dksX3_pass_0 10 rfl rfl)
theorem dX3_pass_11 : decode cX3_pass 11 = .ok (.iconst 2, 1) := dk_5 (dk_at dksX3_pass_0 11 rfl rfl)
theorem dX3_pass_12 : decode cX3_pass 12 = .ok (.invokevirtual 48, 3) := dk_182 0 48 (dk_at dksX3_pass_0 12 rfl rfl)
theorem dX3_pass_15 : decode cX3_pass 15 = .ok (.athrow, 1) := dk_191 (dk_at dksX3_pass_0 15 rfl rfl)
theorem dX3_pass_16 : decode cX3_pass 16 = .ok (.aload_n 0, 1) := dk_42 (dk_at dksX3_pass_0 16 rfl rfl)
theorem dX3_pass_17 : decode cX3_pass 17 = .ok (.dup, 1) := dk_89 (dk_at dksX3_pass_0 17 rfl rfl)
theorem dX3_pass_18 : decode cX3_pass 18 = .ok (.getfield 31, 3) := dk_180 0 31 (dk_at dksX3_pass_0 18 rfl rfl)
theorem dX3_pass_21 : decode cX3_pass 21 = .ok (.iconst 1, 1) := dk_4 (dk_at dksX3_pass_0 21 rfl rfl)
theorem dX3_pass_22 : decode cX3_pass 22 = .ok (.iadd, 1) := dk_96 (dk_at dksX3_pass_0 22 rfl rfl)
theorem dX3_pass_23 : decode cX3_pass 23 = .ok (.putfield 31, 3) := dk_181 0 31 (dk_at dksX3_pass_1 0 rfl rfl)
theorem dX3_pass_26 : decode cX3_pass 26 = .ok (.return_, 1) := dk_177 (dk_at dksX3_pass_1 3 rfl rfl)
abbrev cX3_name : ByteArray := prog_12_method_13_code
def yX3_name : MethodName := ⟨RX3, "name", "()Ljava/lang/String;"⟩
def dkwX3_name_1 : List UInt8 := [153, 0, 9, 42, 6, 27, 182, 0, 75, 44, 176]
abbrev dktX3_name_1 : List UInt8 := dkwX3_name_1 ++ []
def dkwX3_name_0 : List UInt8 := [42, 3, 182, 0, 68, 60, 42, 180, 0, 9, 27, 182, 0, 79, 77, 42, 180, 0, 83, 44, 182, 0, 86]
abbrev dktX3_name_0 : List UInt8 := dkwX3_name_0 ++ dktX3_name_1
theorem dksX3_name_0 : cX3_name.data.toList.drop 0 = dktX3_name_0 := by decide +kernel
theorem dksX3_name_1 : cX3_name.data.toList.drop 23 = dktX3_name_1 := dk_seg dksX3_name_0 23 rfl rfl
theorem dX3_name_0 : decode cX3_name 0 = .ok (.aload_n 0, 1) := dk_42 (dk_at dksX3_name_0 0 rfl rfl)
theorem dX3_name_1 : decode cX3_name 1 = .ok (.iconst 0, 1) := dk_3 (dk_at dksX3_name_0 1 rfl rfl)
theorem dX3_name_2 : decode cX3_name 2 = .ok (.invokevirtual 68, 3) := dk_182 0 68 (dk_at dksX3_name_0 2 rfl rfl)
theorem dX3_name_5 : decode cX3_name 5 = .ok (.istore_n 1, 1) := dk_60 (dk_at dksX3_name_0 5 rfl rfl)
theorem dX3_name_6 : decode cX3_name 6 = .ok (.aload_n 0, 1) := dk_42 (dk_at dksX3_name_0 6 rfl rfl)
theorem dX3_name_7 : decode cX3_name 7 = .ok (.getfield 9, 3) := dk_180 0 9 (dk_at dksX3_name_0 7 rfl rfl)
theorem dX3_name_10 : decode cX3_name 10 = .ok (.iload_n 1, 1) := dk_27 (dk_at dksX3_name_0 10 rfl rfl)
theorem dX3_name_11 : decode cX3_name 11 = .ok (.invokevirtual 79, 3) := dk_182 0 79 (dk_at dksX3_name_0 11 rfl rfl)
theorem dX3_name_14 : decode cX3_name 14 = .ok (.astore_n 2, 1) := dk_77 (dk_at dksX3_name_0 14 rfl rfl)
theorem dX3_name_15 : decode cX3_name 15 = .ok (.aload_n 0, 1) := dk_42 (dk_at dksX3_name_0 15 rfl rfl)
theorem dX3_name_16 : decode cX3_name 16 = .ok (.getfield 83, 3) := dk_180 0 83 (dk_at dksX3_name_0 16 rfl rfl)
theorem dX3_name_19 : decode cX3_name 19 = .ok (.aload_n 2, 1) := dk_44 (dk_at dksX3_name_0 19 rfl rfl)
theorem dX3_name_20 : decode cX3_name 20 = .ok (.invokevirtual 86, 3) := dk_182 0 86 (dk_at dksX3_name_0 20 rfl rfl)
theorem dX3_name_23 : decode cX3_name 23 = .ok (.ifCond .eq 9, 3) := dk_153 0 9 (dk_at dksX3_name_1 0 rfl rfl)
theorem dX3_name_26 : decode cX3_name 26 = .ok (.aload_n 0, 1) := dk_42 (dk_at dksX3_name_1 3 rfl rfl)
theorem dX3_name_27 : decode cX3_name 27 = .ok (.iconst 3, 1) := dk_6 (dk_at dksX3_name_1 4 rfl rfl)
theorem dX3_name_28 : decode cX3_name 28 = .ok (.iload_n 1, 1) := dk_27 (dk_at dksX3_name_1 5 rfl rfl)
theorem dX3_name_29 : decode cX3_name 29 = .ok (.invokevirtual 75, 3) := dk_182 0 75 (dk_at dksX3_name_1 6 rfl rfl)
theorem dX3_name_32 : decode cX3_name 32 = .ok (.aload_n 2, 1) := dk_44 (dk_at dksX3_name_1 9 rfl rfl)
theorem dX3_name_33 : decode cX3_name 33 = .ok (.areturn, 1) := dk_176 (dk_at dksX3_name_1 10 rfl rfl)
abbrev cX3_take : ByteArray := prog_12_method_11_code
def yX3_take : MethodName := ⟨RX3, "take", "(I)I"⟩
def dkwX3_take_1 : List UInt8 := [172]
abbrev dktX3_take_1 : List UInt8 := dkwX3_take_1 ++ []
def dkwX3_take_0 : List UInt8 := [42, 182, 0, 65, 27, 159, 0, 9, 42, 4, 182, 0, 48, 191, 42, 182, 0, 59, 42, 180, 0, 31, 4, 100]
abbrev dktX3_take_0 : List UInt8 := dkwX3_take_0 ++ dktX3_take_1
theorem dksX3_take_0 : cX3_take.data.toList.drop 0 = dktX3_take_0 := by decide +kernel
theorem dksX3_take_1 : cX3_take.data.toList.drop 24 = dktX3_take_1 := dk_seg dksX3_take_0 24 rfl rfl
theorem dX3_take_0 : decode cX3_take 0 = .ok (.aload_n 0, 1) := dk_42 (dk_at dksX3_take_0 0 rfl rfl)
theorem dX3_take_1 : decode cX3_take 1 = .ok (.invokevirtual 65, 3) := dk_182 0 65 (dk_at dksX3_take_0 1 rfl rfl)
theorem dX3_take_4 : decode cX3_take 4 = .ok (.iload_n 1, 1) := dk_27 (dk_at dksX3_take_0 4 rfl rfl)
theorem dX3_take_5 : decode cX3_take 5 = .ok (.if_icmp .eq 9, 3) := dk_159 0 9 (dk_at dksX3_take_0 5 rfl rfl)
theorem dX3_take_8 : decode cX3_take 8 = .ok (.aload_n 0, 1) := dk_42 (dk_at dksX3_take_0 8 rfl rfl)
theorem dX3_take_9 : decode cX3_take 9 = .ok (.iconst 1, 1) := dk_4 (dk_at dksX3_take_0 9 rfl rfl)
theorem dX3_take_10 : decode cX3_take 10 = .ok (.invokevirtual 48, 3) := dk_182 0 48 (dk_at dksX3_take_0 10 rfl rfl)
theorem dX3_take_13 : decode cX3_take 13 = .ok (.athrow, 1) := dk_191 (dk_at dksX3_take_0 13 rfl rfl)
theorem dX3_take_14 : decode cX3_take 14 = .ok (.aload_n 0, 1) := dk_42 (dk_at dksX3_take_0 14 rfl rfl)
theorem dX3_take_15 : decode cX3_take 15 = .ok (.invokevirtual 59, 3) := dk_182 0 59 (dk_at dksX3_take_0 15 rfl rfl)
theorem dX3_take_18 : decode cX3_take 18 = .ok (.aload_n 0, 1) := dk_42 (dk_at dksX3_take_0 18 rfl rfl)
theorem dX3_take_19 : decode cX3_take 19 = .ok (.getfield 31, 3) := dk_180 0 31 (dk_at dksX3_take_0 19 rfl rfl)
theorem dX3_take_22 : decode cX3_take 22 = .ok (.iconst 1, 1) := dk_4 (dk_at dksX3_take_0 22 rfl rfl)
theorem dX3_take_23 : decode cX3_take 23 = .ok (.isub, 1) := dk_100 (dk_at dksX3_take_0 23 rfl rfl)
theorem dX3_take_24 : decode cX3_take 24 = .ok (.ireturn, 1) := dk_172 (dk_at dksX3_take_1 0 rfl rfl)
abbrev cX3_tell : ByteArray := prog_12_method_4_code
def yX3_tell : MethodName := ⟨RX3, "tell", "(II)V"⟩
def dkwX3_tell_1 : List UInt8 := [42, 180, 0, 38, 161, 0, 4, 177, 42, 27, 181, 0, 38, 42, 28, 181, 0, 41, 177]
abbrev dktX3_tell_1 : List UInt8 := dkwX3_tell_1 ++ []
def dkwX3_tell_0 : List UInt8 := [42, 180, 0, 38, 153, 0, 28, 28, 42, 180, 0, 41, 163, 0, 19, 28, 42, 180, 0, 41, 160, 0, 12, 27]
abbrev dktX3_tell_0 : List UInt8 := dkwX3_tell_0 ++ dktX3_tell_1
theorem dksX3_tell_0 : cX3_tell.data.toList.drop 0 = dktX3_tell_0 := by decide +kernel
theorem dksX3_tell_1 : cX3_tell.data.toList.drop 24 = dktX3_tell_1 := dk_seg dksX3_tell_0 24 rfl rfl
theorem dX3_tell_0 : decode cX3_tell 0 = .ok (.aload_n 0, 1) := dk_42 (dk_at dksX3_tell_0 0 rfl rfl)
theorem dX3_tell_1 : decode cX3_tell 1 = .ok (.getfield 38, 3) := dk_180 0 38 (dk_at dksX3_tell_0 1 rfl rfl)
theorem dX3_tell_4 : decode cX3_tell 4 = .ok (.ifCond .eq 28, 3) := dk_153 0 28 (dk_at dksX3_tell_0 4 rfl rfl)
theorem dX3_tell_7 : decode cX3_tell 7 = .ok (.iload_n 2, 1) := dk_28 (dk_at dksX3_tell_0 7 rfl rfl)
theorem dX3_tell_8 : decode cX3_tell 8 = .ok (.aload_n 0, 1) := dk_42 (dk_at dksX3_tell_0 8 rfl rfl)
theorem dX3_tell_9 : decode cX3_tell 9 = .ok (.getfield 41, 3) := dk_180 0 41 (dk_at dksX3_tell_0 9 rfl rfl)
theorem dX3_tell_12 : decode cX3_tell 12 = .ok (.if_icmp .gt 19, 3) := dk_163 0 19 (dk_at dksX3_tell_0 12 rfl rfl)
theorem dX3_tell_15 : decode cX3_tell 15 = .ok (.iload_n 2, 1) := dk_28 (dk_at dksX3_tell_0 15 rfl rfl)
theorem dX3_tell_16 : decode cX3_tell 16 = .ok (.aload_n 0, 1) := dk_42 (dk_at dksX3_tell_0 16 rfl rfl)
theorem dX3_tell_17 : decode cX3_tell 17 = .ok (.getfield 41, 3) := dk_180 0 41 (dk_at dksX3_tell_0 17 rfl rfl)
theorem dX3_tell_20 : decode cX3_tell 20 = .ok (.if_icmp .ne 12, 3) := dk_160 0 12 (dk_at dksX3_tell_0 20 rfl rfl)
theorem dX3_tell_23 : decode cX3_tell 23 = .ok (.iload_n 1, 1) := dk_27 (dk_at dksX3_tell_0 23 rfl rfl)
theorem dX3_tell_24 : decode cX3_tell 24 = .ok (.aload_n 0, 1) := dk_42 (dk_at dksX3_tell_1 0 rfl rfl)
theorem dX3_tell_25 : decode cX3_tell 25 = .ok (.getfield 38, 3) := dk_180 0 38 (dk_at dksX3_tell_1 1 rfl rfl)
theorem dX3_tell_28 : decode cX3_tell 28 = .ok (.if_icmp .lt 4, 3) := dk_161 0 4 (dk_at dksX3_tell_1 4 rfl rfl)
theorem dX3_tell_31 : decode cX3_tell 31 = .ok (.return_, 1) := dk_177 (dk_at dksX3_tell_1 7 rfl rfl)
theorem dX3_tell_32 : decode cX3_tell 32 = .ok (.aload_n 0, 1) := dk_42 (dk_at dksX3_tell_1 8 rfl rfl)
theorem dX3_tell_33 : decode cX3_tell 33 = .ok (.iload_n 1, 1) := dk_27 (dk_at dksX3_tell_1 9 rfl rfl)
theorem dX3_tell_34 : decode cX3_tell 34 = .ok (.putfield 38, 3) := dk_181 0 38 (dk_at dksX3_tell_1 10 rfl rfl)
theorem dX3_tell_37 : decode cX3_tell 37 = .ok (.aload_n 0, 1) := dk_42 (dk_at dksX3_tell_1 13 rfl rfl)
theorem dX3_tell_38 : decode cX3_tell 38 = .ok (.iload_n 2, 1) := dk_28 (dk_at dksX3_tell_1 14 rfl rfl)
theorem dX3_tell_39 : decode cX3_tell 39 = .ok (.putfield 41, 3) := dk_181 0 41 (dk_at dksX3_tell_1 15 rfl rfl)
theorem dX3_tell_42 : decode cX3_tell 42 = .ok (.return_, 1) := dk_177 (dk_at dksX3_tell_1 18 rfl rfl)
abbrev cX3_doorTold : ByteArray := prog_12_method_18_code
def yX3_doorTold : MethodName := ⟨RX3, "doorTold", "()V"⟩
def dkwX3_doorTold_4 : List UInt8 := [192, 0, 121, 27, 182, 0, 190, 42, 180, 0, 83, 89, 180, 0, 187, 4, 96, 181, 0, 187, 177]
abbrev dktX3_doorTold_4 : List UInt8 := dkwX3_doorTold_4 ++ []
def dkwX3_doorTold_3 : List UInt8 := [27, 182, 0, 160, 192, 0, 121, 29, 182, 0, 190, 42, 180, 0, 83, 180, 0, 109, 29, 182, 0, 160]
abbrev dktX3_doorTold_3 : List UInt8 := dkwX3_doorTold_3 ++ dktX3_doorTold_4
def dkwX3_doorTold_2 : List UInt8 := [160, 0, 9, 42, 6, 28, 182, 0, 75, 27, 155, 0, 43, 29, 155, 0, 39, 42, 180, 0, 83, 180, 0, 109]
abbrev dktX3_doorTold_2 : List UInt8 := dkwX3_doorTold_2 ++ dktX3_doorTold_3
def dkwX3_doorTold_1 : List UInt8 := [60, 42, 180, 0, 31, 61, 42, 42, 180, 0, 83, 180, 0, 109, 182, 0, 149, 62, 27, 155, 0, 14, 27, 29]
abbrev dktX3_doorTold_1 : List UInt8 := dkwX3_doorTold_1 ++ dktX3_doorTold_2
def dkwX3_doorTold_0 : List UInt8 := [42, 42, 180, 0, 83, 180, 0, 187, 16, 12, 182, 0, 118, 42, 42, 180, 0, 83, 180, 0, 109, 182, 0, 149]
abbrev dktX3_doorTold_0 : List UInt8 := dkwX3_doorTold_0 ++ dktX3_doorTold_1
theorem dksX3_doorTold_0 : cX3_doorTold.data.toList.drop 0 = dktX3_doorTold_0 := by decide +kernel
theorem dksX3_doorTold_1 : cX3_doorTold.data.toList.drop 24 = dktX3_doorTold_1 := dk_seg dksX3_doorTold_0 24 rfl rfl
theorem dksX3_doorTold_2 : cX3_doorTold.data.toList.drop 48 = dktX3_doorTold_2 := dk_seg dksX3_doorTold_1 24 rfl rfl
theorem dksX3_doorTold_3 : cX3_doorTold.data.toList.drop 72 = dktX3_doorTold_3 := dk_seg dksX3_doorTold_2 24 rfl rfl
theorem dksX3_doorTold_4 : cX3_doorTold.data.toList.drop 94 = dktX3_doorTold_4 := dk_seg dksX3_doorTold_3 22 rfl rfl
theorem dX3_doorTold_0 : decode cX3_doorTold 0 = .ok (.aload_n 0, 1) := dk_42 (dk_at dksX3_doorTold_0 0 rfl rfl)
theorem dX3_doorTold_1 : decode cX3_doorTold 1 = .ok (.aload_n 0, 1) := dk_42 (dk_at dksX3_doorTold_0 1 rfl rfl)
theorem dX3_doorTold_2 : decode cX3_doorTold 2 = .ok (.getfield 83, 3) := dk_180 0 83 (dk_at dksX3_doorTold_0 2 rfl rfl)
theorem dX3_doorTold_5 : decode cX3_doorTold 5 = .ok (.getfield 187, 3) := dk_180 0 187 (dk_at dksX3_doorTold_0 5 rfl rfl)
theorem dX3_doorTold_8 : decode cX3_doorTold 8 = .ok (.bipush 12, 2) := dk_16 12 (dk_at dksX3_doorTold_0 8 rfl rfl)
theorem dX3_doorTold_10 : decode cX3_doorTold 10 = .ok (.invokevirtual 118, 3) := dk_182 0 118 (dk_at dksX3_doorTold_0 10 rfl rfl)
theorem dX3_doorTold_13 : decode cX3_doorTold 13 = .ok (.aload_n 0, 1) := dk_42 (dk_at dksX3_doorTold_0 13 rfl rfl)
theorem dX3_doorTold_14 : decode cX3_doorTold 14 = .ok (.aload_n 0, 1) := dk_42 (dk_at dksX3_doorTold_0 14 rfl rfl)
theorem dX3_doorTold_15 : decode cX3_doorTold 15 = .ok (.getfield 83, 3) := dk_180 0 83 (dk_at dksX3_doorTold_0 15 rfl rfl)
theorem dX3_doorTold_18 : decode cX3_doorTold 18 = .ok (.getfield 109, 3) := dk_180 0 109 (dk_at dksX3_doorTold_0 18 rfl rfl)
theorem dX3_doorTold_21 : decode cX3_doorTold 21 = .ok (.invokevirtual 149, 3) := dk_182 0 149 (dk_at dksX3_doorTold_0 21 rfl rfl)
theorem dX3_doorTold_24 : decode cX3_doorTold 24 = .ok (.istore_n 1, 1) := dk_60 (dk_at dksX3_doorTold_1 0 rfl rfl)
theorem dX3_doorTold_25 : decode cX3_doorTold 25 = .ok (.aload_n 0, 1) := dk_42 (dk_at dksX3_doorTold_1 1 rfl rfl)
theorem dX3_doorTold_26 : decode cX3_doorTold 26 = .ok (.getfield 31, 3) := dk_180 0 31 (dk_at dksX3_doorTold_1 2 rfl rfl)
theorem dX3_doorTold_29 : decode cX3_doorTold 29 = .ok (.istore_n 2, 1) := dk_61 (dk_at dksX3_doorTold_1 5 rfl rfl)
theorem dX3_doorTold_30 : decode cX3_doorTold 30 = .ok (.aload_n 0, 1) := dk_42 (dk_at dksX3_doorTold_1 6 rfl rfl)
theorem dX3_doorTold_31 : decode cX3_doorTold 31 = .ok (.aload_n 0, 1) := dk_42 (dk_at dksX3_doorTold_1 7 rfl rfl)
theorem dX3_doorTold_32 : decode cX3_doorTold 32 = .ok (.getfield 83, 3) := dk_180 0 83 (dk_at dksX3_doorTold_1 8 rfl rfl)
theorem dX3_doorTold_35 : decode cX3_doorTold 35 = .ok (.getfield 109, 3) := dk_180 0 109 (dk_at dksX3_doorTold_1 11 rfl rfl)
theorem dX3_doorTold_38 : decode cX3_doorTold 38 = .ok (.invokevirtual 149, 3) := dk_182 0 149 (dk_at dksX3_doorTold_1 14 rfl rfl)
theorem dX3_doorTold_41 : decode cX3_doorTold 41 = .ok (.istore_n 3, 1) := dk_62 (dk_at dksX3_doorTold_1 17 rfl rfl)
theorem dX3_doorTold_42 : decode cX3_doorTold 42 = .ok (.iload_n 1, 1) := dk_27 (dk_at dksX3_doorTold_1 18 rfl rfl)
theorem dX3_doorTold_43 : decode cX3_doorTold 43 = .ok (.ifCond .lt 14, 3) := dk_155 0 14 (dk_at dksX3_doorTold_1 19 rfl rfl)
theorem dX3_doorTold_46 : decode cX3_doorTold 46 = .ok (.iload_n 1, 1) := dk_27 (dk_at dksX3_doorTold_1 22 rfl rfl)
theorem dX3_doorTold_47 : decode cX3_doorTold 47 = .ok (.iload_n 3, 1) := dk_29 (dk_at dksX3_doorTold_1 23 rfl rfl)
theorem dX3_doorTold_48 : decode cX3_doorTold 48 = .ok (.if_icmp .ne 9, 3) := dk_160 0 9 (dk_at dksX3_doorTold_2 0 rfl rfl)
theorem dX3_doorTold_51 : decode cX3_doorTold 51 = .ok (.aload_n 0, 1) := dk_42 (dk_at dksX3_doorTold_2 3 rfl rfl)
theorem dX3_doorTold_52 : decode cX3_doorTold 52 = .ok (.iconst 3, 1) := dk_6 (dk_at dksX3_doorTold_2 4 rfl rfl)
theorem dX3_doorTold_53 : decode cX3_doorTold 53 = .ok (.iload_n 2, 1) := dk_28 (dk_at dksX3_doorTold_2 5 rfl rfl)
theorem dX3_doorTold_54 : decode cX3_doorTold 54 = .ok (.invokevirtual 75, 3) := dk_182 0 75 (dk_at dksX3_doorTold_2 6 rfl rfl)
theorem dX3_doorTold_57 : decode cX3_doorTold 57 = .ok (.iload_n 1, 1) := dk_27 (dk_at dksX3_doorTold_2 9 rfl rfl)
theorem dX3_doorTold_58 : decode cX3_doorTold 58 = .ok (.ifCond .lt 43, 3) := dk_155 0 43 (dk_at dksX3_doorTold_2 10 rfl rfl)
theorem dX3_doorTold_61 : decode cX3_doorTold 61 = .ok (.iload_n 3, 1) := dk_29 (dk_at dksX3_doorTold_2 13 rfl rfl)
theorem dX3_doorTold_62 : decode cX3_doorTold 62 = .ok (.ifCond .lt 39, 3) := dk_155 0 39 (dk_at dksX3_doorTold_2 14 rfl rfl)
theorem dX3_doorTold_65 : decode cX3_doorTold 65 = .ok (.aload_n 0, 1) := dk_42 (dk_at dksX3_doorTold_2 17 rfl rfl)
theorem dX3_doorTold_66 : decode cX3_doorTold 66 = .ok (.getfield 83, 3) := dk_180 0 83 (dk_at dksX3_doorTold_2 18 rfl rfl)
theorem dX3_doorTold_69 : decode cX3_doorTold 69 = .ok (.getfield 109, 3) := dk_180 0 109 (dk_at dksX3_doorTold_2 21 rfl rfl)
theorem dX3_doorTold_72 : decode cX3_doorTold 72 = .ok (.iload_n 1, 1) := dk_27 (dk_at dksX3_doorTold_3 0 rfl rfl)
theorem dX3_doorTold_73 : decode cX3_doorTold 73 = .ok (.invokevirtual 160, 3) := dk_182 0 160 (dk_at dksX3_doorTold_3 1 rfl rfl)
theorem dX3_doorTold_76 : decode cX3_doorTold 76 = .ok (.checkcast 121, 3) := dk_192 0 121 (dk_at dksX3_doorTold_3 4 rfl rfl)
theorem dX3_doorTold_79 : decode cX3_doorTold 79 = .ok (.iload_n 3, 1) := dk_29 (dk_at dksX3_doorTold_3 7 rfl rfl)
theorem dX3_doorTold_80 : decode cX3_doorTold 80 = .ok (.invokevirtual 190, 3) := dk_182 0 190 (dk_at dksX3_doorTold_3 8 rfl rfl)
theorem dX3_doorTold_83 : decode cX3_doorTold 83 = .ok (.aload_n 0, 1) := dk_42 (dk_at dksX3_doorTold_3 11 rfl rfl)
theorem dX3_doorTold_84 : decode cX3_doorTold 84 = .ok (.getfield 83, 3) := dk_180 0 83 (dk_at dksX3_doorTold_3 12 rfl rfl)
theorem dX3_doorTold_87 : decode cX3_doorTold 87 = .ok (.getfield 109, 3) := dk_180 0 109 (dk_at dksX3_doorTold_3 15 rfl rfl)
theorem dX3_doorTold_90 : decode cX3_doorTold 90 = .ok (.iload_n 3, 1) := dk_29 (dk_at dksX3_doorTold_3 18 rfl rfl)
theorem dX3_doorTold_91 : decode cX3_doorTold 91 = .ok (.invokevirtual 160, 3) := dk_182 0 160 (dk_at dksX3_doorTold_3 19 rfl rfl)
theorem dX3_doorTold_94 : decode cX3_doorTold 94 = .ok (.checkcast 121, 3) := dk_192 0 121 (dk_at dksX3_doorTold_4 0 rfl rfl)
theorem dX3_doorTold_97 : decode cX3_doorTold 97 = .ok (.iload_n 1, 1) := dk_27 (dk_at dksX3_doorTold_4 3 rfl rfl)
theorem dX3_doorTold_98 : decode cX3_doorTold 98 = .ok (.invokevirtual 190, 3) := dk_182 0 190 (dk_at dksX3_doorTold_4 4 rfl rfl)
theorem dX3_doorTold_101 : decode cX3_doorTold 101 = .ok (.aload_n 0, 1) := dk_42 (dk_at dksX3_doorTold_4 7 rfl rfl)
theorem dX3_doorTold_102 : decode cX3_doorTold 102 = .ok (.getfield 83, 3) := dk_180 0 83 (dk_at dksX3_doorTold_4 8 rfl rfl)
theorem dX3_doorTold_105 : decode cX3_doorTold 105 = .ok (.dup, 1) := dk_89 (dk_at dksX3_doorTold_4 11 rfl rfl)
theorem dX3_doorTold_106 : decode cX3_doorTold 106 = .ok (.getfield 187, 3) := dk_180 0 187 (dk_at dksX3_doorTold_4 12 rfl rfl)
theorem dX3_doorTold_109 : decode cX3_doorTold 109 = .ok (.iconst 1, 1) := dk_4 (dk_at dksX3_doorTold_4 15 rfl rfl)
theorem dX3_doorTold_110 : decode cX3_doorTold 110 = .ok (.iadd, 1) := dk_96 (dk_at dksX3_doorTold_4 16 rfl rfl)
theorem dX3_doorTold_111 : decode cX3_doorTold 111 = .ok (.putfield 187, 3) := dk_181 0 187 (dk_at dksX3_doorTold_4 17 rfl rfl)
theorem dX3_doorTold_114 : decode cX3_doorTold 114 = .ok (.return_, 1) := dk_177 (dk_at dksX3_doorTold_4 20 rfl rfl)
abbrev cX3_known : ByteArray := prog_12_method_14_code
def yX3_known : MethodName := ⟨RX3, "known", "(Ljava/util/ArrayList;)I"⟩
def dkwX3_known_1 : List UInt8 := [7, 28, 182, 0, 75, 29, 172]
abbrev dktX3_known_1 : List UInt8 := dkwX3_known_1 ++ []
def dkwX3_known_0 : List UInt8 := [42, 3, 182, 0, 68, 61, 43, 42, 180, 0, 9, 28, 182, 0, 79, 184, 0, 92, 62, 29, 156, 0, 9, 42]
abbrev dktX3_known_0 : List UInt8 := dkwX3_known_0 ++ dktX3_known_1
theorem dksX3_known_0 : cX3_known.data.toList.drop 0 = dktX3_known_0 := by decide +kernel
theorem dksX3_known_1 : cX3_known.data.toList.drop 24 = dktX3_known_1 := dk_seg dksX3_known_0 24 rfl rfl
theorem dX3_known_0 : decode cX3_known 0 = .ok (.aload_n 0, 1) := dk_42 (dk_at dksX3_known_0 0 rfl rfl)
theorem dX3_known_1 : decode cX3_known 1 = .ok (.iconst 0, 1) := dk_3 (dk_at dksX3_known_0 1 rfl rfl)
theorem dX3_known_2 : decode cX3_known 2 = .ok (.invokevirtual 68, 3) := dk_182 0 68 (dk_at dksX3_known_0 2 rfl rfl)
theorem dX3_known_5 : decode cX3_known 5 = .ok (.istore_n 2, 1) := dk_61 (dk_at dksX3_known_0 5 rfl rfl)
theorem dX3_known_6 : decode cX3_known 6 = .ok (.aload_n 1, 1) := dk_43 (dk_at dksX3_known_0 6 rfl rfl)
theorem dX3_known_7 : decode cX3_known 7 = .ok (.aload_n 0, 1) := dk_42 (dk_at dksX3_known_0 7 rfl rfl)
theorem dX3_known_8 : decode cX3_known 8 = .ok (.getfield 9, 3) := dk_180 0 9 (dk_at dksX3_known_0 8 rfl rfl)
theorem dX3_known_11 : decode cX3_known 11 = .ok (.iload_n 2, 1) := dk_28 (dk_at dksX3_known_0 11 rfl rfl)
theorem dX3_known_12 : decode cX3_known 12 = .ok (.invokevirtual 79, 3) := dk_182 0 79 (dk_at dksX3_known_0 12 rfl rfl)
theorem dX3_known_15 : decode cX3_known 15 = .ok (.invokestatic 92, 3) := dk_184 0 92 (dk_at dksX3_known_0 15 rfl rfl)
theorem dX3_known_18 : decode cX3_known 18 = .ok (.istore_n 3, 1) := dk_62 (dk_at dksX3_known_0 18 rfl rfl)
theorem dX3_known_19 : decode cX3_known 19 = .ok (.iload_n 3, 1) := dk_29 (dk_at dksX3_known_0 19 rfl rfl)
theorem dX3_known_20 : decode cX3_known 20 = .ok (.ifCond .ge 9, 3) := dk_156 0 9 (dk_at dksX3_known_0 20 rfl rfl)
theorem dX3_known_23 : decode cX3_known 23 = .ok (.aload_n 0, 1) := dk_42 (dk_at dksX3_known_0 23 rfl rfl)
theorem dX3_known_24 : decode cX3_known 24 = .ok (.iconst 4, 1) := dk_7 (dk_at dksX3_known_1 0 rfl rfl)
theorem dX3_known_25 : decode cX3_known 25 = .ok (.iload_n 2, 1) := dk_28 (dk_at dksX3_known_1 1 rfl rfl)
theorem dX3_known_26 : decode cX3_known 26 = .ok (.invokevirtual 75, 3) := dk_182 0 75 (dk_at dksX3_known_1 2 rfl rfl)
theorem dX3_known_29 : decode cX3_known 29 = .ok (.iload_n 3, 1) := dk_29 (dk_at dksX3_known_1 5 rfl rfl)
theorem dX3_known_30 : decode cX3_known 30 = .ok (.ireturn, 1) := dk_172 (dk_at dksX3_known_1 6 rfl rfl)
abbrev cX3_number : ByteArray := prog_12_method_12_code
def yX3_number : MethodName := ⟨RX3, "number", "(II)I"⟩
def dkwX3_number_1 : List UInt8 := [28, 164, 0, 9, 42, 8, 29, 182, 0, 75, 21, 4, 172]
abbrev dktX3_number_1 : List UInt8 := dkwX3_number_1 ++ []
def dkwX3_number_0 : List UInt8 := [42, 4, 182, 0, 68, 62, 42, 180, 0, 9, 29, 182, 0, 72, 54, 4, 21, 4, 27, 161, 0, 9, 21, 4]
abbrev dktX3_number_0 : List UInt8 := dkwX3_number_0 ++ dktX3_number_1
theorem dksX3_number_0 : cX3_number.data.toList.drop 0 = dktX3_number_0 := by decide +kernel
theorem dksX3_number_1 : cX3_number.data.toList.drop 24 = dktX3_number_1 := dk_seg dksX3_number_0 24 rfl rfl
theorem dX3_number_0 : decode cX3_number 0 = .ok (.aload_n 0, 1) := dk_42 (dk_at dksX3_number_0 0 rfl rfl)
theorem dX3_number_1 : decode cX3_number 1 = .ok (.iconst 1, 1) := dk_4 (dk_at dksX3_number_0 1 rfl rfl)
theorem dX3_number_2 : decode cX3_number 2 = .ok (.invokevirtual 68, 3) := dk_182 0 68 (dk_at dksX3_number_0 2 rfl rfl)
theorem dX3_number_5 : decode cX3_number 5 = .ok (.istore_n 3, 1) := dk_62 (dk_at dksX3_number_0 5 rfl rfl)
theorem dX3_number_6 : decode cX3_number 6 = .ok (.aload_n 0, 1) := dk_42 (dk_at dksX3_number_0 6 rfl rfl)
theorem dX3_number_7 : decode cX3_number 7 = .ok (.getfield 9, 3) := dk_180 0 9 (dk_at dksX3_number_0 7 rfl rfl)
theorem dX3_number_10 : decode cX3_number 10 = .ok (.iload_n 3, 1) := dk_29 (dk_at dksX3_number_0 10 rfl rfl)
theorem dX3_number_11 : decode cX3_number 11 = .ok (.invokevirtual 72, 3) := dk_182 0 72 (dk_at dksX3_number_0 11 rfl rfl)
theorem dX3_number_14 : decode cX3_number 14 = .ok (.istore 4, 2) := dk_54 4 (dk_at dksX3_number_0 14 rfl rfl)
theorem dX3_number_16 : decode cX3_number 16 = .ok (.iload 4, 2) := dk_21 4 (dk_at dksX3_number_0 16 rfl rfl)
theorem dX3_number_18 : decode cX3_number 18 = .ok (.iload_n 1, 1) := dk_27 (dk_at dksX3_number_0 18 rfl rfl)
theorem dX3_number_19 : decode cX3_number 19 = .ok (.if_icmp .lt 9, 3) := dk_161 0 9 (dk_at dksX3_number_0 19 rfl rfl)
theorem dX3_number_22 : decode cX3_number 22 = .ok (.iload 4, 2) := dk_21 4 (dk_at dksX3_number_0 22 rfl rfl)
theorem dX3_number_24 : decode cX3_number 24 = .ok (.iload_n 2, 1) := dk_28 (dk_at dksX3_number_1 0 rfl rfl)
theorem dX3_number_25 : decode cX3_number 25 = .ok (.if_icmp .le 9, 3) := dk_164 0 9 (dk_at dksX3_number_1 1 rfl rfl)
theorem dX3_number_28 : decode cX3_number 28 = .ok (.aload_n 0, 1) := dk_42 (dk_at dksX3_number_1 4 rfl rfl)
theorem dX3_number_29 : decode cX3_number 29 = .ok (.iconst 5, 1) := dk_8 (dk_at dksX3_number_1 5 rfl rfl)
theorem dX3_number_30 : decode cX3_number 30 = .ok (.iload_n 3, 1) := dk_29 (dk_at dksX3_number_1 6 rfl rfl)
theorem dX3_number_31 : decode cX3_number 31 = .ok (.invokevirtual 75, 3) := dk_182 0 75 (dk_at dksX3_number_1 7 rfl rfl)
theorem dX3_number_34 : decode cX3_number 34 = .ok (.iload 4, 2) := dk_21 4 (dk_at dksX3_number_1 10 rfl rfl)
theorem dX3_number_36 : decode cX3_number 36 = .ok (.ireturn, 1) := dk_172 (dk_at dksX3_number_1 12 rfl rfl)
abbrev cX3_law : ByteArray := prog_12_method_19_code
def yX3_law : MethodName := ⟨RX3, "law", "()LLateMirrors$Law;"⟩
def dkwX3_law_4 : List UInt8 := [96, 181, 0, 196, 167, 255, 171, 43, 180, 0, 213, 43, 180, 0, 196, 42, 182, 0, 203, 83, 43, 176]
abbrev dktX3_law_4 : List UInt8 := dkwX3_law_4 ++ []
def dkwX3_law_3 : List UInt8 := [180, 0, 213, 43, 180, 0, 196, 42, 182, 0, 203, 83, 42, 16, 10, 182, 0, 210, 43, 89, 180, 0, 196, 4]
abbrev dktX3_law_3 : List UInt8 := dkwX3_law_3 ++ dktX3_law_4
def dkwX3_law_2 : List UInt8 := [182, 0, 105, 43, 180, 0, 207, 43, 180, 0, 196, 42, 182, 0, 203, 83, 42, 16, 9, 182, 0, 210, 43]
abbrev dktX3_law_2 : List UInt8 := dkwX3_law_2 ++ dktX3_law_3
def dkwX3_law_1 : List UInt8 := [43, 180, 0, 196, 7, 182, 0, 118, 43, 180, 0, 199, 43, 180, 0, 196, 42, 182, 0, 203, 83, 42, 16, 60]
abbrev dktX3_law_1 : List UInt8 := dkwX3_law_1 ++ dktX3_law_2
def dkwX3_law_0 : List UInt8 := [187, 0, 193, 89, 183, 0, 195, 76, 42, 16, 61, 182, 0, 105, 42, 16, 8, 182, 0, 62, 153, 0, 82, 42]
abbrev dktX3_law_0 : List UInt8 := dkwX3_law_0 ++ dktX3_law_1
theorem dksX3_law_0 : cX3_law.data.toList.drop 0 = dktX3_law_0 := by decide +kernel
theorem dksX3_law_1 : cX3_law.data.toList.drop 24 = dktX3_law_1 := dk_seg dksX3_law_0 24 rfl rfl
theorem dksX3_law_2 : cX3_law.data.toList.drop 48 = dktX3_law_2 := dk_seg dksX3_law_1 24 rfl rfl
theorem dksX3_law_3 : cX3_law.data.toList.drop 71 = dktX3_law_3 := dk_seg dksX3_law_2 23 rfl rfl
theorem dksX3_law_4 : cX3_law.data.toList.drop 95 = dktX3_law_4 := dk_seg dksX3_law_3 24 rfl rfl
theorem dX3_law_0 : decode cX3_law 0 = .ok (.new 193, 3) := dk_187 0 193 (dk_at dksX3_law_0 0 rfl rfl)
theorem dX3_law_3 : decode cX3_law 3 = .ok (.dup, 1) := dk_89 (dk_at dksX3_law_0 3 rfl rfl)
theorem dX3_law_4 : decode cX3_law 4 = .ok (.invokespecial 195, 3) := dk_183 0 195 (dk_at dksX3_law_0 4 rfl rfl)
theorem dX3_law_7 : decode cX3_law 7 = .ok (.astore_n 1, 1) := dk_76 (dk_at dksX3_law_0 7 rfl rfl)
theorem dX3_law_8 : decode cX3_law 8 = .ok (.aload_n 0, 1) := dk_42 (dk_at dksX3_law_0 8 rfl rfl)
theorem dX3_law_9 : decode cX3_law 9 = .ok (.bipush 61, 2) := dk_16 61 (dk_at dksX3_law_0 9 rfl rfl)
theorem dX3_law_11 : decode cX3_law 11 = .ok (.invokevirtual 105, 3) := dk_182 0 105 (dk_at dksX3_law_0 11 rfl rfl)
theorem dX3_law_14 : decode cX3_law 14 = .ok (.aload_n 0, 1) := dk_42 (dk_at dksX3_law_0 14 rfl rfl)
theorem dX3_law_15 : decode cX3_law 15 = .ok (.bipush 8, 2) := dk_16 8 (dk_at dksX3_law_0 15 rfl rfl)
theorem dX3_law_17 : decode cX3_law 17 = .ok (.invokevirtual 62, 3) := dk_182 0 62 (dk_at dksX3_law_0 17 rfl rfl)
theorem dX3_law_20 : decode cX3_law 20 = .ok (.ifCond .eq 82, 3) := dk_153 0 82 (dk_at dksX3_law_0 20 rfl rfl)
theorem dX3_law_23 : decode cX3_law 23 = .ok (.aload_n 0, 1) := dk_42 (dk_at dksX3_law_0 23 rfl rfl)
theorem dX3_law_24 : decode cX3_law 24 = .ok (.aload_n 1, 1) := dk_43 (dk_at dksX3_law_1 0 rfl rfl)
theorem dX3_law_25 : decode cX3_law 25 = .ok (.getfield 196, 3) := dk_180 0 196 (dk_at dksX3_law_1 1 rfl rfl)
theorem dX3_law_28 : decode cX3_law 28 = .ok (.iconst 4, 1) := dk_7 (dk_at dksX3_law_1 4 rfl rfl)
theorem dX3_law_29 : decode cX3_law 29 = .ok (.invokevirtual 118, 3) := dk_182 0 118 (dk_at dksX3_law_1 5 rfl rfl)
theorem dX3_law_32 : decode cX3_law 32 = .ok (.aload_n 1, 1) := dk_43 (dk_at dksX3_law_1 8 rfl rfl)
theorem dX3_law_33 : decode cX3_law 33 = .ok (.getfield 199, 3) := dk_180 0 199 (dk_at dksX3_law_1 9 rfl rfl)
theorem dX3_law_36 : decode cX3_law 36 = .ok (.aload_n 1, 1) := dk_43 (dk_at dksX3_law_1 12 rfl rfl)
theorem dX3_law_37 : decode cX3_law 37 = .ok (.getfield 196, 3) := dk_180 0 196 (dk_at dksX3_law_1 13 rfl rfl)
theorem dX3_law_40 : decode cX3_law 40 = .ok (.aload_n 0, 1) := dk_42 (dk_at dksX3_law_1 16 rfl rfl)
theorem dX3_law_41 : decode cX3_law 41 = .ok (.invokevirtual 203, 3) := dk_182 0 203 (dk_at dksX3_law_1 17 rfl rfl)
theorem dX3_law_44 : decode cX3_law 44 = .ok (.aastore, 1) := dk_83 (dk_at dksX3_law_1 20 rfl rfl)
theorem dX3_law_45 : decode cX3_law 45 = .ok (.aload_n 0, 1) := dk_42 (dk_at dksX3_law_1 21 rfl rfl)
theorem dX3_law_46 : decode cX3_law 46 = .ok (.bipush 60, 2) := dk_16 60 (dk_at dksX3_law_1 22 rfl rfl)
theorem dX3_law_48 : decode cX3_law 48 = .ok (.invokevirtual 105, 3) := dk_182 0 105 (dk_at dksX3_law_2 0 rfl rfl)
theorem dX3_law_51 : decode cX3_law 51 = .ok (.aload_n 1, 1) := dk_43 (dk_at dksX3_law_2 3 rfl rfl)
theorem dX3_law_52 : decode cX3_law 52 = .ok (.getfield 207, 3) := dk_180 0 207 (dk_at dksX3_law_2 4 rfl rfl)
theorem dX3_law_55 : decode cX3_law 55 = .ok (.aload_n 1, 1) := dk_43 (dk_at dksX3_law_2 7 rfl rfl)
theorem dX3_law_56 : decode cX3_law 56 = .ok (.getfield 196, 3) := dk_180 0 196 (dk_at dksX3_law_2 8 rfl rfl)
theorem dX3_law_59 : decode cX3_law 59 = .ok (.aload_n 0, 1) := dk_42 (dk_at dksX3_law_2 11 rfl rfl)
theorem dX3_law_60 : decode cX3_law 60 = .ok (.invokevirtual 203, 3) := dk_182 0 203 (dk_at dksX3_law_2 12 rfl rfl)
theorem dX3_law_63 : decode cX3_law 63 = .ok (.aastore, 1) := dk_83 (dk_at dksX3_law_2 15 rfl rfl)
theorem dX3_law_64 : decode cX3_law 64 = .ok (.aload_n 0, 1) := dk_42 (dk_at dksX3_law_2 16 rfl rfl)
theorem dX3_law_65 : decode cX3_law 65 = .ok (.bipush 9, 2) := dk_16 9 (dk_at dksX3_law_2 17 rfl rfl)
theorem dX3_law_67 : decode cX3_law 67 = .ok (.invokevirtual 210, 3) := dk_182 0 210 (dk_at dksX3_law_2 19 rfl rfl)
theorem dX3_law_70 : decode cX3_law 70 = .ok (.aload_n 1, 1) := dk_43 (dk_at dksX3_law_2 22 rfl rfl)
theorem dX3_law_71 : decode cX3_law 71 = .ok (.getfield 213, 3) := dk_180 0 213 (dk_at dksX3_law_3 0 rfl rfl)
theorem dX3_law_74 : decode cX3_law 74 = .ok (.aload_n 1, 1) := dk_43 (dk_at dksX3_law_3 3 rfl rfl)
theorem dX3_law_75 : decode cX3_law 75 = .ok (.getfield 196, 3) := dk_180 0 196 (dk_at dksX3_law_3 4 rfl rfl)
theorem dX3_law_78 : decode cX3_law 78 = .ok (.aload_n 0, 1) := dk_42 (dk_at dksX3_law_3 7 rfl rfl)
theorem dX3_law_79 : decode cX3_law 79 = .ok (.invokevirtual 203, 3) := dk_182 0 203 (dk_at dksX3_law_3 8 rfl rfl)
theorem dX3_law_82 : decode cX3_law 82 = .ok (.aastore, 1) := dk_83 (dk_at dksX3_law_3 11 rfl rfl)
theorem dX3_law_83 : decode cX3_law 83 = .ok (.aload_n 0, 1) := dk_42 (dk_at dksX3_law_3 12 rfl rfl)
theorem dX3_law_84 : decode cX3_law 84 = .ok (.bipush 10, 2) := dk_16 10 (dk_at dksX3_law_3 13 rfl rfl)
theorem dX3_law_86 : decode cX3_law 86 = .ok (.invokevirtual 210, 3) := dk_182 0 210 (dk_at dksX3_law_3 15 rfl rfl)
theorem dX3_law_89 : decode cX3_law 89 = .ok (.aload_n 1, 1) := dk_43 (dk_at dksX3_law_3 18 rfl rfl)
theorem dX3_law_90 : decode cX3_law 90 = .ok (.dup, 1) := dk_89 (dk_at dksX3_law_3 19 rfl rfl)
theorem dX3_law_91 : decode cX3_law 91 = .ok (.getfield 196, 3) := dk_180 0 196 (dk_at dksX3_law_3 20 rfl rfl)
theorem dX3_law_94 : decode cX3_law 94 = .ok (.iconst 1, 1) := dk_4 (dk_at dksX3_law_3 23 rfl rfl)
theorem dX3_law_95 : decode cX3_law 95 = .ok (.iadd, 1) := dk_96 (dk_at dksX3_law_4 0 rfl rfl)
theorem dX3_law_96 : decode cX3_law 96 = .ok (.putfield 196, 3) := dk_181 0 196 (dk_at dksX3_law_4 1 rfl rfl)
theorem dX3_law_99 : decode cX3_law 99 = .ok (.goto (-85), 3) := dk_167 255 171 (dk_at dksX3_law_4 4 rfl rfl)
theorem dX3_law_102 : decode cX3_law 102 = .ok (.aload_n 1, 1) := dk_43 (dk_at dksX3_law_4 7 rfl rfl)
theorem dX3_law_103 : decode cX3_law 103 = .ok (.getfield 213, 3) := dk_180 0 213 (dk_at dksX3_law_4 8 rfl rfl)
theorem dX3_law_106 : decode cX3_law 106 = .ok (.aload_n 1, 1) := dk_43 (dk_at dksX3_law_4 11 rfl rfl)
theorem dX3_law_107 : decode cX3_law 107 = .ok (.getfield 196, 3) := dk_180 0 196 (dk_at dksX3_law_4 12 rfl rfl)
theorem dX3_law_110 : decode cX3_law 110 = .ok (.aload_n 0, 1) := dk_42 (dk_at dksX3_law_4 15 rfl rfl)
theorem dX3_law_111 : decode cX3_law 111 = .ok (.invokevirtual 203, 3) := dk_182 0 203 (dk_at dksX3_law_4 16 rfl rfl)
theorem dX3_law_114 : decode cX3_law 114 = .ok (.aastore, 1) := dk_83 (dk_at dksX3_law_4 19 rfl rfl)
theorem dX3_law_115 : decode cX3_law 115 = .ok (.aload_n 1, 1) := dk_43 (dk_at dksX3_law_4 20 rfl rfl)
theorem dX3_law_116 : decode cX3_law 116 = .ok (.areturn, 1) := dk_176 (dk_at dksX3_law_4 21 rfl rfl)
abbrev cX3_sign : ByteArray := prog_12_method_9_code
def yX3_sign : MethodName := ⟨RX3, "sign", "(I)V"⟩
def dkwX3_sign_0 : List UInt8 := [42, 27, 182, 0, 55, 154, 0, 9, 42, 4, 182, 0, 48, 191, 42, 182, 0, 59, 177]
abbrev dktX3_sign_0 : List UInt8 := dkwX3_sign_0 ++ []
theorem dksX3_sign_0 : cX3_sign.data.toList.drop 0 = dktX3_sign_0 := by decide +kernel
theorem dX3_sign_0 : decode cX3_sign 0 = .ok (.aload_n 0, 1) := dk_42 (dk_at dksX3_sign_0 0 rfl rfl)
theorem dX3_sign_1 : decode cX3_sign 1 = .ok (.iload_n 1, 1) := dk_27 (dk_at dksX3_sign_0 1 rfl rfl)
theorem dX3_sign_2 : decode cX3_sign 2 = .ok (.invokevirtual 55, 3) := dk_182 0 55 (dk_at dksX3_sign_0 2 rfl rfl)
theorem dX3_sign_5 : decode cX3_sign 5 = .ok (.ifCond .ne 9, 3) := dk_154 0 9 (dk_at dksX3_sign_0 5 rfl rfl)
theorem dX3_sign_8 : decode cX3_sign 8 = .ok (.aload_n 0, 1) := dk_42 (dk_at dksX3_sign_0 8 rfl rfl)
theorem dX3_sign_9 : decode cX3_sign 9 = .ok (.iconst 1, 1) := dk_4 (dk_at dksX3_sign_0 9 rfl rfl)
theorem dX3_sign_10 : decode cX3_sign 10 = .ok (.invokevirtual 48, 3) := dk_182 0 48 (dk_at dksX3_sign_0 10 rfl rfl)
theorem dX3_sign_13 : decode cX3_sign 13 = .ok (.athrow, 1) := dk_191 (dk_at dksX3_sign_0 13 rfl rfl)
theorem dX3_sign_14 : decode cX3_sign 14 = .ok (.aload_n 0, 1) := dk_42 (dk_at dksX3_sign_0 14 rfl rfl)
theorem dX3_sign_15 : decode cX3_sign 15 = .ok (.invokevirtual 59, 3) := dk_182 0 59 (dk_at dksX3_sign_0 15 rfl rfl)
theorem dX3_sign_18 : decode cX3_sign 18 = .ok (.return_, 1) := dk_177 (dk_at dksX3_sign_0 18 rfl rfl)
abbrev cX3_isSign : ByteArray := prog_12_method_7_code
def yX3_isSign : MethodName := ⟨RX3, "isSign", "(I)Z"⟩
def dkwX3_isSign_1 : List UInt8 := [180, 0, 31, 53, 27, 160, 0, 7, 4, 167, 0, 4, 3, 172]
abbrev dktX3_isSign_1 : List UInt8 := dkwX3_isSign_1 ++ []
def dkwX3_isSign_0 : List UInt8 := [42, 180, 0, 9, 180, 0, 44, 42, 180, 0, 31, 51, 5, 160, 0, 23, 42, 180, 0, 9, 180, 0, 52, 42]
abbrev dktX3_isSign_0 : List UInt8 := dkwX3_isSign_0 ++ dktX3_isSign_1
theorem dksX3_isSign_0 : cX3_isSign.data.toList.drop 0 = dktX3_isSign_0 := by decide +kernel
theorem dksX3_isSign_1 : cX3_isSign.data.toList.drop 24 = dktX3_isSign_1 := dk_seg dksX3_isSign_0 24 rfl rfl
theorem dX3_isSign_0 : decode cX3_isSign 0 = .ok (.aload_n 0, 1) := dk_42 (dk_at dksX3_isSign_0 0 rfl rfl)
theorem dX3_isSign_1 : decode cX3_isSign 1 = .ok (.getfield 9, 3) := dk_180 0 9 (dk_at dksX3_isSign_0 1 rfl rfl)
theorem dX3_isSign_4 : decode cX3_isSign 4 = .ok (.getfield 44, 3) := dk_180 0 44 (dk_at dksX3_isSign_0 4 rfl rfl)
theorem dX3_isSign_7 : decode cX3_isSign 7 = .ok (.aload_n 0, 1) := dk_42 (dk_at dksX3_isSign_0 7 rfl rfl)
theorem dX3_isSign_8 : decode cX3_isSign 8 = .ok (.getfield 31, 3) := dk_180 0 31 (dk_at dksX3_isSign_0 8 rfl rfl)
theorem dX3_isSign_11 : decode cX3_isSign 11 = .ok (.baload, 1) := dk_51 (dk_at dksX3_isSign_0 11 rfl rfl)
theorem dX3_isSign_12 : decode cX3_isSign 12 = .ok (.iconst 2, 1) := dk_5 (dk_at dksX3_isSign_0 12 rfl rfl)
theorem dX3_isSign_13 : decode cX3_isSign 13 = .ok (.if_icmp .ne 23, 3) := dk_160 0 23 (dk_at dksX3_isSign_0 13 rfl rfl)
theorem dX3_isSign_16 : decode cX3_isSign 16 = .ok (.aload_n 0, 1) := dk_42 (dk_at dksX3_isSign_0 16 rfl rfl)
theorem dX3_isSign_17 : decode cX3_isSign 17 = .ok (.getfield 9, 3) := dk_180 0 9 (dk_at dksX3_isSign_0 17 rfl rfl)
theorem dX3_isSign_20 : decode cX3_isSign 20 = .ok (.getfield 52, 3) := dk_180 0 52 (dk_at dksX3_isSign_0 20 rfl rfl)
theorem dX3_isSign_23 : decode cX3_isSign 23 = .ok (.aload_n 0, 1) := dk_42 (dk_at dksX3_isSign_0 23 rfl rfl)
theorem dX3_isSign_24 : decode cX3_isSign 24 = .ok (.getfield 31, 3) := dk_180 0 31 (dk_at dksX3_isSign_1 0 rfl rfl)
theorem dX3_isSign_27 : decode cX3_isSign 27 = .ok (.saload, 1) := dk_53 (dk_at dksX3_isSign_1 3 rfl rfl)
theorem dX3_isSign_28 : decode cX3_isSign 28 = .ok (.iload_n 1, 1) := dk_27 (dk_at dksX3_isSign_1 4 rfl rfl)
theorem dX3_isSign_29 : decode cX3_isSign 29 = .ok (.if_icmp .ne 7, 3) := dk_160 0 7 (dk_at dksX3_isSign_1 5 rfl rfl)
theorem dX3_isSign_32 : decode cX3_isSign 32 = .ok (.iconst 1, 1) := dk_4 (dk_at dksX3_isSign_1 8 rfl rfl)
theorem dX3_isSign_33 : decode cX3_isSign 33 = .ok (.goto 4, 3) := dk_167 0 4 (dk_at dksX3_isSign_1 9 rfl rfl)
theorem dX3_isSign_36 : decode cX3_isSign 36 = .ok (.iconst 0, 1) := dk_3 (dk_at dksX3_isSign_1 12 rfl rfl)
theorem dX3_isSign_37 : decode cX3_isSign 37 = .ok (.ireturn, 1) := dk_172 (dk_at dksX3_isSign_1 13 rfl rfl)
abbrev cX3_isWord : ByteArray := prog_12_method_8_code
def yX3_isWord : MethodName := ⟨RX3, "isWord", "(I)Z"⟩
def dkwX3_isWord_1 : List UInt8 := [180, 0, 31, 53, 27, 160, 0, 7, 4, 167, 0, 4, 3, 172]
abbrev dktX3_isWord_1 : List UInt8 := dkwX3_isWord_1 ++ []
def dkwX3_isWord_0 : List UInt8 := [42, 180, 0, 9, 180, 0, 44, 42, 180, 0, 31, 51, 6, 160, 0, 23, 42, 180, 0, 9, 180, 0, 52, 42]
abbrev dktX3_isWord_0 : List UInt8 := dkwX3_isWord_0 ++ dktX3_isWord_1
theorem dksX3_isWord_0 : cX3_isWord.data.toList.drop 0 = dktX3_isWord_0 := by decide +kernel
theorem dksX3_isWord_1 : cX3_isWord.data.toList.drop 24 = dktX3_isWord_1 := dk_seg dksX3_isWord_0 24 rfl rfl
theorem dX3_isWord_0 : decode cX3_isWord 0 = .ok (.aload_n 0, 1) := dk_42 (dk_at dksX3_isWord_0 0 rfl rfl)
theorem dX3_isWord_1 : decode cX3_isWord 1 = .ok (.getfield 9, 3) := dk_180 0 9 (dk_at dksX3_isWord_0 1 rfl rfl)
theorem dX3_isWord_4 : decode cX3_isWord 4 = .ok (.getfield 44, 3) := dk_180 0 44 (dk_at dksX3_isWord_0 4 rfl rfl)
theorem dX3_isWord_7 : decode cX3_isWord 7 = .ok (.aload_n 0, 1) := dk_42 (dk_at dksX3_isWord_0 7 rfl rfl)
theorem dX3_isWord_8 : decode cX3_isWord 8 = .ok (.getfield 31, 3) := dk_180 0 31 (dk_at dksX3_isWord_0 8 rfl rfl)
theorem dX3_isWord_11 : decode cX3_isWord 11 = .ok (.baload, 1) := dk_51 (dk_at dksX3_isWord_0 11 rfl rfl)
theorem dX3_isWord_12 : decode cX3_isWord 12 = .ok (.iconst 3, 1) := dk_6 (dk_at dksX3_isWord_0 12 rfl rfl)
theorem dX3_isWord_13 : decode cX3_isWord 13 = .ok (.if_icmp .ne 23, 3) := dk_160 0 23 (dk_at dksX3_isWord_0 13 rfl rfl)
theorem dX3_isWord_16 : decode cX3_isWord 16 = .ok (.aload_n 0, 1) := dk_42 (dk_at dksX3_isWord_0 16 rfl rfl)
theorem dX3_isWord_17 : decode cX3_isWord 17 = .ok (.getfield 9, 3) := dk_180 0 9 (dk_at dksX3_isWord_0 17 rfl rfl)
theorem dX3_isWord_20 : decode cX3_isWord 20 = .ok (.getfield 52, 3) := dk_180 0 52 (dk_at dksX3_isWord_0 20 rfl rfl)
theorem dX3_isWord_23 : decode cX3_isWord 23 = .ok (.aload_n 0, 1) := dk_42 (dk_at dksX3_isWord_0 23 rfl rfl)
theorem dX3_isWord_24 : decode cX3_isWord 24 = .ok (.getfield 31, 3) := dk_180 0 31 (dk_at dksX3_isWord_1 0 rfl rfl)
theorem dX3_isWord_27 : decode cX3_isWord 27 = .ok (.saload, 1) := dk_53 (dk_at dksX3_isWord_1 3 rfl rfl)
theorem dX3_isWord_28 : decode cX3_isWord 28 = .ok (.iload_n 1, 1) := dk_27 (dk_at dksX3_isWord_1 4 rfl rfl)
theorem dX3_isWord_29 : decode cX3_isWord 29 = .ok (.if_icmp .ne 7, 3) := dk_160 0 7 (dk_at dksX3_isWord_1 5 rfl rfl)
theorem dX3_isWord_32 : decode cX3_isWord 32 = .ok (.iconst 1, 1) := dk_4 (dk_at dksX3_isWord_1 8 rfl rfl)
theorem dX3_isWord_33 : decode cX3_isWord 33 = .ok (.goto 4, 3) := dk_167 0 4 (dk_at dksX3_isWord_1 9 rfl rfl)
theorem dX3_isWord_36 : decode cX3_isWord 36 = .ok (.iconst 0, 1) := dk_3 (dk_at dksX3_isWord_1 12 rfl rfl)
theorem dX3_isWord_37 : decode cX3_isWord 37 = .ok (.ireturn, 1) := dk_172 (dk_at dksX3_isWord_1 13 rfl rfl)
abbrev cX3_sum : ByteArray := prog_12_method_20_code
def yX3_sum : MethodName := ⟨RX3, "sum", "()LLateMirrors$Sum;"⟩
def dkwX3_sum_2 : List UInt8 := [182, 0, 216, 183, 0, 221, 76, 167, 255, 207, 43, 176]
abbrev dktX3_sum_2 : List UInt8 := dkwX3_sum_2 ++ []
def dkwX3_sum_1 : List UInt8 := [180, 0, 9, 180, 0, 52, 42, 180, 0, 31, 53, 61, 42, 182, 0, 59, 187, 0, 219, 89, 28, 43, 42]
abbrev dktX3_sum_1 : List UInt8 := dkwX3_sum_1 ++ dktX3_sum_2
def dkwX3_sum_0 : List UInt8 := [42, 182, 0, 216, 76, 42, 16, 43, 182, 0, 55, 154, 0, 12, 42, 16, 45, 182, 0, 55, 153, 0, 37, 42]
abbrev dktX3_sum_0 : List UInt8 := dkwX3_sum_0 ++ dktX3_sum_1
theorem dksX3_sum_0 : cX3_sum.data.toList.drop 0 = dktX3_sum_0 := by decide +kernel
theorem dksX3_sum_1 : cX3_sum.data.toList.drop 24 = dktX3_sum_1 := dk_seg dksX3_sum_0 24 rfl rfl
theorem dksX3_sum_2 : cX3_sum.data.toList.drop 47 = dktX3_sum_2 := dk_seg dksX3_sum_1 23 rfl rfl
theorem dX3_sum_0 : decode cX3_sum 0 = .ok (.aload_n 0, 1) := dk_42 (dk_at dksX3_sum_0 0 rfl rfl)
theorem dX3_sum_1 : decode cX3_sum 1 = .ok (.invokevirtual 216, 3) := dk_182 0 216 (dk_at dksX3_sum_0 1 rfl rfl)
theorem dX3_sum_4 : decode cX3_sum 4 = .ok (.astore_n 1, 1) := dk_76 (dk_at dksX3_sum_0 4 rfl rfl)
theorem dX3_sum_5 : decode cX3_sum 5 = .ok (.aload_n 0, 1) := dk_42 (dk_at dksX3_sum_0 5 rfl rfl)
theorem dX3_sum_6 : decode cX3_sum 6 = .ok (.bipush 43, 2) := dk_16 43 (dk_at dksX3_sum_0 6 rfl rfl)
theorem dX3_sum_8 : decode cX3_sum 8 = .ok (.invokevirtual 55, 3) := dk_182 0 55 (dk_at dksX3_sum_0 8 rfl rfl)
theorem dX3_sum_11 : decode cX3_sum 11 = .ok (.ifCond .ne 12, 3) := dk_154 0 12 (dk_at dksX3_sum_0 11 rfl rfl)
theorem dX3_sum_14 : decode cX3_sum 14 = .ok (.aload_n 0, 1) := dk_42 (dk_at dksX3_sum_0 14 rfl rfl)
theorem dX3_sum_15 : decode cX3_sum 15 = .ok (.bipush 45, 2) := dk_16 45 (dk_at dksX3_sum_0 15 rfl rfl)
theorem dX3_sum_17 : decode cX3_sum 17 = .ok (.invokevirtual 55, 3) := dk_182 0 55 (dk_at dksX3_sum_0 17 rfl rfl)
theorem dX3_sum_20 : decode cX3_sum 20 = .ok (.ifCond .eq 37, 3) := dk_153 0 37 (dk_at dksX3_sum_0 20 rfl rfl)
theorem dX3_sum_23 : decode cX3_sum 23 = .ok (.aload_n 0, 1) := dk_42 (dk_at dksX3_sum_0 23 rfl rfl)
theorem dX3_sum_24 : decode cX3_sum 24 = .ok (.getfield 9, 3) := dk_180 0 9 (dk_at dksX3_sum_1 0 rfl rfl)
theorem dX3_sum_27 : decode cX3_sum 27 = .ok (.getfield 52, 3) := dk_180 0 52 (dk_at dksX3_sum_1 3 rfl rfl)
theorem dX3_sum_30 : decode cX3_sum 30 = .ok (.aload_n 0, 1) := dk_42 (dk_at dksX3_sum_1 6 rfl rfl)
theorem dX3_sum_31 : decode cX3_sum 31 = .ok (.getfield 31, 3) := dk_180 0 31 (dk_at dksX3_sum_1 7 rfl rfl)
theorem dX3_sum_34 : decode cX3_sum 34 = .ok (.saload, 1) := dk_53 (dk_at dksX3_sum_1 10 rfl rfl)
theorem dX3_sum_35 : decode cX3_sum 35 = .ok (.istore_n 2, 1) := dk_61 (dk_at dksX3_sum_1 11 rfl rfl)
theorem dX3_sum_36 : decode cX3_sum 36 = .ok (.aload_n 0, 1) := dk_42 (dk_at dksX3_sum_1 12 rfl rfl)
theorem dX3_sum_37 : decode cX3_sum 37 = .ok (.invokevirtual 59, 3) := dk_182 0 59 (dk_at dksX3_sum_1 13 rfl rfl)
theorem dX3_sum_40 : decode cX3_sum 40 = .ok (.new 219, 3) := dk_187 0 219 (dk_at dksX3_sum_1 16 rfl rfl)
theorem dX3_sum_43 : decode cX3_sum 43 = .ok (.dup, 1) := dk_89 (dk_at dksX3_sum_1 19 rfl rfl)
theorem dX3_sum_44 : decode cX3_sum 44 = .ok (.iload_n 2, 1) := dk_28 (dk_at dksX3_sum_1 20 rfl rfl)
theorem dX3_sum_45 : decode cX3_sum 45 = .ok (.aload_n 1, 1) := dk_43 (dk_at dksX3_sum_1 21 rfl rfl)
theorem dX3_sum_46 : decode cX3_sum 46 = .ok (.aload_n 0, 1) := dk_42 (dk_at dksX3_sum_1 22 rfl rfl)
theorem dX3_sum_47 : decode cX3_sum 47 = .ok (.invokevirtual 216, 3) := dk_182 0 216 (dk_at dksX3_sum_2 0 rfl rfl)
theorem dX3_sum_50 : decode cX3_sum 50 = .ok (.invokespecial 221, 3) := dk_183 0 221 (dk_at dksX3_sum_2 3 rfl rfl)
theorem dX3_sum_53 : decode cX3_sum 53 = .ok (.astore_n 1, 1) := dk_76 (dk_at dksX3_sum_2 6 rfl rfl)
theorem dX3_sum_54 : decode cX3_sum 54 = .ok (.goto (-49), 3) := dk_167 255 207 (dk_at dksX3_sum_2 7 rfl rfl)
theorem dX3_sum_57 : decode cX3_sum 57 = .ok (.aload_n 1, 1) := dk_43 (dk_at dksX3_sum_2 10 rfl rfl)
theorem dX3_sum_58 : decode cX3_sum 58 = .ok (.areturn, 1) := dk_176 (dk_at dksX3_sum_2 11 rfl rfl)
abbrev cX3_part : ByteArray := prog_12_method_21_code
def yX3_part : MethodName := ⟨RX3, "part", "()LLateMirrors$Sum;"⟩
def dkwX3_part_2 : List UInt8 := [182, 0, 224, 183, 0, 221, 76, 167, 255, 207, 43, 176]
abbrev dktX3_part_2 : List UInt8 := dkwX3_part_2 ++ []
def dkwX3_part_1 : List UInt8 := [180, 0, 9, 180, 0, 52, 42, 180, 0, 31, 53, 61, 42, 182, 0, 59, 187, 0, 219, 89, 28, 43, 42]
abbrev dktX3_part_1 : List UInt8 := dkwX3_part_1 ++ dktX3_part_2
def dkwX3_part_0 : List UInt8 := [42, 182, 0, 224, 76, 42, 16, 42, 182, 0, 55, 154, 0, 12, 42, 16, 47, 182, 0, 55, 153, 0, 37, 42]
abbrev dktX3_part_0 : List UInt8 := dkwX3_part_0 ++ dktX3_part_1
theorem dksX3_part_0 : cX3_part.data.toList.drop 0 = dktX3_part_0 := by decide +kernel
theorem dksX3_part_1 : cX3_part.data.toList.drop 24 = dktX3_part_1 := dk_seg dksX3_part_0 24 rfl rfl
theorem dksX3_part_2 : cX3_part.data.toList.drop 47 = dktX3_part_2 := dk_seg dksX3_part_1 23 rfl rfl
theorem dX3_part_0 : decode cX3_part 0 = .ok (.aload_n 0, 1) := dk_42 (dk_at dksX3_part_0 0 rfl rfl)
theorem dX3_part_1 : decode cX3_part 1 = .ok (.invokevirtual 224, 3) := dk_182 0 224 (dk_at dksX3_part_0 1 rfl rfl)
theorem dX3_part_4 : decode cX3_part 4 = .ok (.astore_n 1, 1) := dk_76 (dk_at dksX3_part_0 4 rfl rfl)
theorem dX3_part_5 : decode cX3_part 5 = .ok (.aload_n 0, 1) := dk_42 (dk_at dksX3_part_0 5 rfl rfl)
theorem dX3_part_6 : decode cX3_part 6 = .ok (.bipush 42, 2) := dk_16 42 (dk_at dksX3_part_0 6 rfl rfl)
theorem dX3_part_8 : decode cX3_part 8 = .ok (.invokevirtual 55, 3) := dk_182 0 55 (dk_at dksX3_part_0 8 rfl rfl)
theorem dX3_part_11 : decode cX3_part 11 = .ok (.ifCond .ne 12, 3) := dk_154 0 12 (dk_at dksX3_part_0 11 rfl rfl)
theorem dX3_part_14 : decode cX3_part 14 = .ok (.aload_n 0, 1) := dk_42 (dk_at dksX3_part_0 14 rfl rfl)
theorem dX3_part_15 : decode cX3_part 15 = .ok (.bipush 47, 2) := dk_16 47 (dk_at dksX3_part_0 15 rfl rfl)
theorem dX3_part_17 : decode cX3_part 17 = .ok (.invokevirtual 55, 3) := dk_182 0 55 (dk_at dksX3_part_0 17 rfl rfl)
theorem dX3_part_20 : decode cX3_part 20 = .ok (.ifCond .eq 37, 3) := dk_153 0 37 (dk_at dksX3_part_0 20 rfl rfl)
theorem dX3_part_23 : decode cX3_part 23 = .ok (.aload_n 0, 1) := dk_42 (dk_at dksX3_part_0 23 rfl rfl)
theorem dX3_part_24 : decode cX3_part 24 = .ok (.getfield 9, 3) := dk_180 0 9 (dk_at dksX3_part_1 0 rfl rfl)
theorem dX3_part_27 : decode cX3_part 27 = .ok (.getfield 52, 3) := dk_180 0 52 (dk_at dksX3_part_1 3 rfl rfl)
theorem dX3_part_30 : decode cX3_part 30 = .ok (.aload_n 0, 1) := dk_42 (dk_at dksX3_part_1 6 rfl rfl)
theorem dX3_part_31 : decode cX3_part 31 = .ok (.getfield 31, 3) := dk_180 0 31 (dk_at dksX3_part_1 7 rfl rfl)
theorem dX3_part_34 : decode cX3_part 34 = .ok (.saload, 1) := dk_53 (dk_at dksX3_part_1 10 rfl rfl)
theorem dX3_part_35 : decode cX3_part 35 = .ok (.istore_n 2, 1) := dk_61 (dk_at dksX3_part_1 11 rfl rfl)
theorem dX3_part_36 : decode cX3_part 36 = .ok (.aload_n 0, 1) := dk_42 (dk_at dksX3_part_1 12 rfl rfl)
theorem dX3_part_37 : decode cX3_part 37 = .ok (.invokevirtual 59, 3) := dk_182 0 59 (dk_at dksX3_part_1 13 rfl rfl)
theorem dX3_part_40 : decode cX3_part 40 = .ok (.new 219, 3) := dk_187 0 219 (dk_at dksX3_part_1 16 rfl rfl)
theorem dX3_part_43 : decode cX3_part 43 = .ok (.dup, 1) := dk_89 (dk_at dksX3_part_1 19 rfl rfl)
theorem dX3_part_44 : decode cX3_part 44 = .ok (.iload_n 2, 1) := dk_28 (dk_at dksX3_part_1 20 rfl rfl)
theorem dX3_part_45 : decode cX3_part 45 = .ok (.aload_n 1, 1) := dk_43 (dk_at dksX3_part_1 21 rfl rfl)
theorem dX3_part_46 : decode cX3_part 46 = .ok (.aload_n 0, 1) := dk_42 (dk_at dksX3_part_1 22 rfl rfl)
theorem dX3_part_47 : decode cX3_part 47 = .ok (.invokevirtual 224, 3) := dk_182 0 224 (dk_at dksX3_part_2 0 rfl rfl)
theorem dX3_part_50 : decode cX3_part 50 = .ok (.invokespecial 221, 3) := dk_183 0 221 (dk_at dksX3_part_2 3 rfl rfl)
theorem dX3_part_53 : decode cX3_part 53 = .ok (.astore_n 1, 1) := dk_76 (dk_at dksX3_part_2 6 rfl rfl)
theorem dX3_part_54 : decode cX3_part 54 = .ok (.goto (-49), 3) := dk_167 255 207 (dk_at dksX3_part_2 7 rfl rfl)
theorem dX3_part_57 : decode cX3_part 57 = .ok (.aload_n 1, 1) := dk_43 (dk_at dksX3_part_2 10 rfl rfl)
theorem dX3_part_58 : decode cX3_part 58 = .ok (.areturn, 1) := dk_176 (dk_at dksX3_part_2 11 rfl rfl)
abbrev cX3_unit : ByteArray := prog_12_method_22_code
def yX3_unit : MethodName := ⟨RX3, "unit", "()LLateMirrors$Sum;"⟩
def dkwX3_unit_6 : List UInt8 := [182, 0, 105, 42, 89, 180, 0, 99, 4, 100, 181, 0, 99, 43, 176]
abbrev dktX3_unit_6 : List UInt8 := dkwX3_unit_6 ++ []
def dkwX3_unit_5 : List UInt8 := [42, 89, 180, 0, 99, 4, 96, 181, 0, 99, 42, 182, 0, 59, 42, 182, 0, 203, 76, 42, 16, 41]
abbrev dktX3_unit_5 : List UInt8 := dkwX3_unit_5 ++ dktX3_unit_6
def dkwX3_unit_4 : List UInt8 := [154, 0, 9, 42, 4, 182, 0, 48, 191, 42, 180, 0, 99, 16, 6, 160, 0, 9, 42, 5, 182, 0, 48, 191]
abbrev dktX3_unit_4 : List UInt8 := dkwX3_unit_4 ++ dktX3_unit_5
def dkwX3_unit_3 : List UInt8 := [180, 0, 52, 42, 180, 0, 31, 4, 100, 53, 16, 11, 100, 183, 0, 233, 176, 42, 16, 40, 182, 0, 55]
abbrev dktX3_unit_3 : List UInt8 := dkwX3_unit_3 ++ dktX3_unit_4
def dkwX3_unit_2 : List UInt8 := [42, 180, 0, 31, 53, 16, 11, 161, 0, 32, 42, 182, 0, 59, 187, 0, 231, 89, 42, 180, 0, 9]
abbrev dktX3_unit_2 : List UInt8 := dkwX3_unit_2 ++ dktX3_unit_3
def dkwX3_unit_1 : List UInt8 := [4, 100, 182, 0, 72, 183, 0, 229, 176, 42, 182, 0, 65, 6, 160, 0, 49, 42, 180, 0, 9, 180, 0, 52]
abbrev dktX3_unit_1 : List UInt8 := dkwX3_unit_1 ++ dktX3_unit_2
def dkwX3_unit_0 : List UInt8 := [42, 182, 0, 65, 4, 160, 0, 28, 42, 182, 0, 59, 187, 0, 227, 89, 42, 180, 0, 9, 42, 180, 0, 31]
abbrev dktX3_unit_0 : List UInt8 := dkwX3_unit_0 ++ dktX3_unit_1
theorem dksX3_unit_0 : cX3_unit.data.toList.drop 0 = dktX3_unit_0 := by decide +kernel
theorem dksX3_unit_1 : cX3_unit.data.toList.drop 24 = dktX3_unit_1 := dk_seg dksX3_unit_0 24 rfl rfl
theorem dksX3_unit_2 : cX3_unit.data.toList.drop 48 = dktX3_unit_2 := dk_seg dksX3_unit_1 24 rfl rfl
theorem dksX3_unit_3 : cX3_unit.data.toList.drop 70 = dktX3_unit_3 := dk_seg dksX3_unit_2 22 rfl rfl
theorem dksX3_unit_4 : cX3_unit.data.toList.drop 93 = dktX3_unit_4 := dk_seg dksX3_unit_3 23 rfl rfl
theorem dksX3_unit_5 : cX3_unit.data.toList.drop 117 = dktX3_unit_5 := dk_seg dksX3_unit_4 24 rfl rfl
theorem dksX3_unit_6 : cX3_unit.data.toList.drop 139 = dktX3_unit_6 := dk_seg dksX3_unit_5 22 rfl rfl
theorem dX3_unit_0 : decode cX3_unit 0 = .ok (.aload_n 0, 1) := dk_42 (dk_at dksX3_unit_0 0 rfl rfl)
theorem dX3_unit_1 : decode cX3_unit 1 = .ok (.invokevirtual 65, 3) := dk_182 0 65 (dk_at dksX3_unit_0 1 rfl rfl)
theorem dX3_unit_4 : decode cX3_unit 4 = .ok (.iconst 1, 1) := dk_4 (dk_at dksX3_unit_0 4 rfl rfl)
theorem dX3_unit_5 : decode cX3_unit 5 = .ok (.if_icmp .ne 28, 3) := dk_160 0 28 (dk_at dksX3_unit_0 5 rfl rfl)
theorem dX3_unit_8 : decode cX3_unit 8 = .ok (.aload_n 0, 1) := dk_42 (dk_at dksX3_unit_0 8 rfl rfl)
theorem dX3_unit_9 : decode cX3_unit 9 = .ok (.invokevirtual 59, 3) := dk_182 0 59 (dk_at dksX3_unit_0 9 rfl rfl)
theorem dX3_unit_12 : decode cX3_unit 12 = .ok (.new 227, 3) := dk_187 0 227 (dk_at dksX3_unit_0 12 rfl rfl)
theorem dX3_unit_15 : decode cX3_unit 15 = .ok (.dup, 1) := dk_89 (dk_at dksX3_unit_0 15 rfl rfl)
theorem dX3_unit_16 : decode cX3_unit 16 = .ok (.aload_n 0, 1) := dk_42 (dk_at dksX3_unit_0 16 rfl rfl)
theorem dX3_unit_17 : decode cX3_unit 17 = .ok (.getfield 9, 3) := dk_180 0 9 (dk_at dksX3_unit_0 17 rfl rfl)
theorem dX3_unit_20 : decode cX3_unit 20 = .ok (.aload_n 0, 1) := dk_42 (dk_at dksX3_unit_0 20 rfl rfl)
theorem dX3_unit_21 : decode cX3_unit 21 = .ok (.getfield 31, 3) := dk_180 0 31 (dk_at dksX3_unit_0 21 rfl rfl)
theorem dX3_unit_24 : decode cX3_unit 24 = .ok (.iconst 1, 1) := dk_4 (dk_at dksX3_unit_1 0 rfl rfl)
theorem dX3_unit_25 : decode cX3_unit 25 = .ok (.isub, 1) := dk_100 (dk_at dksX3_unit_1 1 rfl rfl)
theorem dX3_unit_26 : decode cX3_unit 26 = .ok (.invokevirtual 72, 3) := dk_182 0 72 (dk_at dksX3_unit_1 2 rfl rfl)
theorem dX3_unit_29 : decode cX3_unit 29 = .ok (.invokespecial 229, 3) := dk_183 0 229 (dk_at dksX3_unit_1 5 rfl rfl)
theorem dX3_unit_32 : decode cX3_unit 32 = .ok (.areturn, 1) := dk_176 (dk_at dksX3_unit_1 8 rfl rfl)
theorem dX3_unit_33 : decode cX3_unit 33 = .ok (.aload_n 0, 1) := dk_42 (dk_at dksX3_unit_1 9 rfl rfl)
theorem dX3_unit_34 : decode cX3_unit 34 = .ok (.invokevirtual 65, 3) := dk_182 0 65 (dk_at dksX3_unit_1 10 rfl rfl)
theorem dX3_unit_37 : decode cX3_unit 37 = .ok (.iconst 3, 1) := dk_6 (dk_at dksX3_unit_1 13 rfl rfl)
theorem dX3_unit_38 : decode cX3_unit 38 = .ok (.if_icmp .ne 49, 3) := dk_160 0 49 (dk_at dksX3_unit_1 14 rfl rfl)
theorem dX3_unit_41 : decode cX3_unit 41 = .ok (.aload_n 0, 1) := dk_42 (dk_at dksX3_unit_1 17 rfl rfl)
theorem dX3_unit_42 : decode cX3_unit 42 = .ok (.getfield 9, 3) := dk_180 0 9 (dk_at dksX3_unit_1 18 rfl rfl)
theorem dX3_unit_45 : decode cX3_unit 45 = .ok (.getfield 52, 3) := dk_180 0 52 (dk_at dksX3_unit_1 21 rfl rfl)
theorem dX3_unit_48 : decode cX3_unit 48 = .ok (.aload_n 0, 1) := dk_42 (dk_at dksX3_unit_2 0 rfl rfl)
theorem dX3_unit_49 : decode cX3_unit 49 = .ok (.getfield 31, 3) := dk_180 0 31 (dk_at dksX3_unit_2 1 rfl rfl)
theorem dX3_unit_52 : decode cX3_unit 52 = .ok (.saload, 1) := dk_53 (dk_at dksX3_unit_2 4 rfl rfl)
theorem dX3_unit_53 : decode cX3_unit 53 = .ok (.bipush 11, 2) := dk_16 11 (dk_at dksX3_unit_2 5 rfl rfl)
theorem dX3_unit_55 : decode cX3_unit 55 = .ok (.if_icmp .lt 32, 3) := dk_161 0 32 (dk_at dksX3_unit_2 7 rfl rfl)
theorem dX3_unit_58 : decode cX3_unit 58 = .ok (.aload_n 0, 1) := dk_42 (dk_at dksX3_unit_2 10 rfl rfl)
theorem dX3_unit_59 : decode cX3_unit 59 = .ok (.invokevirtual 59, 3) := dk_182 0 59 (dk_at dksX3_unit_2 11 rfl rfl)
theorem dX3_unit_62 : decode cX3_unit 62 = .ok (.new 231, 3) := dk_187 0 231 (dk_at dksX3_unit_2 14 rfl rfl)
theorem dX3_unit_65 : decode cX3_unit 65 = .ok (.dup, 1) := dk_89 (dk_at dksX3_unit_2 17 rfl rfl)
theorem dX3_unit_66 : decode cX3_unit 66 = .ok (.aload_n 0, 1) := dk_42 (dk_at dksX3_unit_2 18 rfl rfl)
theorem dX3_unit_67 : decode cX3_unit 67 = .ok (.getfield 9, 3) := dk_180 0 9 (dk_at dksX3_unit_2 19 rfl rfl)
theorem dX3_unit_70 : decode cX3_unit 70 = .ok (.getfield 52, 3) := dk_180 0 52 (dk_at dksX3_unit_3 0 rfl rfl)
theorem dX3_unit_73 : decode cX3_unit 73 = .ok (.aload_n 0, 1) := dk_42 (dk_at dksX3_unit_3 3 rfl rfl)
theorem dX3_unit_74 : decode cX3_unit 74 = .ok (.getfield 31, 3) := dk_180 0 31 (dk_at dksX3_unit_3 4 rfl rfl)
theorem dX3_unit_77 : decode cX3_unit 77 = .ok (.iconst 1, 1) := dk_4 (dk_at dksX3_unit_3 7 rfl rfl)
theorem dX3_unit_78 : decode cX3_unit 78 = .ok (.isub, 1) := dk_100 (dk_at dksX3_unit_3 8 rfl rfl)
theorem dX3_unit_79 : decode cX3_unit 79 = .ok (.saload, 1) := dk_53 (dk_at dksX3_unit_3 9 rfl rfl)
theorem dX3_unit_80 : decode cX3_unit 80 = .ok (.bipush 11, 2) := dk_16 11 (dk_at dksX3_unit_3 10 rfl rfl)
theorem dX3_unit_82 : decode cX3_unit 82 = .ok (.isub, 1) := dk_100 (dk_at dksX3_unit_3 12 rfl rfl)
theorem dX3_unit_83 : decode cX3_unit 83 = .ok (.invokespecial 233, 3) := dk_183 0 233 (dk_at dksX3_unit_3 13 rfl rfl)
theorem dX3_unit_86 : decode cX3_unit 86 = .ok (.areturn, 1) := dk_176 (dk_at dksX3_unit_3 16 rfl rfl)
theorem dX3_unit_87 : decode cX3_unit 87 = .ok (.aload_n 0, 1) := dk_42 (dk_at dksX3_unit_3 17 rfl rfl)
theorem dX3_unit_88 : decode cX3_unit 88 = .ok (.bipush 40, 2) := dk_16 40 (dk_at dksX3_unit_3 18 rfl rfl)
theorem dX3_unit_90 : decode cX3_unit 90 = .ok (.invokevirtual 55, 3) := dk_182 0 55 (dk_at dksX3_unit_3 20 rfl rfl)
theorem dX3_unit_93 : decode cX3_unit 93 = .ok (.ifCond .ne 9, 3) := dk_154 0 9 (dk_at dksX3_unit_4 0 rfl rfl)
theorem dX3_unit_96 : decode cX3_unit 96 = .ok (.aload_n 0, 1) := dk_42 (dk_at dksX3_unit_4 3 rfl rfl)
theorem dX3_unit_97 : decode cX3_unit 97 = .ok (.iconst 1, 1) := dk_4 (dk_at dksX3_unit_4 4 rfl rfl)
theorem dX3_unit_98 : decode cX3_unit 98 = .ok (.invokevirtual 48, 3) := dk_182 0 48 (dk_at dksX3_unit_4 5 rfl rfl)
theorem dX3_unit_101 : decode cX3_unit 101 = .ok (.athrow, 1) := dk_191 (dk_at dksX3_unit_4 8 rfl rfl)
theorem dX3_unit_102 : decode cX3_unit 102 = .ok (.aload_n 0, 1) := dk_42 (dk_at dksX3_unit_4 9 rfl rfl)
theorem dX3_unit_103 : decode cX3_unit 103 = .ok (.getfield 99, 3) := dk_180 0 99 (dk_at dksX3_unit_4 10 rfl rfl)
theorem dX3_unit_106 : decode cX3_unit 106 = .ok (.bipush 6, 2) := dk_16 6 (dk_at dksX3_unit_4 13 rfl rfl)
theorem dX3_unit_108 : decode cX3_unit 108 = .ok (.if_icmp .ne 9, 3) := dk_160 0 9 (dk_at dksX3_unit_4 15 rfl rfl)
theorem dX3_unit_111 : decode cX3_unit 111 = .ok (.aload_n 0, 1) := dk_42 (dk_at dksX3_unit_4 18 rfl rfl)
theorem dX3_unit_112 : decode cX3_unit 112 = .ok (.iconst 2, 1) := dk_5 (dk_at dksX3_unit_4 19 rfl rfl)
theorem dX3_unit_113 : decode cX3_unit 113 = .ok (.invokevirtual 48, 3) := dk_182 0 48 (dk_at dksX3_unit_4 20 rfl rfl)
theorem dX3_unit_116 : decode cX3_unit 116 = .ok (.athrow, 1) := dk_191 (dk_at dksX3_unit_4 23 rfl rfl)
theorem dX3_unit_117 : decode cX3_unit 117 = .ok (.aload_n 0, 1) := dk_42 (dk_at dksX3_unit_5 0 rfl rfl)
theorem dX3_unit_118 : decode cX3_unit 118 = .ok (.dup, 1) := dk_89 (dk_at dksX3_unit_5 1 rfl rfl)
theorem dX3_unit_119 : decode cX3_unit 119 = .ok (.getfield 99, 3) := dk_180 0 99 (dk_at dksX3_unit_5 2 rfl rfl)
theorem dX3_unit_122 : decode cX3_unit 122 = .ok (.iconst 1, 1) := dk_4 (dk_at dksX3_unit_5 5 rfl rfl)
theorem dX3_unit_123 : decode cX3_unit 123 = .ok (.iadd, 1) := dk_96 (dk_at dksX3_unit_5 6 rfl rfl)
theorem dX3_unit_124 : decode cX3_unit 124 = .ok (.putfield 99, 3) := dk_181 0 99 (dk_at dksX3_unit_5 7 rfl rfl)
theorem dX3_unit_127 : decode cX3_unit 127 = .ok (.aload_n 0, 1) := dk_42 (dk_at dksX3_unit_5 10 rfl rfl)
theorem dX3_unit_128 : decode cX3_unit 128 = .ok (.invokevirtual 59, 3) := dk_182 0 59 (dk_at dksX3_unit_5 11 rfl rfl)
theorem dX3_unit_131 : decode cX3_unit 131 = .ok (.aload_n 0, 1) := dk_42 (dk_at dksX3_unit_5 14 rfl rfl)
theorem dX3_unit_132 : decode cX3_unit 132 = .ok (.invokevirtual 203, 3) := dk_182 0 203 (dk_at dksX3_unit_5 15 rfl rfl)
theorem dX3_unit_135 : decode cX3_unit 135 = .ok (.astore_n 1, 1) := dk_76 (dk_at dksX3_unit_5 18 rfl rfl)
theorem dX3_unit_136 : decode cX3_unit 136 = .ok (.aload_n 0, 1) := dk_42 (dk_at dksX3_unit_5 19 rfl rfl)
theorem dX3_unit_137 : decode cX3_unit 137 = .ok (.bipush 41, 2) := dk_16 41 (dk_at dksX3_unit_5 20 rfl rfl)
theorem dX3_unit_139 : decode cX3_unit 139 = .ok (.invokevirtual 105, 3) := dk_182 0 105 (dk_at dksX3_unit_6 0 rfl rfl)
theorem dX3_unit_142 : decode cX3_unit 142 = .ok (.aload_n 0, 1) := dk_42 (dk_at dksX3_unit_6 3 rfl rfl)
theorem dX3_unit_143 : decode cX3_unit 143 = .ok (.dup, 1) := dk_89 (dk_at dksX3_unit_6 4 rfl rfl)
theorem dX3_unit_144 : decode cX3_unit 144 = .ok (.getfield 99, 3) := dk_180 0 99 (dk_at dksX3_unit_6 5 rfl rfl)
theorem dX3_unit_147 : decode cX3_unit 147 = .ok (.iconst 1, 1) := dk_4 (dk_at dksX3_unit_6 8 rfl rfl)
theorem dX3_unit_148 : decode cX3_unit 148 = .ok (.isub, 1) := dk_100 (dk_at dksX3_unit_6 9 rfl rfl)
theorem dX3_unit_149 : decode cX3_unit 149 = .ok (.putfield 99, 3) := dk_181 0 99 (dk_at dksX3_unit_6 10 rfl rfl)
theorem dX3_unit_152 : decode cX3_unit 152 = .ok (.aload_n 1, 1) := dk_43 (dk_at dksX3_unit_6 13 rfl rfl)
theorem dX3_unit_153 : decode cX3_unit 153 = .ok (.areturn, 1) := dk_176 (dk_at dksX3_unit_6 14 rfl rfl)
abbrev cX3_word : ByteArray := prog_12_method_10_code
def yX3_word : MethodName := ⟨RX3, "word", "(I)V"⟩
def dkwX3_word_0 : List UInt8 := [42, 27, 182, 0, 62, 154, 0, 9, 42, 4, 182, 0, 48, 191, 42, 182, 0, 59, 177]
abbrev dktX3_word_0 : List UInt8 := dkwX3_word_0 ++ []
theorem dksX3_word_0 : cX3_word.data.toList.drop 0 = dktX3_word_0 := by decide +kernel
theorem dX3_word_0 : decode cX3_word 0 = .ok (.aload_n 0, 1) := dk_42 (dk_at dksX3_word_0 0 rfl rfl)
theorem dX3_word_1 : decode cX3_word 1 = .ok (.iload_n 1, 1) := dk_27 (dk_at dksX3_word_0 1 rfl rfl)
theorem dX3_word_2 : decode cX3_word 2 = .ok (.invokevirtual 62, 3) := dk_182 0 62 (dk_at dksX3_word_0 2 rfl rfl)
theorem dX3_word_5 : decode cX3_word 5 = .ok (.ifCond .ne 9, 3) := dk_154 0 9 (dk_at dksX3_word_0 5 rfl rfl)
theorem dX3_word_8 : decode cX3_word 8 = .ok (.aload_n 0, 1) := dk_42 (dk_at dksX3_word_0 8 rfl rfl)
theorem dX3_word_9 : decode cX3_word 9 = .ok (.iconst 1, 1) := dk_4 (dk_at dksX3_word_0 9 rfl rfl)
theorem dX3_word_10 : decode cX3_word 10 = .ok (.invokevirtual 48, 3) := dk_182 0 48 (dk_at dksX3_word_0 10 rfl rfl)
theorem dX3_word_13 : decode cX3_word 13 = .ok (.athrow, 1) := dk_191 (dk_at dksX3_word_0 13 rfl rfl)
theorem dX3_word_14 : decode cX3_word 14 = .ok (.aload_n 0, 1) := dk_42 (dk_at dksX3_word_0 14 rfl rfl)
theorem dX3_word_15 : decode cX3_word 15 = .ok (.invokevirtual 59, 3) := dk_182 0 59 (dk_at dksX3_word_0 15 rfl rfl)
theorem dX3_word_18 : decode cX3_word 18 = .ok (.return_, 1) := dk_177 (dk_at dksX3_word_0 18 rfl rfl)
theorem q127 : (Jvm.Cond.initialized "LateMirrors$Parser") ∈ lw_all := lw_g (lw_at lw_m1 7 rfl) rfl
theorem q270 : (Jvm.Cond.fieldLink "LateMirrors$Parser" (44 : Nat) "LateMirrors$Tokens" "sort" "[B") ∈ lw_all := lw_g (lw_at lw_m1 150 rfl) rfl
theorem q272 : (Jvm.Cond.fieldLink "LateMirrors$Parser" (19 : Nat) "LateMirrors$Tokens" "from" "[S") ∈ lw_all := lw_g (lw_at lw_m1 152 rfl) rfl
theorem q275 : (Jvm.Cond.fieldLink "LateMirrors$Parser" (52 : Nat) "LateMirrors$Tokens" "what" "[S") ∈ lw_all := lw_g (lw_at lw_m1 155 rfl) rfl
theorem q296 : (Jvm.Cond.instantiable "LateMirrors$Parser" (7 : Nat)) ∈ lw_all := lw_g (lw_at lw_m1 176 rfl) rfl
theorem q298 : (Jvm.Cond.instanceMethod ({ cls := "LateMirrors$Parser", name := "<init>", desc := "(LLateMirrors$Tokens;LLateMirrors$Fault;)V" } : Jvm.MethodName)) ∈ lw_all := lw_g (lw_at lw_m1 178 rfl) rfl
theorem q299 : (Jvm.Cond.code ({ cls := "LateMirrors$Parser", name := "<init>", desc := "(LLateMirrors$Tokens;LLateMirrors$Fault;)V" } : Jvm.MethodName) prog_12_method_1_code (3 : Nat) (Option.none : Option Jvm.ClassFile.FieldType)) ∈ lw_all := lw_g (lw_at lw_m1 179 rfl) rfl
theorem q300 : (Jvm.Cond.methodLink "LateMirrors$Parser" (3 : Nat) ({ cls := "java/lang/Object", name := "<init>", desc := "()V" } : Jvm.MethodName)) ∈ lw_all := lw_g (lw_at lw_m1 180 rfl) rfl
theorem q301 : (Jvm.Cond.fieldLink "LateMirrors$Parser" (9 : Nat) "LateMirrors$Parser" "t" "LLateMirrors$Tokens;") ∈ lw_all := lw_g (lw_at lw_m1 181 rfl) rfl
theorem q302 : (Jvm.Cond.fieldLink "LateMirrors$Parser" (15 : Nat) "LateMirrors$Parser" "fault" "LLateMirrors$Fault;") ∈ lw_all := lw_g (lw_at lw_m1 182 rfl) rfl
theorem q303 : (Jvm.Cond.fieldLink "LateMirrors$Parser" (83 : Nat) "LateMirrors$Parser" "text" "LLateMirrors$Text;") ∈ lw_all := lw_g (lw_at lw_m1 183 rfl) rfl
theorem q304 : (Jvm.Cond.fieldLink "LateMirrors$Parser" (31 : Nat) "LateMirrors$Parser" "at" "I") ∈ lw_all := lw_g (lw_at lw_m1 184 rfl) rfl
theorem q305 : (Jvm.Cond.fieldLink "LateMirrors$Parser" (99 : Nat) "LateMirrors$Parser" "open" "I") ∈ lw_all := lw_g (lw_at lw_m1 185 rfl) rfl
theorem q306 : (Jvm.Cond.fieldLink "LateMirrors$Parser" (38 : Nat) "LateMirrors$Parser" "worst" "I") ∈ lw_all := lw_g (lw_at lw_m1 186 rfl) rfl
theorem q307 : (Jvm.Cond.fieldLink "LateMirrors$Parser" (41 : Nat) "LateMirrors$Parser" "worstToken" "I") ∈ lw_all := lw_g (lw_at lw_m1 187 rfl) rfl
theorem q308 : (Jvm.Cond.laysFinal "LateMirrors$Parser" "LateMirrors$Parser" "t" "LLateMirrors$Tokens;") ∈ lw_all := lw_g (lw_at lw_m1 188 rfl) rfl
theorem q309 : (Jvm.Cond.soleField "LateMirrors$Parser" "t") ∈ lw_all := lw_g (lw_at lw_m1 189 rfl) rfl
theorem q310 : (Jvm.Cond.laysFinal "LateMirrors$Parser" "LateMirrors$Parser" "fault" "LLateMirrors$Fault;") ∈ lw_all := lw_g (lw_at lw_m1 190 rfl) rfl
theorem q311 : (Jvm.Cond.soleField "LateMirrors$Parser" "fault") ∈ lw_all := lw_g (lw_at lw_m1 191 rfl) rfl
theorem q312 : (Jvm.Cond.lays "LateMirrors$Parser" "LateMirrors$Parser" "text" "LLateMirrors$Text;") ∈ lw_all := lw_g (lw_at lw_m1 192 rfl) rfl
theorem q313 : (Jvm.Cond.soleField "LateMirrors$Parser" "text") ∈ lw_all := lw_g (lw_at lw_m1 193 rfl) rfl
theorem q314 : (Jvm.Cond.lays "LateMirrors$Parser" "LateMirrors$Parser" "at" "I") ∈ lw_all := lw_g (lw_at lw_m1 194 rfl) rfl
theorem q315 : (Jvm.Cond.soleField "LateMirrors$Parser" "at") ∈ lw_all := lw_g (lw_at lw_m1 195 rfl) rfl
theorem q316 : (Jvm.Cond.lays "LateMirrors$Parser" "LateMirrors$Parser" "open" "I") ∈ lw_all := lw_g (lw_at lw_m1 196 rfl) rfl
theorem q317 : (Jvm.Cond.soleField "LateMirrors$Parser" "open") ∈ lw_all := lw_g (lw_at lw_m1 197 rfl) rfl
theorem q318 : (Jvm.Cond.lays "LateMirrors$Parser" "LateMirrors$Parser" "worst" "I") ∈ lw_all := lw_g (lw_at lw_m1 198 rfl) rfl
theorem q319 : (Jvm.Cond.soleField "LateMirrors$Parser" "worst") ∈ lw_all := lw_g (lw_at lw_m1 199 rfl) rfl
theorem q320 : (Jvm.Cond.lays "LateMirrors$Parser" "LateMirrors$Parser" "worstToken" "I") ∈ lw_all := lw_g (lw_at lw_m1 200 rfl) rfl
theorem q321 : (Jvm.Cond.soleField "LateMirrors$Parser" "worstToken") ∈ lw_all := lw_g (lw_at lw_m1 201 rfl) rfl
theorem q322 : (Jvm.Cond.superclass "LateMirrors$Parser" "java/lang/Object") ∈ lw_all := lw_g (lw_at lw_m1 202 rfl) rfl
theorem q358 : (Jvm.Cond.fieldLink "LateMirrors$Parser" (109 : Nat) "LateMirrors$Text" "rooms" "Ljava/util/ArrayList;") ∈ lw_all := lw_g (lw_at lw_m1 238 rfl) rfl
theorem q362 : (Jvm.Cond.fieldLink "LateMirrors$Parser" (137 : Nat) "LateMirrors$Text" "men" "Ljava/util/ArrayList;") ∈ lw_all := lw_g (lw_at lw_m2 2 rfl) rfl
theorem q366 : (Jvm.Cond.fieldLink "LateMirrors$Parser" (168 : Nat) "LateMirrors$Text" "mirrors" "Ljava/util/ArrayList;") ∈ lw_all := lw_g (lw_at lw_m2 6 rfl) rfl
theorem q367 : (Jvm.Cond.fieldLink "LateMirrors$Parser" (187 : Nat) "LateMirrors$Text" "doors" "I") ∈ lw_all := lw_g (lw_at lw_m2 7 rfl) rfl
theorem q370 : (Jvm.Cond.fieldLink "LateMirrors$Parser" (181 : Nat) "LateMirrors$Text" "breaks" "I") ∈ lw_all := lw_g (lw_at lw_m2 10 rfl) rfl
theorem q372 : (Jvm.Cond.fieldLink "LateMirrors$Parser" (184 : Nat) "LateMirrors$Text" "seed" "I") ∈ lw_all := lw_g (lw_at lw_m2 12 rfl) rfl
theorem q375 : (Jvm.Cond.fieldLink "LateMirrors$Parser" (178 : Nat) "LateMirrors$Text" "late" "LLateMirrors$Law;") ∈ lw_all := lw_g (lw_at lw_m2 15 rfl) rfl
theorem q633 : (Jvm.Cond.instanceMethod ({ cls := "LateMirrors$Parser", name := "read", desc := "()LLateMirrors$Text;" } : Jvm.MethodName)) ∈ lw_all := lw_g (lw_at lw_m3 33 rfl) rfl
theorem q634 : (Jvm.Cond.selects "LateMirrors$Parser" ({ cls := "LateMirrors$Parser", name := "read", desc := "()LLateMirrors$Text;" } : Jvm.MethodName) ({ cls := "LateMirrors$Parser", name := "read", desc := "()LLateMirrors$Text;" } : Jvm.MethodName)) ∈ lw_all := lw_g (lw_at lw_m3 34 rfl) rfl
theorem q635 : (Jvm.Cond.code ({ cls := "LateMirrors$Parser", name := "read", desc := "()LLateMirrors$Text;" } : Jvm.MethodName) prog_12_method_16_code (1 : Nat) (Option.some (Jvm.ClassFile.FieldType.object "LateMirrors$Text"))) ∈ lw_all := lw_g (lw_at lw_m3 35 rfl) rfl
theorem q636 : (Jvm.Cond.methodLink "LateMirrors$Parser" (95 : Nat) ({ cls := "LateMirrors$Tokens", name := "read", desc := "()V" } : Jvm.MethodName)) ∈ lw_all := lw_g (lw_at lw_m3 36 rfl) rfl
theorem q710 : (Jvm.Cond.classLink "LateMirrors$Parser" (87 : Nat) "LateMirrors$Text") ∈ lw_all := lw_g (lw_at lw_m3 110 rfl) rfl
theorem q711 : (Jvm.Cond.methodLinkNest "LateMirrors$Parser" (98 : Nat) ({ cls := "LateMirrors$Text", name := "<init>", desc := "()V" } : Jvm.MethodName) "LateMirrors") ∈ lw_tbl := lw_at lw_m3 111 rfl
theorem q712 : (Jvm.Cond.methodLink "LateMirrors$Parser" (65 : Nat) ({ cls := "LateMirrors$Parser", name := "sort", desc := "()I" } : Jvm.MethodName)) ∈ lw_all := lw_g (lw_at lw_m3 112 rfl) rfl
theorem q713 : (Jvm.Cond.privateMethod ({ cls := "LateMirrors$Parser", name := "sort", desc := "()I" } : Jvm.MethodName)) ∈ lw_tbl := lw_at lw_m3 113 rfl
theorem q714 : (Jvm.Cond.instanceMethod ({ cls := "LateMirrors$Parser", name := "sort", desc := "()I" } : Jvm.MethodName)) ∈ lw_all := lw_g (lw_at lw_m3 114 rfl) rfl
theorem q715 : (Jvm.Cond.code ({ cls := "LateMirrors$Parser", name := "sort", desc := "()I" } : Jvm.MethodName) prog_12_method_5_code (1 : Nat) (Option.some Jvm.ClassFile.FieldType.int)) ∈ lw_all := lw_g (lw_at lw_m3 115 rfl) rfl
theorem q716 : (Jvm.Cond.methodLink "LateMirrors$Parser" (48 : Nat) ({ cls := "LateMirrors$Parser", name := "wrong", desc := "(I)LLateMirrors$Fault;" } : Jvm.MethodName)) ∈ lw_all := lw_g (lw_at lw_m3 116 rfl) rfl
theorem q717 : (Jvm.Cond.privateMethod ({ cls := "LateMirrors$Parser", name := "wrong", desc := "(I)LLateMirrors$Fault;" } : Jvm.MethodName)) ∈ lw_tbl := lw_at lw_m3 117 rfl
theorem q718 : (Jvm.Cond.instanceMethod ({ cls := "LateMirrors$Parser", name := "wrong", desc := "(I)LLateMirrors$Fault;" } : Jvm.MethodName)) ∈ lw_all := lw_g (lw_at lw_m3 118 rfl) rfl
theorem q719 : (Jvm.Cond.code ({ cls := "LateMirrors$Parser", name := "wrong", desc := "(I)LLateMirrors$Fault;" } : Jvm.MethodName) prog_12_method_3_code (2 : Nat) (Option.some (Jvm.ClassFile.FieldType.object "LateMirrors$Fault"))) ∈ lw_all := lw_g (lw_at lw_m3 119 rfl) rfl
theorem q720 : (Jvm.Cond.methodLink "LateMirrors$Parser" (35 : Nat) ({ cls := "LateMirrors$Parser", name := "wrongAt", desc := "(II)LLateMirrors$Fault;" } : Jvm.MethodName)) ∈ lw_all := lw_g (lw_at lw_m3 120 rfl) rfl
theorem q721 : (Jvm.Cond.privateMethod ({ cls := "LateMirrors$Parser", name := "wrongAt", desc := "(II)LLateMirrors$Fault;" } : Jvm.MethodName)) ∈ lw_tbl := lw_at lw_m3 121 rfl
theorem q722 : (Jvm.Cond.instanceMethod ({ cls := "LateMirrors$Parser", name := "wrongAt", desc := "(II)LLateMirrors$Fault;" } : Jvm.MethodName)) ∈ lw_all := lw_g (lw_at lw_m3 122 rfl) rfl
theorem q723 : (Jvm.Cond.code ({ cls := "LateMirrors$Parser", name := "wrongAt", desc := "(II)LLateMirrors$Fault;" } : Jvm.MethodName) prog_12_method_2_code (3 : Nat) (Option.some (Jvm.ClassFile.FieldType.object "LateMirrors$Fault"))) ∈ lw_all := lw_g (lw_at lw_m3 123 rfl) rfl
theorem q724 : (Jvm.Cond.methodLink "LateMirrors$Parser" (25 : Nat) ({ cls := "LateMirrors$Fault", name := "of", desc := "(II)LLateMirrors$Fault;" } : Jvm.MethodName)) ∈ lw_all := lw_g (lw_at lw_m3 124 rfl) rfl
theorem q728 : (Jvm.Cond.methodLink "LateMirrors$Parser" (102 : Nat) ({ cls := "LateMirrors$Parser", name := "told", desc := "()V" } : Jvm.MethodName)) ∈ lw_all := lw_g (lw_at lw_m3 128 rfl) rfl
theorem q729 : (Jvm.Cond.privateMethod ({ cls := "LateMirrors$Parser", name := "told", desc := "()V" } : Jvm.MethodName)) ∈ lw_tbl := lw_at lw_m3 129 rfl
theorem q730 : (Jvm.Cond.instanceMethod ({ cls := "LateMirrors$Parser", name := "told", desc := "()V" } : Jvm.MethodName)) ∈ lw_all := lw_g (lw_at lw_m3 130 rfl) rfl
theorem q731 : (Jvm.Cond.code ({ cls := "LateMirrors$Parser", name := "told", desc := "()V" } : Jvm.MethodName) prog_12_method_17_code (4 : Nat) (Option.none : Option Jvm.ClassFile.FieldType)) ∈ lw_all := lw_g (lw_at lw_m3 131 rfl) rfl
theorem q732 : (Jvm.Cond.methodLink "LateMirrors$Parser" (113 : Nat) ({ cls := "java/util/ArrayList", name := "size", desc := "()I" } : Jvm.MethodName)) ∈ lw_all := lw_g (lw_at lw_m3 132 rfl) rfl
theorem q733 : (Jvm.Cond.methodLink "LateMirrors$Parser" (118 : Nat) ({ cls := "LateMirrors$Parser", name := "begins", desc := "(II)V" } : Jvm.MethodName)) ∈ lw_all := lw_g (lw_at lw_m3 133 rfl) rfl
theorem q734 : (Jvm.Cond.privateMethod ({ cls := "LateMirrors$Parser", name := "begins", desc := "(II)V" } : Jvm.MethodName)) ∈ lw_tbl := lw_at lw_m3 134 rfl
theorem q735 : (Jvm.Cond.instanceMethod ({ cls := "LateMirrors$Parser", name := "begins", desc := "(II)V" } : Jvm.MethodName)) ∈ lw_all := lw_g (lw_at lw_m3 135 rfl) rfl
theorem q736 : (Jvm.Cond.code ({ cls := "LateMirrors$Parser", name := "begins", desc := "(II)V" } : Jvm.MethodName) prog_12_method_15_code (3 : Nat) (Option.none : Option Jvm.ClassFile.FieldType)) ∈ lw_all := lw_g (lw_at lw_m3 136 rfl) rfl
theorem q737 : (Jvm.Cond.methodLink "LateMirrors$Parser" (59 : Nat) ({ cls := "LateMirrors$Parser", name := "pass", desc := "()V" } : Jvm.MethodName)) ∈ lw_all := lw_g (lw_at lw_m3 137 rfl) rfl
theorem q738 : (Jvm.Cond.privateMethod ({ cls := "LateMirrors$Parser", name := "pass", desc := "()V" } : Jvm.MethodName)) ∈ lw_tbl := lw_at lw_m3 138 rfl
theorem q739 : (Jvm.Cond.instanceMethod ({ cls := "LateMirrors$Parser", name := "pass", desc := "()V" } : Jvm.MethodName)) ∈ lw_all := lw_g (lw_at lw_m3 139 rfl) rfl
theorem q740 : (Jvm.Cond.code ({ cls := "LateMirrors$Parser", name := "pass", desc := "()V" } : Jvm.MethodName) prog_12_method_6_code (1 : Nat) (Option.none : Option Jvm.ClassFile.FieldType)) ∈ lw_all := lw_g (lw_at lw_m3 140 rfl) rfl
theorem q741 : (Jvm.Cond.classLink "LateMirrors$Parser" (121 : Nat) "LateMirrors$Room") ∈ lw_all := lw_g (lw_at lw_m3 141 rfl) rfl
theorem q743 : (Jvm.Cond.methodLink "LateMirrors$Parser" (123 : Nat) ({ cls := "LateMirrors$Parser", name := "name", desc := "()Ljava/lang/String;" } : Jvm.MethodName)) ∈ lw_all := lw_g (lw_at lw_m3 143 rfl) rfl
theorem q744 : (Jvm.Cond.privateMethod ({ cls := "LateMirrors$Parser", name := "name", desc := "()Ljava/lang/String;" } : Jvm.MethodName)) ∈ lw_tbl := lw_at lw_m3 144 rfl
theorem q745 : (Jvm.Cond.instanceMethod ({ cls := "LateMirrors$Parser", name := "name", desc := "()Ljava/lang/String;" } : Jvm.MethodName)) ∈ lw_all := lw_g (lw_at lw_m3 145 rfl) rfl
theorem q746 : (Jvm.Cond.code ({ cls := "LateMirrors$Parser", name := "name", desc := "()Ljava/lang/String;" } : Jvm.MethodName) prog_12_method_13_code (3 : Nat) (Option.some (Jvm.ClassFile.FieldType.object "java/lang/String"))) ∈ lw_all := lw_g (lw_at lw_m3 146 rfl) rfl
theorem q747 : (Jvm.Cond.methodLink "LateMirrors$Parser" (68 : Nat) ({ cls := "LateMirrors$Parser", name := "take", desc := "(I)I" } : Jvm.MethodName)) ∈ lw_all := lw_g (lw_at lw_m3 147 rfl) rfl
theorem q748 : (Jvm.Cond.privateMethod ({ cls := "LateMirrors$Parser", name := "take", desc := "(I)I" } : Jvm.MethodName)) ∈ lw_tbl := lw_at lw_m3 148 rfl
theorem q749 : (Jvm.Cond.instanceMethod ({ cls := "LateMirrors$Parser", name := "take", desc := "(I)I" } : Jvm.MethodName)) ∈ lw_all := lw_g (lw_at lw_m3 149 rfl) rfl
theorem q750 : (Jvm.Cond.code ({ cls := "LateMirrors$Parser", name := "take", desc := "(I)I" } : Jvm.MethodName) prog_12_method_11_code (2 : Nat) (Option.some Jvm.ClassFile.FieldType.int)) ∈ lw_all := lw_g (lw_at lw_m3 150 rfl) rfl
theorem q751 : (Jvm.Cond.methodLink "LateMirrors$Parser" (79 : Nat) ({ cls := "LateMirrors$Tokens", name := "text", desc := "(I)Ljava/lang/String;" } : Jvm.MethodName)) ∈ lw_all := lw_g (lw_at lw_m3 151 rfl) rfl
theorem q913 : (Jvm.Cond.methodLink "LateMirrors$Parser" (86 : Nat) ({ cls := "LateMirrors$Text", name := "has", desc := "(Ljava/lang/String;)Z" } : Jvm.MethodName)) ∈ lw_all := lw_g (lw_at lw_m4 73 rfl) rfl
theorem q931 : (Jvm.Cond.methodLink "LateMirrors$Parser" (75 : Nat) ({ cls := "LateMirrors$Parser", name := "tell", desc := "(II)V" } : Jvm.MethodName)) ∈ lw_all := lw_g (lw_at lw_m4 91 rfl) rfl
theorem q932 : (Jvm.Cond.privateMethod ({ cls := "LateMirrors$Parser", name := "tell", desc := "(II)V" } : Jvm.MethodName)) ∈ lw_tbl := lw_at lw_m4 92 rfl
theorem q933 : (Jvm.Cond.instanceMethod ({ cls := "LateMirrors$Parser", name := "tell", desc := "(II)V" } : Jvm.MethodName)) ∈ lw_all := lw_g (lw_at lw_m4 93 rfl) rfl
theorem q934 : (Jvm.Cond.code ({ cls := "LateMirrors$Parser", name := "tell", desc := "(II)V" } : Jvm.MethodName) prog_12_method_4_code (3 : Nat) (Option.none : Option Jvm.ClassFile.FieldType)) ∈ lw_all := lw_g (lw_at lw_m4 94 rfl) rfl
theorem q935 : (Jvm.Cond.methodLink "LateMirrors$Parser" (127 : Nat) ({ cls := "LateMirrors$Room", name := "<init>", desc := "(Ljava/lang/String;)V" } : Jvm.MethodName)) ∈ lw_all := lw_g (lw_at lw_m4 95 rfl) rfl
theorem q957 : (Jvm.Cond.methodLink "LateMirrors$Parser" (130 : Nat) ({ cls := "java/util/ArrayList", name := "add", desc := "(Ljava/lang/Object;)Z" } : Jvm.MethodName)) ∈ lw_all := lw_g (lw_at lw_m4 117 rfl) rfl
theorem q990 : (Jvm.Cond.selects "LateMirrors$Parser" ({ cls := "java/lang/Object", name := "getClass", desc := "()Ljava/lang/Class;" } : Jvm.MethodName) ({ cls := "java/lang/Object", name := "getClass", desc := "()Ljava/lang/Class;" } : Jvm.MethodName)) ∈ lw_all := lw_g (lw_at lw_m4 150 rfl) rfl
theorem q1008 : (Jvm.Cond.methodLink "LateMirrors$Parser" (134 : Nat) ({ cls := "LateMirrors$Parser", name := "doorTold", desc := "()V" } : Jvm.MethodName)) ∈ lw_all := lw_g (lw_at lw_m4 168 rfl) rfl
theorem q1009 : (Jvm.Cond.privateMethod ({ cls := "LateMirrors$Parser", name := "doorTold", desc := "()V" } : Jvm.MethodName)) ∈ lw_tbl := lw_at lw_m4 169 rfl
theorem q1010 : (Jvm.Cond.instanceMethod ({ cls := "LateMirrors$Parser", name := "doorTold", desc := "()V" } : Jvm.MethodName)) ∈ lw_all := lw_g (lw_at lw_m4 170 rfl) rfl
theorem q1011 : (Jvm.Cond.code ({ cls := "LateMirrors$Parser", name := "doorTold", desc := "()V" } : Jvm.MethodName) prog_12_method_18_code (4 : Nat) (Option.none : Option Jvm.ClassFile.FieldType)) ∈ lw_all := lw_g (lw_at lw_m4 171 rfl) rfl
theorem q1012 : (Jvm.Cond.methodLink "LateMirrors$Parser" (149 : Nat) ({ cls := "LateMirrors$Parser", name := "known", desc := "(Ljava/util/ArrayList;)I" } : Jvm.MethodName)) ∈ lw_all := lw_g (lw_at lw_m4 172 rfl) rfl
theorem q1013 : (Jvm.Cond.privateMethod ({ cls := "LateMirrors$Parser", name := "known", desc := "(Ljava/util/ArrayList;)I" } : Jvm.MethodName)) ∈ lw_tbl := lw_at lw_m4 173 rfl
theorem q1014 : (Jvm.Cond.instanceMethod ({ cls := "LateMirrors$Parser", name := "known", desc := "(Ljava/util/ArrayList;)I" } : Jvm.MethodName)) ∈ lw_all := lw_g (lw_at lw_m4 174 rfl) rfl
theorem q1015 : (Jvm.Cond.code ({ cls := "LateMirrors$Parser", name := "known", desc := "(Ljava/util/ArrayList;)I" } : Jvm.MethodName) prog_12_method_14_code (4 : Nat) (Option.some Jvm.ClassFile.FieldType.int)) ∈ lw_all := lw_g (lw_at lw_m4 175 rfl) rfl
theorem q1016 : (Jvm.Cond.methodLink "LateMirrors$Parser" (92 : Nat) ({ cls := "LateMirrors$Text", name := "at", desc := "(Ljava/util/ArrayList;Ljava/lang/String;)I" } : Jvm.MethodName)) ∈ lw_all := lw_g (lw_at lw_m4 176 rfl) rfl
theorem q1017 : (Jvm.Cond.methodLink "LateMirrors$Parser" (160 : Nat) ({ cls := "java/util/ArrayList", name := "get", desc := "(I)Ljava/lang/Object;" } : Jvm.MethodName)) ∈ lw_all := lw_g (lw_at lw_m4 177 rfl) rfl
theorem q1018 : (Jvm.Cond.methodLink "LateMirrors$Parser" (190 : Nat) ({ cls := "LateMirrors$Room", name := "leads", desc := "(I)V" } : Jvm.MethodName)) ∈ lw_all := lw_g (lw_at lw_m4 178 rfl) rfl
theorem q1022 : (Jvm.Cond.classLink "LateMirrors$Parser" (140 : Nat) "LateMirrors$Man") ∈ lw_all := lw_g (lw_at lw_m4 182 rfl) rfl
theorem q1024 : (Jvm.Cond.methodLink "LateMirrors$Parser" (142 : Nat) ({ cls := "LateMirrors$Man", name := "<init>", desc := "(Ljava/lang/String;)V" } : Jvm.MethodName)) ∈ lw_all := lw_g (lw_at lw_m4 184 rfl) rfl
theorem q1029 : (Jvm.Cond.fieldLink "LateMirrors$Parser" (146 : Nat) "LateMirrors$Man" "rank" "I") ∈ lw_all := lw_g (lw_at lw_m4 189 rfl) rfl
theorem q1031 : (Jvm.Cond.fieldLink "LateMirrors$Parser" (153 : Nat) "LateMirrors$Man" "room" "I") ∈ lw_all := lw_g (lw_at lw_m4 191 rfl) rfl
theorem q1033 : (Jvm.Cond.fieldLink "LateMirrors$Parser" (164 : Nat) "LateMirrors$Man" "goes" "LLateMirrors$Law;") ∈ lw_all := lw_g (lw_at lw_m4 193 rfl) rfl
theorem q1042 : (Jvm.Cond.methodLink "LateMirrors$Parser" (143 : Nat) ({ cls := "LateMirrors$Parser", name := "number", desc := "(II)I" } : Jvm.MethodName)) ∈ lw_all := lw_g (lw_at lw_m4 202 rfl) rfl
theorem q1043 : (Jvm.Cond.privateMethod ({ cls := "LateMirrors$Parser", name := "number", desc := "(II)I" } : Jvm.MethodName)) ∈ lw_tbl := lw_at lw_m4 203 rfl
theorem q1044 : (Jvm.Cond.instanceMethod ({ cls := "LateMirrors$Parser", name := "number", desc := "(II)I" } : Jvm.MethodName)) ∈ lw_all := lw_g (lw_at lw_m4 204 rfl) rfl
theorem q1045 : (Jvm.Cond.code ({ cls := "LateMirrors$Parser", name := "number", desc := "(II)I" } : Jvm.MethodName) prog_12_method_12_code (5 : Nat) (Option.some Jvm.ClassFile.FieldType.int)) ∈ lw_all := lw_g (lw_at lw_m4 205 rfl) rfl
theorem q1046 : (Jvm.Cond.methodLink "LateMirrors$Parser" (72 : Nat) ({ cls := "LateMirrors$Tokens", name := "number", desc := "(I)I" } : Jvm.MethodName)) ∈ lw_all := lw_g (lw_at lw_m4 206 rfl) rfl
theorem q1050 : (Jvm.Cond.methodLink "LateMirrors$Parser" (156 : Nat) ({ cls := "LateMirrors$Parser", name := "law", desc := "()LLateMirrors$Law;" } : Jvm.MethodName)) ∈ lw_all := lw_g (lw_at lw_m4 210 rfl) rfl
theorem q1051 : (Jvm.Cond.privateMethod ({ cls := "LateMirrors$Parser", name := "law", desc := "()LLateMirrors$Law;" } : Jvm.MethodName)) ∈ lw_tbl := lw_at lw_m4 211 rfl
theorem q1052 : (Jvm.Cond.instanceMethod ({ cls := "LateMirrors$Parser", name := "law", desc := "()LLateMirrors$Law;" } : Jvm.MethodName)) ∈ lw_all := lw_g (lw_at lw_m4 212 rfl) rfl
theorem q1053 : (Jvm.Cond.code ({ cls := "LateMirrors$Parser", name := "law", desc := "()LLateMirrors$Law;" } : Jvm.MethodName) prog_12_method_19_code (2 : Nat) (Option.some (Jvm.ClassFile.FieldType.object "LateMirrors$Law"))) ∈ lw_all := lw_g (lw_at lw_m4 213 rfl) rfl
theorem q1054 : (Jvm.Cond.classLink "LateMirrors$Parser" (193 : Nat) "LateMirrors$Law") ∈ lw_all := lw_g (lw_at lw_m4 214 rfl) rfl
theorem q1056 : (Jvm.Cond.methodLinkNest "LateMirrors$Parser" (195 : Nat) ({ cls := "LateMirrors$Law", name := "<init>", desc := "()V" } : Jvm.MethodName) "LateMirrors") ∈ lw_tbl := lw_at lw_m4 216 rfl
theorem q1063 : (Jvm.Cond.fieldLink "LateMirrors$Parser" (199 : Nat) "LateMirrors$Law" "less" "[LLateMirrors$Sum;") ∈ lw_all := lw_g (lw_at lw_m4 223 rfl) rfl
theorem q1065 : (Jvm.Cond.fieldLink "LateMirrors$Parser" (207 : Nat) "LateMirrors$Law" "than" "[LLateMirrors$Sum;") ∈ lw_all := lw_g (lw_at lw_m4 225 rfl) rfl
theorem q1067 : (Jvm.Cond.fieldLink "LateMirrors$Parser" (213 : Nat) "LateMirrors$Law" "then" "[LLateMirrors$Sum;") ∈ lw_all := lw_g (lw_at lw_m4 227 rfl) rfl
theorem q1069 : (Jvm.Cond.fieldLink "LateMirrors$Parser" (196 : Nat) "LateMirrors$Law" "ifs" "I") ∈ lw_all := lw_g (lw_at lw_m4 229 rfl) rfl
theorem q1079 : (Jvm.Cond.methodLink "LateMirrors$Parser" (105 : Nat) ({ cls := "LateMirrors$Parser", name := "sign", desc := "(I)V" } : Jvm.MethodName)) ∈ lw_all := lw_g (lw_at lw_m4 239 rfl) rfl
theorem q1080 : (Jvm.Cond.privateMethod ({ cls := "LateMirrors$Parser", name := "sign", desc := "(I)V" } : Jvm.MethodName)) ∈ lw_tbl := lw_at lw_m5 0 rfl
theorem q1081 : (Jvm.Cond.instanceMethod ({ cls := "LateMirrors$Parser", name := "sign", desc := "(I)V" } : Jvm.MethodName)) ∈ lw_all := lw_g (lw_at lw_m5 1 rfl) rfl
theorem q1082 : (Jvm.Cond.code ({ cls := "LateMirrors$Parser", name := "sign", desc := "(I)V" } : Jvm.MethodName) prog_12_method_9_code (2 : Nat) (Option.none : Option Jvm.ClassFile.FieldType)) ∈ lw_all := lw_g (lw_at lw_m5 2 rfl) rfl
theorem q1083 : (Jvm.Cond.methodLink "LateMirrors$Parser" (55 : Nat) ({ cls := "LateMirrors$Parser", name := "isSign", desc := "(I)Z" } : Jvm.MethodName)) ∈ lw_all := lw_g (lw_at lw_m5 3 rfl) rfl
theorem q1084 : (Jvm.Cond.privateMethod ({ cls := "LateMirrors$Parser", name := "isSign", desc := "(I)Z" } : Jvm.MethodName)) ∈ lw_tbl := lw_at lw_m5 4 rfl
theorem q1085 : (Jvm.Cond.instanceMethod ({ cls := "LateMirrors$Parser", name := "isSign", desc := "(I)Z" } : Jvm.MethodName)) ∈ lw_all := lw_g (lw_at lw_m5 5 rfl) rfl
theorem q1086 : (Jvm.Cond.code ({ cls := "LateMirrors$Parser", name := "isSign", desc := "(I)Z" } : Jvm.MethodName) prog_12_method_7_code (2 : Nat) (Option.some Jvm.ClassFile.FieldType.boolean)) ∈ lw_all := lw_g (lw_at lw_m5 6 rfl) rfl
theorem q1087 : (Jvm.Cond.methodLink "LateMirrors$Parser" (62 : Nat) ({ cls := "LateMirrors$Parser", name := "isWord", desc := "(I)Z" } : Jvm.MethodName)) ∈ lw_all := lw_g (lw_at lw_m5 7 rfl) rfl
theorem q1088 : (Jvm.Cond.privateMethod ({ cls := "LateMirrors$Parser", name := "isWord", desc := "(I)Z" } : Jvm.MethodName)) ∈ lw_tbl := lw_at lw_m5 8 rfl
theorem q1089 : (Jvm.Cond.instanceMethod ({ cls := "LateMirrors$Parser", name := "isWord", desc := "(I)Z" } : Jvm.MethodName)) ∈ lw_all := lw_g (lw_at lw_m5 9 rfl) rfl
theorem q1090 : (Jvm.Cond.code ({ cls := "LateMirrors$Parser", name := "isWord", desc := "(I)Z" } : Jvm.MethodName) prog_12_method_8_code (2 : Nat) (Option.some Jvm.ClassFile.FieldType.boolean)) ∈ lw_all := lw_g (lw_at lw_m5 10 rfl) rfl
theorem q1091 : (Jvm.Cond.methodLink "LateMirrors$Parser" (203 : Nat) ({ cls := "LateMirrors$Parser", name := "sum", desc := "()LLateMirrors$Sum;" } : Jvm.MethodName)) ∈ lw_all := lw_g (lw_at lw_m5 11 rfl) rfl
theorem q1092 : (Jvm.Cond.privateMethod ({ cls := "LateMirrors$Parser", name := "sum", desc := "()LLateMirrors$Sum;" } : Jvm.MethodName)) ∈ lw_tbl := lw_at lw_m5 12 rfl
theorem q1093 : (Jvm.Cond.instanceMethod ({ cls := "LateMirrors$Parser", name := "sum", desc := "()LLateMirrors$Sum;" } : Jvm.MethodName)) ∈ lw_all := lw_g (lw_at lw_m5 13 rfl) rfl
theorem q1094 : (Jvm.Cond.code ({ cls := "LateMirrors$Parser", name := "sum", desc := "()LLateMirrors$Sum;" } : Jvm.MethodName) prog_12_method_20_code (3 : Nat) (Option.some (Jvm.ClassFile.FieldType.object "LateMirrors$Sum"))) ∈ lw_all := lw_g (lw_at lw_m5 14 rfl) rfl
theorem q1095 : (Jvm.Cond.methodLink "LateMirrors$Parser" (216 : Nat) ({ cls := "LateMirrors$Parser", name := "part", desc := "()LLateMirrors$Sum;" } : Jvm.MethodName)) ∈ lw_all := lw_g (lw_at lw_m5 15 rfl) rfl
theorem q1096 : (Jvm.Cond.privateMethod ({ cls := "LateMirrors$Parser", name := "part", desc := "()LLateMirrors$Sum;" } : Jvm.MethodName)) ∈ lw_tbl := lw_at lw_m5 16 rfl
theorem q1097 : (Jvm.Cond.instanceMethod ({ cls := "LateMirrors$Parser", name := "part", desc := "()LLateMirrors$Sum;" } : Jvm.MethodName)) ∈ lw_all := lw_g (lw_at lw_m5 17 rfl) rfl
theorem q1098 : (Jvm.Cond.code ({ cls := "LateMirrors$Parser", name := "part", desc := "()LLateMirrors$Sum;" } : Jvm.MethodName) prog_12_method_21_code (3 : Nat) (Option.some (Jvm.ClassFile.FieldType.object "LateMirrors$Sum"))) ∈ lw_all := lw_g (lw_at lw_m5 18 rfl) rfl
theorem q1099 : (Jvm.Cond.methodLink "LateMirrors$Parser" (224 : Nat) ({ cls := "LateMirrors$Parser", name := "unit", desc := "()LLateMirrors$Sum;" } : Jvm.MethodName)) ∈ lw_all := lw_g (lw_at lw_m5 19 rfl) rfl
theorem q1100 : (Jvm.Cond.privateMethod ({ cls := "LateMirrors$Parser", name := "unit", desc := "()LLateMirrors$Sum;" } : Jvm.MethodName)) ∈ lw_tbl := lw_at lw_m5 20 rfl
theorem q1101 : (Jvm.Cond.instanceMethod ({ cls := "LateMirrors$Parser", name := "unit", desc := "()LLateMirrors$Sum;" } : Jvm.MethodName)) ∈ lw_all := lw_g (lw_at lw_m5 21 rfl) rfl
theorem q1102 : (Jvm.Cond.code ({ cls := "LateMirrors$Parser", name := "unit", desc := "()LLateMirrors$Sum;" } : Jvm.MethodName) prog_12_method_22_code (2 : Nat) (Option.some (Jvm.ClassFile.FieldType.object "LateMirrors$Sum"))) ∈ lw_all := lw_g (lw_at lw_m5 22 rfl) rfl
theorem q1103 : (Jvm.Cond.classLink "LateMirrors$Parser" (227 : Nat) "LateMirrors$Number") ∈ lw_all := lw_g (lw_at lw_m5 23 rfl) rfl
theorem q1105 : (Jvm.Cond.methodLink "LateMirrors$Parser" (229 : Nat) ({ cls := "LateMirrors$Number", name := "<init>", desc := "(I)V" } : Jvm.MethodName)) ∈ lw_all := lw_g (lw_at lw_m5 25 rfl) rfl
theorem q1116 : (Jvm.Cond.classLink "LateMirrors$Parser" (231 : Nat) "LateMirrors$Var") ∈ lw_all := lw_g (lw_at lw_m5 36 rfl) rfl
theorem q1118 : (Jvm.Cond.methodLink "LateMirrors$Parser" (233 : Nat) ({ cls := "LateMirrors$Var", name := "<init>", desc := "(I)V" } : Jvm.MethodName)) ∈ lw_all := lw_g (lw_at lw_m5 38 rfl) rfl
theorem q1126 : (Jvm.Cond.classLink "LateMirrors$Parser" (219 : Nat) "LateMirrors$Joined") ∈ lw_all := lw_g (lw_at lw_m5 46 rfl) rfl
theorem q1128 : (Jvm.Cond.methodLink "LateMirrors$Parser" (221 : Nat) ({ cls := "LateMirrors$Joined", name := "<init>", desc := "(ILLateMirrors$Sum;LLateMirrors$Sum;)V" } : Jvm.MethodName)) ∈ lw_all := lw_g (lw_at lw_m5 48 rfl) rfl
theorem q1142 : (Jvm.Cond.methodLink "LateMirrors$Parser" (210 : Nat) ({ cls := "LateMirrors$Parser", name := "word", desc := "(I)V" } : Jvm.MethodName)) ∈ lw_all := lw_g (lw_at lw_m5 62 rfl) rfl
theorem q1143 : (Jvm.Cond.privateMethod ({ cls := "LateMirrors$Parser", name := "word", desc := "(I)V" } : Jvm.MethodName)) ∈ lw_tbl := lw_at lw_m5 63 rfl
theorem q1144 : (Jvm.Cond.instanceMethod ({ cls := "LateMirrors$Parser", name := "word", desc := "(I)V" } : Jvm.MethodName)) ∈ lw_all := lw_g (lw_at lw_m5 64 rfl) rfl
theorem q1145 : (Jvm.Cond.code ({ cls := "LateMirrors$Parser", name := "word", desc := "(I)V" } : Jvm.MethodName) prog_12_method_10_code (2 : Nat) (Option.none : Option Jvm.ClassFile.FieldType)) ∈ lw_all := lw_g (lw_at lw_m5 65 rfl) rfl
theorem q1146 : (Jvm.Cond.classLink "LateMirrors$Parser" (171 : Nat) "LateMirrors$Mirror") ∈ lw_all := lw_g (lw_at lw_m5 66 rfl) rfl
theorem q1148 : (Jvm.Cond.methodLink "LateMirrors$Parser" (173 : Nat) ({ cls := "LateMirrors$Mirror", name := "<init>", desc := "(Ljava/lang/String;)V" } : Jvm.MethodName)) ∈ lw_all := lw_g (lw_at lw_m5 68 rfl) rfl
theorem q1153 : (Jvm.Cond.fieldLink "LateMirrors$Parser" (174 : Nat) "LateMirrors$Mirror" "room" "I") ∈ lw_all := lw_g (lw_at lw_m5 73 rfl) rfl
theorem q1155 : (Jvm.Cond.fieldLink "LateMirrors$Parser" (175 : Nat) "LateMirrors$Mirror" "owner" "I") ∈ lw_all := lw_g (lw_at lw_m5 75 rfl) rfl
theorem q2198 : (Jvm.Cond.castable "LateMirrors$Parser" "java/lang/Object") ∈ lw_tbl := lw_at lw_m9 158 rfl
theorem in_X3 : ∀ w ∈ wsX30, w ∈ lw_all := lw_in wsX30 [308, 310, 312, 314, 316, 318, 320] (by decide +kernel) (by decide +kernel)

/-! LateMirrors$Court -/
set_option maxRecDepth 100000
def RX5 : String := "LateMirrors$Court"
def TX5 : u_T := fun k => match k with
  | 0 => ("LateMirrors$Court", "where", "[[B", true)
  | 1 => ("LateMirrors$Court", "rank", "[[B", true)
  | 2 => ("LateMirrors$Court", "hung", "[[B", true)
  | 3 => ("LateMirrors$Court", "wall", "[[Z", true)
  | 4 => ("LateMirrors$Court", "late", "[[S", true)
  | 5 => ("LateMirrors$Court", "broke", "[I", true)
  | 6 => ("LateMirrors$Court", "frozen", "[I", true)
  | 7 => ("LateMirrors$Court", "to", "[I", true)
  | 8 => ("LateMirrors$Court", "asked", "LLateMirrors$Asked;", true)
  | 9 => ("LateMirrors$Court", "minute", "I", false)
  | _ => ("LateMirrors$Court", "seed", "I", false)
def tyX5 : Nat → FieldType := fun k => match k with
  | 0 => .array (.array .byte)
  | 1 => .array (.array .byte)
  | 2 => .array (.array .byte)
  | 3 => .array (.array .boolean)
  | 4 => .array (.array .short)
  | 5 => .array .int
  | 6 => .array .int
  | 7 => .array .int
  | 8 => .object "LateMirrors$Asked"
  | 9 => .int
  | _ => .int
abbrev wsX50 : List Cond := u_ws RX5 TX5 11
theorem nmX5 : ∀ a, a < 11 → ∀ b, b < 11 → a ≠ b → (TX5 a).2.1 ≠ (TX5 b).2.1 := by decide +kernel
theorem tyX5_ok : ∀ k, k < 11 → parseFieldDescriptor (TX5 k).2.2.1 = some (tyX5 k) := by decide +kernel
abbrev cX5_init : ByteArray := prog_3_method_1_code
def yX5_init : MethodName := ⟨RX5, "<init>", "()V"⟩
def dkwX5_init_4 : List UInt8 := [187, 0, 42, 89, 183, 0, 44, 181, 0, 45, 177]
abbrev dktX5_init_4 : List UInt8 := dkwX5_init_4 ++ []
def dkwX5_init_3 : List UInt8 := [16, 8, 188, 10, 181, 0, 32, 42, 16, 8, 188, 10, 181, 0, 36, 42, 16, 6, 188, 10, 181, 0, 39, 42]
abbrev dktX5_init_3 : List UInt8 := dkwX5_init_3 ++ dktX5_init_4
def dkwX5_init_2 : List UInt8 := [17, 1, 44, 197, 0, 22, 2, 181, 0, 24, 42, 16, 8, 17, 1, 44, 197, 0, 27, 2, 181, 0, 29, 42]
abbrev dktX5_init_2 : List UInt8 := dkwX5_init_2 ++ dktX5_init_3
def dkwX5_init_1 : List UInt8 := [197, 0, 9, 2, 181, 0, 16, 42, 16, 8, 17, 1, 44, 197, 0, 9, 2, 181, 0, 19, 42, 16, 8]
abbrev dktX5_init_1 : List UInt8 := dkwX5_init_1 ++ dktX5_init_2
def dkwX5_init_0 : List UInt8 := [42, 183, 0, 3, 42, 16, 6, 17, 1, 44, 197, 0, 9, 2, 181, 0, 11, 42, 16, 6, 17, 1, 44]
abbrev dktX5_init_0 : List UInt8 := dkwX5_init_0 ++ dktX5_init_1
theorem dksX5_init_0 : cX5_init.data.toList.drop 0 = dktX5_init_0 := by decide +kernel
theorem dksX5_init_1 : cX5_init.data.toList.drop 23 = dktX5_init_1 := dk_seg dksX5_init_0 23 rfl rfl
theorem dksX5_init_2 : cX5_init.data.toList.drop 46 = dktX5_init_2 := dk_seg dksX5_init_1 23 rfl rfl
theorem dksX5_init_3 : cX5_init.data.toList.drop 70 = dktX5_init_3 := dk_seg dksX5_init_2 24 rfl rfl
theorem dksX5_init_4 : cX5_init.data.toList.drop 94 = dktX5_init_4 := dk_seg dksX5_init_3 24 rfl rfl
theorem dX5_init_0 : decode cX5_init 0 = .ok (.aload_n 0, 1) := dk_42 (dk_at dksX5_init_0 0 rfl rfl)
theorem dX5_init_1 : decode cX5_init 1 = .ok (.invokespecial 3, 3) := dk_183 0 3 (dk_at dksX5_init_0 1 rfl rfl)
theorem dX5_init_4 : decode cX5_init 4 = .ok (.aload_n 0, 1) := dk_42 (dk_at dksX5_init_0 4 rfl rfl)
theorem dX5_init_5 : decode cX5_init 5 = .ok (.bipush 6, 2) := dk_16 6 (dk_at dksX5_init_0 5 rfl rfl)
theorem dX5_init_7 : decode cX5_init 7 = .ok (.sipush 300, 3) := dk_17 1 44 (dk_at dksX5_init_0 7 rfl rfl)
theorem dX5_init_10 : decode cX5_init 10 = .ok (.multianewarray 9 2, 4) := by decide +kernel
theorem dX5_init_14 : decode cX5_init 14 = .ok (.putfield 11, 3) := dk_181 0 11 (dk_at dksX5_init_0 14 rfl rfl)
theorem dX5_init_17 : decode cX5_init 17 = .ok (.aload_n 0, 1) := dk_42 (dk_at dksX5_init_0 17 rfl rfl)
theorem dX5_init_18 : decode cX5_init 18 = .ok (.bipush 6, 2) := dk_16 6 (dk_at dksX5_init_0 18 rfl rfl)
theorem dX5_init_20 : decode cX5_init 20 = .ok (.sipush 300, 3) := dk_17 1 44 (dk_at dksX5_init_0 20 rfl rfl)
theorem dX5_init_23 : decode cX5_init 23 = .ok (.multianewarray 9 2, 4) := by decide +kernel
theorem dX5_init_27 : decode cX5_init 27 = .ok (.putfield 16, 3) := dk_181 0 16 (dk_at dksX5_init_1 4 rfl rfl)
theorem dX5_init_30 : decode cX5_init 30 = .ok (.aload_n 0, 1) := dk_42 (dk_at dksX5_init_1 7 rfl rfl)
theorem dX5_init_31 : decode cX5_init 31 = .ok (.bipush 8, 2) := dk_16 8 (dk_at dksX5_init_1 8 rfl rfl)
theorem dX5_init_33 : decode cX5_init 33 = .ok (.sipush 300, 3) := dk_17 1 44 (dk_at dksX5_init_1 10 rfl rfl)
theorem dX5_init_36 : decode cX5_init 36 = .ok (.multianewarray 9 2, 4) := by decide +kernel
theorem dX5_init_40 : decode cX5_init 40 = .ok (.putfield 19, 3) := dk_181 0 19 (dk_at dksX5_init_1 17 rfl rfl)
theorem dX5_init_43 : decode cX5_init 43 = .ok (.aload_n 0, 1) := dk_42 (dk_at dksX5_init_1 20 rfl rfl)
theorem dX5_init_44 : decode cX5_init 44 = .ok (.bipush 8, 2) := dk_16 8 (dk_at dksX5_init_1 21 rfl rfl)
theorem dX5_init_46 : decode cX5_init 46 = .ok (.sipush 300, 3) := dk_17 1 44 (dk_at dksX5_init_2 0 rfl rfl)
theorem dX5_init_49 : decode cX5_init 49 = .ok (.multianewarray 22 2, 4) := by decide +kernel
theorem dX5_init_53 : decode cX5_init 53 = .ok (.putfield 24, 3) := dk_181 0 24 (dk_at dksX5_init_2 7 rfl rfl)
theorem dX5_init_56 : decode cX5_init 56 = .ok (.aload_n 0, 1) := dk_42 (dk_at dksX5_init_2 10 rfl rfl)
theorem dX5_init_57 : decode cX5_init 57 = .ok (.bipush 8, 2) := dk_16 8 (dk_at dksX5_init_2 11 rfl rfl)
theorem dX5_init_59 : decode cX5_init 59 = .ok (.sipush 300, 3) := dk_17 1 44 (dk_at dksX5_init_2 13 rfl rfl)
theorem dX5_init_62 : decode cX5_init 62 = .ok (.multianewarray 27 2, 4) := by decide +kernel
theorem dX5_init_66 : decode cX5_init 66 = .ok (.putfield 29, 3) := dk_181 0 29 (dk_at dksX5_init_2 20 rfl rfl)
theorem dX5_init_69 : decode cX5_init 69 = .ok (.aload_n 0, 1) := dk_42 (dk_at dksX5_init_2 23 rfl rfl)
theorem dX5_init_70 : decode cX5_init 70 = .ok (.bipush 8, 2) := dk_16 8 (dk_at dksX5_init_3 0 rfl rfl)
theorem dX5_init_72 : decode cX5_init 72 = .ok (.newarray .int, 2) := dk_188_10 (dk_at dksX5_init_3 2 rfl rfl)
theorem dX5_init_74 : decode cX5_init 74 = .ok (.putfield 32, 3) := dk_181 0 32 (dk_at dksX5_init_3 4 rfl rfl)
theorem dX5_init_77 : decode cX5_init 77 = .ok (.aload_n 0, 1) := dk_42 (dk_at dksX5_init_3 7 rfl rfl)
theorem dX5_init_78 : decode cX5_init 78 = .ok (.bipush 8, 2) := dk_16 8 (dk_at dksX5_init_3 8 rfl rfl)
theorem dX5_init_80 : decode cX5_init 80 = .ok (.newarray .int, 2) := dk_188_10 (dk_at dksX5_init_3 10 rfl rfl)
theorem dX5_init_82 : decode cX5_init 82 = .ok (.putfield 36, 3) := dk_181 0 36 (dk_at dksX5_init_3 12 rfl rfl)
theorem dX5_init_85 : decode cX5_init 85 = .ok (.aload_n 0, 1) := dk_42 (dk_at dksX5_init_3 15 rfl rfl)
theorem dX5_init_86 : decode cX5_init 86 = .ok (.bipush 6, 2) := dk_16 6 (dk_at dksX5_init_3 16 rfl rfl)
theorem dX5_init_88 : decode cX5_init 88 = .ok (.newarray .int, 2) := dk_188_10 (dk_at dksX5_init_3 18 rfl rfl)
theorem dX5_init_90 : decode cX5_init 90 = .ok (.putfield 39, 3) := dk_181 0 39 (dk_at dksX5_init_3 20 rfl rfl)
theorem dX5_init_93 : decode cX5_init 93 = .ok (.aload_n 0, 1) := dk_42 (dk_at dksX5_init_3 23 rfl rfl)
theorem dX5_init_94 : decode cX5_init 94 = .ok (.new 42, 3) := dk_187 0 42 (dk_at dksX5_init_4 0 rfl rfl)
theorem dX5_init_97 : decode cX5_init 97 = .ok (.dup, 1) := dk_89 (dk_at dksX5_init_4 3 rfl rfl)
theorem dX5_init_98 : decode cX5_init 98 = .ok (.invokespecial 44, 3) := dk_183 0 44 (dk_at dksX5_init_4 4 rfl rfl)
theorem dX5_init_101 : decode cX5_init 101 = .ok (.putfield 45, 3) := dk_181 0 45 (dk_at dksX5_init_4 7 rfl rfl)
theorem dX5_init_104 : decode cX5_init 104 = .ok (.return_, 1) := dk_177 (dk_at dksX5_init_4 10 rfl rfl)
abbrev cX5_begins : ByteArray := prog_3_method_2_code
def yX5_begins : MethodName := ⟨RX5, "begins", "(LLateMirrors$Text;)V"⟩
def dkwX5_begins_6 : List UInt8 := [167, 255, 193, 42, 43, 182, 0, 86, 177]
abbrev dktX5_begins_6 : List UInt8 := dkwX5_begins_6 ++ []
def dkwX5_begins_5 : List UInt8 := [50, 3, 3, 84, 42, 180, 0, 32, 28, 17, 1, 44, 79, 42, 180, 0, 36, 28, 16, 254, 79, 132, 2, 1]
abbrev dktX5_begins_5 : List UInt8 := dkwX5_begins_5 ++ dktX5_begins_6
def dkwX5_begins_4 : List UInt8 := [28, 50, 3, 43, 180, 0, 80, 28, 182, 0, 69, 192, 0, 83, 180, 0, 85, 145, 84, 42, 180, 0, 24, 28]
abbrev dktX5_begins_4 : List UInt8 := dkwX5_begins_4 ++ dktX5_begins_5
def dkwX5_begins_3 : List UInt8 := [84, 132, 2, 1, 167, 255, 196, 3, 61, 28, 43, 180, 0, 80, 182, 0, 63, 162, 0, 58, 42, 180, 0, 19]
abbrev dktX5_begins_3 : List UInt8 := dkwX5_begins_3 ++ dktX5_begins_4
def dkwX5_begins_2 : List UInt8 := [145, 84, 42, 180, 0, 16, 28, 50, 3, 43, 180, 0, 59, 28, 182, 0, 69, 192, 0, 73, 180, 0, 78, 145]
abbrev dktX5_begins_2 : List UInt8 := dkwX5_begins_2 ++ dktX5_begins_3
def dkwX5_begins_1 : List UInt8 := [162, 0, 55, 42, 180, 0, 11, 28, 50, 3, 43, 180, 0, 59, 28, 182, 0, 69, 192, 0, 73, 180, 0, 75]
abbrev dktX5_begins_1 : List UInt8 := dkwX5_begins_1 ++ dktX5_begins_2
def dkwX5_begins_0 : List UInt8 := [42, 3, 181, 0, 49, 42, 43, 180, 0, 53, 181, 0, 58, 3, 61, 28, 43, 180, 0, 59, 182, 0, 63]
abbrev dktX5_begins_0 : List UInt8 := dkwX5_begins_0 ++ dktX5_begins_1
theorem dksX5_begins_0 : cX5_begins.data.toList.drop 0 = dktX5_begins_0 := by decide +kernel
theorem dksX5_begins_1 : cX5_begins.data.toList.drop 23 = dktX5_begins_1 := dk_seg dksX5_begins_0 23 rfl rfl
theorem dksX5_begins_2 : cX5_begins.data.toList.drop 47 = dktX5_begins_2 := dk_seg dksX5_begins_1 24 rfl rfl
theorem dksX5_begins_3 : cX5_begins.data.toList.drop 71 = dktX5_begins_3 := dk_seg dksX5_begins_2 24 rfl rfl
theorem dksX5_begins_4 : cX5_begins.data.toList.drop 95 = dktX5_begins_4 := dk_seg dksX5_begins_3 24 rfl rfl
theorem dksX5_begins_5 : cX5_begins.data.toList.drop 119 = dktX5_begins_5 := dk_seg dksX5_begins_4 24 rfl rfl
theorem dksX5_begins_6 : cX5_begins.data.toList.drop 143 = dktX5_begins_6 := dk_seg dksX5_begins_5 24 rfl rfl
theorem dX5_begins_0 : decode cX5_begins 0 = .ok (.aload_n 0, 1) := dk_42 (dk_at dksX5_begins_0 0 rfl rfl)
theorem dX5_begins_1 : decode cX5_begins 1 = .ok (.iconst 0, 1) := dk_3 (dk_at dksX5_begins_0 1 rfl rfl)
theorem dX5_begins_2 : decode cX5_begins 2 = .ok (.putfield 49, 3) := dk_181 0 49 (dk_at dksX5_begins_0 2 rfl rfl)
theorem dX5_begins_5 : decode cX5_begins 5 = .ok (.aload_n 0, 1) := dk_42 (dk_at dksX5_begins_0 5 rfl rfl)
theorem dX5_begins_6 : decode cX5_begins 6 = .ok (.aload_n 1, 1) := dk_43 (dk_at dksX5_begins_0 6 rfl rfl)
theorem dX5_begins_7 : decode cX5_begins 7 = .ok (.getfield 53, 3) := dk_180 0 53 (dk_at dksX5_begins_0 7 rfl rfl)
theorem dX5_begins_10 : decode cX5_begins 10 = .ok (.putfield 58, 3) := dk_181 0 58 (dk_at dksX5_begins_0 10 rfl rfl)
theorem dX5_begins_13 : decode cX5_begins 13 = .ok (.iconst 0, 1) := dk_3 (dk_at dksX5_begins_0 13 rfl rfl)
theorem dX5_begins_14 : decode cX5_begins 14 = .ok (.istore_n 2, 1) := dk_61 (dk_at dksX5_begins_0 14 rfl rfl)
theorem dX5_begins_15 : decode cX5_begins 15 = .ok (.iload_n 2, 1) := dk_28 (dk_at dksX5_begins_0 15 rfl rfl)
theorem dX5_begins_16 : decode cX5_begins 16 = .ok (.aload_n 1, 1) := dk_43 (dk_at dksX5_begins_0 16 rfl rfl)
theorem dX5_begins_17 : decode cX5_begins 17 = .ok (.getfield 59, 3) := dk_180 0 59 (dk_at dksX5_begins_0 17 rfl rfl)
theorem dX5_begins_20 : decode cX5_begins 20 = .ok (.invokevirtual 63, 3) := dk_182 0 63 (dk_at dksX5_begins_0 20 rfl rfl)
theorem dX5_begins_23 : decode cX5_begins 23 = .ok (.if_icmp .ge 55, 3) := dk_162 0 55 (dk_at dksX5_begins_1 0 rfl rfl)
theorem dX5_begins_26 : decode cX5_begins 26 = .ok (.aload_n 0, 1) := dk_42 (dk_at dksX5_begins_1 3 rfl rfl)
theorem dX5_begins_27 : decode cX5_begins 27 = .ok (.getfield 11, 3) := dk_180 0 11 (dk_at dksX5_begins_1 4 rfl rfl)
theorem dX5_begins_30 : decode cX5_begins 30 = .ok (.iload_n 2, 1) := dk_28 (dk_at dksX5_begins_1 7 rfl rfl)
theorem dX5_begins_31 : decode cX5_begins 31 = .ok (.aaload, 1) := dk_50 (dk_at dksX5_begins_1 8 rfl rfl)
theorem dX5_begins_32 : decode cX5_begins 32 = .ok (.iconst 0, 1) := dk_3 (dk_at dksX5_begins_1 9 rfl rfl)
theorem dX5_begins_33 : decode cX5_begins 33 = .ok (.aload_n 1, 1) := dk_43 (dk_at dksX5_begins_1 10 rfl rfl)
theorem dX5_begins_34 : decode cX5_begins 34 = .ok (.getfield 59, 3) := dk_180 0 59 (dk_at dksX5_begins_1 11 rfl rfl)
theorem dX5_begins_37 : decode cX5_begins 37 = .ok (.iload_n 2, 1) := dk_28 (dk_at dksX5_begins_1 14 rfl rfl)
theorem dX5_begins_38 : decode cX5_begins 38 = .ok (.invokevirtual 69, 3) := dk_182 0 69 (dk_at dksX5_begins_1 15 rfl rfl)
theorem dX5_begins_41 : decode cX5_begins 41 = .ok (.checkcast 73, 3) := dk_192 0 73 (dk_at dksX5_begins_1 18 rfl rfl)
theorem dX5_begins_44 : decode cX5_begins 44 = .ok (.getfield 75, 3) := dk_180 0 75 (dk_at dksX5_begins_1 21 rfl rfl)
theorem dX5_begins_47 : decode cX5_begins 47 = .ok (.i2b, 1) := dk_145 (dk_at dksX5_begins_2 0 rfl rfl)
theorem dX5_begins_48 : decode cX5_begins 48 = .ok (.bastore, 1) := dk_84 (dk_at dksX5_begins_2 1 rfl rfl)
theorem dX5_begins_49 : decode cX5_begins 49 = .ok (.aload_n 0, 1) := dk_42 (dk_at dksX5_begins_2 2 rfl rfl)
theorem dX5_begins_50 : decode cX5_begins 50 = .ok (.getfield 16, 3) := dk_180 0 16 (dk_at dksX5_begins_2 3 rfl rfl)
theorem dX5_begins_53 : decode cX5_begins 53 = .ok (.iload_n 2, 1) := dk_28 (dk_at dksX5_begins_2 6 rfl rfl)
theorem dX5_begins_54 : decode cX5_begins 54 = .ok (.aaload, 1) := dk_50 (dk_at dksX5_begins_2 7 rfl rfl)
theorem dX5_begins_55 : decode cX5_begins 55 = .ok (.iconst 0, 1) := dk_3 (dk_at dksX5_begins_2 8 rfl rfl)
theorem dX5_begins_56 : decode cX5_begins 56 = .ok (.aload_n 1, 1) := dk_43 (dk_at dksX5_begins_2 9 rfl rfl)
theorem dX5_begins_57 : decode cX5_begins 57 = .ok (.getfield 59, 3) := dk_180 0 59 (dk_at dksX5_begins_2 10 rfl rfl)
theorem dX5_begins_60 : decode cX5_begins 60 = .ok (.iload_n 2, 1) := dk_28 (dk_at dksX5_begins_2 13 rfl rfl)
theorem dX5_begins_61 : decode cX5_begins 61 = .ok (.invokevirtual 69, 3) := dk_182 0 69 (dk_at dksX5_begins_2 14 rfl rfl)
theorem dX5_begins_64 : decode cX5_begins 64 = .ok (.checkcast 73, 3) := dk_192 0 73 (dk_at dksX5_begins_2 17 rfl rfl)
theorem dX5_begins_67 : decode cX5_begins 67 = .ok (.getfield 78, 3) := dk_180 0 78 (dk_at dksX5_begins_2 20 rfl rfl)
theorem dX5_begins_70 : decode cX5_begins 70 = .ok (.i2b, 1) := dk_145 (dk_at dksX5_begins_2 23 rfl rfl)
theorem dX5_begins_71 : decode cX5_begins 71 = .ok (.bastore, 1) := dk_84 (dk_at dksX5_begins_3 0 rfl rfl)
theorem dX5_begins_72 : decode cX5_begins 72 = .ok (.iinc 2 1, 3) := dk_132 2 1 (dk_at dksX5_begins_3 1 rfl rfl)
theorem dX5_begins_75 : decode cX5_begins 75 = .ok (.goto (-60), 3) := dk_167 255 196 (dk_at dksX5_begins_3 4 rfl rfl)
theorem dX5_begins_78 : decode cX5_begins 78 = .ok (.iconst 0, 1) := dk_3 (dk_at dksX5_begins_3 7 rfl rfl)
theorem dX5_begins_79 : decode cX5_begins 79 = .ok (.istore_n 2, 1) := dk_61 (dk_at dksX5_begins_3 8 rfl rfl)
theorem dX5_begins_80 : decode cX5_begins 80 = .ok (.iload_n 2, 1) := dk_28 (dk_at dksX5_begins_3 9 rfl rfl)
theorem dX5_begins_81 : decode cX5_begins 81 = .ok (.aload_n 1, 1) := dk_43 (dk_at dksX5_begins_3 10 rfl rfl)
theorem dX5_begins_82 : decode cX5_begins 82 = .ok (.getfield 80, 3) := dk_180 0 80 (dk_at dksX5_begins_3 11 rfl rfl)
theorem dX5_begins_85 : decode cX5_begins 85 = .ok (.invokevirtual 63, 3) := dk_182 0 63 (dk_at dksX5_begins_3 14 rfl rfl)
theorem dX5_begins_88 : decode cX5_begins 88 = .ok (.if_icmp .ge 58, 3) := dk_162 0 58 (dk_at dksX5_begins_3 17 rfl rfl)
theorem dX5_begins_91 : decode cX5_begins 91 = .ok (.aload_n 0, 1) := dk_42 (dk_at dksX5_begins_3 20 rfl rfl)
theorem dX5_begins_92 : decode cX5_begins 92 = .ok (.getfield 19, 3) := dk_180 0 19 (dk_at dksX5_begins_3 21 rfl rfl)
theorem dX5_begins_95 : decode cX5_begins 95 = .ok (.iload_n 2, 1) := dk_28 (dk_at dksX5_begins_4 0 rfl rfl)
theorem dX5_begins_96 : decode cX5_begins 96 = .ok (.aaload, 1) := dk_50 (dk_at dksX5_begins_4 1 rfl rfl)
theorem dX5_begins_97 : decode cX5_begins 97 = .ok (.iconst 0, 1) := dk_3 (dk_at dksX5_begins_4 2 rfl rfl)
theorem dX5_begins_98 : decode cX5_begins 98 = .ok (.aload_n 1, 1) := dk_43 (dk_at dksX5_begins_4 3 rfl rfl)
theorem dX5_begins_99 : decode cX5_begins 99 = .ok (.getfield 80, 3) := dk_180 0 80 (dk_at dksX5_begins_4 4 rfl rfl)
theorem dX5_begins_102 : decode cX5_begins 102 = .ok (.iload_n 2, 1) := dk_28 (dk_at dksX5_begins_4 7 rfl rfl)
theorem dX5_begins_103 : decode cX5_begins 103 = .ok (.invokevirtual 69, 3) := dk_182 0 69 (dk_at dksX5_begins_4 8 rfl rfl)
theorem dX5_begins_106 : decode cX5_begins 106 = .ok (.checkcast 83, 3) := dk_192 0 83 (dk_at dksX5_begins_4 11 rfl rfl)
theorem dX5_begins_109 : decode cX5_begins 109 = .ok (.getfield 85, 3) := dk_180 0 85 (dk_at dksX5_begins_4 14 rfl rfl)
theorem dX5_begins_112 : decode cX5_begins 112 = .ok (.i2b, 1) := dk_145 (dk_at dksX5_begins_4 17 rfl rfl)
theorem dX5_begins_113 : decode cX5_begins 113 = .ok (.bastore, 1) := dk_84 (dk_at dksX5_begins_4 18 rfl rfl)
theorem dX5_begins_114 : decode cX5_begins 114 = .ok (.aload_n 0, 1) := dk_42 (dk_at dksX5_begins_4 19 rfl rfl)
theorem dX5_begins_115 : decode cX5_begins 115 = .ok (.getfield 24, 3) := dk_180 0 24 (dk_at dksX5_begins_4 20 rfl rfl)
theorem dX5_begins_118 : decode cX5_begins 118 = .ok (.iload_n 2, 1) := dk_28 (dk_at dksX5_begins_4 23 rfl rfl)
theorem dX5_begins_119 : decode cX5_begins 119 = .ok (.aaload, 1) := dk_50 (dk_at dksX5_begins_5 0 rfl rfl)
theorem dX5_begins_120 : decode cX5_begins 120 = .ok (.iconst 0, 1) := dk_3 (dk_at dksX5_begins_5 1 rfl rfl)
theorem dX5_begins_121 : decode cX5_begins 121 = .ok (.iconst 0, 1) := dk_3 (dk_at dksX5_begins_5 2 rfl rfl)
theorem dX5_begins_122 : decode cX5_begins 122 = .ok (.bastore, 1) := dk_84 (dk_at dksX5_begins_5 3 rfl rfl)
theorem dX5_begins_123 : decode cX5_begins 123 = .ok (.aload_n 0, 1) := dk_42 (dk_at dksX5_begins_5 4 rfl rfl)
theorem dX5_begins_124 : decode cX5_begins 124 = .ok (.getfield 32, 3) := dk_180 0 32 (dk_at dksX5_begins_5 5 rfl rfl)
theorem dX5_begins_127 : decode cX5_begins 127 = .ok (.iload_n 2, 1) := dk_28 (dk_at dksX5_begins_5 8 rfl rfl)
theorem dX5_begins_128 : decode cX5_begins 128 = .ok (.sipush 300, 3) := dk_17 1 44 (dk_at dksX5_begins_5 9 rfl rfl)
theorem dX5_begins_131 : decode cX5_begins 131 = .ok (.iastore, 1) := dk_79 (dk_at dksX5_begins_5 12 rfl rfl)
theorem dX5_begins_132 : decode cX5_begins 132 = .ok (.aload_n 0, 1) := dk_42 (dk_at dksX5_begins_5 13 rfl rfl)
theorem dX5_begins_133 : decode cX5_begins 133 = .ok (.getfield 36, 3) := dk_180 0 36 (dk_at dksX5_begins_5 14 rfl rfl)
theorem dX5_begins_136 : decode cX5_begins 136 = .ok (.iload_n 2, 1) := dk_28 (dk_at dksX5_begins_5 17 rfl rfl)
theorem dX5_begins_137 : decode cX5_begins 137 = .ok (.bipush (-2), 2) := dk_16 254 (dk_at dksX5_begins_5 18 rfl rfl)
theorem dX5_begins_139 : decode cX5_begins 139 = .ok (.iastore, 1) := dk_79 (dk_at dksX5_begins_5 20 rfl rfl)
theorem dX5_begins_140 : decode cX5_begins 140 = .ok (.iinc 2 1, 3) := dk_132 2 1 (dk_at dksX5_begins_5 21 rfl rfl)
theorem dX5_begins_143 : decode cX5_begins 143 = .ok (.goto (-63), 3) := dk_167 255 193 (dk_at dksX5_begins_6 0 rfl rfl)
theorem dX5_begins_146 : decode cX5_begins 146 = .ok (.aload_n 0, 1) := dk_42 (dk_at dksX5_begins_6 3 rfl rfl)
theorem dX5_begins_147 : decode cX5_begins 147 = .ok (.aload_n 1, 1) := dk_43 (dk_at dksX5_begins_6 4 rfl rfl)
theorem dX5_begins_148 : decode cX5_begins 148 = .ok (.invokevirtual 86, 3) := dk_182 0 86 (dk_at dksX5_begins_6 5 rfl rfl)
theorem dX5_begins_151 : decode cX5_begins 151 = .ok (.return_, 1) := dk_177 (dk_at dksX5_begins_6 8 rfl rfl)
abbrev cX5_looks : ByteArray := prog_3_method_5_code
def yX5_looks : MethodName := ⟨RX5, "looks", "(LLateMirrors$Text;)V"⟩
def dkwX5_looks_2 : List UInt8 := [180, 0, 49, 51, 182, 0, 138, 147, 86, 132, 2, 1, 167, 255, 200, 177]
abbrev dktX5_looks_2 : List UInt8 := dkwX5_looks_2 ++ []
def dkwX5_looks_1 : List UInt8 := [43, 28, 42, 180, 0, 16, 43, 180, 0, 80, 28, 182, 0, 69, 192, 0, 83, 180, 0, 135, 50, 42]
abbrev dktX5_looks_1 : List UInt8 := dkwX5_looks_1 ++ dktX5_looks_2
def dkwX5_looks_0 : List UInt8 := [3, 61, 28, 43, 180, 0, 80, 182, 0, 63, 162, 0, 51, 42, 180, 0, 29, 28, 50, 42, 180, 0, 49, 42]
abbrev dktX5_looks_0 : List UInt8 := dkwX5_looks_0 ++ dktX5_looks_1
theorem dksX5_looks_0 : cX5_looks.data.toList.drop 0 = dktX5_looks_0 := by decide +kernel
theorem dksX5_looks_1 : cX5_looks.data.toList.drop 24 = dktX5_looks_1 := dk_seg dksX5_looks_0 24 rfl rfl
theorem dksX5_looks_2 : cX5_looks.data.toList.drop 46 = dktX5_looks_2 := dk_seg dksX5_looks_1 22 rfl rfl
theorem dX5_looks_0 : decode cX5_looks 0 = .ok (.iconst 0, 1) := dk_3 (dk_at dksX5_looks_0 0 rfl rfl)
theorem dX5_looks_1 : decode cX5_looks 1 = .ok (.istore_n 2, 1) := dk_61 (dk_at dksX5_looks_0 1 rfl rfl)
theorem dX5_looks_2 : decode cX5_looks 2 = .ok (.iload_n 2, 1) := dk_28 (dk_at dksX5_looks_0 2 rfl rfl)
theorem dX5_looks_3 : decode cX5_looks 3 = .ok (.aload_n 1, 1) := dk_43 (dk_at dksX5_looks_0 3 rfl rfl)
theorem dX5_looks_4 : decode cX5_looks 4 = .ok (.getfield 80, 3) := dk_180 0 80 (dk_at dksX5_looks_0 4 rfl rfl)
theorem dX5_looks_7 : decode cX5_looks 7 = .ok (.invokevirtual 63, 3) := dk_182 0 63 (dk_at dksX5_looks_0 7 rfl rfl)
theorem dX5_looks_10 : decode cX5_looks 10 = .ok (.if_icmp .ge 51, 3) := dk_162 0 51 (dk_at dksX5_looks_0 10 rfl rfl)
theorem dX5_looks_13 : decode cX5_looks 13 = .ok (.aload_n 0, 1) := dk_42 (dk_at dksX5_looks_0 13 rfl rfl)
theorem dX5_looks_14 : decode cX5_looks 14 = .ok (.getfield 29, 3) := dk_180 0 29 (dk_at dksX5_looks_0 14 rfl rfl)
theorem dX5_looks_17 : decode cX5_looks 17 = .ok (.iload_n 2, 1) := dk_28 (dk_at dksX5_looks_0 17 rfl rfl)
theorem dX5_looks_18 : decode cX5_looks 18 = .ok (.aaload, 1) := dk_50 (dk_at dksX5_looks_0 18 rfl rfl)
theorem dX5_looks_19 : decode cX5_looks 19 = .ok (.aload_n 0, 1) := dk_42 (dk_at dksX5_looks_0 19 rfl rfl)
theorem dX5_looks_20 : decode cX5_looks 20 = .ok (.getfield 49, 3) := dk_180 0 49 (dk_at dksX5_looks_0 20 rfl rfl)
theorem dX5_looks_23 : decode cX5_looks 23 = .ok (.aload_n 0, 1) := dk_42 (dk_at dksX5_looks_0 23 rfl rfl)
theorem dX5_looks_24 : decode cX5_looks 24 = .ok (.aload_n 1, 1) := dk_43 (dk_at dksX5_looks_1 0 rfl rfl)
theorem dX5_looks_25 : decode cX5_looks 25 = .ok (.iload_n 2, 1) := dk_28 (dk_at dksX5_looks_1 1 rfl rfl)
theorem dX5_looks_26 : decode cX5_looks 26 = .ok (.aload_n 0, 1) := dk_42 (dk_at dksX5_looks_1 2 rfl rfl)
theorem dX5_looks_27 : decode cX5_looks 27 = .ok (.getfield 16, 3) := dk_180 0 16 (dk_at dksX5_looks_1 3 rfl rfl)
theorem dX5_looks_30 : decode cX5_looks 30 = .ok (.aload_n 1, 1) := dk_43 (dk_at dksX5_looks_1 6 rfl rfl)
theorem dX5_looks_31 : decode cX5_looks 31 = .ok (.getfield 80, 3) := dk_180 0 80 (dk_at dksX5_looks_1 7 rfl rfl)
theorem dX5_looks_34 : decode cX5_looks 34 = .ok (.iload_n 2, 1) := dk_28 (dk_at dksX5_looks_1 10 rfl rfl)
theorem dX5_looks_35 : decode cX5_looks 35 = .ok (.invokevirtual 69, 3) := dk_182 0 69 (dk_at dksX5_looks_1 11 rfl rfl)
theorem dX5_looks_38 : decode cX5_looks 38 = .ok (.checkcast 83, 3) := dk_192 0 83 (dk_at dksX5_looks_1 14 rfl rfl)
theorem dX5_looks_41 : decode cX5_looks 41 = .ok (.getfield 135, 3) := dk_180 0 135 (dk_at dksX5_looks_1 17 rfl rfl)
theorem dX5_looks_44 : decode cX5_looks 44 = .ok (.aaload, 1) := dk_50 (dk_at dksX5_looks_1 20 rfl rfl)
theorem dX5_looks_45 : decode cX5_looks 45 = .ok (.aload_n 0, 1) := dk_42 (dk_at dksX5_looks_1 21 rfl rfl)
theorem dX5_looks_46 : decode cX5_looks 46 = .ok (.getfield 49, 3) := dk_180 0 49 (dk_at dksX5_looks_2 0 rfl rfl)
theorem dX5_looks_49 : decode cX5_looks 49 = .ok (.baload, 1) := dk_51 (dk_at dksX5_looks_2 3 rfl rfl)
theorem dX5_looks_50 : decode cX5_looks 50 = .ok (.invokevirtual 138, 3) := dk_182 0 138 (dk_at dksX5_looks_2 4 rfl rfl)
theorem dX5_looks_53 : decode cX5_looks 53 = .ok (.i2s, 1) := dk_147 (dk_at dksX5_looks_2 7 rfl rfl)
theorem dX5_looks_54 : decode cX5_looks 54 = .ok (.sastore, 1) := dk_86 (dk_at dksX5_looks_2 8 rfl rfl)
theorem dX5_looks_55 : decode cX5_looks 55 = .ok (.iinc 2 1, 3) := dk_132 2 1 (dk_at dksX5_looks_2 9 rfl rfl)
theorem dX5_looks_58 : decode cX5_looks 58 = .ok (.goto (-56), 3) := dk_167 255 200 (dk_at dksX5_looks_2 12 rfl rfl)
theorem dX5_looks_61 : decode cX5_looks 61 = .ok (.return_, 1) := dk_177 (dk_at dksX5_looks_2 15 rfl rfl)
abbrev cX5_lateBy : ByteArray := prog_3_method_4_code
def yX5_lateBy : MethodName := ⟨RX5, "lateBy", "(LLateMirrors$Text;II)I"⟩
def dkwX5_lateBy_5 : List UInt8 := [180, 0, 96, 42, 180, 0, 45, 182, 0, 120, 184, 0, 126, 184, 0, 132, 172]
abbrev dktX5_lateBy_5 : List UInt8 := dkwX5_lateBy_5 ++ []
def dkwX5_lateBy_4 : List UInt8 := [180, 0, 99, 8, 42, 43, 21, 4, 42, 180, 0, 49, 182, 0, 110, 184, 0, 114, 79, 3, 17, 0, 240, 43]
abbrev dktX5_lateBy_4 : List UInt8 := dkwX5_lateBy_4 ++ dktX5_lateBy_5
def dkwX5_lateBy_3 : List UInt8 := [180, 0, 99, 7, 43, 180, 0, 102, 21, 4, 182, 0, 69, 192, 0, 105, 180, 0, 107, 79, 42, 180, 0, 45]
abbrev dktX5_lateBy_3 : List UInt8 := dkwX5_lateBy_3 ++ dktX5_lateBy_4
def dkwX5_lateBy_2 : List UInt8 := [180, 0, 45, 180, 0, 99, 5, 29, 79, 42, 180, 0, 45, 180, 0, 99, 6, 28, 79, 42, 180, 0, 45]
abbrev dktX5_lateBy_2 : List UInt8 := dkwX5_lateBy_2 ++ dktX5_lateBy_3
def dkwX5_lateBy_1 : List UInt8 := [180, 0, 45, 180, 0, 99, 3, 42, 180, 0, 49, 79, 42, 180, 0, 45, 180, 0, 99, 4, 21, 4, 79, 42]
abbrev dktX5_lateBy_1 : List UInt8 := dkwX5_lateBy_1 ++ dktX5_lateBy_2
def dkwX5_lateBy_0 : List UInt8 := [43, 180, 0, 96, 199, 0, 5, 29, 172, 42, 180, 0, 19, 28, 50, 42, 180, 0, 49, 51, 54, 4, 42]
abbrev dktX5_lateBy_0 : List UInt8 := dkwX5_lateBy_0 ++ dktX5_lateBy_1
theorem dksX5_lateBy_0 : cX5_lateBy.data.toList.drop 0 = dktX5_lateBy_0 := by decide +kernel
theorem dksX5_lateBy_1 : cX5_lateBy.data.toList.drop 23 = dktX5_lateBy_1 := dk_seg dksX5_lateBy_0 23 rfl rfl
theorem dksX5_lateBy_2 : cX5_lateBy.data.toList.drop 47 = dktX5_lateBy_2 := dk_seg dksX5_lateBy_1 24 rfl rfl
theorem dksX5_lateBy_3 : cX5_lateBy.data.toList.drop 70 = dktX5_lateBy_3 := dk_seg dksX5_lateBy_2 23 rfl rfl
theorem dksX5_lateBy_4 : cX5_lateBy.data.toList.drop 94 = dktX5_lateBy_4 := dk_seg dksX5_lateBy_3 24 rfl rfl
theorem dksX5_lateBy_5 : cX5_lateBy.data.toList.drop 118 = dktX5_lateBy_5 := dk_seg dksX5_lateBy_4 24 rfl rfl
theorem dX5_lateBy_0 : decode cX5_lateBy 0 = .ok (.aload_n 1, 1) := dk_43 (dk_at dksX5_lateBy_0 0 rfl rfl)
theorem dX5_lateBy_1 : decode cX5_lateBy 1 = .ok (.getfield 96, 3) := dk_180 0 96 (dk_at dksX5_lateBy_0 1 rfl rfl)
theorem dX5_lateBy_4 : decode cX5_lateBy 4 = .ok (.ifnonnull 5, 3) := dk_199 0 5 (dk_at dksX5_lateBy_0 4 rfl rfl)
theorem dX5_lateBy_7 : decode cX5_lateBy 7 = .ok (.iload_n 3, 1) := dk_29 (dk_at dksX5_lateBy_0 7 rfl rfl)
theorem dX5_lateBy_8 : decode cX5_lateBy 8 = .ok (.ireturn, 1) := dk_172 (dk_at dksX5_lateBy_0 8 rfl rfl)
theorem dX5_lateBy_9 : decode cX5_lateBy 9 = .ok (.aload_n 0, 1) := dk_42 (dk_at dksX5_lateBy_0 9 rfl rfl)
theorem dX5_lateBy_10 : decode cX5_lateBy 10 = .ok (.getfield 19, 3) := dk_180 0 19 (dk_at dksX5_lateBy_0 10 rfl rfl)
theorem dX5_lateBy_13 : decode cX5_lateBy 13 = .ok (.iload_n 2, 1) := dk_28 (dk_at dksX5_lateBy_0 13 rfl rfl)
theorem dX5_lateBy_14 : decode cX5_lateBy 14 = .ok (.aaload, 1) := dk_50 (dk_at dksX5_lateBy_0 14 rfl rfl)
theorem dX5_lateBy_15 : decode cX5_lateBy 15 = .ok (.aload_n 0, 1) := dk_42 (dk_at dksX5_lateBy_0 15 rfl rfl)
theorem dX5_lateBy_16 : decode cX5_lateBy 16 = .ok (.getfield 49, 3) := dk_180 0 49 (dk_at dksX5_lateBy_0 16 rfl rfl)
theorem dX5_lateBy_19 : decode cX5_lateBy 19 = .ok (.baload, 1) := dk_51 (dk_at dksX5_lateBy_0 19 rfl rfl)
theorem dX5_lateBy_20 : decode cX5_lateBy 20 = .ok (.istore 4, 2) := dk_54 4 (dk_at dksX5_lateBy_0 20 rfl rfl)
theorem dX5_lateBy_22 : decode cX5_lateBy 22 = .ok (.aload_n 0, 1) := dk_42 (dk_at dksX5_lateBy_0 22 rfl rfl)
theorem dX5_lateBy_23 : decode cX5_lateBy 23 = .ok (.getfield 45, 3) := dk_180 0 45 (dk_at dksX5_lateBy_1 0 rfl rfl)
theorem dX5_lateBy_26 : decode cX5_lateBy 26 = .ok (.getfield 99, 3) := dk_180 0 99 (dk_at dksX5_lateBy_1 3 rfl rfl)
theorem dX5_lateBy_29 : decode cX5_lateBy 29 = .ok (.iconst 0, 1) := dk_3 (dk_at dksX5_lateBy_1 6 rfl rfl)
theorem dX5_lateBy_30 : decode cX5_lateBy 30 = .ok (.aload_n 0, 1) := dk_42 (dk_at dksX5_lateBy_1 7 rfl rfl)
theorem dX5_lateBy_31 : decode cX5_lateBy 31 = .ok (.getfield 49, 3) := dk_180 0 49 (dk_at dksX5_lateBy_1 8 rfl rfl)
theorem dX5_lateBy_34 : decode cX5_lateBy 34 = .ok (.iastore, 1) := dk_79 (dk_at dksX5_lateBy_1 11 rfl rfl)
theorem dX5_lateBy_35 : decode cX5_lateBy 35 = .ok (.aload_n 0, 1) := dk_42 (dk_at dksX5_lateBy_1 12 rfl rfl)
theorem dX5_lateBy_36 : decode cX5_lateBy 36 = .ok (.getfield 45, 3) := dk_180 0 45 (dk_at dksX5_lateBy_1 13 rfl rfl)
theorem dX5_lateBy_39 : decode cX5_lateBy 39 = .ok (.getfield 99, 3) := dk_180 0 99 (dk_at dksX5_lateBy_1 16 rfl rfl)
theorem dX5_lateBy_42 : decode cX5_lateBy 42 = .ok (.iconst 1, 1) := dk_4 (dk_at dksX5_lateBy_1 19 rfl rfl)
theorem dX5_lateBy_43 : decode cX5_lateBy 43 = .ok (.iload 4, 2) := dk_21 4 (dk_at dksX5_lateBy_1 20 rfl rfl)
theorem dX5_lateBy_45 : decode cX5_lateBy 45 = .ok (.iastore, 1) := dk_79 (dk_at dksX5_lateBy_1 22 rfl rfl)
theorem dX5_lateBy_46 : decode cX5_lateBy 46 = .ok (.aload_n 0, 1) := dk_42 (dk_at dksX5_lateBy_1 23 rfl rfl)
theorem dX5_lateBy_47 : decode cX5_lateBy 47 = .ok (.getfield 45, 3) := dk_180 0 45 (dk_at dksX5_lateBy_2 0 rfl rfl)
theorem dX5_lateBy_50 : decode cX5_lateBy 50 = .ok (.getfield 99, 3) := dk_180 0 99 (dk_at dksX5_lateBy_2 3 rfl rfl)
theorem dX5_lateBy_53 : decode cX5_lateBy 53 = .ok (.iconst 2, 1) := dk_5 (dk_at dksX5_lateBy_2 6 rfl rfl)
theorem dX5_lateBy_54 : decode cX5_lateBy 54 = .ok (.iload_n 3, 1) := dk_29 (dk_at dksX5_lateBy_2 7 rfl rfl)
theorem dX5_lateBy_55 : decode cX5_lateBy 55 = .ok (.iastore, 1) := dk_79 (dk_at dksX5_lateBy_2 8 rfl rfl)
theorem dX5_lateBy_56 : decode cX5_lateBy 56 = .ok (.aload_n 0, 1) := dk_42 (dk_at dksX5_lateBy_2 9 rfl rfl)
theorem dX5_lateBy_57 : decode cX5_lateBy 57 = .ok (.getfield 45, 3) := dk_180 0 45 (dk_at dksX5_lateBy_2 10 rfl rfl)
theorem dX5_lateBy_60 : decode cX5_lateBy 60 = .ok (.getfield 99, 3) := dk_180 0 99 (dk_at dksX5_lateBy_2 13 rfl rfl)
theorem dX5_lateBy_63 : decode cX5_lateBy 63 = .ok (.iconst 3, 1) := dk_6 (dk_at dksX5_lateBy_2 16 rfl rfl)
theorem dX5_lateBy_64 : decode cX5_lateBy 64 = .ok (.iload_n 2, 1) := dk_28 (dk_at dksX5_lateBy_2 17 rfl rfl)
theorem dX5_lateBy_65 : decode cX5_lateBy 65 = .ok (.iastore, 1) := dk_79 (dk_at dksX5_lateBy_2 18 rfl rfl)
theorem dX5_lateBy_66 : decode cX5_lateBy 66 = .ok (.aload_n 0, 1) := dk_42 (dk_at dksX5_lateBy_2 19 rfl rfl)
theorem dX5_lateBy_67 : decode cX5_lateBy 67 = .ok (.getfield 45, 3) := dk_180 0 45 (dk_at dksX5_lateBy_2 20 rfl rfl)
theorem dX5_lateBy_70 : decode cX5_lateBy 70 = .ok (.getfield 99, 3) := dk_180 0 99 (dk_at dksX5_lateBy_3 0 rfl rfl)
theorem dX5_lateBy_73 : decode cX5_lateBy 73 = .ok (.iconst 4, 1) := dk_7 (dk_at dksX5_lateBy_3 3 rfl rfl)
theorem dX5_lateBy_74 : decode cX5_lateBy 74 = .ok (.aload_n 1, 1) := dk_43 (dk_at dksX5_lateBy_3 4 rfl rfl)
theorem dX5_lateBy_75 : decode cX5_lateBy 75 = .ok (.getfield 102, 3) := dk_180 0 102 (dk_at dksX5_lateBy_3 5 rfl rfl)
theorem dX5_lateBy_78 : decode cX5_lateBy 78 = .ok (.iload 4, 2) := dk_21 4 (dk_at dksX5_lateBy_3 8 rfl rfl)
theorem dX5_lateBy_80 : decode cX5_lateBy 80 = .ok (.invokevirtual 69, 3) := dk_182 0 69 (dk_at dksX5_lateBy_3 10 rfl rfl)
theorem dX5_lateBy_83 : decode cX5_lateBy 83 = .ok (.checkcast 105, 3) := dk_192 0 105 (dk_at dksX5_lateBy_3 13 rfl rfl)
theorem dX5_lateBy_86 : decode cX5_lateBy 86 = .ok (.getfield 107, 3) := dk_180 0 107 (dk_at dksX5_lateBy_3 16 rfl rfl)
theorem dX5_lateBy_89 : decode cX5_lateBy 89 = .ok (.iastore, 1) := dk_79 (dk_at dksX5_lateBy_3 19 rfl rfl)
theorem dX5_lateBy_90 : decode cX5_lateBy 90 = .ok (.aload_n 0, 1) := dk_42 (dk_at dksX5_lateBy_3 20 rfl rfl)
theorem dX5_lateBy_91 : decode cX5_lateBy 91 = .ok (.getfield 45, 3) := dk_180 0 45 (dk_at dksX5_lateBy_3 21 rfl rfl)
theorem dX5_lateBy_94 : decode cX5_lateBy 94 = .ok (.getfield 99, 3) := dk_180 0 99 (dk_at dksX5_lateBy_4 0 rfl rfl)
theorem dX5_lateBy_97 : decode cX5_lateBy 97 = .ok (.iconst 5, 1) := dk_8 (dk_at dksX5_lateBy_4 3 rfl rfl)
theorem dX5_lateBy_98 : decode cX5_lateBy 98 = .ok (.aload_n 0, 1) := dk_42 (dk_at dksX5_lateBy_4 4 rfl rfl)
theorem dX5_lateBy_99 : decode cX5_lateBy 99 = .ok (.aload_n 1, 1) := dk_43 (dk_at dksX5_lateBy_4 5 rfl rfl)
theorem dX5_lateBy_100 : decode cX5_lateBy 100 = .ok (.iload 4, 2) := dk_21 4 (dk_at dksX5_lateBy_4 6 rfl rfl)
theorem dX5_lateBy_102 : decode cX5_lateBy 102 = .ok (.aload_n 0, 1) := dk_42 (dk_at dksX5_lateBy_4 8 rfl rfl)
theorem dX5_lateBy_103 : decode cX5_lateBy 103 = .ok (.getfield 49, 3) := dk_180 0 49 (dk_at dksX5_lateBy_4 9 rfl rfl)
theorem dX5_lateBy_106 : decode cX5_lateBy 106 = .ok (.invokevirtual 110, 3) := dk_182 0 110 (dk_at dksX5_lateBy_4 12 rfl rfl)
theorem dX5_lateBy_109 : decode cX5_lateBy 109 = .ok (.invokestatic 114, 3) := dk_184 0 114 (dk_at dksX5_lateBy_4 15 rfl rfl)
theorem dX5_lateBy_112 : decode cX5_lateBy 112 = .ok (.iastore, 1) := dk_79 (dk_at dksX5_lateBy_4 18 rfl rfl)
theorem dX5_lateBy_113 : decode cX5_lateBy 113 = .ok (.iconst 0, 1) := dk_3 (dk_at dksX5_lateBy_4 19 rfl rfl)
theorem dX5_lateBy_114 : decode cX5_lateBy 114 = .ok (.sipush 240, 3) := dk_17 0 240 (dk_at dksX5_lateBy_4 20 rfl rfl)
theorem dX5_lateBy_117 : decode cX5_lateBy 117 = .ok (.aload_n 1, 1) := dk_43 (dk_at dksX5_lateBy_4 23 rfl rfl)
theorem dX5_lateBy_118 : decode cX5_lateBy 118 = .ok (.getfield 96, 3) := dk_180 0 96 (dk_at dksX5_lateBy_5 0 rfl rfl)
theorem dX5_lateBy_121 : decode cX5_lateBy 121 = .ok (.aload_n 0, 1) := dk_42 (dk_at dksX5_lateBy_5 3 rfl rfl)
theorem dX5_lateBy_122 : decode cX5_lateBy 122 = .ok (.getfield 45, 3) := dk_180 0 45 (dk_at dksX5_lateBy_5 4 rfl rfl)
theorem dX5_lateBy_125 : decode cX5_lateBy 125 = .ok (.invokevirtual 120, 3) := dk_182 0 120 (dk_at dksX5_lateBy_5 7 rfl rfl)
theorem dX5_lateBy_128 : decode cX5_lateBy 128 = .ok (.invokestatic 126, 3) := dk_184 0 126 (dk_at dksX5_lateBy_5 10 rfl rfl)
theorem dX5_lateBy_131 : decode cX5_lateBy 131 = .ok (.invokestatic 132, 3) := dk_184 0 132 (dk_at dksX5_lateBy_5 13 rfl rfl)
theorem dX5_lateBy_134 : decode cX5_lateBy 134 = .ok (.ireturn, 1) := dk_172 (dk_at dksX5_lateBy_5 16 rfl rfl)
abbrev cX5_menIn : ByteArray := prog_3_method_8_code
def yX5_menIn : MethodName := ⟨RX5, "menIn", "(LLateMirrors$Text;II)I"⟩
def dkwX5_menIn_2 : List UInt8 := [167, 255, 215, 21, 4, 172]
abbrev dktX5_menIn_2 : List UInt8 := dkwX5_menIn_2 ++ []
def dkwX5_menIn_1 : List UInt8 := [21, 5, 50, 29, 51, 28, 160, 0, 10, 4, 21, 5, 120, 167, 0, 4, 3, 128, 54, 4, 132, 5, 1]
abbrev dktX5_menIn_1 : List UInt8 := dkwX5_menIn_1 ++ dktX5_menIn_2
def dkwX5_menIn_0 : List UInt8 := [3, 54, 4, 3, 54, 5, 21, 5, 43, 180, 0, 59, 182, 0, 63, 162, 0, 35, 21, 4, 42, 180, 0, 11]
abbrev dktX5_menIn_0 : List UInt8 := dkwX5_menIn_0 ++ dktX5_menIn_1
theorem dksX5_menIn_0 : cX5_menIn.data.toList.drop 0 = dktX5_menIn_0 := by decide +kernel
theorem dksX5_menIn_1 : cX5_menIn.data.toList.drop 24 = dktX5_menIn_1 := dk_seg dksX5_menIn_0 24 rfl rfl
theorem dksX5_menIn_2 : cX5_menIn.data.toList.drop 47 = dktX5_menIn_2 := dk_seg dksX5_menIn_1 23 rfl rfl
theorem dX5_menIn_0 : decode cX5_menIn 0 = .ok (.iconst 0, 1) := dk_3 (dk_at dksX5_menIn_0 0 rfl rfl)
theorem dX5_menIn_1 : decode cX5_menIn 1 = .ok (.istore 4, 2) := dk_54 4 (dk_at dksX5_menIn_0 1 rfl rfl)
theorem dX5_menIn_3 : decode cX5_menIn 3 = .ok (.iconst 0, 1) := dk_3 (dk_at dksX5_menIn_0 3 rfl rfl)
theorem dX5_menIn_4 : decode cX5_menIn 4 = .ok (.istore 5, 2) := dk_54 5 (dk_at dksX5_menIn_0 4 rfl rfl)
theorem dX5_menIn_6 : decode cX5_menIn 6 = .ok (.iload 5, 2) := dk_21 5 (dk_at dksX5_menIn_0 6 rfl rfl)
theorem dX5_menIn_8 : decode cX5_menIn 8 = .ok (.aload_n 1, 1) := dk_43 (dk_at dksX5_menIn_0 8 rfl rfl)
theorem dX5_menIn_9 : decode cX5_menIn 9 = .ok (.getfield 59, 3) := dk_180 0 59 (dk_at dksX5_menIn_0 9 rfl rfl)
theorem dX5_menIn_12 : decode cX5_menIn 12 = .ok (.invokevirtual 63, 3) := dk_182 0 63 (dk_at dksX5_menIn_0 12 rfl rfl)
theorem dX5_menIn_15 : decode cX5_menIn 15 = .ok (.if_icmp .ge 35, 3) := dk_162 0 35 (dk_at dksX5_menIn_0 15 rfl rfl)
theorem dX5_menIn_18 : decode cX5_menIn 18 = .ok (.iload 4, 2) := dk_21 4 (dk_at dksX5_menIn_0 18 rfl rfl)
theorem dX5_menIn_20 : decode cX5_menIn 20 = .ok (.aload_n 0, 1) := dk_42 (dk_at dksX5_menIn_0 20 rfl rfl)
theorem dX5_menIn_21 : decode cX5_menIn 21 = .ok (.getfield 11, 3) := dk_180 0 11 (dk_at dksX5_menIn_0 21 rfl rfl)
theorem dX5_menIn_24 : decode cX5_menIn 24 = .ok (.iload 5, 2) := dk_21 5 (dk_at dksX5_menIn_1 0 rfl rfl)
theorem dX5_menIn_26 : decode cX5_menIn 26 = .ok (.aaload, 1) := dk_50 (dk_at dksX5_menIn_1 2 rfl rfl)
theorem dX5_menIn_27 : decode cX5_menIn 27 = .ok (.iload_n 3, 1) := dk_29 (dk_at dksX5_menIn_1 3 rfl rfl)
theorem dX5_menIn_28 : decode cX5_menIn 28 = .ok (.baload, 1) := dk_51 (dk_at dksX5_menIn_1 4 rfl rfl)
theorem dX5_menIn_29 : decode cX5_menIn 29 = .ok (.iload_n 2, 1) := dk_28 (dk_at dksX5_menIn_1 5 rfl rfl)
theorem dX5_menIn_30 : decode cX5_menIn 30 = .ok (.if_icmp .ne 10, 3) := dk_160 0 10 (dk_at dksX5_menIn_1 6 rfl rfl)
theorem dX5_menIn_33 : decode cX5_menIn 33 = .ok (.iconst 1, 1) := dk_4 (dk_at dksX5_menIn_1 9 rfl rfl)
theorem dX5_menIn_34 : decode cX5_menIn 34 = .ok (.iload 5, 2) := dk_21 5 (dk_at dksX5_menIn_1 10 rfl rfl)
theorem dX5_menIn_36 : decode cX5_menIn 36 = .ok (.ishl, 1) := dk_120 (dk_at dksX5_menIn_1 12 rfl rfl)
theorem dX5_menIn_37 : decode cX5_menIn 37 = .ok (.goto 4, 3) := dk_167 0 4 (dk_at dksX5_menIn_1 13 rfl rfl)
theorem dX5_menIn_40 : decode cX5_menIn 40 = .ok (.iconst 0, 1) := dk_3 (dk_at dksX5_menIn_1 16 rfl rfl)
theorem dX5_menIn_41 : decode cX5_menIn 41 = .ok (.ior, 1) := dk_128 (dk_at dksX5_menIn_1 17 rfl rfl)
theorem dX5_menIn_42 : decode cX5_menIn 42 = .ok (.istore 4, 2) := dk_54 4 (dk_at dksX5_menIn_1 18 rfl rfl)
theorem dX5_menIn_44 : decode cX5_menIn 44 = .ok (.iinc 5 1, 3) := dk_132 5 1 (dk_at dksX5_menIn_1 20 rfl rfl)
theorem dX5_menIn_47 : decode cX5_menIn 47 = .ok (.goto (-41), 3) := dk_167 255 215 (dk_at dksX5_menIn_2 0 rfl rfl)
theorem dX5_menIn_50 : decode cX5_menIn 50 = .ok (.iload 4, 2) := dk_21 4 (dk_at dksX5_menIn_2 3 rfl rfl)
theorem dX5_menIn_52 : decode cX5_menIn 52 = .ok (.ireturn, 1) := dk_172 (dk_at dksX5_menIn_2 5 rfl rfl)
abbrev cX5_shows : ByteArray := prog_3_method_7_code
def yX5_shows : MethodName := ⟨RX5, "shows", "(II)I"⟩
def dkwX5_shows_2 : List UInt8 := [180, 0, 24, 27, 50, 29, 51, 153, 0, 8, 16, 254, 167, 0, 4, 29, 172]
abbrev dktX5_shows_2 : List UInt8 := dkwX5_shows_2 ++ []
def dkwX5_shows_1 : List UInt8 := [180, 0, 36, 27, 46, 167, 0, 13, 28, 42, 180, 0, 29, 27, 50, 28, 53, 100, 62, 29, 155, 0, 14, 42]
abbrev dktX5_shows_1 : List UInt8 := dkwX5_shows_1 ++ dktX5_shows_2
def dkwX5_shows_0 : List UInt8 := [42, 180, 0, 24, 27, 50, 28, 51, 153, 0, 6, 16, 254, 172, 42, 27, 28, 182, 0, 141, 153, 0, 12, 42]
abbrev dktX5_shows_0 : List UInt8 := dkwX5_shows_0 ++ dktX5_shows_1
theorem dksX5_shows_0 : cX5_shows.data.toList.drop 0 = dktX5_shows_0 := by decide +kernel
theorem dksX5_shows_1 : cX5_shows.data.toList.drop 24 = dktX5_shows_1 := dk_seg dksX5_shows_0 24 rfl rfl
theorem dksX5_shows_2 : cX5_shows.data.toList.drop 48 = dktX5_shows_2 := dk_seg dksX5_shows_1 24 rfl rfl
theorem dX5_shows_0 : decode cX5_shows 0 = .ok (.aload_n 0, 1) := dk_42 (dk_at dksX5_shows_0 0 rfl rfl)
theorem dX5_shows_1 : decode cX5_shows 1 = .ok (.getfield 24, 3) := dk_180 0 24 (dk_at dksX5_shows_0 1 rfl rfl)
theorem dX5_shows_4 : decode cX5_shows 4 = .ok (.iload_n 1, 1) := dk_27 (dk_at dksX5_shows_0 4 rfl rfl)
theorem dX5_shows_5 : decode cX5_shows 5 = .ok (.aaload, 1) := dk_50 (dk_at dksX5_shows_0 5 rfl rfl)
theorem dX5_shows_6 : decode cX5_shows 6 = .ok (.iload_n 2, 1) := dk_28 (dk_at dksX5_shows_0 6 rfl rfl)
theorem dX5_shows_7 : decode cX5_shows 7 = .ok (.baload, 1) := dk_51 (dk_at dksX5_shows_0 7 rfl rfl)
theorem dX5_shows_8 : decode cX5_shows 8 = .ok (.ifCond .eq 6, 3) := dk_153 0 6 (dk_at dksX5_shows_0 8 rfl rfl)
theorem dX5_shows_11 : decode cX5_shows 11 = .ok (.bipush (-2), 2) := dk_16 254 (dk_at dksX5_shows_0 11 rfl rfl)
theorem dX5_shows_13 : decode cX5_shows 13 = .ok (.ireturn, 1) := dk_172 (dk_at dksX5_shows_0 13 rfl rfl)
theorem dX5_shows_14 : decode cX5_shows 14 = .ok (.aload_n 0, 1) := dk_42 (dk_at dksX5_shows_0 14 rfl rfl)
theorem dX5_shows_15 : decode cX5_shows 15 = .ok (.iload_n 1, 1) := dk_27 (dk_at dksX5_shows_0 15 rfl rfl)
theorem dX5_shows_16 : decode cX5_shows 16 = .ok (.iload_n 2, 1) := dk_28 (dk_at dksX5_shows_0 16 rfl rfl)
theorem dX5_shows_17 : decode cX5_shows 17 = .ok (.invokevirtual 141, 3) := dk_182 0 141 (dk_at dksX5_shows_0 17 rfl rfl)
theorem dX5_shows_20 : decode cX5_shows 20 = .ok (.ifCond .eq 12, 3) := dk_153 0 12 (dk_at dksX5_shows_0 20 rfl rfl)
theorem dX5_shows_23 : decode cX5_shows 23 = .ok (.aload_n 0, 1) := dk_42 (dk_at dksX5_shows_0 23 rfl rfl)
theorem dX5_shows_24 : decode cX5_shows 24 = .ok (.getfield 36, 3) := dk_180 0 36 (dk_at dksX5_shows_1 0 rfl rfl)
theorem dX5_shows_27 : decode cX5_shows 27 = .ok (.iload_n 1, 1) := dk_27 (dk_at dksX5_shows_1 3 rfl rfl)
theorem dX5_shows_28 : decode cX5_shows 28 = .ok (.iaload, 1) := dk_46 (dk_at dksX5_shows_1 4 rfl rfl)
theorem dX5_shows_29 : decode cX5_shows 29 = .ok (.goto 13, 3) := dk_167 0 13 (dk_at dksX5_shows_1 5 rfl rfl)
theorem dX5_shows_32 : decode cX5_shows 32 = .ok (.iload_n 2, 1) := dk_28 (dk_at dksX5_shows_1 8 rfl rfl)
theorem dX5_shows_33 : decode cX5_shows 33 = .ok (.aload_n 0, 1) := dk_42 (dk_at dksX5_shows_1 9 rfl rfl)
theorem dX5_shows_34 : decode cX5_shows 34 = .ok (.getfield 29, 3) := dk_180 0 29 (dk_at dksX5_shows_1 10 rfl rfl)
theorem dX5_shows_37 : decode cX5_shows 37 = .ok (.iload_n 1, 1) := dk_27 (dk_at dksX5_shows_1 13 rfl rfl)
theorem dX5_shows_38 : decode cX5_shows 38 = .ok (.aaload, 1) := dk_50 (dk_at dksX5_shows_1 14 rfl rfl)
theorem dX5_shows_39 : decode cX5_shows 39 = .ok (.iload_n 2, 1) := dk_28 (dk_at dksX5_shows_1 15 rfl rfl)
theorem dX5_shows_40 : decode cX5_shows 40 = .ok (.saload, 1) := dk_53 (dk_at dksX5_shows_1 16 rfl rfl)
theorem dX5_shows_41 : decode cX5_shows 41 = .ok (.isub, 1) := dk_100 (dk_at dksX5_shows_1 17 rfl rfl)
theorem dX5_shows_42 : decode cX5_shows 42 = .ok (.istore_n 3, 1) := dk_62 (dk_at dksX5_shows_1 18 rfl rfl)
theorem dX5_shows_43 : decode cX5_shows 43 = .ok (.iload_n 3, 1) := dk_29 (dk_at dksX5_shows_1 19 rfl rfl)
theorem dX5_shows_44 : decode cX5_shows 44 = .ok (.ifCond .lt 14, 3) := dk_155 0 14 (dk_at dksX5_shows_1 20 rfl rfl)
theorem dX5_shows_47 : decode cX5_shows 47 = .ok (.aload_n 0, 1) := dk_42 (dk_at dksX5_shows_1 23 rfl rfl)
theorem dX5_shows_48 : decode cX5_shows 48 = .ok (.getfield 24, 3) := dk_180 0 24 (dk_at dksX5_shows_2 0 rfl rfl)
theorem dX5_shows_51 : decode cX5_shows 51 = .ok (.iload_n 1, 1) := dk_27 (dk_at dksX5_shows_2 3 rfl rfl)
theorem dX5_shows_52 : decode cX5_shows 52 = .ok (.aaload, 1) := dk_50 (dk_at dksX5_shows_2 4 rfl rfl)
theorem dX5_shows_53 : decode cX5_shows 53 = .ok (.iload_n 3, 1) := dk_29 (dk_at dksX5_shows_2 5 rfl rfl)
theorem dX5_shows_54 : decode cX5_shows 54 = .ok (.baload, 1) := dk_51 (dk_at dksX5_shows_2 6 rfl rfl)
theorem dX5_shows_55 : decode cX5_shows 55 = .ok (.ifCond .eq 8, 3) := dk_153 0 8 (dk_at dksX5_shows_2 7 rfl rfl)
theorem dX5_shows_58 : decode cX5_shows 58 = .ok (.bipush (-2), 2) := dk_16 254 (dk_at dksX5_shows_2 10 rfl rfl)
theorem dX5_shows_60 : decode cX5_shows 60 = .ok (.goto 4, 3) := dk_167 0 4 (dk_at dksX5_shows_2 12 rfl rfl)
theorem dX5_shows_63 : decode cX5_shows 63 = .ok (.iload_n 3, 1) := dk_29 (dk_at dksX5_shows_2 15 rfl rfl)
theorem dX5_shows_64 : decode cX5_shows 64 = .ok (.ireturn, 1) := dk_172 (dk_at dksX5_shows_2 16 rfl rfl)
abbrev cX5_isBroken : ByteArray := prog_3_method_6_code
def yX5_isBroken : MethodName := ⟨RX5, "isBroken", "(II)Z"⟩
def dkwX5_isBroken_0 : List UInt8 := [42, 180, 0, 32, 27, 46, 28, 163, 0, 7, 4, 167, 0, 4, 3, 172]
abbrev dktX5_isBroken_0 : List UInt8 := dkwX5_isBroken_0 ++ []
theorem dksX5_isBroken_0 : cX5_isBroken.data.toList.drop 0 = dktX5_isBroken_0 := by decide +kernel
theorem dX5_isBroken_0 : decode cX5_isBroken 0 = .ok (.aload_n 0, 1) := dk_42 (dk_at dksX5_isBroken_0 0 rfl rfl)
theorem dX5_isBroken_1 : decode cX5_isBroken 1 = .ok (.getfield 32, 3) := dk_180 0 32 (dk_at dksX5_isBroken_0 1 rfl rfl)
theorem dX5_isBroken_4 : decode cX5_isBroken 4 = .ok (.iload_n 1, 1) := dk_27 (dk_at dksX5_isBroken_0 4 rfl rfl)
theorem dX5_isBroken_5 : decode cX5_isBroken 5 = .ok (.iaload, 1) := dk_46 (dk_at dksX5_isBroken_0 5 rfl rfl)
theorem dX5_isBroken_6 : decode cX5_isBroken 6 = .ok (.iload_n 2, 1) := dk_28 (dk_at dksX5_isBroken_0 6 rfl rfl)
theorem dX5_isBroken_7 : decode cX5_isBroken 7 = .ok (.if_icmp .gt 7, 3) := dk_163 0 7 (dk_at dksX5_isBroken_0 7 rfl rfl)
theorem dX5_isBroken_10 : decode cX5_isBroken 10 = .ok (.iconst 1, 1) := dk_4 (dk_at dksX5_isBroken_0 10 rfl rfl)
theorem dX5_isBroken_11 : decode cX5_isBroken 11 = .ok (.goto 4, 3) := dk_167 0 4 (dk_at dksX5_isBroken_0 11 rfl rfl)
theorem dX5_isBroken_14 : decode cX5_isBroken 14 = .ok (.iconst 0, 1) := dk_3 (dk_at dksX5_isBroken_0 14 rfl rfl)
theorem dX5_isBroken_15 : decode cX5_isBroken 15 = .ok (.ireturn, 1) := dk_172 (dk_at dksX5_isBroken_0 15 rfl rfl)
abbrev cX5_menShown : ByteArray := prog_3_method_9_code
def yX5_menShown : MethodName := ⟨RX5, "menShown", "(LLateMirrors$Text;II)I"⟩
def dkwX5_menShown_1 : List UInt8 := [50, 21, 4, 51, 21, 4, 182, 0, 110, 172]
abbrev dktX5_menShown_1 : List UInt8 := dkwX5_menShown_1 ++ []
def dkwX5_menShown_0 : List UInt8 := [42, 28, 29, 182, 0, 145, 54, 4, 21, 4, 156, 0, 7, 3, 167, 0, 19, 42, 43, 42, 180, 0, 19, 28]
abbrev dktX5_menShown_0 : List UInt8 := dkwX5_menShown_0 ++ dktX5_menShown_1
theorem dksX5_menShown_0 : cX5_menShown.data.toList.drop 0 = dktX5_menShown_0 := by decide +kernel
theorem dksX5_menShown_1 : cX5_menShown.data.toList.drop 24 = dktX5_menShown_1 := dk_seg dksX5_menShown_0 24 rfl rfl
theorem dX5_menShown_0 : decode cX5_menShown 0 = .ok (.aload_n 0, 1) := dk_42 (dk_at dksX5_menShown_0 0 rfl rfl)
theorem dX5_menShown_1 : decode cX5_menShown 1 = .ok (.iload_n 2, 1) := dk_28 (dk_at dksX5_menShown_0 1 rfl rfl)
theorem dX5_menShown_2 : decode cX5_menShown 2 = .ok (.iload_n 3, 1) := dk_29 (dk_at dksX5_menShown_0 2 rfl rfl)
theorem dX5_menShown_3 : decode cX5_menShown 3 = .ok (.invokevirtual 145, 3) := dk_182 0 145 (dk_at dksX5_menShown_0 3 rfl rfl)
theorem dX5_menShown_6 : decode cX5_menShown 6 = .ok (.istore 4, 2) := dk_54 4 (dk_at dksX5_menShown_0 6 rfl rfl)
theorem dX5_menShown_8 : decode cX5_menShown 8 = .ok (.iload 4, 2) := dk_21 4 (dk_at dksX5_menShown_0 8 rfl rfl)
theorem dX5_menShown_10 : decode cX5_menShown 10 = .ok (.ifCond .ge 7, 3) := dk_156 0 7 (dk_at dksX5_menShown_0 10 rfl rfl)
theorem dX5_menShown_13 : decode cX5_menShown 13 = .ok (.iconst 0, 1) := dk_3 (dk_at dksX5_menShown_0 13 rfl rfl)
theorem dX5_menShown_14 : decode cX5_menShown 14 = .ok (.goto 19, 3) := dk_167 0 19 (dk_at dksX5_menShown_0 14 rfl rfl)
theorem dX5_menShown_17 : decode cX5_menShown 17 = .ok (.aload_n 0, 1) := dk_42 (dk_at dksX5_menShown_0 17 rfl rfl)
theorem dX5_menShown_18 : decode cX5_menShown 18 = .ok (.aload_n 1, 1) := dk_43 (dk_at dksX5_menShown_0 18 rfl rfl)
theorem dX5_menShown_19 : decode cX5_menShown 19 = .ok (.aload_n 0, 1) := dk_42 (dk_at dksX5_menShown_0 19 rfl rfl)
theorem dX5_menShown_20 : decode cX5_menShown 20 = .ok (.getfield 19, 3) := dk_180 0 19 (dk_at dksX5_menShown_0 20 rfl rfl)
theorem dX5_menShown_23 : decode cX5_menShown 23 = .ok (.iload_n 2, 1) := dk_28 (dk_at dksX5_menShown_0 23 rfl rfl)
theorem dX5_menShown_24 : decode cX5_menShown 24 = .ok (.aaload, 1) := dk_50 (dk_at dksX5_menShown_1 0 rfl rfl)
theorem dX5_menShown_25 : decode cX5_menShown 25 = .ok (.iload 4, 2) := dk_21 4 (dk_at dksX5_menShown_1 1 rfl rfl)
theorem dX5_menShown_27 : decode cX5_menShown 27 = .ok (.baload, 1) := dk_51 (dk_at dksX5_menShown_1 3 rfl rfl)
theorem dX5_menShown_28 : decode cX5_menShown 28 = .ok (.iload 4, 2) := dk_21 4 (dk_at dksX5_menShown_1 4 rfl rfl)
theorem dX5_menShown_30 : decode cX5_menShown 30 = .ok (.invokevirtual 110, 3) := dk_182 0 110 (dk_at dksX5_menShown_1 6 rfl rfl)
theorem dX5_menShown_33 : decode cX5_menShown 33 = .ok (.ireturn, 1) := dk_172 (dk_at dksX5_menShown_1 9 rfl rfl)
abbrev cX5_takes : ByteArray := prog_3_method_3_code
def yX5_takes : MethodName := ⟨RX5, "takes", "(LLateMirrors$Court;)V"⟩
def dkwX5_takes_7 : List UInt8 := [28, 46, 79, 42, 180, 0, 36, 28, 43, 180, 0, 36, 28, 46, 79, 132, 2, 1, 167, 255, 154, 177]
abbrev dktX5_takes_7 : List UInt8 := dkwX5_takes_7 ++ []
def dkwX5_takes_6 : List UInt8 := [180, 0, 29, 28, 50, 3, 43, 180, 0, 49, 4, 96, 184, 0, 90, 42, 180, 0, 32, 28, 43, 180, 0, 32]
abbrev dktX5_takes_6 : List UInt8 := dkwX5_takes_6 ++ dktX5_takes_7
def dkwX5_takes_5 : List UInt8 := [180, 0, 24, 28, 50, 3, 43, 180, 0, 49, 4, 96, 184, 0, 90, 43, 180, 0, 29, 28, 50, 3, 42]
abbrev dktX5_takes_5 : List UInt8 := dkwX5_takes_5 ++ dktX5_takes_6
def dkwX5_takes_4 : List UInt8 := [180, 0, 19, 28, 50, 3, 43, 180, 0, 49, 4, 96, 184, 0, 90, 43, 180, 0, 24, 28, 50, 3, 42]
abbrev dktX5_takes_4 : List UInt8 := dkwX5_takes_4 ++ dktX5_takes_5
def dkwX5_takes_3 : List UInt8 := [132, 2, 1, 167, 255, 201, 3, 61, 28, 16, 8, 162, 0, 102, 43, 180, 0, 19, 28, 50, 3, 42]
abbrev dktX5_takes_3 : List UInt8 := dkwX5_takes_3 ++ dktX5_takes_4
def dkwX5_takes_2 : List UInt8 := [180, 0, 16, 28, 50, 3, 42, 180, 0, 16, 28, 50, 3, 43, 180, 0, 49, 4, 96, 184, 0, 90]
abbrev dktX5_takes_2 : List UInt8 := dkwX5_takes_2 ++ dktX5_takes_3
def dkwX5_takes_1 : List UInt8 := [43, 180, 0, 11, 28, 50, 3, 42, 180, 0, 11, 28, 50, 3, 43, 180, 0, 49, 4, 96, 184, 0, 90, 43]
abbrev dktX5_takes_1 : List UInt8 := dkwX5_takes_1 ++ dktX5_takes_2
def dkwX5_takes_0 : List UInt8 := [42, 43, 180, 0, 49, 181, 0, 49, 42, 43, 180, 0, 58, 181, 0, 58, 3, 61, 28, 16, 6, 162, 0, 55]
abbrev dktX5_takes_0 : List UInt8 := dkwX5_takes_0 ++ dktX5_takes_1
theorem dksX5_takes_0 : cX5_takes.data.toList.drop 0 = dktX5_takes_0 := by decide +kernel
theorem dksX5_takes_1 : cX5_takes.data.toList.drop 24 = dktX5_takes_1 := dk_seg dksX5_takes_0 24 rfl rfl
theorem dksX5_takes_2 : cX5_takes.data.toList.drop 48 = dktX5_takes_2 := dk_seg dksX5_takes_1 24 rfl rfl
theorem dksX5_takes_3 : cX5_takes.data.toList.drop 70 = dktX5_takes_3 := dk_seg dksX5_takes_2 22 rfl rfl
theorem dksX5_takes_4 : cX5_takes.data.toList.drop 92 = dktX5_takes_4 := dk_seg dksX5_takes_3 22 rfl rfl
theorem dksX5_takes_5 : cX5_takes.data.toList.drop 115 = dktX5_takes_5 := dk_seg dksX5_takes_4 23 rfl rfl
theorem dksX5_takes_6 : cX5_takes.data.toList.drop 138 = dktX5_takes_6 := dk_seg dksX5_takes_5 23 rfl rfl
theorem dksX5_takes_7 : cX5_takes.data.toList.drop 162 = dktX5_takes_7 := dk_seg dksX5_takes_6 24 rfl rfl
theorem dX5_takes_0 : decode cX5_takes 0 = .ok (.aload_n 0, 1) := dk_42 (dk_at dksX5_takes_0 0 rfl rfl)
theorem dX5_takes_1 : decode cX5_takes 1 = .ok (.aload_n 1, 1) := dk_43 (dk_at dksX5_takes_0 1 rfl rfl)
theorem dX5_takes_2 : decode cX5_takes 2 = .ok (.getfield 49, 3) := dk_180 0 49 (dk_at dksX5_takes_0 2 rfl rfl)
theorem dX5_takes_5 : decode cX5_takes 5 = .ok (.putfield 49, 3) := dk_181 0 49 (dk_at dksX5_takes_0 5 rfl rfl)
theorem dX5_takes_8 : decode cX5_takes 8 = .ok (.aload_n 0, 1) := dk_42 (dk_at dksX5_takes_0 8 rfl rfl)
theorem dX5_takes_9 : decode cX5_takes 9 = .ok (.aload_n 1, 1) := dk_43 (dk_at dksX5_takes_0 9 rfl rfl)
theorem dX5_takes_10 : decode cX5_takes 10 = .ok (.getfield 58, 3) := dk_180 0 58 (dk_at dksX5_takes_0 10 rfl rfl)
theorem dX5_takes_13 : decode cX5_takes 13 = .ok (.putfield 58, 3) := dk_181 0 58 (dk_at dksX5_takes_0 13 rfl rfl)
theorem dX5_takes_16 : decode cX5_takes 16 = .ok (.iconst 0, 1) := dk_3 (dk_at dksX5_takes_0 16 rfl rfl)
theorem dX5_takes_17 : decode cX5_takes 17 = .ok (.istore_n 2, 1) := dk_61 (dk_at dksX5_takes_0 17 rfl rfl)
theorem dX5_takes_18 : decode cX5_takes 18 = .ok (.iload_n 2, 1) := dk_28 (dk_at dksX5_takes_0 18 rfl rfl)
theorem dX5_takes_19 : decode cX5_takes 19 = .ok (.bipush 6, 2) := dk_16 6 (dk_at dksX5_takes_0 19 rfl rfl)
theorem dX5_takes_21 : decode cX5_takes 21 = .ok (.if_icmp .ge 55, 3) := dk_162 0 55 (dk_at dksX5_takes_0 21 rfl rfl)
theorem dX5_takes_24 : decode cX5_takes 24 = .ok (.aload_n 1, 1) := dk_43 (dk_at dksX5_takes_1 0 rfl rfl)
theorem dX5_takes_25 : decode cX5_takes 25 = .ok (.getfield 11, 3) := dk_180 0 11 (dk_at dksX5_takes_1 1 rfl rfl)
theorem dX5_takes_28 : decode cX5_takes 28 = .ok (.iload_n 2, 1) := dk_28 (dk_at dksX5_takes_1 4 rfl rfl)
theorem dX5_takes_29 : decode cX5_takes 29 = .ok (.aaload, 1) := dk_50 (dk_at dksX5_takes_1 5 rfl rfl)
theorem dX5_takes_30 : decode cX5_takes 30 = .ok (.iconst 0, 1) := dk_3 (dk_at dksX5_takes_1 6 rfl rfl)
theorem dX5_takes_31 : decode cX5_takes 31 = .ok (.aload_n 0, 1) := dk_42 (dk_at dksX5_takes_1 7 rfl rfl)
theorem dX5_takes_32 : decode cX5_takes 32 = .ok (.getfield 11, 3) := dk_180 0 11 (dk_at dksX5_takes_1 8 rfl rfl)
theorem dX5_takes_35 : decode cX5_takes 35 = .ok (.iload_n 2, 1) := dk_28 (dk_at dksX5_takes_1 11 rfl rfl)
theorem dX5_takes_36 : decode cX5_takes 36 = .ok (.aaload, 1) := dk_50 (dk_at dksX5_takes_1 12 rfl rfl)
theorem dX5_takes_37 : decode cX5_takes 37 = .ok (.iconst 0, 1) := dk_3 (dk_at dksX5_takes_1 13 rfl rfl)
theorem dX5_takes_38 : decode cX5_takes 38 = .ok (.aload_n 1, 1) := dk_43 (dk_at dksX5_takes_1 14 rfl rfl)
theorem dX5_takes_39 : decode cX5_takes 39 = .ok (.getfield 49, 3) := dk_180 0 49 (dk_at dksX5_takes_1 15 rfl rfl)
theorem dX5_takes_42 : decode cX5_takes 42 = .ok (.iconst 1, 1) := dk_4 (dk_at dksX5_takes_1 18 rfl rfl)
theorem dX5_takes_43 : decode cX5_takes 43 = .ok (.iadd, 1) := dk_96 (dk_at dksX5_takes_1 19 rfl rfl)
theorem dX5_takes_44 : decode cX5_takes 44 = .ok (.invokestatic 90, 3) := dk_184 0 90 (dk_at dksX5_takes_1 20 rfl rfl)
theorem dX5_takes_47 : decode cX5_takes 47 = .ok (.aload_n 1, 1) := dk_43 (dk_at dksX5_takes_1 23 rfl rfl)
theorem dX5_takes_48 : decode cX5_takes 48 = .ok (.getfield 16, 3) := dk_180 0 16 (dk_at dksX5_takes_2 0 rfl rfl)
theorem dX5_takes_51 : decode cX5_takes 51 = .ok (.iload_n 2, 1) := dk_28 (dk_at dksX5_takes_2 3 rfl rfl)
theorem dX5_takes_52 : decode cX5_takes 52 = .ok (.aaload, 1) := dk_50 (dk_at dksX5_takes_2 4 rfl rfl)
theorem dX5_takes_53 : decode cX5_takes 53 = .ok (.iconst 0, 1) := dk_3 (dk_at dksX5_takes_2 5 rfl rfl)
theorem dX5_takes_54 : decode cX5_takes 54 = .ok (.aload_n 0, 1) := dk_42 (dk_at dksX5_takes_2 6 rfl rfl)
theorem dX5_takes_55 : decode cX5_takes 55 = .ok (.getfield 16, 3) := dk_180 0 16 (dk_at dksX5_takes_2 7 rfl rfl)
theorem dX5_takes_58 : decode cX5_takes 58 = .ok (.iload_n 2, 1) := dk_28 (dk_at dksX5_takes_2 10 rfl rfl)
theorem dX5_takes_59 : decode cX5_takes 59 = .ok (.aaload, 1) := dk_50 (dk_at dksX5_takes_2 11 rfl rfl)
theorem dX5_takes_60 : decode cX5_takes 60 = .ok (.iconst 0, 1) := dk_3 (dk_at dksX5_takes_2 12 rfl rfl)
theorem dX5_takes_61 : decode cX5_takes 61 = .ok (.aload_n 1, 1) := dk_43 (dk_at dksX5_takes_2 13 rfl rfl)
theorem dX5_takes_62 : decode cX5_takes 62 = .ok (.getfield 49, 3) := dk_180 0 49 (dk_at dksX5_takes_2 14 rfl rfl)
theorem dX5_takes_65 : decode cX5_takes 65 = .ok (.iconst 1, 1) := dk_4 (dk_at dksX5_takes_2 17 rfl rfl)
theorem dX5_takes_66 : decode cX5_takes 66 = .ok (.iadd, 1) := dk_96 (dk_at dksX5_takes_2 18 rfl rfl)
theorem dX5_takes_67 : decode cX5_takes 67 = .ok (.invokestatic 90, 3) := dk_184 0 90 (dk_at dksX5_takes_2 19 rfl rfl)
theorem dX5_takes_70 : decode cX5_takes 70 = .ok (.iinc 2 1, 3) := dk_132 2 1 (dk_at dksX5_takes_3 0 rfl rfl)
theorem dX5_takes_73 : decode cX5_takes 73 = .ok (.goto (-55), 3) := dk_167 255 201 (dk_at dksX5_takes_3 3 rfl rfl)
theorem dX5_takes_76 : decode cX5_takes 76 = .ok (.iconst 0, 1) := dk_3 (dk_at dksX5_takes_3 6 rfl rfl)
theorem dX5_takes_77 : decode cX5_takes 77 = .ok (.istore_n 2, 1) := dk_61 (dk_at dksX5_takes_3 7 rfl rfl)
theorem dX5_takes_78 : decode cX5_takes 78 = .ok (.iload_n 2, 1) := dk_28 (dk_at dksX5_takes_3 8 rfl rfl)
theorem dX5_takes_79 : decode cX5_takes 79 = .ok (.bipush 8, 2) := dk_16 8 (dk_at dksX5_takes_3 9 rfl rfl)
theorem dX5_takes_81 : decode cX5_takes 81 = .ok (.if_icmp .ge 102, 3) := dk_162 0 102 (dk_at dksX5_takes_3 11 rfl rfl)
theorem dX5_takes_84 : decode cX5_takes 84 = .ok (.aload_n 1, 1) := dk_43 (dk_at dksX5_takes_3 14 rfl rfl)
theorem dX5_takes_85 : decode cX5_takes 85 = .ok (.getfield 19, 3) := dk_180 0 19 (dk_at dksX5_takes_3 15 rfl rfl)
theorem dX5_takes_88 : decode cX5_takes 88 = .ok (.iload_n 2, 1) := dk_28 (dk_at dksX5_takes_3 18 rfl rfl)
theorem dX5_takes_89 : decode cX5_takes 89 = .ok (.aaload, 1) := dk_50 (dk_at dksX5_takes_3 19 rfl rfl)
theorem dX5_takes_90 : decode cX5_takes 90 = .ok (.iconst 0, 1) := dk_3 (dk_at dksX5_takes_3 20 rfl rfl)
theorem dX5_takes_91 : decode cX5_takes 91 = .ok (.aload_n 0, 1) := dk_42 (dk_at dksX5_takes_3 21 rfl rfl)
theorem dX5_takes_92 : decode cX5_takes 92 = .ok (.getfield 19, 3) := dk_180 0 19 (dk_at dksX5_takes_4 0 rfl rfl)
theorem dX5_takes_95 : decode cX5_takes 95 = .ok (.iload_n 2, 1) := dk_28 (dk_at dksX5_takes_4 3 rfl rfl)
theorem dX5_takes_96 : decode cX5_takes 96 = .ok (.aaload, 1) := dk_50 (dk_at dksX5_takes_4 4 rfl rfl)
theorem dX5_takes_97 : decode cX5_takes 97 = .ok (.iconst 0, 1) := dk_3 (dk_at dksX5_takes_4 5 rfl rfl)
theorem dX5_takes_98 : decode cX5_takes 98 = .ok (.aload_n 1, 1) := dk_43 (dk_at dksX5_takes_4 6 rfl rfl)
theorem dX5_takes_99 : decode cX5_takes 99 = .ok (.getfield 49, 3) := dk_180 0 49 (dk_at dksX5_takes_4 7 rfl rfl)
theorem dX5_takes_102 : decode cX5_takes 102 = .ok (.iconst 1, 1) := dk_4 (dk_at dksX5_takes_4 10 rfl rfl)
theorem dX5_takes_103 : decode cX5_takes 103 = .ok (.iadd, 1) := dk_96 (dk_at dksX5_takes_4 11 rfl rfl)
theorem dX5_takes_104 : decode cX5_takes 104 = .ok (.invokestatic 90, 3) := dk_184 0 90 (dk_at dksX5_takes_4 12 rfl rfl)
theorem dX5_takes_107 : decode cX5_takes 107 = .ok (.aload_n 1, 1) := dk_43 (dk_at dksX5_takes_4 15 rfl rfl)
theorem dX5_takes_108 : decode cX5_takes 108 = .ok (.getfield 24, 3) := dk_180 0 24 (dk_at dksX5_takes_4 16 rfl rfl)
theorem dX5_takes_111 : decode cX5_takes 111 = .ok (.iload_n 2, 1) := dk_28 (dk_at dksX5_takes_4 19 rfl rfl)
theorem dX5_takes_112 : decode cX5_takes 112 = .ok (.aaload, 1) := dk_50 (dk_at dksX5_takes_4 20 rfl rfl)
theorem dX5_takes_113 : decode cX5_takes 113 = .ok (.iconst 0, 1) := dk_3 (dk_at dksX5_takes_4 21 rfl rfl)
theorem dX5_takes_114 : decode cX5_takes 114 = .ok (.aload_n 0, 1) := dk_42 (dk_at dksX5_takes_4 22 rfl rfl)
theorem dX5_takes_115 : decode cX5_takes 115 = .ok (.getfield 24, 3) := dk_180 0 24 (dk_at dksX5_takes_5 0 rfl rfl)
theorem dX5_takes_118 : decode cX5_takes 118 = .ok (.iload_n 2, 1) := dk_28 (dk_at dksX5_takes_5 3 rfl rfl)
theorem dX5_takes_119 : decode cX5_takes 119 = .ok (.aaload, 1) := dk_50 (dk_at dksX5_takes_5 4 rfl rfl)
theorem dX5_takes_120 : decode cX5_takes 120 = .ok (.iconst 0, 1) := dk_3 (dk_at dksX5_takes_5 5 rfl rfl)
theorem dX5_takes_121 : decode cX5_takes 121 = .ok (.aload_n 1, 1) := dk_43 (dk_at dksX5_takes_5 6 rfl rfl)
theorem dX5_takes_122 : decode cX5_takes 122 = .ok (.getfield 49, 3) := dk_180 0 49 (dk_at dksX5_takes_5 7 rfl rfl)
theorem dX5_takes_125 : decode cX5_takes 125 = .ok (.iconst 1, 1) := dk_4 (dk_at dksX5_takes_5 10 rfl rfl)
theorem dX5_takes_126 : decode cX5_takes 126 = .ok (.iadd, 1) := dk_96 (dk_at dksX5_takes_5 11 rfl rfl)
theorem dX5_takes_127 : decode cX5_takes 127 = .ok (.invokestatic 90, 3) := dk_184 0 90 (dk_at dksX5_takes_5 12 rfl rfl)
theorem dX5_takes_130 : decode cX5_takes 130 = .ok (.aload_n 1, 1) := dk_43 (dk_at dksX5_takes_5 15 rfl rfl)
theorem dX5_takes_131 : decode cX5_takes 131 = .ok (.getfield 29, 3) := dk_180 0 29 (dk_at dksX5_takes_5 16 rfl rfl)
theorem dX5_takes_134 : decode cX5_takes 134 = .ok (.iload_n 2, 1) := dk_28 (dk_at dksX5_takes_5 19 rfl rfl)
theorem dX5_takes_135 : decode cX5_takes 135 = .ok (.aaload, 1) := dk_50 (dk_at dksX5_takes_5 20 rfl rfl)
theorem dX5_takes_136 : decode cX5_takes 136 = .ok (.iconst 0, 1) := dk_3 (dk_at dksX5_takes_5 21 rfl rfl)
theorem dX5_takes_137 : decode cX5_takes 137 = .ok (.aload_n 0, 1) := dk_42 (dk_at dksX5_takes_5 22 rfl rfl)
theorem dX5_takes_138 : decode cX5_takes 138 = .ok (.getfield 29, 3) := dk_180 0 29 (dk_at dksX5_takes_6 0 rfl rfl)
theorem dX5_takes_141 : decode cX5_takes 141 = .ok (.iload_n 2, 1) := dk_28 (dk_at dksX5_takes_6 3 rfl rfl)
theorem dX5_takes_142 : decode cX5_takes 142 = .ok (.aaload, 1) := dk_50 (dk_at dksX5_takes_6 4 rfl rfl)
theorem dX5_takes_143 : decode cX5_takes 143 = .ok (.iconst 0, 1) := dk_3 (dk_at dksX5_takes_6 5 rfl rfl)
theorem dX5_takes_144 : decode cX5_takes 144 = .ok (.aload_n 1, 1) := dk_43 (dk_at dksX5_takes_6 6 rfl rfl)
theorem dX5_takes_145 : decode cX5_takes 145 = .ok (.getfield 49, 3) := dk_180 0 49 (dk_at dksX5_takes_6 7 rfl rfl)
theorem dX5_takes_148 : decode cX5_takes 148 = .ok (.iconst 1, 1) := dk_4 (dk_at dksX5_takes_6 10 rfl rfl)
theorem dX5_takes_149 : decode cX5_takes 149 = .ok (.iadd, 1) := dk_96 (dk_at dksX5_takes_6 11 rfl rfl)
theorem dX5_takes_150 : decode cX5_takes 150 = .ok (.invokestatic 90, 3) := dk_184 0 90 (dk_at dksX5_takes_6 12 rfl rfl)
theorem dX5_takes_153 : decode cX5_takes 153 = .ok (.aload_n 0, 1) := dk_42 (dk_at dksX5_takes_6 15 rfl rfl)
theorem dX5_takes_154 : decode cX5_takes 154 = .ok (.getfield 32, 3) := dk_180 0 32 (dk_at dksX5_takes_6 16 rfl rfl)
theorem dX5_takes_157 : decode cX5_takes 157 = .ok (.iload_n 2, 1) := dk_28 (dk_at dksX5_takes_6 19 rfl rfl)
theorem dX5_takes_158 : decode cX5_takes 158 = .ok (.aload_n 1, 1) := dk_43 (dk_at dksX5_takes_6 20 rfl rfl)
theorem dX5_takes_159 : decode cX5_takes 159 = .ok (.getfield 32, 3) := dk_180 0 32 (dk_at dksX5_takes_6 21 rfl rfl)
theorem dX5_takes_162 : decode cX5_takes 162 = .ok (.iload_n 2, 1) := dk_28 (dk_at dksX5_takes_7 0 rfl rfl)
theorem dX5_takes_163 : decode cX5_takes 163 = .ok (.iaload, 1) := dk_46 (dk_at dksX5_takes_7 1 rfl rfl)
theorem dX5_takes_164 : decode cX5_takes 164 = .ok (.iastore, 1) := dk_79 (dk_at dksX5_takes_7 2 rfl rfl)
theorem dX5_takes_165 : decode cX5_takes 165 = .ok (.aload_n 0, 1) := dk_42 (dk_at dksX5_takes_7 3 rfl rfl)
theorem dX5_takes_166 : decode cX5_takes 166 = .ok (.getfield 36, 3) := dk_180 0 36 (dk_at dksX5_takes_7 4 rfl rfl)
theorem dX5_takes_169 : decode cX5_takes 169 = .ok (.iload_n 2, 1) := dk_28 (dk_at dksX5_takes_7 7 rfl rfl)
theorem dX5_takes_170 : decode cX5_takes 170 = .ok (.aload_n 1, 1) := dk_43 (dk_at dksX5_takes_7 8 rfl rfl)
theorem dX5_takes_171 : decode cX5_takes 171 = .ok (.getfield 36, 3) := dk_180 0 36 (dk_at dksX5_takes_7 9 rfl rfl)
theorem dX5_takes_174 : decode cX5_takes 174 = .ok (.iload_n 2, 1) := dk_28 (dk_at dksX5_takes_7 12 rfl rfl)
theorem dX5_takes_175 : decode cX5_takes 175 = .ok (.iaload, 1) := dk_46 (dk_at dksX5_takes_7 13 rfl rfl)
theorem dX5_takes_176 : decode cX5_takes 176 = .ok (.iastore, 1) := dk_79 (dk_at dksX5_takes_7 14 rfl rfl)
theorem dX5_takes_177 : decode cX5_takes 177 = .ok (.iinc 2 1, 3) := dk_132 2 1 (dk_at dksX5_takes_7 15 rfl rfl)
theorem dX5_takes_180 : decode cX5_takes 180 = .ok (.goto (-102), 3) := dk_167 255 154 (dk_at dksX5_takes_7 18 rfl rfl)
theorem dX5_takes_183 : decode cX5_takes 183 = .ok (.return_, 1) := dk_177 (dk_at dksX5_takes_7 21 rfl rfl)
abbrev cX5_goesBy : ByteArray := prog_3_method_12_code
def yX5_goesBy : MethodName := ⟨RX5, "goesBy", "(LLateMirrors$Text;)V"⟩
def dkwX5_goesBy_9 : List UInt8 := [132, 3, 1, 167, 255, 200, 177]
abbrev dktX5_goesBy_9 : List UInt8 := dkwX5_goesBy_9 ++ []
def dkwX5_goesBy_8 : List UInt8 := [42, 180, 0, 49, 104, 29, 96, 16, 100, 184, 0, 157, 43, 180, 0, 161, 162, 0, 8, 42, 29, 182, 0, 164]
abbrev dktX5_goesBy_8 : List UInt8 := dkwX5_goesBy_8 ++ dktX5_goesBy_9
def dkwX5_goesBy_7 : List UInt8 := [182, 0, 63, 162, 0, 51, 42, 29, 42, 180, 0, 49, 182, 0, 141, 154, 0, 33, 42, 180, 0, 58, 16, 8]
abbrev dktX5_goesBy_7 : List UInt8 := dkwX5_goesBy_7 ++ dktX5_goesBy_8
def dkwX5_goesBy_6 : List UInt8 := [132, 3, 1, 167, 255, 204, 42, 28, 181, 0, 49, 42, 43, 182, 0, 86, 3, 62, 29, 43, 180, 0, 80]
abbrev dktX5_goesBy_6 : List UInt8 := dkwX5_goesBy_6 ++ dktX5_goesBy_7
def dkwX5_goesBy_5 : List UInt8 := [180, 0, 49, 51, 84, 42, 180, 0, 24, 29, 50, 28, 42, 180, 0, 24, 29, 50, 42, 180, 0, 49, 51, 84]
abbrev dktX5_goesBy_5 : List UInt8 := dkwX5_goesBy_5 ++ dktX5_goesBy_6
def dkwX5_goesBy_4 : List UInt8 := [180, 0, 80, 182, 0, 63, 162, 0, 47, 42, 180, 0, 19, 29, 50, 28, 42, 180, 0, 19, 29, 50, 42]
abbrev dktX5_goesBy_4 : List UInt8 := dkwX5_goesBy_4 ++ dktX5_goesBy_5
def dkwX5_goesBy_3 : List UInt8 := [28, 42, 180, 0, 16, 29, 50, 42, 180, 0, 49, 51, 84, 132, 3, 1, 167, 255, 208, 3, 62, 29, 43]
abbrev dktX5_goesBy_3 : List UInt8 := dkwX5_goesBy_3 ++ dktX5_goesBy_4
def dkwX5_goesBy_2 : List UInt8 := [162, 0, 43, 42, 180, 0, 11, 29, 50, 28, 42, 180, 0, 39, 29, 46, 145, 84, 42, 180, 0, 16, 29, 50]
abbrev dktX5_goesBy_2 : List UInt8 := dkwX5_goesBy_2 ++ dktX5_goesBy_3
def dkwX5_goesBy_1 : List UInt8 := [29, 42, 43, 29, 182, 0, 154, 79, 132, 3, 1, 167, 255, 230, 3, 62, 29, 43, 180, 0, 59, 182, 0, 63]
abbrev dktX5_goesBy_1 : List UInt8 := dkwX5_goesBy_1 ++ dktX5_goesBy_2
def dkwX5_goesBy_0 : List UInt8 := [42, 180, 0, 49, 4, 96, 61, 3, 62, 29, 43, 180, 0, 59, 182, 0, 63, 162, 0, 21, 42, 180, 0, 39]
abbrev dktX5_goesBy_0 : List UInt8 := dkwX5_goesBy_0 ++ dktX5_goesBy_1
theorem dksX5_goesBy_0 : cX5_goesBy.data.toList.drop 0 = dktX5_goesBy_0 := by decide +kernel
theorem dksX5_goesBy_1 : cX5_goesBy.data.toList.drop 24 = dktX5_goesBy_1 := dk_seg dksX5_goesBy_0 24 rfl rfl
theorem dksX5_goesBy_2 : cX5_goesBy.data.toList.drop 48 = dktX5_goesBy_2 := dk_seg dksX5_goesBy_1 24 rfl rfl
theorem dksX5_goesBy_3 : cX5_goesBy.data.toList.drop 72 = dktX5_goesBy_3 := dk_seg dksX5_goesBy_2 24 rfl rfl
theorem dksX5_goesBy_4 : cX5_goesBy.data.toList.drop 95 = dktX5_goesBy_4 := dk_seg dksX5_goesBy_3 23 rfl rfl
theorem dksX5_goesBy_5 : cX5_goesBy.data.toList.drop 118 = dktX5_goesBy_5 := dk_seg dksX5_goesBy_4 23 rfl rfl
theorem dksX5_goesBy_6 : cX5_goesBy.data.toList.drop 142 = dktX5_goesBy_6 := dk_seg dksX5_goesBy_5 24 rfl rfl
theorem dksX5_goesBy_7 : cX5_goesBy.data.toList.drop 165 = dktX5_goesBy_7 := dk_seg dksX5_goesBy_6 23 rfl rfl
theorem dksX5_goesBy_8 : cX5_goesBy.data.toList.drop 189 = dktX5_goesBy_8 := dk_seg dksX5_goesBy_7 24 rfl rfl
theorem dksX5_goesBy_9 : cX5_goesBy.data.toList.drop 213 = dktX5_goesBy_9 := dk_seg dksX5_goesBy_8 24 rfl rfl
theorem dX5_goesBy_0 : decode cX5_goesBy 0 = .ok (.aload_n 0, 1) := dk_42 (dk_at dksX5_goesBy_0 0 rfl rfl)
theorem dX5_goesBy_1 : decode cX5_goesBy 1 = .ok (.getfield 49, 3) := dk_180 0 49 (dk_at dksX5_goesBy_0 1 rfl rfl)
theorem dX5_goesBy_4 : decode cX5_goesBy 4 = .ok (.iconst 1, 1) := dk_4 (dk_at dksX5_goesBy_0 4 rfl rfl)
theorem dX5_goesBy_5 : decode cX5_goesBy 5 = .ok (.iadd, 1) := dk_96 (dk_at dksX5_goesBy_0 5 rfl rfl)
theorem dX5_goesBy_6 : decode cX5_goesBy 6 = .ok (.istore_n 2, 1) := dk_61 (dk_at dksX5_goesBy_0 6 rfl rfl)
theorem dX5_goesBy_7 : decode cX5_goesBy 7 = .ok (.iconst 0, 1) := dk_3 (dk_at dksX5_goesBy_0 7 rfl rfl)
theorem dX5_goesBy_8 : decode cX5_goesBy 8 = .ok (.istore_n 3, 1) := dk_62 (dk_at dksX5_goesBy_0 8 rfl rfl)
theorem dX5_goesBy_9 : decode cX5_goesBy 9 = .ok (.iload_n 3, 1) := dk_29 (dk_at dksX5_goesBy_0 9 rfl rfl)
theorem dX5_goesBy_10 : decode cX5_goesBy 10 = .ok (.aload_n 1, 1) := dk_43 (dk_at dksX5_goesBy_0 10 rfl rfl)
theorem dX5_goesBy_11 : decode cX5_goesBy 11 = .ok (.getfield 59, 3) := dk_180 0 59 (dk_at dksX5_goesBy_0 11 rfl rfl)
theorem dX5_goesBy_14 : decode cX5_goesBy 14 = .ok (.invokevirtual 63, 3) := dk_182 0 63 (dk_at dksX5_goesBy_0 14 rfl rfl)
theorem dX5_goesBy_17 : decode cX5_goesBy 17 = .ok (.if_icmp .ge 21, 3) := dk_162 0 21 (dk_at dksX5_goesBy_0 17 rfl rfl)
theorem dX5_goesBy_20 : decode cX5_goesBy 20 = .ok (.aload_n 0, 1) := dk_42 (dk_at dksX5_goesBy_0 20 rfl rfl)
theorem dX5_goesBy_21 : decode cX5_goesBy 21 = .ok (.getfield 39, 3) := dk_180 0 39 (dk_at dksX5_goesBy_0 21 rfl rfl)
theorem dX5_goesBy_24 : decode cX5_goesBy 24 = .ok (.iload_n 3, 1) := dk_29 (dk_at dksX5_goesBy_1 0 rfl rfl)
theorem dX5_goesBy_25 : decode cX5_goesBy 25 = .ok (.aload_n 0, 1) := dk_42 (dk_at dksX5_goesBy_1 1 rfl rfl)
theorem dX5_goesBy_26 : decode cX5_goesBy 26 = .ok (.aload_n 1, 1) := dk_43 (dk_at dksX5_goesBy_1 2 rfl rfl)
theorem dX5_goesBy_27 : decode cX5_goesBy 27 = .ok (.iload_n 3, 1) := dk_29 (dk_at dksX5_goesBy_1 3 rfl rfl)
theorem dX5_goesBy_28 : decode cX5_goesBy 28 = .ok (.invokevirtual 154, 3) := dk_182 0 154 (dk_at dksX5_goesBy_1 4 rfl rfl)
theorem dX5_goesBy_31 : decode cX5_goesBy 31 = .ok (.iastore, 1) := dk_79 (dk_at dksX5_goesBy_1 7 rfl rfl)
theorem dX5_goesBy_32 : decode cX5_goesBy 32 = .ok (.iinc 3 1, 3) := dk_132 3 1 (dk_at dksX5_goesBy_1 8 rfl rfl)
theorem dX5_goesBy_35 : decode cX5_goesBy 35 = .ok (.goto (-26), 3) := dk_167 255 230 (dk_at dksX5_goesBy_1 11 rfl rfl)
theorem dX5_goesBy_38 : decode cX5_goesBy 38 = .ok (.iconst 0, 1) := dk_3 (dk_at dksX5_goesBy_1 14 rfl rfl)
theorem dX5_goesBy_39 : decode cX5_goesBy 39 = .ok (.istore_n 3, 1) := dk_62 (dk_at dksX5_goesBy_1 15 rfl rfl)
theorem dX5_goesBy_40 : decode cX5_goesBy 40 = .ok (.iload_n 3, 1) := dk_29 (dk_at dksX5_goesBy_1 16 rfl rfl)
theorem dX5_goesBy_41 : decode cX5_goesBy 41 = .ok (.aload_n 1, 1) := dk_43 (dk_at dksX5_goesBy_1 17 rfl rfl)
theorem dX5_goesBy_42 : decode cX5_goesBy 42 = .ok (.getfield 59, 3) := dk_180 0 59 (dk_at dksX5_goesBy_1 18 rfl rfl)
theorem dX5_goesBy_45 : decode cX5_goesBy 45 = .ok (.invokevirtual 63, 3) := dk_182 0 63 (dk_at dksX5_goesBy_1 21 rfl rfl)
theorem dX5_goesBy_48 : decode cX5_goesBy 48 = .ok (.if_icmp .ge 43, 3) := dk_162 0 43 (dk_at dksX5_goesBy_2 0 rfl rfl)
theorem dX5_goesBy_51 : decode cX5_goesBy 51 = .ok (.aload_n 0, 1) := dk_42 (dk_at dksX5_goesBy_2 3 rfl rfl)
theorem dX5_goesBy_52 : decode cX5_goesBy 52 = .ok (.getfield 11, 3) := dk_180 0 11 (dk_at dksX5_goesBy_2 4 rfl rfl)
theorem dX5_goesBy_55 : decode cX5_goesBy 55 = .ok (.iload_n 3, 1) := dk_29 (dk_at dksX5_goesBy_2 7 rfl rfl)
theorem dX5_goesBy_56 : decode cX5_goesBy 56 = .ok (.aaload, 1) := dk_50 (dk_at dksX5_goesBy_2 8 rfl rfl)
theorem dX5_goesBy_57 : decode cX5_goesBy 57 = .ok (.iload_n 2, 1) := dk_28 (dk_at dksX5_goesBy_2 9 rfl rfl)
theorem dX5_goesBy_58 : decode cX5_goesBy 58 = .ok (.aload_n 0, 1) := dk_42 (dk_at dksX5_goesBy_2 10 rfl rfl)
theorem dX5_goesBy_59 : decode cX5_goesBy 59 = .ok (.getfield 39, 3) := dk_180 0 39 (dk_at dksX5_goesBy_2 11 rfl rfl)
theorem dX5_goesBy_62 : decode cX5_goesBy 62 = .ok (.iload_n 3, 1) := dk_29 (dk_at dksX5_goesBy_2 14 rfl rfl)
theorem dX5_goesBy_63 : decode cX5_goesBy 63 = .ok (.iaload, 1) := dk_46 (dk_at dksX5_goesBy_2 15 rfl rfl)
theorem dX5_goesBy_64 : decode cX5_goesBy 64 = .ok (.i2b, 1) := dk_145 (dk_at dksX5_goesBy_2 16 rfl rfl)
theorem dX5_goesBy_65 : decode cX5_goesBy 65 = .ok (.bastore, 1) := dk_84 (dk_at dksX5_goesBy_2 17 rfl rfl)
theorem dX5_goesBy_66 : decode cX5_goesBy 66 = .ok (.aload_n 0, 1) := dk_42 (dk_at dksX5_goesBy_2 18 rfl rfl)
theorem dX5_goesBy_67 : decode cX5_goesBy 67 = .ok (.getfield 16, 3) := dk_180 0 16 (dk_at dksX5_goesBy_2 19 rfl rfl)
theorem dX5_goesBy_70 : decode cX5_goesBy 70 = .ok (.iload_n 3, 1) := dk_29 (dk_at dksX5_goesBy_2 22 rfl rfl)
theorem dX5_goesBy_71 : decode cX5_goesBy 71 = .ok (.aaload, 1) := dk_50 (dk_at dksX5_goesBy_2 23 rfl rfl)
theorem dX5_goesBy_72 : decode cX5_goesBy 72 = .ok (.iload_n 2, 1) := dk_28 (dk_at dksX5_goesBy_3 0 rfl rfl)
theorem dX5_goesBy_73 : decode cX5_goesBy 73 = .ok (.aload_n 0, 1) := dk_42 (dk_at dksX5_goesBy_3 1 rfl rfl)
theorem dX5_goesBy_74 : decode cX5_goesBy 74 = .ok (.getfield 16, 3) := dk_180 0 16 (dk_at dksX5_goesBy_3 2 rfl rfl)
theorem dX5_goesBy_77 : decode cX5_goesBy 77 = .ok (.iload_n 3, 1) := dk_29 (dk_at dksX5_goesBy_3 5 rfl rfl)
theorem dX5_goesBy_78 : decode cX5_goesBy 78 = .ok (.aaload, 1) := dk_50 (dk_at dksX5_goesBy_3 6 rfl rfl)
theorem dX5_goesBy_79 : decode cX5_goesBy 79 = .ok (.aload_n 0, 1) := dk_42 (dk_at dksX5_goesBy_3 7 rfl rfl)
theorem dX5_goesBy_80 : decode cX5_goesBy 80 = .ok (.getfield 49, 3) := dk_180 0 49 (dk_at dksX5_goesBy_3 8 rfl rfl)
theorem dX5_goesBy_83 : decode cX5_goesBy 83 = .ok (.baload, 1) := dk_51 (dk_at dksX5_goesBy_3 11 rfl rfl)
theorem dX5_goesBy_84 : decode cX5_goesBy 84 = .ok (.bastore, 1) := dk_84 (dk_at dksX5_goesBy_3 12 rfl rfl)
theorem dX5_goesBy_85 : decode cX5_goesBy 85 = .ok (.iinc 3 1, 3) := dk_132 3 1 (dk_at dksX5_goesBy_3 13 rfl rfl)
theorem dX5_goesBy_88 : decode cX5_goesBy 88 = .ok (.goto (-48), 3) := dk_167 255 208 (dk_at dksX5_goesBy_3 16 rfl rfl)
theorem dX5_goesBy_91 : decode cX5_goesBy 91 = .ok (.iconst 0, 1) := dk_3 (dk_at dksX5_goesBy_3 19 rfl rfl)
theorem dX5_goesBy_92 : decode cX5_goesBy 92 = .ok (.istore_n 3, 1) := dk_62 (dk_at dksX5_goesBy_3 20 rfl rfl)
theorem dX5_goesBy_93 : decode cX5_goesBy 93 = .ok (.iload_n 3, 1) := dk_29 (dk_at dksX5_goesBy_3 21 rfl rfl)
theorem dX5_goesBy_94 : decode cX5_goesBy 94 = .ok (.aload_n 1, 1) := dk_43 (dk_at dksX5_goesBy_3 22 rfl rfl)
theorem dX5_goesBy_95 : decode cX5_goesBy 95 = .ok (.getfield 80, 3) := dk_180 0 80 (dk_at dksX5_goesBy_4 0 rfl rfl)
theorem dX5_goesBy_98 : decode cX5_goesBy 98 = .ok (.invokevirtual 63, 3) := dk_182 0 63 (dk_at dksX5_goesBy_4 3 rfl rfl)
theorem dX5_goesBy_101 : decode cX5_goesBy 101 = .ok (.if_icmp .ge 47, 3) := dk_162 0 47 (dk_at dksX5_goesBy_4 6 rfl rfl)
theorem dX5_goesBy_104 : decode cX5_goesBy 104 = .ok (.aload_n 0, 1) := dk_42 (dk_at dksX5_goesBy_4 9 rfl rfl)
theorem dX5_goesBy_105 : decode cX5_goesBy 105 = .ok (.getfield 19, 3) := dk_180 0 19 (dk_at dksX5_goesBy_4 10 rfl rfl)
theorem dX5_goesBy_108 : decode cX5_goesBy 108 = .ok (.iload_n 3, 1) := dk_29 (dk_at dksX5_goesBy_4 13 rfl rfl)
theorem dX5_goesBy_109 : decode cX5_goesBy 109 = .ok (.aaload, 1) := dk_50 (dk_at dksX5_goesBy_4 14 rfl rfl)
theorem dX5_goesBy_110 : decode cX5_goesBy 110 = .ok (.iload_n 2, 1) := dk_28 (dk_at dksX5_goesBy_4 15 rfl rfl)
theorem dX5_goesBy_111 : decode cX5_goesBy 111 = .ok (.aload_n 0, 1) := dk_42 (dk_at dksX5_goesBy_4 16 rfl rfl)
theorem dX5_goesBy_112 : decode cX5_goesBy 112 = .ok (.getfield 19, 3) := dk_180 0 19 (dk_at dksX5_goesBy_4 17 rfl rfl)
theorem dX5_goesBy_115 : decode cX5_goesBy 115 = .ok (.iload_n 3, 1) := dk_29 (dk_at dksX5_goesBy_4 20 rfl rfl)
theorem dX5_goesBy_116 : decode cX5_goesBy 116 = .ok (.aaload, 1) := dk_50 (dk_at dksX5_goesBy_4 21 rfl rfl)
theorem dX5_goesBy_117 : decode cX5_goesBy 117 = .ok (.aload_n 0, 1) := dk_42 (dk_at dksX5_goesBy_4 22 rfl rfl)
theorem dX5_goesBy_118 : decode cX5_goesBy 118 = .ok (.getfield 49, 3) := dk_180 0 49 (dk_at dksX5_goesBy_5 0 rfl rfl)
theorem dX5_goesBy_121 : decode cX5_goesBy 121 = .ok (.baload, 1) := dk_51 (dk_at dksX5_goesBy_5 3 rfl rfl)
theorem dX5_goesBy_122 : decode cX5_goesBy 122 = .ok (.bastore, 1) := dk_84 (dk_at dksX5_goesBy_5 4 rfl rfl)
theorem dX5_goesBy_123 : decode cX5_goesBy 123 = .ok (.aload_n 0, 1) := dk_42 (dk_at dksX5_goesBy_5 5 rfl rfl)
theorem dX5_goesBy_124 : decode cX5_goesBy 124 = .ok (.getfield 24, 3) := dk_180 0 24 (dk_at dksX5_goesBy_5 6 rfl rfl)
theorem dX5_goesBy_127 : decode cX5_goesBy 127 = .ok (.iload_n 3, 1) := dk_29 (dk_at dksX5_goesBy_5 9 rfl rfl)
theorem dX5_goesBy_128 : decode cX5_goesBy 128 = .ok (.aaload, 1) := dk_50 (dk_at dksX5_goesBy_5 10 rfl rfl)
theorem dX5_goesBy_129 : decode cX5_goesBy 129 = .ok (.iload_n 2, 1) := dk_28 (dk_at dksX5_goesBy_5 11 rfl rfl)
theorem dX5_goesBy_130 : decode cX5_goesBy 130 = .ok (.aload_n 0, 1) := dk_42 (dk_at dksX5_goesBy_5 12 rfl rfl)
theorem dX5_goesBy_131 : decode cX5_goesBy 131 = .ok (.getfield 24, 3) := dk_180 0 24 (dk_at dksX5_goesBy_5 13 rfl rfl)
theorem dX5_goesBy_134 : decode cX5_goesBy 134 = .ok (.iload_n 3, 1) := dk_29 (dk_at dksX5_goesBy_5 16 rfl rfl)
theorem dX5_goesBy_135 : decode cX5_goesBy 135 = .ok (.aaload, 1) := dk_50 (dk_at dksX5_goesBy_5 17 rfl rfl)
theorem dX5_goesBy_136 : decode cX5_goesBy 136 = .ok (.aload_n 0, 1) := dk_42 (dk_at dksX5_goesBy_5 18 rfl rfl)
theorem dX5_goesBy_137 : decode cX5_goesBy 137 = .ok (.getfield 49, 3) := dk_180 0 49 (dk_at dksX5_goesBy_5 19 rfl rfl)
theorem dX5_goesBy_140 : decode cX5_goesBy 140 = .ok (.baload, 1) := dk_51 (dk_at dksX5_goesBy_5 22 rfl rfl)
theorem dX5_goesBy_141 : decode cX5_goesBy 141 = .ok (.bastore, 1) := dk_84 (dk_at dksX5_goesBy_5 23 rfl rfl)
theorem dX5_goesBy_142 : decode cX5_goesBy 142 = .ok (.iinc 3 1, 3) := dk_132 3 1 (dk_at dksX5_goesBy_6 0 rfl rfl)
theorem dX5_goesBy_145 : decode cX5_goesBy 145 = .ok (.goto (-52), 3) := dk_167 255 204 (dk_at dksX5_goesBy_6 3 rfl rfl)
theorem dX5_goesBy_148 : decode cX5_goesBy 148 = .ok (.aload_n 0, 1) := dk_42 (dk_at dksX5_goesBy_6 6 rfl rfl)
theorem dX5_goesBy_149 : decode cX5_goesBy 149 = .ok (.iload_n 2, 1) := dk_28 (dk_at dksX5_goesBy_6 7 rfl rfl)
theorem dX5_goesBy_150 : decode cX5_goesBy 150 = .ok (.putfield 49, 3) := dk_181 0 49 (dk_at dksX5_goesBy_6 8 rfl rfl)
theorem dX5_goesBy_153 : decode cX5_goesBy 153 = .ok (.aload_n 0, 1) := dk_42 (dk_at dksX5_goesBy_6 11 rfl rfl)
theorem dX5_goesBy_154 : decode cX5_goesBy 154 = .ok (.aload_n 1, 1) := dk_43 (dk_at dksX5_goesBy_6 12 rfl rfl)
theorem dX5_goesBy_155 : decode cX5_goesBy 155 = .ok (.invokevirtual 86, 3) := dk_182 0 86 (dk_at dksX5_goesBy_6 13 rfl rfl)
theorem dX5_goesBy_158 : decode cX5_goesBy 158 = .ok (.iconst 0, 1) := dk_3 (dk_at dksX5_goesBy_6 16 rfl rfl)
theorem dX5_goesBy_159 : decode cX5_goesBy 159 = .ok (.istore_n 3, 1) := dk_62 (dk_at dksX5_goesBy_6 17 rfl rfl)
theorem dX5_goesBy_160 : decode cX5_goesBy 160 = .ok (.iload_n 3, 1) := dk_29 (dk_at dksX5_goesBy_6 18 rfl rfl)
theorem dX5_goesBy_161 : decode cX5_goesBy 161 = .ok (.aload_n 1, 1) := dk_43 (dk_at dksX5_goesBy_6 19 rfl rfl)
theorem dX5_goesBy_162 : decode cX5_goesBy 162 = .ok (.getfield 80, 3) := dk_180 0 80 (dk_at dksX5_goesBy_6 20 rfl rfl)
theorem dX5_goesBy_165 : decode cX5_goesBy 165 = .ok (.invokevirtual 63, 3) := dk_182 0 63 (dk_at dksX5_goesBy_7 0 rfl rfl)
theorem dX5_goesBy_168 : decode cX5_goesBy 168 = .ok (.if_icmp .ge 51, 3) := dk_162 0 51 (dk_at dksX5_goesBy_7 3 rfl rfl)
theorem dX5_goesBy_171 : decode cX5_goesBy 171 = .ok (.aload_n 0, 1) := dk_42 (dk_at dksX5_goesBy_7 6 rfl rfl)
theorem dX5_goesBy_172 : decode cX5_goesBy 172 = .ok (.iload_n 3, 1) := dk_29 (dk_at dksX5_goesBy_7 7 rfl rfl)
theorem dX5_goesBy_173 : decode cX5_goesBy 173 = .ok (.aload_n 0, 1) := dk_42 (dk_at dksX5_goesBy_7 8 rfl rfl)
theorem dX5_goesBy_174 : decode cX5_goesBy 174 = .ok (.getfield 49, 3) := dk_180 0 49 (dk_at dksX5_goesBy_7 9 rfl rfl)
theorem dX5_goesBy_177 : decode cX5_goesBy 177 = .ok (.invokevirtual 141, 3) := dk_182 0 141 (dk_at dksX5_goesBy_7 12 rfl rfl)
theorem dX5_goesBy_180 : decode cX5_goesBy 180 = .ok (.ifCond .ne 33, 3) := dk_154 0 33 (dk_at dksX5_goesBy_7 15 rfl rfl)
theorem dX5_goesBy_183 : decode cX5_goesBy 183 = .ok (.aload_n 0, 1) := dk_42 (dk_at dksX5_goesBy_7 18 rfl rfl)
theorem dX5_goesBy_184 : decode cX5_goesBy 184 = .ok (.getfield 58, 3) := dk_180 0 58 (dk_at dksX5_goesBy_7 19 rfl rfl)
theorem dX5_goesBy_187 : decode cX5_goesBy 187 = .ok (.bipush 8, 2) := dk_16 8 (dk_at dksX5_goesBy_7 22 rfl rfl)
theorem dX5_goesBy_189 : decode cX5_goesBy 189 = .ok (.aload_n 0, 1) := dk_42 (dk_at dksX5_goesBy_8 0 rfl rfl)
theorem dX5_goesBy_190 : decode cX5_goesBy 190 = .ok (.getfield 49, 3) := dk_180 0 49 (dk_at dksX5_goesBy_8 1 rfl rfl)
theorem dX5_goesBy_193 : decode cX5_goesBy 193 = .ok (.imul, 1) := dk_104 (dk_at dksX5_goesBy_8 4 rfl rfl)
theorem dX5_goesBy_194 : decode cX5_goesBy 194 = .ok (.iload_n 3, 1) := dk_29 (dk_at dksX5_goesBy_8 5 rfl rfl)
theorem dX5_goesBy_195 : decode cX5_goesBy 195 = .ok (.iadd, 1) := dk_96 (dk_at dksX5_goesBy_8 6 rfl rfl)
theorem dX5_goesBy_196 : decode cX5_goesBy 196 = .ok (.bipush 100, 2) := dk_16 100 (dk_at dksX5_goesBy_8 7 rfl rfl)
theorem dX5_goesBy_198 : decode cX5_goesBy 198 = .ok (.invokestatic 157, 3) := dk_184 0 157 (dk_at dksX5_goesBy_8 9 rfl rfl)
theorem dX5_goesBy_201 : decode cX5_goesBy 201 = .ok (.aload_n 1, 1) := dk_43 (dk_at dksX5_goesBy_8 12 rfl rfl)
theorem dX5_goesBy_202 : decode cX5_goesBy 202 = .ok (.getfield 161, 3) := dk_180 0 161 (dk_at dksX5_goesBy_8 13 rfl rfl)
theorem dX5_goesBy_205 : decode cX5_goesBy 205 = .ok (.if_icmp .ge 8, 3) := dk_162 0 8 (dk_at dksX5_goesBy_8 16 rfl rfl)
theorem dX5_goesBy_208 : decode cX5_goesBy 208 = .ok (.aload_n 0, 1) := dk_42 (dk_at dksX5_goesBy_8 19 rfl rfl)
theorem dX5_goesBy_209 : decode cX5_goesBy 209 = .ok (.iload_n 3, 1) := dk_29 (dk_at dksX5_goesBy_8 20 rfl rfl)
theorem dX5_goesBy_210 : decode cX5_goesBy 210 = .ok (.invokevirtual 164, 3) := dk_182 0 164 (dk_at dksX5_goesBy_8 21 rfl rfl)
theorem dX5_goesBy_213 : decode cX5_goesBy 213 = .ok (.iinc 3 1, 3) := dk_132 3 1 (dk_at dksX5_goesBy_9 0 rfl rfl)
theorem dX5_goesBy_216 : decode cX5_goesBy 216 = .ok (.goto (-56), 3) := dk_167 255 200 (dk_at dksX5_goesBy_9 3 rfl rfl)
theorem dX5_goesBy_219 : decode cX5_goesBy 219 = .ok (.return_, 1) := dk_177 (dk_at dksX5_goesBy_9 6 rfl rfl)
abbrev cX5_goes : ByteArray := prog_3_method_11_code
def yX5_goes : MethodName := ⟨RX5, "goes", "(LLateMirrors$Text;I)I"⟩
def dkwX5_goes_8 : List UInt8 := [180, 0, 102, 21, 4, 182, 0, 69, 192, 0, 105, 180, 0, 151, 21, 7, 4, 100, 46, 172]
abbrev dktX5_goes_8 : List UInt8 := dkwX5_goes_8 ++ []
def dkwX5_goes_7 : List UInt8 := [167, 0, 10, 21, 6, 21, 5, 4, 96, 112, 54, 7, 21, 7, 154, 0, 8, 21, 4, 167, 0, 23, 43]
abbrev dktX5_goes_7 : List UInt8 := dkwX5_goes_7 ++ dktX5_goes_8
def dkwX5_goes_6 : List UInt8 := [184, 0, 114, 4, 100, 79, 45, 42, 180, 0, 45, 182, 0, 120, 54, 6, 21, 6, 156, 0, 7, 3]
abbrev dktX5_goes_6 : List UInt8 := dkwX5_goes_6 ++ dktX5_goes_7
def dkwX5_goes_5 : List UInt8 := [21, 5, 79, 42, 180, 0, 45, 180, 0, 99, 8, 42, 43, 21, 4, 42, 180, 0, 49, 182, 0, 110]
abbrev dktX5_goes_5 : List UInt8 := dkwX5_goes_5 ++ dktX5_goes_6
def dkwX5_goes_4 : List UInt8 := [180, 0, 49, 51, 79, 42, 180, 0, 45, 180, 0, 99, 6, 28, 79, 42, 180, 0, 45, 180, 0, 99, 7]
abbrev dktX5_goes_4 : List UInt8 := dkwX5_goes_4 ++ dktX5_goes_5
def dkwX5_goes_3 : List UInt8 := [180, 0, 99, 4, 21, 4, 79, 42, 180, 0, 45, 180, 0, 99, 5, 42, 180, 0, 16, 28, 50, 42]
abbrev dktX5_goes_3 : List UInt8 := dkwX5_goes_3 ++ dktX5_goes_4
def dkwX5_goes_2 : List UInt8 := [199, 0, 6, 21, 4, 172, 42, 180, 0, 45, 180, 0, 99, 3, 42, 180, 0, 49, 79, 42, 180, 0, 45]
abbrev dktX5_goes_2 : List UInt8 := dkwX5_goes_2 ++ dktX5_goes_3
def dkwX5_goes_1 : List UInt8 := [180, 0, 49, 51, 54, 4, 43, 180, 0, 102, 21, 4, 182, 0, 69, 192, 0, 105, 180, 0, 107, 54, 5, 45]
abbrev dktX5_goes_1 : List UInt8 := dkwX5_goes_1 ++ dktX5_goes_2
def dkwX5_goes_0 : List UInt8 := [43, 180, 0, 59, 28, 182, 0, 69, 192, 0, 73, 180, 0, 148, 78, 42, 180, 0, 11, 28, 50, 42]
abbrev dktX5_goes_0 : List UInt8 := dkwX5_goes_0 ++ dktX5_goes_1
theorem dksX5_goes_0 : cX5_goes.data.toList.drop 0 = dktX5_goes_0 := by decide +kernel
theorem dksX5_goes_1 : cX5_goes.data.toList.drop 22 = dktX5_goes_1 := dk_seg dksX5_goes_0 22 rfl rfl
theorem dksX5_goes_2 : cX5_goes.data.toList.drop 46 = dktX5_goes_2 := dk_seg dksX5_goes_1 24 rfl rfl
theorem dksX5_goes_3 : cX5_goes.data.toList.drop 69 = dktX5_goes_3 := dk_seg dksX5_goes_2 23 rfl rfl
theorem dksX5_goes_4 : cX5_goes.data.toList.drop 91 = dktX5_goes_4 := dk_seg dksX5_goes_3 22 rfl rfl
theorem dksX5_goes_5 : cX5_goes.data.toList.drop 114 = dktX5_goes_5 := dk_seg dksX5_goes_4 23 rfl rfl
theorem dksX5_goes_6 : cX5_goes.data.toList.drop 136 = dktX5_goes_6 := dk_seg dksX5_goes_5 22 rfl rfl
theorem dksX5_goes_7 : cX5_goes.data.toList.drop 158 = dktX5_goes_7 := dk_seg dksX5_goes_6 22 rfl rfl
theorem dksX5_goes_8 : cX5_goes.data.toList.drop 181 = dktX5_goes_8 := dk_seg dksX5_goes_7 23 rfl rfl
theorem dX5_goes_0 : decode cX5_goes 0 = .ok (.aload_n 1, 1) := dk_43 (dk_at dksX5_goes_0 0 rfl rfl)
theorem dX5_goes_1 : decode cX5_goes 1 = .ok (.getfield 59, 3) := dk_180 0 59 (dk_at dksX5_goes_0 1 rfl rfl)
theorem dX5_goes_4 : decode cX5_goes 4 = .ok (.iload_n 2, 1) := dk_28 (dk_at dksX5_goes_0 4 rfl rfl)
theorem dX5_goes_5 : decode cX5_goes 5 = .ok (.invokevirtual 69, 3) := dk_182 0 69 (dk_at dksX5_goes_0 5 rfl rfl)
theorem dX5_goes_8 : decode cX5_goes 8 = .ok (.checkcast 73, 3) := dk_192 0 73 (dk_at dksX5_goes_0 8 rfl rfl)
theorem dX5_goes_11 : decode cX5_goes 11 = .ok (.getfield 148, 3) := dk_180 0 148 (dk_at dksX5_goes_0 11 rfl rfl)
theorem dX5_goes_14 : decode cX5_goes 14 = .ok (.astore_n 3, 1) := dk_78 (dk_at dksX5_goes_0 14 rfl rfl)
theorem dX5_goes_15 : decode cX5_goes 15 = .ok (.aload_n 0, 1) := dk_42 (dk_at dksX5_goes_0 15 rfl rfl)
theorem dX5_goes_16 : decode cX5_goes 16 = .ok (.getfield 11, 3) := dk_180 0 11 (dk_at dksX5_goes_0 16 rfl rfl)
theorem dX5_goes_19 : decode cX5_goes 19 = .ok (.iload_n 2, 1) := dk_28 (dk_at dksX5_goes_0 19 rfl rfl)
theorem dX5_goes_20 : decode cX5_goes 20 = .ok (.aaload, 1) := dk_50 (dk_at dksX5_goes_0 20 rfl rfl)
theorem dX5_goes_21 : decode cX5_goes 21 = .ok (.aload_n 0, 1) := dk_42 (dk_at dksX5_goes_0 21 rfl rfl)
theorem dX5_goes_22 : decode cX5_goes 22 = .ok (.getfield 49, 3) := dk_180 0 49 (dk_at dksX5_goes_1 0 rfl rfl)
theorem dX5_goes_25 : decode cX5_goes 25 = .ok (.baload, 1) := dk_51 (dk_at dksX5_goes_1 3 rfl rfl)
theorem dX5_goes_26 : decode cX5_goes 26 = .ok (.istore 4, 2) := dk_54 4 (dk_at dksX5_goes_1 4 rfl rfl)
theorem dX5_goes_28 : decode cX5_goes 28 = .ok (.aload_n 1, 1) := dk_43 (dk_at dksX5_goes_1 6 rfl rfl)
theorem dX5_goes_29 : decode cX5_goes 29 = .ok (.getfield 102, 3) := dk_180 0 102 (dk_at dksX5_goes_1 7 rfl rfl)
theorem dX5_goes_32 : decode cX5_goes 32 = .ok (.iload 4, 2) := dk_21 4 (dk_at dksX5_goes_1 10 rfl rfl)
theorem dX5_goes_34 : decode cX5_goes 34 = .ok (.invokevirtual 69, 3) := dk_182 0 69 (dk_at dksX5_goes_1 12 rfl rfl)
theorem dX5_goes_37 : decode cX5_goes 37 = .ok (.checkcast 105, 3) := dk_192 0 105 (dk_at dksX5_goes_1 15 rfl rfl)
theorem dX5_goes_40 : decode cX5_goes 40 = .ok (.getfield 107, 3) := dk_180 0 107 (dk_at dksX5_goes_1 18 rfl rfl)
theorem dX5_goes_43 : decode cX5_goes 43 = .ok (.istore 5, 2) := dk_54 5 (dk_at dksX5_goes_1 21 rfl rfl)
theorem dX5_goes_45 : decode cX5_goes 45 = .ok (.aload_n 3, 1) := dk_45 (dk_at dksX5_goes_1 23 rfl rfl)
theorem dX5_goes_46 : decode cX5_goes 46 = .ok (.ifnonnull 6, 3) := dk_199 0 6 (dk_at dksX5_goes_2 0 rfl rfl)
theorem dX5_goes_49 : decode cX5_goes 49 = .ok (.iload 4, 2) := dk_21 4 (dk_at dksX5_goes_2 3 rfl rfl)
theorem dX5_goes_51 : decode cX5_goes 51 = .ok (.ireturn, 1) := dk_172 (dk_at dksX5_goes_2 5 rfl rfl)
theorem dX5_goes_52 : decode cX5_goes 52 = .ok (.aload_n 0, 1) := dk_42 (dk_at dksX5_goes_2 6 rfl rfl)
theorem dX5_goes_53 : decode cX5_goes 53 = .ok (.getfield 45, 3) := dk_180 0 45 (dk_at dksX5_goes_2 7 rfl rfl)
theorem dX5_goes_56 : decode cX5_goes 56 = .ok (.getfield 99, 3) := dk_180 0 99 (dk_at dksX5_goes_2 10 rfl rfl)
theorem dX5_goes_59 : decode cX5_goes 59 = .ok (.iconst 0, 1) := dk_3 (dk_at dksX5_goes_2 13 rfl rfl)
theorem dX5_goes_60 : decode cX5_goes 60 = .ok (.aload_n 0, 1) := dk_42 (dk_at dksX5_goes_2 14 rfl rfl)
theorem dX5_goes_61 : decode cX5_goes 61 = .ok (.getfield 49, 3) := dk_180 0 49 (dk_at dksX5_goes_2 15 rfl rfl)
theorem dX5_goes_64 : decode cX5_goes 64 = .ok (.iastore, 1) := dk_79 (dk_at dksX5_goes_2 18 rfl rfl)
theorem dX5_goes_65 : decode cX5_goes 65 = .ok (.aload_n 0, 1) := dk_42 (dk_at dksX5_goes_2 19 rfl rfl)
theorem dX5_goes_66 : decode cX5_goes 66 = .ok (.getfield 45, 3) := dk_180 0 45 (dk_at dksX5_goes_2 20 rfl rfl)
theorem dX5_goes_69 : decode cX5_goes 69 = .ok (.getfield 99, 3) := dk_180 0 99 (dk_at dksX5_goes_3 0 rfl rfl)
theorem dX5_goes_72 : decode cX5_goes 72 = .ok (.iconst 1, 1) := dk_4 (dk_at dksX5_goes_3 3 rfl rfl)
theorem dX5_goes_73 : decode cX5_goes 73 = .ok (.iload 4, 2) := dk_21 4 (dk_at dksX5_goes_3 4 rfl rfl)
theorem dX5_goes_75 : decode cX5_goes 75 = .ok (.iastore, 1) := dk_79 (dk_at dksX5_goes_3 6 rfl rfl)
theorem dX5_goes_76 : decode cX5_goes 76 = .ok (.aload_n 0, 1) := dk_42 (dk_at dksX5_goes_3 7 rfl rfl)
theorem dX5_goes_77 : decode cX5_goes 77 = .ok (.getfield 45, 3) := dk_180 0 45 (dk_at dksX5_goes_3 8 rfl rfl)
theorem dX5_goes_80 : decode cX5_goes 80 = .ok (.getfield 99, 3) := dk_180 0 99 (dk_at dksX5_goes_3 11 rfl rfl)
theorem dX5_goes_83 : decode cX5_goes 83 = .ok (.iconst 2, 1) := dk_5 (dk_at dksX5_goes_3 14 rfl rfl)
theorem dX5_goes_84 : decode cX5_goes 84 = .ok (.aload_n 0, 1) := dk_42 (dk_at dksX5_goes_3 15 rfl rfl)
theorem dX5_goes_85 : decode cX5_goes 85 = .ok (.getfield 16, 3) := dk_180 0 16 (dk_at dksX5_goes_3 16 rfl rfl)
theorem dX5_goes_88 : decode cX5_goes 88 = .ok (.iload_n 2, 1) := dk_28 (dk_at dksX5_goes_3 19 rfl rfl)
theorem dX5_goes_89 : decode cX5_goes 89 = .ok (.aaload, 1) := dk_50 (dk_at dksX5_goes_3 20 rfl rfl)
theorem dX5_goes_90 : decode cX5_goes 90 = .ok (.aload_n 0, 1) := dk_42 (dk_at dksX5_goes_3 21 rfl rfl)
theorem dX5_goes_91 : decode cX5_goes 91 = .ok (.getfield 49, 3) := dk_180 0 49 (dk_at dksX5_goes_4 0 rfl rfl)
theorem dX5_goes_94 : decode cX5_goes 94 = .ok (.baload, 1) := dk_51 (dk_at dksX5_goes_4 3 rfl rfl)
theorem dX5_goes_95 : decode cX5_goes 95 = .ok (.iastore, 1) := dk_79 (dk_at dksX5_goes_4 4 rfl rfl)
theorem dX5_goes_96 : decode cX5_goes 96 = .ok (.aload_n 0, 1) := dk_42 (dk_at dksX5_goes_4 5 rfl rfl)
theorem dX5_goes_97 : decode cX5_goes 97 = .ok (.getfield 45, 3) := dk_180 0 45 (dk_at dksX5_goes_4 6 rfl rfl)
theorem dX5_goes_100 : decode cX5_goes 100 = .ok (.getfield 99, 3) := dk_180 0 99 (dk_at dksX5_goes_4 9 rfl rfl)
theorem dX5_goes_103 : decode cX5_goes 103 = .ok (.iconst 3, 1) := dk_6 (dk_at dksX5_goes_4 12 rfl rfl)
theorem dX5_goes_104 : decode cX5_goes 104 = .ok (.iload_n 2, 1) := dk_28 (dk_at dksX5_goes_4 13 rfl rfl)
theorem dX5_goes_105 : decode cX5_goes 105 = .ok (.iastore, 1) := dk_79 (dk_at dksX5_goes_4 14 rfl rfl)
theorem dX5_goes_106 : decode cX5_goes 106 = .ok (.aload_n 0, 1) := dk_42 (dk_at dksX5_goes_4 15 rfl rfl)
theorem dX5_goes_107 : decode cX5_goes 107 = .ok (.getfield 45, 3) := dk_180 0 45 (dk_at dksX5_goes_4 16 rfl rfl)
theorem dX5_goes_110 : decode cX5_goes 110 = .ok (.getfield 99, 3) := dk_180 0 99 (dk_at dksX5_goes_4 19 rfl rfl)
theorem dX5_goes_113 : decode cX5_goes 113 = .ok (.iconst 4, 1) := dk_7 (dk_at dksX5_goes_4 22 rfl rfl)
theorem dX5_goes_114 : decode cX5_goes 114 = .ok (.iload 5, 2) := dk_21 5 (dk_at dksX5_goes_5 0 rfl rfl)
theorem dX5_goes_116 : decode cX5_goes 116 = .ok (.iastore, 1) := dk_79 (dk_at dksX5_goes_5 2 rfl rfl)
theorem dX5_goes_117 : decode cX5_goes 117 = .ok (.aload_n 0, 1) := dk_42 (dk_at dksX5_goes_5 3 rfl rfl)
theorem dX5_goes_118 : decode cX5_goes 118 = .ok (.getfield 45, 3) := dk_180 0 45 (dk_at dksX5_goes_5 4 rfl rfl)
theorem dX5_goes_121 : decode cX5_goes 121 = .ok (.getfield 99, 3) := dk_180 0 99 (dk_at dksX5_goes_5 7 rfl rfl)
theorem dX5_goes_124 : decode cX5_goes 124 = .ok (.iconst 5, 1) := dk_8 (dk_at dksX5_goes_5 10 rfl rfl)
theorem dX5_goes_125 : decode cX5_goes 125 = .ok (.aload_n 0, 1) := dk_42 (dk_at dksX5_goes_5 11 rfl rfl)
theorem dX5_goes_126 : decode cX5_goes 126 = .ok (.aload_n 1, 1) := dk_43 (dk_at dksX5_goes_5 12 rfl rfl)
theorem dX5_goes_127 : decode cX5_goes 127 = .ok (.iload 4, 2) := dk_21 4 (dk_at dksX5_goes_5 13 rfl rfl)
theorem dX5_goes_129 : decode cX5_goes 129 = .ok (.aload_n 0, 1) := dk_42 (dk_at dksX5_goes_5 15 rfl rfl)
theorem dX5_goes_130 : decode cX5_goes 130 = .ok (.getfield 49, 3) := dk_180 0 49 (dk_at dksX5_goes_5 16 rfl rfl)
theorem dX5_goes_133 : decode cX5_goes 133 = .ok (.invokevirtual 110, 3) := dk_182 0 110 (dk_at dksX5_goes_5 19 rfl rfl)
theorem dX5_goes_136 : decode cX5_goes 136 = .ok (.invokestatic 114, 3) := dk_184 0 114 (dk_at dksX5_goes_6 0 rfl rfl)
theorem dX5_goes_139 : decode cX5_goes 139 = .ok (.iconst 1, 1) := dk_4 (dk_at dksX5_goes_6 3 rfl rfl)
theorem dX5_goes_140 : decode cX5_goes 140 = .ok (.isub, 1) := dk_100 (dk_at dksX5_goes_6 4 rfl rfl)
theorem dX5_goes_141 : decode cX5_goes 141 = .ok (.iastore, 1) := dk_79 (dk_at dksX5_goes_6 5 rfl rfl)
theorem dX5_goes_142 : decode cX5_goes 142 = .ok (.aload_n 3, 1) := dk_45 (dk_at dksX5_goes_6 6 rfl rfl)
theorem dX5_goes_143 : decode cX5_goes 143 = .ok (.aload_n 0, 1) := dk_42 (dk_at dksX5_goes_6 7 rfl rfl)
theorem dX5_goes_144 : decode cX5_goes 144 = .ok (.getfield 45, 3) := dk_180 0 45 (dk_at dksX5_goes_6 8 rfl rfl)
theorem dX5_goes_147 : decode cX5_goes 147 = .ok (.invokevirtual 120, 3) := dk_182 0 120 (dk_at dksX5_goes_6 11 rfl rfl)
theorem dX5_goes_150 : decode cX5_goes 150 = .ok (.istore 6, 2) := dk_54 6 (dk_at dksX5_goes_6 14 rfl rfl)
theorem dX5_goes_152 : decode cX5_goes 152 = .ok (.iload 6, 2) := dk_21 6 (dk_at dksX5_goes_6 16 rfl rfl)
theorem dX5_goes_154 : decode cX5_goes 154 = .ok (.ifCond .ge 7, 3) := dk_156 0 7 (dk_at dksX5_goes_6 18 rfl rfl)
theorem dX5_goes_157 : decode cX5_goes 157 = .ok (.iconst 0, 1) := dk_3 (dk_at dksX5_goes_6 21 rfl rfl)
theorem dX5_goes_158 : decode cX5_goes 158 = .ok (.goto 10, 3) := dk_167 0 10 (dk_at dksX5_goes_7 0 rfl rfl)
theorem dX5_goes_161 : decode cX5_goes 161 = .ok (.iload 6, 2) := dk_21 6 (dk_at dksX5_goes_7 3 rfl rfl)
theorem dX5_goes_163 : decode cX5_goes 163 = .ok (.iload 5, 2) := dk_21 5 (dk_at dksX5_goes_7 5 rfl rfl)
theorem dX5_goes_165 : decode cX5_goes 165 = .ok (.iconst 1, 1) := dk_4 (dk_at dksX5_goes_7 7 rfl rfl)
theorem dX5_goes_166 : decode cX5_goes 166 = .ok (.iadd, 1) := dk_96 (dk_at dksX5_goes_7 8 rfl rfl)
theorem dX5_goes_167 : decode cX5_goes 167 = .ok (.irem, 1) := dk_112 (dk_at dksX5_goes_7 9 rfl rfl)
theorem dX5_goes_168 : decode cX5_goes 168 = .ok (.istore 7, 2) := dk_54 7 (dk_at dksX5_goes_7 10 rfl rfl)
theorem dX5_goes_170 : decode cX5_goes 170 = .ok (.iload 7, 2) := dk_21 7 (dk_at dksX5_goes_7 12 rfl rfl)
theorem dX5_goes_172 : decode cX5_goes 172 = .ok (.ifCond .ne 8, 3) := dk_154 0 8 (dk_at dksX5_goes_7 14 rfl rfl)
theorem dX5_goes_175 : decode cX5_goes 175 = .ok (.iload 4, 2) := dk_21 4 (dk_at dksX5_goes_7 17 rfl rfl)
theorem dX5_goes_177 : decode cX5_goes 177 = .ok (.goto 23, 3) := dk_167 0 23 (dk_at dksX5_goes_7 19 rfl rfl)
theorem dX5_goes_180 : decode cX5_goes 180 = .ok (.aload_n 1, 1) := dk_43 (dk_at dksX5_goes_7 22 rfl rfl)
theorem dX5_goes_181 : decode cX5_goes 181 = .ok (.getfield 102, 3) := dk_180 0 102 (dk_at dksX5_goes_8 0 rfl rfl)
theorem dX5_goes_184 : decode cX5_goes 184 = .ok (.iload 4, 2) := dk_21 4 (dk_at dksX5_goes_8 3 rfl rfl)
theorem dX5_goes_186 : decode cX5_goes 186 = .ok (.invokevirtual 69, 3) := dk_182 0 69 (dk_at dksX5_goes_8 5 rfl rfl)
theorem dX5_goes_189 : decode cX5_goes 189 = .ok (.checkcast 105, 3) := dk_192 0 105 (dk_at dksX5_goes_8 8 rfl rfl)
theorem dX5_goes_192 : decode cX5_goes 192 = .ok (.getfield 151, 3) := dk_180 0 151 (dk_at dksX5_goes_8 11 rfl rfl)
theorem dX5_goes_195 : decode cX5_goes 195 = .ok (.iload 7, 2) := dk_21 7 (dk_at dksX5_goes_8 14 rfl rfl)
theorem dX5_goes_197 : decode cX5_goes 197 = .ok (.iconst 1, 1) := dk_4 (dk_at dksX5_goes_8 16 rfl rfl)
theorem dX5_goes_198 : decode cX5_goes 198 = .ok (.isub, 1) := dk_100 (dk_at dksX5_goes_8 17 rfl rfl)
theorem dX5_goes_199 : decode cX5_goes 199 = .ok (.iaload, 1) := dk_46 (dk_at dksX5_goes_8 18 rfl rfl)
theorem dX5_goes_200 : decode cX5_goes 200 = .ok (.ireturn, 1) := dk_172 (dk_at dksX5_goes_8 19 rfl rfl)
abbrev cX5_breaks : ByteArray := prog_3_method_10_code
def yX5_breaks : MethodName := ⟨RX5, "breaks", "(I)V"⟩
def dkwX5_breaks_1 : List UInt8 := [79, 177]
abbrev dktX5_breaks_1 : List UInt8 := dkwX5_breaks_1 ++ []
def dkwX5_breaks_0 : List UInt8 := [42, 180, 0, 36, 27, 42, 27, 42, 180, 0, 49, 182, 0, 145, 79, 42, 180, 0, 32, 27, 42, 180, 0, 49]
abbrev dktX5_breaks_0 : List UInt8 := dkwX5_breaks_0 ++ dktX5_breaks_1
theorem dksX5_breaks_0 : cX5_breaks.data.toList.drop 0 = dktX5_breaks_0 := by decide +kernel
theorem dksX5_breaks_1 : cX5_breaks.data.toList.drop 24 = dktX5_breaks_1 := dk_seg dksX5_breaks_0 24 rfl rfl
theorem dX5_breaks_0 : decode cX5_breaks 0 = .ok (.aload_n 0, 1) := dk_42 (dk_at dksX5_breaks_0 0 rfl rfl)
theorem dX5_breaks_1 : decode cX5_breaks 1 = .ok (.getfield 36, 3) := dk_180 0 36 (dk_at dksX5_breaks_0 1 rfl rfl)
theorem dX5_breaks_4 : decode cX5_breaks 4 = .ok (.iload_n 1, 1) := dk_27 (dk_at dksX5_breaks_0 4 rfl rfl)
theorem dX5_breaks_5 : decode cX5_breaks 5 = .ok (.aload_n 0, 1) := dk_42 (dk_at dksX5_breaks_0 5 rfl rfl)
theorem dX5_breaks_6 : decode cX5_breaks 6 = .ok (.iload_n 1, 1) := dk_27 (dk_at dksX5_breaks_0 6 rfl rfl)
theorem dX5_breaks_7 : decode cX5_breaks 7 = .ok (.aload_n 0, 1) := dk_42 (dk_at dksX5_breaks_0 7 rfl rfl)
theorem dX5_breaks_8 : decode cX5_breaks 8 = .ok (.getfield 49, 3) := dk_180 0 49 (dk_at dksX5_breaks_0 8 rfl rfl)
theorem dX5_breaks_11 : decode cX5_breaks 11 = .ok (.invokevirtual 145, 3) := dk_182 0 145 (dk_at dksX5_breaks_0 11 rfl rfl)
theorem dX5_breaks_14 : decode cX5_breaks 14 = .ok (.iastore, 1) := dk_79 (dk_at dksX5_breaks_0 14 rfl rfl)
theorem dX5_breaks_15 : decode cX5_breaks 15 = .ok (.aload_n 0, 1) := dk_42 (dk_at dksX5_breaks_0 15 rfl rfl)
theorem dX5_breaks_16 : decode cX5_breaks 16 = .ok (.getfield 32, 3) := dk_180 0 32 (dk_at dksX5_breaks_0 16 rfl rfl)
theorem dX5_breaks_19 : decode cX5_breaks 19 = .ok (.iload_n 1, 1) := dk_27 (dk_at dksX5_breaks_0 19 rfl rfl)
theorem dX5_breaks_20 : decode cX5_breaks 20 = .ok (.aload_n 0, 1) := dk_42 (dk_at dksX5_breaks_0 20 rfl rfl)
theorem dX5_breaks_21 : decode cX5_breaks 21 = .ok (.getfield 49, 3) := dk_180 0 49 (dk_at dksX5_breaks_0 21 rfl rfl)
theorem dX5_breaks_24 : decode cX5_breaks 24 = .ok (.iastore, 1) := dk_79 (dk_at dksX5_breaks_1 0 rfl rfl)
theorem dX5_breaks_25 : decode cX5_breaks 25 = .ok (.return_, 1) := dk_177 (dk_at dksX5_breaks_1 1 rfl rfl)
theorem q132 : (Jvm.Cond.initialized "LateMirrors$Court") ∈ lw_all := lw_g (lw_at lw_m1 12 rfl) rfl
theorem q356 : (Jvm.Cond.fieldLink "LateMirrors$Court" (102 : Nat) "LateMirrors$Text" "rooms" "Ljava/util/ArrayList;") ∈ lw_all := lw_g (lw_at lw_m1 236 rfl) rfl
theorem q360 : (Jvm.Cond.fieldLink "LateMirrors$Court" (59 : Nat) "LateMirrors$Text" "men" "Ljava/util/ArrayList;") ∈ lw_all := lw_g (lw_at lw_m2 0 rfl) rfl
theorem q364 : (Jvm.Cond.fieldLink "LateMirrors$Court" (80 : Nat) "LateMirrors$Text" "mirrors" "Ljava/util/ArrayList;") ∈ lw_all := lw_g (lw_at lw_m2 4 rfl) rfl
theorem q369 : (Jvm.Cond.fieldLink "LateMirrors$Court" (161 : Nat) "LateMirrors$Text" "breaks" "I") ∈ lw_all := lw_g (lw_at lw_m2 9 rfl) rfl
theorem q371 : (Jvm.Cond.fieldLink "LateMirrors$Court" (53 : Nat) "LateMirrors$Text" "seed" "I") ∈ lw_all := lw_g (lw_at lw_m2 11 rfl) rfl
theorem q374 : (Jvm.Cond.fieldLink "LateMirrors$Court" (96 : Nat) "LateMirrors$Text" "late" "LLateMirrors$Law;") ∈ lw_all := lw_g (lw_at lw_m2 14 rfl) rfl
theorem q392 : (Jvm.Cond.instantiable "LateMirrors$Court" (11 : Nat)) ∈ lw_all := lw_g (lw_at lw_m2 32 rfl) rfl
theorem q394 : (Jvm.Cond.instanceMethod ({ cls := "LateMirrors$Court", name := "<init>", desc := "()V" } : Jvm.MethodName)) ∈ lw_all := lw_g (lw_at lw_m2 34 rfl) rfl
theorem q395 : (Jvm.Cond.code ({ cls := "LateMirrors$Court", name := "<init>", desc := "()V" } : Jvm.MethodName) prog_3_method_1_code (1 : Nat) (Option.none : Option Jvm.ClassFile.FieldType)) ∈ lw_all := lw_g (lw_at lw_m2 35 rfl) rfl
theorem q396 : (Jvm.Cond.methodLink "LateMirrors$Court" (3 : Nat) ({ cls := "java/lang/Object", name := "<init>", desc := "()V" } : Jvm.MethodName)) ∈ lw_all := lw_g (lw_at lw_m2 36 rfl) rfl
theorem q397 : (Jvm.Cond.classLink "LateMirrors$Court" (9 : Nat) "[[B") ∈ lw_all := lw_g (lw_at lw_m2 37 rfl) rfl
theorem q399 : (Jvm.Cond.classLink "LateMirrors$Court" (22 : Nat) "[[Z") ∈ lw_all := lw_g (lw_at lw_m2 39 rfl) rfl
theorem q401 : (Jvm.Cond.classLink "LateMirrors$Court" (27 : Nat) "[[S") ∈ lw_all := lw_g (lw_at lw_m2 41 rfl) rfl
theorem q403 : (Jvm.Cond.classLink "LateMirrors$Court" (42 : Nat) "LateMirrors$Asked") ∈ lw_all := lw_g (lw_at lw_m2 43 rfl) rfl
theorem q405 : (Jvm.Cond.methodLinkNest "LateMirrors$Court" (44 : Nat) ({ cls := "LateMirrors$Asked", name := "<init>", desc := "()V" } : Jvm.MethodName) "LateMirrors") ∈ lw_tbl := lw_at lw_m2 45 rfl
theorem q411 : (Jvm.Cond.fieldLink "LateMirrors$Court" (99 : Nat) "LateMirrors$Asked" "v" "[I") ∈ lw_all := lw_g (lw_at lw_m2 51 rfl) rfl
theorem q421 : (Jvm.Cond.fieldLink "LateMirrors$Court" (11 : Nat) "LateMirrors$Court" "where" "[[B") ∈ lw_all := lw_g (lw_at lw_m2 61 rfl) rfl
theorem q423 : (Jvm.Cond.fieldLink "LateMirrors$Court" (16 : Nat) "LateMirrors$Court" "rank" "[[B") ∈ lw_all := lw_g (lw_at lw_m2 63 rfl) rfl
theorem q425 : (Jvm.Cond.fieldLink "LateMirrors$Court" (19 : Nat) "LateMirrors$Court" "hung" "[[B") ∈ lw_all := lw_g (lw_at lw_m2 65 rfl) rfl
theorem q428 : (Jvm.Cond.fieldLink "LateMirrors$Court" (24 : Nat) "LateMirrors$Court" "wall" "[[Z") ∈ lw_all := lw_g (lw_at lw_m2 68 rfl) rfl
theorem q430 : (Jvm.Cond.fieldLink "LateMirrors$Court" (29 : Nat) "LateMirrors$Court" "late" "[[S") ∈ lw_all := lw_g (lw_at lw_m2 70 rfl) rfl
theorem q432 : (Jvm.Cond.fieldLink "LateMirrors$Court" (32 : Nat) "LateMirrors$Court" "broke" "[I") ∈ lw_all := lw_g (lw_at lw_m2 72 rfl) rfl
theorem q433 : (Jvm.Cond.fieldLink "LateMirrors$Court" (36 : Nat) "LateMirrors$Court" "frozen" "[I") ∈ lw_all := lw_g (lw_at lw_m2 73 rfl) rfl
theorem q434 : (Jvm.Cond.fieldLink "LateMirrors$Court" (39 : Nat) "LateMirrors$Court" "to" "[I") ∈ lw_all := lw_g (lw_at lw_m2 74 rfl) rfl
theorem q435 : (Jvm.Cond.fieldLink "LateMirrors$Court" (45 : Nat) "LateMirrors$Court" "asked" "LLateMirrors$Asked;") ∈ lw_all := lw_g (lw_at lw_m2 75 rfl) rfl
theorem q436 : (Jvm.Cond.fieldLink "LateMirrors$Court" (49 : Nat) "LateMirrors$Court" "minute" "I") ∈ lw_all := lw_g (lw_at lw_m2 76 rfl) rfl
theorem q438 : (Jvm.Cond.fieldLink "LateMirrors$Court" (58 : Nat) "LateMirrors$Court" "seed" "I") ∈ lw_all := lw_g (lw_at lw_m2 78 rfl) rfl
theorem q440 : (Jvm.Cond.laysFinal "LateMirrors$Court" "LateMirrors$Court" "where" "[[B") ∈ lw_all := lw_g (lw_at lw_m2 80 rfl) rfl
theorem q441 : (Jvm.Cond.soleField "LateMirrors$Court" "where") ∈ lw_all := lw_g (lw_at lw_m2 81 rfl) rfl
theorem q442 : (Jvm.Cond.laysFinal "LateMirrors$Court" "LateMirrors$Court" "rank" "[[B") ∈ lw_all := lw_g (lw_at lw_m2 82 rfl) rfl
theorem q443 : (Jvm.Cond.soleField "LateMirrors$Court" "rank") ∈ lw_all := lw_g (lw_at lw_m2 83 rfl) rfl
theorem q444 : (Jvm.Cond.laysFinal "LateMirrors$Court" "LateMirrors$Court" "hung" "[[B") ∈ lw_all := lw_g (lw_at lw_m2 84 rfl) rfl
theorem q445 : (Jvm.Cond.soleField "LateMirrors$Court" "hung") ∈ lw_all := lw_g (lw_at lw_m2 85 rfl) rfl
theorem q446 : (Jvm.Cond.laysFinal "LateMirrors$Court" "LateMirrors$Court" "wall" "[[Z") ∈ lw_all := lw_g (lw_at lw_m2 86 rfl) rfl
theorem q447 : (Jvm.Cond.soleField "LateMirrors$Court" "wall") ∈ lw_all := lw_g (lw_at lw_m2 87 rfl) rfl
theorem q448 : (Jvm.Cond.laysFinal "LateMirrors$Court" "LateMirrors$Court" "late" "[[S") ∈ lw_all := lw_g (lw_at lw_m2 88 rfl) rfl
theorem q449 : (Jvm.Cond.soleField "LateMirrors$Court" "late") ∈ lw_all := lw_g (lw_at lw_m2 89 rfl) rfl
theorem q450 : (Jvm.Cond.laysFinal "LateMirrors$Court" "LateMirrors$Court" "broke" "[I") ∈ lw_all := lw_g (lw_at lw_m2 90 rfl) rfl
theorem q451 : (Jvm.Cond.soleField "LateMirrors$Court" "broke") ∈ lw_all := lw_g (lw_at lw_m2 91 rfl) rfl
theorem q452 : (Jvm.Cond.laysFinal "LateMirrors$Court" "LateMirrors$Court" "frozen" "[I") ∈ lw_all := lw_g (lw_at lw_m2 92 rfl) rfl
theorem q453 : (Jvm.Cond.soleField "LateMirrors$Court" "frozen") ∈ lw_all := lw_g (lw_at lw_m2 93 rfl) rfl
theorem q454 : (Jvm.Cond.laysFinal "LateMirrors$Court" "LateMirrors$Court" "to" "[I") ∈ lw_all := lw_g (lw_at lw_m2 94 rfl) rfl
theorem q455 : (Jvm.Cond.soleField "LateMirrors$Court" "to") ∈ lw_all := lw_g (lw_at lw_m2 95 rfl) rfl
theorem q456 : (Jvm.Cond.laysFinal "LateMirrors$Court" "LateMirrors$Court" "asked" "LLateMirrors$Asked;") ∈ lw_all := lw_g (lw_at lw_m2 96 rfl) rfl
theorem q457 : (Jvm.Cond.soleField "LateMirrors$Court" "asked") ∈ lw_all := lw_g (lw_at lw_m2 97 rfl) rfl
theorem q458 : (Jvm.Cond.lays "LateMirrors$Court" "LateMirrors$Court" "minute" "I") ∈ lw_all := lw_g (lw_at lw_m2 98 rfl) rfl
theorem q459 : (Jvm.Cond.soleField "LateMirrors$Court" "minute") ∈ lw_all := lw_g (lw_at lw_m2 99 rfl) rfl
theorem q460 : (Jvm.Cond.lays "LateMirrors$Court" "LateMirrors$Court" "seed" "I") ∈ lw_all := lw_g (lw_at lw_m2 100 rfl) rfl
theorem q461 : (Jvm.Cond.soleField "LateMirrors$Court" "seed") ∈ lw_all := lw_g (lw_at lw_m2 101 rfl) rfl
theorem q462 : (Jvm.Cond.superclass "LateMirrors$Court" "java/lang/Object") ∈ lw_all := lw_g (lw_at lw_m2 102 rfl) rfl
theorem q481 : (Jvm.Cond.instanceMethod ({ cls := "LateMirrors$Court", name := "begins", desc := "(LLateMirrors$Text;)V" } : Jvm.MethodName)) ∈ lw_all := lw_g (lw_at lw_m2 121 rfl) rfl
theorem q482 : (Jvm.Cond.selects "LateMirrors$Court" ({ cls := "LateMirrors$Court", name := "begins", desc := "(LLateMirrors$Text;)V" } : Jvm.MethodName) ({ cls := "LateMirrors$Court", name := "begins", desc := "(LLateMirrors$Text;)V" } : Jvm.MethodName)) ∈ lw_all := lw_g (lw_at lw_m2 122 rfl) rfl
theorem q483 : (Jvm.Cond.code ({ cls := "LateMirrors$Court", name := "begins", desc := "(LLateMirrors$Text;)V" } : Jvm.MethodName) prog_3_method_2_code (3 : Nat) (Option.none : Option Jvm.ClassFile.FieldType)) ∈ lw_all := lw_g (lw_at lw_m2 123 rfl) rfl
theorem q484 : (Jvm.Cond.methodLink "LateMirrors$Court" (63 : Nat) ({ cls := "java/util/ArrayList", name := "size", desc := "()I" } : Jvm.MethodName)) ∈ lw_all := lw_g (lw_at lw_m2 124 rfl) rfl
theorem q488 : (Jvm.Cond.methodLink "LateMirrors$Court" (69 : Nat) ({ cls := "java/util/ArrayList", name := "get", desc := "(I)Ljava/lang/Object;" } : Jvm.MethodName)) ∈ lw_all := lw_g (lw_at lw_m2 128 rfl) rfl
theorem q502 : (Jvm.Cond.classLink "LateMirrors$Court" (73 : Nat) "LateMirrors$Man") ∈ lw_all := lw_g (lw_at lw_m2 142 rfl) rfl
theorem q503 : (Jvm.Cond.classLink "LateMirrors$Court" (83 : Nat) "LateMirrors$Mirror") ∈ lw_all := lw_g (lw_at lw_m2 143 rfl) rfl
theorem q504 : (Jvm.Cond.methodLink "LateMirrors$Court" (86 : Nat) ({ cls := "LateMirrors$Court", name := "looks", desc := "(LLateMirrors$Text;)V" } : Jvm.MethodName)) ∈ lw_all := lw_g (lw_at lw_m2 144 rfl) rfl
theorem q505 : (Jvm.Cond.instanceMethod ({ cls := "LateMirrors$Court", name := "looks", desc := "(LLateMirrors$Text;)V" } : Jvm.MethodName)) ∈ lw_all := lw_g (lw_at lw_m2 145 rfl) rfl
theorem q506 : (Jvm.Cond.selects "LateMirrors$Court" ({ cls := "LateMirrors$Court", name := "looks", desc := "(LLateMirrors$Text;)V" } : Jvm.MethodName) ({ cls := "LateMirrors$Court", name := "looks", desc := "(LLateMirrors$Text;)V" } : Jvm.MethodName)) ∈ lw_all := lw_g (lw_at lw_m2 146 rfl) rfl
theorem q507 : (Jvm.Cond.code ({ cls := "LateMirrors$Court", name := "looks", desc := "(LLateMirrors$Text;)V" } : Jvm.MethodName) prog_3_method_5_code (3 : Nat) (Option.none : Option Jvm.ClassFile.FieldType)) ∈ lw_all := lw_g (lw_at lw_m2 147 rfl) rfl
theorem q508 : (Jvm.Cond.methodLink "LateMirrors$Court" (138 : Nat) ({ cls := "LateMirrors$Court", name := "lateBy", desc := "(LLateMirrors$Text;II)I" } : Jvm.MethodName)) ∈ lw_all := lw_g (lw_at lw_m2 148 rfl) rfl
theorem q509 : (Jvm.Cond.instanceMethod ({ cls := "LateMirrors$Court", name := "lateBy", desc := "(LLateMirrors$Text;II)I" } : Jvm.MethodName)) ∈ lw_all := lw_g (lw_at lw_m2 149 rfl) rfl
theorem q510 : (Jvm.Cond.selects "LateMirrors$Court" ({ cls := "LateMirrors$Court", name := "lateBy", desc := "(LLateMirrors$Text;II)I" } : Jvm.MethodName) ({ cls := "LateMirrors$Court", name := "lateBy", desc := "(LLateMirrors$Text;II)I" } : Jvm.MethodName)) ∈ lw_all := lw_g (lw_at lw_m2 150 rfl) rfl
theorem q511 : (Jvm.Cond.code ({ cls := "LateMirrors$Court", name := "lateBy", desc := "(LLateMirrors$Text;II)I" } : Jvm.MethodName) prog_3_method_4_code (5 : Nat) (Option.some Jvm.ClassFile.FieldType.int)) ∈ lw_all := lw_g (lw_at lw_m2 151 rfl) rfl
theorem q512 : (Jvm.Cond.classLink "LateMirrors$Court" (105 : Nat) "LateMirrors$Room") ∈ lw_all := lw_g (lw_at lw_m2 152 rfl) rfl
theorem q513 : (Jvm.Cond.methodLink "LateMirrors$Court" (110 : Nat) ({ cls := "LateMirrors$Court", name := "menIn", desc := "(LLateMirrors$Text;II)I" } : Jvm.MethodName)) ∈ lw_all := lw_g (lw_at lw_m2 153 rfl) rfl
theorem q514 : (Jvm.Cond.instanceMethod ({ cls := "LateMirrors$Court", name := "menIn", desc := "(LLateMirrors$Text;II)I" } : Jvm.MethodName)) ∈ lw_all := lw_g (lw_at lw_m2 154 rfl) rfl
theorem q515 : (Jvm.Cond.selects "LateMirrors$Court" ({ cls := "LateMirrors$Court", name := "menIn", desc := "(LLateMirrors$Text;II)I" } : Jvm.MethodName) ({ cls := "LateMirrors$Court", name := "menIn", desc := "(LLateMirrors$Text;II)I" } : Jvm.MethodName)) ∈ lw_all := lw_g (lw_at lw_m2 155 rfl) rfl
theorem q516 : (Jvm.Cond.code ({ cls := "LateMirrors$Court", name := "menIn", desc := "(LLateMirrors$Text;II)I" } : Jvm.MethodName) prog_3_method_8_code (6 : Nat) (Option.some Jvm.ClassFile.FieldType.int)) ∈ lw_all := lw_g (lw_at lw_m2 156 rfl) rfl
theorem q517 : (Jvm.Cond.methodLink "LateMirrors$Court" (114 : Nat) ({ cls := "java/lang/Integer", name := "bitCount", desc := "(I)I" } : Jvm.MethodName)) ∈ lw_all := lw_g (lw_at lw_m2 157 rfl) rfl
theorem q523 : (Jvm.Cond.methodLink "LateMirrors$Court" (120 : Nat) ({ cls := "LateMirrors$Law", name := "of", desc := "(LLateMirrors$Asked;)I" } : Jvm.MethodName)) ∈ lw_all := lw_g (lw_at lw_m2 163 rfl) rfl
theorem q540 : (Jvm.Cond.methodLink "LateMirrors$Court" (126 : Nat) ({ cls := "java/lang/Math", name := "min", desc := "(II)I" } : Jvm.MethodName)) ∈ lw_all := lw_g (lw_at lw_m2 180 rfl) rfl
theorem q543 : (Jvm.Cond.methodLink "LateMirrors$Court" (132 : Nat) ({ cls := "java/lang/Math", name := "max", desc := "(II)I" } : Jvm.MethodName)) ∈ lw_all := lw_g (lw_at lw_m2 183 rfl) rfl
theorem q943 : (Jvm.Cond.fieldLink "LateMirrors$Court" (151 : Nat) "LateMirrors$Room" "door" "[I") ∈ lw_all := lw_g (lw_at lw_m4 103 rfl) rfl
theorem q946 : (Jvm.Cond.fieldLink "LateMirrors$Court" (107 : Nat) "LateMirrors$Room" "doors" "I") ∈ lw_all := lw_g (lw_at lw_m4 106 rfl) rfl
theorem q982 : (Jvm.Cond.selects "LateMirrors$Court" ({ cls := "java/lang/Object", name := "getClass", desc := "()Ljava/lang/Class;" } : Jvm.MethodName) ({ cls := "java/lang/Object", name := "getClass", desc := "()Ljava/lang/Class;" } : Jvm.MethodName)) ∈ lw_all := lw_g (lw_at lw_m4 142 rfl) rfl
theorem q1028 : (Jvm.Cond.fieldLink "LateMirrors$Court" (78 : Nat) "LateMirrors$Man" "rank" "I") ∈ lw_all := lw_g (lw_at lw_m4 188 rfl) rfl
theorem q1030 : (Jvm.Cond.fieldLink "LateMirrors$Court" (75 : Nat) "LateMirrors$Man" "room" "I") ∈ lw_all := lw_g (lw_at lw_m4 190 rfl) rfl
theorem q1032 : (Jvm.Cond.fieldLink "LateMirrors$Court" (148 : Nat) "LateMirrors$Man" "goes" "LLateMirrors$Law;") ∈ lw_all := lw_g (lw_at lw_m4 192 rfl) rfl
theorem q1152 : (Jvm.Cond.fieldLink "LateMirrors$Court" (85 : Nat) "LateMirrors$Mirror" "room" "I") ∈ lw_all := lw_g (lw_at lw_m5 72 rfl) rfl
theorem q1154 : (Jvm.Cond.fieldLink "LateMirrors$Court" (135 : Nat) "LateMirrors$Mirror" "owner" "I") ∈ lw_all := lw_g (lw_at lw_m5 74 rfl) rfl
theorem q1200 : (Jvm.Cond.instanceMethod ({ cls := "LateMirrors$Court", name := "shows", desc := "(II)I" } : Jvm.MethodName)) ∈ lw_all := lw_g (lw_at lw_m5 120 rfl) rfl
theorem q1201 : (Jvm.Cond.selects "LateMirrors$Court" ({ cls := "LateMirrors$Court", name := "shows", desc := "(II)I" } : Jvm.MethodName) ({ cls := "LateMirrors$Court", name := "shows", desc := "(II)I" } : Jvm.MethodName)) ∈ lw_all := lw_g (lw_at lw_m5 121 rfl) rfl
theorem q1202 : (Jvm.Cond.code ({ cls := "LateMirrors$Court", name := "shows", desc := "(II)I" } : Jvm.MethodName) prog_3_method_7_code (4 : Nat) (Option.some Jvm.ClassFile.FieldType.int)) ∈ lw_all := lw_g (lw_at lw_m5 122 rfl) rfl
theorem q1203 : (Jvm.Cond.methodLink "LateMirrors$Court" (141 : Nat) ({ cls := "LateMirrors$Court", name := "isBroken", desc := "(II)Z" } : Jvm.MethodName)) ∈ lw_all := lw_g (lw_at lw_m5 123 rfl) rfl
theorem q1204 : (Jvm.Cond.instanceMethod ({ cls := "LateMirrors$Court", name := "isBroken", desc := "(II)Z" } : Jvm.MethodName)) ∈ lw_all := lw_g (lw_at lw_m5 124 rfl) rfl
theorem q1205 : (Jvm.Cond.selects "LateMirrors$Court" ({ cls := "LateMirrors$Court", name := "isBroken", desc := "(II)Z" } : Jvm.MethodName) ({ cls := "LateMirrors$Court", name := "isBroken", desc := "(II)Z" } : Jvm.MethodName)) ∈ lw_all := lw_g (lw_at lw_m5 125 rfl) rfl
theorem q1206 : (Jvm.Cond.code ({ cls := "LateMirrors$Court", name := "isBroken", desc := "(II)Z" } : Jvm.MethodName) prog_3_method_6_code (3 : Nat) (Option.some Jvm.ClassFile.FieldType.boolean)) ∈ lw_all := lw_g (lw_at lw_m5 126 rfl) rfl
theorem q1209 : (Jvm.Cond.instanceMethod ({ cls := "LateMirrors$Court", name := "menShown", desc := "(LLateMirrors$Text;II)I" } : Jvm.MethodName)) ∈ lw_all := lw_g (lw_at lw_m5 129 rfl) rfl
theorem q1210 : (Jvm.Cond.selects "LateMirrors$Court" ({ cls := "LateMirrors$Court", name := "menShown", desc := "(LLateMirrors$Text;II)I" } : Jvm.MethodName) ({ cls := "LateMirrors$Court", name := "menShown", desc := "(LLateMirrors$Text;II)I" } : Jvm.MethodName)) ∈ lw_all := lw_g (lw_at lw_m5 130 rfl) rfl
theorem q1211 : (Jvm.Cond.code ({ cls := "LateMirrors$Court", name := "menShown", desc := "(LLateMirrors$Text;II)I" } : Jvm.MethodName) prog_3_method_9_code (5 : Nat) (Option.some Jvm.ClassFile.FieldType.int)) ∈ lw_all := lw_g (lw_at lw_m5 131 rfl) rfl
theorem q1212 : (Jvm.Cond.methodLink "LateMirrors$Court" (145 : Nat) ({ cls := "LateMirrors$Court", name := "shows", desc := "(II)I" } : Jvm.MethodName)) ∈ lw_all := lw_g (lw_at lw_m5 132 rfl) rfl
theorem q1222 : (Jvm.Cond.instanceMethod ({ cls := "LateMirrors$Court", name := "takes", desc := "(LLateMirrors$Court;)V" } : Jvm.MethodName)) ∈ lw_all := lw_g (lw_at lw_m5 142 rfl) rfl
theorem q1223 : (Jvm.Cond.selects "LateMirrors$Court" ({ cls := "LateMirrors$Court", name := "takes", desc := "(LLateMirrors$Court;)V" } : Jvm.MethodName) ({ cls := "LateMirrors$Court", name := "takes", desc := "(LLateMirrors$Court;)V" } : Jvm.MethodName)) ∈ lw_all := lw_g (lw_at lw_m5 143 rfl) rfl
theorem q1224 : (Jvm.Cond.code ({ cls := "LateMirrors$Court", name := "takes", desc := "(LLateMirrors$Court;)V" } : Jvm.MethodName) prog_3_method_3_code (3 : Nat) (Option.none : Option Jvm.ClassFile.FieldType)) ∈ lw_all := lw_g (lw_at lw_m5 144 rfl) rfl
theorem q1225 : (Jvm.Cond.methodLink "LateMirrors$Court" (90 : Nat) ({ cls := "java/lang/System", name := "arraycopy", desc := "(Ljava/lang/Object;ILjava/lang/Object;II)V" } : Jvm.MethodName)) ∈ lw_all := lw_g (lw_at lw_m5 145 rfl) rfl
theorem q1232 : (Jvm.Cond.instanceMethod ({ cls := "LateMirrors$Court", name := "goesBy", desc := "(LLateMirrors$Text;)V" } : Jvm.MethodName)) ∈ lw_all := lw_g (lw_at lw_m5 152 rfl) rfl
theorem q1233 : (Jvm.Cond.selects "LateMirrors$Court" ({ cls := "LateMirrors$Court", name := "goesBy", desc := "(LLateMirrors$Text;)V" } : Jvm.MethodName) ({ cls := "LateMirrors$Court", name := "goesBy", desc := "(LLateMirrors$Text;)V" } : Jvm.MethodName)) ∈ lw_all := lw_g (lw_at lw_m5 153 rfl) rfl
theorem q1234 : (Jvm.Cond.code ({ cls := "LateMirrors$Court", name := "goesBy", desc := "(LLateMirrors$Text;)V" } : Jvm.MethodName) prog_3_method_12_code (4 : Nat) (Option.none : Option Jvm.ClassFile.FieldType)) ∈ lw_all := lw_g (lw_at lw_m5 154 rfl) rfl
theorem q1235 : (Jvm.Cond.methodLink "LateMirrors$Court" (154 : Nat) ({ cls := "LateMirrors$Court", name := "goes", desc := "(LLateMirrors$Text;I)I" } : Jvm.MethodName)) ∈ lw_all := lw_g (lw_at lw_m5 155 rfl) rfl
theorem q1236 : (Jvm.Cond.privateMethod ({ cls := "LateMirrors$Court", name := "goes", desc := "(LLateMirrors$Text;I)I" } : Jvm.MethodName)) ∈ lw_tbl := lw_at lw_m5 156 rfl
theorem q1237 : (Jvm.Cond.instanceMethod ({ cls := "LateMirrors$Court", name := "goes", desc := "(LLateMirrors$Text;I)I" } : Jvm.MethodName)) ∈ lw_all := lw_g (lw_at lw_m5 157 rfl) rfl
theorem q1238 : (Jvm.Cond.code ({ cls := "LateMirrors$Court", name := "goes", desc := "(LLateMirrors$Text;I)I" } : Jvm.MethodName) prog_3_method_11_code (8 : Nat) (Option.some Jvm.ClassFile.FieldType.int)) ∈ lw_all := lw_g (lw_at lw_m5 158 rfl) rfl
theorem q1239 : (Jvm.Cond.methodLinkNest "LateMirrors$Court" (157 : Nat) ({ cls := "LateMirrors", name := "lot", desc := "(III)I" } : Jvm.MethodName) "LateMirrors") ∈ lw_tbl := lw_at lw_m5 159 rfl
theorem q1246 : (Jvm.Cond.methodLink "LateMirrors$Court" (164 : Nat) ({ cls := "LateMirrors$Court", name := "breaks", desc := "(I)V" } : Jvm.MethodName)) ∈ lw_all := lw_g (lw_at lw_m5 166 rfl) rfl
theorem q1247 : (Jvm.Cond.instanceMethod ({ cls := "LateMirrors$Court", name := "breaks", desc := "(I)V" } : Jvm.MethodName)) ∈ lw_all := lw_g (lw_at lw_m5 167 rfl) rfl
theorem q1248 : (Jvm.Cond.selects "LateMirrors$Court" ({ cls := "LateMirrors$Court", name := "breaks", desc := "(I)V" } : Jvm.MethodName) ({ cls := "LateMirrors$Court", name := "breaks", desc := "(I)V" } : Jvm.MethodName)) ∈ lw_all := lw_g (lw_at lw_m5 168 rfl) rfl
theorem q1249 : (Jvm.Cond.code ({ cls := "LateMirrors$Court", name := "breaks", desc := "(I)V" } : Jvm.MethodName) prog_3_method_10_code (2 : Nat) (Option.none : Option Jvm.ClassFile.FieldType)) ∈ lw_all := lw_g (lw_at lw_m5 169 rfl) rfl
theorem q2193 : (Jvm.Cond.castable "LateMirrors$Court" "java/lang/Object") ∈ lw_tbl := lw_at lw_m9 153 rfl
theorem in_X5 : ∀ w ∈ wsX50, w ∈ lw_all := lw_in wsX50 [440, 442, 444, 446, 448, 450, 452, 454, 456, 458, 460] (by decide +kernel) (by decide +kernel)
