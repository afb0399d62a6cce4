/-! LateMirrors -/
set_option maxRecDepth 100000
def RX0 : String := "LateMirrors"
def TX0 : u_T := fun k => match k with
  | 0 => ("LateMirrors", "fault", "LLateMirrors$Fault;", true)
  | 1 => ("LateMirrors", "tokens", "LLateMirrors$Tokens;", true)
  | 2 => ("LateMirrors", "parser", "LLateMirrors$Parser;", true)
  | 3 => ("LateMirrors", "text", "LLateMirrors$Text;", false)
  | 4 => ("LateMirrors", "place", "I", false)
  | 5 => ("LateMirrors", "undos", "I", false)
  | 6 => ("LateMirrors", "undoAt", "I", false)
  | 7 => ("LateMirrors", "court", "LLateMirrors$Court;", true)
  | 8 => ("LateMirrors", "trial", "LLateMirrors$Court;", true)
  | 9 => ("LateMirrors", "past", "[LLateMirrors$Court;", true)
  | 10 => ("LateMirrors", "slots", "[LLateMirrors$Court;", true)
  | 11 => ("LateMirrors", "held", "[Z", true)
  | 12 => ("LateMirrors", "glance", "LLateMirrors$Glance;", true)
  | 13 => ("LateMirrors", "often", "[I", true)
  | 14 => ("LateMirrors", "reached", "[[Z", true)
  | 15 => ("LateMirrors", "then", "[[Z", true)
  | 16 => ("LateMirrors", "firstAt", "I", false)
  | 17 => ("LateMirrors", "far", "[I", true)
  | 18 => ("LateMirrors", "tolds", "I", false)
  | 19 => ("LateMirrors", "toldMirror", "[I", true)
  | 20 => ("LateMirrors", "toldMinute", "[I", true)
  | 21 => ("LateMirrors", "toldMan", "[I", true)
  | _ => ("LateMirrors", "toldThere", "[Z", true)
def tyX0 : Nat → FieldType := fun k => match k with
  | 0 => .object "LateMirrors$Fault"
  | 1 => .object "LateMirrors$Tokens"
  | 2 => .object "LateMirrors$Parser"
  | 3 => .object "LateMirrors$Text"
  | 4 => .int
  | 5 => .int
  | 6 => .int
  | 7 => .object "LateMirrors$Court"
  | 8 => .object "LateMirrors$Court"
  | 9 => .array (.object "LateMirrors$Court")
  | 10 => .array (.object "LateMirrors$Court")
  | 11 => .array .boolean
  | 12 => .object "LateMirrors$Glance"
  | 13 => .array .int
  | 14 => .array (.array .boolean)
  | 15 => .array (.array .boolean)
  | 16 => .int
  | 17 => .array .int
  | 18 => .int
  | 19 => .array .int
  | 20 => .array .int
  | 21 => .array .int
  | _ => .array .boolean
abbrev wsX00 : List Cond := u_ws RX0 TX0 23
set_option maxRecDepth 100000 in
theorem nmX0 : ∀ a, a < 23 → ∀ b, b < 23 → a ≠ b → (TX0 a).2.1 ≠ (TX0 b).2.1 := by decide +kernel
set_option maxRecDepth 100000 in
theorem tyX0_ok : ∀ k, k < 23 → parseFieldDescriptor (TX0 k).2.2.1 = some (tyX0 k) := by decide +kernel
abbrev cX0_init : ByteArray := prog_1_method_3_code
def yX0_init : MethodName := ⟨RX0, "<init>", "()V"⟩
def dkwX0_init_11 : List UInt8 := [180, 0, 40, 182, 0, 103, 177]
abbrev dktX0_init_11 : List UInt8 := dkwX0_init_11 ++ []
def dkwX0_init_10 : List UInt8 := [180, 0, 58, 27, 187, 0, 48, 89, 183, 0, 50, 83, 132, 1, 1, 167, 255, 234, 42, 180, 0, 51, 42]
abbrev dktX0_init_10 : List UInt8 := dkwX0_init_10 ++ dktX0_init_11
def dkwX0_init_9 : List UInt8 := [188, 10, 181, 0, 97, 42, 16, 20, 188, 4, 181, 0, 100, 3, 60, 27, 16, 20, 162, 0, 22, 42]
abbrev dktX0_init_9 : List UInt8 := dkwX0_init_9 ++ dktX0_init_10
def dkwX0_init_8 : List UInt8 := [188, 10, 181, 0, 88, 42, 16, 20, 188, 10, 181, 0, 91, 42, 16, 20, 188, 10, 181, 0, 94, 42, 16, 20]
abbrev dktX0_init_8 : List UInt8 := dkwX0_init_8 ++ dktX0_init_9
def dkwX0_init_7 : List UInt8 := [197, 0, 80, 2, 181, 0, 82, 42, 16, 8, 17, 1, 44, 197, 0, 80, 2, 181, 0, 85, 42, 16, 8]
abbrev dktX0_init_7 : List UInt8 := dkwX0_init_7 ++ dktX0_init_8
def dkwX0_init_6 : List UInt8 := [89, 183, 0, 71, 181, 0, 72, 42, 17, 1, 44, 188, 10, 181, 0, 76, 42, 16, 8, 17, 1, 44]
abbrev dktX0_init_6 : List UInt8 := dkwX0_init_6 ++ dktX0_init_7
def dkwX0_init_5 : List UInt8 := [89, 5, 187, 0, 48, 89, 183, 0, 50, 83, 181, 0, 62, 42, 6, 188, 4, 181, 0, 65, 42, 187, 0, 69]
abbrev dktX0_init_5 : List UInt8 := dkwX0_init_5 ++ dktX0_init_6
def dkwX0_init_4 : List UInt8 := [6, 189, 0, 48, 89, 3, 187, 0, 48, 89, 183, 0, 50, 83, 89, 4, 187, 0, 48, 89, 183, 0, 50, 83]
abbrev dktX0_init_4 : List UInt8 := dkwX0_init_4 ++ dktX0_init_5
def dkwX0_init_3 : List UInt8 := [181, 0, 51, 42, 187, 0, 48, 89, 183, 0, 50, 181, 0, 55, 42, 16, 20, 189, 0, 48, 181, 0, 58, 42]
abbrev dktX0_init_3 : List UInt8 := dkwX0_init_3 ++ dktX0_init_4
def dkwX0_init_2 : List UInt8 := [187, 0, 37, 89, 183, 0, 39, 181, 0, 40, 42, 2, 181, 0, 44, 42, 187, 0, 48, 89, 183, 0, 50]
abbrev dktX0_init_2 : List UInt8 := dkwX0_init_2 ++ dktX0_init_3
def dkwX0_init_1 : List UInt8 := [181, 0, 24, 42, 187, 0, 28, 89, 42, 180, 0, 24, 42, 180, 0, 17, 183, 0, 30, 181, 0, 33, 42]
abbrev dktX0_init_1 : List UInt8 := dkwX0_init_1 ++ dktX0_init_2
def dkwX0_init_0 : List UInt8 := [42, 183, 0, 8, 42, 187, 0, 14, 89, 183, 0, 16, 181, 0, 17, 42, 187, 0, 21, 89, 183, 0, 23]
abbrev dktX0_init_0 : List UInt8 := dkwX0_init_0 ++ dktX0_init_1
theorem dksX0_init_0 : cX0_init.data.toList.drop 0 = dktX0_init_0 := by decide +kernel
theorem dksX0_init_1 : cX0_init.data.toList.drop 23 = dktX0_init_1 := dk_seg dksX0_init_0 23 rfl rfl
theorem dksX0_init_2 : cX0_init.data.toList.drop 46 = dktX0_init_2 := dk_seg dksX0_init_1 23 rfl rfl
theorem dksX0_init_3 : cX0_init.data.toList.drop 69 = dktX0_init_3 := dk_seg dksX0_init_2 23 rfl rfl
theorem dksX0_init_4 : cX0_init.data.toList.drop 93 = dktX0_init_4 := dk_seg dksX0_init_3 24 rfl rfl
theorem dksX0_init_5 : cX0_init.data.toList.drop 117 = dktX0_init_5 := dk_seg dksX0_init_4 24 rfl rfl
theorem dksX0_init_6 : cX0_init.data.toList.drop 141 = dktX0_init_6 := dk_seg dksX0_init_5 24 rfl rfl
theorem dksX0_init_7 : cX0_init.data.toList.drop 163 = dktX0_init_7 := dk_seg dksX0_init_6 22 rfl rfl
theorem dksX0_init_8 : cX0_init.data.toList.drop 186 = dktX0_init_8 := dk_seg dksX0_init_7 23 rfl rfl
theorem dksX0_init_9 : cX0_init.data.toList.drop 210 = dktX0_init_9 := dk_seg dksX0_init_8 24 rfl rfl
theorem dksX0_init_10 : cX0_init.data.toList.drop 232 = dktX0_init_10 := dk_seg dksX0_init_9 22 rfl rfl
theorem dksX0_init_11 : cX0_init.data.toList.drop 255 = dktX0_init_11 := dk_seg dksX0_init_10 23 rfl rfl
theorem dX0_init_0 : decode cX0_init 0 = .ok (.aload_n 0, 1) := dk_42 (dk_at dksX0_init_0 0 rfl rfl)
theorem dX0_init_1 : decode cX0_init 1 = .ok (.invokespecial 8, 3) := dk_183 0 8 (dk_at dksX0_init_0 1 rfl rfl)
theorem dX0_init_4 : decode cX0_init 4 = .ok (.aload_n 0, 1) := dk_42 (dk_at dksX0_init_0 4 rfl rfl)
theorem dX0_init_5 : decode cX0_init 5 = .ok (.new 14, 3) := dk_187 0 14 (dk_at dksX0_init_0 5 rfl rfl)
theorem dX0_init_8 : decode cX0_init 8 = .ok (.dup, 1) := dk_89 (dk_at dksX0_init_0 8 rfl rfl)
theorem dX0_init_9 : decode cX0_init 9 = .ok (.invokespecial 16, 3) := dk_183 0 16 (dk_at dksX0_init_0 9 rfl rfl)
theorem dX0_init_12 : decode cX0_init 12 = .ok (.putfield 17, 3) := dk_181 0 17 (dk_at dksX0_init_0 12 rfl rfl)
theorem dX0_init_15 : decode cX0_init 15 = .ok (.aload_n 0, 1) := dk_42 (dk_at dksX0_init_0 15 rfl rfl)
theorem dX0_init_16 : decode cX0_init 16 = .ok (.new 21, 3) := dk_187 0 21 (dk_at dksX0_init_0 16 rfl rfl)
theorem dX0_init_19 : decode cX0_init 19 = .ok (.dup, 1) := dk_89 (dk_at dksX0_init_0 19 rfl rfl)
theorem dX0_init_20 : decode cX0_init 20 = .ok (.invokespecial 23, 3) := dk_183 0 23 (dk_at dksX0_init_0 20 rfl rfl)
theorem dX0_init_23 : decode cX0_init 23 = .ok (.putfield 24, 3) := dk_181 0 24 (dk_at dksX0_init_1 0 rfl rfl)
theorem dX0_init_26 : decode cX0_init 26 = .ok (.aload_n 0, 1) := dk_42 (dk_at dksX0_init_1 3 rfl rfl)
theorem dX0_init_27 : decode cX0_init 27 = .ok (.new 28, 3) := dk_187 0 28 (dk_at dksX0_init_1 4 rfl rfl)
theorem dX0_init_30 : decode cX0_init 30 = .ok (.dup, 1) := dk_89 (dk_at dksX0_init_1 7 rfl rfl)
theorem dX0_init_31 : decode cX0_init 31 = .ok (.aload_n 0, 1) := dk_42 (dk_at dksX0_init_1 8 rfl rfl)
theorem dX0_init_32 : decode cX0_init 32 = .ok (.getfield 24, 3) := dk_180 0 24 (dk_at dksX0_init_1 9 rfl rfl)
theorem dX0_init_35 : decode cX0_init 35 = .ok (.aload_n 0, 1) := dk_42 (dk_at dksX0_init_1 12 rfl rfl)
theorem dX0_init_36 : decode cX0_init 36 = .ok (.getfield 17, 3) := dk_180 0 17 (dk_at dksX0_init_1 13 rfl rfl)
theorem dX0_init_39 : decode cX0_init 39 = .ok (.invokespecial 30, 3) := dk_183 0 30 (dk_at dksX0_init_1 16 rfl rfl)
theorem dX0_init_42 : decode cX0_init 42 = .ok (.putfield 33, 3) := dk_181 0 33 (dk_at dksX0_init_1 19 rfl rfl)
theorem dX0_init_45 : decode cX0_init 45 = .ok (.aload_n 0, 1) := dk_42 (dk_at dksX0_init_1 22 rfl rfl)
theorem dX0_init_46 : decode cX0_init 46 = .ok (.new 37, 3) := dk_187 0 37 (dk_at dksX0_init_2 0 rfl rfl)
theorem dX0_init_49 : decode cX0_init 49 = .ok (.dup, 1) := dk_89 (dk_at dksX0_init_2 3 rfl rfl)
theorem dX0_init_50 : decode cX0_init 50 = .ok (.invokespecial 39, 3) := dk_183 0 39 (dk_at dksX0_init_2 4 rfl rfl)
theorem dX0_init_53 : decode cX0_init 53 = .ok (.putfield 40, 3) := dk_181 0 40 (dk_at dksX0_init_2 7 rfl rfl)
theorem dX0_init_56 : decode cX0_init 56 = .ok (.aload_n 0, 1) := dk_42 (dk_at dksX0_init_2 10 rfl rfl)
theorem dX0_init_57 : decode cX0_init 57 = .ok (.iconst (-1), 1) := dk_2 (dk_at dksX0_init_2 11 rfl rfl)
theorem dX0_init_58 : decode cX0_init 58 = .ok (.putfield 44, 3) := dk_181 0 44 (dk_at dksX0_init_2 12 rfl rfl)
theorem dX0_init_61 : decode cX0_init 61 = .ok (.aload_n 0, 1) := dk_42 (dk_at dksX0_init_2 15 rfl rfl)
theorem dX0_init_62 : decode cX0_init 62 = .ok (.new 48, 3) := dk_187 0 48 (dk_at dksX0_init_2 16 rfl rfl)
theorem dX0_init_65 : decode cX0_init 65 = .ok (.dup, 1) := dk_89 (dk_at dksX0_init_2 19 rfl rfl)
theorem dX0_init_66 : decode cX0_init 66 = .ok (.invokespecial 50, 3) := dk_183 0 50 (dk_at dksX0_init_2 20 rfl rfl)
theorem dX0_init_69 : decode cX0_init 69 = .ok (.putfield 51, 3) := dk_181 0 51 (dk_at dksX0_init_3 0 rfl rfl)
theorem dX0_init_72 : decode cX0_init 72 = .ok (.aload_n 0, 1) := dk_42 (dk_at dksX0_init_3 3 rfl rfl)
theorem dX0_init_73 : decode cX0_init 73 = .ok (.new 48, 3) := dk_187 0 48 (dk_at dksX0_init_3 4 rfl rfl)
theorem dX0_init_76 : decode cX0_init 76 = .ok (.dup, 1) := dk_89 (dk_at dksX0_init_3 7 rfl rfl)
theorem dX0_init_77 : decode cX0_init 77 = .ok (.invokespecial 50, 3) := dk_183 0 50 (dk_at dksX0_init_3 8 rfl rfl)
theorem dX0_init_80 : decode cX0_init 80 = .ok (.putfield 55, 3) := dk_181 0 55 (dk_at dksX0_init_3 11 rfl rfl)
theorem dX0_init_83 : decode cX0_init 83 = .ok (.aload_n 0, 1) := dk_42 (dk_at dksX0_init_3 14 rfl rfl)
theorem dX0_init_84 : decode cX0_init 84 = .ok (.bipush 20, 2) := dk_16 20 (dk_at dksX0_init_3 15 rfl rfl)
theorem dX0_init_86 : decode cX0_init 86 = .ok (.anewarray 48, 3) := dk_189 0 48 (dk_at dksX0_init_3 17 rfl rfl)
theorem dX0_init_89 : decode cX0_init 89 = .ok (.putfield 58, 3) := dk_181 0 58 (dk_at dksX0_init_3 20 rfl rfl)
theorem dX0_init_92 : decode cX0_init 92 = .ok (.aload_n 0, 1) := dk_42 (dk_at dksX0_init_3 23 rfl rfl)
theorem dX0_init_93 : decode cX0_init 93 = .ok (.iconst 3, 1) := dk_6 (dk_at dksX0_init_4 0 rfl rfl)
theorem dX0_init_94 : decode cX0_init 94 = .ok (.anewarray 48, 3) := dk_189 0 48 (dk_at dksX0_init_4 1 rfl rfl)
theorem dX0_init_97 : decode cX0_init 97 = .ok (.dup, 1) := dk_89 (dk_at dksX0_init_4 4 rfl rfl)
theorem dX0_init_98 : decode cX0_init 98 = .ok (.iconst 0, 1) := dk_3 (dk_at dksX0_init_4 5 rfl rfl)
theorem dX0_init_99 : decode cX0_init 99 = .ok (.new 48, 3) := dk_187 0 48 (dk_at dksX0_init_4 6 rfl rfl)
theorem dX0_init_102 : decode cX0_init 102 = .ok (.dup, 1) := dk_89 (dk_at dksX0_init_4 9 rfl rfl)
theorem dX0_init_103 : decode cX0_init 103 = .ok (.invokespecial 50, 3) := dk_183 0 50 (dk_at dksX0_init_4 10 rfl rfl)
theorem dX0_init_106 : decode cX0_init 106 = .ok (.aastore, 1) := dk_83 (dk_at dksX0_init_4 13 rfl rfl)
theorem dX0_init_107 : decode cX0_init 107 = .ok (.dup, 1) := dk_89 (dk_at dksX0_init_4 14 rfl rfl)
theorem dX0_init_108 : decode cX0_init 108 = .ok (.iconst 1, 1) := dk_4 (dk_at dksX0_init_4 15 rfl rfl)
theorem dX0_init_109 : decode cX0_init 109 = .ok (.new 48, 3) := dk_187 0 48 (dk_at dksX0_init_4 16 rfl rfl)
theorem dX0_init_112 : decode cX0_init 112 = .ok (.dup, 1) := dk_89 (dk_at dksX0_init_4 19 rfl rfl)
theorem dX0_init_113 : decode cX0_init 113 = .ok (.invokespecial 50, 3) := dk_183 0 50 (dk_at dksX0_init_4 20 rfl rfl)
theorem dX0_init_116 : decode cX0_init 116 = .ok (.aastore, 1) := dk_83 (dk_at dksX0_init_4 23 rfl rfl)
theorem dX0_init_117 : decode cX0_init 117 = .ok (.dup, 1) := dk_89 (dk_at dksX0_init_5 0 rfl rfl)
theorem dX0_init_118 : decode cX0_init 118 = .ok (.iconst 2, 1) := dk_5 (dk_at dksX0_init_5 1 rfl rfl)
theorem dX0_init_119 : decode cX0_init 119 = .ok (.new 48, 3) := dk_187 0 48 (dk_at dksX0_init_5 2 rfl rfl)
theorem dX0_init_122 : decode cX0_init 122 = .ok (.dup, 1) := dk_89 (dk_at dksX0_init_5 5 rfl rfl)
theorem dX0_init_123 : decode cX0_init 123 = .ok (.invokespecial 50, 3) := dk_183 0 50 (dk_at dksX0_init_5 6 rfl rfl)
theorem dX0_init_126 : decode cX0_init 126 = .ok (.aastore, 1) := dk_83 (dk_at dksX0_init_5 9 rfl rfl)
theorem dX0_init_127 : decode cX0_init 127 = .ok (.putfield 62, 3) := dk_181 0 62 (dk_at dksX0_init_5 10 rfl rfl)
theorem dX0_init_130 : decode cX0_init 130 = .ok (.aload_n 0, 1) := dk_42 (dk_at dksX0_init_5 13 rfl rfl)
theorem dX0_init_131 : decode cX0_init 131 = .ok (.iconst 3, 1) := dk_6 (dk_at dksX0_init_5 14 rfl rfl)
theorem dX0_init_132 : decode cX0_init 132 = .ok (.newarray .boolean, 2) := dk_188_4 (dk_at dksX0_init_5 15 rfl rfl)
theorem dX0_init_134 : decode cX0_init 134 = .ok (.putfield 65, 3) := dk_181 0 65 (dk_at dksX0_init_5 17 rfl rfl)
theorem dX0_init_137 : decode cX0_init 137 = .ok (.aload_n 0, 1) := dk_42 (dk_at dksX0_init_5 20 rfl rfl)
theorem dX0_init_138 : decode cX0_init 138 = .ok (.new 69, 3) := dk_187 0 69 (dk_at dksX0_init_5 21 rfl rfl)
theorem dX0_init_141 : decode cX0_init 141 = .ok (.dup, 1) := dk_89 (dk_at dksX0_init_6 0 rfl rfl)
theorem dX0_init_142 : decode cX0_init 142 = .ok (.invokespecial 71, 3) := dk_183 0 71 (dk_at dksX0_init_6 1 rfl rfl)
theorem dX0_init_145 : decode cX0_init 145 = .ok (.putfield 72, 3) := dk_181 0 72 (dk_at dksX0_init_6 4 rfl rfl)
theorem dX0_init_148 : decode cX0_init 148 = .ok (.aload_n 0, 1) := dk_42 (dk_at dksX0_init_6 7 rfl rfl)
theorem dX0_init_149 : decode cX0_init 149 = .ok (.sipush 300, 3) := dk_17 1 44 (dk_at dksX0_init_6 8 rfl rfl)
theorem dX0_init_152 : decode cX0_init 152 = .ok (.newarray .int, 2) := dk_188_10 (dk_at dksX0_init_6 11 rfl rfl)
theorem dX0_init_154 : decode cX0_init 154 = .ok (.putfield 76, 3) := dk_181 0 76 (dk_at dksX0_init_6 13 rfl rfl)
theorem dX0_init_157 : decode cX0_init 157 = .ok (.aload_n 0, 1) := dk_42 (dk_at dksX0_init_6 16 rfl rfl)
theorem dX0_init_158 : decode cX0_init 158 = .ok (.bipush 8, 2) := dk_16 8 (dk_at dksX0_init_6 17 rfl rfl)
theorem dX0_init_160 : decode cX0_init 160 = .ok (.sipush 300, 3) := dk_17 1 44 (dk_at dksX0_init_6 19 rfl rfl)
theorem dX0_init_163 : decode cX0_init 163 = .ok (.multianewarray 80 2, 4) := by decide +kernel
theorem dX0_init_167 : decode cX0_init 167 = .ok (.putfield 82, 3) := dk_181 0 82 (dk_at dksX0_init_7 4 rfl rfl)
theorem dX0_init_170 : decode cX0_init 170 = .ok (.aload_n 0, 1) := dk_42 (dk_at dksX0_init_7 7 rfl rfl)
theorem dX0_init_171 : decode cX0_init 171 = .ok (.bipush 8, 2) := dk_16 8 (dk_at dksX0_init_7 8 rfl rfl)
theorem dX0_init_173 : decode cX0_init 173 = .ok (.sipush 300, 3) := dk_17 1 44 (dk_at dksX0_init_7 10 rfl rfl)
theorem dX0_init_176 : decode cX0_init 176 = .ok (.multianewarray 80 2, 4) := by decide +kernel
theorem dX0_init_180 : decode cX0_init 180 = .ok (.putfield 85, 3) := dk_181 0 85 (dk_at dksX0_init_7 17 rfl rfl)
theorem dX0_init_183 : decode cX0_init 183 = .ok (.aload_n 0, 1) := dk_42 (dk_at dksX0_init_7 20 rfl rfl)
theorem dX0_init_184 : decode cX0_init 184 = .ok (.bipush 8, 2) := dk_16 8 (dk_at dksX0_init_7 21 rfl rfl)
theorem dX0_init_186 : decode cX0_init 186 = .ok (.newarray .int, 2) := dk_188_10 (dk_at dksX0_init_8 0 rfl rfl)
theorem dX0_init_188 : decode cX0_init 188 = .ok (.putfield 88, 3) := dk_181 0 88 (dk_at dksX0_init_8 2 rfl rfl)
theorem dX0_init_191 : decode cX0_init 191 = .ok (.aload_n 0, 1) := dk_42 (dk_at dksX0_init_8 5 rfl rfl)
theorem dX0_init_192 : decode cX0_init 192 = .ok (.bipush 20, 2) := dk_16 20 (dk_at dksX0_init_8 6 rfl rfl)
theorem dX0_init_194 : decode cX0_init 194 = .ok (.newarray .int, 2) := dk_188_10 (dk_at dksX0_init_8 8 rfl rfl)
theorem dX0_init_196 : decode cX0_init 196 = .ok (.putfield 91, 3) := dk_181 0 91 (dk_at dksX0_init_8 10 rfl rfl)
theorem dX0_init_199 : decode cX0_init 199 = .ok (.aload_n 0, 1) := dk_42 (dk_at dksX0_init_8 13 rfl rfl)
theorem dX0_init_200 : decode cX0_init 200 = .ok (.bipush 20, 2) := dk_16 20 (dk_at dksX0_init_8 14 rfl rfl)
theorem dX0_init_202 : decode cX0_init 202 = .ok (.newarray .int, 2) := dk_188_10 (dk_at dksX0_init_8 16 rfl rfl)
theorem dX0_init_204 : decode cX0_init 204 = .ok (.putfield 94, 3) := dk_181 0 94 (dk_at dksX0_init_8 18 rfl rfl)
theorem dX0_init_207 : decode cX0_init 207 = .ok (.aload_n 0, 1) := dk_42 (dk_at dksX0_init_8 21 rfl rfl)
theorem dX0_init_208 : decode cX0_init 208 = .ok (.bipush 20, 2) := dk_16 20 (dk_at dksX0_init_8 22 rfl rfl)
theorem dX0_init_210 : decode cX0_init 210 = .ok (.newarray .int, 2) := dk_188_10 (dk_at dksX0_init_9 0 rfl rfl)
theorem dX0_init_212 : decode cX0_init 212 = .ok (.putfield 97, 3) := dk_181 0 97 (dk_at dksX0_init_9 2 rfl rfl)
theorem dX0_init_215 : decode cX0_init 215 = .ok (.aload_n 0, 1) := dk_42 (dk_at dksX0_init_9 5 rfl rfl)
theorem dX0_init_216 : decode cX0_init 216 = .ok (.bipush 20, 2) := dk_16 20 (dk_at dksX0_init_9 6 rfl rfl)
theorem dX0_init_218 : decode cX0_init 218 = .ok (.newarray .boolean, 2) := dk_188_4 (dk_at dksX0_init_9 8 rfl rfl)
theorem dX0_init_220 : decode cX0_init 220 = .ok (.putfield 100, 3) := dk_181 0 100 (dk_at dksX0_init_9 10 rfl rfl)
theorem dX0_init_223 : decode cX0_init 223 = .ok (.iconst 0, 1) := dk_3 (dk_at dksX0_init_9 13 rfl rfl)
theorem dX0_init_224 : decode cX0_init 224 = .ok (.istore_n 1, 1) := dk_60 (dk_at dksX0_init_9 14 rfl rfl)
theorem dX0_init_225 : decode cX0_init 225 = .ok (.iload_n 1, 1) := dk_27 (dk_at dksX0_init_9 15 rfl rfl)
theorem dX0_init_226 : decode cX0_init 226 = .ok (.bipush 20, 2) := dk_16 20 (dk_at dksX0_init_9 16 rfl rfl)
theorem dX0_init_228 : decode cX0_init 228 = .ok (.if_icmp .ge 22, 3) := dk_162 0 22 (dk_at dksX0_init_9 18 rfl rfl)
theorem dX0_init_231 : decode cX0_init 231 = .ok (.aload_n 0, 1) := dk_42 (dk_at dksX0_init_9 21 rfl rfl)
theorem dX0_init_232 : decode cX0_init 232 = .ok (.getfield 58, 3) := dk_180 0 58 (dk_at dksX0_init_10 0 rfl rfl)
theorem dX0_init_235 : decode cX0_init 235 = .ok (.iload_n 1, 1) := dk_27 (dk_at dksX0_init_10 3 rfl rfl)
theorem dX0_init_236 : decode cX0_init 236 = .ok (.new 48, 3) := dk_187 0 48 (dk_at dksX0_init_10 4 rfl rfl)
theorem dX0_init_239 : decode cX0_init 239 = .ok (.dup, 1) := dk_89 (dk_at dksX0_init_10 7 rfl rfl)
theorem dX0_init_240 : decode cX0_init 240 = .ok (.invokespecial 50, 3) := dk_183 0 50 (dk_at dksX0_init_10 8 rfl rfl)
theorem dX0_init_243 : decode cX0_init 243 = .ok (.aastore, 1) := dk_83 (dk_at dksX0_init_10 11 rfl rfl)
theorem dX0_init_244 : decode cX0_init 244 = .ok (.iinc 1 1, 3) := dk_132 1 1 (dk_at dksX0_init_10 12 rfl rfl)
theorem dX0_init_247 : decode cX0_init 247 = .ok (.goto (-22), 3) := dk_167 255 234 (dk_at dksX0_init_10 15 rfl rfl)
theorem dX0_init_250 : decode cX0_init 250 = .ok (.aload_n 0, 1) := dk_42 (dk_at dksX0_init_10 18 rfl rfl)
theorem dX0_init_251 : decode cX0_init 251 = .ok (.getfield 51, 3) := dk_180 0 51 (dk_at dksX0_init_10 19 rfl rfl)
theorem dX0_init_254 : decode cX0_init 254 = .ok (.aload_n 0, 1) := dk_42 (dk_at dksX0_init_10 22 rfl rfl)
theorem dX0_init_255 : decode cX0_init 255 = .ok (.getfield 40, 3) := dk_180 0 40 (dk_at dksX0_init_11 0 rfl rfl)
theorem dX0_init_258 : decode cX0_init 258 = .ok (.invokevirtual 103, 3) := dk_182 0 103 (dk_at dksX0_init_11 3 rfl rfl)
theorem dX0_init_261 : decode cX0_init 261 = .ok (.return_, 1) := dk_177 (dk_at dksX0_init_11 6 rfl rfl)
abbrev cX0_feed : ByteArray := prog_1_method_4_code
def yX0_feed : MethodName := ⟨RX0, "feed", "(IIIII)I"⟩
def dkwX0_feed_2 : List UInt8 := [180, 0, 24, 180, 0, 107, 172]
abbrev dktX0_feed_2 : List UInt8 := dkwX0_feed_2 ++ []
def dkwX0_feed_1 : List UInt8 := [28, 182, 0, 110, 42, 29, 182, 0, 110, 42, 21, 4, 182, 0, 110, 42, 21, 5, 182, 0, 110, 42]
abbrev dktX0_feed_1 : List UInt8 := dkwX0_feed_1 ++ dktX0_feed_2
def dkwX0_feed_0 : List UInt8 := [42, 180, 0, 24, 180, 0, 107, 16, 20, 96, 17, 7, 208, 164, 0, 5, 2, 172, 42, 27, 182, 0, 110, 42]
abbrev dktX0_feed_0 : List UInt8 := dkwX0_feed_0 ++ dktX0_feed_1
theorem dksX0_feed_0 : cX0_feed.data.toList.drop 0 = dktX0_feed_0 := by decide +kernel
theorem dksX0_feed_1 : cX0_feed.data.toList.drop 24 = dktX0_feed_1 := dk_seg dksX0_feed_0 24 rfl rfl
theorem dksX0_feed_2 : cX0_feed.data.toList.drop 46 = dktX0_feed_2 := dk_seg dksX0_feed_1 22 rfl rfl
theorem dX0_feed_0 : decode cX0_feed 0 = .ok (.aload_n 0, 1) := dk_42 (dk_at dksX0_feed_0 0 rfl rfl)
theorem dX0_feed_1 : decode cX0_feed 1 = .ok (.getfield 24, 3) := dk_180 0 24 (dk_at dksX0_feed_0 1 rfl rfl)
theorem dX0_feed_4 : decode cX0_feed 4 = .ok (.getfield 107, 3) := dk_180 0 107 (dk_at dksX0_feed_0 4 rfl rfl)
theorem dX0_feed_7 : decode cX0_feed 7 = .ok (.bipush 20, 2) := dk_16 20 (dk_at dksX0_feed_0 7 rfl rfl)
theorem dX0_feed_9 : decode cX0_feed 9 = .ok (.iadd, 1) := dk_96 (dk_at dksX0_feed_0 9 rfl rfl)
theorem dX0_feed_10 : decode cX0_feed 10 = .ok (.sipush 2000, 3) := dk_17 7 208 (dk_at dksX0_feed_0 10 rfl rfl)
theorem dX0_feed_13 : decode cX0_feed 13 = .ok (.if_icmp .le 5, 3) := dk_164 0 5 (dk_at dksX0_feed_0 13 rfl rfl)
theorem dX0_feed_16 : decode cX0_feed 16 = .ok (.iconst (-1), 1) := dk_2 (dk_at dksX0_feed_0 16 rfl rfl)
theorem dX0_feed_17 : decode cX0_feed 17 = .ok (.ireturn, 1) := dk_172 (dk_at dksX0_feed_0 17 rfl rfl)
theorem dX0_feed_18 : decode cX0_feed 18 = .ok (.aload_n 0, 1) := dk_42 (dk_at dksX0_feed_0 18 rfl rfl)
theorem dX0_feed_19 : decode cX0_feed 19 = .ok (.iload_n 1, 1) := dk_27 (dk_at dksX0_feed_0 19 rfl rfl)
theorem dX0_feed_20 : decode cX0_feed 20 = .ok (.invokevirtual 110, 3) := dk_182 0 110 (dk_at dksX0_feed_0 20 rfl rfl)
theorem dX0_feed_23 : decode cX0_feed 23 = .ok (.aload_n 0, 1) := dk_42 (dk_at dksX0_feed_0 23 rfl rfl)
theorem dX0_feed_24 : decode cX0_feed 24 = .ok (.iload_n 2, 1) := dk_28 (dk_at dksX0_feed_1 0 rfl rfl)
theorem dX0_feed_25 : decode cX0_feed 25 = .ok (.invokevirtual 110, 3) := dk_182 0 110 (dk_at dksX0_feed_1 1 rfl rfl)
theorem dX0_feed_28 : decode cX0_feed 28 = .ok (.aload_n 0, 1) := dk_42 (dk_at dksX0_feed_1 4 rfl rfl)
theorem dX0_feed_29 : decode cX0_feed 29 = .ok (.iload_n 3, 1) := dk_29 (dk_at dksX0_feed_1 5 rfl rfl)
theorem dX0_feed_30 : decode cX0_feed 30 = .ok (.invokevirtual 110, 3) := dk_182 0 110 (dk_at dksX0_feed_1 6 rfl rfl)
theorem dX0_feed_33 : decode cX0_feed 33 = .ok (.aload_n 0, 1) := dk_42 (dk_at dksX0_feed_1 9 rfl rfl)
theorem dX0_feed_34 : decode cX0_feed 34 = .ok (.iload 4, 2) := dk_21 4 (dk_at dksX0_feed_1 10 rfl rfl)
theorem dX0_feed_36 : decode cX0_feed 36 = .ok (.invokevirtual 110, 3) := dk_182 0 110 (dk_at dksX0_feed_1 12 rfl rfl)
theorem dX0_feed_39 : decode cX0_feed 39 = .ok (.aload_n 0, 1) := dk_42 (dk_at dksX0_feed_1 15 rfl rfl)
theorem dX0_feed_40 : decode cX0_feed 40 = .ok (.iload 5, 2) := dk_21 5 (dk_at dksX0_feed_1 16 rfl rfl)
theorem dX0_feed_42 : decode cX0_feed 42 = .ok (.invokevirtual 110, 3) := dk_182 0 110 (dk_at dksX0_feed_1 18 rfl rfl)
theorem dX0_feed_45 : decode cX0_feed 45 = .ok (.aload_n 0, 1) := dk_42 (dk_at dksX0_feed_1 21 rfl rfl)
theorem dX0_feed_46 : decode cX0_feed 46 = .ok (.getfield 24, 3) := dk_180 0 24 (dk_at dksX0_feed_2 0 rfl rfl)
theorem dX0_feed_49 : decode cX0_feed 49 = .ok (.getfield 107, 3) := dk_180 0 107 (dk_at dksX0_feed_2 3 rfl rfl)
theorem dX0_feed_52 : decode cX0_feed 52 = .ok (.ireturn, 1) := dk_172 (dk_at dksX0_feed_2 6 rfl rfl)
abbrev cX0_typed : ByteArray := prog_1_method_5_code
def yX0_typed : MethodName := ⟨RX0, "typed", "(I)V"⟩
def dkwX0_typed_1 : List UInt8 := [145, 84, 42, 180, 0, 24, 89, 180, 0, 107, 4, 96, 181, 0, 107, 132, 2, 248, 167, 255, 217, 177]
abbrev dktX0_typed_1 : List UInt8 := dkwX0_typed_1 ++ []
def dkwX0_typed_0 : List UInt8 := [16, 24, 61, 28, 155, 0, 41, 42, 180, 0, 24, 180, 0, 114, 42, 180, 0, 24, 180, 0, 107, 27, 28, 122]
abbrev dktX0_typed_0 : List UInt8 := dkwX0_typed_0 ++ dktX0_typed_1
theorem dksX0_typed_0 : cX0_typed.data.toList.drop 0 = dktX0_typed_0 := by decide +kernel
theorem dksX0_typed_1 : cX0_typed.data.toList.drop 24 = dktX0_typed_1 := dk_seg dksX0_typed_0 24 rfl rfl
theorem dX0_typed_0 : decode cX0_typed 0 = .ok (.bipush 24, 2) := dk_16 24 (dk_at dksX0_typed_0 0 rfl rfl)
theorem dX0_typed_2 : decode cX0_typed 2 = .ok (.istore_n 2, 1) := dk_61 (dk_at dksX0_typed_0 2 rfl rfl)
theorem dX0_typed_3 : decode cX0_typed 3 = .ok (.iload_n 2, 1) := dk_28 (dk_at dksX0_typed_0 3 rfl rfl)
theorem dX0_typed_4 : decode cX0_typed 4 = .ok (.ifCond .lt 41, 3) := dk_155 0 41 (dk_at dksX0_typed_0 4 rfl rfl)
theorem dX0_typed_7 : decode cX0_typed 7 = .ok (.aload_n 0, 1) := dk_42 (dk_at dksX0_typed_0 7 rfl rfl)
theorem dX0_typed_8 : decode cX0_typed 8 = .ok (.getfield 24, 3) := dk_180 0 24 (dk_at dksX0_typed_0 8 rfl rfl)
theorem dX0_typed_11 : decode cX0_typed 11 = .ok (.getfield 114, 3) := dk_180 0 114 (dk_at dksX0_typed_0 11 rfl rfl)
theorem dX0_typed_14 : decode cX0_typed 14 = .ok (.aload_n 0, 1) := dk_42 (dk_at dksX0_typed_0 14 rfl rfl)
theorem dX0_typed_15 : decode cX0_typed 15 = .ok (.getfield 24, 3) := dk_180 0 24 (dk_at dksX0_typed_0 15 rfl rfl)
theorem dX0_typed_18 : decode cX0_typed 18 = .ok (.getfield 107, 3) := dk_180 0 107 (dk_at dksX0_typed_0 18 rfl rfl)
theorem dX0_typed_21 : decode cX0_typed 21 = .ok (.iload_n 1, 1) := dk_27 (dk_at dksX0_typed_0 21 rfl rfl)
theorem dX0_typed_22 : decode cX0_typed 22 = .ok (.iload_n 2, 1) := dk_28 (dk_at dksX0_typed_0 22 rfl rfl)
theorem dX0_typed_23 : decode cX0_typed 23 = .ok (.ishr, 1) := dk_122 (dk_at dksX0_typed_0 23 rfl rfl)
theorem dX0_typed_24 : decode cX0_typed 24 = .ok (.i2b, 1) := dk_145 (dk_at dksX0_typed_1 0 rfl rfl)
theorem dX0_typed_25 : decode cX0_typed 25 = .ok (.bastore, 1) := dk_84 (dk_at dksX0_typed_1 1 rfl rfl)
theorem dX0_typed_26 : decode cX0_typed 26 = .ok (.aload_n 0, 1) := dk_42 (dk_at dksX0_typed_1 2 rfl rfl)
theorem dX0_typed_27 : decode cX0_typed 27 = .ok (.getfield 24, 3) := dk_180 0 24 (dk_at dksX0_typed_1 3 rfl rfl)
theorem dX0_typed_30 : decode cX0_typed 30 = .ok (.dup, 1) := dk_89 (dk_at dksX0_typed_1 6 rfl rfl)
theorem dX0_typed_31 : decode cX0_typed 31 = .ok (.getfield 107, 3) := dk_180 0 107 (dk_at dksX0_typed_1 7 rfl rfl)
theorem dX0_typed_34 : decode cX0_typed 34 = .ok (.iconst 1, 1) := dk_4 (dk_at dksX0_typed_1 10 rfl rfl)
theorem dX0_typed_35 : decode cX0_typed 35 = .ok (.iadd, 1) := dk_96 (dk_at dksX0_typed_1 11 rfl rfl)
theorem dX0_typed_36 : decode cX0_typed 36 = .ok (.putfield 107, 3) := dk_181 0 107 (dk_at dksX0_typed_1 12 rfl rfl)
theorem dX0_typed_39 : decode cX0_typed 39 = .ok (.iinc 2 (-8), 3) := dk_132 2 248 (dk_at dksX0_typed_1 15 rfl rfl)
theorem dX0_typed_42 : decode cX0_typed 42 = .ok (.goto (-39), 3) := dk_167 255 217 (dk_at dksX0_typed_1 18 rfl rfl)
theorem dX0_typed_45 : decode cX0_typed 45 = .ok (.return_, 1) := dk_177 (dk_at dksX0_typed_1 21 rfl rfl)
abbrev cX0_back : ByteArray := prog_1_method_6_code
def yX0_back : MethodName := ⟨RX0, "back", "(I)I"⟩
def dkwX0_back_1 : List UInt8 := [180, 0, 107, 27, 100, 181, 0, 107, 42, 180, 0, 24, 180, 0, 107, 172]
abbrev dktX0_back_1 : List UInt8 := dkwX0_back_1 ++ []
def dkwX0_back_0 : List UInt8 := [27, 155, 0, 14, 27, 42, 180, 0, 24, 180, 0, 107, 164, 0, 5, 2, 172, 42, 180, 0, 24, 89]
abbrev dktX0_back_0 : List UInt8 := dkwX0_back_0 ++ dktX0_back_1
theorem dksX0_back_0 : cX0_back.data.toList.drop 0 = dktX0_back_0 := by decide +kernel
theorem dksX0_back_1 : cX0_back.data.toList.drop 22 = dktX0_back_1 := dk_seg dksX0_back_0 22 rfl rfl
theorem dX0_back_0 : decode cX0_back 0 = .ok (.iload_n 1, 1) := dk_27 (dk_at dksX0_back_0 0 rfl rfl)
theorem dX0_back_1 : decode cX0_back 1 = .ok (.ifCond .lt 14, 3) := dk_155 0 14 (dk_at dksX0_back_0 1 rfl rfl)
theorem dX0_back_4 : decode cX0_back 4 = .ok (.iload_n 1, 1) := dk_27 (dk_at dksX0_back_0 4 rfl rfl)
theorem dX0_back_5 : decode cX0_back 5 = .ok (.aload_n 0, 1) := dk_42 (dk_at dksX0_back_0 5 rfl rfl)
theorem dX0_back_6 : decode cX0_back 6 = .ok (.getfield 24, 3) := dk_180 0 24 (dk_at dksX0_back_0 6 rfl rfl)
theorem dX0_back_9 : decode cX0_back 9 = .ok (.getfield 107, 3) := dk_180 0 107 (dk_at dksX0_back_0 9 rfl rfl)
theorem dX0_back_12 : decode cX0_back 12 = .ok (.if_icmp .le 5, 3) := dk_164 0 5 (dk_at dksX0_back_0 12 rfl rfl)
theorem dX0_back_15 : decode cX0_back 15 = .ok (.iconst (-1), 1) := dk_2 (dk_at dksX0_back_0 15 rfl rfl)
theorem dX0_back_16 : decode cX0_back 16 = .ok (.ireturn, 1) := dk_172 (dk_at dksX0_back_0 16 rfl rfl)
theorem dX0_back_17 : decode cX0_back 17 = .ok (.aload_n 0, 1) := dk_42 (dk_at dksX0_back_0 17 rfl rfl)
theorem dX0_back_18 : decode cX0_back 18 = .ok (.getfield 24, 3) := dk_180 0 24 (dk_at dksX0_back_0 18 rfl rfl)
theorem dX0_back_21 : decode cX0_back 21 = .ok (.dup, 1) := dk_89 (dk_at dksX0_back_0 21 rfl rfl)
theorem dX0_back_22 : decode cX0_back 22 = .ok (.getfield 107, 3) := dk_180 0 107 (dk_at dksX0_back_1 0 rfl rfl)
theorem dX0_back_25 : decode cX0_back 25 = .ok (.iload_n 1, 1) := dk_27 (dk_at dksX0_back_1 3 rfl rfl)
theorem dX0_back_26 : decode cX0_back 26 = .ok (.isub, 1) := dk_100 (dk_at dksX0_back_1 4 rfl rfl)
theorem dX0_back_27 : decode cX0_back 27 = .ok (.putfield 107, 3) := dk_181 0 107 (dk_at dksX0_back_1 5 rfl rfl)
theorem dX0_back_30 : decode cX0_back 30 = .ok (.aload_n 0, 1) := dk_42 (dk_at dksX0_back_1 8 rfl rfl)
theorem dX0_back_31 : decode cX0_back 31 = .ok (.getfield 24, 3) := dk_180 0 24 (dk_at dksX0_back_1 9 rfl rfl)
theorem dX0_back_34 : decode cX0_back 34 = .ok (.getfield 107, 3) := dk_180 0 107 (dk_at dksX0_back_1 12 rfl rfl)
theorem dX0_back_37 : decode cX0_back 37 = .ok (.ireturn, 1) := dk_172 (dk_at dksX0_back_1 15 rfl rfl)
abbrev cX0_read : ByteArray := prog_1_method_7_code
def yX0_read : MethodName := ⟨RX0, "read", "()I"⟩
def dkwX0_read_3 : List UInt8 := [180, 0, 131, 181, 0, 44, 42, 180, 0, 24, 3, 181, 0, 107, 27, 172]
abbrev dktX0_read_3 : List UInt8 := dkwX0_read_3 ++ []
def dkwX0_read_2 : List UInt8 := [180, 0, 65, 28, 3, 84, 132, 2, 1, 167, 255, 241, 167, 0, 17, 77, 44, 180, 0, 128, 60, 42, 44]
abbrev dktX0_read_2 : List UInt8 := dkwX0_read_2 ++ dktX0_read_3
def dkwX0_read_1 : List UInt8 := [180, 0, 40, 182, 0, 103, 42, 3, 181, 0, 122, 42, 3, 181, 0, 125, 3, 61, 28, 6, 162, 0, 16, 42]
abbrev dktX0_read_1 : List UInt8 := dkwX0_read_1 ++ dktX0_read_2
def dkwX0_read_0 : List UInt8 := [3, 60, 42, 2, 181, 0, 44, 42, 42, 180, 0, 33, 182, 0, 118, 181, 0, 40, 42, 180, 0, 51, 42]
abbrev dktX0_read_0 : List UInt8 := dkwX0_read_0 ++ dktX0_read_1
theorem dksX0_read_0 : cX0_read.data.toList.drop 0 = dktX0_read_0 := by decide +kernel
theorem dksX0_read_1 : cX0_read.data.toList.drop 23 = dktX0_read_1 := dk_seg dksX0_read_0 23 rfl rfl
theorem dksX0_read_2 : cX0_read.data.toList.drop 47 = dktX0_read_2 := dk_seg dksX0_read_1 24 rfl rfl
theorem dksX0_read_3 : cX0_read.data.toList.drop 70 = dktX0_read_3 := dk_seg dksX0_read_2 23 rfl rfl
theorem dX0_read_0 : decode cX0_read 0 = .ok (.iconst 0, 1) := dk_3 (dk_at dksX0_read_0 0 rfl rfl)
theorem dX0_read_1 : decode cX0_read 1 = .ok (.istore_n 1, 1) := dk_60 (dk_at dksX0_read_0 1 rfl rfl)
theorem dX0_read_2 : decode cX0_read 2 = .ok (.aload_n 0, 1) := dk_42 (dk_at dksX0_read_0 2 rfl rfl)
theorem dX0_read_3 : decode cX0_read 3 = .ok (.iconst (-1), 1) := dk_2 (dk_at dksX0_read_0 3 rfl rfl)
theorem dX0_read_4 : decode cX0_read 4 = .ok (.putfield 44, 3) := dk_181 0 44 (dk_at dksX0_read_0 4 rfl rfl)
theorem dX0_read_7 : decode cX0_read 7 = .ok (.aload_n 0, 1) := dk_42 (dk_at dksX0_read_0 7 rfl rfl)
theorem dX0_read_8 : decode cX0_read 8 = .ok (.aload_n 0, 1) := dk_42 (dk_at dksX0_read_0 8 rfl rfl)
theorem dX0_read_9 : decode cX0_read 9 = .ok (.getfield 33, 3) := dk_180 0 33 (dk_at dksX0_read_0 9 rfl rfl)
theorem dX0_read_12 : decode cX0_read 12 = .ok (.invokevirtual 118, 3) := dk_182 0 118 (dk_at dksX0_read_0 12 rfl rfl)
theorem dX0_read_15 : decode cX0_read 15 = .ok (.putfield 40, 3) := dk_181 0 40 (dk_at dksX0_read_0 15 rfl rfl)
theorem dX0_read_18 : decode cX0_read 18 = .ok (.aload_n 0, 1) := dk_42 (dk_at dksX0_read_0 18 rfl rfl)
theorem dX0_read_19 : decode cX0_read 19 = .ok (.getfield 51, 3) := dk_180 0 51 (dk_at dksX0_read_0 19 rfl rfl)
theorem dX0_read_22 : decode cX0_read 22 = .ok (.aload_n 0, 1) := dk_42 (dk_at dksX0_read_0 22 rfl rfl)
theorem dX0_read_23 : decode cX0_read 23 = .ok (.getfield 40, 3) := dk_180 0 40 (dk_at dksX0_read_1 0 rfl rfl)
theorem dX0_read_26 : decode cX0_read 26 = .ok (.invokevirtual 103, 3) := dk_182 0 103 (dk_at dksX0_read_1 3 rfl rfl)
theorem dX0_read_29 : decode cX0_read 29 = .ok (.aload_n 0, 1) := dk_42 (dk_at dksX0_read_1 6 rfl rfl)
theorem dX0_read_30 : decode cX0_read 30 = .ok (.iconst 0, 1) := dk_3 (dk_at dksX0_read_1 7 rfl rfl)
theorem dX0_read_31 : decode cX0_read 31 = .ok (.putfield 122, 3) := dk_181 0 122 (dk_at dksX0_read_1 8 rfl rfl)
theorem dX0_read_34 : decode cX0_read 34 = .ok (.aload_n 0, 1) := dk_42 (dk_at dksX0_read_1 11 rfl rfl)
theorem dX0_read_35 : decode cX0_read 35 = .ok (.iconst 0, 1) := dk_3 (dk_at dksX0_read_1 12 rfl rfl)
theorem dX0_read_36 : decode cX0_read 36 = .ok (.putfield 125, 3) := dk_181 0 125 (dk_at dksX0_read_1 13 rfl rfl)
theorem dX0_read_39 : decode cX0_read 39 = .ok (.iconst 0, 1) := dk_3 (dk_at dksX0_read_1 16 rfl rfl)
theorem dX0_read_40 : decode cX0_read 40 = .ok (.istore_n 2, 1) := dk_61 (dk_at dksX0_read_1 17 rfl rfl)
theorem dX0_read_41 : decode cX0_read 41 = .ok (.iload_n 2, 1) := dk_28 (dk_at dksX0_read_1 18 rfl rfl)
theorem dX0_read_42 : decode cX0_read 42 = .ok (.iconst 3, 1) := dk_6 (dk_at dksX0_read_1 19 rfl rfl)
theorem dX0_read_43 : decode cX0_read 43 = .ok (.if_icmp .ge 16, 3) := dk_162 0 16 (dk_at dksX0_read_1 20 rfl rfl)
theorem dX0_read_46 : decode cX0_read 46 = .ok (.aload_n 0, 1) := dk_42 (dk_at dksX0_read_1 23 rfl rfl)
theorem dX0_read_47 : decode cX0_read 47 = .ok (.getfield 65, 3) := dk_180 0 65 (dk_at dksX0_read_2 0 rfl rfl)
theorem dX0_read_50 : decode cX0_read 50 = .ok (.iload_n 2, 1) := dk_28 (dk_at dksX0_read_2 3 rfl rfl)
theorem dX0_read_51 : decode cX0_read 51 = .ok (.iconst 0, 1) := dk_3 (dk_at dksX0_read_2 4 rfl rfl)
theorem dX0_read_52 : decode cX0_read 52 = .ok (.bastore, 1) := dk_84 (dk_at dksX0_read_2 5 rfl rfl)
theorem dX0_read_53 : decode cX0_read 53 = .ok (.iinc 2 1, 3) := dk_132 2 1 (dk_at dksX0_read_2 6 rfl rfl)
theorem dX0_read_56 : decode cX0_read 56 = .ok (.goto (-15), 3) := dk_167 255 241 (dk_at dksX0_read_2 9 rfl rfl)
theorem dX0_read_59 : decode cX0_read 59 = .ok (.goto 17, 3) := dk_167 0 17 (dk_at dksX0_read_2 12 rfl rfl)
theorem dX0_read_62 : decode cX0_read 62 = .ok (.astore_n 2, 1) := dk_77 (dk_at dksX0_read_2 15 rfl rfl)
theorem dX0_read_63 : decode cX0_read 63 = .ok (.aload_n 2, 1) := dk_44 (dk_at dksX0_read_2 16 rfl rfl)
theorem dX0_read_64 : decode cX0_read 64 = .ok (.getfield 128, 3) := dk_180 0 128 (dk_at dksX0_read_2 17 rfl rfl)
theorem dX0_read_67 : decode cX0_read 67 = .ok (.istore_n 1, 1) := dk_60 (dk_at dksX0_read_2 20 rfl rfl)
theorem dX0_read_68 : decode cX0_read 68 = .ok (.aload_n 0, 1) := dk_42 (dk_at dksX0_read_2 21 rfl rfl)
theorem dX0_read_69 : decode cX0_read 69 = .ok (.aload_n 2, 1) := dk_44 (dk_at dksX0_read_2 22 rfl rfl)
theorem dX0_read_70 : decode cX0_read 70 = .ok (.getfield 131, 3) := dk_180 0 131 (dk_at dksX0_read_3 0 rfl rfl)
theorem dX0_read_73 : decode cX0_read 73 = .ok (.putfield 44, 3) := dk_181 0 44 (dk_at dksX0_read_3 3 rfl rfl)
theorem dX0_read_76 : decode cX0_read 76 = .ok (.aload_n 0, 1) := dk_42 (dk_at dksX0_read_3 6 rfl rfl)
theorem dX0_read_77 : decode cX0_read 77 = .ok (.getfield 24, 3) := dk_180 0 24 (dk_at dksX0_read_3 7 rfl rfl)
theorem dX0_read_80 : decode cX0_read 80 = .ok (.iconst 0, 1) := dk_3 (dk_at dksX0_read_3 10 rfl rfl)
theorem dX0_read_81 : decode cX0_read 81 = .ok (.putfield 107, 3) := dk_181 0 107 (dk_at dksX0_read_3 11 rfl rfl)
theorem dX0_read_84 : decode cX0_read 84 = .ok (.iload_n 1, 1) := dk_27 (dk_at dksX0_read_3 14 rfl rfl)
theorem dX0_read_85 : decode cX0_read 85 = .ok (.ireturn, 1) := dk_172 (dk_at dksX0_read_3 15 rfl rfl)
abbrev cX0_place : ByteArray := prog_1_method_8_code
def yX0_place : MethodName := ⟨RX0, "place", "()I"⟩
theorem dX0_place_0 : decode cX0_place 0 = .ok (.aload_n 0, 1) := by decide +kernel
theorem dX0_place_1 : decode cX0_place 1 = .ok (.getfield 44, 3) := by decide +kernel
theorem dX0_place_4 : decode cX0_place 4 = .ok (.ireturn, 1) := by decide +kernel
abbrev cX0_man : ByteArray := prog_1_method_17_code
def yX0_man : MethodName := ⟨RX0, "man", "(III)I"⟩
def dkwX0_man_2 : List UInt8 := [180, 0, 51, 180, 0, 172, 27, 50, 28, 51, 172]
abbrev dktX0_man_2 : List UInt8 := dkwX0_man_2 ++ []
def dkwX0_man_1 : List UInt8 := [154, 0, 5, 2, 172, 29, 154, 0, 17, 42, 180, 0, 51, 180, 0, 168, 27, 50, 28, 51, 167, 0, 14, 42]
abbrev dktX0_man_1 : List UInt8 := dkwX0_man_1 ++ dktX0_man_2
def dkwX0_man_0 : List UInt8 := [42, 27, 182, 0, 161, 153, 0, 20, 42, 28, 182, 0, 165, 153, 0, 12, 29, 3, 4, 184, 0, 150]
abbrev dktX0_man_0 : List UInt8 := dkwX0_man_0 ++ dktX0_man_1
theorem dksX0_man_0 : cX0_man.data.toList.drop 0 = dktX0_man_0 := by decide +kernel
theorem dksX0_man_1 : cX0_man.data.toList.drop 22 = dktX0_man_1 := dk_seg dksX0_man_0 22 rfl rfl
theorem dksX0_man_2 : cX0_man.data.toList.drop 46 = dktX0_man_2 := dk_seg dksX0_man_1 24 rfl rfl
theorem dX0_man_0 : decode cX0_man 0 = .ok (.aload_n 0, 1) := dk_42 (dk_at dksX0_man_0 0 rfl rfl)
theorem dX0_man_1 : decode cX0_man 1 = .ok (.iload_n 1, 1) := dk_27 (dk_at dksX0_man_0 1 rfl rfl)
theorem dX0_man_2 : decode cX0_man 2 = .ok (.invokevirtual 161, 3) := dk_182 0 161 (dk_at dksX0_man_0 2 rfl rfl)
theorem dX0_man_5 : decode cX0_man 5 = .ok (.ifCond .eq 20, 3) := dk_153 0 20 (dk_at dksX0_man_0 5 rfl rfl)
theorem dX0_man_8 : decode cX0_man 8 = .ok (.aload_n 0, 1) := dk_42 (dk_at dksX0_man_0 8 rfl rfl)
theorem dX0_man_9 : decode cX0_man 9 = .ok (.iload_n 2, 1) := dk_28 (dk_at dksX0_man_0 9 rfl rfl)
theorem dX0_man_10 : decode cX0_man 10 = .ok (.invokevirtual 165, 3) := dk_182 0 165 (dk_at dksX0_man_0 10 rfl rfl)
theorem dX0_man_13 : decode cX0_man 13 = .ok (.ifCond .eq 12, 3) := dk_153 0 12 (dk_at dksX0_man_0 13 rfl rfl)
theorem dX0_man_16 : decode cX0_man 16 = .ok (.iload_n 3, 1) := dk_29 (dk_at dksX0_man_0 16 rfl rfl)
theorem dX0_man_17 : decode cX0_man 17 = .ok (.iconst 0, 1) := dk_3 (dk_at dksX0_man_0 17 rfl rfl)
theorem dX0_man_18 : decode cX0_man 18 = .ok (.iconst 1, 1) := dk_4 (dk_at dksX0_man_0 18 rfl rfl)
theorem dX0_man_19 : decode cX0_man 19 = .ok (.invokestatic 150, 3) := dk_184 0 150 (dk_at dksX0_man_0 19 rfl rfl)
theorem dX0_man_22 : decode cX0_man 22 = .ok (.ifCond .ne 5, 3) := dk_154 0 5 (dk_at dksX0_man_1 0 rfl rfl)
theorem dX0_man_25 : decode cX0_man 25 = .ok (.iconst (-1), 1) := dk_2 (dk_at dksX0_man_1 3 rfl rfl)
theorem dX0_man_26 : decode cX0_man 26 = .ok (.ireturn, 1) := dk_172 (dk_at dksX0_man_1 4 rfl rfl)
theorem dX0_man_27 : decode cX0_man 27 = .ok (.iload_n 3, 1) := dk_29 (dk_at dksX0_man_1 5 rfl rfl)
theorem dX0_man_28 : decode cX0_man 28 = .ok (.ifCond .ne 17, 3) := dk_154 0 17 (dk_at dksX0_man_1 6 rfl rfl)
theorem dX0_man_31 : decode cX0_man 31 = .ok (.aload_n 0, 1) := dk_42 (dk_at dksX0_man_1 9 rfl rfl)
theorem dX0_man_32 : decode cX0_man 32 = .ok (.getfield 51, 3) := dk_180 0 51 (dk_at dksX0_man_1 10 rfl rfl)
theorem dX0_man_35 : decode cX0_man 35 = .ok (.getfield 168, 3) := dk_180 0 168 (dk_at dksX0_man_1 13 rfl rfl)
theorem dX0_man_38 : decode cX0_man 38 = .ok (.iload_n 1, 1) := dk_27 (dk_at dksX0_man_1 16 rfl rfl)
theorem dX0_man_39 : decode cX0_man 39 = .ok (.aaload, 1) := dk_50 (dk_at dksX0_man_1 17 rfl rfl)
theorem dX0_man_40 : decode cX0_man 40 = .ok (.iload_n 2, 1) := dk_28 (dk_at dksX0_man_1 18 rfl rfl)
theorem dX0_man_41 : decode cX0_man 41 = .ok (.baload, 1) := dk_51 (dk_at dksX0_man_1 19 rfl rfl)
theorem dX0_man_42 : decode cX0_man 42 = .ok (.goto 14, 3) := dk_167 0 14 (dk_at dksX0_man_1 20 rfl rfl)
theorem dX0_man_45 : decode cX0_man 45 = .ok (.aload_n 0, 1) := dk_42 (dk_at dksX0_man_1 23 rfl rfl)
theorem dX0_man_46 : decode cX0_man 46 = .ok (.getfield 51, 3) := dk_180 0 51 (dk_at dksX0_man_2 0 rfl rfl)
theorem dX0_man_49 : decode cX0_man 49 = .ok (.getfield 172, 3) := dk_180 0 172 (dk_at dksX0_man_2 3 rfl rfl)
theorem dX0_man_52 : decode cX0_man 52 = .ok (.iload_n 1, 1) := dk_27 (dk_at dksX0_man_2 6 rfl rfl)
theorem dX0_man_53 : decode cX0_man 53 = .ok (.aaload, 1) := dk_50 (dk_at dksX0_man_2 7 rfl rfl)
theorem dX0_man_54 : decode cX0_man 54 = .ok (.iload_n 2, 1) := dk_28 (dk_at dksX0_man_2 8 rfl rfl)
theorem dX0_man_55 : decode cX0_man 55 = .ok (.baload, 1) := dk_51 (dk_at dksX0_man_2 9 rfl rfl)
theorem dX0_man_56 : decode cX0_man 56 = .ok (.ireturn, 1) := dk_172 (dk_at dksX0_man_2 10 rfl rfl)
abbrev cX0_isMan : ByteArray := prog_1_method_14_code
def yX0_isMan : MethodName := ⟨RX0, "isMan", "(I)Z"⟩
def dkwX0_isMan_0 : List UInt8 := [27, 3, 42, 182, 0, 154, 4, 100, 184, 0, 150, 172]
abbrev dktX0_isMan_0 : List UInt8 := dkwX0_isMan_0 ++ []
theorem dksX0_isMan_0 : cX0_isMan.data.toList.drop 0 = dktX0_isMan_0 := by decide +kernel
theorem dX0_isMan_0 : decode cX0_isMan 0 = .ok (.iload_n 1, 1) := dk_27 (dk_at dksX0_isMan_0 0 rfl rfl)
theorem dX0_isMan_1 : decode cX0_isMan 1 = .ok (.iconst 0, 1) := dk_3 (dk_at dksX0_isMan_0 1 rfl rfl)
theorem dX0_isMan_2 : decode cX0_isMan 2 = .ok (.aload_n 0, 1) := dk_42 (dk_at dksX0_isMan_0 2 rfl rfl)
theorem dX0_isMan_3 : decode cX0_isMan 3 = .ok (.invokevirtual 154, 3) := dk_182 0 154 (dk_at dksX0_isMan_0 3 rfl rfl)
theorem dX0_isMan_6 : decode cX0_isMan 6 = .ok (.iconst 1, 1) := dk_4 (dk_at dksX0_isMan_0 6 rfl rfl)
theorem dX0_isMan_7 : decode cX0_isMan 7 = .ok (.isub, 1) := dk_100 (dk_at dksX0_isMan_0 7 rfl rfl)
theorem dX0_isMan_8 : decode cX0_isMan 8 = .ok (.invokestatic 150, 3) := dk_184 0 150 (dk_at dksX0_isMan_0 8 rfl rfl)
theorem dX0_isMan_11 : decode cX0_isMan 11 = .ok (.ireturn, 1) := dk_172 (dk_at dksX0_isMan_0 11 rfl rfl)
abbrev cX0_men : ByteArray := prog_1_method_11_code
def yX0_men : MethodName := ⟨RX0, "men", "()I"⟩
def dkwX0_men_0 : List UInt8 := [42, 180, 0, 40, 180, 0, 142, 182, 0, 136, 172]
abbrev dktX0_men_0 : List UInt8 := dkwX0_men_0 ++ []
theorem dksX0_men_0 : cX0_men.data.toList.drop 0 = dktX0_men_0 := by decide +kernel
theorem dX0_men_0 : decode cX0_men 0 = .ok (.aload_n 0, 1) := dk_42 (dk_at dksX0_men_0 0 rfl rfl)
theorem dX0_men_1 : decode cX0_men 1 = .ok (.getfield 40, 3) := dk_180 0 40 (dk_at dksX0_men_0 1 rfl rfl)
theorem dX0_men_4 : decode cX0_men 4 = .ok (.getfield 142, 3) := dk_180 0 142 (dk_at dksX0_men_0 4 rfl rfl)
theorem dX0_men_7 : decode cX0_men 7 = .ok (.invokevirtual 136, 3) := dk_182 0 136 (dk_at dksX0_men_0 7 rfl rfl)
theorem dX0_men_10 : decode cX0_men 10 = .ok (.ireturn, 1) := dk_172 (dk_at dksX0_men_0 10 rfl rfl)
abbrev cX0_isIn : ByteArray := prog_1_method_9_code
def yX0_isIn : MethodName := ⟨RX0, "isIn", "(III)Z"⟩
def dkwX0_isIn_0 : List UInt8 := [26, 27, 161, 0, 12, 26, 28, 163, 0, 7, 4, 167, 0, 4, 3, 172]
abbrev dktX0_isIn_0 : List UInt8 := dkwX0_isIn_0 ++ []
theorem dksX0_isIn_0 : cX0_isIn.data.toList.drop 0 = dktX0_isIn_0 := by decide +kernel
theorem dX0_isIn_0 : decode cX0_isIn 0 = .ok (.iload_n 0, 1) := dk_26 (dk_at dksX0_isIn_0 0 rfl rfl)
theorem dX0_isIn_1 : decode cX0_isIn 1 = .ok (.iload_n 1, 1) := dk_27 (dk_at dksX0_isIn_0 1 rfl rfl)
theorem dX0_isIn_2 : decode cX0_isIn 2 = .ok (.if_icmp .lt 12, 3) := dk_161 0 12 (dk_at dksX0_isIn_0 2 rfl rfl)
theorem dX0_isIn_5 : decode cX0_isIn 5 = .ok (.iload_n 0, 1) := dk_26 (dk_at dksX0_isIn_0 5 rfl rfl)
theorem dX0_isIn_6 : decode cX0_isIn 6 = .ok (.iload_n 2, 1) := dk_28 (dk_at dksX0_isIn_0 6 rfl rfl)
theorem dX0_isIn_7 : decode cX0_isIn 7 = .ok (.if_icmp .gt 7, 3) := dk_163 0 7 (dk_at dksX0_isIn_0 7 rfl rfl)
theorem dX0_isIn_10 : decode cX0_isIn 10 = .ok (.iconst 1, 1) := dk_4 (dk_at dksX0_isIn_0 10 rfl rfl)
theorem dX0_isIn_11 : decode cX0_isIn 11 = .ok (.goto 4, 3) := dk_167 0 4 (dk_at dksX0_isIn_0 11 rfl rfl)
theorem dX0_isIn_14 : decode cX0_isIn 14 = .ok (.iconst 0, 1) := dk_3 (dk_at dksX0_isIn_0 14 rfl rfl)
theorem dX0_isIn_15 : decode cX0_isIn 15 = .ok (.ireturn, 1) := dk_172 (dk_at dksX0_isIn_0 15 rfl rfl)
abbrev cX0_isPast : ByteArray := prog_1_method_16_code
def yX0_isPast : MethodName := ⟨RX0, "isPast", "(I)Z"⟩
def dkwX0_isPast_0 : List UInt8 := [27, 3, 42, 180, 0, 51, 180, 0, 158, 184, 0, 150, 172]
abbrev dktX0_isPast_0 : List UInt8 := dkwX0_isPast_0 ++ []
theorem dksX0_isPast_0 : cX0_isPast.data.toList.drop 0 = dktX0_isPast_0 := by decide +kernel
theorem dX0_isPast_0 : decode cX0_isPast 0 = .ok (.iload_n 1, 1) := dk_27 (dk_at dksX0_isPast_0 0 rfl rfl)
theorem dX0_isPast_1 : decode cX0_isPast 1 = .ok (.iconst 0, 1) := dk_3 (dk_at dksX0_isPast_0 1 rfl rfl)
theorem dX0_isPast_2 : decode cX0_isPast 2 = .ok (.aload_n 0, 1) := dk_42 (dk_at dksX0_isPast_0 2 rfl rfl)
theorem dX0_isPast_3 : decode cX0_isPast 3 = .ok (.getfield 51, 3) := dk_180 0 51 (dk_at dksX0_isPast_0 3 rfl rfl)
theorem dX0_isPast_6 : decode cX0_isPast 6 = .ok (.getfield 158, 3) := dk_180 0 158 (dk_at dksX0_isPast_0 6 rfl rfl)
theorem dX0_isPast_9 : decode cX0_isPast 9 = .ok (.invokestatic 150, 3) := dk_184 0 150 (dk_at dksX0_isPast_0 9 rfl rfl)
theorem dX0_isPast_12 : decode cX0_isPast 12 = .ok (.ireturn, 1) := dk_172 (dk_at dksX0_isPast_0 12 rfl rfl)
abbrev cX0_mirror : ByteArray := prog_1_method_18_code
def yX0_mirror : MethodName := ⟨RX0, "mirror", "(III)I"⟩
def dkwX0_mirror_7 : List UInt8 := [27, 28, 182, 0, 195, 172]
abbrev dktX0_mirror_7 : List UInt8 := dkwX0_mirror_7 ++ []
def dkwX0_mirror_6 : List UInt8 := [167, 0, 15, 42, 180, 0, 51, 180, 0, 181, 27, 50, 21, 4, 51, 172, 42, 180, 0, 51, 42, 180, 0, 40]
abbrev dktX0_mirror_6 : List UInt8 := dkwX0_mirror_6 ++ dktX0_mirror_7
def dkwX0_mirror_5 : List UInt8 := [27, 28, 182, 0, 191, 153, 0, 7, 4, 167, 0, 4, 3, 172, 21, 4, 172, 21, 4, 156, 0, 8, 16, 254]
abbrev dktX0_mirror_5 : List UInt8 := dkwX0_mirror_5 ++ dktX0_mirror_6
def dkwX0_mirror_4 : List UInt8 := [42, 180, 0, 51, 180, 0, 188, 27, 50, 28, 51, 153, 0, 7, 4, 167, 0, 4, 3, 172, 42, 180, 0, 51]
abbrev dktX0_mirror_4 : List UInt8 := dkwX0_mirror_4 ++ dktX0_mirror_5
def dkwX0_mirror_3 : List UInt8 := [42, 180, 0, 51, 180, 0, 181, 27, 50, 28, 51, 172, 42, 180, 0, 51, 180, 0, 184, 27, 50, 28, 53, 172]
abbrev dktX0_mirror_3 : List UInt8 := dkwX0_mirror_3 ++ dktX0_mirror_4
def dkwX0_mirror_2 : List UInt8 := [170, 0, 0, 0, 0, 0, 0, 128, 0, 0, 0, 0, 0, 0, 0, 5, 0, 0, 0, 40, 0, 0, 0, 52, 0, 0, 0, 64, 0, 0, 0, 84, 0, 0, 0, 102, 0, 0, 0, 105]
abbrev dktX0_mirror_2 : List UInt8 := dkwX0_mirror_2 ++ dktX0_mirror_3
def dkwX0_mirror_1 : List UInt8 := [154, 0, 5, 2, 172, 42, 180, 0, 51, 27, 28, 182, 0, 178, 54, 4, 29]
abbrev dktX0_mirror_1 : List UInt8 := dkwX0_mirror_1 ++ dktX0_mirror_2
def dkwX0_mirror_0 : List UInt8 := [42, 27, 182, 0, 175, 153, 0, 21, 42, 28, 182, 0, 165, 153, 0, 13, 29, 3, 16, 6, 184, 0, 150]
abbrev dktX0_mirror_0 : List UInt8 := dkwX0_mirror_0 ++ dktX0_mirror_1
theorem dksX0_mirror_0 : cX0_mirror.data.toList.drop 0 = dktX0_mirror_0 := by decide +kernel
theorem dksX0_mirror_1 : cX0_mirror.data.toList.drop 23 = dktX0_mirror_1 := dk_seg dksX0_mirror_0 23 rfl rfl
theorem dksX0_mirror_2 : cX0_mirror.data.toList.drop 40 = dktX0_mirror_2 := dk_seg dksX0_mirror_1 17 rfl rfl
theorem dksX0_mirror_3 : cX0_mirror.data.toList.drop 80 = dktX0_mirror_3 := dk_seg dksX0_mirror_2 40 rfl rfl
theorem dksX0_mirror_4 : cX0_mirror.data.toList.drop 104 = dktX0_mirror_4 := dk_seg dksX0_mirror_3 24 rfl rfl
theorem dksX0_mirror_5 : cX0_mirror.data.toList.drop 128 = dktX0_mirror_5 := dk_seg dksX0_mirror_4 24 rfl rfl
theorem dksX0_mirror_6 : cX0_mirror.data.toList.drop 152 = dktX0_mirror_6 := dk_seg dksX0_mirror_5 24 rfl rfl
theorem dksX0_mirror_7 : cX0_mirror.data.toList.drop 176 = dktX0_mirror_7 := dk_seg dksX0_mirror_6 24 rfl rfl
theorem dX0_mirror_0 : decode cX0_mirror 0 = .ok (.aload_n 0, 1) := dk_42 (dk_at dksX0_mirror_0 0 rfl rfl)
theorem dX0_mirror_1 : decode cX0_mirror 1 = .ok (.iload_n 1, 1) := dk_27 (dk_at dksX0_mirror_0 1 rfl rfl)
theorem dX0_mirror_2 : decode cX0_mirror 2 = .ok (.invokevirtual 175, 3) := dk_182 0 175 (dk_at dksX0_mirror_0 2 rfl rfl)
theorem dX0_mirror_5 : decode cX0_mirror 5 = .ok (.ifCond .eq 21, 3) := dk_153 0 21 (dk_at dksX0_mirror_0 5 rfl rfl)
theorem dX0_mirror_8 : decode cX0_mirror 8 = .ok (.aload_n 0, 1) := dk_42 (dk_at dksX0_mirror_0 8 rfl rfl)
theorem dX0_mirror_9 : decode cX0_mirror 9 = .ok (.iload_n 2, 1) := dk_28 (dk_at dksX0_mirror_0 9 rfl rfl)
theorem dX0_mirror_10 : decode cX0_mirror 10 = .ok (.invokevirtual 165, 3) := dk_182 0 165 (dk_at dksX0_mirror_0 10 rfl rfl)
theorem dX0_mirror_13 : decode cX0_mirror 13 = .ok (.ifCond .eq 13, 3) := dk_153 0 13 (dk_at dksX0_mirror_0 13 rfl rfl)
theorem dX0_mirror_16 : decode cX0_mirror 16 = .ok (.iload_n 3, 1) := dk_29 (dk_at dksX0_mirror_0 16 rfl rfl)
theorem dX0_mirror_17 : decode cX0_mirror 17 = .ok (.iconst 0, 1) := dk_3 (dk_at dksX0_mirror_0 17 rfl rfl)
theorem dX0_mirror_18 : decode cX0_mirror 18 = .ok (.bipush 6, 2) := dk_16 6 (dk_at dksX0_mirror_0 18 rfl rfl)
theorem dX0_mirror_20 : decode cX0_mirror 20 = .ok (.invokestatic 150, 3) := dk_184 0 150 (dk_at dksX0_mirror_0 20 rfl rfl)
theorem dX0_mirror_23 : decode cX0_mirror 23 = .ok (.ifCond .ne 5, 3) := dk_154 0 5 (dk_at dksX0_mirror_1 0 rfl rfl)
theorem dX0_mirror_26 : decode cX0_mirror 26 = .ok (.iconst (-1), 1) := dk_2 (dk_at dksX0_mirror_1 3 rfl rfl)
theorem dX0_mirror_27 : decode cX0_mirror 27 = .ok (.ireturn, 1) := dk_172 (dk_at dksX0_mirror_1 4 rfl rfl)
theorem dX0_mirror_28 : decode cX0_mirror 28 = .ok (.aload_n 0, 1) := dk_42 (dk_at dksX0_mirror_1 5 rfl rfl)
theorem dX0_mirror_29 : decode cX0_mirror 29 = .ok (.getfield 51, 3) := dk_180 0 51 (dk_at dksX0_mirror_1 6 rfl rfl)
theorem dX0_mirror_32 : decode cX0_mirror 32 = .ok (.iload_n 1, 1) := dk_27 (dk_at dksX0_mirror_1 9 rfl rfl)
theorem dX0_mirror_33 : decode cX0_mirror 33 = .ok (.iload_n 2, 1) := dk_28 (dk_at dksX0_mirror_1 10 rfl rfl)
theorem dX0_mirror_34 : decode cX0_mirror 34 = .ok (.invokevirtual 178, 3) := dk_182 0 178 (dk_at dksX0_mirror_1 11 rfl rfl)
theorem dX0_mirror_37 : decode cX0_mirror 37 = .ok (.istore 4, 2) := dk_54 4 (dk_at dksX0_mirror_1 14 rfl rfl)
theorem dX0_mirror_39 : decode cX0_mirror 39 = .ok (.iload_n 3, 1) := dk_29 (dk_at dksX0_mirror_1 16 rfl rfl)
theorem dX0_mirror_40 : decode cX0_mirror 40 = .ok (.tableswitch 128 0 5 #[40, 52, 64, 84, 102, 105], 40) := by decide +kernel
theorem dX0_mirror_80 : decode cX0_mirror 80 = .ok (.aload_n 0, 1) := dk_42 (dk_at dksX0_mirror_3 0 rfl rfl)
theorem dX0_mirror_81 : decode cX0_mirror 81 = .ok (.getfield 51, 3) := dk_180 0 51 (dk_at dksX0_mirror_3 1 rfl rfl)
theorem dX0_mirror_84 : decode cX0_mirror 84 = .ok (.getfield 181, 3) := dk_180 0 181 (dk_at dksX0_mirror_3 4 rfl rfl)
theorem dX0_mirror_87 : decode cX0_mirror 87 = .ok (.iload_n 1, 1) := dk_27 (dk_at dksX0_mirror_3 7 rfl rfl)
theorem dX0_mirror_88 : decode cX0_mirror 88 = .ok (.aaload, 1) := dk_50 (dk_at dksX0_mirror_3 8 rfl rfl)
theorem dX0_mirror_89 : decode cX0_mirror 89 = .ok (.iload_n 2, 1) := dk_28 (dk_at dksX0_mirror_3 9 rfl rfl)
theorem dX0_mirror_90 : decode cX0_mirror 90 = .ok (.baload, 1) := dk_51 (dk_at dksX0_mirror_3 10 rfl rfl)
theorem dX0_mirror_91 : decode cX0_mirror 91 = .ok (.ireturn, 1) := dk_172 (dk_at dksX0_mirror_3 11 rfl rfl)
theorem dX0_mirror_92 : decode cX0_mirror 92 = .ok (.aload_n 0, 1) := dk_42 (dk_at dksX0_mirror_3 12 rfl rfl)
theorem dX0_mirror_93 : decode cX0_mirror 93 = .ok (.getfield 51, 3) := dk_180 0 51 (dk_at dksX0_mirror_3 13 rfl rfl)
theorem dX0_mirror_96 : decode cX0_mirror 96 = .ok (.getfield 184, 3) := dk_180 0 184 (dk_at dksX0_mirror_3 16 rfl rfl)
theorem dX0_mirror_99 : decode cX0_mirror 99 = .ok (.iload_n 1, 1) := dk_27 (dk_at dksX0_mirror_3 19 rfl rfl)
theorem dX0_mirror_100 : decode cX0_mirror 100 = .ok (.aaload, 1) := dk_50 (dk_at dksX0_mirror_3 20 rfl rfl)
theorem dX0_mirror_101 : decode cX0_mirror 101 = .ok (.iload_n 2, 1) := dk_28 (dk_at dksX0_mirror_3 21 rfl rfl)
theorem dX0_mirror_102 : decode cX0_mirror 102 = .ok (.saload, 1) := dk_53 (dk_at dksX0_mirror_3 22 rfl rfl)
theorem dX0_mirror_103 : decode cX0_mirror 103 = .ok (.ireturn, 1) := dk_172 (dk_at dksX0_mirror_3 23 rfl rfl)
theorem dX0_mirror_104 : decode cX0_mirror 104 = .ok (.aload_n 0, 1) := dk_42 (dk_at dksX0_mirror_4 0 rfl rfl)
theorem dX0_mirror_105 : decode cX0_mirror 105 = .ok (.getfield 51, 3) := dk_180 0 51 (dk_at dksX0_mirror_4 1 rfl rfl)
theorem dX0_mirror_108 : decode cX0_mirror 108 = .ok (.getfield 188, 3) := dk_180 0 188 (dk_at dksX0_mirror_4 4 rfl rfl)
theorem dX0_mirror_111 : decode cX0_mirror 111 = .ok (.iload_n 1, 1) := dk_27 (dk_at dksX0_mirror_4 7 rfl rfl)
theorem dX0_mirror_112 : decode cX0_mirror 112 = .ok (.aaload, 1) := dk_50 (dk_at dksX0_mirror_4 8 rfl rfl)
theorem dX0_mirror_113 : decode cX0_mirror 113 = .ok (.iload_n 2, 1) := dk_28 (dk_at dksX0_mirror_4 9 rfl rfl)
theorem dX0_mirror_114 : decode cX0_mirror 114 = .ok (.baload, 1) := dk_51 (dk_at dksX0_mirror_4 10 rfl rfl)
theorem dX0_mirror_115 : decode cX0_mirror 115 = .ok (.ifCond .eq 7, 3) := dk_153 0 7 (dk_at dksX0_mirror_4 11 rfl rfl)
theorem dX0_mirror_118 : decode cX0_mirror 118 = .ok (.iconst 1, 1) := dk_4 (dk_at dksX0_mirror_4 14 rfl rfl)
theorem dX0_mirror_119 : decode cX0_mirror 119 = .ok (.goto 4, 3) := dk_167 0 4 (dk_at dksX0_mirror_4 15 rfl rfl)
theorem dX0_mirror_122 : decode cX0_mirror 122 = .ok (.iconst 0, 1) := dk_3 (dk_at dksX0_mirror_4 18 rfl rfl)
theorem dX0_mirror_123 : decode cX0_mirror 123 = .ok (.ireturn, 1) := dk_172 (dk_at dksX0_mirror_4 19 rfl rfl)
theorem dX0_mirror_124 : decode cX0_mirror 124 = .ok (.aload_n 0, 1) := dk_42 (dk_at dksX0_mirror_4 20 rfl rfl)
theorem dX0_mirror_125 : decode cX0_mirror 125 = .ok (.getfield 51, 3) := dk_180 0 51 (dk_at dksX0_mirror_4 21 rfl rfl)
theorem dX0_mirror_128 : decode cX0_mirror 128 = .ok (.iload_n 1, 1) := dk_27 (dk_at dksX0_mirror_5 0 rfl rfl)
theorem dX0_mirror_129 : decode cX0_mirror 129 = .ok (.iload_n 2, 1) := dk_28 (dk_at dksX0_mirror_5 1 rfl rfl)
theorem dX0_mirror_130 : decode cX0_mirror 130 = .ok (.invokevirtual 191, 3) := dk_182 0 191 (dk_at dksX0_mirror_5 2 rfl rfl)
theorem dX0_mirror_133 : decode cX0_mirror 133 = .ok (.ifCond .eq 7, 3) := dk_153 0 7 (dk_at dksX0_mirror_5 5 rfl rfl)
theorem dX0_mirror_136 : decode cX0_mirror 136 = .ok (.iconst 1, 1) := dk_4 (dk_at dksX0_mirror_5 8 rfl rfl)
theorem dX0_mirror_137 : decode cX0_mirror 137 = .ok (.goto 4, 3) := dk_167 0 4 (dk_at dksX0_mirror_5 9 rfl rfl)
theorem dX0_mirror_140 : decode cX0_mirror 140 = .ok (.iconst 0, 1) := dk_3 (dk_at dksX0_mirror_5 12 rfl rfl)
theorem dX0_mirror_141 : decode cX0_mirror 141 = .ok (.ireturn, 1) := dk_172 (dk_at dksX0_mirror_5 13 rfl rfl)
theorem dX0_mirror_142 : decode cX0_mirror 142 = .ok (.iload 4, 2) := dk_21 4 (dk_at dksX0_mirror_5 14 rfl rfl)
theorem dX0_mirror_144 : decode cX0_mirror 144 = .ok (.ireturn, 1) := dk_172 (dk_at dksX0_mirror_5 16 rfl rfl)
theorem dX0_mirror_145 : decode cX0_mirror 145 = .ok (.iload 4, 2) := dk_21 4 (dk_at dksX0_mirror_5 17 rfl rfl)
theorem dX0_mirror_147 : decode cX0_mirror 147 = .ok (.ifCond .ge 8, 3) := dk_156 0 8 (dk_at dksX0_mirror_5 19 rfl rfl)
theorem dX0_mirror_150 : decode cX0_mirror 150 = .ok (.bipush (-2), 2) := dk_16 254 (dk_at dksX0_mirror_5 22 rfl rfl)
theorem dX0_mirror_152 : decode cX0_mirror 152 = .ok (.goto 15, 3) := dk_167 0 15 (dk_at dksX0_mirror_6 0 rfl rfl)
theorem dX0_mirror_155 : decode cX0_mirror 155 = .ok (.aload_n 0, 1) := dk_42 (dk_at dksX0_mirror_6 3 rfl rfl)
theorem dX0_mirror_156 : decode cX0_mirror 156 = .ok (.getfield 51, 3) := dk_180 0 51 (dk_at dksX0_mirror_6 4 rfl rfl)
theorem dX0_mirror_159 : decode cX0_mirror 159 = .ok (.getfield 181, 3) := dk_180 0 181 (dk_at dksX0_mirror_6 7 rfl rfl)
theorem dX0_mirror_162 : decode cX0_mirror 162 = .ok (.iload_n 1, 1) := dk_27 (dk_at dksX0_mirror_6 10 rfl rfl)
theorem dX0_mirror_163 : decode cX0_mirror 163 = .ok (.aaload, 1) := dk_50 (dk_at dksX0_mirror_6 11 rfl rfl)
theorem dX0_mirror_164 : decode cX0_mirror 164 = .ok (.iload 4, 2) := dk_21 4 (dk_at dksX0_mirror_6 12 rfl rfl)
theorem dX0_mirror_166 : decode cX0_mirror 166 = .ok (.baload, 1) := dk_51 (dk_at dksX0_mirror_6 14 rfl rfl)
theorem dX0_mirror_167 : decode cX0_mirror 167 = .ok (.ireturn, 1) := dk_172 (dk_at dksX0_mirror_6 15 rfl rfl)
theorem dX0_mirror_168 : decode cX0_mirror 168 = .ok (.aload_n 0, 1) := dk_42 (dk_at dksX0_mirror_6 16 rfl rfl)
theorem dX0_mirror_169 : decode cX0_mirror 169 = .ok (.getfield 51, 3) := dk_180 0 51 (dk_at dksX0_mirror_6 17 rfl rfl)
theorem dX0_mirror_172 : decode cX0_mirror 172 = .ok (.aload_n 0, 1) := dk_42 (dk_at dksX0_mirror_6 20 rfl rfl)
theorem dX0_mirror_173 : decode cX0_mirror 173 = .ok (.getfield 40, 3) := dk_180 0 40 (dk_at dksX0_mirror_6 21 rfl rfl)
theorem dX0_mirror_176 : decode cX0_mirror 176 = .ok (.iload_n 1, 1) := dk_27 (dk_at dksX0_mirror_7 0 rfl rfl)
theorem dX0_mirror_177 : decode cX0_mirror 177 = .ok (.iload_n 2, 1) := dk_28 (dk_at dksX0_mirror_7 1 rfl rfl)
theorem dX0_mirror_178 : decode cX0_mirror 178 = .ok (.invokevirtual 195, 3) := dk_182 0 195 (dk_at dksX0_mirror_7 2 rfl rfl)
theorem dX0_mirror_181 : decode cX0_mirror 181 = .ok (.ireturn, 1) := dk_172 (dk_at dksX0_mirror_7 5 rfl rfl)
abbrev cX0_isMirror : ByteArray := prog_1_method_15_code
def yX0_isMirror : MethodName := ⟨RX0, "isMirror", "(I)Z"⟩
def dkwX0_isMirror_0 : List UInt8 := [27, 3, 42, 182, 0, 156, 4, 100, 184, 0, 150, 172]
abbrev dktX0_isMirror_0 : List UInt8 := dkwX0_isMirror_0 ++ []
theorem dksX0_isMirror_0 : cX0_isMirror.data.toList.drop 0 = dktX0_isMirror_0 := by decide +kernel
theorem dX0_isMirror_0 : decode cX0_isMirror 0 = .ok (.iload_n 1, 1) := dk_27 (dk_at dksX0_isMirror_0 0 rfl rfl)
theorem dX0_isMirror_1 : decode cX0_isMirror 1 = .ok (.iconst 0, 1) := dk_3 (dk_at dksX0_isMirror_0 1 rfl rfl)
theorem dX0_isMirror_2 : decode cX0_isMirror 2 = .ok (.aload_n 0, 1) := dk_42 (dk_at dksX0_isMirror_0 2 rfl rfl)
theorem dX0_isMirror_3 : decode cX0_isMirror 3 = .ok (.invokevirtual 156, 3) := dk_182 0 156 (dk_at dksX0_isMirror_0 3 rfl rfl)
theorem dX0_isMirror_6 : decode cX0_isMirror 6 = .ok (.iconst 1, 1) := dk_4 (dk_at dksX0_isMirror_0 6 rfl rfl)
theorem dX0_isMirror_7 : decode cX0_isMirror 7 = .ok (.isub, 1) := dk_100 (dk_at dksX0_isMirror_0 7 rfl rfl)
theorem dX0_isMirror_8 : decode cX0_isMirror 8 = .ok (.invokestatic 150, 3) := dk_184 0 150 (dk_at dksX0_isMirror_0 8 rfl rfl)
theorem dX0_isMirror_11 : decode cX0_isMirror 11 = .ok (.ireturn, 1) := dk_172 (dk_at dksX0_isMirror_0 11 rfl rfl)
abbrev cX0_mirrors : ByteArray := prog_1_method_12_code
def yX0_mirrors : MethodName := ⟨RX0, "mirrors", "()I"⟩
def dkwX0_mirrors_0 : List UInt8 := [42, 180, 0, 40, 180, 0, 145, 182, 0, 136, 172]
abbrev dktX0_mirrors_0 : List UInt8 := dkwX0_mirrors_0 ++ []
theorem dksX0_mirrors_0 : cX0_mirrors.data.toList.drop 0 = dktX0_mirrors_0 := by decide +kernel
theorem dX0_mirrors_0 : decode cX0_mirrors 0 = .ok (.aload_n 0, 1) := dk_42 (dk_at dksX0_mirrors_0 0 rfl rfl)
theorem dX0_mirrors_1 : decode cX0_mirrors 1 = .ok (.getfield 40, 3) := dk_180 0 40 (dk_at dksX0_mirrors_0 1 rfl rfl)
theorem dX0_mirrors_4 : decode cX0_mirrors 4 = .ok (.getfield 145, 3) := dk_180 0 145 (dk_at dksX0_mirrors_0 4 rfl rfl)
theorem dX0_mirrors_7 : decode cX0_mirrors 7 = .ok (.invokevirtual 136, 3) := dk_182 0 136 (dk_at dksX0_mirrors_0 7 rfl rfl)
theorem dX0_mirrors_10 : decode cX0_mirrors 10 = .ok (.ireturn, 1) := dk_172 (dk_at dksX0_mirrors_0 10 rfl rfl)
abbrev cX0_minutes : ByteArray := prog_1_method_21_code
def yX0_minutes : MethodName := ⟨RX0, "minutes", "(I)I"⟩
def dkwX0_minutes_1 : List UInt8 := [158, 0, 7, 42, 182, 0, 214, 42, 42, 180, 0, 51, 27, 182, 0, 217, 42, 180, 0, 51, 180, 0, 158, 172]
abbrev dktX0_minutes_1 : List UInt8 := dkwX0_minutes_1 ++ []
def dkwX0_minutes_0 : List UInt8 := [27, 3, 17, 1, 43, 42, 180, 0, 51, 180, 0, 158, 100, 184, 0, 150, 154, 0, 5, 2, 172, 27]
abbrev dktX0_minutes_0 : List UInt8 := dkwX0_minutes_0 ++ dktX0_minutes_1
theorem dksX0_minutes_0 : cX0_minutes.data.toList.drop 0 = dktX0_minutes_0 := by decide +kernel
theorem dksX0_minutes_1 : cX0_minutes.data.toList.drop 22 = dktX0_minutes_1 := dk_seg dksX0_minutes_0 22 rfl rfl
theorem dX0_minutes_0 : decode cX0_minutes 0 = .ok (.iload_n 1, 1) := dk_27 (dk_at dksX0_minutes_0 0 rfl rfl)
theorem dX0_minutes_1 : decode cX0_minutes 1 = .ok (.iconst 0, 1) := dk_3 (dk_at dksX0_minutes_0 1 rfl rfl)
theorem dX0_minutes_2 : decode cX0_minutes 2 = .ok (.sipush 299, 3) := dk_17 1 43 (dk_at dksX0_minutes_0 2 rfl rfl)
theorem dX0_minutes_5 : decode cX0_minutes 5 = .ok (.aload_n 0, 1) := dk_42 (dk_at dksX0_minutes_0 5 rfl rfl)
theorem dX0_minutes_6 : decode cX0_minutes 6 = .ok (.getfield 51, 3) := dk_180 0 51 (dk_at dksX0_minutes_0 6 rfl rfl)
theorem dX0_minutes_9 : decode cX0_minutes 9 = .ok (.getfield 158, 3) := dk_180 0 158 (dk_at dksX0_minutes_0 9 rfl rfl)
theorem dX0_minutes_12 : decode cX0_minutes 12 = .ok (.isub, 1) := dk_100 (dk_at dksX0_minutes_0 12 rfl rfl)
theorem dX0_minutes_13 : decode cX0_minutes 13 = .ok (.invokestatic 150, 3) := dk_184 0 150 (dk_at dksX0_minutes_0 13 rfl rfl)
theorem dX0_minutes_16 : decode cX0_minutes 16 = .ok (.ifCond .ne 5, 3) := dk_154 0 5 (dk_at dksX0_minutes_0 16 rfl rfl)
theorem dX0_minutes_19 : decode cX0_minutes 19 = .ok (.iconst (-1), 1) := dk_2 (dk_at dksX0_minutes_0 19 rfl rfl)
theorem dX0_minutes_20 : decode cX0_minutes 20 = .ok (.ireturn, 1) := dk_172 (dk_at dksX0_minutes_0 20 rfl rfl)
theorem dX0_minutes_21 : decode cX0_minutes 21 = .ok (.iload_n 1, 1) := dk_27 (dk_at dksX0_minutes_0 21 rfl rfl)
theorem dX0_minutes_22 : decode cX0_minutes 22 = .ok (.ifCond .le 7, 3) := dk_158 0 7 (dk_at dksX0_minutes_1 0 rfl rfl)
theorem dX0_minutes_25 : decode cX0_minutes 25 = .ok (.aload_n 0, 1) := dk_42 (dk_at dksX0_minutes_1 3 rfl rfl)
theorem dX0_minutes_26 : decode cX0_minutes 26 = .ok (.invokevirtual 214, 3) := dk_182 0 214 (dk_at dksX0_minutes_1 4 rfl rfl)
theorem dX0_minutes_29 : decode cX0_minutes 29 = .ok (.aload_n 0, 1) := dk_42 (dk_at dksX0_minutes_1 7 rfl rfl)
theorem dX0_minutes_30 : decode cX0_minutes 30 = .ok (.aload_n 0, 1) := dk_42 (dk_at dksX0_minutes_1 8 rfl rfl)
theorem dX0_minutes_31 : decode cX0_minutes 31 = .ok (.getfield 51, 3) := dk_180 0 51 (dk_at dksX0_minutes_1 9 rfl rfl)
theorem dX0_minutes_34 : decode cX0_minutes 34 = .ok (.iload_n 1, 1) := dk_27 (dk_at dksX0_minutes_1 12 rfl rfl)
theorem dX0_minutes_35 : decode cX0_minutes 35 = .ok (.invokevirtual 217, 3) := dk_182 0 217 (dk_at dksX0_minutes_1 13 rfl rfl)
theorem dX0_minutes_38 : decode cX0_minutes 38 = .ok (.aload_n 0, 1) := dk_42 (dk_at dksX0_minutes_1 16 rfl rfl)
theorem dX0_minutes_39 : decode cX0_minutes 39 = .ok (.getfield 51, 3) := dk_180 0 51 (dk_at dksX0_minutes_1 17 rfl rfl)
theorem dX0_minutes_42 : decode cX0_minutes 42 = .ok (.getfield 158, 3) := dk_180 0 158 (dk_at dksX0_minutes_1 20 rfl rfl)
theorem dX0_minutes_45 : decode cX0_minutes 45 = .ok (.ireturn, 1) := dk_172 (dk_at dksX0_minutes_1 23 rfl rfl)
abbrev cX0_keeps : ByteArray := prog_1_method_19_code
def yX0_keeps : MethodName := ⟨RX0, "keeps", "()V"⟩
def dkwX0_keeps_1 : List UInt8 := [16, 20, 112, 181, 0, 199, 42, 16, 20, 42, 180, 0, 122, 4, 96, 184, 0, 206, 181, 0, 122, 177]
abbrev dktX0_keeps_1 : List UInt8 := dkwX0_keeps_1 ++ []
def dkwX0_keeps_0 : List UInt8 := [42, 180, 0, 58, 42, 180, 0, 199, 50, 42, 180, 0, 51, 182, 0, 202, 42, 42, 180, 0, 199, 4, 96]
abbrev dktX0_keeps_0 : List UInt8 := dkwX0_keeps_0 ++ dktX0_keeps_1
theorem dksX0_keeps_0 : cX0_keeps.data.toList.drop 0 = dktX0_keeps_0 := by decide +kernel
theorem dksX0_keeps_1 : cX0_keeps.data.toList.drop 23 = dktX0_keeps_1 := dk_seg dksX0_keeps_0 23 rfl rfl
theorem dX0_keeps_0 : decode cX0_keeps 0 = .ok (.aload_n 0, 1) := dk_42 (dk_at dksX0_keeps_0 0 rfl rfl)
theorem dX0_keeps_1 : decode cX0_keeps 1 = .ok (.getfield 58, 3) := dk_180 0 58 (dk_at dksX0_keeps_0 1 rfl rfl)
theorem dX0_keeps_4 : decode cX0_keeps 4 = .ok (.aload_n 0, 1) := dk_42 (dk_at dksX0_keeps_0 4 rfl rfl)
theorem dX0_keeps_5 : decode cX0_keeps 5 = .ok (.getfield 199, 3) := dk_180 0 199 (dk_at dksX0_keeps_0 5 rfl rfl)
theorem dX0_keeps_8 : decode cX0_keeps 8 = .ok (.aaload, 1) := dk_50 (dk_at dksX0_keeps_0 8 rfl rfl)
theorem dX0_keeps_9 : decode cX0_keeps 9 = .ok (.aload_n 0, 1) := dk_42 (dk_at dksX0_keeps_0 9 rfl rfl)
theorem dX0_keeps_10 : decode cX0_keeps 10 = .ok (.getfield 51, 3) := dk_180 0 51 (dk_at dksX0_keeps_0 10 rfl rfl)
theorem dX0_keeps_13 : decode cX0_keeps 13 = .ok (.invokevirtual 202, 3) := dk_182 0 202 (dk_at dksX0_keeps_0 13 rfl rfl)
theorem dX0_keeps_16 : decode cX0_keeps 16 = .ok (.aload_n 0, 1) := dk_42 (dk_at dksX0_keeps_0 16 rfl rfl)
theorem dX0_keeps_17 : decode cX0_keeps 17 = .ok (.aload_n 0, 1) := dk_42 (dk_at dksX0_keeps_0 17 rfl rfl)
theorem dX0_keeps_18 : decode cX0_keeps 18 = .ok (.getfield 199, 3) := dk_180 0 199 (dk_at dksX0_keeps_0 18 rfl rfl)
theorem dX0_keeps_21 : decode cX0_keeps 21 = .ok (.iconst 1, 1) := dk_4 (dk_at dksX0_keeps_0 21 rfl rfl)
theorem dX0_keeps_22 : decode cX0_keeps 22 = .ok (.iadd, 1) := dk_96 (dk_at dksX0_keeps_0 22 rfl rfl)
theorem dX0_keeps_23 : decode cX0_keeps 23 = .ok (.bipush 20, 2) := dk_16 20 (dk_at dksX0_keeps_1 0 rfl rfl)
theorem dX0_keeps_25 : decode cX0_keeps 25 = .ok (.irem, 1) := dk_112 (dk_at dksX0_keeps_1 2 rfl rfl)
theorem dX0_keeps_26 : decode cX0_keeps 26 = .ok (.putfield 199, 3) := dk_181 0 199 (dk_at dksX0_keeps_1 3 rfl rfl)
theorem dX0_keeps_29 : decode cX0_keeps 29 = .ok (.aload_n 0, 1) := dk_42 (dk_at dksX0_keeps_1 6 rfl rfl)
theorem dX0_keeps_30 : decode cX0_keeps 30 = .ok (.bipush 20, 2) := dk_16 20 (dk_at dksX0_keeps_1 7 rfl rfl)
theorem dX0_keeps_32 : decode cX0_keeps 32 = .ok (.aload_n 0, 1) := dk_42 (dk_at dksX0_keeps_1 9 rfl rfl)
theorem dX0_keeps_33 : decode cX0_keeps 33 = .ok (.getfield 122, 3) := dk_180 0 122 (dk_at dksX0_keeps_1 10 rfl rfl)
theorem dX0_keeps_36 : decode cX0_keeps 36 = .ok (.iconst 1, 1) := dk_4 (dk_at dksX0_keeps_1 13 rfl rfl)
theorem dX0_keeps_37 : decode cX0_keeps 37 = .ok (.iadd, 1) := dk_96 (dk_at dksX0_keeps_1 14 rfl rfl)
theorem dX0_keeps_38 : decode cX0_keeps 38 = .ok (.invokestatic 206, 3) := dk_184 0 206 (dk_at dksX0_keeps_1 15 rfl rfl)
theorem dX0_keeps_41 : decode cX0_keeps 41 = .ok (.putfield 122, 3) := dk_181 0 122 (dk_at dksX0_keeps_1 18 rfl rfl)
theorem dX0_keeps_44 : decode cX0_keeps 44 = .ok (.return_, 1) := dk_177 (dk_at dksX0_keeps_1 21 rfl rfl)
abbrev cX0_runs : ByteArray := prog_1_method_20_code
def yX0_runs : MethodName := ⟨RX0, "runs", "(LLateMirrors$Court;I)V"⟩
def dkwX0_runs_1 : List UInt8 := [182, 0, 211, 132, 3, 1, 167, 255, 228, 177]
abbrev dktX0_runs_1 : List UInt8 := dkwX0_runs_1 ++ []
def dkwX0_runs_0 : List UInt8 := [3, 62, 29, 28, 162, 0, 29, 43, 180, 0, 158, 4, 96, 17, 1, 44, 162, 0, 17, 43, 42, 180, 0, 40]
abbrev dktX0_runs_0 : List UInt8 := dkwX0_runs_0 ++ dktX0_runs_1
theorem dksX0_runs_0 : cX0_runs.data.toList.drop 0 = dktX0_runs_0 := by decide +kernel
theorem dksX0_runs_1 : cX0_runs.data.toList.drop 24 = dktX0_runs_1 := dk_seg dksX0_runs_0 24 rfl rfl
theorem dX0_runs_0 : decode cX0_runs 0 = .ok (.iconst 0, 1) := dk_3 (dk_at dksX0_runs_0 0 rfl rfl)
theorem dX0_runs_1 : decode cX0_runs 1 = .ok (.istore_n 3, 1) := dk_62 (dk_at dksX0_runs_0 1 rfl rfl)
theorem dX0_runs_2 : decode cX0_runs 2 = .ok (.iload_n 3, 1) := dk_29 (dk_at dksX0_runs_0 2 rfl rfl)
theorem dX0_runs_3 : decode cX0_runs 3 = .ok (.iload_n 2, 1) := dk_28 (dk_at dksX0_runs_0 3 rfl rfl)
theorem dX0_runs_4 : decode cX0_runs 4 = .ok (.if_icmp .ge 29, 3) := dk_162 0 29 (dk_at dksX0_runs_0 4 rfl rfl)
theorem dX0_runs_7 : decode cX0_runs 7 = .ok (.aload_n 1, 1) := dk_43 (dk_at dksX0_runs_0 7 rfl rfl)
theorem dX0_runs_8 : decode cX0_runs 8 = .ok (.getfield 158, 3) := dk_180 0 158 (dk_at dksX0_runs_0 8 rfl rfl)
theorem dX0_runs_11 : decode cX0_runs 11 = .ok (.iconst 1, 1) := dk_4 (dk_at dksX0_runs_0 11 rfl rfl)
theorem dX0_runs_12 : decode cX0_runs 12 = .ok (.iadd, 1) := dk_96 (dk_at dksX0_runs_0 12 rfl rfl)
theorem dX0_runs_13 : decode cX0_runs 13 = .ok (.sipush 300, 3) := dk_17 1 44 (dk_at dksX0_runs_0 13 rfl rfl)
theorem dX0_runs_16 : decode cX0_runs 16 = .ok (.if_icmp .ge 17, 3) := dk_162 0 17 (dk_at dksX0_runs_0 16 rfl rfl)
theorem dX0_runs_19 : decode cX0_runs 19 = .ok (.aload_n 1, 1) := dk_43 (dk_at dksX0_runs_0 19 rfl rfl)
theorem dX0_runs_20 : decode cX0_runs 20 = .ok (.aload_n 0, 1) := dk_42 (dk_at dksX0_runs_0 20 rfl rfl)
theorem dX0_runs_21 : decode cX0_runs 21 = .ok (.getfield 40, 3) := dk_180 0 40 (dk_at dksX0_runs_0 21 rfl rfl)
theorem dX0_runs_24 : decode cX0_runs 24 = .ok (.invokevirtual 211, 3) := dk_182 0 211 (dk_at dksX0_runs_1 0 rfl rfl)
theorem dX0_runs_27 : decode cX0_runs 27 = .ok (.iinc 3 1, 3) := dk_132 3 1 (dk_at dksX0_runs_1 3 rfl rfl)
theorem dX0_runs_30 : decode cX0_runs 30 = .ok (.goto (-28), 3) := dk_167 255 228 (dk_at dksX0_runs_1 6 rfl rfl)
theorem dX0_runs_33 : decode cX0_runs 33 = .ok (.return_, 1) := dk_177 (dk_at dksX0_runs_1 9 rfl rfl)
abbrev cX0_lot : ByteArray := prog_1_method_2_code
def yX0_lot : MethodName := ⟨RX0, "lot", "(III)I"⟩
def dkwX0_lot_0 : List UInt8 := [26, 16, 43, 184, 0, 2, 27, 184, 0, 2, 4, 124, 28, 112, 172]
abbrev dktX0_lot_0 : List UInt8 := dkwX0_lot_0 ++ []
theorem dksX0_lot_0 : cX0_lot.data.toList.drop 0 = dktX0_lot_0 := by decide +kernel
theorem dX0_lot_0 : decode cX0_lot 0 = .ok (.iload_n 0, 1) := dk_26 (dk_at dksX0_lot_0 0 rfl rfl)
theorem dX0_lot_1 : decode cX0_lot 1 = .ok (.bipush 43, 2) := dk_16 43 (dk_at dksX0_lot_0 1 rfl rfl)
theorem dX0_lot_3 : decode cX0_lot 3 = .ok (.invokestatic 2, 3) := dk_184 0 2 (dk_at dksX0_lot_0 3 rfl rfl)
theorem dX0_lot_6 : decode cX0_lot 6 = .ok (.iload_n 1, 1) := dk_27 (dk_at dksX0_lot_0 6 rfl rfl)
theorem dX0_lot_7 : decode cX0_lot 7 = .ok (.invokestatic 2, 3) := dk_184 0 2 (dk_at dksX0_lot_0 7 rfl rfl)
theorem dX0_lot_10 : decode cX0_lot 10 = .ok (.iconst 1, 1) := dk_4 (dk_at dksX0_lot_0 10 rfl rfl)
theorem dX0_lot_11 : decode cX0_lot 11 = .ok (.iushr, 1) := dk_124 (dk_at dksX0_lot_0 11 rfl rfl)
theorem dX0_lot_12 : decode cX0_lot 12 = .ok (.iload_n 2, 1) := dk_28 (dk_at dksX0_lot_0 12 rfl rfl)
theorem dX0_lot_13 : decode cX0_lot 13 = .ok (.irem, 1) := dk_112 (dk_at dksX0_lot_0 13 rfl rfl)
theorem dX0_lot_14 : decode cX0_lot 14 = .ok (.ireturn, 1) := dk_172 (dk_at dksX0_lot_0 14 rfl rfl)
abbrev cX0_mixed : ByteArray := prog_1_method_1_code
def yX0_mixed : MethodName := ⟨RX0, "mixed", "(II)I"⟩
def dkwX0_mixed_0 : List UInt8 := [26, 27, 130, 18, 1, 104, 17, 48, 57, 96, 61, 28, 28, 16, 15, 124, 130, 172]
abbrev dktX0_mixed_0 : List UInt8 := dkwX0_mixed_0 ++ []
theorem dksX0_mixed_0 : cX0_mixed.data.toList.drop 0 = dktX0_mixed_0 := by decide +kernel
theorem dX0_mixed_0 : decode cX0_mixed 0 = .ok (.iload_n 0, 1) := dk_26 (dk_at dksX0_mixed_0 0 rfl rfl)
theorem dX0_mixed_1 : decode cX0_mixed 1 = .ok (.iload_n 1, 1) := dk_27 (dk_at dksX0_mixed_0 1 rfl rfl)
theorem dX0_mixed_2 : decode cX0_mixed 2 = .ok (.ixor, 1) := dk_130 (dk_at dksX0_mixed_0 2 rfl rfl)
theorem dX0_mixed_3 : decode cX0_mixed 3 = .ok (.ldc 1, 2) := dk_18 1 (dk_at dksX0_mixed_0 3 rfl rfl)
theorem dX0_mixed_5 : decode cX0_mixed 5 = .ok (.imul, 1) := dk_104 (dk_at dksX0_mixed_0 5 rfl rfl)
theorem dX0_mixed_6 : decode cX0_mixed 6 = .ok (.sipush 12345, 3) := dk_17 48 57 (dk_at dksX0_mixed_0 6 rfl rfl)
theorem dX0_mixed_9 : decode cX0_mixed 9 = .ok (.iadd, 1) := dk_96 (dk_at dksX0_mixed_0 9 rfl rfl)
theorem dX0_mixed_10 : decode cX0_mixed 10 = .ok (.istore_n 2, 1) := dk_61 (dk_at dksX0_mixed_0 10 rfl rfl)
theorem dX0_mixed_11 : decode cX0_mixed 11 = .ok (.iload_n 2, 1) := dk_28 (dk_at dksX0_mixed_0 11 rfl rfl)
theorem dX0_mixed_12 : decode cX0_mixed 12 = .ok (.iload_n 2, 1) := dk_28 (dk_at dksX0_mixed_0 12 rfl rfl)
theorem dX0_mixed_13 : decode cX0_mixed 13 = .ok (.bipush 15, 2) := dk_16 15 (dk_at dksX0_mixed_0 13 rfl rfl)
theorem dX0_mixed_15 : decode cX0_mixed 15 = .ok (.iushr, 1) := dk_124 (dk_at dksX0_mixed_0 15 rfl rfl)
theorem dX0_mixed_16 : decode cX0_mixed 16 = .ok (.ixor, 1) := dk_130 (dk_at dksX0_mixed_0 16 rfl rfl)
theorem dX0_mixed_17 : decode cX0_mixed 17 = .ok (.ireturn, 1) := dk_172 (dk_at dksX0_mixed_0 17 rfl rfl)
abbrev cX0_go : ByteArray := prog_1_method_22_code
def yX0_go : MethodName := ⟨RX0, "go", "(II)Z"⟩
def dkwX0_go_4 : List UInt8 := [182, 0, 233, 4, 172]
abbrev dktX0_go_4 : List UInt8 := dkwX0_go_4 ++ []
def dkwX0_go_3 : List UInt8 := [180, 0, 51, 180, 0, 158, 45, 180, 0, 230, 28, 4, 100, 46, 145, 84, 42, 180, 0, 51, 42, 180, 0, 40]
abbrev dktX0_go_3 : List UInt8 := dkwX0_go_3 ++ dktX0_go_4
def dkwX0_go_2 : List UInt8 := [184, 0, 150, 154, 0, 5, 3, 172, 42, 182, 0, 214, 42, 180, 0, 51, 180, 0, 168, 27, 50, 42]
abbrev dktX0_go_2 : List UInt8 := dkwX0_go_2 ++ dktX0_go_3
def dkwX0_go_1 : List UInt8 := [27, 50, 42, 180, 0, 51, 180, 0, 158, 51, 182, 0, 221, 192, 0, 225, 78, 28, 4, 45, 180, 0, 227]
abbrev dktX0_go_1 : List UInt8 := dkwX0_go_1 ++ dktX0_go_2
def dkwX0_go_0 : List UInt8 := [42, 27, 182, 0, 161, 154, 0, 5, 3, 172, 42, 180, 0, 40, 180, 0, 132, 42, 180, 0, 51, 180, 0, 168]
abbrev dktX0_go_0 : List UInt8 := dkwX0_go_0 ++ dktX0_go_1
theorem dksX0_go_0 : cX0_go.data.toList.drop 0 = dktX0_go_0 := by decide +kernel
theorem dksX0_go_1 : cX0_go.data.toList.drop 24 = dktX0_go_1 := dk_seg dksX0_go_0 24 rfl rfl
theorem dksX0_go_2 : cX0_go.data.toList.drop 47 = dktX0_go_2 := dk_seg dksX0_go_1 23 rfl rfl
theorem dksX0_go_3 : cX0_go.data.toList.drop 69 = dktX0_go_3 := dk_seg dksX0_go_2 22 rfl rfl
theorem dksX0_go_4 : cX0_go.data.toList.drop 93 = dktX0_go_4 := dk_seg dksX0_go_3 24 rfl rfl
theorem dX0_go_0 : decode cX0_go 0 = .ok (.aload_n 0, 1) := dk_42 (dk_at dksX0_go_0 0 rfl rfl)
theorem dX0_go_1 : decode cX0_go 1 = .ok (.iload_n 1, 1) := dk_27 (dk_at dksX0_go_0 1 rfl rfl)
theorem dX0_go_2 : decode cX0_go 2 = .ok (.invokevirtual 161, 3) := dk_182 0 161 (dk_at dksX0_go_0 2 rfl rfl)
theorem dX0_go_5 : decode cX0_go 5 = .ok (.ifCond .ne 5, 3) := dk_154 0 5 (dk_at dksX0_go_0 5 rfl rfl)
theorem dX0_go_8 : decode cX0_go 8 = .ok (.iconst 0, 1) := dk_3 (dk_at dksX0_go_0 8 rfl rfl)
theorem dX0_go_9 : decode cX0_go 9 = .ok (.ireturn, 1) := dk_172 (dk_at dksX0_go_0 9 rfl rfl)
theorem dX0_go_10 : decode cX0_go 10 = .ok (.aload_n 0, 1) := dk_42 (dk_at dksX0_go_0 10 rfl rfl)
theorem dX0_go_11 : decode cX0_go 11 = .ok (.getfield 40, 3) := dk_180 0 40 (dk_at dksX0_go_0 11 rfl rfl)
theorem dX0_go_14 : decode cX0_go 14 = .ok (.getfield 132, 3) := dk_180 0 132 (dk_at dksX0_go_0 14 rfl rfl)
theorem dX0_go_17 : decode cX0_go 17 = .ok (.aload_n 0, 1) := dk_42 (dk_at dksX0_go_0 17 rfl rfl)
theorem dX0_go_18 : decode cX0_go 18 = .ok (.getfield 51, 3) := dk_180 0 51 (dk_at dksX0_go_0 18 rfl rfl)
theorem dX0_go_21 : decode cX0_go 21 = .ok (.getfield 168, 3) := dk_180 0 168 (dk_at dksX0_go_0 21 rfl rfl)
theorem dX0_go_24 : decode cX0_go 24 = .ok (.iload_n 1, 1) := dk_27 (dk_at dksX0_go_1 0 rfl rfl)
theorem dX0_go_25 : decode cX0_go 25 = .ok (.aaload, 1) := dk_50 (dk_at dksX0_go_1 1 rfl rfl)
theorem dX0_go_26 : decode cX0_go 26 = .ok (.aload_n 0, 1) := dk_42 (dk_at dksX0_go_1 2 rfl rfl)
theorem dX0_go_27 : decode cX0_go 27 = .ok (.getfield 51, 3) := dk_180 0 51 (dk_at dksX0_go_1 3 rfl rfl)
theorem dX0_go_30 : decode cX0_go 30 = .ok (.getfield 158, 3) := dk_180 0 158 (dk_at dksX0_go_1 6 rfl rfl)
theorem dX0_go_33 : decode cX0_go 33 = .ok (.baload, 1) := dk_51 (dk_at dksX0_go_1 9 rfl rfl)
theorem dX0_go_34 : decode cX0_go 34 = .ok (.invokevirtual 221, 3) := dk_182 0 221 (dk_at dksX0_go_1 10 rfl rfl)
theorem dX0_go_37 : decode cX0_go 37 = .ok (.checkcast 225, 3) := dk_192 0 225 (dk_at dksX0_go_1 13 rfl rfl)
theorem dX0_go_40 : decode cX0_go 40 = .ok (.astore_n 3, 1) := dk_78 (dk_at dksX0_go_1 16 rfl rfl)
theorem dX0_go_41 : decode cX0_go 41 = .ok (.iload_n 2, 1) := dk_28 (dk_at dksX0_go_1 17 rfl rfl)
theorem dX0_go_42 : decode cX0_go 42 = .ok (.iconst 1, 1) := dk_4 (dk_at dksX0_go_1 18 rfl rfl)
theorem dX0_go_43 : decode cX0_go 43 = .ok (.aload_n 3, 1) := dk_45 (dk_at dksX0_go_1 19 rfl rfl)
theorem dX0_go_44 : decode cX0_go 44 = .ok (.getfield 227, 3) := dk_180 0 227 (dk_at dksX0_go_1 20 rfl rfl)
theorem dX0_go_47 : decode cX0_go 47 = .ok (.invokestatic 150, 3) := dk_184 0 150 (dk_at dksX0_go_2 0 rfl rfl)
theorem dX0_go_50 : decode cX0_go 50 = .ok (.ifCond .ne 5, 3) := dk_154 0 5 (dk_at dksX0_go_2 3 rfl rfl)
theorem dX0_go_53 : decode cX0_go 53 = .ok (.iconst 0, 1) := dk_3 (dk_at dksX0_go_2 6 rfl rfl)
theorem dX0_go_54 : decode cX0_go 54 = .ok (.ireturn, 1) := dk_172 (dk_at dksX0_go_2 7 rfl rfl)
theorem dX0_go_55 : decode cX0_go 55 = .ok (.aload_n 0, 1) := dk_42 (dk_at dksX0_go_2 8 rfl rfl)
theorem dX0_go_56 : decode cX0_go 56 = .ok (.invokevirtual 214, 3) := dk_182 0 214 (dk_at dksX0_go_2 9 rfl rfl)
theorem dX0_go_59 : decode cX0_go 59 = .ok (.aload_n 0, 1) := dk_42 (dk_at dksX0_go_2 12 rfl rfl)
theorem dX0_go_60 : decode cX0_go 60 = .ok (.getfield 51, 3) := dk_180 0 51 (dk_at dksX0_go_2 13 rfl rfl)
theorem dX0_go_63 : decode cX0_go 63 = .ok (.getfield 168, 3) := dk_180 0 168 (dk_at dksX0_go_2 16 rfl rfl)
theorem dX0_go_66 : decode cX0_go 66 = .ok (.iload_n 1, 1) := dk_27 (dk_at dksX0_go_2 19 rfl rfl)
theorem dX0_go_67 : decode cX0_go 67 = .ok (.aaload, 1) := dk_50 (dk_at dksX0_go_2 20 rfl rfl)
theorem dX0_go_68 : decode cX0_go 68 = .ok (.aload_n 0, 1) := dk_42 (dk_at dksX0_go_2 21 rfl rfl)
theorem dX0_go_69 : decode cX0_go 69 = .ok (.getfield 51, 3) := dk_180 0 51 (dk_at dksX0_go_3 0 rfl rfl)
theorem dX0_go_72 : decode cX0_go 72 = .ok (.getfield 158, 3) := dk_180 0 158 (dk_at dksX0_go_3 3 rfl rfl)
theorem dX0_go_75 : decode cX0_go 75 = .ok (.aload_n 3, 1) := dk_45 (dk_at dksX0_go_3 6 rfl rfl)
theorem dX0_go_76 : decode cX0_go 76 = .ok (.getfield 230, 3) := dk_180 0 230 (dk_at dksX0_go_3 7 rfl rfl)
theorem dX0_go_79 : decode cX0_go 79 = .ok (.iload_n 2, 1) := dk_28 (dk_at dksX0_go_3 10 rfl rfl)
theorem dX0_go_80 : decode cX0_go 80 = .ok (.iconst 1, 1) := dk_4 (dk_at dksX0_go_3 11 rfl rfl)
theorem dX0_go_81 : decode cX0_go 81 = .ok (.isub, 1) := dk_100 (dk_at dksX0_go_3 12 rfl rfl)
theorem dX0_go_82 : decode cX0_go 82 = .ok (.iaload, 1) := dk_46 (dk_at dksX0_go_3 13 rfl rfl)
theorem dX0_go_83 : decode cX0_go 83 = .ok (.i2b, 1) := dk_145 (dk_at dksX0_go_3 14 rfl rfl)
theorem dX0_go_84 : decode cX0_go 84 = .ok (.bastore, 1) := dk_84 (dk_at dksX0_go_3 15 rfl rfl)
theorem dX0_go_85 : decode cX0_go 85 = .ok (.aload_n 0, 1) := dk_42 (dk_at dksX0_go_3 16 rfl rfl)
theorem dX0_go_86 : decode cX0_go 86 = .ok (.getfield 51, 3) := dk_180 0 51 (dk_at dksX0_go_3 17 rfl rfl)
theorem dX0_go_89 : decode cX0_go 89 = .ok (.aload_n 0, 1) := dk_42 (dk_at dksX0_go_3 20 rfl rfl)
theorem dX0_go_90 : decode cX0_go 90 = .ok (.getfield 40, 3) := dk_180 0 40 (dk_at dksX0_go_3 21 rfl rfl)
theorem dX0_go_93 : decode cX0_go 93 = .ok (.invokevirtual 233, 3) := dk_182 0 233 (dk_at dksX0_go_4 0 rfl rfl)
theorem dX0_go_96 : decode cX0_go 96 = .ok (.iconst 1, 1) := dk_4 (dk_at dksX0_go_4 3 rfl rfl)
theorem dX0_go_97 : decode cX0_go 97 = .ok (.ireturn, 1) := dk_172 (dk_at dksX0_go_4 4 rfl rfl)
abbrev cX0_raise : ByteArray := prog_1_method_23_code
def yX0_raise : MethodName := ⟨RX0, "raise", "(II)Z"⟩
def dkwX0_raise_3 : List UInt8 := [180, 0, 40, 182, 0, 233, 4, 172]
abbrev dktX0_raise_3 : List UInt8 := dkwX0_raise_3 ++ []
def dkwX0_raise_2 : List UInt8 := [180, 0, 51, 180, 0, 172, 27, 50, 42, 180, 0, 51, 180, 0, 158, 28, 145, 84, 42, 180, 0, 51, 42]
abbrev dktX0_raise_2 : List UInt8 := dkwX0_raise_2 ++ dktX0_raise_3
def dkwX0_raise_1 : List UInt8 := [180, 0, 172, 27, 50, 42, 180, 0, 51, 180, 0, 158, 51, 28, 160, 0, 5, 3, 172, 42, 182, 0, 214, 42]
abbrev dktX0_raise_1 : List UInt8 := dkwX0_raise_1 ++ dktX0_raise_2
def dkwX0_raise_0 : List UInt8 := [42, 27, 182, 0, 161, 153, 0, 34, 28, 3, 16, 20, 184, 0, 150, 153, 0, 24, 42, 180, 0, 51]
abbrev dktX0_raise_0 : List UInt8 := dkwX0_raise_0 ++ dktX0_raise_1
theorem dksX0_raise_0 : cX0_raise.data.toList.drop 0 = dktX0_raise_0 := by decide +kernel
theorem dksX0_raise_1 : cX0_raise.data.toList.drop 22 = dktX0_raise_1 := dk_seg dksX0_raise_0 22 rfl rfl
theorem dksX0_raise_2 : cX0_raise.data.toList.drop 46 = dktX0_raise_2 := dk_seg dksX0_raise_1 24 rfl rfl
theorem dksX0_raise_3 : cX0_raise.data.toList.drop 69 = dktX0_raise_3 := dk_seg dksX0_raise_2 23 rfl rfl
theorem dX0_raise_0 : decode cX0_raise 0 = .ok (.aload_n 0, 1) := dk_42 (dk_at dksX0_raise_0 0 rfl rfl)
theorem dX0_raise_1 : decode cX0_raise 1 = .ok (.iload_n 1, 1) := dk_27 (dk_at dksX0_raise_0 1 rfl rfl)
theorem dX0_raise_2 : decode cX0_raise 2 = .ok (.invokevirtual 161, 3) := dk_182 0 161 (dk_at dksX0_raise_0 2 rfl rfl)
theorem dX0_raise_5 : decode cX0_raise 5 = .ok (.ifCond .eq 34, 3) := dk_153 0 34 (dk_at dksX0_raise_0 5 rfl rfl)
theorem dX0_raise_8 : decode cX0_raise 8 = .ok (.iload_n 2, 1) := dk_28 (dk_at dksX0_raise_0 8 rfl rfl)
theorem dX0_raise_9 : decode cX0_raise 9 = .ok (.iconst 0, 1) := dk_3 (dk_at dksX0_raise_0 9 rfl rfl)
theorem dX0_raise_10 : decode cX0_raise 10 = .ok (.bipush 20, 2) := dk_16 20 (dk_at dksX0_raise_0 10 rfl rfl)
theorem dX0_raise_12 : decode cX0_raise 12 = .ok (.invokestatic 150, 3) := dk_184 0 150 (dk_at dksX0_raise_0 12 rfl rfl)
theorem dX0_raise_15 : decode cX0_raise 15 = .ok (.ifCond .eq 24, 3) := dk_153 0 24 (dk_at dksX0_raise_0 15 rfl rfl)
theorem dX0_raise_18 : decode cX0_raise 18 = .ok (.aload_n 0, 1) := dk_42 (dk_at dksX0_raise_0 18 rfl rfl)
theorem dX0_raise_19 : decode cX0_raise 19 = .ok (.getfield 51, 3) := dk_180 0 51 (dk_at dksX0_raise_0 19 rfl rfl)
theorem dX0_raise_22 : decode cX0_raise 22 = .ok (.getfield 172, 3) := dk_180 0 172 (dk_at dksX0_raise_1 0 rfl rfl)
theorem dX0_raise_25 : decode cX0_raise 25 = .ok (.iload_n 1, 1) := dk_27 (dk_at dksX0_raise_1 3 rfl rfl)
theorem dX0_raise_26 : decode cX0_raise 26 = .ok (.aaload, 1) := dk_50 (dk_at dksX0_raise_1 4 rfl rfl)
theorem dX0_raise_27 : decode cX0_raise 27 = .ok (.aload_n 0, 1) := dk_42 (dk_at dksX0_raise_1 5 rfl rfl)
theorem dX0_raise_28 : decode cX0_raise 28 = .ok (.getfield 51, 3) := dk_180 0 51 (dk_at dksX0_raise_1 6 rfl rfl)
theorem dX0_raise_31 : decode cX0_raise 31 = .ok (.getfield 158, 3) := dk_180 0 158 (dk_at dksX0_raise_1 9 rfl rfl)
theorem dX0_raise_34 : decode cX0_raise 34 = .ok (.baload, 1) := dk_51 (dk_at dksX0_raise_1 12 rfl rfl)
theorem dX0_raise_35 : decode cX0_raise 35 = .ok (.iload_n 2, 1) := dk_28 (dk_at dksX0_raise_1 13 rfl rfl)
theorem dX0_raise_36 : decode cX0_raise 36 = .ok (.if_icmp .ne 5, 3) := dk_160 0 5 (dk_at dksX0_raise_1 14 rfl rfl)
theorem dX0_raise_39 : decode cX0_raise 39 = .ok (.iconst 0, 1) := dk_3 (dk_at dksX0_raise_1 17 rfl rfl)
theorem dX0_raise_40 : decode cX0_raise 40 = .ok (.ireturn, 1) := dk_172 (dk_at dksX0_raise_1 18 rfl rfl)
theorem dX0_raise_41 : decode cX0_raise 41 = .ok (.aload_n 0, 1) := dk_42 (dk_at dksX0_raise_1 19 rfl rfl)
theorem dX0_raise_42 : decode cX0_raise 42 = .ok (.invokevirtual 214, 3) := dk_182 0 214 (dk_at dksX0_raise_1 20 rfl rfl)
theorem dX0_raise_45 : decode cX0_raise 45 = .ok (.aload_n 0, 1) := dk_42 (dk_at dksX0_raise_1 23 rfl rfl)
theorem dX0_raise_46 : decode cX0_raise 46 = .ok (.getfield 51, 3) := dk_180 0 51 (dk_at dksX0_raise_2 0 rfl rfl)
theorem dX0_raise_49 : decode cX0_raise 49 = .ok (.getfield 172, 3) := dk_180 0 172 (dk_at dksX0_raise_2 3 rfl rfl)
theorem dX0_raise_52 : decode cX0_raise 52 = .ok (.iload_n 1, 1) := dk_27 (dk_at dksX0_raise_2 6 rfl rfl)
theorem dX0_raise_53 : decode cX0_raise 53 = .ok (.aaload, 1) := dk_50 (dk_at dksX0_raise_2 7 rfl rfl)
theorem dX0_raise_54 : decode cX0_raise 54 = .ok (.aload_n 0, 1) := dk_42 (dk_at dksX0_raise_2 8 rfl rfl)
theorem dX0_raise_55 : decode cX0_raise 55 = .ok (.getfield 51, 3) := dk_180 0 51 (dk_at dksX0_raise_2 9 rfl rfl)
theorem dX0_raise_58 : decode cX0_raise 58 = .ok (.getfield 158, 3) := dk_180 0 158 (dk_at dksX0_raise_2 12 rfl rfl)
theorem dX0_raise_61 : decode cX0_raise 61 = .ok (.iload_n 2, 1) := dk_28 (dk_at dksX0_raise_2 15 rfl rfl)
theorem dX0_raise_62 : decode cX0_raise 62 = .ok (.i2b, 1) := dk_145 (dk_at dksX0_raise_2 16 rfl rfl)
theorem dX0_raise_63 : decode cX0_raise 63 = .ok (.bastore, 1) := dk_84 (dk_at dksX0_raise_2 17 rfl rfl)
theorem dX0_raise_64 : decode cX0_raise 64 = .ok (.aload_n 0, 1) := dk_42 (dk_at dksX0_raise_2 18 rfl rfl)
theorem dX0_raise_65 : decode cX0_raise 65 = .ok (.getfield 51, 3) := dk_180 0 51 (dk_at dksX0_raise_2 19 rfl rfl)
theorem dX0_raise_68 : decode cX0_raise 68 = .ok (.aload_n 0, 1) := dk_42 (dk_at dksX0_raise_2 22 rfl rfl)
theorem dX0_raise_69 : decode cX0_raise 69 = .ok (.getfield 40, 3) := dk_180 0 40 (dk_at dksX0_raise_3 0 rfl rfl)
theorem dX0_raise_72 : decode cX0_raise 72 = .ok (.invokevirtual 233, 3) := dk_182 0 233 (dk_at dksX0_raise_3 3 rfl rfl)
theorem dX0_raise_75 : decode cX0_raise 75 = .ok (.iconst 1, 1) := dk_4 (dk_at dksX0_raise_3 6 rfl rfl)
theorem dX0_raise_76 : decode cX0_raise 76 = .ok (.ireturn, 1) := dk_172 (dk_at dksX0_raise_3 7 rfl rfl)
abbrev cX0_carry : ByteArray := prog_1_method_24_code
def yX0_carry : MethodName := ⟨RX0, "carry", "(II)Z"⟩
def dkwX0_carry_3 : List UInt8 := [182, 0, 233, 4, 172]
abbrev dktX0_carry_3 : List UInt8 := dkwX0_carry_3 ++ []
def dkwX0_carry_2 : List UInt8 := [180, 0, 181, 27, 50, 42, 180, 0, 51, 180, 0, 158, 28, 145, 84, 42, 180, 0, 51, 42, 180, 0, 40]
abbrev dktX0_carry_2 : List UInt8 := dkwX0_carry_2 ++ dktX0_carry_3
def dkwX0_carry_1 : List UInt8 := [50, 42, 180, 0, 51, 180, 0, 158, 51, 28, 160, 0, 5, 3, 172, 42, 182, 0, 214, 42, 180, 0, 51]
abbrev dktX0_carry_1 : List UInt8 := dkwX0_carry_1 ++ dktX0_carry_2
def dkwX0_carry_0 : List UInt8 := [42, 27, 182, 0, 175, 153, 0, 32, 42, 28, 182, 0, 236, 153, 0, 24, 42, 180, 0, 51, 180, 0, 181, 27]
abbrev dktX0_carry_0 : List UInt8 := dkwX0_carry_0 ++ dktX0_carry_1
theorem dksX0_carry_0 : cX0_carry.data.toList.drop 0 = dktX0_carry_0 := by decide +kernel
theorem dksX0_carry_1 : cX0_carry.data.toList.drop 24 = dktX0_carry_1 := dk_seg dksX0_carry_0 24 rfl rfl
theorem dksX0_carry_2 : cX0_carry.data.toList.drop 47 = dktX0_carry_2 := dk_seg dksX0_carry_1 23 rfl rfl
theorem dksX0_carry_3 : cX0_carry.data.toList.drop 70 = dktX0_carry_3 := dk_seg dksX0_carry_2 23 rfl rfl
theorem dX0_carry_0 : decode cX0_carry 0 = .ok (.aload_n 0, 1) := dk_42 (dk_at dksX0_carry_0 0 rfl rfl)
theorem dX0_carry_1 : decode cX0_carry 1 = .ok (.iload_n 1, 1) := dk_27 (dk_at dksX0_carry_0 1 rfl rfl)
theorem dX0_carry_2 : decode cX0_carry 2 = .ok (.invokevirtual 175, 3) := dk_182 0 175 (dk_at dksX0_carry_0 2 rfl rfl)
theorem dX0_carry_5 : decode cX0_carry 5 = .ok (.ifCond .eq 32, 3) := dk_153 0 32 (dk_at dksX0_carry_0 5 rfl rfl)
theorem dX0_carry_8 : decode cX0_carry 8 = .ok (.aload_n 0, 1) := dk_42 (dk_at dksX0_carry_0 8 rfl rfl)
theorem dX0_carry_9 : decode cX0_carry 9 = .ok (.iload_n 2, 1) := dk_28 (dk_at dksX0_carry_0 9 rfl rfl)
theorem dX0_carry_10 : decode cX0_carry 10 = .ok (.invokevirtual 236, 3) := dk_182 0 236 (dk_at dksX0_carry_0 10 rfl rfl)
theorem dX0_carry_13 : decode cX0_carry 13 = .ok (.ifCond .eq 24, 3) := dk_153 0 24 (dk_at dksX0_carry_0 13 rfl rfl)
theorem dX0_carry_16 : decode cX0_carry 16 = .ok (.aload_n 0, 1) := dk_42 (dk_at dksX0_carry_0 16 rfl rfl)
theorem dX0_carry_17 : decode cX0_carry 17 = .ok (.getfield 51, 3) := dk_180 0 51 (dk_at dksX0_carry_0 17 rfl rfl)
theorem dX0_carry_20 : decode cX0_carry 20 = .ok (.getfield 181, 3) := dk_180 0 181 (dk_at dksX0_carry_0 20 rfl rfl)
theorem dX0_carry_23 : decode cX0_carry 23 = .ok (.iload_n 1, 1) := dk_27 (dk_at dksX0_carry_0 23 rfl rfl)
theorem dX0_carry_24 : decode cX0_carry 24 = .ok (.aaload, 1) := dk_50 (dk_at dksX0_carry_1 0 rfl rfl)
theorem dX0_carry_25 : decode cX0_carry 25 = .ok (.aload_n 0, 1) := dk_42 (dk_at dksX0_carry_1 1 rfl rfl)
theorem dX0_carry_26 : decode cX0_carry 26 = .ok (.getfield 51, 3) := dk_180 0 51 (dk_at dksX0_carry_1 2 rfl rfl)
theorem dX0_carry_29 : decode cX0_carry 29 = .ok (.getfield 158, 3) := dk_180 0 158 (dk_at dksX0_carry_1 5 rfl rfl)
theorem dX0_carry_32 : decode cX0_carry 32 = .ok (.baload, 1) := dk_51 (dk_at dksX0_carry_1 8 rfl rfl)
theorem dX0_carry_33 : decode cX0_carry 33 = .ok (.iload_n 2, 1) := dk_28 (dk_at dksX0_carry_1 9 rfl rfl)
theorem dX0_carry_34 : decode cX0_carry 34 = .ok (.if_icmp .ne 5, 3) := dk_160 0 5 (dk_at dksX0_carry_1 10 rfl rfl)
theorem dX0_carry_37 : decode cX0_carry 37 = .ok (.iconst 0, 1) := dk_3 (dk_at dksX0_carry_1 13 rfl rfl)
theorem dX0_carry_38 : decode cX0_carry 38 = .ok (.ireturn, 1) := dk_172 (dk_at dksX0_carry_1 14 rfl rfl)
theorem dX0_carry_39 : decode cX0_carry 39 = .ok (.aload_n 0, 1) := dk_42 (dk_at dksX0_carry_1 15 rfl rfl)
theorem dX0_carry_40 : decode cX0_carry 40 = .ok (.invokevirtual 214, 3) := dk_182 0 214 (dk_at dksX0_carry_1 16 rfl rfl)
theorem dX0_carry_43 : decode cX0_carry 43 = .ok (.aload_n 0, 1) := dk_42 (dk_at dksX0_carry_1 19 rfl rfl)
theorem dX0_carry_44 : decode cX0_carry 44 = .ok (.getfield 51, 3) := dk_180 0 51 (dk_at dksX0_carry_1 20 rfl rfl)
theorem dX0_carry_47 : decode cX0_carry 47 = .ok (.getfield 181, 3) := dk_180 0 181 (dk_at dksX0_carry_2 0 rfl rfl)
theorem dX0_carry_50 : decode cX0_carry 50 = .ok (.iload_n 1, 1) := dk_27 (dk_at dksX0_carry_2 3 rfl rfl)
theorem dX0_carry_51 : decode cX0_carry 51 = .ok (.aaload, 1) := dk_50 (dk_at dksX0_carry_2 4 rfl rfl)
theorem dX0_carry_52 : decode cX0_carry 52 = .ok (.aload_n 0, 1) := dk_42 (dk_at dksX0_carry_2 5 rfl rfl)
theorem dX0_carry_53 : decode cX0_carry 53 = .ok (.getfield 51, 3) := dk_180 0 51 (dk_at dksX0_carry_2 6 rfl rfl)
theorem dX0_carry_56 : decode cX0_carry 56 = .ok (.getfield 158, 3) := dk_180 0 158 (dk_at dksX0_carry_2 9 rfl rfl)
theorem dX0_carry_59 : decode cX0_carry 59 = .ok (.iload_n 2, 1) := dk_28 (dk_at dksX0_carry_2 12 rfl rfl)
theorem dX0_carry_60 : decode cX0_carry 60 = .ok (.i2b, 1) := dk_145 (dk_at dksX0_carry_2 13 rfl rfl)
theorem dX0_carry_61 : decode cX0_carry 61 = .ok (.bastore, 1) := dk_84 (dk_at dksX0_carry_2 14 rfl rfl)
theorem dX0_carry_62 : decode cX0_carry 62 = .ok (.aload_n 0, 1) := dk_42 (dk_at dksX0_carry_2 15 rfl rfl)
theorem dX0_carry_63 : decode cX0_carry 63 = .ok (.getfield 51, 3) := dk_180 0 51 (dk_at dksX0_carry_2 16 rfl rfl)
theorem dX0_carry_66 : decode cX0_carry 66 = .ok (.aload_n 0, 1) := dk_42 (dk_at dksX0_carry_2 19 rfl rfl)
theorem dX0_carry_67 : decode cX0_carry 67 = .ok (.getfield 40, 3) := dk_180 0 40 (dk_at dksX0_carry_2 20 rfl rfl)
theorem dX0_carry_70 : decode cX0_carry 70 = .ok (.invokevirtual 233, 3) := dk_182 0 233 (dk_at dksX0_carry_3 0 rfl rfl)
theorem dX0_carry_73 : decode cX0_carry 73 = .ok (.iconst 1, 1) := dk_4 (dk_at dksX0_carry_3 3 rfl rfl)
theorem dX0_carry_74 : decode cX0_carry 74 = .ok (.ireturn, 1) := dk_172 (dk_at dksX0_carry_3 4 rfl rfl)
abbrev cX0_isRoom : ByteArray := prog_1_method_13_code
def yX0_isRoom : MethodName := ⟨RX0, "isRoom", "(I)Z"⟩
def dkwX0_isRoom_0 : List UInt8 := [27, 3, 42, 182, 0, 148, 4, 100, 184, 0, 150, 172]
abbrev dktX0_isRoom_0 : List UInt8 := dkwX0_isRoom_0 ++ []
theorem dksX0_isRoom_0 : cX0_isRoom.data.toList.drop 0 = dktX0_isRoom_0 := by decide +kernel
theorem dX0_isRoom_0 : decode cX0_isRoom 0 = .ok (.iload_n 1, 1) := dk_27 (dk_at dksX0_isRoom_0 0 rfl rfl)
theorem dX0_isRoom_1 : decode cX0_isRoom 1 = .ok (.iconst 0, 1) := dk_3 (dk_at dksX0_isRoom_0 1 rfl rfl)
theorem dX0_isRoom_2 : decode cX0_isRoom 2 = .ok (.aload_n 0, 1) := dk_42 (dk_at dksX0_isRoom_0 2 rfl rfl)
theorem dX0_isRoom_3 : decode cX0_isRoom 3 = .ok (.invokevirtual 148, 3) := dk_182 0 148 (dk_at dksX0_isRoom_0 3 rfl rfl)
theorem dX0_isRoom_6 : decode cX0_isRoom 6 = .ok (.iconst 1, 1) := dk_4 (dk_at dksX0_isRoom_0 6 rfl rfl)
theorem dX0_isRoom_7 : decode cX0_isRoom 7 = .ok (.isub, 1) := dk_100 (dk_at dksX0_isRoom_0 7 rfl rfl)
theorem dX0_isRoom_8 : decode cX0_isRoom 8 = .ok (.invokestatic 150, 3) := dk_184 0 150 (dk_at dksX0_isRoom_0 8 rfl rfl)
theorem dX0_isRoom_11 : decode cX0_isRoom 11 = .ok (.ireturn, 1) := dk_172 (dk_at dksX0_isRoom_0 11 rfl rfl)
abbrev cX0_rooms : ByteArray := prog_1_method_10_code
def yX0_rooms : MethodName := ⟨RX0, "rooms", "()I"⟩
def dkwX0_rooms_0 : List UInt8 := [42, 180, 0, 40, 180, 0, 132, 182, 0, 136, 172]
abbrev dktX0_rooms_0 : List UInt8 := dkwX0_rooms_0 ++ []
theorem dksX0_rooms_0 : cX0_rooms.data.toList.drop 0 = dktX0_rooms_0 := by decide +kernel
theorem dX0_rooms_0 : decode cX0_rooms 0 = .ok (.aload_n 0, 1) := dk_42 (dk_at dksX0_rooms_0 0 rfl rfl)
theorem dX0_rooms_1 : decode cX0_rooms 1 = .ok (.getfield 40, 3) := dk_180 0 40 (dk_at dksX0_rooms_0 1 rfl rfl)
theorem dX0_rooms_4 : decode cX0_rooms 4 = .ok (.getfield 132, 3) := dk_180 0 132 (dk_at dksX0_rooms_0 4 rfl rfl)
theorem dX0_rooms_7 : decode cX0_rooms 7 = .ok (.invokevirtual 136, 3) := dk_182 0 136 (dk_at dksX0_rooms_0 7 rfl rfl)
theorem dX0_rooms_10 : decode cX0_rooms 10 = .ok (.ireturn, 1) := dk_172 (dk_at dksX0_rooms_0 10 rfl rfl)
abbrev cX0_turn : ByteArray := prog_1_method_25_code
def yX0_turn : MethodName := ⟨RX0, "turn", "(IZ)Z"⟩
def dkwX0_turn_2 : List UInt8 := [180, 0, 158, 28, 84, 4, 172]
abbrev dktX0_turn_2 : List UInt8 := dkwX0_turn_2 ++ []
def dkwX0_turn_1 : List UInt8 := [51, 28, 160, 0, 5, 3, 172, 42, 182, 0, 214, 42, 180, 0, 51, 180, 0, 188, 27, 50, 42, 180, 0, 51]
abbrev dktX0_turn_1 : List UInt8 := dkwX0_turn_1 ++ dktX0_turn_2
def dkwX0_turn_0 : List UInt8 := [42, 27, 182, 0, 175, 153, 0, 24, 42, 180, 0, 51, 180, 0, 188, 27, 50, 42, 180, 0, 51, 180, 0, 158]
abbrev dktX0_turn_0 : List UInt8 := dkwX0_turn_0 ++ dktX0_turn_1
theorem dksX0_turn_0 : cX0_turn.data.toList.drop 0 = dktX0_turn_0 := by decide +kernel
theorem dksX0_turn_1 : cX0_turn.data.toList.drop 24 = dktX0_turn_1 := dk_seg dksX0_turn_0 24 rfl rfl
theorem dksX0_turn_2 : cX0_turn.data.toList.drop 48 = dktX0_turn_2 := dk_seg dksX0_turn_1 24 rfl rfl
theorem dX0_turn_0 : decode cX0_turn 0 = .ok (.aload_n 0, 1) := dk_42 (dk_at dksX0_turn_0 0 rfl rfl)
theorem dX0_turn_1 : decode cX0_turn 1 = .ok (.iload_n 1, 1) := dk_27 (dk_at dksX0_turn_0 1 rfl rfl)
theorem dX0_turn_2 : decode cX0_turn 2 = .ok (.invokevirtual 175, 3) := dk_182 0 175 (dk_at dksX0_turn_0 2 rfl rfl)
theorem dX0_turn_5 : decode cX0_turn 5 = .ok (.ifCond .eq 24, 3) := dk_153 0 24 (dk_at dksX0_turn_0 5 rfl rfl)
theorem dX0_turn_8 : decode cX0_turn 8 = .ok (.aload_n 0, 1) := dk_42 (dk_at dksX0_turn_0 8 rfl rfl)
theorem dX0_turn_9 : decode cX0_turn 9 = .ok (.getfield 51, 3) := dk_180 0 51 (dk_at dksX0_turn_0 9 rfl rfl)
theorem dX0_turn_12 : decode cX0_turn 12 = .ok (.getfield 188, 3) := dk_180 0 188 (dk_at dksX0_turn_0 12 rfl rfl)
theorem dX0_turn_15 : decode cX0_turn 15 = .ok (.iload_n 1, 1) := dk_27 (dk_at dksX0_turn_0 15 rfl rfl)
theorem dX0_turn_16 : decode cX0_turn 16 = .ok (.aaload, 1) := dk_50 (dk_at dksX0_turn_0 16 rfl rfl)
theorem dX0_turn_17 : decode cX0_turn 17 = .ok (.aload_n 0, 1) := dk_42 (dk_at dksX0_turn_0 17 rfl rfl)
theorem dX0_turn_18 : decode cX0_turn 18 = .ok (.getfield 51, 3) := dk_180 0 51 (dk_at dksX0_turn_0 18 rfl rfl)
theorem dX0_turn_21 : decode cX0_turn 21 = .ok (.getfield 158, 3) := dk_180 0 158 (dk_at dksX0_turn_0 21 rfl rfl)
theorem dX0_turn_24 : decode cX0_turn 24 = .ok (.baload, 1) := dk_51 (dk_at dksX0_turn_1 0 rfl rfl)
theorem dX0_turn_25 : decode cX0_turn 25 = .ok (.iload_n 2, 1) := dk_28 (dk_at dksX0_turn_1 1 rfl rfl)
theorem dX0_turn_26 : decode cX0_turn 26 = .ok (.if_icmp .ne 5, 3) := dk_160 0 5 (dk_at dksX0_turn_1 2 rfl rfl)
theorem dX0_turn_29 : decode cX0_turn 29 = .ok (.iconst 0, 1) := dk_3 (dk_at dksX0_turn_1 5 rfl rfl)
theorem dX0_turn_30 : decode cX0_turn 30 = .ok (.ireturn, 1) := dk_172 (dk_at dksX0_turn_1 6 rfl rfl)
theorem dX0_turn_31 : decode cX0_turn 31 = .ok (.aload_n 0, 1) := dk_42 (dk_at dksX0_turn_1 7 rfl rfl)
theorem dX0_turn_32 : decode cX0_turn 32 = .ok (.invokevirtual 214, 3) := dk_182 0 214 (dk_at dksX0_turn_1 8 rfl rfl)
theorem dX0_turn_35 : decode cX0_turn 35 = .ok (.aload_n 0, 1) := dk_42 (dk_at dksX0_turn_1 11 rfl rfl)
theorem dX0_turn_36 : decode cX0_turn 36 = .ok (.getfield 51, 3) := dk_180 0 51 (dk_at dksX0_turn_1 12 rfl rfl)
theorem dX0_turn_39 : decode cX0_turn 39 = .ok (.getfield 188, 3) := dk_180 0 188 (dk_at dksX0_turn_1 15 rfl rfl)
theorem dX0_turn_42 : decode cX0_turn 42 = .ok (.iload_n 1, 1) := dk_27 (dk_at dksX0_turn_1 18 rfl rfl)
theorem dX0_turn_43 : decode cX0_turn 43 = .ok (.aaload, 1) := dk_50 (dk_at dksX0_turn_1 19 rfl rfl)
theorem dX0_turn_44 : decode cX0_turn 44 = .ok (.aload_n 0, 1) := dk_42 (dk_at dksX0_turn_1 20 rfl rfl)
theorem dX0_turn_45 : decode cX0_turn 45 = .ok (.getfield 51, 3) := dk_180 0 51 (dk_at dksX0_turn_1 21 rfl rfl)
theorem dX0_turn_48 : decode cX0_turn 48 = .ok (.getfield 158, 3) := dk_180 0 158 (dk_at dksX0_turn_2 0 rfl rfl)
theorem dX0_turn_51 : decode cX0_turn 51 = .ok (.iload_n 2, 1) := dk_28 (dk_at dksX0_turn_2 3 rfl rfl)
theorem dX0_turn_52 : decode cX0_turn 52 = .ok (.bastore, 1) := dk_84 (dk_at dksX0_turn_2 4 rfl rfl)
theorem dX0_turn_53 : decode cX0_turn 53 = .ok (.iconst 1, 1) := dk_4 (dk_at dksX0_turn_2 5 rfl rfl)
theorem dX0_turn_54 : decode cX0_turn 54 = .ok (.ireturn, 1) := dk_172 (dk_at dksX0_turn_2 6 rfl rfl)
abbrev cX0_smash : ByteArray := prog_1_method_26_code
def yX0_smash : MethodName := ⟨RX0, "smash", "(I)Z"⟩
def dkwX0_smash_1 : List UInt8 := [153, 0, 5, 3, 172, 42, 182, 0, 214, 42, 180, 0, 51, 27, 182, 0, 239, 4, 172]
abbrev dktX0_smash_1 : List UInt8 := dkwX0_smash_1 ++ []
def dkwX0_smash_0 : List UInt8 := [42, 27, 182, 0, 175, 153, 0, 21, 42, 180, 0, 51, 27, 42, 180, 0, 51, 180, 0, 158, 182, 0, 191]
abbrev dktX0_smash_0 : List UInt8 := dkwX0_smash_0 ++ dktX0_smash_1
theorem dksX0_smash_0 : cX0_smash.data.toList.drop 0 = dktX0_smash_0 := by decide +kernel
theorem dksX0_smash_1 : cX0_smash.data.toList.drop 23 = dktX0_smash_1 := dk_seg dksX0_smash_0 23 rfl rfl
theorem dX0_smash_0 : decode cX0_smash 0 = .ok (.aload_n 0, 1) := dk_42 (dk_at dksX0_smash_0 0 rfl rfl)
theorem dX0_smash_1 : decode cX0_smash 1 = .ok (.iload_n 1, 1) := dk_27 (dk_at dksX0_smash_0 1 rfl rfl)
theorem dX0_smash_2 : decode cX0_smash 2 = .ok (.invokevirtual 175, 3) := dk_182 0 175 (dk_at dksX0_smash_0 2 rfl rfl)
theorem dX0_smash_5 : decode cX0_smash 5 = .ok (.ifCond .eq 21, 3) := dk_153 0 21 (dk_at dksX0_smash_0 5 rfl rfl)
theorem dX0_smash_8 : decode cX0_smash 8 = .ok (.aload_n 0, 1) := dk_42 (dk_at dksX0_smash_0 8 rfl rfl)
theorem dX0_smash_9 : decode cX0_smash 9 = .ok (.getfield 51, 3) := dk_180 0 51 (dk_at dksX0_smash_0 9 rfl rfl)
theorem dX0_smash_12 : decode cX0_smash 12 = .ok (.iload_n 1, 1) := dk_27 (dk_at dksX0_smash_0 12 rfl rfl)
theorem dX0_smash_13 : decode cX0_smash 13 = .ok (.aload_n 0, 1) := dk_42 (dk_at dksX0_smash_0 13 rfl rfl)
theorem dX0_smash_14 : decode cX0_smash 14 = .ok (.getfield 51, 3) := dk_180 0 51 (dk_at dksX0_smash_0 14 rfl rfl)
theorem dX0_smash_17 : decode cX0_smash 17 = .ok (.getfield 158, 3) := dk_180 0 158 (dk_at dksX0_smash_0 17 rfl rfl)
theorem dX0_smash_20 : decode cX0_smash 20 = .ok (.invokevirtual 191, 3) := dk_182 0 191 (dk_at dksX0_smash_0 20 rfl rfl)
theorem dX0_smash_23 : decode cX0_smash 23 = .ok (.ifCond .eq 5, 3) := dk_153 0 5 (dk_at dksX0_smash_1 0 rfl rfl)
theorem dX0_smash_26 : decode cX0_smash 26 = .ok (.iconst 0, 1) := dk_3 (dk_at dksX0_smash_1 3 rfl rfl)
theorem dX0_smash_27 : decode cX0_smash 27 = .ok (.ireturn, 1) := dk_172 (dk_at dksX0_smash_1 4 rfl rfl)
theorem dX0_smash_28 : decode cX0_smash 28 = .ok (.aload_n 0, 1) := dk_42 (dk_at dksX0_smash_1 5 rfl rfl)
theorem dX0_smash_29 : decode cX0_smash 29 = .ok (.invokevirtual 214, 3) := dk_182 0 214 (dk_at dksX0_smash_1 6 rfl rfl)
theorem dX0_smash_32 : decode cX0_smash 32 = .ok (.aload_n 0, 1) := dk_42 (dk_at dksX0_smash_1 9 rfl rfl)
theorem dX0_smash_33 : decode cX0_smash 33 = .ok (.getfield 51, 3) := dk_180 0 51 (dk_at dksX0_smash_1 10 rfl rfl)
theorem dX0_smash_36 : decode cX0_smash 36 = .ok (.iload_n 1, 1) := dk_27 (dk_at dksX0_smash_1 13 rfl rfl)
theorem dX0_smash_37 : decode cX0_smash 37 = .ok (.invokevirtual 239, 3) := dk_182 0 239 (dk_at dksX0_smash_1 14 rfl rfl)
theorem dX0_smash_40 : decode cX0_smash 40 = .ok (.iconst 1, 1) := dk_4 (dk_at dksX0_smash_1 17 rfl rfl)
theorem dX0_smash_41 : decode cX0_smash 41 = .ok (.ireturn, 1) := dk_172 (dk_at dksX0_smash_1 18 rfl rfl)
abbrev cX0_undo : ByteArray := prog_1_method_27_code
def yX0_undo : MethodName := ⟨RX0, "undo", "()Z"⟩
def dkwX0_undo_2 : List UInt8 := [182, 0, 202, 4, 172]
abbrev dktX0_undo_2 : List UInt8 := dkwX0_undo_2 ++ []
def dkwX0_undo_1 : List UInt8 := [16, 20, 96, 4, 100, 16, 20, 112, 181, 0, 199, 42, 180, 0, 51, 42, 180, 0, 58, 42, 180, 0, 199, 50]
abbrev dktX0_undo_1 : List UInt8 := dkwX0_undo_1 ++ dktX0_undo_2
def dkwX0_undo_0 : List UInt8 := [42, 180, 0, 122, 154, 0, 5, 3, 172, 42, 89, 180, 0, 122, 4, 100, 181, 0, 122, 42, 42, 180, 0, 199]
abbrev dktX0_undo_0 : List UInt8 := dkwX0_undo_0 ++ dktX0_undo_1
theorem dksX0_undo_0 : cX0_undo.data.toList.drop 0 = dktX0_undo_0 := by decide +kernel
theorem dksX0_undo_1 : cX0_undo.data.toList.drop 24 = dktX0_undo_1 := dk_seg dksX0_undo_0 24 rfl rfl
theorem dksX0_undo_2 : cX0_undo.data.toList.drop 48 = dktX0_undo_2 := dk_seg dksX0_undo_1 24 rfl rfl
theorem dX0_undo_0 : decode cX0_undo 0 = .ok (.aload_n 0, 1) := dk_42 (dk_at dksX0_undo_0 0 rfl rfl)
theorem dX0_undo_1 : decode cX0_undo 1 = .ok (.getfield 122, 3) := dk_180 0 122 (dk_at dksX0_undo_0 1 rfl rfl)
theorem dX0_undo_4 : decode cX0_undo 4 = .ok (.ifCond .ne 5, 3) := dk_154 0 5 (dk_at dksX0_undo_0 4 rfl rfl)
theorem dX0_undo_7 : decode cX0_undo 7 = .ok (.iconst 0, 1) := dk_3 (dk_at dksX0_undo_0 7 rfl rfl)
theorem dX0_undo_8 : decode cX0_undo 8 = .ok (.ireturn, 1) := dk_172 (dk_at dksX0_undo_0 8 rfl rfl)
theorem dX0_undo_9 : decode cX0_undo 9 = .ok (.aload_n 0, 1) := dk_42 (dk_at dksX0_undo_0 9 rfl rfl)
theorem dX0_undo_10 : decode cX0_undo 10 = .ok (.dup, 1) := dk_89 (dk_at dksX0_undo_0 10 rfl rfl)
theorem dX0_undo_11 : decode cX0_undo 11 = .ok (.getfield 122, 3) := dk_180 0 122 (dk_at dksX0_undo_0 11 rfl rfl)
theorem dX0_undo_14 : decode cX0_undo 14 = .ok (.iconst 1, 1) := dk_4 (dk_at dksX0_undo_0 14 rfl rfl)
theorem dX0_undo_15 : decode cX0_undo 15 = .ok (.isub, 1) := dk_100 (dk_at dksX0_undo_0 15 rfl rfl)
theorem dX0_undo_16 : decode cX0_undo 16 = .ok (.putfield 122, 3) := dk_181 0 122 (dk_at dksX0_undo_0 16 rfl rfl)
theorem dX0_undo_19 : decode cX0_undo 19 = .ok (.aload_n 0, 1) := dk_42 (dk_at dksX0_undo_0 19 rfl rfl)
theorem dX0_undo_20 : decode cX0_undo 20 = .ok (.aload_n 0, 1) := dk_42 (dk_at dksX0_undo_0 20 rfl rfl)
theorem dX0_undo_21 : decode cX0_undo 21 = .ok (.getfield 199, 3) := dk_180 0 199 (dk_at dksX0_undo_0 21 rfl rfl)
theorem dX0_undo_24 : decode cX0_undo 24 = .ok (.bipush 20, 2) := dk_16 20 (dk_at dksX0_undo_1 0 rfl rfl)
theorem dX0_undo_26 : decode cX0_undo 26 = .ok (.iadd, 1) := dk_96 (dk_at dksX0_undo_1 2 rfl rfl)
theorem dX0_undo_27 : decode cX0_undo 27 = .ok (.iconst 1, 1) := dk_4 (dk_at dksX0_undo_1 3 rfl rfl)
theorem dX0_undo_28 : decode cX0_undo 28 = .ok (.isub, 1) := dk_100 (dk_at dksX0_undo_1 4 rfl rfl)
theorem dX0_undo_29 : decode cX0_undo 29 = .ok (.bipush 20, 2) := dk_16 20 (dk_at dksX0_undo_1 5 rfl rfl)
theorem dX0_undo_31 : decode cX0_undo 31 = .ok (.irem, 1) := dk_112 (dk_at dksX0_undo_1 7 rfl rfl)
theorem dX0_undo_32 : decode cX0_undo 32 = .ok (.putfield 199, 3) := dk_181 0 199 (dk_at dksX0_undo_1 8 rfl rfl)
theorem dX0_undo_35 : decode cX0_undo 35 = .ok (.aload_n 0, 1) := dk_42 (dk_at dksX0_undo_1 11 rfl rfl)
theorem dX0_undo_36 : decode cX0_undo 36 = .ok (.getfield 51, 3) := dk_180 0 51 (dk_at dksX0_undo_1 12 rfl rfl)
theorem dX0_undo_39 : decode cX0_undo 39 = .ok (.aload_n 0, 1) := dk_42 (dk_at dksX0_undo_1 15 rfl rfl)
theorem dX0_undo_40 : decode cX0_undo 40 = .ok (.getfield 58, 3) := dk_180 0 58 (dk_at dksX0_undo_1 16 rfl rfl)
theorem dX0_undo_43 : decode cX0_undo 43 = .ok (.aload_n 0, 1) := dk_42 (dk_at dksX0_undo_1 19 rfl rfl)
theorem dX0_undo_44 : decode cX0_undo 44 = .ok (.getfield 199, 3) := dk_180 0 199 (dk_at dksX0_undo_1 20 rfl rfl)
theorem dX0_undo_47 : decode cX0_undo 47 = .ok (.aaload, 1) := dk_50 (dk_at dksX0_undo_1 23 rfl rfl)
theorem dX0_undo_48 : decode cX0_undo 48 = .ok (.invokevirtual 202, 3) := dk_182 0 202 (dk_at dksX0_undo_2 0 rfl rfl)
theorem dX0_undo_51 : decode cX0_undo 51 = .ok (.iconst 1, 1) := dk_4 (dk_at dksX0_undo_2 3 rfl rfl)
theorem dX0_undo_52 : decode cX0_undo 52 = .ok (.ireturn, 1) := dk_172 (dk_at dksX0_undo_2 4 rfl rfl)
abbrev cX0_look : ByteArray := prog_1_method_28_code
def yX0_look : MethodName := ⟨RX0, "look", "(IIII)I"⟩
def dkwX0_look_7 : List UInt8 := [21, 5, 182, 0, 255, 172]
abbrev dktX0_look_7 : List UInt8 := dkwX0_look_7 ++ []
def dkwX0_look_6 : List UInt8 := [167, 0, 29, 21, 4, 4, 160, 0, 8, 21, 6, 167, 0, 18, 42, 180, 0, 51, 42, 180, 0, 40, 21, 6]
abbrev dktX0_look_6 : List UInt8 := dkwX0_look_6 ++ dktX0_look_7
def dkwX0_look_5 : List UInt8 := [180, 0, 181, 42, 180, 0, 72, 180, 0, 252, 50, 21, 5, 51, 54, 6, 21, 4, 154, 0, 8, 21, 5]
abbrev dktX0_look_5 : List UInt8 := dkwX0_look_5 ++ dktX0_look_6
def dkwX0_look_4 : List UInt8 := [180, 0, 72, 42, 180, 0, 51, 182, 0, 249, 54, 5, 21, 5, 156, 0, 6, 16, 254, 172, 42, 180, 0, 51]
abbrev dktX0_look_4 : List UInt8 := dkwX0_look_4 ++ dktX0_look_5
def dkwX0_look_3 : List UInt8 := [29, 155, 0, 21, 42, 180, 0, 72, 42, 180, 0, 51, 29, 182, 0, 245, 154, 0, 6, 16, 254, 172, 42]
abbrev dktX0_look_3 : List UInt8 := dkwX0_look_3 ++ dktX0_look_4
def dkwX0_look_2 : List UInt8 := [180, 0, 51, 180, 0, 158, 182, 0, 242, 42, 180, 0, 72, 42, 180, 0, 51, 28, 182, 0, 245, 153, 0, 22]
abbrev dktX0_look_2 : List UInt8 := dkwX0_look_2 ++ dktX0_look_3
def dkwX0_look_1 : List UInt8 := [184, 0, 150, 153, 0, 13, 21, 4, 3, 5, 184, 0, 150, 154, 0, 5, 2, 172, 42, 180, 0, 72, 27, 42]
abbrev dktX0_look_1 : List UInt8 := dkwX0_look_1 ++ dktX0_look_2
def dkwX0_look_0 : List UInt8 := [42, 27, 182, 0, 175, 153, 0, 35, 42, 28, 182, 0, 175, 153, 0, 27, 29, 2, 42, 182, 0, 156, 4, 100]
abbrev dktX0_look_0 : List UInt8 := dkwX0_look_0 ++ dktX0_look_1
theorem dksX0_look_0 : cX0_look.data.toList.drop 0 = dktX0_look_0 := by decide +kernel
theorem dksX0_look_1 : cX0_look.data.toList.drop 24 = dktX0_look_1 := dk_seg dksX0_look_0 24 rfl rfl
theorem dksX0_look_2 : cX0_look.data.toList.drop 48 = dktX0_look_2 := dk_seg dksX0_look_1 24 rfl rfl
theorem dksX0_look_3 : cX0_look.data.toList.drop 72 = dktX0_look_3 := dk_seg dksX0_look_2 24 rfl rfl
theorem dksX0_look_4 : cX0_look.data.toList.drop 95 = dktX0_look_4 := dk_seg dksX0_look_3 23 rfl rfl
theorem dksX0_look_5 : cX0_look.data.toList.drop 119 = dktX0_look_5 := dk_seg dksX0_look_4 24 rfl rfl
theorem dksX0_look_6 : cX0_look.data.toList.drop 142 = dktX0_look_6 := dk_seg dksX0_look_5 23 rfl rfl
theorem dksX0_look_7 : cX0_look.data.toList.drop 166 = dktX0_look_7 := dk_seg dksX0_look_6 24 rfl rfl
theorem dX0_look_0 : decode cX0_look 0 = .ok (.aload_n 0, 1) := dk_42 (dk_at dksX0_look_0 0 rfl rfl)
theorem dX0_look_1 : decode cX0_look 1 = .ok (.iload_n 1, 1) := dk_27 (dk_at dksX0_look_0 1 rfl rfl)
theorem dX0_look_2 : decode cX0_look 2 = .ok (.invokevirtual 175, 3) := dk_182 0 175 (dk_at dksX0_look_0 2 rfl rfl)
theorem dX0_look_5 : decode cX0_look 5 = .ok (.ifCond .eq 35, 3) := dk_153 0 35 (dk_at dksX0_look_0 5 rfl rfl)
theorem dX0_look_8 : decode cX0_look 8 = .ok (.aload_n 0, 1) := dk_42 (dk_at dksX0_look_0 8 rfl rfl)
theorem dX0_look_9 : decode cX0_look 9 = .ok (.iload_n 2, 1) := dk_28 (dk_at dksX0_look_0 9 rfl rfl)
theorem dX0_look_10 : decode cX0_look 10 = .ok (.invokevirtual 175, 3) := dk_182 0 175 (dk_at dksX0_look_0 10 rfl rfl)
theorem dX0_look_13 : decode cX0_look 13 = .ok (.ifCond .eq 27, 3) := dk_153 0 27 (dk_at dksX0_look_0 13 rfl rfl)
theorem dX0_look_16 : decode cX0_look 16 = .ok (.iload_n 3, 1) := dk_29 (dk_at dksX0_look_0 16 rfl rfl)
theorem dX0_look_17 : decode cX0_look 17 = .ok (.iconst (-1), 1) := dk_2 (dk_at dksX0_look_0 17 rfl rfl)
theorem dX0_look_18 : decode cX0_look 18 = .ok (.aload_n 0, 1) := dk_42 (dk_at dksX0_look_0 18 rfl rfl)
theorem dX0_look_19 : decode cX0_look 19 = .ok (.invokevirtual 156, 3) := dk_182 0 156 (dk_at dksX0_look_0 19 rfl rfl)
theorem dX0_look_22 : decode cX0_look 22 = .ok (.iconst 1, 1) := dk_4 (dk_at dksX0_look_0 22 rfl rfl)
theorem dX0_look_23 : decode cX0_look 23 = .ok (.isub, 1) := dk_100 (dk_at dksX0_look_0 23 rfl rfl)
theorem dX0_look_24 : decode cX0_look 24 = .ok (.invokestatic 150, 3) := dk_184 0 150 (dk_at dksX0_look_1 0 rfl rfl)
theorem dX0_look_27 : decode cX0_look 27 = .ok (.ifCond .eq 13, 3) := dk_153 0 13 (dk_at dksX0_look_1 3 rfl rfl)
theorem dX0_look_30 : decode cX0_look 30 = .ok (.iload 4, 2) := dk_21 4 (dk_at dksX0_look_1 6 rfl rfl)
theorem dX0_look_32 : decode cX0_look 32 = .ok (.iconst 0, 1) := dk_3 (dk_at dksX0_look_1 8 rfl rfl)
theorem dX0_look_33 : decode cX0_look 33 = .ok (.iconst 2, 1) := dk_5 (dk_at dksX0_look_1 9 rfl rfl)
theorem dX0_look_34 : decode cX0_look 34 = .ok (.invokestatic 150, 3) := dk_184 0 150 (dk_at dksX0_look_1 10 rfl rfl)
theorem dX0_look_37 : decode cX0_look 37 = .ok (.ifCond .ne 5, 3) := dk_154 0 5 (dk_at dksX0_look_1 13 rfl rfl)
theorem dX0_look_40 : decode cX0_look 40 = .ok (.iconst (-1), 1) := dk_2 (dk_at dksX0_look_1 16 rfl rfl)
theorem dX0_look_41 : decode cX0_look 41 = .ok (.ireturn, 1) := dk_172 (dk_at dksX0_look_1 17 rfl rfl)
theorem dX0_look_42 : decode cX0_look 42 = .ok (.aload_n 0, 1) := dk_42 (dk_at dksX0_look_1 18 rfl rfl)
theorem dX0_look_43 : decode cX0_look 43 = .ok (.getfield 72, 3) := dk_180 0 72 (dk_at dksX0_look_1 19 rfl rfl)
theorem dX0_look_46 : decode cX0_look 46 = .ok (.iload_n 1, 1) := dk_27 (dk_at dksX0_look_1 22 rfl rfl)
theorem dX0_look_47 : decode cX0_look 47 = .ok (.aload_n 0, 1) := dk_42 (dk_at dksX0_look_1 23 rfl rfl)
theorem dX0_look_48 : decode cX0_look 48 = .ok (.getfield 51, 3) := dk_180 0 51 (dk_at dksX0_look_2 0 rfl rfl)
theorem dX0_look_51 : decode cX0_look 51 = .ok (.getfield 158, 3) := dk_180 0 158 (dk_at dksX0_look_2 3 rfl rfl)
theorem dX0_look_54 : decode cX0_look 54 = .ok (.invokevirtual 242, 3) := dk_182 0 242 (dk_at dksX0_look_2 6 rfl rfl)
theorem dX0_look_57 : decode cX0_look 57 = .ok (.aload_n 0, 1) := dk_42 (dk_at dksX0_look_2 9 rfl rfl)
theorem dX0_look_58 : decode cX0_look 58 = .ok (.getfield 72, 3) := dk_180 0 72 (dk_at dksX0_look_2 10 rfl rfl)
theorem dX0_look_61 : decode cX0_look 61 = .ok (.aload_n 0, 1) := dk_42 (dk_at dksX0_look_2 13 rfl rfl)
theorem dX0_look_62 : decode cX0_look 62 = .ok (.getfield 51, 3) := dk_180 0 51 (dk_at dksX0_look_2 14 rfl rfl)
theorem dX0_look_65 : decode cX0_look 65 = .ok (.iload_n 2, 1) := dk_28 (dk_at dksX0_look_2 17 rfl rfl)
theorem dX0_look_66 : decode cX0_look 66 = .ok (.invokevirtual 245, 3) := dk_182 0 245 (dk_at dksX0_look_2 18 rfl rfl)
theorem dX0_look_69 : decode cX0_look 69 = .ok (.ifCond .eq 22, 3) := dk_153 0 22 (dk_at dksX0_look_2 21 rfl rfl)
theorem dX0_look_72 : decode cX0_look 72 = .ok (.iload_n 3, 1) := dk_29 (dk_at dksX0_look_3 0 rfl rfl)
theorem dX0_look_73 : decode cX0_look 73 = .ok (.ifCond .lt 21, 3) := dk_155 0 21 (dk_at dksX0_look_3 1 rfl rfl)
theorem dX0_look_76 : decode cX0_look 76 = .ok (.aload_n 0, 1) := dk_42 (dk_at dksX0_look_3 4 rfl rfl)
theorem dX0_look_77 : decode cX0_look 77 = .ok (.getfield 72, 3) := dk_180 0 72 (dk_at dksX0_look_3 5 rfl rfl)
theorem dX0_look_80 : decode cX0_look 80 = .ok (.aload_n 0, 1) := dk_42 (dk_at dksX0_look_3 8 rfl rfl)
theorem dX0_look_81 : decode cX0_look 81 = .ok (.getfield 51, 3) := dk_180 0 51 (dk_at dksX0_look_3 9 rfl rfl)
theorem dX0_look_84 : decode cX0_look 84 = .ok (.iload_n 3, 1) := dk_29 (dk_at dksX0_look_3 12 rfl rfl)
theorem dX0_look_85 : decode cX0_look 85 = .ok (.invokevirtual 245, 3) := dk_182 0 245 (dk_at dksX0_look_3 13 rfl rfl)
theorem dX0_look_88 : decode cX0_look 88 = .ok (.ifCond .ne 6, 3) := dk_154 0 6 (dk_at dksX0_look_3 16 rfl rfl)
theorem dX0_look_91 : decode cX0_look 91 = .ok (.bipush (-2), 2) := dk_16 254 (dk_at dksX0_look_3 19 rfl rfl)
theorem dX0_look_93 : decode cX0_look 93 = .ok (.ireturn, 1) := dk_172 (dk_at dksX0_look_3 21 rfl rfl)
theorem dX0_look_94 : decode cX0_look 94 = .ok (.aload_n 0, 1) := dk_42 (dk_at dksX0_look_3 22 rfl rfl)
theorem dX0_look_95 : decode cX0_look 95 = .ok (.getfield 72, 3) := dk_180 0 72 (dk_at dksX0_look_4 0 rfl rfl)
theorem dX0_look_98 : decode cX0_look 98 = .ok (.aload_n 0, 1) := dk_42 (dk_at dksX0_look_4 3 rfl rfl)
theorem dX0_look_99 : decode cX0_look 99 = .ok (.getfield 51, 3) := dk_180 0 51 (dk_at dksX0_look_4 4 rfl rfl)
theorem dX0_look_102 : decode cX0_look 102 = .ok (.invokevirtual 249, 3) := dk_182 0 249 (dk_at dksX0_look_4 7 rfl rfl)
theorem dX0_look_105 : decode cX0_look 105 = .ok (.istore 5, 2) := dk_54 5 (dk_at dksX0_look_4 10 rfl rfl)
theorem dX0_look_107 : decode cX0_look 107 = .ok (.iload 5, 2) := dk_21 5 (dk_at dksX0_look_4 12 rfl rfl)
theorem dX0_look_109 : decode cX0_look 109 = .ok (.ifCond .ge 6, 3) := dk_156 0 6 (dk_at dksX0_look_4 14 rfl rfl)
theorem dX0_look_112 : decode cX0_look 112 = .ok (.bipush (-2), 2) := dk_16 254 (dk_at dksX0_look_4 17 rfl rfl)
theorem dX0_look_114 : decode cX0_look 114 = .ok (.ireturn, 1) := dk_172 (dk_at dksX0_look_4 19 rfl rfl)
theorem dX0_look_115 : decode cX0_look 115 = .ok (.aload_n 0, 1) := dk_42 (dk_at dksX0_look_4 20 rfl rfl)
theorem dX0_look_116 : decode cX0_look 116 = .ok (.getfield 51, 3) := dk_180 0 51 (dk_at dksX0_look_4 21 rfl rfl)
theorem dX0_look_119 : decode cX0_look 119 = .ok (.getfield 181, 3) := dk_180 0 181 (dk_at dksX0_look_5 0 rfl rfl)
theorem dX0_look_122 : decode cX0_look 122 = .ok (.aload_n 0, 1) := dk_42 (dk_at dksX0_look_5 3 rfl rfl)
theorem dX0_look_123 : decode cX0_look 123 = .ok (.getfield 72, 3) := dk_180 0 72 (dk_at dksX0_look_5 4 rfl rfl)
theorem dX0_look_126 : decode cX0_look 126 = .ok (.getfield 252, 3) := dk_180 0 252 (dk_at dksX0_look_5 7 rfl rfl)
theorem dX0_look_129 : decode cX0_look 129 = .ok (.aaload, 1) := dk_50 (dk_at dksX0_look_5 10 rfl rfl)
theorem dX0_look_130 : decode cX0_look 130 = .ok (.iload 5, 2) := dk_21 5 (dk_at dksX0_look_5 11 rfl rfl)
theorem dX0_look_132 : decode cX0_look 132 = .ok (.baload, 1) := dk_51 (dk_at dksX0_look_5 13 rfl rfl)
theorem dX0_look_133 : decode cX0_look 133 = .ok (.istore 6, 2) := dk_54 6 (dk_at dksX0_look_5 14 rfl rfl)
theorem dX0_look_135 : decode cX0_look 135 = .ok (.iload 4, 2) := dk_21 4 (dk_at dksX0_look_5 16 rfl rfl)
theorem dX0_look_137 : decode cX0_look 137 = .ok (.ifCond .ne 8, 3) := dk_154 0 8 (dk_at dksX0_look_5 18 rfl rfl)
theorem dX0_look_140 : decode cX0_look 140 = .ok (.iload 5, 2) := dk_21 5 (dk_at dksX0_look_5 21 rfl rfl)
theorem dX0_look_142 : decode cX0_look 142 = .ok (.goto 29, 3) := dk_167 0 29 (dk_at dksX0_look_6 0 rfl rfl)
theorem dX0_look_145 : decode cX0_look 145 = .ok (.iload 4, 2) := dk_21 4 (dk_at dksX0_look_6 3 rfl rfl)
theorem dX0_look_147 : decode cX0_look 147 = .ok (.iconst 1, 1) := dk_4 (dk_at dksX0_look_6 5 rfl rfl)
theorem dX0_look_148 : decode cX0_look 148 = .ok (.if_icmp .ne 8, 3) := dk_160 0 8 (dk_at dksX0_look_6 6 rfl rfl)
theorem dX0_look_151 : decode cX0_look 151 = .ok (.iload 6, 2) := dk_21 6 (dk_at dksX0_look_6 9 rfl rfl)
theorem dX0_look_153 : decode cX0_look 153 = .ok (.goto 18, 3) := dk_167 0 18 (dk_at dksX0_look_6 11 rfl rfl)
theorem dX0_look_156 : decode cX0_look 156 = .ok (.aload_n 0, 1) := dk_42 (dk_at dksX0_look_6 14 rfl rfl)
theorem dX0_look_157 : decode cX0_look 157 = .ok (.getfield 51, 3) := dk_180 0 51 (dk_at dksX0_look_6 15 rfl rfl)
theorem dX0_look_160 : decode cX0_look 160 = .ok (.aload_n 0, 1) := dk_42 (dk_at dksX0_look_6 18 rfl rfl)
theorem dX0_look_161 : decode cX0_look 161 = .ok (.getfield 40, 3) := dk_180 0 40 (dk_at dksX0_look_6 19 rfl rfl)
theorem dX0_look_164 : decode cX0_look 164 = .ok (.iload 6, 2) := dk_21 6 (dk_at dksX0_look_6 22 rfl rfl)
theorem dX0_look_166 : decode cX0_look 166 = .ok (.iload 5, 2) := dk_21 5 (dk_at dksX0_look_7 0 rfl rfl)
theorem dX0_look_168 : decode cX0_look 168 = .ok (.invokevirtual 255, 3) := dk_182 0 255 (dk_at dksX0_look_7 2 rfl rfl)
theorem dX0_look_171 : decode cX0_look 171 = .ok (.ireturn, 1) := dk_172 (dk_at dksX0_look_7 5 rfl rfl)
abbrev cX0_facing : ByteArray := prog_1_method_29_code
def yX0_facing : MethodName := ⟨RX0, "facing", "(III)I"⟩
def dkwX0_facing_5 : List UInt8 := [167, 0, 4, 27, 182, 0, 245, 54, 5, 167, 255, 180, 29, 2, 160, 0, 8, 21, 4, 167, 0, 4, 2, 172]
abbrev dktX0_facing_5 : List UInt8 := dkwX0_facing_5 ++ []
def dkwX0_facing_4 : List UInt8 := [132, 4, 1, 42, 180, 0, 72, 42, 180, 0, 51, 42, 180, 0, 72, 180, 0, 252, 27, 160, 0, 7, 28]
abbrev dktX0_facing_4 : List UInt8 := dkwX0_facing_4 ++ dktX0_facing_5
def dkwX0_facing_3 : List UInt8 := [182, 0, 249, 155, 0, 56, 21, 4, 29, 160, 0, 15, 42, 180, 0, 72, 42, 180, 0, 51, 182, 0, 249, 172]
abbrev dktX0_facing_3 : List UInt8 := dkwX0_facing_3 ++ dktX0_facing_4
def dkwX0_facing_2 : List UInt8 := [182, 0, 242, 21, 5, 153, 0, 77, 21, 4, 16, 20, 162, 0, 70, 42, 180, 0, 72, 42, 180, 0, 51]
abbrev dktX0_facing_2 : List UInt8 := dkwX0_facing_2 ++ dktX0_facing_3
def dkwX0_facing_1 : List UInt8 := [162, 0, 5, 2, 172, 3, 54, 4, 4, 54, 5, 42, 180, 0, 72, 27, 42, 180, 0, 51, 180, 0, 158]
abbrev dktX0_facing_1 : List UInt8 := dkwX0_facing_1 ++ dktX0_facing_2
def dkwX0_facing_0 : List UInt8 := [42, 27, 182, 0, 175, 153, 0, 21, 42, 28, 182, 0, 175, 153, 0, 13, 27, 28, 159, 0, 8, 29, 2]
abbrev dktX0_facing_0 : List UInt8 := dkwX0_facing_0 ++ dktX0_facing_1
theorem dksX0_facing_0 : cX0_facing.data.toList.drop 0 = dktX0_facing_0 := by decide +kernel
theorem dksX0_facing_1 : cX0_facing.data.toList.drop 23 = dktX0_facing_1 := dk_seg dksX0_facing_0 23 rfl rfl
theorem dksX0_facing_2 : cX0_facing.data.toList.drop 46 = dktX0_facing_2 := dk_seg dksX0_facing_1 23 rfl rfl
theorem dksX0_facing_3 : cX0_facing.data.toList.drop 69 = dktX0_facing_3 := dk_seg dksX0_facing_2 23 rfl rfl
theorem dksX0_facing_4 : cX0_facing.data.toList.drop 93 = dktX0_facing_4 := dk_seg dksX0_facing_3 24 rfl rfl
theorem dksX0_facing_5 : cX0_facing.data.toList.drop 116 = dktX0_facing_5 := dk_seg dksX0_facing_4 23 rfl rfl
theorem dX0_facing_0 : decode cX0_facing 0 = .ok (.aload_n 0, 1) := dk_42 (dk_at dksX0_facing_0 0 rfl rfl)
theorem dX0_facing_1 : decode cX0_facing 1 = .ok (.iload_n 1, 1) := dk_27 (dk_at dksX0_facing_0 1 rfl rfl)
theorem dX0_facing_2 : decode cX0_facing 2 = .ok (.invokevirtual 175, 3) := dk_182 0 175 (dk_at dksX0_facing_0 2 rfl rfl)
theorem dX0_facing_5 : decode cX0_facing 5 = .ok (.ifCond .eq 21, 3) := dk_153 0 21 (dk_at dksX0_facing_0 5 rfl rfl)
theorem dX0_facing_8 : decode cX0_facing 8 = .ok (.aload_n 0, 1) := dk_42 (dk_at dksX0_facing_0 8 rfl rfl)
theorem dX0_facing_9 : decode cX0_facing 9 = .ok (.iload_n 2, 1) := dk_28 (dk_at dksX0_facing_0 9 rfl rfl)
theorem dX0_facing_10 : decode cX0_facing 10 = .ok (.invokevirtual 175, 3) := dk_182 0 175 (dk_at dksX0_facing_0 10 rfl rfl)
theorem dX0_facing_13 : decode cX0_facing 13 = .ok (.ifCond .eq 13, 3) := dk_153 0 13 (dk_at dksX0_facing_0 13 rfl rfl)
theorem dX0_facing_16 : decode cX0_facing 16 = .ok (.iload_n 1, 1) := dk_27 (dk_at dksX0_facing_0 16 rfl rfl)
theorem dX0_facing_17 : decode cX0_facing 17 = .ok (.iload_n 2, 1) := dk_28 (dk_at dksX0_facing_0 17 rfl rfl)
theorem dX0_facing_18 : decode cX0_facing 18 = .ok (.if_icmp .eq 8, 3) := dk_159 0 8 (dk_at dksX0_facing_0 18 rfl rfl)
theorem dX0_facing_21 : decode cX0_facing 21 = .ok (.iload_n 3, 1) := dk_29 (dk_at dksX0_facing_0 21 rfl rfl)
theorem dX0_facing_22 : decode cX0_facing 22 = .ok (.iconst (-1), 1) := dk_2 (dk_at dksX0_facing_0 22 rfl rfl)
theorem dX0_facing_23 : decode cX0_facing 23 = .ok (.if_icmp .ge 5, 3) := dk_162 0 5 (dk_at dksX0_facing_1 0 rfl rfl)
theorem dX0_facing_26 : decode cX0_facing 26 = .ok (.iconst (-1), 1) := dk_2 (dk_at dksX0_facing_1 3 rfl rfl)
theorem dX0_facing_27 : decode cX0_facing 27 = .ok (.ireturn, 1) := dk_172 (dk_at dksX0_facing_1 4 rfl rfl)
theorem dX0_facing_28 : decode cX0_facing 28 = .ok (.iconst 0, 1) := dk_3 (dk_at dksX0_facing_1 5 rfl rfl)
theorem dX0_facing_29 : decode cX0_facing 29 = .ok (.istore 4, 2) := dk_54 4 (dk_at dksX0_facing_1 6 rfl rfl)
theorem dX0_facing_31 : decode cX0_facing 31 = .ok (.iconst 1, 1) := dk_4 (dk_at dksX0_facing_1 8 rfl rfl)
theorem dX0_facing_32 : decode cX0_facing 32 = .ok (.istore 5, 2) := dk_54 5 (dk_at dksX0_facing_1 9 rfl rfl)
theorem dX0_facing_34 : decode cX0_facing 34 = .ok (.aload_n 0, 1) := dk_42 (dk_at dksX0_facing_1 11 rfl rfl)
theorem dX0_facing_35 : decode cX0_facing 35 = .ok (.getfield 72, 3) := dk_180 0 72 (dk_at dksX0_facing_1 12 rfl rfl)
theorem dX0_facing_38 : decode cX0_facing 38 = .ok (.iload_n 1, 1) := dk_27 (dk_at dksX0_facing_1 15 rfl rfl)
theorem dX0_facing_39 : decode cX0_facing 39 = .ok (.aload_n 0, 1) := dk_42 (dk_at dksX0_facing_1 16 rfl rfl)
theorem dX0_facing_40 : decode cX0_facing 40 = .ok (.getfield 51, 3) := dk_180 0 51 (dk_at dksX0_facing_1 17 rfl rfl)
theorem dX0_facing_43 : decode cX0_facing 43 = .ok (.getfield 158, 3) := dk_180 0 158 (dk_at dksX0_facing_1 20 rfl rfl)
theorem dX0_facing_46 : decode cX0_facing 46 = .ok (.invokevirtual 242, 3) := dk_182 0 242 (dk_at dksX0_facing_2 0 rfl rfl)
theorem dX0_facing_49 : decode cX0_facing 49 = .ok (.iload 5, 2) := dk_21 5 (dk_at dksX0_facing_2 3 rfl rfl)
theorem dX0_facing_51 : decode cX0_facing 51 = .ok (.ifCond .eq 77, 3) := dk_153 0 77 (dk_at dksX0_facing_2 5 rfl rfl)
theorem dX0_facing_54 : decode cX0_facing 54 = .ok (.iload 4, 2) := dk_21 4 (dk_at dksX0_facing_2 8 rfl rfl)
theorem dX0_facing_56 : decode cX0_facing 56 = .ok (.bipush 20, 2) := dk_16 20 (dk_at dksX0_facing_2 10 rfl rfl)
theorem dX0_facing_58 : decode cX0_facing 58 = .ok (.if_icmp .ge 70, 3) := dk_162 0 70 (dk_at dksX0_facing_2 12 rfl rfl)
theorem dX0_facing_61 : decode cX0_facing 61 = .ok (.aload_n 0, 1) := dk_42 (dk_at dksX0_facing_2 15 rfl rfl)
theorem dX0_facing_62 : decode cX0_facing 62 = .ok (.getfield 72, 3) := dk_180 0 72 (dk_at dksX0_facing_2 16 rfl rfl)
theorem dX0_facing_65 : decode cX0_facing 65 = .ok (.aload_n 0, 1) := dk_42 (dk_at dksX0_facing_2 19 rfl rfl)
theorem dX0_facing_66 : decode cX0_facing 66 = .ok (.getfield 51, 3) := dk_180 0 51 (dk_at dksX0_facing_2 20 rfl rfl)
theorem dX0_facing_69 : decode cX0_facing 69 = .ok (.invokevirtual 249, 3) := dk_182 0 249 (dk_at dksX0_facing_3 0 rfl rfl)
theorem dX0_facing_72 : decode cX0_facing 72 = .ok (.ifCond .lt 56, 3) := dk_155 0 56 (dk_at dksX0_facing_3 3 rfl rfl)
theorem dX0_facing_75 : decode cX0_facing 75 = .ok (.iload 4, 2) := dk_21 4 (dk_at dksX0_facing_3 6 rfl rfl)
theorem dX0_facing_77 : decode cX0_facing 77 = .ok (.iload_n 3, 1) := dk_29 (dk_at dksX0_facing_3 8 rfl rfl)
theorem dX0_facing_78 : decode cX0_facing 78 = .ok (.if_icmp .ne 15, 3) := dk_160 0 15 (dk_at dksX0_facing_3 9 rfl rfl)
theorem dX0_facing_81 : decode cX0_facing 81 = .ok (.aload_n 0, 1) := dk_42 (dk_at dksX0_facing_3 12 rfl rfl)
theorem dX0_facing_82 : decode cX0_facing 82 = .ok (.getfield 72, 3) := dk_180 0 72 (dk_at dksX0_facing_3 13 rfl rfl)
theorem dX0_facing_85 : decode cX0_facing 85 = .ok (.aload_n 0, 1) := dk_42 (dk_at dksX0_facing_3 16 rfl rfl)
theorem dX0_facing_86 : decode cX0_facing 86 = .ok (.getfield 51, 3) := dk_180 0 51 (dk_at dksX0_facing_3 17 rfl rfl)
theorem dX0_facing_89 : decode cX0_facing 89 = .ok (.invokevirtual 249, 3) := dk_182 0 249 (dk_at dksX0_facing_3 20 rfl rfl)
theorem dX0_facing_92 : decode cX0_facing 92 = .ok (.ireturn, 1) := dk_172 (dk_at dksX0_facing_3 23 rfl rfl)
theorem dX0_facing_93 : decode cX0_facing 93 = .ok (.iinc 4 1, 3) := dk_132 4 1 (dk_at dksX0_facing_4 0 rfl rfl)
theorem dX0_facing_96 : decode cX0_facing 96 = .ok (.aload_n 0, 1) := dk_42 (dk_at dksX0_facing_4 3 rfl rfl)
theorem dX0_facing_97 : decode cX0_facing 97 = .ok (.getfield 72, 3) := dk_180 0 72 (dk_at dksX0_facing_4 4 rfl rfl)
theorem dX0_facing_100 : decode cX0_facing 100 = .ok (.aload_n 0, 1) := dk_42 (dk_at dksX0_facing_4 7 rfl rfl)
theorem dX0_facing_101 : decode cX0_facing 101 = .ok (.getfield 51, 3) := dk_180 0 51 (dk_at dksX0_facing_4 8 rfl rfl)
theorem dX0_facing_104 : decode cX0_facing 104 = .ok (.aload_n 0, 1) := dk_42 (dk_at dksX0_facing_4 11 rfl rfl)
theorem dX0_facing_105 : decode cX0_facing 105 = .ok (.getfield 72, 3) := dk_180 0 72 (dk_at dksX0_facing_4 12 rfl rfl)
theorem dX0_facing_108 : decode cX0_facing 108 = .ok (.getfield 252, 3) := dk_180 0 252 (dk_at dksX0_facing_4 15 rfl rfl)
theorem dX0_facing_111 : decode cX0_facing 111 = .ok (.iload_n 1, 1) := dk_27 (dk_at dksX0_facing_4 18 rfl rfl)
theorem dX0_facing_112 : decode cX0_facing 112 = .ok (.if_icmp .ne 7, 3) := dk_160 0 7 (dk_at dksX0_facing_4 19 rfl rfl)
theorem dX0_facing_115 : decode cX0_facing 115 = .ok (.iload_n 2, 1) := dk_28 (dk_at dksX0_facing_4 22 rfl rfl)
theorem dX0_facing_116 : decode cX0_facing 116 = .ok (.goto 4, 3) := dk_167 0 4 (dk_at dksX0_facing_5 0 rfl rfl)
theorem dX0_facing_119 : decode cX0_facing 119 = .ok (.iload_n 1, 1) := dk_27 (dk_at dksX0_facing_5 3 rfl rfl)
theorem dX0_facing_120 : decode cX0_facing 120 = .ok (.invokevirtual 245, 3) := dk_182 0 245 (dk_at dksX0_facing_5 4 rfl rfl)
theorem dX0_facing_123 : decode cX0_facing 123 = .ok (.istore 5, 2) := dk_54 5 (dk_at dksX0_facing_5 7 rfl rfl)
theorem dX0_facing_125 : decode cX0_facing 125 = .ok (.goto (-76), 3) := dk_167 255 180 (dk_at dksX0_facing_5 9 rfl rfl)
theorem dX0_facing_128 : decode cX0_facing 128 = .ok (.iload_n 3, 1) := dk_29 (dk_at dksX0_facing_5 12 rfl rfl)
theorem dX0_facing_129 : decode cX0_facing 129 = .ok (.iconst (-1), 1) := dk_2 (dk_at dksX0_facing_5 13 rfl rfl)
theorem dX0_facing_130 : decode cX0_facing 130 = .ok (.if_icmp .ne 8, 3) := dk_160 0 8 (dk_at dksX0_facing_5 14 rfl rfl)
theorem dX0_facing_133 : decode cX0_facing 133 = .ok (.iload 4, 2) := dk_21 4 (dk_at dksX0_facing_5 17 rfl rfl)
theorem dX0_facing_135 : decode cX0_facing 135 = .ok (.goto 4, 3) := dk_167 0 4 (dk_at dksX0_facing_5 19 rfl rfl)
theorem dX0_facing_138 : decode cX0_facing 138 = .ok (.iconst (-1), 1) := dk_2 (dk_at dksX0_facing_5 22 rfl rfl)
theorem dX0_facing_139 : decode cX0_facing 139 = .ok (.ireturn, 1) := dk_172 (dk_at dksX0_facing_5 23 rfl rfl)
abbrev cX0_last : ByteArray := prog_1_method_30_code
def yX0_last : MethodName := ⟨RX0, "last", "(II)I"⟩
def dkwX0_last_2 : List UInt8 := [132, 3, 255, 167, 255, 234, 29, 156, 0, 8, 16, 254, 167, 0, 4, 29, 172]
abbrev dktX0_last_2 : List UInt8 := dkwX0_last_2 ++ []
def dkwX0_last_1 : List UInt8 := [180, 0, 158, 62, 29, 155, 0, 24, 42, 180, 0, 51, 180, 0, 168, 27, 50, 29, 51, 28, 159, 0, 9]
abbrev dktX0_last_1 : List UInt8 := dkwX0_last_1 ++ dktX0_last_2
def dkwX0_last_0 : List UInt8 := [42, 27, 182, 0, 161, 153, 0, 11, 42, 28, 182, 0, 236, 154, 0, 5, 2, 172, 42, 180, 0, 51]
abbrev dktX0_last_0 : List UInt8 := dkwX0_last_0 ++ dktX0_last_1
theorem dksX0_last_0 : cX0_last.data.toList.drop 0 = dktX0_last_0 := by decide +kernel
theorem dksX0_last_1 : cX0_last.data.toList.drop 22 = dktX0_last_1 := dk_seg dksX0_last_0 22 rfl rfl
theorem dksX0_last_2 : cX0_last.data.toList.drop 45 = dktX0_last_2 := dk_seg dksX0_last_1 23 rfl rfl
theorem dX0_last_0 : decode cX0_last 0 = .ok (.aload_n 0, 1) := dk_42 (dk_at dksX0_last_0 0 rfl rfl)
theorem dX0_last_1 : decode cX0_last 1 = .ok (.iload_n 1, 1) := dk_27 (dk_at dksX0_last_0 1 rfl rfl)
theorem dX0_last_2 : decode cX0_last 2 = .ok (.invokevirtual 161, 3) := dk_182 0 161 (dk_at dksX0_last_0 2 rfl rfl)
theorem dX0_last_5 : decode cX0_last 5 = .ok (.ifCond .eq 11, 3) := dk_153 0 11 (dk_at dksX0_last_0 5 rfl rfl)
theorem dX0_last_8 : decode cX0_last 8 = .ok (.aload_n 0, 1) := dk_42 (dk_at dksX0_last_0 8 rfl rfl)
theorem dX0_last_9 : decode cX0_last 9 = .ok (.iload_n 2, 1) := dk_28 (dk_at dksX0_last_0 9 rfl rfl)
theorem dX0_last_10 : decode cX0_last 10 = .ok (.invokevirtual 236, 3) := dk_182 0 236 (dk_at dksX0_last_0 10 rfl rfl)
theorem dX0_last_13 : decode cX0_last 13 = .ok (.ifCond .ne 5, 3) := dk_154 0 5 (dk_at dksX0_last_0 13 rfl rfl)
theorem dX0_last_16 : decode cX0_last 16 = .ok (.iconst (-1), 1) := dk_2 (dk_at dksX0_last_0 16 rfl rfl)
theorem dX0_last_17 : decode cX0_last 17 = .ok (.ireturn, 1) := dk_172 (dk_at dksX0_last_0 17 rfl rfl)
theorem dX0_last_18 : decode cX0_last 18 = .ok (.aload_n 0, 1) := dk_42 (dk_at dksX0_last_0 18 rfl rfl)
theorem dX0_last_19 : decode cX0_last 19 = .ok (.getfield 51, 3) := dk_180 0 51 (dk_at dksX0_last_0 19 rfl rfl)
theorem dX0_last_22 : decode cX0_last 22 = .ok (.getfield 158, 3) := dk_180 0 158 (dk_at dksX0_last_1 0 rfl rfl)
theorem dX0_last_25 : decode cX0_last 25 = .ok (.istore_n 3, 1) := dk_62 (dk_at dksX0_last_1 3 rfl rfl)
theorem dX0_last_26 : decode cX0_last 26 = .ok (.iload_n 3, 1) := dk_29 (dk_at dksX0_last_1 4 rfl rfl)
theorem dX0_last_27 : decode cX0_last 27 = .ok (.ifCond .lt 24, 3) := dk_155 0 24 (dk_at dksX0_last_1 5 rfl rfl)
theorem dX0_last_30 : decode cX0_last 30 = .ok (.aload_n 0, 1) := dk_42 (dk_at dksX0_last_1 8 rfl rfl)
theorem dX0_last_31 : decode cX0_last 31 = .ok (.getfield 51, 3) := dk_180 0 51 (dk_at dksX0_last_1 9 rfl rfl)
theorem dX0_last_34 : decode cX0_last 34 = .ok (.getfield 168, 3) := dk_180 0 168 (dk_at dksX0_last_1 12 rfl rfl)
theorem dX0_last_37 : decode cX0_last 37 = .ok (.iload_n 1, 1) := dk_27 (dk_at dksX0_last_1 15 rfl rfl)
theorem dX0_last_38 : decode cX0_last 38 = .ok (.aaload, 1) := dk_50 (dk_at dksX0_last_1 16 rfl rfl)
theorem dX0_last_39 : decode cX0_last 39 = .ok (.iload_n 3, 1) := dk_29 (dk_at dksX0_last_1 17 rfl rfl)
theorem dX0_last_40 : decode cX0_last 40 = .ok (.baload, 1) := dk_51 (dk_at dksX0_last_1 18 rfl rfl)
theorem dX0_last_41 : decode cX0_last 41 = .ok (.iload_n 2, 1) := dk_28 (dk_at dksX0_last_1 19 rfl rfl)
theorem dX0_last_42 : decode cX0_last 42 = .ok (.if_icmp .eq 9, 3) := dk_159 0 9 (dk_at dksX0_last_1 20 rfl rfl)
theorem dX0_last_45 : decode cX0_last 45 = .ok (.iinc 3 (-1), 3) := dk_132 3 255 (dk_at dksX0_last_2 0 rfl rfl)
theorem dX0_last_48 : decode cX0_last 48 = .ok (.goto (-22), 3) := dk_167 255 234 (dk_at dksX0_last_2 3 rfl rfl)
theorem dX0_last_51 : decode cX0_last 51 = .ok (.iload_n 3, 1) := dk_29 (dk_at dksX0_last_2 6 rfl rfl)
theorem dX0_last_52 : decode cX0_last 52 = .ok (.ifCond .ge 8, 3) := dk_156 0 8 (dk_at dksX0_last_2 7 rfl rfl)
theorem dX0_last_55 : decode cX0_last 55 = .ok (.bipush (-2), 2) := dk_16 254 (dk_at dksX0_last_2 10 rfl rfl)
theorem dX0_last_57 : decode cX0_last 57 = .ok (.goto 4, 3) := dk_167 0 4 (dk_at dksX0_last_2 12 rfl rfl)
theorem dX0_last_60 : decode cX0_last 60 = .ok (.iload_n 3, 1) := dk_29 (dk_at dksX0_last_2 15 rfl rfl)
theorem dX0_last_61 : decode cX0_last 61 = .ok (.ireturn, 1) := dk_172 (dk_at dksX0_last_2 16 rfl rfl)
abbrev cX0_visits : ByteArray := prog_1_method_31_code
def yX0_visits : MethodName := ⟨RX0, "visits", "(II)I"⟩
def dkwX0_visits_5 : List UInt8 := [132, 4, 1, 167, 255, 168, 29, 172]
abbrev dktX0_visits_5 : List UInt8 := dkwX0_visits_5 ++ []
def dkwX0_visits_4 : List UInt8 := [180, 0, 51, 180, 0, 168, 27, 50, 21, 4, 4, 100, 51, 159, 0, 7, 4, 167, 0, 4, 3, 96, 62]
abbrev dktX0_visits_4 : List UInt8 := dkwX0_visits_4 ++ dktX0_visits_5
def dkwX0_visits_3 : List UInt8 := [167, 0, 45, 21, 4, 158, 0, 40, 29, 42, 180, 0, 51, 180, 0, 168, 27, 50, 21, 4, 51, 42]
abbrev dktX0_visits_3 : List UInt8 := dkwX0_visits_3 ++ dktX0_visits_4
def dkwX0_visits_2 : List UInt8 := [180, 0, 51, 180, 0, 168, 27, 50, 21, 4, 51, 28, 160, 0, 7, 4, 167, 0, 4, 3, 96, 62]
abbrev dktX0_visits_2 : List UInt8 := dkwX0_visits_2 ++ dktX0_visits_3
def dkwX0_visits_1 : List UInt8 := [3, 62, 3, 54, 4, 21, 4, 42, 180, 0, 51, 180, 0, 158, 163, 0, 82, 28, 155, 0, 30, 29, 42]
abbrev dktX0_visits_1 : List UInt8 := dkwX0_visits_1 ++ dktX0_visits_2
def dkwX0_visits_0 : List UInt8 := [42, 27, 182, 0, 161, 153, 0, 17, 28, 2, 42, 182, 0, 148, 4, 100, 184, 0, 150, 154, 0, 5, 2, 172]
abbrev dktX0_visits_0 : List UInt8 := dkwX0_visits_0 ++ dktX0_visits_1
theorem dksX0_visits_0 : cX0_visits.data.toList.drop 0 = dktX0_visits_0 := by decide +kernel
theorem dksX0_visits_1 : cX0_visits.data.toList.drop 24 = dktX0_visits_1 := dk_seg dksX0_visits_0 24 rfl rfl
theorem dksX0_visits_2 : cX0_visits.data.toList.drop 47 = dktX0_visits_2 := dk_seg dksX0_visits_1 23 rfl rfl
theorem dksX0_visits_3 : cX0_visits.data.toList.drop 69 = dktX0_visits_3 := dk_seg dksX0_visits_2 22 rfl rfl
theorem dksX0_visits_4 : cX0_visits.data.toList.drop 91 = dktX0_visits_4 := dk_seg dksX0_visits_3 22 rfl rfl
theorem dksX0_visits_5 : cX0_visits.data.toList.drop 114 = dktX0_visits_5 := dk_seg dksX0_visits_4 23 rfl rfl
theorem dX0_visits_0 : decode cX0_visits 0 = .ok (.aload_n 0, 1) := dk_42 (dk_at dksX0_visits_0 0 rfl rfl)
theorem dX0_visits_1 : decode cX0_visits 1 = .ok (.iload_n 1, 1) := dk_27 (dk_at dksX0_visits_0 1 rfl rfl)
theorem dX0_visits_2 : decode cX0_visits 2 = .ok (.invokevirtual 161, 3) := dk_182 0 161 (dk_at dksX0_visits_0 2 rfl rfl)
theorem dX0_visits_5 : decode cX0_visits 5 = .ok (.ifCond .eq 17, 3) := dk_153 0 17 (dk_at dksX0_visits_0 5 rfl rfl)
theorem dX0_visits_8 : decode cX0_visits 8 = .ok (.iload_n 2, 1) := dk_28 (dk_at dksX0_visits_0 8 rfl rfl)
theorem dX0_visits_9 : decode cX0_visits 9 = .ok (.iconst (-1), 1) := dk_2 (dk_at dksX0_visits_0 9 rfl rfl)
theorem dX0_visits_10 : decode cX0_visits 10 = .ok (.aload_n 0, 1) := dk_42 (dk_at dksX0_visits_0 10 rfl rfl)
theorem dX0_visits_11 : decode cX0_visits 11 = .ok (.invokevirtual 148, 3) := dk_182 0 148 (dk_at dksX0_visits_0 11 rfl rfl)
theorem dX0_visits_14 : decode cX0_visits 14 = .ok (.iconst 1, 1) := dk_4 (dk_at dksX0_visits_0 14 rfl rfl)
theorem dX0_visits_15 : decode cX0_visits 15 = .ok (.isub, 1) := dk_100 (dk_at dksX0_visits_0 15 rfl rfl)
theorem dX0_visits_16 : decode cX0_visits 16 = .ok (.invokestatic 150, 3) := dk_184 0 150 (dk_at dksX0_visits_0 16 rfl rfl)
theorem dX0_visits_19 : decode cX0_visits 19 = .ok (.ifCond .ne 5, 3) := dk_154 0 5 (dk_at dksX0_visits_0 19 rfl rfl)
theorem dX0_visits_22 : decode cX0_visits 22 = .ok (.iconst (-1), 1) := dk_2 (dk_at dksX0_visits_0 22 rfl rfl)
theorem dX0_visits_23 : decode cX0_visits 23 = .ok (.ireturn, 1) := dk_172 (dk_at dksX0_visits_0 23 rfl rfl)
theorem dX0_visits_24 : decode cX0_visits 24 = .ok (.iconst 0, 1) := dk_3 (dk_at dksX0_visits_1 0 rfl rfl)
theorem dX0_visits_25 : decode cX0_visits 25 = .ok (.istore_n 3, 1) := dk_62 (dk_at dksX0_visits_1 1 rfl rfl)
theorem dX0_visits_26 : decode cX0_visits 26 = .ok (.iconst 0, 1) := dk_3 (dk_at dksX0_visits_1 2 rfl rfl)
theorem dX0_visits_27 : decode cX0_visits 27 = .ok (.istore 4, 2) := dk_54 4 (dk_at dksX0_visits_1 3 rfl rfl)
theorem dX0_visits_29 : decode cX0_visits 29 = .ok (.iload 4, 2) := dk_21 4 (dk_at dksX0_visits_1 5 rfl rfl)
theorem dX0_visits_31 : decode cX0_visits 31 = .ok (.aload_n 0, 1) := dk_42 (dk_at dksX0_visits_1 7 rfl rfl)
theorem dX0_visits_32 : decode cX0_visits 32 = .ok (.getfield 51, 3) := dk_180 0 51 (dk_at dksX0_visits_1 8 rfl rfl)
theorem dX0_visits_35 : decode cX0_visits 35 = .ok (.getfield 158, 3) := dk_180 0 158 (dk_at dksX0_visits_1 11 rfl rfl)
theorem dX0_visits_38 : decode cX0_visits 38 = .ok (.if_icmp .gt 82, 3) := dk_163 0 82 (dk_at dksX0_visits_1 14 rfl rfl)
theorem dX0_visits_41 : decode cX0_visits 41 = .ok (.iload_n 2, 1) := dk_28 (dk_at dksX0_visits_1 17 rfl rfl)
theorem dX0_visits_42 : decode cX0_visits 42 = .ok (.ifCond .lt 30, 3) := dk_155 0 30 (dk_at dksX0_visits_1 18 rfl rfl)
theorem dX0_visits_45 : decode cX0_visits 45 = .ok (.iload_n 3, 1) := dk_29 (dk_at dksX0_visits_1 21 rfl rfl)
theorem dX0_visits_46 : decode cX0_visits 46 = .ok (.aload_n 0, 1) := dk_42 (dk_at dksX0_visits_1 22 rfl rfl)
theorem dX0_visits_47 : decode cX0_visits 47 = .ok (.getfield 51, 3) := dk_180 0 51 (dk_at dksX0_visits_2 0 rfl rfl)
theorem dX0_visits_50 : decode cX0_visits 50 = .ok (.getfield 168, 3) := dk_180 0 168 (dk_at dksX0_visits_2 3 rfl rfl)
theorem dX0_visits_53 : decode cX0_visits 53 = .ok (.iload_n 1, 1) := dk_27 (dk_at dksX0_visits_2 6 rfl rfl)
theorem dX0_visits_54 : decode cX0_visits 54 = .ok (.aaload, 1) := dk_50 (dk_at dksX0_visits_2 7 rfl rfl)
theorem dX0_visits_55 : decode cX0_visits 55 = .ok (.iload 4, 2) := dk_21 4 (dk_at dksX0_visits_2 8 rfl rfl)
theorem dX0_visits_57 : decode cX0_visits 57 = .ok (.baload, 1) := dk_51 (dk_at dksX0_visits_2 10 rfl rfl)
theorem dX0_visits_58 : decode cX0_visits 58 = .ok (.iload_n 2, 1) := dk_28 (dk_at dksX0_visits_2 11 rfl rfl)
theorem dX0_visits_59 : decode cX0_visits 59 = .ok (.if_icmp .ne 7, 3) := dk_160 0 7 (dk_at dksX0_visits_2 12 rfl rfl)
theorem dX0_visits_62 : decode cX0_visits 62 = .ok (.iconst 1, 1) := dk_4 (dk_at dksX0_visits_2 15 rfl rfl)
theorem dX0_visits_63 : decode cX0_visits 63 = .ok (.goto 4, 3) := dk_167 0 4 (dk_at dksX0_visits_2 16 rfl rfl)
theorem dX0_visits_66 : decode cX0_visits 66 = .ok (.iconst 0, 1) := dk_3 (dk_at dksX0_visits_2 19 rfl rfl)
theorem dX0_visits_67 : decode cX0_visits 67 = .ok (.iadd, 1) := dk_96 (dk_at dksX0_visits_2 20 rfl rfl)
theorem dX0_visits_68 : decode cX0_visits 68 = .ok (.istore_n 3, 1) := dk_62 (dk_at dksX0_visits_2 21 rfl rfl)
theorem dX0_visits_69 : decode cX0_visits 69 = .ok (.goto 45, 3) := dk_167 0 45 (dk_at dksX0_visits_3 0 rfl rfl)
theorem dX0_visits_72 : decode cX0_visits 72 = .ok (.iload 4, 2) := dk_21 4 (dk_at dksX0_visits_3 3 rfl rfl)
theorem dX0_visits_74 : decode cX0_visits 74 = .ok (.ifCond .le 40, 3) := dk_158 0 40 (dk_at dksX0_visits_3 5 rfl rfl)
theorem dX0_visits_77 : decode cX0_visits 77 = .ok (.iload_n 3, 1) := dk_29 (dk_at dksX0_visits_3 8 rfl rfl)
theorem dX0_visits_78 : decode cX0_visits 78 = .ok (.aload_n 0, 1) := dk_42 (dk_at dksX0_visits_3 9 rfl rfl)
theorem dX0_visits_79 : decode cX0_visits 79 = .ok (.getfield 51, 3) := dk_180 0 51 (dk_at dksX0_visits_3 10 rfl rfl)
theorem dX0_visits_82 : decode cX0_visits 82 = .ok (.getfield 168, 3) := dk_180 0 168 (dk_at dksX0_visits_3 13 rfl rfl)
theorem dX0_visits_85 : decode cX0_visits 85 = .ok (.iload_n 1, 1) := dk_27 (dk_at dksX0_visits_3 16 rfl rfl)
theorem dX0_visits_86 : decode cX0_visits 86 = .ok (.aaload, 1) := dk_50 (dk_at dksX0_visits_3 17 rfl rfl)
theorem dX0_visits_87 : decode cX0_visits 87 = .ok (.iload 4, 2) := dk_21 4 (dk_at dksX0_visits_3 18 rfl rfl)
theorem dX0_visits_89 : decode cX0_visits 89 = .ok (.baload, 1) := dk_51 (dk_at dksX0_visits_3 20 rfl rfl)
theorem dX0_visits_90 : decode cX0_visits 90 = .ok (.aload_n 0, 1) := dk_42 (dk_at dksX0_visits_3 21 rfl rfl)
theorem dX0_visits_91 : decode cX0_visits 91 = .ok (.getfield 51, 3) := dk_180 0 51 (dk_at dksX0_visits_4 0 rfl rfl)
theorem dX0_visits_94 : decode cX0_visits 94 = .ok (.getfield 168, 3) := dk_180 0 168 (dk_at dksX0_visits_4 3 rfl rfl)
theorem dX0_visits_97 : decode cX0_visits 97 = .ok (.iload_n 1, 1) := dk_27 (dk_at dksX0_visits_4 6 rfl rfl)
theorem dX0_visits_98 : decode cX0_visits 98 = .ok (.aaload, 1) := dk_50 (dk_at dksX0_visits_4 7 rfl rfl)
theorem dX0_visits_99 : decode cX0_visits 99 = .ok (.iload 4, 2) := dk_21 4 (dk_at dksX0_visits_4 8 rfl rfl)
theorem dX0_visits_101 : decode cX0_visits 101 = .ok (.iconst 1, 1) := dk_4 (dk_at dksX0_visits_4 10 rfl rfl)
theorem dX0_visits_102 : decode cX0_visits 102 = .ok (.isub, 1) := dk_100 (dk_at dksX0_visits_4 11 rfl rfl)
theorem dX0_visits_103 : decode cX0_visits 103 = .ok (.baload, 1) := dk_51 (dk_at dksX0_visits_4 12 rfl rfl)
theorem dX0_visits_104 : decode cX0_visits 104 = .ok (.if_icmp .eq 7, 3) := dk_159 0 7 (dk_at dksX0_visits_4 13 rfl rfl)
theorem dX0_visits_107 : decode cX0_visits 107 = .ok (.iconst 1, 1) := dk_4 (dk_at dksX0_visits_4 16 rfl rfl)
theorem dX0_visits_108 : decode cX0_visits 108 = .ok (.goto 4, 3) := dk_167 0 4 (dk_at dksX0_visits_4 17 rfl rfl)
theorem dX0_visits_111 : decode cX0_visits 111 = .ok (.iconst 0, 1) := dk_3 (dk_at dksX0_visits_4 20 rfl rfl)
theorem dX0_visits_112 : decode cX0_visits 112 = .ok (.iadd, 1) := dk_96 (dk_at dksX0_visits_4 21 rfl rfl)
theorem dX0_visits_113 : decode cX0_visits 113 = .ok (.istore_n 3, 1) := dk_62 (dk_at dksX0_visits_4 22 rfl rfl)
theorem dX0_visits_114 : decode cX0_visits 114 = .ok (.iinc 4 1, 3) := dk_132 4 1 (dk_at dksX0_visits_5 0 rfl rfl)
theorem dX0_visits_117 : decode cX0_visits 117 = .ok (.goto (-88), 3) := dk_167 255 168 (dk_at dksX0_visits_5 3 rfl rfl)
theorem dX0_visits_120 : decode cX0_visits 120 = .ok (.iload_n 3, 1) := dk_29 (dk_at dksX0_visits_5 6 rfl rfl)
theorem dX0_visits_121 : decode cX0_visits 121 = .ok (.ireturn, 1) := dk_172 (dk_at dksX0_visits_5 7 rfl rfl)
abbrev cX0_alone : ByteArray := prog_1_method_33_code
def yX0_alone : MethodName := ⟨RX0, "alone", "(IZ)I"⟩
def dkwX0_alone_3 : List UInt8 := [21, 4, 184, 1, 5, 54, 5, 132, 6, 1, 167, 255, 195, 28, 153, 0, 8, 21, 5, 167, 0, 4, 29, 172]
abbrev dktX0_alone_3 : List UInt8 := dkwX0_alone_3 ++ []
def dkwX0_alone_2 : List UInt8 := [4, 167, 0, 4, 3, 96, 62, 21, 7, 153, 0, 10, 21, 4, 4, 96, 167, 0, 4, 3, 54, 4, 21, 5]
abbrev dktX0_alone_2 : List UInt8 := dkwX0_alone_2 ++ dktX0_alone_3
def dkwX0_alone_1 : List UInt8 := [180, 0, 51, 180, 0, 158, 163, 0, 55, 42, 27, 21, 6, 182, 1, 2, 54, 7, 29, 21, 7, 153, 0, 7]
abbrev dktX0_alone_1 : List UInt8 := dkwX0_alone_1 ++ dktX0_alone_2
def dkwX0_alone_0 : List UInt8 := [42, 27, 182, 0, 161, 154, 0, 5, 2, 172, 3, 62, 3, 54, 4, 3, 54, 5, 3, 54, 6, 21, 6, 42]
abbrev dktX0_alone_0 : List UInt8 := dkwX0_alone_0 ++ dktX0_alone_1
theorem dksX0_alone_0 : cX0_alone.data.toList.drop 0 = dktX0_alone_0 := by decide +kernel
theorem dksX0_alone_1 : cX0_alone.data.toList.drop 24 = dktX0_alone_1 := dk_seg dksX0_alone_0 24 rfl rfl
theorem dksX0_alone_2 : cX0_alone.data.toList.drop 48 = dktX0_alone_2 := dk_seg dksX0_alone_1 24 rfl rfl
theorem dksX0_alone_3 : cX0_alone.data.toList.drop 72 = dktX0_alone_3 := dk_seg dksX0_alone_2 24 rfl rfl
theorem dX0_alone_0 : decode cX0_alone 0 = .ok (.aload_n 0, 1) := dk_42 (dk_at dksX0_alone_0 0 rfl rfl)
theorem dX0_alone_1 : decode cX0_alone 1 = .ok (.iload_n 1, 1) := dk_27 (dk_at dksX0_alone_0 1 rfl rfl)
theorem dX0_alone_2 : decode cX0_alone 2 = .ok (.invokevirtual 161, 3) := dk_182 0 161 (dk_at dksX0_alone_0 2 rfl rfl)
theorem dX0_alone_5 : decode cX0_alone 5 = .ok (.ifCond .ne 5, 3) := dk_154 0 5 (dk_at dksX0_alone_0 5 rfl rfl)
theorem dX0_alone_8 : decode cX0_alone 8 = .ok (.iconst (-1), 1) := dk_2 (dk_at dksX0_alone_0 8 rfl rfl)
theorem dX0_alone_9 : decode cX0_alone 9 = .ok (.ireturn, 1) := dk_172 (dk_at dksX0_alone_0 9 rfl rfl)
theorem dX0_alone_10 : decode cX0_alone 10 = .ok (.iconst 0, 1) := dk_3 (dk_at dksX0_alone_0 10 rfl rfl)
theorem dX0_alone_11 : decode cX0_alone 11 = .ok (.istore_n 3, 1) := dk_62 (dk_at dksX0_alone_0 11 rfl rfl)
theorem dX0_alone_12 : decode cX0_alone 12 = .ok (.iconst 0, 1) := dk_3 (dk_at dksX0_alone_0 12 rfl rfl)
theorem dX0_alone_13 : decode cX0_alone 13 = .ok (.istore 4, 2) := dk_54 4 (dk_at dksX0_alone_0 13 rfl rfl)
theorem dX0_alone_15 : decode cX0_alone 15 = .ok (.iconst 0, 1) := dk_3 (dk_at dksX0_alone_0 15 rfl rfl)
theorem dX0_alone_16 : decode cX0_alone 16 = .ok (.istore 5, 2) := dk_54 5 (dk_at dksX0_alone_0 16 rfl rfl)
theorem dX0_alone_18 : decode cX0_alone 18 = .ok (.iconst 0, 1) := dk_3 (dk_at dksX0_alone_0 18 rfl rfl)
theorem dX0_alone_19 : decode cX0_alone 19 = .ok (.istore 6, 2) := dk_54 6 (dk_at dksX0_alone_0 19 rfl rfl)
theorem dX0_alone_21 : decode cX0_alone 21 = .ok (.iload 6, 2) := dk_21 6 (dk_at dksX0_alone_0 21 rfl rfl)
theorem dX0_alone_23 : decode cX0_alone 23 = .ok (.aload_n 0, 1) := dk_42 (dk_at dksX0_alone_0 23 rfl rfl)
theorem dX0_alone_24 : decode cX0_alone 24 = .ok (.getfield 51, 3) := dk_180 0 51 (dk_at dksX0_alone_1 0 rfl rfl)
theorem dX0_alone_27 : decode cX0_alone 27 = .ok (.getfield 158, 3) := dk_180 0 158 (dk_at dksX0_alone_1 3 rfl rfl)
theorem dX0_alone_30 : decode cX0_alone 30 = .ok (.if_icmp .gt 55, 3) := dk_163 0 55 (dk_at dksX0_alone_1 6 rfl rfl)
theorem dX0_alone_33 : decode cX0_alone 33 = .ok (.aload_n 0, 1) := dk_42 (dk_at dksX0_alone_1 9 rfl rfl)
theorem dX0_alone_34 : decode cX0_alone 34 = .ok (.iload_n 1, 1) := dk_27 (dk_at dksX0_alone_1 10 rfl rfl)
theorem dX0_alone_35 : decode cX0_alone 35 = .ok (.iload 6, 2) := dk_21 6 (dk_at dksX0_alone_1 11 rfl rfl)
theorem dX0_alone_37 : decode cX0_alone 37 = .ok (.invokevirtual 258, 3) := dk_182 1 2 (dk_at dksX0_alone_1 13 rfl rfl)
theorem dX0_alone_40 : decode cX0_alone 40 = .ok (.istore 7, 2) := dk_54 7 (dk_at dksX0_alone_1 16 rfl rfl)
theorem dX0_alone_42 : decode cX0_alone 42 = .ok (.iload_n 3, 1) := dk_29 (dk_at dksX0_alone_1 18 rfl rfl)
theorem dX0_alone_43 : decode cX0_alone 43 = .ok (.iload 7, 2) := dk_21 7 (dk_at dksX0_alone_1 19 rfl rfl)
theorem dX0_alone_45 : decode cX0_alone 45 = .ok (.ifCond .eq 7, 3) := dk_153 0 7 (dk_at dksX0_alone_1 21 rfl rfl)
theorem dX0_alone_48 : decode cX0_alone 48 = .ok (.iconst 1, 1) := dk_4 (dk_at dksX0_alone_2 0 rfl rfl)
theorem dX0_alone_49 : decode cX0_alone 49 = .ok (.goto 4, 3) := dk_167 0 4 (dk_at dksX0_alone_2 1 rfl rfl)
theorem dX0_alone_52 : decode cX0_alone 52 = .ok (.iconst 0, 1) := dk_3 (dk_at dksX0_alone_2 4 rfl rfl)
theorem dX0_alone_53 : decode cX0_alone 53 = .ok (.iadd, 1) := dk_96 (dk_at dksX0_alone_2 5 rfl rfl)
theorem dX0_alone_54 : decode cX0_alone 54 = .ok (.istore_n 3, 1) := dk_62 (dk_at dksX0_alone_2 6 rfl rfl)
theorem dX0_alone_55 : decode cX0_alone 55 = .ok (.iload 7, 2) := dk_21 7 (dk_at dksX0_alone_2 7 rfl rfl)
theorem dX0_alone_57 : decode cX0_alone 57 = .ok (.ifCond .eq 10, 3) := dk_153 0 10 (dk_at dksX0_alone_2 9 rfl rfl)
theorem dX0_alone_60 : decode cX0_alone 60 = .ok (.iload 4, 2) := dk_21 4 (dk_at dksX0_alone_2 12 rfl rfl)
theorem dX0_alone_62 : decode cX0_alone 62 = .ok (.iconst 1, 1) := dk_4 (dk_at dksX0_alone_2 14 rfl rfl)
theorem dX0_alone_63 : decode cX0_alone 63 = .ok (.iadd, 1) := dk_96 (dk_at dksX0_alone_2 15 rfl rfl)
theorem dX0_alone_64 : decode cX0_alone 64 = .ok (.goto 4, 3) := dk_167 0 4 (dk_at dksX0_alone_2 16 rfl rfl)
theorem dX0_alone_67 : decode cX0_alone 67 = .ok (.iconst 0, 1) := dk_3 (dk_at dksX0_alone_2 19 rfl rfl)
theorem dX0_alone_68 : decode cX0_alone 68 = .ok (.istore 4, 2) := dk_54 4 (dk_at dksX0_alone_2 20 rfl rfl)
theorem dX0_alone_70 : decode cX0_alone 70 = .ok (.iload 5, 2) := dk_21 5 (dk_at dksX0_alone_2 22 rfl rfl)
theorem dX0_alone_72 : decode cX0_alone 72 = .ok (.iload 4, 2) := dk_21 4 (dk_at dksX0_alone_3 0 rfl rfl)
theorem dX0_alone_74 : decode cX0_alone 74 = .ok (.invokestatic 261, 3) := dk_184 1 5 (dk_at dksX0_alone_3 2 rfl rfl)
theorem dX0_alone_77 : decode cX0_alone 77 = .ok (.istore 5, 2) := dk_54 5 (dk_at dksX0_alone_3 5 rfl rfl)
theorem dX0_alone_79 : decode cX0_alone 79 = .ok (.iinc 6 1, 3) := dk_132 6 1 (dk_at dksX0_alone_3 7 rfl rfl)
theorem dX0_alone_82 : decode cX0_alone 82 = .ok (.goto (-61), 3) := dk_167 255 195 (dk_at dksX0_alone_3 10 rfl rfl)
theorem dX0_alone_85 : decode cX0_alone 85 = .ok (.iload_n 2, 1) := dk_28 (dk_at dksX0_alone_3 13 rfl rfl)
theorem dX0_alone_86 : decode cX0_alone 86 = .ok (.ifCond .eq 8, 3) := dk_153 0 8 (dk_at dksX0_alone_3 14 rfl rfl)
theorem dX0_alone_89 : decode cX0_alone 89 = .ok (.iload 5, 2) := dk_21 5 (dk_at dksX0_alone_3 17 rfl rfl)
theorem dX0_alone_91 : decode cX0_alone 91 = .ok (.goto 4, 3) := dk_167 0 4 (dk_at dksX0_alone_3 19 rfl rfl)
theorem dX0_alone_94 : decode cX0_alone 94 = .ok (.iload_n 3, 1) := dk_29 (dk_at dksX0_alone_3 22 rfl rfl)
theorem dX0_alone_95 : decode cX0_alone 95 = .ok (.ireturn, 1) := dk_172 (dk_at dksX0_alone_3 23 rfl rfl)
abbrev cX0_isAlone : ByteArray := prog_1_method_32_code
def yX0_isAlone : MethodName := ⟨RX0, "isAlone", "(II)Z"⟩
def dkwX0_isAlone_1 : List UInt8 := [27, 120, 160, 0, 7, 4, 167, 0, 4, 3, 172]
abbrev dktX0_isAlone_1 : List UInt8 := dkwX0_isAlone_1 ++ []
def dkwX0_isAlone_0 : List UInt8 := [42, 180, 0, 51, 42, 180, 0, 40, 42, 180, 0, 51, 180, 0, 168, 27, 50, 28, 51, 28, 182, 0, 255, 4]
abbrev dktX0_isAlone_0 : List UInt8 := dkwX0_isAlone_0 ++ dktX0_isAlone_1
theorem dksX0_isAlone_0 : cX0_isAlone.data.toList.drop 0 = dktX0_isAlone_0 := by decide +kernel
theorem dksX0_isAlone_1 : cX0_isAlone.data.toList.drop 24 = dktX0_isAlone_1 := dk_seg dksX0_isAlone_0 24 rfl rfl
theorem dX0_isAlone_0 : decode cX0_isAlone 0 = .ok (.aload_n 0, 1) := dk_42 (dk_at dksX0_isAlone_0 0 rfl rfl)
theorem dX0_isAlone_1 : decode cX0_isAlone 1 = .ok (.getfield 51, 3) := dk_180 0 51 (dk_at dksX0_isAlone_0 1 rfl rfl)
theorem dX0_isAlone_4 : decode cX0_isAlone 4 = .ok (.aload_n 0, 1) := dk_42 (dk_at dksX0_isAlone_0 4 rfl rfl)
theorem dX0_isAlone_5 : decode cX0_isAlone 5 = .ok (.getfield 40, 3) := dk_180 0 40 (dk_at dksX0_isAlone_0 5 rfl rfl)
theorem dX0_isAlone_8 : decode cX0_isAlone 8 = .ok (.aload_n 0, 1) := dk_42 (dk_at dksX0_isAlone_0 8 rfl rfl)
theorem dX0_isAlone_9 : decode cX0_isAlone 9 = .ok (.getfield 51, 3) := dk_180 0 51 (dk_at dksX0_isAlone_0 9 rfl rfl)
theorem dX0_isAlone_12 : decode cX0_isAlone 12 = .ok (.getfield 168, 3) := dk_180 0 168 (dk_at dksX0_isAlone_0 12 rfl rfl)
theorem dX0_isAlone_15 : decode cX0_isAlone 15 = .ok (.iload_n 1, 1) := dk_27 (dk_at dksX0_isAlone_0 15 rfl rfl)
theorem dX0_isAlone_16 : decode cX0_isAlone 16 = .ok (.aaload, 1) := dk_50 (dk_at dksX0_isAlone_0 16 rfl rfl)
theorem dX0_isAlone_17 : decode cX0_isAlone 17 = .ok (.iload_n 2, 1) := dk_28 (dk_at dksX0_isAlone_0 17 rfl rfl)
theorem dX0_isAlone_18 : decode cX0_isAlone 18 = .ok (.baload, 1) := dk_51 (dk_at dksX0_isAlone_0 18 rfl rfl)
theorem dX0_isAlone_19 : decode cX0_isAlone 19 = .ok (.iload_n 2, 1) := dk_28 (dk_at dksX0_isAlone_0 19 rfl rfl)
theorem dX0_isAlone_20 : decode cX0_isAlone 20 = .ok (.invokevirtual 255, 3) := dk_182 0 255 (dk_at dksX0_isAlone_0 20 rfl rfl)
theorem dX0_isAlone_23 : decode cX0_isAlone 23 = .ok (.iconst 1, 1) := dk_4 (dk_at dksX0_isAlone_0 23 rfl rfl)
theorem dX0_isAlone_24 : decode cX0_isAlone 24 = .ok (.iload_n 1, 1) := dk_27 (dk_at dksX0_isAlone_1 0 rfl rfl)
theorem dX0_isAlone_25 : decode cX0_isAlone 25 = .ok (.ishl, 1) := dk_120 (dk_at dksX0_isAlone_1 1 rfl rfl)
theorem dX0_isAlone_26 : decode cX0_isAlone 26 = .ok (.if_icmp .ne 7, 3) := dk_160 0 7 (dk_at dksX0_isAlone_1 2 rfl rfl)
theorem dX0_isAlone_29 : decode cX0_isAlone 29 = .ok (.iconst 1, 1) := dk_4 (dk_at dksX0_isAlone_1 5 rfl rfl)
theorem dX0_isAlone_30 : decode cX0_isAlone 30 = .ok (.goto 4, 3) := dk_167 0 4 (dk_at dksX0_isAlone_1 6 rfl rfl)
theorem dX0_isAlone_33 : decode cX0_isAlone 33 = .ok (.iconst 0, 1) := dk_3 (dk_at dksX0_isAlone_1 9 rfl rfl)
theorem dX0_isAlone_34 : decode cX0_isAlone 34 = .ok (.ireturn, 1) := dk_172 (dk_at dksX0_isAlone_1 10 rfl rfl)
abbrev cX0_lonely : ByteArray := prog_1_method_34_code
def yX0_lonely : MethodName := ⟨RX0, "lonely", "()I"⟩
def dkwX0_lonely_1 : List UInt8 := [27, 3, 182, 1, 8, 164, 0, 5, 28, 60, 132, 2, 1, 167, 255, 224, 27, 172]
abbrev dktX0_lonely_1 : List UInt8 := dkwX0_lonely_1 ++ []
def dkwX0_lonely_0 : List UInt8 := [16, 254, 60, 3, 61, 28, 42, 182, 0, 154, 162, 0, 30, 27, 155, 0, 18, 42, 28, 3, 182, 1, 8, 42]
abbrev dktX0_lonely_0 : List UInt8 := dkwX0_lonely_0 ++ dktX0_lonely_1
theorem dksX0_lonely_0 : cX0_lonely.data.toList.drop 0 = dktX0_lonely_0 := by decide +kernel
theorem dksX0_lonely_1 : cX0_lonely.data.toList.drop 24 = dktX0_lonely_1 := dk_seg dksX0_lonely_0 24 rfl rfl
theorem dX0_lonely_0 : decode cX0_lonely 0 = .ok (.bipush (-2), 2) := dk_16 254 (dk_at dksX0_lonely_0 0 rfl rfl)
theorem dX0_lonely_2 : decode cX0_lonely 2 = .ok (.istore_n 1, 1) := dk_60 (dk_at dksX0_lonely_0 2 rfl rfl)
theorem dX0_lonely_3 : decode cX0_lonely 3 = .ok (.iconst 0, 1) := dk_3 (dk_at dksX0_lonely_0 3 rfl rfl)
theorem dX0_lonely_4 : decode cX0_lonely 4 = .ok (.istore_n 2, 1) := dk_61 (dk_at dksX0_lonely_0 4 rfl rfl)
theorem dX0_lonely_5 : decode cX0_lonely 5 = .ok (.iload_n 2, 1) := dk_28 (dk_at dksX0_lonely_0 5 rfl rfl)
theorem dX0_lonely_6 : decode cX0_lonely 6 = .ok (.aload_n 0, 1) := dk_42 (dk_at dksX0_lonely_0 6 rfl rfl)
theorem dX0_lonely_7 : decode cX0_lonely 7 = .ok (.invokevirtual 154, 3) := dk_182 0 154 (dk_at dksX0_lonely_0 7 rfl rfl)
theorem dX0_lonely_10 : decode cX0_lonely 10 = .ok (.if_icmp .ge 30, 3) := dk_162 0 30 (dk_at dksX0_lonely_0 10 rfl rfl)
theorem dX0_lonely_13 : decode cX0_lonely 13 = .ok (.iload_n 1, 1) := dk_27 (dk_at dksX0_lonely_0 13 rfl rfl)
theorem dX0_lonely_14 : decode cX0_lonely 14 = .ok (.ifCond .lt 18, 3) := dk_155 0 18 (dk_at dksX0_lonely_0 14 rfl rfl)
theorem dX0_lonely_17 : decode cX0_lonely 17 = .ok (.aload_n 0, 1) := dk_42 (dk_at dksX0_lonely_0 17 rfl rfl)
theorem dX0_lonely_18 : decode cX0_lonely 18 = .ok (.iload_n 2, 1) := dk_28 (dk_at dksX0_lonely_0 18 rfl rfl)
theorem dX0_lonely_19 : decode cX0_lonely 19 = .ok (.iconst 0, 1) := dk_3 (dk_at dksX0_lonely_0 19 rfl rfl)
theorem dX0_lonely_20 : decode cX0_lonely 20 = .ok (.invokevirtual 264, 3) := dk_182 1 8 (dk_at dksX0_lonely_0 20 rfl rfl)
theorem dX0_lonely_23 : decode cX0_lonely 23 = .ok (.aload_n 0, 1) := dk_42 (dk_at dksX0_lonely_0 23 rfl rfl)
theorem dX0_lonely_24 : decode cX0_lonely 24 = .ok (.iload_n 1, 1) := dk_27 (dk_at dksX0_lonely_1 0 rfl rfl)
theorem dX0_lonely_25 : decode cX0_lonely 25 = .ok (.iconst 0, 1) := dk_3 (dk_at dksX0_lonely_1 1 rfl rfl)
theorem dX0_lonely_26 : decode cX0_lonely 26 = .ok (.invokevirtual 264, 3) := dk_182 1 8 (dk_at dksX0_lonely_1 2 rfl rfl)
theorem dX0_lonely_29 : decode cX0_lonely 29 = .ok (.if_icmp .le 5, 3) := dk_164 0 5 (dk_at dksX0_lonely_1 5 rfl rfl)
theorem dX0_lonely_32 : decode cX0_lonely 32 = .ok (.iload_n 2, 1) := dk_28 (dk_at dksX0_lonely_1 8 rfl rfl)
theorem dX0_lonely_33 : decode cX0_lonely 33 = .ok (.istore_n 1, 1) := dk_60 (dk_at dksX0_lonely_1 9 rfl rfl)
theorem dX0_lonely_34 : decode cX0_lonely 34 = .ok (.iinc 2 1, 3) := dk_132 2 1 (dk_at dksX0_lonely_1 10 rfl rfl)
theorem dX0_lonely_37 : decode cX0_lonely 37 = .ok (.goto (-32), 3) := dk_167 255 224 (dk_at dksX0_lonely_1 13 rfl rfl)
theorem dX0_lonely_40 : decode cX0_lonely 40 = .ok (.iload_n 1, 1) := dk_27 (dk_at dksX0_lonely_1 16 rfl rfl)
theorem dX0_lonely_41 : decode cX0_lonely 41 = .ok (.ireturn, 1) := dk_172 (dk_at dksX0_lonely_1 17 rfl rfl)
abbrev cX0_together : ByteArray := prog_1_method_35_code
def yX0_together : MethodName := ⟨RX0, "together", "(III)I"⟩
def dkwX0_together_4 : List UInt8 := [167, 255, 204, 29, 154, 0, 8, 21, 4, 167, 0, 5, 21, 5, 172]
abbrev dktX0_together_4 : List UInt8 := dkwX0_together_4 ++ []
def dkwX0_together_3 : List UInt8 := [180, 0, 168, 28, 50, 21, 6, 51, 159, 0, 6, 167, 0, 10, 132, 4, 1, 21, 6, 54, 5, 132, 6, 1]
abbrev dktX0_together_3 : List UInt8 := dkwX0_together_3 ++ dktX0_together_4
def dkwX0_together_2 : List UInt8 := [180, 0, 158, 163, 0, 46, 42, 180, 0, 51, 180, 0, 168, 27, 50, 21, 6, 51, 42, 180, 0, 51]
abbrev dktX0_together_2 : List UInt8 := dkwX0_together_2 ++ dktX0_together_3
def dkwX0_together_1 : List UInt8 := [184, 0, 150, 154, 0, 5, 2, 172, 3, 54, 4, 16, 254, 54, 5, 3, 54, 6, 21, 6, 42, 180, 0, 51]
abbrev dktX0_together_1 : List UInt8 := dkwX0_together_1 ++ dktX0_together_2
def dkwX0_together_0 : List UInt8 := [42, 27, 182, 0, 161, 153, 0, 25, 42, 28, 182, 0, 161, 153, 0, 17, 27, 28, 159, 0, 12, 29, 3, 4]
abbrev dktX0_together_0 : List UInt8 := dkwX0_together_0 ++ dktX0_together_1
theorem dksX0_together_0 : cX0_together.data.toList.drop 0 = dktX0_together_0 := by decide +kernel
theorem dksX0_together_1 : cX0_together.data.toList.drop 24 = dktX0_together_1 := dk_seg dksX0_together_0 24 rfl rfl
theorem dksX0_together_2 : cX0_together.data.toList.drop 48 = dktX0_together_2 := dk_seg dksX0_together_1 24 rfl rfl
theorem dksX0_together_3 : cX0_together.data.toList.drop 70 = dktX0_together_3 := dk_seg dksX0_together_2 22 rfl rfl
theorem dksX0_together_4 : cX0_together.data.toList.drop 94 = dktX0_together_4 := dk_seg dksX0_together_3 24 rfl rfl
theorem dX0_together_0 : decode cX0_together 0 = .ok (.aload_n 0, 1) := dk_42 (dk_at dksX0_together_0 0 rfl rfl)
theorem dX0_together_1 : decode cX0_together 1 = .ok (.iload_n 1, 1) := dk_27 (dk_at dksX0_together_0 1 rfl rfl)
theorem dX0_together_2 : decode cX0_together 2 = .ok (.invokevirtual 161, 3) := dk_182 0 161 (dk_at dksX0_together_0 2 rfl rfl)
theorem dX0_together_5 : decode cX0_together 5 = .ok (.ifCond .eq 25, 3) := dk_153 0 25 (dk_at dksX0_together_0 5 rfl rfl)
theorem dX0_together_8 : decode cX0_together 8 = .ok (.aload_n 0, 1) := dk_42 (dk_at dksX0_together_0 8 rfl rfl)
theorem dX0_together_9 : decode cX0_together 9 = .ok (.iload_n 2, 1) := dk_28 (dk_at dksX0_together_0 9 rfl rfl)
theorem dX0_together_10 : decode cX0_together 10 = .ok (.invokevirtual 161, 3) := dk_182 0 161 (dk_at dksX0_together_0 10 rfl rfl)
theorem dX0_together_13 : decode cX0_together 13 = .ok (.ifCond .eq 17, 3) := dk_153 0 17 (dk_at dksX0_together_0 13 rfl rfl)
theorem dX0_together_16 : decode cX0_together 16 = .ok (.iload_n 1, 1) := dk_27 (dk_at dksX0_together_0 16 rfl rfl)
theorem dX0_together_17 : decode cX0_together 17 = .ok (.iload_n 2, 1) := dk_28 (dk_at dksX0_together_0 17 rfl rfl)
theorem dX0_together_18 : decode cX0_together 18 = .ok (.if_icmp .eq 12, 3) := dk_159 0 12 (dk_at dksX0_together_0 18 rfl rfl)
theorem dX0_together_21 : decode cX0_together 21 = .ok (.iload_n 3, 1) := dk_29 (dk_at dksX0_together_0 21 rfl rfl)
theorem dX0_together_22 : decode cX0_together 22 = .ok (.iconst 0, 1) := dk_3 (dk_at dksX0_together_0 22 rfl rfl)
theorem dX0_together_23 : decode cX0_together 23 = .ok (.iconst 1, 1) := dk_4 (dk_at dksX0_together_0 23 rfl rfl)
theorem dX0_together_24 : decode cX0_together 24 = .ok (.invokestatic 150, 3) := dk_184 0 150 (dk_at dksX0_together_1 0 rfl rfl)
theorem dX0_together_27 : decode cX0_together 27 = .ok (.ifCond .ne 5, 3) := dk_154 0 5 (dk_at dksX0_together_1 3 rfl rfl)
theorem dX0_together_30 : decode cX0_together 30 = .ok (.iconst (-1), 1) := dk_2 (dk_at dksX0_together_1 6 rfl rfl)
theorem dX0_together_31 : decode cX0_together 31 = .ok (.ireturn, 1) := dk_172 (dk_at dksX0_together_1 7 rfl rfl)
theorem dX0_together_32 : decode cX0_together 32 = .ok (.iconst 0, 1) := dk_3 (dk_at dksX0_together_1 8 rfl rfl)
theorem dX0_together_33 : decode cX0_together 33 = .ok (.istore 4, 2) := dk_54 4 (dk_at dksX0_together_1 9 rfl rfl)
theorem dX0_together_35 : decode cX0_together 35 = .ok (.bipush (-2), 2) := dk_16 254 (dk_at dksX0_together_1 11 rfl rfl)
theorem dX0_together_37 : decode cX0_together 37 = .ok (.istore 5, 2) := dk_54 5 (dk_at dksX0_together_1 13 rfl rfl)
theorem dX0_together_39 : decode cX0_together 39 = .ok (.iconst 0, 1) := dk_3 (dk_at dksX0_together_1 15 rfl rfl)
theorem dX0_together_40 : decode cX0_together 40 = .ok (.istore 6, 2) := dk_54 6 (dk_at dksX0_together_1 16 rfl rfl)
theorem dX0_together_42 : decode cX0_together 42 = .ok (.iload 6, 2) := dk_21 6 (dk_at dksX0_together_1 18 rfl rfl)
theorem dX0_together_44 : decode cX0_together 44 = .ok (.aload_n 0, 1) := dk_42 (dk_at dksX0_together_1 20 rfl rfl)
theorem dX0_together_45 : decode cX0_together 45 = .ok (.getfield 51, 3) := dk_180 0 51 (dk_at dksX0_together_1 21 rfl rfl)
theorem dX0_together_48 : decode cX0_together 48 = .ok (.getfield 158, 3) := dk_180 0 158 (dk_at dksX0_together_2 0 rfl rfl)
theorem dX0_together_51 : decode cX0_together 51 = .ok (.if_icmp .gt 46, 3) := dk_163 0 46 (dk_at dksX0_together_2 3 rfl rfl)
theorem dX0_together_54 : decode cX0_together 54 = .ok (.aload_n 0, 1) := dk_42 (dk_at dksX0_together_2 6 rfl rfl)
theorem dX0_together_55 : decode cX0_together 55 = .ok (.getfield 51, 3) := dk_180 0 51 (dk_at dksX0_together_2 7 rfl rfl)
theorem dX0_together_58 : decode cX0_together 58 = .ok (.getfield 168, 3) := dk_180 0 168 (dk_at dksX0_together_2 10 rfl rfl)
theorem dX0_together_61 : decode cX0_together 61 = .ok (.iload_n 1, 1) := dk_27 (dk_at dksX0_together_2 13 rfl rfl)
theorem dX0_together_62 : decode cX0_together 62 = .ok (.aaload, 1) := dk_50 (dk_at dksX0_together_2 14 rfl rfl)
theorem dX0_together_63 : decode cX0_together 63 = .ok (.iload 6, 2) := dk_21 6 (dk_at dksX0_together_2 15 rfl rfl)
theorem dX0_together_65 : decode cX0_together 65 = .ok (.baload, 1) := dk_51 (dk_at dksX0_together_2 17 rfl rfl)
theorem dX0_together_66 : decode cX0_together 66 = .ok (.aload_n 0, 1) := dk_42 (dk_at dksX0_together_2 18 rfl rfl)
theorem dX0_together_67 : decode cX0_together 67 = .ok (.getfield 51, 3) := dk_180 0 51 (dk_at dksX0_together_2 19 rfl rfl)
theorem dX0_together_70 : decode cX0_together 70 = .ok (.getfield 168, 3) := dk_180 0 168 (dk_at dksX0_together_3 0 rfl rfl)
theorem dX0_together_73 : decode cX0_together 73 = .ok (.iload_n 2, 1) := dk_28 (dk_at dksX0_together_3 3 rfl rfl)
theorem dX0_together_74 : decode cX0_together 74 = .ok (.aaload, 1) := dk_50 (dk_at dksX0_together_3 4 rfl rfl)
theorem dX0_together_75 : decode cX0_together 75 = .ok (.iload 6, 2) := dk_21 6 (dk_at dksX0_together_3 5 rfl rfl)
theorem dX0_together_77 : decode cX0_together 77 = .ok (.baload, 1) := dk_51 (dk_at dksX0_together_3 7 rfl rfl)
theorem dX0_together_78 : decode cX0_together 78 = .ok (.if_icmp .eq 6, 3) := dk_159 0 6 (dk_at dksX0_together_3 8 rfl rfl)
theorem dX0_together_81 : decode cX0_together 81 = .ok (.goto 10, 3) := dk_167 0 10 (dk_at dksX0_together_3 11 rfl rfl)
theorem dX0_together_84 : decode cX0_together 84 = .ok (.iinc 4 1, 3) := dk_132 4 1 (dk_at dksX0_together_3 14 rfl rfl)
theorem dX0_together_87 : decode cX0_together 87 = .ok (.iload 6, 2) := dk_21 6 (dk_at dksX0_together_3 17 rfl rfl)
theorem dX0_together_89 : decode cX0_together 89 = .ok (.istore 5, 2) := dk_54 5 (dk_at dksX0_together_3 19 rfl rfl)
theorem dX0_together_91 : decode cX0_together 91 = .ok (.iinc 6 1, 3) := dk_132 6 1 (dk_at dksX0_together_3 21 rfl rfl)
theorem dX0_together_94 : decode cX0_together 94 = .ok (.goto (-52), 3) := dk_167 255 204 (dk_at dksX0_together_4 0 rfl rfl)
theorem dX0_together_97 : decode cX0_together 97 = .ok (.iload_n 3, 1) := dk_29 (dk_at dksX0_together_4 3 rfl rfl)
theorem dX0_together_98 : decode cX0_together 98 = .ok (.ifCond .ne 8, 3) := dk_154 0 8 (dk_at dksX0_together_4 4 rfl rfl)
theorem dX0_together_101 : decode cX0_together 101 = .ok (.iload 4, 2) := dk_21 4 (dk_at dksX0_together_4 7 rfl rfl)
theorem dX0_together_103 : decode cX0_together 103 = .ok (.goto 5, 3) := dk_167 0 5 (dk_at dksX0_together_4 9 rfl rfl)
theorem dX0_together_106 : decode cX0_together 106 = .ok (.iload 5, 2) := dk_21 5 (dk_at dksX0_together_4 12 rfl rfl)
theorem dX0_together_108 : decode cX0_together 108 = .ok (.ireturn, 1) := dk_172 (dk_at dksX0_together_4 14 rfl rfl)
abbrev cX0_glimpses : ByteArray := prog_1_method_37_code
def yX0_glimpses : MethodName := ⟨RX0, "glimpses", "(III)I"⟩
def dkwX0_glimpses_4 : List UInt8 := [132, 6, 1, 167, 255, 201, 29, 154, 0, 8, 21, 4, 167, 0, 5, 21, 5, 172]
abbrev dktX0_glimpses_4 : List UInt8 := dkwX0_glimpses_4 ++ []
def dkwX0_glimpses_3 : List UInt8 := [28, 122, 4, 126, 154, 0, 6, 167, 0, 15, 132, 4, 1, 21, 5, 156, 0, 7, 21, 6, 54, 5]
abbrev dktX0_glimpses_3 : List UInt8 := dkwX0_glimpses_3 ++ dktX0_glimpses_4
def dkwX0_glimpses_2 : List UInt8 := [180, 0, 158, 163, 0, 49, 42, 42, 180, 0, 51, 180, 0, 168, 27, 50, 21, 6, 51, 21, 6, 182, 1, 12]
abbrev dktX0_glimpses_2 : List UInt8 := dkwX0_glimpses_2 ++ dktX0_glimpses_3
def dkwX0_glimpses_1 : List UInt8 := [184, 0, 150, 154, 0, 5, 2, 172, 3, 54, 4, 16, 254, 54, 5, 3, 54, 6, 21, 6, 42, 180, 0, 51]
abbrev dktX0_glimpses_1 : List UInt8 := dkwX0_glimpses_1 ++ dktX0_glimpses_2
def dkwX0_glimpses_0 : List UInt8 := [42, 27, 182, 0, 161, 153, 0, 25, 42, 28, 182, 0, 161, 153, 0, 17, 27, 28, 159, 0, 12, 29, 3, 4]
abbrev dktX0_glimpses_0 : List UInt8 := dkwX0_glimpses_0 ++ dktX0_glimpses_1
theorem dksX0_glimpses_0 : cX0_glimpses.data.toList.drop 0 = dktX0_glimpses_0 := by decide +kernel
theorem dksX0_glimpses_1 : cX0_glimpses.data.toList.drop 24 = dktX0_glimpses_1 := dk_seg dksX0_glimpses_0 24 rfl rfl
theorem dksX0_glimpses_2 : cX0_glimpses.data.toList.drop 48 = dktX0_glimpses_2 := dk_seg dksX0_glimpses_1 24 rfl rfl
theorem dksX0_glimpses_3 : cX0_glimpses.data.toList.drop 72 = dktX0_glimpses_3 := dk_seg dksX0_glimpses_2 24 rfl rfl
theorem dksX0_glimpses_4 : cX0_glimpses.data.toList.drop 94 = dktX0_glimpses_4 := dk_seg dksX0_glimpses_3 22 rfl rfl
theorem dX0_glimpses_0 : decode cX0_glimpses 0 = .ok (.aload_n 0, 1) := dk_42 (dk_at dksX0_glimpses_0 0 rfl rfl)
theorem dX0_glimpses_1 : decode cX0_glimpses 1 = .ok (.iload_n 1, 1) := dk_27 (dk_at dksX0_glimpses_0 1 rfl rfl)
theorem dX0_glimpses_2 : decode cX0_glimpses 2 = .ok (.invokevirtual 161, 3) := dk_182 0 161 (dk_at dksX0_glimpses_0 2 rfl rfl)
theorem dX0_glimpses_5 : decode cX0_glimpses 5 = .ok (.ifCond .eq 25, 3) := dk_153 0 25 (dk_at dksX0_glimpses_0 5 rfl rfl)
theorem dX0_glimpses_8 : decode cX0_glimpses 8 = .ok (.aload_n 0, 1) := dk_42 (dk_at dksX0_glimpses_0 8 rfl rfl)
theorem dX0_glimpses_9 : decode cX0_glimpses 9 = .ok (.iload_n 2, 1) := dk_28 (dk_at dksX0_glimpses_0 9 rfl rfl)
theorem dX0_glimpses_10 : decode cX0_glimpses 10 = .ok (.invokevirtual 161, 3) := dk_182 0 161 (dk_at dksX0_glimpses_0 10 rfl rfl)
theorem dX0_glimpses_13 : decode cX0_glimpses 13 = .ok (.ifCond .eq 17, 3) := dk_153 0 17 (dk_at dksX0_glimpses_0 13 rfl rfl)
theorem dX0_glimpses_16 : decode cX0_glimpses 16 = .ok (.iload_n 1, 1) := dk_27 (dk_at dksX0_glimpses_0 16 rfl rfl)
theorem dX0_glimpses_17 : decode cX0_glimpses 17 = .ok (.iload_n 2, 1) := dk_28 (dk_at dksX0_glimpses_0 17 rfl rfl)
theorem dX0_glimpses_18 : decode cX0_glimpses 18 = .ok (.if_icmp .eq 12, 3) := dk_159 0 12 (dk_at dksX0_glimpses_0 18 rfl rfl)
theorem dX0_glimpses_21 : decode cX0_glimpses 21 = .ok (.iload_n 3, 1) := dk_29 (dk_at dksX0_glimpses_0 21 rfl rfl)
theorem dX0_glimpses_22 : decode cX0_glimpses 22 = .ok (.iconst 0, 1) := dk_3 (dk_at dksX0_glimpses_0 22 rfl rfl)
theorem dX0_glimpses_23 : decode cX0_glimpses 23 = .ok (.iconst 1, 1) := dk_4 (dk_at dksX0_glimpses_0 23 rfl rfl)
theorem dX0_glimpses_24 : decode cX0_glimpses 24 = .ok (.invokestatic 150, 3) := dk_184 0 150 (dk_at dksX0_glimpses_1 0 rfl rfl)
theorem dX0_glimpses_27 : decode cX0_glimpses 27 = .ok (.ifCond .ne 5, 3) := dk_154 0 5 (dk_at dksX0_glimpses_1 3 rfl rfl)
theorem dX0_glimpses_30 : decode cX0_glimpses 30 = .ok (.iconst (-1), 1) := dk_2 (dk_at dksX0_glimpses_1 6 rfl rfl)
theorem dX0_glimpses_31 : decode cX0_glimpses 31 = .ok (.ireturn, 1) := dk_172 (dk_at dksX0_glimpses_1 7 rfl rfl)
theorem dX0_glimpses_32 : decode cX0_glimpses 32 = .ok (.iconst 0, 1) := dk_3 (dk_at dksX0_glimpses_1 8 rfl rfl)
theorem dX0_glimpses_33 : decode cX0_glimpses 33 = .ok (.istore 4, 2) := dk_54 4 (dk_at dksX0_glimpses_1 9 rfl rfl)
theorem dX0_glimpses_35 : decode cX0_glimpses 35 = .ok (.bipush (-2), 2) := dk_16 254 (dk_at dksX0_glimpses_1 11 rfl rfl)
theorem dX0_glimpses_37 : decode cX0_glimpses 37 = .ok (.istore 5, 2) := dk_54 5 (dk_at dksX0_glimpses_1 13 rfl rfl)
theorem dX0_glimpses_39 : decode cX0_glimpses 39 = .ok (.iconst 0, 1) := dk_3 (dk_at dksX0_glimpses_1 15 rfl rfl)
theorem dX0_glimpses_40 : decode cX0_glimpses 40 = .ok (.istore 6, 2) := dk_54 6 (dk_at dksX0_glimpses_1 16 rfl rfl)
theorem dX0_glimpses_42 : decode cX0_glimpses 42 = .ok (.iload 6, 2) := dk_21 6 (dk_at dksX0_glimpses_1 18 rfl rfl)
theorem dX0_glimpses_44 : decode cX0_glimpses 44 = .ok (.aload_n 0, 1) := dk_42 (dk_at dksX0_glimpses_1 20 rfl rfl)
theorem dX0_glimpses_45 : decode cX0_glimpses 45 = .ok (.getfield 51, 3) := dk_180 0 51 (dk_at dksX0_glimpses_1 21 rfl rfl)
theorem dX0_glimpses_48 : decode cX0_glimpses 48 = .ok (.getfield 158, 3) := dk_180 0 158 (dk_at dksX0_glimpses_2 0 rfl rfl)
theorem dX0_glimpses_51 : decode cX0_glimpses 51 = .ok (.if_icmp .gt 49, 3) := dk_163 0 49 (dk_at dksX0_glimpses_2 3 rfl rfl)
theorem dX0_glimpses_54 : decode cX0_glimpses 54 = .ok (.aload_n 0, 1) := dk_42 (dk_at dksX0_glimpses_2 6 rfl rfl)
theorem dX0_glimpses_55 : decode cX0_glimpses 55 = .ok (.aload_n 0, 1) := dk_42 (dk_at dksX0_glimpses_2 7 rfl rfl)
theorem dX0_glimpses_56 : decode cX0_glimpses 56 = .ok (.getfield 51, 3) := dk_180 0 51 (dk_at dksX0_glimpses_2 8 rfl rfl)
theorem dX0_glimpses_59 : decode cX0_glimpses 59 = .ok (.getfield 168, 3) := dk_180 0 168 (dk_at dksX0_glimpses_2 11 rfl rfl)
theorem dX0_glimpses_62 : decode cX0_glimpses 62 = .ok (.iload_n 1, 1) := dk_27 (dk_at dksX0_glimpses_2 14 rfl rfl)
theorem dX0_glimpses_63 : decode cX0_glimpses 63 = .ok (.aaload, 1) := dk_50 (dk_at dksX0_glimpses_2 15 rfl rfl)
theorem dX0_glimpses_64 : decode cX0_glimpses 64 = .ok (.iload 6, 2) := dk_21 6 (dk_at dksX0_glimpses_2 16 rfl rfl)
theorem dX0_glimpses_66 : decode cX0_glimpses 66 = .ok (.baload, 1) := dk_51 (dk_at dksX0_glimpses_2 18 rfl rfl)
theorem dX0_glimpses_67 : decode cX0_glimpses 67 = .ok (.iload 6, 2) := dk_21 6 (dk_at dksX0_glimpses_2 19 rfl rfl)
theorem dX0_glimpses_69 : decode cX0_glimpses 69 = .ok (.invokevirtual 268, 3) := dk_182 1 12 (dk_at dksX0_glimpses_2 21 rfl rfl)
theorem dX0_glimpses_72 : decode cX0_glimpses 72 = .ok (.iload_n 2, 1) := dk_28 (dk_at dksX0_glimpses_3 0 rfl rfl)
theorem dX0_glimpses_73 : decode cX0_glimpses 73 = .ok (.ishr, 1) := dk_122 (dk_at dksX0_glimpses_3 1 rfl rfl)
theorem dX0_glimpses_74 : decode cX0_glimpses 74 = .ok (.iconst 1, 1) := dk_4 (dk_at dksX0_glimpses_3 2 rfl rfl)
theorem dX0_glimpses_75 : decode cX0_glimpses 75 = .ok (.iand, 1) := dk_126 (dk_at dksX0_glimpses_3 3 rfl rfl)
theorem dX0_glimpses_76 : decode cX0_glimpses 76 = .ok (.ifCond .ne 6, 3) := dk_154 0 6 (dk_at dksX0_glimpses_3 4 rfl rfl)
theorem dX0_glimpses_79 : decode cX0_glimpses 79 = .ok (.goto 15, 3) := dk_167 0 15 (dk_at dksX0_glimpses_3 7 rfl rfl)
theorem dX0_glimpses_82 : decode cX0_glimpses 82 = .ok (.iinc 4 1, 3) := dk_132 4 1 (dk_at dksX0_glimpses_3 10 rfl rfl)
theorem dX0_glimpses_85 : decode cX0_glimpses 85 = .ok (.iload 5, 2) := dk_21 5 (dk_at dksX0_glimpses_3 13 rfl rfl)
theorem dX0_glimpses_87 : decode cX0_glimpses 87 = .ok (.ifCond .ge 7, 3) := dk_156 0 7 (dk_at dksX0_glimpses_3 15 rfl rfl)
theorem dX0_glimpses_90 : decode cX0_glimpses 90 = .ok (.iload 6, 2) := dk_21 6 (dk_at dksX0_glimpses_3 18 rfl rfl)
theorem dX0_glimpses_92 : decode cX0_glimpses 92 = .ok (.istore 5, 2) := dk_54 5 (dk_at dksX0_glimpses_3 20 rfl rfl)
theorem dX0_glimpses_94 : decode cX0_glimpses 94 = .ok (.iinc 6 1, 3) := dk_132 6 1 (dk_at dksX0_glimpses_4 0 rfl rfl)
theorem dX0_glimpses_97 : decode cX0_glimpses 97 = .ok (.goto (-55), 3) := dk_167 255 201 (dk_at dksX0_glimpses_4 3 rfl rfl)
theorem dX0_glimpses_100 : decode cX0_glimpses 100 = .ok (.iload_n 3, 1) := dk_29 (dk_at dksX0_glimpses_4 6 rfl rfl)
theorem dX0_glimpses_101 : decode cX0_glimpses 101 = .ok (.ifCond .ne 8, 3) := dk_154 0 8 (dk_at dksX0_glimpses_4 7 rfl rfl)
theorem dX0_glimpses_104 : decode cX0_glimpses 104 = .ok (.iload 4, 2) := dk_21 4 (dk_at dksX0_glimpses_4 10 rfl rfl)
theorem dX0_glimpses_106 : decode cX0_glimpses 106 = .ok (.goto 5, 3) := dk_167 0 5 (dk_at dksX0_glimpses_4 12 rfl rfl)
theorem dX0_glimpses_109 : decode cX0_glimpses 109 = .ok (.iload 5, 2) := dk_21 5 (dk_at dksX0_glimpses_4 15 rfl rfl)
theorem dX0_glimpses_111 : decode cX0_glimpses 111 = .ok (.ireturn, 1) := dk_172 (dk_at dksX0_glimpses_4 17 rfl rfl)
abbrev cX0_menFrom : ByteArray := prog_1_method_36_code
def yX0_menFrom : MethodName := ⟨RX0, "menFrom", "(II)I"⟩
def dkwX0_menFrom_2 : List UInt8 := [3, 128, 62, 132, 4, 1, 167, 255, 207, 29, 172]
abbrev dktX0_menFrom_2 : List UInt8 := dkwX0_menFrom_2 ++ []
def dkwX0_menFrom_1 : List UInt8 := [50, 28, 51, 27, 160, 0, 20, 42, 180, 0, 51, 42, 180, 0, 40, 21, 4, 28, 182, 0, 195, 167, 0, 4]
abbrev dktX0_menFrom_1 : List UInt8 := dkwX0_menFrom_1 ++ dktX0_menFrom_2
def dkwX0_menFrom_0 : List UInt8 := [3, 62, 3, 54, 4, 21, 4, 42, 182, 0, 156, 162, 0, 46, 29, 42, 180, 0, 51, 180, 0, 181, 21, 4]
abbrev dktX0_menFrom_0 : List UInt8 := dkwX0_menFrom_0 ++ dktX0_menFrom_1
theorem dksX0_menFrom_0 : cX0_menFrom.data.toList.drop 0 = dktX0_menFrom_0 := by decide +kernel
theorem dksX0_menFrom_1 : cX0_menFrom.data.toList.drop 24 = dktX0_menFrom_1 := dk_seg dksX0_menFrom_0 24 rfl rfl
theorem dksX0_menFrom_2 : cX0_menFrom.data.toList.drop 48 = dktX0_menFrom_2 := dk_seg dksX0_menFrom_1 24 rfl rfl
theorem dX0_menFrom_0 : decode cX0_menFrom 0 = .ok (.iconst 0, 1) := dk_3 (dk_at dksX0_menFrom_0 0 rfl rfl)
theorem dX0_menFrom_1 : decode cX0_menFrom 1 = .ok (.istore_n 3, 1) := dk_62 (dk_at dksX0_menFrom_0 1 rfl rfl)
theorem dX0_menFrom_2 : decode cX0_menFrom 2 = .ok (.iconst 0, 1) := dk_3 (dk_at dksX0_menFrom_0 2 rfl rfl)
theorem dX0_menFrom_3 : decode cX0_menFrom 3 = .ok (.istore 4, 2) := dk_54 4 (dk_at dksX0_menFrom_0 3 rfl rfl)
theorem dX0_menFrom_5 : decode cX0_menFrom 5 = .ok (.iload 4, 2) := dk_21 4 (dk_at dksX0_menFrom_0 5 rfl rfl)
theorem dX0_menFrom_7 : decode cX0_menFrom 7 = .ok (.aload_n 0, 1) := dk_42 (dk_at dksX0_menFrom_0 7 rfl rfl)
theorem dX0_menFrom_8 : decode cX0_menFrom 8 = .ok (.invokevirtual 156, 3) := dk_182 0 156 (dk_at dksX0_menFrom_0 8 rfl rfl)
theorem dX0_menFrom_11 : decode cX0_menFrom 11 = .ok (.if_icmp .ge 46, 3) := dk_162 0 46 (dk_at dksX0_menFrom_0 11 rfl rfl)
theorem dX0_menFrom_14 : decode cX0_menFrom 14 = .ok (.iload_n 3, 1) := dk_29 (dk_at dksX0_menFrom_0 14 rfl rfl)
theorem dX0_menFrom_15 : decode cX0_menFrom 15 = .ok (.aload_n 0, 1) := dk_42 (dk_at dksX0_menFrom_0 15 rfl rfl)
theorem dX0_menFrom_16 : decode cX0_menFrom 16 = .ok (.getfield 51, 3) := dk_180 0 51 (dk_at dksX0_menFrom_0 16 rfl rfl)
theorem dX0_menFrom_19 : decode cX0_menFrom 19 = .ok (.getfield 181, 3) := dk_180 0 181 (dk_at dksX0_menFrom_0 19 rfl rfl)
theorem dX0_menFrom_22 : decode cX0_menFrom 22 = .ok (.iload 4, 2) := dk_21 4 (dk_at dksX0_menFrom_0 22 rfl rfl)
theorem dX0_menFrom_24 : decode cX0_menFrom 24 = .ok (.aaload, 1) := dk_50 (dk_at dksX0_menFrom_1 0 rfl rfl)
theorem dX0_menFrom_25 : decode cX0_menFrom 25 = .ok (.iload_n 2, 1) := dk_28 (dk_at dksX0_menFrom_1 1 rfl rfl)
theorem dX0_menFrom_26 : decode cX0_menFrom 26 = .ok (.baload, 1) := dk_51 (dk_at dksX0_menFrom_1 2 rfl rfl)
theorem dX0_menFrom_27 : decode cX0_menFrom 27 = .ok (.iload_n 1, 1) := dk_27 (dk_at dksX0_menFrom_1 3 rfl rfl)
theorem dX0_menFrom_28 : decode cX0_menFrom 28 = .ok (.if_icmp .ne 20, 3) := dk_160 0 20 (dk_at dksX0_menFrom_1 4 rfl rfl)
theorem dX0_menFrom_31 : decode cX0_menFrom 31 = .ok (.aload_n 0, 1) := dk_42 (dk_at dksX0_menFrom_1 7 rfl rfl)
theorem dX0_menFrom_32 : decode cX0_menFrom 32 = .ok (.getfield 51, 3) := dk_180 0 51 (dk_at dksX0_menFrom_1 8 rfl rfl)
theorem dX0_menFrom_35 : decode cX0_menFrom 35 = .ok (.aload_n 0, 1) := dk_42 (dk_at dksX0_menFrom_1 11 rfl rfl)
theorem dX0_menFrom_36 : decode cX0_menFrom 36 = .ok (.getfield 40, 3) := dk_180 0 40 (dk_at dksX0_menFrom_1 12 rfl rfl)
theorem dX0_menFrom_39 : decode cX0_menFrom 39 = .ok (.iload 4, 2) := dk_21 4 (dk_at dksX0_menFrom_1 15 rfl rfl)
theorem dX0_menFrom_41 : decode cX0_menFrom 41 = .ok (.iload_n 2, 1) := dk_28 (dk_at dksX0_menFrom_1 17 rfl rfl)
theorem dX0_menFrom_42 : decode cX0_menFrom 42 = .ok (.invokevirtual 195, 3) := dk_182 0 195 (dk_at dksX0_menFrom_1 18 rfl rfl)
theorem dX0_menFrom_45 : decode cX0_menFrom 45 = .ok (.goto 4, 3) := dk_167 0 4 (dk_at dksX0_menFrom_1 21 rfl rfl)
theorem dX0_menFrom_48 : decode cX0_menFrom 48 = .ok (.iconst 0, 1) := dk_3 (dk_at dksX0_menFrom_2 0 rfl rfl)
theorem dX0_menFrom_49 : decode cX0_menFrom 49 = .ok (.ior, 1) := dk_128 (dk_at dksX0_menFrom_2 1 rfl rfl)
theorem dX0_menFrom_50 : decode cX0_menFrom 50 = .ok (.istore_n 3, 1) := dk_62 (dk_at dksX0_menFrom_2 2 rfl rfl)
theorem dX0_menFrom_51 : decode cX0_menFrom 51 = .ok (.iinc 4 1, 3) := dk_132 4 1 (dk_at dksX0_menFrom_2 3 rfl rfl)
theorem dX0_menFrom_54 : decode cX0_menFrom 54 = .ok (.goto (-49), 3) := dk_167 255 207 (dk_at dksX0_menFrom_2 6 rfl rfl)
theorem dX0_menFrom_57 : decode cX0_menFrom 57 = .ok (.iload_n 3, 1) := dk_29 (dk_at dksX0_menFrom_2 9 rfl rfl)
theorem dX0_menFrom_58 : decode cX0_menFrom 58 = .ok (.ireturn, 1) := dk_172 (dk_at dksX0_menFrom_2 10 rfl rfl)
abbrev cX0_ghosts : ByteArray := prog_1_method_38_code
def yX0_ghosts : MethodName := ⟨RX0, "ghosts", "(I)I"⟩
def dkwX0_ghosts_5 : List UInt8 := [29, 182, 0, 255, 2, 130, 126, 128, 61, 132, 4, 1, 167, 255, 151, 28, 172]
abbrev dktX0_ghosts_5 : List UInt8 := dkwX0_ghosts_5 ++ []
def dkwX0_ghosts_4 : List UInt8 := [182, 0, 255, 42, 180, 0, 51, 42, 180, 0, 40, 42, 180, 0, 51, 180, 0, 181, 21, 4, 50, 21, 5, 51]
abbrev dktX0_ghosts_4 : List UInt8 := dkwX0_ghosts_4 ++ dktX0_ghosts_5
def dkwX0_ghosts_3 : List UInt8 := [42, 180, 0, 51, 42, 180, 0, 40, 42, 180, 0, 51, 180, 0, 181, 21, 4, 50, 21, 5, 51, 21, 5]
abbrev dktX0_ghosts_3 : List UInt8 := dkwX0_ghosts_3 ++ dktX0_ghosts_4
def dkwX0_ghosts_2 : List UInt8 := [180, 0, 51, 180, 0, 181, 21, 4, 50, 29, 51, 27, 160, 0, 68, 21, 5, 156, 0, 6, 167, 0, 60, 28]
abbrev dktX0_ghosts_2 : List UInt8 := dkwX0_ghosts_2 ++ dktX0_ghosts_3
def dkwX0_ghosts_1 : List UInt8 := [21, 4, 42, 182, 0, 156, 162, 0, 102, 42, 180, 0, 51, 21, 4, 29, 182, 0, 178, 54, 5, 42]
abbrev dktX0_ghosts_1 : List UInt8 := dkwX0_ghosts_1 ++ dktX0_ghosts_2
def dkwX0_ghosts_0 : List UInt8 := [42, 27, 182, 0, 236, 154, 0, 5, 2, 172, 3, 61, 42, 180, 0, 51, 180, 0, 158, 62, 3, 54, 4]
abbrev dktX0_ghosts_0 : List UInt8 := dkwX0_ghosts_0 ++ dktX0_ghosts_1
theorem dksX0_ghosts_0 : cX0_ghosts.data.toList.drop 0 = dktX0_ghosts_0 := by decide +kernel
theorem dksX0_ghosts_1 : cX0_ghosts.data.toList.drop 23 = dktX0_ghosts_1 := dk_seg dksX0_ghosts_0 23 rfl rfl
theorem dksX0_ghosts_2 : cX0_ghosts.data.toList.drop 45 = dktX0_ghosts_2 := dk_seg dksX0_ghosts_1 22 rfl rfl
theorem dksX0_ghosts_3 : cX0_ghosts.data.toList.drop 69 = dktX0_ghosts_3 := dk_seg dksX0_ghosts_2 24 rfl rfl
theorem dksX0_ghosts_4 : cX0_ghosts.data.toList.drop 92 = dktX0_ghosts_4 := dk_seg dksX0_ghosts_3 23 rfl rfl
theorem dksX0_ghosts_5 : cX0_ghosts.data.toList.drop 116 = dktX0_ghosts_5 := dk_seg dksX0_ghosts_4 24 rfl rfl
theorem dX0_ghosts_0 : decode cX0_ghosts 0 = .ok (.aload_n 0, 1) := dk_42 (dk_at dksX0_ghosts_0 0 rfl rfl)
theorem dX0_ghosts_1 : decode cX0_ghosts 1 = .ok (.iload_n 1, 1) := dk_27 (dk_at dksX0_ghosts_0 1 rfl rfl)
theorem dX0_ghosts_2 : decode cX0_ghosts 2 = .ok (.invokevirtual 236, 3) := dk_182 0 236 (dk_at dksX0_ghosts_0 2 rfl rfl)
theorem dX0_ghosts_5 : decode cX0_ghosts 5 = .ok (.ifCond .ne 5, 3) := dk_154 0 5 (dk_at dksX0_ghosts_0 5 rfl rfl)
theorem dX0_ghosts_8 : decode cX0_ghosts 8 = .ok (.iconst (-1), 1) := dk_2 (dk_at dksX0_ghosts_0 8 rfl rfl)
theorem dX0_ghosts_9 : decode cX0_ghosts 9 = .ok (.ireturn, 1) := dk_172 (dk_at dksX0_ghosts_0 9 rfl rfl)
theorem dX0_ghosts_10 : decode cX0_ghosts 10 = .ok (.iconst 0, 1) := dk_3 (dk_at dksX0_ghosts_0 10 rfl rfl)
theorem dX0_ghosts_11 : decode cX0_ghosts 11 = .ok (.istore_n 2, 1) := dk_61 (dk_at dksX0_ghosts_0 11 rfl rfl)
theorem dX0_ghosts_12 : decode cX0_ghosts 12 = .ok (.aload_n 0, 1) := dk_42 (dk_at dksX0_ghosts_0 12 rfl rfl)
theorem dX0_ghosts_13 : decode cX0_ghosts 13 = .ok (.getfield 51, 3) := dk_180 0 51 (dk_at dksX0_ghosts_0 13 rfl rfl)
theorem dX0_ghosts_16 : decode cX0_ghosts 16 = .ok (.getfield 158, 3) := dk_180 0 158 (dk_at dksX0_ghosts_0 16 rfl rfl)
theorem dX0_ghosts_19 : decode cX0_ghosts 19 = .ok (.istore_n 3, 1) := dk_62 (dk_at dksX0_ghosts_0 19 rfl rfl)
theorem dX0_ghosts_20 : decode cX0_ghosts 20 = .ok (.iconst 0, 1) := dk_3 (dk_at dksX0_ghosts_0 20 rfl rfl)
theorem dX0_ghosts_21 : decode cX0_ghosts 21 = .ok (.istore 4, 2) := dk_54 4 (dk_at dksX0_ghosts_0 21 rfl rfl)
theorem dX0_ghosts_23 : decode cX0_ghosts 23 = .ok (.iload 4, 2) := dk_21 4 (dk_at dksX0_ghosts_1 0 rfl rfl)
theorem dX0_ghosts_25 : decode cX0_ghosts 25 = .ok (.aload_n 0, 1) := dk_42 (dk_at dksX0_ghosts_1 2 rfl rfl)
theorem dX0_ghosts_26 : decode cX0_ghosts 26 = .ok (.invokevirtual 156, 3) := dk_182 0 156 (dk_at dksX0_ghosts_1 3 rfl rfl)
theorem dX0_ghosts_29 : decode cX0_ghosts 29 = .ok (.if_icmp .ge 102, 3) := dk_162 0 102 (dk_at dksX0_ghosts_1 6 rfl rfl)
theorem dX0_ghosts_32 : decode cX0_ghosts 32 = .ok (.aload_n 0, 1) := dk_42 (dk_at dksX0_ghosts_1 9 rfl rfl)
theorem dX0_ghosts_33 : decode cX0_ghosts 33 = .ok (.getfield 51, 3) := dk_180 0 51 (dk_at dksX0_ghosts_1 10 rfl rfl)
theorem dX0_ghosts_36 : decode cX0_ghosts 36 = .ok (.iload 4, 2) := dk_21 4 (dk_at dksX0_ghosts_1 13 rfl rfl)
theorem dX0_ghosts_38 : decode cX0_ghosts 38 = .ok (.iload_n 3, 1) := dk_29 (dk_at dksX0_ghosts_1 15 rfl rfl)
theorem dX0_ghosts_39 : decode cX0_ghosts 39 = .ok (.invokevirtual 178, 3) := dk_182 0 178 (dk_at dksX0_ghosts_1 16 rfl rfl)
theorem dX0_ghosts_42 : decode cX0_ghosts 42 = .ok (.istore 5, 2) := dk_54 5 (dk_at dksX0_ghosts_1 19 rfl rfl)
theorem dX0_ghosts_44 : decode cX0_ghosts 44 = .ok (.aload_n 0, 1) := dk_42 (dk_at dksX0_ghosts_1 21 rfl rfl)
theorem dX0_ghosts_45 : decode cX0_ghosts 45 = .ok (.getfield 51, 3) := dk_180 0 51 (dk_at dksX0_ghosts_2 0 rfl rfl)
theorem dX0_ghosts_48 : decode cX0_ghosts 48 = .ok (.getfield 181, 3) := dk_180 0 181 (dk_at dksX0_ghosts_2 3 rfl rfl)
theorem dX0_ghosts_51 : decode cX0_ghosts 51 = .ok (.iload 4, 2) := dk_21 4 (dk_at dksX0_ghosts_2 6 rfl rfl)
theorem dX0_ghosts_53 : decode cX0_ghosts 53 = .ok (.aaload, 1) := dk_50 (dk_at dksX0_ghosts_2 8 rfl rfl)
theorem dX0_ghosts_54 : decode cX0_ghosts 54 = .ok (.iload_n 3, 1) := dk_29 (dk_at dksX0_ghosts_2 9 rfl rfl)
theorem dX0_ghosts_55 : decode cX0_ghosts 55 = .ok (.baload, 1) := dk_51 (dk_at dksX0_ghosts_2 10 rfl rfl)
theorem dX0_ghosts_56 : decode cX0_ghosts 56 = .ok (.iload_n 1, 1) := dk_27 (dk_at dksX0_ghosts_2 11 rfl rfl)
theorem dX0_ghosts_57 : decode cX0_ghosts 57 = .ok (.if_icmp .ne 68, 3) := dk_160 0 68 (dk_at dksX0_ghosts_2 12 rfl rfl)
theorem dX0_ghosts_60 : decode cX0_ghosts 60 = .ok (.iload 5, 2) := dk_21 5 (dk_at dksX0_ghosts_2 15 rfl rfl)
theorem dX0_ghosts_62 : decode cX0_ghosts 62 = .ok (.ifCond .ge 6, 3) := dk_156 0 6 (dk_at dksX0_ghosts_2 17 rfl rfl)
theorem dX0_ghosts_65 : decode cX0_ghosts 65 = .ok (.goto 60, 3) := dk_167 0 60 (dk_at dksX0_ghosts_2 20 rfl rfl)
theorem dX0_ghosts_68 : decode cX0_ghosts 68 = .ok (.iload_n 2, 1) := dk_28 (dk_at dksX0_ghosts_2 23 rfl rfl)
theorem dX0_ghosts_69 : decode cX0_ghosts 69 = .ok (.aload_n 0, 1) := dk_42 (dk_at dksX0_ghosts_3 0 rfl rfl)
theorem dX0_ghosts_70 : decode cX0_ghosts 70 = .ok (.getfield 51, 3) := dk_180 0 51 (dk_at dksX0_ghosts_3 1 rfl rfl)
theorem dX0_ghosts_73 : decode cX0_ghosts 73 = .ok (.aload_n 0, 1) := dk_42 (dk_at dksX0_ghosts_3 4 rfl rfl)
theorem dX0_ghosts_74 : decode cX0_ghosts 74 = .ok (.getfield 40, 3) := dk_180 0 40 (dk_at dksX0_ghosts_3 5 rfl rfl)
theorem dX0_ghosts_77 : decode cX0_ghosts 77 = .ok (.aload_n 0, 1) := dk_42 (dk_at dksX0_ghosts_3 8 rfl rfl)
theorem dX0_ghosts_78 : decode cX0_ghosts 78 = .ok (.getfield 51, 3) := dk_180 0 51 (dk_at dksX0_ghosts_3 9 rfl rfl)
theorem dX0_ghosts_81 : decode cX0_ghosts 81 = .ok (.getfield 181, 3) := dk_180 0 181 (dk_at dksX0_ghosts_3 12 rfl rfl)
theorem dX0_ghosts_84 : decode cX0_ghosts 84 = .ok (.iload 4, 2) := dk_21 4 (dk_at dksX0_ghosts_3 15 rfl rfl)
theorem dX0_ghosts_86 : decode cX0_ghosts 86 = .ok (.aaload, 1) := dk_50 (dk_at dksX0_ghosts_3 17 rfl rfl)
theorem dX0_ghosts_87 : decode cX0_ghosts 87 = .ok (.iload 5, 2) := dk_21 5 (dk_at dksX0_ghosts_3 18 rfl rfl)
theorem dX0_ghosts_89 : decode cX0_ghosts 89 = .ok (.baload, 1) := dk_51 (dk_at dksX0_ghosts_3 20 rfl rfl)
theorem dX0_ghosts_90 : decode cX0_ghosts 90 = .ok (.iload 5, 2) := dk_21 5 (dk_at dksX0_ghosts_3 21 rfl rfl)
theorem dX0_ghosts_92 : decode cX0_ghosts 92 = .ok (.invokevirtual 255, 3) := dk_182 0 255 (dk_at dksX0_ghosts_4 0 rfl rfl)
theorem dX0_ghosts_95 : decode cX0_ghosts 95 = .ok (.aload_n 0, 1) := dk_42 (dk_at dksX0_ghosts_4 3 rfl rfl)
theorem dX0_ghosts_96 : decode cX0_ghosts 96 = .ok (.getfield 51, 3) := dk_180 0 51 (dk_at dksX0_ghosts_4 4 rfl rfl)
theorem dX0_ghosts_99 : decode cX0_ghosts 99 = .ok (.aload_n 0, 1) := dk_42 (dk_at dksX0_ghosts_4 7 rfl rfl)
theorem dX0_ghosts_100 : decode cX0_ghosts 100 = .ok (.getfield 40, 3) := dk_180 0 40 (dk_at dksX0_ghosts_4 8 rfl rfl)
theorem dX0_ghosts_103 : decode cX0_ghosts 103 = .ok (.aload_n 0, 1) := dk_42 (dk_at dksX0_ghosts_4 11 rfl rfl)
theorem dX0_ghosts_104 : decode cX0_ghosts 104 = .ok (.getfield 51, 3) := dk_180 0 51 (dk_at dksX0_ghosts_4 12 rfl rfl)
theorem dX0_ghosts_107 : decode cX0_ghosts 107 = .ok (.getfield 181, 3) := dk_180 0 181 (dk_at dksX0_ghosts_4 15 rfl rfl)
theorem dX0_ghosts_110 : decode cX0_ghosts 110 = .ok (.iload 4, 2) := dk_21 4 (dk_at dksX0_ghosts_4 18 rfl rfl)
theorem dX0_ghosts_112 : decode cX0_ghosts 112 = .ok (.aaload, 1) := dk_50 (dk_at dksX0_ghosts_4 20 rfl rfl)
theorem dX0_ghosts_113 : decode cX0_ghosts 113 = .ok (.iload 5, 2) := dk_21 5 (dk_at dksX0_ghosts_4 21 rfl rfl)
theorem dX0_ghosts_115 : decode cX0_ghosts 115 = .ok (.baload, 1) := dk_51 (dk_at dksX0_ghosts_4 23 rfl rfl)
theorem dX0_ghosts_116 : decode cX0_ghosts 116 = .ok (.iload_n 3, 1) := dk_29 (dk_at dksX0_ghosts_5 0 rfl rfl)
theorem dX0_ghosts_117 : decode cX0_ghosts 117 = .ok (.invokevirtual 255, 3) := dk_182 0 255 (dk_at dksX0_ghosts_5 1 rfl rfl)
theorem dX0_ghosts_120 : decode cX0_ghosts 120 = .ok (.iconst (-1), 1) := dk_2 (dk_at dksX0_ghosts_5 4 rfl rfl)
theorem dX0_ghosts_121 : decode cX0_ghosts 121 = .ok (.ixor, 1) := dk_130 (dk_at dksX0_ghosts_5 5 rfl rfl)
theorem dX0_ghosts_122 : decode cX0_ghosts 122 = .ok (.iand, 1) := dk_126 (dk_at dksX0_ghosts_5 6 rfl rfl)
theorem dX0_ghosts_123 : decode cX0_ghosts 123 = .ok (.ior, 1) := dk_128 (dk_at dksX0_ghosts_5 7 rfl rfl)
theorem dX0_ghosts_124 : decode cX0_ghosts 124 = .ok (.istore_n 2, 1) := dk_61 (dk_at dksX0_ghosts_5 8 rfl rfl)
theorem dX0_ghosts_125 : decode cX0_ghosts 125 = .ok (.iinc 4 1, 3) := dk_132 4 1 (dk_at dksX0_ghosts_5 9 rfl rfl)
theorem dX0_ghosts_128 : decode cX0_ghosts 128 = .ok (.goto (-105), 3) := dk_167 255 151 (dk_at dksX0_ghosts_5 12 rfl rfl)
theorem dX0_ghosts_131 : decode cX0_ghosts 131 = .ok (.iload_n 2, 1) := dk_28 (dk_at dksX0_ghosts_5 15 rfl rfl)
theorem dX0_ghosts_132 : decode cX0_ghosts 132 = .ok (.ireturn, 1) := dk_172 (dk_at dksX0_ghosts_5 16 rfl rfl)
abbrev cX0_oldest : ByteArray := prog_1_method_39_code
def yX0_oldest : MethodName := ⟨RX0, "oldest", "(I)I"⟩
def dkwX0_oldest_3 : List UInt8 := [132, 4, 1, 167, 255, 202, 27, 154, 0, 7, 28, 167, 0, 4, 29, 172]
abbrev dktX0_oldest_3 : List UInt8 := dkwX0_oldest_3 ++ []
def dkwX0_oldest_2 : List UInt8 := [21, 5, 155, 0, 22, 28, 155, 0, 12, 21, 5, 29, 161, 0, 6, 167, 0, 9, 21, 4, 61, 21, 5, 62]
abbrev dktX0_oldest_2 : List UInt8 := dkwX0_oldest_2 ++ dktX0_oldest_3
def dkwX0_oldest_1 : List UInt8 := [182, 0, 156, 162, 0, 51, 42, 180, 0, 51, 21, 4, 42, 180, 0, 51, 180, 0, 158, 182, 0, 178, 54, 5]
abbrev dktX0_oldest_1 : List UInt8 := dkwX0_oldest_1 ++ dktX0_oldest_2
def dkwX0_oldest_0 : List UInt8 := [27, 3, 4, 184, 0, 150, 154, 0, 5, 2, 172, 16, 254, 61, 16, 254, 62, 3, 54, 4, 21, 4, 42]
abbrev dktX0_oldest_0 : List UInt8 := dkwX0_oldest_0 ++ dktX0_oldest_1
theorem dksX0_oldest_0 : cX0_oldest.data.toList.drop 0 = dktX0_oldest_0 := by decide +kernel
theorem dksX0_oldest_1 : cX0_oldest.data.toList.drop 23 = dktX0_oldest_1 := dk_seg dksX0_oldest_0 23 rfl rfl
theorem dksX0_oldest_2 : cX0_oldest.data.toList.drop 47 = dktX0_oldest_2 := dk_seg dksX0_oldest_1 24 rfl rfl
theorem dksX0_oldest_3 : cX0_oldest.data.toList.drop 71 = dktX0_oldest_3 := dk_seg dksX0_oldest_2 24 rfl rfl
theorem dX0_oldest_0 : decode cX0_oldest 0 = .ok (.iload_n 1, 1) := dk_27 (dk_at dksX0_oldest_0 0 rfl rfl)
theorem dX0_oldest_1 : decode cX0_oldest 1 = .ok (.iconst 0, 1) := dk_3 (dk_at dksX0_oldest_0 1 rfl rfl)
theorem dX0_oldest_2 : decode cX0_oldest 2 = .ok (.iconst 1, 1) := dk_4 (dk_at dksX0_oldest_0 2 rfl rfl)
theorem dX0_oldest_3 : decode cX0_oldest 3 = .ok (.invokestatic 150, 3) := dk_184 0 150 (dk_at dksX0_oldest_0 3 rfl rfl)
theorem dX0_oldest_6 : decode cX0_oldest 6 = .ok (.ifCond .ne 5, 3) := dk_154 0 5 (dk_at dksX0_oldest_0 6 rfl rfl)
theorem dX0_oldest_9 : decode cX0_oldest 9 = .ok (.iconst (-1), 1) := dk_2 (dk_at dksX0_oldest_0 9 rfl rfl)
theorem dX0_oldest_10 : decode cX0_oldest 10 = .ok (.ireturn, 1) := dk_172 (dk_at dksX0_oldest_0 10 rfl rfl)
theorem dX0_oldest_11 : decode cX0_oldest 11 = .ok (.bipush (-2), 2) := dk_16 254 (dk_at dksX0_oldest_0 11 rfl rfl)
theorem dX0_oldest_13 : decode cX0_oldest 13 = .ok (.istore_n 2, 1) := dk_61 (dk_at dksX0_oldest_0 13 rfl rfl)
theorem dX0_oldest_14 : decode cX0_oldest 14 = .ok (.bipush (-2), 2) := dk_16 254 (dk_at dksX0_oldest_0 14 rfl rfl)
theorem dX0_oldest_16 : decode cX0_oldest 16 = .ok (.istore_n 3, 1) := dk_62 (dk_at dksX0_oldest_0 16 rfl rfl)
theorem dX0_oldest_17 : decode cX0_oldest 17 = .ok (.iconst 0, 1) := dk_3 (dk_at dksX0_oldest_0 17 rfl rfl)
theorem dX0_oldest_18 : decode cX0_oldest 18 = .ok (.istore 4, 2) := dk_54 4 (dk_at dksX0_oldest_0 18 rfl rfl)
theorem dX0_oldest_20 : decode cX0_oldest 20 = .ok (.iload 4, 2) := dk_21 4 (dk_at dksX0_oldest_0 20 rfl rfl)
theorem dX0_oldest_22 : decode cX0_oldest 22 = .ok (.aload_n 0, 1) := dk_42 (dk_at dksX0_oldest_0 22 rfl rfl)
theorem dX0_oldest_23 : decode cX0_oldest 23 = .ok (.invokevirtual 156, 3) := dk_182 0 156 (dk_at dksX0_oldest_1 0 rfl rfl)
theorem dX0_oldest_26 : decode cX0_oldest 26 = .ok (.if_icmp .ge 51, 3) := dk_162 0 51 (dk_at dksX0_oldest_1 3 rfl rfl)
theorem dX0_oldest_29 : decode cX0_oldest 29 = .ok (.aload_n 0, 1) := dk_42 (dk_at dksX0_oldest_1 6 rfl rfl)
theorem dX0_oldest_30 : decode cX0_oldest 30 = .ok (.getfield 51, 3) := dk_180 0 51 (dk_at dksX0_oldest_1 7 rfl rfl)
theorem dX0_oldest_33 : decode cX0_oldest 33 = .ok (.iload 4, 2) := dk_21 4 (dk_at dksX0_oldest_1 10 rfl rfl)
theorem dX0_oldest_35 : decode cX0_oldest 35 = .ok (.aload_n 0, 1) := dk_42 (dk_at dksX0_oldest_1 12 rfl rfl)
theorem dX0_oldest_36 : decode cX0_oldest 36 = .ok (.getfield 51, 3) := dk_180 0 51 (dk_at dksX0_oldest_1 13 rfl rfl)
theorem dX0_oldest_39 : decode cX0_oldest 39 = .ok (.getfield 158, 3) := dk_180 0 158 (dk_at dksX0_oldest_1 16 rfl rfl)
theorem dX0_oldest_42 : decode cX0_oldest 42 = .ok (.invokevirtual 178, 3) := dk_182 0 178 (dk_at dksX0_oldest_1 19 rfl rfl)
theorem dX0_oldest_45 : decode cX0_oldest 45 = .ok (.istore 5, 2) := dk_54 5 (dk_at dksX0_oldest_1 22 rfl rfl)
theorem dX0_oldest_47 : decode cX0_oldest 47 = .ok (.iload 5, 2) := dk_21 5 (dk_at dksX0_oldest_2 0 rfl rfl)
theorem dX0_oldest_49 : decode cX0_oldest 49 = .ok (.ifCond .lt 22, 3) := dk_155 0 22 (dk_at dksX0_oldest_2 2 rfl rfl)
theorem dX0_oldest_52 : decode cX0_oldest 52 = .ok (.iload_n 2, 1) := dk_28 (dk_at dksX0_oldest_2 5 rfl rfl)
theorem dX0_oldest_53 : decode cX0_oldest 53 = .ok (.ifCond .lt 12, 3) := dk_155 0 12 (dk_at dksX0_oldest_2 6 rfl rfl)
theorem dX0_oldest_56 : decode cX0_oldest 56 = .ok (.iload 5, 2) := dk_21 5 (dk_at dksX0_oldest_2 9 rfl rfl)
theorem dX0_oldest_58 : decode cX0_oldest 58 = .ok (.iload_n 3, 1) := dk_29 (dk_at dksX0_oldest_2 11 rfl rfl)
theorem dX0_oldest_59 : decode cX0_oldest 59 = .ok (.if_icmp .lt 6, 3) := dk_161 0 6 (dk_at dksX0_oldest_2 12 rfl rfl)
theorem dX0_oldest_62 : decode cX0_oldest 62 = .ok (.goto 9, 3) := dk_167 0 9 (dk_at dksX0_oldest_2 15 rfl rfl)
theorem dX0_oldest_65 : decode cX0_oldest 65 = .ok (.iload 4, 2) := dk_21 4 (dk_at dksX0_oldest_2 18 rfl rfl)
theorem dX0_oldest_67 : decode cX0_oldest 67 = .ok (.istore_n 2, 1) := dk_61 (dk_at dksX0_oldest_2 20 rfl rfl)
theorem dX0_oldest_68 : decode cX0_oldest 68 = .ok (.iload 5, 2) := dk_21 5 (dk_at dksX0_oldest_2 21 rfl rfl)
theorem dX0_oldest_70 : decode cX0_oldest 70 = .ok (.istore_n 3, 1) := dk_62 (dk_at dksX0_oldest_2 23 rfl rfl)
theorem dX0_oldest_71 : decode cX0_oldest 71 = .ok (.iinc 4 1, 3) := dk_132 4 1 (dk_at dksX0_oldest_3 0 rfl rfl)
theorem dX0_oldest_74 : decode cX0_oldest 74 = .ok (.goto (-54), 3) := dk_167 255 202 (dk_at dksX0_oldest_3 3 rfl rfl)
theorem dX0_oldest_77 : decode cX0_oldest 77 = .ok (.iload_n 1, 1) := dk_27 (dk_at dksX0_oldest_3 6 rfl rfl)
theorem dX0_oldest_78 : decode cX0_oldest 78 = .ok (.ifCond .ne 7, 3) := dk_154 0 7 (dk_at dksX0_oldest_3 7 rfl rfl)
theorem dX0_oldest_81 : decode cX0_oldest 81 = .ok (.iload_n 2, 1) := dk_28 (dk_at dksX0_oldest_3 10 rfl rfl)
theorem dX0_oldest_82 : decode cX0_oldest 82 = .ok (.goto 4, 3) := dk_167 0 4 (dk_at dksX0_oldest_3 11 rfl rfl)
theorem dX0_oldest_85 : decode cX0_oldest 85 = .ok (.iload_n 3, 1) := dk_29 (dk_at dksX0_oldest_3 14 rfl rfl)
theorem dX0_oldest_86 : decode cX0_oldest 86 = .ok (.ireturn, 1) := dk_172 (dk_at dksX0_oldest_3 15 rfl rfl)
abbrev cX0_shown : ByteArray := prog_1_method_40_code
def yX0_shown : MethodName := ⟨RX0, "shown", "(IZ)I"⟩
def dkwX0_shown_7 : List UInt8 := [167, 255, 210, 29, 172]
abbrev dktX0_shown_7 : List UInt8 := dkwX0_shown_7 ++ []
def dkwX0_shown_6 : List UInt8 := [167, 0, 14, 42, 180, 0, 76, 21, 6, 46, 4, 164, 0, 7, 4, 167, 0, 4, 3, 96, 62, 132, 6, 1]
abbrev dktX0_shown_6 : List UInt8 := dkwX0_shown_6 ++ dktX0_shown_7
def dkwX0_shown_5 : List UInt8 := [54, 6, 21, 6, 21, 5, 163, 0, 45, 29, 28, 153, 0, 16, 42, 180, 0, 76, 21, 6, 46, 154, 0, 21]
abbrev dktX0_shown_5 : List UInt8 := dkwX0_shown_5 ++ dktX0_shown_6
def dkwX0_shown_4 : List UInt8 := [21, 7, 184, 0, 206, 54, 4, 21, 5, 21, 7, 184, 1, 5, 54, 5, 132, 6, 1, 167, 255, 192, 21, 4]
abbrev dktX0_shown_4 : List UInt8 := dkwX0_shown_4 ++ dktX0_shown_5
def dkwX0_shown_3 : List UInt8 := [54, 7, 21, 7, 156, 0, 6, 167, 0, 32, 42, 180, 0, 76, 21, 7, 92, 46, 4, 96, 79, 21, 4]
abbrev dktX0_shown_3 : List UInt8 := dkwX0_shown_3 ++ dktX0_shown_4
def dkwX0_shown_2 : List UInt8 := [54, 6, 21, 6, 42, 180, 0, 51, 180, 0, 158, 163, 0, 58, 42, 180, 0, 51, 27, 21, 6, 182, 0, 178]
abbrev dktX0_shown_2 : List UInt8 := dkwX0_shown_2 ++ dktX0_shown_3
def dkwX0_shown_1 : List UInt8 := [21, 6, 17, 1, 44, 162, 0, 17, 42, 180, 0, 76, 21, 6, 3, 79, 132, 6, 1, 167, 255, 237, 3]
abbrev dktX0_shown_1 : List UInt8 := dkwX0_shown_1 ++ dktX0_shown_2
def dkwX0_shown_0 : List UInt8 := [42, 27, 182, 0, 175, 154, 0, 5, 2, 172, 3, 62, 17, 1, 44, 54, 4, 2, 54, 5, 3, 54, 6]
abbrev dktX0_shown_0 : List UInt8 := dkwX0_shown_0 ++ dktX0_shown_1
theorem dksX0_shown_0 : cX0_shown.data.toList.drop 0 = dktX0_shown_0 := by decide +kernel
theorem dksX0_shown_1 : cX0_shown.data.toList.drop 23 = dktX0_shown_1 := dk_seg dksX0_shown_0 23 rfl rfl
theorem dksX0_shown_2 : cX0_shown.data.toList.drop 46 = dktX0_shown_2 := dk_seg dksX0_shown_1 23 rfl rfl
theorem dksX0_shown_3 : cX0_shown.data.toList.drop 70 = dktX0_shown_3 := dk_seg dksX0_shown_2 24 rfl rfl
theorem dksX0_shown_4 : cX0_shown.data.toList.drop 93 = dktX0_shown_4 := dk_seg dksX0_shown_3 23 rfl rfl
theorem dksX0_shown_5 : cX0_shown.data.toList.drop 117 = dktX0_shown_5 := dk_seg dksX0_shown_4 24 rfl rfl
theorem dksX0_shown_6 : cX0_shown.data.toList.drop 141 = dktX0_shown_6 := dk_seg dksX0_shown_5 24 rfl rfl
theorem dksX0_shown_7 : cX0_shown.data.toList.drop 165 = dktX0_shown_7 := dk_seg dksX0_shown_6 24 rfl rfl
theorem dX0_shown_0 : decode cX0_shown 0 = .ok (.aload_n 0, 1) := dk_42 (dk_at dksX0_shown_0 0 rfl rfl)
theorem dX0_shown_1 : decode cX0_shown 1 = .ok (.iload_n 1, 1) := dk_27 (dk_at dksX0_shown_0 1 rfl rfl)
theorem dX0_shown_2 : decode cX0_shown 2 = .ok (.invokevirtual 175, 3) := dk_182 0 175 (dk_at dksX0_shown_0 2 rfl rfl)
theorem dX0_shown_5 : decode cX0_shown 5 = .ok (.ifCond .ne 5, 3) := dk_154 0 5 (dk_at dksX0_shown_0 5 rfl rfl)
theorem dX0_shown_8 : decode cX0_shown 8 = .ok (.iconst (-1), 1) := dk_2 (dk_at dksX0_shown_0 8 rfl rfl)
theorem dX0_shown_9 : decode cX0_shown 9 = .ok (.ireturn, 1) := dk_172 (dk_at dksX0_shown_0 9 rfl rfl)
theorem dX0_shown_10 : decode cX0_shown 10 = .ok (.iconst 0, 1) := dk_3 (dk_at dksX0_shown_0 10 rfl rfl)
theorem dX0_shown_11 : decode cX0_shown 11 = .ok (.istore_n 3, 1) := dk_62 (dk_at dksX0_shown_0 11 rfl rfl)
theorem dX0_shown_12 : decode cX0_shown 12 = .ok (.sipush 300, 3) := dk_17 1 44 (dk_at dksX0_shown_0 12 rfl rfl)
theorem dX0_shown_15 : decode cX0_shown 15 = .ok (.istore 4, 2) := dk_54 4 (dk_at dksX0_shown_0 15 rfl rfl)
theorem dX0_shown_17 : decode cX0_shown 17 = .ok (.iconst (-1), 1) := dk_2 (dk_at dksX0_shown_0 17 rfl rfl)
theorem dX0_shown_18 : decode cX0_shown 18 = .ok (.istore 5, 2) := dk_54 5 (dk_at dksX0_shown_0 18 rfl rfl)
theorem dX0_shown_20 : decode cX0_shown 20 = .ok (.iconst 0, 1) := dk_3 (dk_at dksX0_shown_0 20 rfl rfl)
theorem dX0_shown_21 : decode cX0_shown 21 = .ok (.istore 6, 2) := dk_54 6 (dk_at dksX0_shown_0 21 rfl rfl)
theorem dX0_shown_23 : decode cX0_shown 23 = .ok (.iload 6, 2) := dk_21 6 (dk_at dksX0_shown_1 0 rfl rfl)
theorem dX0_shown_25 : decode cX0_shown 25 = .ok (.sipush 300, 3) := dk_17 1 44 (dk_at dksX0_shown_1 2 rfl rfl)
theorem dX0_shown_28 : decode cX0_shown 28 = .ok (.if_icmp .ge 17, 3) := dk_162 0 17 (dk_at dksX0_shown_1 5 rfl rfl)
theorem dX0_shown_31 : decode cX0_shown 31 = .ok (.aload_n 0, 1) := dk_42 (dk_at dksX0_shown_1 8 rfl rfl)
theorem dX0_shown_32 : decode cX0_shown 32 = .ok (.getfield 76, 3) := dk_180 0 76 (dk_at dksX0_shown_1 9 rfl rfl)
theorem dX0_shown_35 : decode cX0_shown 35 = .ok (.iload 6, 2) := dk_21 6 (dk_at dksX0_shown_1 12 rfl rfl)
theorem dX0_shown_37 : decode cX0_shown 37 = .ok (.iconst 0, 1) := dk_3 (dk_at dksX0_shown_1 14 rfl rfl)
theorem dX0_shown_38 : decode cX0_shown 38 = .ok (.iastore, 1) := dk_79 (dk_at dksX0_shown_1 15 rfl rfl)
theorem dX0_shown_39 : decode cX0_shown 39 = .ok (.iinc 6 1, 3) := dk_132 6 1 (dk_at dksX0_shown_1 16 rfl rfl)
theorem dX0_shown_42 : decode cX0_shown 42 = .ok (.goto (-19), 3) := dk_167 255 237 (dk_at dksX0_shown_1 19 rfl rfl)
theorem dX0_shown_45 : decode cX0_shown 45 = .ok (.iconst 0, 1) := dk_3 (dk_at dksX0_shown_1 22 rfl rfl)
theorem dX0_shown_46 : decode cX0_shown 46 = .ok (.istore 6, 2) := dk_54 6 (dk_at dksX0_shown_2 0 rfl rfl)
theorem dX0_shown_48 : decode cX0_shown 48 = .ok (.iload 6, 2) := dk_21 6 (dk_at dksX0_shown_2 2 rfl rfl)
theorem dX0_shown_50 : decode cX0_shown 50 = .ok (.aload_n 0, 1) := dk_42 (dk_at dksX0_shown_2 4 rfl rfl)
theorem dX0_shown_51 : decode cX0_shown 51 = .ok (.getfield 51, 3) := dk_180 0 51 (dk_at dksX0_shown_2 5 rfl rfl)
theorem dX0_shown_54 : decode cX0_shown 54 = .ok (.getfield 158, 3) := dk_180 0 158 (dk_at dksX0_shown_2 8 rfl rfl)
theorem dX0_shown_57 : decode cX0_shown 57 = .ok (.if_icmp .gt 58, 3) := dk_163 0 58 (dk_at dksX0_shown_2 11 rfl rfl)
theorem dX0_shown_60 : decode cX0_shown 60 = .ok (.aload_n 0, 1) := dk_42 (dk_at dksX0_shown_2 14 rfl rfl)
theorem dX0_shown_61 : decode cX0_shown 61 = .ok (.getfield 51, 3) := dk_180 0 51 (dk_at dksX0_shown_2 15 rfl rfl)
theorem dX0_shown_64 : decode cX0_shown 64 = .ok (.iload_n 1, 1) := dk_27 (dk_at dksX0_shown_2 18 rfl rfl)
theorem dX0_shown_65 : decode cX0_shown 65 = .ok (.iload 6, 2) := dk_21 6 (dk_at dksX0_shown_2 19 rfl rfl)
theorem dX0_shown_67 : decode cX0_shown 67 = .ok (.invokevirtual 178, 3) := dk_182 0 178 (dk_at dksX0_shown_2 21 rfl rfl)
theorem dX0_shown_70 : decode cX0_shown 70 = .ok (.istore 7, 2) := dk_54 7 (dk_at dksX0_shown_3 0 rfl rfl)
theorem dX0_shown_72 : decode cX0_shown 72 = .ok (.iload 7, 2) := dk_21 7 (dk_at dksX0_shown_3 2 rfl rfl)
theorem dX0_shown_74 : decode cX0_shown 74 = .ok (.ifCond .ge 6, 3) := dk_156 0 6 (dk_at dksX0_shown_3 4 rfl rfl)
theorem dX0_shown_77 : decode cX0_shown 77 = .ok (.goto 32, 3) := dk_167 0 32 (dk_at dksX0_shown_3 7 rfl rfl)
theorem dX0_shown_80 : decode cX0_shown 80 = .ok (.aload_n 0, 1) := dk_42 (dk_at dksX0_shown_3 10 rfl rfl)
theorem dX0_shown_81 : decode cX0_shown 81 = .ok (.getfield 76, 3) := dk_180 0 76 (dk_at dksX0_shown_3 11 rfl rfl)
theorem dX0_shown_84 : decode cX0_shown 84 = .ok (.iload 7, 2) := dk_21 7 (dk_at dksX0_shown_3 14 rfl rfl)
theorem dX0_shown_86 : decode cX0_shown 86 = .ok (.dup2, 1) := dk_92 (dk_at dksX0_shown_3 16 rfl rfl)
theorem dX0_shown_87 : decode cX0_shown 87 = .ok (.iaload, 1) := dk_46 (dk_at dksX0_shown_3 17 rfl rfl)
theorem dX0_shown_88 : decode cX0_shown 88 = .ok (.iconst 1, 1) := dk_4 (dk_at dksX0_shown_3 18 rfl rfl)
theorem dX0_shown_89 : decode cX0_shown 89 = .ok (.iadd, 1) := dk_96 (dk_at dksX0_shown_3 19 rfl rfl)
theorem dX0_shown_90 : decode cX0_shown 90 = .ok (.iastore, 1) := dk_79 (dk_at dksX0_shown_3 20 rfl rfl)
theorem dX0_shown_91 : decode cX0_shown 91 = .ok (.iload 4, 2) := dk_21 4 (dk_at dksX0_shown_3 21 rfl rfl)
theorem dX0_shown_93 : decode cX0_shown 93 = .ok (.iload 7, 2) := dk_21 7 (dk_at dksX0_shown_4 0 rfl rfl)
theorem dX0_shown_95 : decode cX0_shown 95 = .ok (.invokestatic 206, 3) := dk_184 0 206 (dk_at dksX0_shown_4 2 rfl rfl)
theorem dX0_shown_98 : decode cX0_shown 98 = .ok (.istore 4, 2) := dk_54 4 (dk_at dksX0_shown_4 5 rfl rfl)
theorem dX0_shown_100 : decode cX0_shown 100 = .ok (.iload 5, 2) := dk_21 5 (dk_at dksX0_shown_4 7 rfl rfl)
theorem dX0_shown_102 : decode cX0_shown 102 = .ok (.iload 7, 2) := dk_21 7 (dk_at dksX0_shown_4 9 rfl rfl)
theorem dX0_shown_104 : decode cX0_shown 104 = .ok (.invokestatic 261, 3) := dk_184 1 5 (dk_at dksX0_shown_4 11 rfl rfl)
theorem dX0_shown_107 : decode cX0_shown 107 = .ok (.istore 5, 2) := dk_54 5 (dk_at dksX0_shown_4 14 rfl rfl)
theorem dX0_shown_109 : decode cX0_shown 109 = .ok (.iinc 6 1, 3) := dk_132 6 1 (dk_at dksX0_shown_4 16 rfl rfl)
theorem dX0_shown_112 : decode cX0_shown 112 = .ok (.goto (-64), 3) := dk_167 255 192 (dk_at dksX0_shown_4 19 rfl rfl)
theorem dX0_shown_115 : decode cX0_shown 115 = .ok (.iload 4, 2) := dk_21 4 (dk_at dksX0_shown_4 22 rfl rfl)
theorem dX0_shown_117 : decode cX0_shown 117 = .ok (.istore 6, 2) := dk_54 6 (dk_at dksX0_shown_5 0 rfl rfl)
theorem dX0_shown_119 : decode cX0_shown 119 = .ok (.iload 6, 2) := dk_21 6 (dk_at dksX0_shown_5 2 rfl rfl)
theorem dX0_shown_121 : decode cX0_shown 121 = .ok (.iload 5, 2) := dk_21 5 (dk_at dksX0_shown_5 4 rfl rfl)
theorem dX0_shown_123 : decode cX0_shown 123 = .ok (.if_icmp .gt 45, 3) := dk_163 0 45 (dk_at dksX0_shown_5 6 rfl rfl)
theorem dX0_shown_126 : decode cX0_shown 126 = .ok (.iload_n 3, 1) := dk_29 (dk_at dksX0_shown_5 9 rfl rfl)
theorem dX0_shown_127 : decode cX0_shown 127 = .ok (.iload_n 2, 1) := dk_28 (dk_at dksX0_shown_5 10 rfl rfl)
theorem dX0_shown_128 : decode cX0_shown 128 = .ok (.ifCond .eq 16, 3) := dk_153 0 16 (dk_at dksX0_shown_5 11 rfl rfl)
theorem dX0_shown_131 : decode cX0_shown 131 = .ok (.aload_n 0, 1) := dk_42 (dk_at dksX0_shown_5 14 rfl rfl)
theorem dX0_shown_132 : decode cX0_shown 132 = .ok (.getfield 76, 3) := dk_180 0 76 (dk_at dksX0_shown_5 15 rfl rfl)
theorem dX0_shown_135 : decode cX0_shown 135 = .ok (.iload 6, 2) := dk_21 6 (dk_at dksX0_shown_5 18 rfl rfl)
theorem dX0_shown_137 : decode cX0_shown 137 = .ok (.iaload, 1) := dk_46 (dk_at dksX0_shown_5 20 rfl rfl)
theorem dX0_shown_138 : decode cX0_shown 138 = .ok (.ifCond .ne 21, 3) := dk_154 0 21 (dk_at dksX0_shown_5 21 rfl rfl)
theorem dX0_shown_141 : decode cX0_shown 141 = .ok (.goto 14, 3) := dk_167 0 14 (dk_at dksX0_shown_6 0 rfl rfl)
theorem dX0_shown_144 : decode cX0_shown 144 = .ok (.aload_n 0, 1) := dk_42 (dk_at dksX0_shown_6 3 rfl rfl)
theorem dX0_shown_145 : decode cX0_shown 145 = .ok (.getfield 76, 3) := dk_180 0 76 (dk_at dksX0_shown_6 4 rfl rfl)
theorem dX0_shown_148 : decode cX0_shown 148 = .ok (.iload 6, 2) := dk_21 6 (dk_at dksX0_shown_6 7 rfl rfl)
theorem dX0_shown_150 : decode cX0_shown 150 = .ok (.iaload, 1) := dk_46 (dk_at dksX0_shown_6 9 rfl rfl)
theorem dX0_shown_151 : decode cX0_shown 151 = .ok (.iconst 1, 1) := dk_4 (dk_at dksX0_shown_6 10 rfl rfl)
theorem dX0_shown_152 : decode cX0_shown 152 = .ok (.if_icmp .le 7, 3) := dk_164 0 7 (dk_at dksX0_shown_6 11 rfl rfl)
theorem dX0_shown_155 : decode cX0_shown 155 = .ok (.iconst 1, 1) := dk_4 (dk_at dksX0_shown_6 14 rfl rfl)
theorem dX0_shown_156 : decode cX0_shown 156 = .ok (.goto 4, 3) := dk_167 0 4 (dk_at dksX0_shown_6 15 rfl rfl)
theorem dX0_shown_159 : decode cX0_shown 159 = .ok (.iconst 0, 1) := dk_3 (dk_at dksX0_shown_6 18 rfl rfl)
theorem dX0_shown_160 : decode cX0_shown 160 = .ok (.iadd, 1) := dk_96 (dk_at dksX0_shown_6 19 rfl rfl)
theorem dX0_shown_161 : decode cX0_shown 161 = .ok (.istore_n 3, 1) := dk_62 (dk_at dksX0_shown_6 20 rfl rfl)
theorem dX0_shown_162 : decode cX0_shown 162 = .ok (.iinc 6 1, 3) := dk_132 6 1 (dk_at dksX0_shown_6 21 rfl rfl)
theorem dX0_shown_165 : decode cX0_shown 165 = .ok (.goto (-46), 3) := dk_167 255 210 (dk_at dksX0_shown_7 0 rfl rfl)
theorem dX0_shown_168 : decode cX0_shown 168 = .ok (.iload_n 3, 1) := dk_29 (dk_at dksX0_shown_7 3 rfl rfl)
theorem dX0_shown_169 : decode cX0_shown 169 = .ok (.ireturn, 1) := dk_172 (dk_at dksX0_shown_7 4 rfl rfl)
abbrev cX0_deepest : ByteArray := prog_1_method_42_code
def yX0_deepest : MethodName := ⟨RX0, "deepest", "(II)I"⟩
def dkwX0_deepest_9 : List UInt8 := [160, 0, 8, 16, 254, 167, 0, 13, 28, 154, 0, 7, 29, 167, 0, 5, 21, 4, 172]
abbrev dktX0_deepest_9 : List UInt8 := dkwX0_deepest_9 ++ []
def dkwX0_deepest_8 : List UInt8 := [167, 255, 189, 132, 6, 1, 167, 255, 171, 42, 182, 1, 24, 132, 5, 1, 167, 255, 152, 29, 17, 1, 44]
abbrev dktX0_deepest_8 : List UInt8 := dkwX0_deepest_8 ++ dktX0_deepest_9
def dkwX0_deepest_7 : List UInt8 := [155, 0, 19, 21, 8, 29, 161, 0, 6, 167, 0, 10, 21, 8, 62, 21, 5, 54, 4, 132, 7, 1]
abbrev dktX0_deepest_7 : List UInt8 := dkwX0_deepest_7 ++ dktX0_deepest_8
def dkwX0_deepest_6 : List UInt8 := [51, 153, 0, 17, 42, 180, 0, 51, 21, 6, 21, 7, 182, 0, 178, 167, 0, 5, 16, 254, 54, 8, 21, 8]
abbrev dktX0_deepest_6 : List UInt8 := dkwX0_deepest_6 ++ dktX0_deepest_7
def dkwX0_deepest_5 : List UInt8 := [3, 54, 7, 21, 7, 42, 180, 0, 51, 180, 0, 158, 163, 0, 61, 42, 180, 0, 82, 21, 6, 50, 21, 7]
abbrev dktX0_deepest_5 : List UInt8 := dkwX0_deepest_5 ++ dktX0_deepest_6
def dkwX0_deepest_4 : List UInt8 := [167, 255, 190, 4, 54, 5, 21, 5, 7, 163, 0, 104, 3, 54, 6, 21, 6, 42, 182, 0, 156, 162, 0, 82]
abbrev dktX0_deepest_4 : List UInt8 := dkwX0_deepest_4 ++ dktX0_deepest_5
def dkwX0_deepest_3 : List UInt8 := [180, 0, 51, 180, 0, 158, 160, 0, 7, 4, 167, 0, 4, 3, 84, 132, 6, 1, 167, 255, 208, 132, 5, 1]
abbrev dktX0_deepest_3 : List UInt8 := dkwX0_deepest_3 ++ dktX0_deepest_4
def dkwX0_deepest_2 : List UInt8 := [180, 0, 158, 163, 0, 42, 42, 180, 0, 82, 21, 5, 50, 21, 6, 21, 5, 27, 160, 0, 19, 21, 6, 42]
abbrev dktX0_deepest_2 : List UInt8 := dkwX0_deepest_2 ++ dktX0_deepest_3
def dkwX0_deepest_1 : List UInt8 := [54, 4, 3, 54, 5, 21, 5, 42, 182, 0, 156, 162, 0, 63, 3, 54, 6, 21, 6, 42, 180, 0, 51]
abbrev dktX0_deepest_1 : List UInt8 := dkwX0_deepest_1 ++ dktX0_deepest_2
def dkwX0_deepest_0 : List UInt8 := [42, 27, 182, 0, 175, 153, 0, 12, 28, 3, 4, 184, 0, 150, 154, 0, 5, 2, 172, 17, 1, 44, 62, 3]
abbrev dktX0_deepest_0 : List UInt8 := dkwX0_deepest_0 ++ dktX0_deepest_1
theorem dksX0_deepest_0 : cX0_deepest.data.toList.drop 0 = dktX0_deepest_0 := by decide +kernel
theorem dksX0_deepest_1 : cX0_deepest.data.toList.drop 24 = dktX0_deepest_1 := dk_seg dksX0_deepest_0 24 rfl rfl
theorem dksX0_deepest_2 : cX0_deepest.data.toList.drop 47 = dktX0_deepest_2 := dk_seg dksX0_deepest_1 23 rfl rfl
theorem dksX0_deepest_3 : cX0_deepest.data.toList.drop 71 = dktX0_deepest_3 := dk_seg dksX0_deepest_2 24 rfl rfl
theorem dksX0_deepest_4 : cX0_deepest.data.toList.drop 95 = dktX0_deepest_4 := dk_seg dksX0_deepest_3 24 rfl rfl
theorem dksX0_deepest_5 : cX0_deepest.data.toList.drop 119 = dktX0_deepest_5 := dk_seg dksX0_deepest_4 24 rfl rfl
theorem dksX0_deepest_6 : cX0_deepest.data.toList.drop 143 = dktX0_deepest_6 := dk_seg dksX0_deepest_5 24 rfl rfl
theorem dksX0_deepest_7 : cX0_deepest.data.toList.drop 167 = dktX0_deepest_7 := dk_seg dksX0_deepest_6 24 rfl rfl
theorem dksX0_deepest_8 : cX0_deepest.data.toList.drop 189 = dktX0_deepest_8 := dk_seg dksX0_deepest_7 22 rfl rfl
theorem dksX0_deepest_9 : cX0_deepest.data.toList.drop 212 = dktX0_deepest_9 := dk_seg dksX0_deepest_8 23 rfl rfl
theorem dX0_deepest_0 : decode cX0_deepest 0 = .ok (.aload_n 0, 1) := dk_42 (dk_at dksX0_deepest_0 0 rfl rfl)
theorem dX0_deepest_1 : decode cX0_deepest 1 = .ok (.iload_n 1, 1) := dk_27 (dk_at dksX0_deepest_0 1 rfl rfl)
theorem dX0_deepest_2 : decode cX0_deepest 2 = .ok (.invokevirtual 175, 3) := dk_182 0 175 (dk_at dksX0_deepest_0 2 rfl rfl)
theorem dX0_deepest_5 : decode cX0_deepest 5 = .ok (.ifCond .eq 12, 3) := dk_153 0 12 (dk_at dksX0_deepest_0 5 rfl rfl)
theorem dX0_deepest_8 : decode cX0_deepest 8 = .ok (.iload_n 2, 1) := dk_28 (dk_at dksX0_deepest_0 8 rfl rfl)
theorem dX0_deepest_9 : decode cX0_deepest 9 = .ok (.iconst 0, 1) := dk_3 (dk_at dksX0_deepest_0 9 rfl rfl)
theorem dX0_deepest_10 : decode cX0_deepest 10 = .ok (.iconst 1, 1) := dk_4 (dk_at dksX0_deepest_0 10 rfl rfl)
theorem dX0_deepest_11 : decode cX0_deepest 11 = .ok (.invokestatic 150, 3) := dk_184 0 150 (dk_at dksX0_deepest_0 11 rfl rfl)
theorem dX0_deepest_14 : decode cX0_deepest 14 = .ok (.ifCond .ne 5, 3) := dk_154 0 5 (dk_at dksX0_deepest_0 14 rfl rfl)
theorem dX0_deepest_17 : decode cX0_deepest 17 = .ok (.iconst (-1), 1) := dk_2 (dk_at dksX0_deepest_0 17 rfl rfl)
theorem dX0_deepest_18 : decode cX0_deepest 18 = .ok (.ireturn, 1) := dk_172 (dk_at dksX0_deepest_0 18 rfl rfl)
theorem dX0_deepest_19 : decode cX0_deepest 19 = .ok (.sipush 300, 3) := dk_17 1 44 (dk_at dksX0_deepest_0 19 rfl rfl)
theorem dX0_deepest_22 : decode cX0_deepest 22 = .ok (.istore_n 3, 1) := dk_62 (dk_at dksX0_deepest_0 22 rfl rfl)
theorem dX0_deepest_23 : decode cX0_deepest 23 = .ok (.iconst 0, 1) := dk_3 (dk_at dksX0_deepest_0 23 rfl rfl)
theorem dX0_deepest_24 : decode cX0_deepest 24 = .ok (.istore 4, 2) := dk_54 4 (dk_at dksX0_deepest_1 0 rfl rfl)
theorem dX0_deepest_26 : decode cX0_deepest 26 = .ok (.iconst 0, 1) := dk_3 (dk_at dksX0_deepest_1 2 rfl rfl)
theorem dX0_deepest_27 : decode cX0_deepest 27 = .ok (.istore 5, 2) := dk_54 5 (dk_at dksX0_deepest_1 3 rfl rfl)
theorem dX0_deepest_29 : decode cX0_deepest 29 = .ok (.iload 5, 2) := dk_21 5 (dk_at dksX0_deepest_1 5 rfl rfl)
theorem dX0_deepest_31 : decode cX0_deepest 31 = .ok (.aload_n 0, 1) := dk_42 (dk_at dksX0_deepest_1 7 rfl rfl)
theorem dX0_deepest_32 : decode cX0_deepest 32 = .ok (.invokevirtual 156, 3) := dk_182 0 156 (dk_at dksX0_deepest_1 8 rfl rfl)
theorem dX0_deepest_35 : decode cX0_deepest 35 = .ok (.if_icmp .ge 63, 3) := dk_162 0 63 (dk_at dksX0_deepest_1 11 rfl rfl)
theorem dX0_deepest_38 : decode cX0_deepest 38 = .ok (.iconst 0, 1) := dk_3 (dk_at dksX0_deepest_1 14 rfl rfl)
theorem dX0_deepest_39 : decode cX0_deepest 39 = .ok (.istore 6, 2) := dk_54 6 (dk_at dksX0_deepest_1 15 rfl rfl)
theorem dX0_deepest_41 : decode cX0_deepest 41 = .ok (.iload 6, 2) := dk_21 6 (dk_at dksX0_deepest_1 17 rfl rfl)
theorem dX0_deepest_43 : decode cX0_deepest 43 = .ok (.aload_n 0, 1) := dk_42 (dk_at dksX0_deepest_1 19 rfl rfl)
theorem dX0_deepest_44 : decode cX0_deepest 44 = .ok (.getfield 51, 3) := dk_180 0 51 (dk_at dksX0_deepest_1 20 rfl rfl)
theorem dX0_deepest_47 : decode cX0_deepest 47 = .ok (.getfield 158, 3) := dk_180 0 158 (dk_at dksX0_deepest_2 0 rfl rfl)
theorem dX0_deepest_50 : decode cX0_deepest 50 = .ok (.if_icmp .gt 42, 3) := dk_163 0 42 (dk_at dksX0_deepest_2 3 rfl rfl)
theorem dX0_deepest_53 : decode cX0_deepest 53 = .ok (.aload_n 0, 1) := dk_42 (dk_at dksX0_deepest_2 6 rfl rfl)
theorem dX0_deepest_54 : decode cX0_deepest 54 = .ok (.getfield 82, 3) := dk_180 0 82 (dk_at dksX0_deepest_2 7 rfl rfl)
theorem dX0_deepest_57 : decode cX0_deepest 57 = .ok (.iload 5, 2) := dk_21 5 (dk_at dksX0_deepest_2 10 rfl rfl)
theorem dX0_deepest_59 : decode cX0_deepest 59 = .ok (.aaload, 1) := dk_50 (dk_at dksX0_deepest_2 12 rfl rfl)
theorem dX0_deepest_60 : decode cX0_deepest 60 = .ok (.iload 6, 2) := dk_21 6 (dk_at dksX0_deepest_2 13 rfl rfl)
theorem dX0_deepest_62 : decode cX0_deepest 62 = .ok (.iload 5, 2) := dk_21 5 (dk_at dksX0_deepest_2 15 rfl rfl)
theorem dX0_deepest_64 : decode cX0_deepest 64 = .ok (.iload_n 1, 1) := dk_27 (dk_at dksX0_deepest_2 17 rfl rfl)
theorem dX0_deepest_65 : decode cX0_deepest 65 = .ok (.if_icmp .ne 19, 3) := dk_160 0 19 (dk_at dksX0_deepest_2 18 rfl rfl)
theorem dX0_deepest_68 : decode cX0_deepest 68 = .ok (.iload 6, 2) := dk_21 6 (dk_at dksX0_deepest_2 21 rfl rfl)
theorem dX0_deepest_70 : decode cX0_deepest 70 = .ok (.aload_n 0, 1) := dk_42 (dk_at dksX0_deepest_2 23 rfl rfl)
theorem dX0_deepest_71 : decode cX0_deepest 71 = .ok (.getfield 51, 3) := dk_180 0 51 (dk_at dksX0_deepest_3 0 rfl rfl)
theorem dX0_deepest_74 : decode cX0_deepest 74 = .ok (.getfield 158, 3) := dk_180 0 158 (dk_at dksX0_deepest_3 3 rfl rfl)
theorem dX0_deepest_77 : decode cX0_deepest 77 = .ok (.if_icmp .ne 7, 3) := dk_160 0 7 (dk_at dksX0_deepest_3 6 rfl rfl)
theorem dX0_deepest_80 : decode cX0_deepest 80 = .ok (.iconst 1, 1) := dk_4 (dk_at dksX0_deepest_3 9 rfl rfl)
theorem dX0_deepest_81 : decode cX0_deepest 81 = .ok (.goto 4, 3) := dk_167 0 4 (dk_at dksX0_deepest_3 10 rfl rfl)
theorem dX0_deepest_84 : decode cX0_deepest 84 = .ok (.iconst 0, 1) := dk_3 (dk_at dksX0_deepest_3 13 rfl rfl)
theorem dX0_deepest_85 : decode cX0_deepest 85 = .ok (.bastore, 1) := dk_84 (dk_at dksX0_deepest_3 14 rfl rfl)
theorem dX0_deepest_86 : decode cX0_deepest 86 = .ok (.iinc 6 1, 3) := dk_132 6 1 (dk_at dksX0_deepest_3 15 rfl rfl)
theorem dX0_deepest_89 : decode cX0_deepest 89 = .ok (.goto (-48), 3) := dk_167 255 208 (dk_at dksX0_deepest_3 18 rfl rfl)
theorem dX0_deepest_92 : decode cX0_deepest 92 = .ok (.iinc 5 1, 3) := dk_132 5 1 (dk_at dksX0_deepest_3 21 rfl rfl)
theorem dX0_deepest_95 : decode cX0_deepest 95 = .ok (.goto (-66), 3) := dk_167 255 190 (dk_at dksX0_deepest_4 0 rfl rfl)
theorem dX0_deepest_98 : decode cX0_deepest 98 = .ok (.iconst 1, 1) := dk_4 (dk_at dksX0_deepest_4 3 rfl rfl)
theorem dX0_deepest_99 : decode cX0_deepest 99 = .ok (.istore 5, 2) := dk_54 5 (dk_at dksX0_deepest_4 4 rfl rfl)
theorem dX0_deepest_101 : decode cX0_deepest 101 = .ok (.iload 5, 2) := dk_21 5 (dk_at dksX0_deepest_4 6 rfl rfl)
theorem dX0_deepest_103 : decode cX0_deepest 103 = .ok (.iconst 4, 1) := dk_7 (dk_at dksX0_deepest_4 8 rfl rfl)
theorem dX0_deepest_104 : decode cX0_deepest 104 = .ok (.if_icmp .gt 104, 3) := dk_163 0 104 (dk_at dksX0_deepest_4 9 rfl rfl)
theorem dX0_deepest_107 : decode cX0_deepest 107 = .ok (.iconst 0, 1) := dk_3 (dk_at dksX0_deepest_4 12 rfl rfl)
theorem dX0_deepest_108 : decode cX0_deepest 108 = .ok (.istore 6, 2) := dk_54 6 (dk_at dksX0_deepest_4 13 rfl rfl)
theorem dX0_deepest_110 : decode cX0_deepest 110 = .ok (.iload 6, 2) := dk_21 6 (dk_at dksX0_deepest_4 15 rfl rfl)
theorem dX0_deepest_112 : decode cX0_deepest 112 = .ok (.aload_n 0, 1) := dk_42 (dk_at dksX0_deepest_4 17 rfl rfl)
theorem dX0_deepest_113 : decode cX0_deepest 113 = .ok (.invokevirtual 156, 3) := dk_182 0 156 (dk_at dksX0_deepest_4 18 rfl rfl)
theorem dX0_deepest_116 : decode cX0_deepest 116 = .ok (.if_icmp .ge 82, 3) := dk_162 0 82 (dk_at dksX0_deepest_4 21 rfl rfl)
theorem dX0_deepest_119 : decode cX0_deepest 119 = .ok (.iconst 0, 1) := dk_3 (dk_at dksX0_deepest_5 0 rfl rfl)
theorem dX0_deepest_120 : decode cX0_deepest 120 = .ok (.istore 7, 2) := dk_54 7 (dk_at dksX0_deepest_5 1 rfl rfl)
theorem dX0_deepest_122 : decode cX0_deepest 122 = .ok (.iload 7, 2) := dk_21 7 (dk_at dksX0_deepest_5 3 rfl rfl)
theorem dX0_deepest_124 : decode cX0_deepest 124 = .ok (.aload_n 0, 1) := dk_42 (dk_at dksX0_deepest_5 5 rfl rfl)
theorem dX0_deepest_125 : decode cX0_deepest 125 = .ok (.getfield 51, 3) := dk_180 0 51 (dk_at dksX0_deepest_5 6 rfl rfl)
theorem dX0_deepest_128 : decode cX0_deepest 128 = .ok (.getfield 158, 3) := dk_180 0 158 (dk_at dksX0_deepest_5 9 rfl rfl)
theorem dX0_deepest_131 : decode cX0_deepest 131 = .ok (.if_icmp .gt 61, 3) := dk_163 0 61 (dk_at dksX0_deepest_5 12 rfl rfl)
theorem dX0_deepest_134 : decode cX0_deepest 134 = .ok (.aload_n 0, 1) := dk_42 (dk_at dksX0_deepest_5 15 rfl rfl)
theorem dX0_deepest_135 : decode cX0_deepest 135 = .ok (.getfield 82, 3) := dk_180 0 82 (dk_at dksX0_deepest_5 16 rfl rfl)
theorem dX0_deepest_138 : decode cX0_deepest 138 = .ok (.iload 6, 2) := dk_21 6 (dk_at dksX0_deepest_5 19 rfl rfl)
theorem dX0_deepest_140 : decode cX0_deepest 140 = .ok (.aaload, 1) := dk_50 (dk_at dksX0_deepest_5 21 rfl rfl)
theorem dX0_deepest_141 : decode cX0_deepest 141 = .ok (.iload 7, 2) := dk_21 7 (dk_at dksX0_deepest_5 22 rfl rfl)
theorem dX0_deepest_143 : decode cX0_deepest 143 = .ok (.baload, 1) := dk_51 (dk_at dksX0_deepest_6 0 rfl rfl)
theorem dX0_deepest_144 : decode cX0_deepest 144 = .ok (.ifCond .eq 17, 3) := dk_153 0 17 (dk_at dksX0_deepest_6 1 rfl rfl)
theorem dX0_deepest_147 : decode cX0_deepest 147 = .ok (.aload_n 0, 1) := dk_42 (dk_at dksX0_deepest_6 4 rfl rfl)
theorem dX0_deepest_148 : decode cX0_deepest 148 = .ok (.getfield 51, 3) := dk_180 0 51 (dk_at dksX0_deepest_6 5 rfl rfl)
theorem dX0_deepest_151 : decode cX0_deepest 151 = .ok (.iload 6, 2) := dk_21 6 (dk_at dksX0_deepest_6 8 rfl rfl)
theorem dX0_deepest_153 : decode cX0_deepest 153 = .ok (.iload 7, 2) := dk_21 7 (dk_at dksX0_deepest_6 10 rfl rfl)
theorem dX0_deepest_155 : decode cX0_deepest 155 = .ok (.invokevirtual 178, 3) := dk_182 0 178 (dk_at dksX0_deepest_6 12 rfl rfl)
theorem dX0_deepest_158 : decode cX0_deepest 158 = .ok (.goto 5, 3) := dk_167 0 5 (dk_at dksX0_deepest_6 15 rfl rfl)
theorem dX0_deepest_161 : decode cX0_deepest 161 = .ok (.bipush (-2), 2) := dk_16 254 (dk_at dksX0_deepest_6 18 rfl rfl)
theorem dX0_deepest_163 : decode cX0_deepest 163 = .ok (.istore 8, 2) := dk_54 8 (dk_at dksX0_deepest_6 20 rfl rfl)
theorem dX0_deepest_165 : decode cX0_deepest 165 = .ok (.iload 8, 2) := dk_21 8 (dk_at dksX0_deepest_6 22 rfl rfl)
theorem dX0_deepest_167 : decode cX0_deepest 167 = .ok (.ifCond .lt 19, 3) := dk_155 0 19 (dk_at dksX0_deepest_7 0 rfl rfl)
theorem dX0_deepest_170 : decode cX0_deepest 170 = .ok (.iload 8, 2) := dk_21 8 (dk_at dksX0_deepest_7 3 rfl rfl)
theorem dX0_deepest_172 : decode cX0_deepest 172 = .ok (.iload_n 3, 1) := dk_29 (dk_at dksX0_deepest_7 5 rfl rfl)
theorem dX0_deepest_173 : decode cX0_deepest 173 = .ok (.if_icmp .lt 6, 3) := dk_161 0 6 (dk_at dksX0_deepest_7 6 rfl rfl)
theorem dX0_deepest_176 : decode cX0_deepest 176 = .ok (.goto 10, 3) := dk_167 0 10 (dk_at dksX0_deepest_7 9 rfl rfl)
theorem dX0_deepest_179 : decode cX0_deepest 179 = .ok (.iload 8, 2) := dk_21 8 (dk_at dksX0_deepest_7 12 rfl rfl)
theorem dX0_deepest_181 : decode cX0_deepest 181 = .ok (.istore_n 3, 1) := dk_62 (dk_at dksX0_deepest_7 14 rfl rfl)
theorem dX0_deepest_182 : decode cX0_deepest 182 = .ok (.iload 5, 2) := dk_21 5 (dk_at dksX0_deepest_7 15 rfl rfl)
theorem dX0_deepest_184 : decode cX0_deepest 184 = .ok (.istore 4, 2) := dk_54 4 (dk_at dksX0_deepest_7 17 rfl rfl)
theorem dX0_deepest_186 : decode cX0_deepest 186 = .ok (.iinc 7 1, 3) := dk_132 7 1 (dk_at dksX0_deepest_7 19 rfl rfl)
theorem dX0_deepest_189 : decode cX0_deepest 189 = .ok (.goto (-67), 3) := dk_167 255 189 (dk_at dksX0_deepest_8 0 rfl rfl)
theorem dX0_deepest_192 : decode cX0_deepest 192 = .ok (.iinc 6 1, 3) := dk_132 6 1 (dk_at dksX0_deepest_8 3 rfl rfl)
theorem dX0_deepest_195 : decode cX0_deepest 195 = .ok (.goto (-85), 3) := dk_167 255 171 (dk_at dksX0_deepest_8 6 rfl rfl)
theorem dX0_deepest_198 : decode cX0_deepest 198 = .ok (.aload_n 0, 1) := dk_42 (dk_at dksX0_deepest_8 9 rfl rfl)
theorem dX0_deepest_199 : decode cX0_deepest 199 = .ok (.invokevirtual 280, 3) := dk_182 1 24 (dk_at dksX0_deepest_8 10 rfl rfl)
theorem dX0_deepest_202 : decode cX0_deepest 202 = .ok (.iinc 5 1, 3) := dk_132 5 1 (dk_at dksX0_deepest_8 13 rfl rfl)
theorem dX0_deepest_205 : decode cX0_deepest 205 = .ok (.goto (-104), 3) := dk_167 255 152 (dk_at dksX0_deepest_8 16 rfl rfl)
theorem dX0_deepest_208 : decode cX0_deepest 208 = .ok (.iload_n 3, 1) := dk_29 (dk_at dksX0_deepest_8 19 rfl rfl)
theorem dX0_deepest_209 : decode cX0_deepest 209 = .ok (.sipush 300, 3) := dk_17 1 44 (dk_at dksX0_deepest_8 20 rfl rfl)
theorem dX0_deepest_212 : decode cX0_deepest 212 = .ok (.if_icmp .ne 8, 3) := dk_160 0 8 (dk_at dksX0_deepest_9 0 rfl rfl)
theorem dX0_deepest_215 : decode cX0_deepest 215 = .ok (.bipush (-2), 2) := dk_16 254 (dk_at dksX0_deepest_9 3 rfl rfl)
theorem dX0_deepest_217 : decode cX0_deepest 217 = .ok (.goto 13, 3) := dk_167 0 13 (dk_at dksX0_deepest_9 5 rfl rfl)
theorem dX0_deepest_220 : decode cX0_deepest 220 = .ok (.iload_n 2, 1) := dk_28 (dk_at dksX0_deepest_9 8 rfl rfl)
theorem dX0_deepest_221 : decode cX0_deepest 221 = .ok (.ifCond .ne 7, 3) := dk_154 0 7 (dk_at dksX0_deepest_9 9 rfl rfl)
theorem dX0_deepest_224 : decode cX0_deepest 224 = .ok (.iload_n 3, 1) := dk_29 (dk_at dksX0_deepest_9 12 rfl rfl)
theorem dX0_deepest_225 : decode cX0_deepest 225 = .ok (.goto 5, 3) := dk_167 0 5 (dk_at dksX0_deepest_9 13 rfl rfl)
theorem dX0_deepest_228 : decode cX0_deepest 228 = .ok (.iload 4, 2) := dk_21 4 (dk_at dksX0_deepest_9 16 rfl rfl)
theorem dX0_deepest_230 : decode cX0_deepest 230 = .ok (.ireturn, 1) := dk_172 (dk_at dksX0_deepest_9 18 rfl rfl)
abbrev cX0_goesDeeper : ByteArray := prog_1_method_41_code
def yX0_goesDeeper : MethodName := ⟨RX0, "goesDeeper", "()V"⟩
def dkwX0_goesDeeper_8 : List UInt8 := [177]
abbrev dktX0_goesDeeper_8 : List UInt8 := dkwX0_goesDeeper_8 ++ []
def dkwX0_goesDeeper_7 : List UInt8 := [180, 0, 82, 27, 50, 3, 42, 180, 0, 51, 180, 0, 158, 4, 96, 184, 1, 18, 132, 1, 1, 167, 255, 219]
abbrev dktX0_goesDeeper_7 : List UInt8 := dkwX0_goesDeeper_7 ++ dktX0_goesDeeper_8
def dkwX0_goesDeeper_6 : List UInt8 := [132, 1, 1, 167, 255, 157, 3, 60, 27, 42, 182, 0, 156, 162, 0, 35, 42, 180, 0, 85, 27, 50, 3, 42]
abbrev dktX0_goesDeeper_6 : List UInt8 := dkwX0_goesDeeper_6 ++ dktX0_goesDeeper_7
def dkwX0_goesDeeper_5 : List UInt8 := [50, 42, 180, 0, 72, 180, 1, 15, 4, 84, 132, 3, 1, 167, 255, 206, 132, 2, 1, 167, 255, 173]
abbrev dktX0_goesDeeper_5 : List UInt8 := dkwX0_goesDeeper_5 ++ dktX0_goesDeeper_6
def dkwX0_goesDeeper_4 : List UInt8 := [28, 182, 0, 242, 42, 180, 0, 72, 42, 180, 0, 51, 29, 182, 0, 245, 153, 0, 18, 42, 180, 0, 85, 29]
abbrev dktX0_goesDeeper_4 : List UInt8 := dkwX0_goesDeeper_4 ++ dktX0_goesDeeper_5
def dkwX0_goesDeeper_3 : List UInt8 := [50, 28, 51, 154, 0, 6, 167, 0, 58, 3, 62, 29, 42, 182, 0, 156, 162, 0, 48, 42, 180, 0, 72, 27]
abbrev dktX0_goesDeeper_3 : List UInt8 := dkwX0_goesDeeper_3 ++ dktX0_goesDeeper_4
def dkwX0_goesDeeper_2 : List UInt8 := [182, 0, 156, 162, 0, 97, 3, 61, 28, 42, 180, 0, 51, 180, 0, 158, 163, 0, 78, 42, 180, 0, 82, 27]
abbrev dktX0_goesDeeper_2 : List UInt8 := dkwX0_goesDeeper_2 ++ dktX0_goesDeeper_3
def dkwX0_goesDeeper_1 : List UInt8 := [180, 0, 85, 27, 50, 28, 3, 84, 132, 2, 1, 167, 255, 233, 132, 1, 1, 167, 255, 217, 3, 60, 27, 42]
abbrev dktX0_goesDeeper_1 : List UInt8 := dkwX0_goesDeeper_1 ++ dktX0_goesDeeper_2
def dkwX0_goesDeeper_0 : List UInt8 := [3, 60, 27, 42, 182, 0, 156, 162, 0, 37, 3, 61, 28, 42, 180, 0, 51, 180, 0, 158, 163, 0, 18, 42]
abbrev dktX0_goesDeeper_0 : List UInt8 := dkwX0_goesDeeper_0 ++ dktX0_goesDeeper_1
theorem dksX0_goesDeeper_0 : cX0_goesDeeper.data.toList.drop 0 = dktX0_goesDeeper_0 := by decide +kernel
theorem dksX0_goesDeeper_1 : cX0_goesDeeper.data.toList.drop 24 = dktX0_goesDeeper_1 := dk_seg dksX0_goesDeeper_0 24 rfl rfl
theorem dksX0_goesDeeper_2 : cX0_goesDeeper.data.toList.drop 48 = dktX0_goesDeeper_2 := dk_seg dksX0_goesDeeper_1 24 rfl rfl
theorem dksX0_goesDeeper_3 : cX0_goesDeeper.data.toList.drop 72 = dktX0_goesDeeper_3 := dk_seg dksX0_goesDeeper_2 24 rfl rfl
theorem dksX0_goesDeeper_4 : cX0_goesDeeper.data.toList.drop 96 = dktX0_goesDeeper_4 := dk_seg dksX0_goesDeeper_3 24 rfl rfl
theorem dksX0_goesDeeper_5 : cX0_goesDeeper.data.toList.drop 120 = dktX0_goesDeeper_5 := dk_seg dksX0_goesDeeper_4 24 rfl rfl
theorem dksX0_goesDeeper_6 : cX0_goesDeeper.data.toList.drop 142 = dktX0_goesDeeper_6 := dk_seg dksX0_goesDeeper_5 22 rfl rfl
theorem dksX0_goesDeeper_7 : cX0_goesDeeper.data.toList.drop 166 = dktX0_goesDeeper_7 := dk_seg dksX0_goesDeeper_6 24 rfl rfl
theorem dksX0_goesDeeper_8 : cX0_goesDeeper.data.toList.drop 190 = dktX0_goesDeeper_8 := dk_seg dksX0_goesDeeper_7 24 rfl rfl
theorem dX0_goesDeeper_0 : decode cX0_goesDeeper 0 = .ok (.iconst 0, 1) := dk_3 (dk_at dksX0_goesDeeper_0 0 rfl rfl)
theorem dX0_goesDeeper_1 : decode cX0_goesDeeper 1 = .ok (.istore_n 1, 1) := dk_60 (dk_at dksX0_goesDeeper_0 1 rfl rfl)
theorem dX0_goesDeeper_2 : decode cX0_goesDeeper 2 = .ok (.iload_n 1, 1) := dk_27 (dk_at dksX0_goesDeeper_0 2 rfl rfl)
theorem dX0_goesDeeper_3 : decode cX0_goesDeeper 3 = .ok (.aload_n 0, 1) := dk_42 (dk_at dksX0_goesDeeper_0 3 rfl rfl)
theorem dX0_goesDeeper_4 : decode cX0_goesDeeper 4 = .ok (.invokevirtual 156, 3) := dk_182 0 156 (dk_at dksX0_goesDeeper_0 4 rfl rfl)
theorem dX0_goesDeeper_7 : decode cX0_goesDeeper 7 = .ok (.if_icmp .ge 37, 3) := dk_162 0 37 (dk_at dksX0_goesDeeper_0 7 rfl rfl)
theorem dX0_goesDeeper_10 : decode cX0_goesDeeper 10 = .ok (.iconst 0, 1) := dk_3 (dk_at dksX0_goesDeeper_0 10 rfl rfl)
theorem dX0_goesDeeper_11 : decode cX0_goesDeeper 11 = .ok (.istore_n 2, 1) := dk_61 (dk_at dksX0_goesDeeper_0 11 rfl rfl)
theorem dX0_goesDeeper_12 : decode cX0_goesDeeper 12 = .ok (.iload_n 2, 1) := dk_28 (dk_at dksX0_goesDeeper_0 12 rfl rfl)
theorem dX0_goesDeeper_13 : decode cX0_goesDeeper 13 = .ok (.aload_n 0, 1) := dk_42 (dk_at dksX0_goesDeeper_0 13 rfl rfl)
theorem dX0_goesDeeper_14 : decode cX0_goesDeeper 14 = .ok (.getfield 51, 3) := dk_180 0 51 (dk_at dksX0_goesDeeper_0 14 rfl rfl)
theorem dX0_goesDeeper_17 : decode cX0_goesDeeper 17 = .ok (.getfield 158, 3) := dk_180 0 158 (dk_at dksX0_goesDeeper_0 17 rfl rfl)
theorem dX0_goesDeeper_20 : decode cX0_goesDeeper 20 = .ok (.if_icmp .gt 18, 3) := dk_163 0 18 (dk_at dksX0_goesDeeper_0 20 rfl rfl)
theorem dX0_goesDeeper_23 : decode cX0_goesDeeper 23 = .ok (.aload_n 0, 1) := dk_42 (dk_at dksX0_goesDeeper_0 23 rfl rfl)
theorem dX0_goesDeeper_24 : decode cX0_goesDeeper 24 = .ok (.getfield 85, 3) := dk_180 0 85 (dk_at dksX0_goesDeeper_1 0 rfl rfl)
theorem dX0_goesDeeper_27 : decode cX0_goesDeeper 27 = .ok (.iload_n 1, 1) := dk_27 (dk_at dksX0_goesDeeper_1 3 rfl rfl)
theorem dX0_goesDeeper_28 : decode cX0_goesDeeper 28 = .ok (.aaload, 1) := dk_50 (dk_at dksX0_goesDeeper_1 4 rfl rfl)
theorem dX0_goesDeeper_29 : decode cX0_goesDeeper 29 = .ok (.iload_n 2, 1) := dk_28 (dk_at dksX0_goesDeeper_1 5 rfl rfl)
theorem dX0_goesDeeper_30 : decode cX0_goesDeeper 30 = .ok (.iconst 0, 1) := dk_3 (dk_at dksX0_goesDeeper_1 6 rfl rfl)
theorem dX0_goesDeeper_31 : decode cX0_goesDeeper 31 = .ok (.bastore, 1) := dk_84 (dk_at dksX0_goesDeeper_1 7 rfl rfl)
theorem dX0_goesDeeper_32 : decode cX0_goesDeeper 32 = .ok (.iinc 2 1, 3) := dk_132 2 1 (dk_at dksX0_goesDeeper_1 8 rfl rfl)
theorem dX0_goesDeeper_35 : decode cX0_goesDeeper 35 = .ok (.goto (-23), 3) := dk_167 255 233 (dk_at dksX0_goesDeeper_1 11 rfl rfl)
theorem dX0_goesDeeper_38 : decode cX0_goesDeeper 38 = .ok (.iinc 1 1, 3) := dk_132 1 1 (dk_at dksX0_goesDeeper_1 14 rfl rfl)
theorem dX0_goesDeeper_41 : decode cX0_goesDeeper 41 = .ok (.goto (-39), 3) := dk_167 255 217 (dk_at dksX0_goesDeeper_1 17 rfl rfl)
theorem dX0_goesDeeper_44 : decode cX0_goesDeeper 44 = .ok (.iconst 0, 1) := dk_3 (dk_at dksX0_goesDeeper_1 20 rfl rfl)
theorem dX0_goesDeeper_45 : decode cX0_goesDeeper 45 = .ok (.istore_n 1, 1) := dk_60 (dk_at dksX0_goesDeeper_1 21 rfl rfl)
theorem dX0_goesDeeper_46 : decode cX0_goesDeeper 46 = .ok (.iload_n 1, 1) := dk_27 (dk_at dksX0_goesDeeper_1 22 rfl rfl)
theorem dX0_goesDeeper_47 : decode cX0_goesDeeper 47 = .ok (.aload_n 0, 1) := dk_42 (dk_at dksX0_goesDeeper_1 23 rfl rfl)
theorem dX0_goesDeeper_48 : decode cX0_goesDeeper 48 = .ok (.invokevirtual 156, 3) := dk_182 0 156 (dk_at dksX0_goesDeeper_2 0 rfl rfl)
theorem dX0_goesDeeper_51 : decode cX0_goesDeeper 51 = .ok (.if_icmp .ge 97, 3) := dk_162 0 97 (dk_at dksX0_goesDeeper_2 3 rfl rfl)
theorem dX0_goesDeeper_54 : decode cX0_goesDeeper 54 = .ok (.iconst 0, 1) := dk_3 (dk_at dksX0_goesDeeper_2 6 rfl rfl)
theorem dX0_goesDeeper_55 : decode cX0_goesDeeper 55 = .ok (.istore_n 2, 1) := dk_61 (dk_at dksX0_goesDeeper_2 7 rfl rfl)
theorem dX0_goesDeeper_56 : decode cX0_goesDeeper 56 = .ok (.iload_n 2, 1) := dk_28 (dk_at dksX0_goesDeeper_2 8 rfl rfl)
theorem dX0_goesDeeper_57 : decode cX0_goesDeeper 57 = .ok (.aload_n 0, 1) := dk_42 (dk_at dksX0_goesDeeper_2 9 rfl rfl)
theorem dX0_goesDeeper_58 : decode cX0_goesDeeper 58 = .ok (.getfield 51, 3) := dk_180 0 51 (dk_at dksX0_goesDeeper_2 10 rfl rfl)
theorem dX0_goesDeeper_61 : decode cX0_goesDeeper 61 = .ok (.getfield 158, 3) := dk_180 0 158 (dk_at dksX0_goesDeeper_2 13 rfl rfl)
theorem dX0_goesDeeper_64 : decode cX0_goesDeeper 64 = .ok (.if_icmp .gt 78, 3) := dk_163 0 78 (dk_at dksX0_goesDeeper_2 16 rfl rfl)
theorem dX0_goesDeeper_67 : decode cX0_goesDeeper 67 = .ok (.aload_n 0, 1) := dk_42 (dk_at dksX0_goesDeeper_2 19 rfl rfl)
theorem dX0_goesDeeper_68 : decode cX0_goesDeeper 68 = .ok (.getfield 82, 3) := dk_180 0 82 (dk_at dksX0_goesDeeper_2 20 rfl rfl)
theorem dX0_goesDeeper_71 : decode cX0_goesDeeper 71 = .ok (.iload_n 1, 1) := dk_27 (dk_at dksX0_goesDeeper_2 23 rfl rfl)
theorem dX0_goesDeeper_72 : decode cX0_goesDeeper 72 = .ok (.aaload, 1) := dk_50 (dk_at dksX0_goesDeeper_3 0 rfl rfl)
theorem dX0_goesDeeper_73 : decode cX0_goesDeeper 73 = .ok (.iload_n 2, 1) := dk_28 (dk_at dksX0_goesDeeper_3 1 rfl rfl)
theorem dX0_goesDeeper_74 : decode cX0_goesDeeper 74 = .ok (.baload, 1) := dk_51 (dk_at dksX0_goesDeeper_3 2 rfl rfl)
theorem dX0_goesDeeper_75 : decode cX0_goesDeeper 75 = .ok (.ifCond .ne 6, 3) := dk_154 0 6 (dk_at dksX0_goesDeeper_3 3 rfl rfl)
theorem dX0_goesDeeper_78 : decode cX0_goesDeeper 78 = .ok (.goto 58, 3) := dk_167 0 58 (dk_at dksX0_goesDeeper_3 6 rfl rfl)
theorem dX0_goesDeeper_81 : decode cX0_goesDeeper 81 = .ok (.iconst 0, 1) := dk_3 (dk_at dksX0_goesDeeper_3 9 rfl rfl)
theorem dX0_goesDeeper_82 : decode cX0_goesDeeper 82 = .ok (.istore_n 3, 1) := dk_62 (dk_at dksX0_goesDeeper_3 10 rfl rfl)
theorem dX0_goesDeeper_83 : decode cX0_goesDeeper 83 = .ok (.iload_n 3, 1) := dk_29 (dk_at dksX0_goesDeeper_3 11 rfl rfl)
theorem dX0_goesDeeper_84 : decode cX0_goesDeeper 84 = .ok (.aload_n 0, 1) := dk_42 (dk_at dksX0_goesDeeper_3 12 rfl rfl)
theorem dX0_goesDeeper_85 : decode cX0_goesDeeper 85 = .ok (.invokevirtual 156, 3) := dk_182 0 156 (dk_at dksX0_goesDeeper_3 13 rfl rfl)
theorem dX0_goesDeeper_88 : decode cX0_goesDeeper 88 = .ok (.if_icmp .ge 48, 3) := dk_162 0 48 (dk_at dksX0_goesDeeper_3 16 rfl rfl)
theorem dX0_goesDeeper_91 : decode cX0_goesDeeper 91 = .ok (.aload_n 0, 1) := dk_42 (dk_at dksX0_goesDeeper_3 19 rfl rfl)
theorem dX0_goesDeeper_92 : decode cX0_goesDeeper 92 = .ok (.getfield 72, 3) := dk_180 0 72 (dk_at dksX0_goesDeeper_3 20 rfl rfl)
theorem dX0_goesDeeper_95 : decode cX0_goesDeeper 95 = .ok (.iload_n 1, 1) := dk_27 (dk_at dksX0_goesDeeper_3 23 rfl rfl)
theorem dX0_goesDeeper_96 : decode cX0_goesDeeper 96 = .ok (.iload_n 2, 1) := dk_28 (dk_at dksX0_goesDeeper_4 0 rfl rfl)
theorem dX0_goesDeeper_97 : decode cX0_goesDeeper 97 = .ok (.invokevirtual 242, 3) := dk_182 0 242 (dk_at dksX0_goesDeeper_4 1 rfl rfl)
theorem dX0_goesDeeper_100 : decode cX0_goesDeeper 100 = .ok (.aload_n 0, 1) := dk_42 (dk_at dksX0_goesDeeper_4 4 rfl rfl)
theorem dX0_goesDeeper_101 : decode cX0_goesDeeper 101 = .ok (.getfield 72, 3) := dk_180 0 72 (dk_at dksX0_goesDeeper_4 5 rfl rfl)
theorem dX0_goesDeeper_104 : decode cX0_goesDeeper 104 = .ok (.aload_n 0, 1) := dk_42 (dk_at dksX0_goesDeeper_4 8 rfl rfl)
theorem dX0_goesDeeper_105 : decode cX0_goesDeeper 105 = .ok (.getfield 51, 3) := dk_180 0 51 (dk_at dksX0_goesDeeper_4 9 rfl rfl)
theorem dX0_goesDeeper_108 : decode cX0_goesDeeper 108 = .ok (.iload_n 3, 1) := dk_29 (dk_at dksX0_goesDeeper_4 12 rfl rfl)
theorem dX0_goesDeeper_109 : decode cX0_goesDeeper 109 = .ok (.invokevirtual 245, 3) := dk_182 0 245 (dk_at dksX0_goesDeeper_4 13 rfl rfl)
theorem dX0_goesDeeper_112 : decode cX0_goesDeeper 112 = .ok (.ifCond .eq 18, 3) := dk_153 0 18 (dk_at dksX0_goesDeeper_4 16 rfl rfl)
theorem dX0_goesDeeper_115 : decode cX0_goesDeeper 115 = .ok (.aload_n 0, 1) := dk_42 (dk_at dksX0_goesDeeper_4 19 rfl rfl)
theorem dX0_goesDeeper_116 : decode cX0_goesDeeper 116 = .ok (.getfield 85, 3) := dk_180 0 85 (dk_at dksX0_goesDeeper_4 20 rfl rfl)
theorem dX0_goesDeeper_119 : decode cX0_goesDeeper 119 = .ok (.iload_n 3, 1) := dk_29 (dk_at dksX0_goesDeeper_4 23 rfl rfl)
theorem dX0_goesDeeper_120 : decode cX0_goesDeeper 120 = .ok (.aaload, 1) := dk_50 (dk_at dksX0_goesDeeper_5 0 rfl rfl)
theorem dX0_goesDeeper_121 : decode cX0_goesDeeper 121 = .ok (.aload_n 0, 1) := dk_42 (dk_at dksX0_goesDeeper_5 1 rfl rfl)
theorem dX0_goesDeeper_122 : decode cX0_goesDeeper 122 = .ok (.getfield 72, 3) := dk_180 0 72 (dk_at dksX0_goesDeeper_5 2 rfl rfl)
theorem dX0_goesDeeper_125 : decode cX0_goesDeeper 125 = .ok (.getfield 271, 3) := dk_180 1 15 (dk_at dksX0_goesDeeper_5 5 rfl rfl)
theorem dX0_goesDeeper_128 : decode cX0_goesDeeper 128 = .ok (.iconst 1, 1) := dk_4 (dk_at dksX0_goesDeeper_5 8 rfl rfl)
theorem dX0_goesDeeper_129 : decode cX0_goesDeeper 129 = .ok (.bastore, 1) := dk_84 (dk_at dksX0_goesDeeper_5 9 rfl rfl)
theorem dX0_goesDeeper_130 : decode cX0_goesDeeper 130 = .ok (.iinc 3 1, 3) := dk_132 3 1 (dk_at dksX0_goesDeeper_5 10 rfl rfl)
theorem dX0_goesDeeper_133 : decode cX0_goesDeeper 133 = .ok (.goto (-50), 3) := dk_167 255 206 (dk_at dksX0_goesDeeper_5 13 rfl rfl)
theorem dX0_goesDeeper_136 : decode cX0_goesDeeper 136 = .ok (.iinc 2 1, 3) := dk_132 2 1 (dk_at dksX0_goesDeeper_5 16 rfl rfl)
theorem dX0_goesDeeper_139 : decode cX0_goesDeeper 139 = .ok (.goto (-83), 3) := dk_167 255 173 (dk_at dksX0_goesDeeper_5 19 rfl rfl)
theorem dX0_goesDeeper_142 : decode cX0_goesDeeper 142 = .ok (.iinc 1 1, 3) := dk_132 1 1 (dk_at dksX0_goesDeeper_6 0 rfl rfl)
theorem dX0_goesDeeper_145 : decode cX0_goesDeeper 145 = .ok (.goto (-99), 3) := dk_167 255 157 (dk_at dksX0_goesDeeper_6 3 rfl rfl)
theorem dX0_goesDeeper_148 : decode cX0_goesDeeper 148 = .ok (.iconst 0, 1) := dk_3 (dk_at dksX0_goesDeeper_6 6 rfl rfl)
theorem dX0_goesDeeper_149 : decode cX0_goesDeeper 149 = .ok (.istore_n 1, 1) := dk_60 (dk_at dksX0_goesDeeper_6 7 rfl rfl)
theorem dX0_goesDeeper_150 : decode cX0_goesDeeper 150 = .ok (.iload_n 1, 1) := dk_27 (dk_at dksX0_goesDeeper_6 8 rfl rfl)
theorem dX0_goesDeeper_151 : decode cX0_goesDeeper 151 = .ok (.aload_n 0, 1) := dk_42 (dk_at dksX0_goesDeeper_6 9 rfl rfl)
theorem dX0_goesDeeper_152 : decode cX0_goesDeeper 152 = .ok (.invokevirtual 156, 3) := dk_182 0 156 (dk_at dksX0_goesDeeper_6 10 rfl rfl)
theorem dX0_goesDeeper_155 : decode cX0_goesDeeper 155 = .ok (.if_icmp .ge 35, 3) := dk_162 0 35 (dk_at dksX0_goesDeeper_6 13 rfl rfl)
theorem dX0_goesDeeper_158 : decode cX0_goesDeeper 158 = .ok (.aload_n 0, 1) := dk_42 (dk_at dksX0_goesDeeper_6 16 rfl rfl)
theorem dX0_goesDeeper_159 : decode cX0_goesDeeper 159 = .ok (.getfield 85, 3) := dk_180 0 85 (dk_at dksX0_goesDeeper_6 17 rfl rfl)
theorem dX0_goesDeeper_162 : decode cX0_goesDeeper 162 = .ok (.iload_n 1, 1) := dk_27 (dk_at dksX0_goesDeeper_6 20 rfl rfl)
theorem dX0_goesDeeper_163 : decode cX0_goesDeeper 163 = .ok (.aaload, 1) := dk_50 (dk_at dksX0_goesDeeper_6 21 rfl rfl)
theorem dX0_goesDeeper_164 : decode cX0_goesDeeper 164 = .ok (.iconst 0, 1) := dk_3 (dk_at dksX0_goesDeeper_6 22 rfl rfl)
theorem dX0_goesDeeper_165 : decode cX0_goesDeeper 165 = .ok (.aload_n 0, 1) := dk_42 (dk_at dksX0_goesDeeper_6 23 rfl rfl)
theorem dX0_goesDeeper_166 : decode cX0_goesDeeper 166 = .ok (.getfield 82, 3) := dk_180 0 82 (dk_at dksX0_goesDeeper_7 0 rfl rfl)
theorem dX0_goesDeeper_169 : decode cX0_goesDeeper 169 = .ok (.iload_n 1, 1) := dk_27 (dk_at dksX0_goesDeeper_7 3 rfl rfl)
theorem dX0_goesDeeper_170 : decode cX0_goesDeeper 170 = .ok (.aaload, 1) := dk_50 (dk_at dksX0_goesDeeper_7 4 rfl rfl)
theorem dX0_goesDeeper_171 : decode cX0_goesDeeper 171 = .ok (.iconst 0, 1) := dk_3 (dk_at dksX0_goesDeeper_7 5 rfl rfl)
theorem dX0_goesDeeper_172 : decode cX0_goesDeeper 172 = .ok (.aload_n 0, 1) := dk_42 (dk_at dksX0_goesDeeper_7 6 rfl rfl)
theorem dX0_goesDeeper_173 : decode cX0_goesDeeper 173 = .ok (.getfield 51, 3) := dk_180 0 51 (dk_at dksX0_goesDeeper_7 7 rfl rfl)
theorem dX0_goesDeeper_176 : decode cX0_goesDeeper 176 = .ok (.getfield 158, 3) := dk_180 0 158 (dk_at dksX0_goesDeeper_7 10 rfl rfl)
theorem dX0_goesDeeper_179 : decode cX0_goesDeeper 179 = .ok (.iconst 1, 1) := dk_4 (dk_at dksX0_goesDeeper_7 13 rfl rfl)
theorem dX0_goesDeeper_180 : decode cX0_goesDeeper 180 = .ok (.iadd, 1) := dk_96 (dk_at dksX0_goesDeeper_7 14 rfl rfl)
theorem dX0_goesDeeper_181 : decode cX0_goesDeeper 181 = .ok (.invokestatic 274, 3) := dk_184 1 18 (dk_at dksX0_goesDeeper_7 15 rfl rfl)
theorem dX0_goesDeeper_184 : decode cX0_goesDeeper 184 = .ok (.iinc 1 1, 3) := dk_132 1 1 (dk_at dksX0_goesDeeper_7 18 rfl rfl)
theorem dX0_goesDeeper_187 : decode cX0_goesDeeper 187 = .ok (.goto (-37), 3) := dk_167 255 219 (dk_at dksX0_goesDeeper_7 21 rfl rfl)
theorem dX0_goesDeeper_190 : decode cX0_goesDeeper 190 = .ok (.return_, 1) := dk_177 (dk_at dksX0_goesDeeper_8 0 rfl rfl)
abbrev cX0_crowd : ByteArray := prog_1_method_43_code
def yX0_crowd : MethodName := ⟨RX0, "crowd", "(II)I"⟩
def dkwX0_crowd_3 : List UInt8 := [54, 4, 132, 5, 1, 167, 255, 208, 28, 153, 0, 7, 29, 156, 0, 7, 29, 167, 0, 5, 21, 4, 172]
abbrev dktX0_crowd_3 : List UInt8 := dkwX0_crowd_3 ++ []
def dkwX0_crowd_2 : List UInt8 := [27, 182, 0, 255, 184, 1, 27, 54, 6, 21, 6, 21, 4, 163, 0, 6, 167, 0, 10, 21, 5, 62, 21, 6]
abbrev dktX0_crowd_2 : List UInt8 := dkwX0_crowd_2 ++ dktX0_crowd_3
def dkwX0_crowd_1 : List UInt8 := [54, 4, 3, 54, 5, 21, 5, 42, 182, 0, 148, 162, 0, 45, 42, 180, 0, 51, 42, 180, 0, 40, 21, 5]
abbrev dktX0_crowd_1 : List UInt8 := dkwX0_crowd_1 ++ dktX0_crowd_2
def dkwX0_crowd_0 : List UInt8 := [42, 27, 182, 0, 165, 153, 0, 12, 28, 3, 4, 184, 0, 150, 154, 0, 5, 2, 172, 16, 254, 62, 2]
abbrev dktX0_crowd_0 : List UInt8 := dkwX0_crowd_0 ++ dktX0_crowd_1
theorem dksX0_crowd_0 : cX0_crowd.data.toList.drop 0 = dktX0_crowd_0 := by decide +kernel
theorem dksX0_crowd_1 : cX0_crowd.data.toList.drop 23 = dktX0_crowd_1 := dk_seg dksX0_crowd_0 23 rfl rfl
theorem dksX0_crowd_2 : cX0_crowd.data.toList.drop 47 = dktX0_crowd_2 := dk_seg dksX0_crowd_1 24 rfl rfl
theorem dksX0_crowd_3 : cX0_crowd.data.toList.drop 71 = dktX0_crowd_3 := dk_seg dksX0_crowd_2 24 rfl rfl
theorem dX0_crowd_0 : decode cX0_crowd 0 = .ok (.aload_n 0, 1) := dk_42 (dk_at dksX0_crowd_0 0 rfl rfl)
theorem dX0_crowd_1 : decode cX0_crowd 1 = .ok (.iload_n 1, 1) := dk_27 (dk_at dksX0_crowd_0 1 rfl rfl)
theorem dX0_crowd_2 : decode cX0_crowd 2 = .ok (.invokevirtual 165, 3) := dk_182 0 165 (dk_at dksX0_crowd_0 2 rfl rfl)
theorem dX0_crowd_5 : decode cX0_crowd 5 = .ok (.ifCond .eq 12, 3) := dk_153 0 12 (dk_at dksX0_crowd_0 5 rfl rfl)
theorem dX0_crowd_8 : decode cX0_crowd 8 = .ok (.iload_n 2, 1) := dk_28 (dk_at dksX0_crowd_0 8 rfl rfl)
theorem dX0_crowd_9 : decode cX0_crowd 9 = .ok (.iconst 0, 1) := dk_3 (dk_at dksX0_crowd_0 9 rfl rfl)
theorem dX0_crowd_10 : decode cX0_crowd 10 = .ok (.iconst 1, 1) := dk_4 (dk_at dksX0_crowd_0 10 rfl rfl)
theorem dX0_crowd_11 : decode cX0_crowd 11 = .ok (.invokestatic 150, 3) := dk_184 0 150 (dk_at dksX0_crowd_0 11 rfl rfl)
theorem dX0_crowd_14 : decode cX0_crowd 14 = .ok (.ifCond .ne 5, 3) := dk_154 0 5 (dk_at dksX0_crowd_0 14 rfl rfl)
theorem dX0_crowd_17 : decode cX0_crowd 17 = .ok (.iconst (-1), 1) := dk_2 (dk_at dksX0_crowd_0 17 rfl rfl)
theorem dX0_crowd_18 : decode cX0_crowd 18 = .ok (.ireturn, 1) := dk_172 (dk_at dksX0_crowd_0 18 rfl rfl)
theorem dX0_crowd_19 : decode cX0_crowd 19 = .ok (.bipush (-2), 2) := dk_16 254 (dk_at dksX0_crowd_0 19 rfl rfl)
theorem dX0_crowd_21 : decode cX0_crowd 21 = .ok (.istore_n 3, 1) := dk_62 (dk_at dksX0_crowd_0 21 rfl rfl)
theorem dX0_crowd_22 : decode cX0_crowd 22 = .ok (.iconst (-1), 1) := dk_2 (dk_at dksX0_crowd_0 22 rfl rfl)
theorem dX0_crowd_23 : decode cX0_crowd 23 = .ok (.istore 4, 2) := dk_54 4 (dk_at dksX0_crowd_1 0 rfl rfl)
theorem dX0_crowd_25 : decode cX0_crowd 25 = .ok (.iconst 0, 1) := dk_3 (dk_at dksX0_crowd_1 2 rfl rfl)
theorem dX0_crowd_26 : decode cX0_crowd 26 = .ok (.istore 5, 2) := dk_54 5 (dk_at dksX0_crowd_1 3 rfl rfl)
theorem dX0_crowd_28 : decode cX0_crowd 28 = .ok (.iload 5, 2) := dk_21 5 (dk_at dksX0_crowd_1 5 rfl rfl)
theorem dX0_crowd_30 : decode cX0_crowd 30 = .ok (.aload_n 0, 1) := dk_42 (dk_at dksX0_crowd_1 7 rfl rfl)
theorem dX0_crowd_31 : decode cX0_crowd 31 = .ok (.invokevirtual 148, 3) := dk_182 0 148 (dk_at dksX0_crowd_1 8 rfl rfl)
theorem dX0_crowd_34 : decode cX0_crowd 34 = .ok (.if_icmp .ge 45, 3) := dk_162 0 45 (dk_at dksX0_crowd_1 11 rfl rfl)
theorem dX0_crowd_37 : decode cX0_crowd 37 = .ok (.aload_n 0, 1) := dk_42 (dk_at dksX0_crowd_1 14 rfl rfl)
theorem dX0_crowd_38 : decode cX0_crowd 38 = .ok (.getfield 51, 3) := dk_180 0 51 (dk_at dksX0_crowd_1 15 rfl rfl)
theorem dX0_crowd_41 : decode cX0_crowd 41 = .ok (.aload_n 0, 1) := dk_42 (dk_at dksX0_crowd_1 18 rfl rfl)
theorem dX0_crowd_42 : decode cX0_crowd 42 = .ok (.getfield 40, 3) := dk_180 0 40 (dk_at dksX0_crowd_1 19 rfl rfl)
theorem dX0_crowd_45 : decode cX0_crowd 45 = .ok (.iload 5, 2) := dk_21 5 (dk_at dksX0_crowd_1 22 rfl rfl)
theorem dX0_crowd_47 : decode cX0_crowd 47 = .ok (.iload_n 1, 1) := dk_27 (dk_at dksX0_crowd_2 0 rfl rfl)
theorem dX0_crowd_48 : decode cX0_crowd 48 = .ok (.invokevirtual 255, 3) := dk_182 0 255 (dk_at dksX0_crowd_2 1 rfl rfl)
theorem dX0_crowd_51 : decode cX0_crowd 51 = .ok (.invokestatic 283, 3) := dk_184 1 27 (dk_at dksX0_crowd_2 4 rfl rfl)
theorem dX0_crowd_54 : decode cX0_crowd 54 = .ok (.istore 6, 2) := dk_54 6 (dk_at dksX0_crowd_2 7 rfl rfl)
theorem dX0_crowd_56 : decode cX0_crowd 56 = .ok (.iload 6, 2) := dk_21 6 (dk_at dksX0_crowd_2 9 rfl rfl)
theorem dX0_crowd_58 : decode cX0_crowd 58 = .ok (.iload 4, 2) := dk_21 4 (dk_at dksX0_crowd_2 11 rfl rfl)
theorem dX0_crowd_60 : decode cX0_crowd 60 = .ok (.if_icmp .gt 6, 3) := dk_163 0 6 (dk_at dksX0_crowd_2 13 rfl rfl)
theorem dX0_crowd_63 : decode cX0_crowd 63 = .ok (.goto 10, 3) := dk_167 0 10 (dk_at dksX0_crowd_2 16 rfl rfl)
theorem dX0_crowd_66 : decode cX0_crowd 66 = .ok (.iload 5, 2) := dk_21 5 (dk_at dksX0_crowd_2 19 rfl rfl)
theorem dX0_crowd_68 : decode cX0_crowd 68 = .ok (.istore_n 3, 1) := dk_62 (dk_at dksX0_crowd_2 21 rfl rfl)
theorem dX0_crowd_69 : decode cX0_crowd 69 = .ok (.iload 6, 2) := dk_21 6 (dk_at dksX0_crowd_2 22 rfl rfl)
theorem dX0_crowd_71 : decode cX0_crowd 71 = .ok (.istore 4, 2) := dk_54 4 (dk_at dksX0_crowd_3 0 rfl rfl)
theorem dX0_crowd_73 : decode cX0_crowd 73 = .ok (.iinc 5 1, 3) := dk_132 5 1 (dk_at dksX0_crowd_3 2 rfl rfl)
theorem dX0_crowd_76 : decode cX0_crowd 76 = .ok (.goto (-48), 3) := dk_167 255 208 (dk_at dksX0_crowd_3 5 rfl rfl)
theorem dX0_crowd_79 : decode cX0_crowd 79 = .ok (.iload_n 2, 1) := dk_28 (dk_at dksX0_crowd_3 8 rfl rfl)
theorem dX0_crowd_80 : decode cX0_crowd 80 = .ok (.ifCond .eq 7, 3) := dk_153 0 7 (dk_at dksX0_crowd_3 9 rfl rfl)
theorem dX0_crowd_83 : decode cX0_crowd 83 = .ok (.iload_n 3, 1) := dk_29 (dk_at dksX0_crowd_3 12 rfl rfl)
theorem dX0_crowd_84 : decode cX0_crowd 84 = .ok (.ifCond .ge 7, 3) := dk_156 0 7 (dk_at dksX0_crowd_3 13 rfl rfl)
theorem dX0_crowd_87 : decode cX0_crowd 87 = .ok (.iload_n 3, 1) := dk_29 (dk_at dksX0_crowd_3 16 rfl rfl)
theorem dX0_crowd_88 : decode cX0_crowd 88 = .ok (.goto 5, 3) := dk_167 0 5 (dk_at dksX0_crowd_3 17 rfl rfl)
theorem dX0_crowd_91 : decode cX0_crowd 91 = .ok (.iload 4, 2) := dk_21 4 (dk_at dksX0_crowd_3 20 rfl rfl)
theorem dX0_crowd_93 : decode cX0_crowd 93 = .ok (.ireturn, 1) := dk_172 (dk_at dksX0_crowd_3 22 rfl rfl)
abbrev cX0_rankFor : ByteArray := prog_1_method_44_code
def yX0_rankFor : MethodName := ⟨RX0, "rankFor", "(II)I"⟩
def dkwX0_rankFor_4 : List UInt8 := [100, 28, 160, 0, 6, 21, 4, 172, 132, 4, 1, 167, 255, 223, 16, 254, 172]
abbrev dktX0_rankFor_4 : List UInt8 := dkwX0_rankFor_4 ++ []
def dkwX0_rankFor_3 : List UInt8 := [54, 4, 21, 4, 16, 20, 163, 0, 32, 29, 42, 180, 0, 51, 42, 180, 0, 40, 27, 21, 4, 182, 1, 33]
abbrev dktX0_rankFor_3 : List UInt8 := dkwX0_rankFor_3 ++ dktX0_rankFor_4
def dkwX0_rankFor_2 : List UInt8 := [50, 29, 51, 154, 0, 17, 42, 180, 0, 51, 180, 0, 188, 27, 50, 28, 51, 153, 0, 6, 16, 254, 172, 3]
abbrev dktX0_rankFor_2 : List UInt8 := dkwX0_rankFor_2 ++ dktX0_rankFor_3
def dkwX0_rankFor_1 : List UInt8 := [180, 0, 158, 62, 42, 180, 0, 51, 27, 29, 182, 0, 191, 154, 0, 31, 42, 180, 0, 51, 180, 0, 188, 27]
abbrev dktX0_rankFor_1 : List UInt8 := dkwX0_rankFor_1 ++ dktX0_rankFor_2
def dkwX0_rankFor_0 : List UInt8 := [42, 27, 182, 0, 175, 153, 0, 11, 42, 28, 182, 0, 165, 154, 0, 5, 2, 172, 42, 180, 0, 51]
abbrev dktX0_rankFor_0 : List UInt8 := dkwX0_rankFor_0 ++ dktX0_rankFor_1
theorem dksX0_rankFor_0 : cX0_rankFor.data.toList.drop 0 = dktX0_rankFor_0 := by decide +kernel
theorem dksX0_rankFor_1 : cX0_rankFor.data.toList.drop 22 = dktX0_rankFor_1 := dk_seg dksX0_rankFor_0 22 rfl rfl
theorem dksX0_rankFor_2 : cX0_rankFor.data.toList.drop 46 = dktX0_rankFor_2 := dk_seg dksX0_rankFor_1 24 rfl rfl
theorem dksX0_rankFor_3 : cX0_rankFor.data.toList.drop 70 = dktX0_rankFor_3 := dk_seg dksX0_rankFor_2 24 rfl rfl
theorem dksX0_rankFor_4 : cX0_rankFor.data.toList.drop 94 = dktX0_rankFor_4 := dk_seg dksX0_rankFor_3 24 rfl rfl
theorem dX0_rankFor_0 : decode cX0_rankFor 0 = .ok (.aload_n 0, 1) := dk_42 (dk_at dksX0_rankFor_0 0 rfl rfl)
theorem dX0_rankFor_1 : decode cX0_rankFor 1 = .ok (.iload_n 1, 1) := dk_27 (dk_at dksX0_rankFor_0 1 rfl rfl)
theorem dX0_rankFor_2 : decode cX0_rankFor 2 = .ok (.invokevirtual 175, 3) := dk_182 0 175 (dk_at dksX0_rankFor_0 2 rfl rfl)
theorem dX0_rankFor_5 : decode cX0_rankFor 5 = .ok (.ifCond .eq 11, 3) := dk_153 0 11 (dk_at dksX0_rankFor_0 5 rfl rfl)
theorem dX0_rankFor_8 : decode cX0_rankFor 8 = .ok (.aload_n 0, 1) := dk_42 (dk_at dksX0_rankFor_0 8 rfl rfl)
theorem dX0_rankFor_9 : decode cX0_rankFor 9 = .ok (.iload_n 2, 1) := dk_28 (dk_at dksX0_rankFor_0 9 rfl rfl)
theorem dX0_rankFor_10 : decode cX0_rankFor 10 = .ok (.invokevirtual 165, 3) := dk_182 0 165 (dk_at dksX0_rankFor_0 10 rfl rfl)
theorem dX0_rankFor_13 : decode cX0_rankFor 13 = .ok (.ifCond .ne 5, 3) := dk_154 0 5 (dk_at dksX0_rankFor_0 13 rfl rfl)
theorem dX0_rankFor_16 : decode cX0_rankFor 16 = .ok (.iconst (-1), 1) := dk_2 (dk_at dksX0_rankFor_0 16 rfl rfl)
theorem dX0_rankFor_17 : decode cX0_rankFor 17 = .ok (.ireturn, 1) := dk_172 (dk_at dksX0_rankFor_0 17 rfl rfl)
theorem dX0_rankFor_18 : decode cX0_rankFor 18 = .ok (.aload_n 0, 1) := dk_42 (dk_at dksX0_rankFor_0 18 rfl rfl)
theorem dX0_rankFor_19 : decode cX0_rankFor 19 = .ok (.getfield 51, 3) := dk_180 0 51 (dk_at dksX0_rankFor_0 19 rfl rfl)
theorem dX0_rankFor_22 : decode cX0_rankFor 22 = .ok (.getfield 158, 3) := dk_180 0 158 (dk_at dksX0_rankFor_1 0 rfl rfl)
theorem dX0_rankFor_25 : decode cX0_rankFor 25 = .ok (.istore_n 3, 1) := dk_62 (dk_at dksX0_rankFor_1 3 rfl rfl)
theorem dX0_rankFor_26 : decode cX0_rankFor 26 = .ok (.aload_n 0, 1) := dk_42 (dk_at dksX0_rankFor_1 4 rfl rfl)
theorem dX0_rankFor_27 : decode cX0_rankFor 27 = .ok (.getfield 51, 3) := dk_180 0 51 (dk_at dksX0_rankFor_1 5 rfl rfl)
theorem dX0_rankFor_30 : decode cX0_rankFor 30 = .ok (.iload_n 1, 1) := dk_27 (dk_at dksX0_rankFor_1 8 rfl rfl)
theorem dX0_rankFor_31 : decode cX0_rankFor 31 = .ok (.iload_n 3, 1) := dk_29 (dk_at dksX0_rankFor_1 9 rfl rfl)
theorem dX0_rankFor_32 : decode cX0_rankFor 32 = .ok (.invokevirtual 191, 3) := dk_182 0 191 (dk_at dksX0_rankFor_1 10 rfl rfl)
theorem dX0_rankFor_35 : decode cX0_rankFor 35 = .ok (.ifCond .ne 31, 3) := dk_154 0 31 (dk_at dksX0_rankFor_1 13 rfl rfl)
theorem dX0_rankFor_38 : decode cX0_rankFor 38 = .ok (.aload_n 0, 1) := dk_42 (dk_at dksX0_rankFor_1 16 rfl rfl)
theorem dX0_rankFor_39 : decode cX0_rankFor 39 = .ok (.getfield 51, 3) := dk_180 0 51 (dk_at dksX0_rankFor_1 17 rfl rfl)
theorem dX0_rankFor_42 : decode cX0_rankFor 42 = .ok (.getfield 188, 3) := dk_180 0 188 (dk_at dksX0_rankFor_1 20 rfl rfl)
theorem dX0_rankFor_45 : decode cX0_rankFor 45 = .ok (.iload_n 1, 1) := dk_27 (dk_at dksX0_rankFor_1 23 rfl rfl)
theorem dX0_rankFor_46 : decode cX0_rankFor 46 = .ok (.aaload, 1) := dk_50 (dk_at dksX0_rankFor_2 0 rfl rfl)
theorem dX0_rankFor_47 : decode cX0_rankFor 47 = .ok (.iload_n 3, 1) := dk_29 (dk_at dksX0_rankFor_2 1 rfl rfl)
theorem dX0_rankFor_48 : decode cX0_rankFor 48 = .ok (.baload, 1) := dk_51 (dk_at dksX0_rankFor_2 2 rfl rfl)
theorem dX0_rankFor_49 : decode cX0_rankFor 49 = .ok (.ifCond .ne 17, 3) := dk_154 0 17 (dk_at dksX0_rankFor_2 3 rfl rfl)
theorem dX0_rankFor_52 : decode cX0_rankFor 52 = .ok (.aload_n 0, 1) := dk_42 (dk_at dksX0_rankFor_2 6 rfl rfl)
theorem dX0_rankFor_53 : decode cX0_rankFor 53 = .ok (.getfield 51, 3) := dk_180 0 51 (dk_at dksX0_rankFor_2 7 rfl rfl)
theorem dX0_rankFor_56 : decode cX0_rankFor 56 = .ok (.getfield 188, 3) := dk_180 0 188 (dk_at dksX0_rankFor_2 10 rfl rfl)
theorem dX0_rankFor_59 : decode cX0_rankFor 59 = .ok (.iload_n 1, 1) := dk_27 (dk_at dksX0_rankFor_2 13 rfl rfl)
theorem dX0_rankFor_60 : decode cX0_rankFor 60 = .ok (.aaload, 1) := dk_50 (dk_at dksX0_rankFor_2 14 rfl rfl)
theorem dX0_rankFor_61 : decode cX0_rankFor 61 = .ok (.iload_n 2, 1) := dk_28 (dk_at dksX0_rankFor_2 15 rfl rfl)
theorem dX0_rankFor_62 : decode cX0_rankFor 62 = .ok (.baload, 1) := dk_51 (dk_at dksX0_rankFor_2 16 rfl rfl)
theorem dX0_rankFor_63 : decode cX0_rankFor 63 = .ok (.ifCond .eq 6, 3) := dk_153 0 6 (dk_at dksX0_rankFor_2 17 rfl rfl)
theorem dX0_rankFor_66 : decode cX0_rankFor 66 = .ok (.bipush (-2), 2) := dk_16 254 (dk_at dksX0_rankFor_2 20 rfl rfl)
theorem dX0_rankFor_68 : decode cX0_rankFor 68 = .ok (.ireturn, 1) := dk_172 (dk_at dksX0_rankFor_2 22 rfl rfl)
theorem dX0_rankFor_69 : decode cX0_rankFor 69 = .ok (.iconst 0, 1) := dk_3 (dk_at dksX0_rankFor_2 23 rfl rfl)
theorem dX0_rankFor_70 : decode cX0_rankFor 70 = .ok (.istore 4, 2) := dk_54 4 (dk_at dksX0_rankFor_3 0 rfl rfl)
theorem dX0_rankFor_72 : decode cX0_rankFor 72 = .ok (.iload 4, 2) := dk_21 4 (dk_at dksX0_rankFor_3 2 rfl rfl)
theorem dX0_rankFor_74 : decode cX0_rankFor 74 = .ok (.bipush 20, 2) := dk_16 20 (dk_at dksX0_rankFor_3 4 rfl rfl)
theorem dX0_rankFor_76 : decode cX0_rankFor 76 = .ok (.if_icmp .gt 32, 3) := dk_163 0 32 (dk_at dksX0_rankFor_3 6 rfl rfl)
theorem dX0_rankFor_79 : decode cX0_rankFor 79 = .ok (.iload_n 3, 1) := dk_29 (dk_at dksX0_rankFor_3 9 rfl rfl)
theorem dX0_rankFor_80 : decode cX0_rankFor 80 = .ok (.aload_n 0, 1) := dk_42 (dk_at dksX0_rankFor_3 10 rfl rfl)
theorem dX0_rankFor_81 : decode cX0_rankFor 81 = .ok (.getfield 51, 3) := dk_180 0 51 (dk_at dksX0_rankFor_3 11 rfl rfl)
theorem dX0_rankFor_84 : decode cX0_rankFor 84 = .ok (.aload_n 0, 1) := dk_42 (dk_at dksX0_rankFor_3 14 rfl rfl)
theorem dX0_rankFor_85 : decode cX0_rankFor 85 = .ok (.getfield 40, 3) := dk_180 0 40 (dk_at dksX0_rankFor_3 15 rfl rfl)
theorem dX0_rankFor_88 : decode cX0_rankFor 88 = .ok (.iload_n 1, 1) := dk_27 (dk_at dksX0_rankFor_3 18 rfl rfl)
theorem dX0_rankFor_89 : decode cX0_rankFor 89 = .ok (.iload 4, 2) := dk_21 4 (dk_at dksX0_rankFor_3 19 rfl rfl)
theorem dX0_rankFor_91 : decode cX0_rankFor 91 = .ok (.invokevirtual 289, 3) := dk_182 1 33 (dk_at dksX0_rankFor_3 21 rfl rfl)
theorem dX0_rankFor_94 : decode cX0_rankFor 94 = .ok (.isub, 1) := dk_100 (dk_at dksX0_rankFor_4 0 rfl rfl)
theorem dX0_rankFor_95 : decode cX0_rankFor 95 = .ok (.iload_n 2, 1) := dk_28 (dk_at dksX0_rankFor_4 1 rfl rfl)
theorem dX0_rankFor_96 : decode cX0_rankFor 96 = .ok (.if_icmp .ne 6, 3) := dk_160 0 6 (dk_at dksX0_rankFor_4 2 rfl rfl)
theorem dX0_rankFor_99 : decode cX0_rankFor 99 = .ok (.iload 4, 2) := dk_21 4 (dk_at dksX0_rankFor_4 5 rfl rfl)
theorem dX0_rankFor_101 : decode cX0_rankFor 101 = .ok (.ireturn, 1) := dk_172 (dk_at dksX0_rankFor_4 7 rfl rfl)
theorem dX0_rankFor_102 : decode cX0_rankFor 102 = .ok (.iinc 4 1, 3) := dk_132 4 1 (dk_at dksX0_rankFor_4 8 rfl rfl)
theorem dX0_rankFor_105 : decode cX0_rankFor 105 = .ok (.goto (-33), 3) := dk_167 255 223 (dk_at dksX0_rankFor_4 11 rfl rfl)
theorem dX0_rankFor_108 : decode cX0_rankFor 108 = .ok (.bipush (-2), 2) := dk_16 254 (dk_at dksX0_rankFor_4 14 rfl rfl)
theorem dX0_rankFor_110 : decode cX0_rankFor 110 = .ok (.ireturn, 1) := dk_172 (dk_at dksX0_rankFor_4 16 rfl rfl)
abbrev cX0_still : ByteArray := prog_1_method_47_code
def yX0_still : MethodName := ⟨RX0, "still", "(II)I"⟩
def dkwX0_still_2 : List UInt8 := [4, 21, 4, 120, 167, 0, 4, 3, 128, 62, 132, 4, 1, 167, 255, 222, 29, 172]
abbrev dktX0_still_2 : List UInt8 := dkwX0_still_2 ++ []
def dkwX0_still_1 : List UInt8 := [3, 54, 4, 21, 4, 42, 182, 0, 156, 162, 0, 31, 29, 42, 21, 4, 27, 28, 182, 1, 42, 153, 0, 10]
abbrev dktX0_still_1 : List UInt8 := dkwX0_still_1 ++ dktX0_still_2
def dkwX0_still_0 : List UInt8 := [42, 27, 182, 0, 236, 153, 0, 11, 42, 28, 182, 0, 165, 154, 0, 5, 2, 172, 3, 62, 42, 182, 1, 39]
abbrev dktX0_still_0 : List UInt8 := dkwX0_still_0 ++ dktX0_still_1
theorem dksX0_still_0 : cX0_still.data.toList.drop 0 = dktX0_still_0 := by decide +kernel
theorem dksX0_still_1 : cX0_still.data.toList.drop 24 = dktX0_still_1 := dk_seg dksX0_still_0 24 rfl rfl
theorem dksX0_still_2 : cX0_still.data.toList.drop 48 = dktX0_still_2 := dk_seg dksX0_still_1 24 rfl rfl
theorem dX0_still_0 : decode cX0_still 0 = .ok (.aload_n 0, 1) := dk_42 (dk_at dksX0_still_0 0 rfl rfl)
theorem dX0_still_1 : decode cX0_still 1 = .ok (.iload_n 1, 1) := dk_27 (dk_at dksX0_still_0 1 rfl rfl)
theorem dX0_still_2 : decode cX0_still 2 = .ok (.invokevirtual 236, 3) := dk_182 0 236 (dk_at dksX0_still_0 2 rfl rfl)
theorem dX0_still_5 : decode cX0_still 5 = .ok (.ifCond .eq 11, 3) := dk_153 0 11 (dk_at dksX0_still_0 5 rfl rfl)
theorem dX0_still_8 : decode cX0_still 8 = .ok (.aload_n 0, 1) := dk_42 (dk_at dksX0_still_0 8 rfl rfl)
theorem dX0_still_9 : decode cX0_still 9 = .ok (.iload_n 2, 1) := dk_28 (dk_at dksX0_still_0 9 rfl rfl)
theorem dX0_still_10 : decode cX0_still 10 = .ok (.invokevirtual 165, 3) := dk_182 0 165 (dk_at dksX0_still_0 10 rfl rfl)
theorem dX0_still_13 : decode cX0_still 13 = .ok (.ifCond .ne 5, 3) := dk_154 0 5 (dk_at dksX0_still_0 13 rfl rfl)
theorem dX0_still_16 : decode cX0_still 16 = .ok (.iconst (-1), 1) := dk_2 (dk_at dksX0_still_0 16 rfl rfl)
theorem dX0_still_17 : decode cX0_still 17 = .ok (.ireturn, 1) := dk_172 (dk_at dksX0_still_0 17 rfl rfl)
theorem dX0_still_18 : decode cX0_still 18 = .ok (.iconst 0, 1) := dk_3 (dk_at dksX0_still_0 18 rfl rfl)
theorem dX0_still_19 : decode cX0_still 19 = .ok (.istore_n 3, 1) := dk_62 (dk_at dksX0_still_0 19 rfl rfl)
theorem dX0_still_20 : decode cX0_still 20 = .ok (.aload_n 0, 1) := dk_42 (dk_at dksX0_still_0 20 rfl rfl)
theorem dX0_still_21 : decode cX0_still 21 = .ok (.invokevirtual 295, 3) := dk_182 1 39 (dk_at dksX0_still_0 21 rfl rfl)
theorem dX0_still_24 : decode cX0_still 24 = .ok (.iconst 0, 1) := dk_3 (dk_at dksX0_still_1 0 rfl rfl)
theorem dX0_still_25 : decode cX0_still 25 = .ok (.istore 4, 2) := dk_54 4 (dk_at dksX0_still_1 1 rfl rfl)
theorem dX0_still_27 : decode cX0_still 27 = .ok (.iload 4, 2) := dk_21 4 (dk_at dksX0_still_1 3 rfl rfl)
theorem dX0_still_29 : decode cX0_still 29 = .ok (.aload_n 0, 1) := dk_42 (dk_at dksX0_still_1 5 rfl rfl)
theorem dX0_still_30 : decode cX0_still 30 = .ok (.invokevirtual 156, 3) := dk_182 0 156 (dk_at dksX0_still_1 6 rfl rfl)
theorem dX0_still_33 : decode cX0_still 33 = .ok (.if_icmp .ge 31, 3) := dk_162 0 31 (dk_at dksX0_still_1 9 rfl rfl)
theorem dX0_still_36 : decode cX0_still 36 = .ok (.iload_n 3, 1) := dk_29 (dk_at dksX0_still_1 12 rfl rfl)
theorem dX0_still_37 : decode cX0_still 37 = .ok (.aload_n 0, 1) := dk_42 (dk_at dksX0_still_1 13 rfl rfl)
theorem dX0_still_38 : decode cX0_still 38 = .ok (.iload 4, 2) := dk_21 4 (dk_at dksX0_still_1 14 rfl rfl)
theorem dX0_still_40 : decode cX0_still 40 = .ok (.iload_n 1, 1) := dk_27 (dk_at dksX0_still_1 16 rfl rfl)
theorem dX0_still_41 : decode cX0_still 41 = .ok (.iload_n 2, 1) := dk_28 (dk_at dksX0_still_1 17 rfl rfl)
theorem dX0_still_42 : decode cX0_still 42 = .ok (.invokevirtual 298, 3) := dk_182 1 42 (dk_at dksX0_still_1 18 rfl rfl)
theorem dX0_still_45 : decode cX0_still 45 = .ok (.ifCond .eq 10, 3) := dk_153 0 10 (dk_at dksX0_still_1 21 rfl rfl)
theorem dX0_still_48 : decode cX0_still 48 = .ok (.iconst 1, 1) := dk_4 (dk_at dksX0_still_2 0 rfl rfl)
theorem dX0_still_49 : decode cX0_still 49 = .ok (.iload 4, 2) := dk_21 4 (dk_at dksX0_still_2 1 rfl rfl)
theorem dX0_still_51 : decode cX0_still 51 = .ok (.ishl, 1) := dk_120 (dk_at dksX0_still_2 3 rfl rfl)
theorem dX0_still_52 : decode cX0_still 52 = .ok (.goto 4, 3) := dk_167 0 4 (dk_at dksX0_still_2 4 rfl rfl)
theorem dX0_still_55 : decode cX0_still 55 = .ok (.iconst 0, 1) := dk_3 (dk_at dksX0_still_2 7 rfl rfl)
theorem dX0_still_56 : decode cX0_still 56 = .ok (.ior, 1) := dk_128 (dk_at dksX0_still_2 8 rfl rfl)
theorem dX0_still_57 : decode cX0_still 57 = .ok (.istore_n 3, 1) := dk_62 (dk_at dksX0_still_2 9 rfl rfl)
theorem dX0_still_58 : decode cX0_still 58 = .ok (.iinc 4 1, 3) := dk_132 4 1 (dk_at dksX0_still_2 10 rfl rfl)
theorem dX0_still_61 : decode cX0_still 61 = .ok (.goto (-34), 3) := dk_167 255 222 (dk_at dksX0_still_2 13 rfl rfl)
theorem dX0_still_64 : decode cX0_still 64 = .ok (.iload_n 3, 1) := dk_29 (dk_at dksX0_still_2 16 rfl rfl)
theorem dX0_still_65 : decode cX0_still 65 = .ok (.ireturn, 1) := dk_172 (dk_at dksX0_still_2 17 rfl rfl)
abbrev cX0_goesToEnd : ByteArray := prog_1_method_46_code
def yX0_goesToEnd : MethodName := ⟨RX0, "goesToEnd", "()V"⟩
def dkwX0_goesToEnd_0 : List UInt8 := [42, 180, 0, 55, 42, 180, 0, 51, 182, 0, 202, 42, 42, 180, 0, 55, 17, 1, 44, 182, 0, 217, 177]
abbrev dktX0_goesToEnd_0 : List UInt8 := dkwX0_goesToEnd_0 ++ []
theorem dksX0_goesToEnd_0 : cX0_goesToEnd.data.toList.drop 0 = dktX0_goesToEnd_0 := by decide +kernel
theorem dX0_goesToEnd_0 : decode cX0_goesToEnd 0 = .ok (.aload_n 0, 1) := dk_42 (dk_at dksX0_goesToEnd_0 0 rfl rfl)
theorem dX0_goesToEnd_1 : decode cX0_goesToEnd 1 = .ok (.getfield 55, 3) := dk_180 0 55 (dk_at dksX0_goesToEnd_0 1 rfl rfl)
theorem dX0_goesToEnd_4 : decode cX0_goesToEnd 4 = .ok (.aload_n 0, 1) := dk_42 (dk_at dksX0_goesToEnd_0 4 rfl rfl)
theorem dX0_goesToEnd_5 : decode cX0_goesToEnd 5 = .ok (.getfield 51, 3) := dk_180 0 51 (dk_at dksX0_goesToEnd_0 5 rfl rfl)
theorem dX0_goesToEnd_8 : decode cX0_goesToEnd 8 = .ok (.invokevirtual 202, 3) := dk_182 0 202 (dk_at dksX0_goesToEnd_0 8 rfl rfl)
theorem dX0_goesToEnd_11 : decode cX0_goesToEnd 11 = .ok (.aload_n 0, 1) := dk_42 (dk_at dksX0_goesToEnd_0 11 rfl rfl)
theorem dX0_goesToEnd_12 : decode cX0_goesToEnd 12 = .ok (.aload_n 0, 1) := dk_42 (dk_at dksX0_goesToEnd_0 12 rfl rfl)
theorem dX0_goesToEnd_13 : decode cX0_goesToEnd 13 = .ok (.getfield 55, 3) := dk_180 0 55 (dk_at dksX0_goesToEnd_0 13 rfl rfl)
theorem dX0_goesToEnd_16 : decode cX0_goesToEnd 16 = .ok (.sipush 300, 3) := dk_17 1 44 (dk_at dksX0_goesToEnd_0 16 rfl rfl)
theorem dX0_goesToEnd_19 : decode cX0_goesToEnd 19 = .ok (.invokevirtual 217, 3) := dk_182 0 217 (dk_at dksX0_goesToEnd_0 19 rfl rfl)
theorem dX0_goesToEnd_22 : decode cX0_goesToEnd 22 = .ok (.return_, 1) := dk_177 (dk_at dksX0_goesToEnd_0 22 rfl rfl)
abbrev cX0_willShow : ByteArray := prog_1_method_45_code
def yX0_willShow : MethodName := ⟨RX0, "willShow", "(III)Z"⟩
def dkwX0_willShow_2 : List UInt8 := [159, 0, 6, 167, 0, 11, 42, 21, 4, 181, 1, 36, 4, 172, 132, 4, 1, 167, 255, 200, 3, 172]
abbrev dktX0_willShow_2 : List UInt8 := dkwX0_willShow_2 ++ []
def dkwX0_willShow_1 : List UInt8 := [182, 0, 178, 54, 5, 21, 5, 29, 160, 0, 30, 42, 180, 0, 55, 180, 0, 181, 27, 50, 21, 5, 51, 28]
abbrev dktX0_willShow_1 : List UInt8 := dkwX0_willShow_1 ++ dktX0_willShow_2
def dkwX0_willShow_0 : List UInt8 := [42, 180, 0, 51, 180, 0, 158, 54, 4, 21, 4, 17, 1, 44, 162, 0, 54, 42, 180, 0, 55, 27, 21, 4]
abbrev dktX0_willShow_0 : List UInt8 := dkwX0_willShow_0 ++ dktX0_willShow_1
theorem dksX0_willShow_0 : cX0_willShow.data.toList.drop 0 = dktX0_willShow_0 := by decide +kernel
theorem dksX0_willShow_1 : cX0_willShow.data.toList.drop 24 = dktX0_willShow_1 := dk_seg dksX0_willShow_0 24 rfl rfl
theorem dksX0_willShow_2 : cX0_willShow.data.toList.drop 48 = dktX0_willShow_2 := dk_seg dksX0_willShow_1 24 rfl rfl
theorem dX0_willShow_0 : decode cX0_willShow 0 = .ok (.aload_n 0, 1) := dk_42 (dk_at dksX0_willShow_0 0 rfl rfl)
theorem dX0_willShow_1 : decode cX0_willShow 1 = .ok (.getfield 51, 3) := dk_180 0 51 (dk_at dksX0_willShow_0 1 rfl rfl)
theorem dX0_willShow_4 : decode cX0_willShow 4 = .ok (.getfield 158, 3) := dk_180 0 158 (dk_at dksX0_willShow_0 4 rfl rfl)
theorem dX0_willShow_7 : decode cX0_willShow 7 = .ok (.istore 4, 2) := dk_54 4 (dk_at dksX0_willShow_0 7 rfl rfl)
theorem dX0_willShow_9 : decode cX0_willShow 9 = .ok (.iload 4, 2) := dk_21 4 (dk_at dksX0_willShow_0 9 rfl rfl)
theorem dX0_willShow_11 : decode cX0_willShow 11 = .ok (.sipush 300, 3) := dk_17 1 44 (dk_at dksX0_willShow_0 11 rfl rfl)
theorem dX0_willShow_14 : decode cX0_willShow 14 = .ok (.if_icmp .ge 54, 3) := dk_162 0 54 (dk_at dksX0_willShow_0 14 rfl rfl)
theorem dX0_willShow_17 : decode cX0_willShow 17 = .ok (.aload_n 0, 1) := dk_42 (dk_at dksX0_willShow_0 17 rfl rfl)
theorem dX0_willShow_18 : decode cX0_willShow 18 = .ok (.getfield 55, 3) := dk_180 0 55 (dk_at dksX0_willShow_0 18 rfl rfl)
theorem dX0_willShow_21 : decode cX0_willShow 21 = .ok (.iload_n 1, 1) := dk_27 (dk_at dksX0_willShow_0 21 rfl rfl)
theorem dX0_willShow_22 : decode cX0_willShow 22 = .ok (.iload 4, 2) := dk_21 4 (dk_at dksX0_willShow_0 22 rfl rfl)
theorem dX0_willShow_24 : decode cX0_willShow 24 = .ok (.invokevirtual 178, 3) := dk_182 0 178 (dk_at dksX0_willShow_1 0 rfl rfl)
theorem dX0_willShow_27 : decode cX0_willShow 27 = .ok (.istore 5, 2) := dk_54 5 (dk_at dksX0_willShow_1 3 rfl rfl)
theorem dX0_willShow_29 : decode cX0_willShow 29 = .ok (.iload 5, 2) := dk_21 5 (dk_at dksX0_willShow_1 5 rfl rfl)
theorem dX0_willShow_31 : decode cX0_willShow 31 = .ok (.iload_n 3, 1) := dk_29 (dk_at dksX0_willShow_1 7 rfl rfl)
theorem dX0_willShow_32 : decode cX0_willShow 32 = .ok (.if_icmp .ne 30, 3) := dk_160 0 30 (dk_at dksX0_willShow_1 8 rfl rfl)
theorem dX0_willShow_35 : decode cX0_willShow 35 = .ok (.aload_n 0, 1) := dk_42 (dk_at dksX0_willShow_1 11 rfl rfl)
theorem dX0_willShow_36 : decode cX0_willShow 36 = .ok (.getfield 55, 3) := dk_180 0 55 (dk_at dksX0_willShow_1 12 rfl rfl)
theorem dX0_willShow_39 : decode cX0_willShow 39 = .ok (.getfield 181, 3) := dk_180 0 181 (dk_at dksX0_willShow_1 15 rfl rfl)
theorem dX0_willShow_42 : decode cX0_willShow 42 = .ok (.iload_n 1, 1) := dk_27 (dk_at dksX0_willShow_1 18 rfl rfl)
theorem dX0_willShow_43 : decode cX0_willShow 43 = .ok (.aaload, 1) := dk_50 (dk_at dksX0_willShow_1 19 rfl rfl)
theorem dX0_willShow_44 : decode cX0_willShow 44 = .ok (.iload 5, 2) := dk_21 5 (dk_at dksX0_willShow_1 20 rfl rfl)
theorem dX0_willShow_46 : decode cX0_willShow 46 = .ok (.baload, 1) := dk_51 (dk_at dksX0_willShow_1 22 rfl rfl)
theorem dX0_willShow_47 : decode cX0_willShow 47 = .ok (.iload_n 2, 1) := dk_28 (dk_at dksX0_willShow_1 23 rfl rfl)
theorem dX0_willShow_48 : decode cX0_willShow 48 = .ok (.if_icmp .eq 6, 3) := dk_159 0 6 (dk_at dksX0_willShow_2 0 rfl rfl)
theorem dX0_willShow_51 : decode cX0_willShow 51 = .ok (.goto 11, 3) := dk_167 0 11 (dk_at dksX0_willShow_2 3 rfl rfl)
theorem dX0_willShow_54 : decode cX0_willShow 54 = .ok (.aload_n 0, 1) := dk_42 (dk_at dksX0_willShow_2 6 rfl rfl)
theorem dX0_willShow_55 : decode cX0_willShow 55 = .ok (.iload 4, 2) := dk_21 4 (dk_at dksX0_willShow_2 7 rfl rfl)
theorem dX0_willShow_57 : decode cX0_willShow 57 = .ok (.putfield 292, 3) := dk_181 1 36 (dk_at dksX0_willShow_2 9 rfl rfl)
theorem dX0_willShow_60 : decode cX0_willShow 60 = .ok (.iconst 1, 1) := dk_4 (dk_at dksX0_willShow_2 12 rfl rfl)
theorem dX0_willShow_61 : decode cX0_willShow 61 = .ok (.ireturn, 1) := dk_172 (dk_at dksX0_willShow_2 13 rfl rfl)
theorem dX0_willShow_62 : decode cX0_willShow 62 = .ok (.iinc 4 1, 3) := dk_132 4 1 (dk_at dksX0_willShow_2 14 rfl rfl)
theorem dX0_willShow_65 : decode cX0_willShow 65 = .ok (.goto (-56), 3) := dk_167 255 200 (dk_at dksX0_willShow_2 17 rfl rfl)
theorem dX0_willShow_68 : decode cX0_willShow 68 = .ok (.iconst 0, 1) := dk_3 (dk_at dksX0_willShow_2 20 rfl rfl)
theorem dX0_willShow_69 : decode cX0_willShow 69 = .ok (.ireturn, 1) := dk_172 (dk_at dksX0_willShow_2 21 rfl rfl)
abbrev cX0_soonest : ByteArray := prog_1_method_48_code
def yX0_soonest : MethodName := ⟨RX0, "soonest", "(III)I"⟩
def dkwX0_soonest_4 : List UInt8 := [155, 0, 8, 29, 4, 160, 0, 8, 21, 4, 167, 0, 5, 21, 5, 172]
abbrev dktX0_soonest_4 : List UInt8 := dkwX0_soonest_4 ++ []
def dkwX0_soonest_3 : List UInt8 := [161, 0, 6, 167, 0, 13, 21, 6, 54, 4, 42, 180, 1, 36, 54, 5, 132, 6, 1, 167, 255, 211, 21, 4]
abbrev dktX0_soonest_3 : List UInt8 := dkwX0_soonest_3 ++ dktX0_soonest_4
def dkwX0_soonest_2 : List UInt8 := [182, 0, 156, 162, 0, 42, 42, 21, 6, 27, 28, 182, 1, 42, 153, 0, 25, 42, 180, 1, 36, 21, 5]
abbrev dktX0_soonest_2 : List UInt8 := dkwX0_soonest_2 ++ dktX0_soonest_3
def dkwX0_soonest_1 : List UInt8 := [154, 0, 5, 2, 172, 16, 254, 54, 4, 17, 1, 44, 54, 5, 42, 182, 1, 39, 3, 54, 6, 21, 6, 42]
abbrev dktX0_soonest_1 : List UInt8 := dkwX0_soonest_1 ++ dktX0_soonest_2
def dkwX0_soonest_0 : List UInt8 := [42, 27, 182, 0, 236, 153, 0, 20, 42, 28, 182, 0, 165, 153, 0, 12, 29, 3, 4, 184, 0, 150]
abbrev dktX0_soonest_0 : List UInt8 := dkwX0_soonest_0 ++ dktX0_soonest_1
theorem dksX0_soonest_0 : cX0_soonest.data.toList.drop 0 = dktX0_soonest_0 := by decide +kernel
theorem dksX0_soonest_1 : cX0_soonest.data.toList.drop 22 = dktX0_soonest_1 := dk_seg dksX0_soonest_0 22 rfl rfl
theorem dksX0_soonest_2 : cX0_soonest.data.toList.drop 46 = dktX0_soonest_2 := dk_seg dksX0_soonest_1 24 rfl rfl
theorem dksX0_soonest_3 : cX0_soonest.data.toList.drop 69 = dktX0_soonest_3 := dk_seg dksX0_soonest_2 23 rfl rfl
theorem dksX0_soonest_4 : cX0_soonest.data.toList.drop 93 = dktX0_soonest_4 := dk_seg dksX0_soonest_3 24 rfl rfl
theorem dX0_soonest_0 : decode cX0_soonest 0 = .ok (.aload_n 0, 1) := dk_42 (dk_at dksX0_soonest_0 0 rfl rfl)
theorem dX0_soonest_1 : decode cX0_soonest 1 = .ok (.iload_n 1, 1) := dk_27 (dk_at dksX0_soonest_0 1 rfl rfl)
theorem dX0_soonest_2 : decode cX0_soonest 2 = .ok (.invokevirtual 236, 3) := dk_182 0 236 (dk_at dksX0_soonest_0 2 rfl rfl)
theorem dX0_soonest_5 : decode cX0_soonest 5 = .ok (.ifCond .eq 20, 3) := dk_153 0 20 (dk_at dksX0_soonest_0 5 rfl rfl)
theorem dX0_soonest_8 : decode cX0_soonest 8 = .ok (.aload_n 0, 1) := dk_42 (dk_at dksX0_soonest_0 8 rfl rfl)
theorem dX0_soonest_9 : decode cX0_soonest 9 = .ok (.iload_n 2, 1) := dk_28 (dk_at dksX0_soonest_0 9 rfl rfl)
theorem dX0_soonest_10 : decode cX0_soonest 10 = .ok (.invokevirtual 165, 3) := dk_182 0 165 (dk_at dksX0_soonest_0 10 rfl rfl)
theorem dX0_soonest_13 : decode cX0_soonest 13 = .ok (.ifCond .eq 12, 3) := dk_153 0 12 (dk_at dksX0_soonest_0 13 rfl rfl)
theorem dX0_soonest_16 : decode cX0_soonest 16 = .ok (.iload_n 3, 1) := dk_29 (dk_at dksX0_soonest_0 16 rfl rfl)
theorem dX0_soonest_17 : decode cX0_soonest 17 = .ok (.iconst 0, 1) := dk_3 (dk_at dksX0_soonest_0 17 rfl rfl)
theorem dX0_soonest_18 : decode cX0_soonest 18 = .ok (.iconst 1, 1) := dk_4 (dk_at dksX0_soonest_0 18 rfl rfl)
theorem dX0_soonest_19 : decode cX0_soonest 19 = .ok (.invokestatic 150, 3) := dk_184 0 150 (dk_at dksX0_soonest_0 19 rfl rfl)
theorem dX0_soonest_22 : decode cX0_soonest 22 = .ok (.ifCond .ne 5, 3) := dk_154 0 5 (dk_at dksX0_soonest_1 0 rfl rfl)
theorem dX0_soonest_25 : decode cX0_soonest 25 = .ok (.iconst (-1), 1) := dk_2 (dk_at dksX0_soonest_1 3 rfl rfl)
theorem dX0_soonest_26 : decode cX0_soonest 26 = .ok (.ireturn, 1) := dk_172 (dk_at dksX0_soonest_1 4 rfl rfl)
theorem dX0_soonest_27 : decode cX0_soonest 27 = .ok (.bipush (-2), 2) := dk_16 254 (dk_at dksX0_soonest_1 5 rfl rfl)
theorem dX0_soonest_29 : decode cX0_soonest 29 = .ok (.istore 4, 2) := dk_54 4 (dk_at dksX0_soonest_1 7 rfl rfl)
theorem dX0_soonest_31 : decode cX0_soonest 31 = .ok (.sipush 300, 3) := dk_17 1 44 (dk_at dksX0_soonest_1 9 rfl rfl)
theorem dX0_soonest_34 : decode cX0_soonest 34 = .ok (.istore 5, 2) := dk_54 5 (dk_at dksX0_soonest_1 12 rfl rfl)
theorem dX0_soonest_36 : decode cX0_soonest 36 = .ok (.aload_n 0, 1) := dk_42 (dk_at dksX0_soonest_1 14 rfl rfl)
theorem dX0_soonest_37 : decode cX0_soonest 37 = .ok (.invokevirtual 295, 3) := dk_182 1 39 (dk_at dksX0_soonest_1 15 rfl rfl)
theorem dX0_soonest_40 : decode cX0_soonest 40 = .ok (.iconst 0, 1) := dk_3 (dk_at dksX0_soonest_1 18 rfl rfl)
theorem dX0_soonest_41 : decode cX0_soonest 41 = .ok (.istore 6, 2) := dk_54 6 (dk_at dksX0_soonest_1 19 rfl rfl)
theorem dX0_soonest_43 : decode cX0_soonest 43 = .ok (.iload 6, 2) := dk_21 6 (dk_at dksX0_soonest_1 21 rfl rfl)
theorem dX0_soonest_45 : decode cX0_soonest 45 = .ok (.aload_n 0, 1) := dk_42 (dk_at dksX0_soonest_1 23 rfl rfl)
theorem dX0_soonest_46 : decode cX0_soonest 46 = .ok (.invokevirtual 156, 3) := dk_182 0 156 (dk_at dksX0_soonest_2 0 rfl rfl)
theorem dX0_soonest_49 : decode cX0_soonest 49 = .ok (.if_icmp .ge 42, 3) := dk_162 0 42 (dk_at dksX0_soonest_2 3 rfl rfl)
theorem dX0_soonest_52 : decode cX0_soonest 52 = .ok (.aload_n 0, 1) := dk_42 (dk_at dksX0_soonest_2 6 rfl rfl)
theorem dX0_soonest_53 : decode cX0_soonest 53 = .ok (.iload 6, 2) := dk_21 6 (dk_at dksX0_soonest_2 7 rfl rfl)
theorem dX0_soonest_55 : decode cX0_soonest 55 = .ok (.iload_n 1, 1) := dk_27 (dk_at dksX0_soonest_2 9 rfl rfl)
theorem dX0_soonest_56 : decode cX0_soonest 56 = .ok (.iload_n 2, 1) := dk_28 (dk_at dksX0_soonest_2 10 rfl rfl)
theorem dX0_soonest_57 : decode cX0_soonest 57 = .ok (.invokevirtual 298, 3) := dk_182 1 42 (dk_at dksX0_soonest_2 11 rfl rfl)
theorem dX0_soonest_60 : decode cX0_soonest 60 = .ok (.ifCond .eq 25, 3) := dk_153 0 25 (dk_at dksX0_soonest_2 14 rfl rfl)
theorem dX0_soonest_63 : decode cX0_soonest 63 = .ok (.aload_n 0, 1) := dk_42 (dk_at dksX0_soonest_2 17 rfl rfl)
theorem dX0_soonest_64 : decode cX0_soonest 64 = .ok (.getfield 292, 3) := dk_180 1 36 (dk_at dksX0_soonest_2 18 rfl rfl)
theorem dX0_soonest_67 : decode cX0_soonest 67 = .ok (.iload 5, 2) := dk_21 5 (dk_at dksX0_soonest_2 21 rfl rfl)
theorem dX0_soonest_69 : decode cX0_soonest 69 = .ok (.if_icmp .lt 6, 3) := dk_161 0 6 (dk_at dksX0_soonest_3 0 rfl rfl)
theorem dX0_soonest_72 : decode cX0_soonest 72 = .ok (.goto 13, 3) := dk_167 0 13 (dk_at dksX0_soonest_3 3 rfl rfl)
theorem dX0_soonest_75 : decode cX0_soonest 75 = .ok (.iload 6, 2) := dk_21 6 (dk_at dksX0_soonest_3 6 rfl rfl)
theorem dX0_soonest_77 : decode cX0_soonest 77 = .ok (.istore 4, 2) := dk_54 4 (dk_at dksX0_soonest_3 8 rfl rfl)
theorem dX0_soonest_79 : decode cX0_soonest 79 = .ok (.aload_n 0, 1) := dk_42 (dk_at dksX0_soonest_3 10 rfl rfl)
theorem dX0_soonest_80 : decode cX0_soonest 80 = .ok (.getfield 292, 3) := dk_180 1 36 (dk_at dksX0_soonest_3 11 rfl rfl)
theorem dX0_soonest_83 : decode cX0_soonest 83 = .ok (.istore 5, 2) := dk_54 5 (dk_at dksX0_soonest_3 14 rfl rfl)
theorem dX0_soonest_85 : decode cX0_soonest 85 = .ok (.iinc 6 1, 3) := dk_132 6 1 (dk_at dksX0_soonest_3 16 rfl rfl)
theorem dX0_soonest_88 : decode cX0_soonest 88 = .ok (.goto (-45), 3) := dk_167 255 211 (dk_at dksX0_soonest_3 19 rfl rfl)
theorem dX0_soonest_91 : decode cX0_soonest 91 = .ok (.iload 4, 2) := dk_21 4 (dk_at dksX0_soonest_3 22 rfl rfl)
theorem dX0_soonest_93 : decode cX0_soonest 93 = .ok (.ifCond .lt 8, 3) := dk_155 0 8 (dk_at dksX0_soonest_4 0 rfl rfl)
theorem dX0_soonest_96 : decode cX0_soonest 96 = .ok (.iload_n 3, 1) := dk_29 (dk_at dksX0_soonest_4 3 rfl rfl)
theorem dX0_soonest_97 : decode cX0_soonest 97 = .ok (.iconst 1, 1) := dk_4 (dk_at dksX0_soonest_4 4 rfl rfl)
theorem dX0_soonest_98 : decode cX0_soonest 98 = .ok (.if_icmp .ne 8, 3) := dk_160 0 8 (dk_at dksX0_soonest_4 5 rfl rfl)
theorem dX0_soonest_101 : decode cX0_soonest 101 = .ok (.iload 4, 2) := dk_21 4 (dk_at dksX0_soonest_4 8 rfl rfl)
theorem dX0_soonest_103 : decode cX0_soonest 103 = .ok (.goto 5, 3) := dk_167 0 5 (dk_at dksX0_soonest_4 10 rfl rfl)
theorem dX0_soonest_106 : decode cX0_soonest 106 = .ok (.iload 5, 2) := dk_21 5 (dk_at dksX0_soonest_4 13 rfl rfl)
theorem dX0_soonest_108 : decode cX0_soonest 108 = .ok (.ireturn, 1) := dk_172 (dk_at dksX0_soonest_4 15 rfl rfl)
abbrev cX0_seen : ByteArray := prog_1_method_50_code
def yX0_seen : MethodName := ⟨RX0, "seen", "(II)I"⟩
def dkwX0_seen_2 : List UInt8 := [180, 0, 158, 28, 96, 182, 1, 45, 96, 62, 132, 4, 1, 167, 255, 225, 29, 172]
abbrev dktX0_seen_2 : List UInt8 := dkwX0_seen_2 ++ []
def dkwX0_seen_1 : List UInt8 := [182, 1, 39, 3, 54, 4, 21, 4, 42, 182, 0, 156, 162, 0, 28, 29, 42, 21, 4, 27, 42, 180, 0, 51]
abbrev dktX0_seen_1 : List UInt8 := dkwX0_seen_1 ++ dktX0_seen_2
def dkwX0_seen_0 : List UInt8 := [42, 27, 182, 0, 161, 153, 0, 14, 28, 3, 17, 1, 43, 184, 0, 150, 154, 0, 5, 2, 172, 3, 62, 42]
abbrev dktX0_seen_0 : List UInt8 := dkwX0_seen_0 ++ dktX0_seen_1
theorem dksX0_seen_0 : cX0_seen.data.toList.drop 0 = dktX0_seen_0 := by decide +kernel
theorem dksX0_seen_1 : cX0_seen.data.toList.drop 24 = dktX0_seen_1 := dk_seg dksX0_seen_0 24 rfl rfl
theorem dksX0_seen_2 : cX0_seen.data.toList.drop 48 = dktX0_seen_2 := dk_seg dksX0_seen_1 24 rfl rfl
theorem dX0_seen_0 : decode cX0_seen 0 = .ok (.aload_n 0, 1) := dk_42 (dk_at dksX0_seen_0 0 rfl rfl)
theorem dX0_seen_1 : decode cX0_seen 1 = .ok (.iload_n 1, 1) := dk_27 (dk_at dksX0_seen_0 1 rfl rfl)
theorem dX0_seen_2 : decode cX0_seen 2 = .ok (.invokevirtual 161, 3) := dk_182 0 161 (dk_at dksX0_seen_0 2 rfl rfl)
theorem dX0_seen_5 : decode cX0_seen 5 = .ok (.ifCond .eq 14, 3) := dk_153 0 14 (dk_at dksX0_seen_0 5 rfl rfl)
theorem dX0_seen_8 : decode cX0_seen 8 = .ok (.iload_n 2, 1) := dk_28 (dk_at dksX0_seen_0 8 rfl rfl)
theorem dX0_seen_9 : decode cX0_seen 9 = .ok (.iconst 0, 1) := dk_3 (dk_at dksX0_seen_0 9 rfl rfl)
theorem dX0_seen_10 : decode cX0_seen 10 = .ok (.sipush 299, 3) := dk_17 1 43 (dk_at dksX0_seen_0 10 rfl rfl)
theorem dX0_seen_13 : decode cX0_seen 13 = .ok (.invokestatic 150, 3) := dk_184 0 150 (dk_at dksX0_seen_0 13 rfl rfl)
theorem dX0_seen_16 : decode cX0_seen 16 = .ok (.ifCond .ne 5, 3) := dk_154 0 5 (dk_at dksX0_seen_0 16 rfl rfl)
theorem dX0_seen_19 : decode cX0_seen 19 = .ok (.iconst (-1), 1) := dk_2 (dk_at dksX0_seen_0 19 rfl rfl)
theorem dX0_seen_20 : decode cX0_seen 20 = .ok (.ireturn, 1) := dk_172 (dk_at dksX0_seen_0 20 rfl rfl)
theorem dX0_seen_21 : decode cX0_seen 21 = .ok (.iconst 0, 1) := dk_3 (dk_at dksX0_seen_0 21 rfl rfl)
theorem dX0_seen_22 : decode cX0_seen 22 = .ok (.istore_n 3, 1) := dk_62 (dk_at dksX0_seen_0 22 rfl rfl)
theorem dX0_seen_23 : decode cX0_seen 23 = .ok (.aload_n 0, 1) := dk_42 (dk_at dksX0_seen_0 23 rfl rfl)
theorem dX0_seen_24 : decode cX0_seen 24 = .ok (.invokevirtual 295, 3) := dk_182 1 39 (dk_at dksX0_seen_1 0 rfl rfl)
theorem dX0_seen_27 : decode cX0_seen 27 = .ok (.iconst 0, 1) := dk_3 (dk_at dksX0_seen_1 3 rfl rfl)
theorem dX0_seen_28 : decode cX0_seen 28 = .ok (.istore 4, 2) := dk_54 4 (dk_at dksX0_seen_1 4 rfl rfl)
theorem dX0_seen_30 : decode cX0_seen 30 = .ok (.iload 4, 2) := dk_21 4 (dk_at dksX0_seen_1 6 rfl rfl)
theorem dX0_seen_32 : decode cX0_seen 32 = .ok (.aload_n 0, 1) := dk_42 (dk_at dksX0_seen_1 8 rfl rfl)
theorem dX0_seen_33 : decode cX0_seen 33 = .ok (.invokevirtual 156, 3) := dk_182 0 156 (dk_at dksX0_seen_1 9 rfl rfl)
theorem dX0_seen_36 : decode cX0_seen 36 = .ok (.if_icmp .ge 28, 3) := dk_162 0 28 (dk_at dksX0_seen_1 12 rfl rfl)
theorem dX0_seen_39 : decode cX0_seen 39 = .ok (.iload_n 3, 1) := dk_29 (dk_at dksX0_seen_1 15 rfl rfl)
theorem dX0_seen_40 : decode cX0_seen 40 = .ok (.aload_n 0, 1) := dk_42 (dk_at dksX0_seen_1 16 rfl rfl)
theorem dX0_seen_41 : decode cX0_seen 41 = .ok (.iload 4, 2) := dk_21 4 (dk_at dksX0_seen_1 17 rfl rfl)
theorem dX0_seen_43 : decode cX0_seen 43 = .ok (.iload_n 1, 1) := dk_27 (dk_at dksX0_seen_1 19 rfl rfl)
theorem dX0_seen_44 : decode cX0_seen 44 = .ok (.aload_n 0, 1) := dk_42 (dk_at dksX0_seen_1 20 rfl rfl)
theorem dX0_seen_45 : decode cX0_seen 45 = .ok (.getfield 51, 3) := dk_180 0 51 (dk_at dksX0_seen_1 21 rfl rfl)
theorem dX0_seen_48 : decode cX0_seen 48 = .ok (.getfield 158, 3) := dk_180 0 158 (dk_at dksX0_seen_2 0 rfl rfl)
theorem dX0_seen_51 : decode cX0_seen 51 = .ok (.iload_n 2, 1) := dk_28 (dk_at dksX0_seen_2 3 rfl rfl)
theorem dX0_seen_52 : decode cX0_seen 52 = .ok (.iadd, 1) := dk_96 (dk_at dksX0_seen_2 4 rfl rfl)
theorem dX0_seen_53 : decode cX0_seen 53 = .ok (.invokevirtual 301, 3) := dk_182 1 45 (dk_at dksX0_seen_2 5 rfl rfl)
theorem dX0_seen_56 : decode cX0_seen 56 = .ok (.iadd, 1) := dk_96 (dk_at dksX0_seen_2 8 rfl rfl)
theorem dX0_seen_57 : decode cX0_seen 57 = .ok (.istore_n 3, 1) := dk_62 (dk_at dksX0_seen_2 9 rfl rfl)
theorem dX0_seen_58 : decode cX0_seen 58 = .ok (.iinc 4 1, 3) := dk_132 4 1 (dk_at dksX0_seen_2 10 rfl rfl)
theorem dX0_seen_61 : decode cX0_seen 61 = .ok (.goto (-31), 3) := dk_167 255 225 (dk_at dksX0_seen_2 13 rfl rfl)
theorem dX0_seen_64 : decode cX0_seen 64 = .ok (.iload_n 3, 1) := dk_29 (dk_at dksX0_seen_2 16 rfl rfl)
theorem dX0_seen_65 : decode cX0_seen 65 = .ok (.ireturn, 1) := dk_172 (dk_at dksX0_seen_2 17 rfl rfl)
abbrev cX0_shownIn : ByteArray := prog_1_method_49_code
def yX0_shownIn : MethodName := ⟨RX0, "shownIn", "(III)I"⟩
def dkwX0_shownIn_2 : List UInt8 := [54, 4, 132, 5, 1, 167, 255, 216, 21, 4, 172]
abbrev dktX0_shownIn_2 : List UInt8 := dkwX0_shownIn_2 ++ []
def dkwX0_shownIn_1 : List UInt8 := [162, 0, 32, 21, 4, 42, 180, 0, 55, 42, 180, 0, 40, 27, 21, 5, 182, 0, 195, 28, 122, 4, 126, 96]
abbrev dktX0_shownIn_1 : List UInt8 := dkwX0_shownIn_1 ++ dktX0_shownIn_2
def dkwX0_shownIn_0 : List UInt8 := [3, 54, 4, 42, 180, 0, 51, 180, 0, 158, 54, 5, 21, 5, 29, 163, 0, 40, 21, 5, 17, 1, 44]
abbrev dktX0_shownIn_0 : List UInt8 := dkwX0_shownIn_0 ++ dktX0_shownIn_1
theorem dksX0_shownIn_0 : cX0_shownIn.data.toList.drop 0 = dktX0_shownIn_0 := by decide +kernel
theorem dksX0_shownIn_1 : cX0_shownIn.data.toList.drop 23 = dktX0_shownIn_1 := dk_seg dksX0_shownIn_0 23 rfl rfl
theorem dksX0_shownIn_2 : cX0_shownIn.data.toList.drop 47 = dktX0_shownIn_2 := dk_seg dksX0_shownIn_1 24 rfl rfl
theorem dX0_shownIn_0 : decode cX0_shownIn 0 = .ok (.iconst 0, 1) := dk_3 (dk_at dksX0_shownIn_0 0 rfl rfl)
theorem dX0_shownIn_1 : decode cX0_shownIn 1 = .ok (.istore 4, 2) := dk_54 4 (dk_at dksX0_shownIn_0 1 rfl rfl)
theorem dX0_shownIn_3 : decode cX0_shownIn 3 = .ok (.aload_n 0, 1) := dk_42 (dk_at dksX0_shownIn_0 3 rfl rfl)
theorem dX0_shownIn_4 : decode cX0_shownIn 4 = .ok (.getfield 51, 3) := dk_180 0 51 (dk_at dksX0_shownIn_0 4 rfl rfl)
theorem dX0_shownIn_7 : decode cX0_shownIn 7 = .ok (.getfield 158, 3) := dk_180 0 158 (dk_at dksX0_shownIn_0 7 rfl rfl)
theorem dX0_shownIn_10 : decode cX0_shownIn 10 = .ok (.istore 5, 2) := dk_54 5 (dk_at dksX0_shownIn_0 10 rfl rfl)
theorem dX0_shownIn_12 : decode cX0_shownIn 12 = .ok (.iload 5, 2) := dk_21 5 (dk_at dksX0_shownIn_0 12 rfl rfl)
theorem dX0_shownIn_14 : decode cX0_shownIn 14 = .ok (.iload_n 3, 1) := dk_29 (dk_at dksX0_shownIn_0 14 rfl rfl)
theorem dX0_shownIn_15 : decode cX0_shownIn 15 = .ok (.if_icmp .gt 40, 3) := dk_163 0 40 (dk_at dksX0_shownIn_0 15 rfl rfl)
theorem dX0_shownIn_18 : decode cX0_shownIn 18 = .ok (.iload 5, 2) := dk_21 5 (dk_at dksX0_shownIn_0 18 rfl rfl)
theorem dX0_shownIn_20 : decode cX0_shownIn 20 = .ok (.sipush 300, 3) := dk_17 1 44 (dk_at dksX0_shownIn_0 20 rfl rfl)
theorem dX0_shownIn_23 : decode cX0_shownIn 23 = .ok (.if_icmp .ge 32, 3) := dk_162 0 32 (dk_at dksX0_shownIn_1 0 rfl rfl)
theorem dX0_shownIn_26 : decode cX0_shownIn 26 = .ok (.iload 4, 2) := dk_21 4 (dk_at dksX0_shownIn_1 3 rfl rfl)
theorem dX0_shownIn_28 : decode cX0_shownIn 28 = .ok (.aload_n 0, 1) := dk_42 (dk_at dksX0_shownIn_1 5 rfl rfl)
theorem dX0_shownIn_29 : decode cX0_shownIn 29 = .ok (.getfield 55, 3) := dk_180 0 55 (dk_at dksX0_shownIn_1 6 rfl rfl)
theorem dX0_shownIn_32 : decode cX0_shownIn 32 = .ok (.aload_n 0, 1) := dk_42 (dk_at dksX0_shownIn_1 9 rfl rfl)
theorem dX0_shownIn_33 : decode cX0_shownIn 33 = .ok (.getfield 40, 3) := dk_180 0 40 (dk_at dksX0_shownIn_1 10 rfl rfl)
theorem dX0_shownIn_36 : decode cX0_shownIn 36 = .ok (.iload_n 1, 1) := dk_27 (dk_at dksX0_shownIn_1 13 rfl rfl)
theorem dX0_shownIn_37 : decode cX0_shownIn 37 = .ok (.iload 5, 2) := dk_21 5 (dk_at dksX0_shownIn_1 14 rfl rfl)
theorem dX0_shownIn_39 : decode cX0_shownIn 39 = .ok (.invokevirtual 195, 3) := dk_182 0 195 (dk_at dksX0_shownIn_1 16 rfl rfl)
theorem dX0_shownIn_42 : decode cX0_shownIn 42 = .ok (.iload_n 2, 1) := dk_28 (dk_at dksX0_shownIn_1 19 rfl rfl)
theorem dX0_shownIn_43 : decode cX0_shownIn 43 = .ok (.ishr, 1) := dk_122 (dk_at dksX0_shownIn_1 20 rfl rfl)
theorem dX0_shownIn_44 : decode cX0_shownIn 44 = .ok (.iconst 1, 1) := dk_4 (dk_at dksX0_shownIn_1 21 rfl rfl)
theorem dX0_shownIn_45 : decode cX0_shownIn 45 = .ok (.iand, 1) := dk_126 (dk_at dksX0_shownIn_1 22 rfl rfl)
theorem dX0_shownIn_46 : decode cX0_shownIn 46 = .ok (.iadd, 1) := dk_96 (dk_at dksX0_shownIn_1 23 rfl rfl)
theorem dX0_shownIn_47 : decode cX0_shownIn 47 = .ok (.istore 4, 2) := dk_54 4 (dk_at dksX0_shownIn_2 0 rfl rfl)
theorem dX0_shownIn_49 : decode cX0_shownIn 49 = .ok (.iinc 5 1, 3) := dk_132 5 1 (dk_at dksX0_shownIn_2 2 rfl rfl)
theorem dX0_shownIn_52 : decode cX0_shownIn 52 = .ok (.goto (-40), 3) := dk_167 255 216 (dk_at dksX0_shownIn_2 5 rfl rfl)
theorem dX0_shownIn_55 : decode cX0_shownIn 55 = .ok (.iload 4, 2) := dk_21 4 (dk_at dksX0_shownIn_2 8 rfl rfl)
theorem dX0_shownIn_57 : decode cX0_shownIn 57 = .ok (.ireturn, 1) := dk_172 (dk_at dksX0_shownIn_2 10 rfl rfl)
abbrev cX0_turned : ByteArray := prog_1_method_51_code
def yX0_turned : MethodName := ⟨RX0, "turned", "(II)I"⟩
def dkwX0_turned_3 : List UInt8 := [154, 0, 10, 29, 184, 1, 27, 167, 0, 4, 29, 172]
abbrev dktX0_turned_3 : List UInt8 := dkwX0_turned_3 ++ []
def dkwX0_turned_2 : List UInt8 := [182, 1, 45, 158, 0, 10, 4, 21, 4, 120, 167, 0, 4, 3, 128, 62, 132, 4, 1, 167, 255, 220, 28]
abbrev dktX0_turned_2 : List UInt8 := dkwX0_turned_2 ++ dktX0_turned_3
def dkwX0_turned_1 : List UInt8 := [182, 1, 39, 3, 54, 4, 21, 4, 42, 182, 0, 156, 162, 0, 33, 29, 42, 21, 4, 27, 17, 1, 44]
abbrev dktX0_turned_1 : List UInt8 := dkwX0_turned_1 ++ dktX0_turned_2
def dkwX0_turned_0 : List UInt8 := [42, 27, 182, 0, 161, 153, 0, 12, 28, 3, 4, 184, 0, 150, 154, 0, 5, 2, 172, 3, 62, 42]
abbrev dktX0_turned_0 : List UInt8 := dkwX0_turned_0 ++ dktX0_turned_1
theorem dksX0_turned_0 : cX0_turned.data.toList.drop 0 = dktX0_turned_0 := by decide +kernel
theorem dksX0_turned_1 : cX0_turned.data.toList.drop 22 = dktX0_turned_1 := dk_seg dksX0_turned_0 22 rfl rfl
theorem dksX0_turned_2 : cX0_turned.data.toList.drop 45 = dktX0_turned_2 := dk_seg dksX0_turned_1 23 rfl rfl
theorem dksX0_turned_3 : cX0_turned.data.toList.drop 68 = dktX0_turned_3 := dk_seg dksX0_turned_2 23 rfl rfl
theorem dX0_turned_0 : decode cX0_turned 0 = .ok (.aload_n 0, 1) := dk_42 (dk_at dksX0_turned_0 0 rfl rfl)
theorem dX0_turned_1 : decode cX0_turned 1 = .ok (.iload_n 1, 1) := dk_27 (dk_at dksX0_turned_0 1 rfl rfl)
theorem dX0_turned_2 : decode cX0_turned 2 = .ok (.invokevirtual 161, 3) := dk_182 0 161 (dk_at dksX0_turned_0 2 rfl rfl)
theorem dX0_turned_5 : decode cX0_turned 5 = .ok (.ifCond .eq 12, 3) := dk_153 0 12 (dk_at dksX0_turned_0 5 rfl rfl)
theorem dX0_turned_8 : decode cX0_turned 8 = .ok (.iload_n 2, 1) := dk_28 (dk_at dksX0_turned_0 8 rfl rfl)
theorem dX0_turned_9 : decode cX0_turned 9 = .ok (.iconst 0, 1) := dk_3 (dk_at dksX0_turned_0 9 rfl rfl)
theorem dX0_turned_10 : decode cX0_turned 10 = .ok (.iconst 1, 1) := dk_4 (dk_at dksX0_turned_0 10 rfl rfl)
theorem dX0_turned_11 : decode cX0_turned 11 = .ok (.invokestatic 150, 3) := dk_184 0 150 (dk_at dksX0_turned_0 11 rfl rfl)
theorem dX0_turned_14 : decode cX0_turned 14 = .ok (.ifCond .ne 5, 3) := dk_154 0 5 (dk_at dksX0_turned_0 14 rfl rfl)
theorem dX0_turned_17 : decode cX0_turned 17 = .ok (.iconst (-1), 1) := dk_2 (dk_at dksX0_turned_0 17 rfl rfl)
theorem dX0_turned_18 : decode cX0_turned 18 = .ok (.ireturn, 1) := dk_172 (dk_at dksX0_turned_0 18 rfl rfl)
theorem dX0_turned_19 : decode cX0_turned 19 = .ok (.iconst 0, 1) := dk_3 (dk_at dksX0_turned_0 19 rfl rfl)
theorem dX0_turned_20 : decode cX0_turned 20 = .ok (.istore_n 3, 1) := dk_62 (dk_at dksX0_turned_0 20 rfl rfl)
theorem dX0_turned_21 : decode cX0_turned 21 = .ok (.aload_n 0, 1) := dk_42 (dk_at dksX0_turned_0 21 rfl rfl)
theorem dX0_turned_22 : decode cX0_turned 22 = .ok (.invokevirtual 295, 3) := dk_182 1 39 (dk_at dksX0_turned_1 0 rfl rfl)
theorem dX0_turned_25 : decode cX0_turned 25 = .ok (.iconst 0, 1) := dk_3 (dk_at dksX0_turned_1 3 rfl rfl)
theorem dX0_turned_26 : decode cX0_turned 26 = .ok (.istore 4, 2) := dk_54 4 (dk_at dksX0_turned_1 4 rfl rfl)
theorem dX0_turned_28 : decode cX0_turned 28 = .ok (.iload 4, 2) := dk_21 4 (dk_at dksX0_turned_1 6 rfl rfl)
theorem dX0_turned_30 : decode cX0_turned 30 = .ok (.aload_n 0, 1) := dk_42 (dk_at dksX0_turned_1 8 rfl rfl)
theorem dX0_turned_31 : decode cX0_turned 31 = .ok (.invokevirtual 156, 3) := dk_182 0 156 (dk_at dksX0_turned_1 9 rfl rfl)
theorem dX0_turned_34 : decode cX0_turned 34 = .ok (.if_icmp .ge 33, 3) := dk_162 0 33 (dk_at dksX0_turned_1 12 rfl rfl)
theorem dX0_turned_37 : decode cX0_turned 37 = .ok (.iload_n 3, 1) := dk_29 (dk_at dksX0_turned_1 15 rfl rfl)
theorem dX0_turned_38 : decode cX0_turned 38 = .ok (.aload_n 0, 1) := dk_42 (dk_at dksX0_turned_1 16 rfl rfl)
theorem dX0_turned_39 : decode cX0_turned 39 = .ok (.iload 4, 2) := dk_21 4 (dk_at dksX0_turned_1 17 rfl rfl)
theorem dX0_turned_41 : decode cX0_turned 41 = .ok (.iload_n 1, 1) := dk_27 (dk_at dksX0_turned_1 19 rfl rfl)
theorem dX0_turned_42 : decode cX0_turned 42 = .ok (.sipush 300, 3) := dk_17 1 44 (dk_at dksX0_turned_1 20 rfl rfl)
theorem dX0_turned_45 : decode cX0_turned 45 = .ok (.invokevirtual 301, 3) := dk_182 1 45 (dk_at dksX0_turned_2 0 rfl rfl)
theorem dX0_turned_48 : decode cX0_turned 48 = .ok (.ifCond .le 10, 3) := dk_158 0 10 (dk_at dksX0_turned_2 3 rfl rfl)
theorem dX0_turned_51 : decode cX0_turned 51 = .ok (.iconst 1, 1) := dk_4 (dk_at dksX0_turned_2 6 rfl rfl)
theorem dX0_turned_52 : decode cX0_turned 52 = .ok (.iload 4, 2) := dk_21 4 (dk_at dksX0_turned_2 7 rfl rfl)
theorem dX0_turned_54 : decode cX0_turned 54 = .ok (.ishl, 1) := dk_120 (dk_at dksX0_turned_2 9 rfl rfl)
theorem dX0_turned_55 : decode cX0_turned 55 = .ok (.goto 4, 3) := dk_167 0 4 (dk_at dksX0_turned_2 10 rfl rfl)
theorem dX0_turned_58 : decode cX0_turned 58 = .ok (.iconst 0, 1) := dk_3 (dk_at dksX0_turned_2 13 rfl rfl)
theorem dX0_turned_59 : decode cX0_turned 59 = .ok (.ior, 1) := dk_128 (dk_at dksX0_turned_2 14 rfl rfl)
theorem dX0_turned_60 : decode cX0_turned 60 = .ok (.istore_n 3, 1) := dk_62 (dk_at dksX0_turned_2 15 rfl rfl)
theorem dX0_turned_61 : decode cX0_turned 61 = .ok (.iinc 4 1, 3) := dk_132 4 1 (dk_at dksX0_turned_2 16 rfl rfl)
theorem dX0_turned_64 : decode cX0_turned 64 = .ok (.goto (-36), 3) := dk_167 255 220 (dk_at dksX0_turned_2 19 rfl rfl)
theorem dX0_turned_67 : decode cX0_turned 67 = .ok (.iload_n 2, 1) := dk_28 (dk_at dksX0_turned_2 22 rfl rfl)
theorem dX0_turned_68 : decode cX0_turned 68 = .ok (.ifCond .ne 10, 3) := dk_154 0 10 (dk_at dksX0_turned_3 0 rfl rfl)
theorem dX0_turned_71 : decode cX0_turned 71 = .ok (.iload_n 3, 1) := dk_29 (dk_at dksX0_turned_3 3 rfl rfl)
theorem dX0_turned_72 : decode cX0_turned 72 = .ok (.invokestatic 283, 3) := dk_184 1 27 (dk_at dksX0_turned_3 4 rfl rfl)
theorem dX0_turned_75 : decode cX0_turned 75 = .ok (.goto 4, 3) := dk_167 0 4 (dk_at dksX0_turned_3 7 rfl rfl)
theorem dX0_turned_78 : decode cX0_turned 78 = .ok (.iload_n 3, 1) := dk_29 (dk_at dksX0_turned_3 10 rfl rfl)
theorem dX0_turned_79 : decode cX0_turned 79 = .ok (.ireturn, 1) := dk_172 (dk_at dksX0_turned_3 11 rfl rfl)
abbrev cX0_jolt : ByteArray := prog_1_method_52_code
def yX0_jolt : MethodName := ⟨RX0, "jolt", "(III)I"⟩
def dkwX0_jolt_8 : List UInt8 := [167, 0, 17, 21, 4, 19, 1, 49, 160, 0, 7, 3, 167, 0, 5, 21, 4, 172]
abbrev dktX0_jolt_8 : List UInt8 := dkwX0_jolt_8 ++ []
def dkwX0_jolt_7 : List UInt8 := [132, 7, 1, 167, 255, 133, 29, 4, 160, 0, 8, 21, 5, 167, 0, 27, 29, 5, 160, 0, 8, 21, 6]
abbrev dktX0_jolt_7 : List UInt8 := dkwX0_jolt_7 ++ dktX0_jolt_8
def dkwX0_jolt_6 : List UInt8 := [21, 5, 3, 21, 8, 184, 1, 5, 96, 54, 5, 21, 6, 3, 21, 8, 116, 184, 1, 5, 96, 54, 6]
abbrev dktX0_jolt_6 : List UInt8 := dkwX0_jolt_6 ++ dktX0_jolt_7
def dkwX0_jolt_5 : List UInt8 := [21, 7, 50, 42, 180, 0, 51, 180, 0, 158, 53, 100, 54, 8, 21, 4, 21, 8, 184, 1, 5, 54, 4]
abbrev dktX0_jolt_5 : List UInt8 := dkwX0_jolt_5 ++ dktX0_jolt_6
def dkwX0_jolt_4 : List UInt8 := [167, 0, 70, 42, 180, 0, 51, 42, 180, 0, 40, 21, 7, 28, 182, 1, 33, 42, 180, 0, 51, 180, 0, 184]
abbrev dktX0_jolt_4 : List UInt8 := dkwX0_jolt_4 ++ dktX0_jolt_5
def dkwX0_jolt_3 : List UInt8 := [27, 160, 0, 92, 42, 180, 0, 51, 21, 7, 42, 180, 0, 51, 180, 0, 158, 182, 0, 191, 153, 0, 6]
abbrev dktX0_jolt_3 : List UInt8 := dkwX0_jolt_3 ++ dktX0_jolt_4
def dkwX0_jolt_2 : List UInt8 := [182, 0, 156, 162, 0, 120, 42, 180, 0, 40, 180, 0, 145, 21, 7, 182, 0, 221, 192, 1, 50, 180, 1, 52]
abbrev dktX0_jolt_2 : List UInt8 := dkwX0_jolt_2 ++ dktX0_jolt_3
def dkwX0_jolt_1 : List UInt8 := [154, 0, 7, 17, 252, 24, 172, 19, 1, 49, 54, 4, 3, 54, 5, 3, 54, 6, 3, 54, 7, 21, 7, 42]
abbrev dktX0_jolt_1 : List UInt8 := dkwX0_jolt_1 ++ dktX0_jolt_2
def dkwX0_jolt_0 : List UInt8 := [42, 27, 182, 0, 161, 153, 0, 22, 28, 3, 16, 20, 184, 0, 150, 153, 0, 12, 29, 3, 5, 184, 0, 150]
abbrev dktX0_jolt_0 : List UInt8 := dkwX0_jolt_0 ++ dktX0_jolt_1
theorem dksX0_jolt_0 : cX0_jolt.data.toList.drop 0 = dktX0_jolt_0 := by decide +kernel
theorem dksX0_jolt_1 : cX0_jolt.data.toList.drop 24 = dktX0_jolt_1 := dk_seg dksX0_jolt_0 24 rfl rfl
theorem dksX0_jolt_2 : cX0_jolt.data.toList.drop 48 = dktX0_jolt_2 := dk_seg dksX0_jolt_1 24 rfl rfl
theorem dksX0_jolt_3 : cX0_jolt.data.toList.drop 72 = dktX0_jolt_3 := dk_seg dksX0_jolt_2 24 rfl rfl
theorem dksX0_jolt_4 : cX0_jolt.data.toList.drop 95 = dktX0_jolt_4 := dk_seg dksX0_jolt_3 23 rfl rfl
theorem dksX0_jolt_5 : cX0_jolt.data.toList.drop 119 = dktX0_jolt_5 := dk_seg dksX0_jolt_4 24 rfl rfl
theorem dksX0_jolt_6 : cX0_jolt.data.toList.drop 142 = dktX0_jolt_6 := dk_seg dksX0_jolt_5 23 rfl rfl
theorem dksX0_jolt_7 : cX0_jolt.data.toList.drop 165 = dktX0_jolt_7 := dk_seg dksX0_jolt_6 23 rfl rfl
theorem dksX0_jolt_8 : cX0_jolt.data.toList.drop 188 = dktX0_jolt_8 := dk_seg dksX0_jolt_7 23 rfl rfl
theorem dX0_jolt_0 : decode cX0_jolt 0 = .ok (.aload_n 0, 1) := dk_42 (dk_at dksX0_jolt_0 0 rfl rfl)
theorem dX0_jolt_1 : decode cX0_jolt 1 = .ok (.iload_n 1, 1) := dk_27 (dk_at dksX0_jolt_0 1 rfl rfl)
theorem dX0_jolt_2 : decode cX0_jolt 2 = .ok (.invokevirtual 161, 3) := dk_182 0 161 (dk_at dksX0_jolt_0 2 rfl rfl)
theorem dX0_jolt_5 : decode cX0_jolt 5 = .ok (.ifCond .eq 22, 3) := dk_153 0 22 (dk_at dksX0_jolt_0 5 rfl rfl)
theorem dX0_jolt_8 : decode cX0_jolt 8 = .ok (.iload_n 2, 1) := dk_28 (dk_at dksX0_jolt_0 8 rfl rfl)
theorem dX0_jolt_9 : decode cX0_jolt 9 = .ok (.iconst 0, 1) := dk_3 (dk_at dksX0_jolt_0 9 rfl rfl)
theorem dX0_jolt_10 : decode cX0_jolt 10 = .ok (.bipush 20, 2) := dk_16 20 (dk_at dksX0_jolt_0 10 rfl rfl)
theorem dX0_jolt_12 : decode cX0_jolt 12 = .ok (.invokestatic 150, 3) := dk_184 0 150 (dk_at dksX0_jolt_0 12 rfl rfl)
theorem dX0_jolt_15 : decode cX0_jolt 15 = .ok (.ifCond .eq 12, 3) := dk_153 0 12 (dk_at dksX0_jolt_0 15 rfl rfl)
theorem dX0_jolt_18 : decode cX0_jolt 18 = .ok (.iload_n 3, 1) := dk_29 (dk_at dksX0_jolt_0 18 rfl rfl)
theorem dX0_jolt_19 : decode cX0_jolt 19 = .ok (.iconst 0, 1) := dk_3 (dk_at dksX0_jolt_0 19 rfl rfl)
theorem dX0_jolt_20 : decode cX0_jolt 20 = .ok (.iconst 2, 1) := dk_5 (dk_at dksX0_jolt_0 20 rfl rfl)
theorem dX0_jolt_21 : decode cX0_jolt 21 = .ok (.invokestatic 150, 3) := dk_184 0 150 (dk_at dksX0_jolt_0 21 rfl rfl)
theorem dX0_jolt_24 : decode cX0_jolt 24 = .ok (.ifCond .ne 7, 3) := dk_154 0 7 (dk_at dksX0_jolt_1 0 rfl rfl)
theorem dX0_jolt_27 : decode cX0_jolt 27 = .ok (.sipush (-1000), 3) := dk_17 252 24 (dk_at dksX0_jolt_1 3 rfl rfl)
theorem dX0_jolt_30 : decode cX0_jolt 30 = .ok (.ireturn, 1) := dk_172 (dk_at dksX0_jolt_1 6 rfl rfl)
theorem dX0_jolt_31 : decode cX0_jolt 31 = .ok (.ldc_w 305, 3) := dk_19 1 49 (dk_at dksX0_jolt_1 7 rfl rfl)
theorem dX0_jolt_34 : decode cX0_jolt 34 = .ok (.istore 4, 2) := dk_54 4 (dk_at dksX0_jolt_1 10 rfl rfl)
theorem dX0_jolt_36 : decode cX0_jolt 36 = .ok (.iconst 0, 1) := dk_3 (dk_at dksX0_jolt_1 12 rfl rfl)
theorem dX0_jolt_37 : decode cX0_jolt 37 = .ok (.istore 5, 2) := dk_54 5 (dk_at dksX0_jolt_1 13 rfl rfl)
theorem dX0_jolt_39 : decode cX0_jolt 39 = .ok (.iconst 0, 1) := dk_3 (dk_at dksX0_jolt_1 15 rfl rfl)
theorem dX0_jolt_40 : decode cX0_jolt 40 = .ok (.istore 6, 2) := dk_54 6 (dk_at dksX0_jolt_1 16 rfl rfl)
theorem dX0_jolt_42 : decode cX0_jolt 42 = .ok (.iconst 0, 1) := dk_3 (dk_at dksX0_jolt_1 18 rfl rfl)
theorem dX0_jolt_43 : decode cX0_jolt 43 = .ok (.istore 7, 2) := dk_54 7 (dk_at dksX0_jolt_1 19 rfl rfl)
theorem dX0_jolt_45 : decode cX0_jolt 45 = .ok (.iload 7, 2) := dk_21 7 (dk_at dksX0_jolt_1 21 rfl rfl)
theorem dX0_jolt_47 : decode cX0_jolt 47 = .ok (.aload_n 0, 1) := dk_42 (dk_at dksX0_jolt_1 23 rfl rfl)
theorem dX0_jolt_48 : decode cX0_jolt 48 = .ok (.invokevirtual 156, 3) := dk_182 0 156 (dk_at dksX0_jolt_2 0 rfl rfl)
theorem dX0_jolt_51 : decode cX0_jolt 51 = .ok (.if_icmp .ge 120, 3) := dk_162 0 120 (dk_at dksX0_jolt_2 3 rfl rfl)
theorem dX0_jolt_54 : decode cX0_jolt 54 = .ok (.aload_n 0, 1) := dk_42 (dk_at dksX0_jolt_2 6 rfl rfl)
theorem dX0_jolt_55 : decode cX0_jolt 55 = .ok (.getfield 40, 3) := dk_180 0 40 (dk_at dksX0_jolt_2 7 rfl rfl)
theorem dX0_jolt_58 : decode cX0_jolt 58 = .ok (.getfield 145, 3) := dk_180 0 145 (dk_at dksX0_jolt_2 10 rfl rfl)
theorem dX0_jolt_61 : decode cX0_jolt 61 = .ok (.iload 7, 2) := dk_21 7 (dk_at dksX0_jolt_2 13 rfl rfl)
theorem dX0_jolt_63 : decode cX0_jolt 63 = .ok (.invokevirtual 221, 3) := dk_182 0 221 (dk_at dksX0_jolt_2 15 rfl rfl)
theorem dX0_jolt_66 : decode cX0_jolt 66 = .ok (.checkcast 306, 3) := dk_192 1 50 (dk_at dksX0_jolt_2 18 rfl rfl)
theorem dX0_jolt_69 : decode cX0_jolt 69 = .ok (.getfield 308, 3) := dk_180 1 52 (dk_at dksX0_jolt_2 21 rfl rfl)
theorem dX0_jolt_72 : decode cX0_jolt 72 = .ok (.iload_n 1, 1) := dk_27 (dk_at dksX0_jolt_3 0 rfl rfl)
theorem dX0_jolt_73 : decode cX0_jolt 73 = .ok (.if_icmp .ne 92, 3) := dk_160 0 92 (dk_at dksX0_jolt_3 1 rfl rfl)
theorem dX0_jolt_76 : decode cX0_jolt 76 = .ok (.aload_n 0, 1) := dk_42 (dk_at dksX0_jolt_3 4 rfl rfl)
theorem dX0_jolt_77 : decode cX0_jolt 77 = .ok (.getfield 51, 3) := dk_180 0 51 (dk_at dksX0_jolt_3 5 rfl rfl)
theorem dX0_jolt_80 : decode cX0_jolt 80 = .ok (.iload 7, 2) := dk_21 7 (dk_at dksX0_jolt_3 8 rfl rfl)
theorem dX0_jolt_82 : decode cX0_jolt 82 = .ok (.aload_n 0, 1) := dk_42 (dk_at dksX0_jolt_3 10 rfl rfl)
theorem dX0_jolt_83 : decode cX0_jolt 83 = .ok (.getfield 51, 3) := dk_180 0 51 (dk_at dksX0_jolt_3 11 rfl rfl)
theorem dX0_jolt_86 : decode cX0_jolt 86 = .ok (.getfield 158, 3) := dk_180 0 158 (dk_at dksX0_jolt_3 14 rfl rfl)
theorem dX0_jolt_89 : decode cX0_jolt 89 = .ok (.invokevirtual 191, 3) := dk_182 0 191 (dk_at dksX0_jolt_3 17 rfl rfl)
theorem dX0_jolt_92 : decode cX0_jolt 92 = .ok (.ifCond .eq 6, 3) := dk_153 0 6 (dk_at dksX0_jolt_3 20 rfl rfl)
theorem dX0_jolt_95 : decode cX0_jolt 95 = .ok (.goto 70, 3) := dk_167 0 70 (dk_at dksX0_jolt_4 0 rfl rfl)
theorem dX0_jolt_98 : decode cX0_jolt 98 = .ok (.aload_n 0, 1) := dk_42 (dk_at dksX0_jolt_4 3 rfl rfl)
theorem dX0_jolt_99 : decode cX0_jolt 99 = .ok (.getfield 51, 3) := dk_180 0 51 (dk_at dksX0_jolt_4 4 rfl rfl)
theorem dX0_jolt_102 : decode cX0_jolt 102 = .ok (.aload_n 0, 1) := dk_42 (dk_at dksX0_jolt_4 7 rfl rfl)
theorem dX0_jolt_103 : decode cX0_jolt 103 = .ok (.getfield 40, 3) := dk_180 0 40 (dk_at dksX0_jolt_4 8 rfl rfl)
theorem dX0_jolt_106 : decode cX0_jolt 106 = .ok (.iload 7, 2) := dk_21 7 (dk_at dksX0_jolt_4 11 rfl rfl)
theorem dX0_jolt_108 : decode cX0_jolt 108 = .ok (.iload_n 2, 1) := dk_28 (dk_at dksX0_jolt_4 13 rfl rfl)
theorem dX0_jolt_109 : decode cX0_jolt 109 = .ok (.invokevirtual 289, 3) := dk_182 1 33 (dk_at dksX0_jolt_4 14 rfl rfl)
theorem dX0_jolt_112 : decode cX0_jolt 112 = .ok (.aload_n 0, 1) := dk_42 (dk_at dksX0_jolt_4 17 rfl rfl)
theorem dX0_jolt_113 : decode cX0_jolt 113 = .ok (.getfield 51, 3) := dk_180 0 51 (dk_at dksX0_jolt_4 18 rfl rfl)
theorem dX0_jolt_116 : decode cX0_jolt 116 = .ok (.getfield 184, 3) := dk_180 0 184 (dk_at dksX0_jolt_4 21 rfl rfl)
theorem dX0_jolt_119 : decode cX0_jolt 119 = .ok (.iload 7, 2) := dk_21 7 (dk_at dksX0_jolt_5 0 rfl rfl)
theorem dX0_jolt_121 : decode cX0_jolt 121 = .ok (.aaload, 1) := dk_50 (dk_at dksX0_jolt_5 2 rfl rfl)
theorem dX0_jolt_122 : decode cX0_jolt 122 = .ok (.aload_n 0, 1) := dk_42 (dk_at dksX0_jolt_5 3 rfl rfl)
theorem dX0_jolt_123 : decode cX0_jolt 123 = .ok (.getfield 51, 3) := dk_180 0 51 (dk_at dksX0_jolt_5 4 rfl rfl)
theorem dX0_jolt_126 : decode cX0_jolt 126 = .ok (.getfield 158, 3) := dk_180 0 158 (dk_at dksX0_jolt_5 7 rfl rfl)
theorem dX0_jolt_129 : decode cX0_jolt 129 = .ok (.saload, 1) := dk_53 (dk_at dksX0_jolt_5 10 rfl rfl)
theorem dX0_jolt_130 : decode cX0_jolt 130 = .ok (.isub, 1) := dk_100 (dk_at dksX0_jolt_5 11 rfl rfl)
theorem dX0_jolt_131 : decode cX0_jolt 131 = .ok (.istore 8, 2) := dk_54 8 (dk_at dksX0_jolt_5 12 rfl rfl)
theorem dX0_jolt_133 : decode cX0_jolt 133 = .ok (.iload 4, 2) := dk_21 4 (dk_at dksX0_jolt_5 14 rfl rfl)
theorem dX0_jolt_135 : decode cX0_jolt 135 = .ok (.iload 8, 2) := dk_21 8 (dk_at dksX0_jolt_5 16 rfl rfl)
theorem dX0_jolt_137 : decode cX0_jolt 137 = .ok (.invokestatic 261, 3) := dk_184 1 5 (dk_at dksX0_jolt_5 18 rfl rfl)
theorem dX0_jolt_140 : decode cX0_jolt 140 = .ok (.istore 4, 2) := dk_54 4 (dk_at dksX0_jolt_5 21 rfl rfl)
theorem dX0_jolt_142 : decode cX0_jolt 142 = .ok (.iload 5, 2) := dk_21 5 (dk_at dksX0_jolt_6 0 rfl rfl)
theorem dX0_jolt_144 : decode cX0_jolt 144 = .ok (.iconst 0, 1) := dk_3 (dk_at dksX0_jolt_6 2 rfl rfl)
theorem dX0_jolt_145 : decode cX0_jolt 145 = .ok (.iload 8, 2) := dk_21 8 (dk_at dksX0_jolt_6 3 rfl rfl)
theorem dX0_jolt_147 : decode cX0_jolt 147 = .ok (.invokestatic 261, 3) := dk_184 1 5 (dk_at dksX0_jolt_6 5 rfl rfl)
theorem dX0_jolt_150 : decode cX0_jolt 150 = .ok (.iadd, 1) := dk_96 (dk_at dksX0_jolt_6 8 rfl rfl)
theorem dX0_jolt_151 : decode cX0_jolt 151 = .ok (.istore 5, 2) := dk_54 5 (dk_at dksX0_jolt_6 9 rfl rfl)
theorem dX0_jolt_153 : decode cX0_jolt 153 = .ok (.iload 6, 2) := dk_21 6 (dk_at dksX0_jolt_6 11 rfl rfl)
theorem dX0_jolt_155 : decode cX0_jolt 155 = .ok (.iconst 0, 1) := dk_3 (dk_at dksX0_jolt_6 13 rfl rfl)
theorem dX0_jolt_156 : decode cX0_jolt 156 = .ok (.iload 8, 2) := dk_21 8 (dk_at dksX0_jolt_6 14 rfl rfl)
theorem dX0_jolt_158 : decode cX0_jolt 158 = .ok (.ineg, 1) := dk_116 (dk_at dksX0_jolt_6 16 rfl rfl)
theorem dX0_jolt_159 : decode cX0_jolt 159 = .ok (.invokestatic 261, 3) := dk_184 1 5 (dk_at dksX0_jolt_6 17 rfl rfl)
theorem dX0_jolt_162 : decode cX0_jolt 162 = .ok (.iadd, 1) := dk_96 (dk_at dksX0_jolt_6 20 rfl rfl)
theorem dX0_jolt_163 : decode cX0_jolt 163 = .ok (.istore 6, 2) := dk_54 6 (dk_at dksX0_jolt_6 21 rfl rfl)
theorem dX0_jolt_165 : decode cX0_jolt 165 = .ok (.iinc 7 1, 3) := dk_132 7 1 (dk_at dksX0_jolt_7 0 rfl rfl)
theorem dX0_jolt_168 : decode cX0_jolt 168 = .ok (.goto (-123), 3) := dk_167 255 133 (dk_at dksX0_jolt_7 3 rfl rfl)
theorem dX0_jolt_171 : decode cX0_jolt 171 = .ok (.iload_n 3, 1) := dk_29 (dk_at dksX0_jolt_7 6 rfl rfl)
theorem dX0_jolt_172 : decode cX0_jolt 172 = .ok (.iconst 1, 1) := dk_4 (dk_at dksX0_jolt_7 7 rfl rfl)
theorem dX0_jolt_173 : decode cX0_jolt 173 = .ok (.if_icmp .ne 8, 3) := dk_160 0 8 (dk_at dksX0_jolt_7 8 rfl rfl)
theorem dX0_jolt_176 : decode cX0_jolt 176 = .ok (.iload 5, 2) := dk_21 5 (dk_at dksX0_jolt_7 11 rfl rfl)
theorem dX0_jolt_178 : decode cX0_jolt 178 = .ok (.goto 27, 3) := dk_167 0 27 (dk_at dksX0_jolt_7 13 rfl rfl)
theorem dX0_jolt_181 : decode cX0_jolt 181 = .ok (.iload_n 3, 1) := dk_29 (dk_at dksX0_jolt_7 16 rfl rfl)
theorem dX0_jolt_182 : decode cX0_jolt 182 = .ok (.iconst 2, 1) := dk_5 (dk_at dksX0_jolt_7 17 rfl rfl)
theorem dX0_jolt_183 : decode cX0_jolt 183 = .ok (.if_icmp .ne 8, 3) := dk_160 0 8 (dk_at dksX0_jolt_7 18 rfl rfl)
theorem dX0_jolt_186 : decode cX0_jolt 186 = .ok (.iload 6, 2) := dk_21 6 (dk_at dksX0_jolt_7 21 rfl rfl)
theorem dX0_jolt_188 : decode cX0_jolt 188 = .ok (.goto 17, 3) := dk_167 0 17 (dk_at dksX0_jolt_8 0 rfl rfl)
theorem dX0_jolt_191 : decode cX0_jolt 191 = .ok (.iload 4, 2) := dk_21 4 (dk_at dksX0_jolt_8 3 rfl rfl)
theorem dX0_jolt_193 : decode cX0_jolt 193 = .ok (.ldc_w 305, 3) := dk_19 1 49 (dk_at dksX0_jolt_8 5 rfl rfl)
theorem dX0_jolt_196 : decode cX0_jolt 196 = .ok (.if_icmp .ne 7, 3) := dk_160 0 7 (dk_at dksX0_jolt_8 8 rfl rfl)
theorem dX0_jolt_199 : decode cX0_jolt 199 = .ok (.iconst 0, 1) := dk_3 (dk_at dksX0_jolt_8 11 rfl rfl)
theorem dX0_jolt_200 : decode cX0_jolt 200 = .ok (.goto 5, 3) := dk_167 0 5 (dk_at dksX0_jolt_8 12 rfl rfl)
theorem dX0_jolt_203 : decode cX0_jolt 203 = .ok (.iload 4, 2) := dk_21 4 (dk_at dksX0_jolt_8 15 rfl rfl)
theorem dX0_jolt_205 : decode cX0_jolt 205 = .ok (.ireturn, 1) := dk_172 (dk_at dksX0_jolt_8 17 rfl rfl)
abbrev cX0_odds : ByteArray := prog_1_method_53_code
def yX0_odds : MethodName := ⟨RX0, "odds", "(III)I"⟩
def dkwX0_odds_4 : List UInt8 := [182, 0, 191, 153, 0, 7, 4, 167, 0, 4, 3, 96, 54, 4, 132, 5, 1, 167, 255, 182, 21, 4, 172]
abbrev dktX0_odds_4 : List UInt8 := dkwX0_odds_4 ++ []
def dkwX0_odds_3 : List UInt8 := [42, 42, 180, 0, 55, 28, 182, 0, 217, 21, 4, 42, 180, 0, 55, 27, 42, 180, 0, 55, 180, 0, 158]
abbrev dktX0_odds_3 : List UInt8 := dkwX0_odds_3 ++ dktX0_odds_4
def dkwX0_odds_2 : List UInt8 := [42, 180, 0, 51, 182, 0, 202, 42, 180, 0, 55, 42, 180, 0, 40, 180, 1, 55, 21, 5, 96, 181, 1, 58]
abbrev dktX0_odds_2 : List UInt8 := dkwX0_odds_2 ++ dktX0_odds_3
def dkwX0_odds_1 : List UInt8 := [184, 0, 150, 154, 0, 5, 2, 172, 3, 54, 4, 3, 54, 5, 21, 5, 29, 162, 0, 74, 42, 180, 0, 55]
abbrev dktX0_odds_1 : List UInt8 := dkwX0_odds_1 ++ dktX0_odds_2
def dkwX0_odds_0 : List UInt8 := [42, 27, 182, 0, 175, 153, 0, 24, 28, 3, 17, 1, 43, 184, 0, 150, 153, 0, 13, 29, 4, 16, 10]
abbrev dktX0_odds_0 : List UInt8 := dkwX0_odds_0 ++ dktX0_odds_1
theorem dksX0_odds_0 : cX0_odds.data.toList.drop 0 = dktX0_odds_0 := by decide +kernel
theorem dksX0_odds_1 : cX0_odds.data.toList.drop 23 = dktX0_odds_1 := dk_seg dksX0_odds_0 23 rfl rfl
theorem dksX0_odds_2 : cX0_odds.data.toList.drop 47 = dktX0_odds_2 := dk_seg dksX0_odds_1 24 rfl rfl
theorem dksX0_odds_3 : cX0_odds.data.toList.drop 71 = dktX0_odds_3 := dk_seg dksX0_odds_2 24 rfl rfl
theorem dksX0_odds_4 : cX0_odds.data.toList.drop 94 = dktX0_odds_4 := dk_seg dksX0_odds_3 23 rfl rfl
theorem dX0_odds_0 : decode cX0_odds 0 = .ok (.aload_n 0, 1) := dk_42 (dk_at dksX0_odds_0 0 rfl rfl)
theorem dX0_odds_1 : decode cX0_odds 1 = .ok (.iload_n 1, 1) := dk_27 (dk_at dksX0_odds_0 1 rfl rfl)
theorem dX0_odds_2 : decode cX0_odds 2 = .ok (.invokevirtual 175, 3) := dk_182 0 175 (dk_at dksX0_odds_0 2 rfl rfl)
theorem dX0_odds_5 : decode cX0_odds 5 = .ok (.ifCond .eq 24, 3) := dk_153 0 24 (dk_at dksX0_odds_0 5 rfl rfl)
theorem dX0_odds_8 : decode cX0_odds 8 = .ok (.iload_n 2, 1) := dk_28 (dk_at dksX0_odds_0 8 rfl rfl)
theorem dX0_odds_9 : decode cX0_odds 9 = .ok (.iconst 0, 1) := dk_3 (dk_at dksX0_odds_0 9 rfl rfl)
theorem dX0_odds_10 : decode cX0_odds 10 = .ok (.sipush 299, 3) := dk_17 1 43 (dk_at dksX0_odds_0 10 rfl rfl)
theorem dX0_odds_13 : decode cX0_odds 13 = .ok (.invokestatic 150, 3) := dk_184 0 150 (dk_at dksX0_odds_0 13 rfl rfl)
theorem dX0_odds_16 : decode cX0_odds 16 = .ok (.ifCond .eq 13, 3) := dk_153 0 13 (dk_at dksX0_odds_0 16 rfl rfl)
theorem dX0_odds_19 : decode cX0_odds 19 = .ok (.iload_n 3, 1) := dk_29 (dk_at dksX0_odds_0 19 rfl rfl)
theorem dX0_odds_20 : decode cX0_odds 20 = .ok (.iconst 1, 1) := dk_4 (dk_at dksX0_odds_0 20 rfl rfl)
theorem dX0_odds_21 : decode cX0_odds 21 = .ok (.bipush 10, 2) := dk_16 10 (dk_at dksX0_odds_0 21 rfl rfl)
theorem dX0_odds_23 : decode cX0_odds 23 = .ok (.invokestatic 150, 3) := dk_184 0 150 (dk_at dksX0_odds_1 0 rfl rfl)
theorem dX0_odds_26 : decode cX0_odds 26 = .ok (.ifCond .ne 5, 3) := dk_154 0 5 (dk_at dksX0_odds_1 3 rfl rfl)
theorem dX0_odds_29 : decode cX0_odds 29 = .ok (.iconst (-1), 1) := dk_2 (dk_at dksX0_odds_1 6 rfl rfl)
theorem dX0_odds_30 : decode cX0_odds 30 = .ok (.ireturn, 1) := dk_172 (dk_at dksX0_odds_1 7 rfl rfl)
theorem dX0_odds_31 : decode cX0_odds 31 = .ok (.iconst 0, 1) := dk_3 (dk_at dksX0_odds_1 8 rfl rfl)
theorem dX0_odds_32 : decode cX0_odds 32 = .ok (.istore 4, 2) := dk_54 4 (dk_at dksX0_odds_1 9 rfl rfl)
theorem dX0_odds_34 : decode cX0_odds 34 = .ok (.iconst 0, 1) := dk_3 (dk_at dksX0_odds_1 11 rfl rfl)
theorem dX0_odds_35 : decode cX0_odds 35 = .ok (.istore 5, 2) := dk_54 5 (dk_at dksX0_odds_1 12 rfl rfl)
theorem dX0_odds_37 : decode cX0_odds 37 = .ok (.iload 5, 2) := dk_21 5 (dk_at dksX0_odds_1 14 rfl rfl)
theorem dX0_odds_39 : decode cX0_odds 39 = .ok (.iload_n 3, 1) := dk_29 (dk_at dksX0_odds_1 16 rfl rfl)
theorem dX0_odds_40 : decode cX0_odds 40 = .ok (.if_icmp .ge 74, 3) := dk_162 0 74 (dk_at dksX0_odds_1 17 rfl rfl)
theorem dX0_odds_43 : decode cX0_odds 43 = .ok (.aload_n 0, 1) := dk_42 (dk_at dksX0_odds_1 20 rfl rfl)
theorem dX0_odds_44 : decode cX0_odds 44 = .ok (.getfield 55, 3) := dk_180 0 55 (dk_at dksX0_odds_1 21 rfl rfl)
theorem dX0_odds_47 : decode cX0_odds 47 = .ok (.aload_n 0, 1) := dk_42 (dk_at dksX0_odds_2 0 rfl rfl)
theorem dX0_odds_48 : decode cX0_odds 48 = .ok (.getfield 51, 3) := dk_180 0 51 (dk_at dksX0_odds_2 1 rfl rfl)
theorem dX0_odds_51 : decode cX0_odds 51 = .ok (.invokevirtual 202, 3) := dk_182 0 202 (dk_at dksX0_odds_2 4 rfl rfl)
theorem dX0_odds_54 : decode cX0_odds 54 = .ok (.aload_n 0, 1) := dk_42 (dk_at dksX0_odds_2 7 rfl rfl)
theorem dX0_odds_55 : decode cX0_odds 55 = .ok (.getfield 55, 3) := dk_180 0 55 (dk_at dksX0_odds_2 8 rfl rfl)
theorem dX0_odds_58 : decode cX0_odds 58 = .ok (.aload_n 0, 1) := dk_42 (dk_at dksX0_odds_2 11 rfl rfl)
theorem dX0_odds_59 : decode cX0_odds 59 = .ok (.getfield 40, 3) := dk_180 0 40 (dk_at dksX0_odds_2 12 rfl rfl)
theorem dX0_odds_62 : decode cX0_odds 62 = .ok (.getfield 311, 3) := dk_180 1 55 (dk_at dksX0_odds_2 15 rfl rfl)
theorem dX0_odds_65 : decode cX0_odds 65 = .ok (.iload 5, 2) := dk_21 5 (dk_at dksX0_odds_2 18 rfl rfl)
theorem dX0_odds_67 : decode cX0_odds 67 = .ok (.iadd, 1) := dk_96 (dk_at dksX0_odds_2 20 rfl rfl)
theorem dX0_odds_68 : decode cX0_odds 68 = .ok (.putfield 314, 3) := dk_181 1 58 (dk_at dksX0_odds_2 21 rfl rfl)
theorem dX0_odds_71 : decode cX0_odds 71 = .ok (.aload_n 0, 1) := dk_42 (dk_at dksX0_odds_3 0 rfl rfl)
theorem dX0_odds_72 : decode cX0_odds 72 = .ok (.aload_n 0, 1) := dk_42 (dk_at dksX0_odds_3 1 rfl rfl)
theorem dX0_odds_73 : decode cX0_odds 73 = .ok (.getfield 55, 3) := dk_180 0 55 (dk_at dksX0_odds_3 2 rfl rfl)
theorem dX0_odds_76 : decode cX0_odds 76 = .ok (.iload_n 2, 1) := dk_28 (dk_at dksX0_odds_3 5 rfl rfl)
theorem dX0_odds_77 : decode cX0_odds 77 = .ok (.invokevirtual 217, 3) := dk_182 0 217 (dk_at dksX0_odds_3 6 rfl rfl)
theorem dX0_odds_80 : decode cX0_odds 80 = .ok (.iload 4, 2) := dk_21 4 (dk_at dksX0_odds_3 9 rfl rfl)
theorem dX0_odds_82 : decode cX0_odds 82 = .ok (.aload_n 0, 1) := dk_42 (dk_at dksX0_odds_3 11 rfl rfl)
theorem dX0_odds_83 : decode cX0_odds 83 = .ok (.getfield 55, 3) := dk_180 0 55 (dk_at dksX0_odds_3 12 rfl rfl)
theorem dX0_odds_86 : decode cX0_odds 86 = .ok (.iload_n 1, 1) := dk_27 (dk_at dksX0_odds_3 15 rfl rfl)
theorem dX0_odds_87 : decode cX0_odds 87 = .ok (.aload_n 0, 1) := dk_42 (dk_at dksX0_odds_3 16 rfl rfl)
theorem dX0_odds_88 : decode cX0_odds 88 = .ok (.getfield 55, 3) := dk_180 0 55 (dk_at dksX0_odds_3 17 rfl rfl)
theorem dX0_odds_91 : decode cX0_odds 91 = .ok (.getfield 158, 3) := dk_180 0 158 (dk_at dksX0_odds_3 20 rfl rfl)
theorem dX0_odds_94 : decode cX0_odds 94 = .ok (.invokevirtual 191, 3) := dk_182 0 191 (dk_at dksX0_odds_4 0 rfl rfl)
theorem dX0_odds_97 : decode cX0_odds 97 = .ok (.ifCond .eq 7, 3) := dk_153 0 7 (dk_at dksX0_odds_4 3 rfl rfl)
theorem dX0_odds_100 : decode cX0_odds 100 = .ok (.iconst 1, 1) := dk_4 (dk_at dksX0_odds_4 6 rfl rfl)
theorem dX0_odds_101 : decode cX0_odds 101 = .ok (.goto 4, 3) := dk_167 0 4 (dk_at dksX0_odds_4 7 rfl rfl)
theorem dX0_odds_104 : decode cX0_odds 104 = .ok (.iconst 0, 1) := dk_3 (dk_at dksX0_odds_4 10 rfl rfl)
theorem dX0_odds_105 : decode cX0_odds 105 = .ok (.iadd, 1) := dk_96 (dk_at dksX0_odds_4 11 rfl rfl)
theorem dX0_odds_106 : decode cX0_odds 106 = .ok (.istore 4, 2) := dk_54 4 (dk_at dksX0_odds_4 12 rfl rfl)
theorem dX0_odds_108 : decode cX0_odds 108 = .ok (.iinc 5 1, 3) := dk_132 5 1 (dk_at dksX0_odds_4 14 rfl rfl)
theorem dX0_odds_111 : decode cX0_odds 111 = .ok (.goto (-74), 3) := dk_167 255 182 (dk_at dksX0_odds_4 17 rfl rfl)
theorem dX0_odds_114 : decode cX0_odds 114 = .ok (.iload 4, 2) := dk_21 4 (dk_at dksX0_odds_4 20 rfl rfl)
theorem dX0_odds_116 : decode cX0_odds 116 = .ok (.ireturn, 1) := dk_172 (dk_at dksX0_odds_4 22 rfl rfl)
abbrev cX0_hidden : ByteArray := prog_1_method_56_code
def yX0_hidden : MethodName := ⟨RX0, "hidden", "(III)I"⟩
def dkwX0_hidden_5 : List UInt8 := [132, 5, 1, 167, 255, 229, 25, 4, 180, 0, 230, 21, 5, 46, 172]
abbrev dktX0_hidden_5 : List UInt8 := dkwX0_hidden_5 ++ []
def dkwX0_hidden_4 : List UInt8 := [42, 180, 0, 88, 25, 4, 180, 0, 230, 21, 5, 46, 46, 42, 180, 0, 88, 27, 46, 4, 100, 159, 0, 9]
abbrev dktX0_hidden_4 : List UInt8 := dkwX0_hidden_4 ++ dktX0_hidden_5
def dkwX0_hidden_3 : List UInt8 := [167, 0, 4, 27, 172, 42, 180, 0, 40, 180, 0, 132, 27, 182, 0, 221, 192, 0, 225, 58, 4, 3, 54, 5]
abbrev dktX0_hidden_3 : List UInt8 := dkwX0_hidden_3 ++ dktX0_hidden_4
def dkwX0_hidden_2 : List UInt8 := [172, 29, 153, 0, 12, 42, 180, 0, 88, 27, 46, 154, 0, 18, 29, 154, 0, 12, 42, 180, 0, 88, 27, 46]
abbrev dktX0_hidden_2 : List UInt8 := dkwX0_hidden_2 ++ dktX0_hidden_3
def dkwX0_hidden_1 : List UInt8 := [154, 0, 5, 2, 172, 42, 28, 182, 1, 63, 42, 180, 0, 88, 27, 46, 19, 1, 62, 160, 0, 6, 16, 254]
abbrev dktX0_hidden_1 : List UInt8 := dkwX0_hidden_1 ++ dktX0_hidden_2
def dkwX0_hidden_0 : List UInt8 := [42, 27, 182, 0, 236, 153, 0, 20, 42, 28, 182, 0, 236, 153, 0, 12, 29, 3, 4, 184, 0, 150]
abbrev dktX0_hidden_0 : List UInt8 := dkwX0_hidden_0 ++ dktX0_hidden_1
theorem dksX0_hidden_0 : cX0_hidden.data.toList.drop 0 = dktX0_hidden_0 := by decide +kernel
theorem dksX0_hidden_1 : cX0_hidden.data.toList.drop 22 = dktX0_hidden_1 := dk_seg dksX0_hidden_0 22 rfl rfl
theorem dksX0_hidden_2 : cX0_hidden.data.toList.drop 46 = dktX0_hidden_2 := dk_seg dksX0_hidden_1 24 rfl rfl
theorem dksX0_hidden_3 : cX0_hidden.data.toList.drop 70 = dktX0_hidden_3 := dk_seg dksX0_hidden_2 24 rfl rfl
theorem dksX0_hidden_4 : cX0_hidden.data.toList.drop 94 = dktX0_hidden_4 := dk_seg dksX0_hidden_3 24 rfl rfl
theorem dksX0_hidden_5 : cX0_hidden.data.toList.drop 118 = dktX0_hidden_5 := dk_seg dksX0_hidden_4 24 rfl rfl
theorem dX0_hidden_0 : decode cX0_hidden 0 = .ok (.aload_n 0, 1) := dk_42 (dk_at dksX0_hidden_0 0 rfl rfl)
theorem dX0_hidden_1 : decode cX0_hidden 1 = .ok (.iload_n 1, 1) := dk_27 (dk_at dksX0_hidden_0 1 rfl rfl)
theorem dX0_hidden_2 : decode cX0_hidden 2 = .ok (.invokevirtual 236, 3) := dk_182 0 236 (dk_at dksX0_hidden_0 2 rfl rfl)
theorem dX0_hidden_5 : decode cX0_hidden 5 = .ok (.ifCond .eq 20, 3) := dk_153 0 20 (dk_at dksX0_hidden_0 5 rfl rfl)
theorem dX0_hidden_8 : decode cX0_hidden 8 = .ok (.aload_n 0, 1) := dk_42 (dk_at dksX0_hidden_0 8 rfl rfl)
theorem dX0_hidden_9 : decode cX0_hidden 9 = .ok (.iload_n 2, 1) := dk_28 (dk_at dksX0_hidden_0 9 rfl rfl)
theorem dX0_hidden_10 : decode cX0_hidden 10 = .ok (.invokevirtual 236, 3) := dk_182 0 236 (dk_at dksX0_hidden_0 10 rfl rfl)
theorem dX0_hidden_13 : decode cX0_hidden 13 = .ok (.ifCond .eq 12, 3) := dk_153 0 12 (dk_at dksX0_hidden_0 13 rfl rfl)
theorem dX0_hidden_16 : decode cX0_hidden 16 = .ok (.iload_n 3, 1) := dk_29 (dk_at dksX0_hidden_0 16 rfl rfl)
theorem dX0_hidden_17 : decode cX0_hidden 17 = .ok (.iconst 0, 1) := dk_3 (dk_at dksX0_hidden_0 17 rfl rfl)
theorem dX0_hidden_18 : decode cX0_hidden 18 = .ok (.iconst 1, 1) := dk_4 (dk_at dksX0_hidden_0 18 rfl rfl)
theorem dX0_hidden_19 : decode cX0_hidden 19 = .ok (.invokestatic 150, 3) := dk_184 0 150 (dk_at dksX0_hidden_0 19 rfl rfl)
theorem dX0_hidden_22 : decode cX0_hidden 22 = .ok (.ifCond .ne 5, 3) := dk_154 0 5 (dk_at dksX0_hidden_1 0 rfl rfl)
theorem dX0_hidden_25 : decode cX0_hidden 25 = .ok (.iconst (-1), 1) := dk_2 (dk_at dksX0_hidden_1 3 rfl rfl)
theorem dX0_hidden_26 : decode cX0_hidden 26 = .ok (.ireturn, 1) := dk_172 (dk_at dksX0_hidden_1 4 rfl rfl)
theorem dX0_hidden_27 : decode cX0_hidden 27 = .ok (.aload_n 0, 1) := dk_42 (dk_at dksX0_hidden_1 5 rfl rfl)
theorem dX0_hidden_28 : decode cX0_hidden 28 = .ok (.iload_n 2, 1) := dk_28 (dk_at dksX0_hidden_1 6 rfl rfl)
theorem dX0_hidden_29 : decode cX0_hidden 29 = .ok (.invokevirtual 319, 3) := dk_182 1 63 (dk_at dksX0_hidden_1 7 rfl rfl)
theorem dX0_hidden_32 : decode cX0_hidden 32 = .ok (.aload_n 0, 1) := dk_42 (dk_at dksX0_hidden_1 10 rfl rfl)
theorem dX0_hidden_33 : decode cX0_hidden 33 = .ok (.getfield 88, 3) := dk_180 0 88 (dk_at dksX0_hidden_1 11 rfl rfl)
theorem dX0_hidden_36 : decode cX0_hidden 36 = .ok (.iload_n 1, 1) := dk_27 (dk_at dksX0_hidden_1 14 rfl rfl)
theorem dX0_hidden_37 : decode cX0_hidden 37 = .ok (.iaload, 1) := dk_46 (dk_at dksX0_hidden_1 15 rfl rfl)
theorem dX0_hidden_38 : decode cX0_hidden 38 = .ok (.ldc_w 318, 3) := dk_19 1 62 (dk_at dksX0_hidden_1 16 rfl rfl)
theorem dX0_hidden_41 : decode cX0_hidden 41 = .ok (.if_icmp .ne 6, 3) := dk_160 0 6 (dk_at dksX0_hidden_1 19 rfl rfl)
theorem dX0_hidden_44 : decode cX0_hidden 44 = .ok (.bipush (-2), 2) := dk_16 254 (dk_at dksX0_hidden_1 22 rfl rfl)
theorem dX0_hidden_46 : decode cX0_hidden 46 = .ok (.ireturn, 1) := dk_172 (dk_at dksX0_hidden_2 0 rfl rfl)
theorem dX0_hidden_47 : decode cX0_hidden 47 = .ok (.iload_n 3, 1) := dk_29 (dk_at dksX0_hidden_2 1 rfl rfl)
theorem dX0_hidden_48 : decode cX0_hidden 48 = .ok (.ifCond .eq 12, 3) := dk_153 0 12 (dk_at dksX0_hidden_2 2 rfl rfl)
theorem dX0_hidden_51 : decode cX0_hidden 51 = .ok (.aload_n 0, 1) := dk_42 (dk_at dksX0_hidden_2 5 rfl rfl)
theorem dX0_hidden_52 : decode cX0_hidden 52 = .ok (.getfield 88, 3) := dk_180 0 88 (dk_at dksX0_hidden_2 6 rfl rfl)
theorem dX0_hidden_55 : decode cX0_hidden 55 = .ok (.iload_n 1, 1) := dk_27 (dk_at dksX0_hidden_2 9 rfl rfl)
theorem dX0_hidden_56 : decode cX0_hidden 56 = .ok (.iaload, 1) := dk_46 (dk_at dksX0_hidden_2 10 rfl rfl)
theorem dX0_hidden_57 : decode cX0_hidden 57 = .ok (.ifCond .ne 18, 3) := dk_154 0 18 (dk_at dksX0_hidden_2 11 rfl rfl)
theorem dX0_hidden_60 : decode cX0_hidden 60 = .ok (.iload_n 3, 1) := dk_29 (dk_at dksX0_hidden_2 14 rfl rfl)
theorem dX0_hidden_61 : decode cX0_hidden 61 = .ok (.ifCond .ne 12, 3) := dk_154 0 12 (dk_at dksX0_hidden_2 15 rfl rfl)
theorem dX0_hidden_64 : decode cX0_hidden 64 = .ok (.aload_n 0, 1) := dk_42 (dk_at dksX0_hidden_2 18 rfl rfl)
theorem dX0_hidden_65 : decode cX0_hidden 65 = .ok (.getfield 88, 3) := dk_180 0 88 (dk_at dksX0_hidden_2 19 rfl rfl)
theorem dX0_hidden_68 : decode cX0_hidden 68 = .ok (.iload_n 1, 1) := dk_27 (dk_at dksX0_hidden_2 22 rfl rfl)
theorem dX0_hidden_69 : decode cX0_hidden 69 = .ok (.iaload, 1) := dk_46 (dk_at dksX0_hidden_2 23 rfl rfl)
theorem dX0_hidden_70 : decode cX0_hidden 70 = .ok (.goto 4, 3) := dk_167 0 4 (dk_at dksX0_hidden_3 0 rfl rfl)
theorem dX0_hidden_73 : decode cX0_hidden 73 = .ok (.iload_n 1, 1) := dk_27 (dk_at dksX0_hidden_3 3 rfl rfl)
theorem dX0_hidden_74 : decode cX0_hidden 74 = .ok (.ireturn, 1) := dk_172 (dk_at dksX0_hidden_3 4 rfl rfl)
theorem dX0_hidden_75 : decode cX0_hidden 75 = .ok (.aload_n 0, 1) := dk_42 (dk_at dksX0_hidden_3 5 rfl rfl)
theorem dX0_hidden_76 : decode cX0_hidden 76 = .ok (.getfield 40, 3) := dk_180 0 40 (dk_at dksX0_hidden_3 6 rfl rfl)
theorem dX0_hidden_79 : decode cX0_hidden 79 = .ok (.getfield 132, 3) := dk_180 0 132 (dk_at dksX0_hidden_3 9 rfl rfl)
theorem dX0_hidden_82 : decode cX0_hidden 82 = .ok (.iload_n 1, 1) := dk_27 (dk_at dksX0_hidden_3 12 rfl rfl)
theorem dX0_hidden_83 : decode cX0_hidden 83 = .ok (.invokevirtual 221, 3) := dk_182 0 221 (dk_at dksX0_hidden_3 13 rfl rfl)
theorem dX0_hidden_86 : decode cX0_hidden 86 = .ok (.checkcast 225, 3) := dk_192 0 225 (dk_at dksX0_hidden_3 16 rfl rfl)
theorem dX0_hidden_89 : decode cX0_hidden 89 = .ok (.astore 4, 2) := dk_58 4 (dk_at dksX0_hidden_3 19 rfl rfl)
theorem dX0_hidden_91 : decode cX0_hidden 91 = .ok (.iconst 0, 1) := dk_3 (dk_at dksX0_hidden_3 21 rfl rfl)
theorem dX0_hidden_92 : decode cX0_hidden 92 = .ok (.istore 5, 2) := dk_54 5 (dk_at dksX0_hidden_3 22 rfl rfl)
theorem dX0_hidden_94 : decode cX0_hidden 94 = .ok (.aload_n 0, 1) := dk_42 (dk_at dksX0_hidden_4 0 rfl rfl)
theorem dX0_hidden_95 : decode cX0_hidden 95 = .ok (.getfield 88, 3) := dk_180 0 88 (dk_at dksX0_hidden_4 1 rfl rfl)
theorem dX0_hidden_98 : decode cX0_hidden 98 = .ok (.aload 4, 2) := dk_25 4 (dk_at dksX0_hidden_4 4 rfl rfl)
theorem dX0_hidden_100 : decode cX0_hidden 100 = .ok (.getfield 230, 3) := dk_180 0 230 (dk_at dksX0_hidden_4 6 rfl rfl)
theorem dX0_hidden_103 : decode cX0_hidden 103 = .ok (.iload 5, 2) := dk_21 5 (dk_at dksX0_hidden_4 9 rfl rfl)
theorem dX0_hidden_105 : decode cX0_hidden 105 = .ok (.iaload, 1) := dk_46 (dk_at dksX0_hidden_4 11 rfl rfl)
theorem dX0_hidden_106 : decode cX0_hidden 106 = .ok (.iaload, 1) := dk_46 (dk_at dksX0_hidden_4 12 rfl rfl)
theorem dX0_hidden_107 : decode cX0_hidden 107 = .ok (.aload_n 0, 1) := dk_42 (dk_at dksX0_hidden_4 13 rfl rfl)
theorem dX0_hidden_108 : decode cX0_hidden 108 = .ok (.getfield 88, 3) := dk_180 0 88 (dk_at dksX0_hidden_4 14 rfl rfl)
theorem dX0_hidden_111 : decode cX0_hidden 111 = .ok (.iload_n 1, 1) := dk_27 (dk_at dksX0_hidden_4 17 rfl rfl)
theorem dX0_hidden_112 : decode cX0_hidden 112 = .ok (.iaload, 1) := dk_46 (dk_at dksX0_hidden_4 18 rfl rfl)
theorem dX0_hidden_113 : decode cX0_hidden 113 = .ok (.iconst 1, 1) := dk_4 (dk_at dksX0_hidden_4 19 rfl rfl)
theorem dX0_hidden_114 : decode cX0_hidden 114 = .ok (.isub, 1) := dk_100 (dk_at dksX0_hidden_4 20 rfl rfl)
theorem dX0_hidden_115 : decode cX0_hidden 115 = .ok (.if_icmp .eq 9, 3) := dk_159 0 9 (dk_at dksX0_hidden_4 21 rfl rfl)
theorem dX0_hidden_118 : decode cX0_hidden 118 = .ok (.iinc 5 1, 3) := dk_132 5 1 (dk_at dksX0_hidden_5 0 rfl rfl)
theorem dX0_hidden_121 : decode cX0_hidden 121 = .ok (.goto (-27), 3) := dk_167 255 229 (dk_at dksX0_hidden_5 3 rfl rfl)
theorem dX0_hidden_124 : decode cX0_hidden 124 = .ok (.aload 4, 2) := dk_25 4 (dk_at dksX0_hidden_5 6 rfl rfl)
theorem dX0_hidden_126 : decode cX0_hidden 126 = .ok (.getfield 230, 3) := dk_180 0 230 (dk_at dksX0_hidden_5 8 rfl rfl)
theorem dX0_hidden_129 : decode cX0_hidden 129 = .ok (.iload 5, 2) := dk_21 5 (dk_at dksX0_hidden_5 11 rfl rfl)
theorem dX0_hidden_131 : decode cX0_hidden 131 = .ok (.iaload, 1) := dk_46 (dk_at dksX0_hidden_5 13 rfl rfl)
theorem dX0_hidden_132 : decode cX0_hidden 132 = .ok (.ireturn, 1) := dk_172 (dk_at dksX0_hidden_5 14 rfl rfl)
abbrev cX0_laysFar : ByteArray := prog_1_method_55_code
def yX0_laysFar : MethodName := ⟨RX0, "laysFar", "(I)V"⟩
def dkwX0_laysFar_7 : List UInt8 := [132, 3, 1, 167, 255, 146, 132, 2, 1, 167, 255, 130, 177]
abbrev dktX0_laysFar_7 : List UInt8 := dkwX0_laysFar_7 ++ []
def dkwX0_laysFar_6 : List UInt8 := [21, 5, 46, 46, 42, 180, 0, 88, 29, 46, 4, 96, 184, 0, 206, 79, 132, 5, 1, 167, 255, 179]
abbrev dktX0_laysFar_6 : List UInt8 := dkwX0_laysFar_6 ++ dktX0_laysFar_7
def dkwX0_laysFar_5 : List UInt8 := [154, 0, 40, 42, 180, 0, 88, 25, 4, 180, 0, 230, 21, 5, 46, 42, 180, 0, 88, 25, 4, 180, 0, 230]
abbrev dktX0_laysFar_5 : List UInt8 := dkwX0_laysFar_5 ++ dktX0_laysFar_6
def dkwX0_laysFar_4 : List UInt8 := [180, 0, 88, 29, 46, 19, 1, 62, 162, 0, 61, 42, 25, 4, 180, 0, 230, 21, 5, 46, 182, 1, 59]
abbrev dktX0_laysFar_4 : List UInt8 := dkwX0_laysFar_4 ++ dktX0_laysFar_5
def dkwX0_laysFar_3 : List UInt8 := [182, 0, 221, 192, 0, 225, 58, 4, 3, 54, 5, 21, 5, 25, 4, 180, 0, 227, 162, 0, 73, 42]
abbrev dktX0_laysFar_3 : List UInt8 := dkwX0_laysFar_3 ++ dktX0_laysFar_4
def dkwX0_laysFar_2 : List UInt8 := [182, 0, 148, 162, 0, 124, 3, 62, 29, 42, 182, 0, 148, 162, 0, 108, 42, 180, 0, 40, 180, 0, 132, 29]
abbrev dktX0_laysFar_2 : List UInt8 := dkwX0_laysFar_2 ++ dktX0_laysFar_3
def dkwX0_laysFar_1 : List UInt8 := [182, 1, 59, 154, 0, 7, 3, 167, 0, 6, 19, 1, 62, 79, 132, 2, 1, 167, 255, 219, 3, 61, 28, 42]
abbrev dktX0_laysFar_1 : List UInt8 := dkwX0_laysFar_1 ++ dktX0_laysFar_2
def dkwX0_laysFar_0 : List UInt8 := [3, 61, 28, 42, 182, 0, 148, 162, 0, 35, 42, 180, 0, 88, 28, 28, 27, 160, 0, 15, 42, 28]
abbrev dktX0_laysFar_0 : List UInt8 := dkwX0_laysFar_0 ++ dktX0_laysFar_1
theorem dksX0_laysFar_0 : cX0_laysFar.data.toList.drop 0 = dktX0_laysFar_0 := by decide +kernel
theorem dksX0_laysFar_1 : cX0_laysFar.data.toList.drop 22 = dktX0_laysFar_1 := dk_seg dksX0_laysFar_0 22 rfl rfl
theorem dksX0_laysFar_2 : cX0_laysFar.data.toList.drop 46 = dktX0_laysFar_2 := dk_seg dksX0_laysFar_1 24 rfl rfl
theorem dksX0_laysFar_3 : cX0_laysFar.data.toList.drop 70 = dktX0_laysFar_3 := dk_seg dksX0_laysFar_2 24 rfl rfl
theorem dksX0_laysFar_4 : cX0_laysFar.data.toList.drop 92 = dktX0_laysFar_4 := dk_seg dksX0_laysFar_3 22 rfl rfl
theorem dksX0_laysFar_5 : cX0_laysFar.data.toList.drop 115 = dktX0_laysFar_5 := dk_seg dksX0_laysFar_4 23 rfl rfl
theorem dksX0_laysFar_6 : cX0_laysFar.data.toList.drop 139 = dktX0_laysFar_6 := dk_seg dksX0_laysFar_5 24 rfl rfl
theorem dksX0_laysFar_7 : cX0_laysFar.data.toList.drop 161 = dktX0_laysFar_7 := dk_seg dksX0_laysFar_6 22 rfl rfl
theorem dX0_laysFar_0 : decode cX0_laysFar 0 = .ok (.iconst 0, 1) := dk_3 (dk_at dksX0_laysFar_0 0 rfl rfl)
theorem dX0_laysFar_1 : decode cX0_laysFar 1 = .ok (.istore_n 2, 1) := dk_61 (dk_at dksX0_laysFar_0 1 rfl rfl)
theorem dX0_laysFar_2 : decode cX0_laysFar 2 = .ok (.iload_n 2, 1) := dk_28 (dk_at dksX0_laysFar_0 2 rfl rfl)
theorem dX0_laysFar_3 : decode cX0_laysFar 3 = .ok (.aload_n 0, 1) := dk_42 (dk_at dksX0_laysFar_0 3 rfl rfl)
theorem dX0_laysFar_4 : decode cX0_laysFar 4 = .ok (.invokevirtual 148, 3) := dk_182 0 148 (dk_at dksX0_laysFar_0 4 rfl rfl)
theorem dX0_laysFar_7 : decode cX0_laysFar 7 = .ok (.if_icmp .ge 35, 3) := dk_162 0 35 (dk_at dksX0_laysFar_0 7 rfl rfl)
theorem dX0_laysFar_10 : decode cX0_laysFar 10 = .ok (.aload_n 0, 1) := dk_42 (dk_at dksX0_laysFar_0 10 rfl rfl)
theorem dX0_laysFar_11 : decode cX0_laysFar 11 = .ok (.getfield 88, 3) := dk_180 0 88 (dk_at dksX0_laysFar_0 11 rfl rfl)
theorem dX0_laysFar_14 : decode cX0_laysFar 14 = .ok (.iload_n 2, 1) := dk_28 (dk_at dksX0_laysFar_0 14 rfl rfl)
theorem dX0_laysFar_15 : decode cX0_laysFar 15 = .ok (.iload_n 2, 1) := dk_28 (dk_at dksX0_laysFar_0 15 rfl rfl)
theorem dX0_laysFar_16 : decode cX0_laysFar 16 = .ok (.iload_n 1, 1) := dk_27 (dk_at dksX0_laysFar_0 16 rfl rfl)
theorem dX0_laysFar_17 : decode cX0_laysFar 17 = .ok (.if_icmp .ne 15, 3) := dk_160 0 15 (dk_at dksX0_laysFar_0 17 rfl rfl)
theorem dX0_laysFar_20 : decode cX0_laysFar 20 = .ok (.aload_n 0, 1) := dk_42 (dk_at dksX0_laysFar_0 20 rfl rfl)
theorem dX0_laysFar_21 : decode cX0_laysFar 21 = .ok (.iload_n 2, 1) := dk_28 (dk_at dksX0_laysFar_0 21 rfl rfl)
theorem dX0_laysFar_22 : decode cX0_laysFar 22 = .ok (.invokevirtual 315, 3) := dk_182 1 59 (dk_at dksX0_laysFar_1 0 rfl rfl)
theorem dX0_laysFar_25 : decode cX0_laysFar 25 = .ok (.ifCond .ne 7, 3) := dk_154 0 7 (dk_at dksX0_laysFar_1 3 rfl rfl)
theorem dX0_laysFar_28 : decode cX0_laysFar 28 = .ok (.iconst 0, 1) := dk_3 (dk_at dksX0_laysFar_1 6 rfl rfl)
theorem dX0_laysFar_29 : decode cX0_laysFar 29 = .ok (.goto 6, 3) := dk_167 0 6 (dk_at dksX0_laysFar_1 7 rfl rfl)
theorem dX0_laysFar_32 : decode cX0_laysFar 32 = .ok (.ldc_w 318, 3) := dk_19 1 62 (dk_at dksX0_laysFar_1 10 rfl rfl)
theorem dX0_laysFar_35 : decode cX0_laysFar 35 = .ok (.iastore, 1) := dk_79 (dk_at dksX0_laysFar_1 13 rfl rfl)
theorem dX0_laysFar_36 : decode cX0_laysFar 36 = .ok (.iinc 2 1, 3) := dk_132 2 1 (dk_at dksX0_laysFar_1 14 rfl rfl)
theorem dX0_laysFar_39 : decode cX0_laysFar 39 = .ok (.goto (-37), 3) := dk_167 255 219 (dk_at dksX0_laysFar_1 17 rfl rfl)
theorem dX0_laysFar_42 : decode cX0_laysFar 42 = .ok (.iconst 0, 1) := dk_3 (dk_at dksX0_laysFar_1 20 rfl rfl)
theorem dX0_laysFar_43 : decode cX0_laysFar 43 = .ok (.istore_n 2, 1) := dk_61 (dk_at dksX0_laysFar_1 21 rfl rfl)
theorem dX0_laysFar_44 : decode cX0_laysFar 44 = .ok (.iload_n 2, 1) := dk_28 (dk_at dksX0_laysFar_1 22 rfl rfl)
theorem dX0_laysFar_45 : decode cX0_laysFar 45 = .ok (.aload_n 0, 1) := dk_42 (dk_at dksX0_laysFar_1 23 rfl rfl)
theorem dX0_laysFar_46 : decode cX0_laysFar 46 = .ok (.invokevirtual 148, 3) := dk_182 0 148 (dk_at dksX0_laysFar_2 0 rfl rfl)
theorem dX0_laysFar_49 : decode cX0_laysFar 49 = .ok (.if_icmp .ge 124, 3) := dk_162 0 124 (dk_at dksX0_laysFar_2 3 rfl rfl)
theorem dX0_laysFar_52 : decode cX0_laysFar 52 = .ok (.iconst 0, 1) := dk_3 (dk_at dksX0_laysFar_2 6 rfl rfl)
theorem dX0_laysFar_53 : decode cX0_laysFar 53 = .ok (.istore_n 3, 1) := dk_62 (dk_at dksX0_laysFar_2 7 rfl rfl)
theorem dX0_laysFar_54 : decode cX0_laysFar 54 = .ok (.iload_n 3, 1) := dk_29 (dk_at dksX0_laysFar_2 8 rfl rfl)
theorem dX0_laysFar_55 : decode cX0_laysFar 55 = .ok (.aload_n 0, 1) := dk_42 (dk_at dksX0_laysFar_2 9 rfl rfl)
theorem dX0_laysFar_56 : decode cX0_laysFar 56 = .ok (.invokevirtual 148, 3) := dk_182 0 148 (dk_at dksX0_laysFar_2 10 rfl rfl)
theorem dX0_laysFar_59 : decode cX0_laysFar 59 = .ok (.if_icmp .ge 108, 3) := dk_162 0 108 (dk_at dksX0_laysFar_2 13 rfl rfl)
theorem dX0_laysFar_62 : decode cX0_laysFar 62 = .ok (.aload_n 0, 1) := dk_42 (dk_at dksX0_laysFar_2 16 rfl rfl)
theorem dX0_laysFar_63 : decode cX0_laysFar 63 = .ok (.getfield 40, 3) := dk_180 0 40 (dk_at dksX0_laysFar_2 17 rfl rfl)
theorem dX0_laysFar_66 : decode cX0_laysFar 66 = .ok (.getfield 132, 3) := dk_180 0 132 (dk_at dksX0_laysFar_2 20 rfl rfl)
theorem dX0_laysFar_69 : decode cX0_laysFar 69 = .ok (.iload_n 3, 1) := dk_29 (dk_at dksX0_laysFar_2 23 rfl rfl)
theorem dX0_laysFar_70 : decode cX0_laysFar 70 = .ok (.invokevirtual 221, 3) := dk_182 0 221 (dk_at dksX0_laysFar_3 0 rfl rfl)
theorem dX0_laysFar_73 : decode cX0_laysFar 73 = .ok (.checkcast 225, 3) := dk_192 0 225 (dk_at dksX0_laysFar_3 3 rfl rfl)
theorem dX0_laysFar_76 : decode cX0_laysFar 76 = .ok (.astore 4, 2) := dk_58 4 (dk_at dksX0_laysFar_3 6 rfl rfl)
theorem dX0_laysFar_78 : decode cX0_laysFar 78 = .ok (.iconst 0, 1) := dk_3 (dk_at dksX0_laysFar_3 8 rfl rfl)
theorem dX0_laysFar_79 : decode cX0_laysFar 79 = .ok (.istore 5, 2) := dk_54 5 (dk_at dksX0_laysFar_3 9 rfl rfl)
theorem dX0_laysFar_81 : decode cX0_laysFar 81 = .ok (.iload 5, 2) := dk_21 5 (dk_at dksX0_laysFar_3 11 rfl rfl)
theorem dX0_laysFar_83 : decode cX0_laysFar 83 = .ok (.aload 4, 2) := dk_25 4 (dk_at dksX0_laysFar_3 13 rfl rfl)
theorem dX0_laysFar_85 : decode cX0_laysFar 85 = .ok (.getfield 227, 3) := dk_180 0 227 (dk_at dksX0_laysFar_3 15 rfl rfl)
theorem dX0_laysFar_88 : decode cX0_laysFar 88 = .ok (.if_icmp .ge 73, 3) := dk_162 0 73 (dk_at dksX0_laysFar_3 18 rfl rfl)
theorem dX0_laysFar_91 : decode cX0_laysFar 91 = .ok (.aload_n 0, 1) := dk_42 (dk_at dksX0_laysFar_3 21 rfl rfl)
theorem dX0_laysFar_92 : decode cX0_laysFar 92 = .ok (.getfield 88, 3) := dk_180 0 88 (dk_at dksX0_laysFar_4 0 rfl rfl)
theorem dX0_laysFar_95 : decode cX0_laysFar 95 = .ok (.iload_n 3, 1) := dk_29 (dk_at dksX0_laysFar_4 3 rfl rfl)
theorem dX0_laysFar_96 : decode cX0_laysFar 96 = .ok (.iaload, 1) := dk_46 (dk_at dksX0_laysFar_4 4 rfl rfl)
theorem dX0_laysFar_97 : decode cX0_laysFar 97 = .ok (.ldc_w 318, 3) := dk_19 1 62 (dk_at dksX0_laysFar_4 5 rfl rfl)
theorem dX0_laysFar_100 : decode cX0_laysFar 100 = .ok (.if_icmp .ge 61, 3) := dk_162 0 61 (dk_at dksX0_laysFar_4 8 rfl rfl)
theorem dX0_laysFar_103 : decode cX0_laysFar 103 = .ok (.aload_n 0, 1) := dk_42 (dk_at dksX0_laysFar_4 11 rfl rfl)
theorem dX0_laysFar_104 : decode cX0_laysFar 104 = .ok (.aload 4, 2) := dk_25 4 (dk_at dksX0_laysFar_4 12 rfl rfl)
theorem dX0_laysFar_106 : decode cX0_laysFar 106 = .ok (.getfield 230, 3) := dk_180 0 230 (dk_at dksX0_laysFar_4 14 rfl rfl)
theorem dX0_laysFar_109 : decode cX0_laysFar 109 = .ok (.iload 5, 2) := dk_21 5 (dk_at dksX0_laysFar_4 17 rfl rfl)
theorem dX0_laysFar_111 : decode cX0_laysFar 111 = .ok (.iaload, 1) := dk_46 (dk_at dksX0_laysFar_4 19 rfl rfl)
theorem dX0_laysFar_112 : decode cX0_laysFar 112 = .ok (.invokevirtual 315, 3) := dk_182 1 59 (dk_at dksX0_laysFar_4 20 rfl rfl)
theorem dX0_laysFar_115 : decode cX0_laysFar 115 = .ok (.ifCond .ne 40, 3) := dk_154 0 40 (dk_at dksX0_laysFar_5 0 rfl rfl)
theorem dX0_laysFar_118 : decode cX0_laysFar 118 = .ok (.aload_n 0, 1) := dk_42 (dk_at dksX0_laysFar_5 3 rfl rfl)
theorem dX0_laysFar_119 : decode cX0_laysFar 119 = .ok (.getfield 88, 3) := dk_180 0 88 (dk_at dksX0_laysFar_5 4 rfl rfl)
theorem dX0_laysFar_122 : decode cX0_laysFar 122 = .ok (.aload 4, 2) := dk_25 4 (dk_at dksX0_laysFar_5 7 rfl rfl)
theorem dX0_laysFar_124 : decode cX0_laysFar 124 = .ok (.getfield 230, 3) := dk_180 0 230 (dk_at dksX0_laysFar_5 9 rfl rfl)
theorem dX0_laysFar_127 : decode cX0_laysFar 127 = .ok (.iload 5, 2) := dk_21 5 (dk_at dksX0_laysFar_5 12 rfl rfl)
theorem dX0_laysFar_129 : decode cX0_laysFar 129 = .ok (.iaload, 1) := dk_46 (dk_at dksX0_laysFar_5 14 rfl rfl)
theorem dX0_laysFar_130 : decode cX0_laysFar 130 = .ok (.aload_n 0, 1) := dk_42 (dk_at dksX0_laysFar_5 15 rfl rfl)
theorem dX0_laysFar_131 : decode cX0_laysFar 131 = .ok (.getfield 88, 3) := dk_180 0 88 (dk_at dksX0_laysFar_5 16 rfl rfl)
theorem dX0_laysFar_134 : decode cX0_laysFar 134 = .ok (.aload 4, 2) := dk_25 4 (dk_at dksX0_laysFar_5 19 rfl rfl)
theorem dX0_laysFar_136 : decode cX0_laysFar 136 = .ok (.getfield 230, 3) := dk_180 0 230 (dk_at dksX0_laysFar_5 21 rfl rfl)
theorem dX0_laysFar_139 : decode cX0_laysFar 139 = .ok (.iload 5, 2) := dk_21 5 (dk_at dksX0_laysFar_6 0 rfl rfl)
theorem dX0_laysFar_141 : decode cX0_laysFar 141 = .ok (.iaload, 1) := dk_46 (dk_at dksX0_laysFar_6 2 rfl rfl)
theorem dX0_laysFar_142 : decode cX0_laysFar 142 = .ok (.iaload, 1) := dk_46 (dk_at dksX0_laysFar_6 3 rfl rfl)
theorem dX0_laysFar_143 : decode cX0_laysFar 143 = .ok (.aload_n 0, 1) := dk_42 (dk_at dksX0_laysFar_6 4 rfl rfl)
theorem dX0_laysFar_144 : decode cX0_laysFar 144 = .ok (.getfield 88, 3) := dk_180 0 88 (dk_at dksX0_laysFar_6 5 rfl rfl)
theorem dX0_laysFar_147 : decode cX0_laysFar 147 = .ok (.iload_n 3, 1) := dk_29 (dk_at dksX0_laysFar_6 8 rfl rfl)
theorem dX0_laysFar_148 : decode cX0_laysFar 148 = .ok (.iaload, 1) := dk_46 (dk_at dksX0_laysFar_6 9 rfl rfl)
theorem dX0_laysFar_149 : decode cX0_laysFar 149 = .ok (.iconst 1, 1) := dk_4 (dk_at dksX0_laysFar_6 10 rfl rfl)
theorem dX0_laysFar_150 : decode cX0_laysFar 150 = .ok (.iadd, 1) := dk_96 (dk_at dksX0_laysFar_6 11 rfl rfl)
theorem dX0_laysFar_151 : decode cX0_laysFar 151 = .ok (.invokestatic 206, 3) := dk_184 0 206 (dk_at dksX0_laysFar_6 12 rfl rfl)
theorem dX0_laysFar_154 : decode cX0_laysFar 154 = .ok (.iastore, 1) := dk_79 (dk_at dksX0_laysFar_6 15 rfl rfl)
theorem dX0_laysFar_155 : decode cX0_laysFar 155 = .ok (.iinc 5 1, 3) := dk_132 5 1 (dk_at dksX0_laysFar_6 16 rfl rfl)
theorem dX0_laysFar_158 : decode cX0_laysFar 158 = .ok (.goto (-77), 3) := dk_167 255 179 (dk_at dksX0_laysFar_6 19 rfl rfl)
theorem dX0_laysFar_161 : decode cX0_laysFar 161 = .ok (.iinc 3 1, 3) := dk_132 3 1 (dk_at dksX0_laysFar_7 0 rfl rfl)
theorem dX0_laysFar_164 : decode cX0_laysFar 164 = .ok (.goto (-110), 3) := dk_167 255 146 (dk_at dksX0_laysFar_7 3 rfl rfl)
theorem dX0_laysFar_167 : decode cX0_laysFar 167 = .ok (.iinc 2 1, 3) := dk_132 2 1 (dk_at dksX0_laysFar_7 6 rfl rfl)
theorem dX0_laysFar_170 : decode cX0_laysFar 170 = .ok (.goto (-126), 3) := dk_167 255 130 (dk_at dksX0_laysFar_7 9 rfl rfl)
theorem dX0_laysFar_173 : decode cX0_laysFar 173 = .ok (.return_, 1) := dk_177 (dk_at dksX0_laysFar_7 12 rfl rfl)
abbrev cX0_isWatched : ByteArray := prog_1_method_54_code
def yX0_isWatched : MethodName := ⟨RX0, "isWatched", "(I)Z"⟩
def dkwX0_isWatched_3 : List UInt8 := [132, 2, 1, 167, 255, 184, 3, 172]
abbrev dktX0_isWatched_3 : List UInt8 := dkwX0_isWatched_3 ++ []
def dkwX0_isWatched_2 : List UInt8 := [51, 154, 0, 23, 42, 180, 0, 51, 28, 42, 180, 0, 51, 180, 0, 158, 182, 0, 191, 154, 0, 5, 4, 172]
abbrev dktX0_isWatched_2 : List UInt8 := dkwX0_isWatched_2 ++ dktX0_isWatched_3
def dkwX0_isWatched_1 : List UInt8 := [180, 0, 158, 51, 27, 160, 0, 43, 42, 180, 0, 51, 180, 0, 188, 28, 50, 42, 180, 0, 51, 180, 0, 158]
abbrev dktX0_isWatched_1 : List UInt8 := dkwX0_isWatched_1 ++ dktX0_isWatched_2
def dkwX0_isWatched_0 : List UInt8 := [3, 61, 28, 42, 182, 0, 156, 162, 0, 70, 42, 180, 0, 51, 180, 0, 181, 28, 50, 42, 180, 0, 51]
abbrev dktX0_isWatched_0 : List UInt8 := dkwX0_isWatched_0 ++ dktX0_isWatched_1
theorem dksX0_isWatched_0 : cX0_isWatched.data.toList.drop 0 = dktX0_isWatched_0 := by decide +kernel
theorem dksX0_isWatched_1 : cX0_isWatched.data.toList.drop 23 = dktX0_isWatched_1 := dk_seg dksX0_isWatched_0 23 rfl rfl
theorem dksX0_isWatched_2 : cX0_isWatched.data.toList.drop 47 = dktX0_isWatched_2 := dk_seg dksX0_isWatched_1 24 rfl rfl
theorem dksX0_isWatched_3 : cX0_isWatched.data.toList.drop 71 = dktX0_isWatched_3 := dk_seg dksX0_isWatched_2 24 rfl rfl
theorem dX0_isWatched_0 : decode cX0_isWatched 0 = .ok (.iconst 0, 1) := dk_3 (dk_at dksX0_isWatched_0 0 rfl rfl)
theorem dX0_isWatched_1 : decode cX0_isWatched 1 = .ok (.istore_n 2, 1) := dk_61 (dk_at dksX0_isWatched_0 1 rfl rfl)
theorem dX0_isWatched_2 : decode cX0_isWatched 2 = .ok (.iload_n 2, 1) := dk_28 (dk_at dksX0_isWatched_0 2 rfl rfl)
theorem dX0_isWatched_3 : decode cX0_isWatched 3 = .ok (.aload_n 0, 1) := dk_42 (dk_at dksX0_isWatched_0 3 rfl rfl)
theorem dX0_isWatched_4 : decode cX0_isWatched 4 = .ok (.invokevirtual 156, 3) := dk_182 0 156 (dk_at dksX0_isWatched_0 4 rfl rfl)
theorem dX0_isWatched_7 : decode cX0_isWatched 7 = .ok (.if_icmp .ge 70, 3) := dk_162 0 70 (dk_at dksX0_isWatched_0 7 rfl rfl)
theorem dX0_isWatched_10 : decode cX0_isWatched 10 = .ok (.aload_n 0, 1) := dk_42 (dk_at dksX0_isWatched_0 10 rfl rfl)
theorem dX0_isWatched_11 : decode cX0_isWatched 11 = .ok (.getfield 51, 3) := dk_180 0 51 (dk_at dksX0_isWatched_0 11 rfl rfl)
theorem dX0_isWatched_14 : decode cX0_isWatched 14 = .ok (.getfield 181, 3) := dk_180 0 181 (dk_at dksX0_isWatched_0 14 rfl rfl)
theorem dX0_isWatched_17 : decode cX0_isWatched 17 = .ok (.iload_n 2, 1) := dk_28 (dk_at dksX0_isWatched_0 17 rfl rfl)
theorem dX0_isWatched_18 : decode cX0_isWatched 18 = .ok (.aaload, 1) := dk_50 (dk_at dksX0_isWatched_0 18 rfl rfl)
theorem dX0_isWatched_19 : decode cX0_isWatched 19 = .ok (.aload_n 0, 1) := dk_42 (dk_at dksX0_isWatched_0 19 rfl rfl)
theorem dX0_isWatched_20 : decode cX0_isWatched 20 = .ok (.getfield 51, 3) := dk_180 0 51 (dk_at dksX0_isWatched_0 20 rfl rfl)
theorem dX0_isWatched_23 : decode cX0_isWatched 23 = .ok (.getfield 158, 3) := dk_180 0 158 (dk_at dksX0_isWatched_1 0 rfl rfl)
theorem dX0_isWatched_26 : decode cX0_isWatched 26 = .ok (.baload, 1) := dk_51 (dk_at dksX0_isWatched_1 3 rfl rfl)
theorem dX0_isWatched_27 : decode cX0_isWatched 27 = .ok (.iload_n 1, 1) := dk_27 (dk_at dksX0_isWatched_1 4 rfl rfl)
theorem dX0_isWatched_28 : decode cX0_isWatched 28 = .ok (.if_icmp .ne 43, 3) := dk_160 0 43 (dk_at dksX0_isWatched_1 5 rfl rfl)
theorem dX0_isWatched_31 : decode cX0_isWatched 31 = .ok (.aload_n 0, 1) := dk_42 (dk_at dksX0_isWatched_1 8 rfl rfl)
theorem dX0_isWatched_32 : decode cX0_isWatched 32 = .ok (.getfield 51, 3) := dk_180 0 51 (dk_at dksX0_isWatched_1 9 rfl rfl)
theorem dX0_isWatched_35 : decode cX0_isWatched 35 = .ok (.getfield 188, 3) := dk_180 0 188 (dk_at dksX0_isWatched_1 12 rfl rfl)
theorem dX0_isWatched_38 : decode cX0_isWatched 38 = .ok (.iload_n 2, 1) := dk_28 (dk_at dksX0_isWatched_1 15 rfl rfl)
theorem dX0_isWatched_39 : decode cX0_isWatched 39 = .ok (.aaload, 1) := dk_50 (dk_at dksX0_isWatched_1 16 rfl rfl)
theorem dX0_isWatched_40 : decode cX0_isWatched 40 = .ok (.aload_n 0, 1) := dk_42 (dk_at dksX0_isWatched_1 17 rfl rfl)
theorem dX0_isWatched_41 : decode cX0_isWatched 41 = .ok (.getfield 51, 3) := dk_180 0 51 (dk_at dksX0_isWatched_1 18 rfl rfl)
theorem dX0_isWatched_44 : decode cX0_isWatched 44 = .ok (.getfield 158, 3) := dk_180 0 158 (dk_at dksX0_isWatched_1 21 rfl rfl)
theorem dX0_isWatched_47 : decode cX0_isWatched 47 = .ok (.baload, 1) := dk_51 (dk_at dksX0_isWatched_2 0 rfl rfl)
theorem dX0_isWatched_48 : decode cX0_isWatched 48 = .ok (.ifCond .ne 23, 3) := dk_154 0 23 (dk_at dksX0_isWatched_2 1 rfl rfl)
theorem dX0_isWatched_51 : decode cX0_isWatched 51 = .ok (.aload_n 0, 1) := dk_42 (dk_at dksX0_isWatched_2 4 rfl rfl)
theorem dX0_isWatched_52 : decode cX0_isWatched 52 = .ok (.getfield 51, 3) := dk_180 0 51 (dk_at dksX0_isWatched_2 5 rfl rfl)
theorem dX0_isWatched_55 : decode cX0_isWatched 55 = .ok (.iload_n 2, 1) := dk_28 (dk_at dksX0_isWatched_2 8 rfl rfl)
theorem dX0_isWatched_56 : decode cX0_isWatched 56 = .ok (.aload_n 0, 1) := dk_42 (dk_at dksX0_isWatched_2 9 rfl rfl)
theorem dX0_isWatched_57 : decode cX0_isWatched 57 = .ok (.getfield 51, 3) := dk_180 0 51 (dk_at dksX0_isWatched_2 10 rfl rfl)
theorem dX0_isWatched_60 : decode cX0_isWatched 60 = .ok (.getfield 158, 3) := dk_180 0 158 (dk_at dksX0_isWatched_2 13 rfl rfl)
theorem dX0_isWatched_63 : decode cX0_isWatched 63 = .ok (.invokevirtual 191, 3) := dk_182 0 191 (dk_at dksX0_isWatched_2 16 rfl rfl)
theorem dX0_isWatched_66 : decode cX0_isWatched 66 = .ok (.ifCond .ne 5, 3) := dk_154 0 5 (dk_at dksX0_isWatched_2 19 rfl rfl)
theorem dX0_isWatched_69 : decode cX0_isWatched 69 = .ok (.iconst 1, 1) := dk_4 (dk_at dksX0_isWatched_2 22 rfl rfl)
theorem dX0_isWatched_70 : decode cX0_isWatched 70 = .ok (.ireturn, 1) := dk_172 (dk_at dksX0_isWatched_2 23 rfl rfl)
theorem dX0_isWatched_71 : decode cX0_isWatched 71 = .ok (.iinc 2 1, 3) := dk_132 2 1 (dk_at dksX0_isWatched_3 0 rfl rfl)
theorem dX0_isWatched_74 : decode cX0_isWatched 74 = .ok (.goto (-72), 3) := dk_167 255 184 (dk_at dksX0_isWatched_3 3 rfl rfl)
theorem dX0_isWatched_77 : decode cX0_isWatched 77 = .ok (.iconst 0, 1) := dk_3 (dk_at dksX0_isWatched_3 6 rfl rfl)
theorem dX0_isWatched_78 : decode cX0_isWatched 78 = .ok (.ireturn, 1) := dk_172 (dk_at dksX0_isWatched_3 7 rfl rfl)
abbrev cX0_view : ByteArray := prog_1_method_58_code
def yX0_view : MethodName := ⟨RX0, "view", "(IIII)I"⟩
def dkwX0_view_7 : List UInt8 := [21, 6, 172, 132, 6, 1, 167, 255, 164, 132, 5, 1, 167, 255, 147, 16, 254, 172]
abbrev dktX0_view_7 : List UInt8 := dkwX0_view_7 ++ []
def dkwX0_view_6 : List UInt8 := [46, 21, 5, 42, 180, 0, 51, 180, 0, 158, 100, 163, 0, 16, 21, 4, 154, 0, 8, 21, 5, 167, 0, 5]
abbrev dktX0_view_6 : List UInt8 := dkwX0_view_6 ++ dktX0_view_7
def dkwX0_view_5 : List UInt8 := [21, 7, 51, 28, 160, 0, 47, 42, 180, 0, 88, 42, 180, 0, 55, 180, 0, 181, 21, 6, 50, 21, 5, 51]
abbrev dktX0_view_5 : List UInt8 := dkwX0_view_5 ++ dktX0_view_6
def dkwX0_view_4 : List UInt8 := [21, 5, 182, 0, 178, 54, 7, 21, 7, 29, 160, 0, 64, 42, 180, 0, 55, 180, 0, 181, 21, 6, 50]
abbrev dktX0_view_4 : List UInt8 := dkwX0_view_4 ++ dktX0_view_5
def dkwX0_view_3 : List UInt8 := [17, 1, 44, 162, 0, 107, 3, 54, 6, 21, 6, 42, 182, 0, 156, 162, 0, 89, 42, 180, 0, 55, 21, 6]
abbrev dktX0_view_3 : List UInt8 := dkwX0_view_3 ++ dktX0_view_4
def dkwX0_view_2 : List UInt8 := [27, 50, 42, 180, 0, 51, 180, 0, 158, 51, 182, 1, 66, 42, 180, 0, 51, 180, 0, 158, 54, 5, 21, 5]
abbrev dktX0_view_2 : List UInt8 := dkwX0_view_2 ++ dktX0_view_3
def dkwX0_view_1 : List UInt8 := [21, 4, 3, 4, 184, 0, 150, 154, 0, 5, 2, 172, 42, 182, 1, 39, 42, 42, 180, 0, 51, 180, 0, 168]
abbrev dktX0_view_1 : List UInt8 := dkwX0_view_1 ++ dktX0_view_2
def dkwX0_view_0 : List UInt8 := [42, 27, 182, 0, 161, 153, 0, 29, 42, 28, 182, 0, 236, 153, 0, 21, 42, 29, 182, 0, 165, 153, 0, 13]
abbrev dktX0_view_0 : List UInt8 := dkwX0_view_0 ++ dktX0_view_1
theorem dksX0_view_0 : cX0_view.data.toList.drop 0 = dktX0_view_0 := by decide +kernel
theorem dksX0_view_1 : cX0_view.data.toList.drop 24 = dktX0_view_1 := dk_seg dksX0_view_0 24 rfl rfl
theorem dksX0_view_2 : cX0_view.data.toList.drop 48 = dktX0_view_2 := dk_seg dksX0_view_1 24 rfl rfl
theorem dksX0_view_3 : cX0_view.data.toList.drop 72 = dktX0_view_3 := dk_seg dksX0_view_2 24 rfl rfl
theorem dksX0_view_4 : cX0_view.data.toList.drop 96 = dktX0_view_4 := dk_seg dksX0_view_3 24 rfl rfl
theorem dksX0_view_5 : cX0_view.data.toList.drop 119 = dktX0_view_5 := dk_seg dksX0_view_4 23 rfl rfl
theorem dksX0_view_6 : cX0_view.data.toList.drop 143 = dktX0_view_6 := dk_seg dksX0_view_5 24 rfl rfl
theorem dksX0_view_7 : cX0_view.data.toList.drop 167 = dktX0_view_7 := dk_seg dksX0_view_6 24 rfl rfl
theorem dX0_view_0 : decode cX0_view 0 = .ok (.aload_n 0, 1) := dk_42 (dk_at dksX0_view_0 0 rfl rfl)
theorem dX0_view_1 : decode cX0_view 1 = .ok (.iload_n 1, 1) := dk_27 (dk_at dksX0_view_0 1 rfl rfl)
theorem dX0_view_2 : decode cX0_view 2 = .ok (.invokevirtual 161, 3) := dk_182 0 161 (dk_at dksX0_view_0 2 rfl rfl)
theorem dX0_view_5 : decode cX0_view 5 = .ok (.ifCond .eq 29, 3) := dk_153 0 29 (dk_at dksX0_view_0 5 rfl rfl)
theorem dX0_view_8 : decode cX0_view 8 = .ok (.aload_n 0, 1) := dk_42 (dk_at dksX0_view_0 8 rfl rfl)
theorem dX0_view_9 : decode cX0_view 9 = .ok (.iload_n 2, 1) := dk_28 (dk_at dksX0_view_0 9 rfl rfl)
theorem dX0_view_10 : decode cX0_view 10 = .ok (.invokevirtual 236, 3) := dk_182 0 236 (dk_at dksX0_view_0 10 rfl rfl)
theorem dX0_view_13 : decode cX0_view 13 = .ok (.ifCond .eq 21, 3) := dk_153 0 21 (dk_at dksX0_view_0 13 rfl rfl)
theorem dX0_view_16 : decode cX0_view 16 = .ok (.aload_n 0, 1) := dk_42 (dk_at dksX0_view_0 16 rfl rfl)
theorem dX0_view_17 : decode cX0_view 17 = .ok (.iload_n 3, 1) := dk_29 (dk_at dksX0_view_0 17 rfl rfl)
theorem dX0_view_18 : decode cX0_view 18 = .ok (.invokevirtual 165, 3) := dk_182 0 165 (dk_at dksX0_view_0 18 rfl rfl)
theorem dX0_view_21 : decode cX0_view 21 = .ok (.ifCond .eq 13, 3) := dk_153 0 13 (dk_at dksX0_view_0 21 rfl rfl)
theorem dX0_view_24 : decode cX0_view 24 = .ok (.iload 4, 2) := dk_21 4 (dk_at dksX0_view_1 0 rfl rfl)
theorem dX0_view_26 : decode cX0_view 26 = .ok (.iconst 0, 1) := dk_3 (dk_at dksX0_view_1 2 rfl rfl)
theorem dX0_view_27 : decode cX0_view 27 = .ok (.iconst 1, 1) := dk_4 (dk_at dksX0_view_1 3 rfl rfl)
theorem dX0_view_28 : decode cX0_view 28 = .ok (.invokestatic 150, 3) := dk_184 0 150 (dk_at dksX0_view_1 4 rfl rfl)
theorem dX0_view_31 : decode cX0_view 31 = .ok (.ifCond .ne 5, 3) := dk_154 0 5 (dk_at dksX0_view_1 7 rfl rfl)
theorem dX0_view_34 : decode cX0_view 34 = .ok (.iconst (-1), 1) := dk_2 (dk_at dksX0_view_1 10 rfl rfl)
theorem dX0_view_35 : decode cX0_view 35 = .ok (.ireturn, 1) := dk_172 (dk_at dksX0_view_1 11 rfl rfl)
theorem dX0_view_36 : decode cX0_view 36 = .ok (.aload_n 0, 1) := dk_42 (dk_at dksX0_view_1 12 rfl rfl)
theorem dX0_view_37 : decode cX0_view 37 = .ok (.invokevirtual 295, 3) := dk_182 1 39 (dk_at dksX0_view_1 13 rfl rfl)
theorem dX0_view_40 : decode cX0_view 40 = .ok (.aload_n 0, 1) := dk_42 (dk_at dksX0_view_1 16 rfl rfl)
theorem dX0_view_41 : decode cX0_view 41 = .ok (.aload_n 0, 1) := dk_42 (dk_at dksX0_view_1 17 rfl rfl)
theorem dX0_view_42 : decode cX0_view 42 = .ok (.getfield 51, 3) := dk_180 0 51 (dk_at dksX0_view_1 18 rfl rfl)
theorem dX0_view_45 : decode cX0_view 45 = .ok (.getfield 168, 3) := dk_180 0 168 (dk_at dksX0_view_1 21 rfl rfl)
theorem dX0_view_48 : decode cX0_view 48 = .ok (.iload_n 1, 1) := dk_27 (dk_at dksX0_view_2 0 rfl rfl)
theorem dX0_view_49 : decode cX0_view 49 = .ok (.aaload, 1) := dk_50 (dk_at dksX0_view_2 1 rfl rfl)
theorem dX0_view_50 : decode cX0_view 50 = .ok (.aload_n 0, 1) := dk_42 (dk_at dksX0_view_2 2 rfl rfl)
theorem dX0_view_51 : decode cX0_view 51 = .ok (.getfield 51, 3) := dk_180 0 51 (dk_at dksX0_view_2 3 rfl rfl)
theorem dX0_view_54 : decode cX0_view 54 = .ok (.getfield 158, 3) := dk_180 0 158 (dk_at dksX0_view_2 6 rfl rfl)
theorem dX0_view_57 : decode cX0_view 57 = .ok (.baload, 1) := dk_51 (dk_at dksX0_view_2 9 rfl rfl)
theorem dX0_view_58 : decode cX0_view 58 = .ok (.invokevirtual 322, 3) := dk_182 1 66 (dk_at dksX0_view_2 10 rfl rfl)
theorem dX0_view_61 : decode cX0_view 61 = .ok (.aload_n 0, 1) := dk_42 (dk_at dksX0_view_2 13 rfl rfl)
theorem dX0_view_62 : decode cX0_view 62 = .ok (.getfield 51, 3) := dk_180 0 51 (dk_at dksX0_view_2 14 rfl rfl)
theorem dX0_view_65 : decode cX0_view 65 = .ok (.getfield 158, 3) := dk_180 0 158 (dk_at dksX0_view_2 17 rfl rfl)
theorem dX0_view_68 : decode cX0_view 68 = .ok (.istore 5, 2) := dk_54 5 (dk_at dksX0_view_2 20 rfl rfl)
theorem dX0_view_70 : decode cX0_view 70 = .ok (.iload 5, 2) := dk_21 5 (dk_at dksX0_view_2 22 rfl rfl)
theorem dX0_view_72 : decode cX0_view 72 = .ok (.sipush 300, 3) := dk_17 1 44 (dk_at dksX0_view_3 0 rfl rfl)
theorem dX0_view_75 : decode cX0_view 75 = .ok (.if_icmp .ge 107, 3) := dk_162 0 107 (dk_at dksX0_view_3 3 rfl rfl)
theorem dX0_view_78 : decode cX0_view 78 = .ok (.iconst 0, 1) := dk_3 (dk_at dksX0_view_3 6 rfl rfl)
theorem dX0_view_79 : decode cX0_view 79 = .ok (.istore 6, 2) := dk_54 6 (dk_at dksX0_view_3 7 rfl rfl)
theorem dX0_view_81 : decode cX0_view 81 = .ok (.iload 6, 2) := dk_21 6 (dk_at dksX0_view_3 9 rfl rfl)
theorem dX0_view_83 : decode cX0_view 83 = .ok (.aload_n 0, 1) := dk_42 (dk_at dksX0_view_3 11 rfl rfl)
theorem dX0_view_84 : decode cX0_view 84 = .ok (.invokevirtual 156, 3) := dk_182 0 156 (dk_at dksX0_view_3 12 rfl rfl)
theorem dX0_view_87 : decode cX0_view 87 = .ok (.if_icmp .ge 89, 3) := dk_162 0 89 (dk_at dksX0_view_3 15 rfl rfl)
theorem dX0_view_90 : decode cX0_view 90 = .ok (.aload_n 0, 1) := dk_42 (dk_at dksX0_view_3 18 rfl rfl)
theorem dX0_view_91 : decode cX0_view 91 = .ok (.getfield 55, 3) := dk_180 0 55 (dk_at dksX0_view_3 19 rfl rfl)
theorem dX0_view_94 : decode cX0_view 94 = .ok (.iload 6, 2) := dk_21 6 (dk_at dksX0_view_3 22 rfl rfl)
theorem dX0_view_96 : decode cX0_view 96 = .ok (.iload 5, 2) := dk_21 5 (dk_at dksX0_view_4 0 rfl rfl)
theorem dX0_view_98 : decode cX0_view 98 = .ok (.invokevirtual 178, 3) := dk_182 0 178 (dk_at dksX0_view_4 2 rfl rfl)
theorem dX0_view_101 : decode cX0_view 101 = .ok (.istore 7, 2) := dk_54 7 (dk_at dksX0_view_4 5 rfl rfl)
theorem dX0_view_103 : decode cX0_view 103 = .ok (.iload 7, 2) := dk_21 7 (dk_at dksX0_view_4 7 rfl rfl)
theorem dX0_view_105 : decode cX0_view 105 = .ok (.iload_n 3, 1) := dk_29 (dk_at dksX0_view_4 9 rfl rfl)
theorem dX0_view_106 : decode cX0_view 106 = .ok (.if_icmp .ne 64, 3) := dk_160 0 64 (dk_at dksX0_view_4 10 rfl rfl)
theorem dX0_view_109 : decode cX0_view 109 = .ok (.aload_n 0, 1) := dk_42 (dk_at dksX0_view_4 13 rfl rfl)
theorem dX0_view_110 : decode cX0_view 110 = .ok (.getfield 55, 3) := dk_180 0 55 (dk_at dksX0_view_4 14 rfl rfl)
theorem dX0_view_113 : decode cX0_view 113 = .ok (.getfield 181, 3) := dk_180 0 181 (dk_at dksX0_view_4 17 rfl rfl)
theorem dX0_view_116 : decode cX0_view 116 = .ok (.iload 6, 2) := dk_21 6 (dk_at dksX0_view_4 20 rfl rfl)
theorem dX0_view_118 : decode cX0_view 118 = .ok (.aaload, 1) := dk_50 (dk_at dksX0_view_4 22 rfl rfl)
theorem dX0_view_119 : decode cX0_view 119 = .ok (.iload 7, 2) := dk_21 7 (dk_at dksX0_view_5 0 rfl rfl)
theorem dX0_view_121 : decode cX0_view 121 = .ok (.baload, 1) := dk_51 (dk_at dksX0_view_5 2 rfl rfl)
theorem dX0_view_122 : decode cX0_view 122 = .ok (.iload_n 2, 1) := dk_28 (dk_at dksX0_view_5 3 rfl rfl)
theorem dX0_view_123 : decode cX0_view 123 = .ok (.if_icmp .ne 47, 3) := dk_160 0 47 (dk_at dksX0_view_5 4 rfl rfl)
theorem dX0_view_126 : decode cX0_view 126 = .ok (.aload_n 0, 1) := dk_42 (dk_at dksX0_view_5 7 rfl rfl)
theorem dX0_view_127 : decode cX0_view 127 = .ok (.getfield 88, 3) := dk_180 0 88 (dk_at dksX0_view_5 8 rfl rfl)
theorem dX0_view_130 : decode cX0_view 130 = .ok (.aload_n 0, 1) := dk_42 (dk_at dksX0_view_5 11 rfl rfl)
theorem dX0_view_131 : decode cX0_view 131 = .ok (.getfield 55, 3) := dk_180 0 55 (dk_at dksX0_view_5 12 rfl rfl)
theorem dX0_view_134 : decode cX0_view 134 = .ok (.getfield 181, 3) := dk_180 0 181 (dk_at dksX0_view_5 15 rfl rfl)
theorem dX0_view_137 : decode cX0_view 137 = .ok (.iload 6, 2) := dk_21 6 (dk_at dksX0_view_5 18 rfl rfl)
theorem dX0_view_139 : decode cX0_view 139 = .ok (.aaload, 1) := dk_50 (dk_at dksX0_view_5 20 rfl rfl)
theorem dX0_view_140 : decode cX0_view 140 = .ok (.iload 5, 2) := dk_21 5 (dk_at dksX0_view_5 21 rfl rfl)
theorem dX0_view_142 : decode cX0_view 142 = .ok (.baload, 1) := dk_51 (dk_at dksX0_view_5 23 rfl rfl)
theorem dX0_view_143 : decode cX0_view 143 = .ok (.iaload, 1) := dk_46 (dk_at dksX0_view_6 0 rfl rfl)
theorem dX0_view_144 : decode cX0_view 144 = .ok (.iload 5, 2) := dk_21 5 (dk_at dksX0_view_6 1 rfl rfl)
theorem dX0_view_146 : decode cX0_view 146 = .ok (.aload_n 0, 1) := dk_42 (dk_at dksX0_view_6 3 rfl rfl)
theorem dX0_view_147 : decode cX0_view 147 = .ok (.getfield 51, 3) := dk_180 0 51 (dk_at dksX0_view_6 4 rfl rfl)
theorem dX0_view_150 : decode cX0_view 150 = .ok (.getfield 158, 3) := dk_180 0 158 (dk_at dksX0_view_6 7 rfl rfl)
theorem dX0_view_153 : decode cX0_view 153 = .ok (.isub, 1) := dk_100 (dk_at dksX0_view_6 10 rfl rfl)
theorem dX0_view_154 : decode cX0_view 154 = .ok (.if_icmp .gt 16, 3) := dk_163 0 16 (dk_at dksX0_view_6 11 rfl rfl)
theorem dX0_view_157 : decode cX0_view 157 = .ok (.iload 4, 2) := dk_21 4 (dk_at dksX0_view_6 14 rfl rfl)
theorem dX0_view_159 : decode cX0_view 159 = .ok (.ifCond .ne 8, 3) := dk_154 0 8 (dk_at dksX0_view_6 16 rfl rfl)
theorem dX0_view_162 : decode cX0_view 162 = .ok (.iload 5, 2) := dk_21 5 (dk_at dksX0_view_6 19 rfl rfl)
theorem dX0_view_164 : decode cX0_view 164 = .ok (.goto 5, 3) := dk_167 0 5 (dk_at dksX0_view_6 21 rfl rfl)
theorem dX0_view_167 : decode cX0_view 167 = .ok (.iload 6, 2) := dk_21 6 (dk_at dksX0_view_7 0 rfl rfl)
theorem dX0_view_169 : decode cX0_view 169 = .ok (.ireturn, 1) := dk_172 (dk_at dksX0_view_7 2 rfl rfl)
theorem dX0_view_170 : decode cX0_view 170 = .ok (.iinc 6 1, 3) := dk_132 6 1 (dk_at dksX0_view_7 3 rfl rfl)
theorem dX0_view_173 : decode cX0_view 173 = .ok (.goto (-92), 3) := dk_167 255 164 (dk_at dksX0_view_7 6 rfl rfl)
theorem dX0_view_176 : decode cX0_view 176 = .ok (.iinc 5 1, 3) := dk_132 5 1 (dk_at dksX0_view_7 9 rfl rfl)
theorem dX0_view_179 : decode cX0_view 179 = .ok (.goto (-109), 3) := dk_167 255 147 (dk_at dksX0_view_7 12 rfl rfl)
theorem dX0_view_182 : decode cX0_view 182 = .ok (.bipush (-2), 2) := dk_16 254 (dk_at dksX0_view_7 15 rfl rfl)
theorem dX0_view_184 : decode cX0_view 184 = .ok (.ireturn, 1) := dk_172 (dk_at dksX0_view_7 17 rfl rfl)
abbrev cX0_laysWays : ByteArray := prog_1_method_57_code
def yX0_laysWays : MethodName := ⟨RX0, "laysWays", "(I)V"⟩
def dkwX0_laysWays_6 : List UInt8 := [167, 255, 161, 132, 2, 1, 167, 255, 145, 177]
abbrev dktX0_laysWays_6 : List UInt8 := dkwX0_laysWays_6 ++ []
def dkwX0_laysWays_5 : List UInt8 := [46, 42, 180, 0, 88, 29, 46, 4, 96, 184, 0, 206, 79, 132, 5, 1, 167, 255, 194, 132, 3, 1]
abbrev dktX0_laysWays_5 : List UInt8 := dkwX0_laysWays_5 ++ dktX0_laysWays_6
def dkwX0_laysWays_4 : List UInt8 := [42, 180, 0, 88, 25, 4, 180, 0, 230, 21, 5, 46, 42, 180, 0, 88, 25, 4, 180, 0, 230, 21, 5, 46]
abbrev dktX0_laysWays_4 : List UInt8 := dkwX0_laysWays_4 ++ dktX0_laysWays_5
def dkwX0_laysWays_3 : List UInt8 := [54, 5, 21, 5, 25, 4, 180, 0, 227, 162, 0, 58, 42, 180, 0, 88, 29, 46, 19, 1, 62, 162, 0, 46]
abbrev dktX0_laysWays_3 : List UInt8 := dkwX0_laysWays_3 ++ dktX0_laysWays_4
def dkwX0_laysWays_2 : List UInt8 := [182, 0, 148, 162, 0, 93, 42, 180, 0, 40, 180, 0, 132, 29, 182, 0, 221, 192, 0, 225, 58, 4, 3]
abbrev dktX0_laysWays_2 : List UInt8 := dkwX0_laysWays_2 ++ dktX0_laysWays_3
def dkwX0_laysWays_1 : List UInt8 := [19, 1, 62, 79, 132, 2, 1, 167, 255, 227, 3, 61, 28, 42, 182, 0, 148, 162, 0, 109, 3, 62, 29, 42]
abbrev dktX0_laysWays_1 : List UInt8 := dkwX0_laysWays_1 ++ dktX0_laysWays_2
def dkwX0_laysWays_0 : List UInt8 := [3, 61, 28, 42, 182, 0, 148, 162, 0, 27, 42, 180, 0, 88, 28, 28, 27, 160, 0, 7, 3, 167, 0, 6]
abbrev dktX0_laysWays_0 : List UInt8 := dkwX0_laysWays_0 ++ dktX0_laysWays_1
theorem dksX0_laysWays_0 : cX0_laysWays.data.toList.drop 0 = dktX0_laysWays_0 := by decide +kernel
theorem dksX0_laysWays_1 : cX0_laysWays.data.toList.drop 24 = dktX0_laysWays_1 := dk_seg dksX0_laysWays_0 24 rfl rfl
theorem dksX0_laysWays_2 : cX0_laysWays.data.toList.drop 48 = dktX0_laysWays_2 := dk_seg dksX0_laysWays_1 24 rfl rfl
theorem dksX0_laysWays_3 : cX0_laysWays.data.toList.drop 71 = dktX0_laysWays_3 := dk_seg dksX0_laysWays_2 23 rfl rfl
theorem dksX0_laysWays_4 : cX0_laysWays.data.toList.drop 95 = dktX0_laysWays_4 := dk_seg dksX0_laysWays_3 24 rfl rfl
theorem dksX0_laysWays_5 : cX0_laysWays.data.toList.drop 119 = dktX0_laysWays_5 := dk_seg dksX0_laysWays_4 24 rfl rfl
theorem dksX0_laysWays_6 : cX0_laysWays.data.toList.drop 141 = dktX0_laysWays_6 := dk_seg dksX0_laysWays_5 22 rfl rfl
theorem dX0_laysWays_0 : decode cX0_laysWays 0 = .ok (.iconst 0, 1) := dk_3 (dk_at dksX0_laysWays_0 0 rfl rfl)
theorem dX0_laysWays_1 : decode cX0_laysWays 1 = .ok (.istore_n 2, 1) := dk_61 (dk_at dksX0_laysWays_0 1 rfl rfl)
theorem dX0_laysWays_2 : decode cX0_laysWays 2 = .ok (.iload_n 2, 1) := dk_28 (dk_at dksX0_laysWays_0 2 rfl rfl)
theorem dX0_laysWays_3 : decode cX0_laysWays 3 = .ok (.aload_n 0, 1) := dk_42 (dk_at dksX0_laysWays_0 3 rfl rfl)
theorem dX0_laysWays_4 : decode cX0_laysWays 4 = .ok (.invokevirtual 148, 3) := dk_182 0 148 (dk_at dksX0_laysWays_0 4 rfl rfl)
theorem dX0_laysWays_7 : decode cX0_laysWays 7 = .ok (.if_icmp .ge 27, 3) := dk_162 0 27 (dk_at dksX0_laysWays_0 7 rfl rfl)
theorem dX0_laysWays_10 : decode cX0_laysWays 10 = .ok (.aload_n 0, 1) := dk_42 (dk_at dksX0_laysWays_0 10 rfl rfl)
theorem dX0_laysWays_11 : decode cX0_laysWays 11 = .ok (.getfield 88, 3) := dk_180 0 88 (dk_at dksX0_laysWays_0 11 rfl rfl)
theorem dX0_laysWays_14 : decode cX0_laysWays 14 = .ok (.iload_n 2, 1) := dk_28 (dk_at dksX0_laysWays_0 14 rfl rfl)
theorem dX0_laysWays_15 : decode cX0_laysWays 15 = .ok (.iload_n 2, 1) := dk_28 (dk_at dksX0_laysWays_0 15 rfl rfl)
theorem dX0_laysWays_16 : decode cX0_laysWays 16 = .ok (.iload_n 1, 1) := dk_27 (dk_at dksX0_laysWays_0 16 rfl rfl)
theorem dX0_laysWays_17 : decode cX0_laysWays 17 = .ok (.if_icmp .ne 7, 3) := dk_160 0 7 (dk_at dksX0_laysWays_0 17 rfl rfl)
theorem dX0_laysWays_20 : decode cX0_laysWays 20 = .ok (.iconst 0, 1) := dk_3 (dk_at dksX0_laysWays_0 20 rfl rfl)
theorem dX0_laysWays_21 : decode cX0_laysWays 21 = .ok (.goto 6, 3) := dk_167 0 6 (dk_at dksX0_laysWays_0 21 rfl rfl)
theorem dX0_laysWays_24 : decode cX0_laysWays 24 = .ok (.ldc_w 318, 3) := dk_19 1 62 (dk_at dksX0_laysWays_1 0 rfl rfl)
theorem dX0_laysWays_27 : decode cX0_laysWays 27 = .ok (.iastore, 1) := dk_79 (dk_at dksX0_laysWays_1 3 rfl rfl)
theorem dX0_laysWays_28 : decode cX0_laysWays 28 = .ok (.iinc 2 1, 3) := dk_132 2 1 (dk_at dksX0_laysWays_1 4 rfl rfl)
theorem dX0_laysWays_31 : decode cX0_laysWays 31 = .ok (.goto (-29), 3) := dk_167 255 227 (dk_at dksX0_laysWays_1 7 rfl rfl)
theorem dX0_laysWays_34 : decode cX0_laysWays 34 = .ok (.iconst 0, 1) := dk_3 (dk_at dksX0_laysWays_1 10 rfl rfl)
theorem dX0_laysWays_35 : decode cX0_laysWays 35 = .ok (.istore_n 2, 1) := dk_61 (dk_at dksX0_laysWays_1 11 rfl rfl)
theorem dX0_laysWays_36 : decode cX0_laysWays 36 = .ok (.iload_n 2, 1) := dk_28 (dk_at dksX0_laysWays_1 12 rfl rfl)
theorem dX0_laysWays_37 : decode cX0_laysWays 37 = .ok (.aload_n 0, 1) := dk_42 (dk_at dksX0_laysWays_1 13 rfl rfl)
theorem dX0_laysWays_38 : decode cX0_laysWays 38 = .ok (.invokevirtual 148, 3) := dk_182 0 148 (dk_at dksX0_laysWays_1 14 rfl rfl)
theorem dX0_laysWays_41 : decode cX0_laysWays 41 = .ok (.if_icmp .ge 109, 3) := dk_162 0 109 (dk_at dksX0_laysWays_1 17 rfl rfl)
theorem dX0_laysWays_44 : decode cX0_laysWays 44 = .ok (.iconst 0, 1) := dk_3 (dk_at dksX0_laysWays_1 20 rfl rfl)
theorem dX0_laysWays_45 : decode cX0_laysWays 45 = .ok (.istore_n 3, 1) := dk_62 (dk_at dksX0_laysWays_1 21 rfl rfl)
theorem dX0_laysWays_46 : decode cX0_laysWays 46 = .ok (.iload_n 3, 1) := dk_29 (dk_at dksX0_laysWays_1 22 rfl rfl)
theorem dX0_laysWays_47 : decode cX0_laysWays 47 = .ok (.aload_n 0, 1) := dk_42 (dk_at dksX0_laysWays_1 23 rfl rfl)
theorem dX0_laysWays_48 : decode cX0_laysWays 48 = .ok (.invokevirtual 148, 3) := dk_182 0 148 (dk_at dksX0_laysWays_2 0 rfl rfl)
theorem dX0_laysWays_51 : decode cX0_laysWays 51 = .ok (.if_icmp .ge 93, 3) := dk_162 0 93 (dk_at dksX0_laysWays_2 3 rfl rfl)
theorem dX0_laysWays_54 : decode cX0_laysWays 54 = .ok (.aload_n 0, 1) := dk_42 (dk_at dksX0_laysWays_2 6 rfl rfl)
theorem dX0_laysWays_55 : decode cX0_laysWays 55 = .ok (.getfield 40, 3) := dk_180 0 40 (dk_at dksX0_laysWays_2 7 rfl rfl)
theorem dX0_laysWays_58 : decode cX0_laysWays 58 = .ok (.getfield 132, 3) := dk_180 0 132 (dk_at dksX0_laysWays_2 10 rfl rfl)
theorem dX0_laysWays_61 : decode cX0_laysWays 61 = .ok (.iload_n 3, 1) := dk_29 (dk_at dksX0_laysWays_2 13 rfl rfl)
theorem dX0_laysWays_62 : decode cX0_laysWays 62 = .ok (.invokevirtual 221, 3) := dk_182 0 221 (dk_at dksX0_laysWays_2 14 rfl rfl)
theorem dX0_laysWays_65 : decode cX0_laysWays 65 = .ok (.checkcast 225, 3) := dk_192 0 225 (dk_at dksX0_laysWays_2 17 rfl rfl)
theorem dX0_laysWays_68 : decode cX0_laysWays 68 = .ok (.astore 4, 2) := dk_58 4 (dk_at dksX0_laysWays_2 20 rfl rfl)
theorem dX0_laysWays_70 : decode cX0_laysWays 70 = .ok (.iconst 0, 1) := dk_3 (dk_at dksX0_laysWays_2 22 rfl rfl)
theorem dX0_laysWays_71 : decode cX0_laysWays 71 = .ok (.istore 5, 2) := dk_54 5 (dk_at dksX0_laysWays_3 0 rfl rfl)
theorem dX0_laysWays_73 : decode cX0_laysWays 73 = .ok (.iload 5, 2) := dk_21 5 (dk_at dksX0_laysWays_3 2 rfl rfl)
theorem dX0_laysWays_75 : decode cX0_laysWays 75 = .ok (.aload 4, 2) := dk_25 4 (dk_at dksX0_laysWays_3 4 rfl rfl)
theorem dX0_laysWays_77 : decode cX0_laysWays 77 = .ok (.getfield 227, 3) := dk_180 0 227 (dk_at dksX0_laysWays_3 6 rfl rfl)
theorem dX0_laysWays_80 : decode cX0_laysWays 80 = .ok (.if_icmp .ge 58, 3) := dk_162 0 58 (dk_at dksX0_laysWays_3 9 rfl rfl)
theorem dX0_laysWays_83 : decode cX0_laysWays 83 = .ok (.aload_n 0, 1) := dk_42 (dk_at dksX0_laysWays_3 12 rfl rfl)
theorem dX0_laysWays_84 : decode cX0_laysWays 84 = .ok (.getfield 88, 3) := dk_180 0 88 (dk_at dksX0_laysWays_3 13 rfl rfl)
theorem dX0_laysWays_87 : decode cX0_laysWays 87 = .ok (.iload_n 3, 1) := dk_29 (dk_at dksX0_laysWays_3 16 rfl rfl)
theorem dX0_laysWays_88 : decode cX0_laysWays 88 = .ok (.iaload, 1) := dk_46 (dk_at dksX0_laysWays_3 17 rfl rfl)
theorem dX0_laysWays_89 : decode cX0_laysWays 89 = .ok (.ldc_w 318, 3) := dk_19 1 62 (dk_at dksX0_laysWays_3 18 rfl rfl)
theorem dX0_laysWays_92 : decode cX0_laysWays 92 = .ok (.if_icmp .ge 46, 3) := dk_162 0 46 (dk_at dksX0_laysWays_3 21 rfl rfl)
theorem dX0_laysWays_95 : decode cX0_laysWays 95 = .ok (.aload_n 0, 1) := dk_42 (dk_at dksX0_laysWays_4 0 rfl rfl)
theorem dX0_laysWays_96 : decode cX0_laysWays 96 = .ok (.getfield 88, 3) := dk_180 0 88 (dk_at dksX0_laysWays_4 1 rfl rfl)
theorem dX0_laysWays_99 : decode cX0_laysWays 99 = .ok (.aload 4, 2) := dk_25 4 (dk_at dksX0_laysWays_4 4 rfl rfl)
theorem dX0_laysWays_101 : decode cX0_laysWays 101 = .ok (.getfield 230, 3) := dk_180 0 230 (dk_at dksX0_laysWays_4 6 rfl rfl)
theorem dX0_laysWays_104 : decode cX0_laysWays 104 = .ok (.iload 5, 2) := dk_21 5 (dk_at dksX0_laysWays_4 9 rfl rfl)
theorem dX0_laysWays_106 : decode cX0_laysWays 106 = .ok (.iaload, 1) := dk_46 (dk_at dksX0_laysWays_4 11 rfl rfl)
theorem dX0_laysWays_107 : decode cX0_laysWays 107 = .ok (.aload_n 0, 1) := dk_42 (dk_at dksX0_laysWays_4 12 rfl rfl)
theorem dX0_laysWays_108 : decode cX0_laysWays 108 = .ok (.getfield 88, 3) := dk_180 0 88 (dk_at dksX0_laysWays_4 13 rfl rfl)
theorem dX0_laysWays_111 : decode cX0_laysWays 111 = .ok (.aload 4, 2) := dk_25 4 (dk_at dksX0_laysWays_4 16 rfl rfl)
theorem dX0_laysWays_113 : decode cX0_laysWays 113 = .ok (.getfield 230, 3) := dk_180 0 230 (dk_at dksX0_laysWays_4 18 rfl rfl)
theorem dX0_laysWays_116 : decode cX0_laysWays 116 = .ok (.iload 5, 2) := dk_21 5 (dk_at dksX0_laysWays_4 21 rfl rfl)
theorem dX0_laysWays_118 : decode cX0_laysWays 118 = .ok (.iaload, 1) := dk_46 (dk_at dksX0_laysWays_4 23 rfl rfl)
theorem dX0_laysWays_119 : decode cX0_laysWays 119 = .ok (.iaload, 1) := dk_46 (dk_at dksX0_laysWays_5 0 rfl rfl)
theorem dX0_laysWays_120 : decode cX0_laysWays 120 = .ok (.aload_n 0, 1) := dk_42 (dk_at dksX0_laysWays_5 1 rfl rfl)
theorem dX0_laysWays_121 : decode cX0_laysWays 121 = .ok (.getfield 88, 3) := dk_180 0 88 (dk_at dksX0_laysWays_5 2 rfl rfl)
theorem dX0_laysWays_124 : decode cX0_laysWays 124 = .ok (.iload_n 3, 1) := dk_29 (dk_at dksX0_laysWays_5 5 rfl rfl)
theorem dX0_laysWays_125 : decode cX0_laysWays 125 = .ok (.iaload, 1) := dk_46 (dk_at dksX0_laysWays_5 6 rfl rfl)
theorem dX0_laysWays_126 : decode cX0_laysWays 126 = .ok (.iconst 1, 1) := dk_4 (dk_at dksX0_laysWays_5 7 rfl rfl)
theorem dX0_laysWays_127 : decode cX0_laysWays 127 = .ok (.iadd, 1) := dk_96 (dk_at dksX0_laysWays_5 8 rfl rfl)
theorem dX0_laysWays_128 : decode cX0_laysWays 128 = .ok (.invokestatic 206, 3) := dk_184 0 206 (dk_at dksX0_laysWays_5 9 rfl rfl)
theorem dX0_laysWays_131 : decode cX0_laysWays 131 = .ok (.iastore, 1) := dk_79 (dk_at dksX0_laysWays_5 12 rfl rfl)
theorem dX0_laysWays_132 : decode cX0_laysWays 132 = .ok (.iinc 5 1, 3) := dk_132 5 1 (dk_at dksX0_laysWays_5 13 rfl rfl)
theorem dX0_laysWays_135 : decode cX0_laysWays 135 = .ok (.goto (-62), 3) := dk_167 255 194 (dk_at dksX0_laysWays_5 16 rfl rfl)
theorem dX0_laysWays_138 : decode cX0_laysWays 138 = .ok (.iinc 3 1, 3) := dk_132 3 1 (dk_at dksX0_laysWays_5 19 rfl rfl)
theorem dX0_laysWays_141 : decode cX0_laysWays 141 = .ok (.goto (-95), 3) := dk_167 255 161 (dk_at dksX0_laysWays_6 0 rfl rfl)
theorem dX0_laysWays_144 : decode cX0_laysWays 144 = .ok (.iinc 2 1, 3) := dk_132 2 1 (dk_at dksX0_laysWays_6 3 rfl rfl)
theorem dX0_laysWays_147 : decode cX0_laysWays 147 = .ok (.goto (-111), 3) := dk_167 255 145 (dk_at dksX0_laysWays_6 6 rfl rfl)
theorem dX0_laysWays_150 : decode cX0_laysWays 150 = .ok (.return_, 1) := dk_177 (dk_at dksX0_laysWays_6 9 rfl rfl)
abbrev cX0_willBe : ByteArray := prog_1_method_59_code
def yX0_willBe : MethodName := ⟨RX0, "willBe", "(II)I"⟩
def dkwX0_willBe_2 : List UInt8 := [180, 0, 168, 27, 50, 42, 180, 0, 55, 180, 0, 158, 51, 172]
abbrev dktX0_willBe_2 : List UInt8 := dkwX0_willBe_2 ++ []
def dkwX0_willBe_1 : List UInt8 := [180, 0, 55, 42, 180, 0, 51, 182, 0, 202, 42, 42, 180, 0, 55, 28, 182, 0, 217, 42, 180, 0, 55]
abbrev dktX0_willBe_1 : List UInt8 := dkwX0_willBe_1 ++ dktX0_willBe_2
def dkwX0_willBe_0 : List UInt8 := [42, 27, 182, 0, 161, 153, 0, 14, 28, 3, 17, 1, 43, 184, 0, 150, 154, 0, 5, 2, 172, 42]
abbrev dktX0_willBe_0 : List UInt8 := dkwX0_willBe_0 ++ dktX0_willBe_1
theorem dksX0_willBe_0 : cX0_willBe.data.toList.drop 0 = dktX0_willBe_0 := by decide +kernel
theorem dksX0_willBe_1 : cX0_willBe.data.toList.drop 22 = dktX0_willBe_1 := dk_seg dksX0_willBe_0 22 rfl rfl
theorem dksX0_willBe_2 : cX0_willBe.data.toList.drop 45 = dktX0_willBe_2 := dk_seg dksX0_willBe_1 23 rfl rfl
theorem dX0_willBe_0 : decode cX0_willBe 0 = .ok (.aload_n 0, 1) := dk_42 (dk_at dksX0_willBe_0 0 rfl rfl)
theorem dX0_willBe_1 : decode cX0_willBe 1 = .ok (.iload_n 1, 1) := dk_27 (dk_at dksX0_willBe_0 1 rfl rfl)
theorem dX0_willBe_2 : decode cX0_willBe 2 = .ok (.invokevirtual 161, 3) := dk_182 0 161 (dk_at dksX0_willBe_0 2 rfl rfl)
theorem dX0_willBe_5 : decode cX0_willBe 5 = .ok (.ifCond .eq 14, 3) := dk_153 0 14 (dk_at dksX0_willBe_0 5 rfl rfl)
theorem dX0_willBe_8 : decode cX0_willBe 8 = .ok (.iload_n 2, 1) := dk_28 (dk_at dksX0_willBe_0 8 rfl rfl)
theorem dX0_willBe_9 : decode cX0_willBe 9 = .ok (.iconst 0, 1) := dk_3 (dk_at dksX0_willBe_0 9 rfl rfl)
theorem dX0_willBe_10 : decode cX0_willBe 10 = .ok (.sipush 299, 3) := dk_17 1 43 (dk_at dksX0_willBe_0 10 rfl rfl)
theorem dX0_willBe_13 : decode cX0_willBe 13 = .ok (.invokestatic 150, 3) := dk_184 0 150 (dk_at dksX0_willBe_0 13 rfl rfl)
theorem dX0_willBe_16 : decode cX0_willBe 16 = .ok (.ifCond .ne 5, 3) := dk_154 0 5 (dk_at dksX0_willBe_0 16 rfl rfl)
theorem dX0_willBe_19 : decode cX0_willBe 19 = .ok (.iconst (-1), 1) := dk_2 (dk_at dksX0_willBe_0 19 rfl rfl)
theorem dX0_willBe_20 : decode cX0_willBe 20 = .ok (.ireturn, 1) := dk_172 (dk_at dksX0_willBe_0 20 rfl rfl)
theorem dX0_willBe_21 : decode cX0_willBe 21 = .ok (.aload_n 0, 1) := dk_42 (dk_at dksX0_willBe_0 21 rfl rfl)
theorem dX0_willBe_22 : decode cX0_willBe 22 = .ok (.getfield 55, 3) := dk_180 0 55 (dk_at dksX0_willBe_1 0 rfl rfl)
theorem dX0_willBe_25 : decode cX0_willBe 25 = .ok (.aload_n 0, 1) := dk_42 (dk_at dksX0_willBe_1 3 rfl rfl)
theorem dX0_willBe_26 : decode cX0_willBe 26 = .ok (.getfield 51, 3) := dk_180 0 51 (dk_at dksX0_willBe_1 4 rfl rfl)
theorem dX0_willBe_29 : decode cX0_willBe 29 = .ok (.invokevirtual 202, 3) := dk_182 0 202 (dk_at dksX0_willBe_1 7 rfl rfl)
theorem dX0_willBe_32 : decode cX0_willBe 32 = .ok (.aload_n 0, 1) := dk_42 (dk_at dksX0_willBe_1 10 rfl rfl)
theorem dX0_willBe_33 : decode cX0_willBe 33 = .ok (.aload_n 0, 1) := dk_42 (dk_at dksX0_willBe_1 11 rfl rfl)
theorem dX0_willBe_34 : decode cX0_willBe 34 = .ok (.getfield 55, 3) := dk_180 0 55 (dk_at dksX0_willBe_1 12 rfl rfl)
theorem dX0_willBe_37 : decode cX0_willBe 37 = .ok (.iload_n 2, 1) := dk_28 (dk_at dksX0_willBe_1 15 rfl rfl)
theorem dX0_willBe_38 : decode cX0_willBe 38 = .ok (.invokevirtual 217, 3) := dk_182 0 217 (dk_at dksX0_willBe_1 16 rfl rfl)
theorem dX0_willBe_41 : decode cX0_willBe 41 = .ok (.aload_n 0, 1) := dk_42 (dk_at dksX0_willBe_1 19 rfl rfl)
theorem dX0_willBe_42 : decode cX0_willBe 42 = .ok (.getfield 55, 3) := dk_180 0 55 (dk_at dksX0_willBe_1 20 rfl rfl)
theorem dX0_willBe_45 : decode cX0_willBe 45 = .ok (.getfield 168, 3) := dk_180 0 168 (dk_at dksX0_willBe_2 0 rfl rfl)
theorem dX0_willBe_48 : decode cX0_willBe 48 = .ok (.iload_n 1, 1) := dk_27 (dk_at dksX0_willBe_2 3 rfl rfl)
theorem dX0_willBe_49 : decode cX0_willBe 49 = .ok (.aaload, 1) := dk_50 (dk_at dksX0_willBe_2 4 rfl rfl)
theorem dX0_willBe_50 : decode cX0_willBe 50 = .ok (.aload_n 0, 1) := dk_42 (dk_at dksX0_willBe_2 5 rfl rfl)
theorem dX0_willBe_51 : decode cX0_willBe 51 = .ok (.getfield 55, 3) := dk_180 0 55 (dk_at dksX0_willBe_2 6 rfl rfl)
theorem dX0_willBe_54 : decode cX0_willBe 54 = .ok (.getfield 158, 3) := dk_180 0 158 (dk_at dksX0_willBe_2 9 rfl rfl)
theorem dX0_willBe_57 : decode cX0_willBe 57 = .ok (.baload, 1) := dk_51 (dk_at dksX0_willBe_2 12 rfl rfl)
theorem dX0_willBe_58 : decode cX0_willBe 58 = .ok (.ireturn, 1) := dk_172 (dk_at dksX0_willBe_2 13 rfl rfl)
abbrev cX0_rests : ByteArray := prog_1_method_62_code
def yX0_rests : MethodName := ⟨RX0, "rests", "(III)I"⟩
def dkwX0_rests_5 : List UInt8 := [132, 6, 1, 167, 255, 192, 29, 2, 160, 0, 8, 21, 4, 167, 0, 4, 2, 172]
abbrev dktX0_rests_5 : List UInt8 := dkwX0_rests_5 ++ []
def dkwX0_rests_4 : List UInt8 := [29, 160, 0, 12, 16, 10, 21, 6, 104, 21, 7, 96, 172, 132, 4, 1, 132, 7, 1, 167, 255, 210]
abbrev dktX0_rests_4 : List UInt8 := dkwX0_rests_4 ++ dktX0_rests_5
def dkwX0_rests_3 : List UInt8 := [182, 0, 148, 162, 0, 43, 42, 21, 6, 21, 7, 21, 5, 182, 1, 73, 154, 0, 6, 167, 0, 21, 21, 4]
abbrev dktX0_rests_3 : List UInt8 := dkwX0_rests_3 ++ dktX0_rests_4
def dkwX0_rests_2 : List UInt8 := [120, 2, 130, 126, 54, 5, 3, 54, 6, 21, 6, 42, 182, 0, 148, 162, 0, 61, 3, 54, 7, 21, 7, 42]
abbrev dktX0_rests_2 : List UInt8 := dkwX0_rests_2 ++ dktX0_rests_3
def dkwX0_rests_1 : List UInt8 := [162, 0, 5, 2, 172, 3, 54, 4, 4, 42, 182, 0, 154, 120, 4, 100, 4, 27, 120, 2, 130, 126, 4, 28]
abbrev dktX0_rests_1 : List UInt8 := dkwX0_rests_1 ++ dktX0_rests_2
def dkwX0_rests_0 : List UInt8 := [42, 27, 182, 0, 161, 153, 0, 21, 42, 28, 182, 0, 161, 153, 0, 13, 27, 28, 159, 0, 8, 29, 2]
abbrev dktX0_rests_0 : List UInt8 := dkwX0_rests_0 ++ dktX0_rests_1
theorem dksX0_rests_0 : cX0_rests.data.toList.drop 0 = dktX0_rests_0 := by decide +kernel
theorem dksX0_rests_1 : cX0_rests.data.toList.drop 23 = dktX0_rests_1 := dk_seg dksX0_rests_0 23 rfl rfl
theorem dksX0_rests_2 : cX0_rests.data.toList.drop 47 = dktX0_rests_2 := dk_seg dksX0_rests_1 24 rfl rfl
theorem dksX0_rests_3 : cX0_rests.data.toList.drop 71 = dktX0_rests_3 := dk_seg dksX0_rests_2 24 rfl rfl
theorem dksX0_rests_4 : cX0_rests.data.toList.drop 95 = dktX0_rests_4 := dk_seg dksX0_rests_3 24 rfl rfl
theorem dksX0_rests_5 : cX0_rests.data.toList.drop 117 = dktX0_rests_5 := dk_seg dksX0_rests_4 22 rfl rfl
theorem dX0_rests_0 : decode cX0_rests 0 = .ok (.aload_n 0, 1) := dk_42 (dk_at dksX0_rests_0 0 rfl rfl)
theorem dX0_rests_1 : decode cX0_rests 1 = .ok (.iload_n 1, 1) := dk_27 (dk_at dksX0_rests_0 1 rfl rfl)
theorem dX0_rests_2 : decode cX0_rests 2 = .ok (.invokevirtual 161, 3) := dk_182 0 161 (dk_at dksX0_rests_0 2 rfl rfl)
theorem dX0_rests_5 : decode cX0_rests 5 = .ok (.ifCond .eq 21, 3) := dk_153 0 21 (dk_at dksX0_rests_0 5 rfl rfl)
theorem dX0_rests_8 : decode cX0_rests 8 = .ok (.aload_n 0, 1) := dk_42 (dk_at dksX0_rests_0 8 rfl rfl)
theorem dX0_rests_9 : decode cX0_rests 9 = .ok (.iload_n 2, 1) := dk_28 (dk_at dksX0_rests_0 9 rfl rfl)
theorem dX0_rests_10 : decode cX0_rests 10 = .ok (.invokevirtual 161, 3) := dk_182 0 161 (dk_at dksX0_rests_0 10 rfl rfl)
theorem dX0_rests_13 : decode cX0_rests 13 = .ok (.ifCond .eq 13, 3) := dk_153 0 13 (dk_at dksX0_rests_0 13 rfl rfl)
theorem dX0_rests_16 : decode cX0_rests 16 = .ok (.iload_n 1, 1) := dk_27 (dk_at dksX0_rests_0 16 rfl rfl)
theorem dX0_rests_17 : decode cX0_rests 17 = .ok (.iload_n 2, 1) := dk_28 (dk_at dksX0_rests_0 17 rfl rfl)
theorem dX0_rests_18 : decode cX0_rests 18 = .ok (.if_icmp .eq 8, 3) := dk_159 0 8 (dk_at dksX0_rests_0 18 rfl rfl)
theorem dX0_rests_21 : decode cX0_rests 21 = .ok (.iload_n 3, 1) := dk_29 (dk_at dksX0_rests_0 21 rfl rfl)
theorem dX0_rests_22 : decode cX0_rests 22 = .ok (.iconst (-1), 1) := dk_2 (dk_at dksX0_rests_0 22 rfl rfl)
theorem dX0_rests_23 : decode cX0_rests 23 = .ok (.if_icmp .ge 5, 3) := dk_162 0 5 (dk_at dksX0_rests_1 0 rfl rfl)
theorem dX0_rests_26 : decode cX0_rests 26 = .ok (.iconst (-1), 1) := dk_2 (dk_at dksX0_rests_1 3 rfl rfl)
theorem dX0_rests_27 : decode cX0_rests 27 = .ok (.ireturn, 1) := dk_172 (dk_at dksX0_rests_1 4 rfl rfl)
theorem dX0_rests_28 : decode cX0_rests 28 = .ok (.iconst 0, 1) := dk_3 (dk_at dksX0_rests_1 5 rfl rfl)
theorem dX0_rests_29 : decode cX0_rests 29 = .ok (.istore 4, 2) := dk_54 4 (dk_at dksX0_rests_1 6 rfl rfl)
theorem dX0_rests_31 : decode cX0_rests 31 = .ok (.iconst 1, 1) := dk_4 (dk_at dksX0_rests_1 8 rfl rfl)
theorem dX0_rests_32 : decode cX0_rests 32 = .ok (.aload_n 0, 1) := dk_42 (dk_at dksX0_rests_1 9 rfl rfl)
theorem dX0_rests_33 : decode cX0_rests 33 = .ok (.invokevirtual 154, 3) := dk_182 0 154 (dk_at dksX0_rests_1 10 rfl rfl)
theorem dX0_rests_36 : decode cX0_rests 36 = .ok (.ishl, 1) := dk_120 (dk_at dksX0_rests_1 13 rfl rfl)
theorem dX0_rests_37 : decode cX0_rests 37 = .ok (.iconst 1, 1) := dk_4 (dk_at dksX0_rests_1 14 rfl rfl)
theorem dX0_rests_38 : decode cX0_rests 38 = .ok (.isub, 1) := dk_100 (dk_at dksX0_rests_1 15 rfl rfl)
theorem dX0_rests_39 : decode cX0_rests 39 = .ok (.iconst 1, 1) := dk_4 (dk_at dksX0_rests_1 16 rfl rfl)
theorem dX0_rests_40 : decode cX0_rests 40 = .ok (.iload_n 1, 1) := dk_27 (dk_at dksX0_rests_1 17 rfl rfl)
theorem dX0_rests_41 : decode cX0_rests 41 = .ok (.ishl, 1) := dk_120 (dk_at dksX0_rests_1 18 rfl rfl)
theorem dX0_rests_42 : decode cX0_rests 42 = .ok (.iconst (-1), 1) := dk_2 (dk_at dksX0_rests_1 19 rfl rfl)
theorem dX0_rests_43 : decode cX0_rests 43 = .ok (.ixor, 1) := dk_130 (dk_at dksX0_rests_1 20 rfl rfl)
theorem dX0_rests_44 : decode cX0_rests 44 = .ok (.iand, 1) := dk_126 (dk_at dksX0_rests_1 21 rfl rfl)
theorem dX0_rests_45 : decode cX0_rests 45 = .ok (.iconst 1, 1) := dk_4 (dk_at dksX0_rests_1 22 rfl rfl)
theorem dX0_rests_46 : decode cX0_rests 46 = .ok (.iload_n 2, 1) := dk_28 (dk_at dksX0_rests_1 23 rfl rfl)
theorem dX0_rests_47 : decode cX0_rests 47 = .ok (.ishl, 1) := dk_120 (dk_at dksX0_rests_2 0 rfl rfl)
theorem dX0_rests_48 : decode cX0_rests 48 = .ok (.iconst (-1), 1) := dk_2 (dk_at dksX0_rests_2 1 rfl rfl)
theorem dX0_rests_49 : decode cX0_rests 49 = .ok (.ixor, 1) := dk_130 (dk_at dksX0_rests_2 2 rfl rfl)
theorem dX0_rests_50 : decode cX0_rests 50 = .ok (.iand, 1) := dk_126 (dk_at dksX0_rests_2 3 rfl rfl)
theorem dX0_rests_51 : decode cX0_rests 51 = .ok (.istore 5, 2) := dk_54 5 (dk_at dksX0_rests_2 4 rfl rfl)
theorem dX0_rests_53 : decode cX0_rests 53 = .ok (.iconst 0, 1) := dk_3 (dk_at dksX0_rests_2 6 rfl rfl)
theorem dX0_rests_54 : decode cX0_rests 54 = .ok (.istore 6, 2) := dk_54 6 (dk_at dksX0_rests_2 7 rfl rfl)
theorem dX0_rests_56 : decode cX0_rests 56 = .ok (.iload 6, 2) := dk_21 6 (dk_at dksX0_rests_2 9 rfl rfl)
theorem dX0_rests_58 : decode cX0_rests 58 = .ok (.aload_n 0, 1) := dk_42 (dk_at dksX0_rests_2 11 rfl rfl)
theorem dX0_rests_59 : decode cX0_rests 59 = .ok (.invokevirtual 148, 3) := dk_182 0 148 (dk_at dksX0_rests_2 12 rfl rfl)
theorem dX0_rests_62 : decode cX0_rests 62 = .ok (.if_icmp .ge 61, 3) := dk_162 0 61 (dk_at dksX0_rests_2 15 rfl rfl)
theorem dX0_rests_65 : decode cX0_rests 65 = .ok (.iconst 0, 1) := dk_3 (dk_at dksX0_rests_2 18 rfl rfl)
theorem dX0_rests_66 : decode cX0_rests 66 = .ok (.istore 7, 2) := dk_54 7 (dk_at dksX0_rests_2 19 rfl rfl)
theorem dX0_rests_68 : decode cX0_rests 68 = .ok (.iload 7, 2) := dk_21 7 (dk_at dksX0_rests_2 21 rfl rfl)
theorem dX0_rests_70 : decode cX0_rests 70 = .ok (.aload_n 0, 1) := dk_42 (dk_at dksX0_rests_2 23 rfl rfl)
theorem dX0_rests_71 : decode cX0_rests 71 = .ok (.invokevirtual 148, 3) := dk_182 0 148 (dk_at dksX0_rests_3 0 rfl rfl)
theorem dX0_rests_74 : decode cX0_rests 74 = .ok (.if_icmp .ge 43, 3) := dk_162 0 43 (dk_at dksX0_rests_3 3 rfl rfl)
theorem dX0_rests_77 : decode cX0_rests 77 = .ok (.aload_n 0, 1) := dk_42 (dk_at dksX0_rests_3 6 rfl rfl)
theorem dX0_rests_78 : decode cX0_rests 78 = .ok (.iload 6, 2) := dk_21 6 (dk_at dksX0_rests_3 7 rfl rfl)
theorem dX0_rests_80 : decode cX0_rests 80 = .ok (.iload 7, 2) := dk_21 7 (dk_at dksX0_rests_3 9 rfl rfl)
theorem dX0_rests_82 : decode cX0_rests 82 = .ok (.iload 5, 2) := dk_21 5 (dk_at dksX0_rests_3 11 rfl rfl)
theorem dX0_rests_84 : decode cX0_rests 84 = .ok (.invokevirtual 329, 3) := dk_182 1 73 (dk_at dksX0_rests_3 13 rfl rfl)
theorem dX0_rests_87 : decode cX0_rests 87 = .ok (.ifCond .ne 6, 3) := dk_154 0 6 (dk_at dksX0_rests_3 16 rfl rfl)
theorem dX0_rests_90 : decode cX0_rests 90 = .ok (.goto 21, 3) := dk_167 0 21 (dk_at dksX0_rests_3 19 rfl rfl)
theorem dX0_rests_93 : decode cX0_rests 93 = .ok (.iload 4, 2) := dk_21 4 (dk_at dksX0_rests_3 22 rfl rfl)
theorem dX0_rests_95 : decode cX0_rests 95 = .ok (.iload_n 3, 1) := dk_29 (dk_at dksX0_rests_4 0 rfl rfl)
theorem dX0_rests_96 : decode cX0_rests 96 = .ok (.if_icmp .ne 12, 3) := dk_160 0 12 (dk_at dksX0_rests_4 1 rfl rfl)
theorem dX0_rests_99 : decode cX0_rests 99 = .ok (.bipush 10, 2) := dk_16 10 (dk_at dksX0_rests_4 4 rfl rfl)
theorem dX0_rests_101 : decode cX0_rests 101 = .ok (.iload 6, 2) := dk_21 6 (dk_at dksX0_rests_4 6 rfl rfl)
theorem dX0_rests_103 : decode cX0_rests 103 = .ok (.imul, 1) := dk_104 (dk_at dksX0_rests_4 8 rfl rfl)
theorem dX0_rests_104 : decode cX0_rests 104 = .ok (.iload 7, 2) := dk_21 7 (dk_at dksX0_rests_4 9 rfl rfl)
theorem dX0_rests_106 : decode cX0_rests 106 = .ok (.iadd, 1) := dk_96 (dk_at dksX0_rests_4 11 rfl rfl)
theorem dX0_rests_107 : decode cX0_rests 107 = .ok (.ireturn, 1) := dk_172 (dk_at dksX0_rests_4 12 rfl rfl)
theorem dX0_rests_108 : decode cX0_rests 108 = .ok (.iinc 4 1, 3) := dk_132 4 1 (dk_at dksX0_rests_4 13 rfl rfl)
theorem dX0_rests_111 : decode cX0_rests 111 = .ok (.iinc 7 1, 3) := dk_132 7 1 (dk_at dksX0_rests_4 16 rfl rfl)
theorem dX0_rests_114 : decode cX0_rests 114 = .ok (.goto (-46), 3) := dk_167 255 210 (dk_at dksX0_rests_4 19 rfl rfl)
theorem dX0_rests_117 : decode cX0_rests 117 = .ok (.iinc 6 1, 3) := dk_132 6 1 (dk_at dksX0_rests_5 0 rfl rfl)
theorem dX0_rests_120 : decode cX0_rests 120 = .ok (.goto (-64), 3) := dk_167 255 192 (dk_at dksX0_rests_5 3 rfl rfl)
theorem dX0_rests_123 : decode cX0_rests 123 = .ok (.iload_n 3, 1) := dk_29 (dk_at dksX0_rests_5 6 rfl rfl)
theorem dX0_rests_124 : decode cX0_rests 124 = .ok (.iconst (-1), 1) := dk_2 (dk_at dksX0_rests_5 7 rfl rfl)
theorem dX0_rests_125 : decode cX0_rests 125 = .ok (.if_icmp .ne 8, 3) := dk_160 0 8 (dk_at dksX0_rests_5 8 rfl rfl)
theorem dX0_rests_128 : decode cX0_rests 128 = .ok (.iload 4, 2) := dk_21 4 (dk_at dksX0_rests_5 11 rfl rfl)
theorem dX0_rests_130 : decode cX0_rests 130 = .ok (.goto 4, 3) := dk_167 0 4 (dk_at dksX0_rests_5 13 rfl rfl)
theorem dX0_rests_133 : decode cX0_rests 133 = .ok (.iconst (-1), 1) := dk_2 (dk_at dksX0_rests_5 16 rfl rfl)
theorem dX0_rests_134 : decode cX0_rests 134 = .ok (.ireturn, 1) := dk_172 (dk_at dksX0_rests_5 17 rfl rfl)
abbrev cX0_isRest : ByteArray := prog_1_method_61_code
def yX0_isRest : MethodName := ⟨RX0, "isRest", "(III)Z"⟩
def dkwX0_isRest_4 : List UInt8 := [164, 0, 5, 3, 172, 132, 6, 1, 167, 255, 196, 4, 172]
abbrev dktX0_isRest_4 : List UInt8 := dkwX0_isRest_4 ++ []
def dkwX0_isRest_3 : List UInt8 := [163, 0, 26, 42, 21, 6, 29, 21, 6, 27, 160, 0, 7, 4, 167, 0, 4, 3, 182, 1, 69, 21, 5]
abbrev dktX0_isRest_3 : List UInt8 := dkwX0_isRest_3 ++ dktX0_isRest_4
def dkwX0_isRest_2 : List UInt8 := [162, 0, 57, 42, 21, 6, 29, 21, 6, 28, 160, 0, 7, 4, 167, 0, 4, 3, 182, 1, 69, 21, 4]
abbrev dktX0_isRest_2 : List UInt8 := dkwX0_isRest_2 ++ dktX0_isRest_3
def dkwX0_isRest_1 : List UInt8 := [160, 0, 7, 4, 167, 0, 4, 3, 182, 1, 69, 54, 5, 3, 54, 6, 21, 6, 42, 182, 0, 148]
abbrev dktX0_isRest_1 : List UInt8 := dkwX0_isRest_1 ++ dktX0_isRest_2
def dkwX0_isRest_0 : List UInt8 := [42, 27, 29, 27, 28, 160, 0, 7, 4, 167, 0, 4, 3, 182, 1, 69, 54, 4, 42, 28, 29, 27, 28]
abbrev dktX0_isRest_0 : List UInt8 := dkwX0_isRest_0 ++ dktX0_isRest_1
theorem dksX0_isRest_0 : cX0_isRest.data.toList.drop 0 = dktX0_isRest_0 := by decide +kernel
theorem dksX0_isRest_1 : cX0_isRest.data.toList.drop 23 = dktX0_isRest_1 := dk_seg dksX0_isRest_0 23 rfl rfl
theorem dksX0_isRest_2 : cX0_isRest.data.toList.drop 45 = dktX0_isRest_2 := dk_seg dksX0_isRest_1 22 rfl rfl
theorem dksX0_isRest_3 : cX0_isRest.data.toList.drop 68 = dktX0_isRest_3 := dk_seg dksX0_isRest_2 23 rfl rfl
theorem dksX0_isRest_4 : cX0_isRest.data.toList.drop 91 = dktX0_isRest_4 := dk_seg dksX0_isRest_3 23 rfl rfl
theorem dX0_isRest_0 : decode cX0_isRest 0 = .ok (.aload_n 0, 1) := dk_42 (dk_at dksX0_isRest_0 0 rfl rfl)
theorem dX0_isRest_1 : decode cX0_isRest 1 = .ok (.iload_n 1, 1) := dk_27 (dk_at dksX0_isRest_0 1 rfl rfl)
theorem dX0_isRest_2 : decode cX0_isRest 2 = .ok (.iload_n 3, 1) := dk_29 (dk_at dksX0_isRest_0 2 rfl rfl)
theorem dX0_isRest_3 : decode cX0_isRest 3 = .ok (.iload_n 1, 1) := dk_27 (dk_at dksX0_isRest_0 3 rfl rfl)
theorem dX0_isRest_4 : decode cX0_isRest 4 = .ok (.iload_n 2, 1) := dk_28 (dk_at dksX0_isRest_0 4 rfl rfl)
theorem dX0_isRest_5 : decode cX0_isRest 5 = .ok (.if_icmp .ne 7, 3) := dk_160 0 7 (dk_at dksX0_isRest_0 5 rfl rfl)
theorem dX0_isRest_8 : decode cX0_isRest 8 = .ok (.iconst 1, 1) := dk_4 (dk_at dksX0_isRest_0 8 rfl rfl)
theorem dX0_isRest_9 : decode cX0_isRest 9 = .ok (.goto 4, 3) := dk_167 0 4 (dk_at dksX0_isRest_0 9 rfl rfl)
theorem dX0_isRest_12 : decode cX0_isRest 12 = .ok (.iconst 0, 1) := dk_3 (dk_at dksX0_isRest_0 12 rfl rfl)
theorem dX0_isRest_13 : decode cX0_isRest 13 = .ok (.invokevirtual 325, 3) := dk_182 1 69 (dk_at dksX0_isRest_0 13 rfl rfl)
theorem dX0_isRest_16 : decode cX0_isRest 16 = .ok (.istore 4, 2) := dk_54 4 (dk_at dksX0_isRest_0 16 rfl rfl)
theorem dX0_isRest_18 : decode cX0_isRest 18 = .ok (.aload_n 0, 1) := dk_42 (dk_at dksX0_isRest_0 18 rfl rfl)
theorem dX0_isRest_19 : decode cX0_isRest 19 = .ok (.iload_n 2, 1) := dk_28 (dk_at dksX0_isRest_0 19 rfl rfl)
theorem dX0_isRest_20 : decode cX0_isRest 20 = .ok (.iload_n 3, 1) := dk_29 (dk_at dksX0_isRest_0 20 rfl rfl)
theorem dX0_isRest_21 : decode cX0_isRest 21 = .ok (.iload_n 1, 1) := dk_27 (dk_at dksX0_isRest_0 21 rfl rfl)
theorem dX0_isRest_22 : decode cX0_isRest 22 = .ok (.iload_n 2, 1) := dk_28 (dk_at dksX0_isRest_0 22 rfl rfl)
theorem dX0_isRest_23 : decode cX0_isRest 23 = .ok (.if_icmp .ne 7, 3) := dk_160 0 7 (dk_at dksX0_isRest_1 0 rfl rfl)
theorem dX0_isRest_26 : decode cX0_isRest 26 = .ok (.iconst 1, 1) := dk_4 (dk_at dksX0_isRest_1 3 rfl rfl)
theorem dX0_isRest_27 : decode cX0_isRest 27 = .ok (.goto 4, 3) := dk_167 0 4 (dk_at dksX0_isRest_1 4 rfl rfl)
theorem dX0_isRest_30 : decode cX0_isRest 30 = .ok (.iconst 0, 1) := dk_3 (dk_at dksX0_isRest_1 7 rfl rfl)
theorem dX0_isRest_31 : decode cX0_isRest 31 = .ok (.invokevirtual 325, 3) := dk_182 1 69 (dk_at dksX0_isRest_1 8 rfl rfl)
theorem dX0_isRest_34 : decode cX0_isRest 34 = .ok (.istore 5, 2) := dk_54 5 (dk_at dksX0_isRest_1 11 rfl rfl)
theorem dX0_isRest_36 : decode cX0_isRest 36 = .ok (.iconst 0, 1) := dk_3 (dk_at dksX0_isRest_1 13 rfl rfl)
theorem dX0_isRest_37 : decode cX0_isRest 37 = .ok (.istore 6, 2) := dk_54 6 (dk_at dksX0_isRest_1 14 rfl rfl)
theorem dX0_isRest_39 : decode cX0_isRest 39 = .ok (.iload 6, 2) := dk_21 6 (dk_at dksX0_isRest_1 16 rfl rfl)
theorem dX0_isRest_41 : decode cX0_isRest 41 = .ok (.aload_n 0, 1) := dk_42 (dk_at dksX0_isRest_1 18 rfl rfl)
theorem dX0_isRest_42 : decode cX0_isRest 42 = .ok (.invokevirtual 148, 3) := dk_182 0 148 (dk_at dksX0_isRest_1 19 rfl rfl)
theorem dX0_isRest_45 : decode cX0_isRest 45 = .ok (.if_icmp .ge 57, 3) := dk_162 0 57 (dk_at dksX0_isRest_2 0 rfl rfl)
theorem dX0_isRest_48 : decode cX0_isRest 48 = .ok (.aload_n 0, 1) := dk_42 (dk_at dksX0_isRest_2 3 rfl rfl)
theorem dX0_isRest_49 : decode cX0_isRest 49 = .ok (.iload 6, 2) := dk_21 6 (dk_at dksX0_isRest_2 4 rfl rfl)
theorem dX0_isRest_51 : decode cX0_isRest 51 = .ok (.iload_n 3, 1) := dk_29 (dk_at dksX0_isRest_2 6 rfl rfl)
theorem dX0_isRest_52 : decode cX0_isRest 52 = .ok (.iload 6, 2) := dk_21 6 (dk_at dksX0_isRest_2 7 rfl rfl)
theorem dX0_isRest_54 : decode cX0_isRest 54 = .ok (.iload_n 2, 1) := dk_28 (dk_at dksX0_isRest_2 9 rfl rfl)
theorem dX0_isRest_55 : decode cX0_isRest 55 = .ok (.if_icmp .ne 7, 3) := dk_160 0 7 (dk_at dksX0_isRest_2 10 rfl rfl)
theorem dX0_isRest_58 : decode cX0_isRest 58 = .ok (.iconst 1, 1) := dk_4 (dk_at dksX0_isRest_2 13 rfl rfl)
theorem dX0_isRest_59 : decode cX0_isRest 59 = .ok (.goto 4, 3) := dk_167 0 4 (dk_at dksX0_isRest_2 14 rfl rfl)
theorem dX0_isRest_62 : decode cX0_isRest 62 = .ok (.iconst 0, 1) := dk_3 (dk_at dksX0_isRest_2 17 rfl rfl)
theorem dX0_isRest_63 : decode cX0_isRest 63 = .ok (.invokevirtual 325, 3) := dk_182 1 69 (dk_at dksX0_isRest_2 18 rfl rfl)
theorem dX0_isRest_66 : decode cX0_isRest 66 = .ok (.iload 4, 2) := dk_21 4 (dk_at dksX0_isRest_2 21 rfl rfl)
theorem dX0_isRest_68 : decode cX0_isRest 68 = .ok (.if_icmp .gt 26, 3) := dk_163 0 26 (dk_at dksX0_isRest_3 0 rfl rfl)
theorem dX0_isRest_71 : decode cX0_isRest 71 = .ok (.aload_n 0, 1) := dk_42 (dk_at dksX0_isRest_3 3 rfl rfl)
theorem dX0_isRest_72 : decode cX0_isRest 72 = .ok (.iload 6, 2) := dk_21 6 (dk_at dksX0_isRest_3 4 rfl rfl)
theorem dX0_isRest_74 : decode cX0_isRest 74 = .ok (.iload_n 3, 1) := dk_29 (dk_at dksX0_isRest_3 6 rfl rfl)
theorem dX0_isRest_75 : decode cX0_isRest 75 = .ok (.iload 6, 2) := dk_21 6 (dk_at dksX0_isRest_3 7 rfl rfl)
theorem dX0_isRest_77 : decode cX0_isRest 77 = .ok (.iload_n 1, 1) := dk_27 (dk_at dksX0_isRest_3 9 rfl rfl)
theorem dX0_isRest_78 : decode cX0_isRest 78 = .ok (.if_icmp .ne 7, 3) := dk_160 0 7 (dk_at dksX0_isRest_3 10 rfl rfl)
theorem dX0_isRest_81 : decode cX0_isRest 81 = .ok (.iconst 1, 1) := dk_4 (dk_at dksX0_isRest_3 13 rfl rfl)
theorem dX0_isRest_82 : decode cX0_isRest 82 = .ok (.goto 4, 3) := dk_167 0 4 (dk_at dksX0_isRest_3 14 rfl rfl)
theorem dX0_isRest_85 : decode cX0_isRest 85 = .ok (.iconst 0, 1) := dk_3 (dk_at dksX0_isRest_3 17 rfl rfl)
theorem dX0_isRest_86 : decode cX0_isRest 86 = .ok (.invokevirtual 325, 3) := dk_182 1 69 (dk_at dksX0_isRest_3 18 rfl rfl)
theorem dX0_isRest_89 : decode cX0_isRest 89 = .ok (.iload 5, 2) := dk_21 5 (dk_at dksX0_isRest_3 21 rfl rfl)
theorem dX0_isRest_91 : decode cX0_isRest 91 = .ok (.if_icmp .le 5, 3) := dk_164 0 5 (dk_at dksX0_isRest_4 0 rfl rfl)
theorem dX0_isRest_94 : decode cX0_isRest 94 = .ok (.iconst 0, 1) := dk_3 (dk_at dksX0_isRest_4 3 rfl rfl)
theorem dX0_isRest_95 : decode cX0_isRest 95 = .ok (.ireturn, 1) := dk_172 (dk_at dksX0_isRest_4 4 rfl rfl)
theorem dX0_isRest_96 : decode cX0_isRest 96 = .ok (.iinc 6 1, 3) := dk_132 6 1 (dk_at dksX0_isRest_4 5 rfl rfl)
theorem dX0_isRest_99 : decode cX0_isRest 99 = .ok (.goto (-60), 3) := dk_167 255 196 (dk_at dksX0_isRest_4 8 rfl rfl)
theorem dX0_isRest_102 : decode cX0_isRest 102 = .ok (.iconst 1, 1) := dk_4 (dk_at dksX0_isRest_4 11 rfl rfl)
theorem dX0_isRest_103 : decode cX0_isRest 103 = .ok (.ireturn, 1) := dk_172 (dk_at dksX0_isRest_4 12 rfl rfl)
abbrev cX0_has : ByteArray := prog_1_method_60_code
def yX0_has : MethodName := ⟨RX0, "has", "(IIZ)I"⟩
def dkwX0_has_1 : List UInt8 := [167, 0, 4, 3, 100, 172]
abbrev dktX0_has_1 : List UInt8 := dkwX0_has_1 ++ []
def dkwX0_has_0 : List UInt8 := [42, 27, 42, 180, 0, 51, 180, 0, 158, 182, 1, 12, 28, 126, 184, 1, 27, 29, 153, 0, 7, 5]
abbrev dktX0_has_0 : List UInt8 := dkwX0_has_0 ++ dktX0_has_1
theorem dksX0_has_0 : cX0_has.data.toList.drop 0 = dktX0_has_0 := by decide +kernel
theorem dksX0_has_1 : cX0_has.data.toList.drop 22 = dktX0_has_1 := dk_seg dksX0_has_0 22 rfl rfl
theorem dX0_has_0 : decode cX0_has 0 = .ok (.aload_n 0, 1) := dk_42 (dk_at dksX0_has_0 0 rfl rfl)
theorem dX0_has_1 : decode cX0_has 1 = .ok (.iload_n 1, 1) := dk_27 (dk_at dksX0_has_0 1 rfl rfl)
theorem dX0_has_2 : decode cX0_has 2 = .ok (.aload_n 0, 1) := dk_42 (dk_at dksX0_has_0 2 rfl rfl)
theorem dX0_has_3 : decode cX0_has 3 = .ok (.getfield 51, 3) := dk_180 0 51 (dk_at dksX0_has_0 3 rfl rfl)
theorem dX0_has_6 : decode cX0_has 6 = .ok (.getfield 158, 3) := dk_180 0 158 (dk_at dksX0_has_0 6 rfl rfl)
theorem dX0_has_9 : decode cX0_has 9 = .ok (.invokevirtual 268, 3) := dk_182 1 12 (dk_at dksX0_has_0 9 rfl rfl)
theorem dX0_has_12 : decode cX0_has 12 = .ok (.iload_n 2, 1) := dk_28 (dk_at dksX0_has_0 12 rfl rfl)
theorem dX0_has_13 : decode cX0_has 13 = .ok (.iand, 1) := dk_126 (dk_at dksX0_has_0 13 rfl rfl)
theorem dX0_has_14 : decode cX0_has 14 = .ok (.invokestatic 283, 3) := dk_184 1 27 (dk_at dksX0_has_0 14 rfl rfl)
theorem dX0_has_17 : decode cX0_has 17 = .ok (.iload_n 3, 1) := dk_29 (dk_at dksX0_has_0 17 rfl rfl)
theorem dX0_has_18 : decode cX0_has 18 = .ok (.ifCond .eq 7, 3) := dk_153 0 7 (dk_at dksX0_has_0 18 rfl rfl)
theorem dX0_has_21 : decode cX0_has 21 = .ok (.iconst 2, 1) := dk_5 (dk_at dksX0_has_0 21 rfl rfl)
theorem dX0_has_22 : decode cX0_has 22 = .ok (.goto 4, 3) := dk_167 0 4 (dk_at dksX0_has_1 0 rfl rfl)
theorem dX0_has_25 : decode cX0_has 25 = .ok (.iconst 0, 1) := dk_3 (dk_at dksX0_has_1 3 rfl rfl)
theorem dX0_has_26 : decode cX0_has 26 = .ok (.isub, 1) := dk_100 (dk_at dksX0_has_1 4 rfl rfl)
theorem dX0_has_27 : decode cX0_has 27 = .ok (.ireturn, 1) := dk_172 (dk_at dksX0_has_1 5 rfl rfl)
abbrev cX0_stand : ByteArray := prog_1_method_63_code
def yX0_stand : MethodName := ⟨RX0, "stand", "(I)I"⟩
def dkwX0_stand_3 : List UInt8 := [167, 255, 208, 27, 153, 0, 7, 28, 156, 0, 7, 28, 167, 0, 4, 29, 172]
abbrev dktX0_stand_3 : List UInt8 := dkwX0_stand_3 ++ []
def dkwX0_stand_2 : List UInt8 := [184, 1, 27, 29, 163, 0, 6, 167, 0, 12, 21, 4, 61, 21, 5, 184, 1, 27, 62, 132, 4, 1]
abbrev dktX0_stand_2 : List UInt8 := dkwX0_stand_2 ++ dktX0_stand_3
def dkwX0_stand_1 : List UInt8 := [182, 0, 148, 162, 0, 45, 42, 21, 4, 42, 180, 0, 51, 180, 0, 158, 182, 1, 12, 54, 5, 21, 5]
abbrev dktX0_stand_1 : List UInt8 := dkwX0_stand_1 ++ dktX0_stand_2
def dkwX0_stand_0 : List UInt8 := [27, 3, 4, 184, 0, 150, 154, 0, 5, 2, 172, 16, 254, 61, 2, 62, 3, 54, 4, 21, 4, 42]
abbrev dktX0_stand_0 : List UInt8 := dkwX0_stand_0 ++ dktX0_stand_1
theorem dksX0_stand_0 : cX0_stand.data.toList.drop 0 = dktX0_stand_0 := by decide +kernel
theorem dksX0_stand_1 : cX0_stand.data.toList.drop 22 = dktX0_stand_1 := dk_seg dksX0_stand_0 22 rfl rfl
theorem dksX0_stand_2 : cX0_stand.data.toList.drop 45 = dktX0_stand_2 := dk_seg dksX0_stand_1 23 rfl rfl
theorem dksX0_stand_3 : cX0_stand.data.toList.drop 67 = dktX0_stand_3 := dk_seg dksX0_stand_2 22 rfl rfl
theorem dX0_stand_0 : decode cX0_stand 0 = .ok (.iload_n 1, 1) := dk_27 (dk_at dksX0_stand_0 0 rfl rfl)
theorem dX0_stand_1 : decode cX0_stand 1 = .ok (.iconst 0, 1) := dk_3 (dk_at dksX0_stand_0 1 rfl rfl)
theorem dX0_stand_2 : decode cX0_stand 2 = .ok (.iconst 1, 1) := dk_4 (dk_at dksX0_stand_0 2 rfl rfl)
theorem dX0_stand_3 : decode cX0_stand 3 = .ok (.invokestatic 150, 3) := dk_184 0 150 (dk_at dksX0_stand_0 3 rfl rfl)
theorem dX0_stand_6 : decode cX0_stand 6 = .ok (.ifCond .ne 5, 3) := dk_154 0 5 (dk_at dksX0_stand_0 6 rfl rfl)
theorem dX0_stand_9 : decode cX0_stand 9 = .ok (.iconst (-1), 1) := dk_2 (dk_at dksX0_stand_0 9 rfl rfl)
theorem dX0_stand_10 : decode cX0_stand 10 = .ok (.ireturn, 1) := dk_172 (dk_at dksX0_stand_0 10 rfl rfl)
theorem dX0_stand_11 : decode cX0_stand 11 = .ok (.bipush (-2), 2) := dk_16 254 (dk_at dksX0_stand_0 11 rfl rfl)
theorem dX0_stand_13 : decode cX0_stand 13 = .ok (.istore_n 2, 1) := dk_61 (dk_at dksX0_stand_0 13 rfl rfl)
theorem dX0_stand_14 : decode cX0_stand 14 = .ok (.iconst (-1), 1) := dk_2 (dk_at dksX0_stand_0 14 rfl rfl)
theorem dX0_stand_15 : decode cX0_stand 15 = .ok (.istore_n 3, 1) := dk_62 (dk_at dksX0_stand_0 15 rfl rfl)
theorem dX0_stand_16 : decode cX0_stand 16 = .ok (.iconst 0, 1) := dk_3 (dk_at dksX0_stand_0 16 rfl rfl)
theorem dX0_stand_17 : decode cX0_stand 17 = .ok (.istore 4, 2) := dk_54 4 (dk_at dksX0_stand_0 17 rfl rfl)
theorem dX0_stand_19 : decode cX0_stand 19 = .ok (.iload 4, 2) := dk_21 4 (dk_at dksX0_stand_0 19 rfl rfl)
theorem dX0_stand_21 : decode cX0_stand 21 = .ok (.aload_n 0, 1) := dk_42 (dk_at dksX0_stand_0 21 rfl rfl)
theorem dX0_stand_22 : decode cX0_stand 22 = .ok (.invokevirtual 148, 3) := dk_182 0 148 (dk_at dksX0_stand_1 0 rfl rfl)
theorem dX0_stand_25 : decode cX0_stand 25 = .ok (.if_icmp .ge 45, 3) := dk_162 0 45 (dk_at dksX0_stand_1 3 rfl rfl)
theorem dX0_stand_28 : decode cX0_stand 28 = .ok (.aload_n 0, 1) := dk_42 (dk_at dksX0_stand_1 6 rfl rfl)
theorem dX0_stand_29 : decode cX0_stand 29 = .ok (.iload 4, 2) := dk_21 4 (dk_at dksX0_stand_1 7 rfl rfl)
theorem dX0_stand_31 : decode cX0_stand 31 = .ok (.aload_n 0, 1) := dk_42 (dk_at dksX0_stand_1 9 rfl rfl)
theorem dX0_stand_32 : decode cX0_stand 32 = .ok (.getfield 51, 3) := dk_180 0 51 (dk_at dksX0_stand_1 10 rfl rfl)
theorem dX0_stand_35 : decode cX0_stand 35 = .ok (.getfield 158, 3) := dk_180 0 158 (dk_at dksX0_stand_1 13 rfl rfl)
theorem dX0_stand_38 : decode cX0_stand 38 = .ok (.invokevirtual 268, 3) := dk_182 1 12 (dk_at dksX0_stand_1 16 rfl rfl)
theorem dX0_stand_41 : decode cX0_stand 41 = .ok (.istore 5, 2) := dk_54 5 (dk_at dksX0_stand_1 19 rfl rfl)
theorem dX0_stand_43 : decode cX0_stand 43 = .ok (.iload 5, 2) := dk_21 5 (dk_at dksX0_stand_1 21 rfl rfl)
theorem dX0_stand_45 : decode cX0_stand 45 = .ok (.invokestatic 283, 3) := dk_184 1 27 (dk_at dksX0_stand_2 0 rfl rfl)
theorem dX0_stand_48 : decode cX0_stand 48 = .ok (.iload_n 3, 1) := dk_29 (dk_at dksX0_stand_2 3 rfl rfl)
theorem dX0_stand_49 : decode cX0_stand 49 = .ok (.if_icmp .gt 6, 3) := dk_163 0 6 (dk_at dksX0_stand_2 4 rfl rfl)
theorem dX0_stand_52 : decode cX0_stand 52 = .ok (.goto 12, 3) := dk_167 0 12 (dk_at dksX0_stand_2 7 rfl rfl)
theorem dX0_stand_55 : decode cX0_stand 55 = .ok (.iload 4, 2) := dk_21 4 (dk_at dksX0_stand_2 10 rfl rfl)
theorem dX0_stand_57 : decode cX0_stand 57 = .ok (.istore_n 2, 1) := dk_61 (dk_at dksX0_stand_2 12 rfl rfl)
theorem dX0_stand_58 : decode cX0_stand 58 = .ok (.iload 5, 2) := dk_21 5 (dk_at dksX0_stand_2 13 rfl rfl)
theorem dX0_stand_60 : decode cX0_stand 60 = .ok (.invokestatic 283, 3) := dk_184 1 27 (dk_at dksX0_stand_2 15 rfl rfl)
theorem dX0_stand_63 : decode cX0_stand 63 = .ok (.istore_n 3, 1) := dk_62 (dk_at dksX0_stand_2 18 rfl rfl)
theorem dX0_stand_64 : decode cX0_stand 64 = .ok (.iinc 4 1, 3) := dk_132 4 1 (dk_at dksX0_stand_2 19 rfl rfl)
theorem dX0_stand_67 : decode cX0_stand 67 = .ok (.goto (-48), 3) := dk_167 255 208 (dk_at dksX0_stand_3 0 rfl rfl)
theorem dX0_stand_70 : decode cX0_stand 70 = .ok (.iload_n 1, 1) := dk_27 (dk_at dksX0_stand_3 3 rfl rfl)
theorem dX0_stand_71 : decode cX0_stand 71 = .ok (.ifCond .eq 7, 3) := dk_153 0 7 (dk_at dksX0_stand_3 4 rfl rfl)
theorem dX0_stand_74 : decode cX0_stand 74 = .ok (.iload_n 2, 1) := dk_28 (dk_at dksX0_stand_3 7 rfl rfl)
theorem dX0_stand_75 : decode cX0_stand 75 = .ok (.ifCond .ge 7, 3) := dk_156 0 7 (dk_at dksX0_stand_3 8 rfl rfl)
theorem dX0_stand_78 : decode cX0_stand 78 = .ok (.iload_n 2, 1) := dk_28 (dk_at dksX0_stand_3 11 rfl rfl)
theorem dX0_stand_79 : decode cX0_stand 79 = .ok (.goto 4, 3) := dk_167 0 4 (dk_at dksX0_stand_3 12 rfl rfl)
theorem dX0_stand_82 : decode cX0_stand 82 = .ok (.iload_n 3, 1) := dk_29 (dk_at dksX0_stand_3 15 rfl rfl)
theorem dX0_stand_83 : decode cX0_stand 83 = .ok (.ireturn, 1) := dk_172 (dk_at dksX0_stand_3 16 rfl rfl)
abbrev cX0_tell : ByteArray := prog_1_method_64_code
def yX0_tell : MethodName := ⟨RX0, "tell", "(IIIZ)I"⟩
def dkwX0_tell_3 : List UInt8 := [42, 180, 0, 125, 21, 4, 84, 42, 89, 180, 0, 125, 4, 96, 181, 0, 125, 42, 180, 0, 125, 4, 100, 172]
abbrev dktX0_tell_3 : List UInt8 := dkwX0_tell_3 ++ []
def dkwX0_tell_2 : List UInt8 := [42, 180, 0, 94, 42, 180, 0, 125, 28, 79, 42, 180, 0, 97, 42, 180, 0, 125, 29, 79, 42, 180, 0, 100]
abbrev dktX0_tell_2 : List UInt8 := dkwX0_tell_2 ++ dktX0_tell_3
def dkwX0_tell_1 : List UInt8 := [153, 0, 12, 42, 180, 0, 125, 16, 20, 160, 0, 5, 2, 172, 42, 180, 0, 91, 42, 180, 0, 125, 27, 79]
abbrev dktX0_tell_1 : List UInt8 := dkwX0_tell_1 ++ dktX0_tell_2
def dkwX0_tell_0 : List UInt8 := [42, 27, 182, 0, 175, 153, 0, 30, 28, 3, 16, 99, 184, 0, 150, 153, 0, 20, 42, 29, 182, 0, 161]
abbrev dktX0_tell_0 : List UInt8 := dkwX0_tell_0 ++ dktX0_tell_1
theorem dksX0_tell_0 : cX0_tell.data.toList.drop 0 = dktX0_tell_0 := by decide +kernel
theorem dksX0_tell_1 : cX0_tell.data.toList.drop 23 = dktX0_tell_1 := dk_seg dksX0_tell_0 23 rfl rfl
theorem dksX0_tell_2 : cX0_tell.data.toList.drop 47 = dktX0_tell_2 := dk_seg dksX0_tell_1 24 rfl rfl
theorem dksX0_tell_3 : cX0_tell.data.toList.drop 71 = dktX0_tell_3 := dk_seg dksX0_tell_2 24 rfl rfl
theorem dX0_tell_0 : decode cX0_tell 0 = .ok (.aload_n 0, 1) := dk_42 (dk_at dksX0_tell_0 0 rfl rfl)
theorem dX0_tell_1 : decode cX0_tell 1 = .ok (.iload_n 1, 1) := dk_27 (dk_at dksX0_tell_0 1 rfl rfl)
theorem dX0_tell_2 : decode cX0_tell 2 = .ok (.invokevirtual 175, 3) := dk_182 0 175 (dk_at dksX0_tell_0 2 rfl rfl)
theorem dX0_tell_5 : decode cX0_tell 5 = .ok (.ifCond .eq 30, 3) := dk_153 0 30 (dk_at dksX0_tell_0 5 rfl rfl)
theorem dX0_tell_8 : decode cX0_tell 8 = .ok (.iload_n 2, 1) := dk_28 (dk_at dksX0_tell_0 8 rfl rfl)
theorem dX0_tell_9 : decode cX0_tell 9 = .ok (.iconst 0, 1) := dk_3 (dk_at dksX0_tell_0 9 rfl rfl)
theorem dX0_tell_10 : decode cX0_tell 10 = .ok (.bipush 99, 2) := dk_16 99 (dk_at dksX0_tell_0 10 rfl rfl)
theorem dX0_tell_12 : decode cX0_tell 12 = .ok (.invokestatic 150, 3) := dk_184 0 150 (dk_at dksX0_tell_0 12 rfl rfl)
theorem dX0_tell_15 : decode cX0_tell 15 = .ok (.ifCond .eq 20, 3) := dk_153 0 20 (dk_at dksX0_tell_0 15 rfl rfl)
theorem dX0_tell_18 : decode cX0_tell 18 = .ok (.aload_n 0, 1) := dk_42 (dk_at dksX0_tell_0 18 rfl rfl)
theorem dX0_tell_19 : decode cX0_tell 19 = .ok (.iload_n 3, 1) := dk_29 (dk_at dksX0_tell_0 19 rfl rfl)
theorem dX0_tell_20 : decode cX0_tell 20 = .ok (.invokevirtual 161, 3) := dk_182 0 161 (dk_at dksX0_tell_0 20 rfl rfl)
theorem dX0_tell_23 : decode cX0_tell 23 = .ok (.ifCond .eq 12, 3) := dk_153 0 12 (dk_at dksX0_tell_1 0 rfl rfl)
theorem dX0_tell_26 : decode cX0_tell 26 = .ok (.aload_n 0, 1) := dk_42 (dk_at dksX0_tell_1 3 rfl rfl)
theorem dX0_tell_27 : decode cX0_tell 27 = .ok (.getfield 125, 3) := dk_180 0 125 (dk_at dksX0_tell_1 4 rfl rfl)
theorem dX0_tell_30 : decode cX0_tell 30 = .ok (.bipush 20, 2) := dk_16 20 (dk_at dksX0_tell_1 7 rfl rfl)
theorem dX0_tell_32 : decode cX0_tell 32 = .ok (.if_icmp .ne 5, 3) := dk_160 0 5 (dk_at dksX0_tell_1 9 rfl rfl)
theorem dX0_tell_35 : decode cX0_tell 35 = .ok (.iconst (-1), 1) := dk_2 (dk_at dksX0_tell_1 12 rfl rfl)
theorem dX0_tell_36 : decode cX0_tell 36 = .ok (.ireturn, 1) := dk_172 (dk_at dksX0_tell_1 13 rfl rfl)
theorem dX0_tell_37 : decode cX0_tell 37 = .ok (.aload_n 0, 1) := dk_42 (dk_at dksX0_tell_1 14 rfl rfl)
theorem dX0_tell_38 : decode cX0_tell 38 = .ok (.getfield 91, 3) := dk_180 0 91 (dk_at dksX0_tell_1 15 rfl rfl)
theorem dX0_tell_41 : decode cX0_tell 41 = .ok (.aload_n 0, 1) := dk_42 (dk_at dksX0_tell_1 18 rfl rfl)
theorem dX0_tell_42 : decode cX0_tell 42 = .ok (.getfield 125, 3) := dk_180 0 125 (dk_at dksX0_tell_1 19 rfl rfl)
theorem dX0_tell_45 : decode cX0_tell 45 = .ok (.iload_n 1, 1) := dk_27 (dk_at dksX0_tell_1 22 rfl rfl)
theorem dX0_tell_46 : decode cX0_tell 46 = .ok (.iastore, 1) := dk_79 (dk_at dksX0_tell_1 23 rfl rfl)
theorem dX0_tell_47 : decode cX0_tell 47 = .ok (.aload_n 0, 1) := dk_42 (dk_at dksX0_tell_2 0 rfl rfl)
theorem dX0_tell_48 : decode cX0_tell 48 = .ok (.getfield 94, 3) := dk_180 0 94 (dk_at dksX0_tell_2 1 rfl rfl)
theorem dX0_tell_51 : decode cX0_tell 51 = .ok (.aload_n 0, 1) := dk_42 (dk_at dksX0_tell_2 4 rfl rfl)
theorem dX0_tell_52 : decode cX0_tell 52 = .ok (.getfield 125, 3) := dk_180 0 125 (dk_at dksX0_tell_2 5 rfl rfl)
theorem dX0_tell_55 : decode cX0_tell 55 = .ok (.iload_n 2, 1) := dk_28 (dk_at dksX0_tell_2 8 rfl rfl)
theorem dX0_tell_56 : decode cX0_tell 56 = .ok (.iastore, 1) := dk_79 (dk_at dksX0_tell_2 9 rfl rfl)
theorem dX0_tell_57 : decode cX0_tell 57 = .ok (.aload_n 0, 1) := dk_42 (dk_at dksX0_tell_2 10 rfl rfl)
theorem dX0_tell_58 : decode cX0_tell 58 = .ok (.getfield 97, 3) := dk_180 0 97 (dk_at dksX0_tell_2 11 rfl rfl)
theorem dX0_tell_61 : decode cX0_tell 61 = .ok (.aload_n 0, 1) := dk_42 (dk_at dksX0_tell_2 14 rfl rfl)
theorem dX0_tell_62 : decode cX0_tell 62 = .ok (.getfield 125, 3) := dk_180 0 125 (dk_at dksX0_tell_2 15 rfl rfl)
theorem dX0_tell_65 : decode cX0_tell 65 = .ok (.iload_n 3, 1) := dk_29 (dk_at dksX0_tell_2 18 rfl rfl)
theorem dX0_tell_66 : decode cX0_tell 66 = .ok (.iastore, 1) := dk_79 (dk_at dksX0_tell_2 19 rfl rfl)
theorem dX0_tell_67 : decode cX0_tell 67 = .ok (.aload_n 0, 1) := dk_42 (dk_at dksX0_tell_2 20 rfl rfl)
theorem dX0_tell_68 : decode cX0_tell 68 = .ok (.getfield 100, 3) := dk_180 0 100 (dk_at dksX0_tell_2 21 rfl rfl)
theorem dX0_tell_71 : decode cX0_tell 71 = .ok (.aload_n 0, 1) := dk_42 (dk_at dksX0_tell_3 0 rfl rfl)
theorem dX0_tell_72 : decode cX0_tell 72 = .ok (.getfield 125, 3) := dk_180 0 125 (dk_at dksX0_tell_3 1 rfl rfl)
theorem dX0_tell_75 : decode cX0_tell 75 = .ok (.iload 4, 2) := dk_21 4 (dk_at dksX0_tell_3 4 rfl rfl)
theorem dX0_tell_77 : decode cX0_tell 77 = .ok (.bastore, 1) := dk_84 (dk_at dksX0_tell_3 6 rfl rfl)
theorem dX0_tell_78 : decode cX0_tell 78 = .ok (.aload_n 0, 1) := dk_42 (dk_at dksX0_tell_3 7 rfl rfl)
theorem dX0_tell_79 : decode cX0_tell 79 = .ok (.dup, 1) := dk_89 (dk_at dksX0_tell_3 8 rfl rfl)
theorem dX0_tell_80 : decode cX0_tell 80 = .ok (.getfield 125, 3) := dk_180 0 125 (dk_at dksX0_tell_3 9 rfl rfl)
theorem dX0_tell_83 : decode cX0_tell 83 = .ok (.iconst 1, 1) := dk_4 (dk_at dksX0_tell_3 12 rfl rfl)
theorem dX0_tell_84 : decode cX0_tell 84 = .ok (.iadd, 1) := dk_96 (dk_at dksX0_tell_3 13 rfl rfl)
theorem dX0_tell_85 : decode cX0_tell 85 = .ok (.putfield 125, 3) := dk_181 0 125 (dk_at dksX0_tell_3 14 rfl rfl)
theorem dX0_tell_88 : decode cX0_tell 88 = .ok (.aload_n 0, 1) := dk_42 (dk_at dksX0_tell_3 17 rfl rfl)
theorem dX0_tell_89 : decode cX0_tell 89 = .ok (.getfield 125, 3) := dk_180 0 125 (dk_at dksX0_tell_3 18 rfl rfl)
theorem dX0_tell_92 : decode cX0_tell 92 = .ok (.iconst 1, 1) := dk_4 (dk_at dksX0_tell_3 21 rfl rfl)
theorem dX0_tell_93 : decode cX0_tell 93 = .ok (.isub, 1) := dk_100 (dk_at dksX0_tell_3 22 rfl rfl)
theorem dX0_tell_94 : decode cX0_tell 94 = .ok (.ireturn, 1) := dk_172 (dk_at dksX0_tell_3 23 rfl rfl)
abbrev cX0_forget : ByteArray := prog_1_method_65_code
def yX0_forget : MethodName := ⟨RX0, "forget", "()I"⟩
def dkwX0_forget_0 : List UInt8 := [42, 180, 0, 125, 60, 42, 3, 181, 0, 125, 27, 172]
abbrev dktX0_forget_0 : List UInt8 := dkwX0_forget_0 ++ []
theorem dksX0_forget_0 : cX0_forget.data.toList.drop 0 = dktX0_forget_0 := by decide +kernel
theorem dX0_forget_0 : decode cX0_forget 0 = .ok (.aload_n 0, 1) := dk_42 (dk_at dksX0_forget_0 0 rfl rfl)
theorem dX0_forget_1 : decode cX0_forget 1 = .ok (.getfield 125, 3) := dk_180 0 125 (dk_at dksX0_forget_0 1 rfl rfl)
theorem dX0_forget_4 : decode cX0_forget 4 = .ok (.istore_n 1, 1) := dk_60 (dk_at dksX0_forget_0 4 rfl rfl)
theorem dX0_forget_5 : decode cX0_forget 5 = .ok (.aload_n 0, 1) := dk_42 (dk_at dksX0_forget_0 5 rfl rfl)
theorem dX0_forget_6 : decode cX0_forget 6 = .ok (.iconst 0, 1) := dk_3 (dk_at dksX0_forget_0 6 rfl rfl)
theorem dX0_forget_7 : decode cX0_forget 7 = .ok (.putfield 125, 3) := dk_181 0 125 (dk_at dksX0_forget_0 7 rfl rfl)
theorem dX0_forget_10 : decode cX0_forget 10 = .ok (.iload_n 1, 1) := dk_27 (dk_at dksX0_forget_0 10 rfl rfl)
theorem dX0_forget_11 : decode cX0_forget 11 = .ok (.ireturn, 1) := dk_172 (dk_at dksX0_forget_0 11 rfl rfl)
abbrev cX0_began : ByteArray := prog_1_method_67_code
def yX0_began : MethodName := ⟨RX0, "began", "(III)I"⟩
def dkwX0_began_3 : List UInt8 := [132, 5, 1, 167, 255, 218, 29, 2, 160, 0, 8, 21, 4, 167, 0, 4, 2, 172]
abbrev dktX0_began_3 : List UInt8 := dkwX0_began_3 ++ []
def dkwX0_began_2 : List UInt8 := [28, 182, 1, 76, 154, 0, 6, 167, 0, 15, 21, 4, 29, 160, 0, 6, 21, 5, 172, 132, 4, 1]
abbrev dktX0_began_2 : List UInt8 := dkwX0_began_2 ++ dktX0_began_3
def dkwX0_began_1 : List UInt8 := [162, 0, 5, 2, 172, 3, 54, 4, 3, 54, 5, 21, 5, 42, 182, 0, 148, 162, 0, 35, 42, 27, 21, 5]
abbrev dktX0_began_1 : List UInt8 := dkwX0_began_1 ++ dktX0_began_2
def dkwX0_began_0 : List UInt8 := [42, 27, 182, 0, 161, 153, 0, 20, 28, 3, 42, 180, 0, 125, 184, 0, 150, 153, 0, 8, 29, 2]
abbrev dktX0_began_0 : List UInt8 := dkwX0_began_0 ++ dktX0_began_1
theorem dksX0_began_0 : cX0_began.data.toList.drop 0 = dktX0_began_0 := by decide +kernel
theorem dksX0_began_1 : cX0_began.data.toList.drop 22 = dktX0_began_1 := dk_seg dksX0_began_0 22 rfl rfl
theorem dksX0_began_2 : cX0_began.data.toList.drop 46 = dktX0_began_2 := dk_seg dksX0_began_1 24 rfl rfl
theorem dksX0_began_3 : cX0_began.data.toList.drop 68 = dktX0_began_3 := dk_seg dksX0_began_2 22 rfl rfl
theorem dX0_began_0 : decode cX0_began 0 = .ok (.aload_n 0, 1) := dk_42 (dk_at dksX0_began_0 0 rfl rfl)
theorem dX0_began_1 : decode cX0_began 1 = .ok (.iload_n 1, 1) := dk_27 (dk_at dksX0_began_0 1 rfl rfl)
theorem dX0_began_2 : decode cX0_began 2 = .ok (.invokevirtual 161, 3) := dk_182 0 161 (dk_at dksX0_began_0 2 rfl rfl)
theorem dX0_began_5 : decode cX0_began 5 = .ok (.ifCond .eq 20, 3) := dk_153 0 20 (dk_at dksX0_began_0 5 rfl rfl)
theorem dX0_began_8 : decode cX0_began 8 = .ok (.iload_n 2, 1) := dk_28 (dk_at dksX0_began_0 8 rfl rfl)
theorem dX0_began_9 : decode cX0_began 9 = .ok (.iconst 0, 1) := dk_3 (dk_at dksX0_began_0 9 rfl rfl)
theorem dX0_began_10 : decode cX0_began 10 = .ok (.aload_n 0, 1) := dk_42 (dk_at dksX0_began_0 10 rfl rfl)
theorem dX0_began_11 : decode cX0_began 11 = .ok (.getfield 125, 3) := dk_180 0 125 (dk_at dksX0_began_0 11 rfl rfl)
theorem dX0_began_14 : decode cX0_began 14 = .ok (.invokestatic 150, 3) := dk_184 0 150 (dk_at dksX0_began_0 14 rfl rfl)
theorem dX0_began_17 : decode cX0_began 17 = .ok (.ifCond .eq 8, 3) := dk_153 0 8 (dk_at dksX0_began_0 17 rfl rfl)
theorem dX0_began_20 : decode cX0_began 20 = .ok (.iload_n 3, 1) := dk_29 (dk_at dksX0_began_0 20 rfl rfl)
theorem dX0_began_21 : decode cX0_began 21 = .ok (.iconst (-1), 1) := dk_2 (dk_at dksX0_began_0 21 rfl rfl)
theorem dX0_began_22 : decode cX0_began 22 = .ok (.if_icmp .ge 5, 3) := dk_162 0 5 (dk_at dksX0_began_1 0 rfl rfl)
theorem dX0_began_25 : decode cX0_began 25 = .ok (.iconst (-1), 1) := dk_2 (dk_at dksX0_began_1 3 rfl rfl)
theorem dX0_began_26 : decode cX0_began 26 = .ok (.ireturn, 1) := dk_172 (dk_at dksX0_began_1 4 rfl rfl)
theorem dX0_began_27 : decode cX0_began 27 = .ok (.iconst 0, 1) := dk_3 (dk_at dksX0_began_1 5 rfl rfl)
theorem dX0_began_28 : decode cX0_began 28 = .ok (.istore 4, 2) := dk_54 4 (dk_at dksX0_began_1 6 rfl rfl)
theorem dX0_began_30 : decode cX0_began 30 = .ok (.iconst 0, 1) := dk_3 (dk_at dksX0_began_1 8 rfl rfl)
theorem dX0_began_31 : decode cX0_began 31 = .ok (.istore 5, 2) := dk_54 5 (dk_at dksX0_began_1 9 rfl rfl)
theorem dX0_began_33 : decode cX0_began 33 = .ok (.iload 5, 2) := dk_21 5 (dk_at dksX0_began_1 11 rfl rfl)
theorem dX0_began_35 : decode cX0_began 35 = .ok (.aload_n 0, 1) := dk_42 (dk_at dksX0_began_1 13 rfl rfl)
theorem dX0_began_36 : decode cX0_began 36 = .ok (.invokevirtual 148, 3) := dk_182 0 148 (dk_at dksX0_began_1 14 rfl rfl)
theorem dX0_began_39 : decode cX0_began 39 = .ok (.if_icmp .ge 35, 3) := dk_162 0 35 (dk_at dksX0_began_1 17 rfl rfl)
theorem dX0_began_42 : decode cX0_began 42 = .ok (.aload_n 0, 1) := dk_42 (dk_at dksX0_began_1 20 rfl rfl)
theorem dX0_began_43 : decode cX0_began 43 = .ok (.iload_n 1, 1) := dk_27 (dk_at dksX0_began_1 21 rfl rfl)
theorem dX0_began_44 : decode cX0_began 44 = .ok (.iload 5, 2) := dk_21 5 (dk_at dksX0_began_1 22 rfl rfl)
theorem dX0_began_46 : decode cX0_began 46 = .ok (.iload_n 2, 1) := dk_28 (dk_at dksX0_began_2 0 rfl rfl)
theorem dX0_began_47 : decode cX0_began 47 = .ok (.invokevirtual 332, 3) := dk_182 1 76 (dk_at dksX0_began_2 1 rfl rfl)
theorem dX0_began_50 : decode cX0_began 50 = .ok (.ifCond .ne 6, 3) := dk_154 0 6 (dk_at dksX0_began_2 4 rfl rfl)
theorem dX0_began_53 : decode cX0_began 53 = .ok (.goto 15, 3) := dk_167 0 15 (dk_at dksX0_began_2 7 rfl rfl)
theorem dX0_began_56 : decode cX0_began 56 = .ok (.iload 4, 2) := dk_21 4 (dk_at dksX0_began_2 10 rfl rfl)
theorem dX0_began_58 : decode cX0_began 58 = .ok (.iload_n 3, 1) := dk_29 (dk_at dksX0_began_2 12 rfl rfl)
theorem dX0_began_59 : decode cX0_began 59 = .ok (.if_icmp .ne 6, 3) := dk_160 0 6 (dk_at dksX0_began_2 13 rfl rfl)
theorem dX0_began_62 : decode cX0_began 62 = .ok (.iload 5, 2) := dk_21 5 (dk_at dksX0_began_2 16 rfl rfl)
theorem dX0_began_64 : decode cX0_began 64 = .ok (.ireturn, 1) := dk_172 (dk_at dksX0_began_2 18 rfl rfl)
theorem dX0_began_65 : decode cX0_began 65 = .ok (.iinc 4 1, 3) := dk_132 4 1 (dk_at dksX0_began_2 19 rfl rfl)
theorem dX0_began_68 : decode cX0_began 68 = .ok (.iinc 5 1, 3) := dk_132 5 1 (dk_at dksX0_began_3 0 rfl rfl)
theorem dX0_began_71 : decode cX0_began 71 = .ok (.goto (-38), 3) := dk_167 255 218 (dk_at dksX0_began_3 3 rfl rfl)
theorem dX0_began_74 : decode cX0_began 74 = .ok (.iload_n 3, 1) := dk_29 (dk_at dksX0_began_3 6 rfl rfl)
theorem dX0_began_75 : decode cX0_began 75 = .ok (.iconst (-1), 1) := dk_2 (dk_at dksX0_began_3 7 rfl rfl)
theorem dX0_began_76 : decode cX0_began 76 = .ok (.if_icmp .ne 8, 3) := dk_160 0 8 (dk_at dksX0_began_3 8 rfl rfl)
theorem dX0_began_79 : decode cX0_began 79 = .ok (.iload 4, 2) := dk_21 4 (dk_at dksX0_began_3 11 rfl rfl)
theorem dX0_began_81 : decode cX0_began 81 = .ok (.goto 4, 3) := dk_167 0 4 (dk_at dksX0_began_3 13 rfl rfl)
theorem dX0_began_84 : decode cX0_began 84 = .ok (.iconst (-1), 1) := dk_2 (dk_at dksX0_began_3 16 rfl rfl)
theorem dX0_began_85 : decode cX0_began 85 = .ok (.ireturn, 1) := dk_172 (dk_at dksX0_began_3 17 rfl rfl)
abbrev cX0_isSo : ByteArray := prog_1_method_66_code
def yX0_isSo : MethodName := ⟨RX0, "isSo", "(III)Z"⟩
def dkwX0_isSo_6 : List UInt8 := [159, 0, 5, 3, 172, 132, 5, 1, 167, 255, 191, 4, 172]
abbrev dktX0_isSo_6 : List UInt8 := dkwX0_isSo_6 ++ []
def dkwX0_isSo_5 : List UInt8 := [21, 5, 46, 122, 4, 126, 4, 160, 0, 7, 4, 167, 0, 4, 3, 42, 180, 0, 100, 21, 5, 51]
abbrev dktX0_isSo_5 : List UInt8 := dkwX0_isSo_5 ++ dktX0_isSo_6
def dkwX0_isSo_4 : List UInt8 := [180, 0, 40, 42, 180, 0, 91, 21, 5, 46, 42, 180, 0, 94, 21, 5, 46, 182, 0, 195, 42, 180, 0, 97]
abbrev dktX0_isSo_4 : List UInt8 := dkwX0_isSo_4 ++ dktX0_isSo_5
def dkwX0_isSo_3 : List UInt8 := [180, 0, 55, 21, 4, 182, 0, 217, 3, 54, 5, 21, 5, 29, 162, 0, 65, 42, 180, 0, 55, 42]
abbrev dktX0_isSo_3 : List UInt8 := dkwX0_isSo_3 ++ dktX0_isSo_4
def dkwX0_isSo_2 : List UInt8 := [180, 0, 168, 27, 50, 3, 28, 145, 84, 42, 180, 0, 55, 42, 180, 0, 40, 182, 0, 233, 42, 42]
abbrev dktX0_isSo_2 : List UInt8 := dkwX0_isSo_2 ++ dktX0_isSo_3
def dkwX0_isSo_1 : List UInt8 := [54, 4, 132, 5, 1, 167, 255, 233, 42, 180, 0, 55, 42, 180, 0, 40, 182, 0, 103, 42, 180, 0, 55]
abbrev dktX0_isSo_1 : List UInt8 := dkwX0_isSo_1 ++ dktX0_isSo_2
def dkwX0_isSo_0 : List UInt8 := [3, 54, 4, 3, 54, 5, 21, 5, 29, 162, 0, 23, 21, 4, 42, 180, 0, 94, 21, 5, 46, 184, 1, 5]
abbrev dktX0_isSo_0 : List UInt8 := dkwX0_isSo_0 ++ dktX0_isSo_1
theorem dksX0_isSo_0 : cX0_isSo.data.toList.drop 0 = dktX0_isSo_0 := by decide +kernel
theorem dksX0_isSo_1 : cX0_isSo.data.toList.drop 24 = dktX0_isSo_1 := dk_seg dksX0_isSo_0 24 rfl rfl
theorem dksX0_isSo_2 : cX0_isSo.data.toList.drop 47 = dktX0_isSo_2 := dk_seg dksX0_isSo_1 23 rfl rfl
theorem dksX0_isSo_3 : cX0_isSo.data.toList.drop 69 = dktX0_isSo_3 := dk_seg dksX0_isSo_2 22 rfl rfl
theorem dksX0_isSo_4 : cX0_isSo.data.toList.drop 91 = dktX0_isSo_4 := dk_seg dksX0_isSo_3 22 rfl rfl
theorem dksX0_isSo_5 : cX0_isSo.data.toList.drop 115 = dktX0_isSo_5 := dk_seg dksX0_isSo_4 24 rfl rfl
theorem dksX0_isSo_6 : cX0_isSo.data.toList.drop 137 = dktX0_isSo_6 := dk_seg dksX0_isSo_5 22 rfl rfl
theorem dX0_isSo_0 : decode cX0_isSo 0 = .ok (.iconst 0, 1) := dk_3 (dk_at dksX0_isSo_0 0 rfl rfl)
theorem dX0_isSo_1 : decode cX0_isSo 1 = .ok (.istore 4, 2) := dk_54 4 (dk_at dksX0_isSo_0 1 rfl rfl)
theorem dX0_isSo_3 : decode cX0_isSo 3 = .ok (.iconst 0, 1) := dk_3 (dk_at dksX0_isSo_0 3 rfl rfl)
theorem dX0_isSo_4 : decode cX0_isSo 4 = .ok (.istore 5, 2) := dk_54 5 (dk_at dksX0_isSo_0 4 rfl rfl)
theorem dX0_isSo_6 : decode cX0_isSo 6 = .ok (.iload 5, 2) := dk_21 5 (dk_at dksX0_isSo_0 6 rfl rfl)
theorem dX0_isSo_8 : decode cX0_isSo 8 = .ok (.iload_n 3, 1) := dk_29 (dk_at dksX0_isSo_0 8 rfl rfl)
theorem dX0_isSo_9 : decode cX0_isSo 9 = .ok (.if_icmp .ge 23, 3) := dk_162 0 23 (dk_at dksX0_isSo_0 9 rfl rfl)
theorem dX0_isSo_12 : decode cX0_isSo 12 = .ok (.iload 4, 2) := dk_21 4 (dk_at dksX0_isSo_0 12 rfl rfl)
theorem dX0_isSo_14 : decode cX0_isSo 14 = .ok (.aload_n 0, 1) := dk_42 (dk_at dksX0_isSo_0 14 rfl rfl)
theorem dX0_isSo_15 : decode cX0_isSo 15 = .ok (.getfield 94, 3) := dk_180 0 94 (dk_at dksX0_isSo_0 15 rfl rfl)
theorem dX0_isSo_18 : decode cX0_isSo 18 = .ok (.iload 5, 2) := dk_21 5 (dk_at dksX0_isSo_0 18 rfl rfl)
theorem dX0_isSo_20 : decode cX0_isSo 20 = .ok (.iaload, 1) := dk_46 (dk_at dksX0_isSo_0 20 rfl rfl)
theorem dX0_isSo_21 : decode cX0_isSo 21 = .ok (.invokestatic 261, 3) := dk_184 1 5 (dk_at dksX0_isSo_0 21 rfl rfl)
theorem dX0_isSo_24 : decode cX0_isSo 24 = .ok (.istore 4, 2) := dk_54 4 (dk_at dksX0_isSo_1 0 rfl rfl)
theorem dX0_isSo_26 : decode cX0_isSo 26 = .ok (.iinc 5 1, 3) := dk_132 5 1 (dk_at dksX0_isSo_1 2 rfl rfl)
theorem dX0_isSo_29 : decode cX0_isSo 29 = .ok (.goto (-23), 3) := dk_167 255 233 (dk_at dksX0_isSo_1 5 rfl rfl)
theorem dX0_isSo_32 : decode cX0_isSo 32 = .ok (.aload_n 0, 1) := dk_42 (dk_at dksX0_isSo_1 8 rfl rfl)
theorem dX0_isSo_33 : decode cX0_isSo 33 = .ok (.getfield 55, 3) := dk_180 0 55 (dk_at dksX0_isSo_1 9 rfl rfl)
theorem dX0_isSo_36 : decode cX0_isSo 36 = .ok (.aload_n 0, 1) := dk_42 (dk_at dksX0_isSo_1 12 rfl rfl)
theorem dX0_isSo_37 : decode cX0_isSo 37 = .ok (.getfield 40, 3) := dk_180 0 40 (dk_at dksX0_isSo_1 13 rfl rfl)
theorem dX0_isSo_40 : decode cX0_isSo 40 = .ok (.invokevirtual 103, 3) := dk_182 0 103 (dk_at dksX0_isSo_1 16 rfl rfl)
theorem dX0_isSo_43 : decode cX0_isSo 43 = .ok (.aload_n 0, 1) := dk_42 (dk_at dksX0_isSo_1 19 rfl rfl)
theorem dX0_isSo_44 : decode cX0_isSo 44 = .ok (.getfield 55, 3) := dk_180 0 55 (dk_at dksX0_isSo_1 20 rfl rfl)
theorem dX0_isSo_47 : decode cX0_isSo 47 = .ok (.getfield 168, 3) := dk_180 0 168 (dk_at dksX0_isSo_2 0 rfl rfl)
theorem dX0_isSo_50 : decode cX0_isSo 50 = .ok (.iload_n 1, 1) := dk_27 (dk_at dksX0_isSo_2 3 rfl rfl)
theorem dX0_isSo_51 : decode cX0_isSo 51 = .ok (.aaload, 1) := dk_50 (dk_at dksX0_isSo_2 4 rfl rfl)
theorem dX0_isSo_52 : decode cX0_isSo 52 = .ok (.iconst 0, 1) := dk_3 (dk_at dksX0_isSo_2 5 rfl rfl)
theorem dX0_isSo_53 : decode cX0_isSo 53 = .ok (.iload_n 2, 1) := dk_28 (dk_at dksX0_isSo_2 6 rfl rfl)
theorem dX0_isSo_54 : decode cX0_isSo 54 = .ok (.i2b, 1) := dk_145 (dk_at dksX0_isSo_2 7 rfl rfl)
theorem dX0_isSo_55 : decode cX0_isSo 55 = .ok (.bastore, 1) := dk_84 (dk_at dksX0_isSo_2 8 rfl rfl)
theorem dX0_isSo_56 : decode cX0_isSo 56 = .ok (.aload_n 0, 1) := dk_42 (dk_at dksX0_isSo_2 9 rfl rfl)
theorem dX0_isSo_57 : decode cX0_isSo 57 = .ok (.getfield 55, 3) := dk_180 0 55 (dk_at dksX0_isSo_2 10 rfl rfl)
theorem dX0_isSo_60 : decode cX0_isSo 60 = .ok (.aload_n 0, 1) := dk_42 (dk_at dksX0_isSo_2 13 rfl rfl)
theorem dX0_isSo_61 : decode cX0_isSo 61 = .ok (.getfield 40, 3) := dk_180 0 40 (dk_at dksX0_isSo_2 14 rfl rfl)
theorem dX0_isSo_64 : decode cX0_isSo 64 = .ok (.invokevirtual 233, 3) := dk_182 0 233 (dk_at dksX0_isSo_2 17 rfl rfl)
theorem dX0_isSo_67 : decode cX0_isSo 67 = .ok (.aload_n 0, 1) := dk_42 (dk_at dksX0_isSo_2 20 rfl rfl)
theorem dX0_isSo_68 : decode cX0_isSo 68 = .ok (.aload_n 0, 1) := dk_42 (dk_at dksX0_isSo_2 21 rfl rfl)
theorem dX0_isSo_69 : decode cX0_isSo 69 = .ok (.getfield 55, 3) := dk_180 0 55 (dk_at dksX0_isSo_3 0 rfl rfl)
theorem dX0_isSo_72 : decode cX0_isSo 72 = .ok (.iload 4, 2) := dk_21 4 (dk_at dksX0_isSo_3 3 rfl rfl)
theorem dX0_isSo_74 : decode cX0_isSo 74 = .ok (.invokevirtual 217, 3) := dk_182 0 217 (dk_at dksX0_isSo_3 5 rfl rfl)
theorem dX0_isSo_77 : decode cX0_isSo 77 = .ok (.iconst 0, 1) := dk_3 (dk_at dksX0_isSo_3 8 rfl rfl)
theorem dX0_isSo_78 : decode cX0_isSo 78 = .ok (.istore 5, 2) := dk_54 5 (dk_at dksX0_isSo_3 9 rfl rfl)
theorem dX0_isSo_80 : decode cX0_isSo 80 = .ok (.iload 5, 2) := dk_21 5 (dk_at dksX0_isSo_3 11 rfl rfl)
theorem dX0_isSo_82 : decode cX0_isSo 82 = .ok (.iload_n 3, 1) := dk_29 (dk_at dksX0_isSo_3 13 rfl rfl)
theorem dX0_isSo_83 : decode cX0_isSo 83 = .ok (.if_icmp .ge 65, 3) := dk_162 0 65 (dk_at dksX0_isSo_3 14 rfl rfl)
theorem dX0_isSo_86 : decode cX0_isSo 86 = .ok (.aload_n 0, 1) := dk_42 (dk_at dksX0_isSo_3 17 rfl rfl)
theorem dX0_isSo_87 : decode cX0_isSo 87 = .ok (.getfield 55, 3) := dk_180 0 55 (dk_at dksX0_isSo_3 18 rfl rfl)
theorem dX0_isSo_90 : decode cX0_isSo 90 = .ok (.aload_n 0, 1) := dk_42 (dk_at dksX0_isSo_3 21 rfl rfl)
theorem dX0_isSo_91 : decode cX0_isSo 91 = .ok (.getfield 40, 3) := dk_180 0 40 (dk_at dksX0_isSo_4 0 rfl rfl)
theorem dX0_isSo_94 : decode cX0_isSo 94 = .ok (.aload_n 0, 1) := dk_42 (dk_at dksX0_isSo_4 3 rfl rfl)
theorem dX0_isSo_95 : decode cX0_isSo 95 = .ok (.getfield 91, 3) := dk_180 0 91 (dk_at dksX0_isSo_4 4 rfl rfl)
theorem dX0_isSo_98 : decode cX0_isSo 98 = .ok (.iload 5, 2) := dk_21 5 (dk_at dksX0_isSo_4 7 rfl rfl)
theorem dX0_isSo_100 : decode cX0_isSo 100 = .ok (.iaload, 1) := dk_46 (dk_at dksX0_isSo_4 9 rfl rfl)
theorem dX0_isSo_101 : decode cX0_isSo 101 = .ok (.aload_n 0, 1) := dk_42 (dk_at dksX0_isSo_4 10 rfl rfl)
theorem dX0_isSo_102 : decode cX0_isSo 102 = .ok (.getfield 94, 3) := dk_180 0 94 (dk_at dksX0_isSo_4 11 rfl rfl)
theorem dX0_isSo_105 : decode cX0_isSo 105 = .ok (.iload 5, 2) := dk_21 5 (dk_at dksX0_isSo_4 14 rfl rfl)
theorem dX0_isSo_107 : decode cX0_isSo 107 = .ok (.iaload, 1) := dk_46 (dk_at dksX0_isSo_4 16 rfl rfl)
theorem dX0_isSo_108 : decode cX0_isSo 108 = .ok (.invokevirtual 195, 3) := dk_182 0 195 (dk_at dksX0_isSo_4 17 rfl rfl)
theorem dX0_isSo_111 : decode cX0_isSo 111 = .ok (.aload_n 0, 1) := dk_42 (dk_at dksX0_isSo_4 20 rfl rfl)
theorem dX0_isSo_112 : decode cX0_isSo 112 = .ok (.getfield 97, 3) := dk_180 0 97 (dk_at dksX0_isSo_4 21 rfl rfl)
theorem dX0_isSo_115 : decode cX0_isSo 115 = .ok (.iload 5, 2) := dk_21 5 (dk_at dksX0_isSo_5 0 rfl rfl)
theorem dX0_isSo_117 : decode cX0_isSo 117 = .ok (.iaload, 1) := dk_46 (dk_at dksX0_isSo_5 2 rfl rfl)
theorem dX0_isSo_118 : decode cX0_isSo 118 = .ok (.ishr, 1) := dk_122 (dk_at dksX0_isSo_5 3 rfl rfl)
theorem dX0_isSo_119 : decode cX0_isSo 119 = .ok (.iconst 1, 1) := dk_4 (dk_at dksX0_isSo_5 4 rfl rfl)
theorem dX0_isSo_120 : decode cX0_isSo 120 = .ok (.iand, 1) := dk_126 (dk_at dksX0_isSo_5 5 rfl rfl)
theorem dX0_isSo_121 : decode cX0_isSo 121 = .ok (.iconst 1, 1) := dk_4 (dk_at dksX0_isSo_5 6 rfl rfl)
theorem dX0_isSo_122 : decode cX0_isSo 122 = .ok (.if_icmp .ne 7, 3) := dk_160 0 7 (dk_at dksX0_isSo_5 7 rfl rfl)
theorem dX0_isSo_125 : decode cX0_isSo 125 = .ok (.iconst 1, 1) := dk_4 (dk_at dksX0_isSo_5 10 rfl rfl)
theorem dX0_isSo_126 : decode cX0_isSo 126 = .ok (.goto 4, 3) := dk_167 0 4 (dk_at dksX0_isSo_5 11 rfl rfl)
theorem dX0_isSo_129 : decode cX0_isSo 129 = .ok (.iconst 0, 1) := dk_3 (dk_at dksX0_isSo_5 14 rfl rfl)
theorem dX0_isSo_130 : decode cX0_isSo 130 = .ok (.aload_n 0, 1) := dk_42 (dk_at dksX0_isSo_5 15 rfl rfl)
theorem dX0_isSo_131 : decode cX0_isSo 131 = .ok (.getfield 100, 3) := dk_180 0 100 (dk_at dksX0_isSo_5 16 rfl rfl)
theorem dX0_isSo_134 : decode cX0_isSo 134 = .ok (.iload 5, 2) := dk_21 5 (dk_at dksX0_isSo_5 19 rfl rfl)
theorem dX0_isSo_136 : decode cX0_isSo 136 = .ok (.baload, 1) := dk_51 (dk_at dksX0_isSo_5 21 rfl rfl)
theorem dX0_isSo_137 : decode cX0_isSo 137 = .ok (.if_icmp .eq 5, 3) := dk_159 0 5 (dk_at dksX0_isSo_6 0 rfl rfl)
theorem dX0_isSo_140 : decode cX0_isSo 140 = .ok (.iconst 0, 1) := dk_3 (dk_at dksX0_isSo_6 3 rfl rfl)
theorem dX0_isSo_141 : decode cX0_isSo 141 = .ok (.ireturn, 1) := dk_172 (dk_at dksX0_isSo_6 4 rfl rfl)
theorem dX0_isSo_142 : decode cX0_isSo 142 = .ok (.iinc 5 1, 3) := dk_132 5 1 (dk_at dksX0_isSo_6 5 rfl rfl)
theorem dX0_isSo_145 : decode cX0_isSo 145 = .ok (.goto (-65), 3) := dk_167 255 191 (dk_at dksX0_isSo_6 8 rfl rfl)
theorem dX0_isSo_148 : decode cX0_isSo 148 = .ok (.iconst 1, 1) := dk_4 (dk_at dksX0_isSo_6 11 rfl rfl)
theorem dX0_isSo_149 : decode cX0_isSo 149 = .ok (.ireturn, 1) := dk_172 (dk_at dksX0_isSo_6 12 rfl rfl)
abbrev cX0_hold : ByteArray := prog_1_method_68_code
def yX0_hold : MethodName := ⟨RX0, "hold", "(I)Z"⟩
def dkwX0_hold_1 : List UInt8 := [42, 180, 0, 65, 27, 4, 84, 4, 172]
abbrev dktX0_hold_1 : List UInt8 := dkwX0_hold_1 ++ []
def dkwX0_hold_0 : List UInt8 := [27, 3, 5, 184, 0, 150, 154, 0, 5, 3, 172, 42, 180, 0, 62, 27, 50, 42, 180, 0, 51, 182, 0, 202]
abbrev dktX0_hold_0 : List UInt8 := dkwX0_hold_0 ++ dktX0_hold_1
theorem dksX0_hold_0 : cX0_hold.data.toList.drop 0 = dktX0_hold_0 := by decide +kernel
theorem dksX0_hold_1 : cX0_hold.data.toList.drop 24 = dktX0_hold_1 := dk_seg dksX0_hold_0 24 rfl rfl
theorem dX0_hold_0 : decode cX0_hold 0 = .ok (.iload_n 1, 1) := dk_27 (dk_at dksX0_hold_0 0 rfl rfl)
theorem dX0_hold_1 : decode cX0_hold 1 = .ok (.iconst 0, 1) := dk_3 (dk_at dksX0_hold_0 1 rfl rfl)
theorem dX0_hold_2 : decode cX0_hold 2 = .ok (.iconst 2, 1) := dk_5 (dk_at dksX0_hold_0 2 rfl rfl)
theorem dX0_hold_3 : decode cX0_hold 3 = .ok (.invokestatic 150, 3) := dk_184 0 150 (dk_at dksX0_hold_0 3 rfl rfl)
theorem dX0_hold_6 : decode cX0_hold 6 = .ok (.ifCond .ne 5, 3) := dk_154 0 5 (dk_at dksX0_hold_0 6 rfl rfl)
theorem dX0_hold_9 : decode cX0_hold 9 = .ok (.iconst 0, 1) := dk_3 (dk_at dksX0_hold_0 9 rfl rfl)
theorem dX0_hold_10 : decode cX0_hold 10 = .ok (.ireturn, 1) := dk_172 (dk_at dksX0_hold_0 10 rfl rfl)
theorem dX0_hold_11 : decode cX0_hold 11 = .ok (.aload_n 0, 1) := dk_42 (dk_at dksX0_hold_0 11 rfl rfl)
theorem dX0_hold_12 : decode cX0_hold 12 = .ok (.getfield 62, 3) := dk_180 0 62 (dk_at dksX0_hold_0 12 rfl rfl)
theorem dX0_hold_15 : decode cX0_hold 15 = .ok (.iload_n 1, 1) := dk_27 (dk_at dksX0_hold_0 15 rfl rfl)
theorem dX0_hold_16 : decode cX0_hold 16 = .ok (.aaload, 1) := dk_50 (dk_at dksX0_hold_0 16 rfl rfl)
theorem dX0_hold_17 : decode cX0_hold 17 = .ok (.aload_n 0, 1) := dk_42 (dk_at dksX0_hold_0 17 rfl rfl)
theorem dX0_hold_18 : decode cX0_hold 18 = .ok (.getfield 51, 3) := dk_180 0 51 (dk_at dksX0_hold_0 18 rfl rfl)
theorem dX0_hold_21 : decode cX0_hold 21 = .ok (.invokevirtual 202, 3) := dk_182 0 202 (dk_at dksX0_hold_0 21 rfl rfl)
theorem dX0_hold_24 : decode cX0_hold 24 = .ok (.aload_n 0, 1) := dk_42 (dk_at dksX0_hold_1 0 rfl rfl)
theorem dX0_hold_25 : decode cX0_hold 25 = .ok (.getfield 65, 3) := dk_180 0 65 (dk_at dksX0_hold_1 1 rfl rfl)
theorem dX0_hold_28 : decode cX0_hold 28 = .ok (.iload_n 1, 1) := dk_27 (dk_at dksX0_hold_1 4 rfl rfl)
theorem dX0_hold_29 : decode cX0_hold 29 = .ok (.iconst 1, 1) := dk_4 (dk_at dksX0_hold_1 5 rfl rfl)
theorem dX0_hold_30 : decode cX0_hold 30 = .ok (.bastore, 1) := dk_84 (dk_at dksX0_hold_1 6 rfl rfl)
theorem dX0_hold_31 : decode cX0_hold 31 = .ok (.iconst 1, 1) := dk_4 (dk_at dksX0_hold_1 7 rfl rfl)
theorem dX0_hold_32 : decode cX0_hold 32 = .ok (.ireturn, 1) := dk_172 (dk_at dksX0_hold_1 8 rfl rfl)
abbrev cX0_restore : ByteArray := prog_1_method_69_code
def yX0_restore : MethodName := ⟨RX0, "restore", "(I)Z"⟩
def dkwX0_restore_1 : List UInt8 := [42, 180, 0, 62, 27, 50, 182, 0, 202, 42, 3, 181, 0, 122, 4, 172]
abbrev dktX0_restore_1 : List UInt8 := dkwX0_restore_1 ++ []
def dkwX0_restore_0 : List UInt8 := [27, 3, 5, 184, 0, 150, 153, 0, 12, 42, 180, 0, 65, 27, 51, 154, 0, 5, 3, 172, 42, 180, 0, 51]
abbrev dktX0_restore_0 : List UInt8 := dkwX0_restore_0 ++ dktX0_restore_1
theorem dksX0_restore_0 : cX0_restore.data.toList.drop 0 = dktX0_restore_0 := by decide +kernel
theorem dksX0_restore_1 : cX0_restore.data.toList.drop 24 = dktX0_restore_1 := dk_seg dksX0_restore_0 24 rfl rfl
theorem dX0_restore_0 : decode cX0_restore 0 = .ok (.iload_n 1, 1) := dk_27 (dk_at dksX0_restore_0 0 rfl rfl)
theorem dX0_restore_1 : decode cX0_restore 1 = .ok (.iconst 0, 1) := dk_3 (dk_at dksX0_restore_0 1 rfl rfl)
theorem dX0_restore_2 : decode cX0_restore 2 = .ok (.iconst 2, 1) := dk_5 (dk_at dksX0_restore_0 2 rfl rfl)
theorem dX0_restore_3 : decode cX0_restore 3 = .ok (.invokestatic 150, 3) := dk_184 0 150 (dk_at dksX0_restore_0 3 rfl rfl)
theorem dX0_restore_6 : decode cX0_restore 6 = .ok (.ifCond .eq 12, 3) := dk_153 0 12 (dk_at dksX0_restore_0 6 rfl rfl)
theorem dX0_restore_9 : decode cX0_restore 9 = .ok (.aload_n 0, 1) := dk_42 (dk_at dksX0_restore_0 9 rfl rfl)
theorem dX0_restore_10 : decode cX0_restore 10 = .ok (.getfield 65, 3) := dk_180 0 65 (dk_at dksX0_restore_0 10 rfl rfl)
theorem dX0_restore_13 : decode cX0_restore 13 = .ok (.iload_n 1, 1) := dk_27 (dk_at dksX0_restore_0 13 rfl rfl)
theorem dX0_restore_14 : decode cX0_restore 14 = .ok (.baload, 1) := dk_51 (dk_at dksX0_restore_0 14 rfl rfl)
theorem dX0_restore_15 : decode cX0_restore 15 = .ok (.ifCond .ne 5, 3) := dk_154 0 5 (dk_at dksX0_restore_0 15 rfl rfl)
theorem dX0_restore_18 : decode cX0_restore 18 = .ok (.iconst 0, 1) := dk_3 (dk_at dksX0_restore_0 18 rfl rfl)
theorem dX0_restore_19 : decode cX0_restore 19 = .ok (.ireturn, 1) := dk_172 (dk_at dksX0_restore_0 19 rfl rfl)
theorem dX0_restore_20 : decode cX0_restore 20 = .ok (.aload_n 0, 1) := dk_42 (dk_at dksX0_restore_0 20 rfl rfl)
theorem dX0_restore_21 : decode cX0_restore 21 = .ok (.getfield 51, 3) := dk_180 0 51 (dk_at dksX0_restore_0 21 rfl rfl)
theorem dX0_restore_24 : decode cX0_restore 24 = .ok (.aload_n 0, 1) := dk_42 (dk_at dksX0_restore_1 0 rfl rfl)
theorem dX0_restore_25 : decode cX0_restore 25 = .ok (.getfield 62, 3) := dk_180 0 62 (dk_at dksX0_restore_1 1 rfl rfl)
theorem dX0_restore_28 : decode cX0_restore 28 = .ok (.iload_n 1, 1) := dk_27 (dk_at dksX0_restore_1 4 rfl rfl)
theorem dX0_restore_29 : decode cX0_restore 29 = .ok (.aaload, 1) := dk_50 (dk_at dksX0_restore_1 5 rfl rfl)
theorem dX0_restore_30 : decode cX0_restore 30 = .ok (.invokevirtual 202, 3) := dk_182 0 202 (dk_at dksX0_restore_1 6 rfl rfl)
theorem dX0_restore_33 : decode cX0_restore 33 = .ok (.aload_n 0, 1) := dk_42 (dk_at dksX0_restore_1 9 rfl rfl)
theorem dX0_restore_34 : decode cX0_restore 34 = .ok (.iconst 0, 1) := dk_3 (dk_at dksX0_restore_1 10 rfl rfl)
theorem dX0_restore_35 : decode cX0_restore 35 = .ok (.putfield 122, 3) := dk_181 0 122 (dk_at dksX0_restore_1 11 rfl rfl)
theorem dX0_restore_38 : decode cX0_restore 38 = .ok (.iconst 1, 1) := dk_4 (dk_at dksX0_restore_1 14 rfl rfl)
theorem dX0_restore_39 : decode cX0_restore 39 = .ok (.ireturn, 1) := dk_172 (dk_at dksX0_restore_1 15 rfl rfl)
abbrev cX0_count : ByteArray := prog_1_method_70_code
def yX0_count : MethodName := ⟨RX0, "count", "(I)I"⟩
def dkwX0_count_9 : List UInt8 := [167, 0, 4, 3, 96, 42, 180, 0, 65, 5, 51, 153, 0, 7, 4, 167, 0, 4, 3, 96, 172, 2, 172]
abbrev dktX0_count_9 : List UInt8 := dkwX0_count_9 ++ []
def dkwX0_count_8 : List UInt8 := [180, 0, 65, 3, 51, 153, 0, 7, 4, 167, 0, 4, 3, 42, 180, 0, 65, 4, 51, 153, 0, 7, 4]
abbrev dktX0_count_8 : List UInt8 := dkwX0_count_8 ++ dktX0_count_9
def dkwX0_count_7 : List UInt8 := [167, 255, 215, 28, 172, 42, 180, 0, 24, 180, 0, 107, 172, 42, 180, 0, 122, 172, 42, 180, 0, 125, 172, 42]
abbrev dktX0_count_7 : List UInt8 := dkwX0_count_7 ++ dktX0_count_8
def dkwX0_count_6 : List UInt8 := [50, 42, 180, 0, 51, 180, 0, 158, 51, 153, 0, 9, 4, 29, 120, 167, 0, 4, 3, 128, 61, 132, 3, 1]
abbrev dktX0_count_6 : List UInt8 := dkwX0_count_6 ++ dktX0_count_7
def dkwX0_count_5 : List UInt8 := [167, 255, 217, 28, 172, 3, 62, 29, 42, 182, 0, 156, 162, 0, 39, 28, 42, 180, 0, 51, 180, 0, 188, 29]
abbrev dktX0_count_5 : List UInt8 := dkwX0_count_5 ++ dktX0_count_6
def dkwX0_count_4 : List UInt8 := [180, 0, 51, 180, 0, 158, 182, 0, 191, 153, 0, 9, 4, 29, 120, 167, 0, 4, 3, 128, 61, 132, 3, 1]
abbrev dktX0_count_4 : List UInt8 := dkwX0_count_4 ++ dktX0_count_5
def dkwX0_count_3 : List UInt8 := [180, 0, 51, 180, 0, 158, 172, 3, 62, 29, 42, 182, 0, 156, 162, 0, 37, 28, 42, 180, 0, 51, 29, 42]
abbrev dktX0_count_3 : List UInt8 := dkwX0_count_3 ++ dktX0_count_4
def dkwX0_count_2 : List UInt8 := [42, 182, 0, 148, 172, 42, 180, 0, 40, 180, 1, 79, 172, 42, 182, 0, 154, 172, 42, 182, 0, 156, 172, 42]
abbrev dktX0_count_2 : List UInt8 := dkwX0_count_2 ++ dktX0_count_3
def dkwX0_count_1 : List UInt8 := [170, 0, 0, 0, 245, 0, 0, 0, 0, 0, 0, 0, 10, 0, 0, 0, 57, 0, 0, 0, 62, 0, 0, 0, 70, 0, 0, 0, 75, 0, 0, 0, 80, 0, 0, 0, 88, 0, 0, 0, 134, 0, 0, 0, 182, 0, 0, 0, 190, 0, 0, 0, 195, 0, 0, 0, 200]
abbrev dktX0_count_1 : List UInt8 := dkwX0_count_1 ++ dktX0_count_2
def dkwX0_count_0 : List UInt8 := [3, 61, 27]
abbrev dktX0_count_0 : List UInt8 := dkwX0_count_0 ++ dktX0_count_1
theorem dksX0_count_0 : cX0_count.data.toList.drop 0 = dktX0_count_0 := by decide +kernel
theorem dksX0_count_1 : cX0_count.data.toList.drop 3 = dktX0_count_1 := dk_seg dksX0_count_0 3 rfl rfl
theorem dksX0_count_2 : cX0_count.data.toList.drop 60 = dktX0_count_2 := dk_seg dksX0_count_1 57 rfl rfl
theorem dksX0_count_3 : cX0_count.data.toList.drop 84 = dktX0_count_3 := dk_seg dksX0_count_2 24 rfl rfl
theorem dksX0_count_4 : cX0_count.data.toList.drop 108 = dktX0_count_4 := dk_seg dksX0_count_3 24 rfl rfl
theorem dksX0_count_5 : cX0_count.data.toList.drop 132 = dktX0_count_5 := dk_seg dksX0_count_4 24 rfl rfl
theorem dksX0_count_6 : cX0_count.data.toList.drop 156 = dktX0_count_6 := dk_seg dksX0_count_5 24 rfl rfl
theorem dksX0_count_7 : cX0_count.data.toList.drop 180 = dktX0_count_7 := dk_seg dksX0_count_6 24 rfl rfl
theorem dksX0_count_8 : cX0_count.data.toList.drop 204 = dktX0_count_8 := dk_seg dksX0_count_7 24 rfl rfl
theorem dksX0_count_9 : cX0_count.data.toList.drop 227 = dktX0_count_9 := dk_seg dksX0_count_8 23 rfl rfl
theorem dX0_count_0 : decode cX0_count 0 = .ok (.iconst 0, 1) := dk_3 (dk_at dksX0_count_0 0 rfl rfl)
theorem dX0_count_1 : decode cX0_count 1 = .ok (.istore_n 2, 1) := dk_61 (dk_at dksX0_count_0 1 rfl rfl)
theorem dX0_count_2 : decode cX0_count 2 = .ok (.iload_n 1, 1) := dk_27 (dk_at dksX0_count_0 2 rfl rfl)
theorem dX0_count_3 : decode cX0_count 3 = .ok (.tableswitch 245 0 10 #[57, 62, 70, 75, 80, 88, 134, 182, 190, 195, 200], 57) := by decide +kernel
theorem dX0_count_60 : decode cX0_count 60 = .ok (.aload_n 0, 1) := dk_42 (dk_at dksX0_count_2 0 rfl rfl)
theorem dX0_count_61 : decode cX0_count 61 = .ok (.invokevirtual 148, 3) := dk_182 0 148 (dk_at dksX0_count_2 1 rfl rfl)
theorem dX0_count_64 : decode cX0_count 64 = .ok (.ireturn, 1) := dk_172 (dk_at dksX0_count_2 4 rfl rfl)
theorem dX0_count_65 : decode cX0_count 65 = .ok (.aload_n 0, 1) := dk_42 (dk_at dksX0_count_2 5 rfl rfl)
theorem dX0_count_66 : decode cX0_count 66 = .ok (.getfield 40, 3) := dk_180 0 40 (dk_at dksX0_count_2 6 rfl rfl)
theorem dX0_count_69 : decode cX0_count 69 = .ok (.getfield 335, 3) := dk_180 1 79 (dk_at dksX0_count_2 9 rfl rfl)
theorem dX0_count_72 : decode cX0_count 72 = .ok (.ireturn, 1) := dk_172 (dk_at dksX0_count_2 12 rfl rfl)
theorem dX0_count_73 : decode cX0_count 73 = .ok (.aload_n 0, 1) := dk_42 (dk_at dksX0_count_2 13 rfl rfl)
theorem dX0_count_74 : decode cX0_count 74 = .ok (.invokevirtual 154, 3) := dk_182 0 154 (dk_at dksX0_count_2 14 rfl rfl)
theorem dX0_count_77 : decode cX0_count 77 = .ok (.ireturn, 1) := dk_172 (dk_at dksX0_count_2 17 rfl rfl)
theorem dX0_count_78 : decode cX0_count 78 = .ok (.aload_n 0, 1) := dk_42 (dk_at dksX0_count_2 18 rfl rfl)
theorem dX0_count_79 : decode cX0_count 79 = .ok (.invokevirtual 156, 3) := dk_182 0 156 (dk_at dksX0_count_2 19 rfl rfl)
theorem dX0_count_82 : decode cX0_count 82 = .ok (.ireturn, 1) := dk_172 (dk_at dksX0_count_2 22 rfl rfl)
theorem dX0_count_83 : decode cX0_count 83 = .ok (.aload_n 0, 1) := dk_42 (dk_at dksX0_count_2 23 rfl rfl)
theorem dX0_count_84 : decode cX0_count 84 = .ok (.getfield 51, 3) := dk_180 0 51 (dk_at dksX0_count_3 0 rfl rfl)
theorem dX0_count_87 : decode cX0_count 87 = .ok (.getfield 158, 3) := dk_180 0 158 (dk_at dksX0_count_3 3 rfl rfl)
theorem dX0_count_90 : decode cX0_count 90 = .ok (.ireturn, 1) := dk_172 (dk_at dksX0_count_3 6 rfl rfl)
theorem dX0_count_91 : decode cX0_count 91 = .ok (.iconst 0, 1) := dk_3 (dk_at dksX0_count_3 7 rfl rfl)
theorem dX0_count_92 : decode cX0_count 92 = .ok (.istore_n 3, 1) := dk_62 (dk_at dksX0_count_3 8 rfl rfl)
theorem dX0_count_93 : decode cX0_count 93 = .ok (.iload_n 3, 1) := dk_29 (dk_at dksX0_count_3 9 rfl rfl)
theorem dX0_count_94 : decode cX0_count 94 = .ok (.aload_n 0, 1) := dk_42 (dk_at dksX0_count_3 10 rfl rfl)
theorem dX0_count_95 : decode cX0_count 95 = .ok (.invokevirtual 156, 3) := dk_182 0 156 (dk_at dksX0_count_3 11 rfl rfl)
theorem dX0_count_98 : decode cX0_count 98 = .ok (.if_icmp .ge 37, 3) := dk_162 0 37 (dk_at dksX0_count_3 14 rfl rfl)
theorem dX0_count_101 : decode cX0_count 101 = .ok (.iload_n 2, 1) := dk_28 (dk_at dksX0_count_3 17 rfl rfl)
theorem dX0_count_102 : decode cX0_count 102 = .ok (.aload_n 0, 1) := dk_42 (dk_at dksX0_count_3 18 rfl rfl)
theorem dX0_count_103 : decode cX0_count 103 = .ok (.getfield 51, 3) := dk_180 0 51 (dk_at dksX0_count_3 19 rfl rfl)
theorem dX0_count_106 : decode cX0_count 106 = .ok (.iload_n 3, 1) := dk_29 (dk_at dksX0_count_3 22 rfl rfl)
theorem dX0_count_107 : decode cX0_count 107 = .ok (.aload_n 0, 1) := dk_42 (dk_at dksX0_count_3 23 rfl rfl)
theorem dX0_count_108 : decode cX0_count 108 = .ok (.getfield 51, 3) := dk_180 0 51 (dk_at dksX0_count_4 0 rfl rfl)
theorem dX0_count_111 : decode cX0_count 111 = .ok (.getfield 158, 3) := dk_180 0 158 (dk_at dksX0_count_4 3 rfl rfl)
theorem dX0_count_114 : decode cX0_count 114 = .ok (.invokevirtual 191, 3) := dk_182 0 191 (dk_at dksX0_count_4 6 rfl rfl)
theorem dX0_count_117 : decode cX0_count 117 = .ok (.ifCond .eq 9, 3) := dk_153 0 9 (dk_at dksX0_count_4 9 rfl rfl)
theorem dX0_count_120 : decode cX0_count 120 = .ok (.iconst 1, 1) := dk_4 (dk_at dksX0_count_4 12 rfl rfl)
theorem dX0_count_121 : decode cX0_count 121 = .ok (.iload_n 3, 1) := dk_29 (dk_at dksX0_count_4 13 rfl rfl)
theorem dX0_count_122 : decode cX0_count 122 = .ok (.ishl, 1) := dk_120 (dk_at dksX0_count_4 14 rfl rfl)
theorem dX0_count_123 : decode cX0_count 123 = .ok (.goto 4, 3) := dk_167 0 4 (dk_at dksX0_count_4 15 rfl rfl)
theorem dX0_count_126 : decode cX0_count 126 = .ok (.iconst 0, 1) := dk_3 (dk_at dksX0_count_4 18 rfl rfl)
theorem dX0_count_127 : decode cX0_count 127 = .ok (.ior, 1) := dk_128 (dk_at dksX0_count_4 19 rfl rfl)
theorem dX0_count_128 : decode cX0_count 128 = .ok (.istore_n 2, 1) := dk_61 (dk_at dksX0_count_4 20 rfl rfl)
theorem dX0_count_129 : decode cX0_count 129 = .ok (.iinc 3 1, 3) := dk_132 3 1 (dk_at dksX0_count_4 21 rfl rfl)
theorem dX0_count_132 : decode cX0_count 132 = .ok (.goto (-39), 3) := dk_167 255 217 (dk_at dksX0_count_5 0 rfl rfl)
theorem dX0_count_135 : decode cX0_count 135 = .ok (.iload_n 2, 1) := dk_28 (dk_at dksX0_count_5 3 rfl rfl)
theorem dX0_count_136 : decode cX0_count 136 = .ok (.ireturn, 1) := dk_172 (dk_at dksX0_count_5 4 rfl rfl)
theorem dX0_count_137 : decode cX0_count 137 = .ok (.iconst 0, 1) := dk_3 (dk_at dksX0_count_5 5 rfl rfl)
theorem dX0_count_138 : decode cX0_count 138 = .ok (.istore_n 3, 1) := dk_62 (dk_at dksX0_count_5 6 rfl rfl)
theorem dX0_count_139 : decode cX0_count 139 = .ok (.iload_n 3, 1) := dk_29 (dk_at dksX0_count_5 7 rfl rfl)
theorem dX0_count_140 : decode cX0_count 140 = .ok (.aload_n 0, 1) := dk_42 (dk_at dksX0_count_5 8 rfl rfl)
theorem dX0_count_141 : decode cX0_count 141 = .ok (.invokevirtual 156, 3) := dk_182 0 156 (dk_at dksX0_count_5 9 rfl rfl)
theorem dX0_count_144 : decode cX0_count 144 = .ok (.if_icmp .ge 39, 3) := dk_162 0 39 (dk_at dksX0_count_5 12 rfl rfl)
theorem dX0_count_147 : decode cX0_count 147 = .ok (.iload_n 2, 1) := dk_28 (dk_at dksX0_count_5 15 rfl rfl)
theorem dX0_count_148 : decode cX0_count 148 = .ok (.aload_n 0, 1) := dk_42 (dk_at dksX0_count_5 16 rfl rfl)
theorem dX0_count_149 : decode cX0_count 149 = .ok (.getfield 51, 3) := dk_180 0 51 (dk_at dksX0_count_5 17 rfl rfl)
theorem dX0_count_152 : decode cX0_count 152 = .ok (.getfield 188, 3) := dk_180 0 188 (dk_at dksX0_count_5 20 rfl rfl)
theorem dX0_count_155 : decode cX0_count 155 = .ok (.iload_n 3, 1) := dk_29 (dk_at dksX0_count_5 23 rfl rfl)
theorem dX0_count_156 : decode cX0_count 156 = .ok (.aaload, 1) := dk_50 (dk_at dksX0_count_6 0 rfl rfl)
theorem dX0_count_157 : decode cX0_count 157 = .ok (.aload_n 0, 1) := dk_42 (dk_at dksX0_count_6 1 rfl rfl)
theorem dX0_count_158 : decode cX0_count 158 = .ok (.getfield 51, 3) := dk_180 0 51 (dk_at dksX0_count_6 2 rfl rfl)
theorem dX0_count_161 : decode cX0_count 161 = .ok (.getfield 158, 3) := dk_180 0 158 (dk_at dksX0_count_6 5 rfl rfl)
theorem dX0_count_164 : decode cX0_count 164 = .ok (.baload, 1) := dk_51 (dk_at dksX0_count_6 8 rfl rfl)
theorem dX0_count_165 : decode cX0_count 165 = .ok (.ifCond .eq 9, 3) := dk_153 0 9 (dk_at dksX0_count_6 9 rfl rfl)
theorem dX0_count_168 : decode cX0_count 168 = .ok (.iconst 1, 1) := dk_4 (dk_at dksX0_count_6 12 rfl rfl)
theorem dX0_count_169 : decode cX0_count 169 = .ok (.iload_n 3, 1) := dk_29 (dk_at dksX0_count_6 13 rfl rfl)
theorem dX0_count_170 : decode cX0_count 170 = .ok (.ishl, 1) := dk_120 (dk_at dksX0_count_6 14 rfl rfl)
theorem dX0_count_171 : decode cX0_count 171 = .ok (.goto 4, 3) := dk_167 0 4 (dk_at dksX0_count_6 15 rfl rfl)
theorem dX0_count_174 : decode cX0_count 174 = .ok (.iconst 0, 1) := dk_3 (dk_at dksX0_count_6 18 rfl rfl)
theorem dX0_count_175 : decode cX0_count 175 = .ok (.ior, 1) := dk_128 (dk_at dksX0_count_6 19 rfl rfl)
theorem dX0_count_176 : decode cX0_count 176 = .ok (.istore_n 2, 1) := dk_61 (dk_at dksX0_count_6 20 rfl rfl)
theorem dX0_count_177 : decode cX0_count 177 = .ok (.iinc 3 1, 3) := dk_132 3 1 (dk_at dksX0_count_6 21 rfl rfl)
theorem dX0_count_180 : decode cX0_count 180 = .ok (.goto (-41), 3) := dk_167 255 215 (dk_at dksX0_count_7 0 rfl rfl)
theorem dX0_count_183 : decode cX0_count 183 = .ok (.iload_n 2, 1) := dk_28 (dk_at dksX0_count_7 3 rfl rfl)
theorem dX0_count_184 : decode cX0_count 184 = .ok (.ireturn, 1) := dk_172 (dk_at dksX0_count_7 4 rfl rfl)
theorem dX0_count_185 : decode cX0_count 185 = .ok (.aload_n 0, 1) := dk_42 (dk_at dksX0_count_7 5 rfl rfl)
theorem dX0_count_186 : decode cX0_count 186 = .ok (.getfield 24, 3) := dk_180 0 24 (dk_at dksX0_count_7 6 rfl rfl)
theorem dX0_count_189 : decode cX0_count 189 = .ok (.getfield 107, 3) := dk_180 0 107 (dk_at dksX0_count_7 9 rfl rfl)
theorem dX0_count_192 : decode cX0_count 192 = .ok (.ireturn, 1) := dk_172 (dk_at dksX0_count_7 12 rfl rfl)
theorem dX0_count_193 : decode cX0_count 193 = .ok (.aload_n 0, 1) := dk_42 (dk_at dksX0_count_7 13 rfl rfl)
theorem dX0_count_194 : decode cX0_count 194 = .ok (.getfield 122, 3) := dk_180 0 122 (dk_at dksX0_count_7 14 rfl rfl)
theorem dX0_count_197 : decode cX0_count 197 = .ok (.ireturn, 1) := dk_172 (dk_at dksX0_count_7 17 rfl rfl)
theorem dX0_count_198 : decode cX0_count 198 = .ok (.aload_n 0, 1) := dk_42 (dk_at dksX0_count_7 18 rfl rfl)
theorem dX0_count_199 : decode cX0_count 199 = .ok (.getfield 125, 3) := dk_180 0 125 (dk_at dksX0_count_7 19 rfl rfl)
theorem dX0_count_202 : decode cX0_count 202 = .ok (.ireturn, 1) := dk_172 (dk_at dksX0_count_7 22 rfl rfl)
theorem dX0_count_203 : decode cX0_count 203 = .ok (.aload_n 0, 1) := dk_42 (dk_at dksX0_count_7 23 rfl rfl)
theorem dX0_count_204 : decode cX0_count 204 = .ok (.getfield 65, 3) := dk_180 0 65 (dk_at dksX0_count_8 0 rfl rfl)
theorem dX0_count_207 : decode cX0_count 207 = .ok (.iconst 0, 1) := dk_3 (dk_at dksX0_count_8 3 rfl rfl)
theorem dX0_count_208 : decode cX0_count 208 = .ok (.baload, 1) := dk_51 (dk_at dksX0_count_8 4 rfl rfl)
theorem dX0_count_209 : decode cX0_count 209 = .ok (.ifCond .eq 7, 3) := dk_153 0 7 (dk_at dksX0_count_8 5 rfl rfl)
theorem dX0_count_212 : decode cX0_count 212 = .ok (.iconst 1, 1) := dk_4 (dk_at dksX0_count_8 8 rfl rfl)
theorem dX0_count_213 : decode cX0_count 213 = .ok (.goto 4, 3) := dk_167 0 4 (dk_at dksX0_count_8 9 rfl rfl)
theorem dX0_count_216 : decode cX0_count 216 = .ok (.iconst 0, 1) := dk_3 (dk_at dksX0_count_8 12 rfl rfl)
theorem dX0_count_217 : decode cX0_count 217 = .ok (.aload_n 0, 1) := dk_42 (dk_at dksX0_count_8 13 rfl rfl)
theorem dX0_count_218 : decode cX0_count 218 = .ok (.getfield 65, 3) := dk_180 0 65 (dk_at dksX0_count_8 14 rfl rfl)
theorem dX0_count_221 : decode cX0_count 221 = .ok (.iconst 1, 1) := dk_4 (dk_at dksX0_count_8 17 rfl rfl)
theorem dX0_count_222 : decode cX0_count 222 = .ok (.baload, 1) := dk_51 (dk_at dksX0_count_8 18 rfl rfl)
theorem dX0_count_223 : decode cX0_count 223 = .ok (.ifCond .eq 7, 3) := dk_153 0 7 (dk_at dksX0_count_8 19 rfl rfl)
theorem dX0_count_226 : decode cX0_count 226 = .ok (.iconst 1, 1) := dk_4 (dk_at dksX0_count_8 22 rfl rfl)
theorem dX0_count_227 : decode cX0_count 227 = .ok (.goto 4, 3) := dk_167 0 4 (dk_at dksX0_count_9 0 rfl rfl)
theorem dX0_count_230 : decode cX0_count 230 = .ok (.iconst 0, 1) := dk_3 (dk_at dksX0_count_9 3 rfl rfl)
theorem dX0_count_231 : decode cX0_count 231 = .ok (.iadd, 1) := dk_96 (dk_at dksX0_count_9 4 rfl rfl)
theorem dX0_count_232 : decode cX0_count 232 = .ok (.aload_n 0, 1) := dk_42 (dk_at dksX0_count_9 5 rfl rfl)
theorem dX0_count_233 : decode cX0_count 233 = .ok (.getfield 65, 3) := dk_180 0 65 (dk_at dksX0_count_9 6 rfl rfl)
theorem dX0_count_236 : decode cX0_count 236 = .ok (.iconst 2, 1) := dk_5 (dk_at dksX0_count_9 9 rfl rfl)
theorem dX0_count_237 : decode cX0_count 237 = .ok (.baload, 1) := dk_51 (dk_at dksX0_count_9 10 rfl rfl)
theorem dX0_count_238 : decode cX0_count 238 = .ok (.ifCond .eq 7, 3) := dk_153 0 7 (dk_at dksX0_count_9 11 rfl rfl)
theorem dX0_count_241 : decode cX0_count 241 = .ok (.iconst 1, 1) := dk_4 (dk_at dksX0_count_9 14 rfl rfl)
theorem dX0_count_242 : decode cX0_count 242 = .ok (.goto 4, 3) := dk_167 0 4 (dk_at dksX0_count_9 15 rfl rfl)
theorem dX0_count_245 : decode cX0_count 245 = .ok (.iconst 0, 1) := dk_3 (dk_at dksX0_count_9 18 rfl rfl)
theorem dX0_count_246 : decode cX0_count 246 = .ok (.iadd, 1) := dk_96 (dk_at dksX0_count_9 19 rfl rfl)
theorem dX0_count_247 : decode cX0_count 247 = .ok (.ireturn, 1) := dk_172 (dk_at dksX0_count_9 20 rfl rfl)
theorem dX0_count_248 : decode cX0_count 248 = .ok (.iconst (-1), 1) := dk_2 (dk_at dksX0_count_9 21 rfl rfl)
theorem dX0_count_249 : decode cX0_count 249 = .ok (.ireturn, 1) := dk_172 (dk_at dksX0_count_9 22 rfl rfl)
theorem q121 : (Jvm.Cond.initialized "LateMirrors") ∈ lw_all := lw_g (lw_at lw_m1 1 rfl) rfl
theorem q158 : (Jvm.Cond.instantiable "LateMirrors" (23 : Nat)) ∈ lw_all := lw_g (lw_at lw_m1 38 rfl) rfl
theorem q160 : (Jvm.Cond.instanceMethod ({ cls := "LateMirrors", name := "<init>", desc := "()V" } : Jvm.MethodName)) ∈ lw_all := lw_g (lw_at lw_m1 40 rfl) rfl
theorem q161 : (Jvm.Cond.code ({ cls := "LateMirrors", name := "<init>", desc := "()V" } : Jvm.MethodName) prog_1_method_3_code (2 : Nat) (Option.none : Option Jvm.ClassFile.FieldType)) ∈ lw_all := lw_g (lw_at lw_m1 41 rfl) rfl
theorem q162 : (Jvm.Cond.methodLink "LateMirrors" (8 : Nat) ({ cls := "java/lang/Object", name := "<init>", desc := "()V" } : Jvm.MethodName)) ∈ lw_all := lw_g (lw_at lw_m1 42 rfl) rfl
theorem q165 : (Jvm.Cond.classLink "LateMirrors" (14 : Nat) "LateMirrors$Fault") ∈ lw_all := lw_g (lw_at lw_m1 45 rfl) rfl
theorem q204 : (Jvm.Cond.methodLink "LateMirrors" (16 : Nat) ({ cls := "LateMirrors$Fault", name := "<init>", desc := "()V" } : Jvm.MethodName)) ∈ lw_all := lw_g (lw_at lw_m1 84 rfl) rfl
theorem q218 : (Jvm.Cond.fieldLink "LateMirrors" (128 : Nat) "LateMirrors$Fault" "number" "I") ∈ lw_all := lw_g (lw_at lw_m1 98 rfl) rfl
theorem q220 : (Jvm.Cond.fieldLink "LateMirrors" (131 : Nat) "LateMirrors$Fault" "place" "I") ∈ lw_all := lw_g (lw_at lw_m1 100 rfl) rfl
theorem q239 : (Jvm.Cond.classLink "LateMirrors" (21 : Nat) "LateMirrors$Tokens") ∈ lw_all := lw_g (lw_at lw_m1 119 rfl) rfl
theorem q241 : (Jvm.Cond.methodLinkNest "LateMirrors" (23 : Nat) ({ cls := "LateMirrors$Tokens", name := "<init>", desc := "()V" } : Jvm.MethodName) "LateMirrors") ∈ lw_tbl := lw_at lw_m1 121 rfl
theorem q266 : (Jvm.Cond.fieldLink "LateMirrors" (114 : Nat) "LateMirrors$Tokens" "tape" "[B") ∈ lw_all := lw_g (lw_at lw_m1 146 rfl) rfl
theorem q268 : (Jvm.Cond.fieldLink "LateMirrors" (107 : Nat) "LateMirrors$Tokens" "taped" "I") ∈ lw_all := lw_g (lw_at lw_m1 148 rfl) rfl
theorem q295 : (Jvm.Cond.classLink "LateMirrors" (28 : Nat) "LateMirrors$Parser") ∈ lw_all := lw_g (lw_at lw_m1 175 rfl) rfl
theorem q297 : (Jvm.Cond.methodLink "LateMirrors" (30 : Nat) ({ cls := "LateMirrors$Parser", name := "<init>", desc := "(LLateMirrors$Tokens;LLateMirrors$Fault;)V" } : Jvm.MethodName)) ∈ lw_all := lw_g (lw_at lw_m1 177 rfl) rfl
theorem q323 : (Jvm.Cond.classLink "LateMirrors" (37 : Nat) "LateMirrors$Text") ∈ lw_all := lw_g (lw_at lw_m1 203 rfl) rfl
theorem q325 : (Jvm.Cond.methodLinkNest "LateMirrors" (39 : Nat) ({ cls := "LateMirrors$Text", name := "<init>", desc := "()V" } : Jvm.MethodName) "LateMirrors") ∈ lw_tbl := lw_at lw_m1 205 rfl
theorem q357 : (Jvm.Cond.fieldLink "LateMirrors" (132 : Nat) "LateMirrors$Text" "rooms" "Ljava/util/ArrayList;") ∈ lw_all := lw_g (lw_at lw_m1 237 rfl) rfl
theorem q361 : (Jvm.Cond.fieldLink "LateMirrors" (142 : Nat) "LateMirrors$Text" "men" "Ljava/util/ArrayList;") ∈ lw_all := lw_g (lw_at lw_m2 1 rfl) rfl
theorem q365 : (Jvm.Cond.fieldLink "LateMirrors" (145 : Nat) "LateMirrors$Text" "mirrors" "Ljava/util/ArrayList;") ∈ lw_all := lw_g (lw_at lw_m2 5 rfl) rfl
theorem q368 : (Jvm.Cond.fieldLink "LateMirrors" (335 : Nat) "LateMirrors$Text" "doors" "I") ∈ lw_all := lw_g (lw_at lw_m2 8 rfl) rfl
theorem q373 : (Jvm.Cond.fieldLink "LateMirrors" (311 : Nat) "LateMirrors$Text" "seed" "I") ∈ lw_all := lw_g (lw_at lw_m2 13 rfl) rfl
theorem q391 : (Jvm.Cond.classLink "LateMirrors" (48 : Nat) "LateMirrors$Court") ∈ lw_all := lw_g (lw_at lw_m2 31 rfl) rfl
theorem q393 : (Jvm.Cond.methodLinkNest "LateMirrors" (50 : Nat) ({ cls := "LateMirrors$Court", name := "<init>", desc := "()V" } : Jvm.MethodName) "LateMirrors") ∈ lw_tbl := lw_at lw_m2 33 rfl
theorem q422 : (Jvm.Cond.fieldLink "LateMirrors" (168 : Nat) "LateMirrors$Court" "where" "[[B") ∈ lw_all := lw_g (lw_at lw_m2 62 rfl) rfl
theorem q424 : (Jvm.Cond.fieldLink "LateMirrors" (172 : Nat) "LateMirrors$Court" "rank" "[[B") ∈ lw_all := lw_g (lw_at lw_m2 64 rfl) rfl
theorem q427 : (Jvm.Cond.fieldLink "LateMirrors" (181 : Nat) "LateMirrors$Court" "hung" "[[B") ∈ lw_all := lw_g (lw_at lw_m2 67 rfl) rfl
theorem q429 : (Jvm.Cond.fieldLink "LateMirrors" (188 : Nat) "LateMirrors$Court" "wall" "[[Z") ∈ lw_all := lw_g (lw_at lw_m2 69 rfl) rfl
theorem q431 : (Jvm.Cond.fieldLink "LateMirrors" (184 : Nat) "LateMirrors$Court" "late" "[[S") ∈ lw_all := lw_g (lw_at lw_m2 71 rfl) rfl
theorem q437 : (Jvm.Cond.fieldLink "LateMirrors" (158 : Nat) "LateMirrors$Court" "minute" "I") ∈ lw_all := lw_g (lw_at lw_m2 77 rfl) rfl
theorem q439 : (Jvm.Cond.fieldLink "LateMirrors" (314 : Nat) "LateMirrors$Court" "seed" "I") ∈ lw_all := lw_g (lw_at lw_m2 79 rfl) rfl
theorem q464 : (Jvm.Cond.classLink "LateMirrors" (69 : Nat) "LateMirrors$Glance") ∈ lw_all := lw_g (lw_at lw_m2 104 rfl) rfl
theorem q466 : (Jvm.Cond.methodLinkNest "LateMirrors" (71 : Nat) ({ cls := "LateMirrors$Glance", name := "<init>", desc := "()V" } : Jvm.MethodName) "LateMirrors") ∈ lw_tbl := lw_at lw_m2 106 rfl
theorem q471 : (Jvm.Cond.fieldLink "LateMirrors" (252 : Nat) "LateMirrors$Glance" "mirror" "I") ∈ lw_all := lw_g (lw_at lw_m2 111 rfl) rfl
theorem q473 : (Jvm.Cond.fieldLink "LateMirrors" (271 : Nat) "LateMirrors$Glance" "at" "I") ∈ lw_all := lw_g (lw_at lw_m2 113 rfl) rfl
theorem q479 : (Jvm.Cond.classLink "LateMirrors" (80 : Nat) "[[Z") ∈ lw_all := lw_g (lw_at lw_m2 119 rfl) rfl
theorem q480 : (Jvm.Cond.methodLink "LateMirrors" (103 : Nat) ({ cls := "LateMirrors$Court", name := "begins", desc := "(LLateMirrors$Text;)V" } : Jvm.MethodName)) ∈ lw_all := lw_g (lw_at lw_m2 120 rfl) rfl
theorem q546 : (Jvm.Cond.fieldLink "LateMirrors" (17 : Nat) "LateMirrors" "fault" "LLateMirrors$Fault;") ∈ lw_all := lw_g (lw_at lw_m2 186 rfl) rfl
theorem q547 : (Jvm.Cond.fieldLink "LateMirrors" (24 : Nat) "LateMirrors" "tokens" "LLateMirrors$Tokens;") ∈ lw_all := lw_g (lw_at lw_m2 187 rfl) rfl
theorem q548 : (Jvm.Cond.fieldLink "LateMirrors" (33 : Nat) "LateMirrors" "parser" "LLateMirrors$Parser;") ∈ lw_all := lw_g (lw_at lw_m2 188 rfl) rfl
theorem q549 : (Jvm.Cond.fieldLink "LateMirrors" (40 : Nat) "LateMirrors" "text" "LLateMirrors$Text;") ∈ lw_all := lw_g (lw_at lw_m2 189 rfl) rfl
theorem q550 : (Jvm.Cond.fieldLink "LateMirrors" (44 : Nat) "LateMirrors" "place" "I") ∈ lw_all := lw_g (lw_at lw_m2 190 rfl) rfl
theorem q551 : (Jvm.Cond.fieldLink "LateMirrors" (122 : Nat) "LateMirrors" "undos" "I") ∈ lw_all := lw_g (lw_at lw_m2 191 rfl) rfl
theorem q552 : (Jvm.Cond.fieldLink "LateMirrors" (199 : Nat) "LateMirrors" "undoAt" "I") ∈ lw_all := lw_g (lw_at lw_m2 192 rfl) rfl
theorem q553 : (Jvm.Cond.fieldLink "LateMirrors" (51 : Nat) "LateMirrors" "court" "LLateMirrors$Court;") ∈ lw_all := lw_g (lw_at lw_m2 193 rfl) rfl
theorem q554 : (Jvm.Cond.fieldLink "LateMirrors" (55 : Nat) "LateMirrors" "trial" "LLateMirrors$Court;") ∈ lw_all := lw_g (lw_at lw_m2 194 rfl) rfl
theorem q555 : (Jvm.Cond.fieldLink "LateMirrors" (58 : Nat) "LateMirrors" "past" "[LLateMirrors$Court;") ∈ lw_all := lw_g (lw_at lw_m2 195 rfl) rfl
theorem q556 : (Jvm.Cond.fieldLink "LateMirrors" (62 : Nat) "LateMirrors" "slots" "[LLateMirrors$Court;") ∈ lw_all := lw_g (lw_at lw_m2 196 rfl) rfl
theorem q557 : (Jvm.Cond.fieldLink "LateMirrors" (65 : Nat) "LateMirrors" "held" "[Z") ∈ lw_all := lw_g (lw_at lw_m2 197 rfl) rfl
theorem q558 : (Jvm.Cond.fieldLink "LateMirrors" (72 : Nat) "LateMirrors" "glance" "LLateMirrors$Glance;") ∈ lw_all := lw_g (lw_at lw_m2 198 rfl) rfl
theorem q559 : (Jvm.Cond.fieldLink "LateMirrors" (76 : Nat) "LateMirrors" "often" "[I") ∈ lw_all := lw_g (lw_at lw_m2 199 rfl) rfl
theorem q560 : (Jvm.Cond.fieldLink "LateMirrors" (82 : Nat) "LateMirrors" "reached" "[[Z") ∈ lw_all := lw_g (lw_at lw_m2 200 rfl) rfl
theorem q561 : (Jvm.Cond.fieldLink "LateMirrors" (85 : Nat) "LateMirrors" "then" "[[Z") ∈ lw_all := lw_g (lw_at lw_m2 201 rfl) rfl
theorem q562 : (Jvm.Cond.fieldLink "LateMirrors" (292 : Nat) "LateMirrors" "firstAt" "I") ∈ lw_all := lw_g (lw_at lw_m2 202 rfl) rfl
theorem q563 : (Jvm.Cond.fieldLink "LateMirrors" (88 : Nat) "LateMirrors" "far" "[I") ∈ lw_all := lw_g (lw_at lw_m2 203 rfl) rfl
theorem q564 : (Jvm.Cond.fieldLink "LateMirrors" (125 : Nat) "LateMirrors" "tolds" "I") ∈ lw_all := lw_g (lw_at lw_m2 204 rfl) rfl
theorem q565 : (Jvm.Cond.fieldLink "LateMirrors" (91 : Nat) "LateMirrors" "toldMirror" "[I") ∈ lw_all := lw_g (lw_at lw_m2 205 rfl) rfl
theorem q566 : (Jvm.Cond.fieldLink "LateMirrors" (94 : Nat) "LateMirrors" "toldMinute" "[I") ∈ lw_all := lw_g (lw_at lw_m2 206 rfl) rfl
theorem q567 : (Jvm.Cond.fieldLink "LateMirrors" (97 : Nat) "LateMirrors" "toldMan" "[I") ∈ lw_all := lw_g (lw_at lw_m2 207 rfl) rfl
theorem q568 : (Jvm.Cond.fieldLink "LateMirrors" (100 : Nat) "LateMirrors" "toldThere" "[Z") ∈ lw_all := lw_g (lw_at lw_m2 208 rfl) rfl
theorem q569 : (Jvm.Cond.laysFinal "LateMirrors" "LateMirrors" "fault" "LLateMirrors$Fault;") ∈ lw_all := lw_g (lw_at lw_m2 209 rfl) rfl
theorem q570 : (Jvm.Cond.soleField "LateMirrors" "fault") ∈ lw_all := lw_g (lw_at lw_m2 210 rfl) rfl
theorem q571 : (Jvm.Cond.laysFinal "LateMirrors" "LateMirrors" "tokens" "LLateMirrors$Tokens;") ∈ lw_all := lw_g (lw_at lw_m2 211 rfl) rfl
theorem q572 : (Jvm.Cond.soleField "LateMirrors" "tokens") ∈ lw_all := lw_g (lw_at lw_m2 212 rfl) rfl
theorem q573 : (Jvm.Cond.laysFinal "LateMirrors" "LateMirrors" "parser" "LLateMirrors$Parser;") ∈ lw_all := lw_g (lw_at lw_m2 213 rfl) rfl
theorem q574 : (Jvm.Cond.soleField "LateMirrors" "parser") ∈ lw_all := lw_g (lw_at lw_m2 214 rfl) rfl
theorem q575 : (Jvm.Cond.lays "LateMirrors" "LateMirrors" "text" "LLateMirrors$Text;") ∈ lw_all := lw_g (lw_at lw_m2 215 rfl) rfl
theorem q576 : (Jvm.Cond.soleField "LateMirrors" "text") ∈ lw_all := lw_g (lw_at lw_m2 216 rfl) rfl
theorem q577 : (Jvm.Cond.lays "LateMirrors" "LateMirrors" "place" "I") ∈ lw_all := lw_g (lw_at lw_m2 217 rfl) rfl
theorem q578 : (Jvm.Cond.soleField "LateMirrors" "place") ∈ lw_all := lw_g (lw_at lw_m2 218 rfl) rfl
theorem q579 : (Jvm.Cond.lays "LateMirrors" "LateMirrors" "undos" "I") ∈ lw_all := lw_g (lw_at lw_m2 219 rfl) rfl
theorem q580 : (Jvm.Cond.soleField "LateMirrors" "undos") ∈ lw_all := lw_g (lw_at lw_m2 220 rfl) rfl
theorem q581 : (Jvm.Cond.lays "LateMirrors" "LateMirrors" "undoAt" "I") ∈ lw_all := lw_g (lw_at lw_m2 221 rfl) rfl
theorem q582 : (Jvm.Cond.soleField "LateMirrors" "undoAt") ∈ lw_all := lw_g (lw_at lw_m2 222 rfl) rfl
theorem q583 : (Jvm.Cond.laysFinal "LateMirrors" "LateMirrors" "court" "LLateMirrors$Court;") ∈ lw_all := lw_g (lw_at lw_m2 223 rfl) rfl
theorem q584 : (Jvm.Cond.soleField "LateMirrors" "court") ∈ lw_all := lw_g (lw_at lw_m2 224 rfl) rfl
theorem q585 : (Jvm.Cond.laysFinal "LateMirrors" "LateMirrors" "trial" "LLateMirrors$Court;") ∈ lw_all := lw_g (lw_at lw_m2 225 rfl) rfl
theorem q586 : (Jvm.Cond.soleField "LateMirrors" "trial") ∈ lw_all := lw_g (lw_at lw_m2 226 rfl) rfl
theorem q587 : (Jvm.Cond.laysFinal "LateMirrors" "LateMirrors" "past" "[LLateMirrors$Court;") ∈ lw_all := lw_g (lw_at lw_m2 227 rfl) rfl
theorem q588 : (Jvm.Cond.soleField "LateMirrors" "past") ∈ lw_all := lw_g (lw_at lw_m2 228 rfl) rfl
theorem q589 : (Jvm.Cond.laysFinal "LateMirrors" "LateMirrors" "slots" "[LLateMirrors$Court;") ∈ lw_all := lw_g (lw_at lw_m2 229 rfl) rfl
theorem q590 : (Jvm.Cond.soleField "LateMirrors" "slots") ∈ lw_all := lw_g (lw_at lw_m2 230 rfl) rfl
theorem q591 : (Jvm.Cond.laysFinal "LateMirrors" "LateMirrors" "held" "[Z") ∈ lw_all := lw_g (lw_at lw_m2 231 rfl) rfl
theorem q592 : (Jvm.Cond.soleField "LateMirrors" "held") ∈ lw_all := lw_g (lw_at lw_m2 232 rfl) rfl
theorem q593 : (Jvm.Cond.laysFinal "LateMirrors" "LateMirrors" "glance" "LLateMirrors$Glance;") ∈ lw_all := lw_g (lw_at lw_m2 233 rfl) rfl
theorem q594 : (Jvm.Cond.soleField "LateMirrors" "glance") ∈ lw_all := lw_g (lw_at lw_m2 234 rfl) rfl
theorem q595 : (Jvm.Cond.laysFinal "LateMirrors" "LateMirrors" "often" "[I") ∈ lw_all := lw_g (lw_at lw_m2 235 rfl) rfl
theorem q596 : (Jvm.Cond.soleField "LateMirrors" "often") ∈ lw_all := lw_g (lw_at lw_m2 236 rfl) rfl
theorem q597 : (Jvm.Cond.laysFinal "LateMirrors" "LateMirrors" "reached" "[[Z") ∈ lw_all := lw_g (lw_at lw_m2 237 rfl) rfl
theorem q598 : (Jvm.Cond.soleField "LateMirrors" "reached") ∈ lw_all := lw_g (lw_at lw_m2 238 rfl) rfl
theorem q599 : (Jvm.Cond.laysFinal "LateMirrors" "LateMirrors" "then" "[[Z") ∈ lw_all := lw_g (lw_at lw_m2 239 rfl) rfl
theorem q600 : (Jvm.Cond.soleField "LateMirrors" "then") ∈ lw_all := lw_g (lw_at lw_m3 0 rfl) rfl
theorem q601 : (Jvm.Cond.lays "LateMirrors" "LateMirrors" "firstAt" "I") ∈ lw_all := lw_g (lw_at lw_m3 1 rfl) rfl
theorem q602 : (Jvm.Cond.soleField "LateMirrors" "firstAt") ∈ lw_all := lw_g (lw_at lw_m3 2 rfl) rfl
theorem q603 : (Jvm.Cond.laysFinal "LateMirrors" "LateMirrors" "far" "[I") ∈ lw_all := lw_g (lw_at lw_m3 3 rfl) rfl
theorem q604 : (Jvm.Cond.soleField "LateMirrors" "far") ∈ lw_all := lw_g (lw_at lw_m3 4 rfl) rfl
theorem q605 : (Jvm.Cond.lays "LateMirrors" "LateMirrors" "tolds" "I") ∈ lw_all := lw_g (lw_at lw_m3 5 rfl) rfl
theorem q606 : (Jvm.Cond.soleField "LateMirrors" "tolds") ∈ lw_all := lw_g (lw_at lw_m3 6 rfl) rfl
theorem q607 : (Jvm.Cond.laysFinal "LateMirrors" "LateMirrors" "toldMirror" "[I") ∈ lw_all := lw_g (lw_at lw_m3 7 rfl) rfl
theorem q608 : (Jvm.Cond.soleField "LateMirrors" "toldMirror") ∈ lw_all := lw_g (lw_at lw_m3 8 rfl) rfl
theorem q609 : (Jvm.Cond.laysFinal "LateMirrors" "LateMirrors" "toldMinute" "[I") ∈ lw_all := lw_g (lw_at lw_m3 9 rfl) rfl
theorem q610 : (Jvm.Cond.soleField "LateMirrors" "toldMinute") ∈ lw_all := lw_g (lw_at lw_m3 10 rfl) rfl
theorem q611 : (Jvm.Cond.laysFinal "LateMirrors" "LateMirrors" "toldMan" "[I") ∈ lw_all := lw_g (lw_at lw_m3 11 rfl) rfl
theorem q612 : (Jvm.Cond.soleField "LateMirrors" "toldMan") ∈ lw_all := lw_g (lw_at lw_m3 12 rfl) rfl
theorem q613 : (Jvm.Cond.laysFinal "LateMirrors" "LateMirrors" "toldThere" "[Z") ∈ lw_all := lw_g (lw_at lw_m3 13 rfl) rfl
theorem q614 : (Jvm.Cond.soleField "LateMirrors" "toldThere") ∈ lw_all := lw_g (lw_at lw_m3 14 rfl) rfl
theorem q615 : (Jvm.Cond.superclass "LateMirrors" "java/lang/Object") ∈ lw_all := lw_g (lw_at lw_m3 15 rfl) rfl
theorem q617 : (Jvm.Cond.instanceMethod ({ cls := "LateMirrors", name := "feed", desc := "(IIIII)I" } : Jvm.MethodName)) ∈ lw_all := lw_g (lw_at lw_m3 17 rfl) rfl
theorem q618 : (Jvm.Cond.selects "LateMirrors" ({ cls := "LateMirrors", name := "feed", desc := "(IIIII)I" } : Jvm.MethodName) ({ cls := "LateMirrors", name := "feed", desc := "(IIIII)I" } : Jvm.MethodName)) ∈ lw_all := lw_g (lw_at lw_m3 18 rfl) rfl
theorem q619 : (Jvm.Cond.code ({ cls := "LateMirrors", name := "feed", desc := "(IIIII)I" } : Jvm.MethodName) prog_1_method_4_code (6 : Nat) (Option.some Jvm.ClassFile.FieldType.int)) ∈ lw_all := lw_g (lw_at lw_m3 19 rfl) rfl
theorem q620 : (Jvm.Cond.methodLink "LateMirrors" (110 : Nat) ({ cls := "LateMirrors", name := "typed", desc := "(I)V" } : Jvm.MethodName)) ∈ lw_all := lw_g (lw_at lw_m3 20 rfl) rfl
theorem q621 : (Jvm.Cond.privateMethod ({ cls := "LateMirrors", name := "typed", desc := "(I)V" } : Jvm.MethodName)) ∈ lw_tbl := lw_at lw_m3 21 rfl
theorem q622 : (Jvm.Cond.instanceMethod ({ cls := "LateMirrors", name := "typed", desc := "(I)V" } : Jvm.MethodName)) ∈ lw_all := lw_g (lw_at lw_m3 22 rfl) rfl
theorem q623 : (Jvm.Cond.code ({ cls := "LateMirrors", name := "typed", desc := "(I)V" } : Jvm.MethodName) prog_1_method_5_code (3 : Nat) (Option.none : Option Jvm.ClassFile.FieldType)) ∈ lw_all := lw_g (lw_at lw_m3 23 rfl) rfl
theorem q625 : (Jvm.Cond.instanceMethod ({ cls := "LateMirrors", name := "back", desc := "(I)I" } : Jvm.MethodName)) ∈ lw_all := lw_g (lw_at lw_m3 25 rfl) rfl
theorem q626 : (Jvm.Cond.selects "LateMirrors" ({ cls := "LateMirrors", name := "back", desc := "(I)I" } : Jvm.MethodName) ({ cls := "LateMirrors", name := "back", desc := "(I)I" } : Jvm.MethodName)) ∈ lw_all := lw_g (lw_at lw_m3 26 rfl) rfl
theorem q627 : (Jvm.Cond.code ({ cls := "LateMirrors", name := "back", desc := "(I)I" } : Jvm.MethodName) prog_1_method_6_code (2 : Nat) (Option.some Jvm.ClassFile.FieldType.int)) ∈ lw_all := lw_g (lw_at lw_m3 27 rfl) rfl
theorem q629 : (Jvm.Cond.instanceMethod ({ cls := "LateMirrors", name := "read", desc := "()I" } : Jvm.MethodName)) ∈ lw_all := lw_g (lw_at lw_m3 29 rfl) rfl
theorem q630 : (Jvm.Cond.selects "LateMirrors" ({ cls := "LateMirrors", name := "read", desc := "()I" } : Jvm.MethodName) ({ cls := "LateMirrors", name := "read", desc := "()I" } : Jvm.MethodName)) ∈ lw_all := lw_g (lw_at lw_m3 30 rfl) rfl
theorem q631 : (Jvm.Cond.codeWith ({ cls := "LateMirrors", name := "read", desc := "()I" } : Jvm.MethodName) prog_1_method_7_code (3 : Nat) (Option.some Jvm.ClassFile.FieldType.int) [((7 : Nat), (59 : Nat), (62 : Nat), (14 : Nat))]) ∈ lw_all := lw_g (lw_at lw_m3 31 rfl) rfl
theorem q632 : (Jvm.Cond.methodLink "LateMirrors" (118 : Nat) ({ cls := "LateMirrors$Parser", name := "read", desc := "()LLateMirrors$Text;" } : Jvm.MethodName)) ∈ lw_all := lw_g (lw_at lw_m3 32 rfl) rfl
theorem q944 : (Jvm.Cond.fieldLink "LateMirrors" (230 : Nat) "LateMirrors$Room" "door" "[I") ∈ lw_all := lw_g (lw_at lw_m4 104 rfl) rfl
theorem q947 : (Jvm.Cond.fieldLink "LateMirrors" (227 : Nat) "LateMirrors$Room" "doors" "I") ∈ lw_all := lw_g (lw_at lw_m4 107 rfl) rfl
theorem q980 : (Jvm.Cond.selects "LateMirrors" ({ cls := "java/lang/Object", name := "getClass", desc := "()Ljava/lang/Class;" } : Jvm.MethodName) ({ cls := "java/lang/Object", name := "getClass", desc := "()Ljava/lang/Class;" } : Jvm.MethodName)) ∈ lw_all := lw_g (lw_at lw_m4 140 rfl) rfl
theorem q1156 : (Jvm.Cond.fieldLink "LateMirrors" (308 : Nat) "LateMirrors$Mirror" "owner" "I") ∈ lw_all := lw_g (lw_at lw_m5 76 rfl) rfl
theorem q1164 : (Jvm.Cond.instanceMethod ({ cls := "LateMirrors", name := "place", desc := "()I" } : Jvm.MethodName)) ∈ lw_all := lw_g (lw_at lw_m5 84 rfl) rfl
theorem q1165 : (Jvm.Cond.selects "LateMirrors" ({ cls := "LateMirrors", name := "place", desc := "()I" } : Jvm.MethodName) ({ cls := "LateMirrors", name := "place", desc := "()I" } : Jvm.MethodName)) ∈ lw_all := lw_g (lw_at lw_m5 85 rfl) rfl
theorem q1166 : (Jvm.Cond.code ({ cls := "LateMirrors", name := "place", desc := "()I" } : Jvm.MethodName) prog_1_method_8_code (1 : Nat) (Option.some Jvm.ClassFile.FieldType.int)) ∈ lw_all := lw_g (lw_at lw_m5 86 rfl) rfl
theorem q1168 : (Jvm.Cond.instanceMethod ({ cls := "LateMirrors", name := "man", desc := "(III)I" } : Jvm.MethodName)) ∈ lw_all := lw_g (lw_at lw_m5 88 rfl) rfl
theorem q1169 : (Jvm.Cond.selects "LateMirrors" ({ cls := "LateMirrors", name := "man", desc := "(III)I" } : Jvm.MethodName) ({ cls := "LateMirrors", name := "man", desc := "(III)I" } : Jvm.MethodName)) ∈ lw_all := lw_g (lw_at lw_m5 89 rfl) rfl
theorem q1170 : (Jvm.Cond.code ({ cls := "LateMirrors", name := "man", desc := "(III)I" } : Jvm.MethodName) prog_1_method_17_code (4 : Nat) (Option.some Jvm.ClassFile.FieldType.int)) ∈ lw_all := lw_g (lw_at lw_m5 90 rfl) rfl
theorem q1171 : (Jvm.Cond.methodLink "LateMirrors" (161 : Nat) ({ cls := "LateMirrors", name := "isMan", desc := "(I)Z" } : Jvm.MethodName)) ∈ lw_all := lw_g (lw_at lw_m5 91 rfl) rfl
theorem q1172 : (Jvm.Cond.privateMethod ({ cls := "LateMirrors", name := "isMan", desc := "(I)Z" } : Jvm.MethodName)) ∈ lw_tbl := lw_at lw_m5 92 rfl
theorem q1173 : (Jvm.Cond.instanceMethod ({ cls := "LateMirrors", name := "isMan", desc := "(I)Z" } : Jvm.MethodName)) ∈ lw_all := lw_g (lw_at lw_m5 93 rfl) rfl
theorem q1174 : (Jvm.Cond.code ({ cls := "LateMirrors", name := "isMan", desc := "(I)Z" } : Jvm.MethodName) prog_1_method_14_code (2 : Nat) (Option.some Jvm.ClassFile.FieldType.boolean)) ∈ lw_all := lw_g (lw_at lw_m5 94 rfl) rfl
theorem q1175 : (Jvm.Cond.methodLink "LateMirrors" (154 : Nat) ({ cls := "LateMirrors", name := "men", desc := "()I" } : Jvm.MethodName)) ∈ lw_all := lw_g (lw_at lw_m5 95 rfl) rfl
theorem q1176 : (Jvm.Cond.privateMethod ({ cls := "LateMirrors", name := "men", desc := "()I" } : Jvm.MethodName)) ∈ lw_tbl := lw_at lw_m5 96 rfl
theorem q1177 : (Jvm.Cond.instanceMethod ({ cls := "LateMirrors", name := "men", desc := "()I" } : Jvm.MethodName)) ∈ lw_all := lw_g (lw_at lw_m5 97 rfl) rfl
theorem q1178 : (Jvm.Cond.code ({ cls := "LateMirrors", name := "men", desc := "()I" } : Jvm.MethodName) prog_1_method_11_code (1 : Nat) (Option.some Jvm.ClassFile.FieldType.int)) ∈ lw_all := lw_g (lw_at lw_m5 98 rfl) rfl
theorem q1179 : (Jvm.Cond.methodLink "LateMirrors" (136 : Nat) ({ cls := "java/util/ArrayList", name := "size", desc := "()I" } : Jvm.MethodName)) ∈ lw_all := lw_g (lw_at lw_m5 99 rfl) rfl
theorem q1180 : (Jvm.Cond.methodLink "LateMirrors" (150 : Nat) ({ cls := "LateMirrors", name := "isIn", desc := "(III)Z" } : Jvm.MethodName)) ∈ lw_all := lw_g (lw_at lw_m5 100 rfl) rfl
theorem q1181 : (Jvm.Cond.static ({ cls := "LateMirrors", name := "isIn", desc := "(III)Z" } : Jvm.MethodName)) ∈ lw_all := lw_g (lw_at lw_m5 101 rfl) rfl
theorem q1182 : (Jvm.Cond.code ({ cls := "LateMirrors", name := "isIn", desc := "(III)Z" } : Jvm.MethodName) prog_1_method_9_code (3 : Nat) (Option.some Jvm.ClassFile.FieldType.boolean)) ∈ lw_all := lw_g (lw_at lw_m5 102 rfl) rfl
theorem q1183 : (Jvm.Cond.methodLink "LateMirrors" (165 : Nat) ({ cls := "LateMirrors", name := "isPast", desc := "(I)Z" } : Jvm.MethodName)) ∈ lw_all := lw_g (lw_at lw_m5 103 rfl) rfl
theorem q1184 : (Jvm.Cond.privateMethod ({ cls := "LateMirrors", name := "isPast", desc := "(I)Z" } : Jvm.MethodName)) ∈ lw_tbl := lw_at lw_m5 104 rfl
theorem q1185 : (Jvm.Cond.instanceMethod ({ cls := "LateMirrors", name := "isPast", desc := "(I)Z" } : Jvm.MethodName)) ∈ lw_all := lw_g (lw_at lw_m5 105 rfl) rfl
theorem q1186 : (Jvm.Cond.code ({ cls := "LateMirrors", name := "isPast", desc := "(I)Z" } : Jvm.MethodName) prog_1_method_16_code (2 : Nat) (Option.some Jvm.ClassFile.FieldType.boolean)) ∈ lw_all := lw_g (lw_at lw_m5 106 rfl) rfl
theorem q1188 : (Jvm.Cond.instanceMethod ({ cls := "LateMirrors", name := "mirror", desc := "(III)I" } : Jvm.MethodName)) ∈ lw_all := lw_g (lw_at lw_m5 108 rfl) rfl
theorem q1189 : (Jvm.Cond.selects "LateMirrors" ({ cls := "LateMirrors", name := "mirror", desc := "(III)I" } : Jvm.MethodName) ({ cls := "LateMirrors", name := "mirror", desc := "(III)I" } : Jvm.MethodName)) ∈ lw_all := lw_g (lw_at lw_m5 109 rfl) rfl
theorem q1190 : (Jvm.Cond.code ({ cls := "LateMirrors", name := "mirror", desc := "(III)I" } : Jvm.MethodName) prog_1_method_18_code (5 : Nat) (Option.some Jvm.ClassFile.FieldType.int)) ∈ lw_all := lw_g (lw_at lw_m5 110 rfl) rfl
theorem q1191 : (Jvm.Cond.methodLink "LateMirrors" (175 : Nat) ({ cls := "LateMirrors", name := "isMirror", desc := "(I)Z" } : Jvm.MethodName)) ∈ lw_all := lw_g (lw_at lw_m5 111 rfl) rfl
theorem q1192 : (Jvm.Cond.privateMethod ({ cls := "LateMirrors", name := "isMirror", desc := "(I)Z" } : Jvm.MethodName)) ∈ lw_tbl := lw_at lw_m5 112 rfl
theorem q1193 : (Jvm.Cond.instanceMethod ({ cls := "LateMirrors", name := "isMirror", desc := "(I)Z" } : Jvm.MethodName)) ∈ lw_all := lw_g (lw_at lw_m5 113 rfl) rfl
theorem q1194 : (Jvm.Cond.code ({ cls := "LateMirrors", name := "isMirror", desc := "(I)Z" } : Jvm.MethodName) prog_1_method_15_code (2 : Nat) (Option.some Jvm.ClassFile.FieldType.boolean)) ∈ lw_all := lw_g (lw_at lw_m5 114 rfl) rfl
theorem q1195 : (Jvm.Cond.methodLink "LateMirrors" (156 : Nat) ({ cls := "LateMirrors", name := "mirrors", desc := "()I" } : Jvm.MethodName)) ∈ lw_all := lw_g (lw_at lw_m5 115 rfl) rfl
theorem q1196 : (Jvm.Cond.privateMethod ({ cls := "LateMirrors", name := "mirrors", desc := "()I" } : Jvm.MethodName)) ∈ lw_tbl := lw_at lw_m5 116 rfl
theorem q1197 : (Jvm.Cond.instanceMethod ({ cls := "LateMirrors", name := "mirrors", desc := "()I" } : Jvm.MethodName)) ∈ lw_all := lw_g (lw_at lw_m5 117 rfl) rfl
theorem q1198 : (Jvm.Cond.code ({ cls := "LateMirrors", name := "mirrors", desc := "()I" } : Jvm.MethodName) prog_1_method_12_code (1 : Nat) (Option.some Jvm.ClassFile.FieldType.int)) ∈ lw_all := lw_g (lw_at lw_m5 118 rfl) rfl
theorem q1199 : (Jvm.Cond.methodLink "LateMirrors" (178 : Nat) ({ cls := "LateMirrors$Court", name := "shows", desc := "(II)I" } : Jvm.MethodName)) ∈ lw_all := lw_g (lw_at lw_m5 119 rfl) rfl
theorem q1207 : (Jvm.Cond.methodLink "LateMirrors" (191 : Nat) ({ cls := "LateMirrors$Court", name := "isBroken", desc := "(II)Z" } : Jvm.MethodName)) ∈ lw_all := lw_g (lw_at lw_m5 127 rfl) rfl
theorem q1208 : (Jvm.Cond.methodLink "LateMirrors" (195 : Nat) ({ cls := "LateMirrors$Court", name := "menShown", desc := "(LLateMirrors$Text;II)I" } : Jvm.MethodName)) ∈ lw_all := lw_g (lw_at lw_m5 128 rfl) rfl
theorem q1214 : (Jvm.Cond.instanceMethod ({ cls := "LateMirrors", name := "minutes", desc := "(I)I" } : Jvm.MethodName)) ∈ lw_all := lw_g (lw_at lw_m5 134 rfl) rfl
theorem q1215 : (Jvm.Cond.selects "LateMirrors" ({ cls := "LateMirrors", name := "minutes", desc := "(I)I" } : Jvm.MethodName) ({ cls := "LateMirrors", name := "minutes", desc := "(I)I" } : Jvm.MethodName)) ∈ lw_all := lw_g (lw_at lw_m5 135 rfl) rfl
theorem q1216 : (Jvm.Cond.code ({ cls := "LateMirrors", name := "minutes", desc := "(I)I" } : Jvm.MethodName) prog_1_method_21_code (2 : Nat) (Option.some Jvm.ClassFile.FieldType.int)) ∈ lw_all := lw_g (lw_at lw_m5 136 rfl) rfl
theorem q1217 : (Jvm.Cond.methodLink "LateMirrors" (214 : Nat) ({ cls := "LateMirrors", name := "keeps", desc := "()V" } : Jvm.MethodName)) ∈ lw_all := lw_g (lw_at lw_m5 137 rfl) rfl
theorem q1218 : (Jvm.Cond.privateMethod ({ cls := "LateMirrors", name := "keeps", desc := "()V" } : Jvm.MethodName)) ∈ lw_tbl := lw_at lw_m5 138 rfl
theorem q1219 : (Jvm.Cond.instanceMethod ({ cls := "LateMirrors", name := "keeps", desc := "()V" } : Jvm.MethodName)) ∈ lw_all := lw_g (lw_at lw_m5 139 rfl) rfl
theorem q1220 : (Jvm.Cond.code ({ cls := "LateMirrors", name := "keeps", desc := "()V" } : Jvm.MethodName) prog_1_method_19_code (1 : Nat) (Option.none : Option Jvm.ClassFile.FieldType)) ∈ lw_all := lw_g (lw_at lw_m5 140 rfl) rfl
theorem q1221 : (Jvm.Cond.methodLink "LateMirrors" (202 : Nat) ({ cls := "LateMirrors$Court", name := "takes", desc := "(LLateMirrors$Court;)V" } : Jvm.MethodName)) ∈ lw_all := lw_g (lw_at lw_m5 141 rfl) rfl
theorem q1226 : (Jvm.Cond.methodLink "LateMirrors" (206 : Nat) ({ cls := "java/lang/Math", name := "min", desc := "(II)I" } : Jvm.MethodName)) ∈ lw_all := lw_g (lw_at lw_m5 146 rfl) rfl
theorem q1227 : (Jvm.Cond.methodLink "LateMirrors" (217 : Nat) ({ cls := "LateMirrors", name := "runs", desc := "(LLateMirrors$Court;I)V" } : Jvm.MethodName)) ∈ lw_all := lw_g (lw_at lw_m5 147 rfl) rfl
theorem q1228 : (Jvm.Cond.privateMethod ({ cls := "LateMirrors", name := "runs", desc := "(LLateMirrors$Court;I)V" } : Jvm.MethodName)) ∈ lw_tbl := lw_at lw_m5 148 rfl
theorem q1229 : (Jvm.Cond.instanceMethod ({ cls := "LateMirrors", name := "runs", desc := "(LLateMirrors$Court;I)V" } : Jvm.MethodName)) ∈ lw_all := lw_g (lw_at lw_m5 149 rfl) rfl
theorem q1230 : (Jvm.Cond.code ({ cls := "LateMirrors", name := "runs", desc := "(LLateMirrors$Court;I)V" } : Jvm.MethodName) prog_1_method_20_code (4 : Nat) (Option.none : Option Jvm.ClassFile.FieldType)) ∈ lw_all := lw_g (lw_at lw_m5 150 rfl) rfl
theorem q1231 : (Jvm.Cond.methodLink "LateMirrors" (211 : Nat) ({ cls := "LateMirrors$Court", name := "goesBy", desc := "(LLateMirrors$Text;)V" } : Jvm.MethodName)) ∈ lw_all := lw_g (lw_at lw_m5 151 rfl) rfl
theorem q1240 : (Jvm.Cond.static ({ cls := "LateMirrors", name := "lot", desc := "(III)I" } : Jvm.MethodName)) ∈ lw_all := lw_g (lw_at lw_m5 160 rfl) rfl
theorem q1241 : (Jvm.Cond.code ({ cls := "LateMirrors", name := "lot", desc := "(III)I" } : Jvm.MethodName) prog_1_method_2_code (3 : Nat) (Option.some Jvm.ClassFile.FieldType.int)) ∈ lw_all := lw_g (lw_at lw_m5 161 rfl) rfl
theorem q1242 : (Jvm.Cond.methodLink "LateMirrors" (2 : Nat) ({ cls := "LateMirrors", name := "mixed", desc := "(II)I" } : Jvm.MethodName)) ∈ lw_all := lw_g (lw_at lw_m5 162 rfl) rfl
theorem q1243 : (Jvm.Cond.static ({ cls := "LateMirrors", name := "mixed", desc := "(II)I" } : Jvm.MethodName)) ∈ lw_all := lw_g (lw_at lw_m5 163 rfl) rfl
theorem q1244 : (Jvm.Cond.code ({ cls := "LateMirrors", name := "mixed", desc := "(II)I" } : Jvm.MethodName) prog_1_method_1_code (3 : Nat) (Option.some Jvm.ClassFile.FieldType.int)) ∈ lw_all := lw_g (lw_at lw_m5 164 rfl) rfl
theorem q1245 : (Jvm.Cond.constant "LateMirrors" (1 : Nat) (1103515245 : Int32)) ∈ lw_all := lw_g (lw_at lw_m5 165 rfl) rfl
theorem q1251 : (Jvm.Cond.instanceMethod ({ cls := "LateMirrors", name := "go", desc := "(II)Z" } : Jvm.MethodName)) ∈ lw_all := lw_g (lw_at lw_m5 171 rfl) rfl
theorem q1252 : (Jvm.Cond.selects "LateMirrors" ({ cls := "LateMirrors", name := "go", desc := "(II)Z" } : Jvm.MethodName) ({ cls := "LateMirrors", name := "go", desc := "(II)Z" } : Jvm.MethodName)) ∈ lw_all := lw_g (lw_at lw_m5 172 rfl) rfl
theorem q1253 : (Jvm.Cond.code ({ cls := "LateMirrors", name := "go", desc := "(II)Z" } : Jvm.MethodName) prog_1_method_22_code (4 : Nat) (Option.some Jvm.ClassFile.FieldType.boolean)) ∈ lw_all := lw_g (lw_at lw_m5 173 rfl) rfl
theorem q1254 : (Jvm.Cond.methodLink "LateMirrors" (221 : Nat) ({ cls := "java/util/ArrayList", name := "get", desc := "(I)Ljava/lang/Object;" } : Jvm.MethodName)) ∈ lw_all := lw_g (lw_at lw_m5 174 rfl) rfl
theorem q1255 : (Jvm.Cond.classLink "LateMirrors" (225 : Nat) "LateMirrors$Room") ∈ lw_all := lw_g (lw_at lw_m5 175 rfl) rfl
theorem q1256 : (Jvm.Cond.methodLink "LateMirrors" (233 : Nat) ({ cls := "LateMirrors$Court", name := "looks", desc := "(LLateMirrors$Text;)V" } : Jvm.MethodName)) ∈ lw_all := lw_g (lw_at lw_m5 176 rfl) rfl
theorem q1258 : (Jvm.Cond.instanceMethod ({ cls := "LateMirrors", name := "raise", desc := "(II)Z" } : Jvm.MethodName)) ∈ lw_all := lw_g (lw_at lw_m5 178 rfl) rfl
theorem q1259 : (Jvm.Cond.selects "LateMirrors" ({ cls := "LateMirrors", name := "raise", desc := "(II)Z" } : Jvm.MethodName) ({ cls := "LateMirrors", name := "raise", desc := "(II)Z" } : Jvm.MethodName)) ∈ lw_all := lw_g (lw_at lw_m5 179 rfl) rfl
theorem q1260 : (Jvm.Cond.code ({ cls := "LateMirrors", name := "raise", desc := "(II)Z" } : Jvm.MethodName) prog_1_method_23_code (3 : Nat) (Option.some Jvm.ClassFile.FieldType.boolean)) ∈ lw_all := lw_g (lw_at lw_m5 180 rfl) rfl
theorem q1262 : (Jvm.Cond.instanceMethod ({ cls := "LateMirrors", name := "carry", desc := "(II)Z" } : Jvm.MethodName)) ∈ lw_all := lw_g (lw_at lw_m5 182 rfl) rfl
theorem q1263 : (Jvm.Cond.selects "LateMirrors" ({ cls := "LateMirrors", name := "carry", desc := "(II)Z" } : Jvm.MethodName) ({ cls := "LateMirrors", name := "carry", desc := "(II)Z" } : Jvm.MethodName)) ∈ lw_all := lw_g (lw_at lw_m5 183 rfl) rfl
theorem q1264 : (Jvm.Cond.code ({ cls := "LateMirrors", name := "carry", desc := "(II)Z" } : Jvm.MethodName) prog_1_method_24_code (3 : Nat) (Option.some Jvm.ClassFile.FieldType.boolean)) ∈ lw_all := lw_g (lw_at lw_m5 184 rfl) rfl
theorem q1265 : (Jvm.Cond.methodLink "LateMirrors" (236 : Nat) ({ cls := "LateMirrors", name := "isRoom", desc := "(I)Z" } : Jvm.MethodName)) ∈ lw_all := lw_g (lw_at lw_m5 185 rfl) rfl
theorem q1266 : (Jvm.Cond.privateMethod ({ cls := "LateMirrors", name := "isRoom", desc := "(I)Z" } : Jvm.MethodName)) ∈ lw_tbl := lw_at lw_m5 186 rfl
theorem q1267 : (Jvm.Cond.instanceMethod ({ cls := "LateMirrors", name := "isRoom", desc := "(I)Z" } : Jvm.MethodName)) ∈ lw_all := lw_g (lw_at lw_m5 187 rfl) rfl
theorem q1268 : (Jvm.Cond.code ({ cls := "LateMirrors", name := "isRoom", desc := "(I)Z" } : Jvm.MethodName) prog_1_method_13_code (2 : Nat) (Option.some Jvm.ClassFile.FieldType.boolean)) ∈ lw_all := lw_g (lw_at lw_m5 188 rfl) rfl
theorem q1269 : (Jvm.Cond.methodLink "LateMirrors" (148 : Nat) ({ cls := "LateMirrors", name := "rooms", desc := "()I" } : Jvm.MethodName)) ∈ lw_all := lw_g (lw_at lw_m5 189 rfl) rfl
theorem q1270 : (Jvm.Cond.privateMethod ({ cls := "LateMirrors", name := "rooms", desc := "()I" } : Jvm.MethodName)) ∈ lw_tbl := lw_at lw_m5 190 rfl
theorem q1271 : (Jvm.Cond.instanceMethod ({ cls := "LateMirrors", name := "rooms", desc := "()I" } : Jvm.MethodName)) ∈ lw_all := lw_g (lw_at lw_m5 191 rfl) rfl
theorem q1272 : (Jvm.Cond.code ({ cls := "LateMirrors", name := "rooms", desc := "()I" } : Jvm.MethodName) prog_1_method_10_code (1 : Nat) (Option.some Jvm.ClassFile.FieldType.int)) ∈ lw_all := lw_g (lw_at lw_m5 192 rfl) rfl
theorem q1274 : (Jvm.Cond.instanceMethod ({ cls := "LateMirrors", name := "turn", desc := "(IZ)Z" } : Jvm.MethodName)) ∈ lw_all := lw_g (lw_at lw_m5 194 rfl) rfl
theorem q1275 : (Jvm.Cond.selects "LateMirrors" ({ cls := "LateMirrors", name := "turn", desc := "(IZ)Z" } : Jvm.MethodName) ({ cls := "LateMirrors", name := "turn", desc := "(IZ)Z" } : Jvm.MethodName)) ∈ lw_all := lw_g (lw_at lw_m5 195 rfl) rfl
theorem q1276 : (Jvm.Cond.code ({ cls := "LateMirrors", name := "turn", desc := "(IZ)Z" } : Jvm.MethodName) prog_1_method_25_code (3 : Nat) (Option.some Jvm.ClassFile.FieldType.boolean)) ∈ lw_all := lw_g (lw_at lw_m5 196 rfl) rfl
theorem q1278 : (Jvm.Cond.instanceMethod ({ cls := "LateMirrors", name := "smash", desc := "(I)Z" } : Jvm.MethodName)) ∈ lw_all := lw_g (lw_at lw_m5 198 rfl) rfl
theorem q1279 : (Jvm.Cond.selects "LateMirrors" ({ cls := "LateMirrors", name := "smash", desc := "(I)Z" } : Jvm.MethodName) ({ cls := "LateMirrors", name := "smash", desc := "(I)Z" } : Jvm.MethodName)) ∈ lw_all := lw_g (lw_at lw_m5 199 rfl) rfl
theorem q1280 : (Jvm.Cond.code ({ cls := "LateMirrors", name := "smash", desc := "(I)Z" } : Jvm.MethodName) prog_1_method_26_code (2 : Nat) (Option.some Jvm.ClassFile.FieldType.boolean)) ∈ lw_all := lw_g (lw_at lw_m5 200 rfl) rfl
theorem q1281 : (Jvm.Cond.methodLink "LateMirrors" (239 : Nat) ({ cls := "LateMirrors$Court", name := "breaks", desc := "(I)V" } : Jvm.MethodName)) ∈ lw_all := lw_g (lw_at lw_m5 201 rfl) rfl
theorem q1283 : (Jvm.Cond.instanceMethod ({ cls := "LateMirrors", name := "undo", desc := "()Z" } : Jvm.MethodName)) ∈ lw_all := lw_g (lw_at lw_m5 203 rfl) rfl
theorem q1284 : (Jvm.Cond.selects "LateMirrors" ({ cls := "LateMirrors", name := "undo", desc := "()Z" } : Jvm.MethodName) ({ cls := "LateMirrors", name := "undo", desc := "()Z" } : Jvm.MethodName)) ∈ lw_all := lw_g (lw_at lw_m5 204 rfl) rfl
theorem q1285 : (Jvm.Cond.code ({ cls := "LateMirrors", name := "undo", desc := "()Z" } : Jvm.MethodName) prog_1_method_27_code (1 : Nat) (Option.some Jvm.ClassFile.FieldType.boolean)) ∈ lw_all := lw_g (lw_at lw_m5 205 rfl) rfl
theorem q1287 : (Jvm.Cond.instanceMethod ({ cls := "LateMirrors", name := "look", desc := "(IIII)I" } : Jvm.MethodName)) ∈ lw_all := lw_g (lw_at lw_m5 207 rfl) rfl
theorem q1288 : (Jvm.Cond.selects "LateMirrors" ({ cls := "LateMirrors", name := "look", desc := "(IIII)I" } : Jvm.MethodName) ({ cls := "LateMirrors", name := "look", desc := "(IIII)I" } : Jvm.MethodName)) ∈ lw_all := lw_g (lw_at lw_m5 208 rfl) rfl
theorem q1289 : (Jvm.Cond.code ({ cls := "LateMirrors", name := "look", desc := "(IIII)I" } : Jvm.MethodName) prog_1_method_28_code (7 : Nat) (Option.some Jvm.ClassFile.FieldType.int)) ∈ lw_all := lw_g (lw_at lw_m5 209 rfl) rfl
theorem q1290 : (Jvm.Cond.methodLink "LateMirrors" (242 : Nat) ({ cls := "LateMirrors$Glance", name := "begins", desc := "(II)V" } : Jvm.MethodName)) ∈ lw_all := lw_g (lw_at lw_m5 210 rfl) rfl
theorem q1294 : (Jvm.Cond.methodLink "LateMirrors" (245 : Nat) ({ cls := "LateMirrors$Glance", name := "goesTo", desc := "(LLateMirrors$Court;I)Z" } : Jvm.MethodName)) ∈ lw_all := lw_g (lw_at lw_m5 214 rfl) rfl
theorem q1303 : (Jvm.Cond.methodLink "LateMirrors" (249 : Nat) ({ cls := "LateMirrors$Glance", name := "shows", desc := "(LLateMirrors$Court;)I" } : Jvm.MethodName)) ∈ lw_all := lw_g (lw_at lw_m5 223 rfl) rfl
theorem q1304 : (Jvm.Cond.methodLink "LateMirrors" (255 : Nat) ({ cls := "LateMirrors$Court", name := "menIn", desc := "(LLateMirrors$Text;II)I" } : Jvm.MethodName)) ∈ lw_all := lw_g (lw_at lw_m5 224 rfl) rfl
theorem q1306 : (Jvm.Cond.instanceMethod ({ cls := "LateMirrors", name := "facing", desc := "(III)I" } : Jvm.MethodName)) ∈ lw_all := lw_g (lw_at lw_m5 226 rfl) rfl
theorem q1307 : (Jvm.Cond.selects "LateMirrors" ({ cls := "LateMirrors", name := "facing", desc := "(III)I" } : Jvm.MethodName) ({ cls := "LateMirrors", name := "facing", desc := "(III)I" } : Jvm.MethodName)) ∈ lw_all := lw_g (lw_at lw_m5 227 rfl) rfl
theorem q1308 : (Jvm.Cond.code ({ cls := "LateMirrors", name := "facing", desc := "(III)I" } : Jvm.MethodName) prog_1_method_29_code (6 : Nat) (Option.some Jvm.ClassFile.FieldType.int)) ∈ lw_all := lw_g (lw_at lw_m5 228 rfl) rfl
theorem q1310 : (Jvm.Cond.instanceMethod ({ cls := "LateMirrors", name := "last", desc := "(II)I" } : Jvm.MethodName)) ∈ lw_all := lw_g (lw_at lw_m5 230 rfl) rfl
theorem q1311 : (Jvm.Cond.selects "LateMirrors" ({ cls := "LateMirrors", name := "last", desc := "(II)I" } : Jvm.MethodName) ({ cls := "LateMirrors", name := "last", desc := "(II)I" } : Jvm.MethodName)) ∈ lw_all := lw_g (lw_at lw_m5 231 rfl) rfl
theorem q1312 : (Jvm.Cond.code ({ cls := "LateMirrors", name := "last", desc := "(II)I" } : Jvm.MethodName) prog_1_method_30_code (4 : Nat) (Option.some Jvm.ClassFile.FieldType.int)) ∈ lw_all := lw_g (lw_at lw_m5 232 rfl) rfl
theorem q1314 : (Jvm.Cond.instanceMethod ({ cls := "LateMirrors", name := "visits", desc := "(II)I" } : Jvm.MethodName)) ∈ lw_all := lw_g (lw_at lw_m5 234 rfl) rfl
theorem q1315 : (Jvm.Cond.selects "LateMirrors" ({ cls := "LateMirrors", name := "visits", desc := "(II)I" } : Jvm.MethodName) ({ cls := "LateMirrors", name := "visits", desc := "(II)I" } : Jvm.MethodName)) ∈ lw_all := lw_g (lw_at lw_m5 235 rfl) rfl
theorem q1316 : (Jvm.Cond.code ({ cls := "LateMirrors", name := "visits", desc := "(II)I" } : Jvm.MethodName) prog_1_method_31_code (5 : Nat) (Option.some Jvm.ClassFile.FieldType.int)) ∈ lw_all := lw_g (lw_at lw_m5 236 rfl) rfl
theorem q1318 : (Jvm.Cond.instanceMethod ({ cls := "LateMirrors", name := "alone", desc := "(IZ)I" } : Jvm.MethodName)) ∈ lw_all := lw_g (lw_at lw_m5 238 rfl) rfl
theorem q1319 : (Jvm.Cond.selects "LateMirrors" ({ cls := "LateMirrors", name := "alone", desc := "(IZ)I" } : Jvm.MethodName) ({ cls := "LateMirrors", name := "alone", desc := "(IZ)I" } : Jvm.MethodName)) ∈ lw_all := lw_g (lw_at lw_m5 239 rfl) rfl
theorem q1320 : (Jvm.Cond.code ({ cls := "LateMirrors", name := "alone", desc := "(IZ)I" } : Jvm.MethodName) prog_1_method_33_code (8 : Nat) (Option.some Jvm.ClassFile.FieldType.int)) ∈ lw_all := lw_g (lw_at lw_m6 0 rfl) rfl
theorem q1321 : (Jvm.Cond.methodLink "LateMirrors" (258 : Nat) ({ cls := "LateMirrors", name := "isAlone", desc := "(II)Z" } : Jvm.MethodName)) ∈ lw_all := lw_g (lw_at lw_m6 1 rfl) rfl
theorem q1322 : (Jvm.Cond.privateMethod ({ cls := "LateMirrors", name := "isAlone", desc := "(II)Z" } : Jvm.MethodName)) ∈ lw_tbl := lw_at lw_m6 2 rfl
theorem q1323 : (Jvm.Cond.instanceMethod ({ cls := "LateMirrors", name := "isAlone", desc := "(II)Z" } : Jvm.MethodName)) ∈ lw_all := lw_g (lw_at lw_m6 3 rfl) rfl
theorem q1324 : (Jvm.Cond.code ({ cls := "LateMirrors", name := "isAlone", desc := "(II)Z" } : Jvm.MethodName) prog_1_method_32_code (3 : Nat) (Option.some Jvm.ClassFile.FieldType.boolean)) ∈ lw_all := lw_g (lw_at lw_m6 4 rfl) rfl
theorem q1325 : (Jvm.Cond.methodLink "LateMirrors" (261 : Nat) ({ cls := "java/lang/Math", name := "max", desc := "(II)I" } : Jvm.MethodName)) ∈ lw_all := lw_g (lw_at lw_m6 5 rfl) rfl
theorem q1327 : (Jvm.Cond.instanceMethod ({ cls := "LateMirrors", name := "lonely", desc := "()I" } : Jvm.MethodName)) ∈ lw_all := lw_g (lw_at lw_m6 7 rfl) rfl
theorem q1328 : (Jvm.Cond.selects "LateMirrors" ({ cls := "LateMirrors", name := "lonely", desc := "()I" } : Jvm.MethodName) ({ cls := "LateMirrors", name := "lonely", desc := "()I" } : Jvm.MethodName)) ∈ lw_all := lw_g (lw_at lw_m6 8 rfl) rfl
theorem q1329 : (Jvm.Cond.code ({ cls := "LateMirrors", name := "lonely", desc := "()I" } : Jvm.MethodName) prog_1_method_34_code (3 : Nat) (Option.some Jvm.ClassFile.FieldType.int)) ∈ lw_all := lw_g (lw_at lw_m6 9 rfl) rfl
theorem q1330 : (Jvm.Cond.methodLink "LateMirrors" (264 : Nat) ({ cls := "LateMirrors", name := "alone", desc := "(IZ)I" } : Jvm.MethodName)) ∈ lw_all := lw_g (lw_at lw_m6 10 rfl) rfl
theorem q1332 : (Jvm.Cond.instanceMethod ({ cls := "LateMirrors", name := "together", desc := "(III)I" } : Jvm.MethodName)) ∈ lw_all := lw_g (lw_at lw_m6 12 rfl) rfl
theorem q1333 : (Jvm.Cond.selects "LateMirrors" ({ cls := "LateMirrors", name := "together", desc := "(III)I" } : Jvm.MethodName) ({ cls := "LateMirrors", name := "together", desc := "(III)I" } : Jvm.MethodName)) ∈ lw_all := lw_g (lw_at lw_m6 13 rfl) rfl
theorem q1334 : (Jvm.Cond.code ({ cls := "LateMirrors", name := "together", desc := "(III)I" } : Jvm.MethodName) prog_1_method_35_code (7 : Nat) (Option.some Jvm.ClassFile.FieldType.int)) ∈ lw_all := lw_g (lw_at lw_m6 14 rfl) rfl
theorem q1336 : (Jvm.Cond.instanceMethod ({ cls := "LateMirrors", name := "glimpses", desc := "(III)I" } : Jvm.MethodName)) ∈ lw_all := lw_g (lw_at lw_m6 16 rfl) rfl
theorem q1337 : (Jvm.Cond.selects "LateMirrors" ({ cls := "LateMirrors", name := "glimpses", desc := "(III)I" } : Jvm.MethodName) ({ cls := "LateMirrors", name := "glimpses", desc := "(III)I" } : Jvm.MethodName)) ∈ lw_all := lw_g (lw_at lw_m6 17 rfl) rfl
theorem q1338 : (Jvm.Cond.code ({ cls := "LateMirrors", name := "glimpses", desc := "(III)I" } : Jvm.MethodName) prog_1_method_37_code (7 : Nat) (Option.some Jvm.ClassFile.FieldType.int)) ∈ lw_all := lw_g (lw_at lw_m6 18 rfl) rfl
theorem q1339 : (Jvm.Cond.methodLink "LateMirrors" (268 : Nat) ({ cls := "LateMirrors", name := "menFrom", desc := "(II)I" } : Jvm.MethodName)) ∈ lw_all := lw_g (lw_at lw_m6 19 rfl) rfl
theorem q1340 : (Jvm.Cond.privateMethod ({ cls := "LateMirrors", name := "menFrom", desc := "(II)I" } : Jvm.MethodName)) ∈ lw_tbl := lw_at lw_m6 20 rfl
theorem q1341 : (Jvm.Cond.instanceMethod ({ cls := "LateMirrors", name := "menFrom", desc := "(II)I" } : Jvm.MethodName)) ∈ lw_all := lw_g (lw_at lw_m6 21 rfl) rfl
theorem q1342 : (Jvm.Cond.code ({ cls := "LateMirrors", name := "menFrom", desc := "(II)I" } : Jvm.MethodName) prog_1_method_36_code (5 : Nat) (Option.some Jvm.ClassFile.FieldType.int)) ∈ lw_all := lw_g (lw_at lw_m6 22 rfl) rfl
theorem q1344 : (Jvm.Cond.instanceMethod ({ cls := "LateMirrors", name := "ghosts", desc := "(I)I" } : Jvm.MethodName)) ∈ lw_all := lw_g (lw_at lw_m6 24 rfl) rfl
theorem q1345 : (Jvm.Cond.selects "LateMirrors" ({ cls := "LateMirrors", name := "ghosts", desc := "(I)I" } : Jvm.MethodName) ({ cls := "LateMirrors", name := "ghosts", desc := "(I)I" } : Jvm.MethodName)) ∈ lw_all := lw_g (lw_at lw_m6 25 rfl) rfl
theorem q1346 : (Jvm.Cond.code ({ cls := "LateMirrors", name := "ghosts", desc := "(I)I" } : Jvm.MethodName) prog_1_method_38_code (6 : Nat) (Option.some Jvm.ClassFile.FieldType.int)) ∈ lw_all := lw_g (lw_at lw_m6 26 rfl) rfl
theorem q1348 : (Jvm.Cond.instanceMethod ({ cls := "LateMirrors", name := "oldest", desc := "(I)I" } : Jvm.MethodName)) ∈ lw_all := lw_g (lw_at lw_m6 28 rfl) rfl
theorem q1349 : (Jvm.Cond.selects "LateMirrors" ({ cls := "LateMirrors", name := "oldest", desc := "(I)I" } : Jvm.MethodName) ({ cls := "LateMirrors", name := "oldest", desc := "(I)I" } : Jvm.MethodName)) ∈ lw_all := lw_g (lw_at lw_m6 29 rfl) rfl
theorem q1350 : (Jvm.Cond.code ({ cls := "LateMirrors", name := "oldest", desc := "(I)I" } : Jvm.MethodName) prog_1_method_39_code (6 : Nat) (Option.some Jvm.ClassFile.FieldType.int)) ∈ lw_all := lw_g (lw_at lw_m6 30 rfl) rfl
theorem q1352 : (Jvm.Cond.instanceMethod ({ cls := "LateMirrors", name := "shown", desc := "(IZ)I" } : Jvm.MethodName)) ∈ lw_all := lw_g (lw_at lw_m6 32 rfl) rfl
theorem q1353 : (Jvm.Cond.selects "LateMirrors" ({ cls := "LateMirrors", name := "shown", desc := "(IZ)I" } : Jvm.MethodName) ({ cls := "LateMirrors", name := "shown", desc := "(IZ)I" } : Jvm.MethodName)) ∈ lw_all := lw_g (lw_at lw_m6 33 rfl) rfl
theorem q1354 : (Jvm.Cond.code ({ cls := "LateMirrors", name := "shown", desc := "(IZ)I" } : Jvm.MethodName) prog_1_method_40_code (8 : Nat) (Option.some Jvm.ClassFile.FieldType.int)) ∈ lw_all := lw_g (lw_at lw_m6 34 rfl) rfl
theorem q1356 : (Jvm.Cond.instanceMethod ({ cls := "LateMirrors", name := "deepest", desc := "(II)I" } : Jvm.MethodName)) ∈ lw_all := lw_g (lw_at lw_m6 36 rfl) rfl
theorem q1357 : (Jvm.Cond.selects "LateMirrors" ({ cls := "LateMirrors", name := "deepest", desc := "(II)I" } : Jvm.MethodName) ({ cls := "LateMirrors", name := "deepest", desc := "(II)I" } : Jvm.MethodName)) ∈ lw_all := lw_g (lw_at lw_m6 37 rfl) rfl
theorem q1358 : (Jvm.Cond.code ({ cls := "LateMirrors", name := "deepest", desc := "(II)I" } : Jvm.MethodName) prog_1_method_42_code (9 : Nat) (Option.some Jvm.ClassFile.FieldType.int)) ∈ lw_all := lw_g (lw_at lw_m6 38 rfl) rfl
theorem q1359 : (Jvm.Cond.methodLink "LateMirrors" (280 : Nat) ({ cls := "LateMirrors", name := "goesDeeper", desc := "()V" } : Jvm.MethodName)) ∈ lw_all := lw_g (lw_at lw_m6 39 rfl) rfl
theorem q1360 : (Jvm.Cond.privateMethod ({ cls := "LateMirrors", name := "goesDeeper", desc := "()V" } : Jvm.MethodName)) ∈ lw_tbl := lw_at lw_m6 40 rfl
theorem q1361 : (Jvm.Cond.instanceMethod ({ cls := "LateMirrors", name := "goesDeeper", desc := "()V" } : Jvm.MethodName)) ∈ lw_all := lw_g (lw_at lw_m6 41 rfl) rfl
theorem q1362 : (Jvm.Cond.code ({ cls := "LateMirrors", name := "goesDeeper", desc := "()V" } : Jvm.MethodName) prog_1_method_41_code (4 : Nat) (Option.none : Option Jvm.ClassFile.FieldType)) ∈ lw_all := lw_g (lw_at lw_m6 42 rfl) rfl
theorem q1363 : (Jvm.Cond.methodLink "LateMirrors" (274 : Nat) ({ cls := "java/lang/System", name := "arraycopy", desc := "(Ljava/lang/Object;ILjava/lang/Object;II)V" } : Jvm.MethodName)) ∈ lw_all := lw_g (lw_at lw_m6 43 rfl) rfl
theorem q1365 : (Jvm.Cond.instanceMethod ({ cls := "LateMirrors", name := "crowd", desc := "(II)I" } : Jvm.MethodName)) ∈ lw_all := lw_g (lw_at lw_m6 45 rfl) rfl
theorem q1366 : (Jvm.Cond.selects "LateMirrors" ({ cls := "LateMirrors", name := "crowd", desc := "(II)I" } : Jvm.MethodName) ({ cls := "LateMirrors", name := "crowd", desc := "(II)I" } : Jvm.MethodName)) ∈ lw_all := lw_g (lw_at lw_m6 46 rfl) rfl
theorem q1367 : (Jvm.Cond.code ({ cls := "LateMirrors", name := "crowd", desc := "(II)I" } : Jvm.MethodName) prog_1_method_43_code (7 : Nat) (Option.some Jvm.ClassFile.FieldType.int)) ∈ lw_all := lw_g (lw_at lw_m6 47 rfl) rfl
theorem q1368 : (Jvm.Cond.methodLink "LateMirrors" (283 : Nat) ({ cls := "java/lang/Integer", name := "bitCount", desc := "(I)I" } : Jvm.MethodName)) ∈ lw_all := lw_g (lw_at lw_m6 48 rfl) rfl
theorem q1370 : (Jvm.Cond.instanceMethod ({ cls := "LateMirrors", name := "rankFor", desc := "(II)I" } : Jvm.MethodName)) ∈ lw_all := lw_g (lw_at lw_m6 50 rfl) rfl
theorem q1371 : (Jvm.Cond.selects "LateMirrors" ({ cls := "LateMirrors", name := "rankFor", desc := "(II)I" } : Jvm.MethodName) ({ cls := "LateMirrors", name := "rankFor", desc := "(II)I" } : Jvm.MethodName)) ∈ lw_all := lw_g (lw_at lw_m6 51 rfl) rfl
theorem q1372 : (Jvm.Cond.code ({ cls := "LateMirrors", name := "rankFor", desc := "(II)I" } : Jvm.MethodName) prog_1_method_44_code (5 : Nat) (Option.some Jvm.ClassFile.FieldType.int)) ∈ lw_all := lw_g (lw_at lw_m6 52 rfl) rfl
theorem q1373 : (Jvm.Cond.methodLink "LateMirrors" (289 : Nat) ({ cls := "LateMirrors$Court", name := "lateBy", desc := "(LLateMirrors$Text;II)I" } : Jvm.MethodName)) ∈ lw_all := lw_g (lw_at lw_m6 53 rfl) rfl
theorem q1375 : (Jvm.Cond.instanceMethod ({ cls := "LateMirrors", name := "still", desc := "(II)I" } : Jvm.MethodName)) ∈ lw_all := lw_g (lw_at lw_m6 55 rfl) rfl
theorem q1376 : (Jvm.Cond.selects "LateMirrors" ({ cls := "LateMirrors", name := "still", desc := "(II)I" } : Jvm.MethodName) ({ cls := "LateMirrors", name := "still", desc := "(II)I" } : Jvm.MethodName)) ∈ lw_all := lw_g (lw_at lw_m6 56 rfl) rfl
theorem q1377 : (Jvm.Cond.code ({ cls := "LateMirrors", name := "still", desc := "(II)I" } : Jvm.MethodName) prog_1_method_47_code (5 : Nat) (Option.some Jvm.ClassFile.FieldType.int)) ∈ lw_all := lw_g (lw_at lw_m6 57 rfl) rfl
theorem q1378 : (Jvm.Cond.methodLink "LateMirrors" (295 : Nat) ({ cls := "LateMirrors", name := "goesToEnd", desc := "()V" } : Jvm.MethodName)) ∈ lw_all := lw_g (lw_at lw_m6 58 rfl) rfl
theorem q1379 : (Jvm.Cond.privateMethod ({ cls := "LateMirrors", name := "goesToEnd", desc := "()V" } : Jvm.MethodName)) ∈ lw_tbl := lw_at lw_m6 59 rfl
theorem q1380 : (Jvm.Cond.instanceMethod ({ cls := "LateMirrors", name := "goesToEnd", desc := "()V" } : Jvm.MethodName)) ∈ lw_all := lw_g (lw_at lw_m6 60 rfl) rfl
theorem q1381 : (Jvm.Cond.code ({ cls := "LateMirrors", name := "goesToEnd", desc := "()V" } : Jvm.MethodName) prog_1_method_46_code (1 : Nat) (Option.none : Option Jvm.ClassFile.FieldType)) ∈ lw_all := lw_g (lw_at lw_m6 61 rfl) rfl
theorem q1382 : (Jvm.Cond.methodLink "LateMirrors" (298 : Nat) ({ cls := "LateMirrors", name := "willShow", desc := "(III)Z" } : Jvm.MethodName)) ∈ lw_all := lw_g (lw_at lw_m6 62 rfl) rfl
theorem q1383 : (Jvm.Cond.privateMethod ({ cls := "LateMirrors", name := "willShow", desc := "(III)Z" } : Jvm.MethodName)) ∈ lw_tbl := lw_at lw_m6 63 rfl
theorem q1384 : (Jvm.Cond.instanceMethod ({ cls := "LateMirrors", name := "willShow", desc := "(III)Z" } : Jvm.MethodName)) ∈ lw_all := lw_g (lw_at lw_m6 64 rfl) rfl
theorem q1385 : (Jvm.Cond.code ({ cls := "LateMirrors", name := "willShow", desc := "(III)Z" } : Jvm.MethodName) prog_1_method_45_code (6 : Nat) (Option.some Jvm.ClassFile.FieldType.boolean)) ∈ lw_all := lw_g (lw_at lw_m6 65 rfl) rfl
theorem q1387 : (Jvm.Cond.instanceMethod ({ cls := "LateMirrors", name := "soonest", desc := "(III)I" } : Jvm.MethodName)) ∈ lw_all := lw_g (lw_at lw_m6 67 rfl) rfl
theorem q1388 : (Jvm.Cond.selects "LateMirrors" ({ cls := "LateMirrors", name := "soonest", desc := "(III)I" } : Jvm.MethodName) ({ cls := "LateMirrors", name := "soonest", desc := "(III)I" } : Jvm.MethodName)) ∈ lw_all := lw_g (lw_at lw_m6 68 rfl) rfl
theorem q1389 : (Jvm.Cond.code ({ cls := "LateMirrors", name := "soonest", desc := "(III)I" } : Jvm.MethodName) prog_1_method_48_code (7 : Nat) (Option.some Jvm.ClassFile.FieldType.int)) ∈ lw_all := lw_g (lw_at lw_m6 69 rfl) rfl
theorem q1391 : (Jvm.Cond.instanceMethod ({ cls := "LateMirrors", name := "seen", desc := "(II)I" } : Jvm.MethodName)) ∈ lw_all := lw_g (lw_at lw_m6 71 rfl) rfl
theorem q1392 : (Jvm.Cond.selects "LateMirrors" ({ cls := "LateMirrors", name := "seen", desc := "(II)I" } : Jvm.MethodName) ({ cls := "LateMirrors", name := "seen", desc := "(II)I" } : Jvm.MethodName)) ∈ lw_all := lw_g (lw_at lw_m6 72 rfl) rfl
theorem q1393 : (Jvm.Cond.code ({ cls := "LateMirrors", name := "seen", desc := "(II)I" } : Jvm.MethodName) prog_1_method_50_code (5 : Nat) (Option.some Jvm.ClassFile.FieldType.int)) ∈ lw_all := lw_g (lw_at lw_m6 73 rfl) rfl
theorem q1394 : (Jvm.Cond.methodLink "LateMirrors" (301 : Nat) ({ cls := "LateMirrors", name := "shownIn", desc := "(III)I" } : Jvm.MethodName)) ∈ lw_all := lw_g (lw_at lw_m6 74 rfl) rfl
theorem q1395 : (Jvm.Cond.privateMethod ({ cls := "LateMirrors", name := "shownIn", desc := "(III)I" } : Jvm.MethodName)) ∈ lw_tbl := lw_at lw_m6 75 rfl
theorem q1396 : (Jvm.Cond.instanceMethod ({ cls := "LateMirrors", name := "shownIn", desc := "(III)I" } : Jvm.MethodName)) ∈ lw_all := lw_g (lw_at lw_m6 76 rfl) rfl
theorem q1397 : (Jvm.Cond.code ({ cls := "LateMirrors", name := "shownIn", desc := "(III)I" } : Jvm.MethodName) prog_1_method_49_code (6 : Nat) (Option.some Jvm.ClassFile.FieldType.int)) ∈ lw_all := lw_g (lw_at lw_m6 77 rfl) rfl
theorem q1399 : (Jvm.Cond.instanceMethod ({ cls := "LateMirrors", name := "turned", desc := "(II)I" } : Jvm.MethodName)) ∈ lw_all := lw_g (lw_at lw_m6 79 rfl) rfl
theorem q1400 : (Jvm.Cond.selects "LateMirrors" ({ cls := "LateMirrors", name := "turned", desc := "(II)I" } : Jvm.MethodName) ({ cls := "LateMirrors", name := "turned", desc := "(II)I" } : Jvm.MethodName)) ∈ lw_all := lw_g (lw_at lw_m6 80 rfl) rfl
theorem q1401 : (Jvm.Cond.code ({ cls := "LateMirrors", name := "turned", desc := "(II)I" } : Jvm.MethodName) prog_1_method_51_code (5 : Nat) (Option.some Jvm.ClassFile.FieldType.int)) ∈ lw_all := lw_g (lw_at lw_m6 81 rfl) rfl
theorem q1403 : (Jvm.Cond.instanceMethod ({ cls := "LateMirrors", name := "jolt", desc := "(III)I" } : Jvm.MethodName)) ∈ lw_all := lw_g (lw_at lw_m6 83 rfl) rfl
theorem q1404 : (Jvm.Cond.selects "LateMirrors" ({ cls := "LateMirrors", name := "jolt", desc := "(III)I" } : Jvm.MethodName) ({ cls := "LateMirrors", name := "jolt", desc := "(III)I" } : Jvm.MethodName)) ∈ lw_all := lw_g (lw_at lw_m6 84 rfl) rfl
theorem q1405 : (Jvm.Cond.code ({ cls := "LateMirrors", name := "jolt", desc := "(III)I" } : Jvm.MethodName) prog_1_method_52_code (9 : Nat) (Option.some Jvm.ClassFile.FieldType.int)) ∈ lw_all := lw_g (lw_at lw_m6 85 rfl) rfl
theorem q1406 : (Jvm.Cond.constant "LateMirrors" (305 : Nat) (-1000000 : Int32)) ∈ lw_all := lw_g (lw_at lw_m6 86 rfl) rfl
theorem q1407 : (Jvm.Cond.classLink "LateMirrors" (306 : Nat) "LateMirrors$Mirror") ∈ lw_all := lw_g (lw_at lw_m6 87 rfl) rfl
theorem q1409 : (Jvm.Cond.instanceMethod ({ cls := "LateMirrors", name := "odds", desc := "(III)I" } : Jvm.MethodName)) ∈ lw_all := lw_g (lw_at lw_m6 89 rfl) rfl
theorem q1410 : (Jvm.Cond.selects "LateMirrors" ({ cls := "LateMirrors", name := "odds", desc := "(III)I" } : Jvm.MethodName) ({ cls := "LateMirrors", name := "odds", desc := "(III)I" } : Jvm.MethodName)) ∈ lw_all := lw_g (lw_at lw_m6 90 rfl) rfl
theorem q1411 : (Jvm.Cond.code ({ cls := "LateMirrors", name := "odds", desc := "(III)I" } : Jvm.MethodName) prog_1_method_53_code (6 : Nat) (Option.some Jvm.ClassFile.FieldType.int)) ∈ lw_all := lw_g (lw_at lw_m6 91 rfl) rfl
theorem q1413 : (Jvm.Cond.instanceMethod ({ cls := "LateMirrors", name := "hidden", desc := "(III)I" } : Jvm.MethodName)) ∈ lw_all := lw_g (lw_at lw_m6 93 rfl) rfl
theorem q1414 : (Jvm.Cond.selects "LateMirrors" ({ cls := "LateMirrors", name := "hidden", desc := "(III)I" } : Jvm.MethodName) ({ cls := "LateMirrors", name := "hidden", desc := "(III)I" } : Jvm.MethodName)) ∈ lw_all := lw_g (lw_at lw_m6 94 rfl) rfl
theorem q1415 : (Jvm.Cond.code ({ cls := "LateMirrors", name := "hidden", desc := "(III)I" } : Jvm.MethodName) prog_1_method_56_code (6 : Nat) (Option.some Jvm.ClassFile.FieldType.int)) ∈ lw_all := lw_g (lw_at lw_m6 95 rfl) rfl
theorem q1416 : (Jvm.Cond.methodLink "LateMirrors" (319 : Nat) ({ cls := "LateMirrors", name := "laysFar", desc := "(I)V" } : Jvm.MethodName)) ∈ lw_all := lw_g (lw_at lw_m6 96 rfl) rfl
theorem q1417 : (Jvm.Cond.privateMethod ({ cls := "LateMirrors", name := "laysFar", desc := "(I)V" } : Jvm.MethodName)) ∈ lw_tbl := lw_at lw_m6 97 rfl
theorem q1418 : (Jvm.Cond.instanceMethod ({ cls := "LateMirrors", name := "laysFar", desc := "(I)V" } : Jvm.MethodName)) ∈ lw_all := lw_g (lw_at lw_m6 98 rfl) rfl
theorem q1419 : (Jvm.Cond.code ({ cls := "LateMirrors", name := "laysFar", desc := "(I)V" } : Jvm.MethodName) prog_1_method_55_code (6 : Nat) (Option.none : Option Jvm.ClassFile.FieldType)) ∈ lw_all := lw_g (lw_at lw_m6 99 rfl) rfl
theorem q1420 : (Jvm.Cond.methodLink "LateMirrors" (315 : Nat) ({ cls := "LateMirrors", name := "isWatched", desc := "(I)Z" } : Jvm.MethodName)) ∈ lw_all := lw_g (lw_at lw_m6 100 rfl) rfl
theorem q1421 : (Jvm.Cond.privateMethod ({ cls := "LateMirrors", name := "isWatched", desc := "(I)Z" } : Jvm.MethodName)) ∈ lw_tbl := lw_at lw_m6 101 rfl
theorem q1422 : (Jvm.Cond.instanceMethod ({ cls := "LateMirrors", name := "isWatched", desc := "(I)Z" } : Jvm.MethodName)) ∈ lw_all := lw_g (lw_at lw_m6 102 rfl) rfl
theorem q1423 : (Jvm.Cond.code ({ cls := "LateMirrors", name := "isWatched", desc := "(I)Z" } : Jvm.MethodName) prog_1_method_54_code (3 : Nat) (Option.some Jvm.ClassFile.FieldType.boolean)) ∈ lw_all := lw_g (lw_at lw_m6 103 rfl) rfl
theorem q1424 : (Jvm.Cond.constant "LateMirrors" (318 : Nat) (1000000 : Int32)) ∈ lw_all := lw_g (lw_at lw_m6 104 rfl) rfl
theorem q1426 : (Jvm.Cond.instanceMethod ({ cls := "LateMirrors", name := "view", desc := "(IIII)I" } : Jvm.MethodName)) ∈ lw_all := lw_g (lw_at lw_m6 106 rfl) rfl
theorem q1427 : (Jvm.Cond.selects "LateMirrors" ({ cls := "LateMirrors", name := "view", desc := "(IIII)I" } : Jvm.MethodName) ({ cls := "LateMirrors", name := "view", desc := "(IIII)I" } : Jvm.MethodName)) ∈ lw_all := lw_g (lw_at lw_m6 107 rfl) rfl
theorem q1428 : (Jvm.Cond.code ({ cls := "LateMirrors", name := "view", desc := "(IIII)I" } : Jvm.MethodName) prog_1_method_58_code (8 : Nat) (Option.some Jvm.ClassFile.FieldType.int)) ∈ lw_all := lw_g (lw_at lw_m6 108 rfl) rfl
theorem q1429 : (Jvm.Cond.methodLink "LateMirrors" (322 : Nat) ({ cls := "LateMirrors", name := "laysWays", desc := "(I)V" } : Jvm.MethodName)) ∈ lw_all := lw_g (lw_at lw_m6 109 rfl) rfl
theorem q1430 : (Jvm.Cond.privateMethod ({ cls := "LateMirrors", name := "laysWays", desc := "(I)V" } : Jvm.MethodName)) ∈ lw_tbl := lw_at lw_m6 110 rfl
theorem q1431 : (Jvm.Cond.instanceMethod ({ cls := "LateMirrors", name := "laysWays", desc := "(I)V" } : Jvm.MethodName)) ∈ lw_all := lw_g (lw_at lw_m6 111 rfl) rfl
theorem q1432 : (Jvm.Cond.code ({ cls := "LateMirrors", name := "laysWays", desc := "(I)V" } : Jvm.MethodName) prog_1_method_57_code (6 : Nat) (Option.none : Option Jvm.ClassFile.FieldType)) ∈ lw_all := lw_g (lw_at lw_m6 112 rfl) rfl
theorem q1434 : (Jvm.Cond.instanceMethod ({ cls := "LateMirrors", name := "willBe", desc := "(II)I" } : Jvm.MethodName)) ∈ lw_all := lw_g (lw_at lw_m6 114 rfl) rfl
theorem q1435 : (Jvm.Cond.selects "LateMirrors" ({ cls := "LateMirrors", name := "willBe", desc := "(II)I" } : Jvm.MethodName) ({ cls := "LateMirrors", name := "willBe", desc := "(II)I" } : Jvm.MethodName)) ∈ lw_all := lw_g (lw_at lw_m6 115 rfl) rfl
theorem q1436 : (Jvm.Cond.code ({ cls := "LateMirrors", name := "willBe", desc := "(II)I" } : Jvm.MethodName) prog_1_method_59_code (3 : Nat) (Option.some Jvm.ClassFile.FieldType.int)) ∈ lw_all := lw_g (lw_at lw_m6 116 rfl) rfl
theorem q1438 : (Jvm.Cond.instanceMethod ({ cls := "LateMirrors", name := "rests", desc := "(III)I" } : Jvm.MethodName)) ∈ lw_all := lw_g (lw_at lw_m6 118 rfl) rfl
theorem q1439 : (Jvm.Cond.selects "LateMirrors" ({ cls := "LateMirrors", name := "rests", desc := "(III)I" } : Jvm.MethodName) ({ cls := "LateMirrors", name := "rests", desc := "(III)I" } : Jvm.MethodName)) ∈ lw_all := lw_g (lw_at lw_m6 119 rfl) rfl
theorem q1440 : (Jvm.Cond.code ({ cls := "LateMirrors", name := "rests", desc := "(III)I" } : Jvm.MethodName) prog_1_method_62_code (8 : Nat) (Option.some Jvm.ClassFile.FieldType.int)) ∈ lw_all := lw_g (lw_at lw_m6 120 rfl) rfl
theorem q1441 : (Jvm.Cond.methodLink "LateMirrors" (329 : Nat) ({ cls := "LateMirrors", name := "isRest", desc := "(III)Z" } : Jvm.MethodName)) ∈ lw_all := lw_g (lw_at lw_m6 121 rfl) rfl
theorem q1442 : (Jvm.Cond.privateMethod ({ cls := "LateMirrors", name := "isRest", desc := "(III)Z" } : Jvm.MethodName)) ∈ lw_tbl := lw_at lw_m6 122 rfl
theorem q1443 : (Jvm.Cond.instanceMethod ({ cls := "LateMirrors", name := "isRest", desc := "(III)Z" } : Jvm.MethodName)) ∈ lw_all := lw_g (lw_at lw_m6 123 rfl) rfl
theorem q1444 : (Jvm.Cond.code ({ cls := "LateMirrors", name := "isRest", desc := "(III)Z" } : Jvm.MethodName) prog_1_method_61_code (7 : Nat) (Option.some Jvm.ClassFile.FieldType.boolean)) ∈ lw_all := lw_g (lw_at lw_m6 124 rfl) rfl
theorem q1445 : (Jvm.Cond.methodLink "LateMirrors" (325 : Nat) ({ cls := "LateMirrors", name := "has", desc := "(IIZ)I" } : Jvm.MethodName)) ∈ lw_all := lw_g (lw_at lw_m6 125 rfl) rfl
theorem q1446 : (Jvm.Cond.privateMethod ({ cls := "LateMirrors", name := "has", desc := "(IIZ)I" } : Jvm.MethodName)) ∈ lw_tbl := lw_at lw_m6 126 rfl
theorem q1447 : (Jvm.Cond.instanceMethod ({ cls := "LateMirrors", name := "has", desc := "(IIZ)I" } : Jvm.MethodName)) ∈ lw_all := lw_g (lw_at lw_m6 127 rfl) rfl
theorem q1448 : (Jvm.Cond.code ({ cls := "LateMirrors", name := "has", desc := "(IIZ)I" } : Jvm.MethodName) prog_1_method_60_code (4 : Nat) (Option.some Jvm.ClassFile.FieldType.int)) ∈ lw_all := lw_g (lw_at lw_m6 128 rfl) rfl
theorem q1450 : (Jvm.Cond.instanceMethod ({ cls := "LateMirrors", name := "stand", desc := "(I)I" } : Jvm.MethodName)) ∈ lw_all := lw_g (lw_at lw_m6 130 rfl) rfl
theorem q1451 : (Jvm.Cond.selects "LateMirrors" ({ cls := "LateMirrors", name := "stand", desc := "(I)I" } : Jvm.MethodName) ({ cls := "LateMirrors", name := "stand", desc := "(I)I" } : Jvm.MethodName)) ∈ lw_all := lw_g (lw_at lw_m6 131 rfl) rfl
theorem q1452 : (Jvm.Cond.code ({ cls := "LateMirrors", name := "stand", desc := "(I)I" } : Jvm.MethodName) prog_1_method_63_code (6 : Nat) (Option.some Jvm.ClassFile.FieldType.int)) ∈ lw_all := lw_g (lw_at lw_m6 132 rfl) rfl
theorem q1454 : (Jvm.Cond.instanceMethod ({ cls := "LateMirrors", name := "tell", desc := "(IIIZ)I" } : Jvm.MethodName)) ∈ lw_all := lw_g (lw_at lw_m6 134 rfl) rfl
theorem q1455 : (Jvm.Cond.selects "LateMirrors" ({ cls := "LateMirrors", name := "tell", desc := "(IIIZ)I" } : Jvm.MethodName) ({ cls := "LateMirrors", name := "tell", desc := "(IIIZ)I" } : Jvm.MethodName)) ∈ lw_all := lw_g (lw_at lw_m6 135 rfl) rfl
theorem q1456 : (Jvm.Cond.code ({ cls := "LateMirrors", name := "tell", desc := "(IIIZ)I" } : Jvm.MethodName) prog_1_method_64_code (5 : Nat) (Option.some Jvm.ClassFile.FieldType.int)) ∈ lw_all := lw_g (lw_at lw_m6 136 rfl) rfl
theorem q1458 : (Jvm.Cond.instanceMethod ({ cls := "LateMirrors", name := "forget", desc := "()I" } : Jvm.MethodName)) ∈ lw_all := lw_g (lw_at lw_m6 138 rfl) rfl
theorem q1459 : (Jvm.Cond.selects "LateMirrors" ({ cls := "LateMirrors", name := "forget", desc := "()I" } : Jvm.MethodName) ({ cls := "LateMirrors", name := "forget", desc := "()I" } : Jvm.MethodName)) ∈ lw_all := lw_g (lw_at lw_m6 139 rfl) rfl
theorem q1460 : (Jvm.Cond.code ({ cls := "LateMirrors", name := "forget", desc := "()I" } : Jvm.MethodName) prog_1_method_65_code (2 : Nat) (Option.some Jvm.ClassFile.FieldType.int)) ∈ lw_all := lw_g (lw_at lw_m6 140 rfl) rfl
theorem q1462 : (Jvm.Cond.instanceMethod ({ cls := "LateMirrors", name := "began", desc := "(III)I" } : Jvm.MethodName)) ∈ lw_all := lw_g (lw_at lw_m6 142 rfl) rfl
theorem q1463 : (Jvm.Cond.selects "LateMirrors" ({ cls := "LateMirrors", name := "began", desc := "(III)I" } : Jvm.MethodName) ({ cls := "LateMirrors", name := "began", desc := "(III)I" } : Jvm.MethodName)) ∈ lw_all := lw_g (lw_at lw_m6 143 rfl) rfl
theorem q1464 : (Jvm.Cond.code ({ cls := "LateMirrors", name := "began", desc := "(III)I" } : Jvm.MethodName) prog_1_method_67_code (6 : Nat) (Option.some Jvm.ClassFile.FieldType.int)) ∈ lw_all := lw_g (lw_at lw_m6 144 rfl) rfl
theorem q1465 : (Jvm.Cond.methodLink "LateMirrors" (332 : Nat) ({ cls := "LateMirrors", name := "isSo", desc := "(III)Z" } : Jvm.MethodName)) ∈ lw_all := lw_g (lw_at lw_m6 145 rfl) rfl
theorem q1466 : (Jvm.Cond.privateMethod ({ cls := "LateMirrors", name := "isSo", desc := "(III)Z" } : Jvm.MethodName)) ∈ lw_tbl := lw_at lw_m6 146 rfl
theorem q1467 : (Jvm.Cond.instanceMethod ({ cls := "LateMirrors", name := "isSo", desc := "(III)Z" } : Jvm.MethodName)) ∈ lw_all := lw_g (lw_at lw_m6 147 rfl) rfl
theorem q1468 : (Jvm.Cond.code ({ cls := "LateMirrors", name := "isSo", desc := "(III)Z" } : Jvm.MethodName) prog_1_method_66_code (6 : Nat) (Option.some Jvm.ClassFile.FieldType.boolean)) ∈ lw_all := lw_g (lw_at lw_m6 148 rfl) rfl
theorem q1470 : (Jvm.Cond.instanceMethod ({ cls := "LateMirrors", name := "hold", desc := "(I)Z" } : Jvm.MethodName)) ∈ lw_all := lw_g (lw_at lw_m6 150 rfl) rfl
theorem q1471 : (Jvm.Cond.selects "LateMirrors" ({ cls := "LateMirrors", name := "hold", desc := "(I)Z" } : Jvm.MethodName) ({ cls := "LateMirrors", name := "hold", desc := "(I)Z" } : Jvm.MethodName)) ∈ lw_all := lw_g (lw_at lw_m6 151 rfl) rfl
theorem q1472 : (Jvm.Cond.code ({ cls := "LateMirrors", name := "hold", desc := "(I)Z" } : Jvm.MethodName) prog_1_method_68_code (2 : Nat) (Option.some Jvm.ClassFile.FieldType.boolean)) ∈ lw_all := lw_g (lw_at lw_m6 152 rfl) rfl
theorem q1474 : (Jvm.Cond.instanceMethod ({ cls := "LateMirrors", name := "restore", desc := "(I)Z" } : Jvm.MethodName)) ∈ lw_all := lw_g (lw_at lw_m6 154 rfl) rfl
theorem q1475 : (Jvm.Cond.selects "LateMirrors" ({ cls := "LateMirrors", name := "restore", desc := "(I)Z" } : Jvm.MethodName) ({ cls := "LateMirrors", name := "restore", desc := "(I)Z" } : Jvm.MethodName)) ∈ lw_all := lw_g (lw_at lw_m6 155 rfl) rfl
theorem q1476 : (Jvm.Cond.code ({ cls := "LateMirrors", name := "restore", desc := "(I)Z" } : Jvm.MethodName) prog_1_method_69_code (2 : Nat) (Option.some Jvm.ClassFile.FieldType.boolean)) ∈ lw_all := lw_g (lw_at lw_m6 156 rfl) rfl
theorem q1478 : (Jvm.Cond.instanceMethod ({ cls := "LateMirrors", name := "count", desc := "(I)I" } : Jvm.MethodName)) ∈ lw_all := lw_g (lw_at lw_m6 158 rfl) rfl
theorem q1479 : (Jvm.Cond.selects "LateMirrors" ({ cls := "LateMirrors", name := "count", desc := "(I)I" } : Jvm.MethodName) ({ cls := "LateMirrors", name := "count", desc := "(I)I" } : Jvm.MethodName)) ∈ lw_all := lw_g (lw_at lw_m6 159 rfl) rfl
theorem q1480 : (Jvm.Cond.code ({ cls := "LateMirrors", name := "count", desc := "(I)I" } : Jvm.MethodName) prog_1_method_70_code (4 : Nat) (Option.some Jvm.ClassFile.FieldType.int)) ∈ lw_all := lw_g (lw_at lw_m6 160 rfl) rfl
theorem q2195 : (Jvm.Cond.castable "LateMirrors" "java/lang/Object") ∈ lw_tbl := lw_at lw_m9 155 rfl
theorem in_X0 : ∀ w ∈ wsX00, w ∈ lw_all := lw_in wsX00 [569, 571, 573, 575, 577, 579, 581, 583, 585, 587, 589, 591, 593, 595, 597, 599, 601, 603, 605, 607, 609, 611, 613] (by decide +kernel) (by decide +kernel)
