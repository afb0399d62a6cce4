/-! LateMirrorsModel -/
set_option maxRecDepth 100000
def RX8 : String := "LateMirrorsModel"
def TX8 : u_T := fun k => match k with
  | 0 => ("LateMirrorsModel", "thrown", "I", false)
  | 1 => ("LateMirrorsModel", "tape", "[B", true)
  | 2 => ("LateMirrorsModel", "taped", "I", false)
  | 3 => ("LateMirrorsModel", "text", "[B", true)
  | 4 => ("LateMirrorsModel", "size", "I", false)
  | 5 => ("LateMirrorsModel", "tKind", "[I", true)
  | 6 => ("LateMirrorsModel", "tPlace", "[I", true)
  | 7 => ("LateMirrorsModel", "tValue", "[I", true)
  | 8 => ("LateMirrorsModel", "tName", "[J", true)
  | 9 => ("LateMirrorsModel", "keys", "[J", true)
  | 10 => ("LateMirrorsModel", "tokens", "I", false)
  | 11 => ("LateMirrorsModel", "t", "I", false)
  | 12 => ("LateMirrorsModel", "open", "I", false)
  | 13 => ("LateMirrorsModel", "fault", "I", false)
  | 14 => ("LateMirrorsModel", "faultPlace", "I", false)
  | 15 => ("LateMirrorsModel", "worst", "I", false)
  | 16 => ("LateMirrorsModel", "worstPlace", "I", false)
  | 17 => ("LateMirrorsModel", "place", "I", false)
  | 18 => ("LateMirrorsModel", "live", "I", false)
  | 19 => ("LateMirrorsModel", "side", "I", false)
  | 20 => ("LateMirrorsModel", "names", "I", false)
  | 21 => ("LateMirrorsModel", "nameOf", "[J", true)
  | 22 => ("LateMirrorsModel", "nameSort", "[I", true)
  | 23 => ("LateMirrorsModel", "nameAt", "[I", true)
  | 24 => ("LateMirrorsModel", "rooms", "[I", true)
  | 25 => ("LateMirrorsModel", "doors", "[I", true)
  | 26 => ("LateMirrorsModel", "doorFrom", "[I", true)
  | 27 => ("LateMirrorsModel", "doorTo", "[I", true)
  | 28 => ("LateMirrorsModel", "men", "[I", true)
  | 29 => ("LateMirrorsModel", "rankTold", "[I", true)
  | 30 => ("LateMirrorsModel", "roomTold", "[I", true)
  | 31 => ("LateMirrorsModel", "mirrors", "[I", true)
  | 32 => ("LateMirrorsModel", "hangsTold", "[I", true)
  | 33 => ("LateMirrorsModel", "ownerOf", "[I", true)
  | 34 => ("LateMirrorsModel", "breaks", "[I", true)
  | 35 => ("LateMirrorsModel", "seed", "[I", true)
  | 36 => ("LateMirrorsModel", "lawFirst", "[I", true)
  | 37 => ("LateMirrorsModel", "lawLast", "[I", true)
  | 38 => ("LateMirrorsModel", "branches", "I", false)
  | 39 => ("LateMirrorsModel", "hasTest", "[Z", true)
  | 40 => ("LateMirrorsModel", "testFrom", "[I", true)
  | 41 => ("LateMirrorsModel", "testMid", "[I", true)
  | 42 => ("LateMirrorsModel", "testTo", "[I", true)
  | 43 => ("LateMirrorsModel", "termTo", "[I", true)
  | 44 => ("LateMirrorsModel", "codes", "I", false)
  | 45 => ("LateMirrorsModel", "code", "[I", true)
  | 46 => ("LateMirrorsModel", "codeInt", "[I", true)
  | 47 => ("LateMirrorsModel", "waits", "[I", true)
  | 48 => ("LateMirrorsModel", "waiting", "I", false)
  | 49 => ("LateMirrorsModel", "variables", "[I", true)
  | 50 => ("LateMirrorsModel", "pile", "[I", true)
  | 51 => ("LateMirrorsModel", "isBroken", "Z", false)
  | 52 => ("LateMirrorsModel", "past", "[I", true)
  | 53 => ("LateMirrorsModel", "minuteNow", "I", false)
  | 54 => ("LateMirrorsModel", "brokeNow", "[I", true)
  | 55 => ("LateMirrorsModel", "brokeShows", "[I", true)
  | 56 => ("LateMirrorsModel", "row", "[I", true)
  | 57 => ("LateMirrorsModel", "minute", "I", false)
  | 58 => ("LateMirrorsModel", "broke", "[I", true)
  | 59 => ("LateMirrorsModel", "shows", "[I", true)
  | 60 => ("LateMirrorsModel", "lots", "I", false)
  | 61 => ("LateMirrorsModel", "undos", "I", false)
  | 62 => ("LateMirrorsModel", "history", "[I", true)
  | 63 => ("LateMirrorsModel", "isLooked", "[Z", true)
  | 64 => ("LateMirrorsModel", "isLookedThen", "[Z", true)
  | 65 => ("LateMirrorsModel", "shownAt", "[I", true)
  | 66 => ("LateMirrorsModel", "farOf", "[I", true)
  | 67 => ("LateMirrorsModel", "told", "I", false)
  | 68 => ("LateMirrorsModel", "toldMirror", "[I", true)
  | 69 => ("LateMirrorsModel", "toldMinute", "[I", true)
  | 70 => ("LateMirrorsModel", "toldMan", "[I", true)
  | 71 => ("LateMirrorsModel", "toldThere", "[Z", true)
  | 72 => ("LateMirrorsModel", "isHeld", "[Z", true)
  | 73 => ("LateMirrorsModel", "held", "[I", true)
  | _ => ("LateMirrorsModel", "heldToo", "[I", true)
def tyX8 : Nat → FieldType := fun k => match k with
  | 0 => .int
  | 1 => .array .byte
  | 2 => .int
  | 3 => .array .byte
  | 4 => .int
  | 5 => .array .int
  | 6 => .array .int
  | 7 => .array .int
  | 8 => .array .long
  | 9 => .array .long
  | 10 => .int
  | 11 => .int
  | 12 => .int
  | 13 => .int
  | 14 => .int
  | 15 => .int
  | 16 => .int
  | 17 => .int
  | 18 => .int
  | 19 => .int
  | 20 => .int
  | 21 => .array .long
  | 22 => .array .int
  | 23 => .array .int
  | 24 => .array .int
  | 25 => .array .int
  | 26 => .array .int
  | 27 => .array .int
  | 28 => .array .int
  | 29 => .array .int
  | 30 => .array .int
  | 31 => .array .int
  | 32 => .array .int
  | 33 => .array .int
  | 34 => .array .int
  | 35 => .array .int
  | 36 => .array .int
  | 37 => .array .int
  | 38 => .int
  | 39 => .array .boolean
  | 40 => .array .int
  | 41 => .array .int
  | 42 => .array .int
  | 43 => .array .int
  | 44 => .int
  | 45 => .array .int
  | 46 => .array .int
  | 47 => .array .int
  | 48 => .int
  | 49 => .array .int
  | 50 => .array .int
  | 51 => .boolean
  | 52 => .array .int
  | 53 => .int
  | 54 => .array .int
  | 55 => .array .int
  | 56 => .array .int
  | 57 => .int
  | 58 => .array .int
  | 59 => .array .int
  | 60 => .int
  | 61 => .int
  | 62 => .array .int
  | 63 => .array .boolean
  | 64 => .array .boolean
  | 65 => .array .int
  | 66 => .array .int
  | 67 => .int
  | 68 => .array .int
  | 69 => .array .int
  | 70 => .array .int
  | 71 => .array .boolean
  | 72 => .array .boolean
  | 73 => .array .int
  | _ => .array .int
abbrev wsX80 : List Cond := u_ws RX8 TX8 75
set_option maxRecDepth 100000 in
theorem nmX8 : ∀ a, a < 75 → ∀ b, b < 75 → a ≠ b → (TX8 a).2.1 ≠ (TX8 b).2.1 := by decide +kernel
set_option maxRecDepth 100000 in
theorem tyX8_ok : ∀ k, k < 75 → parseFieldDescriptor (TX8 k).2.2.1 = some (tyX8 k) := by decide +kernel
abbrev cX8_init : ByteArray := prog_19_method_2_code
def yX8_init : MethodName := ⟨RX8, "<init>", "()V"⟩
def dkwX8_init_34 : List UInt8 := [16, 116, 16, 104, 3, 3, 3, 184, 0, 180, 80, 42, 182, 0, 184, 42, 3, 182, 0, 187, 177]
abbrev dktX8_init_34 : List UInt8 := dkwX8_init_34 ++ []
def dkwX8_init_33 : List UInt8 := [16, 97, 16, 121, 16, 115, 3, 3, 3, 184, 0, 180, 80, 42, 180, 0, 34, 16, 16, 16, 119, 16, 105]
abbrev dktX8_init_33 : List UInt8 := dkwX8_init_33 ++ dktX8_init_34
def dkwX8_init_32 : List UInt8 := [16, 117, 16, 109, 16, 98, 16, 101, 16, 114, 3, 184, 0, 180, 80, 42, 180, 0, 34, 16, 15, 16, 119]
abbrev dktX8_init_32 : List UInt8 := dkwX8_init_32 ++ dktX8_init_33
def dkwX8_init_31 : List UInt8 := [16, 114, 16, 97, 16, 110, 16, 107, 3, 3, 3, 184, 0, 180, 80, 42, 180, 0, 34, 16, 14, 16, 110]
abbrev dktX8_init_31 : List UInt8 := dkwX8_init_31 ++ dktX8_init_32
def dkwX8_init_30 : List UInt8 := [16, 12, 16, 104, 16, 101, 16, 114, 16, 101, 3, 3, 3, 184, 0, 180, 80, 42, 180, 0, 34, 16, 13]
abbrev dktX8_init_30 : List UInt8 := dkwX8_init_30 ++ dktX8_init_31
def dkwX8_init_29 : List UInt8 := [16, 11, 16, 109, 16, 105, 16, 110, 16, 117, 16, 116, 16, 101, 3, 184, 0, 180, 80, 42, 180, 0, 34]
abbrev dktX8_init_29 : List UInt8 := dkwX8_init_29 ++ dktX8_init_30
def dkwX8_init_28 : List UInt8 := [180, 0, 34, 16, 10, 16, 101, 16, 108, 16, 115, 16, 101, 3, 3, 3, 184, 0, 180, 80, 42, 180, 0, 34]
abbrev dktX8_init_28 : List UInt8 := dkwX8_init_28 ++ dktX8_init_29
def dkwX8_init_27 : List UInt8 := [80, 42, 180, 0, 34, 16, 9, 16, 116, 16, 104, 16, 101, 16, 110, 3, 3, 3, 184, 0, 180, 80, 42]
abbrev dktX8_init_27 : List UInt8 := dkwX8_init_27 ++ dktX8_init_28
def dkwX8_init_26 : List UInt8 := [3, 3, 184, 0, 180, 80, 42, 180, 0, 34, 16, 8, 16, 105, 16, 102, 3, 3, 3, 3, 3, 184, 0, 180]
abbrev dktX8_init_26 : List UInt8 := dkwX8_init_26 ++ dktX8_init_27
def dkwX8_init_25 : List UInt8 := [16, 107, 16, 115, 3, 184, 0, 180, 80, 42, 180, 0, 34, 16, 7, 16, 115, 16, 101, 16, 101, 16, 100, 3]
abbrev dktX8_init_25 : List UInt8 := dkwX8_init_25 ++ dktX8_init_26
def dkwX8_init_24 : List UInt8 := [16, 101, 3, 3, 3, 184, 0, 180, 80, 42, 180, 0, 34, 16, 6, 16, 98, 16, 114, 16, 101, 16, 97]
abbrev dktX8_init_24 : List UInt8 := dkwX8_init_24 ++ dktX8_init_25
def dkwX8_init_23 : List UInt8 := [16, 114, 16, 114, 16, 111, 16, 114, 3, 184, 0, 180, 80, 42, 180, 0, 34, 8, 16, 108, 16, 97, 16, 116]
abbrev dktX8_init_23 : List UInt8 := dkwX8_init_23 ++ dktX8_init_24
def dkwX8_init_22 : List UInt8 := [16, 103, 16, 111, 16, 101, 16, 115, 3, 3, 3, 184, 0, 180, 80, 42, 180, 0, 34, 7, 16, 109, 16, 105]
abbrev dktX8_init_22 : List UInt8 := dkwX8_init_22 ++ dktX8_init_23
def dkwX8_init_21 : List UInt8 := [180, 0, 34, 5, 16, 109, 16, 97, 16, 110, 3, 3, 3, 3, 184, 0, 180, 80, 42, 180, 0, 34, 6]
abbrev dktX8_init_21 : List UInt8 := dkwX8_init_21 ++ dktX8_init_22
def dkwX8_init_20 : List UInt8 := [80, 42, 180, 0, 34, 4, 16, 100, 16, 111, 16, 111, 16, 114, 3, 3, 3, 184, 0, 180, 80, 42]
abbrev dktX8_init_20 : List UInt8 := dkwX8_init_20 ++ dktX8_init_21
def dkwX8_init_19 : List UInt8 := [42, 3, 182, 0, 176, 42, 180, 0, 34, 3, 16, 114, 16, 111, 16, 111, 16, 109, 3, 3, 3, 184, 0, 180]
abbrev dktX8_init_19 : List UInt8 := dkwX8_init_19 ++ dktX8_init_20
def dkwX8_init_18 : List UInt8 := [42, 6, 188, 4, 181, 0, 167, 42, 17, 126, 144, 188, 10, 181, 0, 170, 42, 16, 51, 188, 10, 181, 0, 173]
abbrev dktX8_init_18 : List UInt8 := dkwX8_init_18 ++ dktX8_init_19
def dkwX8_init_17 : List UInt8 := [42, 16, 20, 188, 10, 181, 0, 158, 42, 16, 20, 188, 10, 181, 0, 161, 42, 16, 20, 188, 4, 181, 0, 164]
abbrev dktX8_init_17 : List UInt8 := dkwX8_init_17 ++ dktX8_init_18
def dkwX8_init_16 : List UInt8 := [17, 1, 44, 188, 10, 181, 0, 149, 42, 16, 8, 188, 10, 181, 0, 152, 42, 16, 20, 188, 10, 181, 0, 155]
abbrev dktX8_init_16 : List UInt8 := dkwX8_init_16 ++ dktX8_init_17
def dkwX8_init_15 : List UInt8 := [181, 0, 140, 42, 17, 9, 96, 188, 4, 181, 0, 143, 42, 17, 9, 96, 188, 4, 181, 0, 146, 42]
abbrev dktX8_init_15 : List UInt8 := dkwX8_init_15 ++ dktX8_init_16
def dkwX8_init_14 : List UInt8 := [42, 16, 8, 188, 10, 181, 0, 134, 42, 16, 8, 188, 10, 181, 0, 137, 42, 17, 4, 36, 188, 10]
abbrev dktX8_init_14 : List UInt8 := dkwX8_init_14 ++ dktX8_init_15
def dkwX8_init_13 : List UInt8 := [16, 8, 188, 10, 181, 0, 125, 42, 16, 8, 188, 10, 181, 0, 128, 42, 17, 42, 48, 188, 10, 181, 0, 131]
abbrev dktX8_init_13 : List UInt8 := dkwX8_init_13 ++ dktX8_init_14
def dkwX8_init_12 : List UInt8 := [188, 10, 181, 0, 116, 42, 17, 1, 144, 188, 10, 181, 0, 119, 42, 17, 42, 48, 188, 10, 181, 0, 122, 42]
abbrev dktX8_init_12 : List UInt8 := dkwX8_init_12 ++ dktX8_init_13
def dkwX8_init_11 : List UInt8 := [181, 0, 107, 42, 17, 3, 72, 188, 10, 181, 0, 110, 42, 16, 64, 188, 10, 181, 0, 113, 42, 16, 6]
abbrev dktX8_init_11 : List UInt8 := dkwX8_init_11 ++ dktX8_init_12
def dkwX8_init_10 : List UInt8 := [17, 1, 4, 188, 10, 181, 0, 101, 42, 17, 1, 4, 188, 10, 181, 0, 104, 42, 17, 3, 72, 188, 10]
abbrev dktX8_init_10 : List UInt8 := dkwX8_init_10 ++ dktX8_init_11
def dkwX8_init_9 : List UInt8 := [188, 4, 181, 0, 91, 42, 17, 1, 4, 188, 10, 181, 0, 95, 42, 17, 1, 4, 188, 10, 181, 0, 98, 42]
abbrev dktX8_init_9 : List UInt8 := dkwX8_init_9 ++ dktX8_init_10
def dkwX8_init_8 : List UInt8 := [181, 0, 82, 42, 16, 14, 188, 10, 181, 0, 85, 42, 16, 14, 188, 10, 181, 0, 88, 42, 17, 1, 4]
abbrev dktX8_init_8 : List UInt8 := dkwX8_init_8 ++ dktX8_init_9
def dkwX8_init_7 : List UInt8 := [181, 0, 73, 42, 16, 16, 188, 10, 181, 0, 76, 42, 5, 188, 10, 181, 0, 79, 42, 5, 188, 10]
abbrev dktX8_init_7 : List UInt8 := dkwX8_init_7 ++ dktX8_init_8
def dkwX8_init_6 : List UInt8 := [181, 0, 64, 42, 16, 12, 188, 10, 181, 0, 67, 42, 5, 188, 10, 181, 0, 70, 42, 16, 16, 188, 10]
abbrev dktX8_init_6 : List UInt8 := dkwX8_init_6 ++ dktX8_init_7
def dkwX8_init_5 : List UInt8 := [181, 0, 55, 42, 16, 24, 188, 10, 181, 0, 58, 42, 5, 188, 10, 181, 0, 61, 42, 16, 12, 188, 10]
abbrev dktX8_init_5 : List UInt8 := dkwX8_init_5 ++ dktX8_init_6
def dkwX8_init_4 : List UInt8 := [181, 0, 46, 42, 5, 188, 10, 181, 0, 49, 42, 5, 188, 10, 181, 0, 52, 42, 16, 24, 188, 10]
abbrev dktX8_init_4 : List UInt8 := dkwX8_init_4 ++ dktX8_init_5
def dkwX8_init_3 : List UInt8 := [181, 0, 37, 42, 16, 22, 188, 11, 181, 0, 40, 42, 16, 22, 188, 10, 181, 0, 43, 42, 16, 22, 188, 10]
abbrev dktX8_init_3 : List UInt8 := dkwX8_init_3 ++ dktX8_init_4
def dkwX8_init_2 : List UInt8 := [181, 0, 27, 42, 17, 1, 147, 188, 11, 181, 0, 30, 42, 16, 17, 188, 11, 181, 0, 34, 42, 2]
abbrev dktX8_init_2 : List UInt8 := dkwX8_init_2 ++ dktX8_init_3
def dkwX8_init_1 : List UInt8 := [17, 1, 147, 188, 10, 181, 0, 20, 42, 17, 1, 147, 188, 10, 181, 0, 24, 42, 17, 1, 147, 188, 10]
abbrev dktX8_init_1 : List UInt8 := dkwX8_init_1 ++ dktX8_init_2
def dkwX8_init_0 : List UInt8 := [42, 183, 0, 7, 42, 17, 7, 208, 188, 8, 181, 0, 13, 42, 17, 7, 208, 188, 8, 181, 0, 17, 42]
abbrev dktX8_init_0 : List UInt8 := dkwX8_init_0 ++ dktX8_init_1
theorem dksX8_init_0 : cX8_init.data.toList.drop 0 = dktX8_init_0 := by decide +kernel
theorem dksX8_init_1 : cX8_init.data.toList.drop 23 = dktX8_init_1 := dk_seg dksX8_init_0 23 rfl rfl
theorem dksX8_init_2 : cX8_init.data.toList.drop 46 = dktX8_init_2 := dk_seg dksX8_init_1 23 rfl rfl
theorem dksX8_init_3 : cX8_init.data.toList.drop 68 = dktX8_init_3 := dk_seg dksX8_init_2 22 rfl rfl
theorem dksX8_init_4 : cX8_init.data.toList.drop 92 = dktX8_init_4 := dk_seg dksX8_init_3 24 rfl rfl
theorem dksX8_init_5 : cX8_init.data.toList.drop 114 = dktX8_init_5 := dk_seg dksX8_init_4 22 rfl rfl
theorem dksX8_init_6 : cX8_init.data.toList.drop 137 = dktX8_init_6 := dk_seg dksX8_init_5 23 rfl rfl
theorem dksX8_init_7 : cX8_init.data.toList.drop 160 = dktX8_init_7 := dk_seg dksX8_init_6 23 rfl rfl
theorem dksX8_init_8 : cX8_init.data.toList.drop 182 = dktX8_init_8 := dk_seg dksX8_init_7 22 rfl rfl
theorem dksX8_init_9 : cX8_init.data.toList.drop 205 = dktX8_init_9 := dk_seg dksX8_init_8 23 rfl rfl
theorem dksX8_init_10 : cX8_init.data.toList.drop 229 = dktX8_init_10 := dk_seg dksX8_init_9 24 rfl rfl
theorem dksX8_init_11 : cX8_init.data.toList.drop 252 = dktX8_init_11 := dk_seg dksX8_init_10 23 rfl rfl
theorem dksX8_init_12 : cX8_init.data.toList.drop 275 = dktX8_init_12 := dk_seg dksX8_init_11 23 rfl rfl
theorem dksX8_init_13 : cX8_init.data.toList.drop 299 = dktX8_init_13 := dk_seg dksX8_init_12 24 rfl rfl
theorem dksX8_init_14 : cX8_init.data.toList.drop 323 = dktX8_init_14 := dk_seg dksX8_init_13 24 rfl rfl
theorem dksX8_init_15 : cX8_init.data.toList.drop 345 = dktX8_init_15 := dk_seg dksX8_init_14 22 rfl rfl
theorem dksX8_init_16 : cX8_init.data.toList.drop 367 = dktX8_init_16 := dk_seg dksX8_init_15 22 rfl rfl
theorem dksX8_init_17 : cX8_init.data.toList.drop 391 = dktX8_init_17 := dk_seg dksX8_init_16 24 rfl rfl
theorem dksX8_init_18 : cX8_init.data.toList.drop 415 = dktX8_init_18 := dk_seg dksX8_init_17 24 rfl rfl
theorem dksX8_init_19 : cX8_init.data.toList.drop 439 = dktX8_init_19 := dk_seg dksX8_init_18 24 rfl rfl
theorem dksX8_init_20 : cX8_init.data.toList.drop 463 = dktX8_init_20 := dk_seg dksX8_init_19 24 rfl rfl
theorem dksX8_init_21 : cX8_init.data.toList.drop 485 = dktX8_init_21 := dk_seg dksX8_init_20 22 rfl rfl
theorem dksX8_init_22 : cX8_init.data.toList.drop 508 = dktX8_init_22 := dk_seg dksX8_init_21 23 rfl rfl
theorem dksX8_init_23 : cX8_init.data.toList.drop 532 = dktX8_init_23 := dk_seg dksX8_init_22 24 rfl rfl
theorem dksX8_init_24 : cX8_init.data.toList.drop 556 = dktX8_init_24 := dk_seg dksX8_init_23 24 rfl rfl
theorem dksX8_init_25 : cX8_init.data.toList.drop 579 = dktX8_init_25 := dk_seg dksX8_init_24 23 rfl rfl
theorem dksX8_init_26 : cX8_init.data.toList.drop 603 = dktX8_init_26 := dk_seg dksX8_init_25 24 rfl rfl
theorem dksX8_init_27 : cX8_init.data.toList.drop 627 = dktX8_init_27 := dk_seg dksX8_init_26 24 rfl rfl
theorem dksX8_init_28 : cX8_init.data.toList.drop 650 = dktX8_init_28 := dk_seg dksX8_init_27 23 rfl rfl
theorem dksX8_init_29 : cX8_init.data.toList.drop 674 = dktX8_init_29 := dk_seg dksX8_init_28 24 rfl rfl
theorem dksX8_init_30 : cX8_init.data.toList.drop 697 = dktX8_init_30 := dk_seg dksX8_init_29 23 rfl rfl
theorem dksX8_init_31 : cX8_init.data.toList.drop 720 = dktX8_init_31 := dk_seg dksX8_init_30 23 rfl rfl
theorem dksX8_init_32 : cX8_init.data.toList.drop 743 = dktX8_init_32 := dk_seg dksX8_init_31 23 rfl rfl
theorem dksX8_init_33 : cX8_init.data.toList.drop 766 = dktX8_init_33 := dk_seg dksX8_init_32 23 rfl rfl
theorem dksX8_init_34 : cX8_init.data.toList.drop 789 = dktX8_init_34 := dk_seg dksX8_init_33 23 rfl rfl
theorem dX8_init_0 : decode cX8_init 0 = .ok (.aload_n 0, 1) := dk_42 (dk_at dksX8_init_0 0 rfl rfl)
theorem dX8_init_1 : decode cX8_init 1 = .ok (.invokespecial 7, 3) := dk_183 0 7 (dk_at dksX8_init_0 1 rfl rfl)
theorem dX8_init_4 : decode cX8_init 4 = .ok (.aload_n 0, 1) := dk_42 (dk_at dksX8_init_0 4 rfl rfl)
theorem dX8_init_5 : decode cX8_init 5 = .ok (.sipush 2000, 3) := dk_17 7 208 (dk_at dksX8_init_0 5 rfl rfl)
theorem dX8_init_8 : decode cX8_init 8 = .ok (.newarray .byte, 2) := dk_188_8 (dk_at dksX8_init_0 8 rfl rfl)
theorem dX8_init_10 : decode cX8_init 10 = .ok (.putfield 13, 3) := dk_181 0 13 (dk_at dksX8_init_0 10 rfl rfl)
theorem dX8_init_13 : decode cX8_init 13 = .ok (.aload_n 0, 1) := dk_42 (dk_at dksX8_init_0 13 rfl rfl)
theorem dX8_init_14 : decode cX8_init 14 = .ok (.sipush 2000, 3) := dk_17 7 208 (dk_at dksX8_init_0 14 rfl rfl)
theorem dX8_init_17 : decode cX8_init 17 = .ok (.newarray .byte, 2) := dk_188_8 (dk_at dksX8_init_0 17 rfl rfl)
theorem dX8_init_19 : decode cX8_init 19 = .ok (.putfield 17, 3) := dk_181 0 17 (dk_at dksX8_init_0 19 rfl rfl)
theorem dX8_init_22 : decode cX8_init 22 = .ok (.aload_n 0, 1) := dk_42 (dk_at dksX8_init_0 22 rfl rfl)
theorem dX8_init_23 : decode cX8_init 23 = .ok (.sipush 403, 3) := dk_17 1 147 (dk_at dksX8_init_1 0 rfl rfl)
theorem dX8_init_26 : decode cX8_init 26 = .ok (.newarray .int, 2) := dk_188_10 (dk_at dksX8_init_1 3 rfl rfl)
theorem dX8_init_28 : decode cX8_init 28 = .ok (.putfield 20, 3) := dk_181 0 20 (dk_at dksX8_init_1 5 rfl rfl)
theorem dX8_init_31 : decode cX8_init 31 = .ok (.aload_n 0, 1) := dk_42 (dk_at dksX8_init_1 8 rfl rfl)
theorem dX8_init_32 : decode cX8_init 32 = .ok (.sipush 403, 3) := dk_17 1 147 (dk_at dksX8_init_1 9 rfl rfl)
theorem dX8_init_35 : decode cX8_init 35 = .ok (.newarray .int, 2) := dk_188_10 (dk_at dksX8_init_1 12 rfl rfl)
theorem dX8_init_37 : decode cX8_init 37 = .ok (.putfield 24, 3) := dk_181 0 24 (dk_at dksX8_init_1 14 rfl rfl)
theorem dX8_init_40 : decode cX8_init 40 = .ok (.aload_n 0, 1) := dk_42 (dk_at dksX8_init_1 17 rfl rfl)
theorem dX8_init_41 : decode cX8_init 41 = .ok (.sipush 403, 3) := dk_17 1 147 (dk_at dksX8_init_1 18 rfl rfl)
theorem dX8_init_44 : decode cX8_init 44 = .ok (.newarray .int, 2) := dk_188_10 (dk_at dksX8_init_1 21 rfl rfl)
theorem dX8_init_46 : decode cX8_init 46 = .ok (.putfield 27, 3) := dk_181 0 27 (dk_at dksX8_init_2 0 rfl rfl)
theorem dX8_init_49 : decode cX8_init 49 = .ok (.aload_n 0, 1) := dk_42 (dk_at dksX8_init_2 3 rfl rfl)
theorem dX8_init_50 : decode cX8_init 50 = .ok (.sipush 403, 3) := dk_17 1 147 (dk_at dksX8_init_2 4 rfl rfl)
theorem dX8_init_53 : decode cX8_init 53 = .ok (.newarray .long, 2) := dk_188_11 (dk_at dksX8_init_2 7 rfl rfl)
theorem dX8_init_55 : decode cX8_init 55 = .ok (.putfield 30, 3) := dk_181 0 30 (dk_at dksX8_init_2 9 rfl rfl)
theorem dX8_init_58 : decode cX8_init 58 = .ok (.aload_n 0, 1) := dk_42 (dk_at dksX8_init_2 12 rfl rfl)
theorem dX8_init_59 : decode cX8_init 59 = .ok (.bipush 17, 2) := dk_16 17 (dk_at dksX8_init_2 13 rfl rfl)
theorem dX8_init_61 : decode cX8_init 61 = .ok (.newarray .long, 2) := dk_188_11 (dk_at dksX8_init_2 15 rfl rfl)
theorem dX8_init_63 : decode cX8_init 63 = .ok (.putfield 34, 3) := dk_181 0 34 (dk_at dksX8_init_2 17 rfl rfl)
theorem dX8_init_66 : decode cX8_init 66 = .ok (.aload_n 0, 1) := dk_42 (dk_at dksX8_init_2 20 rfl rfl)
theorem dX8_init_67 : decode cX8_init 67 = .ok (.iconst (-1), 1) := dk_2 (dk_at dksX8_init_2 21 rfl rfl)
theorem dX8_init_68 : decode cX8_init 68 = .ok (.putfield 37, 3) := dk_181 0 37 (dk_at dksX8_init_3 0 rfl rfl)
theorem dX8_init_71 : decode cX8_init 71 = .ok (.aload_n 0, 1) := dk_42 (dk_at dksX8_init_3 3 rfl rfl)
theorem dX8_init_72 : decode cX8_init 72 = .ok (.bipush 22, 2) := dk_16 22 (dk_at dksX8_init_3 4 rfl rfl)
theorem dX8_init_74 : decode cX8_init 74 = .ok (.newarray .long, 2) := dk_188_11 (dk_at dksX8_init_3 6 rfl rfl)
theorem dX8_init_76 : decode cX8_init 76 = .ok (.putfield 40, 3) := dk_181 0 40 (dk_at dksX8_init_3 8 rfl rfl)
theorem dX8_init_79 : decode cX8_init 79 = .ok (.aload_n 0, 1) := dk_42 (dk_at dksX8_init_3 11 rfl rfl)
theorem dX8_init_80 : decode cX8_init 80 = .ok (.bipush 22, 2) := dk_16 22 (dk_at dksX8_init_3 12 rfl rfl)
theorem dX8_init_82 : decode cX8_init 82 = .ok (.newarray .int, 2) := dk_188_10 (dk_at dksX8_init_3 14 rfl rfl)
theorem dX8_init_84 : decode cX8_init 84 = .ok (.putfield 43, 3) := dk_181 0 43 (dk_at dksX8_init_3 16 rfl rfl)
theorem dX8_init_87 : decode cX8_init 87 = .ok (.aload_n 0, 1) := dk_42 (dk_at dksX8_init_3 19 rfl rfl)
theorem dX8_init_88 : decode cX8_init 88 = .ok (.bipush 22, 2) := dk_16 22 (dk_at dksX8_init_3 20 rfl rfl)
theorem dX8_init_90 : decode cX8_init 90 = .ok (.newarray .int, 2) := dk_188_10 (dk_at dksX8_init_3 22 rfl rfl)
theorem dX8_init_92 : decode cX8_init 92 = .ok (.putfield 46, 3) := dk_181 0 46 (dk_at dksX8_init_4 0 rfl rfl)
theorem dX8_init_95 : decode cX8_init 95 = .ok (.aload_n 0, 1) := dk_42 (dk_at dksX8_init_4 3 rfl rfl)
theorem dX8_init_96 : decode cX8_init 96 = .ok (.iconst 2, 1) := dk_5 (dk_at dksX8_init_4 4 rfl rfl)
theorem dX8_init_97 : decode cX8_init 97 = .ok (.newarray .int, 2) := dk_188_10 (dk_at dksX8_init_4 5 rfl rfl)
theorem dX8_init_99 : decode cX8_init 99 = .ok (.putfield 49, 3) := dk_181 0 49 (dk_at dksX8_init_4 7 rfl rfl)
theorem dX8_init_102 : decode cX8_init 102 = .ok (.aload_n 0, 1) := dk_42 (dk_at dksX8_init_4 10 rfl rfl)
theorem dX8_init_103 : decode cX8_init 103 = .ok (.iconst 2, 1) := dk_5 (dk_at dksX8_init_4 11 rfl rfl)
theorem dX8_init_104 : decode cX8_init 104 = .ok (.newarray .int, 2) := dk_188_10 (dk_at dksX8_init_4 12 rfl rfl)
theorem dX8_init_106 : decode cX8_init 106 = .ok (.putfield 52, 3) := dk_181 0 52 (dk_at dksX8_init_4 14 rfl rfl)
theorem dX8_init_109 : decode cX8_init 109 = .ok (.aload_n 0, 1) := dk_42 (dk_at dksX8_init_4 17 rfl rfl)
theorem dX8_init_110 : decode cX8_init 110 = .ok (.bipush 24, 2) := dk_16 24 (dk_at dksX8_init_4 18 rfl rfl)
theorem dX8_init_112 : decode cX8_init 112 = .ok (.newarray .int, 2) := dk_188_10 (dk_at dksX8_init_4 20 rfl rfl)
theorem dX8_init_114 : decode cX8_init 114 = .ok (.putfield 55, 3) := dk_181 0 55 (dk_at dksX8_init_5 0 rfl rfl)
theorem dX8_init_117 : decode cX8_init 117 = .ok (.aload_n 0, 1) := dk_42 (dk_at dksX8_init_5 3 rfl rfl)
theorem dX8_init_118 : decode cX8_init 118 = .ok (.bipush 24, 2) := dk_16 24 (dk_at dksX8_init_5 4 rfl rfl)
theorem dX8_init_120 : decode cX8_init 120 = .ok (.newarray .int, 2) := dk_188_10 (dk_at dksX8_init_5 6 rfl rfl)
theorem dX8_init_122 : decode cX8_init 122 = .ok (.putfield 58, 3) := dk_181 0 58 (dk_at dksX8_init_5 8 rfl rfl)
theorem dX8_init_125 : decode cX8_init 125 = .ok (.aload_n 0, 1) := dk_42 (dk_at dksX8_init_5 11 rfl rfl)
theorem dX8_init_126 : decode cX8_init 126 = .ok (.iconst 2, 1) := dk_5 (dk_at dksX8_init_5 12 rfl rfl)
theorem dX8_init_127 : decode cX8_init 127 = .ok (.newarray .int, 2) := dk_188_10 (dk_at dksX8_init_5 13 rfl rfl)
theorem dX8_init_129 : decode cX8_init 129 = .ok (.putfield 61, 3) := dk_181 0 61 (dk_at dksX8_init_5 15 rfl rfl)
theorem dX8_init_132 : decode cX8_init 132 = .ok (.aload_n 0, 1) := dk_42 (dk_at dksX8_init_5 18 rfl rfl)
theorem dX8_init_133 : decode cX8_init 133 = .ok (.bipush 12, 2) := dk_16 12 (dk_at dksX8_init_5 19 rfl rfl)
theorem dX8_init_135 : decode cX8_init 135 = .ok (.newarray .int, 2) := dk_188_10 (dk_at dksX8_init_5 21 rfl rfl)
theorem dX8_init_137 : decode cX8_init 137 = .ok (.putfield 64, 3) := dk_181 0 64 (dk_at dksX8_init_6 0 rfl rfl)
theorem dX8_init_140 : decode cX8_init 140 = .ok (.aload_n 0, 1) := dk_42 (dk_at dksX8_init_6 3 rfl rfl)
theorem dX8_init_141 : decode cX8_init 141 = .ok (.bipush 12, 2) := dk_16 12 (dk_at dksX8_init_6 4 rfl rfl)
theorem dX8_init_143 : decode cX8_init 143 = .ok (.newarray .int, 2) := dk_188_10 (dk_at dksX8_init_6 6 rfl rfl)
theorem dX8_init_145 : decode cX8_init 145 = .ok (.putfield 67, 3) := dk_181 0 67 (dk_at dksX8_init_6 8 rfl rfl)
theorem dX8_init_148 : decode cX8_init 148 = .ok (.aload_n 0, 1) := dk_42 (dk_at dksX8_init_6 11 rfl rfl)
theorem dX8_init_149 : decode cX8_init 149 = .ok (.iconst 2, 1) := dk_5 (dk_at dksX8_init_6 12 rfl rfl)
theorem dX8_init_150 : decode cX8_init 150 = .ok (.newarray .int, 2) := dk_188_10 (dk_at dksX8_init_6 13 rfl rfl)
theorem dX8_init_152 : decode cX8_init 152 = .ok (.putfield 70, 3) := dk_181 0 70 (dk_at dksX8_init_6 15 rfl rfl)
theorem dX8_init_155 : decode cX8_init 155 = .ok (.aload_n 0, 1) := dk_42 (dk_at dksX8_init_6 18 rfl rfl)
theorem dX8_init_156 : decode cX8_init 156 = .ok (.bipush 16, 2) := dk_16 16 (dk_at dksX8_init_6 19 rfl rfl)
theorem dX8_init_158 : decode cX8_init 158 = .ok (.newarray .int, 2) := dk_188_10 (dk_at dksX8_init_6 21 rfl rfl)
theorem dX8_init_160 : decode cX8_init 160 = .ok (.putfield 73, 3) := dk_181 0 73 (dk_at dksX8_init_7 0 rfl rfl)
theorem dX8_init_163 : decode cX8_init 163 = .ok (.aload_n 0, 1) := dk_42 (dk_at dksX8_init_7 3 rfl rfl)
theorem dX8_init_164 : decode cX8_init 164 = .ok (.bipush 16, 2) := dk_16 16 (dk_at dksX8_init_7 4 rfl rfl)
theorem dX8_init_166 : decode cX8_init 166 = .ok (.newarray .int, 2) := dk_188_10 (dk_at dksX8_init_7 6 rfl rfl)
theorem dX8_init_168 : decode cX8_init 168 = .ok (.putfield 76, 3) := dk_181 0 76 (dk_at dksX8_init_7 8 rfl rfl)
theorem dX8_init_171 : decode cX8_init 171 = .ok (.aload_n 0, 1) := dk_42 (dk_at dksX8_init_7 11 rfl rfl)
theorem dX8_init_172 : decode cX8_init 172 = .ok (.iconst 2, 1) := dk_5 (dk_at dksX8_init_7 12 rfl rfl)
theorem dX8_init_173 : decode cX8_init 173 = .ok (.newarray .int, 2) := dk_188_10 (dk_at dksX8_init_7 13 rfl rfl)
theorem dX8_init_175 : decode cX8_init 175 = .ok (.putfield 79, 3) := dk_181 0 79 (dk_at dksX8_init_7 15 rfl rfl)
theorem dX8_init_178 : decode cX8_init 178 = .ok (.aload_n 0, 1) := dk_42 (dk_at dksX8_init_7 18 rfl rfl)
theorem dX8_init_179 : decode cX8_init 179 = .ok (.iconst 2, 1) := dk_5 (dk_at dksX8_init_7 19 rfl rfl)
theorem dX8_init_180 : decode cX8_init 180 = .ok (.newarray .int, 2) := dk_188_10 (dk_at dksX8_init_7 20 rfl rfl)
theorem dX8_init_182 : decode cX8_init 182 = .ok (.putfield 82, 3) := dk_181 0 82 (dk_at dksX8_init_8 0 rfl rfl)
theorem dX8_init_185 : decode cX8_init 185 = .ok (.aload_n 0, 1) := dk_42 (dk_at dksX8_init_8 3 rfl rfl)
theorem dX8_init_186 : decode cX8_init 186 = .ok (.bipush 14, 2) := dk_16 14 (dk_at dksX8_init_8 4 rfl rfl)
theorem dX8_init_188 : decode cX8_init 188 = .ok (.newarray .int, 2) := dk_188_10 (dk_at dksX8_init_8 6 rfl rfl)
theorem dX8_init_190 : decode cX8_init 190 = .ok (.putfield 85, 3) := dk_181 0 85 (dk_at dksX8_init_8 8 rfl rfl)
theorem dX8_init_193 : decode cX8_init 193 = .ok (.aload_n 0, 1) := dk_42 (dk_at dksX8_init_8 11 rfl rfl)
theorem dX8_init_194 : decode cX8_init 194 = .ok (.bipush 14, 2) := dk_16 14 (dk_at dksX8_init_8 12 rfl rfl)
theorem dX8_init_196 : decode cX8_init 196 = .ok (.newarray .int, 2) := dk_188_10 (dk_at dksX8_init_8 14 rfl rfl)
theorem dX8_init_198 : decode cX8_init 198 = .ok (.putfield 88, 3) := dk_181 0 88 (dk_at dksX8_init_8 16 rfl rfl)
theorem dX8_init_201 : decode cX8_init 201 = .ok (.aload_n 0, 1) := dk_42 (dk_at dksX8_init_8 19 rfl rfl)
theorem dX8_init_202 : decode cX8_init 202 = .ok (.sipush 260, 3) := dk_17 1 4 (dk_at dksX8_init_8 20 rfl rfl)
theorem dX8_init_205 : decode cX8_init 205 = .ok (.newarray .boolean, 2) := dk_188_4 (dk_at dksX8_init_9 0 rfl rfl)
theorem dX8_init_207 : decode cX8_init 207 = .ok (.putfield 91, 3) := dk_181 0 91 (dk_at dksX8_init_9 2 rfl rfl)
theorem dX8_init_210 : decode cX8_init 210 = .ok (.aload_n 0, 1) := dk_42 (dk_at dksX8_init_9 5 rfl rfl)
theorem dX8_init_211 : decode cX8_init 211 = .ok (.sipush 260, 3) := dk_17 1 4 (dk_at dksX8_init_9 6 rfl rfl)
theorem dX8_init_214 : decode cX8_init 214 = .ok (.newarray .int, 2) := dk_188_10 (dk_at dksX8_init_9 9 rfl rfl)
theorem dX8_init_216 : decode cX8_init 216 = .ok (.putfield 95, 3) := dk_181 0 95 (dk_at dksX8_init_9 11 rfl rfl)
theorem dX8_init_219 : decode cX8_init 219 = .ok (.aload_n 0, 1) := dk_42 (dk_at dksX8_init_9 14 rfl rfl)
theorem dX8_init_220 : decode cX8_init 220 = .ok (.sipush 260, 3) := dk_17 1 4 (dk_at dksX8_init_9 15 rfl rfl)
theorem dX8_init_223 : decode cX8_init 223 = .ok (.newarray .int, 2) := dk_188_10 (dk_at dksX8_init_9 18 rfl rfl)
theorem dX8_init_225 : decode cX8_init 225 = .ok (.putfield 98, 3) := dk_181 0 98 (dk_at dksX8_init_9 20 rfl rfl)
theorem dX8_init_228 : decode cX8_init 228 = .ok (.aload_n 0, 1) := dk_42 (dk_at dksX8_init_9 23 rfl rfl)
theorem dX8_init_229 : decode cX8_init 229 = .ok (.sipush 260, 3) := dk_17 1 4 (dk_at dksX8_init_10 0 rfl rfl)
theorem dX8_init_232 : decode cX8_init 232 = .ok (.newarray .int, 2) := dk_188_10 (dk_at dksX8_init_10 3 rfl rfl)
theorem dX8_init_234 : decode cX8_init 234 = .ok (.putfield 101, 3) := dk_181 0 101 (dk_at dksX8_init_10 5 rfl rfl)
theorem dX8_init_237 : decode cX8_init 237 = .ok (.aload_n 0, 1) := dk_42 (dk_at dksX8_init_10 8 rfl rfl)
theorem dX8_init_238 : decode cX8_init 238 = .ok (.sipush 260, 3) := dk_17 1 4 (dk_at dksX8_init_10 9 rfl rfl)
theorem dX8_init_241 : decode cX8_init 241 = .ok (.newarray .int, 2) := dk_188_10 (dk_at dksX8_init_10 12 rfl rfl)
theorem dX8_init_243 : decode cX8_init 243 = .ok (.putfield 104, 3) := dk_181 0 104 (dk_at dksX8_init_10 14 rfl rfl)
theorem dX8_init_246 : decode cX8_init 246 = .ok (.aload_n 0, 1) := dk_42 (dk_at dksX8_init_10 17 rfl rfl)
theorem dX8_init_247 : decode cX8_init 247 = .ok (.sipush 840, 3) := dk_17 3 72 (dk_at dksX8_init_10 18 rfl rfl)
theorem dX8_init_250 : decode cX8_init 250 = .ok (.newarray .int, 2) := dk_188_10 (dk_at dksX8_init_10 21 rfl rfl)
theorem dX8_init_252 : decode cX8_init 252 = .ok (.putfield 107, 3) := dk_181 0 107 (dk_at dksX8_init_11 0 rfl rfl)
theorem dX8_init_255 : decode cX8_init 255 = .ok (.aload_n 0, 1) := dk_42 (dk_at dksX8_init_11 3 rfl rfl)
theorem dX8_init_256 : decode cX8_init 256 = .ok (.sipush 840, 3) := dk_17 3 72 (dk_at dksX8_init_11 4 rfl rfl)
theorem dX8_init_259 : decode cX8_init 259 = .ok (.newarray .int, 2) := dk_188_10 (dk_at dksX8_init_11 7 rfl rfl)
theorem dX8_init_261 : decode cX8_init 261 = .ok (.putfield 110, 3) := dk_181 0 110 (dk_at dksX8_init_11 9 rfl rfl)
theorem dX8_init_264 : decode cX8_init 264 = .ok (.aload_n 0, 1) := dk_42 (dk_at dksX8_init_11 12 rfl rfl)
theorem dX8_init_265 : decode cX8_init 265 = .ok (.bipush 64, 2) := dk_16 64 (dk_at dksX8_init_11 13 rfl rfl)
theorem dX8_init_267 : decode cX8_init 267 = .ok (.newarray .int, 2) := dk_188_10 (dk_at dksX8_init_11 15 rfl rfl)
theorem dX8_init_269 : decode cX8_init 269 = .ok (.putfield 113, 3) := dk_181 0 113 (dk_at dksX8_init_11 17 rfl rfl)
theorem dX8_init_272 : decode cX8_init 272 = .ok (.aload_n 0, 1) := dk_42 (dk_at dksX8_init_11 20 rfl rfl)
theorem dX8_init_273 : decode cX8_init 273 = .ok (.bipush 6, 2) := dk_16 6 (dk_at dksX8_init_11 21 rfl rfl)
theorem dX8_init_275 : decode cX8_init 275 = .ok (.newarray .int, 2) := dk_188_10 (dk_at dksX8_init_12 0 rfl rfl)
theorem dX8_init_277 : decode cX8_init 277 = .ok (.putfield 116, 3) := dk_181 0 116 (dk_at dksX8_init_12 2 rfl rfl)
theorem dX8_init_280 : decode cX8_init 280 = .ok (.aload_n 0, 1) := dk_42 (dk_at dksX8_init_12 5 rfl rfl)
theorem dX8_init_281 : decode cX8_init 281 = .ok (.sipush 400, 3) := dk_17 1 144 (dk_at dksX8_init_12 6 rfl rfl)
theorem dX8_init_284 : decode cX8_init 284 = .ok (.newarray .int, 2) := dk_188_10 (dk_at dksX8_init_12 9 rfl rfl)
theorem dX8_init_286 : decode cX8_init 286 = .ok (.putfield 119, 3) := dk_181 0 119 (dk_at dksX8_init_12 11 rfl rfl)
theorem dX8_init_289 : decode cX8_init 289 = .ok (.aload_n 0, 1) := dk_42 (dk_at dksX8_init_12 14 rfl rfl)
theorem dX8_init_290 : decode cX8_init 290 = .ok (.sipush 10800, 3) := dk_17 42 48 (dk_at dksX8_init_12 15 rfl rfl)
theorem dX8_init_293 : decode cX8_init 293 = .ok (.newarray .int, 2) := dk_188_10 (dk_at dksX8_init_12 18 rfl rfl)
theorem dX8_init_295 : decode cX8_init 295 = .ok (.putfield 122, 3) := dk_181 0 122 (dk_at dksX8_init_12 20 rfl rfl)
theorem dX8_init_298 : decode cX8_init 298 = .ok (.aload_n 0, 1) := dk_42 (dk_at dksX8_init_12 23 rfl rfl)
theorem dX8_init_299 : decode cX8_init 299 = .ok (.bipush 8, 2) := dk_16 8 (dk_at dksX8_init_13 0 rfl rfl)
theorem dX8_init_301 : decode cX8_init 301 = .ok (.newarray .int, 2) := dk_188_10 (dk_at dksX8_init_13 2 rfl rfl)
theorem dX8_init_303 : decode cX8_init 303 = .ok (.putfield 125, 3) := dk_181 0 125 (dk_at dksX8_init_13 4 rfl rfl)
theorem dX8_init_306 : decode cX8_init 306 = .ok (.aload_n 0, 1) := dk_42 (dk_at dksX8_init_13 7 rfl rfl)
theorem dX8_init_307 : decode cX8_init 307 = .ok (.bipush 8, 2) := dk_16 8 (dk_at dksX8_init_13 8 rfl rfl)
theorem dX8_init_309 : decode cX8_init 309 = .ok (.newarray .int, 2) := dk_188_10 (dk_at dksX8_init_13 10 rfl rfl)
theorem dX8_init_311 : decode cX8_init 311 = .ok (.putfield 128, 3) := dk_181 0 128 (dk_at dksX8_init_13 12 rfl rfl)
theorem dX8_init_314 : decode cX8_init 314 = .ok (.aload_n 0, 1) := dk_42 (dk_at dksX8_init_13 15 rfl rfl)
theorem dX8_init_315 : decode cX8_init 315 = .ok (.sipush 10800, 3) := dk_17 42 48 (dk_at dksX8_init_13 16 rfl rfl)
theorem dX8_init_318 : decode cX8_init 318 = .ok (.newarray .int, 2) := dk_188_10 (dk_at dksX8_init_13 19 rfl rfl)
theorem dX8_init_320 : decode cX8_init 320 = .ok (.putfield 131, 3) := dk_181 0 131 (dk_at dksX8_init_13 21 rfl rfl)
theorem dX8_init_323 : decode cX8_init 323 = .ok (.aload_n 0, 1) := dk_42 (dk_at dksX8_init_14 0 rfl rfl)
theorem dX8_init_324 : decode cX8_init 324 = .ok (.bipush 8, 2) := dk_16 8 (dk_at dksX8_init_14 1 rfl rfl)
theorem dX8_init_326 : decode cX8_init 326 = .ok (.newarray .int, 2) := dk_188_10 (dk_at dksX8_init_14 3 rfl rfl)
theorem dX8_init_328 : decode cX8_init 328 = .ok (.putfield 134, 3) := dk_181 0 134 (dk_at dksX8_init_14 5 rfl rfl)
theorem dX8_init_331 : decode cX8_init 331 = .ok (.aload_n 0, 1) := dk_42 (dk_at dksX8_init_14 8 rfl rfl)
theorem dX8_init_332 : decode cX8_init 332 = .ok (.bipush 8, 2) := dk_16 8 (dk_at dksX8_init_14 9 rfl rfl)
theorem dX8_init_334 : decode cX8_init 334 = .ok (.newarray .int, 2) := dk_188_10 (dk_at dksX8_init_14 11 rfl rfl)
theorem dX8_init_336 : decode cX8_init 336 = .ok (.putfield 137, 3) := dk_181 0 137 (dk_at dksX8_init_14 13 rfl rfl)
theorem dX8_init_339 : decode cX8_init 339 = .ok (.aload_n 0, 1) := dk_42 (dk_at dksX8_init_14 16 rfl rfl)
theorem dX8_init_340 : decode cX8_init 340 = .ok (.sipush 1060, 3) := dk_17 4 36 (dk_at dksX8_init_14 17 rfl rfl)
theorem dX8_init_343 : decode cX8_init 343 = .ok (.newarray .int, 2) := dk_188_10 (dk_at dksX8_init_14 20 rfl rfl)
theorem dX8_init_345 : decode cX8_init 345 = .ok (.putfield 140, 3) := dk_181 0 140 (dk_at dksX8_init_15 0 rfl rfl)
theorem dX8_init_348 : decode cX8_init 348 = .ok (.aload_n 0, 1) := dk_42 (dk_at dksX8_init_15 3 rfl rfl)
theorem dX8_init_349 : decode cX8_init 349 = .ok (.sipush 2400, 3) := dk_17 9 96 (dk_at dksX8_init_15 4 rfl rfl)
theorem dX8_init_352 : decode cX8_init 352 = .ok (.newarray .boolean, 2) := dk_188_4 (dk_at dksX8_init_15 7 rfl rfl)
theorem dX8_init_354 : decode cX8_init 354 = .ok (.putfield 143, 3) := dk_181 0 143 (dk_at dksX8_init_15 9 rfl rfl)
theorem dX8_init_357 : decode cX8_init 357 = .ok (.aload_n 0, 1) := dk_42 (dk_at dksX8_init_15 12 rfl rfl)
theorem dX8_init_358 : decode cX8_init 358 = .ok (.sipush 2400, 3) := dk_17 9 96 (dk_at dksX8_init_15 13 rfl rfl)
theorem dX8_init_361 : decode cX8_init 361 = .ok (.newarray .boolean, 2) := dk_188_4 (dk_at dksX8_init_15 16 rfl rfl)
theorem dX8_init_363 : decode cX8_init 363 = .ok (.putfield 146, 3) := dk_181 0 146 (dk_at dksX8_init_15 18 rfl rfl)
theorem dX8_init_366 : decode cX8_init 366 = .ok (.aload_n 0, 1) := dk_42 (dk_at dksX8_init_15 21 rfl rfl)
theorem dX8_init_367 : decode cX8_init 367 = .ok (.sipush 300, 3) := dk_17 1 44 (dk_at dksX8_init_16 0 rfl rfl)
theorem dX8_init_370 : decode cX8_init 370 = .ok (.newarray .int, 2) := dk_188_10 (dk_at dksX8_init_16 3 rfl rfl)
theorem dX8_init_372 : decode cX8_init 372 = .ok (.putfield 149, 3) := dk_181 0 149 (dk_at dksX8_init_16 5 rfl rfl)
theorem dX8_init_375 : decode cX8_init 375 = .ok (.aload_n 0, 1) := dk_42 (dk_at dksX8_init_16 8 rfl rfl)
theorem dX8_init_376 : decode cX8_init 376 = .ok (.bipush 8, 2) := dk_16 8 (dk_at dksX8_init_16 9 rfl rfl)
theorem dX8_init_378 : decode cX8_init 378 = .ok (.newarray .int, 2) := dk_188_10 (dk_at dksX8_init_16 11 rfl rfl)
theorem dX8_init_380 : decode cX8_init 380 = .ok (.putfield 152, 3) := dk_181 0 152 (dk_at dksX8_init_16 13 rfl rfl)
theorem dX8_init_383 : decode cX8_init 383 = .ok (.aload_n 0, 1) := dk_42 (dk_at dksX8_init_16 16 rfl rfl)
theorem dX8_init_384 : decode cX8_init 384 = .ok (.bipush 20, 2) := dk_16 20 (dk_at dksX8_init_16 17 rfl rfl)
theorem dX8_init_386 : decode cX8_init 386 = .ok (.newarray .int, 2) := dk_188_10 (dk_at dksX8_init_16 19 rfl rfl)
theorem dX8_init_388 : decode cX8_init 388 = .ok (.putfield 155, 3) := dk_181 0 155 (dk_at dksX8_init_16 21 rfl rfl)
theorem dX8_init_391 : decode cX8_init 391 = .ok (.aload_n 0, 1) := dk_42 (dk_at dksX8_init_17 0 rfl rfl)
theorem dX8_init_392 : decode cX8_init 392 = .ok (.bipush 20, 2) := dk_16 20 (dk_at dksX8_init_17 1 rfl rfl)
theorem dX8_init_394 : decode cX8_init 394 = .ok (.newarray .int, 2) := dk_188_10 (dk_at dksX8_init_17 3 rfl rfl)
theorem dX8_init_396 : decode cX8_init 396 = .ok (.putfield 158, 3) := dk_181 0 158 (dk_at dksX8_init_17 5 rfl rfl)
theorem dX8_init_399 : decode cX8_init 399 = .ok (.aload_n 0, 1) := dk_42 (dk_at dksX8_init_17 8 rfl rfl)
theorem dX8_init_400 : decode cX8_init 400 = .ok (.bipush 20, 2) := dk_16 20 (dk_at dksX8_init_17 9 rfl rfl)
theorem dX8_init_402 : decode cX8_init 402 = .ok (.newarray .int, 2) := dk_188_10 (dk_at dksX8_init_17 11 rfl rfl)
theorem dX8_init_404 : decode cX8_init 404 = .ok (.putfield 161, 3) := dk_181 0 161 (dk_at dksX8_init_17 13 rfl rfl)
theorem dX8_init_407 : decode cX8_init 407 = .ok (.aload_n 0, 1) := dk_42 (dk_at dksX8_init_17 16 rfl rfl)
theorem dX8_init_408 : decode cX8_init 408 = .ok (.bipush 20, 2) := dk_16 20 (dk_at dksX8_init_17 17 rfl rfl)
theorem dX8_init_410 : decode cX8_init 410 = .ok (.newarray .boolean, 2) := dk_188_4 (dk_at dksX8_init_17 19 rfl rfl)
theorem dX8_init_412 : decode cX8_init 412 = .ok (.putfield 164, 3) := dk_181 0 164 (dk_at dksX8_init_17 21 rfl rfl)
theorem dX8_init_415 : decode cX8_init 415 = .ok (.aload_n 0, 1) := dk_42 (dk_at dksX8_init_18 0 rfl rfl)
theorem dX8_init_416 : decode cX8_init 416 = .ok (.iconst 3, 1) := dk_6 (dk_at dksX8_init_18 1 rfl rfl)
theorem dX8_init_417 : decode cX8_init 417 = .ok (.newarray .boolean, 2) := dk_188_4 (dk_at dksX8_init_18 2 rfl rfl)
theorem dX8_init_419 : decode cX8_init 419 = .ok (.putfield 167, 3) := dk_181 0 167 (dk_at dksX8_init_18 4 rfl rfl)
theorem dX8_init_422 : decode cX8_init 422 = .ok (.aload_n 0, 1) := dk_42 (dk_at dksX8_init_18 7 rfl rfl)
theorem dX8_init_423 : decode cX8_init 423 = .ok (.sipush 32400, 3) := dk_17 126 144 (dk_at dksX8_init_18 8 rfl rfl)
theorem dX8_init_426 : decode cX8_init 426 = .ok (.newarray .int, 2) := dk_188_10 (dk_at dksX8_init_18 11 rfl rfl)
theorem dX8_init_428 : decode cX8_init 428 = .ok (.putfield 170, 3) := dk_181 0 170 (dk_at dksX8_init_18 13 rfl rfl)
theorem dX8_init_431 : decode cX8_init 431 = .ok (.aload_n 0, 1) := dk_42 (dk_at dksX8_init_18 16 rfl rfl)
theorem dX8_init_432 : decode cX8_init 432 = .ok (.bipush 51, 2) := dk_16 51 (dk_at dksX8_init_18 17 rfl rfl)
theorem dX8_init_434 : decode cX8_init 434 = .ok (.newarray .int, 2) := dk_188_10 (dk_at dksX8_init_18 19 rfl rfl)
theorem dX8_init_436 : decode cX8_init 436 = .ok (.putfield 173, 3) := dk_181 0 173 (dk_at dksX8_init_18 21 rfl rfl)
theorem dX8_init_439 : decode cX8_init 439 = .ok (.aload_n 0, 1) := dk_42 (dk_at dksX8_init_19 0 rfl rfl)
theorem dX8_init_440 : decode cX8_init 440 = .ok (.iconst 0, 1) := dk_3 (dk_at dksX8_init_19 1 rfl rfl)
theorem dX8_init_441 : decode cX8_init 441 = .ok (.invokevirtual 176, 3) := dk_182 0 176 (dk_at dksX8_init_19 2 rfl rfl)
theorem dX8_init_444 : decode cX8_init 444 = .ok (.aload_n 0, 1) := dk_42 (dk_at dksX8_init_19 5 rfl rfl)
theorem dX8_init_445 : decode cX8_init 445 = .ok (.getfield 34, 3) := dk_180 0 34 (dk_at dksX8_init_19 6 rfl rfl)
theorem dX8_init_448 : decode cX8_init 448 = .ok (.iconst 0, 1) := dk_3 (dk_at dksX8_init_19 9 rfl rfl)
theorem dX8_init_449 : decode cX8_init 449 = .ok (.bipush 114, 2) := dk_16 114 (dk_at dksX8_init_19 10 rfl rfl)
theorem dX8_init_451 : decode cX8_init 451 = .ok (.bipush 111, 2) := dk_16 111 (dk_at dksX8_init_19 12 rfl rfl)
theorem dX8_init_453 : decode cX8_init 453 = .ok (.bipush 111, 2) := dk_16 111 (dk_at dksX8_init_19 14 rfl rfl)
theorem dX8_init_455 : decode cX8_init 455 = .ok (.bipush 109, 2) := dk_16 109 (dk_at dksX8_init_19 16 rfl rfl)
theorem dX8_init_457 : decode cX8_init 457 = .ok (.iconst 0, 1) := dk_3 (dk_at dksX8_init_19 18 rfl rfl)
theorem dX8_init_458 : decode cX8_init 458 = .ok (.iconst 0, 1) := dk_3 (dk_at dksX8_init_19 19 rfl rfl)
theorem dX8_init_459 : decode cX8_init 459 = .ok (.iconst 0, 1) := dk_3 (dk_at dksX8_init_19 20 rfl rfl)
theorem dX8_init_460 : decode cX8_init 460 = .ok (.invokestatic 180, 3) := dk_184 0 180 (dk_at dksX8_init_19 21 rfl rfl)
theorem dX8_init_463 : decode cX8_init 463 = .ok (.lastore, 1) := dk_80 (dk_at dksX8_init_20 0 rfl rfl)
theorem dX8_init_464 : decode cX8_init 464 = .ok (.aload_n 0, 1) := dk_42 (dk_at dksX8_init_20 1 rfl rfl)
theorem dX8_init_465 : decode cX8_init 465 = .ok (.getfield 34, 3) := dk_180 0 34 (dk_at dksX8_init_20 2 rfl rfl)
theorem dX8_init_468 : decode cX8_init 468 = .ok (.iconst 1, 1) := dk_4 (dk_at dksX8_init_20 5 rfl rfl)
theorem dX8_init_469 : decode cX8_init 469 = .ok (.bipush 100, 2) := dk_16 100 (dk_at dksX8_init_20 6 rfl rfl)
theorem dX8_init_471 : decode cX8_init 471 = .ok (.bipush 111, 2) := dk_16 111 (dk_at dksX8_init_20 8 rfl rfl)
theorem dX8_init_473 : decode cX8_init 473 = .ok (.bipush 111, 2) := dk_16 111 (dk_at dksX8_init_20 10 rfl rfl)
theorem dX8_init_475 : decode cX8_init 475 = .ok (.bipush 114, 2) := dk_16 114 (dk_at dksX8_init_20 12 rfl rfl)
theorem dX8_init_477 : decode cX8_init 477 = .ok (.iconst 0, 1) := dk_3 (dk_at dksX8_init_20 14 rfl rfl)
theorem dX8_init_478 : decode cX8_init 478 = .ok (.iconst 0, 1) := dk_3 (dk_at dksX8_init_20 15 rfl rfl)
theorem dX8_init_479 : decode cX8_init 479 = .ok (.iconst 0, 1) := dk_3 (dk_at dksX8_init_20 16 rfl rfl)
theorem dX8_init_480 : decode cX8_init 480 = .ok (.invokestatic 180, 3) := dk_184 0 180 (dk_at dksX8_init_20 17 rfl rfl)
theorem dX8_init_483 : decode cX8_init 483 = .ok (.lastore, 1) := dk_80 (dk_at dksX8_init_20 20 rfl rfl)
theorem dX8_init_484 : decode cX8_init 484 = .ok (.aload_n 0, 1) := dk_42 (dk_at dksX8_init_20 21 rfl rfl)
theorem dX8_init_485 : decode cX8_init 485 = .ok (.getfield 34, 3) := dk_180 0 34 (dk_at dksX8_init_21 0 rfl rfl)
theorem dX8_init_488 : decode cX8_init 488 = .ok (.iconst 2, 1) := dk_5 (dk_at dksX8_init_21 3 rfl rfl)
theorem dX8_init_489 : decode cX8_init 489 = .ok (.bipush 109, 2) := dk_16 109 (dk_at dksX8_init_21 4 rfl rfl)
theorem dX8_init_491 : decode cX8_init 491 = .ok (.bipush 97, 2) := dk_16 97 (dk_at dksX8_init_21 6 rfl rfl)
theorem dX8_init_493 : decode cX8_init 493 = .ok (.bipush 110, 2) := dk_16 110 (dk_at dksX8_init_21 8 rfl rfl)
theorem dX8_init_495 : decode cX8_init 495 = .ok (.iconst 0, 1) := dk_3 (dk_at dksX8_init_21 10 rfl rfl)
theorem dX8_init_496 : decode cX8_init 496 = .ok (.iconst 0, 1) := dk_3 (dk_at dksX8_init_21 11 rfl rfl)
theorem dX8_init_497 : decode cX8_init 497 = .ok (.iconst 0, 1) := dk_3 (dk_at dksX8_init_21 12 rfl rfl)
theorem dX8_init_498 : decode cX8_init 498 = .ok (.iconst 0, 1) := dk_3 (dk_at dksX8_init_21 13 rfl rfl)
theorem dX8_init_499 : decode cX8_init 499 = .ok (.invokestatic 180, 3) := dk_184 0 180 (dk_at dksX8_init_21 14 rfl rfl)
theorem dX8_init_502 : decode cX8_init 502 = .ok (.lastore, 1) := dk_80 (dk_at dksX8_init_21 17 rfl rfl)
theorem dX8_init_503 : decode cX8_init 503 = .ok (.aload_n 0, 1) := dk_42 (dk_at dksX8_init_21 18 rfl rfl)
theorem dX8_init_504 : decode cX8_init 504 = .ok (.getfield 34, 3) := dk_180 0 34 (dk_at dksX8_init_21 19 rfl rfl)
theorem dX8_init_507 : decode cX8_init 507 = .ok (.iconst 3, 1) := dk_6 (dk_at dksX8_init_21 22 rfl rfl)
theorem dX8_init_508 : decode cX8_init 508 = .ok (.bipush 103, 2) := dk_16 103 (dk_at dksX8_init_22 0 rfl rfl)
theorem dX8_init_510 : decode cX8_init 510 = .ok (.bipush 111, 2) := dk_16 111 (dk_at dksX8_init_22 2 rfl rfl)
theorem dX8_init_512 : decode cX8_init 512 = .ok (.bipush 101, 2) := dk_16 101 (dk_at dksX8_init_22 4 rfl rfl)
theorem dX8_init_514 : decode cX8_init 514 = .ok (.bipush 115, 2) := dk_16 115 (dk_at dksX8_init_22 6 rfl rfl)
theorem dX8_init_516 : decode cX8_init 516 = .ok (.iconst 0, 1) := dk_3 (dk_at dksX8_init_22 8 rfl rfl)
theorem dX8_init_517 : decode cX8_init 517 = .ok (.iconst 0, 1) := dk_3 (dk_at dksX8_init_22 9 rfl rfl)
theorem dX8_init_518 : decode cX8_init 518 = .ok (.iconst 0, 1) := dk_3 (dk_at dksX8_init_22 10 rfl rfl)
theorem dX8_init_519 : decode cX8_init 519 = .ok (.invokestatic 180, 3) := dk_184 0 180 (dk_at dksX8_init_22 11 rfl rfl)
theorem dX8_init_522 : decode cX8_init 522 = .ok (.lastore, 1) := dk_80 (dk_at dksX8_init_22 14 rfl rfl)
theorem dX8_init_523 : decode cX8_init 523 = .ok (.aload_n 0, 1) := dk_42 (dk_at dksX8_init_22 15 rfl rfl)
theorem dX8_init_524 : decode cX8_init 524 = .ok (.getfield 34, 3) := dk_180 0 34 (dk_at dksX8_init_22 16 rfl rfl)
theorem dX8_init_527 : decode cX8_init 527 = .ok (.iconst 4, 1) := dk_7 (dk_at dksX8_init_22 19 rfl rfl)
theorem dX8_init_528 : decode cX8_init 528 = .ok (.bipush 109, 2) := dk_16 109 (dk_at dksX8_init_22 20 rfl rfl)
theorem dX8_init_530 : decode cX8_init 530 = .ok (.bipush 105, 2) := dk_16 105 (dk_at dksX8_init_22 22 rfl rfl)
theorem dX8_init_532 : decode cX8_init 532 = .ok (.bipush 114, 2) := dk_16 114 (dk_at dksX8_init_23 0 rfl rfl)
theorem dX8_init_534 : decode cX8_init 534 = .ok (.bipush 114, 2) := dk_16 114 (dk_at dksX8_init_23 2 rfl rfl)
theorem dX8_init_536 : decode cX8_init 536 = .ok (.bipush 111, 2) := dk_16 111 (dk_at dksX8_init_23 4 rfl rfl)
theorem dX8_init_538 : decode cX8_init 538 = .ok (.bipush 114, 2) := dk_16 114 (dk_at dksX8_init_23 6 rfl rfl)
theorem dX8_init_540 : decode cX8_init 540 = .ok (.iconst 0, 1) := dk_3 (dk_at dksX8_init_23 8 rfl rfl)
theorem dX8_init_541 : decode cX8_init 541 = .ok (.invokestatic 180, 3) := dk_184 0 180 (dk_at dksX8_init_23 9 rfl rfl)
theorem dX8_init_544 : decode cX8_init 544 = .ok (.lastore, 1) := dk_80 (dk_at dksX8_init_23 12 rfl rfl)
theorem dX8_init_545 : decode cX8_init 545 = .ok (.aload_n 0, 1) := dk_42 (dk_at dksX8_init_23 13 rfl rfl)
theorem dX8_init_546 : decode cX8_init 546 = .ok (.getfield 34, 3) := dk_180 0 34 (dk_at dksX8_init_23 14 rfl rfl)
theorem dX8_init_549 : decode cX8_init 549 = .ok (.iconst 5, 1) := dk_8 (dk_at dksX8_init_23 17 rfl rfl)
theorem dX8_init_550 : decode cX8_init 550 = .ok (.bipush 108, 2) := dk_16 108 (dk_at dksX8_init_23 18 rfl rfl)
theorem dX8_init_552 : decode cX8_init 552 = .ok (.bipush 97, 2) := dk_16 97 (dk_at dksX8_init_23 20 rfl rfl)
theorem dX8_init_554 : decode cX8_init 554 = .ok (.bipush 116, 2) := dk_16 116 (dk_at dksX8_init_23 22 rfl rfl)
theorem dX8_init_556 : decode cX8_init 556 = .ok (.bipush 101, 2) := dk_16 101 (dk_at dksX8_init_24 0 rfl rfl)
theorem dX8_init_558 : decode cX8_init 558 = .ok (.iconst 0, 1) := dk_3 (dk_at dksX8_init_24 2 rfl rfl)
theorem dX8_init_559 : decode cX8_init 559 = .ok (.iconst 0, 1) := dk_3 (dk_at dksX8_init_24 3 rfl rfl)
theorem dX8_init_560 : decode cX8_init 560 = .ok (.iconst 0, 1) := dk_3 (dk_at dksX8_init_24 4 rfl rfl)
theorem dX8_init_561 : decode cX8_init 561 = .ok (.invokestatic 180, 3) := dk_184 0 180 (dk_at dksX8_init_24 5 rfl rfl)
theorem dX8_init_564 : decode cX8_init 564 = .ok (.lastore, 1) := dk_80 (dk_at dksX8_init_24 8 rfl rfl)
theorem dX8_init_565 : decode cX8_init 565 = .ok (.aload_n 0, 1) := dk_42 (dk_at dksX8_init_24 9 rfl rfl)
theorem dX8_init_566 : decode cX8_init 566 = .ok (.getfield 34, 3) := dk_180 0 34 (dk_at dksX8_init_24 10 rfl rfl)
theorem dX8_init_569 : decode cX8_init 569 = .ok (.bipush 6, 2) := dk_16 6 (dk_at dksX8_init_24 13 rfl rfl)
theorem dX8_init_571 : decode cX8_init 571 = .ok (.bipush 98, 2) := dk_16 98 (dk_at dksX8_init_24 15 rfl rfl)
theorem dX8_init_573 : decode cX8_init 573 = .ok (.bipush 114, 2) := dk_16 114 (dk_at dksX8_init_24 17 rfl rfl)
theorem dX8_init_575 : decode cX8_init 575 = .ok (.bipush 101, 2) := dk_16 101 (dk_at dksX8_init_24 19 rfl rfl)
theorem dX8_init_577 : decode cX8_init 577 = .ok (.bipush 97, 2) := dk_16 97 (dk_at dksX8_init_24 21 rfl rfl)
theorem dX8_init_579 : decode cX8_init 579 = .ok (.bipush 107, 2) := dk_16 107 (dk_at dksX8_init_25 0 rfl rfl)
theorem dX8_init_581 : decode cX8_init 581 = .ok (.bipush 115, 2) := dk_16 115 (dk_at dksX8_init_25 2 rfl rfl)
theorem dX8_init_583 : decode cX8_init 583 = .ok (.iconst 0, 1) := dk_3 (dk_at dksX8_init_25 4 rfl rfl)
theorem dX8_init_584 : decode cX8_init 584 = .ok (.invokestatic 180, 3) := dk_184 0 180 (dk_at dksX8_init_25 5 rfl rfl)
theorem dX8_init_587 : decode cX8_init 587 = .ok (.lastore, 1) := dk_80 (dk_at dksX8_init_25 8 rfl rfl)
theorem dX8_init_588 : decode cX8_init 588 = .ok (.aload_n 0, 1) := dk_42 (dk_at dksX8_init_25 9 rfl rfl)
theorem dX8_init_589 : decode cX8_init 589 = .ok (.getfield 34, 3) := dk_180 0 34 (dk_at dksX8_init_25 10 rfl rfl)
theorem dX8_init_592 : decode cX8_init 592 = .ok (.bipush 7, 2) := dk_16 7 (dk_at dksX8_init_25 13 rfl rfl)
theorem dX8_init_594 : decode cX8_init 594 = .ok (.bipush 115, 2) := dk_16 115 (dk_at dksX8_init_25 15 rfl rfl)
theorem dX8_init_596 : decode cX8_init 596 = .ok (.bipush 101, 2) := dk_16 101 (dk_at dksX8_init_25 17 rfl rfl)
theorem dX8_init_598 : decode cX8_init 598 = .ok (.bipush 101, 2) := dk_16 101 (dk_at dksX8_init_25 19 rfl rfl)
theorem dX8_init_600 : decode cX8_init 600 = .ok (.bipush 100, 2) := dk_16 100 (dk_at dksX8_init_25 21 rfl rfl)
theorem dX8_init_602 : decode cX8_init 602 = .ok (.iconst 0, 1) := dk_3 (dk_at dksX8_init_25 23 rfl rfl)
theorem dX8_init_603 : decode cX8_init 603 = .ok (.iconst 0, 1) := dk_3 (dk_at dksX8_init_26 0 rfl rfl)
theorem dX8_init_604 : decode cX8_init 604 = .ok (.iconst 0, 1) := dk_3 (dk_at dksX8_init_26 1 rfl rfl)
theorem dX8_init_605 : decode cX8_init 605 = .ok (.invokestatic 180, 3) := dk_184 0 180 (dk_at dksX8_init_26 2 rfl rfl)
theorem dX8_init_608 : decode cX8_init 608 = .ok (.lastore, 1) := dk_80 (dk_at dksX8_init_26 5 rfl rfl)
theorem dX8_init_609 : decode cX8_init 609 = .ok (.aload_n 0, 1) := dk_42 (dk_at dksX8_init_26 6 rfl rfl)
theorem dX8_init_610 : decode cX8_init 610 = .ok (.getfield 34, 3) := dk_180 0 34 (dk_at dksX8_init_26 7 rfl rfl)
theorem dX8_init_613 : decode cX8_init 613 = .ok (.bipush 8, 2) := dk_16 8 (dk_at dksX8_init_26 10 rfl rfl)
theorem dX8_init_615 : decode cX8_init 615 = .ok (.bipush 105, 2) := dk_16 105 (dk_at dksX8_init_26 12 rfl rfl)
theorem dX8_init_617 : decode cX8_init 617 = .ok (.bipush 102, 2) := dk_16 102 (dk_at dksX8_init_26 14 rfl rfl)
theorem dX8_init_619 : decode cX8_init 619 = .ok (.iconst 0, 1) := dk_3 (dk_at dksX8_init_26 16 rfl rfl)
theorem dX8_init_620 : decode cX8_init 620 = .ok (.iconst 0, 1) := dk_3 (dk_at dksX8_init_26 17 rfl rfl)
theorem dX8_init_621 : decode cX8_init 621 = .ok (.iconst 0, 1) := dk_3 (dk_at dksX8_init_26 18 rfl rfl)
theorem dX8_init_622 : decode cX8_init 622 = .ok (.iconst 0, 1) := dk_3 (dk_at dksX8_init_26 19 rfl rfl)
theorem dX8_init_623 : decode cX8_init 623 = .ok (.iconst 0, 1) := dk_3 (dk_at dksX8_init_26 20 rfl rfl)
theorem dX8_init_624 : decode cX8_init 624 = .ok (.invokestatic 180, 3) := dk_184 0 180 (dk_at dksX8_init_26 21 rfl rfl)
theorem dX8_init_627 : decode cX8_init 627 = .ok (.lastore, 1) := dk_80 (dk_at dksX8_init_27 0 rfl rfl)
theorem dX8_init_628 : decode cX8_init 628 = .ok (.aload_n 0, 1) := dk_42 (dk_at dksX8_init_27 1 rfl rfl)
theorem dX8_init_629 : decode cX8_init 629 = .ok (.getfield 34, 3) := dk_180 0 34 (dk_at dksX8_init_27 2 rfl rfl)
theorem dX8_init_632 : decode cX8_init 632 = .ok (.bipush 9, 2) := dk_16 9 (dk_at dksX8_init_27 5 rfl rfl)
theorem dX8_init_634 : decode cX8_init 634 = .ok (.bipush 116, 2) := dk_16 116 (dk_at dksX8_init_27 7 rfl rfl)
theorem dX8_init_636 : decode cX8_init 636 = .ok (.bipush 104, 2) := dk_16 104 (dk_at dksX8_init_27 9 rfl rfl)
theorem dX8_init_638 : decode cX8_init 638 = .ok (.bipush 101, 2) := dk_16 101 (dk_at dksX8_init_27 11 rfl rfl)
theorem dX8_init_640 : decode cX8_init 640 = .ok (.bipush 110, 2) := dk_16 110 (dk_at dksX8_init_27 13 rfl rfl)
theorem dX8_init_642 : decode cX8_init 642 = .ok (.iconst 0, 1) := dk_3 (dk_at dksX8_init_27 15 rfl rfl)
theorem dX8_init_643 : decode cX8_init 643 = .ok (.iconst 0, 1) := dk_3 (dk_at dksX8_init_27 16 rfl rfl)
theorem dX8_init_644 : decode cX8_init 644 = .ok (.iconst 0, 1) := dk_3 (dk_at dksX8_init_27 17 rfl rfl)
theorem dX8_init_645 : decode cX8_init 645 = .ok (.invokestatic 180, 3) := dk_184 0 180 (dk_at dksX8_init_27 18 rfl rfl)
theorem dX8_init_648 : decode cX8_init 648 = .ok (.lastore, 1) := dk_80 (dk_at dksX8_init_27 21 rfl rfl)
theorem dX8_init_649 : decode cX8_init 649 = .ok (.aload_n 0, 1) := dk_42 (dk_at dksX8_init_27 22 rfl rfl)
theorem dX8_init_650 : decode cX8_init 650 = .ok (.getfield 34, 3) := dk_180 0 34 (dk_at dksX8_init_28 0 rfl rfl)
theorem dX8_init_653 : decode cX8_init 653 = .ok (.bipush 10, 2) := dk_16 10 (dk_at dksX8_init_28 3 rfl rfl)
theorem dX8_init_655 : decode cX8_init 655 = .ok (.bipush 101, 2) := dk_16 101 (dk_at dksX8_init_28 5 rfl rfl)
theorem dX8_init_657 : decode cX8_init 657 = .ok (.bipush 108, 2) := dk_16 108 (dk_at dksX8_init_28 7 rfl rfl)
theorem dX8_init_659 : decode cX8_init 659 = .ok (.bipush 115, 2) := dk_16 115 (dk_at dksX8_init_28 9 rfl rfl)
theorem dX8_init_661 : decode cX8_init 661 = .ok (.bipush 101, 2) := dk_16 101 (dk_at dksX8_init_28 11 rfl rfl)
theorem dX8_init_663 : decode cX8_init 663 = .ok (.iconst 0, 1) := dk_3 (dk_at dksX8_init_28 13 rfl rfl)
theorem dX8_init_664 : decode cX8_init 664 = .ok (.iconst 0, 1) := dk_3 (dk_at dksX8_init_28 14 rfl rfl)
theorem dX8_init_665 : decode cX8_init 665 = .ok (.iconst 0, 1) := dk_3 (dk_at dksX8_init_28 15 rfl rfl)
theorem dX8_init_666 : decode cX8_init 666 = .ok (.invokestatic 180, 3) := dk_184 0 180 (dk_at dksX8_init_28 16 rfl rfl)
theorem dX8_init_669 : decode cX8_init 669 = .ok (.lastore, 1) := dk_80 (dk_at dksX8_init_28 19 rfl rfl)
theorem dX8_init_670 : decode cX8_init 670 = .ok (.aload_n 0, 1) := dk_42 (dk_at dksX8_init_28 20 rfl rfl)
theorem dX8_init_671 : decode cX8_init 671 = .ok (.getfield 34, 3) := dk_180 0 34 (dk_at dksX8_init_28 21 rfl rfl)
theorem dX8_init_674 : decode cX8_init 674 = .ok (.bipush 11, 2) := dk_16 11 (dk_at dksX8_init_29 0 rfl rfl)
theorem dX8_init_676 : decode cX8_init 676 = .ok (.bipush 109, 2) := dk_16 109 (dk_at dksX8_init_29 2 rfl rfl)
theorem dX8_init_678 : decode cX8_init 678 = .ok (.bipush 105, 2) := dk_16 105 (dk_at dksX8_init_29 4 rfl rfl)
theorem dX8_init_680 : decode cX8_init 680 = .ok (.bipush 110, 2) := dk_16 110 (dk_at dksX8_init_29 6 rfl rfl)
theorem dX8_init_682 : decode cX8_init 682 = .ok (.bipush 117, 2) := dk_16 117 (dk_at dksX8_init_29 8 rfl rfl)
theorem dX8_init_684 : decode cX8_init 684 = .ok (.bipush 116, 2) := dk_16 116 (dk_at dksX8_init_29 10 rfl rfl)
theorem dX8_init_686 : decode cX8_init 686 = .ok (.bipush 101, 2) := dk_16 101 (dk_at dksX8_init_29 12 rfl rfl)
theorem dX8_init_688 : decode cX8_init 688 = .ok (.iconst 0, 1) := dk_3 (dk_at dksX8_init_29 14 rfl rfl)
theorem dX8_init_689 : decode cX8_init 689 = .ok (.invokestatic 180, 3) := dk_184 0 180 (dk_at dksX8_init_29 15 rfl rfl)
theorem dX8_init_692 : decode cX8_init 692 = .ok (.lastore, 1) := dk_80 (dk_at dksX8_init_29 18 rfl rfl)
theorem dX8_init_693 : decode cX8_init 693 = .ok (.aload_n 0, 1) := dk_42 (dk_at dksX8_init_29 19 rfl rfl)
theorem dX8_init_694 : decode cX8_init 694 = .ok (.getfield 34, 3) := dk_180 0 34 (dk_at dksX8_init_29 20 rfl rfl)
theorem dX8_init_697 : decode cX8_init 697 = .ok (.bipush 12, 2) := dk_16 12 (dk_at dksX8_init_30 0 rfl rfl)
theorem dX8_init_699 : decode cX8_init 699 = .ok (.bipush 104, 2) := dk_16 104 (dk_at dksX8_init_30 2 rfl rfl)
theorem dX8_init_701 : decode cX8_init 701 = .ok (.bipush 101, 2) := dk_16 101 (dk_at dksX8_init_30 4 rfl rfl)
theorem dX8_init_703 : decode cX8_init 703 = .ok (.bipush 114, 2) := dk_16 114 (dk_at dksX8_init_30 6 rfl rfl)
theorem dX8_init_705 : decode cX8_init 705 = .ok (.bipush 101, 2) := dk_16 101 (dk_at dksX8_init_30 8 rfl rfl)
theorem dX8_init_707 : decode cX8_init 707 = .ok (.iconst 0, 1) := dk_3 (dk_at dksX8_init_30 10 rfl rfl)
theorem dX8_init_708 : decode cX8_init 708 = .ok (.iconst 0, 1) := dk_3 (dk_at dksX8_init_30 11 rfl rfl)
theorem dX8_init_709 : decode cX8_init 709 = .ok (.iconst 0, 1) := dk_3 (dk_at dksX8_init_30 12 rfl rfl)
theorem dX8_init_710 : decode cX8_init 710 = .ok (.invokestatic 180, 3) := dk_184 0 180 (dk_at dksX8_init_30 13 rfl rfl)
theorem dX8_init_713 : decode cX8_init 713 = .ok (.lastore, 1) := dk_80 (dk_at dksX8_init_30 16 rfl rfl)
theorem dX8_init_714 : decode cX8_init 714 = .ok (.aload_n 0, 1) := dk_42 (dk_at dksX8_init_30 17 rfl rfl)
theorem dX8_init_715 : decode cX8_init 715 = .ok (.getfield 34, 3) := dk_180 0 34 (dk_at dksX8_init_30 18 rfl rfl)
theorem dX8_init_718 : decode cX8_init 718 = .ok (.bipush 13, 2) := dk_16 13 (dk_at dksX8_init_30 21 rfl rfl)
theorem dX8_init_720 : decode cX8_init 720 = .ok (.bipush 114, 2) := dk_16 114 (dk_at dksX8_init_31 0 rfl rfl)
theorem dX8_init_722 : decode cX8_init 722 = .ok (.bipush 97, 2) := dk_16 97 (dk_at dksX8_init_31 2 rfl rfl)
theorem dX8_init_724 : decode cX8_init 724 = .ok (.bipush 110, 2) := dk_16 110 (dk_at dksX8_init_31 4 rfl rfl)
theorem dX8_init_726 : decode cX8_init 726 = .ok (.bipush 107, 2) := dk_16 107 (dk_at dksX8_init_31 6 rfl rfl)
theorem dX8_init_728 : decode cX8_init 728 = .ok (.iconst 0, 1) := dk_3 (dk_at dksX8_init_31 8 rfl rfl)
theorem dX8_init_729 : decode cX8_init 729 = .ok (.iconst 0, 1) := dk_3 (dk_at dksX8_init_31 9 rfl rfl)
theorem dX8_init_730 : decode cX8_init 730 = .ok (.iconst 0, 1) := dk_3 (dk_at dksX8_init_31 10 rfl rfl)
theorem dX8_init_731 : decode cX8_init 731 = .ok (.invokestatic 180, 3) := dk_184 0 180 (dk_at dksX8_init_31 11 rfl rfl)
theorem dX8_init_734 : decode cX8_init 734 = .ok (.lastore, 1) := dk_80 (dk_at dksX8_init_31 14 rfl rfl)
theorem dX8_init_735 : decode cX8_init 735 = .ok (.aload_n 0, 1) := dk_42 (dk_at dksX8_init_31 15 rfl rfl)
theorem dX8_init_736 : decode cX8_init 736 = .ok (.getfield 34, 3) := dk_180 0 34 (dk_at dksX8_init_31 16 rfl rfl)
theorem dX8_init_739 : decode cX8_init 739 = .ok (.bipush 14, 2) := dk_16 14 (dk_at dksX8_init_31 19 rfl rfl)
theorem dX8_init_741 : decode cX8_init 741 = .ok (.bipush 110, 2) := dk_16 110 (dk_at dksX8_init_31 21 rfl rfl)
theorem dX8_init_743 : decode cX8_init 743 = .ok (.bipush 117, 2) := dk_16 117 (dk_at dksX8_init_32 0 rfl rfl)
theorem dX8_init_745 : decode cX8_init 745 = .ok (.bipush 109, 2) := dk_16 109 (dk_at dksX8_init_32 2 rfl rfl)
theorem dX8_init_747 : decode cX8_init 747 = .ok (.bipush 98, 2) := dk_16 98 (dk_at dksX8_init_32 4 rfl rfl)
theorem dX8_init_749 : decode cX8_init 749 = .ok (.bipush 101, 2) := dk_16 101 (dk_at dksX8_init_32 6 rfl rfl)
theorem dX8_init_751 : decode cX8_init 751 = .ok (.bipush 114, 2) := dk_16 114 (dk_at dksX8_init_32 8 rfl rfl)
theorem dX8_init_753 : decode cX8_init 753 = .ok (.iconst 0, 1) := dk_3 (dk_at dksX8_init_32 10 rfl rfl)
theorem dX8_init_754 : decode cX8_init 754 = .ok (.invokestatic 180, 3) := dk_184 0 180 (dk_at dksX8_init_32 11 rfl rfl)
theorem dX8_init_757 : decode cX8_init 757 = .ok (.lastore, 1) := dk_80 (dk_at dksX8_init_32 14 rfl rfl)
theorem dX8_init_758 : decode cX8_init 758 = .ok (.aload_n 0, 1) := dk_42 (dk_at dksX8_init_32 15 rfl rfl)
theorem dX8_init_759 : decode cX8_init 759 = .ok (.getfield 34, 3) := dk_180 0 34 (dk_at dksX8_init_32 16 rfl rfl)
theorem dX8_init_762 : decode cX8_init 762 = .ok (.bipush 15, 2) := dk_16 15 (dk_at dksX8_init_32 19 rfl rfl)
theorem dX8_init_764 : decode cX8_init 764 = .ok (.bipush 119, 2) := dk_16 119 (dk_at dksX8_init_32 21 rfl rfl)
theorem dX8_init_766 : decode cX8_init 766 = .ok (.bipush 97, 2) := dk_16 97 (dk_at dksX8_init_33 0 rfl rfl)
theorem dX8_init_768 : decode cX8_init 768 = .ok (.bipush 121, 2) := dk_16 121 (dk_at dksX8_init_33 2 rfl rfl)
theorem dX8_init_770 : decode cX8_init 770 = .ok (.bipush 115, 2) := dk_16 115 (dk_at dksX8_init_33 4 rfl rfl)
theorem dX8_init_772 : decode cX8_init 772 = .ok (.iconst 0, 1) := dk_3 (dk_at dksX8_init_33 6 rfl rfl)
theorem dX8_init_773 : decode cX8_init 773 = .ok (.iconst 0, 1) := dk_3 (dk_at dksX8_init_33 7 rfl rfl)
theorem dX8_init_774 : decode cX8_init 774 = .ok (.iconst 0, 1) := dk_3 (dk_at dksX8_init_33 8 rfl rfl)
theorem dX8_init_775 : decode cX8_init 775 = .ok (.invokestatic 180, 3) := dk_184 0 180 (dk_at dksX8_init_33 9 rfl rfl)
theorem dX8_init_778 : decode cX8_init 778 = .ok (.lastore, 1) := dk_80 (dk_at dksX8_init_33 12 rfl rfl)
theorem dX8_init_779 : decode cX8_init 779 = .ok (.aload_n 0, 1) := dk_42 (dk_at dksX8_init_33 13 rfl rfl)
theorem dX8_init_780 : decode cX8_init 780 = .ok (.getfield 34, 3) := dk_180 0 34 (dk_at dksX8_init_33 14 rfl rfl)
theorem dX8_init_783 : decode cX8_init 783 = .ok (.bipush 16, 2) := dk_16 16 (dk_at dksX8_init_33 17 rfl rfl)
theorem dX8_init_785 : decode cX8_init 785 = .ok (.bipush 119, 2) := dk_16 119 (dk_at dksX8_init_33 19 rfl rfl)
theorem dX8_init_787 : decode cX8_init 787 = .ok (.bipush 105, 2) := dk_16 105 (dk_at dksX8_init_33 21 rfl rfl)
theorem dX8_init_789 : decode cX8_init 789 = .ok (.bipush 116, 2) := dk_16 116 (dk_at dksX8_init_34 0 rfl rfl)
theorem dX8_init_791 : decode cX8_init 791 = .ok (.bipush 104, 2) := dk_16 104 (dk_at dksX8_init_34 2 rfl rfl)
theorem dX8_init_793 : decode cX8_init 793 = .ok (.iconst 0, 1) := dk_3 (dk_at dksX8_init_34 4 rfl rfl)
theorem dX8_init_794 : decode cX8_init 794 = .ok (.iconst 0, 1) := dk_3 (dk_at dksX8_init_34 5 rfl rfl)
theorem dX8_init_795 : decode cX8_init 795 = .ok (.iconst 0, 1) := dk_3 (dk_at dksX8_init_34 6 rfl rfl)
theorem dX8_init_796 : decode cX8_init 796 = .ok (.invokestatic 180, 3) := dk_184 0 180 (dk_at dksX8_init_34 7 rfl rfl)
theorem dX8_init_799 : decode cX8_init 799 = .ok (.lastore, 1) := dk_80 (dk_at dksX8_init_34 10 rfl rfl)
theorem dX8_init_800 : decode cX8_init 800 = .ok (.aload_n 0, 1) := dk_42 (dk_at dksX8_init_34 11 rfl rfl)
theorem dX8_init_801 : decode cX8_init 801 = .ok (.invokevirtual 184, 3) := dk_182 0 184 (dk_at dksX8_init_34 12 rfl rfl)
theorem dX8_init_804 : decode cX8_init 804 = .ok (.aload_n 0, 1) := dk_42 (dk_at dksX8_init_34 15 rfl rfl)
theorem dX8_init_805 : decode cX8_init 805 = .ok (.iconst 0, 1) := dk_3 (dk_at dksX8_init_34 16 rfl rfl)
theorem dX8_init_806 : decode cX8_init 806 = .ok (.invokevirtual 187, 3) := dk_182 0 187 (dk_at dksX8_init_34 17 rfl rfl)
theorem dX8_init_809 : decode cX8_init 809 = .ok (.return_, 1) := dk_177 (dk_at dksX8_init_34 20 rfl rfl)
abbrev cX8_plain : ByteArray := prog_19_method_19_code
def yX8_plain : MethodName := ⟨RX8, "plain", "(I)V"⟩
def dkwX8_plain_3 : List UInt8 := [104, 28, 96, 3, 79, 132, 2, 1, 167, 255, 223, 177]
abbrev dktX8_plain_3 : List UInt8 := dkwX8_plain_3 ++ []
def dkwX8_plain_2 : List UInt8 := [16, 7, 162, 0, 33, 42, 180, 0, 85, 16, 7, 27, 104, 28, 96, 3, 79, 42, 180, 0, 88, 16, 7, 27]
abbrev dktX8_plain_2 : List UInt8 := dkwX8_plain_2 ++ dktX8_plain_3
def dkwX8_plain_1 : List UInt8 := [180, 0, 70, 27, 3, 79, 42, 180, 0, 79, 27, 3, 79, 42, 180, 0, 82, 27, 3, 79, 3, 61, 28]
abbrev dktX8_plain_1 : List UInt8 := dkwX8_plain_1 ++ dktX8_plain_2
def dkwX8_plain_0 : List UInt8 := [42, 180, 0, 49, 27, 3, 79, 42, 180, 0, 52, 27, 3, 79, 42, 180, 0, 61, 27, 3, 79, 42]
abbrev dktX8_plain_0 : List UInt8 := dkwX8_plain_0 ++ dktX8_plain_1
theorem dksX8_plain_0 : cX8_plain.data.toList.drop 0 = dktX8_plain_0 := by decide +kernel
theorem dksX8_plain_1 : cX8_plain.data.toList.drop 22 = dktX8_plain_1 := dk_seg dksX8_plain_0 22 rfl rfl
theorem dksX8_plain_2 : cX8_plain.data.toList.drop 45 = dktX8_plain_2 := dk_seg dksX8_plain_1 23 rfl rfl
theorem dksX8_plain_3 : cX8_plain.data.toList.drop 69 = dktX8_plain_3 := dk_seg dksX8_plain_2 24 rfl rfl
theorem dX8_plain_0 : decode cX8_plain 0 = .ok (.aload_n 0, 1) := dk_42 (dk_at dksX8_plain_0 0 rfl rfl)
theorem dX8_plain_1 : decode cX8_plain 1 = .ok (.getfield 49, 3) := dk_180 0 49 (dk_at dksX8_plain_0 1 rfl rfl)
theorem dX8_plain_4 : decode cX8_plain 4 = .ok (.iload_n 1, 1) := dk_27 (dk_at dksX8_plain_0 4 rfl rfl)
theorem dX8_plain_5 : decode cX8_plain 5 = .ok (.iconst 0, 1) := dk_3 (dk_at dksX8_plain_0 5 rfl rfl)
theorem dX8_plain_6 : decode cX8_plain 6 = .ok (.iastore, 1) := dk_79 (dk_at dksX8_plain_0 6 rfl rfl)
theorem dX8_plain_7 : decode cX8_plain 7 = .ok (.aload_n 0, 1) := dk_42 (dk_at dksX8_plain_0 7 rfl rfl)
theorem dX8_plain_8 : decode cX8_plain 8 = .ok (.getfield 52, 3) := dk_180 0 52 (dk_at dksX8_plain_0 8 rfl rfl)
theorem dX8_plain_11 : decode cX8_plain 11 = .ok (.iload_n 1, 1) := dk_27 (dk_at dksX8_plain_0 11 rfl rfl)
theorem dX8_plain_12 : decode cX8_plain 12 = .ok (.iconst 0, 1) := dk_3 (dk_at dksX8_plain_0 12 rfl rfl)
theorem dX8_plain_13 : decode cX8_plain 13 = .ok (.iastore, 1) := dk_79 (dk_at dksX8_plain_0 13 rfl rfl)
theorem dX8_plain_14 : decode cX8_plain 14 = .ok (.aload_n 0, 1) := dk_42 (dk_at dksX8_plain_0 14 rfl rfl)
theorem dX8_plain_15 : decode cX8_plain 15 = .ok (.getfield 61, 3) := dk_180 0 61 (dk_at dksX8_plain_0 15 rfl rfl)
theorem dX8_plain_18 : decode cX8_plain 18 = .ok (.iload_n 1, 1) := dk_27 (dk_at dksX8_plain_0 18 rfl rfl)
theorem dX8_plain_19 : decode cX8_plain 19 = .ok (.iconst 0, 1) := dk_3 (dk_at dksX8_plain_0 19 rfl rfl)
theorem dX8_plain_20 : decode cX8_plain 20 = .ok (.iastore, 1) := dk_79 (dk_at dksX8_plain_0 20 rfl rfl)
theorem dX8_plain_21 : decode cX8_plain 21 = .ok (.aload_n 0, 1) := dk_42 (dk_at dksX8_plain_0 21 rfl rfl)
theorem dX8_plain_22 : decode cX8_plain 22 = .ok (.getfield 70, 3) := dk_180 0 70 (dk_at dksX8_plain_1 0 rfl rfl)
theorem dX8_plain_25 : decode cX8_plain 25 = .ok (.iload_n 1, 1) := dk_27 (dk_at dksX8_plain_1 3 rfl rfl)
theorem dX8_plain_26 : decode cX8_plain 26 = .ok (.iconst 0, 1) := dk_3 (dk_at dksX8_plain_1 4 rfl rfl)
theorem dX8_plain_27 : decode cX8_plain 27 = .ok (.iastore, 1) := dk_79 (dk_at dksX8_plain_1 5 rfl rfl)
theorem dX8_plain_28 : decode cX8_plain 28 = .ok (.aload_n 0, 1) := dk_42 (dk_at dksX8_plain_1 6 rfl rfl)
theorem dX8_plain_29 : decode cX8_plain 29 = .ok (.getfield 79, 3) := dk_180 0 79 (dk_at dksX8_plain_1 7 rfl rfl)
theorem dX8_plain_32 : decode cX8_plain 32 = .ok (.iload_n 1, 1) := dk_27 (dk_at dksX8_plain_1 10 rfl rfl)
theorem dX8_plain_33 : decode cX8_plain 33 = .ok (.iconst 0, 1) := dk_3 (dk_at dksX8_plain_1 11 rfl rfl)
theorem dX8_plain_34 : decode cX8_plain 34 = .ok (.iastore, 1) := dk_79 (dk_at dksX8_plain_1 12 rfl rfl)
theorem dX8_plain_35 : decode cX8_plain 35 = .ok (.aload_n 0, 1) := dk_42 (dk_at dksX8_plain_1 13 rfl rfl)
theorem dX8_plain_36 : decode cX8_plain 36 = .ok (.getfield 82, 3) := dk_180 0 82 (dk_at dksX8_plain_1 14 rfl rfl)
theorem dX8_plain_39 : decode cX8_plain 39 = .ok (.iload_n 1, 1) := dk_27 (dk_at dksX8_plain_1 17 rfl rfl)
theorem dX8_plain_40 : decode cX8_plain 40 = .ok (.iconst 0, 1) := dk_3 (dk_at dksX8_plain_1 18 rfl rfl)
theorem dX8_plain_41 : decode cX8_plain 41 = .ok (.iastore, 1) := dk_79 (dk_at dksX8_plain_1 19 rfl rfl)
theorem dX8_plain_42 : decode cX8_plain 42 = .ok (.iconst 0, 1) := dk_3 (dk_at dksX8_plain_1 20 rfl rfl)
theorem dX8_plain_43 : decode cX8_plain 43 = .ok (.istore_n 2, 1) := dk_61 (dk_at dksX8_plain_1 21 rfl rfl)
theorem dX8_plain_44 : decode cX8_plain 44 = .ok (.iload_n 2, 1) := dk_28 (dk_at dksX8_plain_1 22 rfl rfl)
theorem dX8_plain_45 : decode cX8_plain 45 = .ok (.bipush 7, 2) := dk_16 7 (dk_at dksX8_plain_2 0 rfl rfl)
theorem dX8_plain_47 : decode cX8_plain 47 = .ok (.if_icmp .ge 33, 3) := dk_162 0 33 (dk_at dksX8_plain_2 2 rfl rfl)
theorem dX8_plain_50 : decode cX8_plain 50 = .ok (.aload_n 0, 1) := dk_42 (dk_at dksX8_plain_2 5 rfl rfl)
theorem dX8_plain_51 : decode cX8_plain 51 = .ok (.getfield 85, 3) := dk_180 0 85 (dk_at dksX8_plain_2 6 rfl rfl)
theorem dX8_plain_54 : decode cX8_plain 54 = .ok (.bipush 7, 2) := dk_16 7 (dk_at dksX8_plain_2 9 rfl rfl)
theorem dX8_plain_56 : decode cX8_plain 56 = .ok (.iload_n 1, 1) := dk_27 (dk_at dksX8_plain_2 11 rfl rfl)
theorem dX8_plain_57 : decode cX8_plain 57 = .ok (.imul, 1) := dk_104 (dk_at dksX8_plain_2 12 rfl rfl)
theorem dX8_plain_58 : decode cX8_plain 58 = .ok (.iload_n 2, 1) := dk_28 (dk_at dksX8_plain_2 13 rfl rfl)
theorem dX8_plain_59 : decode cX8_plain 59 = .ok (.iadd, 1) := dk_96 (dk_at dksX8_plain_2 14 rfl rfl)
theorem dX8_plain_60 : decode cX8_plain 60 = .ok (.iconst 0, 1) := dk_3 (dk_at dksX8_plain_2 15 rfl rfl)
theorem dX8_plain_61 : decode cX8_plain 61 = .ok (.iastore, 1) := dk_79 (dk_at dksX8_plain_2 16 rfl rfl)
theorem dX8_plain_62 : decode cX8_plain 62 = .ok (.aload_n 0, 1) := dk_42 (dk_at dksX8_plain_2 17 rfl rfl)
theorem dX8_plain_63 : decode cX8_plain 63 = .ok (.getfield 88, 3) := dk_180 0 88 (dk_at dksX8_plain_2 18 rfl rfl)
theorem dX8_plain_66 : decode cX8_plain 66 = .ok (.bipush 7, 2) := dk_16 7 (dk_at dksX8_plain_2 21 rfl rfl)
theorem dX8_plain_68 : decode cX8_plain 68 = .ok (.iload_n 1, 1) := dk_27 (dk_at dksX8_plain_2 23 rfl rfl)
theorem dX8_plain_69 : decode cX8_plain 69 = .ok (.imul, 1) := dk_104 (dk_at dksX8_plain_3 0 rfl rfl)
theorem dX8_plain_70 : decode cX8_plain 70 = .ok (.iload_n 2, 1) := dk_28 (dk_at dksX8_plain_3 1 rfl rfl)
theorem dX8_plain_71 : decode cX8_plain 71 = .ok (.iadd, 1) := dk_96 (dk_at dksX8_plain_3 2 rfl rfl)
theorem dX8_plain_72 : decode cX8_plain 72 = .ok (.iconst 0, 1) := dk_3 (dk_at dksX8_plain_3 3 rfl rfl)
theorem dX8_plain_73 : decode cX8_plain 73 = .ok (.iastore, 1) := dk_79 (dk_at dksX8_plain_3 4 rfl rfl)
theorem dX8_plain_74 : decode cX8_plain 74 = .ok (.iinc 2 1, 3) := dk_132 2 1 (dk_at dksX8_plain_3 5 rfl rfl)
theorem dX8_plain_77 : decode cX8_plain 77 = .ok (.goto (-33), 3) := dk_167 255 223 (dk_at dksX8_plain_3 8 rfl rfl)
theorem dX8_plain_80 : decode cX8_plain 80 = .ok (.return_, 1) := dk_177 (dk_at dksX8_plain_3 11 rfl rfl)
abbrev cX8_word : ByteArray := prog_19_method_10_code
def yX8_word : MethodName := ⟨RX8, "word", "(IIIIIII)J"⟩
def dkwX8_word_1 : List UInt8 := [184, 0, 201, 21, 6, 184, 0, 201, 173]
abbrev dktX8_word_1 : List UInt8 := dkwX8_word_1 ++ []
def dkwX8_word_0 : List UInt8 := [9, 26, 184, 0, 201, 27, 184, 0, 201, 28, 184, 0, 201, 29, 184, 0, 201, 21, 4, 184, 0, 201, 21, 5]
abbrev dktX8_word_0 : List UInt8 := dkwX8_word_0 ++ dktX8_word_1
theorem dksX8_word_0 : cX8_word.data.toList.drop 0 = dktX8_word_0 := by decide +kernel
theorem dksX8_word_1 : cX8_word.data.toList.drop 24 = dktX8_word_1 := dk_seg dksX8_word_0 24 rfl rfl
theorem dX8_word_0 : decode cX8_word 0 = .ok (.lconst 0, 1) := dk_9 (dk_at dksX8_word_0 0 rfl rfl)
theorem dX8_word_1 : decode cX8_word 1 = .ok (.iload_n 0, 1) := dk_26 (dk_at dksX8_word_0 1 rfl rfl)
theorem dX8_word_2 : decode cX8_word 2 = .ok (.invokestatic 201, 3) := dk_184 0 201 (dk_at dksX8_word_0 2 rfl rfl)
theorem dX8_word_5 : decode cX8_word 5 = .ok (.iload_n 1, 1) := dk_27 (dk_at dksX8_word_0 5 rfl rfl)
theorem dX8_word_6 : decode cX8_word 6 = .ok (.invokestatic 201, 3) := dk_184 0 201 (dk_at dksX8_word_0 6 rfl rfl)
theorem dX8_word_9 : decode cX8_word 9 = .ok (.iload_n 2, 1) := dk_28 (dk_at dksX8_word_0 9 rfl rfl)
theorem dX8_word_10 : decode cX8_word 10 = .ok (.invokestatic 201, 3) := dk_184 0 201 (dk_at dksX8_word_0 10 rfl rfl)
theorem dX8_word_13 : decode cX8_word 13 = .ok (.iload_n 3, 1) := dk_29 (dk_at dksX8_word_0 13 rfl rfl)
theorem dX8_word_14 : decode cX8_word 14 = .ok (.invokestatic 201, 3) := dk_184 0 201 (dk_at dksX8_word_0 14 rfl rfl)
theorem dX8_word_17 : decode cX8_word 17 = .ok (.iload 4, 2) := dk_21 4 (dk_at dksX8_word_0 17 rfl rfl)
theorem dX8_word_19 : decode cX8_word 19 = .ok (.invokestatic 201, 3) := dk_184 0 201 (dk_at dksX8_word_0 19 rfl rfl)
theorem dX8_word_22 : decode cX8_word 22 = .ok (.iload 5, 2) := dk_21 5 (dk_at dksX8_word_0 22 rfl rfl)
theorem dX8_word_24 : decode cX8_word 24 = .ok (.invokestatic 201, 3) := dk_184 0 201 (dk_at dksX8_word_1 0 rfl rfl)
theorem dX8_word_27 : decode cX8_word 27 = .ok (.iload 6, 2) := dk_21 6 (dk_at dksX8_word_1 3 rfl rfl)
theorem dX8_word_29 : decode cX8_word 29 = .ok (.invokestatic 201, 3) := dk_184 0 201 (dk_at dksX8_word_1 5 rfl rfl)
theorem dX8_word_32 : decode cX8_word 32 = .ok (.lreturn, 1) := dk_173 (dk_at dksX8_word_1 8 rfl rfl)
abbrev cX8_appends : ByteArray := prog_19_method_9_code
def yX8_appends : MethodName := ⟨RX8, "appends", "(JI)J"⟩
def dkwX8_appends_0 : List UInt8 := [28, 154, 0, 7, 30, 167, 0, 16, 20, 0, 199, 30, 105, 28, 16, 97, 100, 4, 96, 133, 97, 173]
abbrev dktX8_appends_0 : List UInt8 := dkwX8_appends_0 ++ []
theorem dksX8_appends_0 : cX8_appends.data.toList.drop 0 = dktX8_appends_0 := by decide +kernel
theorem dX8_appends_0 : decode cX8_appends 0 = .ok (.iload_n 2, 1) := dk_28 (dk_at dksX8_appends_0 0 rfl rfl)
theorem dX8_appends_1 : decode cX8_appends 1 = .ok (.ifCond .ne 7, 3) := dk_154 0 7 (dk_at dksX8_appends_0 1 rfl rfl)
theorem dX8_appends_4 : decode cX8_appends 4 = .ok (.lload_n 0, 1) := dk_30 (dk_at dksX8_appends_0 4 rfl rfl)
theorem dX8_appends_5 : decode cX8_appends 5 = .ok (.goto 16, 3) := dk_167 0 16 (dk_at dksX8_appends_0 5 rfl rfl)
theorem dX8_appends_8 : decode cX8_appends 8 = .ok (.ldc2_w 199, 3) := dk_20 0 199 (dk_at dksX8_appends_0 8 rfl rfl)
theorem dX8_appends_11 : decode cX8_appends 11 = .ok (.lload_n 0, 1) := dk_30 (dk_at dksX8_appends_0 11 rfl rfl)
theorem dX8_appends_12 : decode cX8_appends 12 = .ok (.lmul, 1) := dk_105 (dk_at dksX8_appends_0 12 rfl rfl)
theorem dX8_appends_13 : decode cX8_appends 13 = .ok (.iload_n 2, 1) := dk_28 (dk_at dksX8_appends_0 13 rfl rfl)
theorem dX8_appends_14 : decode cX8_appends 14 = .ok (.bipush 97, 2) := dk_16 97 (dk_at dksX8_appends_0 14 rfl rfl)
theorem dX8_appends_16 : decode cX8_appends 16 = .ok (.isub, 1) := dk_100 (dk_at dksX8_appends_0 16 rfl rfl)
theorem dX8_appends_17 : decode cX8_appends 17 = .ok (.iconst 1, 1) := dk_4 (dk_at dksX8_appends_0 17 rfl rfl)
theorem dX8_appends_18 : decode cX8_appends 18 = .ok (.iadd, 1) := dk_96 (dk_at dksX8_appends_0 18 rfl rfl)
theorem dX8_appends_19 : decode cX8_appends 19 = .ok (.i2l, 1) := dk_133 (dk_at dksX8_appends_0 19 rfl rfl)
theorem dX8_appends_20 : decode cX8_appends 20 = .ok (.ladd, 1) := dk_97 (dk_at dksX8_appends_0 20 rfl rfl)
theorem dX8_appends_21 : decode cX8_appends 21 = .ok (.lreturn, 1) := dk_173 (dk_at dksX8_appends_0 21 rfl rfl)
abbrev cX8_begins : ByteArray := prog_19_method_44_code
def yX8_begins : MethodName := ⟨RX8, "begins", "()V"⟩
def dkwX8_begins_0 : List UInt8 := [42, 2, 2, 182, 1, 101, 177]
abbrev dktX8_begins_0 : List UInt8 := dkwX8_begins_0 ++ []
theorem dksX8_begins_0 : cX8_begins.data.toList.drop 0 = dktX8_begins_0 := by decide +kernel
theorem dX8_begins_0 : decode cX8_begins 0 = .ok (.aload_n 0, 1) := dk_42 (dk_at dksX8_begins_0 0 rfl rfl)
theorem dX8_begins_1 : decode cX8_begins 1 = .ok (.iconst (-1), 1) := dk_2 (dk_at dksX8_begins_0 1 rfl rfl)
theorem dX8_begins_2 : decode cX8_begins 2 = .ok (.iconst (-1), 1) := dk_2 (dk_at dksX8_begins_0 2 rfl rfl)
theorem dX8_begins_3 : decode cX8_begins 3 = .ok (.invokevirtual 357, 3) := dk_182 1 101 (dk_at dksX8_begins_0 3 rfl rfl)
theorem dX8_begins_6 : decode cX8_begins 6 = .ok (.return_, 1) := dk_177 (dk_at dksX8_begins_0 6 rfl rfl)
abbrev cX8_beginsWith : ByteArray := prog_19_method_43_code
def yX8_beginsWith : MethodName := ⟨RX8, "beginsWith", "(II)V"⟩
def dkwX8_beginsWith_7 : List UInt8 := [181, 1, 95, 42, 182, 1, 98, 177]
abbrev dktX8_beginsWith_7 : List UInt8 := dkwX8_beginsWith_7 ++ []
def dkwX8_beginsWith_6 : List UInt8 := [180, 0, 137, 29, 16, 254, 79, 132, 3, 1, 167, 255, 209, 42, 42, 180, 0, 82, 42, 180, 1, 1, 46]
abbrev dktX8_beginsWith_6 : List UInt8 := dkwX8_beginsWith_6 ++ dktX8_beginsWith_7
def dkwX8_beginsWith_5 : List UInt8 := [180, 0, 73, 16, 8, 42, 180, 1, 1, 104, 29, 96, 46, 79, 42, 180, 0, 134, 29, 2, 79, 42]
abbrev dktX8_beginsWith_5 : List UInt8 := dkwX8_beginsWith_5 ++ dktX8_beginsWith_6
def dkwX8_beginsWith_4 : List UInt8 := [132, 3, 1, 167, 255, 188, 3, 62, 29, 16, 8, 162, 0, 47, 42, 180, 0, 131, 16, 12, 29, 96, 42]
abbrev dktX8_beginsWith_4 : List UInt8 := dkwX8_beginsWith_4 ++ dktX8_beginsWith_5
def dkwX8_beginsWith_3 : List UInt8 := [180, 0, 131, 16, 6, 29, 96, 42, 180, 0, 64, 16, 6, 42, 180, 1, 1, 104, 29, 96, 46, 79]
abbrev dktX8_beginsWith_3 : List UInt8 := dkwX8_beginsWith_3 ++ dktX8_beginsWith_4
def dkwX8_beginsWith_2 : List UInt8 := [27, 160, 0, 7, 28, 167, 0, 17, 42, 180, 0, 67, 16, 6, 42, 180, 1, 1, 104, 29, 96, 46, 79, 42]
abbrev dktX8_beginsWith_2 : List UInt8 := dkwX8_beginsWith_2 ++ dktX8_beginsWith_3
def dkwX8_beginsWith_1 : List UInt8 := [167, 255, 240, 3, 62, 29, 42, 180, 0, 61, 42, 180, 1, 1, 46, 162, 0, 61, 42, 180, 0, 131, 29, 29]
abbrev dktX8_beginsWith_1 : List UInt8 := dkwX8_beginsWith_1 ++ dktX8_beginsWith_2
def dkwX8_beginsWith_0 : List UInt8 := [42, 3, 181, 1, 92, 3, 62, 29, 16, 36, 162, 0, 16, 42, 180, 0, 131, 29, 3, 79, 132, 3, 1]
abbrev dktX8_beginsWith_0 : List UInt8 := dkwX8_beginsWith_0 ++ dktX8_beginsWith_1
theorem dksX8_beginsWith_0 : cX8_beginsWith.data.toList.drop 0 = dktX8_beginsWith_0 := by decide +kernel
theorem dksX8_beginsWith_1 : cX8_beginsWith.data.toList.drop 23 = dktX8_beginsWith_1 := dk_seg dksX8_beginsWith_0 23 rfl rfl
theorem dksX8_beginsWith_2 : cX8_beginsWith.data.toList.drop 47 = dktX8_beginsWith_2 := dk_seg dksX8_beginsWith_1 24 rfl rfl
theorem dksX8_beginsWith_3 : cX8_beginsWith.data.toList.drop 71 = dktX8_beginsWith_3 := dk_seg dksX8_beginsWith_2 24 rfl rfl
theorem dksX8_beginsWith_4 : cX8_beginsWith.data.toList.drop 93 = dktX8_beginsWith_4 := dk_seg dksX8_beginsWith_3 22 rfl rfl
theorem dksX8_beginsWith_5 : cX8_beginsWith.data.toList.drop 116 = dktX8_beginsWith_5 := dk_seg dksX8_beginsWith_4 23 rfl rfl
theorem dksX8_beginsWith_6 : cX8_beginsWith.data.toList.drop 138 = dktX8_beginsWith_6 := dk_seg dksX8_beginsWith_5 22 rfl rfl
theorem dksX8_beginsWith_7 : cX8_beginsWith.data.toList.drop 161 = dktX8_beginsWith_7 := dk_seg dksX8_beginsWith_6 23 rfl rfl
theorem dX8_beginsWith_0 : decode cX8_beginsWith 0 = .ok (.aload_n 0, 1) := dk_42 (dk_at dksX8_beginsWith_0 0 rfl rfl)
theorem dX8_beginsWith_1 : decode cX8_beginsWith 1 = .ok (.iconst 0, 1) := dk_3 (dk_at dksX8_beginsWith_0 1 rfl rfl)
theorem dX8_beginsWith_2 : decode cX8_beginsWith 2 = .ok (.putfield 348, 3) := dk_181 1 92 (dk_at dksX8_beginsWith_0 2 rfl rfl)
theorem dX8_beginsWith_5 : decode cX8_beginsWith 5 = .ok (.iconst 0, 1) := dk_3 (dk_at dksX8_beginsWith_0 5 rfl rfl)
theorem dX8_beginsWith_6 : decode cX8_beginsWith 6 = .ok (.istore_n 3, 1) := dk_62 (dk_at dksX8_beginsWith_0 6 rfl rfl)
theorem dX8_beginsWith_7 : decode cX8_beginsWith 7 = .ok (.iload_n 3, 1) := dk_29 (dk_at dksX8_beginsWith_0 7 rfl rfl)
theorem dX8_beginsWith_8 : decode cX8_beginsWith 8 = .ok (.bipush 36, 2) := dk_16 36 (dk_at dksX8_beginsWith_0 8 rfl rfl)
theorem dX8_beginsWith_10 : decode cX8_beginsWith 10 = .ok (.if_icmp .ge 16, 3) := dk_162 0 16 (dk_at dksX8_beginsWith_0 10 rfl rfl)
theorem dX8_beginsWith_13 : decode cX8_beginsWith 13 = .ok (.aload_n 0, 1) := dk_42 (dk_at dksX8_beginsWith_0 13 rfl rfl)
theorem dX8_beginsWith_14 : decode cX8_beginsWith 14 = .ok (.getfield 131, 3) := dk_180 0 131 (dk_at dksX8_beginsWith_0 14 rfl rfl)
theorem dX8_beginsWith_17 : decode cX8_beginsWith 17 = .ok (.iload_n 3, 1) := dk_29 (dk_at dksX8_beginsWith_0 17 rfl rfl)
theorem dX8_beginsWith_18 : decode cX8_beginsWith 18 = .ok (.iconst 0, 1) := dk_3 (dk_at dksX8_beginsWith_0 18 rfl rfl)
theorem dX8_beginsWith_19 : decode cX8_beginsWith 19 = .ok (.iastore, 1) := dk_79 (dk_at dksX8_beginsWith_0 19 rfl rfl)
theorem dX8_beginsWith_20 : decode cX8_beginsWith 20 = .ok (.iinc 3 1, 3) := dk_132 3 1 (dk_at dksX8_beginsWith_0 20 rfl rfl)
theorem dX8_beginsWith_23 : decode cX8_beginsWith 23 = .ok (.goto (-16), 3) := dk_167 255 240 (dk_at dksX8_beginsWith_1 0 rfl rfl)
theorem dX8_beginsWith_26 : decode cX8_beginsWith 26 = .ok (.iconst 0, 1) := dk_3 (dk_at dksX8_beginsWith_1 3 rfl rfl)
theorem dX8_beginsWith_27 : decode cX8_beginsWith 27 = .ok (.istore_n 3, 1) := dk_62 (dk_at dksX8_beginsWith_1 4 rfl rfl)
theorem dX8_beginsWith_28 : decode cX8_beginsWith 28 = .ok (.iload_n 3, 1) := dk_29 (dk_at dksX8_beginsWith_1 5 rfl rfl)
theorem dX8_beginsWith_29 : decode cX8_beginsWith 29 = .ok (.aload_n 0, 1) := dk_42 (dk_at dksX8_beginsWith_1 6 rfl rfl)
theorem dX8_beginsWith_30 : decode cX8_beginsWith 30 = .ok (.getfield 61, 3) := dk_180 0 61 (dk_at dksX8_beginsWith_1 7 rfl rfl)
theorem dX8_beginsWith_33 : decode cX8_beginsWith 33 = .ok (.aload_n 0, 1) := dk_42 (dk_at dksX8_beginsWith_1 10 rfl rfl)
theorem dX8_beginsWith_34 : decode cX8_beginsWith 34 = .ok (.getfield 257, 3) := dk_180 1 1 (dk_at dksX8_beginsWith_1 11 rfl rfl)
theorem dX8_beginsWith_37 : decode cX8_beginsWith 37 = .ok (.iaload, 1) := dk_46 (dk_at dksX8_beginsWith_1 14 rfl rfl)
theorem dX8_beginsWith_38 : decode cX8_beginsWith 38 = .ok (.if_icmp .ge 61, 3) := dk_162 0 61 (dk_at dksX8_beginsWith_1 15 rfl rfl)
theorem dX8_beginsWith_41 : decode cX8_beginsWith 41 = .ok (.aload_n 0, 1) := dk_42 (dk_at dksX8_beginsWith_1 18 rfl rfl)
theorem dX8_beginsWith_42 : decode cX8_beginsWith 42 = .ok (.getfield 131, 3) := dk_180 0 131 (dk_at dksX8_beginsWith_1 19 rfl rfl)
theorem dX8_beginsWith_45 : decode cX8_beginsWith 45 = .ok (.iload_n 3, 1) := dk_29 (dk_at dksX8_beginsWith_1 22 rfl rfl)
theorem dX8_beginsWith_46 : decode cX8_beginsWith 46 = .ok (.iload_n 3, 1) := dk_29 (dk_at dksX8_beginsWith_1 23 rfl rfl)
theorem dX8_beginsWith_47 : decode cX8_beginsWith 47 = .ok (.iload_n 1, 1) := dk_27 (dk_at dksX8_beginsWith_2 0 rfl rfl)
theorem dX8_beginsWith_48 : decode cX8_beginsWith 48 = .ok (.if_icmp .ne 7, 3) := dk_160 0 7 (dk_at dksX8_beginsWith_2 1 rfl rfl)
theorem dX8_beginsWith_51 : decode cX8_beginsWith 51 = .ok (.iload_n 2, 1) := dk_28 (dk_at dksX8_beginsWith_2 4 rfl rfl)
theorem dX8_beginsWith_52 : decode cX8_beginsWith 52 = .ok (.goto 17, 3) := dk_167 0 17 (dk_at dksX8_beginsWith_2 5 rfl rfl)
theorem dX8_beginsWith_55 : decode cX8_beginsWith 55 = .ok (.aload_n 0, 1) := dk_42 (dk_at dksX8_beginsWith_2 8 rfl rfl)
theorem dX8_beginsWith_56 : decode cX8_beginsWith 56 = .ok (.getfield 67, 3) := dk_180 0 67 (dk_at dksX8_beginsWith_2 9 rfl rfl)
theorem dX8_beginsWith_59 : decode cX8_beginsWith 59 = .ok (.bipush 6, 2) := dk_16 6 (dk_at dksX8_beginsWith_2 12 rfl rfl)
theorem dX8_beginsWith_61 : decode cX8_beginsWith 61 = .ok (.aload_n 0, 1) := dk_42 (dk_at dksX8_beginsWith_2 14 rfl rfl)
theorem dX8_beginsWith_62 : decode cX8_beginsWith 62 = .ok (.getfield 257, 3) := dk_180 1 1 (dk_at dksX8_beginsWith_2 15 rfl rfl)
theorem dX8_beginsWith_65 : decode cX8_beginsWith 65 = .ok (.imul, 1) := dk_104 (dk_at dksX8_beginsWith_2 18 rfl rfl)
theorem dX8_beginsWith_66 : decode cX8_beginsWith 66 = .ok (.iload_n 3, 1) := dk_29 (dk_at dksX8_beginsWith_2 19 rfl rfl)
theorem dX8_beginsWith_67 : decode cX8_beginsWith 67 = .ok (.iadd, 1) := dk_96 (dk_at dksX8_beginsWith_2 20 rfl rfl)
theorem dX8_beginsWith_68 : decode cX8_beginsWith 68 = .ok (.iaload, 1) := dk_46 (dk_at dksX8_beginsWith_2 21 rfl rfl)
theorem dX8_beginsWith_69 : decode cX8_beginsWith 69 = .ok (.iastore, 1) := dk_79 (dk_at dksX8_beginsWith_2 22 rfl rfl)
theorem dX8_beginsWith_70 : decode cX8_beginsWith 70 = .ok (.aload_n 0, 1) := dk_42 (dk_at dksX8_beginsWith_2 23 rfl rfl)
theorem dX8_beginsWith_71 : decode cX8_beginsWith 71 = .ok (.getfield 131, 3) := dk_180 0 131 (dk_at dksX8_beginsWith_3 0 rfl rfl)
theorem dX8_beginsWith_74 : decode cX8_beginsWith 74 = .ok (.bipush 6, 2) := dk_16 6 (dk_at dksX8_beginsWith_3 3 rfl rfl)
theorem dX8_beginsWith_76 : decode cX8_beginsWith 76 = .ok (.iload_n 3, 1) := dk_29 (dk_at dksX8_beginsWith_3 5 rfl rfl)
theorem dX8_beginsWith_77 : decode cX8_beginsWith 77 = .ok (.iadd, 1) := dk_96 (dk_at dksX8_beginsWith_3 6 rfl rfl)
theorem dX8_beginsWith_78 : decode cX8_beginsWith 78 = .ok (.aload_n 0, 1) := dk_42 (dk_at dksX8_beginsWith_3 7 rfl rfl)
theorem dX8_beginsWith_79 : decode cX8_beginsWith 79 = .ok (.getfield 64, 3) := dk_180 0 64 (dk_at dksX8_beginsWith_3 8 rfl rfl)
theorem dX8_beginsWith_82 : decode cX8_beginsWith 82 = .ok (.bipush 6, 2) := dk_16 6 (dk_at dksX8_beginsWith_3 11 rfl rfl)
theorem dX8_beginsWith_84 : decode cX8_beginsWith 84 = .ok (.aload_n 0, 1) := dk_42 (dk_at dksX8_beginsWith_3 13 rfl rfl)
theorem dX8_beginsWith_85 : decode cX8_beginsWith 85 = .ok (.getfield 257, 3) := dk_180 1 1 (dk_at dksX8_beginsWith_3 14 rfl rfl)
theorem dX8_beginsWith_88 : decode cX8_beginsWith 88 = .ok (.imul, 1) := dk_104 (dk_at dksX8_beginsWith_3 17 rfl rfl)
theorem dX8_beginsWith_89 : decode cX8_beginsWith 89 = .ok (.iload_n 3, 1) := dk_29 (dk_at dksX8_beginsWith_3 18 rfl rfl)
theorem dX8_beginsWith_90 : decode cX8_beginsWith 90 = .ok (.iadd, 1) := dk_96 (dk_at dksX8_beginsWith_3 19 rfl rfl)
theorem dX8_beginsWith_91 : decode cX8_beginsWith 91 = .ok (.iaload, 1) := dk_46 (dk_at dksX8_beginsWith_3 20 rfl rfl)
theorem dX8_beginsWith_92 : decode cX8_beginsWith 92 = .ok (.iastore, 1) := dk_79 (dk_at dksX8_beginsWith_3 21 rfl rfl)
theorem dX8_beginsWith_93 : decode cX8_beginsWith 93 = .ok (.iinc 3 1, 3) := dk_132 3 1 (dk_at dksX8_beginsWith_4 0 rfl rfl)
theorem dX8_beginsWith_96 : decode cX8_beginsWith 96 = .ok (.goto (-68), 3) := dk_167 255 188 (dk_at dksX8_beginsWith_4 3 rfl rfl)
theorem dX8_beginsWith_99 : decode cX8_beginsWith 99 = .ok (.iconst 0, 1) := dk_3 (dk_at dksX8_beginsWith_4 6 rfl rfl)
theorem dX8_beginsWith_100 : decode cX8_beginsWith 100 = .ok (.istore_n 3, 1) := dk_62 (dk_at dksX8_beginsWith_4 7 rfl rfl)
theorem dX8_beginsWith_101 : decode cX8_beginsWith 101 = .ok (.iload_n 3, 1) := dk_29 (dk_at dksX8_beginsWith_4 8 rfl rfl)
theorem dX8_beginsWith_102 : decode cX8_beginsWith 102 = .ok (.bipush 8, 2) := dk_16 8 (dk_at dksX8_beginsWith_4 9 rfl rfl)
theorem dX8_beginsWith_104 : decode cX8_beginsWith 104 = .ok (.if_icmp .ge 47, 3) := dk_162 0 47 (dk_at dksX8_beginsWith_4 11 rfl rfl)
theorem dX8_beginsWith_107 : decode cX8_beginsWith 107 = .ok (.aload_n 0, 1) := dk_42 (dk_at dksX8_beginsWith_4 14 rfl rfl)
theorem dX8_beginsWith_108 : decode cX8_beginsWith 108 = .ok (.getfield 131, 3) := dk_180 0 131 (dk_at dksX8_beginsWith_4 15 rfl rfl)
theorem dX8_beginsWith_111 : decode cX8_beginsWith 111 = .ok (.bipush 12, 2) := dk_16 12 (dk_at dksX8_beginsWith_4 18 rfl rfl)
theorem dX8_beginsWith_113 : decode cX8_beginsWith 113 = .ok (.iload_n 3, 1) := dk_29 (dk_at dksX8_beginsWith_4 20 rfl rfl)
theorem dX8_beginsWith_114 : decode cX8_beginsWith 114 = .ok (.iadd, 1) := dk_96 (dk_at dksX8_beginsWith_4 21 rfl rfl)
theorem dX8_beginsWith_115 : decode cX8_beginsWith 115 = .ok (.aload_n 0, 1) := dk_42 (dk_at dksX8_beginsWith_4 22 rfl rfl)
theorem dX8_beginsWith_116 : decode cX8_beginsWith 116 = .ok (.getfield 73, 3) := dk_180 0 73 (dk_at dksX8_beginsWith_5 0 rfl rfl)
theorem dX8_beginsWith_119 : decode cX8_beginsWith 119 = .ok (.bipush 8, 2) := dk_16 8 (dk_at dksX8_beginsWith_5 3 rfl rfl)
theorem dX8_beginsWith_121 : decode cX8_beginsWith 121 = .ok (.aload_n 0, 1) := dk_42 (dk_at dksX8_beginsWith_5 5 rfl rfl)
theorem dX8_beginsWith_122 : decode cX8_beginsWith 122 = .ok (.getfield 257, 3) := dk_180 1 1 (dk_at dksX8_beginsWith_5 6 rfl rfl)
theorem dX8_beginsWith_125 : decode cX8_beginsWith 125 = .ok (.imul, 1) := dk_104 (dk_at dksX8_beginsWith_5 9 rfl rfl)
theorem dX8_beginsWith_126 : decode cX8_beginsWith 126 = .ok (.iload_n 3, 1) := dk_29 (dk_at dksX8_beginsWith_5 10 rfl rfl)
theorem dX8_beginsWith_127 : decode cX8_beginsWith 127 = .ok (.iadd, 1) := dk_96 (dk_at dksX8_beginsWith_5 11 rfl rfl)
theorem dX8_beginsWith_128 : decode cX8_beginsWith 128 = .ok (.iaload, 1) := dk_46 (dk_at dksX8_beginsWith_5 12 rfl rfl)
theorem dX8_beginsWith_129 : decode cX8_beginsWith 129 = .ok (.iastore, 1) := dk_79 (dk_at dksX8_beginsWith_5 13 rfl rfl)
theorem dX8_beginsWith_130 : decode cX8_beginsWith 130 = .ok (.aload_n 0, 1) := dk_42 (dk_at dksX8_beginsWith_5 14 rfl rfl)
theorem dX8_beginsWith_131 : decode cX8_beginsWith 131 = .ok (.getfield 134, 3) := dk_180 0 134 (dk_at dksX8_beginsWith_5 15 rfl rfl)
theorem dX8_beginsWith_134 : decode cX8_beginsWith 134 = .ok (.iload_n 3, 1) := dk_29 (dk_at dksX8_beginsWith_5 18 rfl rfl)
theorem dX8_beginsWith_135 : decode cX8_beginsWith 135 = .ok (.iconst (-1), 1) := dk_2 (dk_at dksX8_beginsWith_5 19 rfl rfl)
theorem dX8_beginsWith_136 : decode cX8_beginsWith 136 = .ok (.iastore, 1) := dk_79 (dk_at dksX8_beginsWith_5 20 rfl rfl)
theorem dX8_beginsWith_137 : decode cX8_beginsWith 137 = .ok (.aload_n 0, 1) := dk_42 (dk_at dksX8_beginsWith_5 21 rfl rfl)
theorem dX8_beginsWith_138 : decode cX8_beginsWith 138 = .ok (.getfield 137, 3) := dk_180 0 137 (dk_at dksX8_beginsWith_6 0 rfl rfl)
theorem dX8_beginsWith_141 : decode cX8_beginsWith 141 = .ok (.iload_n 3, 1) := dk_29 (dk_at dksX8_beginsWith_6 3 rfl rfl)
theorem dX8_beginsWith_142 : decode cX8_beginsWith 142 = .ok (.bipush (-2), 2) := dk_16 254 (dk_at dksX8_beginsWith_6 4 rfl rfl)
theorem dX8_beginsWith_144 : decode cX8_beginsWith 144 = .ok (.iastore, 1) := dk_79 (dk_at dksX8_beginsWith_6 6 rfl rfl)
theorem dX8_beginsWith_145 : decode cX8_beginsWith 145 = .ok (.iinc 3 1, 3) := dk_132 3 1 (dk_at dksX8_beginsWith_6 7 rfl rfl)
theorem dX8_beginsWith_148 : decode cX8_beginsWith 148 = .ok (.goto (-47), 3) := dk_167 255 209 (dk_at dksX8_beginsWith_6 10 rfl rfl)
theorem dX8_beginsWith_151 : decode cX8_beginsWith 151 = .ok (.aload_n 0, 1) := dk_42 (dk_at dksX8_beginsWith_6 13 rfl rfl)
theorem dX8_beginsWith_152 : decode cX8_beginsWith 152 = .ok (.aload_n 0, 1) := dk_42 (dk_at dksX8_beginsWith_6 14 rfl rfl)
theorem dX8_beginsWith_153 : decode cX8_beginsWith 153 = .ok (.getfield 82, 3) := dk_180 0 82 (dk_at dksX8_beginsWith_6 15 rfl rfl)
theorem dX8_beginsWith_156 : decode cX8_beginsWith 156 = .ok (.aload_n 0, 1) := dk_42 (dk_at dksX8_beginsWith_6 18 rfl rfl)
theorem dX8_beginsWith_157 : decode cX8_beginsWith 157 = .ok (.getfield 257, 3) := dk_180 1 1 (dk_at dksX8_beginsWith_6 19 rfl rfl)
theorem dX8_beginsWith_160 : decode cX8_beginsWith 160 = .ok (.iaload, 1) := dk_46 (dk_at dksX8_beginsWith_6 22 rfl rfl)
theorem dX8_beginsWith_161 : decode cX8_beginsWith 161 = .ok (.putfield 351, 3) := dk_181 1 95 (dk_at dksX8_beginsWith_7 0 rfl rfl)
theorem dX8_beginsWith_164 : decode cX8_beginsWith 164 = .ok (.aload_n 0, 1) := dk_42 (dk_at dksX8_beginsWith_7 3 rfl rfl)
theorem dX8_beginsWith_165 : decode cX8_beginsWith 165 = .ok (.invokevirtual 354, 3) := dk_182 1 98 (dk_at dksX8_beginsWith_7 4 rfl rfl)
theorem dX8_beginsWith_168 : decode cX8_beginsWith 168 = .ok (.return_, 1) := dk_177 (dk_at dksX8_beginsWith_7 7 rfl rfl)
abbrev cX8_fillsLate : ByteArray := prog_19_method_54_code
def yX8_fillsLate : MethodName := ⟨RX8, "fillsLate", "()V"⟩
def dkwX8_fillsLate_2 : List UInt8 := [167, 255, 213, 177]
abbrev dktX8_fillsLate_2 : List UInt8 := dkwX8_fillsLate_2 ++ []
def dkwX8_fillsLate_1 : List UInt8 := [180, 1, 92, 104, 16, 28, 96, 27, 96, 42, 27, 42, 27, 182, 1, 119, 182, 1, 122, 79, 132, 1, 1]
abbrev dktX8_fillsLate_1 : List UInt8 := dkwX8_fillsLate_1 ++ dktX8_fillsLate_2
def dkwX8_fillsLate_0 : List UInt8 := [3, 60, 27, 42, 180, 0, 70, 42, 180, 1, 1, 46, 162, 0, 36, 42, 180, 0, 131, 16, 36, 42]
abbrev dktX8_fillsLate_0 : List UInt8 := dkwX8_fillsLate_0 ++ dktX8_fillsLate_1
theorem dksX8_fillsLate_0 : cX8_fillsLate.data.toList.drop 0 = dktX8_fillsLate_0 := by decide +kernel
theorem dksX8_fillsLate_1 : cX8_fillsLate.data.toList.drop 22 = dktX8_fillsLate_1 := dk_seg dksX8_fillsLate_0 22 rfl rfl
theorem dksX8_fillsLate_2 : cX8_fillsLate.data.toList.drop 45 = dktX8_fillsLate_2 := dk_seg dksX8_fillsLate_1 23 rfl rfl
theorem dX8_fillsLate_0 : decode cX8_fillsLate 0 = .ok (.iconst 0, 1) := dk_3 (dk_at dksX8_fillsLate_0 0 rfl rfl)
theorem dX8_fillsLate_1 : decode cX8_fillsLate 1 = .ok (.istore_n 1, 1) := dk_60 (dk_at dksX8_fillsLate_0 1 rfl rfl)
theorem dX8_fillsLate_2 : decode cX8_fillsLate 2 = .ok (.iload_n 1, 1) := dk_27 (dk_at dksX8_fillsLate_0 2 rfl rfl)
theorem dX8_fillsLate_3 : decode cX8_fillsLate 3 = .ok (.aload_n 0, 1) := dk_42 (dk_at dksX8_fillsLate_0 3 rfl rfl)
theorem dX8_fillsLate_4 : decode cX8_fillsLate 4 = .ok (.getfield 70, 3) := dk_180 0 70 (dk_at dksX8_fillsLate_0 4 rfl rfl)
theorem dX8_fillsLate_7 : decode cX8_fillsLate 7 = .ok (.aload_n 0, 1) := dk_42 (dk_at dksX8_fillsLate_0 7 rfl rfl)
theorem dX8_fillsLate_8 : decode cX8_fillsLate 8 = .ok (.getfield 257, 3) := dk_180 1 1 (dk_at dksX8_fillsLate_0 8 rfl rfl)
theorem dX8_fillsLate_11 : decode cX8_fillsLate 11 = .ok (.iaload, 1) := dk_46 (dk_at dksX8_fillsLate_0 11 rfl rfl)
theorem dX8_fillsLate_12 : decode cX8_fillsLate 12 = .ok (.if_icmp .ge 36, 3) := dk_162 0 36 (dk_at dksX8_fillsLate_0 12 rfl rfl)
theorem dX8_fillsLate_15 : decode cX8_fillsLate 15 = .ok (.aload_n 0, 1) := dk_42 (dk_at dksX8_fillsLate_0 15 rfl rfl)
theorem dX8_fillsLate_16 : decode cX8_fillsLate 16 = .ok (.getfield 131, 3) := dk_180 0 131 (dk_at dksX8_fillsLate_0 16 rfl rfl)
theorem dX8_fillsLate_19 : decode cX8_fillsLate 19 = .ok (.bipush 36, 2) := dk_16 36 (dk_at dksX8_fillsLate_0 19 rfl rfl)
theorem dX8_fillsLate_21 : decode cX8_fillsLate 21 = .ok (.aload_n 0, 1) := dk_42 (dk_at dksX8_fillsLate_0 21 rfl rfl)
theorem dX8_fillsLate_22 : decode cX8_fillsLate 22 = .ok (.getfield 348, 3) := dk_180 1 92 (dk_at dksX8_fillsLate_1 0 rfl rfl)
theorem dX8_fillsLate_25 : decode cX8_fillsLate 25 = .ok (.imul, 1) := dk_104 (dk_at dksX8_fillsLate_1 3 rfl rfl)
theorem dX8_fillsLate_26 : decode cX8_fillsLate 26 = .ok (.bipush 28, 2) := dk_16 28 (dk_at dksX8_fillsLate_1 4 rfl rfl)
theorem dX8_fillsLate_28 : decode cX8_fillsLate 28 = .ok (.iadd, 1) := dk_96 (dk_at dksX8_fillsLate_1 6 rfl rfl)
theorem dX8_fillsLate_29 : decode cX8_fillsLate 29 = .ok (.iload_n 1, 1) := dk_27 (dk_at dksX8_fillsLate_1 7 rfl rfl)
theorem dX8_fillsLate_30 : decode cX8_fillsLate 30 = .ok (.iadd, 1) := dk_96 (dk_at dksX8_fillsLate_1 8 rfl rfl)
theorem dX8_fillsLate_31 : decode cX8_fillsLate 31 = .ok (.aload_n 0, 1) := dk_42 (dk_at dksX8_fillsLate_1 9 rfl rfl)
theorem dX8_fillsLate_32 : decode cX8_fillsLate 32 = .ok (.iload_n 1, 1) := dk_27 (dk_at dksX8_fillsLate_1 10 rfl rfl)
theorem dX8_fillsLate_33 : decode cX8_fillsLate 33 = .ok (.aload_n 0, 1) := dk_42 (dk_at dksX8_fillsLate_1 11 rfl rfl)
theorem dX8_fillsLate_34 : decode cX8_fillsLate 34 = .ok (.iload_n 1, 1) := dk_27 (dk_at dksX8_fillsLate_1 12 rfl rfl)
theorem dX8_fillsLate_35 : decode cX8_fillsLate 35 = .ok (.invokevirtual 375, 3) := dk_182 1 119 (dk_at dksX8_fillsLate_1 13 rfl rfl)
theorem dX8_fillsLate_38 : decode cX8_fillsLate 38 = .ok (.invokevirtual 378, 3) := dk_182 1 122 (dk_at dksX8_fillsLate_1 16 rfl rfl)
theorem dX8_fillsLate_41 : decode cX8_fillsLate 41 = .ok (.iastore, 1) := dk_79 (dk_at dksX8_fillsLate_1 19 rfl rfl)
theorem dX8_fillsLate_42 : decode cX8_fillsLate 42 = .ok (.iinc 1 1, 3) := dk_132 1 1 (dk_at dksX8_fillsLate_1 20 rfl rfl)
theorem dX8_fillsLate_45 : decode cX8_fillsLate 45 = .ok (.goto (-43), 3) := dk_167 255 213 (dk_at dksX8_fillsLate_2 0 rfl rfl)
theorem dX8_fillsLate_48 : decode cX8_fillsLate 48 = .ok (.return_, 1) := dk_177 (dk_at dksX8_fillsLate_2 3 rfl rfl)
abbrev cX8_rankOfOwner : ByteArray := prog_19_method_53_code
def yX8_rankOfOwner : MethodName := ⟨RX8, "rankOfOwner", "(I)I"⟩
def dkwX8_rankOfOwner_1 : List UInt8 := [104, 27, 96, 46, 96, 46, 172]
abbrev dktX8_rankOfOwner_1 : List UInt8 := dkwX8_rankOfOwner_1 ++ []
def dkwX8_rankOfOwner_0 : List UInt8 := [42, 180, 0, 131, 16, 36, 42, 180, 1, 92, 104, 16, 6, 96, 42, 180, 0, 76, 16, 8, 42, 180, 1, 1]
abbrev dktX8_rankOfOwner_0 : List UInt8 := dkwX8_rankOfOwner_0 ++ dktX8_rankOfOwner_1
theorem dksX8_rankOfOwner_0 : cX8_rankOfOwner.data.toList.drop 0 = dktX8_rankOfOwner_0 := by decide +kernel
theorem dksX8_rankOfOwner_1 : cX8_rankOfOwner.data.toList.drop 24 = dktX8_rankOfOwner_1 := dk_seg dksX8_rankOfOwner_0 24 rfl rfl
theorem dX8_rankOfOwner_0 : decode cX8_rankOfOwner 0 = .ok (.aload_n 0, 1) := dk_42 (dk_at dksX8_rankOfOwner_0 0 rfl rfl)
theorem dX8_rankOfOwner_1 : decode cX8_rankOfOwner 1 = .ok (.getfield 131, 3) := dk_180 0 131 (dk_at dksX8_rankOfOwner_0 1 rfl rfl)
theorem dX8_rankOfOwner_4 : decode cX8_rankOfOwner 4 = .ok (.bipush 36, 2) := dk_16 36 (dk_at dksX8_rankOfOwner_0 4 rfl rfl)
theorem dX8_rankOfOwner_6 : decode cX8_rankOfOwner 6 = .ok (.aload_n 0, 1) := dk_42 (dk_at dksX8_rankOfOwner_0 6 rfl rfl)
theorem dX8_rankOfOwner_7 : decode cX8_rankOfOwner 7 = .ok (.getfield 348, 3) := dk_180 1 92 (dk_at dksX8_rankOfOwner_0 7 rfl rfl)
theorem dX8_rankOfOwner_10 : decode cX8_rankOfOwner 10 = .ok (.imul, 1) := dk_104 (dk_at dksX8_rankOfOwner_0 10 rfl rfl)
theorem dX8_rankOfOwner_11 : decode cX8_rankOfOwner 11 = .ok (.bipush 6, 2) := dk_16 6 (dk_at dksX8_rankOfOwner_0 11 rfl rfl)
theorem dX8_rankOfOwner_13 : decode cX8_rankOfOwner 13 = .ok (.iadd, 1) := dk_96 (dk_at dksX8_rankOfOwner_0 13 rfl rfl)
theorem dX8_rankOfOwner_14 : decode cX8_rankOfOwner 14 = .ok (.aload_n 0, 1) := dk_42 (dk_at dksX8_rankOfOwner_0 14 rfl rfl)
theorem dX8_rankOfOwner_15 : decode cX8_rankOfOwner 15 = .ok (.getfield 76, 3) := dk_180 0 76 (dk_at dksX8_rankOfOwner_0 15 rfl rfl)
theorem dX8_rankOfOwner_18 : decode cX8_rankOfOwner 18 = .ok (.bipush 8, 2) := dk_16 8 (dk_at dksX8_rankOfOwner_0 18 rfl rfl)
theorem dX8_rankOfOwner_20 : decode cX8_rankOfOwner 20 = .ok (.aload_n 0, 1) := dk_42 (dk_at dksX8_rankOfOwner_0 20 rfl rfl)
theorem dX8_rankOfOwner_21 : decode cX8_rankOfOwner 21 = .ok (.getfield 257, 3) := dk_180 1 1 (dk_at dksX8_rankOfOwner_0 21 rfl rfl)
theorem dX8_rankOfOwner_24 : decode cX8_rankOfOwner 24 = .ok (.imul, 1) := dk_104 (dk_at dksX8_rankOfOwner_1 0 rfl rfl)
theorem dX8_rankOfOwner_25 : decode cX8_rankOfOwner 25 = .ok (.iload_n 1, 1) := dk_27 (dk_at dksX8_rankOfOwner_1 1 rfl rfl)
theorem dX8_rankOfOwner_26 : decode cX8_rankOfOwner 26 = .ok (.iadd, 1) := dk_96 (dk_at dksX8_rankOfOwner_1 2 rfl rfl)
theorem dX8_rankOfOwner_27 : decode cX8_rankOfOwner 27 = .ok (.iaload, 1) := dk_46 (dk_at dksX8_rankOfOwner_1 3 rfl rfl)
theorem dX8_rankOfOwner_28 : decode cX8_rankOfOwner 28 = .ok (.iadd, 1) := dk_96 (dk_at dksX8_rankOfOwner_1 4 rfl rfl)
theorem dX8_rankOfOwner_29 : decode cX8_rankOfOwner 29 = .ok (.iaload, 1) := dk_46 (dk_at dksX8_rankOfOwner_1 5 rfl rfl)
theorem dX8_rankOfOwner_30 : decode cX8_rankOfOwner 30 = .ok (.ireturn, 1) := dk_172 (dk_at dksX8_rankOfOwner_1 6 rfl rfl)
abbrev cX8_lateBy : ByteArray := prog_19_method_52_code
def yX8_lateBy : MethodName := ⟨RX8, "lateBy", "(II)I"⟩
def dkwX8_lateBy_4 : List UInt8 := [167, 0, 19, 21, 4, 17, 0, 240, 164, 0, 9, 17, 0, 240, 167, 0, 5, 21, 4, 172]
abbrev dktX8_lateBy_4 : List UInt8 := dkwX8_lateBy_4 ++ []
def dkwX8_lateBy_3 : List UInt8 := [182, 1, 110, 184, 1, 113, 79, 42, 16, 6, 28, 182, 1, 116, 54, 4, 21, 4, 156, 0, 7, 3]
abbrev dktX8_lateBy_3 : List UInt8 := dkwX8_lateBy_3 ++ dktX8_lateBy_4
def dkwX8_lateBy_2 : List UInt8 := [79, 42, 180, 0, 116, 7, 42, 29, 182, 1, 107, 79, 42, 180, 0, 116, 8, 42, 29, 42, 180, 1, 92]
abbrev dktX8_lateBy_2 : List UInt8 := dkwX8_lateBy_2 ++ dktX8_lateBy_3
def dkwX8_lateBy_1 : List UInt8 := [180, 1, 92, 79, 42, 180, 0, 116, 4, 29, 79, 42, 180, 0, 116, 5, 28, 79, 42, 180, 0, 116, 6, 27]
abbrev dktX8_lateBy_1 : List UInt8 := dkwX8_lateBy_1 ++ dktX8_lateBy_2
def dkwX8_lateBy_0 : List UInt8 := [42, 180, 0, 131, 16, 36, 42, 180, 1, 92, 104, 16, 12, 96, 27, 96, 46, 62, 42, 180, 0, 116, 3, 42]
abbrev dktX8_lateBy_0 : List UInt8 := dkwX8_lateBy_0 ++ dktX8_lateBy_1
theorem dksX8_lateBy_0 : cX8_lateBy.data.toList.drop 0 = dktX8_lateBy_0 := by decide +kernel
theorem dksX8_lateBy_1 : cX8_lateBy.data.toList.drop 24 = dktX8_lateBy_1 := dk_seg dksX8_lateBy_0 24 rfl rfl
theorem dksX8_lateBy_2 : cX8_lateBy.data.toList.drop 48 = dktX8_lateBy_2 := dk_seg dksX8_lateBy_1 24 rfl rfl
theorem dksX8_lateBy_3 : cX8_lateBy.data.toList.drop 71 = dktX8_lateBy_3 := dk_seg dksX8_lateBy_2 23 rfl rfl
theorem dksX8_lateBy_4 : cX8_lateBy.data.toList.drop 93 = dktX8_lateBy_4 := dk_seg dksX8_lateBy_3 22 rfl rfl
theorem dX8_lateBy_0 : decode cX8_lateBy 0 = .ok (.aload_n 0, 1) := dk_42 (dk_at dksX8_lateBy_0 0 rfl rfl)
theorem dX8_lateBy_1 : decode cX8_lateBy 1 = .ok (.getfield 131, 3) := dk_180 0 131 (dk_at dksX8_lateBy_0 1 rfl rfl)
theorem dX8_lateBy_4 : decode cX8_lateBy 4 = .ok (.bipush 36, 2) := dk_16 36 (dk_at dksX8_lateBy_0 4 rfl rfl)
theorem dX8_lateBy_6 : decode cX8_lateBy 6 = .ok (.aload_n 0, 1) := dk_42 (dk_at dksX8_lateBy_0 6 rfl rfl)
theorem dX8_lateBy_7 : decode cX8_lateBy 7 = .ok (.getfield 348, 3) := dk_180 1 92 (dk_at dksX8_lateBy_0 7 rfl rfl)
theorem dX8_lateBy_10 : decode cX8_lateBy 10 = .ok (.imul, 1) := dk_104 (dk_at dksX8_lateBy_0 10 rfl rfl)
theorem dX8_lateBy_11 : decode cX8_lateBy 11 = .ok (.bipush 12, 2) := dk_16 12 (dk_at dksX8_lateBy_0 11 rfl rfl)
theorem dX8_lateBy_13 : decode cX8_lateBy 13 = .ok (.iadd, 1) := dk_96 (dk_at dksX8_lateBy_0 13 rfl rfl)
theorem dX8_lateBy_14 : decode cX8_lateBy 14 = .ok (.iload_n 1, 1) := dk_27 (dk_at dksX8_lateBy_0 14 rfl rfl)
theorem dX8_lateBy_15 : decode cX8_lateBy 15 = .ok (.iadd, 1) := dk_96 (dk_at dksX8_lateBy_0 15 rfl rfl)
theorem dX8_lateBy_16 : decode cX8_lateBy 16 = .ok (.iaload, 1) := dk_46 (dk_at dksX8_lateBy_0 16 rfl rfl)
theorem dX8_lateBy_17 : decode cX8_lateBy 17 = .ok (.istore_n 3, 1) := dk_62 (dk_at dksX8_lateBy_0 17 rfl rfl)
theorem dX8_lateBy_18 : decode cX8_lateBy 18 = .ok (.aload_n 0, 1) := dk_42 (dk_at dksX8_lateBy_0 18 rfl rfl)
theorem dX8_lateBy_19 : decode cX8_lateBy 19 = .ok (.getfield 116, 3) := dk_180 0 116 (dk_at dksX8_lateBy_0 19 rfl rfl)
theorem dX8_lateBy_22 : decode cX8_lateBy 22 = .ok (.iconst 0, 1) := dk_3 (dk_at dksX8_lateBy_0 22 rfl rfl)
theorem dX8_lateBy_23 : decode cX8_lateBy 23 = .ok (.aload_n 0, 1) := dk_42 (dk_at dksX8_lateBy_0 23 rfl rfl)
theorem dX8_lateBy_24 : decode cX8_lateBy 24 = .ok (.getfield 348, 3) := dk_180 1 92 (dk_at dksX8_lateBy_1 0 rfl rfl)
theorem dX8_lateBy_27 : decode cX8_lateBy 27 = .ok (.iastore, 1) := dk_79 (dk_at dksX8_lateBy_1 3 rfl rfl)
theorem dX8_lateBy_28 : decode cX8_lateBy 28 = .ok (.aload_n 0, 1) := dk_42 (dk_at dksX8_lateBy_1 4 rfl rfl)
theorem dX8_lateBy_29 : decode cX8_lateBy 29 = .ok (.getfield 116, 3) := dk_180 0 116 (dk_at dksX8_lateBy_1 5 rfl rfl)
theorem dX8_lateBy_32 : decode cX8_lateBy 32 = .ok (.iconst 1, 1) := dk_4 (dk_at dksX8_lateBy_1 8 rfl rfl)
theorem dX8_lateBy_33 : decode cX8_lateBy 33 = .ok (.iload_n 3, 1) := dk_29 (dk_at dksX8_lateBy_1 9 rfl rfl)
theorem dX8_lateBy_34 : decode cX8_lateBy 34 = .ok (.iastore, 1) := dk_79 (dk_at dksX8_lateBy_1 10 rfl rfl)
theorem dX8_lateBy_35 : decode cX8_lateBy 35 = .ok (.aload_n 0, 1) := dk_42 (dk_at dksX8_lateBy_1 11 rfl rfl)
theorem dX8_lateBy_36 : decode cX8_lateBy 36 = .ok (.getfield 116, 3) := dk_180 0 116 (dk_at dksX8_lateBy_1 12 rfl rfl)
theorem dX8_lateBy_39 : decode cX8_lateBy 39 = .ok (.iconst 2, 1) := dk_5 (dk_at dksX8_lateBy_1 15 rfl rfl)
theorem dX8_lateBy_40 : decode cX8_lateBy 40 = .ok (.iload_n 2, 1) := dk_28 (dk_at dksX8_lateBy_1 16 rfl rfl)
theorem dX8_lateBy_41 : decode cX8_lateBy 41 = .ok (.iastore, 1) := dk_79 (dk_at dksX8_lateBy_1 17 rfl rfl)
theorem dX8_lateBy_42 : decode cX8_lateBy 42 = .ok (.aload_n 0, 1) := dk_42 (dk_at dksX8_lateBy_1 18 rfl rfl)
theorem dX8_lateBy_43 : decode cX8_lateBy 43 = .ok (.getfield 116, 3) := dk_180 0 116 (dk_at dksX8_lateBy_1 19 rfl rfl)
theorem dX8_lateBy_46 : decode cX8_lateBy 46 = .ok (.iconst 3, 1) := dk_6 (dk_at dksX8_lateBy_1 22 rfl rfl)
theorem dX8_lateBy_47 : decode cX8_lateBy 47 = .ok (.iload_n 1, 1) := dk_27 (dk_at dksX8_lateBy_1 23 rfl rfl)
theorem dX8_lateBy_48 : decode cX8_lateBy 48 = .ok (.iastore, 1) := dk_79 (dk_at dksX8_lateBy_2 0 rfl rfl)
theorem dX8_lateBy_49 : decode cX8_lateBy 49 = .ok (.aload_n 0, 1) := dk_42 (dk_at dksX8_lateBy_2 1 rfl rfl)
theorem dX8_lateBy_50 : decode cX8_lateBy 50 = .ok (.getfield 116, 3) := dk_180 0 116 (dk_at dksX8_lateBy_2 2 rfl rfl)
theorem dX8_lateBy_53 : decode cX8_lateBy 53 = .ok (.iconst 4, 1) := dk_7 (dk_at dksX8_lateBy_2 5 rfl rfl)
theorem dX8_lateBy_54 : decode cX8_lateBy 54 = .ok (.aload_n 0, 1) := dk_42 (dk_at dksX8_lateBy_2 6 rfl rfl)
theorem dX8_lateBy_55 : decode cX8_lateBy 55 = .ok (.iload_n 3, 1) := dk_29 (dk_at dksX8_lateBy_2 7 rfl rfl)
theorem dX8_lateBy_56 : decode cX8_lateBy 56 = .ok (.invokevirtual 363, 3) := dk_182 1 107 (dk_at dksX8_lateBy_2 8 rfl rfl)
theorem dX8_lateBy_59 : decode cX8_lateBy 59 = .ok (.iastore, 1) := dk_79 (dk_at dksX8_lateBy_2 11 rfl rfl)
theorem dX8_lateBy_60 : decode cX8_lateBy 60 = .ok (.aload_n 0, 1) := dk_42 (dk_at dksX8_lateBy_2 12 rfl rfl)
theorem dX8_lateBy_61 : decode cX8_lateBy 61 = .ok (.getfield 116, 3) := dk_180 0 116 (dk_at dksX8_lateBy_2 13 rfl rfl)
theorem dX8_lateBy_64 : decode cX8_lateBy 64 = .ok (.iconst 5, 1) := dk_8 (dk_at dksX8_lateBy_2 16 rfl rfl)
theorem dX8_lateBy_65 : decode cX8_lateBy 65 = .ok (.aload_n 0, 1) := dk_42 (dk_at dksX8_lateBy_2 17 rfl rfl)
theorem dX8_lateBy_66 : decode cX8_lateBy 66 = .ok (.iload_n 3, 1) := dk_29 (dk_at dksX8_lateBy_2 18 rfl rfl)
theorem dX8_lateBy_67 : decode cX8_lateBy 67 = .ok (.aload_n 0, 1) := dk_42 (dk_at dksX8_lateBy_2 19 rfl rfl)
theorem dX8_lateBy_68 : decode cX8_lateBy 68 = .ok (.getfield 348, 3) := dk_180 1 92 (dk_at dksX8_lateBy_2 20 rfl rfl)
theorem dX8_lateBy_71 : decode cX8_lateBy 71 = .ok (.invokevirtual 366, 3) := dk_182 1 110 (dk_at dksX8_lateBy_3 0 rfl rfl)
theorem dX8_lateBy_74 : decode cX8_lateBy 74 = .ok (.invokestatic 369, 3) := dk_184 1 113 (dk_at dksX8_lateBy_3 3 rfl rfl)
theorem dX8_lateBy_77 : decode cX8_lateBy 77 = .ok (.iastore, 1) := dk_79 (dk_at dksX8_lateBy_3 6 rfl rfl)
theorem dX8_lateBy_78 : decode cX8_lateBy 78 = .ok (.aload_n 0, 1) := dk_42 (dk_at dksX8_lateBy_3 7 rfl rfl)
theorem dX8_lateBy_79 : decode cX8_lateBy 79 = .ok (.bipush 6, 2) := dk_16 6 (dk_at dksX8_lateBy_3 8 rfl rfl)
theorem dX8_lateBy_81 : decode cX8_lateBy 81 = .ok (.iload_n 2, 1) := dk_28 (dk_at dksX8_lateBy_3 10 rfl rfl)
theorem dX8_lateBy_82 : decode cX8_lateBy 82 = .ok (.invokevirtual 372, 3) := dk_182 1 116 (dk_at dksX8_lateBy_3 11 rfl rfl)
theorem dX8_lateBy_85 : decode cX8_lateBy 85 = .ok (.istore 4, 2) := dk_54 4 (dk_at dksX8_lateBy_3 14 rfl rfl)
theorem dX8_lateBy_87 : decode cX8_lateBy 87 = .ok (.iload 4, 2) := dk_21 4 (dk_at dksX8_lateBy_3 16 rfl rfl)
theorem dX8_lateBy_89 : decode cX8_lateBy 89 = .ok (.ifCond .ge 7, 3) := dk_156 0 7 (dk_at dksX8_lateBy_3 18 rfl rfl)
theorem dX8_lateBy_92 : decode cX8_lateBy 92 = .ok (.iconst 0, 1) := dk_3 (dk_at dksX8_lateBy_3 21 rfl rfl)
theorem dX8_lateBy_93 : decode cX8_lateBy 93 = .ok (.goto 19, 3) := dk_167 0 19 (dk_at dksX8_lateBy_4 0 rfl rfl)
theorem dX8_lateBy_96 : decode cX8_lateBy 96 = .ok (.iload 4, 2) := dk_21 4 (dk_at dksX8_lateBy_4 3 rfl rfl)
theorem dX8_lateBy_98 : decode cX8_lateBy 98 = .ok (.sipush 240, 3) := dk_17 0 240 (dk_at dksX8_lateBy_4 5 rfl rfl)
theorem dX8_lateBy_101 : decode cX8_lateBy 101 = .ok (.if_icmp .le 9, 3) := dk_164 0 9 (dk_at dksX8_lateBy_4 8 rfl rfl)
theorem dX8_lateBy_104 : decode cX8_lateBy 104 = .ok (.sipush 240, 3) := dk_17 0 240 (dk_at dksX8_lateBy_4 11 rfl rfl)
theorem dX8_lateBy_107 : decode cX8_lateBy 107 = .ok (.goto 5, 3) := dk_167 0 5 (dk_at dksX8_lateBy_4 14 rfl rfl)
theorem dX8_lateBy_110 : decode cX8_lateBy 110 = .ok (.iload 4, 2) := dk_21 4 (dk_at dksX8_lateBy_4 17 rfl rfl)
theorem dX8_lateBy_112 : decode cX8_lateBy 112 = .ok (.ireturn, 1) := dk_172 (dk_at dksX8_lateBy_4 19 rfl rfl)
abbrev cX8_waysOf : ByteArray := prog_19_method_49_code
def yX8_waysOf : MethodName := ⟨RX8, "waysOf", "(I)I"⟩
def dkwX8_waysOf_2 : List UInt8 := [46, 27, 160, 0, 6, 132, 2, 1, 132, 3, 1, 167, 255, 201, 28, 172]
abbrev dktX8_waysOf_2 : List UInt8 := dkwX8_waysOf_2 ++ []
def dkwX8_waysOf_1 : List UInt8 := [180, 1, 1, 104, 29, 96, 46, 27, 159, 0, 21, 42, 180, 0, 58, 16, 12, 42, 180, 1, 1, 104, 29, 96]
abbrev dktX8_waysOf_1 : List UInt8 := dkwX8_waysOf_1 ++ dktX8_waysOf_2
def dkwX8_waysOf_0 : List UInt8 := [3, 61, 3, 62, 29, 42, 180, 0, 52, 42, 180, 1, 1, 46, 162, 0, 48, 42, 180, 0, 55, 16, 12, 42]
abbrev dktX8_waysOf_0 : List UInt8 := dkwX8_waysOf_0 ++ dktX8_waysOf_1
theorem dksX8_waysOf_0 : cX8_waysOf.data.toList.drop 0 = dktX8_waysOf_0 := by decide +kernel
theorem dksX8_waysOf_1 : cX8_waysOf.data.toList.drop 24 = dktX8_waysOf_1 := dk_seg dksX8_waysOf_0 24 rfl rfl
theorem dksX8_waysOf_2 : cX8_waysOf.data.toList.drop 48 = dktX8_waysOf_2 := dk_seg dksX8_waysOf_1 24 rfl rfl
theorem dX8_waysOf_0 : decode cX8_waysOf 0 = .ok (.iconst 0, 1) := dk_3 (dk_at dksX8_waysOf_0 0 rfl rfl)
theorem dX8_waysOf_1 : decode cX8_waysOf 1 = .ok (.istore_n 2, 1) := dk_61 (dk_at dksX8_waysOf_0 1 rfl rfl)
theorem dX8_waysOf_2 : decode cX8_waysOf 2 = .ok (.iconst 0, 1) := dk_3 (dk_at dksX8_waysOf_0 2 rfl rfl)
theorem dX8_waysOf_3 : decode cX8_waysOf 3 = .ok (.istore_n 3, 1) := dk_62 (dk_at dksX8_waysOf_0 3 rfl rfl)
theorem dX8_waysOf_4 : decode cX8_waysOf 4 = .ok (.iload_n 3, 1) := dk_29 (dk_at dksX8_waysOf_0 4 rfl rfl)
theorem dX8_waysOf_5 : decode cX8_waysOf 5 = .ok (.aload_n 0, 1) := dk_42 (dk_at dksX8_waysOf_0 5 rfl rfl)
theorem dX8_waysOf_6 : decode cX8_waysOf 6 = .ok (.getfield 52, 3) := dk_180 0 52 (dk_at dksX8_waysOf_0 6 rfl rfl)
theorem dX8_waysOf_9 : decode cX8_waysOf 9 = .ok (.aload_n 0, 1) := dk_42 (dk_at dksX8_waysOf_0 9 rfl rfl)
theorem dX8_waysOf_10 : decode cX8_waysOf 10 = .ok (.getfield 257, 3) := dk_180 1 1 (dk_at dksX8_waysOf_0 10 rfl rfl)
theorem dX8_waysOf_13 : decode cX8_waysOf 13 = .ok (.iaload, 1) := dk_46 (dk_at dksX8_waysOf_0 13 rfl rfl)
theorem dX8_waysOf_14 : decode cX8_waysOf 14 = .ok (.if_icmp .ge 48, 3) := dk_162 0 48 (dk_at dksX8_waysOf_0 14 rfl rfl)
theorem dX8_waysOf_17 : decode cX8_waysOf 17 = .ok (.aload_n 0, 1) := dk_42 (dk_at dksX8_waysOf_0 17 rfl rfl)
theorem dX8_waysOf_18 : decode cX8_waysOf 18 = .ok (.getfield 55, 3) := dk_180 0 55 (dk_at dksX8_waysOf_0 18 rfl rfl)
theorem dX8_waysOf_21 : decode cX8_waysOf 21 = .ok (.bipush 12, 2) := dk_16 12 (dk_at dksX8_waysOf_0 21 rfl rfl)
theorem dX8_waysOf_23 : decode cX8_waysOf 23 = .ok (.aload_n 0, 1) := dk_42 (dk_at dksX8_waysOf_0 23 rfl rfl)
theorem dX8_waysOf_24 : decode cX8_waysOf 24 = .ok (.getfield 257, 3) := dk_180 1 1 (dk_at dksX8_waysOf_1 0 rfl rfl)
theorem dX8_waysOf_27 : decode cX8_waysOf 27 = .ok (.imul, 1) := dk_104 (dk_at dksX8_waysOf_1 3 rfl rfl)
theorem dX8_waysOf_28 : decode cX8_waysOf 28 = .ok (.iload_n 3, 1) := dk_29 (dk_at dksX8_waysOf_1 4 rfl rfl)
theorem dX8_waysOf_29 : decode cX8_waysOf 29 = .ok (.iadd, 1) := dk_96 (dk_at dksX8_waysOf_1 5 rfl rfl)
theorem dX8_waysOf_30 : decode cX8_waysOf 30 = .ok (.iaload, 1) := dk_46 (dk_at dksX8_waysOf_1 6 rfl rfl)
theorem dX8_waysOf_31 : decode cX8_waysOf 31 = .ok (.iload_n 1, 1) := dk_27 (dk_at dksX8_waysOf_1 7 rfl rfl)
theorem dX8_waysOf_32 : decode cX8_waysOf 32 = .ok (.if_icmp .eq 21, 3) := dk_159 0 21 (dk_at dksX8_waysOf_1 8 rfl rfl)
theorem dX8_waysOf_35 : decode cX8_waysOf 35 = .ok (.aload_n 0, 1) := dk_42 (dk_at dksX8_waysOf_1 11 rfl rfl)
theorem dX8_waysOf_36 : decode cX8_waysOf 36 = .ok (.getfield 58, 3) := dk_180 0 58 (dk_at dksX8_waysOf_1 12 rfl rfl)
theorem dX8_waysOf_39 : decode cX8_waysOf 39 = .ok (.bipush 12, 2) := dk_16 12 (dk_at dksX8_waysOf_1 15 rfl rfl)
theorem dX8_waysOf_41 : decode cX8_waysOf 41 = .ok (.aload_n 0, 1) := dk_42 (dk_at dksX8_waysOf_1 17 rfl rfl)
theorem dX8_waysOf_42 : decode cX8_waysOf 42 = .ok (.getfield 257, 3) := dk_180 1 1 (dk_at dksX8_waysOf_1 18 rfl rfl)
theorem dX8_waysOf_45 : decode cX8_waysOf 45 = .ok (.imul, 1) := dk_104 (dk_at dksX8_waysOf_1 21 rfl rfl)
theorem dX8_waysOf_46 : decode cX8_waysOf 46 = .ok (.iload_n 3, 1) := dk_29 (dk_at dksX8_waysOf_1 22 rfl rfl)
theorem dX8_waysOf_47 : decode cX8_waysOf 47 = .ok (.iadd, 1) := dk_96 (dk_at dksX8_waysOf_1 23 rfl rfl)
theorem dX8_waysOf_48 : decode cX8_waysOf 48 = .ok (.iaload, 1) := dk_46 (dk_at dksX8_waysOf_2 0 rfl rfl)
theorem dX8_waysOf_49 : decode cX8_waysOf 49 = .ok (.iload_n 1, 1) := dk_27 (dk_at dksX8_waysOf_2 1 rfl rfl)
theorem dX8_waysOf_50 : decode cX8_waysOf 50 = .ok (.if_icmp .ne 6, 3) := dk_160 0 6 (dk_at dksX8_waysOf_2 2 rfl rfl)
theorem dX8_waysOf_53 : decode cX8_waysOf 53 = .ok (.iinc 2 1, 3) := dk_132 2 1 (dk_at dksX8_waysOf_2 5 rfl rfl)
theorem dX8_waysOf_56 : decode cX8_waysOf 56 = .ok (.iinc 3 1, 3) := dk_132 3 1 (dk_at dksX8_waysOf_2 8 rfl rfl)
theorem dX8_waysOf_59 : decode cX8_waysOf 59 = .ok (.goto (-55), 3) := dk_167 255 201 (dk_at dksX8_waysOf_2 11 rfl rfl)
theorem dX8_waysOf_62 : decode cX8_waysOf 62 = .ok (.iload_n 2, 1) := dk_28 (dk_at dksX8_waysOf_2 14 rfl rfl)
theorem dX8_waysOf_63 : decode cX8_waysOf 63 = .ok (.ireturn, 1) := dk_172 (dk_at dksX8_waysOf_2 15 rfl rfl)
abbrev cX8_menIn : ByteArray := prog_19_method_47_code
def yX8_menIn : MethodName := ⟨RX8, "menIn", "(II)I"⟩
def dkwX8_menIn_2 : List UInt8 := [167, 255, 216, 29, 172]
abbrev dktX8_menIn_2 : List UInt8 := dkwX8_menIn_2 ++ []
def dkwX8_menIn_1 : List UInt8 := [16, 36, 28, 104, 21, 4, 96, 46, 27, 160, 0, 10, 29, 4, 21, 4, 120, 128, 62, 132, 4, 1]
abbrev dktX8_menIn_1 : List UInt8 := dkwX8_menIn_1 ++ dktX8_menIn_2
def dkwX8_menIn_0 : List UInt8 := [3, 62, 3, 54, 4, 21, 4, 42, 180, 0, 61, 42, 180, 1, 1, 46, 162, 0, 32, 42, 180, 0, 131]
abbrev dktX8_menIn_0 : List UInt8 := dkwX8_menIn_0 ++ dktX8_menIn_1
theorem dksX8_menIn_0 : cX8_menIn.data.toList.drop 0 = dktX8_menIn_0 := by decide +kernel
theorem dksX8_menIn_1 : cX8_menIn.data.toList.drop 23 = dktX8_menIn_1 := dk_seg dksX8_menIn_0 23 rfl rfl
theorem dksX8_menIn_2 : cX8_menIn.data.toList.drop 45 = dktX8_menIn_2 := dk_seg dksX8_menIn_1 22 rfl rfl
theorem dX8_menIn_0 : decode cX8_menIn 0 = .ok (.iconst 0, 1) := dk_3 (dk_at dksX8_menIn_0 0 rfl rfl)
theorem dX8_menIn_1 : decode cX8_menIn 1 = .ok (.istore_n 3, 1) := dk_62 (dk_at dksX8_menIn_0 1 rfl rfl)
theorem dX8_menIn_2 : decode cX8_menIn 2 = .ok (.iconst 0, 1) := dk_3 (dk_at dksX8_menIn_0 2 rfl rfl)
theorem dX8_menIn_3 : decode cX8_menIn 3 = .ok (.istore 4, 2) := dk_54 4 (dk_at dksX8_menIn_0 3 rfl rfl)
theorem dX8_menIn_5 : decode cX8_menIn 5 = .ok (.iload 4, 2) := dk_21 4 (dk_at dksX8_menIn_0 5 rfl rfl)
theorem dX8_menIn_7 : decode cX8_menIn 7 = .ok (.aload_n 0, 1) := dk_42 (dk_at dksX8_menIn_0 7 rfl rfl)
theorem dX8_menIn_8 : decode cX8_menIn 8 = .ok (.getfield 61, 3) := dk_180 0 61 (dk_at dksX8_menIn_0 8 rfl rfl)
theorem dX8_menIn_11 : decode cX8_menIn 11 = .ok (.aload_n 0, 1) := dk_42 (dk_at dksX8_menIn_0 11 rfl rfl)
theorem dX8_menIn_12 : decode cX8_menIn 12 = .ok (.getfield 257, 3) := dk_180 1 1 (dk_at dksX8_menIn_0 12 rfl rfl)
theorem dX8_menIn_15 : decode cX8_menIn 15 = .ok (.iaload, 1) := dk_46 (dk_at dksX8_menIn_0 15 rfl rfl)
theorem dX8_menIn_16 : decode cX8_menIn 16 = .ok (.if_icmp .ge 32, 3) := dk_162 0 32 (dk_at dksX8_menIn_0 16 rfl rfl)
theorem dX8_menIn_19 : decode cX8_menIn 19 = .ok (.aload_n 0, 1) := dk_42 (dk_at dksX8_menIn_0 19 rfl rfl)
theorem dX8_menIn_20 : decode cX8_menIn 20 = .ok (.getfield 131, 3) := dk_180 0 131 (dk_at dksX8_menIn_0 20 rfl rfl)
theorem dX8_menIn_23 : decode cX8_menIn 23 = .ok (.bipush 36, 2) := dk_16 36 (dk_at dksX8_menIn_1 0 rfl rfl)
theorem dX8_menIn_25 : decode cX8_menIn 25 = .ok (.iload_n 2, 1) := dk_28 (dk_at dksX8_menIn_1 2 rfl rfl)
theorem dX8_menIn_26 : decode cX8_menIn 26 = .ok (.imul, 1) := dk_104 (dk_at dksX8_menIn_1 3 rfl rfl)
theorem dX8_menIn_27 : decode cX8_menIn 27 = .ok (.iload 4, 2) := dk_21 4 (dk_at dksX8_menIn_1 4 rfl rfl)
theorem dX8_menIn_29 : decode cX8_menIn 29 = .ok (.iadd, 1) := dk_96 (dk_at dksX8_menIn_1 6 rfl rfl)
theorem dX8_menIn_30 : decode cX8_menIn 30 = .ok (.iaload, 1) := dk_46 (dk_at dksX8_menIn_1 7 rfl rfl)
theorem dX8_menIn_31 : decode cX8_menIn 31 = .ok (.iload_n 1, 1) := dk_27 (dk_at dksX8_menIn_1 8 rfl rfl)
theorem dX8_menIn_32 : decode cX8_menIn 32 = .ok (.if_icmp .ne 10, 3) := dk_160 0 10 (dk_at dksX8_menIn_1 9 rfl rfl)
theorem dX8_menIn_35 : decode cX8_menIn 35 = .ok (.iload_n 3, 1) := dk_29 (dk_at dksX8_menIn_1 12 rfl rfl)
theorem dX8_menIn_36 : decode cX8_menIn 36 = .ok (.iconst 1, 1) := dk_4 (dk_at dksX8_menIn_1 13 rfl rfl)
theorem dX8_menIn_37 : decode cX8_menIn 37 = .ok (.iload 4, 2) := dk_21 4 (dk_at dksX8_menIn_1 14 rfl rfl)
theorem dX8_menIn_39 : decode cX8_menIn 39 = .ok (.ishl, 1) := dk_120 (dk_at dksX8_menIn_1 16 rfl rfl)
theorem dX8_menIn_40 : decode cX8_menIn 40 = .ok (.ior, 1) := dk_128 (dk_at dksX8_menIn_1 17 rfl rfl)
theorem dX8_menIn_41 : decode cX8_menIn 41 = .ok (.istore_n 3, 1) := dk_62 (dk_at dksX8_menIn_1 18 rfl rfl)
theorem dX8_menIn_42 : decode cX8_menIn 42 = .ok (.iinc 4 1, 3) := dk_132 4 1 (dk_at dksX8_menIn_1 19 rfl rfl)
theorem dX8_menIn_45 : decode cX8_menIn 45 = .ok (.goto (-40), 3) := dk_167 255 216 (dk_at dksX8_menIn_2 0 rfl rfl)
theorem dX8_menIn_48 : decode cX8_menIn 48 = .ok (.iload_n 3, 1) := dk_29 (dk_at dksX8_menIn_2 3 rfl rfl)
theorem dX8_menIn_49 : decode cX8_menIn 49 = .ok (.ireturn, 1) := dk_172 (dk_at dksX8_menIn_2 4 rfl rfl)
abbrev cX8_bits : ByteArray := prog_19_method_48_code
def yX8_bits : MethodName := ⟨RX8, "bits", "(I)I"⟩
def dkwX8_bits_1 : List UInt8 := [27, 172]
abbrev dktX8_bits_1 : List UInt8 := dkwX8_bits_1 ++ []
def dkwX8_bits_0 : List UInt8 := [3, 60, 3, 61, 28, 16, 8, 162, 0, 17, 27, 26, 28, 122, 4, 126, 96, 60, 132, 2, 1, 167, 255, 239]
abbrev dktX8_bits_0 : List UInt8 := dkwX8_bits_0 ++ dktX8_bits_1
theorem dksX8_bits_0 : cX8_bits.data.toList.drop 0 = dktX8_bits_0 := by decide +kernel
theorem dksX8_bits_1 : cX8_bits.data.toList.drop 24 = dktX8_bits_1 := dk_seg dksX8_bits_0 24 rfl rfl
theorem dX8_bits_0 : decode cX8_bits 0 = .ok (.iconst 0, 1) := dk_3 (dk_at dksX8_bits_0 0 rfl rfl)
theorem dX8_bits_1 : decode cX8_bits 1 = .ok (.istore_n 1, 1) := dk_60 (dk_at dksX8_bits_0 1 rfl rfl)
theorem dX8_bits_2 : decode cX8_bits 2 = .ok (.iconst 0, 1) := dk_3 (dk_at dksX8_bits_0 2 rfl rfl)
theorem dX8_bits_3 : decode cX8_bits 3 = .ok (.istore_n 2, 1) := dk_61 (dk_at dksX8_bits_0 3 rfl rfl)
theorem dX8_bits_4 : decode cX8_bits 4 = .ok (.iload_n 2, 1) := dk_28 (dk_at dksX8_bits_0 4 rfl rfl)
theorem dX8_bits_5 : decode cX8_bits 5 = .ok (.bipush 8, 2) := dk_16 8 (dk_at dksX8_bits_0 5 rfl rfl)
theorem dX8_bits_7 : decode cX8_bits 7 = .ok (.if_icmp .ge 17, 3) := dk_162 0 17 (dk_at dksX8_bits_0 7 rfl rfl)
theorem dX8_bits_10 : decode cX8_bits 10 = .ok (.iload_n 1, 1) := dk_27 (dk_at dksX8_bits_0 10 rfl rfl)
theorem dX8_bits_11 : decode cX8_bits 11 = .ok (.iload_n 0, 1) := dk_26 (dk_at dksX8_bits_0 11 rfl rfl)
theorem dX8_bits_12 : decode cX8_bits 12 = .ok (.iload_n 2, 1) := dk_28 (dk_at dksX8_bits_0 12 rfl rfl)
theorem dX8_bits_13 : decode cX8_bits 13 = .ok (.ishr, 1) := dk_122 (dk_at dksX8_bits_0 13 rfl rfl)
theorem dX8_bits_14 : decode cX8_bits 14 = .ok (.iconst 1, 1) := dk_4 (dk_at dksX8_bits_0 14 rfl rfl)
theorem dX8_bits_15 : decode cX8_bits 15 = .ok (.iand, 1) := dk_126 (dk_at dksX8_bits_0 15 rfl rfl)
theorem dX8_bits_16 : decode cX8_bits 16 = .ok (.iadd, 1) := dk_96 (dk_at dksX8_bits_0 16 rfl rfl)
theorem dX8_bits_17 : decode cX8_bits 17 = .ok (.istore_n 1, 1) := dk_60 (dk_at dksX8_bits_0 17 rfl rfl)
theorem dX8_bits_18 : decode cX8_bits 18 = .ok (.iinc 2 1, 3) := dk_132 2 1 (dk_at dksX8_bits_0 18 rfl rfl)
theorem dX8_bits_21 : decode cX8_bits 21 = .ok (.goto (-17), 3) := dk_167 255 239 (dk_at dksX8_bits_0 21 rfl rfl)
theorem dX8_bits_24 : decode cX8_bits 24 = .ok (.iload_n 1, 1) := dk_27 (dk_at dksX8_bits_1 0 rfl rfl)
theorem dX8_bits_25 : decode cX8_bits 25 = .ok (.ireturn, 1) := dk_172 (dk_at dksX8_bits_1 1 rfl rfl)
abbrev cX8_tells : ByteArray := prog_19_method_51_code
def yX8_tells : MethodName := ⟨RX8, "tells", "(II)I"⟩
def dkwX8_tells_6 : List UInt8 := [180, 1, 81, 153, 0, 7, 3, 167, 0, 5, 21, 5, 172, 132, 4, 1, 167, 255, 139, 3, 172]
abbrev dktX8_tells_6 : List UInt8 := dkwX8_tells_6 ++ []
def dkwX8_tells_5 : List UInt8 := [167, 0, 37, 42, 42, 180, 0, 101, 21, 4, 46, 42, 180, 0, 104, 21, 4, 46, 182, 1, 104, 54, 5, 42]
abbrev dktX8_tells_5 : List UInt8 := dkwX8_tells_5 ++ dktX8_tells_6
def dkwX8_tells_4 : List UInt8 := [21, 4, 46, 182, 1, 104, 54, 6, 42, 180, 1, 81, 153, 0, 5, 3, 172, 21, 5, 21, 6, 161, 0, 6]
abbrev dktX8_tells_4 : List UInt8 := dkwX8_tells_4 ++ dktX8_tells_5
def dkwX8_tells_3 : List UInt8 := [180, 0, 98, 21, 4, 46, 182, 1, 104, 54, 5, 42, 42, 180, 0, 98, 21, 4, 46, 42, 180, 0, 101]
abbrev dktX8_tells_3 : List UInt8 := dkwX8_tells_3 ++ dktX8_tells_4
def dkwX8_tells_2 : List UInt8 := [29, 46, 162, 0, 112, 42, 180, 0, 91, 21, 4, 51, 153, 0, 62, 42, 42, 180, 0, 95, 21, 4, 46, 42]
abbrev dktX8_tells_2 : List UInt8 := dkwX8_tells_2 ++ dktX8_tells_3
def dkwX8_tells_1 : List UInt8 := [160, 0, 5, 28, 172, 42, 3, 181, 1, 81, 42, 180, 0, 85, 29, 46, 54, 4, 21, 4, 42, 180, 0, 88]
abbrev dktX8_tells_1 : List UInt8 := dkwX8_tells_1 ++ dktX8_tells_2
def dkwX8_tells_0 : List UInt8 := [16, 7, 42, 180, 1, 1, 104, 27, 96, 62, 42, 180, 0, 85, 29, 46, 42, 180, 0, 88, 29, 46]
abbrev dktX8_tells_0 : List UInt8 := dkwX8_tells_0 ++ dktX8_tells_1
theorem dksX8_tells_0 : cX8_tells.data.toList.drop 0 = dktX8_tells_0 := by decide +kernel
theorem dksX8_tells_1 : cX8_tells.data.toList.drop 22 = dktX8_tells_1 := dk_seg dksX8_tells_0 22 rfl rfl
theorem dksX8_tells_2 : cX8_tells.data.toList.drop 46 = dktX8_tells_2 := dk_seg dksX8_tells_1 24 rfl rfl
theorem dksX8_tells_3 : cX8_tells.data.toList.drop 70 = dktX8_tells_3 := dk_seg dksX8_tells_2 24 rfl rfl
theorem dksX8_tells_4 : cX8_tells.data.toList.drop 93 = dktX8_tells_4 := dk_seg dksX8_tells_3 23 rfl rfl
theorem dksX8_tells_5 : cX8_tells.data.toList.drop 117 = dktX8_tells_5 := dk_seg dksX8_tells_4 24 rfl rfl
theorem dksX8_tells_6 : cX8_tells.data.toList.drop 141 = dktX8_tells_6 := dk_seg dksX8_tells_5 24 rfl rfl
theorem dX8_tells_0 : decode cX8_tells 0 = .ok (.bipush 7, 2) := dk_16 7 (dk_at dksX8_tells_0 0 rfl rfl)
theorem dX8_tells_2 : decode cX8_tells 2 = .ok (.aload_n 0, 1) := dk_42 (dk_at dksX8_tells_0 2 rfl rfl)
theorem dX8_tells_3 : decode cX8_tells 3 = .ok (.getfield 257, 3) := dk_180 1 1 (dk_at dksX8_tells_0 3 rfl rfl)
theorem dX8_tells_6 : decode cX8_tells 6 = .ok (.imul, 1) := dk_104 (dk_at dksX8_tells_0 6 rfl rfl)
theorem dX8_tells_7 : decode cX8_tells 7 = .ok (.iload_n 1, 1) := dk_27 (dk_at dksX8_tells_0 7 rfl rfl)
theorem dX8_tells_8 : decode cX8_tells 8 = .ok (.iadd, 1) := dk_96 (dk_at dksX8_tells_0 8 rfl rfl)
theorem dX8_tells_9 : decode cX8_tells 9 = .ok (.istore_n 3, 1) := dk_62 (dk_at dksX8_tells_0 9 rfl rfl)
theorem dX8_tells_10 : decode cX8_tells 10 = .ok (.aload_n 0, 1) := dk_42 (dk_at dksX8_tells_0 10 rfl rfl)
theorem dX8_tells_11 : decode cX8_tells 11 = .ok (.getfield 85, 3) := dk_180 0 85 (dk_at dksX8_tells_0 11 rfl rfl)
theorem dX8_tells_14 : decode cX8_tells 14 = .ok (.iload_n 3, 1) := dk_29 (dk_at dksX8_tells_0 14 rfl rfl)
theorem dX8_tells_15 : decode cX8_tells 15 = .ok (.iaload, 1) := dk_46 (dk_at dksX8_tells_0 15 rfl rfl)
theorem dX8_tells_16 : decode cX8_tells 16 = .ok (.aload_n 0, 1) := dk_42 (dk_at dksX8_tells_0 16 rfl rfl)
theorem dX8_tells_17 : decode cX8_tells 17 = .ok (.getfield 88, 3) := dk_180 0 88 (dk_at dksX8_tells_0 17 rfl rfl)
theorem dX8_tells_20 : decode cX8_tells 20 = .ok (.iload_n 3, 1) := dk_29 (dk_at dksX8_tells_0 20 rfl rfl)
theorem dX8_tells_21 : decode cX8_tells 21 = .ok (.iaload, 1) := dk_46 (dk_at dksX8_tells_0 21 rfl rfl)
theorem dX8_tells_22 : decode cX8_tells 22 = .ok (.if_icmp .ne 5, 3) := dk_160 0 5 (dk_at dksX8_tells_1 0 rfl rfl)
theorem dX8_tells_25 : decode cX8_tells 25 = .ok (.iload_n 2, 1) := dk_28 (dk_at dksX8_tells_1 3 rfl rfl)
theorem dX8_tells_26 : decode cX8_tells 26 = .ok (.ireturn, 1) := dk_172 (dk_at dksX8_tells_1 4 rfl rfl)
theorem dX8_tells_27 : decode cX8_tells 27 = .ok (.aload_n 0, 1) := dk_42 (dk_at dksX8_tells_1 5 rfl rfl)
theorem dX8_tells_28 : decode cX8_tells 28 = .ok (.iconst 0, 1) := dk_3 (dk_at dksX8_tells_1 6 rfl rfl)
theorem dX8_tells_29 : decode cX8_tells 29 = .ok (.putfield 337, 3) := dk_181 1 81 (dk_at dksX8_tells_1 7 rfl rfl)
theorem dX8_tells_32 : decode cX8_tells 32 = .ok (.aload_n 0, 1) := dk_42 (dk_at dksX8_tells_1 10 rfl rfl)
theorem dX8_tells_33 : decode cX8_tells 33 = .ok (.getfield 85, 3) := dk_180 0 85 (dk_at dksX8_tells_1 11 rfl rfl)
theorem dX8_tells_36 : decode cX8_tells 36 = .ok (.iload_n 3, 1) := dk_29 (dk_at dksX8_tells_1 14 rfl rfl)
theorem dX8_tells_37 : decode cX8_tells 37 = .ok (.iaload, 1) := dk_46 (dk_at dksX8_tells_1 15 rfl rfl)
theorem dX8_tells_38 : decode cX8_tells 38 = .ok (.istore 4, 2) := dk_54 4 (dk_at dksX8_tells_1 16 rfl rfl)
theorem dX8_tells_40 : decode cX8_tells 40 = .ok (.iload 4, 2) := dk_21 4 (dk_at dksX8_tells_1 18 rfl rfl)
theorem dX8_tells_42 : decode cX8_tells 42 = .ok (.aload_n 0, 1) := dk_42 (dk_at dksX8_tells_1 20 rfl rfl)
theorem dX8_tells_43 : decode cX8_tells 43 = .ok (.getfield 88, 3) := dk_180 0 88 (dk_at dksX8_tells_1 21 rfl rfl)
theorem dX8_tells_46 : decode cX8_tells 46 = .ok (.iload_n 3, 1) := dk_29 (dk_at dksX8_tells_2 0 rfl rfl)
theorem dX8_tells_47 : decode cX8_tells 47 = .ok (.iaload, 1) := dk_46 (dk_at dksX8_tells_2 1 rfl rfl)
theorem dX8_tells_48 : decode cX8_tells 48 = .ok (.if_icmp .ge 112, 3) := dk_162 0 112 (dk_at dksX8_tells_2 2 rfl rfl)
theorem dX8_tells_51 : decode cX8_tells 51 = .ok (.aload_n 0, 1) := dk_42 (dk_at dksX8_tells_2 5 rfl rfl)
theorem dX8_tells_52 : decode cX8_tells 52 = .ok (.getfield 91, 3) := dk_180 0 91 (dk_at dksX8_tells_2 6 rfl rfl)
theorem dX8_tells_55 : decode cX8_tells 55 = .ok (.iload 4, 2) := dk_21 4 (dk_at dksX8_tells_2 9 rfl rfl)
theorem dX8_tells_57 : decode cX8_tells 57 = .ok (.baload, 1) := dk_51 (dk_at dksX8_tells_2 11 rfl rfl)
theorem dX8_tells_58 : decode cX8_tells 58 = .ok (.ifCond .eq 62, 3) := dk_153 0 62 (dk_at dksX8_tells_2 12 rfl rfl)
theorem dX8_tells_61 : decode cX8_tells 61 = .ok (.aload_n 0, 1) := dk_42 (dk_at dksX8_tells_2 15 rfl rfl)
theorem dX8_tells_62 : decode cX8_tells 62 = .ok (.aload_n 0, 1) := dk_42 (dk_at dksX8_tells_2 16 rfl rfl)
theorem dX8_tells_63 : decode cX8_tells 63 = .ok (.getfield 95, 3) := dk_180 0 95 (dk_at dksX8_tells_2 17 rfl rfl)
theorem dX8_tells_66 : decode cX8_tells 66 = .ok (.iload 4, 2) := dk_21 4 (dk_at dksX8_tells_2 20 rfl rfl)
theorem dX8_tells_68 : decode cX8_tells 68 = .ok (.iaload, 1) := dk_46 (dk_at dksX8_tells_2 22 rfl rfl)
theorem dX8_tells_69 : decode cX8_tells 69 = .ok (.aload_n 0, 1) := dk_42 (dk_at dksX8_tells_2 23 rfl rfl)
theorem dX8_tells_70 : decode cX8_tells 70 = .ok (.getfield 98, 3) := dk_180 0 98 (dk_at dksX8_tells_3 0 rfl rfl)
theorem dX8_tells_73 : decode cX8_tells 73 = .ok (.iload 4, 2) := dk_21 4 (dk_at dksX8_tells_3 3 rfl rfl)
theorem dX8_tells_75 : decode cX8_tells 75 = .ok (.iaload, 1) := dk_46 (dk_at dksX8_tells_3 5 rfl rfl)
theorem dX8_tells_76 : decode cX8_tells 76 = .ok (.invokevirtual 360, 3) := dk_182 1 104 (dk_at dksX8_tells_3 6 rfl rfl)
theorem dX8_tells_79 : decode cX8_tells 79 = .ok (.istore 5, 2) := dk_54 5 (dk_at dksX8_tells_3 9 rfl rfl)
theorem dX8_tells_81 : decode cX8_tells 81 = .ok (.aload_n 0, 1) := dk_42 (dk_at dksX8_tells_3 11 rfl rfl)
theorem dX8_tells_82 : decode cX8_tells 82 = .ok (.aload_n 0, 1) := dk_42 (dk_at dksX8_tells_3 12 rfl rfl)
theorem dX8_tells_83 : decode cX8_tells 83 = .ok (.getfield 98, 3) := dk_180 0 98 (dk_at dksX8_tells_3 13 rfl rfl)
theorem dX8_tells_86 : decode cX8_tells 86 = .ok (.iload 4, 2) := dk_21 4 (dk_at dksX8_tells_3 16 rfl rfl)
theorem dX8_tells_88 : decode cX8_tells 88 = .ok (.iaload, 1) := dk_46 (dk_at dksX8_tells_3 18 rfl rfl)
theorem dX8_tells_89 : decode cX8_tells 89 = .ok (.aload_n 0, 1) := dk_42 (dk_at dksX8_tells_3 19 rfl rfl)
theorem dX8_tells_90 : decode cX8_tells 90 = .ok (.getfield 101, 3) := dk_180 0 101 (dk_at dksX8_tells_3 20 rfl rfl)
theorem dX8_tells_93 : decode cX8_tells 93 = .ok (.iload 4, 2) := dk_21 4 (dk_at dksX8_tells_4 0 rfl rfl)
theorem dX8_tells_95 : decode cX8_tells 95 = .ok (.iaload, 1) := dk_46 (dk_at dksX8_tells_4 2 rfl rfl)
theorem dX8_tells_96 : decode cX8_tells 96 = .ok (.invokevirtual 360, 3) := dk_182 1 104 (dk_at dksX8_tells_4 3 rfl rfl)
theorem dX8_tells_99 : decode cX8_tells 99 = .ok (.istore 6, 2) := dk_54 6 (dk_at dksX8_tells_4 6 rfl rfl)
theorem dX8_tells_101 : decode cX8_tells 101 = .ok (.aload_n 0, 1) := dk_42 (dk_at dksX8_tells_4 8 rfl rfl)
theorem dX8_tells_102 : decode cX8_tells 102 = .ok (.getfield 337, 3) := dk_180 1 81 (dk_at dksX8_tells_4 9 rfl rfl)
theorem dX8_tells_105 : decode cX8_tells 105 = .ok (.ifCond .eq 5, 3) := dk_153 0 5 (dk_at dksX8_tells_4 12 rfl rfl)
theorem dX8_tells_108 : decode cX8_tells 108 = .ok (.iconst 0, 1) := dk_3 (dk_at dksX8_tells_4 15 rfl rfl)
theorem dX8_tells_109 : decode cX8_tells 109 = .ok (.ireturn, 1) := dk_172 (dk_at dksX8_tells_4 16 rfl rfl)
theorem dX8_tells_110 : decode cX8_tells 110 = .ok (.iload 5, 2) := dk_21 5 (dk_at dksX8_tells_4 17 rfl rfl)
theorem dX8_tells_112 : decode cX8_tells 112 = .ok (.iload 6, 2) := dk_21 6 (dk_at dksX8_tells_4 19 rfl rfl)
theorem dX8_tells_114 : decode cX8_tells 114 = .ok (.if_icmp .lt 6, 3) := dk_161 0 6 (dk_at dksX8_tells_4 21 rfl rfl)
theorem dX8_tells_117 : decode cX8_tells 117 = .ok (.goto 37, 3) := dk_167 0 37 (dk_at dksX8_tells_5 0 rfl rfl)
theorem dX8_tells_120 : decode cX8_tells 120 = .ok (.aload_n 0, 1) := dk_42 (dk_at dksX8_tells_5 3 rfl rfl)
theorem dX8_tells_121 : decode cX8_tells 121 = .ok (.aload_n 0, 1) := dk_42 (dk_at dksX8_tells_5 4 rfl rfl)
theorem dX8_tells_122 : decode cX8_tells 122 = .ok (.getfield 101, 3) := dk_180 0 101 (dk_at dksX8_tells_5 5 rfl rfl)
theorem dX8_tells_125 : decode cX8_tells 125 = .ok (.iload 4, 2) := dk_21 4 (dk_at dksX8_tells_5 8 rfl rfl)
theorem dX8_tells_127 : decode cX8_tells 127 = .ok (.iaload, 1) := dk_46 (dk_at dksX8_tells_5 10 rfl rfl)
theorem dX8_tells_128 : decode cX8_tells 128 = .ok (.aload_n 0, 1) := dk_42 (dk_at dksX8_tells_5 11 rfl rfl)
theorem dX8_tells_129 : decode cX8_tells 129 = .ok (.getfield 104, 3) := dk_180 0 104 (dk_at dksX8_tells_5 12 rfl rfl)
theorem dX8_tells_132 : decode cX8_tells 132 = .ok (.iload 4, 2) := dk_21 4 (dk_at dksX8_tells_5 15 rfl rfl)
theorem dX8_tells_134 : decode cX8_tells 134 = .ok (.iaload, 1) := dk_46 (dk_at dksX8_tells_5 17 rfl rfl)
theorem dX8_tells_135 : decode cX8_tells 135 = .ok (.invokevirtual 360, 3) := dk_182 1 104 (dk_at dksX8_tells_5 18 rfl rfl)
theorem dX8_tells_138 : decode cX8_tells 138 = .ok (.istore 5, 2) := dk_54 5 (dk_at dksX8_tells_5 21 rfl rfl)
theorem dX8_tells_140 : decode cX8_tells 140 = .ok (.aload_n 0, 1) := dk_42 (dk_at dksX8_tells_5 23 rfl rfl)
theorem dX8_tells_141 : decode cX8_tells 141 = .ok (.getfield 337, 3) := dk_180 1 81 (dk_at dksX8_tells_6 0 rfl rfl)
theorem dX8_tells_144 : decode cX8_tells 144 = .ok (.ifCond .eq 7, 3) := dk_153 0 7 (dk_at dksX8_tells_6 3 rfl rfl)
theorem dX8_tells_147 : decode cX8_tells 147 = .ok (.iconst 0, 1) := dk_3 (dk_at dksX8_tells_6 6 rfl rfl)
theorem dX8_tells_148 : decode cX8_tells 148 = .ok (.goto 5, 3) := dk_167 0 5 (dk_at dksX8_tells_6 7 rfl rfl)
theorem dX8_tells_151 : decode cX8_tells 151 = .ok (.iload 5, 2) := dk_21 5 (dk_at dksX8_tells_6 10 rfl rfl)
theorem dX8_tells_153 : decode cX8_tells 153 = .ok (.ireturn, 1) := dk_172 (dk_at dksX8_tells_6 12 rfl rfl)
theorem dX8_tells_154 : decode cX8_tells 154 = .ok (.iinc 4 1, 3) := dk_132 4 1 (dk_at dksX8_tells_6 13 rfl rfl)
theorem dX8_tells_157 : decode cX8_tells 157 = .ok (.goto (-117), 3) := dk_167 255 139 (dk_at dksX8_tells_6 16 rfl rfl)
theorem dX8_tells_160 : decode cX8_tells 160 = .ok (.iconst 0, 1) := dk_3 (dk_at dksX8_tells_6 19 rfl rfl)
theorem dX8_tells_161 : decode cX8_tells 161 = .ok (.ireturn, 1) := dk_172 (dk_at dksX8_tells_6 20 rfl rfl)
abbrev cX8_termOf : ByteArray := prog_19_method_37_code
def yX8_termOf : MethodName := ⟨RX8, "termOf", "(II)I"⟩
def dkwX8_termOf_7 : List UInt8 := [132, 4, 1, 167, 255, 99, 42, 180, 0, 119, 3, 46, 172]
abbrev dktX8_termOf_7 : List UInt8 := dkwX8_termOf_7 ++ []
def dkwX8_termOf_6 : List UInt8 := [167, 0, 22, 21, 5, 7, 160, 0, 11, 21, 6, 21, 7, 104, 167, 0, 8, 21, 6, 21, 7, 108, 79]
abbrev dktX8_termOf_6 : List UInt8 := dkwX8_termOf_6 ++ dktX8_termOf_7
def dkwX8_termOf_5 : List UInt8 := [160, 0, 11, 21, 6, 21, 7, 96, 167, 0, 36, 21, 5, 6, 160, 0, 11, 21, 6, 21, 7, 100]
abbrev dktX8_termOf_5 : List UInt8 := dkwX8_termOf_5 ++ dktX8_termOf_6
def dkwX8_termOf_4 : List UInt8 := [21, 7, 154, 0, 10, 42, 4, 181, 1, 81, 3, 172, 42, 180, 0, 119, 29, 4, 100, 21, 5, 5]
abbrev dktX8_termOf_4 : List UInt8 := dkwX8_termOf_4 ++ dktX8_termOf_5
def dkwX8_termOf_3 : List UInt8 := [180, 0, 119, 29, 4, 100, 46, 54, 6, 42, 180, 0, 119, 29, 46, 54, 7, 21, 5, 8, 160, 0, 15]
abbrev dktX8_termOf_3 : List UInt8 := dkwX8_termOf_3 ++ dktX8_termOf_4
def dkwX8_termOf_2 : List UInt8 := [180, 0, 116, 42, 180, 0, 110, 21, 4, 46, 46, 79, 132, 3, 1, 167, 0, 97, 132, 3, 255, 42]
abbrev dktX8_termOf_2 : List UInt8 := dkwX8_termOf_2 ++ dktX8_termOf_3
def dkwX8_termOf_1 : List UInt8 := [162, 0, 42, 42, 180, 0, 119, 29, 21, 5, 154, 0, 13, 42, 180, 0, 110, 21, 4, 46, 167, 0, 15, 42]
abbrev dktX8_termOf_1 : List UInt8 := dkwX8_termOf_1 ++ dktX8_termOf_2
def dkwX8_termOf_0 : List UInt8 := [3, 62, 27, 54, 4, 21, 4, 28, 162, 0, 157, 42, 180, 0, 107, 21, 4, 46, 54, 5, 21, 5, 5]
abbrev dktX8_termOf_0 : List UInt8 := dkwX8_termOf_0 ++ dktX8_termOf_1
theorem dksX8_termOf_0 : cX8_termOf.data.toList.drop 0 = dktX8_termOf_0 := by decide +kernel
theorem dksX8_termOf_1 : cX8_termOf.data.toList.drop 23 = dktX8_termOf_1 := dk_seg dksX8_termOf_0 23 rfl rfl
theorem dksX8_termOf_2 : cX8_termOf.data.toList.drop 47 = dktX8_termOf_2 := dk_seg dksX8_termOf_1 24 rfl rfl
theorem dksX8_termOf_3 : cX8_termOf.data.toList.drop 69 = dktX8_termOf_3 := dk_seg dksX8_termOf_2 22 rfl rfl
theorem dksX8_termOf_4 : cX8_termOf.data.toList.drop 92 = dktX8_termOf_4 := dk_seg dksX8_termOf_3 23 rfl rfl
theorem dksX8_termOf_5 : cX8_termOf.data.toList.drop 114 = dktX8_termOf_5 := dk_seg dksX8_termOf_4 22 rfl rfl
theorem dksX8_termOf_6 : cX8_termOf.data.toList.drop 136 = dktX8_termOf_6 := dk_seg dksX8_termOf_5 22 rfl rfl
theorem dksX8_termOf_7 : cX8_termOf.data.toList.drop 159 = dktX8_termOf_7 := dk_seg dksX8_termOf_6 23 rfl rfl
theorem dX8_termOf_0 : decode cX8_termOf 0 = .ok (.iconst 0, 1) := dk_3 (dk_at dksX8_termOf_0 0 rfl rfl)
theorem dX8_termOf_1 : decode cX8_termOf 1 = .ok (.istore_n 3, 1) := dk_62 (dk_at dksX8_termOf_0 1 rfl rfl)
theorem dX8_termOf_2 : decode cX8_termOf 2 = .ok (.iload_n 1, 1) := dk_27 (dk_at dksX8_termOf_0 2 rfl rfl)
theorem dX8_termOf_3 : decode cX8_termOf 3 = .ok (.istore 4, 2) := dk_54 4 (dk_at dksX8_termOf_0 3 rfl rfl)
theorem dX8_termOf_5 : decode cX8_termOf 5 = .ok (.iload 4, 2) := dk_21 4 (dk_at dksX8_termOf_0 5 rfl rfl)
theorem dX8_termOf_7 : decode cX8_termOf 7 = .ok (.iload_n 2, 1) := dk_28 (dk_at dksX8_termOf_0 7 rfl rfl)
theorem dX8_termOf_8 : decode cX8_termOf 8 = .ok (.if_icmp .ge 157, 3) := dk_162 0 157 (dk_at dksX8_termOf_0 8 rfl rfl)
theorem dX8_termOf_11 : decode cX8_termOf 11 = .ok (.aload_n 0, 1) := dk_42 (dk_at dksX8_termOf_0 11 rfl rfl)
theorem dX8_termOf_12 : decode cX8_termOf 12 = .ok (.getfield 107, 3) := dk_180 0 107 (dk_at dksX8_termOf_0 12 rfl rfl)
theorem dX8_termOf_15 : decode cX8_termOf 15 = .ok (.iload 4, 2) := dk_21 4 (dk_at dksX8_termOf_0 15 rfl rfl)
theorem dX8_termOf_17 : decode cX8_termOf 17 = .ok (.iaload, 1) := dk_46 (dk_at dksX8_termOf_0 17 rfl rfl)
theorem dX8_termOf_18 : decode cX8_termOf 18 = .ok (.istore 5, 2) := dk_54 5 (dk_at dksX8_termOf_0 18 rfl rfl)
theorem dX8_termOf_20 : decode cX8_termOf 20 = .ok (.iload 5, 2) := dk_21 5 (dk_at dksX8_termOf_0 20 rfl rfl)
theorem dX8_termOf_22 : decode cX8_termOf 22 = .ok (.iconst 2, 1) := dk_5 (dk_at dksX8_termOf_0 22 rfl rfl)
theorem dX8_termOf_23 : decode cX8_termOf 23 = .ok (.if_icmp .ge 42, 3) := dk_162 0 42 (dk_at dksX8_termOf_1 0 rfl rfl)
theorem dX8_termOf_26 : decode cX8_termOf 26 = .ok (.aload_n 0, 1) := dk_42 (dk_at dksX8_termOf_1 3 rfl rfl)
theorem dX8_termOf_27 : decode cX8_termOf 27 = .ok (.getfield 119, 3) := dk_180 0 119 (dk_at dksX8_termOf_1 4 rfl rfl)
theorem dX8_termOf_30 : decode cX8_termOf 30 = .ok (.iload_n 3, 1) := dk_29 (dk_at dksX8_termOf_1 7 rfl rfl)
theorem dX8_termOf_31 : decode cX8_termOf 31 = .ok (.iload 5, 2) := dk_21 5 (dk_at dksX8_termOf_1 8 rfl rfl)
theorem dX8_termOf_33 : decode cX8_termOf 33 = .ok (.ifCond .ne 13, 3) := dk_154 0 13 (dk_at dksX8_termOf_1 10 rfl rfl)
theorem dX8_termOf_36 : decode cX8_termOf 36 = .ok (.aload_n 0, 1) := dk_42 (dk_at dksX8_termOf_1 13 rfl rfl)
theorem dX8_termOf_37 : decode cX8_termOf 37 = .ok (.getfield 110, 3) := dk_180 0 110 (dk_at dksX8_termOf_1 14 rfl rfl)
theorem dX8_termOf_40 : decode cX8_termOf 40 = .ok (.iload 4, 2) := dk_21 4 (dk_at dksX8_termOf_1 17 rfl rfl)
theorem dX8_termOf_42 : decode cX8_termOf 42 = .ok (.iaload, 1) := dk_46 (dk_at dksX8_termOf_1 19 rfl rfl)
theorem dX8_termOf_43 : decode cX8_termOf 43 = .ok (.goto 15, 3) := dk_167 0 15 (dk_at dksX8_termOf_1 20 rfl rfl)
theorem dX8_termOf_46 : decode cX8_termOf 46 = .ok (.aload_n 0, 1) := dk_42 (dk_at dksX8_termOf_1 23 rfl rfl)
theorem dX8_termOf_47 : decode cX8_termOf 47 = .ok (.getfield 116, 3) := dk_180 0 116 (dk_at dksX8_termOf_2 0 rfl rfl)
theorem dX8_termOf_50 : decode cX8_termOf 50 = .ok (.aload_n 0, 1) := dk_42 (dk_at dksX8_termOf_2 3 rfl rfl)
theorem dX8_termOf_51 : decode cX8_termOf 51 = .ok (.getfield 110, 3) := dk_180 0 110 (dk_at dksX8_termOf_2 4 rfl rfl)
theorem dX8_termOf_54 : decode cX8_termOf 54 = .ok (.iload 4, 2) := dk_21 4 (dk_at dksX8_termOf_2 7 rfl rfl)
theorem dX8_termOf_56 : decode cX8_termOf 56 = .ok (.iaload, 1) := dk_46 (dk_at dksX8_termOf_2 9 rfl rfl)
theorem dX8_termOf_57 : decode cX8_termOf 57 = .ok (.iaload, 1) := dk_46 (dk_at dksX8_termOf_2 10 rfl rfl)
theorem dX8_termOf_58 : decode cX8_termOf 58 = .ok (.iastore, 1) := dk_79 (dk_at dksX8_termOf_2 11 rfl rfl)
theorem dX8_termOf_59 : decode cX8_termOf 59 = .ok (.iinc 3 1, 3) := dk_132 3 1 (dk_at dksX8_termOf_2 12 rfl rfl)
theorem dX8_termOf_62 : decode cX8_termOf 62 = .ok (.goto 97, 3) := dk_167 0 97 (dk_at dksX8_termOf_2 15 rfl rfl)
theorem dX8_termOf_65 : decode cX8_termOf 65 = .ok (.iinc 3 (-1), 3) := dk_132 3 255 (dk_at dksX8_termOf_2 18 rfl rfl)
theorem dX8_termOf_68 : decode cX8_termOf 68 = .ok (.aload_n 0, 1) := dk_42 (dk_at dksX8_termOf_2 21 rfl rfl)
theorem dX8_termOf_69 : decode cX8_termOf 69 = .ok (.getfield 119, 3) := dk_180 0 119 (dk_at dksX8_termOf_3 0 rfl rfl)
theorem dX8_termOf_72 : decode cX8_termOf 72 = .ok (.iload_n 3, 1) := dk_29 (dk_at dksX8_termOf_3 3 rfl rfl)
theorem dX8_termOf_73 : decode cX8_termOf 73 = .ok (.iconst 1, 1) := dk_4 (dk_at dksX8_termOf_3 4 rfl rfl)
theorem dX8_termOf_74 : decode cX8_termOf 74 = .ok (.isub, 1) := dk_100 (dk_at dksX8_termOf_3 5 rfl rfl)
theorem dX8_termOf_75 : decode cX8_termOf 75 = .ok (.iaload, 1) := dk_46 (dk_at dksX8_termOf_3 6 rfl rfl)
theorem dX8_termOf_76 : decode cX8_termOf 76 = .ok (.istore 6, 2) := dk_54 6 (dk_at dksX8_termOf_3 7 rfl rfl)
theorem dX8_termOf_78 : decode cX8_termOf 78 = .ok (.aload_n 0, 1) := dk_42 (dk_at dksX8_termOf_3 9 rfl rfl)
theorem dX8_termOf_79 : decode cX8_termOf 79 = .ok (.getfield 119, 3) := dk_180 0 119 (dk_at dksX8_termOf_3 10 rfl rfl)
theorem dX8_termOf_82 : decode cX8_termOf 82 = .ok (.iload_n 3, 1) := dk_29 (dk_at dksX8_termOf_3 13 rfl rfl)
theorem dX8_termOf_83 : decode cX8_termOf 83 = .ok (.iaload, 1) := dk_46 (dk_at dksX8_termOf_3 14 rfl rfl)
theorem dX8_termOf_84 : decode cX8_termOf 84 = .ok (.istore 7, 2) := dk_54 7 (dk_at dksX8_termOf_3 15 rfl rfl)
theorem dX8_termOf_86 : decode cX8_termOf 86 = .ok (.iload 5, 2) := dk_21 5 (dk_at dksX8_termOf_3 17 rfl rfl)
theorem dX8_termOf_88 : decode cX8_termOf 88 = .ok (.iconst 5, 1) := dk_8 (dk_at dksX8_termOf_3 19 rfl rfl)
theorem dX8_termOf_89 : decode cX8_termOf 89 = .ok (.if_icmp .ne 15, 3) := dk_160 0 15 (dk_at dksX8_termOf_3 20 rfl rfl)
theorem dX8_termOf_92 : decode cX8_termOf 92 = .ok (.iload 7, 2) := dk_21 7 (dk_at dksX8_termOf_4 0 rfl rfl)
theorem dX8_termOf_94 : decode cX8_termOf 94 = .ok (.ifCond .ne 10, 3) := dk_154 0 10 (dk_at dksX8_termOf_4 2 rfl rfl)
theorem dX8_termOf_97 : decode cX8_termOf 97 = .ok (.aload_n 0, 1) := dk_42 (dk_at dksX8_termOf_4 5 rfl rfl)
theorem dX8_termOf_98 : decode cX8_termOf 98 = .ok (.iconst 1, 1) := dk_4 (dk_at dksX8_termOf_4 6 rfl rfl)
theorem dX8_termOf_99 : decode cX8_termOf 99 = .ok (.putfield 337, 3) := dk_181 1 81 (dk_at dksX8_termOf_4 7 rfl rfl)
theorem dX8_termOf_102 : decode cX8_termOf 102 = .ok (.iconst 0, 1) := dk_3 (dk_at dksX8_termOf_4 10 rfl rfl)
theorem dX8_termOf_103 : decode cX8_termOf 103 = .ok (.ireturn, 1) := dk_172 (dk_at dksX8_termOf_4 11 rfl rfl)
theorem dX8_termOf_104 : decode cX8_termOf 104 = .ok (.aload_n 0, 1) := dk_42 (dk_at dksX8_termOf_4 12 rfl rfl)
theorem dX8_termOf_105 : decode cX8_termOf 105 = .ok (.getfield 119, 3) := dk_180 0 119 (dk_at dksX8_termOf_4 13 rfl rfl)
theorem dX8_termOf_108 : decode cX8_termOf 108 = .ok (.iload_n 3, 1) := dk_29 (dk_at dksX8_termOf_4 16 rfl rfl)
theorem dX8_termOf_109 : decode cX8_termOf 109 = .ok (.iconst 1, 1) := dk_4 (dk_at dksX8_termOf_4 17 rfl rfl)
theorem dX8_termOf_110 : decode cX8_termOf 110 = .ok (.isub, 1) := dk_100 (dk_at dksX8_termOf_4 18 rfl rfl)
theorem dX8_termOf_111 : decode cX8_termOf 111 = .ok (.iload 5, 2) := dk_21 5 (dk_at dksX8_termOf_4 19 rfl rfl)
theorem dX8_termOf_113 : decode cX8_termOf 113 = .ok (.iconst 2, 1) := dk_5 (dk_at dksX8_termOf_4 21 rfl rfl)
theorem dX8_termOf_114 : decode cX8_termOf 114 = .ok (.if_icmp .ne 11, 3) := dk_160 0 11 (dk_at dksX8_termOf_5 0 rfl rfl)
theorem dX8_termOf_117 : decode cX8_termOf 117 = .ok (.iload 6, 2) := dk_21 6 (dk_at dksX8_termOf_5 3 rfl rfl)
theorem dX8_termOf_119 : decode cX8_termOf 119 = .ok (.iload 7, 2) := dk_21 7 (dk_at dksX8_termOf_5 5 rfl rfl)
theorem dX8_termOf_121 : decode cX8_termOf 121 = .ok (.iadd, 1) := dk_96 (dk_at dksX8_termOf_5 7 rfl rfl)
theorem dX8_termOf_122 : decode cX8_termOf 122 = .ok (.goto 36, 3) := dk_167 0 36 (dk_at dksX8_termOf_5 8 rfl rfl)
theorem dX8_termOf_125 : decode cX8_termOf 125 = .ok (.iload 5, 2) := dk_21 5 (dk_at dksX8_termOf_5 11 rfl rfl)
theorem dX8_termOf_127 : decode cX8_termOf 127 = .ok (.iconst 3, 1) := dk_6 (dk_at dksX8_termOf_5 13 rfl rfl)
theorem dX8_termOf_128 : decode cX8_termOf 128 = .ok (.if_icmp .ne 11, 3) := dk_160 0 11 (dk_at dksX8_termOf_5 14 rfl rfl)
theorem dX8_termOf_131 : decode cX8_termOf 131 = .ok (.iload 6, 2) := dk_21 6 (dk_at dksX8_termOf_5 17 rfl rfl)
theorem dX8_termOf_133 : decode cX8_termOf 133 = .ok (.iload 7, 2) := dk_21 7 (dk_at dksX8_termOf_5 19 rfl rfl)
theorem dX8_termOf_135 : decode cX8_termOf 135 = .ok (.isub, 1) := dk_100 (dk_at dksX8_termOf_5 21 rfl rfl)
theorem dX8_termOf_136 : decode cX8_termOf 136 = .ok (.goto 22, 3) := dk_167 0 22 (dk_at dksX8_termOf_6 0 rfl rfl)
theorem dX8_termOf_139 : decode cX8_termOf 139 = .ok (.iload 5, 2) := dk_21 5 (dk_at dksX8_termOf_6 3 rfl rfl)
theorem dX8_termOf_141 : decode cX8_termOf 141 = .ok (.iconst 4, 1) := dk_7 (dk_at dksX8_termOf_6 5 rfl rfl)
theorem dX8_termOf_142 : decode cX8_termOf 142 = .ok (.if_icmp .ne 11, 3) := dk_160 0 11 (dk_at dksX8_termOf_6 6 rfl rfl)
theorem dX8_termOf_145 : decode cX8_termOf 145 = .ok (.iload 6, 2) := dk_21 6 (dk_at dksX8_termOf_6 9 rfl rfl)
theorem dX8_termOf_147 : decode cX8_termOf 147 = .ok (.iload 7, 2) := dk_21 7 (dk_at dksX8_termOf_6 11 rfl rfl)
theorem dX8_termOf_149 : decode cX8_termOf 149 = .ok (.imul, 1) := dk_104 (dk_at dksX8_termOf_6 13 rfl rfl)
theorem dX8_termOf_150 : decode cX8_termOf 150 = .ok (.goto 8, 3) := dk_167 0 8 (dk_at dksX8_termOf_6 14 rfl rfl)
theorem dX8_termOf_153 : decode cX8_termOf 153 = .ok (.iload 6, 2) := dk_21 6 (dk_at dksX8_termOf_6 17 rfl rfl)
theorem dX8_termOf_155 : decode cX8_termOf 155 = .ok (.iload 7, 2) := dk_21 7 (dk_at dksX8_termOf_6 19 rfl rfl)
theorem dX8_termOf_157 : decode cX8_termOf 157 = .ok (.idiv, 1) := dk_108 (dk_at dksX8_termOf_6 21 rfl rfl)
theorem dX8_termOf_158 : decode cX8_termOf 158 = .ok (.iastore, 1) := dk_79 (dk_at dksX8_termOf_6 22 rfl rfl)
theorem dX8_termOf_159 : decode cX8_termOf 159 = .ok (.iinc 4 1, 3) := dk_132 4 1 (dk_at dksX8_termOf_7 0 rfl rfl)
theorem dX8_termOf_162 : decode cX8_termOf 162 = .ok (.goto (-157), 3) := dk_167 255 99 (dk_at dksX8_termOf_7 3 rfl rfl)
theorem dX8_termOf_165 : decode cX8_termOf 165 = .ok (.aload_n 0, 1) := dk_42 (dk_at dksX8_termOf_7 6 rfl rfl)
theorem dX8_termOf_166 : decode cX8_termOf 166 = .ok (.getfield 119, 3) := dk_180 0 119 (dk_at dksX8_termOf_7 7 rfl rfl)
theorem dX8_termOf_169 : decode cX8_termOf 169 = .ok (.iconst 0, 1) := dk_3 (dk_at dksX8_termOf_7 10 rfl rfl)
theorem dX8_termOf_170 : decode cX8_termOf 170 = .ok (.iaload, 1) := dk_46 (dk_at dksX8_termOf_7 11 rfl rfl)
theorem dX8_termOf_171 : decode cX8_termOf 171 = .ok (.ireturn, 1) := dk_172 (dk_at dksX8_termOf_7 12 rfl rfl)
abbrev cX8_keepsRows : ByteArray := prog_19_method_45_code
def yX8_keepsRows : MethodName := ⟨RX8, "keepsRows", "(I)V"⟩
def dkwX8_keepsRows_3 : List UInt8 := [180, 0, 137, 28, 46, 79, 132, 2, 1, 167, 255, 223, 177]
abbrev dktX8_keepsRows_3 : List UInt8 := dkwX8_keepsRows_3 ++ []
def dkwX8_keepsRows_2 : List UInt8 := [16, 8, 162, 0, 33, 42, 180, 0, 125, 28, 42, 180, 0, 134, 28, 46, 79, 42, 180, 0, 128, 28, 42]
abbrev dktX8_keepsRows_2 : List UInt8 := dkwX8_keepsRows_2 ++ dktX8_keepsRows_3
def dkwX8_keepsRows_1 : List UInt8 := [42, 180, 0, 131, 28, 46, 79, 132, 2, 1, 167, 255, 227, 42, 42, 180, 1, 92, 181, 1, 89, 3, 61, 28]
abbrev dktX8_keepsRows_1 : List UInt8 := dkwX8_keepsRows_1 ++ dktX8_keepsRows_2
def dkwX8_keepsRows_0 : List UInt8 := [16, 36, 27, 104, 61, 28, 16, 36, 42, 180, 1, 92, 104, 16, 36, 96, 162, 0, 21, 42, 180, 0, 122, 28]
abbrev dktX8_keepsRows_0 : List UInt8 := dkwX8_keepsRows_0 ++ dktX8_keepsRows_1
theorem dksX8_keepsRows_0 : cX8_keepsRows.data.toList.drop 0 = dktX8_keepsRows_0 := by decide +kernel
theorem dksX8_keepsRows_1 : cX8_keepsRows.data.toList.drop 24 = dktX8_keepsRows_1 := dk_seg dksX8_keepsRows_0 24 rfl rfl
theorem dksX8_keepsRows_2 : cX8_keepsRows.data.toList.drop 48 = dktX8_keepsRows_2 := dk_seg dksX8_keepsRows_1 24 rfl rfl
theorem dksX8_keepsRows_3 : cX8_keepsRows.data.toList.drop 71 = dktX8_keepsRows_3 := dk_seg dksX8_keepsRows_2 23 rfl rfl
theorem dX8_keepsRows_0 : decode cX8_keepsRows 0 = .ok (.bipush 36, 2) := dk_16 36 (dk_at dksX8_keepsRows_0 0 rfl rfl)
theorem dX8_keepsRows_2 : decode cX8_keepsRows 2 = .ok (.iload_n 1, 1) := dk_27 (dk_at dksX8_keepsRows_0 2 rfl rfl)
theorem dX8_keepsRows_3 : decode cX8_keepsRows 3 = .ok (.imul, 1) := dk_104 (dk_at dksX8_keepsRows_0 3 rfl rfl)
theorem dX8_keepsRows_4 : decode cX8_keepsRows 4 = .ok (.istore_n 2, 1) := dk_61 (dk_at dksX8_keepsRows_0 4 rfl rfl)
theorem dX8_keepsRows_5 : decode cX8_keepsRows 5 = .ok (.iload_n 2, 1) := dk_28 (dk_at dksX8_keepsRows_0 5 rfl rfl)
theorem dX8_keepsRows_6 : decode cX8_keepsRows 6 = .ok (.bipush 36, 2) := dk_16 36 (dk_at dksX8_keepsRows_0 6 rfl rfl)
theorem dX8_keepsRows_8 : decode cX8_keepsRows 8 = .ok (.aload_n 0, 1) := dk_42 (dk_at dksX8_keepsRows_0 8 rfl rfl)
theorem dX8_keepsRows_9 : decode cX8_keepsRows 9 = .ok (.getfield 348, 3) := dk_180 1 92 (dk_at dksX8_keepsRows_0 9 rfl rfl)
theorem dX8_keepsRows_12 : decode cX8_keepsRows 12 = .ok (.imul, 1) := dk_104 (dk_at dksX8_keepsRows_0 12 rfl rfl)
theorem dX8_keepsRows_13 : decode cX8_keepsRows 13 = .ok (.bipush 36, 2) := dk_16 36 (dk_at dksX8_keepsRows_0 13 rfl rfl)
theorem dX8_keepsRows_15 : decode cX8_keepsRows 15 = .ok (.iadd, 1) := dk_96 (dk_at dksX8_keepsRows_0 15 rfl rfl)
theorem dX8_keepsRows_16 : decode cX8_keepsRows 16 = .ok (.if_icmp .ge 21, 3) := dk_162 0 21 (dk_at dksX8_keepsRows_0 16 rfl rfl)
theorem dX8_keepsRows_19 : decode cX8_keepsRows 19 = .ok (.aload_n 0, 1) := dk_42 (dk_at dksX8_keepsRows_0 19 rfl rfl)
theorem dX8_keepsRows_20 : decode cX8_keepsRows 20 = .ok (.getfield 122, 3) := dk_180 0 122 (dk_at dksX8_keepsRows_0 20 rfl rfl)
theorem dX8_keepsRows_23 : decode cX8_keepsRows 23 = .ok (.iload_n 2, 1) := dk_28 (dk_at dksX8_keepsRows_0 23 rfl rfl)
theorem dX8_keepsRows_24 : decode cX8_keepsRows 24 = .ok (.aload_n 0, 1) := dk_42 (dk_at dksX8_keepsRows_1 0 rfl rfl)
theorem dX8_keepsRows_25 : decode cX8_keepsRows 25 = .ok (.getfield 131, 3) := dk_180 0 131 (dk_at dksX8_keepsRows_1 1 rfl rfl)
theorem dX8_keepsRows_28 : decode cX8_keepsRows 28 = .ok (.iload_n 2, 1) := dk_28 (dk_at dksX8_keepsRows_1 4 rfl rfl)
theorem dX8_keepsRows_29 : decode cX8_keepsRows 29 = .ok (.iaload, 1) := dk_46 (dk_at dksX8_keepsRows_1 5 rfl rfl)
theorem dX8_keepsRows_30 : decode cX8_keepsRows 30 = .ok (.iastore, 1) := dk_79 (dk_at dksX8_keepsRows_1 6 rfl rfl)
theorem dX8_keepsRows_31 : decode cX8_keepsRows 31 = .ok (.iinc 2 1, 3) := dk_132 2 1 (dk_at dksX8_keepsRows_1 7 rfl rfl)
theorem dX8_keepsRows_34 : decode cX8_keepsRows 34 = .ok (.goto (-29), 3) := dk_167 255 227 (dk_at dksX8_keepsRows_1 10 rfl rfl)
theorem dX8_keepsRows_37 : decode cX8_keepsRows 37 = .ok (.aload_n 0, 1) := dk_42 (dk_at dksX8_keepsRows_1 13 rfl rfl)
theorem dX8_keepsRows_38 : decode cX8_keepsRows 38 = .ok (.aload_n 0, 1) := dk_42 (dk_at dksX8_keepsRows_1 14 rfl rfl)
theorem dX8_keepsRows_39 : decode cX8_keepsRows 39 = .ok (.getfield 348, 3) := dk_180 1 92 (dk_at dksX8_keepsRows_1 15 rfl rfl)
theorem dX8_keepsRows_42 : decode cX8_keepsRows 42 = .ok (.putfield 345, 3) := dk_181 1 89 (dk_at dksX8_keepsRows_1 18 rfl rfl)
theorem dX8_keepsRows_45 : decode cX8_keepsRows 45 = .ok (.iconst 0, 1) := dk_3 (dk_at dksX8_keepsRows_1 21 rfl rfl)
theorem dX8_keepsRows_46 : decode cX8_keepsRows 46 = .ok (.istore_n 2, 1) := dk_61 (dk_at dksX8_keepsRows_1 22 rfl rfl)
theorem dX8_keepsRows_47 : decode cX8_keepsRows 47 = .ok (.iload_n 2, 1) := dk_28 (dk_at dksX8_keepsRows_1 23 rfl rfl)
theorem dX8_keepsRows_48 : decode cX8_keepsRows 48 = .ok (.bipush 8, 2) := dk_16 8 (dk_at dksX8_keepsRows_2 0 rfl rfl)
theorem dX8_keepsRows_50 : decode cX8_keepsRows 50 = .ok (.if_icmp .ge 33, 3) := dk_162 0 33 (dk_at dksX8_keepsRows_2 2 rfl rfl)
theorem dX8_keepsRows_53 : decode cX8_keepsRows 53 = .ok (.aload_n 0, 1) := dk_42 (dk_at dksX8_keepsRows_2 5 rfl rfl)
theorem dX8_keepsRows_54 : decode cX8_keepsRows 54 = .ok (.getfield 125, 3) := dk_180 0 125 (dk_at dksX8_keepsRows_2 6 rfl rfl)
theorem dX8_keepsRows_57 : decode cX8_keepsRows 57 = .ok (.iload_n 2, 1) := dk_28 (dk_at dksX8_keepsRows_2 9 rfl rfl)
theorem dX8_keepsRows_58 : decode cX8_keepsRows 58 = .ok (.aload_n 0, 1) := dk_42 (dk_at dksX8_keepsRows_2 10 rfl rfl)
theorem dX8_keepsRows_59 : decode cX8_keepsRows 59 = .ok (.getfield 134, 3) := dk_180 0 134 (dk_at dksX8_keepsRows_2 11 rfl rfl)
theorem dX8_keepsRows_62 : decode cX8_keepsRows 62 = .ok (.iload_n 2, 1) := dk_28 (dk_at dksX8_keepsRows_2 14 rfl rfl)
theorem dX8_keepsRows_63 : decode cX8_keepsRows 63 = .ok (.iaload, 1) := dk_46 (dk_at dksX8_keepsRows_2 15 rfl rfl)
theorem dX8_keepsRows_64 : decode cX8_keepsRows 64 = .ok (.iastore, 1) := dk_79 (dk_at dksX8_keepsRows_2 16 rfl rfl)
theorem dX8_keepsRows_65 : decode cX8_keepsRows 65 = .ok (.aload_n 0, 1) := dk_42 (dk_at dksX8_keepsRows_2 17 rfl rfl)
theorem dX8_keepsRows_66 : decode cX8_keepsRows 66 = .ok (.getfield 128, 3) := dk_180 0 128 (dk_at dksX8_keepsRows_2 18 rfl rfl)
theorem dX8_keepsRows_69 : decode cX8_keepsRows 69 = .ok (.iload_n 2, 1) := dk_28 (dk_at dksX8_keepsRows_2 21 rfl rfl)
theorem dX8_keepsRows_70 : decode cX8_keepsRows 70 = .ok (.aload_n 0, 1) := dk_42 (dk_at dksX8_keepsRows_2 22 rfl rfl)
theorem dX8_keepsRows_71 : decode cX8_keepsRows 71 = .ok (.getfield 137, 3) := dk_180 0 137 (dk_at dksX8_keepsRows_3 0 rfl rfl)
theorem dX8_keepsRows_74 : decode cX8_keepsRows 74 = .ok (.iload_n 2, 1) := dk_28 (dk_at dksX8_keepsRows_3 3 rfl rfl)
theorem dX8_keepsRows_75 : decode cX8_keepsRows 75 = .ok (.iaload, 1) := dk_46 (dk_at dksX8_keepsRows_3 4 rfl rfl)
theorem dX8_keepsRows_76 : decode cX8_keepsRows 76 = .ok (.iastore, 1) := dk_79 (dk_at dksX8_keepsRows_3 5 rfl rfl)
theorem dX8_keepsRows_77 : decode cX8_keepsRows 77 = .ok (.iinc 2 1, 3) := dk_132 2 1 (dk_at dksX8_keepsRows_3 6 rfl rfl)
theorem dX8_keepsRows_80 : decode cX8_keepsRows 80 = .ok (.goto (-33), 3) := dk_167 255 223 (dk_at dksX8_keepsRows_3 9 rfl rfl)
theorem dX8_keepsRows_83 : decode cX8_keepsRows 83 = .ok (.return_, 1) := dk_177 (dk_at dksX8_keepsRows_3 12 rfl rfl)
abbrev cX8_feed : ByteArray := prog_19_method_3_code
def yX8_feed : MethodName := ⟨RX8, "feed", "(IIIII)I"⟩
def dkwX8_feed_2 : List UInt8 := [172]
abbrev dktX8_feed_2 : List UInt8 := dkwX8_feed_2 ++ []
def dkwX8_feed_1 : List UInt8 := [182, 0, 193, 42, 29, 182, 0, 193, 42, 21, 4, 182, 0, 193, 42, 21, 5, 182, 0, 193, 42, 180, 0, 190]
abbrev dktX8_feed_1 : List UInt8 := dkwX8_feed_1 ++ dktX8_feed_2
def dkwX8_feed_0 : List UInt8 := [42, 180, 0, 190, 16, 20, 96, 17, 7, 208, 164, 0, 5, 2, 172, 42, 27, 182, 0, 193, 42, 28]
abbrev dktX8_feed_0 : List UInt8 := dkwX8_feed_0 ++ dktX8_feed_1
theorem dksX8_feed_0 : cX8_feed.data.toList.drop 0 = dktX8_feed_0 := by decide +kernel
theorem dksX8_feed_1 : cX8_feed.data.toList.drop 22 = dktX8_feed_1 := dk_seg dksX8_feed_0 22 rfl rfl
theorem dksX8_feed_2 : cX8_feed.data.toList.drop 46 = dktX8_feed_2 := dk_seg dksX8_feed_1 24 rfl rfl
theorem dX8_feed_0 : decode cX8_feed 0 = .ok (.aload_n 0, 1) := dk_42 (dk_at dksX8_feed_0 0 rfl rfl)
theorem dX8_feed_1 : decode cX8_feed 1 = .ok (.getfield 190, 3) := dk_180 0 190 (dk_at dksX8_feed_0 1 rfl rfl)
theorem dX8_feed_4 : decode cX8_feed 4 = .ok (.bipush 20, 2) := dk_16 20 (dk_at dksX8_feed_0 4 rfl rfl)
theorem dX8_feed_6 : decode cX8_feed 6 = .ok (.iadd, 1) := dk_96 (dk_at dksX8_feed_0 6 rfl rfl)
theorem dX8_feed_7 : decode cX8_feed 7 = .ok (.sipush 2000, 3) := dk_17 7 208 (dk_at dksX8_feed_0 7 rfl rfl)
theorem dX8_feed_10 : decode cX8_feed 10 = .ok (.if_icmp .le 5, 3) := dk_164 0 5 (dk_at dksX8_feed_0 10 rfl rfl)
theorem dX8_feed_13 : decode cX8_feed 13 = .ok (.iconst (-1), 1) := dk_2 (dk_at dksX8_feed_0 13 rfl rfl)
theorem dX8_feed_14 : decode cX8_feed 14 = .ok (.ireturn, 1) := dk_172 (dk_at dksX8_feed_0 14 rfl rfl)
theorem dX8_feed_15 : decode cX8_feed 15 = .ok (.aload_n 0, 1) := dk_42 (dk_at dksX8_feed_0 15 rfl rfl)
theorem dX8_feed_16 : decode cX8_feed 16 = .ok (.iload_n 1, 1) := dk_27 (dk_at dksX8_feed_0 16 rfl rfl)
theorem dX8_feed_17 : decode cX8_feed 17 = .ok (.invokevirtual 193, 3) := dk_182 0 193 (dk_at dksX8_feed_0 17 rfl rfl)
theorem dX8_feed_20 : decode cX8_feed 20 = .ok (.aload_n 0, 1) := dk_42 (dk_at dksX8_feed_0 20 rfl rfl)
theorem dX8_feed_21 : decode cX8_feed 21 = .ok (.iload_n 2, 1) := dk_28 (dk_at dksX8_feed_0 21 rfl rfl)
theorem dX8_feed_22 : decode cX8_feed 22 = .ok (.invokevirtual 193, 3) := dk_182 0 193 (dk_at dksX8_feed_1 0 rfl rfl)
theorem dX8_feed_25 : decode cX8_feed 25 = .ok (.aload_n 0, 1) := dk_42 (dk_at dksX8_feed_1 3 rfl rfl)
theorem dX8_feed_26 : decode cX8_feed 26 = .ok (.iload_n 3, 1) := dk_29 (dk_at dksX8_feed_1 4 rfl rfl)
theorem dX8_feed_27 : decode cX8_feed 27 = .ok (.invokevirtual 193, 3) := dk_182 0 193 (dk_at dksX8_feed_1 5 rfl rfl)
theorem dX8_feed_30 : decode cX8_feed 30 = .ok (.aload_n 0, 1) := dk_42 (dk_at dksX8_feed_1 8 rfl rfl)
theorem dX8_feed_31 : decode cX8_feed 31 = .ok (.iload 4, 2) := dk_21 4 (dk_at dksX8_feed_1 9 rfl rfl)
theorem dX8_feed_33 : decode cX8_feed 33 = .ok (.invokevirtual 193, 3) := dk_182 0 193 (dk_at dksX8_feed_1 11 rfl rfl)
theorem dX8_feed_36 : decode cX8_feed 36 = .ok (.aload_n 0, 1) := dk_42 (dk_at dksX8_feed_1 14 rfl rfl)
theorem dX8_feed_37 : decode cX8_feed 37 = .ok (.iload 5, 2) := dk_21 5 (dk_at dksX8_feed_1 15 rfl rfl)
theorem dX8_feed_39 : decode cX8_feed 39 = .ok (.invokevirtual 193, 3) := dk_182 0 193 (dk_at dksX8_feed_1 17 rfl rfl)
theorem dX8_feed_42 : decode cX8_feed 42 = .ok (.aload_n 0, 1) := dk_42 (dk_at dksX8_feed_1 20 rfl rfl)
theorem dX8_feed_43 : decode cX8_feed 43 = .ok (.getfield 190, 3) := dk_180 0 190 (dk_at dksX8_feed_1 21 rfl rfl)
theorem dX8_feed_46 : decode cX8_feed 46 = .ok (.ireturn, 1) := dk_172 (dk_at dksX8_feed_2 0 rfl rfl)
abbrev cX8_put : ByteArray := prog_19_method_4_code
def yX8_put : MethodName := ⟨RX8, "put", "(I)V"⟩
def dkwX8_put_1 : List UInt8 := [180, 0, 190, 4, 96, 181, 0, 190, 132, 2, 248, 167, 255, 226, 177]
abbrev dktX8_put_1 : List UInt8 := dkwX8_put_1 ++ []
def dkwX8_put_0 : List UInt8 := [16, 24, 61, 28, 155, 0, 32, 42, 180, 0, 13, 42, 180, 0, 190, 27, 28, 122, 145, 84, 42, 89]
abbrev dktX8_put_0 : List UInt8 := dkwX8_put_0 ++ dktX8_put_1
theorem dksX8_put_0 : cX8_put.data.toList.drop 0 = dktX8_put_0 := by decide +kernel
theorem dksX8_put_1 : cX8_put.data.toList.drop 22 = dktX8_put_1 := dk_seg dksX8_put_0 22 rfl rfl
theorem dX8_put_0 : decode cX8_put 0 = .ok (.bipush 24, 2) := dk_16 24 (dk_at dksX8_put_0 0 rfl rfl)
theorem dX8_put_2 : decode cX8_put 2 = .ok (.istore_n 2, 1) := dk_61 (dk_at dksX8_put_0 2 rfl rfl)
theorem dX8_put_3 : decode cX8_put 3 = .ok (.iload_n 2, 1) := dk_28 (dk_at dksX8_put_0 3 rfl rfl)
theorem dX8_put_4 : decode cX8_put 4 = .ok (.ifCond .lt 32, 3) := dk_155 0 32 (dk_at dksX8_put_0 4 rfl rfl)
theorem dX8_put_7 : decode cX8_put 7 = .ok (.aload_n 0, 1) := dk_42 (dk_at dksX8_put_0 7 rfl rfl)
theorem dX8_put_8 : decode cX8_put 8 = .ok (.getfield 13, 3) := dk_180 0 13 (dk_at dksX8_put_0 8 rfl rfl)
theorem dX8_put_11 : decode cX8_put 11 = .ok (.aload_n 0, 1) := dk_42 (dk_at dksX8_put_0 11 rfl rfl)
theorem dX8_put_12 : decode cX8_put 12 = .ok (.getfield 190, 3) := dk_180 0 190 (dk_at dksX8_put_0 12 rfl rfl)
theorem dX8_put_15 : decode cX8_put 15 = .ok (.iload_n 1, 1) := dk_27 (dk_at dksX8_put_0 15 rfl rfl)
theorem dX8_put_16 : decode cX8_put 16 = .ok (.iload_n 2, 1) := dk_28 (dk_at dksX8_put_0 16 rfl rfl)
theorem dX8_put_17 : decode cX8_put 17 = .ok (.ishr, 1) := dk_122 (dk_at dksX8_put_0 17 rfl rfl)
theorem dX8_put_18 : decode cX8_put 18 = .ok (.i2b, 1) := dk_145 (dk_at dksX8_put_0 18 rfl rfl)
theorem dX8_put_19 : decode cX8_put 19 = .ok (.bastore, 1) := dk_84 (dk_at dksX8_put_0 19 rfl rfl)
theorem dX8_put_20 : decode cX8_put 20 = .ok (.aload_n 0, 1) := dk_42 (dk_at dksX8_put_0 20 rfl rfl)
theorem dX8_put_21 : decode cX8_put 21 = .ok (.dup, 1) := dk_89 (dk_at dksX8_put_0 21 rfl rfl)
theorem dX8_put_22 : decode cX8_put 22 = .ok (.getfield 190, 3) := dk_180 0 190 (dk_at dksX8_put_1 0 rfl rfl)
theorem dX8_put_25 : decode cX8_put 25 = .ok (.iconst 1, 1) := dk_4 (dk_at dksX8_put_1 3 rfl rfl)
theorem dX8_put_26 : decode cX8_put 26 = .ok (.iadd, 1) := dk_96 (dk_at dksX8_put_1 4 rfl rfl)
theorem dX8_put_27 : decode cX8_put 27 = .ok (.putfield 190, 3) := dk_181 0 190 (dk_at dksX8_put_1 5 rfl rfl)
theorem dX8_put_30 : decode cX8_put 30 = .ok (.iinc 2 (-8), 3) := dk_132 2 248 (dk_at dksX8_put_1 8 rfl rfl)
theorem dX8_put_33 : decode cX8_put 33 = .ok (.goto (-30), 3) := dk_167 255 226 (dk_at dksX8_put_1 11 rfl rfl)
theorem dX8_put_36 : decode cX8_put 36 = .ok (.return_, 1) := dk_177 (dk_at dksX8_put_1 14 rfl rfl)
abbrev cX8_back : ByteArray := prog_19_method_5_code
def yX8_back : MethodName := ⟨RX8, "back", "(I)I"⟩
def dkwX8_back_1 : List UInt8 := [42, 180, 0, 190, 172]
abbrev dktX8_back_1 : List UInt8 := dkwX8_back_1 ++ []
def dkwX8_back_0 : List UInt8 := [27, 155, 0, 11, 27, 42, 180, 0, 190, 164, 0, 5, 2, 172, 42, 89, 180, 0, 190, 27, 100, 181, 0, 190]
abbrev dktX8_back_0 : List UInt8 := dkwX8_back_0 ++ dktX8_back_1
theorem dksX8_back_0 : cX8_back.data.toList.drop 0 = dktX8_back_0 := by decide +kernel
theorem dksX8_back_1 : cX8_back.data.toList.drop 24 = dktX8_back_1 := dk_seg dksX8_back_0 24 rfl rfl
theorem dX8_back_0 : decode cX8_back 0 = .ok (.iload_n 1, 1) := dk_27 (dk_at dksX8_back_0 0 rfl rfl)
theorem dX8_back_1 : decode cX8_back 1 = .ok (.ifCond .lt 11, 3) := dk_155 0 11 (dk_at dksX8_back_0 1 rfl rfl)
theorem dX8_back_4 : decode cX8_back 4 = .ok (.iload_n 1, 1) := dk_27 (dk_at dksX8_back_0 4 rfl rfl)
theorem dX8_back_5 : decode cX8_back 5 = .ok (.aload_n 0, 1) := dk_42 (dk_at dksX8_back_0 5 rfl rfl)
theorem dX8_back_6 : decode cX8_back 6 = .ok (.getfield 190, 3) := dk_180 0 190 (dk_at dksX8_back_0 6 rfl rfl)
theorem dX8_back_9 : decode cX8_back 9 = .ok (.if_icmp .le 5, 3) := dk_164 0 5 (dk_at dksX8_back_0 9 rfl rfl)
theorem dX8_back_12 : decode cX8_back 12 = .ok (.iconst (-1), 1) := dk_2 (dk_at dksX8_back_0 12 rfl rfl)
theorem dX8_back_13 : decode cX8_back 13 = .ok (.ireturn, 1) := dk_172 (dk_at dksX8_back_0 13 rfl rfl)
theorem dX8_back_14 : decode cX8_back 14 = .ok (.aload_n 0, 1) := dk_42 (dk_at dksX8_back_0 14 rfl rfl)
theorem dX8_back_15 : decode cX8_back 15 = .ok (.dup, 1) := dk_89 (dk_at dksX8_back_0 15 rfl rfl)
theorem dX8_back_16 : decode cX8_back 16 = .ok (.getfield 190, 3) := dk_180 0 190 (dk_at dksX8_back_0 16 rfl rfl)
theorem dX8_back_19 : decode cX8_back 19 = .ok (.iload_n 1, 1) := dk_27 (dk_at dksX8_back_0 19 rfl rfl)
theorem dX8_back_20 : decode cX8_back 20 = .ok (.isub, 1) := dk_100 (dk_at dksX8_back_0 20 rfl rfl)
theorem dX8_back_21 : decode cX8_back 21 = .ok (.putfield 190, 3) := dk_181 0 190 (dk_at dksX8_back_0 21 rfl rfl)
theorem dX8_back_24 : decode cX8_back 24 = .ok (.aload_n 0, 1) := dk_42 (dk_at dksX8_back_1 0 rfl rfl)
theorem dX8_back_25 : decode cX8_back 25 = .ok (.getfield 190, 3) := dk_180 0 190 (dk_at dksX8_back_1 1 rfl rfl)
theorem dX8_back_28 : decode cX8_back 28 = .ok (.ireturn, 1) := dk_172 (dk_at dksX8_back_1 4 rfl rfl)
abbrev cX8_read : ByteArray := prog_19_method_20_code
def yX8_read : MethodName := ⟨RX8, "read", "()I"⟩
def dkwX8_read_10 : List UInt8 := [132, 1, 1, 167, 255, 241, 3, 172]
abbrev dktX8_read_10 : List UInt8 := dkwX8_read_10 ++ []
def dkwX8_read_9 : List UInt8 := [181, 1, 19, 42, 3, 181, 1, 22, 3, 60, 27, 6, 162, 0, 16, 42, 180, 0, 167, 27, 3, 84]
abbrev dktX8_read_9 : List UInt8 := dkwX8_read_9 ++ dktX8_read_10
def dkwX8_read_8 : List UInt8 := [180, 0, 236, 172, 42, 42, 180, 1, 4, 181, 1, 1, 42, 182, 0, 184, 42, 3, 182, 0, 187, 42, 3]
abbrev dktX8_read_8 : List UInt8 := dkwX8_read_8 ++ dktX8_read_9
def dkwX8_read_7 : List UInt8 := [2, 181, 0, 37, 42, 180, 0, 227, 158, 0, 8, 42, 180, 0, 227, 172, 42, 180, 0, 236, 158, 0, 8, 42]
abbrev dktX8_read_7 : List UInt8 := dkwX8_read_7 ++ dktX8_read_8
def dkwX8_read_6 : List UInt8 := [158, 0, 10, 42, 180, 0, 233, 167, 0, 18, 42, 180, 0, 236, 158, 0, 10, 42, 180, 0, 239, 167, 0, 4]
abbrev dktX8_read_6 : List UInt8 := dkwX8_read_6 ++ dktX8_read_7
def dkwX8_read_5 : List UInt8 := [154, 0, 18, 42, 3, 182, 0, 245, 154, 0, 10, 42, 182, 1, 16, 167, 255, 237, 42, 42, 180, 0, 227]
abbrev dktX8_read_5 : List UInt8 := dkwX8_read_5 ++ dktX8_read_6
def dkwX8_read_4 : List UInt8 := [180, 1, 4, 104, 181, 1, 10, 42, 17, 1, 164, 42, 180, 1, 4, 104, 181, 1, 13, 42, 180, 0, 227]
abbrev dktX8_read_4 : List UInt8 := dkwX8_read_4 ++ dktX8_read_5
def dkwX8_read_3 : List UInt8 := [100, 181, 1, 4, 42, 3, 181, 1, 7, 42, 42, 180, 1, 4, 182, 0, 176, 42, 17, 0, 130, 42]
abbrev dktX8_read_3 : List UInt8 := dkwX8_read_3 ++ dktX8_read_4
def dkwX8_read_2 : List UInt8 := [181, 0, 230, 42, 3, 181, 0, 254, 42, 3, 181, 0, 227, 42, 3, 181, 0, 236, 42, 4, 42, 180, 1, 1]
abbrev dktX8_read_2 : List UInt8 := dkwX8_read_2 ++ dktX8_read_3
def dkwX8_read_1 : List UInt8 := [180, 0, 13, 27, 51, 84, 132, 1, 1, 167, 255, 233, 42, 3, 181, 0, 190, 42, 182, 0, 251, 42, 3]
abbrev dktX8_read_1 : List UInt8 := dkwX8_read_1 ++ dktX8_read_2
def dkwX8_read_0 : List UInt8 := [42, 42, 180, 0, 190, 181, 0, 196, 3, 60, 27, 42, 180, 0, 196, 162, 0, 21, 42, 180, 0, 17, 27, 42]
abbrev dktX8_read_0 : List UInt8 := dkwX8_read_0 ++ dktX8_read_1
theorem dksX8_read_0 : cX8_read.data.toList.drop 0 = dktX8_read_0 := by decide +kernel
theorem dksX8_read_1 : cX8_read.data.toList.drop 24 = dktX8_read_1 := dk_seg dksX8_read_0 24 rfl rfl
theorem dksX8_read_2 : cX8_read.data.toList.drop 47 = dktX8_read_2 := dk_seg dksX8_read_1 23 rfl rfl
theorem dksX8_read_3 : cX8_read.data.toList.drop 71 = dktX8_read_3 := dk_seg dksX8_read_2 24 rfl rfl
theorem dksX8_read_4 : cX8_read.data.toList.drop 93 = dktX8_read_4 := dk_seg dksX8_read_3 22 rfl rfl
theorem dksX8_read_5 : cX8_read.data.toList.drop 116 = dktX8_read_5 := dk_seg dksX8_read_4 23 rfl rfl
theorem dksX8_read_6 : cX8_read.data.toList.drop 139 = dktX8_read_6 := dk_seg dksX8_read_5 23 rfl rfl
theorem dksX8_read_7 : cX8_read.data.toList.drop 163 = dktX8_read_7 := dk_seg dksX8_read_6 24 rfl rfl
theorem dksX8_read_8 : cX8_read.data.toList.drop 187 = dktX8_read_8 := dk_seg dksX8_read_7 24 rfl rfl
theorem dksX8_read_9 : cX8_read.data.toList.drop 210 = dktX8_read_9 := dk_seg dksX8_read_8 23 rfl rfl
theorem dksX8_read_10 : cX8_read.data.toList.drop 232 = dktX8_read_10 := dk_seg dksX8_read_9 22 rfl rfl
theorem dX8_read_0 : decode cX8_read 0 = .ok (.aload_n 0, 1) := dk_42 (dk_at dksX8_read_0 0 rfl rfl)
theorem dX8_read_1 : decode cX8_read 1 = .ok (.aload_n 0, 1) := dk_42 (dk_at dksX8_read_0 1 rfl rfl)
theorem dX8_read_2 : decode cX8_read 2 = .ok (.getfield 190, 3) := dk_180 0 190 (dk_at dksX8_read_0 2 rfl rfl)
theorem dX8_read_5 : decode cX8_read 5 = .ok (.putfield 196, 3) := dk_181 0 196 (dk_at dksX8_read_0 5 rfl rfl)
theorem dX8_read_8 : decode cX8_read 8 = .ok (.iconst 0, 1) := dk_3 (dk_at dksX8_read_0 8 rfl rfl)
theorem dX8_read_9 : decode cX8_read 9 = .ok (.istore_n 1, 1) := dk_60 (dk_at dksX8_read_0 9 rfl rfl)
theorem dX8_read_10 : decode cX8_read 10 = .ok (.iload_n 1, 1) := dk_27 (dk_at dksX8_read_0 10 rfl rfl)
theorem dX8_read_11 : decode cX8_read 11 = .ok (.aload_n 0, 1) := dk_42 (dk_at dksX8_read_0 11 rfl rfl)
theorem dX8_read_12 : decode cX8_read 12 = .ok (.getfield 196, 3) := dk_180 0 196 (dk_at dksX8_read_0 12 rfl rfl)
theorem dX8_read_15 : decode cX8_read 15 = .ok (.if_icmp .ge 21, 3) := dk_162 0 21 (dk_at dksX8_read_0 15 rfl rfl)
theorem dX8_read_18 : decode cX8_read 18 = .ok (.aload_n 0, 1) := dk_42 (dk_at dksX8_read_0 18 rfl rfl)
theorem dX8_read_19 : decode cX8_read 19 = .ok (.getfield 17, 3) := dk_180 0 17 (dk_at dksX8_read_0 19 rfl rfl)
theorem dX8_read_22 : decode cX8_read 22 = .ok (.iload_n 1, 1) := dk_27 (dk_at dksX8_read_0 22 rfl rfl)
theorem dX8_read_23 : decode cX8_read 23 = .ok (.aload_n 0, 1) := dk_42 (dk_at dksX8_read_0 23 rfl rfl)
theorem dX8_read_24 : decode cX8_read 24 = .ok (.getfield 13, 3) := dk_180 0 13 (dk_at dksX8_read_1 0 rfl rfl)
theorem dX8_read_27 : decode cX8_read 27 = .ok (.iload_n 1, 1) := dk_27 (dk_at dksX8_read_1 3 rfl rfl)
theorem dX8_read_28 : decode cX8_read 28 = .ok (.baload, 1) := dk_51 (dk_at dksX8_read_1 4 rfl rfl)
theorem dX8_read_29 : decode cX8_read 29 = .ok (.bastore, 1) := dk_84 (dk_at dksX8_read_1 5 rfl rfl)
theorem dX8_read_30 : decode cX8_read 30 = .ok (.iinc 1 1, 3) := dk_132 1 1 (dk_at dksX8_read_1 6 rfl rfl)
theorem dX8_read_33 : decode cX8_read 33 = .ok (.goto (-23), 3) := dk_167 255 233 (dk_at dksX8_read_1 9 rfl rfl)
theorem dX8_read_36 : decode cX8_read 36 = .ok (.aload_n 0, 1) := dk_42 (dk_at dksX8_read_1 12 rfl rfl)
theorem dX8_read_37 : decode cX8_read 37 = .ok (.iconst 0, 1) := dk_3 (dk_at dksX8_read_1 13 rfl rfl)
theorem dX8_read_38 : decode cX8_read 38 = .ok (.putfield 190, 3) := dk_181 0 190 (dk_at dksX8_read_1 14 rfl rfl)
theorem dX8_read_41 : decode cX8_read 41 = .ok (.aload_n 0, 1) := dk_42 (dk_at dksX8_read_1 17 rfl rfl)
theorem dX8_read_42 : decode cX8_read 42 = .ok (.invokevirtual 251, 3) := dk_182 0 251 (dk_at dksX8_read_1 18 rfl rfl)
theorem dX8_read_45 : decode cX8_read 45 = .ok (.aload_n 0, 1) := dk_42 (dk_at dksX8_read_1 21 rfl rfl)
theorem dX8_read_46 : decode cX8_read 46 = .ok (.iconst 0, 1) := dk_3 (dk_at dksX8_read_1 22 rfl rfl)
theorem dX8_read_47 : decode cX8_read 47 = .ok (.putfield 230, 3) := dk_181 0 230 (dk_at dksX8_read_2 0 rfl rfl)
theorem dX8_read_50 : decode cX8_read 50 = .ok (.aload_n 0, 1) := dk_42 (dk_at dksX8_read_2 3 rfl rfl)
theorem dX8_read_51 : decode cX8_read 51 = .ok (.iconst 0, 1) := dk_3 (dk_at dksX8_read_2 4 rfl rfl)
theorem dX8_read_52 : decode cX8_read 52 = .ok (.putfield 254, 3) := dk_181 0 254 (dk_at dksX8_read_2 5 rfl rfl)
theorem dX8_read_55 : decode cX8_read 55 = .ok (.aload_n 0, 1) := dk_42 (dk_at dksX8_read_2 8 rfl rfl)
theorem dX8_read_56 : decode cX8_read 56 = .ok (.iconst 0, 1) := dk_3 (dk_at dksX8_read_2 9 rfl rfl)
theorem dX8_read_57 : decode cX8_read 57 = .ok (.putfield 227, 3) := dk_181 0 227 (dk_at dksX8_read_2 10 rfl rfl)
theorem dX8_read_60 : decode cX8_read 60 = .ok (.aload_n 0, 1) := dk_42 (dk_at dksX8_read_2 13 rfl rfl)
theorem dX8_read_61 : decode cX8_read 61 = .ok (.iconst 0, 1) := dk_3 (dk_at dksX8_read_2 14 rfl rfl)
theorem dX8_read_62 : decode cX8_read 62 = .ok (.putfield 236, 3) := dk_181 0 236 (dk_at dksX8_read_2 15 rfl rfl)
theorem dX8_read_65 : decode cX8_read 65 = .ok (.aload_n 0, 1) := dk_42 (dk_at dksX8_read_2 18 rfl rfl)
theorem dX8_read_66 : decode cX8_read 66 = .ok (.iconst 1, 1) := dk_4 (dk_at dksX8_read_2 19 rfl rfl)
theorem dX8_read_67 : decode cX8_read 67 = .ok (.aload_n 0, 1) := dk_42 (dk_at dksX8_read_2 20 rfl rfl)
theorem dX8_read_68 : decode cX8_read 68 = .ok (.getfield 257, 3) := dk_180 1 1 (dk_at dksX8_read_2 21 rfl rfl)
theorem dX8_read_71 : decode cX8_read 71 = .ok (.isub, 1) := dk_100 (dk_at dksX8_read_3 0 rfl rfl)
theorem dX8_read_72 : decode cX8_read 72 = .ok (.putfield 260, 3) := dk_181 1 4 (dk_at dksX8_read_3 1 rfl rfl)
theorem dX8_read_75 : decode cX8_read 75 = .ok (.aload_n 0, 1) := dk_42 (dk_at dksX8_read_3 4 rfl rfl)
theorem dX8_read_76 : decode cX8_read 76 = .ok (.iconst 0, 1) := dk_3 (dk_at dksX8_read_3 5 rfl rfl)
theorem dX8_read_77 : decode cX8_read 77 = .ok (.putfield 263, 3) := dk_181 1 7 (dk_at dksX8_read_3 6 rfl rfl)
theorem dX8_read_80 : decode cX8_read 80 = .ok (.aload_n 0, 1) := dk_42 (dk_at dksX8_read_3 9 rfl rfl)
theorem dX8_read_81 : decode cX8_read 81 = .ok (.aload_n 0, 1) := dk_42 (dk_at dksX8_read_3 10 rfl rfl)
theorem dX8_read_82 : decode cX8_read 82 = .ok (.getfield 260, 3) := dk_180 1 4 (dk_at dksX8_read_3 11 rfl rfl)
theorem dX8_read_85 : decode cX8_read 85 = .ok (.invokevirtual 176, 3) := dk_182 0 176 (dk_at dksX8_read_3 14 rfl rfl)
theorem dX8_read_88 : decode cX8_read 88 = .ok (.aload_n 0, 1) := dk_42 (dk_at dksX8_read_3 17 rfl rfl)
theorem dX8_read_89 : decode cX8_read 89 = .ok (.sipush 130, 3) := dk_17 0 130 (dk_at dksX8_read_3 18 rfl rfl)
theorem dX8_read_92 : decode cX8_read 92 = .ok (.aload_n 0, 1) := dk_42 (dk_at dksX8_read_3 21 rfl rfl)
theorem dX8_read_93 : decode cX8_read 93 = .ok (.getfield 260, 3) := dk_180 1 4 (dk_at dksX8_read_4 0 rfl rfl)
theorem dX8_read_96 : decode cX8_read 96 = .ok (.imul, 1) := dk_104 (dk_at dksX8_read_4 3 rfl rfl)
theorem dX8_read_97 : decode cX8_read 97 = .ok (.putfield 266, 3) := dk_181 1 10 (dk_at dksX8_read_4 4 rfl rfl)
theorem dX8_read_100 : decode cX8_read 100 = .ok (.aload_n 0, 1) := dk_42 (dk_at dksX8_read_4 7 rfl rfl)
theorem dX8_read_101 : decode cX8_read 101 = .ok (.sipush 420, 3) := dk_17 1 164 (dk_at dksX8_read_4 8 rfl rfl)
theorem dX8_read_104 : decode cX8_read 104 = .ok (.aload_n 0, 1) := dk_42 (dk_at dksX8_read_4 11 rfl rfl)
theorem dX8_read_105 : decode cX8_read 105 = .ok (.getfield 260, 3) := dk_180 1 4 (dk_at dksX8_read_4 12 rfl rfl)
theorem dX8_read_108 : decode cX8_read 108 = .ok (.imul, 1) := dk_104 (dk_at dksX8_read_4 15 rfl rfl)
theorem dX8_read_109 : decode cX8_read 109 = .ok (.putfield 269, 3) := dk_181 1 13 (dk_at dksX8_read_4 16 rfl rfl)
theorem dX8_read_112 : decode cX8_read 112 = .ok (.aload_n 0, 1) := dk_42 (dk_at dksX8_read_4 19 rfl rfl)
theorem dX8_read_113 : decode cX8_read 113 = .ok (.getfield 227, 3) := dk_180 0 227 (dk_at dksX8_read_4 20 rfl rfl)
theorem dX8_read_116 : decode cX8_read 116 = .ok (.ifCond .ne 18, 3) := dk_154 0 18 (dk_at dksX8_read_5 0 rfl rfl)
theorem dX8_read_119 : decode cX8_read 119 = .ok (.aload_n 0, 1) := dk_42 (dk_at dksX8_read_5 3 rfl rfl)
theorem dX8_read_120 : decode cX8_read 120 = .ok (.iconst 0, 1) := dk_3 (dk_at dksX8_read_5 4 rfl rfl)
theorem dX8_read_121 : decode cX8_read 121 = .ok (.invokevirtual 245, 3) := dk_182 0 245 (dk_at dksX8_read_5 5 rfl rfl)
theorem dX8_read_124 : decode cX8_read 124 = .ok (.ifCond .ne 10, 3) := dk_154 0 10 (dk_at dksX8_read_5 8 rfl rfl)
theorem dX8_read_127 : decode cX8_read 127 = .ok (.aload_n 0, 1) := dk_42 (dk_at dksX8_read_5 11 rfl rfl)
theorem dX8_read_128 : decode cX8_read 128 = .ok (.invokevirtual 272, 3) := dk_182 1 16 (dk_at dksX8_read_5 12 rfl rfl)
theorem dX8_read_131 : decode cX8_read 131 = .ok (.goto (-19), 3) := dk_167 255 237 (dk_at dksX8_read_5 15 rfl rfl)
theorem dX8_read_134 : decode cX8_read 134 = .ok (.aload_n 0, 1) := dk_42 (dk_at dksX8_read_5 18 rfl rfl)
theorem dX8_read_135 : decode cX8_read 135 = .ok (.aload_n 0, 1) := dk_42 (dk_at dksX8_read_5 19 rfl rfl)
theorem dX8_read_136 : decode cX8_read 136 = .ok (.getfield 227, 3) := dk_180 0 227 (dk_at dksX8_read_5 20 rfl rfl)
theorem dX8_read_139 : decode cX8_read 139 = .ok (.ifCond .le 10, 3) := dk_158 0 10 (dk_at dksX8_read_6 0 rfl rfl)
theorem dX8_read_142 : decode cX8_read 142 = .ok (.aload_n 0, 1) := dk_42 (dk_at dksX8_read_6 3 rfl rfl)
theorem dX8_read_143 : decode cX8_read 143 = .ok (.getfield 233, 3) := dk_180 0 233 (dk_at dksX8_read_6 4 rfl rfl)
theorem dX8_read_146 : decode cX8_read 146 = .ok (.goto 18, 3) := dk_167 0 18 (dk_at dksX8_read_6 7 rfl rfl)
theorem dX8_read_149 : decode cX8_read 149 = .ok (.aload_n 0, 1) := dk_42 (dk_at dksX8_read_6 10 rfl rfl)
theorem dX8_read_150 : decode cX8_read 150 = .ok (.getfield 236, 3) := dk_180 0 236 (dk_at dksX8_read_6 11 rfl rfl)
theorem dX8_read_153 : decode cX8_read 153 = .ok (.ifCond .le 10, 3) := dk_158 0 10 (dk_at dksX8_read_6 14 rfl rfl)
theorem dX8_read_156 : decode cX8_read 156 = .ok (.aload_n 0, 1) := dk_42 (dk_at dksX8_read_6 17 rfl rfl)
theorem dX8_read_157 : decode cX8_read 157 = .ok (.getfield 239, 3) := dk_180 0 239 (dk_at dksX8_read_6 18 rfl rfl)
theorem dX8_read_160 : decode cX8_read 160 = .ok (.goto 4, 3) := dk_167 0 4 (dk_at dksX8_read_6 21 rfl rfl)
theorem dX8_read_163 : decode cX8_read 163 = .ok (.iconst (-1), 1) := dk_2 (dk_at dksX8_read_7 0 rfl rfl)
theorem dX8_read_164 : decode cX8_read 164 = .ok (.putfield 37, 3) := dk_181 0 37 (dk_at dksX8_read_7 1 rfl rfl)
theorem dX8_read_167 : decode cX8_read 167 = .ok (.aload_n 0, 1) := dk_42 (dk_at dksX8_read_7 4 rfl rfl)
theorem dX8_read_168 : decode cX8_read 168 = .ok (.getfield 227, 3) := dk_180 0 227 (dk_at dksX8_read_7 5 rfl rfl)
theorem dX8_read_171 : decode cX8_read 171 = .ok (.ifCond .le 8, 3) := dk_158 0 8 (dk_at dksX8_read_7 8 rfl rfl)
theorem dX8_read_174 : decode cX8_read 174 = .ok (.aload_n 0, 1) := dk_42 (dk_at dksX8_read_7 11 rfl rfl)
theorem dX8_read_175 : decode cX8_read 175 = .ok (.getfield 227, 3) := dk_180 0 227 (dk_at dksX8_read_7 12 rfl rfl)
theorem dX8_read_178 : decode cX8_read 178 = .ok (.ireturn, 1) := dk_172 (dk_at dksX8_read_7 15 rfl rfl)
theorem dX8_read_179 : decode cX8_read 179 = .ok (.aload_n 0, 1) := dk_42 (dk_at dksX8_read_7 16 rfl rfl)
theorem dX8_read_180 : decode cX8_read 180 = .ok (.getfield 236, 3) := dk_180 0 236 (dk_at dksX8_read_7 17 rfl rfl)
theorem dX8_read_183 : decode cX8_read 183 = .ok (.ifCond .le 8, 3) := dk_158 0 8 (dk_at dksX8_read_7 20 rfl rfl)
theorem dX8_read_186 : decode cX8_read 186 = .ok (.aload_n 0, 1) := dk_42 (dk_at dksX8_read_7 23 rfl rfl)
theorem dX8_read_187 : decode cX8_read 187 = .ok (.getfield 236, 3) := dk_180 0 236 (dk_at dksX8_read_8 0 rfl rfl)
theorem dX8_read_190 : decode cX8_read 190 = .ok (.ireturn, 1) := dk_172 (dk_at dksX8_read_8 3 rfl rfl)
theorem dX8_read_191 : decode cX8_read 191 = .ok (.aload_n 0, 1) := dk_42 (dk_at dksX8_read_8 4 rfl rfl)
theorem dX8_read_192 : decode cX8_read 192 = .ok (.aload_n 0, 1) := dk_42 (dk_at dksX8_read_8 5 rfl rfl)
theorem dX8_read_193 : decode cX8_read 193 = .ok (.getfield 260, 3) := dk_180 1 4 (dk_at dksX8_read_8 6 rfl rfl)
theorem dX8_read_196 : decode cX8_read 196 = .ok (.putfield 257, 3) := dk_181 1 1 (dk_at dksX8_read_8 9 rfl rfl)
theorem dX8_read_199 : decode cX8_read 199 = .ok (.aload_n 0, 1) := dk_42 (dk_at dksX8_read_8 12 rfl rfl)
theorem dX8_read_200 : decode cX8_read 200 = .ok (.invokevirtual 184, 3) := dk_182 0 184 (dk_at dksX8_read_8 13 rfl rfl)
theorem dX8_read_203 : decode cX8_read 203 = .ok (.aload_n 0, 1) := dk_42 (dk_at dksX8_read_8 16 rfl rfl)
theorem dX8_read_204 : decode cX8_read 204 = .ok (.iconst 0, 1) := dk_3 (dk_at dksX8_read_8 17 rfl rfl)
theorem dX8_read_205 : decode cX8_read 205 = .ok (.invokevirtual 187, 3) := dk_182 0 187 (dk_at dksX8_read_8 18 rfl rfl)
theorem dX8_read_208 : decode cX8_read 208 = .ok (.aload_n 0, 1) := dk_42 (dk_at dksX8_read_8 21 rfl rfl)
theorem dX8_read_209 : decode cX8_read 209 = .ok (.iconst 0, 1) := dk_3 (dk_at dksX8_read_8 22 rfl rfl)
theorem dX8_read_210 : decode cX8_read 210 = .ok (.putfield 275, 3) := dk_181 1 19 (dk_at dksX8_read_9 0 rfl rfl)
theorem dX8_read_213 : decode cX8_read 213 = .ok (.aload_n 0, 1) := dk_42 (dk_at dksX8_read_9 3 rfl rfl)
theorem dX8_read_214 : decode cX8_read 214 = .ok (.iconst 0, 1) := dk_3 (dk_at dksX8_read_9 4 rfl rfl)
theorem dX8_read_215 : decode cX8_read 215 = .ok (.putfield 278, 3) := dk_181 1 22 (dk_at dksX8_read_9 5 rfl rfl)
theorem dX8_read_218 : decode cX8_read 218 = .ok (.iconst 0, 1) := dk_3 (dk_at dksX8_read_9 8 rfl rfl)
theorem dX8_read_219 : decode cX8_read 219 = .ok (.istore_n 1, 1) := dk_60 (dk_at dksX8_read_9 9 rfl rfl)
theorem dX8_read_220 : decode cX8_read 220 = .ok (.iload_n 1, 1) := dk_27 (dk_at dksX8_read_9 10 rfl rfl)
theorem dX8_read_221 : decode cX8_read 221 = .ok (.iconst 3, 1) := dk_6 (dk_at dksX8_read_9 11 rfl rfl)
theorem dX8_read_222 : decode cX8_read 222 = .ok (.if_icmp .ge 16, 3) := dk_162 0 16 (dk_at dksX8_read_9 12 rfl rfl)
theorem dX8_read_225 : decode cX8_read 225 = .ok (.aload_n 0, 1) := dk_42 (dk_at dksX8_read_9 15 rfl rfl)
theorem dX8_read_226 : decode cX8_read 226 = .ok (.getfield 167, 3) := dk_180 0 167 (dk_at dksX8_read_9 16 rfl rfl)
theorem dX8_read_229 : decode cX8_read 229 = .ok (.iload_n 1, 1) := dk_27 (dk_at dksX8_read_9 19 rfl rfl)
theorem dX8_read_230 : decode cX8_read 230 = .ok (.iconst 0, 1) := dk_3 (dk_at dksX8_read_9 20 rfl rfl)
theorem dX8_read_231 : decode cX8_read 231 = .ok (.bastore, 1) := dk_84 (dk_at dksX8_read_9 21 rfl rfl)
theorem dX8_read_232 : decode cX8_read 232 = .ok (.iinc 1 1, 3) := dk_132 1 1 (dk_at dksX8_read_10 0 rfl rfl)
theorem dX8_read_235 : decode cX8_read 235 = .ok (.goto (-15), 3) := dk_167 255 241 (dk_at dksX8_read_10 3 rfl rfl)
theorem dX8_read_238 : decode cX8_read 238 = .ok (.iconst 0, 1) := dk_3 (dk_at dksX8_read_10 6 rfl rfl)
theorem dX8_read_239 : decode cX8_read 239 = .ok (.ireturn, 1) := dk_172 (dk_at dksX8_read_10 7 rfl rfl)
abbrev cX8_cut : ByteArray := prog_19_method_12_code
def yX8_cut : MethodName := ⟨RX8, "cut", "()V"⟩
def dkwX8_cut_12 : List UInt8 := [4, 96, 182, 0, 208, 182, 0, 223, 96, 60, 167, 254, 228, 177]
abbrev dktX8_cut_12 : List UInt8 := dkwX8_cut_12 ++ []
def dkwX8_cut_11 : List UInt8 := [167, 0, 4, 5, 27, 21, 4, 9, 182, 0, 212, 27, 29, 96, 60, 167, 0, 19, 27, 42, 27, 28, 42, 27]
abbrev dktX8_cut_11 : List UInt8 := dkwX8_cut_11 ++ dktX8_cut_12
def dkwX8_cut_10 : List UInt8 := [96, 182, 0, 208, 96, 16, 48, 100, 54, 4, 132, 3, 1, 167, 255, 217, 42, 29, 7, 164, 0, 7, 6]
abbrev dktX8_cut_10 : List UInt8 := dkwX8_cut_10 ++ dktX8_cut_11
def dkwX8_cut_9 : List UInt8 := [29, 96, 182, 0, 208, 184, 0, 220, 153, 0, 32, 29, 7, 162, 0, 21, 16, 10, 21, 4, 104, 42, 27, 29]
abbrev dktX8_cut_9 : List UInt8 := dkwX8_cut_9 ++ dktX8_cut_10
def dkwX8_cut_8 : List UInt8 := [182, 0, 212, 27, 29, 96, 60, 167, 0, 98, 28, 184, 0, 220, 153, 0, 75, 3, 62, 3, 54, 4, 42, 27]
abbrev dktX8_cut_8 : List UInt8 := dkwX8_cut_8 ++ dktX8_cut_9
def dkwX8_cut_7 : List UInt8 := [154, 0, 10, 16, 20, 21, 7, 96, 54, 6, 132, 7, 1, 167, 255, 226, 42, 21, 6, 27, 3, 22, 4]
abbrev dktX8_cut_7 : List UInt8 := dkwX8_cut_7 ++ dktX8_cut_8
def dkwX8_cut_6 : List UInt8 := [163, 0, 39, 3, 54, 7, 21, 7, 16, 17, 162, 0, 29, 42, 180, 0, 34, 21, 7, 47, 22, 4, 148]
abbrev dktX8_cut_6 : List UInt8 := dkwX8_cut_6 ++ dktX8_cut_7
def dkwX8_cut_5 : List UInt8 := [55, 4, 132, 3, 1, 167, 255, 220, 29, 16, 8, 164, 0, 7, 6, 167, 0, 4, 4, 54, 6, 29, 16, 7]
abbrev dktX8_cut_5 : List UInt8 := dkwX8_cut_5 ++ dktX8_cut_6
def dkwX8_cut_4 : List UInt8 := [184, 0, 216, 153, 0, 29, 29, 16, 8, 162, 0, 17, 22, 4, 42, 27, 29, 96, 182, 0, 208, 184, 0, 201]
abbrev dktX8_cut_4 : List UInt8 := dkwX8_cut_4 ++ dktX8_cut_5
def dkwX8_cut_3 : List UInt8 := [167, 0, 221, 28, 184, 0, 216, 153, 0, 119, 3, 62, 9, 55, 4, 42, 27, 29, 96, 182, 0, 208]
abbrev dktX8_cut_3 : List UInt8 := dkwX8_cut_3 ++ dktX8_cut_4
def dkwX8_cut_2 : List UInt8 := [159, 0, 21, 28, 16, 10, 159, 0, 15, 28, 16, 13, 159, 0, 9, 28, 16, 32, 160, 0, 9, 132, 1, 1]
abbrev dktX8_cut_2 : List UInt8 := dkwX8_cut_2 ++ dktX8_cut_3
def dkwX8_cut_1 : List UInt8 := [42, 180, 0, 196, 161, 0, 15, 42, 3, 42, 180, 0, 196, 3, 9, 182, 0, 212, 177, 28, 16, 9]
abbrev dktX8_cut_1 : List UInt8 := dkwX8_cut_1 ++ dktX8_cut_2
def dkwX8_cut_0 : List UInt8 := [42, 3, 181, 0, 205, 3, 60, 42, 180, 0, 205, 17, 1, 144, 163, 1, 24, 42, 27, 182, 0, 208, 61, 27]
abbrev dktX8_cut_0 : List UInt8 := dkwX8_cut_0 ++ dktX8_cut_1
theorem dksX8_cut_0 : cX8_cut.data.toList.drop 0 = dktX8_cut_0 := by decide +kernel
theorem dksX8_cut_1 : cX8_cut.data.toList.drop 24 = dktX8_cut_1 := dk_seg dksX8_cut_0 24 rfl rfl
theorem dksX8_cut_2 : cX8_cut.data.toList.drop 46 = dktX8_cut_2 := dk_seg dksX8_cut_1 22 rfl rfl
theorem dksX8_cut_3 : cX8_cut.data.toList.drop 70 = dktX8_cut_3 := dk_seg dksX8_cut_2 24 rfl rfl
theorem dksX8_cut_4 : cX8_cut.data.toList.drop 92 = dktX8_cut_4 := dk_seg dksX8_cut_3 22 rfl rfl
theorem dksX8_cut_5 : cX8_cut.data.toList.drop 116 = dktX8_cut_5 := dk_seg dksX8_cut_4 24 rfl rfl
theorem dksX8_cut_6 : cX8_cut.data.toList.drop 140 = dktX8_cut_6 := dk_seg dksX8_cut_5 24 rfl rfl
theorem dksX8_cut_7 : cX8_cut.data.toList.drop 163 = dktX8_cut_7 := dk_seg dksX8_cut_6 23 rfl rfl
theorem dksX8_cut_8 : cX8_cut.data.toList.drop 186 = dktX8_cut_8 := dk_seg dksX8_cut_7 23 rfl rfl
theorem dksX8_cut_9 : cX8_cut.data.toList.drop 210 = dktX8_cut_9 := dk_seg dksX8_cut_8 24 rfl rfl
theorem dksX8_cut_10 : cX8_cut.data.toList.drop 234 = dktX8_cut_10 := dk_seg dksX8_cut_9 24 rfl rfl
theorem dksX8_cut_11 : cX8_cut.data.toList.drop 257 = dktX8_cut_11 := dk_seg dksX8_cut_10 23 rfl rfl
theorem dksX8_cut_12 : cX8_cut.data.toList.drop 281 = dktX8_cut_12 := dk_seg dksX8_cut_11 24 rfl rfl
theorem dX8_cut_0 : decode cX8_cut 0 = .ok (.aload_n 0, 1) := dk_42 (dk_at dksX8_cut_0 0 rfl rfl)
theorem dX8_cut_1 : decode cX8_cut 1 = .ok (.iconst 0, 1) := dk_3 (dk_at dksX8_cut_0 1 rfl rfl)
theorem dX8_cut_2 : decode cX8_cut 2 = .ok (.putfield 205, 3) := dk_181 0 205 (dk_at dksX8_cut_0 2 rfl rfl)
theorem dX8_cut_5 : decode cX8_cut 5 = .ok (.iconst 0, 1) := dk_3 (dk_at dksX8_cut_0 5 rfl rfl)
theorem dX8_cut_6 : decode cX8_cut 6 = .ok (.istore_n 1, 1) := dk_60 (dk_at dksX8_cut_0 6 rfl rfl)
theorem dX8_cut_7 : decode cX8_cut 7 = .ok (.aload_n 0, 1) := dk_42 (dk_at dksX8_cut_0 7 rfl rfl)
theorem dX8_cut_8 : decode cX8_cut 8 = .ok (.getfield 205, 3) := dk_180 0 205 (dk_at dksX8_cut_0 8 rfl rfl)
theorem dX8_cut_11 : decode cX8_cut 11 = .ok (.sipush 400, 3) := dk_17 1 144 (dk_at dksX8_cut_0 11 rfl rfl)
theorem dX8_cut_14 : decode cX8_cut 14 = .ok (.if_icmp .gt 280, 3) := dk_163 1 24 (dk_at dksX8_cut_0 14 rfl rfl)
theorem dX8_cut_17 : decode cX8_cut 17 = .ok (.aload_n 0, 1) := dk_42 (dk_at dksX8_cut_0 17 rfl rfl)
theorem dX8_cut_18 : decode cX8_cut 18 = .ok (.iload_n 1, 1) := dk_27 (dk_at dksX8_cut_0 18 rfl rfl)
theorem dX8_cut_19 : decode cX8_cut 19 = .ok (.invokevirtual 208, 3) := dk_182 0 208 (dk_at dksX8_cut_0 19 rfl rfl)
theorem dX8_cut_22 : decode cX8_cut 22 = .ok (.istore_n 2, 1) := dk_61 (dk_at dksX8_cut_0 22 rfl rfl)
theorem dX8_cut_23 : decode cX8_cut 23 = .ok (.iload_n 1, 1) := dk_27 (dk_at dksX8_cut_0 23 rfl rfl)
theorem dX8_cut_24 : decode cX8_cut 24 = .ok (.aload_n 0, 1) := dk_42 (dk_at dksX8_cut_1 0 rfl rfl)
theorem dX8_cut_25 : decode cX8_cut 25 = .ok (.getfield 196, 3) := dk_180 0 196 (dk_at dksX8_cut_1 1 rfl rfl)
theorem dX8_cut_28 : decode cX8_cut 28 = .ok (.if_icmp .lt 15, 3) := dk_161 0 15 (dk_at dksX8_cut_1 4 rfl rfl)
theorem dX8_cut_31 : decode cX8_cut 31 = .ok (.aload_n 0, 1) := dk_42 (dk_at dksX8_cut_1 7 rfl rfl)
theorem dX8_cut_32 : decode cX8_cut 32 = .ok (.iconst 0, 1) := dk_3 (dk_at dksX8_cut_1 8 rfl rfl)
theorem dX8_cut_33 : decode cX8_cut 33 = .ok (.aload_n 0, 1) := dk_42 (dk_at dksX8_cut_1 9 rfl rfl)
theorem dX8_cut_34 : decode cX8_cut 34 = .ok (.getfield 196, 3) := dk_180 0 196 (dk_at dksX8_cut_1 10 rfl rfl)
theorem dX8_cut_37 : decode cX8_cut 37 = .ok (.iconst 0, 1) := dk_3 (dk_at dksX8_cut_1 13 rfl rfl)
theorem dX8_cut_38 : decode cX8_cut 38 = .ok (.lconst 0, 1) := dk_9 (dk_at dksX8_cut_1 14 rfl rfl)
theorem dX8_cut_39 : decode cX8_cut 39 = .ok (.invokevirtual 212, 3) := dk_182 0 212 (dk_at dksX8_cut_1 15 rfl rfl)
theorem dX8_cut_42 : decode cX8_cut 42 = .ok (.return_, 1) := dk_177 (dk_at dksX8_cut_1 18 rfl rfl)
theorem dX8_cut_43 : decode cX8_cut 43 = .ok (.iload_n 2, 1) := dk_28 (dk_at dksX8_cut_1 19 rfl rfl)
theorem dX8_cut_44 : decode cX8_cut 44 = .ok (.bipush 9, 2) := dk_16 9 (dk_at dksX8_cut_1 20 rfl rfl)
theorem dX8_cut_46 : decode cX8_cut 46 = .ok (.if_icmp .eq 21, 3) := dk_159 0 21 (dk_at dksX8_cut_2 0 rfl rfl)
theorem dX8_cut_49 : decode cX8_cut 49 = .ok (.iload_n 2, 1) := dk_28 (dk_at dksX8_cut_2 3 rfl rfl)
theorem dX8_cut_50 : decode cX8_cut 50 = .ok (.bipush 10, 2) := dk_16 10 (dk_at dksX8_cut_2 4 rfl rfl)
theorem dX8_cut_52 : decode cX8_cut 52 = .ok (.if_icmp .eq 15, 3) := dk_159 0 15 (dk_at dksX8_cut_2 6 rfl rfl)
theorem dX8_cut_55 : decode cX8_cut 55 = .ok (.iload_n 2, 1) := dk_28 (dk_at dksX8_cut_2 9 rfl rfl)
theorem dX8_cut_56 : decode cX8_cut 56 = .ok (.bipush 13, 2) := dk_16 13 (dk_at dksX8_cut_2 10 rfl rfl)
theorem dX8_cut_58 : decode cX8_cut 58 = .ok (.if_icmp .eq 9, 3) := dk_159 0 9 (dk_at dksX8_cut_2 12 rfl rfl)
theorem dX8_cut_61 : decode cX8_cut 61 = .ok (.iload_n 2, 1) := dk_28 (dk_at dksX8_cut_2 15 rfl rfl)
theorem dX8_cut_62 : decode cX8_cut 62 = .ok (.bipush 32, 2) := dk_16 32 (dk_at dksX8_cut_2 16 rfl rfl)
theorem dX8_cut_64 : decode cX8_cut 64 = .ok (.if_icmp .ne 9, 3) := dk_160 0 9 (dk_at dksX8_cut_2 18 rfl rfl)
theorem dX8_cut_67 : decode cX8_cut 67 = .ok (.iinc 1 1, 3) := dk_132 1 1 (dk_at dksX8_cut_2 21 rfl rfl)
theorem dX8_cut_70 : decode cX8_cut 70 = .ok (.goto 221, 3) := dk_167 0 221 (dk_at dksX8_cut_3 0 rfl rfl)
theorem dX8_cut_73 : decode cX8_cut 73 = .ok (.iload_n 2, 1) := dk_28 (dk_at dksX8_cut_3 3 rfl rfl)
theorem dX8_cut_74 : decode cX8_cut 74 = .ok (.invokestatic 216, 3) := dk_184 0 216 (dk_at dksX8_cut_3 4 rfl rfl)
theorem dX8_cut_77 : decode cX8_cut 77 = .ok (.ifCond .eq 119, 3) := dk_153 0 119 (dk_at dksX8_cut_3 7 rfl rfl)
theorem dX8_cut_80 : decode cX8_cut 80 = .ok (.iconst 0, 1) := dk_3 (dk_at dksX8_cut_3 10 rfl rfl)
theorem dX8_cut_81 : decode cX8_cut 81 = .ok (.istore_n 3, 1) := dk_62 (dk_at dksX8_cut_3 11 rfl rfl)
theorem dX8_cut_82 : decode cX8_cut 82 = .ok (.lconst 0, 1) := dk_9 (dk_at dksX8_cut_3 12 rfl rfl)
theorem dX8_cut_83 : decode cX8_cut 83 = .ok (.lstore 4, 2) := dk_55 4 (dk_at dksX8_cut_3 13 rfl rfl)
theorem dX8_cut_85 : decode cX8_cut 85 = .ok (.aload_n 0, 1) := dk_42 (dk_at dksX8_cut_3 15 rfl rfl)
theorem dX8_cut_86 : decode cX8_cut 86 = .ok (.iload_n 1, 1) := dk_27 (dk_at dksX8_cut_3 16 rfl rfl)
theorem dX8_cut_87 : decode cX8_cut 87 = .ok (.iload_n 3, 1) := dk_29 (dk_at dksX8_cut_3 17 rfl rfl)
theorem dX8_cut_88 : decode cX8_cut 88 = .ok (.iadd, 1) := dk_96 (dk_at dksX8_cut_3 18 rfl rfl)
theorem dX8_cut_89 : decode cX8_cut 89 = .ok (.invokevirtual 208, 3) := dk_182 0 208 (dk_at dksX8_cut_3 19 rfl rfl)
theorem dX8_cut_92 : decode cX8_cut 92 = .ok (.invokestatic 216, 3) := dk_184 0 216 (dk_at dksX8_cut_4 0 rfl rfl)
theorem dX8_cut_95 : decode cX8_cut 95 = .ok (.ifCond .eq 29, 3) := dk_153 0 29 (dk_at dksX8_cut_4 3 rfl rfl)
theorem dX8_cut_98 : decode cX8_cut 98 = .ok (.iload_n 3, 1) := dk_29 (dk_at dksX8_cut_4 6 rfl rfl)
theorem dX8_cut_99 : decode cX8_cut 99 = .ok (.bipush 8, 2) := dk_16 8 (dk_at dksX8_cut_4 7 rfl rfl)
theorem dX8_cut_101 : decode cX8_cut 101 = .ok (.if_icmp .ge 17, 3) := dk_162 0 17 (dk_at dksX8_cut_4 9 rfl rfl)
theorem dX8_cut_104 : decode cX8_cut 104 = .ok (.lload 4, 2) := dk_22 4 (dk_at dksX8_cut_4 12 rfl rfl)
theorem dX8_cut_106 : decode cX8_cut 106 = .ok (.aload_n 0, 1) := dk_42 (dk_at dksX8_cut_4 14 rfl rfl)
theorem dX8_cut_107 : decode cX8_cut 107 = .ok (.iload_n 1, 1) := dk_27 (dk_at dksX8_cut_4 15 rfl rfl)
theorem dX8_cut_108 : decode cX8_cut 108 = .ok (.iload_n 3, 1) := dk_29 (dk_at dksX8_cut_4 16 rfl rfl)
theorem dX8_cut_109 : decode cX8_cut 109 = .ok (.iadd, 1) := dk_96 (dk_at dksX8_cut_4 17 rfl rfl)
theorem dX8_cut_110 : decode cX8_cut 110 = .ok (.invokevirtual 208, 3) := dk_182 0 208 (dk_at dksX8_cut_4 18 rfl rfl)
theorem dX8_cut_113 : decode cX8_cut 113 = .ok (.invokestatic 201, 3) := dk_184 0 201 (dk_at dksX8_cut_4 21 rfl rfl)
theorem dX8_cut_116 : decode cX8_cut 116 = .ok (.lstore 4, 2) := dk_55 4 (dk_at dksX8_cut_5 0 rfl rfl)
theorem dX8_cut_118 : decode cX8_cut 118 = .ok (.iinc 3 1, 3) := dk_132 3 1 (dk_at dksX8_cut_5 2 rfl rfl)
theorem dX8_cut_121 : decode cX8_cut 121 = .ok (.goto (-36), 3) := dk_167 255 220 (dk_at dksX8_cut_5 5 rfl rfl)
theorem dX8_cut_124 : decode cX8_cut 124 = .ok (.iload_n 3, 1) := dk_29 (dk_at dksX8_cut_5 8 rfl rfl)
theorem dX8_cut_125 : decode cX8_cut 125 = .ok (.bipush 8, 2) := dk_16 8 (dk_at dksX8_cut_5 9 rfl rfl)
theorem dX8_cut_127 : decode cX8_cut 127 = .ok (.if_icmp .le 7, 3) := dk_164 0 7 (dk_at dksX8_cut_5 11 rfl rfl)
theorem dX8_cut_130 : decode cX8_cut 130 = .ok (.iconst 3, 1) := dk_6 (dk_at dksX8_cut_5 14 rfl rfl)
theorem dX8_cut_131 : decode cX8_cut 131 = .ok (.goto 4, 3) := dk_167 0 4 (dk_at dksX8_cut_5 15 rfl rfl)
theorem dX8_cut_134 : decode cX8_cut 134 = .ok (.iconst 1, 1) := dk_4 (dk_at dksX8_cut_5 18 rfl rfl)
theorem dX8_cut_135 : decode cX8_cut 135 = .ok (.istore 6, 2) := dk_54 6 (dk_at dksX8_cut_5 19 rfl rfl)
theorem dX8_cut_137 : decode cX8_cut 137 = .ok (.iload_n 3, 1) := dk_29 (dk_at dksX8_cut_5 21 rfl rfl)
theorem dX8_cut_138 : decode cX8_cut 138 = .ok (.bipush 7, 2) := dk_16 7 (dk_at dksX8_cut_5 22 rfl rfl)
theorem dX8_cut_140 : decode cX8_cut 140 = .ok (.if_icmp .gt 39, 3) := dk_163 0 39 (dk_at dksX8_cut_6 0 rfl rfl)
theorem dX8_cut_143 : decode cX8_cut 143 = .ok (.iconst 0, 1) := dk_3 (dk_at dksX8_cut_6 3 rfl rfl)
theorem dX8_cut_144 : decode cX8_cut 144 = .ok (.istore 7, 2) := dk_54 7 (dk_at dksX8_cut_6 4 rfl rfl)
theorem dX8_cut_146 : decode cX8_cut 146 = .ok (.iload 7, 2) := dk_21 7 (dk_at dksX8_cut_6 6 rfl rfl)
theorem dX8_cut_148 : decode cX8_cut 148 = .ok (.bipush 17, 2) := dk_16 17 (dk_at dksX8_cut_6 8 rfl rfl)
theorem dX8_cut_150 : decode cX8_cut 150 = .ok (.if_icmp .ge 29, 3) := dk_162 0 29 (dk_at dksX8_cut_6 10 rfl rfl)
theorem dX8_cut_153 : decode cX8_cut 153 = .ok (.aload_n 0, 1) := dk_42 (dk_at dksX8_cut_6 13 rfl rfl)
theorem dX8_cut_154 : decode cX8_cut 154 = .ok (.getfield 34, 3) := dk_180 0 34 (dk_at dksX8_cut_6 14 rfl rfl)
theorem dX8_cut_157 : decode cX8_cut 157 = .ok (.iload 7, 2) := dk_21 7 (dk_at dksX8_cut_6 17 rfl rfl)
theorem dX8_cut_159 : decode cX8_cut 159 = .ok (.laload, 1) := dk_47 (dk_at dksX8_cut_6 19 rfl rfl)
theorem dX8_cut_160 : decode cX8_cut 160 = .ok (.lload 4, 2) := dk_22 4 (dk_at dksX8_cut_6 20 rfl rfl)
theorem dX8_cut_162 : decode cX8_cut 162 = .ok (.lcmp, 1) := dk_148 (dk_at dksX8_cut_6 22 rfl rfl)
theorem dX8_cut_163 : decode cX8_cut 163 = .ok (.ifCond .ne 10, 3) := dk_154 0 10 (dk_at dksX8_cut_7 0 rfl rfl)
theorem dX8_cut_166 : decode cX8_cut 166 = .ok (.bipush 20, 2) := dk_16 20 (dk_at dksX8_cut_7 3 rfl rfl)
theorem dX8_cut_168 : decode cX8_cut 168 = .ok (.iload 7, 2) := dk_21 7 (dk_at dksX8_cut_7 5 rfl rfl)
theorem dX8_cut_170 : decode cX8_cut 170 = .ok (.iadd, 1) := dk_96 (dk_at dksX8_cut_7 7 rfl rfl)
theorem dX8_cut_171 : decode cX8_cut 171 = .ok (.istore 6, 2) := dk_54 6 (dk_at dksX8_cut_7 8 rfl rfl)
theorem dX8_cut_173 : decode cX8_cut 173 = .ok (.iinc 7 1, 3) := dk_132 7 1 (dk_at dksX8_cut_7 10 rfl rfl)
theorem dX8_cut_176 : decode cX8_cut 176 = .ok (.goto (-30), 3) := dk_167 255 226 (dk_at dksX8_cut_7 13 rfl rfl)
theorem dX8_cut_179 : decode cX8_cut 179 = .ok (.aload_n 0, 1) := dk_42 (dk_at dksX8_cut_7 16 rfl rfl)
theorem dX8_cut_180 : decode cX8_cut 180 = .ok (.iload 6, 2) := dk_21 6 (dk_at dksX8_cut_7 17 rfl rfl)
theorem dX8_cut_182 : decode cX8_cut 182 = .ok (.iload_n 1, 1) := dk_27 (dk_at dksX8_cut_7 19 rfl rfl)
theorem dX8_cut_183 : decode cX8_cut 183 = .ok (.iconst 0, 1) := dk_3 (dk_at dksX8_cut_7 20 rfl rfl)
theorem dX8_cut_184 : decode cX8_cut 184 = .ok (.lload 4, 2) := dk_22 4 (dk_at dksX8_cut_7 21 rfl rfl)
theorem dX8_cut_186 : decode cX8_cut 186 = .ok (.invokevirtual 212, 3) := dk_182 0 212 (dk_at dksX8_cut_8 0 rfl rfl)
theorem dX8_cut_189 : decode cX8_cut 189 = .ok (.iload_n 1, 1) := dk_27 (dk_at dksX8_cut_8 3 rfl rfl)
theorem dX8_cut_190 : decode cX8_cut 190 = .ok (.iload_n 3, 1) := dk_29 (dk_at dksX8_cut_8 4 rfl rfl)
theorem dX8_cut_191 : decode cX8_cut 191 = .ok (.iadd, 1) := dk_96 (dk_at dksX8_cut_8 5 rfl rfl)
theorem dX8_cut_192 : decode cX8_cut 192 = .ok (.istore_n 1, 1) := dk_60 (dk_at dksX8_cut_8 6 rfl rfl)
theorem dX8_cut_193 : decode cX8_cut 193 = .ok (.goto 98, 3) := dk_167 0 98 (dk_at dksX8_cut_8 7 rfl rfl)
theorem dX8_cut_196 : decode cX8_cut 196 = .ok (.iload_n 2, 1) := dk_28 (dk_at dksX8_cut_8 10 rfl rfl)
theorem dX8_cut_197 : decode cX8_cut 197 = .ok (.invokestatic 220, 3) := dk_184 0 220 (dk_at dksX8_cut_8 11 rfl rfl)
theorem dX8_cut_200 : decode cX8_cut 200 = .ok (.ifCond .eq 75, 3) := dk_153 0 75 (dk_at dksX8_cut_8 14 rfl rfl)
theorem dX8_cut_203 : decode cX8_cut 203 = .ok (.iconst 0, 1) := dk_3 (dk_at dksX8_cut_8 17 rfl rfl)
theorem dX8_cut_204 : decode cX8_cut 204 = .ok (.istore_n 3, 1) := dk_62 (dk_at dksX8_cut_8 18 rfl rfl)
theorem dX8_cut_205 : decode cX8_cut 205 = .ok (.iconst 0, 1) := dk_3 (dk_at dksX8_cut_8 19 rfl rfl)
theorem dX8_cut_206 : decode cX8_cut 206 = .ok (.istore 4, 2) := dk_54 4 (dk_at dksX8_cut_8 20 rfl rfl)
theorem dX8_cut_208 : decode cX8_cut 208 = .ok (.aload_n 0, 1) := dk_42 (dk_at dksX8_cut_8 22 rfl rfl)
theorem dX8_cut_209 : decode cX8_cut 209 = .ok (.iload_n 1, 1) := dk_27 (dk_at dksX8_cut_8 23 rfl rfl)
theorem dX8_cut_210 : decode cX8_cut 210 = .ok (.iload_n 3, 1) := dk_29 (dk_at dksX8_cut_9 0 rfl rfl)
theorem dX8_cut_211 : decode cX8_cut 211 = .ok (.iadd, 1) := dk_96 (dk_at dksX8_cut_9 1 rfl rfl)
theorem dX8_cut_212 : decode cX8_cut 212 = .ok (.invokevirtual 208, 3) := dk_182 0 208 (dk_at dksX8_cut_9 2 rfl rfl)
theorem dX8_cut_215 : decode cX8_cut 215 = .ok (.invokestatic 220, 3) := dk_184 0 220 (dk_at dksX8_cut_9 5 rfl rfl)
theorem dX8_cut_218 : decode cX8_cut 218 = .ok (.ifCond .eq 32, 3) := dk_153 0 32 (dk_at dksX8_cut_9 8 rfl rfl)
theorem dX8_cut_221 : decode cX8_cut 221 = .ok (.iload_n 3, 1) := dk_29 (dk_at dksX8_cut_9 11 rfl rfl)
theorem dX8_cut_222 : decode cX8_cut 222 = .ok (.iconst 4, 1) := dk_7 (dk_at dksX8_cut_9 12 rfl rfl)
theorem dX8_cut_223 : decode cX8_cut 223 = .ok (.if_icmp .ge 21, 3) := dk_162 0 21 (dk_at dksX8_cut_9 13 rfl rfl)
theorem dX8_cut_226 : decode cX8_cut 226 = .ok (.bipush 10, 2) := dk_16 10 (dk_at dksX8_cut_9 16 rfl rfl)
theorem dX8_cut_228 : decode cX8_cut 228 = .ok (.iload 4, 2) := dk_21 4 (dk_at dksX8_cut_9 18 rfl rfl)
theorem dX8_cut_230 : decode cX8_cut 230 = .ok (.imul, 1) := dk_104 (dk_at dksX8_cut_9 20 rfl rfl)
theorem dX8_cut_231 : decode cX8_cut 231 = .ok (.aload_n 0, 1) := dk_42 (dk_at dksX8_cut_9 21 rfl rfl)
theorem dX8_cut_232 : decode cX8_cut 232 = .ok (.iload_n 1, 1) := dk_27 (dk_at dksX8_cut_9 22 rfl rfl)
theorem dX8_cut_233 : decode cX8_cut 233 = .ok (.iload_n 3, 1) := dk_29 (dk_at dksX8_cut_9 23 rfl rfl)
theorem dX8_cut_234 : decode cX8_cut 234 = .ok (.iadd, 1) := dk_96 (dk_at dksX8_cut_10 0 rfl rfl)
theorem dX8_cut_235 : decode cX8_cut 235 = .ok (.invokevirtual 208, 3) := dk_182 0 208 (dk_at dksX8_cut_10 1 rfl rfl)
theorem dX8_cut_238 : decode cX8_cut 238 = .ok (.iadd, 1) := dk_96 (dk_at dksX8_cut_10 4 rfl rfl)
theorem dX8_cut_239 : decode cX8_cut 239 = .ok (.bipush 48, 2) := dk_16 48 (dk_at dksX8_cut_10 5 rfl rfl)
theorem dX8_cut_241 : decode cX8_cut 241 = .ok (.isub, 1) := dk_100 (dk_at dksX8_cut_10 7 rfl rfl)
theorem dX8_cut_242 : decode cX8_cut 242 = .ok (.istore 4, 2) := dk_54 4 (dk_at dksX8_cut_10 8 rfl rfl)
theorem dX8_cut_244 : decode cX8_cut 244 = .ok (.iinc 3 1, 3) := dk_132 3 1 (dk_at dksX8_cut_10 10 rfl rfl)
theorem dX8_cut_247 : decode cX8_cut 247 = .ok (.goto (-39), 3) := dk_167 255 217 (dk_at dksX8_cut_10 13 rfl rfl)
theorem dX8_cut_250 : decode cX8_cut 250 = .ok (.aload_n 0, 1) := dk_42 (dk_at dksX8_cut_10 16 rfl rfl)
theorem dX8_cut_251 : decode cX8_cut 251 = .ok (.iload_n 3, 1) := dk_29 (dk_at dksX8_cut_10 17 rfl rfl)
theorem dX8_cut_252 : decode cX8_cut 252 = .ok (.iconst 4, 1) := dk_7 (dk_at dksX8_cut_10 18 rfl rfl)
theorem dX8_cut_253 : decode cX8_cut 253 = .ok (.if_icmp .le 7, 3) := dk_164 0 7 (dk_at dksX8_cut_10 19 rfl rfl)
theorem dX8_cut_256 : decode cX8_cut 256 = .ok (.iconst 3, 1) := dk_6 (dk_at dksX8_cut_10 22 rfl rfl)
theorem dX8_cut_257 : decode cX8_cut 257 = .ok (.goto 4, 3) := dk_167 0 4 (dk_at dksX8_cut_11 0 rfl rfl)
theorem dX8_cut_260 : decode cX8_cut 260 = .ok (.iconst 2, 1) := dk_5 (dk_at dksX8_cut_11 3 rfl rfl)
theorem dX8_cut_261 : decode cX8_cut 261 = .ok (.iload_n 1, 1) := dk_27 (dk_at dksX8_cut_11 4 rfl rfl)
theorem dX8_cut_262 : decode cX8_cut 262 = .ok (.iload 4, 2) := dk_21 4 (dk_at dksX8_cut_11 5 rfl rfl)
theorem dX8_cut_264 : decode cX8_cut 264 = .ok (.lconst 0, 1) := dk_9 (dk_at dksX8_cut_11 7 rfl rfl)
theorem dX8_cut_265 : decode cX8_cut 265 = .ok (.invokevirtual 212, 3) := dk_182 0 212 (dk_at dksX8_cut_11 8 rfl rfl)
theorem dX8_cut_268 : decode cX8_cut 268 = .ok (.iload_n 1, 1) := dk_27 (dk_at dksX8_cut_11 11 rfl rfl)
theorem dX8_cut_269 : decode cX8_cut 269 = .ok (.iload_n 3, 1) := dk_29 (dk_at dksX8_cut_11 12 rfl rfl)
theorem dX8_cut_270 : decode cX8_cut 270 = .ok (.iadd, 1) := dk_96 (dk_at dksX8_cut_11 13 rfl rfl)
theorem dX8_cut_271 : decode cX8_cut 271 = .ok (.istore_n 1, 1) := dk_60 (dk_at dksX8_cut_11 14 rfl rfl)
theorem dX8_cut_272 : decode cX8_cut 272 = .ok (.goto 19, 3) := dk_167 0 19 (dk_at dksX8_cut_11 15 rfl rfl)
theorem dX8_cut_275 : decode cX8_cut 275 = .ok (.iload_n 1, 1) := dk_27 (dk_at dksX8_cut_11 18 rfl rfl)
theorem dX8_cut_276 : decode cX8_cut 276 = .ok (.aload_n 0, 1) := dk_42 (dk_at dksX8_cut_11 19 rfl rfl)
theorem dX8_cut_277 : decode cX8_cut 277 = .ok (.iload_n 1, 1) := dk_27 (dk_at dksX8_cut_11 20 rfl rfl)
theorem dX8_cut_278 : decode cX8_cut 278 = .ok (.iload_n 2, 1) := dk_28 (dk_at dksX8_cut_11 21 rfl rfl)
theorem dX8_cut_279 : decode cX8_cut 279 = .ok (.aload_n 0, 1) := dk_42 (dk_at dksX8_cut_11 22 rfl rfl)
theorem dX8_cut_280 : decode cX8_cut 280 = .ok (.iload_n 1, 1) := dk_27 (dk_at dksX8_cut_11 23 rfl rfl)
theorem dX8_cut_281 : decode cX8_cut 281 = .ok (.iconst 1, 1) := dk_4 (dk_at dksX8_cut_12 0 rfl rfl)
theorem dX8_cut_282 : decode cX8_cut 282 = .ok (.iadd, 1) := dk_96 (dk_at dksX8_cut_12 1 rfl rfl)
theorem dX8_cut_283 : decode cX8_cut 283 = .ok (.invokevirtual 208, 3) := dk_182 0 208 (dk_at dksX8_cut_12 2 rfl rfl)
theorem dX8_cut_286 : decode cX8_cut 286 = .ok (.invokevirtual 223, 3) := dk_182 0 223 (dk_at dksX8_cut_12 5 rfl rfl)
theorem dX8_cut_289 : decode cX8_cut 289 = .ok (.iadd, 1) := dk_96 (dk_at dksX8_cut_12 8 rfl rfl)
theorem dX8_cut_290 : decode cX8_cut 290 = .ok (.istore_n 1, 1) := dk_60 (dk_at dksX8_cut_12 9 rfl rfl)
theorem dX8_cut_291 : decode cX8_cut 291 = .ok (.goto (-284), 3) := dk_167 254 228 (dk_at dksX8_cut_12 10 rfl rfl)
theorem dX8_cut_294 : decode cX8_cut 294 = .ok (.return_, 1) := dk_177 (dk_at dksX8_cut_12 13 rfl rfl)
abbrev cX8_byteAt : ByteArray := prog_19_method_6_code
def yX8_byteAt : MethodName := ⟨RX8, "byteAt", "(I)I"⟩
def dkwX8_byteAt_0 : List UInt8 := [27, 42, 180, 0, 196, 162, 0, 16, 42, 180, 0, 17, 27, 51, 17, 0, 255, 126, 167, 0, 4, 3, 172]
abbrev dktX8_byteAt_0 : List UInt8 := dkwX8_byteAt_0 ++ []
theorem dksX8_byteAt_0 : cX8_byteAt.data.toList.drop 0 = dktX8_byteAt_0 := by decide +kernel
theorem dX8_byteAt_0 : decode cX8_byteAt 0 = .ok (.iload_n 1, 1) := dk_27 (dk_at dksX8_byteAt_0 0 rfl rfl)
theorem dX8_byteAt_1 : decode cX8_byteAt 1 = .ok (.aload_n 0, 1) := dk_42 (dk_at dksX8_byteAt_0 1 rfl rfl)
theorem dX8_byteAt_2 : decode cX8_byteAt 2 = .ok (.getfield 196, 3) := dk_180 0 196 (dk_at dksX8_byteAt_0 2 rfl rfl)
theorem dX8_byteAt_5 : decode cX8_byteAt 5 = .ok (.if_icmp .ge 16, 3) := dk_162 0 16 (dk_at dksX8_byteAt_0 5 rfl rfl)
theorem dX8_byteAt_8 : decode cX8_byteAt 8 = .ok (.aload_n 0, 1) := dk_42 (dk_at dksX8_byteAt_0 8 rfl rfl)
theorem dX8_byteAt_9 : decode cX8_byteAt 9 = .ok (.getfield 17, 3) := dk_180 0 17 (dk_at dksX8_byteAt_0 9 rfl rfl)
theorem dX8_byteAt_12 : decode cX8_byteAt 12 = .ok (.iload_n 1, 1) := dk_27 (dk_at dksX8_byteAt_0 12 rfl rfl)
theorem dX8_byteAt_13 : decode cX8_byteAt 13 = .ok (.baload, 1) := dk_51 (dk_at dksX8_byteAt_0 13 rfl rfl)
theorem dX8_byteAt_14 : decode cX8_byteAt 14 = .ok (.sipush 255, 3) := dk_17 0 255 (dk_at dksX8_byteAt_0 14 rfl rfl)
theorem dX8_byteAt_17 : decode cX8_byteAt 17 = .ok (.iand, 1) := dk_126 (dk_at dksX8_byteAt_0 17 rfl rfl)
theorem dX8_byteAt_18 : decode cX8_byteAt 18 = .ok (.goto 4, 3) := dk_167 0 4 (dk_at dksX8_byteAt_0 18 rfl rfl)
theorem dX8_byteAt_21 : decode cX8_byteAt 21 = .ok (.iconst 0, 1) := dk_3 (dk_at dksX8_byteAt_0 21 rfl rfl)
theorem dX8_byteAt_22 : decode cX8_byteAt 22 = .ok (.ireturn, 1) := dk_172 (dk_at dksX8_byteAt_0 22 rfl rfl)
abbrev cX8_token : ByteArray := prog_19_method_11_code
def yX8_token : MethodName := ⟨RX8, "token", "(IIIJ)V"⟩
def dkwX8_token_2 : List UInt8 := [181, 0, 205, 177]
abbrev dktX8_token_2 : List UInt8 := dkwX8_token_2 ++ []
def dkwX8_token_1 : List UInt8 := [42, 180, 0, 205, 29, 79, 42, 180, 0, 30, 42, 180, 0, 205, 22, 4, 80, 42, 89, 180, 0, 205, 4, 96]
abbrev dktX8_token_1 : List UInt8 := dkwX8_token_1 ++ dktX8_token_2
def dkwX8_token_0 : List UInt8 := [42, 180, 0, 20, 42, 180, 0, 205, 27, 79, 42, 180, 0, 24, 42, 180, 0, 205, 28, 79, 42, 180, 0, 27]
abbrev dktX8_token_0 : List UInt8 := dkwX8_token_0 ++ dktX8_token_1
theorem dksX8_token_0 : cX8_token.data.toList.drop 0 = dktX8_token_0 := by decide +kernel
theorem dksX8_token_1 : cX8_token.data.toList.drop 24 = dktX8_token_1 := dk_seg dksX8_token_0 24 rfl rfl
theorem dksX8_token_2 : cX8_token.data.toList.drop 48 = dktX8_token_2 := dk_seg dksX8_token_1 24 rfl rfl
theorem dX8_token_0 : decode cX8_token 0 = .ok (.aload_n 0, 1) := dk_42 (dk_at dksX8_token_0 0 rfl rfl)
theorem dX8_token_1 : decode cX8_token 1 = .ok (.getfield 20, 3) := dk_180 0 20 (dk_at dksX8_token_0 1 rfl rfl)
theorem dX8_token_4 : decode cX8_token 4 = .ok (.aload_n 0, 1) := dk_42 (dk_at dksX8_token_0 4 rfl rfl)
theorem dX8_token_5 : decode cX8_token 5 = .ok (.getfield 205, 3) := dk_180 0 205 (dk_at dksX8_token_0 5 rfl rfl)
theorem dX8_token_8 : decode cX8_token 8 = .ok (.iload_n 1, 1) := dk_27 (dk_at dksX8_token_0 8 rfl rfl)
theorem dX8_token_9 : decode cX8_token 9 = .ok (.iastore, 1) := dk_79 (dk_at dksX8_token_0 9 rfl rfl)
theorem dX8_token_10 : decode cX8_token 10 = .ok (.aload_n 0, 1) := dk_42 (dk_at dksX8_token_0 10 rfl rfl)
theorem dX8_token_11 : decode cX8_token 11 = .ok (.getfield 24, 3) := dk_180 0 24 (dk_at dksX8_token_0 11 rfl rfl)
theorem dX8_token_14 : decode cX8_token 14 = .ok (.aload_n 0, 1) := dk_42 (dk_at dksX8_token_0 14 rfl rfl)
theorem dX8_token_15 : decode cX8_token 15 = .ok (.getfield 205, 3) := dk_180 0 205 (dk_at dksX8_token_0 15 rfl rfl)
theorem dX8_token_18 : decode cX8_token 18 = .ok (.iload_n 2, 1) := dk_28 (dk_at dksX8_token_0 18 rfl rfl)
theorem dX8_token_19 : decode cX8_token 19 = .ok (.iastore, 1) := dk_79 (dk_at dksX8_token_0 19 rfl rfl)
theorem dX8_token_20 : decode cX8_token 20 = .ok (.aload_n 0, 1) := dk_42 (dk_at dksX8_token_0 20 rfl rfl)
theorem dX8_token_21 : decode cX8_token 21 = .ok (.getfield 27, 3) := dk_180 0 27 (dk_at dksX8_token_0 21 rfl rfl)
theorem dX8_token_24 : decode cX8_token 24 = .ok (.aload_n 0, 1) := dk_42 (dk_at dksX8_token_1 0 rfl rfl)
theorem dX8_token_25 : decode cX8_token 25 = .ok (.getfield 205, 3) := dk_180 0 205 (dk_at dksX8_token_1 1 rfl rfl)
theorem dX8_token_28 : decode cX8_token 28 = .ok (.iload_n 3, 1) := dk_29 (dk_at dksX8_token_1 4 rfl rfl)
theorem dX8_token_29 : decode cX8_token 29 = .ok (.iastore, 1) := dk_79 (dk_at dksX8_token_1 5 rfl rfl)
theorem dX8_token_30 : decode cX8_token 30 = .ok (.aload_n 0, 1) := dk_42 (dk_at dksX8_token_1 6 rfl rfl)
theorem dX8_token_31 : decode cX8_token 31 = .ok (.getfield 30, 3) := dk_180 0 30 (dk_at dksX8_token_1 7 rfl rfl)
theorem dX8_token_34 : decode cX8_token 34 = .ok (.aload_n 0, 1) := dk_42 (dk_at dksX8_token_1 10 rfl rfl)
theorem dX8_token_35 : decode cX8_token 35 = .ok (.getfield 205, 3) := dk_180 0 205 (dk_at dksX8_token_1 11 rfl rfl)
theorem dX8_token_38 : decode cX8_token 38 = .ok (.lload 4, 2) := dk_22 4 (dk_at dksX8_token_1 14 rfl rfl)
theorem dX8_token_40 : decode cX8_token 40 = .ok (.lastore, 1) := dk_80 (dk_at dksX8_token_1 16 rfl rfl)
theorem dX8_token_41 : decode cX8_token 41 = .ok (.aload_n 0, 1) := dk_42 (dk_at dksX8_token_1 17 rfl rfl)
theorem dX8_token_42 : decode cX8_token 42 = .ok (.dup, 1) := dk_89 (dk_at dksX8_token_1 18 rfl rfl)
theorem dX8_token_43 : decode cX8_token 43 = .ok (.getfield 205, 3) := dk_180 0 205 (dk_at dksX8_token_1 19 rfl rfl)
theorem dX8_token_46 : decode cX8_token 46 = .ok (.iconst 1, 1) := dk_4 (dk_at dksX8_token_1 22 rfl rfl)
theorem dX8_token_47 : decode cX8_token 47 = .ok (.iadd, 1) := dk_96 (dk_at dksX8_token_1 23 rfl rfl)
theorem dX8_token_48 : decode cX8_token 48 = .ok (.putfield 205, 3) := dk_181 0 205 (dk_at dksX8_token_2 0 rfl rfl)
theorem dX8_token_51 : decode cX8_token 51 = .ok (.return_, 1) := dk_177 (dk_at dksX8_token_2 3 rfl rfl)
abbrev cX8_isLetter : ByteArray := prog_19_method_8_code
def yX8_isLetter : MethodName := ⟨RX8, "isLetter", "(I)Z"⟩
def dkwX8_isLetter_0 : List UInt8 := [26, 16, 97, 161, 0, 13, 26, 16, 122, 163, 0, 7, 4, 167, 0, 4, 3, 172]
abbrev dktX8_isLetter_0 : List UInt8 := dkwX8_isLetter_0 ++ []
theorem dksX8_isLetter_0 : cX8_isLetter.data.toList.drop 0 = dktX8_isLetter_0 := by decide +kernel
theorem dX8_isLetter_0 : decode cX8_isLetter 0 = .ok (.iload_n 0, 1) := dk_26 (dk_at dksX8_isLetter_0 0 rfl rfl)
theorem dX8_isLetter_1 : decode cX8_isLetter 1 = .ok (.bipush 97, 2) := dk_16 97 (dk_at dksX8_isLetter_0 1 rfl rfl)
theorem dX8_isLetter_3 : decode cX8_isLetter 3 = .ok (.if_icmp .lt 13, 3) := dk_161 0 13 (dk_at dksX8_isLetter_0 3 rfl rfl)
theorem dX8_isLetter_6 : decode cX8_isLetter 6 = .ok (.iload_n 0, 1) := dk_26 (dk_at dksX8_isLetter_0 6 rfl rfl)
theorem dX8_isLetter_7 : decode cX8_isLetter 7 = .ok (.bipush 122, 2) := dk_16 122 (dk_at dksX8_isLetter_0 7 rfl rfl)
theorem dX8_isLetter_9 : decode cX8_isLetter 9 = .ok (.if_icmp .gt 7, 3) := dk_163 0 7 (dk_at dksX8_isLetter_0 9 rfl rfl)
theorem dX8_isLetter_12 : decode cX8_isLetter 12 = .ok (.iconst 1, 1) := dk_4 (dk_at dksX8_isLetter_0 12 rfl rfl)
theorem dX8_isLetter_13 : decode cX8_isLetter 13 = .ok (.goto 4, 3) := dk_167 0 4 (dk_at dksX8_isLetter_0 13 rfl rfl)
theorem dX8_isLetter_16 : decode cX8_isLetter 16 = .ok (.iconst 0, 1) := dk_3 (dk_at dksX8_isLetter_0 16 rfl rfl)
theorem dX8_isLetter_17 : decode cX8_isLetter 17 = .ok (.ireturn, 1) := dk_172 (dk_at dksX8_isLetter_0 17 rfl rfl)
abbrev cX8_isDigit : ByteArray := prog_19_method_7_code
def yX8_isDigit : MethodName := ⟨RX8, "isDigit", "(I)Z"⟩
def dkwX8_isDigit_0 : List UInt8 := [26, 16, 48, 161, 0, 13, 26, 16, 57, 163, 0, 7, 4, 167, 0, 4, 3, 172]
abbrev dktX8_isDigit_0 : List UInt8 := dkwX8_isDigit_0 ++ []
theorem dksX8_isDigit_0 : cX8_isDigit.data.toList.drop 0 = dktX8_isDigit_0 := by decide +kernel
theorem dX8_isDigit_0 : decode cX8_isDigit 0 = .ok (.iload_n 0, 1) := dk_26 (dk_at dksX8_isDigit_0 0 rfl rfl)
theorem dX8_isDigit_1 : decode cX8_isDigit 1 = .ok (.bipush 48, 2) := dk_16 48 (dk_at dksX8_isDigit_0 1 rfl rfl)
theorem dX8_isDigit_3 : decode cX8_isDigit 3 = .ok (.if_icmp .lt 13, 3) := dk_161 0 13 (dk_at dksX8_isDigit_0 3 rfl rfl)
theorem dX8_isDigit_6 : decode cX8_isDigit 6 = .ok (.iload_n 0, 1) := dk_26 (dk_at dksX8_isDigit_0 6 rfl rfl)
theorem dX8_isDigit_7 : decode cX8_isDigit 7 = .ok (.bipush 57, 2) := dk_16 57 (dk_at dksX8_isDigit_0 7 rfl rfl)
theorem dX8_isDigit_9 : decode cX8_isDigit 9 = .ok (.if_icmp .gt 7, 3) := dk_163 0 7 (dk_at dksX8_isDigit_0 9 rfl rfl)
theorem dX8_isDigit_12 : decode cX8_isDigit 12 = .ok (.iconst 1, 1) := dk_4 (dk_at dksX8_isDigit_0 12 rfl rfl)
theorem dX8_isDigit_13 : decode cX8_isDigit 13 = .ok (.goto 4, 3) := dk_167 0 4 (dk_at dksX8_isDigit_0 13 rfl rfl)
theorem dX8_isDigit_16 : decode cX8_isDigit 16 = .ok (.iconst 0, 1) := dk_3 (dk_at dksX8_isDigit_0 16 rfl rfl)
theorem dX8_isDigit_17 : decode cX8_isDigit 17 = .ok (.ireturn, 1) := dk_172 (dk_at dksX8_isDigit_0 17 rfl rfl)
abbrev cX8_sign : ByteArray := prog_19_method_13_code
def yX8_sign : MethodName := ⟨RX8, "sign", "(III)I"⟩
def dkwX8_sign_4 : List UInt8 := [16, 13, 54, 4, 42, 21, 4, 27, 3, 9, 182, 0, 212, 4, 172]
abbrev dktX8_sign_4 : List UInt8 := dkwX8_sign_4 ++ []
def dkwX8_sign_3 : List UInt8 := [160, 0, 7, 16, 10, 54, 4, 28, 16, 47, 160, 0, 7, 16, 15, 54, 4, 28, 16, 60, 160, 0, 7]
abbrev dktX8_sign_3 : List UInt8 := dkwX8_sign_3 ++ dktX8_sign_4
def dkwX8_sign_2 : List UInt8 := [16, 43, 160, 0, 7, 16, 8, 54, 4, 28, 16, 45, 160, 0, 7, 16, 9, 54, 4, 28, 16, 42]
abbrev dktX8_sign_2 : List UInt8 := dkwX8_sign_2 ++ dktX8_sign_3
def dkwX8_sign_1 : List UInt8 := [160, 0, 8, 16, 6, 167, 0, 15, 28, 16, 41, 160, 0, 8, 16, 7, 167, 0, 4, 6, 54, 4, 28]
abbrev dktX8_sign_1 : List UInt8 := dkwX8_sign_1 ++ dktX8_sign_2
def dkwX8_sign_0 : List UInt8 := [28, 16, 59, 160, 0, 7, 7, 167, 0, 36, 28, 16, 61, 160, 0, 7, 8, 167, 0, 26, 28, 16, 40]
abbrev dktX8_sign_0 : List UInt8 := dkwX8_sign_0 ++ dktX8_sign_1
theorem dksX8_sign_0 : cX8_sign.data.toList.drop 0 = dktX8_sign_0 := by decide +kernel
theorem dksX8_sign_1 : cX8_sign.data.toList.drop 23 = dktX8_sign_1 := dk_seg dksX8_sign_0 23 rfl rfl
theorem dksX8_sign_2 : cX8_sign.data.toList.drop 46 = dktX8_sign_2 := dk_seg dksX8_sign_1 23 rfl rfl
theorem dksX8_sign_3 : cX8_sign.data.toList.drop 68 = dktX8_sign_3 := dk_seg dksX8_sign_2 22 rfl rfl
theorem dksX8_sign_4 : cX8_sign.data.toList.drop 91 = dktX8_sign_4 := dk_seg dksX8_sign_3 23 rfl rfl
theorem dX8_sign_0 : decode cX8_sign 0 = .ok (.iload_n 2, 1) := dk_28 (dk_at dksX8_sign_0 0 rfl rfl)
theorem dX8_sign_1 : decode cX8_sign 1 = .ok (.bipush 59, 2) := dk_16 59 (dk_at dksX8_sign_0 1 rfl rfl)
theorem dX8_sign_3 : decode cX8_sign 3 = .ok (.if_icmp .ne 7, 3) := dk_160 0 7 (dk_at dksX8_sign_0 3 rfl rfl)
theorem dX8_sign_6 : decode cX8_sign 6 = .ok (.iconst 4, 1) := dk_7 (dk_at dksX8_sign_0 6 rfl rfl)
theorem dX8_sign_7 : decode cX8_sign 7 = .ok (.goto 36, 3) := dk_167 0 36 (dk_at dksX8_sign_0 7 rfl rfl)
theorem dX8_sign_10 : decode cX8_sign 10 = .ok (.iload_n 2, 1) := dk_28 (dk_at dksX8_sign_0 10 rfl rfl)
theorem dX8_sign_11 : decode cX8_sign 11 = .ok (.bipush 61, 2) := dk_16 61 (dk_at dksX8_sign_0 11 rfl rfl)
theorem dX8_sign_13 : decode cX8_sign 13 = .ok (.if_icmp .ne 7, 3) := dk_160 0 7 (dk_at dksX8_sign_0 13 rfl rfl)
theorem dX8_sign_16 : decode cX8_sign 16 = .ok (.iconst 5, 1) := dk_8 (dk_at dksX8_sign_0 16 rfl rfl)
theorem dX8_sign_17 : decode cX8_sign 17 = .ok (.goto 26, 3) := dk_167 0 26 (dk_at dksX8_sign_0 17 rfl rfl)
theorem dX8_sign_20 : decode cX8_sign 20 = .ok (.iload_n 2, 1) := dk_28 (dk_at dksX8_sign_0 20 rfl rfl)
theorem dX8_sign_21 : decode cX8_sign 21 = .ok (.bipush 40, 2) := dk_16 40 (dk_at dksX8_sign_0 21 rfl rfl)
theorem dX8_sign_23 : decode cX8_sign 23 = .ok (.if_icmp .ne 8, 3) := dk_160 0 8 (dk_at dksX8_sign_1 0 rfl rfl)
theorem dX8_sign_26 : decode cX8_sign 26 = .ok (.bipush 6, 2) := dk_16 6 (dk_at dksX8_sign_1 3 rfl rfl)
theorem dX8_sign_28 : decode cX8_sign 28 = .ok (.goto 15, 3) := dk_167 0 15 (dk_at dksX8_sign_1 5 rfl rfl)
theorem dX8_sign_31 : decode cX8_sign 31 = .ok (.iload_n 2, 1) := dk_28 (dk_at dksX8_sign_1 8 rfl rfl)
theorem dX8_sign_32 : decode cX8_sign 32 = .ok (.bipush 41, 2) := dk_16 41 (dk_at dksX8_sign_1 9 rfl rfl)
theorem dX8_sign_34 : decode cX8_sign 34 = .ok (.if_icmp .ne 8, 3) := dk_160 0 8 (dk_at dksX8_sign_1 11 rfl rfl)
theorem dX8_sign_37 : decode cX8_sign 37 = .ok (.bipush 7, 2) := dk_16 7 (dk_at dksX8_sign_1 14 rfl rfl)
theorem dX8_sign_39 : decode cX8_sign 39 = .ok (.goto 4, 3) := dk_167 0 4 (dk_at dksX8_sign_1 16 rfl rfl)
theorem dX8_sign_42 : decode cX8_sign 42 = .ok (.iconst 3, 1) := dk_6 (dk_at dksX8_sign_1 19 rfl rfl)
theorem dX8_sign_43 : decode cX8_sign 43 = .ok (.istore 4, 2) := dk_54 4 (dk_at dksX8_sign_1 20 rfl rfl)
theorem dX8_sign_45 : decode cX8_sign 45 = .ok (.iload_n 2, 1) := dk_28 (dk_at dksX8_sign_1 22 rfl rfl)
theorem dX8_sign_46 : decode cX8_sign 46 = .ok (.bipush 43, 2) := dk_16 43 (dk_at dksX8_sign_2 0 rfl rfl)
theorem dX8_sign_48 : decode cX8_sign 48 = .ok (.if_icmp .ne 7, 3) := dk_160 0 7 (dk_at dksX8_sign_2 2 rfl rfl)
theorem dX8_sign_51 : decode cX8_sign 51 = .ok (.bipush 8, 2) := dk_16 8 (dk_at dksX8_sign_2 5 rfl rfl)
theorem dX8_sign_53 : decode cX8_sign 53 = .ok (.istore 4, 2) := dk_54 4 (dk_at dksX8_sign_2 7 rfl rfl)
theorem dX8_sign_55 : decode cX8_sign 55 = .ok (.iload_n 2, 1) := dk_28 (dk_at dksX8_sign_2 9 rfl rfl)
theorem dX8_sign_56 : decode cX8_sign 56 = .ok (.bipush 45, 2) := dk_16 45 (dk_at dksX8_sign_2 10 rfl rfl)
theorem dX8_sign_58 : decode cX8_sign 58 = .ok (.if_icmp .ne 7, 3) := dk_160 0 7 (dk_at dksX8_sign_2 12 rfl rfl)
theorem dX8_sign_61 : decode cX8_sign 61 = .ok (.bipush 9, 2) := dk_16 9 (dk_at dksX8_sign_2 15 rfl rfl)
theorem dX8_sign_63 : decode cX8_sign 63 = .ok (.istore 4, 2) := dk_54 4 (dk_at dksX8_sign_2 17 rfl rfl)
theorem dX8_sign_65 : decode cX8_sign 65 = .ok (.iload_n 2, 1) := dk_28 (dk_at dksX8_sign_2 19 rfl rfl)
theorem dX8_sign_66 : decode cX8_sign 66 = .ok (.bipush 42, 2) := dk_16 42 (dk_at dksX8_sign_2 20 rfl rfl)
theorem dX8_sign_68 : decode cX8_sign 68 = .ok (.if_icmp .ne 7, 3) := dk_160 0 7 (dk_at dksX8_sign_3 0 rfl rfl)
theorem dX8_sign_71 : decode cX8_sign 71 = .ok (.bipush 10, 2) := dk_16 10 (dk_at dksX8_sign_3 3 rfl rfl)
theorem dX8_sign_73 : decode cX8_sign 73 = .ok (.istore 4, 2) := dk_54 4 (dk_at dksX8_sign_3 5 rfl rfl)
theorem dX8_sign_75 : decode cX8_sign 75 = .ok (.iload_n 2, 1) := dk_28 (dk_at dksX8_sign_3 7 rfl rfl)
theorem dX8_sign_76 : decode cX8_sign 76 = .ok (.bipush 47, 2) := dk_16 47 (dk_at dksX8_sign_3 8 rfl rfl)
theorem dX8_sign_78 : decode cX8_sign 78 = .ok (.if_icmp .ne 7, 3) := dk_160 0 7 (dk_at dksX8_sign_3 10 rfl rfl)
theorem dX8_sign_81 : decode cX8_sign 81 = .ok (.bipush 15, 2) := dk_16 15 (dk_at dksX8_sign_3 13 rfl rfl)
theorem dX8_sign_83 : decode cX8_sign 83 = .ok (.istore 4, 2) := dk_54 4 (dk_at dksX8_sign_3 15 rfl rfl)
theorem dX8_sign_85 : decode cX8_sign 85 = .ok (.iload_n 2, 1) := dk_28 (dk_at dksX8_sign_3 17 rfl rfl)
theorem dX8_sign_86 : decode cX8_sign 86 = .ok (.bipush 60, 2) := dk_16 60 (dk_at dksX8_sign_3 18 rfl rfl)
theorem dX8_sign_88 : decode cX8_sign 88 = .ok (.if_icmp .ne 7, 3) := dk_160 0 7 (dk_at dksX8_sign_3 20 rfl rfl)
theorem dX8_sign_91 : decode cX8_sign 91 = .ok (.bipush 13, 2) := dk_16 13 (dk_at dksX8_sign_4 0 rfl rfl)
theorem dX8_sign_93 : decode cX8_sign 93 = .ok (.istore 4, 2) := dk_54 4 (dk_at dksX8_sign_4 2 rfl rfl)
theorem dX8_sign_95 : decode cX8_sign 95 = .ok (.aload_n 0, 1) := dk_42 (dk_at dksX8_sign_4 4 rfl rfl)
theorem dX8_sign_96 : decode cX8_sign 96 = .ok (.iload 4, 2) := dk_21 4 (dk_at dksX8_sign_4 5 rfl rfl)
theorem dX8_sign_98 : decode cX8_sign 98 = .ok (.iload_n 1, 1) := dk_27 (dk_at dksX8_sign_4 7 rfl rfl)
theorem dX8_sign_99 : decode cX8_sign 99 = .ok (.iconst 0, 1) := dk_3 (dk_at dksX8_sign_4 8 rfl rfl)
theorem dX8_sign_100 : decode cX8_sign 100 = .ok (.lconst 0, 1) := dk_9 (dk_at dksX8_sign_4 9 rfl rfl)
theorem dX8_sign_101 : decode cX8_sign 101 = .ok (.invokevirtual 212, 3) := dk_182 0 212 (dk_at dksX8_sign_4 10 rfl rfl)
theorem dX8_sign_104 : decode cX8_sign 104 = .ok (.iconst 1, 1) := dk_4 (dk_at dksX8_sign_4 13 rfl rfl)
theorem dX8_sign_105 : decode cX8_sign 105 = .ok (.ireturn, 1) := dk_172 (dk_at dksX8_sign_4 14 rfl rfl)
abbrev cX8_is : ByteArray := prog_19_method_14_code
def yX8_is : MethodName := ⟨RX8, "is", "(I)Z"⟩
def dkwX8_is_1 : List UInt8 := [3, 172]
abbrev dktX8_is_1 : List UInt8 := dkwX8_is_1 ++ []
def dkwX8_is_0 : List UInt8 := [42, 180, 0, 227, 154, 0, 20, 42, 180, 0, 20, 42, 180, 0, 230, 46, 27, 160, 0, 7, 4, 167, 0, 4]
abbrev dktX8_is_0 : List UInt8 := dkwX8_is_0 ++ dktX8_is_1
theorem dksX8_is_0 : cX8_is.data.toList.drop 0 = dktX8_is_0 := by decide +kernel
theorem dksX8_is_1 : cX8_is.data.toList.drop 24 = dktX8_is_1 := dk_seg dksX8_is_0 24 rfl rfl
theorem dX8_is_0 : decode cX8_is 0 = .ok (.aload_n 0, 1) := dk_42 (dk_at dksX8_is_0 0 rfl rfl)
theorem dX8_is_1 : decode cX8_is 1 = .ok (.getfield 227, 3) := dk_180 0 227 (dk_at dksX8_is_0 1 rfl rfl)
theorem dX8_is_4 : decode cX8_is 4 = .ok (.ifCond .ne 20, 3) := dk_154 0 20 (dk_at dksX8_is_0 4 rfl rfl)
theorem dX8_is_7 : decode cX8_is 7 = .ok (.aload_n 0, 1) := dk_42 (dk_at dksX8_is_0 7 rfl rfl)
theorem dX8_is_8 : decode cX8_is 8 = .ok (.getfield 20, 3) := dk_180 0 20 (dk_at dksX8_is_0 8 rfl rfl)
theorem dX8_is_11 : decode cX8_is 11 = .ok (.aload_n 0, 1) := dk_42 (dk_at dksX8_is_0 11 rfl rfl)
theorem dX8_is_12 : decode cX8_is 12 = .ok (.getfield 230, 3) := dk_180 0 230 (dk_at dksX8_is_0 12 rfl rfl)
theorem dX8_is_15 : decode cX8_is 15 = .ok (.iaload, 1) := dk_46 (dk_at dksX8_is_0 15 rfl rfl)
theorem dX8_is_16 : decode cX8_is 16 = .ok (.iload_n 1, 1) := dk_27 (dk_at dksX8_is_0 16 rfl rfl)
theorem dX8_is_17 : decode cX8_is 17 = .ok (.if_icmp .ne 7, 3) := dk_160 0 7 (dk_at dksX8_is_0 17 rfl rfl)
theorem dX8_is_20 : decode cX8_is 20 = .ok (.iconst 1, 1) := dk_4 (dk_at dksX8_is_0 20 rfl rfl)
theorem dX8_is_21 : decode cX8_is 21 = .ok (.goto 4, 3) := dk_167 0 4 (dk_at dksX8_is_0 21 rfl rfl)
theorem dX8_is_24 : decode cX8_is 24 = .ok (.iconst 0, 1) := dk_3 (dk_at dksX8_is_1 0 rfl rfl)
theorem dX8_is_25 : decode cX8_is 25 = .ok (.ireturn, 1) := dk_172 (dk_at dksX8_is_1 1 rfl rfl)
abbrev cX8_tellOne : ByteArray := prog_19_method_23_code
def yX8_tellOne : MethodName := ⟨RX8, "tellOne", "()V"⟩
def dkwX8_tellOne_12 : List UInt8 := [182, 1, 55, 79, 42, 7, 182, 1, 33, 167, 0, 8, 42, 4, 182, 0, 242, 177]
abbrev dktX8_tellOne_12 : List UInt8 := dkwX8_tellOne_12 ++ []
def dkwX8_tellOne_11 : List UInt8 := [7, 182, 1, 33, 167, 0, 37, 42, 182, 0, 248, 42, 180, 0, 82, 42, 180, 1, 4, 42, 3, 17, 39, 15]
abbrev dktX8_tellOne_11 : List UInt8 := dkwX8_tellOne_11 ++ dktX8_tellOne_12
def dkwX8_tellOne_10 : List UInt8 := [167, 0, 65, 42, 182, 0, 248, 42, 180, 0, 79, 42, 180, 1, 4, 42, 3, 16, 100, 182, 1, 55, 79, 42]
abbrev dktX8_tellOne_10 : List UInt8 := dkwX8_tellOne_10 ++ dktX8_tellOne_11
def dkwX8_tellOne_9 : List UInt8 := [180, 0, 227, 154, 0, 85, 42, 182, 1, 52, 167, 0, 78, 42, 182, 0, 248, 42, 16, 6, 182, 1, 49]
abbrev dktX8_tellOne_9 : List UInt8 := dkwX8_tellOne_9 ++ dktX8_tellOne_10
def dkwX8_tellOne_8 : List UInt8 := [182, 1, 49, 167, 0, 107, 42, 42, 180, 0, 70, 42, 180, 1, 4, 46, 16, 8, 182, 1, 25, 42]
abbrev dktX8_tellOne_8 : List UInt8 := dkwX8_tellOne_8 ++ dktX8_tellOne_9
def dkwX8_tellOne_7 : List UInt8 := [180, 0, 227, 154, 0, 130, 42, 182, 1, 43, 167, 0, 123, 42, 182, 0, 248, 42, 42, 4, 182, 1, 46]
abbrev dktX8_tellOne_7 : List UInt8 := dkwX8_tellOne_7 ++ dktX8_tellOne_8
def dkwX8_tellOne_6 : List UInt8 := [182, 1, 40, 167, 0, 152, 42, 42, 180, 0, 61, 42, 180, 1, 4, 46, 16, 6, 182, 1, 25, 42]
abbrev dktX8_tellOne_6 : List UInt8 := dkwX8_tellOne_6 ++ dktX8_tellOne_7
def dkwX8_tellOne_5 : List UInt8 := [42, 42, 180, 0, 52, 42, 180, 1, 4, 46, 16, 12, 182, 1, 25, 42, 180, 0, 227, 154, 0, 159, 42]
abbrev dktX8_tellOne_5 : List UInt8 := dkwX8_tellOne_5 ++ dktX8_tellOne_6
def dkwX8_tellOne_4 : List UInt8 := [42, 180, 1, 4, 46, 182, 1, 36, 42, 180, 0, 49, 42, 180, 1, 4, 92, 46, 4, 96, 79, 167, 0, 181]
abbrev dktX8_tellOne_4 : List UInt8 := dkwX8_tellOne_4 ++ dktX8_tellOne_5
def dkwX8_tellOne_3 : List UInt8 := [182, 1, 29, 60, 42, 7, 182, 1, 33, 42, 180, 0, 227, 158, 0, 4, 177, 42, 27, 3, 42, 180, 0, 49]
abbrev dktX8_tellOne_3 : List UInt8 := dkwX8_tellOne_3 ++ dktX8_tellOne_4
def dkwX8_tellOne_2 : List UInt8 := [42, 42, 180, 0, 49, 42, 180, 1, 4, 46, 16, 8, 182, 1, 25, 42, 180, 0, 227, 158, 0, 4, 177, 42]
abbrev dktX8_tellOne_2 : List UInt8 := dkwX8_tellOne_2 ++ dktX8_tellOne_3
def dkwX8_tellOne_1 : List UInt8 := [170, 0, 0, 0, 0, 1, 36, 0, 0, 0, 20, 0, 0, 0, 27, 0, 0, 0, 47, 0, 0, 0, 119, 0, 0, 0, 148, 0, 0, 0, 177, 0, 0, 0, 193, 0, 0, 0, 222, 0, 0, 0, 235, 0, 0, 1, 7]
abbrev dktX8_tellOne_1 : List UInt8 := dkwX8_tellOne_1 ++ dktX8_tellOne_2
def dkwX8_tellOne_0 : List UInt8 := [42, 180, 0, 20, 42, 180, 0, 230, 46]
abbrev dktX8_tellOne_0 : List UInt8 := dkwX8_tellOne_0 ++ dktX8_tellOne_1
theorem dksX8_tellOne_0 : cX8_tellOne.data.toList.drop 0 = dktX8_tellOne_0 := by decide +kernel
theorem dksX8_tellOne_1 : cX8_tellOne.data.toList.drop 9 = dktX8_tellOne_1 := dk_seg dksX8_tellOne_0 9 rfl rfl
theorem dksX8_tellOne_2 : cX8_tellOne.data.toList.drop 56 = dktX8_tellOne_2 := dk_seg dksX8_tellOne_1 47 rfl rfl
theorem dksX8_tellOne_3 : cX8_tellOne.data.toList.drop 80 = dktX8_tellOne_3 := dk_seg dksX8_tellOne_2 24 rfl rfl
theorem dksX8_tellOne_4 : cX8_tellOne.data.toList.drop 104 = dktX8_tellOne_4 := dk_seg dksX8_tellOne_3 24 rfl rfl
theorem dksX8_tellOne_5 : cX8_tellOne.data.toList.drop 128 = dktX8_tellOne_5 := dk_seg dksX8_tellOne_4 24 rfl rfl
theorem dksX8_tellOne_6 : cX8_tellOne.data.toList.drop 151 = dktX8_tellOne_6 := dk_seg dksX8_tellOne_5 23 rfl rfl
theorem dksX8_tellOne_7 : cX8_tellOne.data.toList.drop 173 = dktX8_tellOne_7 := dk_seg dksX8_tellOne_6 22 rfl rfl
theorem dksX8_tellOne_8 : cX8_tellOne.data.toList.drop 196 = dktX8_tellOne_8 := dk_seg dksX8_tellOne_7 23 rfl rfl
theorem dksX8_tellOne_9 : cX8_tellOne.data.toList.drop 218 = dktX8_tellOne_9 := dk_seg dksX8_tellOne_8 22 rfl rfl
theorem dksX8_tellOne_10 : cX8_tellOne.data.toList.drop 241 = dktX8_tellOne_10 := dk_seg dksX8_tellOne_9 23 rfl rfl
theorem dksX8_tellOne_11 : cX8_tellOne.data.toList.drop 265 = dktX8_tellOne_11 := dk_seg dksX8_tellOne_10 24 rfl rfl
theorem dksX8_tellOne_12 : cX8_tellOne.data.toList.drop 289 = dktX8_tellOne_12 := dk_seg dksX8_tellOne_11 24 rfl rfl
theorem dX8_tellOne_0 : decode cX8_tellOne 0 = .ok (.aload_n 0, 1) := dk_42 (dk_at dksX8_tellOne_0 0 rfl rfl)
theorem dX8_tellOne_1 : decode cX8_tellOne 1 = .ok (.getfield 20, 3) := dk_180 0 20 (dk_at dksX8_tellOne_0 1 rfl rfl)
theorem dX8_tellOne_4 : decode cX8_tellOne 4 = .ok (.aload_n 0, 1) := dk_42 (dk_at dksX8_tellOne_0 4 rfl rfl)
theorem dX8_tellOne_5 : decode cX8_tellOne 5 = .ok (.getfield 230, 3) := dk_180 0 230 (dk_at dksX8_tellOne_0 5 rfl rfl)
theorem dX8_tellOne_8 : decode cX8_tellOne 8 = .ok (.iaload, 1) := dk_46 (dk_at dksX8_tellOne_0 8 rfl rfl)
theorem dX8_tellOne_9 : decode cX8_tellOne 9 = .ok (.tableswitch 292 20 27 #[47, 119, 148, 177, 193, 222, 235, 263], 47) := by decide +kernel
theorem dX8_tellOne_56 : decode cX8_tellOne 56 = .ok (.aload_n 0, 1) := dk_42 (dk_at dksX8_tellOne_2 0 rfl rfl)
theorem dX8_tellOne_57 : decode cX8_tellOne 57 = .ok (.aload_n 0, 1) := dk_42 (dk_at dksX8_tellOne_2 1 rfl rfl)
theorem dX8_tellOne_58 : decode cX8_tellOne 58 = .ok (.getfield 49, 3) := dk_180 0 49 (dk_at dksX8_tellOne_2 2 rfl rfl)
theorem dX8_tellOne_61 : decode cX8_tellOne 61 = .ok (.aload_n 0, 1) := dk_42 (dk_at dksX8_tellOne_2 5 rfl rfl)
theorem dX8_tellOne_62 : decode cX8_tellOne 62 = .ok (.getfield 260, 3) := dk_180 1 4 (dk_at dksX8_tellOne_2 6 rfl rfl)
theorem dX8_tellOne_65 : decode cX8_tellOne 65 = .ok (.iaload, 1) := dk_46 (dk_at dksX8_tellOne_2 9 rfl rfl)
theorem dX8_tellOne_66 : decode cX8_tellOne 66 = .ok (.bipush 8, 2) := dk_16 8 (dk_at dksX8_tellOne_2 10 rfl rfl)
theorem dX8_tellOne_68 : decode cX8_tellOne 68 = .ok (.invokevirtual 281, 3) := dk_182 1 25 (dk_at dksX8_tellOne_2 12 rfl rfl)
theorem dX8_tellOne_71 : decode cX8_tellOne 71 = .ok (.aload_n 0, 1) := dk_42 (dk_at dksX8_tellOne_2 15 rfl rfl)
theorem dX8_tellOne_72 : decode cX8_tellOne 72 = .ok (.getfield 227, 3) := dk_180 0 227 (dk_at dksX8_tellOne_2 16 rfl rfl)
theorem dX8_tellOne_75 : decode cX8_tellOne 75 = .ok (.ifCond .le 4, 3) := dk_158 0 4 (dk_at dksX8_tellOne_2 19 rfl rfl)
theorem dX8_tellOne_78 : decode cX8_tellOne 78 = .ok (.return_, 1) := dk_177 (dk_at dksX8_tellOne_2 22 rfl rfl)
theorem dX8_tellOne_79 : decode cX8_tellOne 79 = .ok (.aload_n 0, 1) := dk_42 (dk_at dksX8_tellOne_2 23 rfl rfl)
theorem dX8_tellOne_80 : decode cX8_tellOne 80 = .ok (.invokevirtual 285, 3) := dk_182 1 29 (dk_at dksX8_tellOne_3 0 rfl rfl)
theorem dX8_tellOne_83 : decode cX8_tellOne 83 = .ok (.istore_n 1, 1) := dk_60 (dk_at dksX8_tellOne_3 3 rfl rfl)
theorem dX8_tellOne_84 : decode cX8_tellOne 84 = .ok (.aload_n 0, 1) := dk_42 (dk_at dksX8_tellOne_3 4 rfl rfl)
theorem dX8_tellOne_85 : decode cX8_tellOne 85 = .ok (.iconst 4, 1) := dk_7 (dk_at dksX8_tellOne_3 5 rfl rfl)
theorem dX8_tellOne_86 : decode cX8_tellOne 86 = .ok (.invokevirtual 289, 3) := dk_182 1 33 (dk_at dksX8_tellOne_3 6 rfl rfl)
theorem dX8_tellOne_89 : decode cX8_tellOne 89 = .ok (.aload_n 0, 1) := dk_42 (dk_at dksX8_tellOne_3 9 rfl rfl)
theorem dX8_tellOne_90 : decode cX8_tellOne 90 = .ok (.getfield 227, 3) := dk_180 0 227 (dk_at dksX8_tellOne_3 10 rfl rfl)
theorem dX8_tellOne_93 : decode cX8_tellOne 93 = .ok (.ifCond .le 4, 3) := dk_158 0 4 (dk_at dksX8_tellOne_3 13 rfl rfl)
theorem dX8_tellOne_96 : decode cX8_tellOne 96 = .ok (.return_, 1) := dk_177 (dk_at dksX8_tellOne_3 16 rfl rfl)
theorem dX8_tellOne_97 : decode cX8_tellOne 97 = .ok (.aload_n 0, 1) := dk_42 (dk_at dksX8_tellOne_3 17 rfl rfl)
theorem dX8_tellOne_98 : decode cX8_tellOne 98 = .ok (.iload_n 1, 1) := dk_27 (dk_at dksX8_tellOne_3 18 rfl rfl)
theorem dX8_tellOne_99 : decode cX8_tellOne 99 = .ok (.iconst 0, 1) := dk_3 (dk_at dksX8_tellOne_3 19 rfl rfl)
theorem dX8_tellOne_100 : decode cX8_tellOne 100 = .ok (.aload_n 0, 1) := dk_42 (dk_at dksX8_tellOne_3 20 rfl rfl)
theorem dX8_tellOne_101 : decode cX8_tellOne 101 = .ok (.getfield 49, 3) := dk_180 0 49 (dk_at dksX8_tellOne_3 21 rfl rfl)
theorem dX8_tellOne_104 : decode cX8_tellOne 104 = .ok (.aload_n 0, 1) := dk_42 (dk_at dksX8_tellOne_4 0 rfl rfl)
theorem dX8_tellOne_105 : decode cX8_tellOne 105 = .ok (.getfield 260, 3) := dk_180 1 4 (dk_at dksX8_tellOne_4 1 rfl rfl)
theorem dX8_tellOne_108 : decode cX8_tellOne 108 = .ok (.iaload, 1) := dk_46 (dk_at dksX8_tellOne_4 4 rfl rfl)
theorem dX8_tellOne_109 : decode cX8_tellOne 109 = .ok (.invokevirtual 292, 3) := dk_182 1 36 (dk_at dksX8_tellOne_4 5 rfl rfl)
theorem dX8_tellOne_112 : decode cX8_tellOne 112 = .ok (.aload_n 0, 1) := dk_42 (dk_at dksX8_tellOne_4 8 rfl rfl)
theorem dX8_tellOne_113 : decode cX8_tellOne 113 = .ok (.getfield 49, 3) := dk_180 0 49 (dk_at dksX8_tellOne_4 9 rfl rfl)
theorem dX8_tellOne_116 : decode cX8_tellOne 116 = .ok (.aload_n 0, 1) := dk_42 (dk_at dksX8_tellOne_4 12 rfl rfl)
theorem dX8_tellOne_117 : decode cX8_tellOne 117 = .ok (.getfield 260, 3) := dk_180 1 4 (dk_at dksX8_tellOne_4 13 rfl rfl)
theorem dX8_tellOne_120 : decode cX8_tellOne 120 = .ok (.dup2, 1) := dk_92 (dk_at dksX8_tellOne_4 16 rfl rfl)
theorem dX8_tellOne_121 : decode cX8_tellOne 121 = .ok (.iaload, 1) := dk_46 (dk_at dksX8_tellOne_4 17 rfl rfl)
theorem dX8_tellOne_122 : decode cX8_tellOne 122 = .ok (.iconst 1, 1) := dk_4 (dk_at dksX8_tellOne_4 18 rfl rfl)
theorem dX8_tellOne_123 : decode cX8_tellOne 123 = .ok (.iadd, 1) := dk_96 (dk_at dksX8_tellOne_4 19 rfl rfl)
theorem dX8_tellOne_124 : decode cX8_tellOne 124 = .ok (.iastore, 1) := dk_79 (dk_at dksX8_tellOne_4 20 rfl rfl)
theorem dX8_tellOne_125 : decode cX8_tellOne 125 = .ok (.goto 181, 3) := dk_167 0 181 (dk_at dksX8_tellOne_4 21 rfl rfl)
theorem dX8_tellOne_128 : decode cX8_tellOne 128 = .ok (.aload_n 0, 1) := dk_42 (dk_at dksX8_tellOne_5 0 rfl rfl)
theorem dX8_tellOne_129 : decode cX8_tellOne 129 = .ok (.aload_n 0, 1) := dk_42 (dk_at dksX8_tellOne_5 1 rfl rfl)
theorem dX8_tellOne_130 : decode cX8_tellOne 130 = .ok (.getfield 52, 3) := dk_180 0 52 (dk_at dksX8_tellOne_5 2 rfl rfl)
theorem dX8_tellOne_133 : decode cX8_tellOne 133 = .ok (.aload_n 0, 1) := dk_42 (dk_at dksX8_tellOne_5 5 rfl rfl)
theorem dX8_tellOne_134 : decode cX8_tellOne 134 = .ok (.getfield 260, 3) := dk_180 1 4 (dk_at dksX8_tellOne_5 6 rfl rfl)
theorem dX8_tellOne_137 : decode cX8_tellOne 137 = .ok (.iaload, 1) := dk_46 (dk_at dksX8_tellOne_5 9 rfl rfl)
theorem dX8_tellOne_138 : decode cX8_tellOne 138 = .ok (.bipush 12, 2) := dk_16 12 (dk_at dksX8_tellOne_5 10 rfl rfl)
theorem dX8_tellOne_140 : decode cX8_tellOne 140 = .ok (.invokevirtual 281, 3) := dk_182 1 25 (dk_at dksX8_tellOne_5 12 rfl rfl)
theorem dX8_tellOne_143 : decode cX8_tellOne 143 = .ok (.aload_n 0, 1) := dk_42 (dk_at dksX8_tellOne_5 15 rfl rfl)
theorem dX8_tellOne_144 : decode cX8_tellOne 144 = .ok (.getfield 227, 3) := dk_180 0 227 (dk_at dksX8_tellOne_5 16 rfl rfl)
theorem dX8_tellOne_147 : decode cX8_tellOne 147 = .ok (.ifCond .ne 159, 3) := dk_154 0 159 (dk_at dksX8_tellOne_5 19 rfl rfl)
theorem dX8_tellOne_150 : decode cX8_tellOne 150 = .ok (.aload_n 0, 1) := dk_42 (dk_at dksX8_tellOne_5 22 rfl rfl)
theorem dX8_tellOne_151 : decode cX8_tellOne 151 = .ok (.invokevirtual 296, 3) := dk_182 1 40 (dk_at dksX8_tellOne_6 0 rfl rfl)
theorem dX8_tellOne_154 : decode cX8_tellOne 154 = .ok (.goto 152, 3) := dk_167 0 152 (dk_at dksX8_tellOne_6 3 rfl rfl)
theorem dX8_tellOne_157 : decode cX8_tellOne 157 = .ok (.aload_n 0, 1) := dk_42 (dk_at dksX8_tellOne_6 6 rfl rfl)
theorem dX8_tellOne_158 : decode cX8_tellOne 158 = .ok (.aload_n 0, 1) := dk_42 (dk_at dksX8_tellOne_6 7 rfl rfl)
theorem dX8_tellOne_159 : decode cX8_tellOne 159 = .ok (.getfield 61, 3) := dk_180 0 61 (dk_at dksX8_tellOne_6 8 rfl rfl)
theorem dX8_tellOne_162 : decode cX8_tellOne 162 = .ok (.aload_n 0, 1) := dk_42 (dk_at dksX8_tellOne_6 11 rfl rfl)
theorem dX8_tellOne_163 : decode cX8_tellOne 163 = .ok (.getfield 260, 3) := dk_180 1 4 (dk_at dksX8_tellOne_6 12 rfl rfl)
theorem dX8_tellOne_166 : decode cX8_tellOne 166 = .ok (.iaload, 1) := dk_46 (dk_at dksX8_tellOne_6 15 rfl rfl)
theorem dX8_tellOne_167 : decode cX8_tellOne 167 = .ok (.bipush 6, 2) := dk_16 6 (dk_at dksX8_tellOne_6 16 rfl rfl)
theorem dX8_tellOne_169 : decode cX8_tellOne 169 = .ok (.invokevirtual 281, 3) := dk_182 1 25 (dk_at dksX8_tellOne_6 18 rfl rfl)
theorem dX8_tellOne_172 : decode cX8_tellOne 172 = .ok (.aload_n 0, 1) := dk_42 (dk_at dksX8_tellOne_6 21 rfl rfl)
theorem dX8_tellOne_173 : decode cX8_tellOne 173 = .ok (.getfield 227, 3) := dk_180 0 227 (dk_at dksX8_tellOne_7 0 rfl rfl)
theorem dX8_tellOne_176 : decode cX8_tellOne 176 = .ok (.ifCond .ne 130, 3) := dk_154 0 130 (dk_at dksX8_tellOne_7 3 rfl rfl)
theorem dX8_tellOne_179 : decode cX8_tellOne 179 = .ok (.aload_n 0, 1) := dk_42 (dk_at dksX8_tellOne_7 6 rfl rfl)
theorem dX8_tellOne_180 : decode cX8_tellOne 180 = .ok (.invokevirtual 299, 3) := dk_182 1 43 (dk_at dksX8_tellOne_7 7 rfl rfl)
theorem dX8_tellOne_183 : decode cX8_tellOne 183 = .ok (.goto 123, 3) := dk_167 0 123 (dk_at dksX8_tellOne_7 10 rfl rfl)
theorem dX8_tellOne_186 : decode cX8_tellOne 186 = .ok (.aload_n 0, 1) := dk_42 (dk_at dksX8_tellOne_7 13 rfl rfl)
theorem dX8_tellOne_187 : decode cX8_tellOne 187 = .ok (.invokevirtual 248, 3) := dk_182 0 248 (dk_at dksX8_tellOne_7 14 rfl rfl)
theorem dX8_tellOne_190 : decode cX8_tellOne 190 = .ok (.aload_n 0, 1) := dk_42 (dk_at dksX8_tellOne_7 17 rfl rfl)
theorem dX8_tellOne_191 : decode cX8_tellOne 191 = .ok (.aload_n 0, 1) := dk_42 (dk_at dksX8_tellOne_7 18 rfl rfl)
theorem dX8_tellOne_192 : decode cX8_tellOne 192 = .ok (.iconst 1, 1) := dk_4 (dk_at dksX8_tellOne_7 19 rfl rfl)
theorem dX8_tellOne_193 : decode cX8_tellOne 193 = .ok (.invokevirtual 302, 3) := dk_182 1 46 (dk_at dksX8_tellOne_7 20 rfl rfl)
theorem dX8_tellOne_196 : decode cX8_tellOne 196 = .ok (.invokevirtual 305, 3) := dk_182 1 49 (dk_at dksX8_tellOne_8 0 rfl rfl)
theorem dX8_tellOne_199 : decode cX8_tellOne 199 = .ok (.goto 107, 3) := dk_167 0 107 (dk_at dksX8_tellOne_8 3 rfl rfl)
theorem dX8_tellOne_202 : decode cX8_tellOne 202 = .ok (.aload_n 0, 1) := dk_42 (dk_at dksX8_tellOne_8 6 rfl rfl)
theorem dX8_tellOne_203 : decode cX8_tellOne 203 = .ok (.aload_n 0, 1) := dk_42 (dk_at dksX8_tellOne_8 7 rfl rfl)
theorem dX8_tellOne_204 : decode cX8_tellOne 204 = .ok (.getfield 70, 3) := dk_180 0 70 (dk_at dksX8_tellOne_8 8 rfl rfl)
theorem dX8_tellOne_207 : decode cX8_tellOne 207 = .ok (.aload_n 0, 1) := dk_42 (dk_at dksX8_tellOne_8 11 rfl rfl)
theorem dX8_tellOne_208 : decode cX8_tellOne 208 = .ok (.getfield 260, 3) := dk_180 1 4 (dk_at dksX8_tellOne_8 12 rfl rfl)
theorem dX8_tellOne_211 : decode cX8_tellOne 211 = .ok (.iaload, 1) := dk_46 (dk_at dksX8_tellOne_8 15 rfl rfl)
theorem dX8_tellOne_212 : decode cX8_tellOne 212 = .ok (.bipush 8, 2) := dk_16 8 (dk_at dksX8_tellOne_8 16 rfl rfl)
theorem dX8_tellOne_214 : decode cX8_tellOne 214 = .ok (.invokevirtual 281, 3) := dk_182 1 25 (dk_at dksX8_tellOne_8 18 rfl rfl)
theorem dX8_tellOne_217 : decode cX8_tellOne 217 = .ok (.aload_n 0, 1) := dk_42 (dk_at dksX8_tellOne_8 21 rfl rfl)
theorem dX8_tellOne_218 : decode cX8_tellOne 218 = .ok (.getfield 227, 3) := dk_180 0 227 (dk_at dksX8_tellOne_9 0 rfl rfl)
theorem dX8_tellOne_221 : decode cX8_tellOne 221 = .ok (.ifCond .ne 85, 3) := dk_154 0 85 (dk_at dksX8_tellOne_9 3 rfl rfl)
theorem dX8_tellOne_224 : decode cX8_tellOne 224 = .ok (.aload_n 0, 1) := dk_42 (dk_at dksX8_tellOne_9 6 rfl rfl)
theorem dX8_tellOne_225 : decode cX8_tellOne 225 = .ok (.invokevirtual 308, 3) := dk_182 1 52 (dk_at dksX8_tellOne_9 7 rfl rfl)
theorem dX8_tellOne_228 : decode cX8_tellOne 228 = .ok (.goto 78, 3) := dk_167 0 78 (dk_at dksX8_tellOne_9 10 rfl rfl)
theorem dX8_tellOne_231 : decode cX8_tellOne 231 = .ok (.aload_n 0, 1) := dk_42 (dk_at dksX8_tellOne_9 13 rfl rfl)
theorem dX8_tellOne_232 : decode cX8_tellOne 232 = .ok (.invokevirtual 248, 3) := dk_182 0 248 (dk_at dksX8_tellOne_9 14 rfl rfl)
theorem dX8_tellOne_235 : decode cX8_tellOne 235 = .ok (.aload_n 0, 1) := dk_42 (dk_at dksX8_tellOne_9 17 rfl rfl)
theorem dX8_tellOne_236 : decode cX8_tellOne 236 = .ok (.bipush 6, 2) := dk_16 6 (dk_at dksX8_tellOne_9 18 rfl rfl)
theorem dX8_tellOne_238 : decode cX8_tellOne 238 = .ok (.invokevirtual 305, 3) := dk_182 1 49 (dk_at dksX8_tellOne_9 20 rfl rfl)
theorem dX8_tellOne_241 : decode cX8_tellOne 241 = .ok (.goto 65, 3) := dk_167 0 65 (dk_at dksX8_tellOne_10 0 rfl rfl)
theorem dX8_tellOne_244 : decode cX8_tellOne 244 = .ok (.aload_n 0, 1) := dk_42 (dk_at dksX8_tellOne_10 3 rfl rfl)
theorem dX8_tellOne_245 : decode cX8_tellOne 245 = .ok (.invokevirtual 248, 3) := dk_182 0 248 (dk_at dksX8_tellOne_10 4 rfl rfl)
theorem dX8_tellOne_248 : decode cX8_tellOne 248 = .ok (.aload_n 0, 1) := dk_42 (dk_at dksX8_tellOne_10 7 rfl rfl)
theorem dX8_tellOne_249 : decode cX8_tellOne 249 = .ok (.getfield 79, 3) := dk_180 0 79 (dk_at dksX8_tellOne_10 8 rfl rfl)
theorem dX8_tellOne_252 : decode cX8_tellOne 252 = .ok (.aload_n 0, 1) := dk_42 (dk_at dksX8_tellOne_10 11 rfl rfl)
theorem dX8_tellOne_253 : decode cX8_tellOne 253 = .ok (.getfield 260, 3) := dk_180 1 4 (dk_at dksX8_tellOne_10 12 rfl rfl)
theorem dX8_tellOne_256 : decode cX8_tellOne 256 = .ok (.aload_n 0, 1) := dk_42 (dk_at dksX8_tellOne_10 15 rfl rfl)
theorem dX8_tellOne_257 : decode cX8_tellOne 257 = .ok (.iconst 0, 1) := dk_3 (dk_at dksX8_tellOne_10 16 rfl rfl)
theorem dX8_tellOne_258 : decode cX8_tellOne 258 = .ok (.bipush 100, 2) := dk_16 100 (dk_at dksX8_tellOne_10 17 rfl rfl)
theorem dX8_tellOne_260 : decode cX8_tellOne 260 = .ok (.invokevirtual 311, 3) := dk_182 1 55 (dk_at dksX8_tellOne_10 19 rfl rfl)
theorem dX8_tellOne_263 : decode cX8_tellOne 263 = .ok (.iastore, 1) := dk_79 (dk_at dksX8_tellOne_10 22 rfl rfl)
theorem dX8_tellOne_264 : decode cX8_tellOne 264 = .ok (.aload_n 0, 1) := dk_42 (dk_at dksX8_tellOne_10 23 rfl rfl)
theorem dX8_tellOne_265 : decode cX8_tellOne 265 = .ok (.iconst 4, 1) := dk_7 (dk_at dksX8_tellOne_11 0 rfl rfl)
theorem dX8_tellOne_266 : decode cX8_tellOne 266 = .ok (.invokevirtual 289, 3) := dk_182 1 33 (dk_at dksX8_tellOne_11 1 rfl rfl)
theorem dX8_tellOne_269 : decode cX8_tellOne 269 = .ok (.goto 37, 3) := dk_167 0 37 (dk_at dksX8_tellOne_11 4 rfl rfl)
theorem dX8_tellOne_272 : decode cX8_tellOne 272 = .ok (.aload_n 0, 1) := dk_42 (dk_at dksX8_tellOne_11 7 rfl rfl)
theorem dX8_tellOne_273 : decode cX8_tellOne 273 = .ok (.invokevirtual 248, 3) := dk_182 0 248 (dk_at dksX8_tellOne_11 8 rfl rfl)
theorem dX8_tellOne_276 : decode cX8_tellOne 276 = .ok (.aload_n 0, 1) := dk_42 (dk_at dksX8_tellOne_11 11 rfl rfl)
theorem dX8_tellOne_277 : decode cX8_tellOne 277 = .ok (.getfield 82, 3) := dk_180 0 82 (dk_at dksX8_tellOne_11 12 rfl rfl)
theorem dX8_tellOne_280 : decode cX8_tellOne 280 = .ok (.aload_n 0, 1) := dk_42 (dk_at dksX8_tellOne_11 15 rfl rfl)
theorem dX8_tellOne_281 : decode cX8_tellOne 281 = .ok (.getfield 260, 3) := dk_180 1 4 (dk_at dksX8_tellOne_11 16 rfl rfl)
theorem dX8_tellOne_284 : decode cX8_tellOne 284 = .ok (.aload_n 0, 1) := dk_42 (dk_at dksX8_tellOne_11 19 rfl rfl)
theorem dX8_tellOne_285 : decode cX8_tellOne 285 = .ok (.iconst 0, 1) := dk_3 (dk_at dksX8_tellOne_11 20 rfl rfl)
theorem dX8_tellOne_286 : decode cX8_tellOne 286 = .ok (.sipush 9999, 3) := dk_17 39 15 (dk_at dksX8_tellOne_11 21 rfl rfl)
theorem dX8_tellOne_289 : decode cX8_tellOne 289 = .ok (.invokevirtual 311, 3) := dk_182 1 55 (dk_at dksX8_tellOne_12 0 rfl rfl)
theorem dX8_tellOne_292 : decode cX8_tellOne 292 = .ok (.iastore, 1) := dk_79 (dk_at dksX8_tellOne_12 3 rfl rfl)
theorem dX8_tellOne_293 : decode cX8_tellOne 293 = .ok (.aload_n 0, 1) := dk_42 (dk_at dksX8_tellOne_12 4 rfl rfl)
theorem dX8_tellOne_294 : decode cX8_tellOne 294 = .ok (.iconst 4, 1) := dk_7 (dk_at dksX8_tellOne_12 5 rfl rfl)
theorem dX8_tellOne_295 : decode cX8_tellOne 295 = .ok (.invokevirtual 289, 3) := dk_182 1 33 (dk_at dksX8_tellOne_12 6 rfl rfl)
theorem dX8_tellOne_298 : decode cX8_tellOne 298 = .ok (.goto 8, 3) := dk_167 0 8 (dk_at dksX8_tellOne_12 9 rfl rfl)
theorem dX8_tellOne_301 : decode cX8_tellOne 301 = .ok (.aload_n 0, 1) := dk_42 (dk_at dksX8_tellOne_12 12 rfl rfl)
theorem dX8_tellOne_302 : decode cX8_tellOne 302 = .ok (.iconst 1, 1) := dk_4 (dk_at dksX8_tellOne_12 13 rfl rfl)
theorem dX8_tellOne_303 : decode cX8_tellOne 303 = .ok (.invokevirtual 242, 3) := dk_182 0 242 (dk_at dksX8_tellOne_12 14 rfl rfl)
theorem dX8_tellOne_306 : decode cX8_tellOne 306 = .ok (.return_, 1) := dk_177 (dk_at dksX8_tellOne_12 17 rfl rfl)
abbrev cX8_roomFor : ByteArray := prog_19_method_22_code
def yX8_roomFor : MethodName := ⟨RX8, "roomFor", "(II)V"⟩
def dkwX8_roomFor_0 : List UInt8 := [27, 28, 160, 0, 8, 42, 5, 182, 0, 242, 42, 180, 0, 227, 154, 0, 7, 42, 182, 0, 248, 177]
abbrev dktX8_roomFor_0 : List UInt8 := dkwX8_roomFor_0 ++ []
theorem dksX8_roomFor_0 : cX8_roomFor.data.toList.drop 0 = dktX8_roomFor_0 := by decide +kernel
theorem dX8_roomFor_0 : decode cX8_roomFor 0 = .ok (.iload_n 1, 1) := dk_27 (dk_at dksX8_roomFor_0 0 rfl rfl)
theorem dX8_roomFor_1 : decode cX8_roomFor 1 = .ok (.iload_n 2, 1) := dk_28 (dk_at dksX8_roomFor_0 1 rfl rfl)
theorem dX8_roomFor_2 : decode cX8_roomFor 2 = .ok (.if_icmp .ne 8, 3) := dk_160 0 8 (dk_at dksX8_roomFor_0 2 rfl rfl)
theorem dX8_roomFor_5 : decode cX8_roomFor 5 = .ok (.aload_n 0, 1) := dk_42 (dk_at dksX8_roomFor_0 5 rfl rfl)
theorem dX8_roomFor_6 : decode cX8_roomFor 6 = .ok (.iconst 2, 1) := dk_5 (dk_at dksX8_roomFor_0 6 rfl rfl)
theorem dX8_roomFor_7 : decode cX8_roomFor 7 = .ok (.invokevirtual 242, 3) := dk_182 0 242 (dk_at dksX8_roomFor_0 7 rfl rfl)
theorem dX8_roomFor_10 : decode cX8_roomFor 10 = .ok (.aload_n 0, 1) := dk_42 (dk_at dksX8_roomFor_0 10 rfl rfl)
theorem dX8_roomFor_11 : decode cX8_roomFor 11 = .ok (.getfield 227, 3) := dk_180 0 227 (dk_at dksX8_roomFor_0 11 rfl rfl)
theorem dX8_roomFor_14 : decode cX8_roomFor 14 = .ok (.ifCond .ne 7, 3) := dk_154 0 7 (dk_at dksX8_roomFor_0 14 rfl rfl)
theorem dX8_roomFor_17 : decode cX8_roomFor 17 = .ok (.aload_n 0, 1) := dk_42 (dk_at dksX8_roomFor_0 17 rfl rfl)
theorem dX8_roomFor_18 : decode cX8_roomFor 18 = .ok (.invokevirtual 248, 3) := dk_182 0 248 (dk_at dksX8_roomFor_0 18 rfl rfl)
theorem dX8_roomFor_21 : decode cX8_roomFor 21 = .ok (.return_, 1) := dk_177 (dk_at dksX8_roomFor_0 21 rfl rfl)
abbrev cX8_fail : ByteArray := prog_19_method_15_code
def yX8_fail : MethodName := ⟨RX8, "fail", "(I)V"⟩
def dkwX8_fail_1 : List UInt8 := [181, 0, 233, 177]
abbrev dktX8_fail_1 : List UInt8 := dkwX8_fail_1 ++ []
def dkwX8_fail_0 : List UInt8 := [42, 180, 0, 227, 158, 0, 4, 177, 42, 27, 181, 0, 227, 42, 42, 180, 0, 24, 42, 180, 0, 230, 46]
abbrev dktX8_fail_0 : List UInt8 := dkwX8_fail_0 ++ dktX8_fail_1
theorem dksX8_fail_0 : cX8_fail.data.toList.drop 0 = dktX8_fail_0 := by decide +kernel
theorem dksX8_fail_1 : cX8_fail.data.toList.drop 23 = dktX8_fail_1 := dk_seg dksX8_fail_0 23 rfl rfl
theorem dX8_fail_0 : decode cX8_fail 0 = .ok (.aload_n 0, 1) := dk_42 (dk_at dksX8_fail_0 0 rfl rfl)
theorem dX8_fail_1 : decode cX8_fail 1 = .ok (.getfield 227, 3) := dk_180 0 227 (dk_at dksX8_fail_0 1 rfl rfl)
theorem dX8_fail_4 : decode cX8_fail 4 = .ok (.ifCond .le 4, 3) := dk_158 0 4 (dk_at dksX8_fail_0 4 rfl rfl)
theorem dX8_fail_7 : decode cX8_fail 7 = .ok (.return_, 1) := dk_177 (dk_at dksX8_fail_0 7 rfl rfl)
theorem dX8_fail_8 : decode cX8_fail 8 = .ok (.aload_n 0, 1) := dk_42 (dk_at dksX8_fail_0 8 rfl rfl)
theorem dX8_fail_9 : decode cX8_fail 9 = .ok (.iload_n 1, 1) := dk_27 (dk_at dksX8_fail_0 9 rfl rfl)
theorem dX8_fail_10 : decode cX8_fail 10 = .ok (.putfield 227, 3) := dk_181 0 227 (dk_at dksX8_fail_0 10 rfl rfl)
theorem dX8_fail_13 : decode cX8_fail 13 = .ok (.aload_n 0, 1) := dk_42 (dk_at dksX8_fail_0 13 rfl rfl)
theorem dX8_fail_14 : decode cX8_fail 14 = .ok (.aload_n 0, 1) := dk_42 (dk_at dksX8_fail_0 14 rfl rfl)
theorem dX8_fail_15 : decode cX8_fail 15 = .ok (.getfield 24, 3) := dk_180 0 24 (dk_at dksX8_fail_0 15 rfl rfl)
theorem dX8_fail_18 : decode cX8_fail 18 = .ok (.aload_n 0, 1) := dk_42 (dk_at dksX8_fail_0 18 rfl rfl)
theorem dX8_fail_19 : decode cX8_fail 19 = .ok (.getfield 230, 3) := dk_180 0 230 (dk_at dksX8_fail_0 19 rfl rfl)
theorem dX8_fail_22 : decode cX8_fail 22 = .ok (.iaload, 1) := dk_46 (dk_at dksX8_fail_0 22 rfl rfl)
theorem dX8_fail_23 : decode cX8_fail 23 = .ok (.putfield 233, 3) := dk_181 0 233 (dk_at dksX8_fail_1 0 rfl rfl)
theorem dX8_fail_26 : decode cX8_fail 26 = .ok (.return_, 1) := dk_177 (dk_at dksX8_fail_1 3 rfl rfl)
abbrev cX8_goesOn : ByteArray := prog_19_method_17_code
def yX8_goesOn : MethodName := ⟨RX8, "goesOn", "()V"⟩
def dkwX8_goesOn_1 : List UInt8 := [96, 181, 0, 230, 177]
abbrev dktX8_goesOn_1 : List UInt8 := dkwX8_goesOn_1 ++ []
def dkwX8_goesOn_0 : List UInt8 := [42, 180, 0, 230, 17, 1, 144, 160, 0, 11, 42, 5, 182, 0, 242, 167, 0, 13, 42, 89, 180, 0, 230, 4]
abbrev dktX8_goesOn_0 : List UInt8 := dkwX8_goesOn_0 ++ dktX8_goesOn_1
theorem dksX8_goesOn_0 : cX8_goesOn.data.toList.drop 0 = dktX8_goesOn_0 := by decide +kernel
theorem dksX8_goesOn_1 : cX8_goesOn.data.toList.drop 24 = dktX8_goesOn_1 := dk_seg dksX8_goesOn_0 24 rfl rfl
theorem dX8_goesOn_0 : decode cX8_goesOn 0 = .ok (.aload_n 0, 1) := dk_42 (dk_at dksX8_goesOn_0 0 rfl rfl)
theorem dX8_goesOn_1 : decode cX8_goesOn 1 = .ok (.getfield 230, 3) := dk_180 0 230 (dk_at dksX8_goesOn_0 1 rfl rfl)
theorem dX8_goesOn_4 : decode cX8_goesOn 4 = .ok (.sipush 400, 3) := dk_17 1 144 (dk_at dksX8_goesOn_0 4 rfl rfl)
theorem dX8_goesOn_7 : decode cX8_goesOn 7 = .ok (.if_icmp .ne 11, 3) := dk_160 0 11 (dk_at dksX8_goesOn_0 7 rfl rfl)
theorem dX8_goesOn_10 : decode cX8_goesOn 10 = .ok (.aload_n 0, 1) := dk_42 (dk_at dksX8_goesOn_0 10 rfl rfl)
theorem dX8_goesOn_11 : decode cX8_goesOn 11 = .ok (.iconst 2, 1) := dk_5 (dk_at dksX8_goesOn_0 11 rfl rfl)
theorem dX8_goesOn_12 : decode cX8_goesOn 12 = .ok (.invokevirtual 242, 3) := dk_182 0 242 (dk_at dksX8_goesOn_0 12 rfl rfl)
theorem dX8_goesOn_15 : decode cX8_goesOn 15 = .ok (.goto 13, 3) := dk_167 0 13 (dk_at dksX8_goesOn_0 15 rfl rfl)
theorem dX8_goesOn_18 : decode cX8_goesOn 18 = .ok (.aload_n 0, 1) := dk_42 (dk_at dksX8_goesOn_0 18 rfl rfl)
theorem dX8_goesOn_19 : decode cX8_goesOn 19 = .ok (.dup, 1) := dk_89 (dk_at dksX8_goesOn_0 19 rfl rfl)
theorem dX8_goesOn_20 : decode cX8_goesOn 20 = .ok (.getfield 230, 3) := dk_180 0 230 (dk_at dksX8_goesOn_0 20 rfl rfl)
theorem dX8_goesOn_23 : decode cX8_goesOn 23 = .ok (.iconst 1, 1) := dk_4 (dk_at dksX8_goesOn_0 23 rfl rfl)
theorem dX8_goesOn_24 : decode cX8_goesOn 24 = .ok (.iadd, 1) := dk_96 (dk_at dksX8_goesOn_1 0 rfl rfl)
theorem dX8_goesOn_25 : decode cX8_goesOn 25 = .ok (.putfield 230, 3) := dk_181 0 230 (dk_at dksX8_goesOn_1 1 rfl rfl)
theorem dX8_goesOn_28 : decode cX8_goesOn 28 = .ok (.return_, 1) := dk_177 (dk_at dksX8_goesOn_1 4 rfl rfl)
abbrev cX8_named : ByteArray := prog_19_method_24_code
def yX8_named : MethodName := ⟨RX8, "named", "()I"⟩
def dkwX8_named_2 : List UInt8 := [182, 1, 59, 132, 2, 1, 167, 255, 216, 27, 172]
abbrev dktX8_named_2 : List UInt8 := dkwX8_named_2 ++ []
def dkwX8_named_1 : List UInt8 := [154, 0, 31, 42, 180, 0, 40, 28, 47, 42, 180, 0, 30, 27, 47, 148, 154, 0, 9, 42, 6, 27]
abbrev dktX8_named_1 : List UInt8 := dkwX8_named_1 ++ dktX8_named_2
def dkwX8_named_0 : List UInt8 := [42, 180, 0, 230, 60, 42, 4, 182, 1, 33, 3, 61, 28, 42, 180, 1, 7, 162, 0, 38, 42, 180, 0, 227]
abbrev dktX8_named_0 : List UInt8 := dkwX8_named_0 ++ dktX8_named_1
theorem dksX8_named_0 : cX8_named.data.toList.drop 0 = dktX8_named_0 := by decide +kernel
theorem dksX8_named_1 : cX8_named.data.toList.drop 24 = dktX8_named_1 := dk_seg dksX8_named_0 24 rfl rfl
theorem dksX8_named_2 : cX8_named.data.toList.drop 46 = dktX8_named_2 := dk_seg dksX8_named_1 22 rfl rfl
theorem dX8_named_0 : decode cX8_named 0 = .ok (.aload_n 0, 1) := dk_42 (dk_at dksX8_named_0 0 rfl rfl)
theorem dX8_named_1 : decode cX8_named 1 = .ok (.getfield 230, 3) := dk_180 0 230 (dk_at dksX8_named_0 1 rfl rfl)
theorem dX8_named_4 : decode cX8_named 4 = .ok (.istore_n 1, 1) := dk_60 (dk_at dksX8_named_0 4 rfl rfl)
theorem dX8_named_5 : decode cX8_named 5 = .ok (.aload_n 0, 1) := dk_42 (dk_at dksX8_named_0 5 rfl rfl)
theorem dX8_named_6 : decode cX8_named 6 = .ok (.iconst 1, 1) := dk_4 (dk_at dksX8_named_0 6 rfl rfl)
theorem dX8_named_7 : decode cX8_named 7 = .ok (.invokevirtual 289, 3) := dk_182 1 33 (dk_at dksX8_named_0 7 rfl rfl)
theorem dX8_named_10 : decode cX8_named 10 = .ok (.iconst 0, 1) := dk_3 (dk_at dksX8_named_0 10 rfl rfl)
theorem dX8_named_11 : decode cX8_named 11 = .ok (.istore_n 2, 1) := dk_61 (dk_at dksX8_named_0 11 rfl rfl)
theorem dX8_named_12 : decode cX8_named 12 = .ok (.iload_n 2, 1) := dk_28 (dk_at dksX8_named_0 12 rfl rfl)
theorem dX8_named_13 : decode cX8_named 13 = .ok (.aload_n 0, 1) := dk_42 (dk_at dksX8_named_0 13 rfl rfl)
theorem dX8_named_14 : decode cX8_named 14 = .ok (.getfield 263, 3) := dk_180 1 7 (dk_at dksX8_named_0 14 rfl rfl)
theorem dX8_named_17 : decode cX8_named 17 = .ok (.if_icmp .ge 38, 3) := dk_162 0 38 (dk_at dksX8_named_0 17 rfl rfl)
theorem dX8_named_20 : decode cX8_named 20 = .ok (.aload_n 0, 1) := dk_42 (dk_at dksX8_named_0 20 rfl rfl)
theorem dX8_named_21 : decode cX8_named 21 = .ok (.getfield 227, 3) := dk_180 0 227 (dk_at dksX8_named_0 21 rfl rfl)
theorem dX8_named_24 : decode cX8_named 24 = .ok (.ifCond .ne 31, 3) := dk_154 0 31 (dk_at dksX8_named_1 0 rfl rfl)
theorem dX8_named_27 : decode cX8_named 27 = .ok (.aload_n 0, 1) := dk_42 (dk_at dksX8_named_1 3 rfl rfl)
theorem dX8_named_28 : decode cX8_named 28 = .ok (.getfield 40, 3) := dk_180 0 40 (dk_at dksX8_named_1 4 rfl rfl)
theorem dX8_named_31 : decode cX8_named 31 = .ok (.iload_n 2, 1) := dk_28 (dk_at dksX8_named_1 7 rfl rfl)
theorem dX8_named_32 : decode cX8_named 32 = .ok (.laload, 1) := dk_47 (dk_at dksX8_named_1 8 rfl rfl)
theorem dX8_named_33 : decode cX8_named 33 = .ok (.aload_n 0, 1) := dk_42 (dk_at dksX8_named_1 9 rfl rfl)
theorem dX8_named_34 : decode cX8_named 34 = .ok (.getfield 30, 3) := dk_180 0 30 (dk_at dksX8_named_1 10 rfl rfl)
theorem dX8_named_37 : decode cX8_named 37 = .ok (.iload_n 1, 1) := dk_27 (dk_at dksX8_named_1 13 rfl rfl)
theorem dX8_named_38 : decode cX8_named 38 = .ok (.laload, 1) := dk_47 (dk_at dksX8_named_1 14 rfl rfl)
theorem dX8_named_39 : decode cX8_named 39 = .ok (.lcmp, 1) := dk_148 (dk_at dksX8_named_1 15 rfl rfl)
theorem dX8_named_40 : decode cX8_named 40 = .ok (.ifCond .ne 9, 3) := dk_154 0 9 (dk_at dksX8_named_1 16 rfl rfl)
theorem dX8_named_43 : decode cX8_named 43 = .ok (.aload_n 0, 1) := dk_42 (dk_at dksX8_named_1 19 rfl rfl)
theorem dX8_named_44 : decode cX8_named 44 = .ok (.iconst 3, 1) := dk_6 (dk_at dksX8_named_1 20 rfl rfl)
theorem dX8_named_45 : decode cX8_named 45 = .ok (.iload_n 1, 1) := dk_27 (dk_at dksX8_named_1 21 rfl rfl)
theorem dX8_named_46 : decode cX8_named 46 = .ok (.invokevirtual 315, 3) := dk_182 1 59 (dk_at dksX8_named_2 0 rfl rfl)
theorem dX8_named_49 : decode cX8_named 49 = .ok (.iinc 2 1, 3) := dk_132 2 1 (dk_at dksX8_named_2 3 rfl rfl)
theorem dX8_named_52 : decode cX8_named 52 = .ok (.goto (-40), 3) := dk_167 255 216 (dk_at dksX8_named_2 6 rfl rfl)
theorem dX8_named_55 : decode cX8_named 55 = .ok (.iload_n 1, 1) := dk_27 (dk_at dksX8_named_2 9 rfl rfl)
theorem dX8_named_56 : decode cX8_named 56 = .ok (.ireturn, 1) := dk_172 (dk_at dksX8_named_2 10 rfl rfl)
abbrev cX8_must : ByteArray := prog_19_method_18_code
def yX8_must : MethodName := ⟨RX8, "must", "(I)V"⟩
def dkwX8_must_0 : List UInt8 := [42, 27, 182, 0, 245, 153, 0, 10, 42, 182, 0, 248, 167, 0, 8, 42, 4, 182, 0, 242, 177]
abbrev dktX8_must_0 : List UInt8 := dkwX8_must_0 ++ []
theorem dksX8_must_0 : cX8_must.data.toList.drop 0 = dktX8_must_0 := by decide +kernel
theorem dX8_must_0 : decode cX8_must 0 = .ok (.aload_n 0, 1) := dk_42 (dk_at dksX8_must_0 0 rfl rfl)
theorem dX8_must_1 : decode cX8_must 1 = .ok (.iload_n 1, 1) := dk_27 (dk_at dksX8_must_0 1 rfl rfl)
theorem dX8_must_2 : decode cX8_must 2 = .ok (.invokevirtual 245, 3) := dk_182 0 245 (dk_at dksX8_must_0 2 rfl rfl)
theorem dX8_must_5 : decode cX8_must 5 = .ok (.ifCond .eq 10, 3) := dk_153 0 10 (dk_at dksX8_must_0 5 rfl rfl)
theorem dX8_must_8 : decode cX8_must 8 = .ok (.aload_n 0, 1) := dk_42 (dk_at dksX8_must_0 8 rfl rfl)
theorem dX8_must_9 : decode cX8_must 9 = .ok (.invokevirtual 248, 3) := dk_182 0 248 (dk_at dksX8_must_0 9 rfl rfl)
theorem dX8_must_12 : decode cX8_must 12 = .ok (.goto 8, 3) := dk_167 0 8 (dk_at dksX8_must_0 12 rfl rfl)
theorem dX8_must_15 : decode cX8_must 15 = .ok (.aload_n 0, 1) := dk_42 (dk_at dksX8_must_0 15 rfl rfl)
theorem dX8_must_16 : decode cX8_must 16 = .ok (.iconst 1, 1) := dk_4 (dk_at dksX8_must_0 16 rfl rfl)
theorem dX8_must_17 : decode cX8_must 17 = .ok (.invokevirtual 242, 3) := dk_182 0 242 (dk_at dksX8_must_0 17 rfl rfl)
theorem dX8_must_20 : decode cX8_must 20 = .ok (.return_, 1) := dk_177 (dk_at dksX8_must_0 20 rfl rfl)
abbrev cX8_wrong : ByteArray := prog_19_method_16_code
def yX8_wrong : MethodName := ⟨RX8, "wrong", "(II)V"⟩
def dkwX8_wrong_2 : List UInt8 := [27, 181, 0, 236, 42, 29, 181, 0, 239, 177]
abbrev dktX8_wrong_2 : List UInt8 := dkwX8_wrong_2 ++ []
def dkwX8_wrong_1 : List UInt8 := [180, 0, 239, 163, 0, 19, 29, 42, 180, 0, 239, 160, 0, 12, 27, 42, 180, 0, 236, 161, 0, 4, 177, 42]
abbrev dktX8_wrong_1 : List UInt8 := dkwX8_wrong_1 ++ dktX8_wrong_2
def dkwX8_wrong_0 : List UInt8 := [42, 180, 0, 24, 28, 46, 62, 42, 180, 0, 227, 157, 0, 34, 42, 180, 0, 236, 153, 0, 28, 29, 42]
abbrev dktX8_wrong_0 : List UInt8 := dkwX8_wrong_0 ++ dktX8_wrong_1
theorem dksX8_wrong_0 : cX8_wrong.data.toList.drop 0 = dktX8_wrong_0 := by decide +kernel
theorem dksX8_wrong_1 : cX8_wrong.data.toList.drop 23 = dktX8_wrong_1 := dk_seg dksX8_wrong_0 23 rfl rfl
theorem dksX8_wrong_2 : cX8_wrong.data.toList.drop 47 = dktX8_wrong_2 := dk_seg dksX8_wrong_1 24 rfl rfl
theorem dX8_wrong_0 : decode cX8_wrong 0 = .ok (.aload_n 0, 1) := dk_42 (dk_at dksX8_wrong_0 0 rfl rfl)
theorem dX8_wrong_1 : decode cX8_wrong 1 = .ok (.getfield 24, 3) := dk_180 0 24 (dk_at dksX8_wrong_0 1 rfl rfl)
theorem dX8_wrong_4 : decode cX8_wrong 4 = .ok (.iload_n 2, 1) := dk_28 (dk_at dksX8_wrong_0 4 rfl rfl)
theorem dX8_wrong_5 : decode cX8_wrong 5 = .ok (.iaload, 1) := dk_46 (dk_at dksX8_wrong_0 5 rfl rfl)
theorem dX8_wrong_6 : decode cX8_wrong 6 = .ok (.istore_n 3, 1) := dk_62 (dk_at dksX8_wrong_0 6 rfl rfl)
theorem dX8_wrong_7 : decode cX8_wrong 7 = .ok (.aload_n 0, 1) := dk_42 (dk_at dksX8_wrong_0 7 rfl rfl)
theorem dX8_wrong_8 : decode cX8_wrong 8 = .ok (.getfield 227, 3) := dk_180 0 227 (dk_at dksX8_wrong_0 8 rfl rfl)
theorem dX8_wrong_11 : decode cX8_wrong 11 = .ok (.ifCond .gt 34, 3) := dk_157 0 34 (dk_at dksX8_wrong_0 11 rfl rfl)
theorem dX8_wrong_14 : decode cX8_wrong 14 = .ok (.aload_n 0, 1) := dk_42 (dk_at dksX8_wrong_0 14 rfl rfl)
theorem dX8_wrong_15 : decode cX8_wrong 15 = .ok (.getfield 236, 3) := dk_180 0 236 (dk_at dksX8_wrong_0 15 rfl rfl)
theorem dX8_wrong_18 : decode cX8_wrong 18 = .ok (.ifCond .eq 28, 3) := dk_153 0 28 (dk_at dksX8_wrong_0 18 rfl rfl)
theorem dX8_wrong_21 : decode cX8_wrong 21 = .ok (.iload_n 3, 1) := dk_29 (dk_at dksX8_wrong_0 21 rfl rfl)
theorem dX8_wrong_22 : decode cX8_wrong 22 = .ok (.aload_n 0, 1) := dk_42 (dk_at dksX8_wrong_0 22 rfl rfl)
theorem dX8_wrong_23 : decode cX8_wrong 23 = .ok (.getfield 239, 3) := dk_180 0 239 (dk_at dksX8_wrong_1 0 rfl rfl)
theorem dX8_wrong_26 : decode cX8_wrong 26 = .ok (.if_icmp .gt 19, 3) := dk_163 0 19 (dk_at dksX8_wrong_1 3 rfl rfl)
theorem dX8_wrong_29 : decode cX8_wrong 29 = .ok (.iload_n 3, 1) := dk_29 (dk_at dksX8_wrong_1 6 rfl rfl)
theorem dX8_wrong_30 : decode cX8_wrong 30 = .ok (.aload_n 0, 1) := dk_42 (dk_at dksX8_wrong_1 7 rfl rfl)
theorem dX8_wrong_31 : decode cX8_wrong 31 = .ok (.getfield 239, 3) := dk_180 0 239 (dk_at dksX8_wrong_1 8 rfl rfl)
theorem dX8_wrong_34 : decode cX8_wrong 34 = .ok (.if_icmp .ne 12, 3) := dk_160 0 12 (dk_at dksX8_wrong_1 11 rfl rfl)
theorem dX8_wrong_37 : decode cX8_wrong 37 = .ok (.iload_n 1, 1) := dk_27 (dk_at dksX8_wrong_1 14 rfl rfl)
theorem dX8_wrong_38 : decode cX8_wrong 38 = .ok (.aload_n 0, 1) := dk_42 (dk_at dksX8_wrong_1 15 rfl rfl)
theorem dX8_wrong_39 : decode cX8_wrong 39 = .ok (.getfield 236, 3) := dk_180 0 236 (dk_at dksX8_wrong_1 16 rfl rfl)
theorem dX8_wrong_42 : decode cX8_wrong 42 = .ok (.if_icmp .lt 4, 3) := dk_161 0 4 (dk_at dksX8_wrong_1 19 rfl rfl)
theorem dX8_wrong_45 : decode cX8_wrong 45 = .ok (.return_, 1) := dk_177 (dk_at dksX8_wrong_1 22 rfl rfl)
theorem dX8_wrong_46 : decode cX8_wrong 46 = .ok (.aload_n 0, 1) := dk_42 (dk_at dksX8_wrong_1 23 rfl rfl)
theorem dX8_wrong_47 : decode cX8_wrong 47 = .ok (.iload_n 1, 1) := dk_27 (dk_at dksX8_wrong_2 0 rfl rfl)
theorem dX8_wrong_48 : decode cX8_wrong 48 = .ok (.putfield 236, 3) := dk_181 0 236 (dk_at dksX8_wrong_2 1 rfl rfl)
theorem dX8_wrong_51 : decode cX8_wrong 51 = .ok (.aload_n 0, 1) := dk_42 (dk_at dksX8_wrong_2 4 rfl rfl)
theorem dX8_wrong_52 : decode cX8_wrong 52 = .ok (.iload_n 3, 1) := dk_29 (dk_at dksX8_wrong_2 5 rfl rfl)
theorem dX8_wrong_53 : decode cX8_wrong 53 = .ok (.putfield 239, 3) := dk_181 0 239 (dk_at dksX8_wrong_2 6 rfl rfl)
theorem dX8_wrong_56 : decode cX8_wrong 56 = .ok (.return_, 1) := dk_177 (dk_at dksX8_wrong_2 9 rfl rfl)
abbrev cX8_notes : ByteArray := prog_19_method_25_code
def yX8_notes : MethodName := ⟨RX8, "notes", "(III)V"⟩
def dkwX8_notes_1 : List UInt8 := [79, 42, 180, 0, 46, 42, 180, 1, 7, 29, 79, 42, 89, 180, 1, 7, 4, 96, 181, 1, 7, 177]
abbrev dktX8_notes_1 : List UInt8 := dkwX8_notes_1 ++ []
def dkwX8_notes_0 : List UInt8 := [42, 180, 0, 40, 42, 180, 1, 7, 42, 180, 0, 30, 27, 47, 80, 42, 180, 0, 43, 42, 180, 1, 7, 28]
abbrev dktX8_notes_0 : List UInt8 := dkwX8_notes_0 ++ dktX8_notes_1
theorem dksX8_notes_0 : cX8_notes.data.toList.drop 0 = dktX8_notes_0 := by decide +kernel
theorem dksX8_notes_1 : cX8_notes.data.toList.drop 24 = dktX8_notes_1 := dk_seg dksX8_notes_0 24 rfl rfl
theorem dX8_notes_0 : decode cX8_notes 0 = .ok (.aload_n 0, 1) := dk_42 (dk_at dksX8_notes_0 0 rfl rfl)
theorem dX8_notes_1 : decode cX8_notes 1 = .ok (.getfield 40, 3) := dk_180 0 40 (dk_at dksX8_notes_0 1 rfl rfl)
theorem dX8_notes_4 : decode cX8_notes 4 = .ok (.aload_n 0, 1) := dk_42 (dk_at dksX8_notes_0 4 rfl rfl)
theorem dX8_notes_5 : decode cX8_notes 5 = .ok (.getfield 263, 3) := dk_180 1 7 (dk_at dksX8_notes_0 5 rfl rfl)
theorem dX8_notes_8 : decode cX8_notes 8 = .ok (.aload_n 0, 1) := dk_42 (dk_at dksX8_notes_0 8 rfl rfl)
theorem dX8_notes_9 : decode cX8_notes 9 = .ok (.getfield 30, 3) := dk_180 0 30 (dk_at dksX8_notes_0 9 rfl rfl)
theorem dX8_notes_12 : decode cX8_notes 12 = .ok (.iload_n 1, 1) := dk_27 (dk_at dksX8_notes_0 12 rfl rfl)
theorem dX8_notes_13 : decode cX8_notes 13 = .ok (.laload, 1) := dk_47 (dk_at dksX8_notes_0 13 rfl rfl)
theorem dX8_notes_14 : decode cX8_notes 14 = .ok (.lastore, 1) := dk_80 (dk_at dksX8_notes_0 14 rfl rfl)
theorem dX8_notes_15 : decode cX8_notes 15 = .ok (.aload_n 0, 1) := dk_42 (dk_at dksX8_notes_0 15 rfl rfl)
theorem dX8_notes_16 : decode cX8_notes 16 = .ok (.getfield 43, 3) := dk_180 0 43 (dk_at dksX8_notes_0 16 rfl rfl)
theorem dX8_notes_19 : decode cX8_notes 19 = .ok (.aload_n 0, 1) := dk_42 (dk_at dksX8_notes_0 19 rfl rfl)
theorem dX8_notes_20 : decode cX8_notes 20 = .ok (.getfield 263, 3) := dk_180 1 7 (dk_at dksX8_notes_0 20 rfl rfl)
theorem dX8_notes_23 : decode cX8_notes 23 = .ok (.iload_n 2, 1) := dk_28 (dk_at dksX8_notes_0 23 rfl rfl)
theorem dX8_notes_24 : decode cX8_notes 24 = .ok (.iastore, 1) := dk_79 (dk_at dksX8_notes_1 0 rfl rfl)
theorem dX8_notes_25 : decode cX8_notes 25 = .ok (.aload_n 0, 1) := dk_42 (dk_at dksX8_notes_1 1 rfl rfl)
theorem dX8_notes_26 : decode cX8_notes 26 = .ok (.getfield 46, 3) := dk_180 0 46 (dk_at dksX8_notes_1 2 rfl rfl)
theorem dX8_notes_29 : decode cX8_notes 29 = .ok (.aload_n 0, 1) := dk_42 (dk_at dksX8_notes_1 5 rfl rfl)
theorem dX8_notes_30 : decode cX8_notes 30 = .ok (.getfield 263, 3) := dk_180 1 7 (dk_at dksX8_notes_1 6 rfl rfl)
theorem dX8_notes_33 : decode cX8_notes 33 = .ok (.iload_n 3, 1) := dk_29 (dk_at dksX8_notes_1 9 rfl rfl)
theorem dX8_notes_34 : decode cX8_notes 34 = .ok (.iastore, 1) := dk_79 (dk_at dksX8_notes_1 10 rfl rfl)
theorem dX8_notes_35 : decode cX8_notes 35 = .ok (.aload_n 0, 1) := dk_42 (dk_at dksX8_notes_1 11 rfl rfl)
theorem dX8_notes_36 : decode cX8_notes 36 = .ok (.dup, 1) := dk_89 (dk_at dksX8_notes_1 12 rfl rfl)
theorem dX8_notes_37 : decode cX8_notes 37 = .ok (.getfield 263, 3) := dk_180 1 7 (dk_at dksX8_notes_1 13 rfl rfl)
theorem dX8_notes_40 : decode cX8_notes 40 = .ok (.iconst 1, 1) := dk_4 (dk_at dksX8_notes_1 16 rfl rfl)
theorem dX8_notes_41 : decode cX8_notes 41 = .ok (.iadd, 1) := dk_96 (dk_at dksX8_notes_1 17 rfl rfl)
theorem dX8_notes_42 : decode cX8_notes 42 = .ok (.putfield 263, 3) := dk_181 1 7 (dk_at dksX8_notes_1 18 rfl rfl)
theorem dX8_notes_45 : decode cX8_notes 45 = .ok (.return_, 1) := dk_177 (dk_at dksX8_notes_1 21 rfl rfl)
abbrev cX8_tellDoor : ByteArray := prog_19_method_28_code
def yX8_tellDoor : MethodName := ⟨RX8, "tellDoor", "()V"⟩
def dkwX8_tellDoor_4 : List UInt8 := [154, 0, 16, 42, 180, 0, 52, 42, 180, 1, 4, 92, 46, 4, 96, 79, 177]
abbrev dktX8_tellDoor_4 : List UInt8 := dkwX8_tellDoor_4 ++ []
def dkwX8_tellDoor_3 : List UInt8 := [180, 0, 55, 27, 46, 160, 0, 9, 42, 6, 28, 182, 1, 59, 42, 7, 182, 1, 33, 42, 180, 0, 227]
abbrev dktX8_tellDoor_3 : List UInt8 := dkwX8_tellDoor_3 ++ dktX8_tellDoor_4
def dkwX8_tellDoor_2 : List UInt8 := [180, 0, 227, 154, 0, 33, 42, 180, 0, 58, 27, 46, 155, 0, 24, 42, 180, 0, 58, 27, 46, 42]
abbrev dktX8_tellDoor_2 : List UInt8 := dkwX8_tellDoor_2 ++ dktX8_tellDoor_3
def dkwX8_tellDoor_1 : List UInt8 := [3, 182, 1, 46, 79, 42, 180, 0, 230, 61, 42, 180, 0, 58, 27, 42, 3, 182, 1, 46, 79, 42]
abbrev dktX8_tellDoor_1 : List UInt8 := dkwX8_tellDoor_1 ++ dktX8_tellDoor_2
def dkwX8_tellDoor_0 : List UInt8 := [16, 12, 42, 180, 1, 4, 104, 42, 180, 0, 52, 42, 180, 1, 4, 46, 96, 60, 42, 180, 0, 55, 27, 42]
abbrev dktX8_tellDoor_0 : List UInt8 := dkwX8_tellDoor_0 ++ dktX8_tellDoor_1
theorem dksX8_tellDoor_0 : cX8_tellDoor.data.toList.drop 0 = dktX8_tellDoor_0 := by decide +kernel
theorem dksX8_tellDoor_1 : cX8_tellDoor.data.toList.drop 24 = dktX8_tellDoor_1 := dk_seg dksX8_tellDoor_0 24 rfl rfl
theorem dksX8_tellDoor_2 : cX8_tellDoor.data.toList.drop 46 = dktX8_tellDoor_2 := dk_seg dksX8_tellDoor_1 22 rfl rfl
theorem dksX8_tellDoor_3 : cX8_tellDoor.data.toList.drop 68 = dktX8_tellDoor_3 := dk_seg dksX8_tellDoor_2 22 rfl rfl
theorem dksX8_tellDoor_4 : cX8_tellDoor.data.toList.drop 91 = dktX8_tellDoor_4 := dk_seg dksX8_tellDoor_3 23 rfl rfl
theorem dX8_tellDoor_0 : decode cX8_tellDoor 0 = .ok (.bipush 12, 2) := dk_16 12 (dk_at dksX8_tellDoor_0 0 rfl rfl)
theorem dX8_tellDoor_2 : decode cX8_tellDoor 2 = .ok (.aload_n 0, 1) := dk_42 (dk_at dksX8_tellDoor_0 2 rfl rfl)
theorem dX8_tellDoor_3 : decode cX8_tellDoor 3 = .ok (.getfield 260, 3) := dk_180 1 4 (dk_at dksX8_tellDoor_0 3 rfl rfl)
theorem dX8_tellDoor_6 : decode cX8_tellDoor 6 = .ok (.imul, 1) := dk_104 (dk_at dksX8_tellDoor_0 6 rfl rfl)
theorem dX8_tellDoor_7 : decode cX8_tellDoor 7 = .ok (.aload_n 0, 1) := dk_42 (dk_at dksX8_tellDoor_0 7 rfl rfl)
theorem dX8_tellDoor_8 : decode cX8_tellDoor 8 = .ok (.getfield 52, 3) := dk_180 0 52 (dk_at dksX8_tellDoor_0 8 rfl rfl)
theorem dX8_tellDoor_11 : decode cX8_tellDoor 11 = .ok (.aload_n 0, 1) := dk_42 (dk_at dksX8_tellDoor_0 11 rfl rfl)
theorem dX8_tellDoor_12 : decode cX8_tellDoor 12 = .ok (.getfield 260, 3) := dk_180 1 4 (dk_at dksX8_tellDoor_0 12 rfl rfl)
theorem dX8_tellDoor_15 : decode cX8_tellDoor 15 = .ok (.iaload, 1) := dk_46 (dk_at dksX8_tellDoor_0 15 rfl rfl)
theorem dX8_tellDoor_16 : decode cX8_tellDoor 16 = .ok (.iadd, 1) := dk_96 (dk_at dksX8_tellDoor_0 16 rfl rfl)
theorem dX8_tellDoor_17 : decode cX8_tellDoor 17 = .ok (.istore_n 1, 1) := dk_60 (dk_at dksX8_tellDoor_0 17 rfl rfl)
theorem dX8_tellDoor_18 : decode cX8_tellDoor 18 = .ok (.aload_n 0, 1) := dk_42 (dk_at dksX8_tellDoor_0 18 rfl rfl)
theorem dX8_tellDoor_19 : decode cX8_tellDoor 19 = .ok (.getfield 55, 3) := dk_180 0 55 (dk_at dksX8_tellDoor_0 19 rfl rfl)
theorem dX8_tellDoor_22 : decode cX8_tellDoor 22 = .ok (.iload_n 1, 1) := dk_27 (dk_at dksX8_tellDoor_0 22 rfl rfl)
theorem dX8_tellDoor_23 : decode cX8_tellDoor 23 = .ok (.aload_n 0, 1) := dk_42 (dk_at dksX8_tellDoor_0 23 rfl rfl)
theorem dX8_tellDoor_24 : decode cX8_tellDoor 24 = .ok (.iconst 0, 1) := dk_3 (dk_at dksX8_tellDoor_1 0 rfl rfl)
theorem dX8_tellDoor_25 : decode cX8_tellDoor 25 = .ok (.invokevirtual 302, 3) := dk_182 1 46 (dk_at dksX8_tellDoor_1 1 rfl rfl)
theorem dX8_tellDoor_28 : decode cX8_tellDoor 28 = .ok (.iastore, 1) := dk_79 (dk_at dksX8_tellDoor_1 4 rfl rfl)
theorem dX8_tellDoor_29 : decode cX8_tellDoor 29 = .ok (.aload_n 0, 1) := dk_42 (dk_at dksX8_tellDoor_1 5 rfl rfl)
theorem dX8_tellDoor_30 : decode cX8_tellDoor 30 = .ok (.getfield 230, 3) := dk_180 0 230 (dk_at dksX8_tellDoor_1 6 rfl rfl)
theorem dX8_tellDoor_33 : decode cX8_tellDoor 33 = .ok (.istore_n 2, 1) := dk_61 (dk_at dksX8_tellDoor_1 9 rfl rfl)
theorem dX8_tellDoor_34 : decode cX8_tellDoor 34 = .ok (.aload_n 0, 1) := dk_42 (dk_at dksX8_tellDoor_1 10 rfl rfl)
theorem dX8_tellDoor_35 : decode cX8_tellDoor 35 = .ok (.getfield 58, 3) := dk_180 0 58 (dk_at dksX8_tellDoor_1 11 rfl rfl)
theorem dX8_tellDoor_38 : decode cX8_tellDoor 38 = .ok (.iload_n 1, 1) := dk_27 (dk_at dksX8_tellDoor_1 14 rfl rfl)
theorem dX8_tellDoor_39 : decode cX8_tellDoor 39 = .ok (.aload_n 0, 1) := dk_42 (dk_at dksX8_tellDoor_1 15 rfl rfl)
theorem dX8_tellDoor_40 : decode cX8_tellDoor 40 = .ok (.iconst 0, 1) := dk_3 (dk_at dksX8_tellDoor_1 16 rfl rfl)
theorem dX8_tellDoor_41 : decode cX8_tellDoor 41 = .ok (.invokevirtual 302, 3) := dk_182 1 46 (dk_at dksX8_tellDoor_1 17 rfl rfl)
theorem dX8_tellDoor_44 : decode cX8_tellDoor 44 = .ok (.iastore, 1) := dk_79 (dk_at dksX8_tellDoor_1 20 rfl rfl)
theorem dX8_tellDoor_45 : decode cX8_tellDoor 45 = .ok (.aload_n 0, 1) := dk_42 (dk_at dksX8_tellDoor_1 21 rfl rfl)
theorem dX8_tellDoor_46 : decode cX8_tellDoor 46 = .ok (.getfield 227, 3) := dk_180 0 227 (dk_at dksX8_tellDoor_2 0 rfl rfl)
theorem dX8_tellDoor_49 : decode cX8_tellDoor 49 = .ok (.ifCond .ne 33, 3) := dk_154 0 33 (dk_at dksX8_tellDoor_2 3 rfl rfl)
theorem dX8_tellDoor_52 : decode cX8_tellDoor 52 = .ok (.aload_n 0, 1) := dk_42 (dk_at dksX8_tellDoor_2 6 rfl rfl)
theorem dX8_tellDoor_53 : decode cX8_tellDoor 53 = .ok (.getfield 58, 3) := dk_180 0 58 (dk_at dksX8_tellDoor_2 7 rfl rfl)
theorem dX8_tellDoor_56 : decode cX8_tellDoor 56 = .ok (.iload_n 1, 1) := dk_27 (dk_at dksX8_tellDoor_2 10 rfl rfl)
theorem dX8_tellDoor_57 : decode cX8_tellDoor 57 = .ok (.iaload, 1) := dk_46 (dk_at dksX8_tellDoor_2 11 rfl rfl)
theorem dX8_tellDoor_58 : decode cX8_tellDoor 58 = .ok (.ifCond .lt 24, 3) := dk_155 0 24 (dk_at dksX8_tellDoor_2 12 rfl rfl)
theorem dX8_tellDoor_61 : decode cX8_tellDoor 61 = .ok (.aload_n 0, 1) := dk_42 (dk_at dksX8_tellDoor_2 15 rfl rfl)
theorem dX8_tellDoor_62 : decode cX8_tellDoor 62 = .ok (.getfield 58, 3) := dk_180 0 58 (dk_at dksX8_tellDoor_2 16 rfl rfl)
theorem dX8_tellDoor_65 : decode cX8_tellDoor 65 = .ok (.iload_n 1, 1) := dk_27 (dk_at dksX8_tellDoor_2 19 rfl rfl)
theorem dX8_tellDoor_66 : decode cX8_tellDoor 66 = .ok (.iaload, 1) := dk_46 (dk_at dksX8_tellDoor_2 20 rfl rfl)
theorem dX8_tellDoor_67 : decode cX8_tellDoor 67 = .ok (.aload_n 0, 1) := dk_42 (dk_at dksX8_tellDoor_2 21 rfl rfl)
theorem dX8_tellDoor_68 : decode cX8_tellDoor 68 = .ok (.getfield 55, 3) := dk_180 0 55 (dk_at dksX8_tellDoor_3 0 rfl rfl)
theorem dX8_tellDoor_71 : decode cX8_tellDoor 71 = .ok (.iload_n 1, 1) := dk_27 (dk_at dksX8_tellDoor_3 3 rfl rfl)
theorem dX8_tellDoor_72 : decode cX8_tellDoor 72 = .ok (.iaload, 1) := dk_46 (dk_at dksX8_tellDoor_3 4 rfl rfl)
theorem dX8_tellDoor_73 : decode cX8_tellDoor 73 = .ok (.if_icmp .ne 9, 3) := dk_160 0 9 (dk_at dksX8_tellDoor_3 5 rfl rfl)
theorem dX8_tellDoor_76 : decode cX8_tellDoor 76 = .ok (.aload_n 0, 1) := dk_42 (dk_at dksX8_tellDoor_3 8 rfl rfl)
theorem dX8_tellDoor_77 : decode cX8_tellDoor 77 = .ok (.iconst 3, 1) := dk_6 (dk_at dksX8_tellDoor_3 9 rfl rfl)
theorem dX8_tellDoor_78 : decode cX8_tellDoor 78 = .ok (.iload_n 2, 1) := dk_28 (dk_at dksX8_tellDoor_3 10 rfl rfl)
theorem dX8_tellDoor_79 : decode cX8_tellDoor 79 = .ok (.invokevirtual 315, 3) := dk_182 1 59 (dk_at dksX8_tellDoor_3 11 rfl rfl)
theorem dX8_tellDoor_82 : decode cX8_tellDoor 82 = .ok (.aload_n 0, 1) := dk_42 (dk_at dksX8_tellDoor_3 14 rfl rfl)
theorem dX8_tellDoor_83 : decode cX8_tellDoor 83 = .ok (.iconst 4, 1) := dk_7 (dk_at dksX8_tellDoor_3 15 rfl rfl)
theorem dX8_tellDoor_84 : decode cX8_tellDoor 84 = .ok (.invokevirtual 289, 3) := dk_182 1 33 (dk_at dksX8_tellDoor_3 16 rfl rfl)
theorem dX8_tellDoor_87 : decode cX8_tellDoor 87 = .ok (.aload_n 0, 1) := dk_42 (dk_at dksX8_tellDoor_3 19 rfl rfl)
theorem dX8_tellDoor_88 : decode cX8_tellDoor 88 = .ok (.getfield 227, 3) := dk_180 0 227 (dk_at dksX8_tellDoor_3 20 rfl rfl)
theorem dX8_tellDoor_91 : decode cX8_tellDoor 91 = .ok (.ifCond .ne 16, 3) := dk_154 0 16 (dk_at dksX8_tellDoor_4 0 rfl rfl)
theorem dX8_tellDoor_94 : decode cX8_tellDoor 94 = .ok (.aload_n 0, 1) := dk_42 (dk_at dksX8_tellDoor_4 3 rfl rfl)
theorem dX8_tellDoor_95 : decode cX8_tellDoor 95 = .ok (.getfield 52, 3) := dk_180 0 52 (dk_at dksX8_tellDoor_4 4 rfl rfl)
theorem dX8_tellDoor_98 : decode cX8_tellDoor 98 = .ok (.aload_n 0, 1) := dk_42 (dk_at dksX8_tellDoor_4 7 rfl rfl)
theorem dX8_tellDoor_99 : decode cX8_tellDoor 99 = .ok (.getfield 260, 3) := dk_180 1 4 (dk_at dksX8_tellDoor_4 8 rfl rfl)
theorem dX8_tellDoor_102 : decode cX8_tellDoor 102 = .ok (.dup2, 1) := dk_92 (dk_at dksX8_tellDoor_4 11 rfl rfl)
theorem dX8_tellDoor_103 : decode cX8_tellDoor 103 = .ok (.iaload, 1) := dk_46 (dk_at dksX8_tellDoor_4 12 rfl rfl)
theorem dX8_tellDoor_104 : decode cX8_tellDoor 104 = .ok (.iconst 1, 1) := dk_4 (dk_at dksX8_tellDoor_4 13 rfl rfl)
theorem dX8_tellDoor_105 : decode cX8_tellDoor 105 = .ok (.iadd, 1) := dk_96 (dk_at dksX8_tellDoor_4 14 rfl rfl)
theorem dX8_tellDoor_106 : decode cX8_tellDoor 106 = .ok (.iastore, 1) := dk_79 (dk_at dksX8_tellDoor_4 15 rfl rfl)
theorem dX8_tellDoor_107 : decode cX8_tellDoor 107 = .ok (.return_, 1) := dk_177 (dk_at dksX8_tellDoor_4 16 rfl rfl)
abbrev cX8_known : ByteArray := prog_19_method_26_code
def yX8_known : MethodName := ⟨RX8, "known", "(I)I"⟩
def dkwX8_known_3 : List UInt8 := [28, 182, 1, 59, 2, 172]
abbrev dktX8_known_3 : List UInt8 := dkwX8_known_3 ++ []
def dkwX8_known_2 : List UInt8 := [180, 0, 43, 29, 46, 27, 160, 0, 10, 42, 180, 0, 46, 29, 46, 172, 132, 3, 1, 167, 255, 212, 42, 7]
abbrev dktX8_known_2 : List UInt8 := dkwX8_known_2 ++ dktX8_known_3
def dkwX8_known_1 : List UInt8 := [180, 1, 7, 162, 0, 42, 42, 180, 0, 40, 29, 47, 42, 180, 0, 30, 28, 47, 148, 154, 0, 20, 42]
abbrev dktX8_known_1 : List UInt8 := dkwX8_known_1 ++ dktX8_known_2
def dkwX8_known_0 : List UInt8 := [42, 180, 0, 230, 61, 42, 4, 182, 1, 33, 42, 180, 0, 227, 158, 0, 5, 2, 172, 3, 62, 29, 42]
abbrev dktX8_known_0 : List UInt8 := dkwX8_known_0 ++ dktX8_known_1
theorem dksX8_known_0 : cX8_known.data.toList.drop 0 = dktX8_known_0 := by decide +kernel
theorem dksX8_known_1 : cX8_known.data.toList.drop 23 = dktX8_known_1 := dk_seg dksX8_known_0 23 rfl rfl
theorem dksX8_known_2 : cX8_known.data.toList.drop 46 = dktX8_known_2 := dk_seg dksX8_known_1 23 rfl rfl
theorem dksX8_known_3 : cX8_known.data.toList.drop 70 = dktX8_known_3 := dk_seg dksX8_known_2 24 rfl rfl
theorem dX8_known_0 : decode cX8_known 0 = .ok (.aload_n 0, 1) := dk_42 (dk_at dksX8_known_0 0 rfl rfl)
theorem dX8_known_1 : decode cX8_known 1 = .ok (.getfield 230, 3) := dk_180 0 230 (dk_at dksX8_known_0 1 rfl rfl)
theorem dX8_known_4 : decode cX8_known 4 = .ok (.istore_n 2, 1) := dk_61 (dk_at dksX8_known_0 4 rfl rfl)
theorem dX8_known_5 : decode cX8_known 5 = .ok (.aload_n 0, 1) := dk_42 (dk_at dksX8_known_0 5 rfl rfl)
theorem dX8_known_6 : decode cX8_known 6 = .ok (.iconst 1, 1) := dk_4 (dk_at dksX8_known_0 6 rfl rfl)
theorem dX8_known_7 : decode cX8_known 7 = .ok (.invokevirtual 289, 3) := dk_182 1 33 (dk_at dksX8_known_0 7 rfl rfl)
theorem dX8_known_10 : decode cX8_known 10 = .ok (.aload_n 0, 1) := dk_42 (dk_at dksX8_known_0 10 rfl rfl)
theorem dX8_known_11 : decode cX8_known 11 = .ok (.getfield 227, 3) := dk_180 0 227 (dk_at dksX8_known_0 11 rfl rfl)
theorem dX8_known_14 : decode cX8_known 14 = .ok (.ifCond .le 5, 3) := dk_158 0 5 (dk_at dksX8_known_0 14 rfl rfl)
theorem dX8_known_17 : decode cX8_known 17 = .ok (.iconst (-1), 1) := dk_2 (dk_at dksX8_known_0 17 rfl rfl)
theorem dX8_known_18 : decode cX8_known 18 = .ok (.ireturn, 1) := dk_172 (dk_at dksX8_known_0 18 rfl rfl)
theorem dX8_known_19 : decode cX8_known 19 = .ok (.iconst 0, 1) := dk_3 (dk_at dksX8_known_0 19 rfl rfl)
theorem dX8_known_20 : decode cX8_known 20 = .ok (.istore_n 3, 1) := dk_62 (dk_at dksX8_known_0 20 rfl rfl)
theorem dX8_known_21 : decode cX8_known 21 = .ok (.iload_n 3, 1) := dk_29 (dk_at dksX8_known_0 21 rfl rfl)
theorem dX8_known_22 : decode cX8_known 22 = .ok (.aload_n 0, 1) := dk_42 (dk_at dksX8_known_0 22 rfl rfl)
theorem dX8_known_23 : decode cX8_known 23 = .ok (.getfield 263, 3) := dk_180 1 7 (dk_at dksX8_known_1 0 rfl rfl)
theorem dX8_known_26 : decode cX8_known 26 = .ok (.if_icmp .ge 42, 3) := dk_162 0 42 (dk_at dksX8_known_1 3 rfl rfl)
theorem dX8_known_29 : decode cX8_known 29 = .ok (.aload_n 0, 1) := dk_42 (dk_at dksX8_known_1 6 rfl rfl)
theorem dX8_known_30 : decode cX8_known 30 = .ok (.getfield 40, 3) := dk_180 0 40 (dk_at dksX8_known_1 7 rfl rfl)
theorem dX8_known_33 : decode cX8_known 33 = .ok (.iload_n 3, 1) := dk_29 (dk_at dksX8_known_1 10 rfl rfl)
theorem dX8_known_34 : decode cX8_known 34 = .ok (.laload, 1) := dk_47 (dk_at dksX8_known_1 11 rfl rfl)
theorem dX8_known_35 : decode cX8_known 35 = .ok (.aload_n 0, 1) := dk_42 (dk_at dksX8_known_1 12 rfl rfl)
theorem dX8_known_36 : decode cX8_known 36 = .ok (.getfield 30, 3) := dk_180 0 30 (dk_at dksX8_known_1 13 rfl rfl)
theorem dX8_known_39 : decode cX8_known 39 = .ok (.iload_n 2, 1) := dk_28 (dk_at dksX8_known_1 16 rfl rfl)
theorem dX8_known_40 : decode cX8_known 40 = .ok (.laload, 1) := dk_47 (dk_at dksX8_known_1 17 rfl rfl)
theorem dX8_known_41 : decode cX8_known 41 = .ok (.lcmp, 1) := dk_148 (dk_at dksX8_known_1 18 rfl rfl)
theorem dX8_known_42 : decode cX8_known 42 = .ok (.ifCond .ne 20, 3) := dk_154 0 20 (dk_at dksX8_known_1 19 rfl rfl)
theorem dX8_known_45 : decode cX8_known 45 = .ok (.aload_n 0, 1) := dk_42 (dk_at dksX8_known_1 22 rfl rfl)
theorem dX8_known_46 : decode cX8_known 46 = .ok (.getfield 43, 3) := dk_180 0 43 (dk_at dksX8_known_2 0 rfl rfl)
theorem dX8_known_49 : decode cX8_known 49 = .ok (.iload_n 3, 1) := dk_29 (dk_at dksX8_known_2 3 rfl rfl)
theorem dX8_known_50 : decode cX8_known 50 = .ok (.iaload, 1) := dk_46 (dk_at dksX8_known_2 4 rfl rfl)
theorem dX8_known_51 : decode cX8_known 51 = .ok (.iload_n 1, 1) := dk_27 (dk_at dksX8_known_2 5 rfl rfl)
theorem dX8_known_52 : decode cX8_known 52 = .ok (.if_icmp .ne 10, 3) := dk_160 0 10 (dk_at dksX8_known_2 6 rfl rfl)
theorem dX8_known_55 : decode cX8_known 55 = .ok (.aload_n 0, 1) := dk_42 (dk_at dksX8_known_2 9 rfl rfl)
theorem dX8_known_56 : decode cX8_known 56 = .ok (.getfield 46, 3) := dk_180 0 46 (dk_at dksX8_known_2 10 rfl rfl)
theorem dX8_known_59 : decode cX8_known 59 = .ok (.iload_n 3, 1) := dk_29 (dk_at dksX8_known_2 13 rfl rfl)
theorem dX8_known_60 : decode cX8_known 60 = .ok (.iaload, 1) := dk_46 (dk_at dksX8_known_2 14 rfl rfl)
theorem dX8_known_61 : decode cX8_known 61 = .ok (.ireturn, 1) := dk_172 (dk_at dksX8_known_2 15 rfl rfl)
theorem dX8_known_62 : decode cX8_known 62 = .ok (.iinc 3 1, 3) := dk_132 3 1 (dk_at dksX8_known_2 16 rfl rfl)
theorem dX8_known_65 : decode cX8_known 65 = .ok (.goto (-44), 3) := dk_167 255 212 (dk_at dksX8_known_2 19 rfl rfl)
theorem dX8_known_68 : decode cX8_known 68 = .ok (.aload_n 0, 1) := dk_42 (dk_at dksX8_known_2 22 rfl rfl)
theorem dX8_known_69 : decode cX8_known 69 = .ok (.iconst 4, 1) := dk_7 (dk_at dksX8_known_2 23 rfl rfl)
theorem dX8_known_70 : decode cX8_known 70 = .ok (.iload_n 2, 1) := dk_28 (dk_at dksX8_known_3 0 rfl rfl)
theorem dX8_known_71 : decode cX8_known 71 = .ok (.invokevirtual 315, 3) := dk_182 1 59 (dk_at dksX8_known_3 1 rfl rfl)
theorem dX8_known_74 : decode cX8_known 74 = .ok (.iconst (-1), 1) := dk_2 (dk_at dksX8_known_3 4 rfl rfl)
theorem dX8_known_75 : decode cX8_known 75 = .ok (.ireturn, 1) := dk_172 (dk_at dksX8_known_3 5 rfl rfl)
abbrev cX8_tellMan : ByteArray := prog_19_method_29_code
def yX8_tellMan : MethodName := ⟨RX8, "tellMan", "()V"⟩
def dkwX8_tellMan_3 : List UInt8 := [182, 1, 36, 42, 180, 0, 61, 42, 180, 1, 4, 92, 46, 4, 96, 79, 177]
abbrev dktX8_tellMan_3 : List UInt8 := dkwX8_tellMan_3 ++ []
def dkwX8_tellMan_2 : List UInt8 := [7, 182, 1, 33, 42, 180, 0, 227, 158, 0, 4, 177, 42, 28, 4, 42, 180, 0, 61, 42, 180, 1, 4, 46]
abbrev dktX8_tellMan_2 : List UInt8 := dkwX8_tellMan_2 ++ dktX8_tellMan_3
def dkwX8_tellMan_1 : List UInt8 := [180, 0, 64, 27, 42, 3, 16, 20, 182, 1, 55, 79, 42, 180, 0, 67, 27, 42, 3, 182, 1, 46, 79, 42]
abbrev dktX8_tellMan_1 : List UInt8 := dkwX8_tellMan_1 ++ dktX8_tellMan_2
def dkwX8_tellMan_0 : List UInt8 := [16, 6, 42, 180, 1, 4, 104, 42, 180, 0, 61, 42, 180, 1, 4, 46, 96, 60, 42, 182, 1, 29, 61, 42]
abbrev dktX8_tellMan_0 : List UInt8 := dkwX8_tellMan_0 ++ dktX8_tellMan_1
theorem dksX8_tellMan_0 : cX8_tellMan.data.toList.drop 0 = dktX8_tellMan_0 := by decide +kernel
theorem dksX8_tellMan_1 : cX8_tellMan.data.toList.drop 24 = dktX8_tellMan_1 := dk_seg dksX8_tellMan_0 24 rfl rfl
theorem dksX8_tellMan_2 : cX8_tellMan.data.toList.drop 48 = dktX8_tellMan_2 := dk_seg dksX8_tellMan_1 24 rfl rfl
theorem dksX8_tellMan_3 : cX8_tellMan.data.toList.drop 72 = dktX8_tellMan_3 := dk_seg dksX8_tellMan_2 24 rfl rfl
theorem dX8_tellMan_0 : decode cX8_tellMan 0 = .ok (.bipush 6, 2) := dk_16 6 (dk_at dksX8_tellMan_0 0 rfl rfl)
theorem dX8_tellMan_2 : decode cX8_tellMan 2 = .ok (.aload_n 0, 1) := dk_42 (dk_at dksX8_tellMan_0 2 rfl rfl)
theorem dX8_tellMan_3 : decode cX8_tellMan 3 = .ok (.getfield 260, 3) := dk_180 1 4 (dk_at dksX8_tellMan_0 3 rfl rfl)
theorem dX8_tellMan_6 : decode cX8_tellMan 6 = .ok (.imul, 1) := dk_104 (dk_at dksX8_tellMan_0 6 rfl rfl)
theorem dX8_tellMan_7 : decode cX8_tellMan 7 = .ok (.aload_n 0, 1) := dk_42 (dk_at dksX8_tellMan_0 7 rfl rfl)
theorem dX8_tellMan_8 : decode cX8_tellMan 8 = .ok (.getfield 61, 3) := dk_180 0 61 (dk_at dksX8_tellMan_0 8 rfl rfl)
theorem dX8_tellMan_11 : decode cX8_tellMan 11 = .ok (.aload_n 0, 1) := dk_42 (dk_at dksX8_tellMan_0 11 rfl rfl)
theorem dX8_tellMan_12 : decode cX8_tellMan 12 = .ok (.getfield 260, 3) := dk_180 1 4 (dk_at dksX8_tellMan_0 12 rfl rfl)
theorem dX8_tellMan_15 : decode cX8_tellMan 15 = .ok (.iaload, 1) := dk_46 (dk_at dksX8_tellMan_0 15 rfl rfl)
theorem dX8_tellMan_16 : decode cX8_tellMan 16 = .ok (.iadd, 1) := dk_96 (dk_at dksX8_tellMan_0 16 rfl rfl)
theorem dX8_tellMan_17 : decode cX8_tellMan 17 = .ok (.istore_n 1, 1) := dk_60 (dk_at dksX8_tellMan_0 17 rfl rfl)
theorem dX8_tellMan_18 : decode cX8_tellMan 18 = .ok (.aload_n 0, 1) := dk_42 (dk_at dksX8_tellMan_0 18 rfl rfl)
theorem dX8_tellMan_19 : decode cX8_tellMan 19 = .ok (.invokevirtual 285, 3) := dk_182 1 29 (dk_at dksX8_tellMan_0 19 rfl rfl)
theorem dX8_tellMan_22 : decode cX8_tellMan 22 = .ok (.istore_n 2, 1) := dk_61 (dk_at dksX8_tellMan_0 22 rfl rfl)
theorem dX8_tellMan_23 : decode cX8_tellMan 23 = .ok (.aload_n 0, 1) := dk_42 (dk_at dksX8_tellMan_0 23 rfl rfl)
theorem dX8_tellMan_24 : decode cX8_tellMan 24 = .ok (.getfield 64, 3) := dk_180 0 64 (dk_at dksX8_tellMan_1 0 rfl rfl)
theorem dX8_tellMan_27 : decode cX8_tellMan 27 = .ok (.iload_n 1, 1) := dk_27 (dk_at dksX8_tellMan_1 3 rfl rfl)
theorem dX8_tellMan_28 : decode cX8_tellMan 28 = .ok (.aload_n 0, 1) := dk_42 (dk_at dksX8_tellMan_1 4 rfl rfl)
theorem dX8_tellMan_29 : decode cX8_tellMan 29 = .ok (.iconst 0, 1) := dk_3 (dk_at dksX8_tellMan_1 5 rfl rfl)
theorem dX8_tellMan_30 : decode cX8_tellMan 30 = .ok (.bipush 20, 2) := dk_16 20 (dk_at dksX8_tellMan_1 6 rfl rfl)
theorem dX8_tellMan_32 : decode cX8_tellMan 32 = .ok (.invokevirtual 311, 3) := dk_182 1 55 (dk_at dksX8_tellMan_1 8 rfl rfl)
theorem dX8_tellMan_35 : decode cX8_tellMan 35 = .ok (.iastore, 1) := dk_79 (dk_at dksX8_tellMan_1 11 rfl rfl)
theorem dX8_tellMan_36 : decode cX8_tellMan 36 = .ok (.aload_n 0, 1) := dk_42 (dk_at dksX8_tellMan_1 12 rfl rfl)
theorem dX8_tellMan_37 : decode cX8_tellMan 37 = .ok (.getfield 67, 3) := dk_180 0 67 (dk_at dksX8_tellMan_1 13 rfl rfl)
theorem dX8_tellMan_40 : decode cX8_tellMan 40 = .ok (.iload_n 1, 1) := dk_27 (dk_at dksX8_tellMan_1 16 rfl rfl)
theorem dX8_tellMan_41 : decode cX8_tellMan 41 = .ok (.aload_n 0, 1) := dk_42 (dk_at dksX8_tellMan_1 17 rfl rfl)
theorem dX8_tellMan_42 : decode cX8_tellMan 42 = .ok (.iconst 0, 1) := dk_3 (dk_at dksX8_tellMan_1 18 rfl rfl)
theorem dX8_tellMan_43 : decode cX8_tellMan 43 = .ok (.invokevirtual 302, 3) := dk_182 1 46 (dk_at dksX8_tellMan_1 19 rfl rfl)
theorem dX8_tellMan_46 : decode cX8_tellMan 46 = .ok (.iastore, 1) := dk_79 (dk_at dksX8_tellMan_1 22 rfl rfl)
theorem dX8_tellMan_47 : decode cX8_tellMan 47 = .ok (.aload_n 0, 1) := dk_42 (dk_at dksX8_tellMan_1 23 rfl rfl)
theorem dX8_tellMan_48 : decode cX8_tellMan 48 = .ok (.iconst 4, 1) := dk_7 (dk_at dksX8_tellMan_2 0 rfl rfl)
theorem dX8_tellMan_49 : decode cX8_tellMan 49 = .ok (.invokevirtual 289, 3) := dk_182 1 33 (dk_at dksX8_tellMan_2 1 rfl rfl)
theorem dX8_tellMan_52 : decode cX8_tellMan 52 = .ok (.aload_n 0, 1) := dk_42 (dk_at dksX8_tellMan_2 4 rfl rfl)
theorem dX8_tellMan_53 : decode cX8_tellMan 53 = .ok (.getfield 227, 3) := dk_180 0 227 (dk_at dksX8_tellMan_2 5 rfl rfl)
theorem dX8_tellMan_56 : decode cX8_tellMan 56 = .ok (.ifCond .le 4, 3) := dk_158 0 4 (dk_at dksX8_tellMan_2 8 rfl rfl)
theorem dX8_tellMan_59 : decode cX8_tellMan 59 = .ok (.return_, 1) := dk_177 (dk_at dksX8_tellMan_2 11 rfl rfl)
theorem dX8_tellMan_60 : decode cX8_tellMan 60 = .ok (.aload_n 0, 1) := dk_42 (dk_at dksX8_tellMan_2 12 rfl rfl)
theorem dX8_tellMan_61 : decode cX8_tellMan 61 = .ok (.iload_n 2, 1) := dk_28 (dk_at dksX8_tellMan_2 13 rfl rfl)
theorem dX8_tellMan_62 : decode cX8_tellMan 62 = .ok (.iconst 1, 1) := dk_4 (dk_at dksX8_tellMan_2 14 rfl rfl)
theorem dX8_tellMan_63 : decode cX8_tellMan 63 = .ok (.aload_n 0, 1) := dk_42 (dk_at dksX8_tellMan_2 15 rfl rfl)
theorem dX8_tellMan_64 : decode cX8_tellMan 64 = .ok (.getfield 61, 3) := dk_180 0 61 (dk_at dksX8_tellMan_2 16 rfl rfl)
theorem dX8_tellMan_67 : decode cX8_tellMan 67 = .ok (.aload_n 0, 1) := dk_42 (dk_at dksX8_tellMan_2 19 rfl rfl)
theorem dX8_tellMan_68 : decode cX8_tellMan 68 = .ok (.getfield 260, 3) := dk_180 1 4 (dk_at dksX8_tellMan_2 20 rfl rfl)
theorem dX8_tellMan_71 : decode cX8_tellMan 71 = .ok (.iaload, 1) := dk_46 (dk_at dksX8_tellMan_2 23 rfl rfl)
theorem dX8_tellMan_72 : decode cX8_tellMan 72 = .ok (.invokevirtual 292, 3) := dk_182 1 36 (dk_at dksX8_tellMan_3 0 rfl rfl)
theorem dX8_tellMan_75 : decode cX8_tellMan 75 = .ok (.aload_n 0, 1) := dk_42 (dk_at dksX8_tellMan_3 3 rfl rfl)
theorem dX8_tellMan_76 : decode cX8_tellMan 76 = .ok (.getfield 61, 3) := dk_180 0 61 (dk_at dksX8_tellMan_3 4 rfl rfl)
theorem dX8_tellMan_79 : decode cX8_tellMan 79 = .ok (.aload_n 0, 1) := dk_42 (dk_at dksX8_tellMan_3 7 rfl rfl)
theorem dX8_tellMan_80 : decode cX8_tellMan 80 = .ok (.getfield 260, 3) := dk_180 1 4 (dk_at dksX8_tellMan_3 8 rfl rfl)
theorem dX8_tellMan_83 : decode cX8_tellMan 83 = .ok (.dup2, 1) := dk_92 (dk_at dksX8_tellMan_3 11 rfl rfl)
theorem dX8_tellMan_84 : decode cX8_tellMan 84 = .ok (.iaload, 1) := dk_46 (dk_at dksX8_tellMan_3 12 rfl rfl)
theorem dX8_tellMan_85 : decode cX8_tellMan 85 = .ok (.iconst 1, 1) := dk_4 (dk_at dksX8_tellMan_3 13 rfl rfl)
theorem dX8_tellMan_86 : decode cX8_tellMan 86 = .ok (.iadd, 1) := dk_96 (dk_at dksX8_tellMan_3 14 rfl rfl)
theorem dX8_tellMan_87 : decode cX8_tellMan 87 = .ok (.iastore, 1) := dk_79 (dk_at dksX8_tellMan_3 15 rfl rfl)
theorem dX8_tellMan_88 : decode cX8_tellMan 88 = .ok (.return_, 1) := dk_177 (dk_at dksX8_tellMan_3 16 rfl rfl)
abbrev cX8_bounded : ByteArray := prog_19_method_27_code
def yX8_bounded : MethodName := ⟨RX8, "bounded", "(II)I"⟩
def dkwX8_bounded_2 : List UInt8 := [180, 0, 230, 182, 1, 59, 42, 182, 0, 248, 29, 172]
abbrev dktX8_bounded_2 : List UInt8 := dkwX8_bounded_2 ++ []
def dkwX8_bounded_1 : List UInt8 := [180, 0, 27, 42, 180, 0, 230, 46, 62, 29, 27, 161, 0, 8, 29, 28, 164, 0, 12, 42, 8, 42]
abbrev dktX8_bounded_1 : List UInt8 := dkwX8_bounded_1 ++ dktX8_bounded_2
def dkwX8_bounded_0 : List UInt8 := [42, 180, 0, 227, 157, 0, 11, 42, 5, 182, 0, 245, 154, 0, 10, 42, 4, 182, 0, 242, 27, 172, 42]
abbrev dktX8_bounded_0 : List UInt8 := dkwX8_bounded_0 ++ dktX8_bounded_1
theorem dksX8_bounded_0 : cX8_bounded.data.toList.drop 0 = dktX8_bounded_0 := by decide +kernel
theorem dksX8_bounded_1 : cX8_bounded.data.toList.drop 23 = dktX8_bounded_1 := dk_seg dksX8_bounded_0 23 rfl rfl
theorem dksX8_bounded_2 : cX8_bounded.data.toList.drop 45 = dktX8_bounded_2 := dk_seg dksX8_bounded_1 22 rfl rfl
theorem dX8_bounded_0 : decode cX8_bounded 0 = .ok (.aload_n 0, 1) := dk_42 (dk_at dksX8_bounded_0 0 rfl rfl)
theorem dX8_bounded_1 : decode cX8_bounded 1 = .ok (.getfield 227, 3) := dk_180 0 227 (dk_at dksX8_bounded_0 1 rfl rfl)
theorem dX8_bounded_4 : decode cX8_bounded 4 = .ok (.ifCond .gt 11, 3) := dk_157 0 11 (dk_at dksX8_bounded_0 4 rfl rfl)
theorem dX8_bounded_7 : decode cX8_bounded 7 = .ok (.aload_n 0, 1) := dk_42 (dk_at dksX8_bounded_0 7 rfl rfl)
theorem dX8_bounded_8 : decode cX8_bounded 8 = .ok (.iconst 2, 1) := dk_5 (dk_at dksX8_bounded_0 8 rfl rfl)
theorem dX8_bounded_9 : decode cX8_bounded 9 = .ok (.invokevirtual 245, 3) := dk_182 0 245 (dk_at dksX8_bounded_0 9 rfl rfl)
theorem dX8_bounded_12 : decode cX8_bounded 12 = .ok (.ifCond .ne 10, 3) := dk_154 0 10 (dk_at dksX8_bounded_0 12 rfl rfl)
theorem dX8_bounded_15 : decode cX8_bounded 15 = .ok (.aload_n 0, 1) := dk_42 (dk_at dksX8_bounded_0 15 rfl rfl)
theorem dX8_bounded_16 : decode cX8_bounded 16 = .ok (.iconst 1, 1) := dk_4 (dk_at dksX8_bounded_0 16 rfl rfl)
theorem dX8_bounded_17 : decode cX8_bounded 17 = .ok (.invokevirtual 242, 3) := dk_182 0 242 (dk_at dksX8_bounded_0 17 rfl rfl)
theorem dX8_bounded_20 : decode cX8_bounded 20 = .ok (.iload_n 1, 1) := dk_27 (dk_at dksX8_bounded_0 20 rfl rfl)
theorem dX8_bounded_21 : decode cX8_bounded 21 = .ok (.ireturn, 1) := dk_172 (dk_at dksX8_bounded_0 21 rfl rfl)
theorem dX8_bounded_22 : decode cX8_bounded 22 = .ok (.aload_n 0, 1) := dk_42 (dk_at dksX8_bounded_0 22 rfl rfl)
theorem dX8_bounded_23 : decode cX8_bounded 23 = .ok (.getfield 27, 3) := dk_180 0 27 (dk_at dksX8_bounded_1 0 rfl rfl)
theorem dX8_bounded_26 : decode cX8_bounded 26 = .ok (.aload_n 0, 1) := dk_42 (dk_at dksX8_bounded_1 3 rfl rfl)
theorem dX8_bounded_27 : decode cX8_bounded 27 = .ok (.getfield 230, 3) := dk_180 0 230 (dk_at dksX8_bounded_1 4 rfl rfl)
theorem dX8_bounded_30 : decode cX8_bounded 30 = .ok (.iaload, 1) := dk_46 (dk_at dksX8_bounded_1 7 rfl rfl)
theorem dX8_bounded_31 : decode cX8_bounded 31 = .ok (.istore_n 3, 1) := dk_62 (dk_at dksX8_bounded_1 8 rfl rfl)
theorem dX8_bounded_32 : decode cX8_bounded 32 = .ok (.iload_n 3, 1) := dk_29 (dk_at dksX8_bounded_1 9 rfl rfl)
theorem dX8_bounded_33 : decode cX8_bounded 33 = .ok (.iload_n 1, 1) := dk_27 (dk_at dksX8_bounded_1 10 rfl rfl)
theorem dX8_bounded_34 : decode cX8_bounded 34 = .ok (.if_icmp .lt 8, 3) := dk_161 0 8 (dk_at dksX8_bounded_1 11 rfl rfl)
theorem dX8_bounded_37 : decode cX8_bounded 37 = .ok (.iload_n 3, 1) := dk_29 (dk_at dksX8_bounded_1 14 rfl rfl)
theorem dX8_bounded_38 : decode cX8_bounded 38 = .ok (.iload_n 2, 1) := dk_28 (dk_at dksX8_bounded_1 15 rfl rfl)
theorem dX8_bounded_39 : decode cX8_bounded 39 = .ok (.if_icmp .le 12, 3) := dk_164 0 12 (dk_at dksX8_bounded_1 16 rfl rfl)
theorem dX8_bounded_42 : decode cX8_bounded 42 = .ok (.aload_n 0, 1) := dk_42 (dk_at dksX8_bounded_1 19 rfl rfl)
theorem dX8_bounded_43 : decode cX8_bounded 43 = .ok (.iconst 5, 1) := dk_8 (dk_at dksX8_bounded_1 20 rfl rfl)
theorem dX8_bounded_44 : decode cX8_bounded 44 = .ok (.aload_n 0, 1) := dk_42 (dk_at dksX8_bounded_1 21 rfl rfl)
theorem dX8_bounded_45 : decode cX8_bounded 45 = .ok (.getfield 230, 3) := dk_180 0 230 (dk_at dksX8_bounded_2 0 rfl rfl)
theorem dX8_bounded_48 : decode cX8_bounded 48 = .ok (.invokevirtual 315, 3) := dk_182 1 59 (dk_at dksX8_bounded_2 3 rfl rfl)
theorem dX8_bounded_51 : decode cX8_bounded 51 = .ok (.aload_n 0, 1) := dk_42 (dk_at dksX8_bounded_2 6 rfl rfl)
theorem dX8_bounded_52 : decode cX8_bounded 52 = .ok (.invokevirtual 248, 3) := dk_182 0 248 (dk_at dksX8_bounded_2 7 rfl rfl)
theorem dX8_bounded_55 : decode cX8_bounded 55 = .ok (.iload_n 3, 1) := dk_29 (dk_at dksX8_bounded_2 10 rfl rfl)
theorem dX8_bounded_56 : decode cX8_bounded 56 = .ok (.ireturn, 1) := dk_172 (dk_at dksX8_bounded_2 11 rfl rfl)
abbrev cX8_tellLaw : ByteArray := prog_19_method_31_code
def yX8_tellLaw : MethodName := ⟨RX8, "tellLaw", "(I)V"⟩
def dkwX8_tellLaw_8 : List UInt8 := [104, 27, 96, 42, 180, 1, 10, 79, 177]
abbrev dktX8_tellLaw_8 : List UInt8 := dkwX8_tellLaw_8 ++ []
def dkwX8_tellLaw_7 : List UInt8 := [180, 0, 85, 16, 7, 42, 180, 1, 4, 104, 27, 96, 28, 79, 42, 180, 0, 88, 16, 7, 42, 180, 1, 4]
abbrev dktX8_tellLaw_7 : List UInt8 := dkwX8_tellLaw_7 ++ dktX8_tellLaw_8
def dkwX8_tellLaw_6 : List UInt8 := [3, 84, 42, 182, 1, 65, 42, 7, 182, 1, 33, 42, 180, 0, 227, 157, 0, 7, 27, 156, 0, 4, 177, 42]
abbrev dktX8_tellLaw_6 : List UInt8 := dkwX8_tellLaw_6 ++ dktX8_tellLaw_7
def dkwX8_tellLaw_5 : List UInt8 := [182, 1, 33, 42, 182, 1, 65, 42, 16, 30, 182, 1, 33, 167, 255, 142, 42, 180, 0, 91, 42, 180, 1, 10]
abbrev dktX8_tellLaw_5 : List UInt8 := dkwX8_tellLaw_5 ++ dktX8_tellLaw_6
def dkwX8_tellLaw_4 : List UInt8 := [180, 1, 10, 42, 180, 1, 13, 79, 42, 180, 0, 227, 154, 0, 7, 42, 182, 1, 62, 42, 16, 29]
abbrev dktX8_tellLaw_4 : List UInt8 := dkwX8_tellLaw_4 ++ dktX8_tellLaw_5
def dkwX8_tellLaw_3 : List UInt8 := [180, 1, 10, 42, 180, 1, 13, 79, 42, 182, 1, 62, 42, 16, 13, 182, 1, 33, 42, 180, 0, 98, 42]
abbrev dktX8_tellLaw_3 : List UInt8 := dkwX8_tellLaw_3 ++ dktX8_tellLaw_4
def dkwX8_tellLaw_2 : List UInt8 := [132, 3, 1, 42, 182, 0, 248, 42, 180, 0, 91, 42, 180, 1, 10, 4, 84, 42, 180, 0, 95, 42]
abbrev dktX8_tellLaw_2 : List UInt8 := dkwX8_tellLaw_2 ++ dktX8_tellLaw_3
def dkwX8_tellLaw_1 : List UInt8 := [182, 0, 245, 153, 0, 104, 29, 7, 160, 0, 8, 42, 5, 182, 0, 242, 42, 180, 0, 227, 158, 0, 4, 177]
abbrev dktX8_tellLaw_1 : List UInt8 := dkwX8_tellLaw_1 ++ dktX8_tellLaw_2
def dkwX8_tellLaw_0 : List UInt8 := [42, 8, 182, 1, 33, 42, 180, 1, 10, 61, 3, 62, 42, 180, 0, 227, 154, 0, 113, 42, 16, 28]
abbrev dktX8_tellLaw_0 : List UInt8 := dkwX8_tellLaw_0 ++ dktX8_tellLaw_1
theorem dksX8_tellLaw_0 : cX8_tellLaw.data.toList.drop 0 = dktX8_tellLaw_0 := by decide +kernel
theorem dksX8_tellLaw_1 : cX8_tellLaw.data.toList.drop 22 = dktX8_tellLaw_1 := dk_seg dksX8_tellLaw_0 22 rfl rfl
theorem dksX8_tellLaw_2 : cX8_tellLaw.data.toList.drop 46 = dktX8_tellLaw_2 := dk_seg dksX8_tellLaw_1 24 rfl rfl
theorem dksX8_tellLaw_3 : cX8_tellLaw.data.toList.drop 68 = dktX8_tellLaw_3 := dk_seg dksX8_tellLaw_2 22 rfl rfl
theorem dksX8_tellLaw_4 : cX8_tellLaw.data.toList.drop 91 = dktX8_tellLaw_4 := dk_seg dksX8_tellLaw_3 23 rfl rfl
theorem dksX8_tellLaw_5 : cX8_tellLaw.data.toList.drop 113 = dktX8_tellLaw_5 := dk_seg dksX8_tellLaw_4 22 rfl rfl
theorem dksX8_tellLaw_6 : cX8_tellLaw.data.toList.drop 137 = dktX8_tellLaw_6 := dk_seg dksX8_tellLaw_5 24 rfl rfl
theorem dksX8_tellLaw_7 : cX8_tellLaw.data.toList.drop 161 = dktX8_tellLaw_7 := dk_seg dksX8_tellLaw_6 24 rfl rfl
theorem dksX8_tellLaw_8 : cX8_tellLaw.data.toList.drop 185 = dktX8_tellLaw_8 := dk_seg dksX8_tellLaw_7 24 rfl rfl
theorem dX8_tellLaw_0 : decode cX8_tellLaw 0 = .ok (.aload_n 0, 1) := dk_42 (dk_at dksX8_tellLaw_0 0 rfl rfl)
theorem dX8_tellLaw_1 : decode cX8_tellLaw 1 = .ok (.iconst 5, 1) := dk_8 (dk_at dksX8_tellLaw_0 1 rfl rfl)
theorem dX8_tellLaw_2 : decode cX8_tellLaw 2 = .ok (.invokevirtual 289, 3) := dk_182 1 33 (dk_at dksX8_tellLaw_0 2 rfl rfl)
theorem dX8_tellLaw_5 : decode cX8_tellLaw 5 = .ok (.aload_n 0, 1) := dk_42 (dk_at dksX8_tellLaw_0 5 rfl rfl)
theorem dX8_tellLaw_6 : decode cX8_tellLaw 6 = .ok (.getfield 266, 3) := dk_180 1 10 (dk_at dksX8_tellLaw_0 6 rfl rfl)
theorem dX8_tellLaw_9 : decode cX8_tellLaw 9 = .ok (.istore_n 2, 1) := dk_61 (dk_at dksX8_tellLaw_0 9 rfl rfl)
theorem dX8_tellLaw_10 : decode cX8_tellLaw 10 = .ok (.iconst 0, 1) := dk_3 (dk_at dksX8_tellLaw_0 10 rfl rfl)
theorem dX8_tellLaw_11 : decode cX8_tellLaw 11 = .ok (.istore_n 3, 1) := dk_62 (dk_at dksX8_tellLaw_0 11 rfl rfl)
theorem dX8_tellLaw_12 : decode cX8_tellLaw 12 = .ok (.aload_n 0, 1) := dk_42 (dk_at dksX8_tellLaw_0 12 rfl rfl)
theorem dX8_tellLaw_13 : decode cX8_tellLaw 13 = .ok (.getfield 227, 3) := dk_180 0 227 (dk_at dksX8_tellLaw_0 13 rfl rfl)
theorem dX8_tellLaw_16 : decode cX8_tellLaw 16 = .ok (.ifCond .ne 113, 3) := dk_154 0 113 (dk_at dksX8_tellLaw_0 16 rfl rfl)
theorem dX8_tellLaw_19 : decode cX8_tellLaw 19 = .ok (.aload_n 0, 1) := dk_42 (dk_at dksX8_tellLaw_0 19 rfl rfl)
theorem dX8_tellLaw_20 : decode cX8_tellLaw 20 = .ok (.bipush 28, 2) := dk_16 28 (dk_at dksX8_tellLaw_0 20 rfl rfl)
theorem dX8_tellLaw_22 : decode cX8_tellLaw 22 = .ok (.invokevirtual 245, 3) := dk_182 0 245 (dk_at dksX8_tellLaw_1 0 rfl rfl)
theorem dX8_tellLaw_25 : decode cX8_tellLaw 25 = .ok (.ifCond .eq 104, 3) := dk_153 0 104 (dk_at dksX8_tellLaw_1 3 rfl rfl)
theorem dX8_tellLaw_28 : decode cX8_tellLaw 28 = .ok (.iload_n 3, 1) := dk_29 (dk_at dksX8_tellLaw_1 6 rfl rfl)
theorem dX8_tellLaw_29 : decode cX8_tellLaw 29 = .ok (.iconst 4, 1) := dk_7 (dk_at dksX8_tellLaw_1 7 rfl rfl)
theorem dX8_tellLaw_30 : decode cX8_tellLaw 30 = .ok (.if_icmp .ne 8, 3) := dk_160 0 8 (dk_at dksX8_tellLaw_1 8 rfl rfl)
theorem dX8_tellLaw_33 : decode cX8_tellLaw 33 = .ok (.aload_n 0, 1) := dk_42 (dk_at dksX8_tellLaw_1 11 rfl rfl)
theorem dX8_tellLaw_34 : decode cX8_tellLaw 34 = .ok (.iconst 2, 1) := dk_5 (dk_at dksX8_tellLaw_1 12 rfl rfl)
theorem dX8_tellLaw_35 : decode cX8_tellLaw 35 = .ok (.invokevirtual 242, 3) := dk_182 0 242 (dk_at dksX8_tellLaw_1 13 rfl rfl)
theorem dX8_tellLaw_38 : decode cX8_tellLaw 38 = .ok (.aload_n 0, 1) := dk_42 (dk_at dksX8_tellLaw_1 16 rfl rfl)
theorem dX8_tellLaw_39 : decode cX8_tellLaw 39 = .ok (.getfield 227, 3) := dk_180 0 227 (dk_at dksX8_tellLaw_1 17 rfl rfl)
theorem dX8_tellLaw_42 : decode cX8_tellLaw 42 = .ok (.ifCond .le 4, 3) := dk_158 0 4 (dk_at dksX8_tellLaw_1 20 rfl rfl)
theorem dX8_tellLaw_45 : decode cX8_tellLaw 45 = .ok (.return_, 1) := dk_177 (dk_at dksX8_tellLaw_1 23 rfl rfl)
theorem dX8_tellLaw_46 : decode cX8_tellLaw 46 = .ok (.iinc 3 1, 3) := dk_132 3 1 (dk_at dksX8_tellLaw_2 0 rfl rfl)
theorem dX8_tellLaw_49 : decode cX8_tellLaw 49 = .ok (.aload_n 0, 1) := dk_42 (dk_at dksX8_tellLaw_2 3 rfl rfl)
theorem dX8_tellLaw_50 : decode cX8_tellLaw 50 = .ok (.invokevirtual 248, 3) := dk_182 0 248 (dk_at dksX8_tellLaw_2 4 rfl rfl)
theorem dX8_tellLaw_53 : decode cX8_tellLaw 53 = .ok (.aload_n 0, 1) := dk_42 (dk_at dksX8_tellLaw_2 7 rfl rfl)
theorem dX8_tellLaw_54 : decode cX8_tellLaw 54 = .ok (.getfield 91, 3) := dk_180 0 91 (dk_at dksX8_tellLaw_2 8 rfl rfl)
theorem dX8_tellLaw_57 : decode cX8_tellLaw 57 = .ok (.aload_n 0, 1) := dk_42 (dk_at dksX8_tellLaw_2 11 rfl rfl)
theorem dX8_tellLaw_58 : decode cX8_tellLaw 58 = .ok (.getfield 266, 3) := dk_180 1 10 (dk_at dksX8_tellLaw_2 12 rfl rfl)
theorem dX8_tellLaw_61 : decode cX8_tellLaw 61 = .ok (.iconst 1, 1) := dk_4 (dk_at dksX8_tellLaw_2 15 rfl rfl)
theorem dX8_tellLaw_62 : decode cX8_tellLaw 62 = .ok (.bastore, 1) := dk_84 (dk_at dksX8_tellLaw_2 16 rfl rfl)
theorem dX8_tellLaw_63 : decode cX8_tellLaw 63 = .ok (.aload_n 0, 1) := dk_42 (dk_at dksX8_tellLaw_2 17 rfl rfl)
theorem dX8_tellLaw_64 : decode cX8_tellLaw 64 = .ok (.getfield 95, 3) := dk_180 0 95 (dk_at dksX8_tellLaw_2 18 rfl rfl)
theorem dX8_tellLaw_67 : decode cX8_tellLaw 67 = .ok (.aload_n 0, 1) := dk_42 (dk_at dksX8_tellLaw_2 21 rfl rfl)
theorem dX8_tellLaw_68 : decode cX8_tellLaw 68 = .ok (.getfield 266, 3) := dk_180 1 10 (dk_at dksX8_tellLaw_3 0 rfl rfl)
theorem dX8_tellLaw_71 : decode cX8_tellLaw 71 = .ok (.aload_n 0, 1) := dk_42 (dk_at dksX8_tellLaw_3 3 rfl rfl)
theorem dX8_tellLaw_72 : decode cX8_tellLaw 72 = .ok (.getfield 269, 3) := dk_180 1 13 (dk_at dksX8_tellLaw_3 4 rfl rfl)
theorem dX8_tellLaw_75 : decode cX8_tellLaw 75 = .ok (.iastore, 1) := dk_79 (dk_at dksX8_tellLaw_3 7 rfl rfl)
theorem dX8_tellLaw_76 : decode cX8_tellLaw 76 = .ok (.aload_n 0, 1) := dk_42 (dk_at dksX8_tellLaw_3 8 rfl rfl)
theorem dX8_tellLaw_77 : decode cX8_tellLaw 77 = .ok (.invokevirtual 318, 3) := dk_182 1 62 (dk_at dksX8_tellLaw_3 9 rfl rfl)
theorem dX8_tellLaw_80 : decode cX8_tellLaw 80 = .ok (.aload_n 0, 1) := dk_42 (dk_at dksX8_tellLaw_3 12 rfl rfl)
theorem dX8_tellLaw_81 : decode cX8_tellLaw 81 = .ok (.bipush 13, 2) := dk_16 13 (dk_at dksX8_tellLaw_3 13 rfl rfl)
theorem dX8_tellLaw_83 : decode cX8_tellLaw 83 = .ok (.invokevirtual 289, 3) := dk_182 1 33 (dk_at dksX8_tellLaw_3 15 rfl rfl)
theorem dX8_tellLaw_86 : decode cX8_tellLaw 86 = .ok (.aload_n 0, 1) := dk_42 (dk_at dksX8_tellLaw_3 18 rfl rfl)
theorem dX8_tellLaw_87 : decode cX8_tellLaw 87 = .ok (.getfield 98, 3) := dk_180 0 98 (dk_at dksX8_tellLaw_3 19 rfl rfl)
theorem dX8_tellLaw_90 : decode cX8_tellLaw 90 = .ok (.aload_n 0, 1) := dk_42 (dk_at dksX8_tellLaw_3 22 rfl rfl)
theorem dX8_tellLaw_91 : decode cX8_tellLaw 91 = .ok (.getfield 266, 3) := dk_180 1 10 (dk_at dksX8_tellLaw_4 0 rfl rfl)
theorem dX8_tellLaw_94 : decode cX8_tellLaw 94 = .ok (.aload_n 0, 1) := dk_42 (dk_at dksX8_tellLaw_4 3 rfl rfl)
theorem dX8_tellLaw_95 : decode cX8_tellLaw 95 = .ok (.getfield 269, 3) := dk_180 1 13 (dk_at dksX8_tellLaw_4 4 rfl rfl)
theorem dX8_tellLaw_98 : decode cX8_tellLaw 98 = .ok (.iastore, 1) := dk_79 (dk_at dksX8_tellLaw_4 7 rfl rfl)
theorem dX8_tellLaw_99 : decode cX8_tellLaw 99 = .ok (.aload_n 0, 1) := dk_42 (dk_at dksX8_tellLaw_4 8 rfl rfl)
theorem dX8_tellLaw_100 : decode cX8_tellLaw 100 = .ok (.getfield 227, 3) := dk_180 0 227 (dk_at dksX8_tellLaw_4 9 rfl rfl)
theorem dX8_tellLaw_103 : decode cX8_tellLaw 103 = .ok (.ifCond .ne 7, 3) := dk_154 0 7 (dk_at dksX8_tellLaw_4 12 rfl rfl)
theorem dX8_tellLaw_106 : decode cX8_tellLaw 106 = .ok (.aload_n 0, 1) := dk_42 (dk_at dksX8_tellLaw_4 15 rfl rfl)
theorem dX8_tellLaw_107 : decode cX8_tellLaw 107 = .ok (.invokevirtual 318, 3) := dk_182 1 62 (dk_at dksX8_tellLaw_4 16 rfl rfl)
theorem dX8_tellLaw_110 : decode cX8_tellLaw 110 = .ok (.aload_n 0, 1) := dk_42 (dk_at dksX8_tellLaw_4 19 rfl rfl)
theorem dX8_tellLaw_111 : decode cX8_tellLaw 111 = .ok (.bipush 29, 2) := dk_16 29 (dk_at dksX8_tellLaw_4 20 rfl rfl)
theorem dX8_tellLaw_113 : decode cX8_tellLaw 113 = .ok (.invokevirtual 289, 3) := dk_182 1 33 (dk_at dksX8_tellLaw_5 0 rfl rfl)
theorem dX8_tellLaw_116 : decode cX8_tellLaw 116 = .ok (.aload_n 0, 1) := dk_42 (dk_at dksX8_tellLaw_5 3 rfl rfl)
theorem dX8_tellLaw_117 : decode cX8_tellLaw 117 = .ok (.invokevirtual 321, 3) := dk_182 1 65 (dk_at dksX8_tellLaw_5 4 rfl rfl)
theorem dX8_tellLaw_120 : decode cX8_tellLaw 120 = .ok (.aload_n 0, 1) := dk_42 (dk_at dksX8_tellLaw_5 7 rfl rfl)
theorem dX8_tellLaw_121 : decode cX8_tellLaw 121 = .ok (.bipush 30, 2) := dk_16 30 (dk_at dksX8_tellLaw_5 8 rfl rfl)
theorem dX8_tellLaw_123 : decode cX8_tellLaw 123 = .ok (.invokevirtual 289, 3) := dk_182 1 33 (dk_at dksX8_tellLaw_5 10 rfl rfl)
theorem dX8_tellLaw_126 : decode cX8_tellLaw 126 = .ok (.goto (-114), 3) := dk_167 255 142 (dk_at dksX8_tellLaw_5 13 rfl rfl)
theorem dX8_tellLaw_129 : decode cX8_tellLaw 129 = .ok (.aload_n 0, 1) := dk_42 (dk_at dksX8_tellLaw_5 16 rfl rfl)
theorem dX8_tellLaw_130 : decode cX8_tellLaw 130 = .ok (.getfield 91, 3) := dk_180 0 91 (dk_at dksX8_tellLaw_5 17 rfl rfl)
theorem dX8_tellLaw_133 : decode cX8_tellLaw 133 = .ok (.aload_n 0, 1) := dk_42 (dk_at dksX8_tellLaw_5 20 rfl rfl)
theorem dX8_tellLaw_134 : decode cX8_tellLaw 134 = .ok (.getfield 266, 3) := dk_180 1 10 (dk_at dksX8_tellLaw_5 21 rfl rfl)
theorem dX8_tellLaw_137 : decode cX8_tellLaw 137 = .ok (.iconst 0, 1) := dk_3 (dk_at dksX8_tellLaw_6 0 rfl rfl)
theorem dX8_tellLaw_138 : decode cX8_tellLaw 138 = .ok (.bastore, 1) := dk_84 (dk_at dksX8_tellLaw_6 1 rfl rfl)
theorem dX8_tellLaw_139 : decode cX8_tellLaw 139 = .ok (.aload_n 0, 1) := dk_42 (dk_at dksX8_tellLaw_6 2 rfl rfl)
theorem dX8_tellLaw_140 : decode cX8_tellLaw 140 = .ok (.invokevirtual 321, 3) := dk_182 1 65 (dk_at dksX8_tellLaw_6 3 rfl rfl)
theorem dX8_tellLaw_143 : decode cX8_tellLaw 143 = .ok (.aload_n 0, 1) := dk_42 (dk_at dksX8_tellLaw_6 6 rfl rfl)
theorem dX8_tellLaw_144 : decode cX8_tellLaw 144 = .ok (.iconst 4, 1) := dk_7 (dk_at dksX8_tellLaw_6 7 rfl rfl)
theorem dX8_tellLaw_145 : decode cX8_tellLaw 145 = .ok (.invokevirtual 289, 3) := dk_182 1 33 (dk_at dksX8_tellLaw_6 8 rfl rfl)
theorem dX8_tellLaw_148 : decode cX8_tellLaw 148 = .ok (.aload_n 0, 1) := dk_42 (dk_at dksX8_tellLaw_6 11 rfl rfl)
theorem dX8_tellLaw_149 : decode cX8_tellLaw 149 = .ok (.getfield 227, 3) := dk_180 0 227 (dk_at dksX8_tellLaw_6 12 rfl rfl)
theorem dX8_tellLaw_152 : decode cX8_tellLaw 152 = .ok (.ifCond .gt 7, 3) := dk_157 0 7 (dk_at dksX8_tellLaw_6 15 rfl rfl)
theorem dX8_tellLaw_155 : decode cX8_tellLaw 155 = .ok (.iload_n 1, 1) := dk_27 (dk_at dksX8_tellLaw_6 18 rfl rfl)
theorem dX8_tellLaw_156 : decode cX8_tellLaw 156 = .ok (.ifCond .ge 4, 3) := dk_156 0 4 (dk_at dksX8_tellLaw_6 19 rfl rfl)
theorem dX8_tellLaw_159 : decode cX8_tellLaw 159 = .ok (.return_, 1) := dk_177 (dk_at dksX8_tellLaw_6 22 rfl rfl)
theorem dX8_tellLaw_160 : decode cX8_tellLaw 160 = .ok (.aload_n 0, 1) := dk_42 (dk_at dksX8_tellLaw_6 23 rfl rfl)
theorem dX8_tellLaw_161 : decode cX8_tellLaw 161 = .ok (.getfield 85, 3) := dk_180 0 85 (dk_at dksX8_tellLaw_7 0 rfl rfl)
theorem dX8_tellLaw_164 : decode cX8_tellLaw 164 = .ok (.bipush 7, 2) := dk_16 7 (dk_at dksX8_tellLaw_7 3 rfl rfl)
theorem dX8_tellLaw_166 : decode cX8_tellLaw 166 = .ok (.aload_n 0, 1) := dk_42 (dk_at dksX8_tellLaw_7 5 rfl rfl)
theorem dX8_tellLaw_167 : decode cX8_tellLaw 167 = .ok (.getfield 260, 3) := dk_180 1 4 (dk_at dksX8_tellLaw_7 6 rfl rfl)
theorem dX8_tellLaw_170 : decode cX8_tellLaw 170 = .ok (.imul, 1) := dk_104 (dk_at dksX8_tellLaw_7 9 rfl rfl)
theorem dX8_tellLaw_171 : decode cX8_tellLaw 171 = .ok (.iload_n 1, 1) := dk_27 (dk_at dksX8_tellLaw_7 10 rfl rfl)
theorem dX8_tellLaw_172 : decode cX8_tellLaw 172 = .ok (.iadd, 1) := dk_96 (dk_at dksX8_tellLaw_7 11 rfl rfl)
theorem dX8_tellLaw_173 : decode cX8_tellLaw 173 = .ok (.iload_n 2, 1) := dk_28 (dk_at dksX8_tellLaw_7 12 rfl rfl)
theorem dX8_tellLaw_174 : decode cX8_tellLaw 174 = .ok (.iastore, 1) := dk_79 (dk_at dksX8_tellLaw_7 13 rfl rfl)
theorem dX8_tellLaw_175 : decode cX8_tellLaw 175 = .ok (.aload_n 0, 1) := dk_42 (dk_at dksX8_tellLaw_7 14 rfl rfl)
theorem dX8_tellLaw_176 : decode cX8_tellLaw 176 = .ok (.getfield 88, 3) := dk_180 0 88 (dk_at dksX8_tellLaw_7 15 rfl rfl)
theorem dX8_tellLaw_179 : decode cX8_tellLaw 179 = .ok (.bipush 7, 2) := dk_16 7 (dk_at dksX8_tellLaw_7 18 rfl rfl)
theorem dX8_tellLaw_181 : decode cX8_tellLaw 181 = .ok (.aload_n 0, 1) := dk_42 (dk_at dksX8_tellLaw_7 20 rfl rfl)
theorem dX8_tellLaw_182 : decode cX8_tellLaw 182 = .ok (.getfield 260, 3) := dk_180 1 4 (dk_at dksX8_tellLaw_7 21 rfl rfl)
theorem dX8_tellLaw_185 : decode cX8_tellLaw 185 = .ok (.imul, 1) := dk_104 (dk_at dksX8_tellLaw_8 0 rfl rfl)
theorem dX8_tellLaw_186 : decode cX8_tellLaw 186 = .ok (.iload_n 1, 1) := dk_27 (dk_at dksX8_tellLaw_8 1 rfl rfl)
theorem dX8_tellLaw_187 : decode cX8_tellLaw 187 = .ok (.iadd, 1) := dk_96 (dk_at dksX8_tellLaw_8 2 rfl rfl)
theorem dX8_tellLaw_188 : decode cX8_tellLaw 188 = .ok (.aload_n 0, 1) := dk_42 (dk_at dksX8_tellLaw_8 3 rfl rfl)
theorem dX8_tellLaw_189 : decode cX8_tellLaw 189 = .ok (.getfield 266, 3) := dk_180 1 10 (dk_at dksX8_tellLaw_8 4 rfl rfl)
theorem dX8_tellLaw_192 : decode cX8_tellLaw 192 = .ok (.iastore, 1) := dk_79 (dk_at dksX8_tellLaw_8 7 rfl rfl)
theorem dX8_tellLaw_193 : decode cX8_tellLaw 193 = .ok (.return_, 1) := dk_177 (dk_at dksX8_tellLaw_8 8 rfl rfl)
abbrev cX8_expression : ByteArray := prog_19_method_35_code
def yX8_expression : MethodName := ⟨RX8, "expression", "()V"⟩
def dkwX8_expression_11 : List UInt8 := [180, 1, 68, 4, 96, 181, 1, 68, 42, 182, 0, 248, 167, 254, 255, 177]
abbrev dktX8_expression_11 : List UInt8 := dkwX8_expression_11 ++ []
def dkwX8_expression_10 : List UInt8 := [182, 1, 77, 42, 180, 0, 113, 42, 180, 1, 68, 42, 180, 0, 20, 42, 180, 0, 230, 46, 79, 42, 89]
abbrev dktX8_expression_10 : List UInt8 := dkwX8_expression_10 ++ dktX8_expression_11
def dkwX8_expression_9 : List UInt8 := [16, 10, 182, 0, 245, 154, 0, 12, 42, 16, 15, 182, 0, 245, 153, 0, 7, 4, 167, 0, 4, 3]
abbrev dktX8_expression_9 : List UInt8 := dkwX8_expression_9 ++ dktX8_expression_10
def dkwX8_expression_8 : List UInt8 := [154, 0, 22, 42, 180, 0, 254, 27, 164, 0, 8, 42, 4, 182, 0, 242, 42, 3, 182, 1, 77, 177, 42, 42]
abbrev dktX8_expression_8 : List UInt8 := dkwX8_expression_8 ++ dktX8_expression_9
def dkwX8_expression_7 : List UInt8 := [182, 0, 245, 154, 0, 12, 42, 16, 15, 182, 0, 245, 153, 0, 7, 4, 167, 0, 4, 3, 61, 28]
abbrev dktX8_expression_7 : List UInt8 := dkwX8_expression_7 ++ dktX8_expression_8
def dkwX8_expression_6 : List UInt8 := [167, 255, 210, 42, 16, 8, 182, 0, 245, 154, 0, 30, 42, 16, 9, 182, 0, 245, 154, 0, 21, 42, 16, 10]
abbrev dktX8_expression_6 : List UInt8 := dkwX8_expression_6 ++ dktX8_expression_7
def dkwX8_expression_5 : List UInt8 := [180, 1, 68, 4, 100, 181, 1, 68, 42, 89, 180, 0, 254, 4, 100, 181, 0, 254, 42, 182, 0, 248]
abbrev dktX8_expression_5 : List UInt8 := dkwX8_expression_5 ++ dktX8_expression_6
def dkwX8_expression_4 : List UInt8 := [42, 16, 7, 182, 0, 245, 153, 0, 43, 42, 180, 0, 254, 27, 164, 0, 35, 42, 3, 182, 1, 77, 42, 89]
abbrev dktX8_expression_4 : List UInt8 := dkwX8_expression_4 ++ dktX8_expression_5
def dkwX8_expression_3 : List UInt8 := [89, 180, 1, 68, 4, 96, 181, 1, 68, 167, 255, 198, 42, 182, 1, 74, 42, 180, 0, 227, 158, 0, 4, 177]
abbrev dktX8_expression_3 : List UInt8 := dkwX8_expression_3 ++ dktX8_expression_4
def dkwX8_expression_2 : List UInt8 := [180, 0, 254, 4, 96, 181, 0, 254, 42, 182, 0, 248, 42, 180, 0, 113, 42, 180, 1, 68, 16, 6, 79, 42]
abbrev dktX8_expression_2 : List UInt8 := dkwX8_expression_2 ++ dktX8_expression_3
def dkwX8_expression_1 : List UInt8 := [16, 6, 182, 0, 245, 153, 0, 55, 42, 180, 0, 254, 16, 6, 160, 0, 8, 42, 5, 182, 0, 242, 42, 89]
abbrev dktX8_expression_1 : List UInt8 := dkwX8_expression_1 ++ dktX8_expression_2
def dkwX8_expression_0 : List UInt8 := [42, 3, 181, 1, 68, 42, 180, 0, 254, 60, 4, 61, 28, 153, 1, 3, 42, 180, 0, 227, 154, 0, 252, 42]
abbrev dktX8_expression_0 : List UInt8 := dkwX8_expression_0 ++ dktX8_expression_1
theorem dksX8_expression_0 : cX8_expression.data.toList.drop 0 = dktX8_expression_0 := by decide +kernel
theorem dksX8_expression_1 : cX8_expression.data.toList.drop 24 = dktX8_expression_1 := dk_seg dksX8_expression_0 24 rfl rfl
theorem dksX8_expression_2 : cX8_expression.data.toList.drop 48 = dktX8_expression_2 := dk_seg dksX8_expression_1 24 rfl rfl
theorem dksX8_expression_3 : cX8_expression.data.toList.drop 72 = dktX8_expression_3 := dk_seg dksX8_expression_2 24 rfl rfl
theorem dksX8_expression_4 : cX8_expression.data.toList.drop 96 = dktX8_expression_4 := dk_seg dksX8_expression_3 24 rfl rfl
theorem dksX8_expression_5 : cX8_expression.data.toList.drop 120 = dktX8_expression_5 := dk_seg dksX8_expression_4 24 rfl rfl
theorem dksX8_expression_6 : cX8_expression.data.toList.drop 142 = dktX8_expression_6 := dk_seg dksX8_expression_5 22 rfl rfl
theorem dksX8_expression_7 : cX8_expression.data.toList.drop 166 = dktX8_expression_7 := dk_seg dksX8_expression_6 24 rfl rfl
theorem dksX8_expression_8 : cX8_expression.data.toList.drop 188 = dktX8_expression_8 := dk_seg dksX8_expression_7 22 rfl rfl
theorem dksX8_expression_9 : cX8_expression.data.toList.drop 212 = dktX8_expression_9 := dk_seg dksX8_expression_8 24 rfl rfl
theorem dksX8_expression_10 : cX8_expression.data.toList.drop 234 = dktX8_expression_10 := dk_seg dksX8_expression_9 22 rfl rfl
theorem dksX8_expression_11 : cX8_expression.data.toList.drop 257 = dktX8_expression_11 := dk_seg dksX8_expression_10 23 rfl rfl
theorem dX8_expression_0 : decode cX8_expression 0 = .ok (.aload_n 0, 1) := dk_42 (dk_at dksX8_expression_0 0 rfl rfl)
theorem dX8_expression_1 : decode cX8_expression 1 = .ok (.iconst 0, 1) := dk_3 (dk_at dksX8_expression_0 1 rfl rfl)
theorem dX8_expression_2 : decode cX8_expression 2 = .ok (.putfield 324, 3) := dk_181 1 68 (dk_at dksX8_expression_0 2 rfl rfl)
theorem dX8_expression_5 : decode cX8_expression 5 = .ok (.aload_n 0, 1) := dk_42 (dk_at dksX8_expression_0 5 rfl rfl)
theorem dX8_expression_6 : decode cX8_expression 6 = .ok (.getfield 254, 3) := dk_180 0 254 (dk_at dksX8_expression_0 6 rfl rfl)
theorem dX8_expression_9 : decode cX8_expression 9 = .ok (.istore_n 1, 1) := dk_60 (dk_at dksX8_expression_0 9 rfl rfl)
theorem dX8_expression_10 : decode cX8_expression 10 = .ok (.iconst 1, 1) := dk_4 (dk_at dksX8_expression_0 10 rfl rfl)
theorem dX8_expression_11 : decode cX8_expression 11 = .ok (.istore_n 2, 1) := dk_61 (dk_at dksX8_expression_0 11 rfl rfl)
theorem dX8_expression_12 : decode cX8_expression 12 = .ok (.iload_n 2, 1) := dk_28 (dk_at dksX8_expression_0 12 rfl rfl)
theorem dX8_expression_13 : decode cX8_expression 13 = .ok (.ifCond .eq 259, 3) := dk_153 1 3 (dk_at dksX8_expression_0 13 rfl rfl)
theorem dX8_expression_16 : decode cX8_expression 16 = .ok (.aload_n 0, 1) := dk_42 (dk_at dksX8_expression_0 16 rfl rfl)
theorem dX8_expression_17 : decode cX8_expression 17 = .ok (.getfield 227, 3) := dk_180 0 227 (dk_at dksX8_expression_0 17 rfl rfl)
theorem dX8_expression_20 : decode cX8_expression 20 = .ok (.ifCond .ne 252, 3) := dk_154 0 252 (dk_at dksX8_expression_0 20 rfl rfl)
theorem dX8_expression_23 : decode cX8_expression 23 = .ok (.aload_n 0, 1) := dk_42 (dk_at dksX8_expression_0 23 rfl rfl)
theorem dX8_expression_24 : decode cX8_expression 24 = .ok (.bipush 6, 2) := dk_16 6 (dk_at dksX8_expression_1 0 rfl rfl)
theorem dX8_expression_26 : decode cX8_expression 26 = .ok (.invokevirtual 245, 3) := dk_182 0 245 (dk_at dksX8_expression_1 2 rfl rfl)
theorem dX8_expression_29 : decode cX8_expression 29 = .ok (.ifCond .eq 55, 3) := dk_153 0 55 (dk_at dksX8_expression_1 5 rfl rfl)
theorem dX8_expression_32 : decode cX8_expression 32 = .ok (.aload_n 0, 1) := dk_42 (dk_at dksX8_expression_1 8 rfl rfl)
theorem dX8_expression_33 : decode cX8_expression 33 = .ok (.getfield 254, 3) := dk_180 0 254 (dk_at dksX8_expression_1 9 rfl rfl)
theorem dX8_expression_36 : decode cX8_expression 36 = .ok (.bipush 6, 2) := dk_16 6 (dk_at dksX8_expression_1 12 rfl rfl)
theorem dX8_expression_38 : decode cX8_expression 38 = .ok (.if_icmp .ne 8, 3) := dk_160 0 8 (dk_at dksX8_expression_1 14 rfl rfl)
theorem dX8_expression_41 : decode cX8_expression 41 = .ok (.aload_n 0, 1) := dk_42 (dk_at dksX8_expression_1 17 rfl rfl)
theorem dX8_expression_42 : decode cX8_expression 42 = .ok (.iconst 2, 1) := dk_5 (dk_at dksX8_expression_1 18 rfl rfl)
theorem dX8_expression_43 : decode cX8_expression 43 = .ok (.invokevirtual 242, 3) := dk_182 0 242 (dk_at dksX8_expression_1 19 rfl rfl)
theorem dX8_expression_46 : decode cX8_expression 46 = .ok (.aload_n 0, 1) := dk_42 (dk_at dksX8_expression_1 22 rfl rfl)
theorem dX8_expression_47 : decode cX8_expression 47 = .ok (.dup, 1) := dk_89 (dk_at dksX8_expression_1 23 rfl rfl)
theorem dX8_expression_48 : decode cX8_expression 48 = .ok (.getfield 254, 3) := dk_180 0 254 (dk_at dksX8_expression_2 0 rfl rfl)
theorem dX8_expression_51 : decode cX8_expression 51 = .ok (.iconst 1, 1) := dk_4 (dk_at dksX8_expression_2 3 rfl rfl)
theorem dX8_expression_52 : decode cX8_expression 52 = .ok (.iadd, 1) := dk_96 (dk_at dksX8_expression_2 4 rfl rfl)
theorem dX8_expression_53 : decode cX8_expression 53 = .ok (.putfield 254, 3) := dk_181 0 254 (dk_at dksX8_expression_2 5 rfl rfl)
theorem dX8_expression_56 : decode cX8_expression 56 = .ok (.aload_n 0, 1) := dk_42 (dk_at dksX8_expression_2 8 rfl rfl)
theorem dX8_expression_57 : decode cX8_expression 57 = .ok (.invokevirtual 248, 3) := dk_182 0 248 (dk_at dksX8_expression_2 9 rfl rfl)
theorem dX8_expression_60 : decode cX8_expression 60 = .ok (.aload_n 0, 1) := dk_42 (dk_at dksX8_expression_2 12 rfl rfl)
theorem dX8_expression_61 : decode cX8_expression 61 = .ok (.getfield 113, 3) := dk_180 0 113 (dk_at dksX8_expression_2 13 rfl rfl)
theorem dX8_expression_64 : decode cX8_expression 64 = .ok (.aload_n 0, 1) := dk_42 (dk_at dksX8_expression_2 16 rfl rfl)
theorem dX8_expression_65 : decode cX8_expression 65 = .ok (.getfield 324, 3) := dk_180 1 68 (dk_at dksX8_expression_2 17 rfl rfl)
theorem dX8_expression_68 : decode cX8_expression 68 = .ok (.bipush 6, 2) := dk_16 6 (dk_at dksX8_expression_2 20 rfl rfl)
theorem dX8_expression_70 : decode cX8_expression 70 = .ok (.iastore, 1) := dk_79 (dk_at dksX8_expression_2 22 rfl rfl)
theorem dX8_expression_71 : decode cX8_expression 71 = .ok (.aload_n 0, 1) := dk_42 (dk_at dksX8_expression_2 23 rfl rfl)
theorem dX8_expression_72 : decode cX8_expression 72 = .ok (.dup, 1) := dk_89 (dk_at dksX8_expression_3 0 rfl rfl)
theorem dX8_expression_73 : decode cX8_expression 73 = .ok (.getfield 324, 3) := dk_180 1 68 (dk_at dksX8_expression_3 1 rfl rfl)
theorem dX8_expression_76 : decode cX8_expression 76 = .ok (.iconst 1, 1) := dk_4 (dk_at dksX8_expression_3 4 rfl rfl)
theorem dX8_expression_77 : decode cX8_expression 77 = .ok (.iadd, 1) := dk_96 (dk_at dksX8_expression_3 5 rfl rfl)
theorem dX8_expression_78 : decode cX8_expression 78 = .ok (.putfield 324, 3) := dk_181 1 68 (dk_at dksX8_expression_3 6 rfl rfl)
theorem dX8_expression_81 : decode cX8_expression 81 = .ok (.goto (-58), 3) := dk_167 255 198 (dk_at dksX8_expression_3 9 rfl rfl)
theorem dX8_expression_84 : decode cX8_expression 84 = .ok (.aload_n 0, 1) := dk_42 (dk_at dksX8_expression_3 12 rfl rfl)
theorem dX8_expression_85 : decode cX8_expression 85 = .ok (.invokevirtual 330, 3) := dk_182 1 74 (dk_at dksX8_expression_3 13 rfl rfl)
theorem dX8_expression_88 : decode cX8_expression 88 = .ok (.aload_n 0, 1) := dk_42 (dk_at dksX8_expression_3 16 rfl rfl)
theorem dX8_expression_89 : decode cX8_expression 89 = .ok (.getfield 227, 3) := dk_180 0 227 (dk_at dksX8_expression_3 17 rfl rfl)
theorem dX8_expression_92 : decode cX8_expression 92 = .ok (.ifCond .le 4, 3) := dk_158 0 4 (dk_at dksX8_expression_3 20 rfl rfl)
theorem dX8_expression_95 : decode cX8_expression 95 = .ok (.return_, 1) := dk_177 (dk_at dksX8_expression_3 23 rfl rfl)
theorem dX8_expression_96 : decode cX8_expression 96 = .ok (.aload_n 0, 1) := dk_42 (dk_at dksX8_expression_4 0 rfl rfl)
theorem dX8_expression_97 : decode cX8_expression 97 = .ok (.bipush 7, 2) := dk_16 7 (dk_at dksX8_expression_4 1 rfl rfl)
theorem dX8_expression_99 : decode cX8_expression 99 = .ok (.invokevirtual 245, 3) := dk_182 0 245 (dk_at dksX8_expression_4 3 rfl rfl)
theorem dX8_expression_102 : decode cX8_expression 102 = .ok (.ifCond .eq 43, 3) := dk_153 0 43 (dk_at dksX8_expression_4 6 rfl rfl)
theorem dX8_expression_105 : decode cX8_expression 105 = .ok (.aload_n 0, 1) := dk_42 (dk_at dksX8_expression_4 9 rfl rfl)
theorem dX8_expression_106 : decode cX8_expression 106 = .ok (.getfield 254, 3) := dk_180 0 254 (dk_at dksX8_expression_4 10 rfl rfl)
theorem dX8_expression_109 : decode cX8_expression 109 = .ok (.iload_n 1, 1) := dk_27 (dk_at dksX8_expression_4 13 rfl rfl)
theorem dX8_expression_110 : decode cX8_expression 110 = .ok (.if_icmp .le 35, 3) := dk_164 0 35 (dk_at dksX8_expression_4 14 rfl rfl)
theorem dX8_expression_113 : decode cX8_expression 113 = .ok (.aload_n 0, 1) := dk_42 (dk_at dksX8_expression_4 17 rfl rfl)
theorem dX8_expression_114 : decode cX8_expression 114 = .ok (.iconst 0, 1) := dk_3 (dk_at dksX8_expression_4 18 rfl rfl)
theorem dX8_expression_115 : decode cX8_expression 115 = .ok (.invokevirtual 333, 3) := dk_182 1 77 (dk_at dksX8_expression_4 19 rfl rfl)
theorem dX8_expression_118 : decode cX8_expression 118 = .ok (.aload_n 0, 1) := dk_42 (dk_at dksX8_expression_4 22 rfl rfl)
theorem dX8_expression_119 : decode cX8_expression 119 = .ok (.dup, 1) := dk_89 (dk_at dksX8_expression_4 23 rfl rfl)
theorem dX8_expression_120 : decode cX8_expression 120 = .ok (.getfield 324, 3) := dk_180 1 68 (dk_at dksX8_expression_5 0 rfl rfl)
theorem dX8_expression_123 : decode cX8_expression 123 = .ok (.iconst 1, 1) := dk_4 (dk_at dksX8_expression_5 3 rfl rfl)
theorem dX8_expression_124 : decode cX8_expression 124 = .ok (.isub, 1) := dk_100 (dk_at dksX8_expression_5 4 rfl rfl)
theorem dX8_expression_125 : decode cX8_expression 125 = .ok (.putfield 324, 3) := dk_181 1 68 (dk_at dksX8_expression_5 5 rfl rfl)
theorem dX8_expression_128 : decode cX8_expression 128 = .ok (.aload_n 0, 1) := dk_42 (dk_at dksX8_expression_5 8 rfl rfl)
theorem dX8_expression_129 : decode cX8_expression 129 = .ok (.dup, 1) := dk_89 (dk_at dksX8_expression_5 9 rfl rfl)
theorem dX8_expression_130 : decode cX8_expression 130 = .ok (.getfield 254, 3) := dk_180 0 254 (dk_at dksX8_expression_5 10 rfl rfl)
theorem dX8_expression_133 : decode cX8_expression 133 = .ok (.iconst 1, 1) := dk_4 (dk_at dksX8_expression_5 13 rfl rfl)
theorem dX8_expression_134 : decode cX8_expression 134 = .ok (.isub, 1) := dk_100 (dk_at dksX8_expression_5 14 rfl rfl)
theorem dX8_expression_135 : decode cX8_expression 135 = .ok (.putfield 254, 3) := dk_181 0 254 (dk_at dksX8_expression_5 15 rfl rfl)
theorem dX8_expression_138 : decode cX8_expression 138 = .ok (.aload_n 0, 1) := dk_42 (dk_at dksX8_expression_5 18 rfl rfl)
theorem dX8_expression_139 : decode cX8_expression 139 = .ok (.invokevirtual 248, 3) := dk_182 0 248 (dk_at dksX8_expression_5 19 rfl rfl)
theorem dX8_expression_142 : decode cX8_expression 142 = .ok (.goto (-46), 3) := dk_167 255 210 (dk_at dksX8_expression_6 0 rfl rfl)
theorem dX8_expression_145 : decode cX8_expression 145 = .ok (.aload_n 0, 1) := dk_42 (dk_at dksX8_expression_6 3 rfl rfl)
theorem dX8_expression_146 : decode cX8_expression 146 = .ok (.bipush 8, 2) := dk_16 8 (dk_at dksX8_expression_6 4 rfl rfl)
theorem dX8_expression_148 : decode cX8_expression 148 = .ok (.invokevirtual 245, 3) := dk_182 0 245 (dk_at dksX8_expression_6 6 rfl rfl)
theorem dX8_expression_151 : decode cX8_expression 151 = .ok (.ifCond .ne 30, 3) := dk_154 0 30 (dk_at dksX8_expression_6 9 rfl rfl)
theorem dX8_expression_154 : decode cX8_expression 154 = .ok (.aload_n 0, 1) := dk_42 (dk_at dksX8_expression_6 12 rfl rfl)
theorem dX8_expression_155 : decode cX8_expression 155 = .ok (.bipush 9, 2) := dk_16 9 (dk_at dksX8_expression_6 13 rfl rfl)
theorem dX8_expression_157 : decode cX8_expression 157 = .ok (.invokevirtual 245, 3) := dk_182 0 245 (dk_at dksX8_expression_6 15 rfl rfl)
theorem dX8_expression_160 : decode cX8_expression 160 = .ok (.ifCond .ne 21, 3) := dk_154 0 21 (dk_at dksX8_expression_6 18 rfl rfl)
theorem dX8_expression_163 : decode cX8_expression 163 = .ok (.aload_n 0, 1) := dk_42 (dk_at dksX8_expression_6 21 rfl rfl)
theorem dX8_expression_164 : decode cX8_expression 164 = .ok (.bipush 10, 2) := dk_16 10 (dk_at dksX8_expression_6 22 rfl rfl)
theorem dX8_expression_166 : decode cX8_expression 166 = .ok (.invokevirtual 245, 3) := dk_182 0 245 (dk_at dksX8_expression_7 0 rfl rfl)
theorem dX8_expression_169 : decode cX8_expression 169 = .ok (.ifCond .ne 12, 3) := dk_154 0 12 (dk_at dksX8_expression_7 3 rfl rfl)
theorem dX8_expression_172 : decode cX8_expression 172 = .ok (.aload_n 0, 1) := dk_42 (dk_at dksX8_expression_7 6 rfl rfl)
theorem dX8_expression_173 : decode cX8_expression 173 = .ok (.bipush 15, 2) := dk_16 15 (dk_at dksX8_expression_7 7 rfl rfl)
theorem dX8_expression_175 : decode cX8_expression 175 = .ok (.invokevirtual 245, 3) := dk_182 0 245 (dk_at dksX8_expression_7 9 rfl rfl)
theorem dX8_expression_178 : decode cX8_expression 178 = .ok (.ifCond .eq 7, 3) := dk_153 0 7 (dk_at dksX8_expression_7 12 rfl rfl)
theorem dX8_expression_181 : decode cX8_expression 181 = .ok (.iconst 1, 1) := dk_4 (dk_at dksX8_expression_7 15 rfl rfl)
theorem dX8_expression_182 : decode cX8_expression 182 = .ok (.goto 4, 3) := dk_167 0 4 (dk_at dksX8_expression_7 16 rfl rfl)
theorem dX8_expression_185 : decode cX8_expression 185 = .ok (.iconst 0, 1) := dk_3 (dk_at dksX8_expression_7 19 rfl rfl)
theorem dX8_expression_186 : decode cX8_expression 186 = .ok (.istore_n 2, 1) := dk_61 (dk_at dksX8_expression_7 20 rfl rfl)
theorem dX8_expression_187 : decode cX8_expression 187 = .ok (.iload_n 2, 1) := dk_28 (dk_at dksX8_expression_7 21 rfl rfl)
theorem dX8_expression_188 : decode cX8_expression 188 = .ok (.ifCond .ne 22, 3) := dk_154 0 22 (dk_at dksX8_expression_8 0 rfl rfl)
theorem dX8_expression_191 : decode cX8_expression 191 = .ok (.aload_n 0, 1) := dk_42 (dk_at dksX8_expression_8 3 rfl rfl)
theorem dX8_expression_192 : decode cX8_expression 192 = .ok (.getfield 254, 3) := dk_180 0 254 (dk_at dksX8_expression_8 4 rfl rfl)
theorem dX8_expression_195 : decode cX8_expression 195 = .ok (.iload_n 1, 1) := dk_27 (dk_at dksX8_expression_8 7 rfl rfl)
theorem dX8_expression_196 : decode cX8_expression 196 = .ok (.if_icmp .le 8, 3) := dk_164 0 8 (dk_at dksX8_expression_8 8 rfl rfl)
theorem dX8_expression_199 : decode cX8_expression 199 = .ok (.aload_n 0, 1) := dk_42 (dk_at dksX8_expression_8 11 rfl rfl)
theorem dX8_expression_200 : decode cX8_expression 200 = .ok (.iconst 1, 1) := dk_4 (dk_at dksX8_expression_8 12 rfl rfl)
theorem dX8_expression_201 : decode cX8_expression 201 = .ok (.invokevirtual 242, 3) := dk_182 0 242 (dk_at dksX8_expression_8 13 rfl rfl)
theorem dX8_expression_204 : decode cX8_expression 204 = .ok (.aload_n 0, 1) := dk_42 (dk_at dksX8_expression_8 16 rfl rfl)
theorem dX8_expression_205 : decode cX8_expression 205 = .ok (.iconst 0, 1) := dk_3 (dk_at dksX8_expression_8 17 rfl rfl)
theorem dX8_expression_206 : decode cX8_expression 206 = .ok (.invokevirtual 333, 3) := dk_182 1 77 (dk_at dksX8_expression_8 18 rfl rfl)
theorem dX8_expression_209 : decode cX8_expression 209 = .ok (.return_, 1) := dk_177 (dk_at dksX8_expression_8 21 rfl rfl)
theorem dX8_expression_210 : decode cX8_expression 210 = .ok (.aload_n 0, 1) := dk_42 (dk_at dksX8_expression_8 22 rfl rfl)
theorem dX8_expression_211 : decode cX8_expression 211 = .ok (.aload_n 0, 1) := dk_42 (dk_at dksX8_expression_8 23 rfl rfl)
theorem dX8_expression_212 : decode cX8_expression 212 = .ok (.bipush 10, 2) := dk_16 10 (dk_at dksX8_expression_9 0 rfl rfl)
theorem dX8_expression_214 : decode cX8_expression 214 = .ok (.invokevirtual 245, 3) := dk_182 0 245 (dk_at dksX8_expression_9 2 rfl rfl)
theorem dX8_expression_217 : decode cX8_expression 217 = .ok (.ifCond .ne 12, 3) := dk_154 0 12 (dk_at dksX8_expression_9 5 rfl rfl)
theorem dX8_expression_220 : decode cX8_expression 220 = .ok (.aload_n 0, 1) := dk_42 (dk_at dksX8_expression_9 8 rfl rfl)
theorem dX8_expression_221 : decode cX8_expression 221 = .ok (.bipush 15, 2) := dk_16 15 (dk_at dksX8_expression_9 9 rfl rfl)
theorem dX8_expression_223 : decode cX8_expression 223 = .ok (.invokevirtual 245, 3) := dk_182 0 245 (dk_at dksX8_expression_9 11 rfl rfl)
theorem dX8_expression_226 : decode cX8_expression 226 = .ok (.ifCond .eq 7, 3) := dk_153 0 7 (dk_at dksX8_expression_9 14 rfl rfl)
theorem dX8_expression_229 : decode cX8_expression 229 = .ok (.iconst 1, 1) := dk_4 (dk_at dksX8_expression_9 17 rfl rfl)
theorem dX8_expression_230 : decode cX8_expression 230 = .ok (.goto 4, 3) := dk_167 0 4 (dk_at dksX8_expression_9 18 rfl rfl)
theorem dX8_expression_233 : decode cX8_expression 233 = .ok (.iconst 0, 1) := dk_3 (dk_at dksX8_expression_9 21 rfl rfl)
theorem dX8_expression_234 : decode cX8_expression 234 = .ok (.invokevirtual 333, 3) := dk_182 1 77 (dk_at dksX8_expression_10 0 rfl rfl)
theorem dX8_expression_237 : decode cX8_expression 237 = .ok (.aload_n 0, 1) := dk_42 (dk_at dksX8_expression_10 3 rfl rfl)
theorem dX8_expression_238 : decode cX8_expression 238 = .ok (.getfield 113, 3) := dk_180 0 113 (dk_at dksX8_expression_10 4 rfl rfl)
theorem dX8_expression_241 : decode cX8_expression 241 = .ok (.aload_n 0, 1) := dk_42 (dk_at dksX8_expression_10 7 rfl rfl)
theorem dX8_expression_242 : decode cX8_expression 242 = .ok (.getfield 324, 3) := dk_180 1 68 (dk_at dksX8_expression_10 8 rfl rfl)
theorem dX8_expression_245 : decode cX8_expression 245 = .ok (.aload_n 0, 1) := dk_42 (dk_at dksX8_expression_10 11 rfl rfl)
theorem dX8_expression_246 : decode cX8_expression 246 = .ok (.getfield 20, 3) := dk_180 0 20 (dk_at dksX8_expression_10 12 rfl rfl)
theorem dX8_expression_249 : decode cX8_expression 249 = .ok (.aload_n 0, 1) := dk_42 (dk_at dksX8_expression_10 15 rfl rfl)
theorem dX8_expression_250 : decode cX8_expression 250 = .ok (.getfield 230, 3) := dk_180 0 230 (dk_at dksX8_expression_10 16 rfl rfl)
theorem dX8_expression_253 : decode cX8_expression 253 = .ok (.iaload, 1) := dk_46 (dk_at dksX8_expression_10 19 rfl rfl)
theorem dX8_expression_254 : decode cX8_expression 254 = .ok (.iastore, 1) := dk_79 (dk_at dksX8_expression_10 20 rfl rfl)
theorem dX8_expression_255 : decode cX8_expression 255 = .ok (.aload_n 0, 1) := dk_42 (dk_at dksX8_expression_10 21 rfl rfl)
theorem dX8_expression_256 : decode cX8_expression 256 = .ok (.dup, 1) := dk_89 (dk_at dksX8_expression_10 22 rfl rfl)
theorem dX8_expression_257 : decode cX8_expression 257 = .ok (.getfield 324, 3) := dk_180 1 68 (dk_at dksX8_expression_11 0 rfl rfl)
theorem dX8_expression_260 : decode cX8_expression 260 = .ok (.iconst 1, 1) := dk_4 (dk_at dksX8_expression_11 3 rfl rfl)
theorem dX8_expression_261 : decode cX8_expression 261 = .ok (.iadd, 1) := dk_96 (dk_at dksX8_expression_11 4 rfl rfl)
theorem dX8_expression_262 : decode cX8_expression 262 = .ok (.putfield 324, 3) := dk_181 1 68 (dk_at dksX8_expression_11 5 rfl rfl)
theorem dX8_expression_265 : decode cX8_expression 265 = .ok (.aload_n 0, 1) := dk_42 (dk_at dksX8_expression_11 8 rfl rfl)
theorem dX8_expression_266 : decode cX8_expression 266 = .ok (.invokevirtual 248, 3) := dk_182 0 248 (dk_at dksX8_expression_11 9 rfl rfl)
theorem dX8_expression_269 : decode cX8_expression 269 = .ok (.goto (-257), 3) := dk_167 254 255 (dk_at dksX8_expression_11 12 rfl rfl)
theorem dX8_expression_272 : decode cX8_expression 272 = .ok (.return_, 1) := dk_177 (dk_at dksX8_expression_11 15 rfl rfl)
