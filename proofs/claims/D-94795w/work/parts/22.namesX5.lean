/-! FiveTouchModel -/
set_option maxRecDepth 100000
def RX5 : String := "FiveTouchModel"
def TX5 : u_T := fun k => match k with
  | 0 => ("FiveTouchModel", "status", "I", false)
  | 1 => ("FiveTouchModel", "version", "I", false)
  | 2 => ("FiveTouchModel", "refused", "[I", true)
  | 3 => ("FiveTouchModel", "kept", "[I", true)
  | 4 => ("FiveTouchModel", "images", "[I", true)
  | 5 => ("FiveTouchModel", "hasImage", "[Z", true)
  | 6 => ("FiveTouchModel", "rubble0", "I", false)
  | 7 => ("FiveTouchModel", "words", "[B", true)
  | 8 => ("FiveTouchModel", "tape", "[B", true)
  | 9 => ("FiveTouchModel", "five", "[I", true)
  | 10 => ("FiveTouchModel", "taped", "I", false)
  | 11 => ("FiveTouchModel", "fault", "I", false)
  | 12 => ("FiveTouchModel", "code", "[I", true)
  | 13 => ("FiveTouchModel", "value", "[I", true)
  | 14 => ("FiveTouchModel", "placed", "[I", true)
  | 15 => ("FiveTouchModel", "tokens", "I", false)
  | 16 => ("FiveTouchModel", "token", "I", false)
  | 17 => ("FiveTouchModel", "leaves", "I", false)
  | 18 => ("FiveTouchModel", "bad", "I", false)
  | 19 => ("FiveTouchModel", "go", "I", false)
  | 20 => ("FiveTouchModel", "goEnd", "I", false)
  | 21 => ("FiveTouchModel", "broken", "Z", false)
  | 22 => ("FiveTouchModel", "asked", "[I", true)
  | 23 => ("FiveTouchModel", "needs", "[I", true)
  | 24 => ("FiveTouchModel", "bound", "[Z", true)
  | 25 => ("FiveTouchModel", "near", "[I", true)
  | 26 => ("FiveTouchModel", "firm", "[I", true)
  | 27 => ("FiveTouchModel", "laidBy", "I", false)
  | 28 => ("FiveTouchModel", "lawful", "[Z", true)
  | 29 => ("FiveTouchModel", "fallTo", "[I", true)
  | 30 => ("FiveTouchModel", "wins", "[Z", true)
  | 31 => ("FiveTouchModel", "comes", "[Z", true)
  | 32 => ("FiveTouchModel", "setsBy", "I", false)
  | 33 => ("FiveTouchModel", "bestTaken", "I", false)
  | 34 => ("FiveTouchModel", "takenMany", "I", false)
  | 35 => ("FiveTouchModel", "leads", "[Z", true)
  | 36 => ("FiveTouchModel", "winterRow", "[I", true)
  | 37 => ("FiveTouchModel", "winterMany", "I", false)
  | _ => ("FiveTouchModel", "latest", "I", false)
def tyX5 : Nat → FieldType := fun k => match k with
  | 0 => .int
  | 1 => .int
  | 2 => .array .int
  | 3 => .array .int
  | 4 => .array .int
  | 5 => .array .boolean
  | 6 => .int
  | 7 => .array .byte
  | 8 => .array .byte
  | 9 => .array .int
  | 10 => .int
  | 11 => .int
  | 12 => .array .int
  | 13 => .array .int
  | 14 => .array .int
  | 15 => .int
  | 16 => .int
  | 17 => .int
  | 18 => .int
  | 19 => .int
  | 20 => .int
  | 21 => .boolean
  | 22 => .array .int
  | 23 => .array .int
  | 24 => .array .boolean
  | 25 => .array .int
  | 26 => .array .int
  | 27 => .int
  | 28 => .array .boolean
  | 29 => .array .int
  | 30 => .array .boolean
  | 31 => .array .boolean
  | 32 => .int
  | 33 => .int
  | 34 => .int
  | 35 => .array .boolean
  | 36 => .array .int
  | 37 => .int
  | _ => .int
abbrev wsX50 : List Cond := u_ws RX5 TX5 39
set_option maxRecDepth 100000 in
theorem nmX5 : ∀ a, a < 39 → ∀ b, b < 39 → a ≠ b → (TX5 a).2.1 ≠ (TX5 b).2.1 := by decide +kernel
set_option maxRecDepth 100000 in
theorem tyX5_ok : ∀ k, k < 39 → parseFieldDescriptor (TX5 k).2.2.1 = some (tyX5 k) := by decide +kernel
abbrev cX5_init : ByteArray := prog_25_method_6_code
def yX5_init : MethodName := ⟨RX5, "<init>", "()V"⟩
def dkwX5_init_25 : List UInt8 := [79, 42, 180, 0, 20, 17, 0, 156, 4, 79, 42, 180, 0, 20, 17, 0, 161, 2, 79, 177]
abbrev dktX5_init_25 : List UInt8 := dkwX5_init_25 ++ []
def dkwX5_init_24 : List UInt8 := [16, 40, 188, 10, 181, 0, 88, 42, 180, 0, 20, 17, 0, 154, 8, 79, 42, 180, 0, 20, 17, 0, 155, 5]
abbrev dktX5_init_24 : List UInt8 := dkwX5_init_24 ++ dktX5_init_25
def dkwX5_init_23 : List UInt8 := [17, 64, 0, 188, 4, 181, 0, 79, 42, 2, 181, 0, 82, 42, 17, 64, 0, 188, 4, 181, 0, 85, 42]
abbrev dktX5_init_23 : List UInt8 := dkwX5_init_23 ++ dktX5_init_24
def dkwX5_init_22 : List UInt8 := [181, 0, 70, 42, 17, 64, 0, 188, 10, 181, 0, 73, 42, 17, 64, 0, 188, 4, 181, 0, 76, 42]
abbrev dktX5_init_22 : List UInt8 := dkwX5_init_22 ++ dktX5_init_23
def dkwX5_init_21 : List UInt8 := [181, 0, 61, 42, 16, 22, 188, 10, 181, 0, 64, 42, 2, 181, 0, 67, 42, 17, 64, 0, 188, 4]
abbrev dktX5_init_21 : List UInt8 := dkwX5_init_21 ++ dktX5_init_22
def dkwX5_init_20 : List UInt8 := [181, 0, 52, 42, 16, 22, 188, 10, 181, 0, 55, 42, 16, 22, 188, 4, 181, 0, 58, 42, 16, 22, 188, 10]
abbrev dktX5_init_20 : List UInt8 := dkwX5_init_20 ++ dktX5_init_21
def dkwX5_init_19 : List UInt8 := [42, 17, 1, 145, 188, 10, 181, 0, 46, 42, 17, 1, 145, 188, 10, 181, 0, 49, 42, 16, 8, 188, 10]
abbrev dktX5_init_19 : List UInt8 := dkwX5_init_19 ++ dktX5_init_20
def dkwX5_init_18 : List UInt8 := [181, 0, 34, 42, 8, 188, 10, 181, 0, 37, 42, 2, 181, 0, 40, 42, 17, 1, 145, 188, 10, 181, 0, 43]
abbrev dktX5_init_18 : List UInt8 := dkwX5_init_18 ++ dktX5_init_19
def dkwX5_init_17 : List UInt8 := [16, 115, 84, 89, 16, 62, 16, 116, 84, 89, 16, 63, 16, 32, 84, 181, 0, 30, 42, 17, 1, 144, 188, 8]
abbrev dktX5_init_17 : List UInt8 := dkwX5_init_17 ++ dktX5_init_18
def dkwX5_init_16 : List UInt8 := [16, 32, 84, 89, 16, 58, 16, 102, 84, 89, 16, 59, 16, 114, 84, 89, 16, 60, 16, 111, 84, 89, 16, 61]
abbrev dktX5_init_16 : List UInt8 := dkwX5_init_16 ++ dktX5_init_17
def dkwX5_init_15 : List UInt8 := [16, 102, 84, 89, 16, 54, 16, 97, 84, 89, 16, 55, 16, 114, 84, 89, 16, 56, 16, 109, 84, 89, 16, 57]
abbrev dktX5_init_15 : List UInt8 := dkwX5_init_15 ++ dktX5_init_16
def dkwX5_init_14 : List UInt8 := [16, 103, 84, 89, 16, 50, 16, 104, 84, 89, 16, 51, 16, 116, 84, 89, 16, 52, 16, 32, 84, 89, 16, 53]
abbrev dktX5_init_14 : List UInt8 := dkwX5_init_14 ++ dktX5_init_15
def dkwX5_init_13 : List UInt8 := [16, 32, 84, 89, 16, 46, 16, 119, 84, 89, 16, 47, 16, 101, 84, 89, 16, 48, 16, 105, 84, 89, 16, 49]
abbrev dktX5_init_13 : List UInt8 := dkwX5_init_13 ++ dktX5_init_14
def dkwX5_init_12 : List UInt8 := [16, 116, 84, 89, 16, 42, 16, 97, 84, 89, 16, 43, 16, 108, 84, 89, 16, 44, 16, 108, 84, 89, 16, 45]
abbrev dktX5_init_12 : List UInt8 := dkwX5_init_12 ++ dktX5_init_13
def dkwX5_init_11 : List UInt8 := [16, 105, 84, 89, 16, 38, 16, 100, 84, 89, 16, 39, 16, 101, 84, 89, 16, 40, 16, 32, 84, 89, 16, 41]
abbrev dktX5_init_11 : List UInt8 := dkwX5_init_11 ++ dktX5_init_12
def dkwX5_init_10 : List UInt8 := [16, 32, 84, 89, 16, 34, 16, 121, 84, 89, 16, 35, 16, 32, 84, 89, 16, 36, 16, 119, 84, 89, 16, 37]
abbrev dktX5_init_10 : List UInt8 := dkwX5_init_10 ++ dktX5_init_11
def dkwX5_init_9 : List UInt8 := [16, 110, 84, 89, 16, 30, 16, 101, 84, 89, 16, 31, 16, 32, 84, 89, 16, 32, 16, 120, 84, 89, 16, 33]
abbrev dktX5_init_9 : List UInt8 := dkwX5_init_9 ++ dktX5_init_10
def dkwX5_init_8 : List UInt8 := [16, 32, 84, 89, 16, 26, 16, 115, 84, 89, 16, 27, 16, 116, 84, 89, 16, 28, 16, 111, 84, 89, 16, 29]
abbrev dktX5_init_8 : List UInt8 := dkwX5_init_8 ++ dktX5_init_9
def dkwX5_init_7 : List UInt8 := [16, 32, 84, 89, 16, 22, 16, 110, 84, 89, 16, 23, 16, 111, 84, 89, 16, 24, 16, 116, 84, 89, 16, 25]
abbrev dktX5_init_7 : List UInt8 := dkwX5_init_7 ++ dktX5_init_8
def dkwX5_init_6 : List UInt8 := [16, 32, 84, 89, 16, 18, 16, 97, 84, 89, 16, 19, 16, 110, 84, 89, 16, 20, 16, 100, 84, 89, 16, 21]
abbrev dktX5_init_6 : List UInt8 := dkwX5_init_6 ++ dktX5_init_7
def dkwX5_init_5 : List UInt8 := [16, 102, 84, 89, 16, 14, 16, 32, 84, 89, 16, 15, 16, 111, 84, 89, 16, 16, 16, 114, 84, 89, 16, 17]
abbrev dktX5_init_5 : List UInt8 := dkwX5_init_5 ++ dktX5_init_6
def dkwX5_init_4 : List UInt8 := [16, 110, 84, 89, 16, 10, 16, 100, 84, 89, 16, 11, 16, 32, 84, 89, 16, 12, 16, 105, 84, 89, 16, 13]
abbrev dktX5_init_4 : List UInt8 := dkwX5_init_4 ++ dktX5_init_5
def dkwX5_init_3 : List UInt8 := [16, 32, 84, 89, 16, 6, 16, 98, 84, 89, 16, 7, 16, 111, 84, 89, 16, 8, 16, 117, 84, 89, 16, 9]
abbrev dktX5_init_3 : List UInt8 := dkwX5_init_3 ++ dktX5_init_4
def dkwX5_init_2 : List UInt8 := [84, 89, 4, 16, 101, 84, 89, 5, 16, 101, 84, 89, 6, 16, 100, 84, 89, 7, 16, 115, 84, 89, 8]
abbrev dktX5_init_2 : List UInt8 := dkwX5_init_2 ++ dktX5_init_3
def dkwX5_init_1 : List UInt8 := [17, 38, 208, 188, 10, 181, 0, 23, 42, 5, 188, 4, 181, 0, 26, 42, 16, 64, 188, 8, 89, 3, 16, 110]
abbrev dktX5_init_1 : List UInt8 := dkwX5_init_1 ++ dktX5_init_2
def dkwX5_init_0 : List UInt8 := [42, 183, 0, 14, 42, 16, 7, 188, 10, 181, 0, 7, 42, 17, 19, 104, 188, 10, 181, 0, 20, 42]
abbrev dktX5_init_0 : List UInt8 := dkwX5_init_0 ++ dktX5_init_1
theorem dksX5_init_0 : cX5_init.data.toList.drop 0 = dktX5_init_0 := by decide +kernel
theorem dksX5_init_1 : cX5_init.data.toList.drop 22 = dktX5_init_1 := dk_seg dksX5_init_0 22 rfl rfl
theorem dksX5_init_2 : cX5_init.data.toList.drop 46 = dktX5_init_2 := dk_seg dksX5_init_1 24 rfl rfl
theorem dksX5_init_3 : cX5_init.data.toList.drop 69 = dktX5_init_3 := dk_seg dksX5_init_2 23 rfl rfl
theorem dksX5_init_4 : cX5_init.data.toList.drop 93 = dktX5_init_4 := dk_seg dksX5_init_3 24 rfl rfl
theorem dksX5_init_5 : cX5_init.data.toList.drop 117 = dktX5_init_5 := dk_seg dksX5_init_4 24 rfl rfl
theorem dksX5_init_6 : cX5_init.data.toList.drop 141 = dktX5_init_6 := dk_seg dksX5_init_5 24 rfl rfl
theorem dksX5_init_7 : cX5_init.data.toList.drop 165 = dktX5_init_7 := dk_seg dksX5_init_6 24 rfl rfl
theorem dksX5_init_8 : cX5_init.data.toList.drop 189 = dktX5_init_8 := dk_seg dksX5_init_7 24 rfl rfl
theorem dksX5_init_9 : cX5_init.data.toList.drop 213 = dktX5_init_9 := dk_seg dksX5_init_8 24 rfl rfl
theorem dksX5_init_10 : cX5_init.data.toList.drop 237 = dktX5_init_10 := dk_seg dksX5_init_9 24 rfl rfl
theorem dksX5_init_11 : cX5_init.data.toList.drop 261 = dktX5_init_11 := dk_seg dksX5_init_10 24 rfl rfl
theorem dksX5_init_12 : cX5_init.data.toList.drop 285 = dktX5_init_12 := dk_seg dksX5_init_11 24 rfl rfl
theorem dksX5_init_13 : cX5_init.data.toList.drop 309 = dktX5_init_13 := dk_seg dksX5_init_12 24 rfl rfl
theorem dksX5_init_14 : cX5_init.data.toList.drop 333 = dktX5_init_14 := dk_seg dksX5_init_13 24 rfl rfl
theorem dksX5_init_15 : cX5_init.data.toList.drop 357 = dktX5_init_15 := dk_seg dksX5_init_14 24 rfl rfl
theorem dksX5_init_16 : cX5_init.data.toList.drop 381 = dktX5_init_16 := dk_seg dksX5_init_15 24 rfl rfl
theorem dksX5_init_17 : cX5_init.data.toList.drop 405 = dktX5_init_17 := dk_seg dksX5_init_16 24 rfl rfl
theorem dksX5_init_18 : cX5_init.data.toList.drop 429 = dktX5_init_18 := dk_seg dksX5_init_17 24 rfl rfl
theorem dksX5_init_19 : cX5_init.data.toList.drop 453 = dktX5_init_19 := dk_seg dksX5_init_18 24 rfl rfl
theorem dksX5_init_20 : cX5_init.data.toList.drop 476 = dktX5_init_20 := dk_seg dksX5_init_19 23 rfl rfl
theorem dksX5_init_21 : cX5_init.data.toList.drop 500 = dktX5_init_21 := dk_seg dksX5_init_20 24 rfl rfl
theorem dksX5_init_22 : cX5_init.data.toList.drop 522 = dktX5_init_22 := dk_seg dksX5_init_21 22 rfl rfl
theorem dksX5_init_23 : cX5_init.data.toList.drop 544 = dktX5_init_23 := dk_seg dksX5_init_22 22 rfl rfl
theorem dksX5_init_24 : cX5_init.data.toList.drop 567 = dktX5_init_24 := dk_seg dksX5_init_23 23 rfl rfl
theorem dksX5_init_25 : cX5_init.data.toList.drop 591 = dktX5_init_25 := dk_seg dksX5_init_24 24 rfl rfl
theorem dX5_init_0 : decode cX5_init 0 = .ok (.aload_n 0, 1) := dk_42 (dk_at dksX5_init_0 0 rfl rfl)
theorem dX5_init_1 : decode cX5_init 1 = .ok (.invokespecial 14, 3) := dk_183 0 14 (dk_at dksX5_init_0 1 rfl rfl)
theorem dX5_init_4 : decode cX5_init 4 = .ok (.aload_n 0, 1) := dk_42 (dk_at dksX5_init_0 4 rfl rfl)
theorem dX5_init_5 : decode cX5_init 5 = .ok (.bipush 7, 2) := dk_16 7 (dk_at dksX5_init_0 5 rfl rfl)
theorem dX5_init_7 : decode cX5_init 7 = .ok (.newarray .int, 2) := dk_188_10 (dk_at dksX5_init_0 7 rfl rfl)
theorem dX5_init_9 : decode cX5_init 9 = .ok (.putfield 7, 3) := dk_181 0 7 (dk_at dksX5_init_0 9 rfl rfl)
theorem dX5_init_12 : decode cX5_init 12 = .ok (.aload_n 0, 1) := dk_42 (dk_at dksX5_init_0 12 rfl rfl)
theorem dX5_init_13 : decode cX5_init 13 = .ok (.sipush 4968, 3) := dk_17 19 104 (dk_at dksX5_init_0 13 rfl rfl)
theorem dX5_init_16 : decode cX5_init 16 = .ok (.newarray .int, 2) := dk_188_10 (dk_at dksX5_init_0 16 rfl rfl)
theorem dX5_init_18 : decode cX5_init 18 = .ok (.putfield 20, 3) := dk_181 0 20 (dk_at dksX5_init_0 18 rfl rfl)
theorem dX5_init_21 : decode cX5_init 21 = .ok (.aload_n 0, 1) := dk_42 (dk_at dksX5_init_0 21 rfl rfl)
theorem dX5_init_22 : decode cX5_init 22 = .ok (.sipush 9936, 3) := dk_17 38 208 (dk_at dksX5_init_1 0 rfl rfl)
theorem dX5_init_25 : decode cX5_init 25 = .ok (.newarray .int, 2) := dk_188_10 (dk_at dksX5_init_1 3 rfl rfl)
theorem dX5_init_27 : decode cX5_init 27 = .ok (.putfield 23, 3) := dk_181 0 23 (dk_at dksX5_init_1 5 rfl rfl)
theorem dX5_init_30 : decode cX5_init 30 = .ok (.aload_n 0, 1) := dk_42 (dk_at dksX5_init_1 8 rfl rfl)
theorem dX5_init_31 : decode cX5_init 31 = .ok (.iconst 2, 1) := dk_5 (dk_at dksX5_init_1 9 rfl rfl)
theorem dX5_init_32 : decode cX5_init 32 = .ok (.newarray .boolean, 2) := dk_188_4 (dk_at dksX5_init_1 10 rfl rfl)
theorem dX5_init_34 : decode cX5_init 34 = .ok (.putfield 26, 3) := dk_181 0 26 (dk_at dksX5_init_1 12 rfl rfl)
theorem dX5_init_37 : decode cX5_init 37 = .ok (.aload_n 0, 1) := dk_42 (dk_at dksX5_init_1 15 rfl rfl)
theorem dX5_init_38 : decode cX5_init 38 = .ok (.bipush 64, 2) := dk_16 64 (dk_at dksX5_init_1 16 rfl rfl)
theorem dX5_init_40 : decode cX5_init 40 = .ok (.newarray .byte, 2) := dk_188_8 (dk_at dksX5_init_1 18 rfl rfl)
theorem dX5_init_42 : decode cX5_init 42 = .ok (.dup, 1) := dk_89 (dk_at dksX5_init_1 20 rfl rfl)
theorem dX5_init_43 : decode cX5_init 43 = .ok (.iconst 0, 1) := dk_3 (dk_at dksX5_init_1 21 rfl rfl)
theorem dX5_init_44 : decode cX5_init 44 = .ok (.bipush 110, 2) := dk_16 110 (dk_at dksX5_init_1 22 rfl rfl)
theorem dX5_init_46 : decode cX5_init 46 = .ok (.bastore, 1) := dk_84 (dk_at dksX5_init_2 0 rfl rfl)
theorem dX5_init_47 : decode cX5_init 47 = .ok (.dup, 1) := dk_89 (dk_at dksX5_init_2 1 rfl rfl)
theorem dX5_init_48 : decode cX5_init 48 = .ok (.iconst 1, 1) := dk_4 (dk_at dksX5_init_2 2 rfl rfl)
theorem dX5_init_49 : decode cX5_init 49 = .ok (.bipush 101, 2) := dk_16 101 (dk_at dksX5_init_2 3 rfl rfl)
theorem dX5_init_51 : decode cX5_init 51 = .ok (.bastore, 1) := dk_84 (dk_at dksX5_init_2 5 rfl rfl)
theorem dX5_init_52 : decode cX5_init 52 = .ok (.dup, 1) := dk_89 (dk_at dksX5_init_2 6 rfl rfl)
theorem dX5_init_53 : decode cX5_init 53 = .ok (.iconst 2, 1) := dk_5 (dk_at dksX5_init_2 7 rfl rfl)
theorem dX5_init_54 : decode cX5_init 54 = .ok (.bipush 101, 2) := dk_16 101 (dk_at dksX5_init_2 8 rfl rfl)
theorem dX5_init_56 : decode cX5_init 56 = .ok (.bastore, 1) := dk_84 (dk_at dksX5_init_2 10 rfl rfl)
theorem dX5_init_57 : decode cX5_init 57 = .ok (.dup, 1) := dk_89 (dk_at dksX5_init_2 11 rfl rfl)
theorem dX5_init_58 : decode cX5_init 58 = .ok (.iconst 3, 1) := dk_6 (dk_at dksX5_init_2 12 rfl rfl)
theorem dX5_init_59 : decode cX5_init 59 = .ok (.bipush 100, 2) := dk_16 100 (dk_at dksX5_init_2 13 rfl rfl)
theorem dX5_init_61 : decode cX5_init 61 = .ok (.bastore, 1) := dk_84 (dk_at dksX5_init_2 15 rfl rfl)
theorem dX5_init_62 : decode cX5_init 62 = .ok (.dup, 1) := dk_89 (dk_at dksX5_init_2 16 rfl rfl)
theorem dX5_init_63 : decode cX5_init 63 = .ok (.iconst 4, 1) := dk_7 (dk_at dksX5_init_2 17 rfl rfl)
theorem dX5_init_64 : decode cX5_init 64 = .ok (.bipush 115, 2) := dk_16 115 (dk_at dksX5_init_2 18 rfl rfl)
theorem dX5_init_66 : decode cX5_init 66 = .ok (.bastore, 1) := dk_84 (dk_at dksX5_init_2 20 rfl rfl)
theorem dX5_init_67 : decode cX5_init 67 = .ok (.dup, 1) := dk_89 (dk_at dksX5_init_2 21 rfl rfl)
theorem dX5_init_68 : decode cX5_init 68 = .ok (.iconst 5, 1) := dk_8 (dk_at dksX5_init_2 22 rfl rfl)
theorem dX5_init_69 : decode cX5_init 69 = .ok (.bipush 32, 2) := dk_16 32 (dk_at dksX5_init_3 0 rfl rfl)
theorem dX5_init_71 : decode cX5_init 71 = .ok (.bastore, 1) := dk_84 (dk_at dksX5_init_3 2 rfl rfl)
theorem dX5_init_72 : decode cX5_init 72 = .ok (.dup, 1) := dk_89 (dk_at dksX5_init_3 3 rfl rfl)
theorem dX5_init_73 : decode cX5_init 73 = .ok (.bipush 6, 2) := dk_16 6 (dk_at dksX5_init_3 4 rfl rfl)
theorem dX5_init_75 : decode cX5_init 75 = .ok (.bipush 98, 2) := dk_16 98 (dk_at dksX5_init_3 6 rfl rfl)
theorem dX5_init_77 : decode cX5_init 77 = .ok (.bastore, 1) := dk_84 (dk_at dksX5_init_3 8 rfl rfl)
theorem dX5_init_78 : decode cX5_init 78 = .ok (.dup, 1) := dk_89 (dk_at dksX5_init_3 9 rfl rfl)
theorem dX5_init_79 : decode cX5_init 79 = .ok (.bipush 7, 2) := dk_16 7 (dk_at dksX5_init_3 10 rfl rfl)
theorem dX5_init_81 : decode cX5_init 81 = .ok (.bipush 111, 2) := dk_16 111 (dk_at dksX5_init_3 12 rfl rfl)
theorem dX5_init_83 : decode cX5_init 83 = .ok (.bastore, 1) := dk_84 (dk_at dksX5_init_3 14 rfl rfl)
theorem dX5_init_84 : decode cX5_init 84 = .ok (.dup, 1) := dk_89 (dk_at dksX5_init_3 15 rfl rfl)
theorem dX5_init_85 : decode cX5_init 85 = .ok (.bipush 8, 2) := dk_16 8 (dk_at dksX5_init_3 16 rfl rfl)
theorem dX5_init_87 : decode cX5_init 87 = .ok (.bipush 117, 2) := dk_16 117 (dk_at dksX5_init_3 18 rfl rfl)
theorem dX5_init_89 : decode cX5_init 89 = .ok (.bastore, 1) := dk_84 (dk_at dksX5_init_3 20 rfl rfl)
theorem dX5_init_90 : decode cX5_init 90 = .ok (.dup, 1) := dk_89 (dk_at dksX5_init_3 21 rfl rfl)
theorem dX5_init_91 : decode cX5_init 91 = .ok (.bipush 9, 2) := dk_16 9 (dk_at dksX5_init_3 22 rfl rfl)
theorem dX5_init_93 : decode cX5_init 93 = .ok (.bipush 110, 2) := dk_16 110 (dk_at dksX5_init_4 0 rfl rfl)
theorem dX5_init_95 : decode cX5_init 95 = .ok (.bastore, 1) := dk_84 (dk_at dksX5_init_4 2 rfl rfl)
theorem dX5_init_96 : decode cX5_init 96 = .ok (.dup, 1) := dk_89 (dk_at dksX5_init_4 3 rfl rfl)
theorem dX5_init_97 : decode cX5_init 97 = .ok (.bipush 10, 2) := dk_16 10 (dk_at dksX5_init_4 4 rfl rfl)
theorem dX5_init_99 : decode cX5_init 99 = .ok (.bipush 100, 2) := dk_16 100 (dk_at dksX5_init_4 6 rfl rfl)
theorem dX5_init_101 : decode cX5_init 101 = .ok (.bastore, 1) := dk_84 (dk_at dksX5_init_4 8 rfl rfl)
theorem dX5_init_102 : decode cX5_init 102 = .ok (.dup, 1) := dk_89 (dk_at dksX5_init_4 9 rfl rfl)
theorem dX5_init_103 : decode cX5_init 103 = .ok (.bipush 11, 2) := dk_16 11 (dk_at dksX5_init_4 10 rfl rfl)
theorem dX5_init_105 : decode cX5_init 105 = .ok (.bipush 32, 2) := dk_16 32 (dk_at dksX5_init_4 12 rfl rfl)
theorem dX5_init_107 : decode cX5_init 107 = .ok (.bastore, 1) := dk_84 (dk_at dksX5_init_4 14 rfl rfl)
theorem dX5_init_108 : decode cX5_init 108 = .ok (.dup, 1) := dk_89 (dk_at dksX5_init_4 15 rfl rfl)
theorem dX5_init_109 : decode cX5_init 109 = .ok (.bipush 12, 2) := dk_16 12 (dk_at dksX5_init_4 16 rfl rfl)
theorem dX5_init_111 : decode cX5_init 111 = .ok (.bipush 105, 2) := dk_16 105 (dk_at dksX5_init_4 18 rfl rfl)
theorem dX5_init_113 : decode cX5_init 113 = .ok (.bastore, 1) := dk_84 (dk_at dksX5_init_4 20 rfl rfl)
theorem dX5_init_114 : decode cX5_init 114 = .ok (.dup, 1) := dk_89 (dk_at dksX5_init_4 21 rfl rfl)
theorem dX5_init_115 : decode cX5_init 115 = .ok (.bipush 13, 2) := dk_16 13 (dk_at dksX5_init_4 22 rfl rfl)
theorem dX5_init_117 : decode cX5_init 117 = .ok (.bipush 102, 2) := dk_16 102 (dk_at dksX5_init_5 0 rfl rfl)
theorem dX5_init_119 : decode cX5_init 119 = .ok (.bastore, 1) := dk_84 (dk_at dksX5_init_5 2 rfl rfl)
theorem dX5_init_120 : decode cX5_init 120 = .ok (.dup, 1) := dk_89 (dk_at dksX5_init_5 3 rfl rfl)
theorem dX5_init_121 : decode cX5_init 121 = .ok (.bipush 14, 2) := dk_16 14 (dk_at dksX5_init_5 4 rfl rfl)
theorem dX5_init_123 : decode cX5_init 123 = .ok (.bipush 32, 2) := dk_16 32 (dk_at dksX5_init_5 6 rfl rfl)
theorem dX5_init_125 : decode cX5_init 125 = .ok (.bastore, 1) := dk_84 (dk_at dksX5_init_5 8 rfl rfl)
theorem dX5_init_126 : decode cX5_init 126 = .ok (.dup, 1) := dk_89 (dk_at dksX5_init_5 9 rfl rfl)
theorem dX5_init_127 : decode cX5_init 127 = .ok (.bipush 15, 2) := dk_16 15 (dk_at dksX5_init_5 10 rfl rfl)
theorem dX5_init_129 : decode cX5_init 129 = .ok (.bipush 111, 2) := dk_16 111 (dk_at dksX5_init_5 12 rfl rfl)
theorem dX5_init_131 : decode cX5_init 131 = .ok (.bastore, 1) := dk_84 (dk_at dksX5_init_5 14 rfl rfl)
theorem dX5_init_132 : decode cX5_init 132 = .ok (.dup, 1) := dk_89 (dk_at dksX5_init_5 15 rfl rfl)
theorem dX5_init_133 : decode cX5_init 133 = .ok (.bipush 16, 2) := dk_16 16 (dk_at dksX5_init_5 16 rfl rfl)
theorem dX5_init_135 : decode cX5_init 135 = .ok (.bipush 114, 2) := dk_16 114 (dk_at dksX5_init_5 18 rfl rfl)
theorem dX5_init_137 : decode cX5_init 137 = .ok (.bastore, 1) := dk_84 (dk_at dksX5_init_5 20 rfl rfl)
theorem dX5_init_138 : decode cX5_init 138 = .ok (.dup, 1) := dk_89 (dk_at dksX5_init_5 21 rfl rfl)
theorem dX5_init_139 : decode cX5_init 139 = .ok (.bipush 17, 2) := dk_16 17 (dk_at dksX5_init_5 22 rfl rfl)
theorem dX5_init_141 : decode cX5_init 141 = .ok (.bipush 32, 2) := dk_16 32 (dk_at dksX5_init_6 0 rfl rfl)
theorem dX5_init_143 : decode cX5_init 143 = .ok (.bastore, 1) := dk_84 (dk_at dksX5_init_6 2 rfl rfl)
theorem dX5_init_144 : decode cX5_init 144 = .ok (.dup, 1) := dk_89 (dk_at dksX5_init_6 3 rfl rfl)
theorem dX5_init_145 : decode cX5_init 145 = .ok (.bipush 18, 2) := dk_16 18 (dk_at dksX5_init_6 4 rfl rfl)
theorem dX5_init_147 : decode cX5_init 147 = .ok (.bipush 97, 2) := dk_16 97 (dk_at dksX5_init_6 6 rfl rfl)
theorem dX5_init_149 : decode cX5_init 149 = .ok (.bastore, 1) := dk_84 (dk_at dksX5_init_6 8 rfl rfl)
theorem dX5_init_150 : decode cX5_init 150 = .ok (.dup, 1) := dk_89 (dk_at dksX5_init_6 9 rfl rfl)
theorem dX5_init_151 : decode cX5_init 151 = .ok (.bipush 19, 2) := dk_16 19 (dk_at dksX5_init_6 10 rfl rfl)
theorem dX5_init_153 : decode cX5_init 153 = .ok (.bipush 110, 2) := dk_16 110 (dk_at dksX5_init_6 12 rfl rfl)
theorem dX5_init_155 : decode cX5_init 155 = .ok (.bastore, 1) := dk_84 (dk_at dksX5_init_6 14 rfl rfl)
theorem dX5_init_156 : decode cX5_init 156 = .ok (.dup, 1) := dk_89 (dk_at dksX5_init_6 15 rfl rfl)
theorem dX5_init_157 : decode cX5_init 157 = .ok (.bipush 20, 2) := dk_16 20 (dk_at dksX5_init_6 16 rfl rfl)
theorem dX5_init_159 : decode cX5_init 159 = .ok (.bipush 100, 2) := dk_16 100 (dk_at dksX5_init_6 18 rfl rfl)
theorem dX5_init_161 : decode cX5_init 161 = .ok (.bastore, 1) := dk_84 (dk_at dksX5_init_6 20 rfl rfl)
theorem dX5_init_162 : decode cX5_init 162 = .ok (.dup, 1) := dk_89 (dk_at dksX5_init_6 21 rfl rfl)
theorem dX5_init_163 : decode cX5_init 163 = .ok (.bipush 21, 2) := dk_16 21 (dk_at dksX5_init_6 22 rfl rfl)
theorem dX5_init_165 : decode cX5_init 165 = .ok (.bipush 32, 2) := dk_16 32 (dk_at dksX5_init_7 0 rfl rfl)
theorem dX5_init_167 : decode cX5_init 167 = .ok (.bastore, 1) := dk_84 (dk_at dksX5_init_7 2 rfl rfl)
theorem dX5_init_168 : decode cX5_init 168 = .ok (.dup, 1) := dk_89 (dk_at dksX5_init_7 3 rfl rfl)
theorem dX5_init_169 : decode cX5_init 169 = .ok (.bipush 22, 2) := dk_16 22 (dk_at dksX5_init_7 4 rfl rfl)
theorem dX5_init_171 : decode cX5_init 171 = .ok (.bipush 110, 2) := dk_16 110 (dk_at dksX5_init_7 6 rfl rfl)
theorem dX5_init_173 : decode cX5_init 173 = .ok (.bastore, 1) := dk_84 (dk_at dksX5_init_7 8 rfl rfl)
theorem dX5_init_174 : decode cX5_init 174 = .ok (.dup, 1) := dk_89 (dk_at dksX5_init_7 9 rfl rfl)
theorem dX5_init_175 : decode cX5_init 175 = .ok (.bipush 23, 2) := dk_16 23 (dk_at dksX5_init_7 10 rfl rfl)
theorem dX5_init_177 : decode cX5_init 177 = .ok (.bipush 111, 2) := dk_16 111 (dk_at dksX5_init_7 12 rfl rfl)
theorem dX5_init_179 : decode cX5_init 179 = .ok (.bastore, 1) := dk_84 (dk_at dksX5_init_7 14 rfl rfl)
theorem dX5_init_180 : decode cX5_init 180 = .ok (.dup, 1) := dk_89 (dk_at dksX5_init_7 15 rfl rfl)
theorem dX5_init_181 : decode cX5_init 181 = .ok (.bipush 24, 2) := dk_16 24 (dk_at dksX5_init_7 16 rfl rfl)
theorem dX5_init_183 : decode cX5_init 183 = .ok (.bipush 116, 2) := dk_16 116 (dk_at dksX5_init_7 18 rfl rfl)
theorem dX5_init_185 : decode cX5_init 185 = .ok (.bastore, 1) := dk_84 (dk_at dksX5_init_7 20 rfl rfl)
theorem dX5_init_186 : decode cX5_init 186 = .ok (.dup, 1) := dk_89 (dk_at dksX5_init_7 21 rfl rfl)
theorem dX5_init_187 : decode cX5_init 187 = .ok (.bipush 25, 2) := dk_16 25 (dk_at dksX5_init_7 22 rfl rfl)
theorem dX5_init_189 : decode cX5_init 189 = .ok (.bipush 32, 2) := dk_16 32 (dk_at dksX5_init_8 0 rfl rfl)
theorem dX5_init_191 : decode cX5_init 191 = .ok (.bastore, 1) := dk_84 (dk_at dksX5_init_8 2 rfl rfl)
theorem dX5_init_192 : decode cX5_init 192 = .ok (.dup, 1) := dk_89 (dk_at dksX5_init_8 3 rfl rfl)
theorem dX5_init_193 : decode cX5_init 193 = .ok (.bipush 26, 2) := dk_16 26 (dk_at dksX5_init_8 4 rfl rfl)
theorem dX5_init_195 : decode cX5_init 195 = .ok (.bipush 115, 2) := dk_16 115 (dk_at dksX5_init_8 6 rfl rfl)
theorem dX5_init_197 : decode cX5_init 197 = .ok (.bastore, 1) := dk_84 (dk_at dksX5_init_8 8 rfl rfl)
theorem dX5_init_198 : decode cX5_init 198 = .ok (.dup, 1) := dk_89 (dk_at dksX5_init_8 9 rfl rfl)
theorem dX5_init_199 : decode cX5_init 199 = .ok (.bipush 27, 2) := dk_16 27 (dk_at dksX5_init_8 10 rfl rfl)
theorem dX5_init_201 : decode cX5_init 201 = .ok (.bipush 116, 2) := dk_16 116 (dk_at dksX5_init_8 12 rfl rfl)
theorem dX5_init_203 : decode cX5_init 203 = .ok (.bastore, 1) := dk_84 (dk_at dksX5_init_8 14 rfl rfl)
theorem dX5_init_204 : decode cX5_init 204 = .ok (.dup, 1) := dk_89 (dk_at dksX5_init_8 15 rfl rfl)
theorem dX5_init_205 : decode cX5_init 205 = .ok (.bipush 28, 2) := dk_16 28 (dk_at dksX5_init_8 16 rfl rfl)
theorem dX5_init_207 : decode cX5_init 207 = .ok (.bipush 111, 2) := dk_16 111 (dk_at dksX5_init_8 18 rfl rfl)
theorem dX5_init_209 : decode cX5_init 209 = .ok (.bastore, 1) := dk_84 (dk_at dksX5_init_8 20 rfl rfl)
theorem dX5_init_210 : decode cX5_init 210 = .ok (.dup, 1) := dk_89 (dk_at dksX5_init_8 21 rfl rfl)
theorem dX5_init_211 : decode cX5_init 211 = .ok (.bipush 29, 2) := dk_16 29 (dk_at dksX5_init_8 22 rfl rfl)
theorem dX5_init_213 : decode cX5_init 213 = .ok (.bipush 110, 2) := dk_16 110 (dk_at dksX5_init_9 0 rfl rfl)
theorem dX5_init_215 : decode cX5_init 215 = .ok (.bastore, 1) := dk_84 (dk_at dksX5_init_9 2 rfl rfl)
theorem dX5_init_216 : decode cX5_init 216 = .ok (.dup, 1) := dk_89 (dk_at dksX5_init_9 3 rfl rfl)
theorem dX5_init_217 : decode cX5_init 217 = .ok (.bipush 30, 2) := dk_16 30 (dk_at dksX5_init_9 4 rfl rfl)
theorem dX5_init_219 : decode cX5_init 219 = .ok (.bipush 101, 2) := dk_16 101 (dk_at dksX5_init_9 6 rfl rfl)
theorem dX5_init_221 : decode cX5_init 221 = .ok (.bastore, 1) := dk_84 (dk_at dksX5_init_9 8 rfl rfl)
theorem dX5_init_222 : decode cX5_init 222 = .ok (.dup, 1) := dk_89 (dk_at dksX5_init_9 9 rfl rfl)
theorem dX5_init_223 : decode cX5_init 223 = .ok (.bipush 31, 2) := dk_16 31 (dk_at dksX5_init_9 10 rfl rfl)
theorem dX5_init_225 : decode cX5_init 225 = .ok (.bipush 32, 2) := dk_16 32 (dk_at dksX5_init_9 12 rfl rfl)
theorem dX5_init_227 : decode cX5_init 227 = .ok (.bastore, 1) := dk_84 (dk_at dksX5_init_9 14 rfl rfl)
theorem dX5_init_228 : decode cX5_init 228 = .ok (.dup, 1) := dk_89 (dk_at dksX5_init_9 15 rfl rfl)
theorem dX5_init_229 : decode cX5_init 229 = .ok (.bipush 32, 2) := dk_16 32 (dk_at dksX5_init_9 16 rfl rfl)
theorem dX5_init_231 : decode cX5_init 231 = .ok (.bipush 120, 2) := dk_16 120 (dk_at dksX5_init_9 18 rfl rfl)
theorem dX5_init_233 : decode cX5_init 233 = .ok (.bastore, 1) := dk_84 (dk_at dksX5_init_9 20 rfl rfl)
theorem dX5_init_234 : decode cX5_init 234 = .ok (.dup, 1) := dk_89 (dk_at dksX5_init_9 21 rfl rfl)
theorem dX5_init_235 : decode cX5_init 235 = .ok (.bipush 33, 2) := dk_16 33 (dk_at dksX5_init_9 22 rfl rfl)
theorem dX5_init_237 : decode cX5_init 237 = .ok (.bipush 32, 2) := dk_16 32 (dk_at dksX5_init_10 0 rfl rfl)
theorem dX5_init_239 : decode cX5_init 239 = .ok (.bastore, 1) := dk_84 (dk_at dksX5_init_10 2 rfl rfl)
theorem dX5_init_240 : decode cX5_init 240 = .ok (.dup, 1) := dk_89 (dk_at dksX5_init_10 3 rfl rfl)
theorem dX5_init_241 : decode cX5_init 241 = .ok (.bipush 34, 2) := dk_16 34 (dk_at dksX5_init_10 4 rfl rfl)
theorem dX5_init_243 : decode cX5_init 243 = .ok (.bipush 121, 2) := dk_16 121 (dk_at dksX5_init_10 6 rfl rfl)
theorem dX5_init_245 : decode cX5_init 245 = .ok (.bastore, 1) := dk_84 (dk_at dksX5_init_10 8 rfl rfl)
theorem dX5_init_246 : decode cX5_init 246 = .ok (.dup, 1) := dk_89 (dk_at dksX5_init_10 9 rfl rfl)
theorem dX5_init_247 : decode cX5_init 247 = .ok (.bipush 35, 2) := dk_16 35 (dk_at dksX5_init_10 10 rfl rfl)
theorem dX5_init_249 : decode cX5_init 249 = .ok (.bipush 32, 2) := dk_16 32 (dk_at dksX5_init_10 12 rfl rfl)
theorem dX5_init_251 : decode cX5_init 251 = .ok (.bastore, 1) := dk_84 (dk_at dksX5_init_10 14 rfl rfl)
theorem dX5_init_252 : decode cX5_init 252 = .ok (.dup, 1) := dk_89 (dk_at dksX5_init_10 15 rfl rfl)
theorem dX5_init_253 : decode cX5_init 253 = .ok (.bipush 36, 2) := dk_16 36 (dk_at dksX5_init_10 16 rfl rfl)
theorem dX5_init_255 : decode cX5_init 255 = .ok (.bipush 119, 2) := dk_16 119 (dk_at dksX5_init_10 18 rfl rfl)
theorem dX5_init_257 : decode cX5_init 257 = .ok (.bastore, 1) := dk_84 (dk_at dksX5_init_10 20 rfl rfl)
theorem dX5_init_258 : decode cX5_init 258 = .ok (.dup, 1) := dk_89 (dk_at dksX5_init_10 21 rfl rfl)
theorem dX5_init_259 : decode cX5_init 259 = .ok (.bipush 37, 2) := dk_16 37 (dk_at dksX5_init_10 22 rfl rfl)
theorem dX5_init_261 : decode cX5_init 261 = .ok (.bipush 105, 2) := dk_16 105 (dk_at dksX5_init_11 0 rfl rfl)
theorem dX5_init_263 : decode cX5_init 263 = .ok (.bastore, 1) := dk_84 (dk_at dksX5_init_11 2 rfl rfl)
theorem dX5_init_264 : decode cX5_init 264 = .ok (.dup, 1) := dk_89 (dk_at dksX5_init_11 3 rfl rfl)
theorem dX5_init_265 : decode cX5_init 265 = .ok (.bipush 38, 2) := dk_16 38 (dk_at dksX5_init_11 4 rfl rfl)
theorem dX5_init_267 : decode cX5_init 267 = .ok (.bipush 100, 2) := dk_16 100 (dk_at dksX5_init_11 6 rfl rfl)
theorem dX5_init_269 : decode cX5_init 269 = .ok (.bastore, 1) := dk_84 (dk_at dksX5_init_11 8 rfl rfl)
theorem dX5_init_270 : decode cX5_init 270 = .ok (.dup, 1) := dk_89 (dk_at dksX5_init_11 9 rfl rfl)
theorem dX5_init_271 : decode cX5_init 271 = .ok (.bipush 39, 2) := dk_16 39 (dk_at dksX5_init_11 10 rfl rfl)
theorem dX5_init_273 : decode cX5_init 273 = .ok (.bipush 101, 2) := dk_16 101 (dk_at dksX5_init_11 12 rfl rfl)
theorem dX5_init_275 : decode cX5_init 275 = .ok (.bastore, 1) := dk_84 (dk_at dksX5_init_11 14 rfl rfl)
theorem dX5_init_276 : decode cX5_init 276 = .ok (.dup, 1) := dk_89 (dk_at dksX5_init_11 15 rfl rfl)
theorem dX5_init_277 : decode cX5_init 277 = .ok (.bipush 40, 2) := dk_16 40 (dk_at dksX5_init_11 16 rfl rfl)
theorem dX5_init_279 : decode cX5_init 279 = .ok (.bipush 32, 2) := dk_16 32 (dk_at dksX5_init_11 18 rfl rfl)
theorem dX5_init_281 : decode cX5_init 281 = .ok (.bastore, 1) := dk_84 (dk_at dksX5_init_11 20 rfl rfl)
theorem dX5_init_282 : decode cX5_init 282 = .ok (.dup, 1) := dk_89 (dk_at dksX5_init_11 21 rfl rfl)
theorem dX5_init_283 : decode cX5_init 283 = .ok (.bipush 41, 2) := dk_16 41 (dk_at dksX5_init_11 22 rfl rfl)
theorem dX5_init_285 : decode cX5_init 285 = .ok (.bipush 116, 2) := dk_16 116 (dk_at dksX5_init_12 0 rfl rfl)
theorem dX5_init_287 : decode cX5_init 287 = .ok (.bastore, 1) := dk_84 (dk_at dksX5_init_12 2 rfl rfl)
theorem dX5_init_288 : decode cX5_init 288 = .ok (.dup, 1) := dk_89 (dk_at dksX5_init_12 3 rfl rfl)
theorem dX5_init_289 : decode cX5_init 289 = .ok (.bipush 42, 2) := dk_16 42 (dk_at dksX5_init_12 4 rfl rfl)
theorem dX5_init_291 : decode cX5_init 291 = .ok (.bipush 97, 2) := dk_16 97 (dk_at dksX5_init_12 6 rfl rfl)
theorem dX5_init_293 : decode cX5_init 293 = .ok (.bastore, 1) := dk_84 (dk_at dksX5_init_12 8 rfl rfl)
theorem dX5_init_294 : decode cX5_init 294 = .ok (.dup, 1) := dk_89 (dk_at dksX5_init_12 9 rfl rfl)
theorem dX5_init_295 : decode cX5_init 295 = .ok (.bipush 43, 2) := dk_16 43 (dk_at dksX5_init_12 10 rfl rfl)
theorem dX5_init_297 : decode cX5_init 297 = .ok (.bipush 108, 2) := dk_16 108 (dk_at dksX5_init_12 12 rfl rfl)
theorem dX5_init_299 : decode cX5_init 299 = .ok (.bastore, 1) := dk_84 (dk_at dksX5_init_12 14 rfl rfl)
theorem dX5_init_300 : decode cX5_init 300 = .ok (.dup, 1) := dk_89 (dk_at dksX5_init_12 15 rfl rfl)
theorem dX5_init_301 : decode cX5_init 301 = .ok (.bipush 44, 2) := dk_16 44 (dk_at dksX5_init_12 16 rfl rfl)
theorem dX5_init_303 : decode cX5_init 303 = .ok (.bipush 108, 2) := dk_16 108 (dk_at dksX5_init_12 18 rfl rfl)
theorem dX5_init_305 : decode cX5_init 305 = .ok (.bastore, 1) := dk_84 (dk_at dksX5_init_12 20 rfl rfl)
theorem dX5_init_306 : decode cX5_init 306 = .ok (.dup, 1) := dk_89 (dk_at dksX5_init_12 21 rfl rfl)
theorem dX5_init_307 : decode cX5_init 307 = .ok (.bipush 45, 2) := dk_16 45 (dk_at dksX5_init_12 22 rfl rfl)
theorem dX5_init_309 : decode cX5_init 309 = .ok (.bipush 32, 2) := dk_16 32 (dk_at dksX5_init_13 0 rfl rfl)
theorem dX5_init_311 : decode cX5_init 311 = .ok (.bastore, 1) := dk_84 (dk_at dksX5_init_13 2 rfl rfl)
theorem dX5_init_312 : decode cX5_init 312 = .ok (.dup, 1) := dk_89 (dk_at dksX5_init_13 3 rfl rfl)
theorem dX5_init_313 : decode cX5_init 313 = .ok (.bipush 46, 2) := dk_16 46 (dk_at dksX5_init_13 4 rfl rfl)
theorem dX5_init_315 : decode cX5_init 315 = .ok (.bipush 119, 2) := dk_16 119 (dk_at dksX5_init_13 6 rfl rfl)
theorem dX5_init_317 : decode cX5_init 317 = .ok (.bastore, 1) := dk_84 (dk_at dksX5_init_13 8 rfl rfl)
theorem dX5_init_318 : decode cX5_init 318 = .ok (.dup, 1) := dk_89 (dk_at dksX5_init_13 9 rfl rfl)
theorem dX5_init_319 : decode cX5_init 319 = .ok (.bipush 47, 2) := dk_16 47 (dk_at dksX5_init_13 10 rfl rfl)
theorem dX5_init_321 : decode cX5_init 321 = .ok (.bipush 101, 2) := dk_16 101 (dk_at dksX5_init_13 12 rfl rfl)
theorem dX5_init_323 : decode cX5_init 323 = .ok (.bastore, 1) := dk_84 (dk_at dksX5_init_13 14 rfl rfl)
theorem dX5_init_324 : decode cX5_init 324 = .ok (.dup, 1) := dk_89 (dk_at dksX5_init_13 15 rfl rfl)
theorem dX5_init_325 : decode cX5_init 325 = .ok (.bipush 48, 2) := dk_16 48 (dk_at dksX5_init_13 16 rfl rfl)
theorem dX5_init_327 : decode cX5_init 327 = .ok (.bipush 105, 2) := dk_16 105 (dk_at dksX5_init_13 18 rfl rfl)
theorem dX5_init_329 : decode cX5_init 329 = .ok (.bastore, 1) := dk_84 (dk_at dksX5_init_13 20 rfl rfl)
theorem dX5_init_330 : decode cX5_init 330 = .ok (.dup, 1) := dk_89 (dk_at dksX5_init_13 21 rfl rfl)
theorem dX5_init_331 : decode cX5_init 331 = .ok (.bipush 49, 2) := dk_16 49 (dk_at dksX5_init_13 22 rfl rfl)
theorem dX5_init_333 : decode cX5_init 333 = .ok (.bipush 103, 2) := dk_16 103 (dk_at dksX5_init_14 0 rfl rfl)
theorem dX5_init_335 : decode cX5_init 335 = .ok (.bastore, 1) := dk_84 (dk_at dksX5_init_14 2 rfl rfl)
theorem dX5_init_336 : decode cX5_init 336 = .ok (.dup, 1) := dk_89 (dk_at dksX5_init_14 3 rfl rfl)
theorem dX5_init_337 : decode cX5_init 337 = .ok (.bipush 50, 2) := dk_16 50 (dk_at dksX5_init_14 4 rfl rfl)
theorem dX5_init_339 : decode cX5_init 339 = .ok (.bipush 104, 2) := dk_16 104 (dk_at dksX5_init_14 6 rfl rfl)
theorem dX5_init_341 : decode cX5_init 341 = .ok (.bastore, 1) := dk_84 (dk_at dksX5_init_14 8 rfl rfl)
theorem dX5_init_342 : decode cX5_init 342 = .ok (.dup, 1) := dk_89 (dk_at dksX5_init_14 9 rfl rfl)
theorem dX5_init_343 : decode cX5_init 343 = .ok (.bipush 51, 2) := dk_16 51 (dk_at dksX5_init_14 10 rfl rfl)
theorem dX5_init_345 : decode cX5_init 345 = .ok (.bipush 116, 2) := dk_16 116 (dk_at dksX5_init_14 12 rfl rfl)
theorem dX5_init_347 : decode cX5_init 347 = .ok (.bastore, 1) := dk_84 (dk_at dksX5_init_14 14 rfl rfl)
theorem dX5_init_348 : decode cX5_init 348 = .ok (.dup, 1) := dk_89 (dk_at dksX5_init_14 15 rfl rfl)
theorem dX5_init_349 : decode cX5_init 349 = .ok (.bipush 52, 2) := dk_16 52 (dk_at dksX5_init_14 16 rfl rfl)
theorem dX5_init_351 : decode cX5_init 351 = .ok (.bipush 32, 2) := dk_16 32 (dk_at dksX5_init_14 18 rfl rfl)
theorem dX5_init_353 : decode cX5_init 353 = .ok (.bastore, 1) := dk_84 (dk_at dksX5_init_14 20 rfl rfl)
theorem dX5_init_354 : decode cX5_init 354 = .ok (.dup, 1) := dk_89 (dk_at dksX5_init_14 21 rfl rfl)
theorem dX5_init_355 : decode cX5_init 355 = .ok (.bipush 53, 2) := dk_16 53 (dk_at dksX5_init_14 22 rfl rfl)
theorem dX5_init_357 : decode cX5_init 357 = .ok (.bipush 102, 2) := dk_16 102 (dk_at dksX5_init_15 0 rfl rfl)
theorem dX5_init_359 : decode cX5_init 359 = .ok (.bastore, 1) := dk_84 (dk_at dksX5_init_15 2 rfl rfl)
theorem dX5_init_360 : decode cX5_init 360 = .ok (.dup, 1) := dk_89 (dk_at dksX5_init_15 3 rfl rfl)
theorem dX5_init_361 : decode cX5_init 361 = .ok (.bipush 54, 2) := dk_16 54 (dk_at dksX5_init_15 4 rfl rfl)
theorem dX5_init_363 : decode cX5_init 363 = .ok (.bipush 97, 2) := dk_16 97 (dk_at dksX5_init_15 6 rfl rfl)
theorem dX5_init_365 : decode cX5_init 365 = .ok (.bastore, 1) := dk_84 (dk_at dksX5_init_15 8 rfl rfl)
theorem dX5_init_366 : decode cX5_init 366 = .ok (.dup, 1) := dk_89 (dk_at dksX5_init_15 9 rfl rfl)
theorem dX5_init_367 : decode cX5_init 367 = .ok (.bipush 55, 2) := dk_16 55 (dk_at dksX5_init_15 10 rfl rfl)
theorem dX5_init_369 : decode cX5_init 369 = .ok (.bipush 114, 2) := dk_16 114 (dk_at dksX5_init_15 12 rfl rfl)
theorem dX5_init_371 : decode cX5_init 371 = .ok (.bastore, 1) := dk_84 (dk_at dksX5_init_15 14 rfl rfl)
theorem dX5_init_372 : decode cX5_init 372 = .ok (.dup, 1) := dk_89 (dk_at dksX5_init_15 15 rfl rfl)
theorem dX5_init_373 : decode cX5_init 373 = .ok (.bipush 56, 2) := dk_16 56 (dk_at dksX5_init_15 16 rfl rfl)
theorem dX5_init_375 : decode cX5_init 375 = .ok (.bipush 109, 2) := dk_16 109 (dk_at dksX5_init_15 18 rfl rfl)
theorem dX5_init_377 : decode cX5_init 377 = .ok (.bastore, 1) := dk_84 (dk_at dksX5_init_15 20 rfl rfl)
theorem dX5_init_378 : decode cX5_init 378 = .ok (.dup, 1) := dk_89 (dk_at dksX5_init_15 21 rfl rfl)
theorem dX5_init_379 : decode cX5_init 379 = .ok (.bipush 57, 2) := dk_16 57 (dk_at dksX5_init_15 22 rfl rfl)
theorem dX5_init_381 : decode cX5_init 381 = .ok (.bipush 32, 2) := dk_16 32 (dk_at dksX5_init_16 0 rfl rfl)
theorem dX5_init_383 : decode cX5_init 383 = .ok (.bastore, 1) := dk_84 (dk_at dksX5_init_16 2 rfl rfl)
theorem dX5_init_384 : decode cX5_init 384 = .ok (.dup, 1) := dk_89 (dk_at dksX5_init_16 3 rfl rfl)
theorem dX5_init_385 : decode cX5_init 385 = .ok (.bipush 58, 2) := dk_16 58 (dk_at dksX5_init_16 4 rfl rfl)
theorem dX5_init_387 : decode cX5_init 387 = .ok (.bipush 102, 2) := dk_16 102 (dk_at dksX5_init_16 6 rfl rfl)
theorem dX5_init_389 : decode cX5_init 389 = .ok (.bastore, 1) := dk_84 (dk_at dksX5_init_16 8 rfl rfl)
theorem dX5_init_390 : decode cX5_init 390 = .ok (.dup, 1) := dk_89 (dk_at dksX5_init_16 9 rfl rfl)
theorem dX5_init_391 : decode cX5_init 391 = .ok (.bipush 59, 2) := dk_16 59 (dk_at dksX5_init_16 10 rfl rfl)
theorem dX5_init_393 : decode cX5_init 393 = .ok (.bipush 114, 2) := dk_16 114 (dk_at dksX5_init_16 12 rfl rfl)
theorem dX5_init_395 : decode cX5_init 395 = .ok (.bastore, 1) := dk_84 (dk_at dksX5_init_16 14 rfl rfl)
theorem dX5_init_396 : decode cX5_init 396 = .ok (.dup, 1) := dk_89 (dk_at dksX5_init_16 15 rfl rfl)
theorem dX5_init_397 : decode cX5_init 397 = .ok (.bipush 60, 2) := dk_16 60 (dk_at dksX5_init_16 16 rfl rfl)
theorem dX5_init_399 : decode cX5_init 399 = .ok (.bipush 111, 2) := dk_16 111 (dk_at dksX5_init_16 18 rfl rfl)
theorem dX5_init_401 : decode cX5_init 401 = .ok (.bastore, 1) := dk_84 (dk_at dksX5_init_16 20 rfl rfl)
theorem dX5_init_402 : decode cX5_init 402 = .ok (.dup, 1) := dk_89 (dk_at dksX5_init_16 21 rfl rfl)
theorem dX5_init_403 : decode cX5_init 403 = .ok (.bipush 61, 2) := dk_16 61 (dk_at dksX5_init_16 22 rfl rfl)
theorem dX5_init_405 : decode cX5_init 405 = .ok (.bipush 115, 2) := dk_16 115 (dk_at dksX5_init_17 0 rfl rfl)
theorem dX5_init_407 : decode cX5_init 407 = .ok (.bastore, 1) := dk_84 (dk_at dksX5_init_17 2 rfl rfl)
theorem dX5_init_408 : decode cX5_init 408 = .ok (.dup, 1) := dk_89 (dk_at dksX5_init_17 3 rfl rfl)
theorem dX5_init_409 : decode cX5_init 409 = .ok (.bipush 62, 2) := dk_16 62 (dk_at dksX5_init_17 4 rfl rfl)
theorem dX5_init_411 : decode cX5_init 411 = .ok (.bipush 116, 2) := dk_16 116 (dk_at dksX5_init_17 6 rfl rfl)
theorem dX5_init_413 : decode cX5_init 413 = .ok (.bastore, 1) := dk_84 (dk_at dksX5_init_17 8 rfl rfl)
theorem dX5_init_414 : decode cX5_init 414 = .ok (.dup, 1) := dk_89 (dk_at dksX5_init_17 9 rfl rfl)
theorem dX5_init_415 : decode cX5_init 415 = .ok (.bipush 63, 2) := dk_16 63 (dk_at dksX5_init_17 10 rfl rfl)
theorem dX5_init_417 : decode cX5_init 417 = .ok (.bipush 32, 2) := dk_16 32 (dk_at dksX5_init_17 12 rfl rfl)
theorem dX5_init_419 : decode cX5_init 419 = .ok (.bastore, 1) := dk_84 (dk_at dksX5_init_17 14 rfl rfl)
theorem dX5_init_420 : decode cX5_init 420 = .ok (.putfield 30, 3) := dk_181 0 30 (dk_at dksX5_init_17 15 rfl rfl)
theorem dX5_init_423 : decode cX5_init 423 = .ok (.aload_n 0, 1) := dk_42 (dk_at dksX5_init_17 18 rfl rfl)
theorem dX5_init_424 : decode cX5_init 424 = .ok (.sipush 400, 3) := dk_17 1 144 (dk_at dksX5_init_17 19 rfl rfl)
theorem dX5_init_427 : decode cX5_init 427 = .ok (.newarray .byte, 2) := dk_188_8 (dk_at dksX5_init_17 22 rfl rfl)
theorem dX5_init_429 : decode cX5_init 429 = .ok (.putfield 34, 3) := dk_181 0 34 (dk_at dksX5_init_18 0 rfl rfl)
theorem dX5_init_432 : decode cX5_init 432 = .ok (.aload_n 0, 1) := dk_42 (dk_at dksX5_init_18 3 rfl rfl)
theorem dX5_init_433 : decode cX5_init 433 = .ok (.iconst 5, 1) := dk_8 (dk_at dksX5_init_18 4 rfl rfl)
theorem dX5_init_434 : decode cX5_init 434 = .ok (.newarray .int, 2) := dk_188_10 (dk_at dksX5_init_18 5 rfl rfl)
theorem dX5_init_436 : decode cX5_init 436 = .ok (.putfield 37, 3) := dk_181 0 37 (dk_at dksX5_init_18 7 rfl rfl)
theorem dX5_init_439 : decode cX5_init 439 = .ok (.aload_n 0, 1) := dk_42 (dk_at dksX5_init_18 10 rfl rfl)
theorem dX5_init_440 : decode cX5_init 440 = .ok (.iconst (-1), 1) := dk_2 (dk_at dksX5_init_18 11 rfl rfl)
theorem dX5_init_441 : decode cX5_init 441 = .ok (.putfield 40, 3) := dk_181 0 40 (dk_at dksX5_init_18 12 rfl rfl)
theorem dX5_init_444 : decode cX5_init 444 = .ok (.aload_n 0, 1) := dk_42 (dk_at dksX5_init_18 15 rfl rfl)
theorem dX5_init_445 : decode cX5_init 445 = .ok (.sipush 401, 3) := dk_17 1 145 (dk_at dksX5_init_18 16 rfl rfl)
theorem dX5_init_448 : decode cX5_init 448 = .ok (.newarray .int, 2) := dk_188_10 (dk_at dksX5_init_18 19 rfl rfl)
theorem dX5_init_450 : decode cX5_init 450 = .ok (.putfield 43, 3) := dk_181 0 43 (dk_at dksX5_init_18 21 rfl rfl)
theorem dX5_init_453 : decode cX5_init 453 = .ok (.aload_n 0, 1) := dk_42 (dk_at dksX5_init_19 0 rfl rfl)
theorem dX5_init_454 : decode cX5_init 454 = .ok (.sipush 401, 3) := dk_17 1 145 (dk_at dksX5_init_19 1 rfl rfl)
theorem dX5_init_457 : decode cX5_init 457 = .ok (.newarray .int, 2) := dk_188_10 (dk_at dksX5_init_19 4 rfl rfl)
theorem dX5_init_459 : decode cX5_init 459 = .ok (.putfield 46, 3) := dk_181 0 46 (dk_at dksX5_init_19 6 rfl rfl)
theorem dX5_init_462 : decode cX5_init 462 = .ok (.aload_n 0, 1) := dk_42 (dk_at dksX5_init_19 9 rfl rfl)
theorem dX5_init_463 : decode cX5_init 463 = .ok (.sipush 401, 3) := dk_17 1 145 (dk_at dksX5_init_19 10 rfl rfl)
theorem dX5_init_466 : decode cX5_init 466 = .ok (.newarray .int, 2) := dk_188_10 (dk_at dksX5_init_19 13 rfl rfl)
theorem dX5_init_468 : decode cX5_init 468 = .ok (.putfield 49, 3) := dk_181 0 49 (dk_at dksX5_init_19 15 rfl rfl)
theorem dX5_init_471 : decode cX5_init 471 = .ok (.aload_n 0, 1) := dk_42 (dk_at dksX5_init_19 18 rfl rfl)
theorem dX5_init_472 : decode cX5_init 472 = .ok (.bipush 8, 2) := dk_16 8 (dk_at dksX5_init_19 19 rfl rfl)
theorem dX5_init_474 : decode cX5_init 474 = .ok (.newarray .int, 2) := dk_188_10 (dk_at dksX5_init_19 21 rfl rfl)
theorem dX5_init_476 : decode cX5_init 476 = .ok (.putfield 52, 3) := dk_181 0 52 (dk_at dksX5_init_20 0 rfl rfl)
theorem dX5_init_479 : decode cX5_init 479 = .ok (.aload_n 0, 1) := dk_42 (dk_at dksX5_init_20 3 rfl rfl)
theorem dX5_init_480 : decode cX5_init 480 = .ok (.bipush 22, 2) := dk_16 22 (dk_at dksX5_init_20 4 rfl rfl)
theorem dX5_init_482 : decode cX5_init 482 = .ok (.newarray .int, 2) := dk_188_10 (dk_at dksX5_init_20 6 rfl rfl)
theorem dX5_init_484 : decode cX5_init 484 = .ok (.putfield 55, 3) := dk_181 0 55 (dk_at dksX5_init_20 8 rfl rfl)
theorem dX5_init_487 : decode cX5_init 487 = .ok (.aload_n 0, 1) := dk_42 (dk_at dksX5_init_20 11 rfl rfl)
theorem dX5_init_488 : decode cX5_init 488 = .ok (.bipush 22, 2) := dk_16 22 (dk_at dksX5_init_20 12 rfl rfl)
theorem dX5_init_490 : decode cX5_init 490 = .ok (.newarray .boolean, 2) := dk_188_4 (dk_at dksX5_init_20 14 rfl rfl)
theorem dX5_init_492 : decode cX5_init 492 = .ok (.putfield 58, 3) := dk_181 0 58 (dk_at dksX5_init_20 16 rfl rfl)
theorem dX5_init_495 : decode cX5_init 495 = .ok (.aload_n 0, 1) := dk_42 (dk_at dksX5_init_20 19 rfl rfl)
theorem dX5_init_496 : decode cX5_init 496 = .ok (.bipush 22, 2) := dk_16 22 (dk_at dksX5_init_20 20 rfl rfl)
theorem dX5_init_498 : decode cX5_init 498 = .ok (.newarray .int, 2) := dk_188_10 (dk_at dksX5_init_20 22 rfl rfl)
theorem dX5_init_500 : decode cX5_init 500 = .ok (.putfield 61, 3) := dk_181 0 61 (dk_at dksX5_init_21 0 rfl rfl)
theorem dX5_init_503 : decode cX5_init 503 = .ok (.aload_n 0, 1) := dk_42 (dk_at dksX5_init_21 3 rfl rfl)
theorem dX5_init_504 : decode cX5_init 504 = .ok (.bipush 22, 2) := dk_16 22 (dk_at dksX5_init_21 4 rfl rfl)
theorem dX5_init_506 : decode cX5_init 506 = .ok (.newarray .int, 2) := dk_188_10 (dk_at dksX5_init_21 6 rfl rfl)
theorem dX5_init_508 : decode cX5_init 508 = .ok (.putfield 64, 3) := dk_181 0 64 (dk_at dksX5_init_21 8 rfl rfl)
theorem dX5_init_511 : decode cX5_init 511 = .ok (.aload_n 0, 1) := dk_42 (dk_at dksX5_init_21 11 rfl rfl)
theorem dX5_init_512 : decode cX5_init 512 = .ok (.iconst (-1), 1) := dk_2 (dk_at dksX5_init_21 12 rfl rfl)
theorem dX5_init_513 : decode cX5_init 513 = .ok (.putfield 67, 3) := dk_181 0 67 (dk_at dksX5_init_21 13 rfl rfl)
theorem dX5_init_516 : decode cX5_init 516 = .ok (.aload_n 0, 1) := dk_42 (dk_at dksX5_init_21 16 rfl rfl)
theorem dX5_init_517 : decode cX5_init 517 = .ok (.sipush 16384, 3) := dk_17 64 0 (dk_at dksX5_init_21 17 rfl rfl)
theorem dX5_init_520 : decode cX5_init 520 = .ok (.newarray .boolean, 2) := dk_188_4 (dk_at dksX5_init_21 20 rfl rfl)
theorem dX5_init_522 : decode cX5_init 522 = .ok (.putfield 70, 3) := dk_181 0 70 (dk_at dksX5_init_22 0 rfl rfl)
theorem dX5_init_525 : decode cX5_init 525 = .ok (.aload_n 0, 1) := dk_42 (dk_at dksX5_init_22 3 rfl rfl)
theorem dX5_init_526 : decode cX5_init 526 = .ok (.sipush 16384, 3) := dk_17 64 0 (dk_at dksX5_init_22 4 rfl rfl)
theorem dX5_init_529 : decode cX5_init 529 = .ok (.newarray .int, 2) := dk_188_10 (dk_at dksX5_init_22 7 rfl rfl)
theorem dX5_init_531 : decode cX5_init 531 = .ok (.putfield 73, 3) := dk_181 0 73 (dk_at dksX5_init_22 9 rfl rfl)
theorem dX5_init_534 : decode cX5_init 534 = .ok (.aload_n 0, 1) := dk_42 (dk_at dksX5_init_22 12 rfl rfl)
theorem dX5_init_535 : decode cX5_init 535 = .ok (.sipush 16384, 3) := dk_17 64 0 (dk_at dksX5_init_22 13 rfl rfl)
theorem dX5_init_538 : decode cX5_init 538 = .ok (.newarray .boolean, 2) := dk_188_4 (dk_at dksX5_init_22 16 rfl rfl)
theorem dX5_init_540 : decode cX5_init 540 = .ok (.putfield 76, 3) := dk_181 0 76 (dk_at dksX5_init_22 18 rfl rfl)
theorem dX5_init_543 : decode cX5_init 543 = .ok (.aload_n 0, 1) := dk_42 (dk_at dksX5_init_22 21 rfl rfl)
theorem dX5_init_544 : decode cX5_init 544 = .ok (.sipush 16384, 3) := dk_17 64 0 (dk_at dksX5_init_23 0 rfl rfl)
theorem dX5_init_547 : decode cX5_init 547 = .ok (.newarray .boolean, 2) := dk_188_4 (dk_at dksX5_init_23 3 rfl rfl)
theorem dX5_init_549 : decode cX5_init 549 = .ok (.putfield 79, 3) := dk_181 0 79 (dk_at dksX5_init_23 5 rfl rfl)
theorem dX5_init_552 : decode cX5_init 552 = .ok (.aload_n 0, 1) := dk_42 (dk_at dksX5_init_23 8 rfl rfl)
theorem dX5_init_553 : decode cX5_init 553 = .ok (.iconst (-1), 1) := dk_2 (dk_at dksX5_init_23 9 rfl rfl)
theorem dX5_init_554 : decode cX5_init 554 = .ok (.putfield 82, 3) := dk_181 0 82 (dk_at dksX5_init_23 10 rfl rfl)
theorem dX5_init_557 : decode cX5_init 557 = .ok (.aload_n 0, 1) := dk_42 (dk_at dksX5_init_23 13 rfl rfl)
theorem dX5_init_558 : decode cX5_init 558 = .ok (.sipush 16384, 3) := dk_17 64 0 (dk_at dksX5_init_23 14 rfl rfl)
theorem dX5_init_561 : decode cX5_init 561 = .ok (.newarray .boolean, 2) := dk_188_4 (dk_at dksX5_init_23 17 rfl rfl)
theorem dX5_init_563 : decode cX5_init 563 = .ok (.putfield 85, 3) := dk_181 0 85 (dk_at dksX5_init_23 19 rfl rfl)
theorem dX5_init_566 : decode cX5_init 566 = .ok (.aload_n 0, 1) := dk_42 (dk_at dksX5_init_23 22 rfl rfl)
theorem dX5_init_567 : decode cX5_init 567 = .ok (.bipush 40, 2) := dk_16 40 (dk_at dksX5_init_24 0 rfl rfl)
theorem dX5_init_569 : decode cX5_init 569 = .ok (.newarray .int, 2) := dk_188_10 (dk_at dksX5_init_24 2 rfl rfl)
theorem dX5_init_571 : decode cX5_init 571 = .ok (.putfield 88, 3) := dk_181 0 88 (dk_at dksX5_init_24 4 rfl rfl)
theorem dX5_init_574 : decode cX5_init 574 = .ok (.aload_n 0, 1) := dk_42 (dk_at dksX5_init_24 7 rfl rfl)
theorem dX5_init_575 : decode cX5_init 575 = .ok (.getfield 20, 3) := dk_180 0 20 (dk_at dksX5_init_24 8 rfl rfl)
theorem dX5_init_578 : decode cX5_init 578 = .ok (.sipush 154, 3) := dk_17 0 154 (dk_at dksX5_init_24 11 rfl rfl)
theorem dX5_init_581 : decode cX5_init 581 = .ok (.iconst 5, 1) := dk_8 (dk_at dksX5_init_24 14 rfl rfl)
theorem dX5_init_582 : decode cX5_init 582 = .ok (.iastore, 1) := dk_79 (dk_at dksX5_init_24 15 rfl rfl)
theorem dX5_init_583 : decode cX5_init 583 = .ok (.aload_n 0, 1) := dk_42 (dk_at dksX5_init_24 16 rfl rfl)
theorem dX5_init_584 : decode cX5_init 584 = .ok (.getfield 20, 3) := dk_180 0 20 (dk_at dksX5_init_24 17 rfl rfl)
theorem dX5_init_587 : decode cX5_init 587 = .ok (.sipush 155, 3) := dk_17 0 155 (dk_at dksX5_init_24 20 rfl rfl)
theorem dX5_init_590 : decode cX5_init 590 = .ok (.iconst 2, 1) := dk_5 (dk_at dksX5_init_24 23 rfl rfl)
theorem dX5_init_591 : decode cX5_init 591 = .ok (.iastore, 1) := dk_79 (dk_at dksX5_init_25 0 rfl rfl)
theorem dX5_init_592 : decode cX5_init 592 = .ok (.aload_n 0, 1) := dk_42 (dk_at dksX5_init_25 1 rfl rfl)
theorem dX5_init_593 : decode cX5_init 593 = .ok (.getfield 20, 3) := dk_180 0 20 (dk_at dksX5_init_25 2 rfl rfl)
theorem dX5_init_596 : decode cX5_init 596 = .ok (.sipush 156, 3) := dk_17 0 156 (dk_at dksX5_init_25 5 rfl rfl)
theorem dX5_init_599 : decode cX5_init 599 = .ok (.iconst 1, 1) := dk_4 (dk_at dksX5_init_25 8 rfl rfl)
theorem dX5_init_600 : decode cX5_init 600 = .ok (.iastore, 1) := dk_79 (dk_at dksX5_init_25 9 rfl rfl)
theorem dX5_init_601 : decode cX5_init 601 = .ok (.aload_n 0, 1) := dk_42 (dk_at dksX5_init_25 10 rfl rfl)
theorem dX5_init_602 : decode cX5_init 602 = .ok (.getfield 20, 3) := dk_180 0 20 (dk_at dksX5_init_25 11 rfl rfl)
theorem dX5_init_605 : decode cX5_init 605 = .ok (.sipush 161, 3) := dk_17 0 161 (dk_at dksX5_init_25 14 rfl rfl)
theorem dX5_init_608 : decode cX5_init 608 = .ok (.iconst (-1), 1) := dk_2 (dk_at dksX5_init_25 17 rfl rfl)
theorem dX5_init_609 : decode cX5_init 609 = .ok (.iastore, 1) := dk_79 (dk_at dksX5_init_25 18 rfl rfl)
theorem dX5_init_610 : decode cX5_init 610 = .ok (.return_, 1) := dk_177 (dk_at dksX5_init_25 19 rfl rfl)
abbrev cX5_image : ByteArray := prog_25_method_7_code
def yX5_image : MethodName := ⟨RX5, "image", "(I)I"⟩
def dkwX5_image_2 : List UInt8 := [42, 180, 0, 26, 27, 4, 84, 42, 3, 182, 0, 99, 172]
abbrev dktX5_image_2 : List UInt8 := dkwX5_image_2 ++ []
def dkwX5_image_1 : List UInt8 := [42, 180, 0, 23, 17, 19, 104, 27, 104, 28, 96, 42, 180, 0, 20, 28, 46, 79, 132, 2, 1, 167, 255, 228]
abbrev dktX5_image_1 : List UInt8 := dkwX5_image_1 ++ dktX5_image_2
def dkwX5_image_0 : List UInt8 := [27, 3, 4, 184, 0, 91, 154, 0, 9, 42, 2, 182, 0, 95, 172, 3, 61, 28, 17, 19, 104, 162, 0, 27]
abbrev dktX5_image_0 : List UInt8 := dkwX5_image_0 ++ dktX5_image_1
theorem dksX5_image_0 : cX5_image.data.toList.drop 0 = dktX5_image_0 := by decide +kernel
theorem dksX5_image_1 : cX5_image.data.toList.drop 24 = dktX5_image_1 := dk_seg dksX5_image_0 24 rfl rfl
theorem dksX5_image_2 : cX5_image.data.toList.drop 48 = dktX5_image_2 := dk_seg dksX5_image_1 24 rfl rfl
theorem dX5_image_0 : decode cX5_image 0 = .ok (.iload_n 1, 1) := dk_27 (dk_at dksX5_image_0 0 rfl rfl)
theorem dX5_image_1 : decode cX5_image 1 = .ok (.iconst 0, 1) := dk_3 (dk_at dksX5_image_0 1 rfl rfl)
theorem dX5_image_2 : decode cX5_image 2 = .ok (.iconst 1, 1) := dk_4 (dk_at dksX5_image_0 2 rfl rfl)
theorem dX5_image_3 : decode cX5_image 3 = .ok (.invokestatic 91, 3) := dk_184 0 91 (dk_at dksX5_image_0 3 rfl rfl)
theorem dX5_image_6 : decode cX5_image 6 = .ok (.ifCond .ne 9, 3) := dk_154 0 9 (dk_at dksX5_image_0 6 rfl rfl)
theorem dX5_image_9 : decode cX5_image 9 = .ok (.aload_n 0, 1) := dk_42 (dk_at dksX5_image_0 9 rfl rfl)
theorem dX5_image_10 : decode cX5_image 10 = .ok (.iconst (-1), 1) := dk_2 (dk_at dksX5_image_0 10 rfl rfl)
theorem dX5_image_11 : decode cX5_image 11 = .ok (.invokevirtual 95, 3) := dk_182 0 95 (dk_at dksX5_image_0 11 rfl rfl)
theorem dX5_image_14 : decode cX5_image 14 = .ok (.ireturn, 1) := dk_172 (dk_at dksX5_image_0 14 rfl rfl)
theorem dX5_image_15 : decode cX5_image 15 = .ok (.iconst 0, 1) := dk_3 (dk_at dksX5_image_0 15 rfl rfl)
theorem dX5_image_16 : decode cX5_image 16 = .ok (.istore_n 2, 1) := dk_61 (dk_at dksX5_image_0 16 rfl rfl)
theorem dX5_image_17 : decode cX5_image 17 = .ok (.iload_n 2, 1) := dk_28 (dk_at dksX5_image_0 17 rfl rfl)
theorem dX5_image_18 : decode cX5_image 18 = .ok (.sipush 4968, 3) := dk_17 19 104 (dk_at dksX5_image_0 18 rfl rfl)
theorem dX5_image_21 : decode cX5_image 21 = .ok (.if_icmp .ge 27, 3) := dk_162 0 27 (dk_at dksX5_image_0 21 rfl rfl)
theorem dX5_image_24 : decode cX5_image 24 = .ok (.aload_n 0, 1) := dk_42 (dk_at dksX5_image_1 0 rfl rfl)
theorem dX5_image_25 : decode cX5_image 25 = .ok (.getfield 23, 3) := dk_180 0 23 (dk_at dksX5_image_1 1 rfl rfl)
theorem dX5_image_28 : decode cX5_image 28 = .ok (.sipush 4968, 3) := dk_17 19 104 (dk_at dksX5_image_1 4 rfl rfl)
theorem dX5_image_31 : decode cX5_image 31 = .ok (.iload_n 1, 1) := dk_27 (dk_at dksX5_image_1 7 rfl rfl)
theorem dX5_image_32 : decode cX5_image 32 = .ok (.imul, 1) := dk_104 (dk_at dksX5_image_1 8 rfl rfl)
theorem dX5_image_33 : decode cX5_image 33 = .ok (.iload_n 2, 1) := dk_28 (dk_at dksX5_image_1 9 rfl rfl)
theorem dX5_image_34 : decode cX5_image 34 = .ok (.iadd, 1) := dk_96 (dk_at dksX5_image_1 10 rfl rfl)
theorem dX5_image_35 : decode cX5_image 35 = .ok (.aload_n 0, 1) := dk_42 (dk_at dksX5_image_1 11 rfl rfl)
theorem dX5_image_36 : decode cX5_image 36 = .ok (.getfield 20, 3) := dk_180 0 20 (dk_at dksX5_image_1 12 rfl rfl)
theorem dX5_image_39 : decode cX5_image 39 = .ok (.iload_n 2, 1) := dk_28 (dk_at dksX5_image_1 15 rfl rfl)
theorem dX5_image_40 : decode cX5_image 40 = .ok (.iaload, 1) := dk_46 (dk_at dksX5_image_1 16 rfl rfl)
theorem dX5_image_41 : decode cX5_image 41 = .ok (.iastore, 1) := dk_79 (dk_at dksX5_image_1 17 rfl rfl)
theorem dX5_image_42 : decode cX5_image 42 = .ok (.iinc 2 1, 3) := dk_132 2 1 (dk_at dksX5_image_1 18 rfl rfl)
theorem dX5_image_45 : decode cX5_image 45 = .ok (.goto (-28), 3) := dk_167 255 228 (dk_at dksX5_image_1 21 rfl rfl)
theorem dX5_image_48 : decode cX5_image 48 = .ok (.aload_n 0, 1) := dk_42 (dk_at dksX5_image_2 0 rfl rfl)
theorem dX5_image_49 : decode cX5_image 49 = .ok (.getfield 26, 3) := dk_180 0 26 (dk_at dksX5_image_2 1 rfl rfl)
theorem dX5_image_52 : decode cX5_image 52 = .ok (.iload_n 1, 1) := dk_27 (dk_at dksX5_image_2 4 rfl rfl)
theorem dX5_image_53 : decode cX5_image 53 = .ok (.iconst 1, 1) := dk_4 (dk_at dksX5_image_2 5 rfl rfl)
theorem dX5_image_54 : decode cX5_image 54 = .ok (.bastore, 1) := dk_84 (dk_at dksX5_image_2 6 rfl rfl)
theorem dX5_image_55 : decode cX5_image 55 = .ok (.aload_n 0, 1) := dk_42 (dk_at dksX5_image_2 7 rfl rfl)
theorem dX5_image_56 : decode cX5_image 56 = .ok (.iconst 0, 1) := dk_3 (dk_at dksX5_image_2 8 rfl rfl)
theorem dX5_image_57 : decode cX5_image 57 = .ok (.invokevirtual 99, 3) := dk_182 0 99 (dk_at dksX5_image_2 9 rfl rfl)
theorem dX5_image_60 : decode cX5_image 60 = .ok (.ireturn, 1) := dk_172 (dk_at dksX5_image_2 12 rfl rfl)
abbrev cX5_lies : ByteArray := prog_25_method_1_code
def yX5_lies : MethodName := ⟨RX5, "lies", "(III)Z"⟩
def dkwX5_lies_0 : List UInt8 := [26, 27, 161, 0, 12, 26, 28, 163, 0, 7, 4, 167, 0, 4, 3, 172]
abbrev dktX5_lies_0 : List UInt8 := dkwX5_lies_0 ++ []
theorem dksX5_lies_0 : cX5_lies.data.toList.drop 0 = dktX5_lies_0 := by decide +kernel
theorem dX5_lies_0 : decode cX5_lies 0 = .ok (.iload_n 0, 1) := dk_26 (dk_at dksX5_lies_0 0 rfl rfl)
theorem dX5_lies_1 : decode cX5_lies 1 = .ok (.iload_n 1, 1) := dk_27 (dk_at dksX5_lies_0 1 rfl rfl)
theorem dX5_lies_2 : decode cX5_lies 2 = .ok (.if_icmp .lt 12, 3) := dk_161 0 12 (dk_at dksX5_lies_0 2 rfl rfl)
theorem dX5_lies_5 : decode cX5_lies 5 = .ok (.iload_n 0, 1) := dk_26 (dk_at dksX5_lies_0 5 rfl rfl)
theorem dX5_lies_6 : decode cX5_lies 6 = .ok (.iload_n 2, 1) := dk_28 (dk_at dksX5_lies_0 6 rfl rfl)
theorem dX5_lies_7 : decode cX5_lies 7 = .ok (.if_icmp .gt 7, 3) := dk_163 0 7 (dk_at dksX5_lies_0 7 rfl rfl)
theorem dX5_lies_10 : decode cX5_lies 10 = .ok (.iconst 1, 1) := dk_4 (dk_at dksX5_lies_0 10 rfl rfl)
theorem dX5_lies_11 : decode cX5_lies 11 = .ok (.goto 4, 3) := dk_167 0 4 (dk_at dksX5_lies_0 11 rfl rfl)
theorem dX5_lies_14 : decode cX5_lies 14 = .ok (.iconst 0, 1) := dk_3 (dk_at dksX5_lies_0 14 rfl rfl)
theorem dX5_lies_15 : decode cX5_lies 15 = .ok (.ireturn, 1) := dk_172 (dk_at dksX5_lies_0 15 rfl rfl)
abbrev cX5_refuses : ByteArray := prog_25_method_2_code
def yX5_refuses : MethodName := ⟨RX5, "refuses", "(I)I"⟩
def dkwX5_refuses_0 : List UInt8 := [42, 27, 181, 0, 3, 42, 180, 0, 7, 27, 116, 92, 46, 4, 96, 79, 27, 172]
abbrev dktX5_refuses_0 : List UInt8 := dkwX5_refuses_0 ++ []
theorem dksX5_refuses_0 : cX5_refuses.data.toList.drop 0 = dktX5_refuses_0 := by decide +kernel
theorem dX5_refuses_0 : decode cX5_refuses 0 = .ok (.aload_n 0, 1) := dk_42 (dk_at dksX5_refuses_0 0 rfl rfl)
theorem dX5_refuses_1 : decode cX5_refuses 1 = .ok (.iload_n 1, 1) := dk_27 (dk_at dksX5_refuses_0 1 rfl rfl)
theorem dX5_refuses_2 : decode cX5_refuses 2 = .ok (.putfield 3, 3) := dk_181 0 3 (dk_at dksX5_refuses_0 2 rfl rfl)
theorem dX5_refuses_5 : decode cX5_refuses 5 = .ok (.aload_n 0, 1) := dk_42 (dk_at dksX5_refuses_0 5 rfl rfl)
theorem dX5_refuses_6 : decode cX5_refuses 6 = .ok (.getfield 7, 3) := dk_180 0 7 (dk_at dksX5_refuses_0 6 rfl rfl)
theorem dX5_refuses_9 : decode cX5_refuses 9 = .ok (.iload_n 1, 1) := dk_27 (dk_at dksX5_refuses_0 9 rfl rfl)
theorem dX5_refuses_10 : decode cX5_refuses 10 = .ok (.ineg, 1) := dk_116 (dk_at dksX5_refuses_0 10 rfl rfl)
theorem dX5_refuses_11 : decode cX5_refuses 11 = .ok (.dup2, 1) := dk_92 (dk_at dksX5_refuses_0 11 rfl rfl)
theorem dX5_refuses_12 : decode cX5_refuses 12 = .ok (.iaload, 1) := dk_46 (dk_at dksX5_refuses_0 12 rfl rfl)
theorem dX5_refuses_13 : decode cX5_refuses 13 = .ok (.iconst 1, 1) := dk_4 (dk_at dksX5_refuses_0 13 rfl rfl)
theorem dX5_refuses_14 : decode cX5_refuses 14 = .ok (.iadd, 1) := dk_96 (dk_at dksX5_refuses_0 14 rfl rfl)
theorem dX5_refuses_15 : decode cX5_refuses 15 = .ok (.iastore, 1) := dk_79 (dk_at dksX5_refuses_0 15 rfl rfl)
theorem dX5_refuses_16 : decode cX5_refuses 16 = .ok (.iload_n 1, 1) := dk_27 (dk_at dksX5_refuses_0 16 rfl rfl)
theorem dX5_refuses_17 : decode cX5_refuses 17 = .ok (.ireturn, 1) := dk_172 (dk_at dksX5_refuses_0 17 rfl rfl)
abbrev cX5_good : ByteArray := prog_25_method_3_code
def yX5_good : MethodName := ⟨RX5, "good", "(I)I"⟩
def dkwX5_good_0 : List UInt8 := [42, 3, 181, 0, 3, 42, 89, 180, 0, 11, 4, 96, 181, 0, 11, 27, 172]
abbrev dktX5_good_0 : List UInt8 := dkwX5_good_0 ++ []
theorem dksX5_good_0 : cX5_good.data.toList.drop 0 = dktX5_good_0 := by decide +kernel
theorem dX5_good_0 : decode cX5_good 0 = .ok (.aload_n 0, 1) := dk_42 (dk_at dksX5_good_0 0 rfl rfl)
theorem dX5_good_1 : decode cX5_good 1 = .ok (.iconst 0, 1) := dk_3 (dk_at dksX5_good_0 1 rfl rfl)
theorem dX5_good_2 : decode cX5_good 2 = .ok (.putfield 3, 3) := dk_181 0 3 (dk_at dksX5_good_0 2 rfl rfl)
theorem dX5_good_5 : decode cX5_good 5 = .ok (.aload_n 0, 1) := dk_42 (dk_at dksX5_good_0 5 rfl rfl)
theorem dX5_good_6 : decode cX5_good 6 = .ok (.dup, 1) := dk_89 (dk_at dksX5_good_0 6 rfl rfl)
theorem dX5_good_7 : decode cX5_good 7 = .ok (.getfield 11, 3) := dk_180 0 11 (dk_at dksX5_good_0 7 rfl rfl)
theorem dX5_good_10 : decode cX5_good 10 = .ok (.iconst 1, 1) := dk_4 (dk_at dksX5_good_0 10 rfl rfl)
theorem dX5_good_11 : decode cX5_good 11 = .ok (.iadd, 1) := dk_96 (dk_at dksX5_good_0 11 rfl rfl)
theorem dX5_good_12 : decode cX5_good 12 = .ok (.putfield 11, 3) := dk_181 0 11 (dk_at dksX5_good_0 12 rfl rfl)
theorem dX5_good_15 : decode cX5_good 15 = .ok (.iload_n 1, 1) := dk_27 (dk_at dksX5_good_0 15 rfl rfl)
theorem dX5_good_16 : decode cX5_good 16 = .ok (.ireturn, 1) := dk_172 (dk_at dksX5_good_0 16 rfl rfl)
abbrev cX5_back : ByteArray := prog_25_method_8_code
def yX5_back : MethodName := ⟨RX5, "back", "(I)I"⟩
def dkwX5_back_2 : List UInt8 := [180, 0, 23, 17, 19, 104, 27, 104, 28, 96, 46, 79, 132, 2, 1, 167, 255, 228, 42, 3, 182, 0, 99, 172]
abbrev dktX5_back_2 : List UInt8 := dkwX5_back_2 ++ []
def dkwX5_back_1 : List UInt8 := [42, 16, 254, 182, 0, 95, 172, 3, 61, 28, 17, 19, 104, 162, 0, 27, 42, 180, 0, 20, 28, 42]
abbrev dktX5_back_1 : List UInt8 := dkwX5_back_1 ++ dktX5_back_2
def dkwX5_back_0 : List UInt8 := [27, 3, 4, 184, 0, 91, 154, 0, 9, 42, 2, 182, 0, 95, 172, 42, 180, 0, 26, 27, 51, 154, 0, 10]
abbrev dktX5_back_0 : List UInt8 := dkwX5_back_0 ++ dktX5_back_1
theorem dksX5_back_0 : cX5_back.data.toList.drop 0 = dktX5_back_0 := by decide +kernel
theorem dksX5_back_1 : cX5_back.data.toList.drop 24 = dktX5_back_1 := dk_seg dksX5_back_0 24 rfl rfl
theorem dksX5_back_2 : cX5_back.data.toList.drop 46 = dktX5_back_2 := dk_seg dksX5_back_1 22 rfl rfl
theorem dX5_back_0 : decode cX5_back 0 = .ok (.iload_n 1, 1) := dk_27 (dk_at dksX5_back_0 0 rfl rfl)
theorem dX5_back_1 : decode cX5_back 1 = .ok (.iconst 0, 1) := dk_3 (dk_at dksX5_back_0 1 rfl rfl)
theorem dX5_back_2 : decode cX5_back 2 = .ok (.iconst 1, 1) := dk_4 (dk_at dksX5_back_0 2 rfl rfl)
theorem dX5_back_3 : decode cX5_back 3 = .ok (.invokestatic 91, 3) := dk_184 0 91 (dk_at dksX5_back_0 3 rfl rfl)
theorem dX5_back_6 : decode cX5_back 6 = .ok (.ifCond .ne 9, 3) := dk_154 0 9 (dk_at dksX5_back_0 6 rfl rfl)
theorem dX5_back_9 : decode cX5_back 9 = .ok (.aload_n 0, 1) := dk_42 (dk_at dksX5_back_0 9 rfl rfl)
theorem dX5_back_10 : decode cX5_back 10 = .ok (.iconst (-1), 1) := dk_2 (dk_at dksX5_back_0 10 rfl rfl)
theorem dX5_back_11 : decode cX5_back 11 = .ok (.invokevirtual 95, 3) := dk_182 0 95 (dk_at dksX5_back_0 11 rfl rfl)
theorem dX5_back_14 : decode cX5_back 14 = .ok (.ireturn, 1) := dk_172 (dk_at dksX5_back_0 14 rfl rfl)
theorem dX5_back_15 : decode cX5_back 15 = .ok (.aload_n 0, 1) := dk_42 (dk_at dksX5_back_0 15 rfl rfl)
theorem dX5_back_16 : decode cX5_back 16 = .ok (.getfield 26, 3) := dk_180 0 26 (dk_at dksX5_back_0 16 rfl rfl)
theorem dX5_back_19 : decode cX5_back 19 = .ok (.iload_n 1, 1) := dk_27 (dk_at dksX5_back_0 19 rfl rfl)
theorem dX5_back_20 : decode cX5_back 20 = .ok (.baload, 1) := dk_51 (dk_at dksX5_back_0 20 rfl rfl)
theorem dX5_back_21 : decode cX5_back 21 = .ok (.ifCond .ne 10, 3) := dk_154 0 10 (dk_at dksX5_back_0 21 rfl rfl)
theorem dX5_back_24 : decode cX5_back 24 = .ok (.aload_n 0, 1) := dk_42 (dk_at dksX5_back_1 0 rfl rfl)
theorem dX5_back_25 : decode cX5_back 25 = .ok (.bipush (-2), 2) := dk_16 254 (dk_at dksX5_back_1 1 rfl rfl)
theorem dX5_back_27 : decode cX5_back 27 = .ok (.invokevirtual 95, 3) := dk_182 0 95 (dk_at dksX5_back_1 3 rfl rfl)
theorem dX5_back_30 : decode cX5_back 30 = .ok (.ireturn, 1) := dk_172 (dk_at dksX5_back_1 6 rfl rfl)
theorem dX5_back_31 : decode cX5_back 31 = .ok (.iconst 0, 1) := dk_3 (dk_at dksX5_back_1 7 rfl rfl)
theorem dX5_back_32 : decode cX5_back 32 = .ok (.istore_n 2, 1) := dk_61 (dk_at dksX5_back_1 8 rfl rfl)
theorem dX5_back_33 : decode cX5_back 33 = .ok (.iload_n 2, 1) := dk_28 (dk_at dksX5_back_1 9 rfl rfl)
theorem dX5_back_34 : decode cX5_back 34 = .ok (.sipush 4968, 3) := dk_17 19 104 (dk_at dksX5_back_1 10 rfl rfl)
theorem dX5_back_37 : decode cX5_back 37 = .ok (.if_icmp .ge 27, 3) := dk_162 0 27 (dk_at dksX5_back_1 13 rfl rfl)
theorem dX5_back_40 : decode cX5_back 40 = .ok (.aload_n 0, 1) := dk_42 (dk_at dksX5_back_1 16 rfl rfl)
theorem dX5_back_41 : decode cX5_back 41 = .ok (.getfield 20, 3) := dk_180 0 20 (dk_at dksX5_back_1 17 rfl rfl)
theorem dX5_back_44 : decode cX5_back 44 = .ok (.iload_n 2, 1) := dk_28 (dk_at dksX5_back_1 20 rfl rfl)
theorem dX5_back_45 : decode cX5_back 45 = .ok (.aload_n 0, 1) := dk_42 (dk_at dksX5_back_1 21 rfl rfl)
theorem dX5_back_46 : decode cX5_back 46 = .ok (.getfield 23, 3) := dk_180 0 23 (dk_at dksX5_back_2 0 rfl rfl)
theorem dX5_back_49 : decode cX5_back 49 = .ok (.sipush 4968, 3) := dk_17 19 104 (dk_at dksX5_back_2 3 rfl rfl)
theorem dX5_back_52 : decode cX5_back 52 = .ok (.iload_n 1, 1) := dk_27 (dk_at dksX5_back_2 6 rfl rfl)
theorem dX5_back_53 : decode cX5_back 53 = .ok (.imul, 1) := dk_104 (dk_at dksX5_back_2 7 rfl rfl)
theorem dX5_back_54 : decode cX5_back 54 = .ok (.iload_n 2, 1) := dk_28 (dk_at dksX5_back_2 8 rfl rfl)
theorem dX5_back_55 : decode cX5_back 55 = .ok (.iadd, 1) := dk_96 (dk_at dksX5_back_2 9 rfl rfl)
theorem dX5_back_56 : decode cX5_back 56 = .ok (.iaload, 1) := dk_46 (dk_at dksX5_back_2 10 rfl rfl)
theorem dX5_back_57 : decode cX5_back 57 = .ok (.iastore, 1) := dk_79 (dk_at dksX5_back_2 11 rfl rfl)
theorem dX5_back_58 : decode cX5_back 58 = .ok (.iinc 2 1, 3) := dk_132 2 1 (dk_at dksX5_back_2 12 rfl rfl)
theorem dX5_back_61 : decode cX5_back 61 = .ok (.goto (-28), 3) := dk_167 255 228 (dk_at dksX5_back_2 15 rfl rfl)
theorem dX5_back_64 : decode cX5_back 64 = .ok (.aload_n 0, 1) := dk_42 (dk_at dksX5_back_2 18 rfl rfl)
theorem dX5_back_65 : decode cX5_back 65 = .ok (.iconst 0, 1) := dk_3 (dk_at dksX5_back_2 19 rfl rfl)
theorem dX5_back_66 : decode cX5_back 66 = .ok (.invokevirtual 99, 3) := dk_182 0 99 (dk_at dksX5_back_2 20 rfl rfl)
theorem dX5_back_69 : decode cX5_back 69 = .ok (.ireturn, 1) := dk_172 (dk_at dksX5_back_2 23 rfl rfl)
abbrev cX5_stone : ByteArray := prog_25_method_19_code
def yX5_stone : MethodName := ⟨RX5, "stone", "(IIIII)I"⟩
def dkwX5_stone_2 : List UInt8 := [42, 16, 251, 182, 0, 95, 172, 42, 42, 27, 28, 29, 21, 4, 21, 5, 182, 0, 135, 182, 0, 99, 172]
abbrev dktX5_stone_2 : List UInt8 := dkwX5_stone_2 ++ []
def dkwX5_stone_1 : List UInt8 := [21, 4, 182, 0, 131, 154, 0, 10, 42, 16, 253, 182, 0, 95, 172, 42, 182, 0, 102, 16, 14, 160, 0, 10]
abbrev dktX5_stone_1 : List UInt8 := dkwX5_stone_1 ++ dktX5_stone_2
def dkwX5_stone_0 : List UInt8 := [27, 28, 29, 21, 4, 21, 5, 184, 0, 127, 154, 0, 9, 42, 2, 182, 0, 95, 172, 42, 27, 28, 29]
abbrev dktX5_stone_0 : List UInt8 := dkwX5_stone_0 ++ dktX5_stone_1
theorem dksX5_stone_0 : cX5_stone.data.toList.drop 0 = dktX5_stone_0 := by decide +kernel
theorem dksX5_stone_1 : cX5_stone.data.toList.drop 23 = dktX5_stone_1 := dk_seg dksX5_stone_0 23 rfl rfl
theorem dksX5_stone_2 : cX5_stone.data.toList.drop 47 = dktX5_stone_2 := dk_seg dksX5_stone_1 24 rfl rfl
theorem dX5_stone_0 : decode cX5_stone 0 = .ok (.iload_n 1, 1) := dk_27 (dk_at dksX5_stone_0 0 rfl rfl)
theorem dX5_stone_1 : decode cX5_stone 1 = .ok (.iload_n 2, 1) := dk_28 (dk_at dksX5_stone_0 1 rfl rfl)
theorem dX5_stone_2 : decode cX5_stone 2 = .ok (.iload_n 3, 1) := dk_29 (dk_at dksX5_stone_0 2 rfl rfl)
theorem dX5_stone_3 : decode cX5_stone 3 = .ok (.iload 4, 2) := dk_21 4 (dk_at dksX5_stone_0 3 rfl rfl)
theorem dX5_stone_5 : decode cX5_stone 5 = .ok (.iload 5, 2) := dk_21 5 (dk_at dksX5_stone_0 5 rfl rfl)
theorem dX5_stone_7 : decode cX5_stone 7 = .ok (.invokestatic 127, 3) := dk_184 0 127 (dk_at dksX5_stone_0 7 rfl rfl)
theorem dX5_stone_10 : decode cX5_stone 10 = .ok (.ifCond .ne 9, 3) := dk_154 0 9 (dk_at dksX5_stone_0 10 rfl rfl)
theorem dX5_stone_13 : decode cX5_stone 13 = .ok (.aload_n 0, 1) := dk_42 (dk_at dksX5_stone_0 13 rfl rfl)
theorem dX5_stone_14 : decode cX5_stone 14 = .ok (.iconst (-1), 1) := dk_2 (dk_at dksX5_stone_0 14 rfl rfl)
theorem dX5_stone_15 : decode cX5_stone 15 = .ok (.invokevirtual 95, 3) := dk_182 0 95 (dk_at dksX5_stone_0 15 rfl rfl)
theorem dX5_stone_18 : decode cX5_stone 18 = .ok (.ireturn, 1) := dk_172 (dk_at dksX5_stone_0 18 rfl rfl)
theorem dX5_stone_19 : decode cX5_stone 19 = .ok (.aload_n 0, 1) := dk_42 (dk_at dksX5_stone_0 19 rfl rfl)
theorem dX5_stone_20 : decode cX5_stone 20 = .ok (.iload_n 1, 1) := dk_27 (dk_at dksX5_stone_0 20 rfl rfl)
theorem dX5_stone_21 : decode cX5_stone 21 = .ok (.iload_n 2, 1) := dk_28 (dk_at dksX5_stone_0 21 rfl rfl)
theorem dX5_stone_22 : decode cX5_stone 22 = .ok (.iload_n 3, 1) := dk_29 (dk_at dksX5_stone_0 22 rfl rfl)
theorem dX5_stone_23 : decode cX5_stone 23 = .ok (.iload 4, 2) := dk_21 4 (dk_at dksX5_stone_1 0 rfl rfl)
theorem dX5_stone_25 : decode cX5_stone 25 = .ok (.invokevirtual 131, 3) := dk_182 0 131 (dk_at dksX5_stone_1 2 rfl rfl)
theorem dX5_stone_28 : decode cX5_stone 28 = .ok (.ifCond .ne 10, 3) := dk_154 0 10 (dk_at dksX5_stone_1 5 rfl rfl)
theorem dX5_stone_31 : decode cX5_stone 31 = .ok (.aload_n 0, 1) := dk_42 (dk_at dksX5_stone_1 8 rfl rfl)
theorem dX5_stone_32 : decode cX5_stone 32 = .ok (.bipush (-3), 2) := dk_16 253 (dk_at dksX5_stone_1 9 rfl rfl)
theorem dX5_stone_34 : decode cX5_stone 34 = .ok (.invokevirtual 95, 3) := dk_182 0 95 (dk_at dksX5_stone_1 11 rfl rfl)
theorem dX5_stone_37 : decode cX5_stone 37 = .ok (.ireturn, 1) := dk_172 (dk_at dksX5_stone_1 14 rfl rfl)
theorem dX5_stone_38 : decode cX5_stone 38 = .ok (.aload_n 0, 1) := dk_42 (dk_at dksX5_stone_1 15 rfl rfl)
theorem dX5_stone_39 : decode cX5_stone 39 = .ok (.invokevirtual 102, 3) := dk_182 0 102 (dk_at dksX5_stone_1 16 rfl rfl)
theorem dX5_stone_42 : decode cX5_stone 42 = .ok (.bipush 14, 2) := dk_16 14 (dk_at dksX5_stone_1 19 rfl rfl)
theorem dX5_stone_44 : decode cX5_stone 44 = .ok (.if_icmp .ne 10, 3) := dk_160 0 10 (dk_at dksX5_stone_1 21 rfl rfl)
theorem dX5_stone_47 : decode cX5_stone 47 = .ok (.aload_n 0, 1) := dk_42 (dk_at dksX5_stone_2 0 rfl rfl)
theorem dX5_stone_48 : decode cX5_stone 48 = .ok (.bipush (-5), 2) := dk_16 251 (dk_at dksX5_stone_2 1 rfl rfl)
theorem dX5_stone_50 : decode cX5_stone 50 = .ok (.invokevirtual 95, 3) := dk_182 0 95 (dk_at dksX5_stone_2 3 rfl rfl)
theorem dX5_stone_53 : decode cX5_stone 53 = .ok (.ireturn, 1) := dk_172 (dk_at dksX5_stone_2 6 rfl rfl)
theorem dX5_stone_54 : decode cX5_stone 54 = .ok (.aload_n 0, 1) := dk_42 (dk_at dksX5_stone_2 7 rfl rfl)
theorem dX5_stone_55 : decode cX5_stone 55 = .ok (.aload_n 0, 1) := dk_42 (dk_at dksX5_stone_2 8 rfl rfl)
theorem dX5_stone_56 : decode cX5_stone 56 = .ok (.iload_n 1, 1) := dk_27 (dk_at dksX5_stone_2 9 rfl rfl)
theorem dX5_stone_57 : decode cX5_stone 57 = .ok (.iload_n 2, 1) := dk_28 (dk_at dksX5_stone_2 10 rfl rfl)
theorem dX5_stone_58 : decode cX5_stone 58 = .ok (.iload_n 3, 1) := dk_29 (dk_at dksX5_stone_2 11 rfl rfl)
theorem dX5_stone_59 : decode cX5_stone 59 = .ok (.iload 4, 2) := dk_21 4 (dk_at dksX5_stone_2 12 rfl rfl)
theorem dX5_stone_61 : decode cX5_stone 61 = .ok (.iload 5, 2) := dk_21 5 (dk_at dksX5_stone_2 14 rfl rfl)
theorem dX5_stone_63 : decode cX5_stone 63 = .ok (.invokevirtual 135, 3) := dk_182 0 135 (dk_at dksX5_stone_2 16 rfl rfl)
theorem dX5_stone_66 : decode cX5_stone 66 = .ok (.invokevirtual 99, 3) := dk_182 0 99 (dk_at dksX5_stone_2 19 rfl rfl)
theorem dX5_stone_69 : decode cX5_stone 69 = .ok (.ireturn, 1) := dk_172 (dk_at dksX5_stone_2 22 rfl rfl)
abbrev cX5_canBe : ByteArray := prog_25_method_15_code
def yX5_canBe : MethodName := ⟨RX5, "canBe", "(IIIII)Z"⟩
def dkwX5_canBe_2 : List UInt8 := [16, 99, 184, 0, 91, 153, 0, 7, 4, 167, 0, 4, 3, 172]
abbrev dktX5_canBe_2 : List UInt8 := dkwX5_canBe_2 ++ []
def dkwX5_canBe_1 : List UInt8 := [28, 100, 184, 0, 91, 153, 0, 30, 27, 3, 16, 8, 29, 100, 184, 0, 91, 153, 0, 18, 21, 4, 4]
abbrev dktX5_canBe_1 : List UInt8 := dkwX5_canBe_1 ++ dktX5_canBe_2
def dkwX5_canBe_0 : List UInt8 := [28, 4, 16, 6, 184, 0, 91, 153, 0, 52, 29, 4, 16, 6, 184, 0, 91, 153, 0, 42, 26, 3, 16, 12]
abbrev dktX5_canBe_0 : List UInt8 := dkwX5_canBe_0 ++ dktX5_canBe_1
theorem dksX5_canBe_0 : cX5_canBe.data.toList.drop 0 = dktX5_canBe_0 := by decide +kernel
theorem dksX5_canBe_1 : cX5_canBe.data.toList.drop 24 = dktX5_canBe_1 := dk_seg dksX5_canBe_0 24 rfl rfl
theorem dksX5_canBe_2 : cX5_canBe.data.toList.drop 47 = dktX5_canBe_2 := dk_seg dksX5_canBe_1 23 rfl rfl
theorem dX5_canBe_0 : decode cX5_canBe 0 = .ok (.iload_n 2, 1) := dk_28 (dk_at dksX5_canBe_0 0 rfl rfl)
theorem dX5_canBe_1 : decode cX5_canBe 1 = .ok (.iconst 1, 1) := dk_4 (dk_at dksX5_canBe_0 1 rfl rfl)
theorem dX5_canBe_2 : decode cX5_canBe 2 = .ok (.bipush 6, 2) := dk_16 6 (dk_at dksX5_canBe_0 2 rfl rfl)
theorem dX5_canBe_4 : decode cX5_canBe 4 = .ok (.invokestatic 91, 3) := dk_184 0 91 (dk_at dksX5_canBe_0 4 rfl rfl)
theorem dX5_canBe_7 : decode cX5_canBe 7 = .ok (.ifCond .eq 52, 3) := dk_153 0 52 (dk_at dksX5_canBe_0 7 rfl rfl)
theorem dX5_canBe_10 : decode cX5_canBe 10 = .ok (.iload_n 3, 1) := dk_29 (dk_at dksX5_canBe_0 10 rfl rfl)
theorem dX5_canBe_11 : decode cX5_canBe 11 = .ok (.iconst 1, 1) := dk_4 (dk_at dksX5_canBe_0 11 rfl rfl)
theorem dX5_canBe_12 : decode cX5_canBe 12 = .ok (.bipush 6, 2) := dk_16 6 (dk_at dksX5_canBe_0 12 rfl rfl)
theorem dX5_canBe_14 : decode cX5_canBe 14 = .ok (.invokestatic 91, 3) := dk_184 0 91 (dk_at dksX5_canBe_0 14 rfl rfl)
theorem dX5_canBe_17 : decode cX5_canBe 17 = .ok (.ifCond .eq 42, 3) := dk_153 0 42 (dk_at dksX5_canBe_0 17 rfl rfl)
theorem dX5_canBe_20 : decode cX5_canBe 20 = .ok (.iload_n 0, 1) := dk_26 (dk_at dksX5_canBe_0 20 rfl rfl)
theorem dX5_canBe_21 : decode cX5_canBe 21 = .ok (.iconst 0, 1) := dk_3 (dk_at dksX5_canBe_0 21 rfl rfl)
theorem dX5_canBe_22 : decode cX5_canBe 22 = .ok (.bipush 12, 2) := dk_16 12 (dk_at dksX5_canBe_0 22 rfl rfl)
theorem dX5_canBe_24 : decode cX5_canBe 24 = .ok (.iload_n 2, 1) := dk_28 (dk_at dksX5_canBe_1 0 rfl rfl)
theorem dX5_canBe_25 : decode cX5_canBe 25 = .ok (.isub, 1) := dk_100 (dk_at dksX5_canBe_1 1 rfl rfl)
theorem dX5_canBe_26 : decode cX5_canBe 26 = .ok (.invokestatic 91, 3) := dk_184 0 91 (dk_at dksX5_canBe_1 2 rfl rfl)
theorem dX5_canBe_29 : decode cX5_canBe 29 = .ok (.ifCond .eq 30, 3) := dk_153 0 30 (dk_at dksX5_canBe_1 5 rfl rfl)
theorem dX5_canBe_32 : decode cX5_canBe 32 = .ok (.iload_n 1, 1) := dk_27 (dk_at dksX5_canBe_1 8 rfl rfl)
theorem dX5_canBe_33 : decode cX5_canBe 33 = .ok (.iconst 0, 1) := dk_3 (dk_at dksX5_canBe_1 9 rfl rfl)
theorem dX5_canBe_34 : decode cX5_canBe 34 = .ok (.bipush 8, 2) := dk_16 8 (dk_at dksX5_canBe_1 10 rfl rfl)
theorem dX5_canBe_36 : decode cX5_canBe 36 = .ok (.iload_n 3, 1) := dk_29 (dk_at dksX5_canBe_1 12 rfl rfl)
theorem dX5_canBe_37 : decode cX5_canBe 37 = .ok (.isub, 1) := dk_100 (dk_at dksX5_canBe_1 13 rfl rfl)
theorem dX5_canBe_38 : decode cX5_canBe 38 = .ok (.invokestatic 91, 3) := dk_184 0 91 (dk_at dksX5_canBe_1 14 rfl rfl)
theorem dX5_canBe_41 : decode cX5_canBe 41 = .ok (.ifCond .eq 18, 3) := dk_153 0 18 (dk_at dksX5_canBe_1 17 rfl rfl)
theorem dX5_canBe_44 : decode cX5_canBe 44 = .ok (.iload 4, 2) := dk_21 4 (dk_at dksX5_canBe_1 20 rfl rfl)
theorem dX5_canBe_46 : decode cX5_canBe 46 = .ok (.iconst 1, 1) := dk_4 (dk_at dksX5_canBe_1 22 rfl rfl)
theorem dX5_canBe_47 : decode cX5_canBe 47 = .ok (.bipush 99, 2) := dk_16 99 (dk_at dksX5_canBe_2 0 rfl rfl)
theorem dX5_canBe_49 : decode cX5_canBe 49 = .ok (.invokestatic 91, 3) := dk_184 0 91 (dk_at dksX5_canBe_2 2 rfl rfl)
theorem dX5_canBe_52 : decode cX5_canBe 52 = .ok (.ifCond .eq 7, 3) := dk_153 0 7 (dk_at dksX5_canBe_2 5 rfl rfl)
theorem dX5_canBe_55 : decode cX5_canBe 55 = .ok (.iconst 1, 1) := dk_4 (dk_at dksX5_canBe_2 8 rfl rfl)
theorem dX5_canBe_56 : decode cX5_canBe 56 = .ok (.goto 4, 3) := dk_167 0 4 (dk_at dksX5_canBe_2 9 rfl rfl)
theorem dX5_canBe_59 : decode cX5_canBe 59 = .ok (.iconst 0, 1) := dk_3 (dk_at dksX5_canBe_2 12 rfl rfl)
theorem dX5_canBe_60 : decode cX5_canBe 60 = .ok (.ireturn, 1) := dk_172 (dk_at dksX5_canBe_2 13 rfl rfl)
abbrev cX5_isFree : ByteArray := prog_25_method_16_code
def yX5_isFree : MethodName := ⟨RX5, "isFree", "(IIII)Z"⟩
def dkwX5_isFree_2 : List UInt8 := [182, 0, 120, 153, 0, 5, 3, 172, 132, 6, 1, 167, 255, 212, 132, 5, 1, 167, 255, 196, 4, 172]
abbrev dktX5_isFree_2 : List UInt8 := dkwX5_isFree_2 ++ []
def dkwX5_isFree_1 : List UInt8 := [21, 5, 182, 0, 117, 153, 0, 26, 42, 21, 5, 27, 21, 6, 29, 112, 96, 28, 21, 6, 29, 108, 96]
abbrev dktX5_isFree_1 : List UInt8 := dkwX5_isFree_1 ++ dktX5_isFree_2
def dkwX5_isFree_0 : List UInt8 := [3, 54, 5, 21, 5, 16, 22, 162, 0, 59, 3, 54, 6, 21, 6, 29, 21, 4, 104, 162, 0, 41, 42]
abbrev dktX5_isFree_0 : List UInt8 := dkwX5_isFree_0 ++ dktX5_isFree_1
theorem dksX5_isFree_0 : cX5_isFree.data.toList.drop 0 = dktX5_isFree_0 := by decide +kernel
theorem dksX5_isFree_1 : cX5_isFree.data.toList.drop 23 = dktX5_isFree_1 := dk_seg dksX5_isFree_0 23 rfl rfl
theorem dksX5_isFree_2 : cX5_isFree.data.toList.drop 46 = dktX5_isFree_2 := dk_seg dksX5_isFree_1 23 rfl rfl
theorem dX5_isFree_0 : decode cX5_isFree 0 = .ok (.iconst 0, 1) := dk_3 (dk_at dksX5_isFree_0 0 rfl rfl)
theorem dX5_isFree_1 : decode cX5_isFree 1 = .ok (.istore 5, 2) := dk_54 5 (dk_at dksX5_isFree_0 1 rfl rfl)
theorem dX5_isFree_3 : decode cX5_isFree 3 = .ok (.iload 5, 2) := dk_21 5 (dk_at dksX5_isFree_0 3 rfl rfl)
theorem dX5_isFree_5 : decode cX5_isFree 5 = .ok (.bipush 22, 2) := dk_16 22 (dk_at dksX5_isFree_0 5 rfl rfl)
theorem dX5_isFree_7 : decode cX5_isFree 7 = .ok (.if_icmp .ge 59, 3) := dk_162 0 59 (dk_at dksX5_isFree_0 7 rfl rfl)
theorem dX5_isFree_10 : decode cX5_isFree 10 = .ok (.iconst 0, 1) := dk_3 (dk_at dksX5_isFree_0 10 rfl rfl)
theorem dX5_isFree_11 : decode cX5_isFree 11 = .ok (.istore 6, 2) := dk_54 6 (dk_at dksX5_isFree_0 11 rfl rfl)
theorem dX5_isFree_13 : decode cX5_isFree 13 = .ok (.iload 6, 2) := dk_21 6 (dk_at dksX5_isFree_0 13 rfl rfl)
theorem dX5_isFree_15 : decode cX5_isFree 15 = .ok (.iload_n 3, 1) := dk_29 (dk_at dksX5_isFree_0 15 rfl rfl)
theorem dX5_isFree_16 : decode cX5_isFree 16 = .ok (.iload 4, 2) := dk_21 4 (dk_at dksX5_isFree_0 16 rfl rfl)
theorem dX5_isFree_18 : decode cX5_isFree 18 = .ok (.imul, 1) := dk_104 (dk_at dksX5_isFree_0 18 rfl rfl)
theorem dX5_isFree_19 : decode cX5_isFree 19 = .ok (.if_icmp .ge 41, 3) := dk_162 0 41 (dk_at dksX5_isFree_0 19 rfl rfl)
theorem dX5_isFree_22 : decode cX5_isFree 22 = .ok (.aload_n 0, 1) := dk_42 (dk_at dksX5_isFree_0 22 rfl rfl)
theorem dX5_isFree_23 : decode cX5_isFree 23 = .ok (.iload 5, 2) := dk_21 5 (dk_at dksX5_isFree_1 0 rfl rfl)
theorem dX5_isFree_25 : decode cX5_isFree 25 = .ok (.invokevirtual 117, 3) := dk_182 0 117 (dk_at dksX5_isFree_1 2 rfl rfl)
theorem dX5_isFree_28 : decode cX5_isFree 28 = .ok (.ifCond .eq 26, 3) := dk_153 0 26 (dk_at dksX5_isFree_1 5 rfl rfl)
theorem dX5_isFree_31 : decode cX5_isFree 31 = .ok (.aload_n 0, 1) := dk_42 (dk_at dksX5_isFree_1 8 rfl rfl)
theorem dX5_isFree_32 : decode cX5_isFree 32 = .ok (.iload 5, 2) := dk_21 5 (dk_at dksX5_isFree_1 9 rfl rfl)
theorem dX5_isFree_34 : decode cX5_isFree 34 = .ok (.iload_n 1, 1) := dk_27 (dk_at dksX5_isFree_1 11 rfl rfl)
theorem dX5_isFree_35 : decode cX5_isFree 35 = .ok (.iload 6, 2) := dk_21 6 (dk_at dksX5_isFree_1 12 rfl rfl)
theorem dX5_isFree_37 : decode cX5_isFree 37 = .ok (.iload_n 3, 1) := dk_29 (dk_at dksX5_isFree_1 14 rfl rfl)
theorem dX5_isFree_38 : decode cX5_isFree 38 = .ok (.irem, 1) := dk_112 (dk_at dksX5_isFree_1 15 rfl rfl)
theorem dX5_isFree_39 : decode cX5_isFree 39 = .ok (.iadd, 1) := dk_96 (dk_at dksX5_isFree_1 16 rfl rfl)
theorem dX5_isFree_40 : decode cX5_isFree 40 = .ok (.iload_n 2, 1) := dk_28 (dk_at dksX5_isFree_1 17 rfl rfl)
theorem dX5_isFree_41 : decode cX5_isFree 41 = .ok (.iload 6, 2) := dk_21 6 (dk_at dksX5_isFree_1 18 rfl rfl)
theorem dX5_isFree_43 : decode cX5_isFree 43 = .ok (.iload_n 3, 1) := dk_29 (dk_at dksX5_isFree_1 20 rfl rfl)
theorem dX5_isFree_44 : decode cX5_isFree 44 = .ok (.idiv, 1) := dk_108 (dk_at dksX5_isFree_1 21 rfl rfl)
theorem dX5_isFree_45 : decode cX5_isFree 45 = .ok (.iadd, 1) := dk_96 (dk_at dksX5_isFree_1 22 rfl rfl)
theorem dX5_isFree_46 : decode cX5_isFree 46 = .ok (.invokevirtual 120, 3) := dk_182 0 120 (dk_at dksX5_isFree_2 0 rfl rfl)
theorem dX5_isFree_49 : decode cX5_isFree 49 = .ok (.ifCond .eq 5, 3) := dk_153 0 5 (dk_at dksX5_isFree_2 3 rfl rfl)
theorem dX5_isFree_52 : decode cX5_isFree 52 = .ok (.iconst 0, 1) := dk_3 (dk_at dksX5_isFree_2 6 rfl rfl)
theorem dX5_isFree_53 : decode cX5_isFree 53 = .ok (.ireturn, 1) := dk_172 (dk_at dksX5_isFree_2 7 rfl rfl)
theorem dX5_isFree_54 : decode cX5_isFree 54 = .ok (.iinc 6 1, 3) := dk_132 6 1 (dk_at dksX5_isFree_2 8 rfl rfl)
theorem dX5_isFree_57 : decode cX5_isFree 57 = .ok (.goto (-44), 3) := dk_167 255 212 (dk_at dksX5_isFree_2 11 rfl rfl)
theorem dX5_isFree_60 : decode cX5_isFree 60 = .ok (.iinc 5 1, 3) := dk_132 5 1 (dk_at dksX5_isFree_2 14 rfl rfl)
theorem dX5_isFree_63 : decode cX5_isFree 63 = .ok (.goto (-60), 3) := dk_167 255 196 (dk_at dksX5_isFree_2 17 rfl rfl)
theorem dX5_isFree_66 : decode cX5_isFree 66 = .ok (.iconst 1, 1) := dk_4 (dk_at dksX5_isFree_2 20 rfl rfl)
theorem dX5_isFree_67 : decode cX5_isFree 67 = .ok (.ireturn, 1) := dk_172 (dk_at dksX5_isFree_2 21 rfl rfl)
abbrev cX5_isItem : ByteArray := prog_25_method_13_code
def yX5_isItem : MethodName := ⟨RX5, "isItem", "(I)Z"⟩
def dkwX5_isItem_1 : List UInt8 := [162, 0, 7, 4, 167, 0, 4, 3, 172]
abbrev dktX5_isItem_1 : List UInt8 := dkwX5_isItem_1 ++ []
def dkwX5_isItem_0 : List UInt8 := [27, 16, 14, 162, 0, 11, 42, 27, 182, 0, 106, 167, 0, 19, 27, 16, 14, 100, 42, 182, 0, 110]
abbrev dktX5_isItem_0 : List UInt8 := dkwX5_isItem_0 ++ dktX5_isItem_1
theorem dksX5_isItem_0 : cX5_isItem.data.toList.drop 0 = dktX5_isItem_0 := by decide +kernel
theorem dksX5_isItem_1 : cX5_isItem.data.toList.drop 22 = dktX5_isItem_1 := dk_seg dksX5_isItem_0 22 rfl rfl
theorem dX5_isItem_0 : decode cX5_isItem 0 = .ok (.iload_n 1, 1) := dk_27 (dk_at dksX5_isItem_0 0 rfl rfl)
theorem dX5_isItem_1 : decode cX5_isItem 1 = .ok (.bipush 14, 2) := dk_16 14 (dk_at dksX5_isItem_0 1 rfl rfl)
theorem dX5_isItem_3 : decode cX5_isItem 3 = .ok (.if_icmp .ge 11, 3) := dk_162 0 11 (dk_at dksX5_isItem_0 3 rfl rfl)
theorem dX5_isItem_6 : decode cX5_isItem 6 = .ok (.aload_n 0, 1) := dk_42 (dk_at dksX5_isItem_0 6 rfl rfl)
theorem dX5_isItem_7 : decode cX5_isItem 7 = .ok (.iload_n 1, 1) := dk_27 (dk_at dksX5_isItem_0 7 rfl rfl)
theorem dX5_isItem_8 : decode cX5_isItem 8 = .ok (.invokevirtual 106, 3) := dk_182 0 106 (dk_at dksX5_isItem_0 8 rfl rfl)
theorem dX5_isItem_11 : decode cX5_isItem 11 = .ok (.goto 19, 3) := dk_167 0 19 (dk_at dksX5_isItem_0 11 rfl rfl)
theorem dX5_isItem_14 : decode cX5_isItem 14 = .ok (.iload_n 1, 1) := dk_27 (dk_at dksX5_isItem_0 14 rfl rfl)
theorem dX5_isItem_15 : decode cX5_isItem 15 = .ok (.bipush 14, 2) := dk_16 14 (dk_at dksX5_isItem_0 15 rfl rfl)
theorem dX5_isItem_17 : decode cX5_isItem 17 = .ok (.isub, 1) := dk_100 (dk_at dksX5_isItem_0 17 rfl rfl)
theorem dX5_isItem_18 : decode cX5_isItem 18 = .ok (.aload_n 0, 1) := dk_42 (dk_at dksX5_isItem_0 18 rfl rfl)
theorem dX5_isItem_19 : decode cX5_isItem 19 = .ok (.invokevirtual 110, 3) := dk_182 0 110 (dk_at dksX5_isItem_0 19 rfl rfl)
theorem dX5_isItem_22 : decode cX5_isItem 22 = .ok (.if_icmp .ge 7, 3) := dk_162 0 7 (dk_at dksX5_isItem_1 0 rfl rfl)
theorem dX5_isItem_25 : decode cX5_isItem 25 = .ok (.iconst 1, 1) := dk_4 (dk_at dksX5_isItem_1 3 rfl rfl)
theorem dX5_isItem_26 : decode cX5_isItem 26 = .ok (.goto 4, 3) := dk_167 0 4 (dk_at dksX5_isItem_1 4 rfl rfl)
theorem dX5_isItem_29 : decode cX5_isItem 29 = .ok (.iconst 0, 1) := dk_3 (dk_at dksX5_isItem_1 7 rfl rfl)
theorem dX5_isItem_30 : decode cX5_isItem 30 = .ok (.ireturn, 1) := dk_172 (dk_at dksX5_isItem_1 8 rfl rfl)
abbrev cX5_isStone : ByteArray := prog_25_method_11_code
def yX5_isStone : MethodName := ⟨RX5, "isStone", "(I)Z"⟩
def dkwX5_isStone_0 : List UInt8 := [27, 3, 42, 182, 0, 102, 4, 100, 184, 0, 91, 172]
abbrev dktX5_isStone_0 : List UInt8 := dkwX5_isStone_0 ++ []
theorem dksX5_isStone_0 : cX5_isStone.data.toList.drop 0 = dktX5_isStone_0 := by decide +kernel
theorem dX5_isStone_0 : decode cX5_isStone 0 = .ok (.iload_n 1, 1) := dk_27 (dk_at dksX5_isStone_0 0 rfl rfl)
theorem dX5_isStone_1 : decode cX5_isStone 1 = .ok (.iconst 0, 1) := dk_3 (dk_at dksX5_isStone_0 1 rfl rfl)
theorem dX5_isStone_2 : decode cX5_isStone 2 = .ok (.aload_n 0, 1) := dk_42 (dk_at dksX5_isStone_0 2 rfl rfl)
theorem dX5_isStone_3 : decode cX5_isStone 3 = .ok (.invokevirtual 102, 3) := dk_182 0 102 (dk_at dksX5_isStone_0 3 rfl rfl)
theorem dX5_isStone_6 : decode cX5_isStone 6 = .ok (.iconst 1, 1) := dk_4 (dk_at dksX5_isStone_0 6 rfl rfl)
theorem dX5_isStone_7 : decode cX5_isStone 7 = .ok (.isub, 1) := dk_100 (dk_at dksX5_isStone_0 7 rfl rfl)
theorem dX5_isStone_8 : decode cX5_isStone 8 = .ok (.invokestatic 91, 3) := dk_184 0 91 (dk_at dksX5_isStone_0 8 rfl rfl)
theorem dX5_isStone_11 : decode cX5_isStone 11 = .ok (.ireturn, 1) := dk_172 (dk_at dksX5_isStone_0 11 rfl rfl)
abbrev cX5_stones : ByteArray := prog_25_method_9_code
def yX5_stones : MethodName := ⟨RX5, "stones", "()I"⟩
def dkwX5_stones_0 : List UInt8 := [42, 180, 0, 20, 17, 0, 157, 46, 172]
abbrev dktX5_stones_0 : List UInt8 := dkwX5_stones_0 ++ []
theorem dksX5_stones_0 : cX5_stones.data.toList.drop 0 = dktX5_stones_0 := by decide +kernel
theorem dX5_stones_0 : decode cX5_stones 0 = .ok (.aload_n 0, 1) := dk_42 (dk_at dksX5_stones_0 0 rfl rfl)
theorem dX5_stones_1 : decode cX5_stones 1 = .ok (.getfield 20, 3) := dk_180 0 20 (dk_at dksX5_stones_0 1 rfl rfl)
theorem dX5_stones_4 : decode cX5_stones 4 = .ok (.sipush 157, 3) := dk_17 0 157 (dk_at dksX5_stones_0 4 rfl rfl)
theorem dX5_stones_7 : decode cX5_stones 7 = .ok (.iaload, 1) := dk_46 (dk_at dksX5_stones_0 7 rfl rfl)
theorem dX5_stones_8 : decode cX5_stones 8 = .ok (.ireturn, 1) := dk_172 (dk_at dksX5_stones_0 8 rfl rfl)
abbrev cX5_spares : ByteArray := prog_25_method_10_code
def yX5_spares : MethodName := ⟨RX5, "spares", "()I"⟩
def dkwX5_spares_0 : List UInt8 := [42, 180, 0, 20, 17, 0, 158, 46, 172]
abbrev dktX5_spares_0 : List UInt8 := dkwX5_spares_0 ++ []
theorem dksX5_spares_0 : cX5_spares.data.toList.drop 0 = dktX5_spares_0 := by decide +kernel
theorem dX5_spares_0 : decode cX5_spares 0 = .ok (.aload_n 0, 1) := dk_42 (dk_at dksX5_spares_0 0 rfl rfl)
theorem dX5_spares_1 : decode cX5_spares 1 = .ok (.getfield 20, 3) := dk_180 0 20 (dk_at dksX5_spares_0 1 rfl rfl)
theorem dX5_spares_4 : decode cX5_spares 4 = .ok (.sipush 158, 3) := dk_17 0 158 (dk_at dksX5_spares_0 4 rfl rfl)
theorem dX5_spares_7 : decode cX5_spares 7 = .ok (.iaload, 1) := dk_46 (dk_at dksX5_spares_0 7 rfl rfl)
theorem dX5_spares_8 : decode cX5_spares 8 = .ok (.ireturn, 1) := dk_172 (dk_at dksX5_spares_0 8 rfl rfl)
abbrev cX5_covers : ByteArray := prog_25_method_14_code
def yX5_covers : MethodName := ⟨RX5, "covers", "(III)Z"⟩
def dkwX5_covers_2 : List UInt8 := [182, 0, 113, 96, 4, 100, 184, 0, 91, 153, 0, 7, 4, 167, 0, 4, 3, 172]
abbrev dktX5_covers_2 : List UInt8 := dkwX5_covers_2 ++ []
def dkwX5_covers_1 : List UInt8 := [184, 0, 91, 153, 0, 35, 29, 42, 27, 4, 182, 0, 113, 42, 27, 4, 182, 0, 113, 42, 27, 6]
abbrev dktX5_covers_1 : List UInt8 := dkwX5_covers_1 ++ dktX5_covers_2
def dkwX5_covers_0 : List UInt8 := [28, 42, 27, 3, 182, 0, 113, 42, 27, 3, 182, 0, 113, 42, 27, 5, 182, 0, 113, 96, 4, 100]
abbrev dktX5_covers_0 : List UInt8 := dkwX5_covers_0 ++ dktX5_covers_1
theorem dksX5_covers_0 : cX5_covers.data.toList.drop 0 = dktX5_covers_0 := by decide +kernel
theorem dksX5_covers_1 : cX5_covers.data.toList.drop 22 = dktX5_covers_1 := dk_seg dksX5_covers_0 22 rfl rfl
theorem dksX5_covers_2 : cX5_covers.data.toList.drop 44 = dktX5_covers_2 := dk_seg dksX5_covers_1 22 rfl rfl
theorem dX5_covers_0 : decode cX5_covers 0 = .ok (.iload_n 2, 1) := dk_28 (dk_at dksX5_covers_0 0 rfl rfl)
theorem dX5_covers_1 : decode cX5_covers 1 = .ok (.aload_n 0, 1) := dk_42 (dk_at dksX5_covers_0 1 rfl rfl)
theorem dX5_covers_2 : decode cX5_covers 2 = .ok (.iload_n 1, 1) := dk_27 (dk_at dksX5_covers_0 2 rfl rfl)
theorem dX5_covers_3 : decode cX5_covers 3 = .ok (.iconst 0, 1) := dk_3 (dk_at dksX5_covers_0 3 rfl rfl)
theorem dX5_covers_4 : decode cX5_covers 4 = .ok (.invokevirtual 113, 3) := dk_182 0 113 (dk_at dksX5_covers_0 4 rfl rfl)
theorem dX5_covers_7 : decode cX5_covers 7 = .ok (.aload_n 0, 1) := dk_42 (dk_at dksX5_covers_0 7 rfl rfl)
theorem dX5_covers_8 : decode cX5_covers 8 = .ok (.iload_n 1, 1) := dk_27 (dk_at dksX5_covers_0 8 rfl rfl)
theorem dX5_covers_9 : decode cX5_covers 9 = .ok (.iconst 0, 1) := dk_3 (dk_at dksX5_covers_0 9 rfl rfl)
theorem dX5_covers_10 : decode cX5_covers 10 = .ok (.invokevirtual 113, 3) := dk_182 0 113 (dk_at dksX5_covers_0 10 rfl rfl)
theorem dX5_covers_13 : decode cX5_covers 13 = .ok (.aload_n 0, 1) := dk_42 (dk_at dksX5_covers_0 13 rfl rfl)
theorem dX5_covers_14 : decode cX5_covers 14 = .ok (.iload_n 1, 1) := dk_27 (dk_at dksX5_covers_0 14 rfl rfl)
theorem dX5_covers_15 : decode cX5_covers 15 = .ok (.iconst 2, 1) := dk_5 (dk_at dksX5_covers_0 15 rfl rfl)
theorem dX5_covers_16 : decode cX5_covers 16 = .ok (.invokevirtual 113, 3) := dk_182 0 113 (dk_at dksX5_covers_0 16 rfl rfl)
theorem dX5_covers_19 : decode cX5_covers 19 = .ok (.iadd, 1) := dk_96 (dk_at dksX5_covers_0 19 rfl rfl)
theorem dX5_covers_20 : decode cX5_covers 20 = .ok (.iconst 1, 1) := dk_4 (dk_at dksX5_covers_0 20 rfl rfl)
theorem dX5_covers_21 : decode cX5_covers 21 = .ok (.isub, 1) := dk_100 (dk_at dksX5_covers_0 21 rfl rfl)
theorem dX5_covers_22 : decode cX5_covers 22 = .ok (.invokestatic 91, 3) := dk_184 0 91 (dk_at dksX5_covers_1 0 rfl rfl)
theorem dX5_covers_25 : decode cX5_covers 25 = .ok (.ifCond .eq 35, 3) := dk_153 0 35 (dk_at dksX5_covers_1 3 rfl rfl)
theorem dX5_covers_28 : decode cX5_covers 28 = .ok (.iload_n 3, 1) := dk_29 (dk_at dksX5_covers_1 6 rfl rfl)
theorem dX5_covers_29 : decode cX5_covers 29 = .ok (.aload_n 0, 1) := dk_42 (dk_at dksX5_covers_1 7 rfl rfl)
theorem dX5_covers_30 : decode cX5_covers 30 = .ok (.iload_n 1, 1) := dk_27 (dk_at dksX5_covers_1 8 rfl rfl)
theorem dX5_covers_31 : decode cX5_covers 31 = .ok (.iconst 1, 1) := dk_4 (dk_at dksX5_covers_1 9 rfl rfl)
theorem dX5_covers_32 : decode cX5_covers 32 = .ok (.invokevirtual 113, 3) := dk_182 0 113 (dk_at dksX5_covers_1 10 rfl rfl)
theorem dX5_covers_35 : decode cX5_covers 35 = .ok (.aload_n 0, 1) := dk_42 (dk_at dksX5_covers_1 13 rfl rfl)
theorem dX5_covers_36 : decode cX5_covers 36 = .ok (.iload_n 1, 1) := dk_27 (dk_at dksX5_covers_1 14 rfl rfl)
theorem dX5_covers_37 : decode cX5_covers 37 = .ok (.iconst 1, 1) := dk_4 (dk_at dksX5_covers_1 15 rfl rfl)
theorem dX5_covers_38 : decode cX5_covers 38 = .ok (.invokevirtual 113, 3) := dk_182 0 113 (dk_at dksX5_covers_1 16 rfl rfl)
theorem dX5_covers_41 : decode cX5_covers 41 = .ok (.aload_n 0, 1) := dk_42 (dk_at dksX5_covers_1 19 rfl rfl)
theorem dX5_covers_42 : decode cX5_covers 42 = .ok (.iload_n 1, 1) := dk_27 (dk_at dksX5_covers_1 20 rfl rfl)
theorem dX5_covers_43 : decode cX5_covers 43 = .ok (.iconst 3, 1) := dk_6 (dk_at dksX5_covers_1 21 rfl rfl)
theorem dX5_covers_44 : decode cX5_covers 44 = .ok (.invokevirtual 113, 3) := dk_182 0 113 (dk_at dksX5_covers_2 0 rfl rfl)
theorem dX5_covers_47 : decode cX5_covers 47 = .ok (.iadd, 1) := dk_96 (dk_at dksX5_covers_2 3 rfl rfl)
theorem dX5_covers_48 : decode cX5_covers 48 = .ok (.iconst 1, 1) := dk_4 (dk_at dksX5_covers_2 4 rfl rfl)
theorem dX5_covers_49 : decode cX5_covers 49 = .ok (.isub, 1) := dk_100 (dk_at dksX5_covers_2 5 rfl rfl)
theorem dX5_covers_50 : decode cX5_covers 50 = .ok (.invokestatic 91, 3) := dk_184 0 91 (dk_at dksX5_covers_2 6 rfl rfl)
theorem dX5_covers_53 : decode cX5_covers 53 = .ok (.ifCond .eq 7, 3) := dk_153 0 7 (dk_at dksX5_covers_2 9 rfl rfl)
theorem dX5_covers_56 : decode cX5_covers 56 = .ok (.iconst 1, 1) := dk_4 (dk_at dksX5_covers_2 12 rfl rfl)
theorem dX5_covers_57 : decode cX5_covers 57 = .ok (.goto 4, 3) := dk_167 0 4 (dk_at dksX5_covers_2 13 rfl rfl)
theorem dX5_covers_60 : decode cX5_covers 60 = .ok (.iconst 0, 1) := dk_3 (dk_at dksX5_covers_2 16 rfl rfl)
theorem dX5_covers_61 : decode cX5_covers 61 = .ok (.ireturn, 1) := dk_172 (dk_at dksX5_covers_2 17 rfl rfl)
abbrev cX5_factOf : ByteArray := prog_25_method_12_code
def yX5_factOf : MethodName := ⟨RX5, "factOf", "(II)I"⟩
def dkwX5_factOf_0 : List UInt8 := [42, 180, 0, 20, 16, 7, 27, 104, 28, 96, 46, 172]
abbrev dktX5_factOf_0 : List UInt8 := dkwX5_factOf_0 ++ []
theorem dksX5_factOf_0 : cX5_factOf.data.toList.drop 0 = dktX5_factOf_0 := by decide +kernel
theorem dX5_factOf_0 : decode cX5_factOf 0 = .ok (.aload_n 0, 1) := dk_42 (dk_at dksX5_factOf_0 0 rfl rfl)
theorem dX5_factOf_1 : decode cX5_factOf 1 = .ok (.getfield 20, 3) := dk_180 0 20 (dk_at dksX5_factOf_0 1 rfl rfl)
theorem dX5_factOf_4 : decode cX5_factOf 4 = .ok (.bipush 7, 2) := dk_16 7 (dk_at dksX5_factOf_0 4 rfl rfl)
theorem dX5_factOf_6 : decode cX5_factOf 6 = .ok (.iload_n 1, 1) := dk_27 (dk_at dksX5_factOf_0 6 rfl rfl)
theorem dX5_factOf_7 : decode cX5_factOf 7 = .ok (.imul, 1) := dk_104 (dk_at dksX5_factOf_0 7 rfl rfl)
theorem dX5_factOf_8 : decode cX5_factOf 8 = .ok (.iload_n 2, 1) := dk_28 (dk_at dksX5_factOf_0 8 rfl rfl)
theorem dX5_factOf_9 : decode cX5_factOf 9 = .ok (.iadd, 1) := dk_96 (dk_at dksX5_factOf_0 9 rfl rfl)
theorem dX5_factOf_10 : decode cX5_factOf 10 = .ok (.iaload, 1) := dk_46 (dk_at dksX5_factOf_0 10 rfl rfl)
theorem dX5_factOf_11 : decode cX5_factOf 11 = .ok (.ireturn, 1) := dk_172 (dk_at dksX5_factOf_0 11 rfl rfl)
abbrev cX5_adds : ByteArray := prog_25_method_18_code
def yX5_adds : MethodName := ⟨RX5, "adds", "(IIIII)I"⟩
def dkwX5_adds_2 : List UInt8 := [21, 6, 172]
abbrev dktX5_adds_2 : List UInt8 := dkwX5_adds_2 ++ []
def dkwX5_adds_1 : List UInt8 := [17, 0, 159, 92, 46, 4, 21, 6, 120, 128, 79, 42, 180, 0, 20, 17, 0, 157, 92, 46, 4, 96, 79]
abbrev dktX5_adds_1 : List UInt8 := dkwX5_adds_1 ++ dktX5_adds_2
def dkwX5_adds_0 : List UInt8 := [42, 182, 0, 102, 54, 6, 42, 21, 6, 27, 28, 29, 21, 4, 21, 5, 182, 0, 123, 42, 180, 0, 20]
abbrev dktX5_adds_0 : List UInt8 := dkwX5_adds_0 ++ dktX5_adds_1
theorem dksX5_adds_0 : cX5_adds.data.toList.drop 0 = dktX5_adds_0 := by decide +kernel
theorem dksX5_adds_1 : cX5_adds.data.toList.drop 23 = dktX5_adds_1 := dk_seg dksX5_adds_0 23 rfl rfl
theorem dksX5_adds_2 : cX5_adds.data.toList.drop 46 = dktX5_adds_2 := dk_seg dksX5_adds_1 23 rfl rfl
theorem dX5_adds_0 : decode cX5_adds 0 = .ok (.aload_n 0, 1) := dk_42 (dk_at dksX5_adds_0 0 rfl rfl)
theorem dX5_adds_1 : decode cX5_adds 1 = .ok (.invokevirtual 102, 3) := dk_182 0 102 (dk_at dksX5_adds_0 1 rfl rfl)
theorem dX5_adds_4 : decode cX5_adds 4 = .ok (.istore 6, 2) := dk_54 6 (dk_at dksX5_adds_0 4 rfl rfl)
theorem dX5_adds_6 : decode cX5_adds 6 = .ok (.aload_n 0, 1) := dk_42 (dk_at dksX5_adds_0 6 rfl rfl)
theorem dX5_adds_7 : decode cX5_adds 7 = .ok (.iload 6, 2) := dk_21 6 (dk_at dksX5_adds_0 7 rfl rfl)
theorem dX5_adds_9 : decode cX5_adds 9 = .ok (.iload_n 1, 1) := dk_27 (dk_at dksX5_adds_0 9 rfl rfl)
theorem dX5_adds_10 : decode cX5_adds 10 = .ok (.iload_n 2, 1) := dk_28 (dk_at dksX5_adds_0 10 rfl rfl)
theorem dX5_adds_11 : decode cX5_adds 11 = .ok (.iload_n 3, 1) := dk_29 (dk_at dksX5_adds_0 11 rfl rfl)
theorem dX5_adds_12 : decode cX5_adds 12 = .ok (.iload 4, 2) := dk_21 4 (dk_at dksX5_adds_0 12 rfl rfl)
theorem dX5_adds_14 : decode cX5_adds 14 = .ok (.iload 5, 2) := dk_21 5 (dk_at dksX5_adds_0 14 rfl rfl)
theorem dX5_adds_16 : decode cX5_adds 16 = .ok (.invokevirtual 123, 3) := dk_182 0 123 (dk_at dksX5_adds_0 16 rfl rfl)
theorem dX5_adds_19 : decode cX5_adds 19 = .ok (.aload_n 0, 1) := dk_42 (dk_at dksX5_adds_0 19 rfl rfl)
theorem dX5_adds_20 : decode cX5_adds 20 = .ok (.getfield 20, 3) := dk_180 0 20 (dk_at dksX5_adds_0 20 rfl rfl)
theorem dX5_adds_23 : decode cX5_adds 23 = .ok (.sipush 159, 3) := dk_17 0 159 (dk_at dksX5_adds_1 0 rfl rfl)
theorem dX5_adds_26 : decode cX5_adds 26 = .ok (.dup2, 1) := dk_92 (dk_at dksX5_adds_1 3 rfl rfl)
theorem dX5_adds_27 : decode cX5_adds 27 = .ok (.iaload, 1) := dk_46 (dk_at dksX5_adds_1 4 rfl rfl)
theorem dX5_adds_28 : decode cX5_adds 28 = .ok (.iconst 1, 1) := dk_4 (dk_at dksX5_adds_1 5 rfl rfl)
theorem dX5_adds_29 : decode cX5_adds 29 = .ok (.iload 6, 2) := dk_21 6 (dk_at dksX5_adds_1 6 rfl rfl)
theorem dX5_adds_31 : decode cX5_adds 31 = .ok (.ishl, 1) := dk_120 (dk_at dksX5_adds_1 8 rfl rfl)
theorem dX5_adds_32 : decode cX5_adds 32 = .ok (.ior, 1) := dk_128 (dk_at dksX5_adds_1 9 rfl rfl)
theorem dX5_adds_33 : decode cX5_adds 33 = .ok (.iastore, 1) := dk_79 (dk_at dksX5_adds_1 10 rfl rfl)
theorem dX5_adds_34 : decode cX5_adds 34 = .ok (.aload_n 0, 1) := dk_42 (dk_at dksX5_adds_1 11 rfl rfl)
theorem dX5_adds_35 : decode cX5_adds 35 = .ok (.getfield 20, 3) := dk_180 0 20 (dk_at dksX5_adds_1 12 rfl rfl)
theorem dX5_adds_38 : decode cX5_adds 38 = .ok (.sipush 157, 3) := dk_17 0 157 (dk_at dksX5_adds_1 15 rfl rfl)
theorem dX5_adds_41 : decode cX5_adds 41 = .ok (.dup2, 1) := dk_92 (dk_at dksX5_adds_1 18 rfl rfl)
theorem dX5_adds_42 : decode cX5_adds 42 = .ok (.iaload, 1) := dk_46 (dk_at dksX5_adds_1 19 rfl rfl)
theorem dX5_adds_43 : decode cX5_adds 43 = .ok (.iconst 1, 1) := dk_4 (dk_at dksX5_adds_1 20 rfl rfl)
theorem dX5_adds_44 : decode cX5_adds 44 = .ok (.iadd, 1) := dk_96 (dk_at dksX5_adds_1 21 rfl rfl)
theorem dX5_adds_45 : decode cX5_adds 45 = .ok (.iastore, 1) := dk_79 (dk_at dksX5_adds_1 22 rfl rfl)
theorem dX5_adds_46 : decode cX5_adds 46 = .ok (.iload 6, 2) := dk_21 6 (dk_at dksX5_adds_2 0 rfl rfl)
theorem dX5_adds_48 : decode cX5_adds 48 = .ok (.ireturn, 1) := dk_172 (dk_at dksX5_adds_2 2 rfl rfl)
abbrev cX5_lays : ByteArray := prog_25_method_17_code
def yX5_lays : MethodName := ⟨RX5, "lays", "(IIIIII)V"⟩
def dkwX5_lays_3 : List UInt8 := [21, 7, 16, 6, 96, 3, 79, 177]
abbrev dktX5_lays_3 : List UInt8 := dkwX5_lays_3 ++ []
def dkwX5_lays_2 : List UInt8 := [180, 0, 20, 21, 7, 7, 96, 21, 6, 79, 42, 180, 0, 20, 21, 7, 8, 96, 3, 79, 42, 180, 0, 20]
abbrev dktX5_lays_2 : List UInt8 := dkwX5_lays_2 ++ dktX5_lays_3
def dkwX5_lays_1 : List UInt8 := [42, 180, 0, 20, 21, 7, 5, 96, 21, 4, 79, 42, 180, 0, 20, 21, 7, 6, 96, 21, 5, 79, 42]
abbrev dktX5_lays_1 : List UInt8 := dkwX5_lays_1 ++ dktX5_lays_2
def dkwX5_lays_0 : List UInt8 := [16, 7, 27, 104, 54, 7, 42, 180, 0, 20, 21, 7, 28, 79, 42, 180, 0, 20, 21, 7, 4, 96, 29, 79]
abbrev dktX5_lays_0 : List UInt8 := dkwX5_lays_0 ++ dktX5_lays_1
theorem dksX5_lays_0 : cX5_lays.data.toList.drop 0 = dktX5_lays_0 := by decide +kernel
theorem dksX5_lays_1 : cX5_lays.data.toList.drop 24 = dktX5_lays_1 := dk_seg dksX5_lays_0 24 rfl rfl
theorem dksX5_lays_2 : cX5_lays.data.toList.drop 47 = dktX5_lays_2 := dk_seg dksX5_lays_1 23 rfl rfl
theorem dksX5_lays_3 : cX5_lays.data.toList.drop 71 = dktX5_lays_3 := dk_seg dksX5_lays_2 24 rfl rfl
theorem dX5_lays_0 : decode cX5_lays 0 = .ok (.bipush 7, 2) := dk_16 7 (dk_at dksX5_lays_0 0 rfl rfl)
theorem dX5_lays_2 : decode cX5_lays 2 = .ok (.iload_n 1, 1) := dk_27 (dk_at dksX5_lays_0 2 rfl rfl)
theorem dX5_lays_3 : decode cX5_lays 3 = .ok (.imul, 1) := dk_104 (dk_at dksX5_lays_0 3 rfl rfl)
theorem dX5_lays_4 : decode cX5_lays 4 = .ok (.istore 7, 2) := dk_54 7 (dk_at dksX5_lays_0 4 rfl rfl)
theorem dX5_lays_6 : decode cX5_lays 6 = .ok (.aload_n 0, 1) := dk_42 (dk_at dksX5_lays_0 6 rfl rfl)
theorem dX5_lays_7 : decode cX5_lays 7 = .ok (.getfield 20, 3) := dk_180 0 20 (dk_at dksX5_lays_0 7 rfl rfl)
theorem dX5_lays_10 : decode cX5_lays 10 = .ok (.iload 7, 2) := dk_21 7 (dk_at dksX5_lays_0 10 rfl rfl)
theorem dX5_lays_12 : decode cX5_lays 12 = .ok (.iload_n 2, 1) := dk_28 (dk_at dksX5_lays_0 12 rfl rfl)
theorem dX5_lays_13 : decode cX5_lays 13 = .ok (.iastore, 1) := dk_79 (dk_at dksX5_lays_0 13 rfl rfl)
theorem dX5_lays_14 : decode cX5_lays 14 = .ok (.aload_n 0, 1) := dk_42 (dk_at dksX5_lays_0 14 rfl rfl)
theorem dX5_lays_15 : decode cX5_lays 15 = .ok (.getfield 20, 3) := dk_180 0 20 (dk_at dksX5_lays_0 15 rfl rfl)
theorem dX5_lays_18 : decode cX5_lays 18 = .ok (.iload 7, 2) := dk_21 7 (dk_at dksX5_lays_0 18 rfl rfl)
theorem dX5_lays_20 : decode cX5_lays 20 = .ok (.iconst 1, 1) := dk_4 (dk_at dksX5_lays_0 20 rfl rfl)
theorem dX5_lays_21 : decode cX5_lays 21 = .ok (.iadd, 1) := dk_96 (dk_at dksX5_lays_0 21 rfl rfl)
theorem dX5_lays_22 : decode cX5_lays 22 = .ok (.iload_n 3, 1) := dk_29 (dk_at dksX5_lays_0 22 rfl rfl)
theorem dX5_lays_23 : decode cX5_lays 23 = .ok (.iastore, 1) := dk_79 (dk_at dksX5_lays_0 23 rfl rfl)
theorem dX5_lays_24 : decode cX5_lays 24 = .ok (.aload_n 0, 1) := dk_42 (dk_at dksX5_lays_1 0 rfl rfl)
theorem dX5_lays_25 : decode cX5_lays 25 = .ok (.getfield 20, 3) := dk_180 0 20 (dk_at dksX5_lays_1 1 rfl rfl)
theorem dX5_lays_28 : decode cX5_lays 28 = .ok (.iload 7, 2) := dk_21 7 (dk_at dksX5_lays_1 4 rfl rfl)
theorem dX5_lays_30 : decode cX5_lays 30 = .ok (.iconst 2, 1) := dk_5 (dk_at dksX5_lays_1 6 rfl rfl)
theorem dX5_lays_31 : decode cX5_lays 31 = .ok (.iadd, 1) := dk_96 (dk_at dksX5_lays_1 7 rfl rfl)
theorem dX5_lays_32 : decode cX5_lays 32 = .ok (.iload 4, 2) := dk_21 4 (dk_at dksX5_lays_1 8 rfl rfl)
theorem dX5_lays_34 : decode cX5_lays 34 = .ok (.iastore, 1) := dk_79 (dk_at dksX5_lays_1 10 rfl rfl)
theorem dX5_lays_35 : decode cX5_lays 35 = .ok (.aload_n 0, 1) := dk_42 (dk_at dksX5_lays_1 11 rfl rfl)
theorem dX5_lays_36 : decode cX5_lays 36 = .ok (.getfield 20, 3) := dk_180 0 20 (dk_at dksX5_lays_1 12 rfl rfl)
theorem dX5_lays_39 : decode cX5_lays 39 = .ok (.iload 7, 2) := dk_21 7 (dk_at dksX5_lays_1 15 rfl rfl)
theorem dX5_lays_41 : decode cX5_lays 41 = .ok (.iconst 3, 1) := dk_6 (dk_at dksX5_lays_1 17 rfl rfl)
theorem dX5_lays_42 : decode cX5_lays 42 = .ok (.iadd, 1) := dk_96 (dk_at dksX5_lays_1 18 rfl rfl)
theorem dX5_lays_43 : decode cX5_lays 43 = .ok (.iload 5, 2) := dk_21 5 (dk_at dksX5_lays_1 19 rfl rfl)
theorem dX5_lays_45 : decode cX5_lays 45 = .ok (.iastore, 1) := dk_79 (dk_at dksX5_lays_1 21 rfl rfl)
theorem dX5_lays_46 : decode cX5_lays 46 = .ok (.aload_n 0, 1) := dk_42 (dk_at dksX5_lays_1 22 rfl rfl)
theorem dX5_lays_47 : decode cX5_lays 47 = .ok (.getfield 20, 3) := dk_180 0 20 (dk_at dksX5_lays_2 0 rfl rfl)
theorem dX5_lays_50 : decode cX5_lays 50 = .ok (.iload 7, 2) := dk_21 7 (dk_at dksX5_lays_2 3 rfl rfl)
theorem dX5_lays_52 : decode cX5_lays 52 = .ok (.iconst 4, 1) := dk_7 (dk_at dksX5_lays_2 5 rfl rfl)
theorem dX5_lays_53 : decode cX5_lays 53 = .ok (.iadd, 1) := dk_96 (dk_at dksX5_lays_2 6 rfl rfl)
theorem dX5_lays_54 : decode cX5_lays 54 = .ok (.iload 6, 2) := dk_21 6 (dk_at dksX5_lays_2 7 rfl rfl)
theorem dX5_lays_56 : decode cX5_lays 56 = .ok (.iastore, 1) := dk_79 (dk_at dksX5_lays_2 9 rfl rfl)
theorem dX5_lays_57 : decode cX5_lays 57 = .ok (.aload_n 0, 1) := dk_42 (dk_at dksX5_lays_2 10 rfl rfl)
theorem dX5_lays_58 : decode cX5_lays 58 = .ok (.getfield 20, 3) := dk_180 0 20 (dk_at dksX5_lays_2 11 rfl rfl)
theorem dX5_lays_61 : decode cX5_lays 61 = .ok (.iload 7, 2) := dk_21 7 (dk_at dksX5_lays_2 14 rfl rfl)
theorem dX5_lays_63 : decode cX5_lays 63 = .ok (.iconst 5, 1) := dk_8 (dk_at dksX5_lays_2 16 rfl rfl)
theorem dX5_lays_64 : decode cX5_lays 64 = .ok (.iadd, 1) := dk_96 (dk_at dksX5_lays_2 17 rfl rfl)
theorem dX5_lays_65 : decode cX5_lays 65 = .ok (.iconst 0, 1) := dk_3 (dk_at dksX5_lays_2 18 rfl rfl)
theorem dX5_lays_66 : decode cX5_lays 66 = .ok (.iastore, 1) := dk_79 (dk_at dksX5_lays_2 19 rfl rfl)
theorem dX5_lays_67 : decode cX5_lays 67 = .ok (.aload_n 0, 1) := dk_42 (dk_at dksX5_lays_2 20 rfl rfl)
theorem dX5_lays_68 : decode cX5_lays 68 = .ok (.getfield 20, 3) := dk_180 0 20 (dk_at dksX5_lays_2 21 rfl rfl)
theorem dX5_lays_71 : decode cX5_lays 71 = .ok (.iload 7, 2) := dk_21 7 (dk_at dksX5_lays_3 0 rfl rfl)
theorem dX5_lays_73 : decode cX5_lays 73 = .ok (.bipush 6, 2) := dk_16 6 (dk_at dksX5_lays_3 2 rfl rfl)
theorem dX5_lays_75 : decode cX5_lays 75 = .ok (.iadd, 1) := dk_96 (dk_at dksX5_lays_3 4 rfl rfl)
theorem dX5_lays_76 : decode cX5_lays 76 = .ok (.iconst 0, 1) := dk_3 (dk_at dksX5_lays_3 5 rfl rfl)
theorem dX5_lays_77 : decode cX5_lays 77 = .ok (.iastore, 1) := dk_79 (dk_at dksX5_lays_3 6 rfl rfl)
theorem dX5_lays_78 : decode cX5_lays 78 = .ok (.return_, 1) := dk_177 (dk_at dksX5_lays_3 7 rfl rfl)
abbrev cX5_spare : ByteArray := prog_25_method_20_code
def yX5_spare : MethodName := ⟨RX5, "spare", "(IIIII)I"⟩
def dkwX5_spare_3 : List UInt8 := [21, 5, 182, 0, 123, 42, 180, 0, 20, 17, 0, 158, 92, 46, 4, 96, 79, 42, 21, 6, 182, 0, 99, 172]
abbrev dktX5_spare_3 : List UInt8 := dkwX5_spare_3 ++ []
def dkwX5_spare_2 : List UInt8 := [16, 8, 160, 0, 10, 42, 16, 251, 182, 0, 95, 172, 42, 16, 14, 21, 6, 96, 27, 28, 29, 21, 4]
abbrev dktX5_spare_2 : List UInt8 := dkwX5_spare_2 ++ dktX5_spare_3
def dkwX5_spare_1 : List UInt8 := [21, 4, 182, 0, 131, 154, 0, 10, 42, 16, 253, 182, 0, 95, 172, 42, 182, 0, 110, 54, 6, 21, 6]
abbrev dktX5_spare_1 : List UInt8 := dkwX5_spare_1 ++ dktX5_spare_2
def dkwX5_spare_0 : List UInt8 := [27, 28, 29, 21, 4, 21, 5, 184, 0, 127, 154, 0, 9, 42, 2, 182, 0, 95, 172, 42, 27, 28, 29]
abbrev dktX5_spare_0 : List UInt8 := dkwX5_spare_0 ++ dktX5_spare_1
theorem dksX5_spare_0 : cX5_spare.data.toList.drop 0 = dktX5_spare_0 := by decide +kernel
theorem dksX5_spare_1 : cX5_spare.data.toList.drop 23 = dktX5_spare_1 := dk_seg dksX5_spare_0 23 rfl rfl
theorem dksX5_spare_2 : cX5_spare.data.toList.drop 46 = dktX5_spare_2 := dk_seg dksX5_spare_1 23 rfl rfl
theorem dksX5_spare_3 : cX5_spare.data.toList.drop 69 = dktX5_spare_3 := dk_seg dksX5_spare_2 23 rfl rfl
theorem dX5_spare_0 : decode cX5_spare 0 = .ok (.iload_n 1, 1) := dk_27 (dk_at dksX5_spare_0 0 rfl rfl)
theorem dX5_spare_1 : decode cX5_spare 1 = .ok (.iload_n 2, 1) := dk_28 (dk_at dksX5_spare_0 1 rfl rfl)
theorem dX5_spare_2 : decode cX5_spare 2 = .ok (.iload_n 3, 1) := dk_29 (dk_at dksX5_spare_0 2 rfl rfl)
theorem dX5_spare_3 : decode cX5_spare 3 = .ok (.iload 4, 2) := dk_21 4 (dk_at dksX5_spare_0 3 rfl rfl)
theorem dX5_spare_5 : decode cX5_spare 5 = .ok (.iload 5, 2) := dk_21 5 (dk_at dksX5_spare_0 5 rfl rfl)
theorem dX5_spare_7 : decode cX5_spare 7 = .ok (.invokestatic 127, 3) := dk_184 0 127 (dk_at dksX5_spare_0 7 rfl rfl)
theorem dX5_spare_10 : decode cX5_spare 10 = .ok (.ifCond .ne 9, 3) := dk_154 0 9 (dk_at dksX5_spare_0 10 rfl rfl)
theorem dX5_spare_13 : decode cX5_spare 13 = .ok (.aload_n 0, 1) := dk_42 (dk_at dksX5_spare_0 13 rfl rfl)
theorem dX5_spare_14 : decode cX5_spare 14 = .ok (.iconst (-1), 1) := dk_2 (dk_at dksX5_spare_0 14 rfl rfl)
theorem dX5_spare_15 : decode cX5_spare 15 = .ok (.invokevirtual 95, 3) := dk_182 0 95 (dk_at dksX5_spare_0 15 rfl rfl)
theorem dX5_spare_18 : decode cX5_spare 18 = .ok (.ireturn, 1) := dk_172 (dk_at dksX5_spare_0 18 rfl rfl)
theorem dX5_spare_19 : decode cX5_spare 19 = .ok (.aload_n 0, 1) := dk_42 (dk_at dksX5_spare_0 19 rfl rfl)
theorem dX5_spare_20 : decode cX5_spare 20 = .ok (.iload_n 1, 1) := dk_27 (dk_at dksX5_spare_0 20 rfl rfl)
theorem dX5_spare_21 : decode cX5_spare 21 = .ok (.iload_n 2, 1) := dk_28 (dk_at dksX5_spare_0 21 rfl rfl)
theorem dX5_spare_22 : decode cX5_spare 22 = .ok (.iload_n 3, 1) := dk_29 (dk_at dksX5_spare_0 22 rfl rfl)
theorem dX5_spare_23 : decode cX5_spare 23 = .ok (.iload 4, 2) := dk_21 4 (dk_at dksX5_spare_1 0 rfl rfl)
theorem dX5_spare_25 : decode cX5_spare 25 = .ok (.invokevirtual 131, 3) := dk_182 0 131 (dk_at dksX5_spare_1 2 rfl rfl)
theorem dX5_spare_28 : decode cX5_spare 28 = .ok (.ifCond .ne 10, 3) := dk_154 0 10 (dk_at dksX5_spare_1 5 rfl rfl)
theorem dX5_spare_31 : decode cX5_spare 31 = .ok (.aload_n 0, 1) := dk_42 (dk_at dksX5_spare_1 8 rfl rfl)
theorem dX5_spare_32 : decode cX5_spare 32 = .ok (.bipush (-3), 2) := dk_16 253 (dk_at dksX5_spare_1 9 rfl rfl)
theorem dX5_spare_34 : decode cX5_spare 34 = .ok (.invokevirtual 95, 3) := dk_182 0 95 (dk_at dksX5_spare_1 11 rfl rfl)
theorem dX5_spare_37 : decode cX5_spare 37 = .ok (.ireturn, 1) := dk_172 (dk_at dksX5_spare_1 14 rfl rfl)
theorem dX5_spare_38 : decode cX5_spare 38 = .ok (.aload_n 0, 1) := dk_42 (dk_at dksX5_spare_1 15 rfl rfl)
theorem dX5_spare_39 : decode cX5_spare 39 = .ok (.invokevirtual 110, 3) := dk_182 0 110 (dk_at dksX5_spare_1 16 rfl rfl)
theorem dX5_spare_42 : decode cX5_spare 42 = .ok (.istore 6, 2) := dk_54 6 (dk_at dksX5_spare_1 19 rfl rfl)
theorem dX5_spare_44 : decode cX5_spare 44 = .ok (.iload 6, 2) := dk_21 6 (dk_at dksX5_spare_1 21 rfl rfl)
theorem dX5_spare_46 : decode cX5_spare 46 = .ok (.bipush 8, 2) := dk_16 8 (dk_at dksX5_spare_2 0 rfl rfl)
theorem dX5_spare_48 : decode cX5_spare 48 = .ok (.if_icmp .ne 10, 3) := dk_160 0 10 (dk_at dksX5_spare_2 2 rfl rfl)
theorem dX5_spare_51 : decode cX5_spare 51 = .ok (.aload_n 0, 1) := dk_42 (dk_at dksX5_spare_2 5 rfl rfl)
theorem dX5_spare_52 : decode cX5_spare 52 = .ok (.bipush (-5), 2) := dk_16 251 (dk_at dksX5_spare_2 6 rfl rfl)
theorem dX5_spare_54 : decode cX5_spare 54 = .ok (.invokevirtual 95, 3) := dk_182 0 95 (dk_at dksX5_spare_2 8 rfl rfl)
theorem dX5_spare_57 : decode cX5_spare 57 = .ok (.ireturn, 1) := dk_172 (dk_at dksX5_spare_2 11 rfl rfl)
theorem dX5_spare_58 : decode cX5_spare 58 = .ok (.aload_n 0, 1) := dk_42 (dk_at dksX5_spare_2 12 rfl rfl)
theorem dX5_spare_59 : decode cX5_spare 59 = .ok (.bipush 14, 2) := dk_16 14 (dk_at dksX5_spare_2 13 rfl rfl)
theorem dX5_spare_61 : decode cX5_spare 61 = .ok (.iload 6, 2) := dk_21 6 (dk_at dksX5_spare_2 15 rfl rfl)
theorem dX5_spare_63 : decode cX5_spare 63 = .ok (.iadd, 1) := dk_96 (dk_at dksX5_spare_2 17 rfl rfl)
theorem dX5_spare_64 : decode cX5_spare 64 = .ok (.iload_n 1, 1) := dk_27 (dk_at dksX5_spare_2 18 rfl rfl)
theorem dX5_spare_65 : decode cX5_spare 65 = .ok (.iload_n 2, 1) := dk_28 (dk_at dksX5_spare_2 19 rfl rfl)
theorem dX5_spare_66 : decode cX5_spare 66 = .ok (.iload_n 3, 1) := dk_29 (dk_at dksX5_spare_2 20 rfl rfl)
theorem dX5_spare_67 : decode cX5_spare 67 = .ok (.iload 4, 2) := dk_21 4 (dk_at dksX5_spare_2 21 rfl rfl)
theorem dX5_spare_69 : decode cX5_spare 69 = .ok (.iload 5, 2) := dk_21 5 (dk_at dksX5_spare_3 0 rfl rfl)
theorem dX5_spare_71 : decode cX5_spare 71 = .ok (.invokevirtual 123, 3) := dk_182 0 123 (dk_at dksX5_spare_3 2 rfl rfl)
theorem dX5_spare_74 : decode cX5_spare 74 = .ok (.aload_n 0, 1) := dk_42 (dk_at dksX5_spare_3 5 rfl rfl)
theorem dX5_spare_75 : decode cX5_spare 75 = .ok (.getfield 20, 3) := dk_180 0 20 (dk_at dksX5_spare_3 6 rfl rfl)
theorem dX5_spare_78 : decode cX5_spare 78 = .ok (.sipush 158, 3) := dk_17 0 158 (dk_at dksX5_spare_3 9 rfl rfl)
theorem dX5_spare_81 : decode cX5_spare 81 = .ok (.dup2, 1) := dk_92 (dk_at dksX5_spare_3 12 rfl rfl)
theorem dX5_spare_82 : decode cX5_spare 82 = .ok (.iaload, 1) := dk_46 (dk_at dksX5_spare_3 13 rfl rfl)
theorem dX5_spare_83 : decode cX5_spare 83 = .ok (.iconst 1, 1) := dk_4 (dk_at dksX5_spare_3 14 rfl rfl)
theorem dX5_spare_84 : decode cX5_spare 84 = .ok (.iadd, 1) := dk_96 (dk_at dksX5_spare_3 15 rfl rfl)
theorem dX5_spare_85 : decode cX5_spare 85 = .ok (.iastore, 1) := dk_79 (dk_at dksX5_spare_3 16 rfl rfl)
theorem dX5_spare_86 : decode cX5_spare 86 = .ok (.aload_n 0, 1) := dk_42 (dk_at dksX5_spare_3 17 rfl rfl)
theorem dX5_spare_87 : decode cX5_spare 87 = .ok (.iload 6, 2) := dk_21 6 (dk_at dksX5_spare_3 18 rfl rfl)
theorem dX5_spare_89 : decode cX5_spare 89 = .ok (.invokevirtual 99, 3) := dk_182 0 99 (dk_at dksX5_spare_3 20 rfl rfl)
theorem dX5_spare_92 : decode cX5_spare 92 = .ok (.ireturn, 1) := dk_172 (dk_at dksX5_spare_3 23 rfl rfl)
abbrev cX5_put : ByteArray := prog_25_method_21_code
def yX5_put : MethodName := ⟨RX5, "put", "(III)I"⟩
def dkwX5_put_4 : List UInt8 := [182, 0, 99, 172]
abbrev dktX5_put_4 : List UInt8 := dkwX5_put_4 ++ []
def dkwX5_put_3 : List UInt8 := [182, 0, 113, 54, 4, 42, 180, 0, 20, 16, 7, 27, 104, 7, 96, 28, 96, 29, 79, 42, 21, 4]
abbrev dktX5_put_3 : List UInt8 := dkwX5_put_3 ++ dktX5_put_4
def dkwX5_put_2 : List UInt8 := [182, 0, 95, 172, 42, 27, 182, 0, 106, 154, 0, 10, 42, 16, 254, 182, 0, 95, 172, 42, 27, 7, 28, 96]
abbrev dktX5_put_2 : List UInt8 := dkwX5_put_2 ++ dktX5_put_3
def dkwX5_put_1 : List UInt8 := [16, 99, 167, 0, 14, 28, 4, 160, 0, 7, 6, 167, 0, 5, 16, 100, 184, 0, 91, 154, 0, 9, 42, 2]
abbrev dktX5_put_1 : List UInt8 := dkwX5_put_1 ++ dktX5_put_2
def dkwX5_put_0 : List UInt8 := [28, 3, 5, 184, 0, 91, 153, 0, 39, 29, 28, 154, 0, 7, 4, 167, 0, 4, 3, 28, 154, 0, 8]
abbrev dktX5_put_0 : List UInt8 := dkwX5_put_0 ++ dktX5_put_1
theorem dksX5_put_0 : cX5_put.data.toList.drop 0 = dktX5_put_0 := by decide +kernel
theorem dksX5_put_1 : cX5_put.data.toList.drop 23 = dktX5_put_1 := dk_seg dksX5_put_0 23 rfl rfl
theorem dksX5_put_2 : cX5_put.data.toList.drop 47 = dktX5_put_2 := dk_seg dksX5_put_1 24 rfl rfl
theorem dksX5_put_3 : cX5_put.data.toList.drop 71 = dktX5_put_3 := dk_seg dksX5_put_2 24 rfl rfl
theorem dksX5_put_4 : cX5_put.data.toList.drop 93 = dktX5_put_4 := dk_seg dksX5_put_3 22 rfl rfl
theorem dX5_put_0 : decode cX5_put 0 = .ok (.iload_n 2, 1) := dk_28 (dk_at dksX5_put_0 0 rfl rfl)
theorem dX5_put_1 : decode cX5_put 1 = .ok (.iconst 0, 1) := dk_3 (dk_at dksX5_put_0 1 rfl rfl)
theorem dX5_put_2 : decode cX5_put 2 = .ok (.iconst 2, 1) := dk_5 (dk_at dksX5_put_0 2 rfl rfl)
theorem dX5_put_3 : decode cX5_put 3 = .ok (.invokestatic 91, 3) := dk_184 0 91 (dk_at dksX5_put_0 3 rfl rfl)
theorem dX5_put_6 : decode cX5_put 6 = .ok (.ifCond .eq 39, 3) := dk_153 0 39 (dk_at dksX5_put_0 6 rfl rfl)
theorem dX5_put_9 : decode cX5_put 9 = .ok (.iload_n 3, 1) := dk_29 (dk_at dksX5_put_0 9 rfl rfl)
theorem dX5_put_10 : decode cX5_put 10 = .ok (.iload_n 2, 1) := dk_28 (dk_at dksX5_put_0 10 rfl rfl)
theorem dX5_put_11 : decode cX5_put 11 = .ok (.ifCond .ne 7, 3) := dk_154 0 7 (dk_at dksX5_put_0 11 rfl rfl)
theorem dX5_put_14 : decode cX5_put 14 = .ok (.iconst 1, 1) := dk_4 (dk_at dksX5_put_0 14 rfl rfl)
theorem dX5_put_15 : decode cX5_put 15 = .ok (.goto 4, 3) := dk_167 0 4 (dk_at dksX5_put_0 15 rfl rfl)
theorem dX5_put_18 : decode cX5_put 18 = .ok (.iconst 0, 1) := dk_3 (dk_at dksX5_put_0 18 rfl rfl)
theorem dX5_put_19 : decode cX5_put 19 = .ok (.iload_n 2, 1) := dk_28 (dk_at dksX5_put_0 19 rfl rfl)
theorem dX5_put_20 : decode cX5_put 20 = .ok (.ifCond .ne 8, 3) := dk_154 0 8 (dk_at dksX5_put_0 20 rfl rfl)
theorem dX5_put_23 : decode cX5_put 23 = .ok (.bipush 99, 2) := dk_16 99 (dk_at dksX5_put_1 0 rfl rfl)
theorem dX5_put_25 : decode cX5_put 25 = .ok (.goto 14, 3) := dk_167 0 14 (dk_at dksX5_put_1 2 rfl rfl)
theorem dX5_put_28 : decode cX5_put 28 = .ok (.iload_n 2, 1) := dk_28 (dk_at dksX5_put_1 5 rfl rfl)
theorem dX5_put_29 : decode cX5_put 29 = .ok (.iconst 1, 1) := dk_4 (dk_at dksX5_put_1 6 rfl rfl)
theorem dX5_put_30 : decode cX5_put 30 = .ok (.if_icmp .ne 7, 3) := dk_160 0 7 (dk_at dksX5_put_1 7 rfl rfl)
theorem dX5_put_33 : decode cX5_put 33 = .ok (.iconst 3, 1) := dk_6 (dk_at dksX5_put_1 10 rfl rfl)
theorem dX5_put_34 : decode cX5_put 34 = .ok (.goto 5, 3) := dk_167 0 5 (dk_at dksX5_put_1 11 rfl rfl)
theorem dX5_put_37 : decode cX5_put 37 = .ok (.bipush 100, 2) := dk_16 100 (dk_at dksX5_put_1 14 rfl rfl)
theorem dX5_put_39 : decode cX5_put 39 = .ok (.invokestatic 91, 3) := dk_184 0 91 (dk_at dksX5_put_1 16 rfl rfl)
theorem dX5_put_42 : decode cX5_put 42 = .ok (.ifCond .ne 9, 3) := dk_154 0 9 (dk_at dksX5_put_1 19 rfl rfl)
theorem dX5_put_45 : decode cX5_put 45 = .ok (.aload_n 0, 1) := dk_42 (dk_at dksX5_put_1 22 rfl rfl)
theorem dX5_put_46 : decode cX5_put 46 = .ok (.iconst (-1), 1) := dk_2 (dk_at dksX5_put_1 23 rfl rfl)
theorem dX5_put_47 : decode cX5_put 47 = .ok (.invokevirtual 95, 3) := dk_182 0 95 (dk_at dksX5_put_2 0 rfl rfl)
theorem dX5_put_50 : decode cX5_put 50 = .ok (.ireturn, 1) := dk_172 (dk_at dksX5_put_2 3 rfl rfl)
theorem dX5_put_51 : decode cX5_put 51 = .ok (.aload_n 0, 1) := dk_42 (dk_at dksX5_put_2 4 rfl rfl)
theorem dX5_put_52 : decode cX5_put 52 = .ok (.iload_n 1, 1) := dk_27 (dk_at dksX5_put_2 5 rfl rfl)
theorem dX5_put_53 : decode cX5_put 53 = .ok (.invokevirtual 106, 3) := dk_182 0 106 (dk_at dksX5_put_2 6 rfl rfl)
theorem dX5_put_56 : decode cX5_put 56 = .ok (.ifCond .ne 10, 3) := dk_154 0 10 (dk_at dksX5_put_2 9 rfl rfl)
theorem dX5_put_59 : decode cX5_put 59 = .ok (.aload_n 0, 1) := dk_42 (dk_at dksX5_put_2 12 rfl rfl)
theorem dX5_put_60 : decode cX5_put 60 = .ok (.bipush (-2), 2) := dk_16 254 (dk_at dksX5_put_2 13 rfl rfl)
theorem dX5_put_62 : decode cX5_put 62 = .ok (.invokevirtual 95, 3) := dk_182 0 95 (dk_at dksX5_put_2 15 rfl rfl)
theorem dX5_put_65 : decode cX5_put 65 = .ok (.ireturn, 1) := dk_172 (dk_at dksX5_put_2 18 rfl rfl)
theorem dX5_put_66 : decode cX5_put 66 = .ok (.aload_n 0, 1) := dk_42 (dk_at dksX5_put_2 19 rfl rfl)
theorem dX5_put_67 : decode cX5_put 67 = .ok (.iload_n 1, 1) := dk_27 (dk_at dksX5_put_2 20 rfl rfl)
theorem dX5_put_68 : decode cX5_put 68 = .ok (.iconst 4, 1) := dk_7 (dk_at dksX5_put_2 21 rfl rfl)
theorem dX5_put_69 : decode cX5_put 69 = .ok (.iload_n 2, 1) := dk_28 (dk_at dksX5_put_2 22 rfl rfl)
theorem dX5_put_70 : decode cX5_put 70 = .ok (.iadd, 1) := dk_96 (dk_at dksX5_put_2 23 rfl rfl)
theorem dX5_put_71 : decode cX5_put 71 = .ok (.invokevirtual 113, 3) := dk_182 0 113 (dk_at dksX5_put_3 0 rfl rfl)
theorem dX5_put_74 : decode cX5_put 74 = .ok (.istore 4, 2) := dk_54 4 (dk_at dksX5_put_3 3 rfl rfl)
theorem dX5_put_76 : decode cX5_put 76 = .ok (.aload_n 0, 1) := dk_42 (dk_at dksX5_put_3 5 rfl rfl)
theorem dX5_put_77 : decode cX5_put 77 = .ok (.getfield 20, 3) := dk_180 0 20 (dk_at dksX5_put_3 6 rfl rfl)
theorem dX5_put_80 : decode cX5_put 80 = .ok (.bipush 7, 2) := dk_16 7 (dk_at dksX5_put_3 9 rfl rfl)
theorem dX5_put_82 : decode cX5_put 82 = .ok (.iload_n 1, 1) := dk_27 (dk_at dksX5_put_3 11 rfl rfl)
theorem dX5_put_83 : decode cX5_put 83 = .ok (.imul, 1) := dk_104 (dk_at dksX5_put_3 12 rfl rfl)
theorem dX5_put_84 : decode cX5_put 84 = .ok (.iconst 4, 1) := dk_7 (dk_at dksX5_put_3 13 rfl rfl)
theorem dX5_put_85 : decode cX5_put 85 = .ok (.iadd, 1) := dk_96 (dk_at dksX5_put_3 14 rfl rfl)
theorem dX5_put_86 : decode cX5_put 86 = .ok (.iload_n 2, 1) := dk_28 (dk_at dksX5_put_3 15 rfl rfl)
theorem dX5_put_87 : decode cX5_put 87 = .ok (.iadd, 1) := dk_96 (dk_at dksX5_put_3 16 rfl rfl)
theorem dX5_put_88 : decode cX5_put 88 = .ok (.iload_n 3, 1) := dk_29 (dk_at dksX5_put_3 17 rfl rfl)
theorem dX5_put_89 : decode cX5_put 89 = .ok (.iastore, 1) := dk_79 (dk_at dksX5_put_3 18 rfl rfl)
theorem dX5_put_90 : decode cX5_put 90 = .ok (.aload_n 0, 1) := dk_42 (dk_at dksX5_put_3 19 rfl rfl)
theorem dX5_put_91 : decode cX5_put 91 = .ok (.iload 4, 2) := dk_21 4 (dk_at dksX5_put_3 20 rfl rfl)
theorem dX5_put_93 : decode cX5_put 93 = .ok (.invokevirtual 99, 3) := dk_182 0 99 (dk_at dksX5_put_4 0 rfl rfl)
theorem dX5_put_96 : decode cX5_put 96 = .ok (.ireturn, 1) := dk_172 (dk_at dksX5_put_4 3 rfl rfl)
abbrev cX5_of : ByteArray := prog_25_method_22_code
def yX5_of : MethodName := ⟨RX5, "of", "(II)I"⟩
def dkwX5_of_2 : List UInt8 := [172]
abbrev dktX5_of_2 : List UInt8 := dkwX5_of_2 ++ []
def dkwX5_of_1 : List UInt8 := [162, 0, 12, 42, 27, 28, 182, 0, 113, 167, 0, 15, 42, 180, 0, 20, 17, 0, 159, 46, 27, 122, 4, 126]
abbrev dktX5_of_1 : List UInt8 := dkwX5_of_1 ++ dktX5_of_2
def dkwX5_of_0 : List UInt8 := [42, 27, 182, 0, 106, 153, 0, 13, 28, 3, 16, 7, 184, 0, 91, 154, 0, 5, 2, 172, 28, 16, 7]
abbrev dktX5_of_0 : List UInt8 := dkwX5_of_0 ++ dktX5_of_1
theorem dksX5_of_0 : cX5_of.data.toList.drop 0 = dktX5_of_0 := by decide +kernel
theorem dksX5_of_1 : cX5_of.data.toList.drop 23 = dktX5_of_1 := dk_seg dksX5_of_0 23 rfl rfl
theorem dksX5_of_2 : cX5_of.data.toList.drop 47 = dktX5_of_2 := dk_seg dksX5_of_1 24 rfl rfl
theorem dX5_of_0 : decode cX5_of 0 = .ok (.aload_n 0, 1) := dk_42 (dk_at dksX5_of_0 0 rfl rfl)
theorem dX5_of_1 : decode cX5_of 1 = .ok (.iload_n 1, 1) := dk_27 (dk_at dksX5_of_0 1 rfl rfl)
theorem dX5_of_2 : decode cX5_of 2 = .ok (.invokevirtual 106, 3) := dk_182 0 106 (dk_at dksX5_of_0 2 rfl rfl)
theorem dX5_of_5 : decode cX5_of 5 = .ok (.ifCond .eq 13, 3) := dk_153 0 13 (dk_at dksX5_of_0 5 rfl rfl)
theorem dX5_of_8 : decode cX5_of 8 = .ok (.iload_n 2, 1) := dk_28 (dk_at dksX5_of_0 8 rfl rfl)
theorem dX5_of_9 : decode cX5_of 9 = .ok (.iconst 0, 1) := dk_3 (dk_at dksX5_of_0 9 rfl rfl)
theorem dX5_of_10 : decode cX5_of 10 = .ok (.bipush 7, 2) := dk_16 7 (dk_at dksX5_of_0 10 rfl rfl)
theorem dX5_of_12 : decode cX5_of 12 = .ok (.invokestatic 91, 3) := dk_184 0 91 (dk_at dksX5_of_0 12 rfl rfl)
theorem dX5_of_15 : decode cX5_of 15 = .ok (.ifCond .ne 5, 3) := dk_154 0 5 (dk_at dksX5_of_0 15 rfl rfl)
theorem dX5_of_18 : decode cX5_of 18 = .ok (.iconst (-1), 1) := dk_2 (dk_at dksX5_of_0 18 rfl rfl)
theorem dX5_of_19 : decode cX5_of 19 = .ok (.ireturn, 1) := dk_172 (dk_at dksX5_of_0 19 rfl rfl)
theorem dX5_of_20 : decode cX5_of 20 = .ok (.iload_n 2, 1) := dk_28 (dk_at dksX5_of_0 20 rfl rfl)
theorem dX5_of_21 : decode cX5_of 21 = .ok (.bipush 7, 2) := dk_16 7 (dk_at dksX5_of_0 21 rfl rfl)
theorem dX5_of_23 : decode cX5_of 23 = .ok (.if_icmp .ge 12, 3) := dk_162 0 12 (dk_at dksX5_of_1 0 rfl rfl)
theorem dX5_of_26 : decode cX5_of 26 = .ok (.aload_n 0, 1) := dk_42 (dk_at dksX5_of_1 3 rfl rfl)
theorem dX5_of_27 : decode cX5_of 27 = .ok (.iload_n 1, 1) := dk_27 (dk_at dksX5_of_1 4 rfl rfl)
theorem dX5_of_28 : decode cX5_of 28 = .ok (.iload_n 2, 1) := dk_28 (dk_at dksX5_of_1 5 rfl rfl)
theorem dX5_of_29 : decode cX5_of 29 = .ok (.invokevirtual 113, 3) := dk_182 0 113 (dk_at dksX5_of_1 6 rfl rfl)
theorem dX5_of_32 : decode cX5_of 32 = .ok (.goto 15, 3) := dk_167 0 15 (dk_at dksX5_of_1 9 rfl rfl)
theorem dX5_of_35 : decode cX5_of 35 = .ok (.aload_n 0, 1) := dk_42 (dk_at dksX5_of_1 12 rfl rfl)
theorem dX5_of_36 : decode cX5_of 36 = .ok (.getfield 20, 3) := dk_180 0 20 (dk_at dksX5_of_1 13 rfl rfl)
theorem dX5_of_39 : decode cX5_of 39 = .ok (.sipush 159, 3) := dk_17 0 159 (dk_at dksX5_of_1 16 rfl rfl)
theorem dX5_of_42 : decode cX5_of 42 = .ok (.iaload, 1) := dk_46 (dk_at dksX5_of_1 19 rfl rfl)
theorem dX5_of_43 : decode cX5_of 43 = .ok (.iload_n 1, 1) := dk_27 (dk_at dksX5_of_1 20 rfl rfl)
theorem dX5_of_44 : decode cX5_of 44 = .ok (.ishr, 1) := dk_122 (dk_at dksX5_of_1 21 rfl rfl)
theorem dX5_of_45 : decode cX5_of 45 = .ok (.iconst 1, 1) := dk_4 (dk_at dksX5_of_1 22 rfl rfl)
theorem dX5_of_46 : decode cX5_of 46 = .ok (.iand, 1) := dk_126 (dk_at dksX5_of_1 23 rfl rfl)
theorem dX5_of_47 : decode cX5_of 47 = .ok (.ireturn, 1) := dk_172 (dk_at dksX5_of_2 0 rfl rfl)
abbrev cX5_terms : ByteArray := prog_25_method_23_code
def yX5_terms : MethodName := ⟨RX5, "terms", "(II)I"⟩
def dkwX5_terms_2 : List UInt8 := [180, 0, 20, 17, 0, 154, 27, 96, 28, 79, 42, 29, 182, 0, 99, 172]
abbrev dktX5_terms_2 : List UInt8 := dkwX5_terms_2 ++ []
def dkwX5_terms_1 : List UInt8 := [184, 0, 91, 154, 0, 9, 42, 2, 182, 0, 95, 172, 42, 180, 0, 20, 17, 0, 154, 27, 96, 46, 62, 42]
abbrev dktX5_terms_1 : List UInt8 := dkwX5_terms_1 ++ dktX5_terms_2
def dkwX5_terms_0 : List UInt8 := [27, 3, 5, 184, 0, 91, 153, 0, 22, 28, 3, 27, 154, 0, 8, 16, 12, 167, 0, 5, 16, 9]
abbrev dktX5_terms_0 : List UInt8 := dkwX5_terms_0 ++ dktX5_terms_1
theorem dksX5_terms_0 : cX5_terms.data.toList.drop 0 = dktX5_terms_0 := by decide +kernel
theorem dksX5_terms_1 : cX5_terms.data.toList.drop 22 = dktX5_terms_1 := dk_seg dksX5_terms_0 22 rfl rfl
theorem dksX5_terms_2 : cX5_terms.data.toList.drop 46 = dktX5_terms_2 := dk_seg dksX5_terms_1 24 rfl rfl
theorem dX5_terms_0 : decode cX5_terms 0 = .ok (.iload_n 1, 1) := dk_27 (dk_at dksX5_terms_0 0 rfl rfl)
theorem dX5_terms_1 : decode cX5_terms 1 = .ok (.iconst 0, 1) := dk_3 (dk_at dksX5_terms_0 1 rfl rfl)
theorem dX5_terms_2 : decode cX5_terms 2 = .ok (.iconst 2, 1) := dk_5 (dk_at dksX5_terms_0 2 rfl rfl)
theorem dX5_terms_3 : decode cX5_terms 3 = .ok (.invokestatic 91, 3) := dk_184 0 91 (dk_at dksX5_terms_0 3 rfl rfl)
theorem dX5_terms_6 : decode cX5_terms 6 = .ok (.ifCond .eq 22, 3) := dk_153 0 22 (dk_at dksX5_terms_0 6 rfl rfl)
theorem dX5_terms_9 : decode cX5_terms 9 = .ok (.iload_n 2, 1) := dk_28 (dk_at dksX5_terms_0 9 rfl rfl)
theorem dX5_terms_10 : decode cX5_terms 10 = .ok (.iconst 0, 1) := dk_3 (dk_at dksX5_terms_0 10 rfl rfl)
theorem dX5_terms_11 : decode cX5_terms 11 = .ok (.iload_n 1, 1) := dk_27 (dk_at dksX5_terms_0 11 rfl rfl)
theorem dX5_terms_12 : decode cX5_terms 12 = .ok (.ifCond .ne 8, 3) := dk_154 0 8 (dk_at dksX5_terms_0 12 rfl rfl)
theorem dX5_terms_15 : decode cX5_terms 15 = .ok (.bipush 12, 2) := dk_16 12 (dk_at dksX5_terms_0 15 rfl rfl)
theorem dX5_terms_17 : decode cX5_terms 17 = .ok (.goto 5, 3) := dk_167 0 5 (dk_at dksX5_terms_0 17 rfl rfl)
theorem dX5_terms_20 : decode cX5_terms 20 = .ok (.bipush 9, 2) := dk_16 9 (dk_at dksX5_terms_0 20 rfl rfl)
theorem dX5_terms_22 : decode cX5_terms 22 = .ok (.invokestatic 91, 3) := dk_184 0 91 (dk_at dksX5_terms_1 0 rfl rfl)
theorem dX5_terms_25 : decode cX5_terms 25 = .ok (.ifCond .ne 9, 3) := dk_154 0 9 (dk_at dksX5_terms_1 3 rfl rfl)
theorem dX5_terms_28 : decode cX5_terms 28 = .ok (.aload_n 0, 1) := dk_42 (dk_at dksX5_terms_1 6 rfl rfl)
theorem dX5_terms_29 : decode cX5_terms 29 = .ok (.iconst (-1), 1) := dk_2 (dk_at dksX5_terms_1 7 rfl rfl)
theorem dX5_terms_30 : decode cX5_terms 30 = .ok (.invokevirtual 95, 3) := dk_182 0 95 (dk_at dksX5_terms_1 8 rfl rfl)
theorem dX5_terms_33 : decode cX5_terms 33 = .ok (.ireturn, 1) := dk_172 (dk_at dksX5_terms_1 11 rfl rfl)
theorem dX5_terms_34 : decode cX5_terms 34 = .ok (.aload_n 0, 1) := dk_42 (dk_at dksX5_terms_1 12 rfl rfl)
theorem dX5_terms_35 : decode cX5_terms 35 = .ok (.getfield 20, 3) := dk_180 0 20 (dk_at dksX5_terms_1 13 rfl rfl)
theorem dX5_terms_38 : decode cX5_terms 38 = .ok (.sipush 154, 3) := dk_17 0 154 (dk_at dksX5_terms_1 16 rfl rfl)
theorem dX5_terms_41 : decode cX5_terms 41 = .ok (.iload_n 1, 1) := dk_27 (dk_at dksX5_terms_1 19 rfl rfl)
theorem dX5_terms_42 : decode cX5_terms 42 = .ok (.iadd, 1) := dk_96 (dk_at dksX5_terms_1 20 rfl rfl)
theorem dX5_terms_43 : decode cX5_terms 43 = .ok (.iaload, 1) := dk_46 (dk_at dksX5_terms_1 21 rfl rfl)
theorem dX5_terms_44 : decode cX5_terms 44 = .ok (.istore_n 3, 1) := dk_62 (dk_at dksX5_terms_1 22 rfl rfl)
theorem dX5_terms_45 : decode cX5_terms 45 = .ok (.aload_n 0, 1) := dk_42 (dk_at dksX5_terms_1 23 rfl rfl)
theorem dX5_terms_46 : decode cX5_terms 46 = .ok (.getfield 20, 3) := dk_180 0 20 (dk_at dksX5_terms_2 0 rfl rfl)
theorem dX5_terms_49 : decode cX5_terms 49 = .ok (.sipush 154, 3) := dk_17 0 154 (dk_at dksX5_terms_2 3 rfl rfl)
theorem dX5_terms_52 : decode cX5_terms 52 = .ok (.iload_n 1, 1) := dk_27 (dk_at dksX5_terms_2 6 rfl rfl)
theorem dX5_terms_53 : decode cX5_terms 53 = .ok (.iadd, 1) := dk_96 (dk_at dksX5_terms_2 7 rfl rfl)
theorem dX5_terms_54 : decode cX5_terms 54 = .ok (.iload_n 2, 1) := dk_28 (dk_at dksX5_terms_2 8 rfl rfl)
theorem dX5_terms_55 : decode cX5_terms 55 = .ok (.iastore, 1) := dk_79 (dk_at dksX5_terms_2 9 rfl rfl)
theorem dX5_terms_56 : decode cX5_terms 56 = .ok (.aload_n 0, 1) := dk_42 (dk_at dksX5_terms_2 10 rfl rfl)
theorem dX5_terms_57 : decode cX5_terms 57 = .ok (.iload_n 3, 1) := dk_29 (dk_at dksX5_terms_2 11 rfl rfl)
theorem dX5_terms_58 : decode cX5_terms 58 = .ok (.invokevirtual 99, 3) := dk_182 0 99 (dk_at dksX5_terms_2 12 rfl rfl)
theorem dX5_terms_61 : decode cX5_terms 61 = .ok (.ireturn, 1) := dk_172 (dk_at dksX5_terms_2 15 rfl rfl)
abbrev cX5_row : ByteArray := prog_25_method_24_code
def yX5_row : MethodName := ⟨RX5, "row", "()I"⟩
def dkwX5_row_10 : List UInt8 := [182, 0, 99, 172]
abbrev dktX5_row_10 : List UInt8 := dkwX5_row_10 ++ []
def dkwX5_row_9 : List UInt8 := [21, 4, 153, 0, 7, 3, 167, 0, 4, 4, 96, 181, 0, 142, 132, 3, 5, 167, 255, 69, 42, 28]
abbrev dktX5_row_9 : List UInt8 := dkwX5_row_9 ++ dktX5_row_10
def dkwX5_row_8 : List UInt8 := [96, 51, 182, 0, 135, 87, 28, 21, 4, 153, 0, 7, 4, 167, 0, 4, 3, 96, 61, 42, 89, 180, 0, 142]
abbrev dktX5_row_8 : List UInt8 := dkwX5_row_8 ++ dktX5_row_9
def dkwX5_row_7 : List UInt8 := [96, 51, 42, 180, 0, 34, 29, 5, 96, 51, 42, 180, 0, 34, 29, 6, 96, 51, 42, 180, 0, 34, 29, 7]
abbrev dktX5_row_7 : List UInt8 := dkwX5_row_7 ++ dktX5_row_8
def dkwX5_row_6 : List UInt8 := [167, 0, 4, 3, 54, 4, 21, 4, 153, 0, 46, 42, 42, 180, 0, 34, 29, 51, 42, 180, 0, 34, 29, 4]
abbrev dktX5_row_6 : List UInt8 := dkwX5_row_6 ++ dktX5_row_7
def dkwX5_row_5 : List UInt8 := [180, 0, 34, 29, 5, 96, 51, 42, 180, 0, 34, 29, 6, 96, 51, 182, 0, 131, 153, 0, 7, 4]
abbrev dktX5_row_5 : List UInt8 := dkwX5_row_5 ++ dktX5_row_6
def dkwX5_row_4 : List UInt8 := [182, 0, 102, 16, 14, 162, 0, 44, 42, 42, 180, 0, 34, 29, 51, 42, 180, 0, 34, 29, 4, 96, 51, 42]
abbrev dktX5_row_4 : List UInt8 := dkwX5_row_4 ++ dktX5_row_5
def dkwX5_row_3 : List UInt8 := [180, 0, 34, 29, 6, 96, 51, 42, 180, 0, 34, 29, 7, 96, 51, 184, 0, 127, 153, 0, 53, 42]
abbrev dktX5_row_3 : List UInt8 := dkwX5_row_3 ++ dktX5_row_4
def dkwX5_row_2 : List UInt8 := [180, 0, 34, 29, 51, 42, 180, 0, 34, 29, 4, 96, 51, 42, 180, 0, 34, 29, 5, 96, 51, 42]
abbrev dktX5_row_2 : List UInt8 := dkwX5_row_2 ++ dktX5_row_3
def dkwX5_row_1 : List UInt8 := [27, 8, 112, 154, 0, 7, 3, 167, 0, 4, 4, 181, 0, 142, 3, 62, 29, 8, 96, 27, 163, 0, 186, 42]
abbrev dktX5_row_1 : List UInt8 := dkwX5_row_1 ++ dktX5_row_2
def dkwX5_row_0 : List UInt8 := [42, 180, 0, 139, 60, 42, 3, 181, 0, 139, 27, 154, 0, 10, 42, 16, 250, 182, 0, 95, 172, 3, 61, 42]
abbrev dktX5_row_0 : List UInt8 := dkwX5_row_0 ++ dktX5_row_1
theorem dksX5_row_0 : cX5_row.data.toList.drop 0 = dktX5_row_0 := by decide +kernel
theorem dksX5_row_1 : cX5_row.data.toList.drop 24 = dktX5_row_1 := dk_seg dksX5_row_0 24 rfl rfl
theorem dksX5_row_2 : cX5_row.data.toList.drop 48 = dktX5_row_2 := dk_seg dksX5_row_1 24 rfl rfl
theorem dksX5_row_3 : cX5_row.data.toList.drop 70 = dktX5_row_3 := dk_seg dksX5_row_2 22 rfl rfl
theorem dksX5_row_4 : cX5_row.data.toList.drop 92 = dktX5_row_4 := dk_seg dksX5_row_3 22 rfl rfl
theorem dksX5_row_5 : cX5_row.data.toList.drop 116 = dktX5_row_5 := dk_seg dksX5_row_4 24 rfl rfl
theorem dksX5_row_6 : cX5_row.data.toList.drop 138 = dktX5_row_6 := dk_seg dksX5_row_5 22 rfl rfl
theorem dksX5_row_7 : cX5_row.data.toList.drop 162 = dktX5_row_7 := dk_seg dksX5_row_6 24 rfl rfl
theorem dksX5_row_8 : cX5_row.data.toList.drop 186 = dktX5_row_8 := dk_seg dksX5_row_7 24 rfl rfl
theorem dksX5_row_9 : cX5_row.data.toList.drop 210 = dktX5_row_9 := dk_seg dksX5_row_8 24 rfl rfl
theorem dksX5_row_10 : cX5_row.data.toList.drop 232 = dktX5_row_10 := dk_seg dksX5_row_9 22 rfl rfl
theorem dX5_row_0 : decode cX5_row 0 = .ok (.aload_n 0, 1) := dk_42 (dk_at dksX5_row_0 0 rfl rfl)
theorem dX5_row_1 : decode cX5_row 1 = .ok (.getfield 139, 3) := dk_180 0 139 (dk_at dksX5_row_0 1 rfl rfl)
theorem dX5_row_4 : decode cX5_row 4 = .ok (.istore_n 1, 1) := dk_60 (dk_at dksX5_row_0 4 rfl rfl)
theorem dX5_row_5 : decode cX5_row 5 = .ok (.aload_n 0, 1) := dk_42 (dk_at dksX5_row_0 5 rfl rfl)
theorem dX5_row_6 : decode cX5_row 6 = .ok (.iconst 0, 1) := dk_3 (dk_at dksX5_row_0 6 rfl rfl)
theorem dX5_row_7 : decode cX5_row 7 = .ok (.putfield 139, 3) := dk_181 0 139 (dk_at dksX5_row_0 7 rfl rfl)
theorem dX5_row_10 : decode cX5_row 10 = .ok (.iload_n 1, 1) := dk_27 (dk_at dksX5_row_0 10 rfl rfl)
theorem dX5_row_11 : decode cX5_row 11 = .ok (.ifCond .ne 10, 3) := dk_154 0 10 (dk_at dksX5_row_0 11 rfl rfl)
theorem dX5_row_14 : decode cX5_row 14 = .ok (.aload_n 0, 1) := dk_42 (dk_at dksX5_row_0 14 rfl rfl)
theorem dX5_row_15 : decode cX5_row 15 = .ok (.bipush (-6), 2) := dk_16 250 (dk_at dksX5_row_0 15 rfl rfl)
theorem dX5_row_17 : decode cX5_row 17 = .ok (.invokevirtual 95, 3) := dk_182 0 95 (dk_at dksX5_row_0 17 rfl rfl)
theorem dX5_row_20 : decode cX5_row 20 = .ok (.ireturn, 1) := dk_172 (dk_at dksX5_row_0 20 rfl rfl)
theorem dX5_row_21 : decode cX5_row 21 = .ok (.iconst 0, 1) := dk_3 (dk_at dksX5_row_0 21 rfl rfl)
theorem dX5_row_22 : decode cX5_row 22 = .ok (.istore_n 2, 1) := dk_61 (dk_at dksX5_row_0 22 rfl rfl)
theorem dX5_row_23 : decode cX5_row 23 = .ok (.aload_n 0, 1) := dk_42 (dk_at dksX5_row_0 23 rfl rfl)
theorem dX5_row_24 : decode cX5_row 24 = .ok (.iload_n 1, 1) := dk_27 (dk_at dksX5_row_1 0 rfl rfl)
theorem dX5_row_25 : decode cX5_row 25 = .ok (.iconst 5, 1) := dk_8 (dk_at dksX5_row_1 1 rfl rfl)
theorem dX5_row_26 : decode cX5_row 26 = .ok (.irem, 1) := dk_112 (dk_at dksX5_row_1 2 rfl rfl)
theorem dX5_row_27 : decode cX5_row 27 = .ok (.ifCond .ne 7, 3) := dk_154 0 7 (dk_at dksX5_row_1 3 rfl rfl)
theorem dX5_row_30 : decode cX5_row 30 = .ok (.iconst 0, 1) := dk_3 (dk_at dksX5_row_1 6 rfl rfl)
theorem dX5_row_31 : decode cX5_row 31 = .ok (.goto 4, 3) := dk_167 0 4 (dk_at dksX5_row_1 7 rfl rfl)
theorem dX5_row_34 : decode cX5_row 34 = .ok (.iconst 1, 1) := dk_4 (dk_at dksX5_row_1 10 rfl rfl)
theorem dX5_row_35 : decode cX5_row 35 = .ok (.putfield 142, 3) := dk_181 0 142 (dk_at dksX5_row_1 11 rfl rfl)
theorem dX5_row_38 : decode cX5_row 38 = .ok (.iconst 0, 1) := dk_3 (dk_at dksX5_row_1 14 rfl rfl)
theorem dX5_row_39 : decode cX5_row 39 = .ok (.istore_n 3, 1) := dk_62 (dk_at dksX5_row_1 15 rfl rfl)
theorem dX5_row_40 : decode cX5_row 40 = .ok (.iload_n 3, 1) := dk_29 (dk_at dksX5_row_1 16 rfl rfl)
theorem dX5_row_41 : decode cX5_row 41 = .ok (.iconst 5, 1) := dk_8 (dk_at dksX5_row_1 17 rfl rfl)
theorem dX5_row_42 : decode cX5_row 42 = .ok (.iadd, 1) := dk_96 (dk_at dksX5_row_1 18 rfl rfl)
theorem dX5_row_43 : decode cX5_row 43 = .ok (.iload_n 1, 1) := dk_27 (dk_at dksX5_row_1 19 rfl rfl)
theorem dX5_row_44 : decode cX5_row 44 = .ok (.if_icmp .gt 186, 3) := dk_163 0 186 (dk_at dksX5_row_1 20 rfl rfl)
theorem dX5_row_47 : decode cX5_row 47 = .ok (.aload_n 0, 1) := dk_42 (dk_at dksX5_row_1 23 rfl rfl)
theorem dX5_row_48 : decode cX5_row 48 = .ok (.getfield 34, 3) := dk_180 0 34 (dk_at dksX5_row_2 0 rfl rfl)
theorem dX5_row_51 : decode cX5_row 51 = .ok (.iload_n 3, 1) := dk_29 (dk_at dksX5_row_2 3 rfl rfl)
theorem dX5_row_52 : decode cX5_row 52 = .ok (.baload, 1) := dk_51 (dk_at dksX5_row_2 4 rfl rfl)
theorem dX5_row_53 : decode cX5_row 53 = .ok (.aload_n 0, 1) := dk_42 (dk_at dksX5_row_2 5 rfl rfl)
theorem dX5_row_54 : decode cX5_row 54 = .ok (.getfield 34, 3) := dk_180 0 34 (dk_at dksX5_row_2 6 rfl rfl)
theorem dX5_row_57 : decode cX5_row 57 = .ok (.iload_n 3, 1) := dk_29 (dk_at dksX5_row_2 9 rfl rfl)
theorem dX5_row_58 : decode cX5_row 58 = .ok (.iconst 1, 1) := dk_4 (dk_at dksX5_row_2 10 rfl rfl)
theorem dX5_row_59 : decode cX5_row 59 = .ok (.iadd, 1) := dk_96 (dk_at dksX5_row_2 11 rfl rfl)
theorem dX5_row_60 : decode cX5_row 60 = .ok (.baload, 1) := dk_51 (dk_at dksX5_row_2 12 rfl rfl)
theorem dX5_row_61 : decode cX5_row 61 = .ok (.aload_n 0, 1) := dk_42 (dk_at dksX5_row_2 13 rfl rfl)
theorem dX5_row_62 : decode cX5_row 62 = .ok (.getfield 34, 3) := dk_180 0 34 (dk_at dksX5_row_2 14 rfl rfl)
theorem dX5_row_65 : decode cX5_row 65 = .ok (.iload_n 3, 1) := dk_29 (dk_at dksX5_row_2 17 rfl rfl)
theorem dX5_row_66 : decode cX5_row 66 = .ok (.iconst 2, 1) := dk_5 (dk_at dksX5_row_2 18 rfl rfl)
theorem dX5_row_67 : decode cX5_row 67 = .ok (.iadd, 1) := dk_96 (dk_at dksX5_row_2 19 rfl rfl)
theorem dX5_row_68 : decode cX5_row 68 = .ok (.baload, 1) := dk_51 (dk_at dksX5_row_2 20 rfl rfl)
theorem dX5_row_69 : decode cX5_row 69 = .ok (.aload_n 0, 1) := dk_42 (dk_at dksX5_row_2 21 rfl rfl)
theorem dX5_row_70 : decode cX5_row 70 = .ok (.getfield 34, 3) := dk_180 0 34 (dk_at dksX5_row_3 0 rfl rfl)
theorem dX5_row_73 : decode cX5_row 73 = .ok (.iload_n 3, 1) := dk_29 (dk_at dksX5_row_3 3 rfl rfl)
theorem dX5_row_74 : decode cX5_row 74 = .ok (.iconst 3, 1) := dk_6 (dk_at dksX5_row_3 4 rfl rfl)
theorem dX5_row_75 : decode cX5_row 75 = .ok (.iadd, 1) := dk_96 (dk_at dksX5_row_3 5 rfl rfl)
theorem dX5_row_76 : decode cX5_row 76 = .ok (.baload, 1) := dk_51 (dk_at dksX5_row_3 6 rfl rfl)
theorem dX5_row_77 : decode cX5_row 77 = .ok (.aload_n 0, 1) := dk_42 (dk_at dksX5_row_3 7 rfl rfl)
theorem dX5_row_78 : decode cX5_row 78 = .ok (.getfield 34, 3) := dk_180 0 34 (dk_at dksX5_row_3 8 rfl rfl)
theorem dX5_row_81 : decode cX5_row 81 = .ok (.iload_n 3, 1) := dk_29 (dk_at dksX5_row_3 11 rfl rfl)
theorem dX5_row_82 : decode cX5_row 82 = .ok (.iconst 4, 1) := dk_7 (dk_at dksX5_row_3 12 rfl rfl)
theorem dX5_row_83 : decode cX5_row 83 = .ok (.iadd, 1) := dk_96 (dk_at dksX5_row_3 13 rfl rfl)
theorem dX5_row_84 : decode cX5_row 84 = .ok (.baload, 1) := dk_51 (dk_at dksX5_row_3 14 rfl rfl)
theorem dX5_row_85 : decode cX5_row 85 = .ok (.invokestatic 127, 3) := dk_184 0 127 (dk_at dksX5_row_3 15 rfl rfl)
theorem dX5_row_88 : decode cX5_row 88 = .ok (.ifCond .eq 53, 3) := dk_153 0 53 (dk_at dksX5_row_3 18 rfl rfl)
theorem dX5_row_91 : decode cX5_row 91 = .ok (.aload_n 0, 1) := dk_42 (dk_at dksX5_row_3 21 rfl rfl)
theorem dX5_row_92 : decode cX5_row 92 = .ok (.invokevirtual 102, 3) := dk_182 0 102 (dk_at dksX5_row_4 0 rfl rfl)
theorem dX5_row_95 : decode cX5_row 95 = .ok (.bipush 14, 2) := dk_16 14 (dk_at dksX5_row_4 3 rfl rfl)
theorem dX5_row_97 : decode cX5_row 97 = .ok (.if_icmp .ge 44, 3) := dk_162 0 44 (dk_at dksX5_row_4 5 rfl rfl)
theorem dX5_row_100 : decode cX5_row 100 = .ok (.aload_n 0, 1) := dk_42 (dk_at dksX5_row_4 8 rfl rfl)
theorem dX5_row_101 : decode cX5_row 101 = .ok (.aload_n 0, 1) := dk_42 (dk_at dksX5_row_4 9 rfl rfl)
theorem dX5_row_102 : decode cX5_row 102 = .ok (.getfield 34, 3) := dk_180 0 34 (dk_at dksX5_row_4 10 rfl rfl)
theorem dX5_row_105 : decode cX5_row 105 = .ok (.iload_n 3, 1) := dk_29 (dk_at dksX5_row_4 13 rfl rfl)
theorem dX5_row_106 : decode cX5_row 106 = .ok (.baload, 1) := dk_51 (dk_at dksX5_row_4 14 rfl rfl)
theorem dX5_row_107 : decode cX5_row 107 = .ok (.aload_n 0, 1) := dk_42 (dk_at dksX5_row_4 15 rfl rfl)
theorem dX5_row_108 : decode cX5_row 108 = .ok (.getfield 34, 3) := dk_180 0 34 (dk_at dksX5_row_4 16 rfl rfl)
theorem dX5_row_111 : decode cX5_row 111 = .ok (.iload_n 3, 1) := dk_29 (dk_at dksX5_row_4 19 rfl rfl)
theorem dX5_row_112 : decode cX5_row 112 = .ok (.iconst 1, 1) := dk_4 (dk_at dksX5_row_4 20 rfl rfl)
theorem dX5_row_113 : decode cX5_row 113 = .ok (.iadd, 1) := dk_96 (dk_at dksX5_row_4 21 rfl rfl)
theorem dX5_row_114 : decode cX5_row 114 = .ok (.baload, 1) := dk_51 (dk_at dksX5_row_4 22 rfl rfl)
theorem dX5_row_115 : decode cX5_row 115 = .ok (.aload_n 0, 1) := dk_42 (dk_at dksX5_row_4 23 rfl rfl)
theorem dX5_row_116 : decode cX5_row 116 = .ok (.getfield 34, 3) := dk_180 0 34 (dk_at dksX5_row_5 0 rfl rfl)
theorem dX5_row_119 : decode cX5_row 119 = .ok (.iload_n 3, 1) := dk_29 (dk_at dksX5_row_5 3 rfl rfl)
theorem dX5_row_120 : decode cX5_row 120 = .ok (.iconst 2, 1) := dk_5 (dk_at dksX5_row_5 4 rfl rfl)
theorem dX5_row_121 : decode cX5_row 121 = .ok (.iadd, 1) := dk_96 (dk_at dksX5_row_5 5 rfl rfl)
theorem dX5_row_122 : decode cX5_row 122 = .ok (.baload, 1) := dk_51 (dk_at dksX5_row_5 6 rfl rfl)
theorem dX5_row_123 : decode cX5_row 123 = .ok (.aload_n 0, 1) := dk_42 (dk_at dksX5_row_5 7 rfl rfl)
theorem dX5_row_124 : decode cX5_row 124 = .ok (.getfield 34, 3) := dk_180 0 34 (dk_at dksX5_row_5 8 rfl rfl)
theorem dX5_row_127 : decode cX5_row 127 = .ok (.iload_n 3, 1) := dk_29 (dk_at dksX5_row_5 11 rfl rfl)
theorem dX5_row_128 : decode cX5_row 128 = .ok (.iconst 3, 1) := dk_6 (dk_at dksX5_row_5 12 rfl rfl)
theorem dX5_row_129 : decode cX5_row 129 = .ok (.iadd, 1) := dk_96 (dk_at dksX5_row_5 13 rfl rfl)
theorem dX5_row_130 : decode cX5_row 130 = .ok (.baload, 1) := dk_51 (dk_at dksX5_row_5 14 rfl rfl)
theorem dX5_row_131 : decode cX5_row 131 = .ok (.invokevirtual 131, 3) := dk_182 0 131 (dk_at dksX5_row_5 15 rfl rfl)
theorem dX5_row_134 : decode cX5_row 134 = .ok (.ifCond .eq 7, 3) := dk_153 0 7 (dk_at dksX5_row_5 18 rfl rfl)
theorem dX5_row_137 : decode cX5_row 137 = .ok (.iconst 1, 1) := dk_4 (dk_at dksX5_row_5 21 rfl rfl)
theorem dX5_row_138 : decode cX5_row 138 = .ok (.goto 4, 3) := dk_167 0 4 (dk_at dksX5_row_6 0 rfl rfl)
theorem dX5_row_141 : decode cX5_row 141 = .ok (.iconst 0, 1) := dk_3 (dk_at dksX5_row_6 3 rfl rfl)
theorem dX5_row_142 : decode cX5_row 142 = .ok (.istore 4, 2) := dk_54 4 (dk_at dksX5_row_6 4 rfl rfl)
theorem dX5_row_144 : decode cX5_row 144 = .ok (.iload 4, 2) := dk_21 4 (dk_at dksX5_row_6 6 rfl rfl)
theorem dX5_row_146 : decode cX5_row 146 = .ok (.ifCond .eq 46, 3) := dk_153 0 46 (dk_at dksX5_row_6 8 rfl rfl)
theorem dX5_row_149 : decode cX5_row 149 = .ok (.aload_n 0, 1) := dk_42 (dk_at dksX5_row_6 11 rfl rfl)
theorem dX5_row_150 : decode cX5_row 150 = .ok (.aload_n 0, 1) := dk_42 (dk_at dksX5_row_6 12 rfl rfl)
theorem dX5_row_151 : decode cX5_row 151 = .ok (.getfield 34, 3) := dk_180 0 34 (dk_at dksX5_row_6 13 rfl rfl)
theorem dX5_row_154 : decode cX5_row 154 = .ok (.iload_n 3, 1) := dk_29 (dk_at dksX5_row_6 16 rfl rfl)
theorem dX5_row_155 : decode cX5_row 155 = .ok (.baload, 1) := dk_51 (dk_at dksX5_row_6 17 rfl rfl)
theorem dX5_row_156 : decode cX5_row 156 = .ok (.aload_n 0, 1) := dk_42 (dk_at dksX5_row_6 18 rfl rfl)
theorem dX5_row_157 : decode cX5_row 157 = .ok (.getfield 34, 3) := dk_180 0 34 (dk_at dksX5_row_6 19 rfl rfl)
theorem dX5_row_160 : decode cX5_row 160 = .ok (.iload_n 3, 1) := dk_29 (dk_at dksX5_row_6 22 rfl rfl)
theorem dX5_row_161 : decode cX5_row 161 = .ok (.iconst 1, 1) := dk_4 (dk_at dksX5_row_6 23 rfl rfl)
theorem dX5_row_162 : decode cX5_row 162 = .ok (.iadd, 1) := dk_96 (dk_at dksX5_row_7 0 rfl rfl)
theorem dX5_row_163 : decode cX5_row 163 = .ok (.baload, 1) := dk_51 (dk_at dksX5_row_7 1 rfl rfl)
theorem dX5_row_164 : decode cX5_row 164 = .ok (.aload_n 0, 1) := dk_42 (dk_at dksX5_row_7 2 rfl rfl)
theorem dX5_row_165 : decode cX5_row 165 = .ok (.getfield 34, 3) := dk_180 0 34 (dk_at dksX5_row_7 3 rfl rfl)
theorem dX5_row_168 : decode cX5_row 168 = .ok (.iload_n 3, 1) := dk_29 (dk_at dksX5_row_7 6 rfl rfl)
theorem dX5_row_169 : decode cX5_row 169 = .ok (.iconst 2, 1) := dk_5 (dk_at dksX5_row_7 7 rfl rfl)
theorem dX5_row_170 : decode cX5_row 170 = .ok (.iadd, 1) := dk_96 (dk_at dksX5_row_7 8 rfl rfl)
theorem dX5_row_171 : decode cX5_row 171 = .ok (.baload, 1) := dk_51 (dk_at dksX5_row_7 9 rfl rfl)
theorem dX5_row_172 : decode cX5_row 172 = .ok (.aload_n 0, 1) := dk_42 (dk_at dksX5_row_7 10 rfl rfl)
theorem dX5_row_173 : decode cX5_row 173 = .ok (.getfield 34, 3) := dk_180 0 34 (dk_at dksX5_row_7 11 rfl rfl)
theorem dX5_row_176 : decode cX5_row 176 = .ok (.iload_n 3, 1) := dk_29 (dk_at dksX5_row_7 14 rfl rfl)
theorem dX5_row_177 : decode cX5_row 177 = .ok (.iconst 3, 1) := dk_6 (dk_at dksX5_row_7 15 rfl rfl)
theorem dX5_row_178 : decode cX5_row 178 = .ok (.iadd, 1) := dk_96 (dk_at dksX5_row_7 16 rfl rfl)
theorem dX5_row_179 : decode cX5_row 179 = .ok (.baload, 1) := dk_51 (dk_at dksX5_row_7 17 rfl rfl)
theorem dX5_row_180 : decode cX5_row 180 = .ok (.aload_n 0, 1) := dk_42 (dk_at dksX5_row_7 18 rfl rfl)
theorem dX5_row_181 : decode cX5_row 181 = .ok (.getfield 34, 3) := dk_180 0 34 (dk_at dksX5_row_7 19 rfl rfl)
theorem dX5_row_184 : decode cX5_row 184 = .ok (.iload_n 3, 1) := dk_29 (dk_at dksX5_row_7 22 rfl rfl)
theorem dX5_row_185 : decode cX5_row 185 = .ok (.iconst 4, 1) := dk_7 (dk_at dksX5_row_7 23 rfl rfl)
theorem dX5_row_186 : decode cX5_row 186 = .ok (.iadd, 1) := dk_96 (dk_at dksX5_row_8 0 rfl rfl)
theorem dX5_row_187 : decode cX5_row 187 = .ok (.baload, 1) := dk_51 (dk_at dksX5_row_8 1 rfl rfl)
theorem dX5_row_188 : decode cX5_row 188 = .ok (.invokevirtual 135, 3) := dk_182 0 135 (dk_at dksX5_row_8 2 rfl rfl)
theorem dX5_row_191 : decode cX5_row 191 = .ok (.pop, 1) := dk_87 (dk_at dksX5_row_8 5 rfl rfl)
theorem dX5_row_192 : decode cX5_row 192 = .ok (.iload_n 2, 1) := dk_28 (dk_at dksX5_row_8 6 rfl rfl)
theorem dX5_row_193 : decode cX5_row 193 = .ok (.iload 4, 2) := dk_21 4 (dk_at dksX5_row_8 7 rfl rfl)
theorem dX5_row_195 : decode cX5_row 195 = .ok (.ifCond .eq 7, 3) := dk_153 0 7 (dk_at dksX5_row_8 9 rfl rfl)
theorem dX5_row_198 : decode cX5_row 198 = .ok (.iconst 1, 1) := dk_4 (dk_at dksX5_row_8 12 rfl rfl)
theorem dX5_row_199 : decode cX5_row 199 = .ok (.goto 4, 3) := dk_167 0 4 (dk_at dksX5_row_8 13 rfl rfl)
theorem dX5_row_202 : decode cX5_row 202 = .ok (.iconst 0, 1) := dk_3 (dk_at dksX5_row_8 16 rfl rfl)
theorem dX5_row_203 : decode cX5_row 203 = .ok (.iadd, 1) := dk_96 (dk_at dksX5_row_8 17 rfl rfl)
theorem dX5_row_204 : decode cX5_row 204 = .ok (.istore_n 2, 1) := dk_61 (dk_at dksX5_row_8 18 rfl rfl)
theorem dX5_row_205 : decode cX5_row 205 = .ok (.aload_n 0, 1) := dk_42 (dk_at dksX5_row_8 19 rfl rfl)
theorem dX5_row_206 : decode cX5_row 206 = .ok (.dup, 1) := dk_89 (dk_at dksX5_row_8 20 rfl rfl)
theorem dX5_row_207 : decode cX5_row 207 = .ok (.getfield 142, 3) := dk_180 0 142 (dk_at dksX5_row_8 21 rfl rfl)
theorem dX5_row_210 : decode cX5_row 210 = .ok (.iload 4, 2) := dk_21 4 (dk_at dksX5_row_9 0 rfl rfl)
theorem dX5_row_212 : decode cX5_row 212 = .ok (.ifCond .eq 7, 3) := dk_153 0 7 (dk_at dksX5_row_9 2 rfl rfl)
theorem dX5_row_215 : decode cX5_row 215 = .ok (.iconst 0, 1) := dk_3 (dk_at dksX5_row_9 5 rfl rfl)
theorem dX5_row_216 : decode cX5_row 216 = .ok (.goto 4, 3) := dk_167 0 4 (dk_at dksX5_row_9 6 rfl rfl)
theorem dX5_row_219 : decode cX5_row 219 = .ok (.iconst 1, 1) := dk_4 (dk_at dksX5_row_9 9 rfl rfl)
theorem dX5_row_220 : decode cX5_row 220 = .ok (.iadd, 1) := dk_96 (dk_at dksX5_row_9 10 rfl rfl)
theorem dX5_row_221 : decode cX5_row 221 = .ok (.putfield 142, 3) := dk_181 0 142 (dk_at dksX5_row_9 11 rfl rfl)
theorem dX5_row_224 : decode cX5_row 224 = .ok (.iinc 3 5, 3) := dk_132 3 5 (dk_at dksX5_row_9 14 rfl rfl)
theorem dX5_row_227 : decode cX5_row 227 = .ok (.goto (-187), 3) := dk_167 255 69 (dk_at dksX5_row_9 17 rfl rfl)
theorem dX5_row_230 : decode cX5_row 230 = .ok (.aload_n 0, 1) := dk_42 (dk_at dksX5_row_9 20 rfl rfl)
theorem dX5_row_231 : decode cX5_row 231 = .ok (.iload_n 2, 1) := dk_28 (dk_at dksX5_row_9 21 rfl rfl)
theorem dX5_row_232 : decode cX5_row 232 = .ok (.invokevirtual 99, 3) := dk_182 0 99 (dk_at dksX5_row_10 0 rfl rfl)
theorem dX5_row_235 : decode cX5_row 235 = .ok (.ireturn, 1) := dk_172 (dk_at dksX5_row_10 3 rfl rfl)
abbrev cX5_rubble : ByteArray := prog_25_method_25_code
def yX5_rubble : MethodName := ⟨RX5, "rubble", "()I"⟩
theorem dX5_rubble_0 : decode cX5_rubble 0 = .ok (.aload_n 0, 1) := by decide +kernel
theorem dX5_rubble_1 : decode cX5_rubble 1 = .ok (.getfield 142, 3) := by decide +kernel
theorem dX5_rubble_4 : decode cX5_rubble 4 = .ok (.ireturn, 1) := by decide +kernel
abbrev cX5_feed : ByteArray := prog_25_method_26_code
def yX5_feed : MethodName := ⟨RX5, "feed", "(IIIII)I"⟩
def dkwX5_feed_5 : List UInt8 := [180, 0, 139, 172]
abbrev dktX5_feed_5 : List UInt8 := dkwX5_feed_5 ++ []
def dkwX5_feed_4 : List UInt8 := [100, 122, 145, 84, 132, 6, 1, 167, 255, 213, 42, 89, 180, 0, 139, 16, 20, 96, 181, 0, 139, 42]
abbrev dktX5_feed_4 : List UInt8 := dkwX5_feed_4 ++ dktX5_feed_5
def dkwX5_feed_3 : List UInt8 := [180, 0, 139, 21, 6, 96, 42, 180, 0, 37, 21, 6, 7, 108, 46, 16, 24, 16, 8, 21, 6, 7, 112, 104]
abbrev dktX5_feed_3 : List UInt8 := dkwX5_feed_3 ++ dktX5_feed_4
def dkwX5_feed_2 : List UInt8 := [180, 0, 37, 7, 21, 5, 79, 3, 54, 6, 21, 6, 16, 20, 162, 0, 42, 42, 180, 0, 34, 42]
abbrev dktX5_feed_2 : List UInt8 := dkwX5_feed_2 ++ dktX5_feed_3
def dkwX5_feed_1 : List UInt8 := [180, 0, 37, 4, 28, 79, 42, 180, 0, 37, 5, 29, 79, 42, 180, 0, 37, 6, 21, 4, 79, 42]
abbrev dktX5_feed_1 : List UInt8 := dkwX5_feed_1 ++ dktX5_feed_2
def dkwX5_feed_0 : List UInt8 := [42, 180, 0, 139, 16, 20, 96, 17, 1, 144, 164, 0, 5, 2, 172, 42, 180, 0, 37, 3, 27, 79, 42]
abbrev dktX5_feed_0 : List UInt8 := dkwX5_feed_0 ++ dktX5_feed_1
theorem dksX5_feed_0 : cX5_feed.data.toList.drop 0 = dktX5_feed_0 := by decide +kernel
theorem dksX5_feed_1 : cX5_feed.data.toList.drop 23 = dktX5_feed_1 := dk_seg dksX5_feed_0 23 rfl rfl
theorem dksX5_feed_2 : cX5_feed.data.toList.drop 45 = dktX5_feed_2 := dk_seg dksX5_feed_1 22 rfl rfl
theorem dksX5_feed_3 : cX5_feed.data.toList.drop 67 = dktX5_feed_3 := dk_seg dksX5_feed_2 22 rfl rfl
theorem dksX5_feed_4 : cX5_feed.data.toList.drop 91 = dktX5_feed_4 := dk_seg dksX5_feed_3 24 rfl rfl
theorem dksX5_feed_5 : cX5_feed.data.toList.drop 113 = dktX5_feed_5 := dk_seg dksX5_feed_4 22 rfl rfl
theorem dX5_feed_0 : decode cX5_feed 0 = .ok (.aload_n 0, 1) := dk_42 (dk_at dksX5_feed_0 0 rfl rfl)
theorem dX5_feed_1 : decode cX5_feed 1 = .ok (.getfield 139, 3) := dk_180 0 139 (dk_at dksX5_feed_0 1 rfl rfl)
theorem dX5_feed_4 : decode cX5_feed 4 = .ok (.bipush 20, 2) := dk_16 20 (dk_at dksX5_feed_0 4 rfl rfl)
theorem dX5_feed_6 : decode cX5_feed 6 = .ok (.iadd, 1) := dk_96 (dk_at dksX5_feed_0 6 rfl rfl)
theorem dX5_feed_7 : decode cX5_feed 7 = .ok (.sipush 400, 3) := dk_17 1 144 (dk_at dksX5_feed_0 7 rfl rfl)
theorem dX5_feed_10 : decode cX5_feed 10 = .ok (.if_icmp .le 5, 3) := dk_164 0 5 (dk_at dksX5_feed_0 10 rfl rfl)
theorem dX5_feed_13 : decode cX5_feed 13 = .ok (.iconst (-1), 1) := dk_2 (dk_at dksX5_feed_0 13 rfl rfl)
theorem dX5_feed_14 : decode cX5_feed 14 = .ok (.ireturn, 1) := dk_172 (dk_at dksX5_feed_0 14 rfl rfl)
theorem dX5_feed_15 : decode cX5_feed 15 = .ok (.aload_n 0, 1) := dk_42 (dk_at dksX5_feed_0 15 rfl rfl)
theorem dX5_feed_16 : decode cX5_feed 16 = .ok (.getfield 37, 3) := dk_180 0 37 (dk_at dksX5_feed_0 16 rfl rfl)
theorem dX5_feed_19 : decode cX5_feed 19 = .ok (.iconst 0, 1) := dk_3 (dk_at dksX5_feed_0 19 rfl rfl)
theorem dX5_feed_20 : decode cX5_feed 20 = .ok (.iload_n 1, 1) := dk_27 (dk_at dksX5_feed_0 20 rfl rfl)
theorem dX5_feed_21 : decode cX5_feed 21 = .ok (.iastore, 1) := dk_79 (dk_at dksX5_feed_0 21 rfl rfl)
theorem dX5_feed_22 : decode cX5_feed 22 = .ok (.aload_n 0, 1) := dk_42 (dk_at dksX5_feed_0 22 rfl rfl)
theorem dX5_feed_23 : decode cX5_feed 23 = .ok (.getfield 37, 3) := dk_180 0 37 (dk_at dksX5_feed_1 0 rfl rfl)
theorem dX5_feed_26 : decode cX5_feed 26 = .ok (.iconst 1, 1) := dk_4 (dk_at dksX5_feed_1 3 rfl rfl)
theorem dX5_feed_27 : decode cX5_feed 27 = .ok (.iload_n 2, 1) := dk_28 (dk_at dksX5_feed_1 4 rfl rfl)
theorem dX5_feed_28 : decode cX5_feed 28 = .ok (.iastore, 1) := dk_79 (dk_at dksX5_feed_1 5 rfl rfl)
theorem dX5_feed_29 : decode cX5_feed 29 = .ok (.aload_n 0, 1) := dk_42 (dk_at dksX5_feed_1 6 rfl rfl)
theorem dX5_feed_30 : decode cX5_feed 30 = .ok (.getfield 37, 3) := dk_180 0 37 (dk_at dksX5_feed_1 7 rfl rfl)
theorem dX5_feed_33 : decode cX5_feed 33 = .ok (.iconst 2, 1) := dk_5 (dk_at dksX5_feed_1 10 rfl rfl)
theorem dX5_feed_34 : decode cX5_feed 34 = .ok (.iload_n 3, 1) := dk_29 (dk_at dksX5_feed_1 11 rfl rfl)
theorem dX5_feed_35 : decode cX5_feed 35 = .ok (.iastore, 1) := dk_79 (dk_at dksX5_feed_1 12 rfl rfl)
theorem dX5_feed_36 : decode cX5_feed 36 = .ok (.aload_n 0, 1) := dk_42 (dk_at dksX5_feed_1 13 rfl rfl)
theorem dX5_feed_37 : decode cX5_feed 37 = .ok (.getfield 37, 3) := dk_180 0 37 (dk_at dksX5_feed_1 14 rfl rfl)
theorem dX5_feed_40 : decode cX5_feed 40 = .ok (.iconst 3, 1) := dk_6 (dk_at dksX5_feed_1 17 rfl rfl)
theorem dX5_feed_41 : decode cX5_feed 41 = .ok (.iload 4, 2) := dk_21 4 (dk_at dksX5_feed_1 18 rfl rfl)
theorem dX5_feed_43 : decode cX5_feed 43 = .ok (.iastore, 1) := dk_79 (dk_at dksX5_feed_1 20 rfl rfl)
theorem dX5_feed_44 : decode cX5_feed 44 = .ok (.aload_n 0, 1) := dk_42 (dk_at dksX5_feed_1 21 rfl rfl)
theorem dX5_feed_45 : decode cX5_feed 45 = .ok (.getfield 37, 3) := dk_180 0 37 (dk_at dksX5_feed_2 0 rfl rfl)
theorem dX5_feed_48 : decode cX5_feed 48 = .ok (.iconst 4, 1) := dk_7 (dk_at dksX5_feed_2 3 rfl rfl)
theorem dX5_feed_49 : decode cX5_feed 49 = .ok (.iload 5, 2) := dk_21 5 (dk_at dksX5_feed_2 4 rfl rfl)
theorem dX5_feed_51 : decode cX5_feed 51 = .ok (.iastore, 1) := dk_79 (dk_at dksX5_feed_2 6 rfl rfl)
theorem dX5_feed_52 : decode cX5_feed 52 = .ok (.iconst 0, 1) := dk_3 (dk_at dksX5_feed_2 7 rfl rfl)
theorem dX5_feed_53 : decode cX5_feed 53 = .ok (.istore 6, 2) := dk_54 6 (dk_at dksX5_feed_2 8 rfl rfl)
theorem dX5_feed_55 : decode cX5_feed 55 = .ok (.iload 6, 2) := dk_21 6 (dk_at dksX5_feed_2 10 rfl rfl)
theorem dX5_feed_57 : decode cX5_feed 57 = .ok (.bipush 20, 2) := dk_16 20 (dk_at dksX5_feed_2 12 rfl rfl)
theorem dX5_feed_59 : decode cX5_feed 59 = .ok (.if_icmp .ge 42, 3) := dk_162 0 42 (dk_at dksX5_feed_2 14 rfl rfl)
theorem dX5_feed_62 : decode cX5_feed 62 = .ok (.aload_n 0, 1) := dk_42 (dk_at dksX5_feed_2 17 rfl rfl)
theorem dX5_feed_63 : decode cX5_feed 63 = .ok (.getfield 34, 3) := dk_180 0 34 (dk_at dksX5_feed_2 18 rfl rfl)
theorem dX5_feed_66 : decode cX5_feed 66 = .ok (.aload_n 0, 1) := dk_42 (dk_at dksX5_feed_2 21 rfl rfl)
theorem dX5_feed_67 : decode cX5_feed 67 = .ok (.getfield 139, 3) := dk_180 0 139 (dk_at dksX5_feed_3 0 rfl rfl)
theorem dX5_feed_70 : decode cX5_feed 70 = .ok (.iload 6, 2) := dk_21 6 (dk_at dksX5_feed_3 3 rfl rfl)
theorem dX5_feed_72 : decode cX5_feed 72 = .ok (.iadd, 1) := dk_96 (dk_at dksX5_feed_3 5 rfl rfl)
theorem dX5_feed_73 : decode cX5_feed 73 = .ok (.aload_n 0, 1) := dk_42 (dk_at dksX5_feed_3 6 rfl rfl)
theorem dX5_feed_74 : decode cX5_feed 74 = .ok (.getfield 37, 3) := dk_180 0 37 (dk_at dksX5_feed_3 7 rfl rfl)
theorem dX5_feed_77 : decode cX5_feed 77 = .ok (.iload 6, 2) := dk_21 6 (dk_at dksX5_feed_3 10 rfl rfl)
theorem dX5_feed_79 : decode cX5_feed 79 = .ok (.iconst 4, 1) := dk_7 (dk_at dksX5_feed_3 12 rfl rfl)
theorem dX5_feed_80 : decode cX5_feed 80 = .ok (.idiv, 1) := dk_108 (dk_at dksX5_feed_3 13 rfl rfl)
theorem dX5_feed_81 : decode cX5_feed 81 = .ok (.iaload, 1) := dk_46 (dk_at dksX5_feed_3 14 rfl rfl)
theorem dX5_feed_82 : decode cX5_feed 82 = .ok (.bipush 24, 2) := dk_16 24 (dk_at dksX5_feed_3 15 rfl rfl)
theorem dX5_feed_84 : decode cX5_feed 84 = .ok (.bipush 8, 2) := dk_16 8 (dk_at dksX5_feed_3 17 rfl rfl)
theorem dX5_feed_86 : decode cX5_feed 86 = .ok (.iload 6, 2) := dk_21 6 (dk_at dksX5_feed_3 19 rfl rfl)
theorem dX5_feed_88 : decode cX5_feed 88 = .ok (.iconst 4, 1) := dk_7 (dk_at dksX5_feed_3 21 rfl rfl)
theorem dX5_feed_89 : decode cX5_feed 89 = .ok (.irem, 1) := dk_112 (dk_at dksX5_feed_3 22 rfl rfl)
theorem dX5_feed_90 : decode cX5_feed 90 = .ok (.imul, 1) := dk_104 (dk_at dksX5_feed_3 23 rfl rfl)
theorem dX5_feed_91 : decode cX5_feed 91 = .ok (.isub, 1) := dk_100 (dk_at dksX5_feed_4 0 rfl rfl)
theorem dX5_feed_92 : decode cX5_feed 92 = .ok (.ishr, 1) := dk_122 (dk_at dksX5_feed_4 1 rfl rfl)
theorem dX5_feed_93 : decode cX5_feed 93 = .ok (.i2b, 1) := dk_145 (dk_at dksX5_feed_4 2 rfl rfl)
theorem dX5_feed_94 : decode cX5_feed 94 = .ok (.bastore, 1) := dk_84 (dk_at dksX5_feed_4 3 rfl rfl)
theorem dX5_feed_95 : decode cX5_feed 95 = .ok (.iinc 6 1, 3) := dk_132 6 1 (dk_at dksX5_feed_4 4 rfl rfl)
theorem dX5_feed_98 : decode cX5_feed 98 = .ok (.goto (-43), 3) := dk_167 255 213 (dk_at dksX5_feed_4 7 rfl rfl)
theorem dX5_feed_101 : decode cX5_feed 101 = .ok (.aload_n 0, 1) := dk_42 (dk_at dksX5_feed_4 10 rfl rfl)
theorem dX5_feed_102 : decode cX5_feed 102 = .ok (.dup, 1) := dk_89 (dk_at dksX5_feed_4 11 rfl rfl)
theorem dX5_feed_103 : decode cX5_feed 103 = .ok (.getfield 139, 3) := dk_180 0 139 (dk_at dksX5_feed_4 12 rfl rfl)
theorem dX5_feed_106 : decode cX5_feed 106 = .ok (.bipush 20, 2) := dk_16 20 (dk_at dksX5_feed_4 15 rfl rfl)
theorem dX5_feed_108 : decode cX5_feed 108 = .ok (.iadd, 1) := dk_96 (dk_at dksX5_feed_4 17 rfl rfl)
theorem dX5_feed_109 : decode cX5_feed 109 = .ok (.putfield 139, 3) := dk_181 0 139 (dk_at dksX5_feed_4 18 rfl rfl)
theorem dX5_feed_112 : decode cX5_feed 112 = .ok (.aload_n 0, 1) := dk_42 (dk_at dksX5_feed_4 21 rfl rfl)
theorem dX5_feed_113 : decode cX5_feed 113 = .ok (.getfield 139, 3) := dk_180 0 139 (dk_at dksX5_feed_5 0 rfl rfl)
theorem dX5_feed_116 : decode cX5_feed 116 = .ok (.ireturn, 1) := dk_172 (dk_at dksX5_feed_5 3 rfl rfl)
abbrev cX5_end : ByteArray := prog_25_method_27_code
def yX5_end : MethodName := ⟨RX5, "end", "(I)I"⟩
def dkwX5_end_0 : List UInt8 := [27, 3, 42, 180, 0, 139, 184, 0, 91, 154, 0, 5, 2, 172, 42, 27, 181, 0, 139, 27, 172]
abbrev dktX5_end_0 : List UInt8 := dkwX5_end_0 ++ []
theorem dksX5_end_0 : cX5_end.data.toList.drop 0 = dktX5_end_0 := by decide +kernel
theorem dX5_end_0 : decode cX5_end 0 = .ok (.iload_n 1, 1) := dk_27 (dk_at dksX5_end_0 0 rfl rfl)
theorem dX5_end_1 : decode cX5_end 1 = .ok (.iconst 0, 1) := dk_3 (dk_at dksX5_end_0 1 rfl rfl)
theorem dX5_end_2 : decode cX5_end 2 = .ok (.aload_n 0, 1) := dk_42 (dk_at dksX5_end_0 2 rfl rfl)
theorem dX5_end_3 : decode cX5_end 3 = .ok (.getfield 139, 3) := dk_180 0 139 (dk_at dksX5_end_0 3 rfl rfl)
theorem dX5_end_6 : decode cX5_end 6 = .ok (.invokestatic 91, 3) := dk_184 0 91 (dk_at dksX5_end_0 6 rfl rfl)
theorem dX5_end_9 : decode cX5_end 9 = .ok (.ifCond .ne 5, 3) := dk_154 0 5 (dk_at dksX5_end_0 9 rfl rfl)
theorem dX5_end_12 : decode cX5_end 12 = .ok (.iconst (-1), 1) := dk_2 (dk_at dksX5_end_0 12 rfl rfl)
theorem dX5_end_13 : decode cX5_end 13 = .ok (.ireturn, 1) := dk_172 (dk_at dksX5_end_0 13 rfl rfl)
theorem dX5_end_14 : decode cX5_end 14 = .ok (.aload_n 0, 1) := dk_42 (dk_at dksX5_end_0 14 rfl rfl)
theorem dX5_end_15 : decode cX5_end 15 = .ok (.iload_n 1, 1) := dk_27 (dk_at dksX5_end_0 15 rfl rfl)
theorem dX5_end_16 : decode cX5_end 16 = .ok (.putfield 139, 3) := dk_181 0 139 (dk_at dksX5_end_0 16 rfl rfl)
theorem dX5_end_19 : decode cX5_end 19 = .ok (.iload_n 1, 1) := dk_27 (dk_at dksX5_end_0 19 rfl rfl)
theorem dX5_end_20 : decode cX5_end 20 = .ok (.ireturn, 1) := dk_172 (dk_at dksX5_end_0 20 rfl rfl)
abbrev cX5_law : ByteArray := prog_25_method_46_code
def yX5_law : MethodName := ⟨RX5, "law", "()I"⟩
def dkwX5_law_5 : List UInt8 := [167, 255, 201, 42, 180, 0, 20, 17, 0, 160, 92, 46, 4, 96, 79, 42, 27, 182, 0, 99, 172]
abbrev dktX5_law_5 : List UInt8 := dkwX5_law_5 ++ []
def dkwX5_law_4 : List UInt8 := [180, 0, 20, 17, 10, 8, 17, 1, 144, 27, 104, 96, 28, 96, 42, 180, 0, 46, 28, 46, 79, 132, 2, 1]
abbrev dktX5_law_4 : List UInt8 := dkwX5_law_4 ++ dktX5_law_5
def dkwX5_law_3 : List UInt8 := [42, 180, 0, 20, 17, 0, 168, 17, 1, 144, 27, 104, 96, 28, 96, 42, 180, 0, 43, 28, 46, 79, 42]
abbrev dktX5_law_3 : List UInt8 := dkwX5_law_3 ++ dktX5_law_4
def dkwX5_law_2 : List UInt8 := [42, 180, 0, 20, 17, 0, 162, 27, 96, 42, 180, 0, 145, 79, 3, 61, 28, 42, 180, 0, 145, 162, 0, 53]
abbrev dktX5_law_2 : List UInt8 := dkwX5_law_2 ++ dktX5_law_3
def dkwX5_law_1 : List UInt8 := [172, 42, 182, 0, 212, 154, 0, 10, 42, 16, 250, 182, 0, 95, 172, 42, 180, 0, 20, 17, 0, 160, 46, 60]
abbrev dktX5_law_1 : List UInt8 := dkwX5_law_1 ++ dktX5_law_2
def dkwX5_law_0 : List UInt8 := [42, 180, 0, 20, 17, 0, 160, 46, 16, 6, 160, 0, 15, 42, 3, 181, 0, 139, 42, 16, 251, 182, 0, 95]
abbrev dktX5_law_0 : List UInt8 := dkwX5_law_0 ++ dktX5_law_1
theorem dksX5_law_0 : cX5_law.data.toList.drop 0 = dktX5_law_0 := by decide +kernel
theorem dksX5_law_1 : cX5_law.data.toList.drop 24 = dktX5_law_1 := dk_seg dksX5_law_0 24 rfl rfl
theorem dksX5_law_2 : cX5_law.data.toList.drop 48 = dktX5_law_2 := dk_seg dksX5_law_1 24 rfl rfl
theorem dksX5_law_3 : cX5_law.data.toList.drop 72 = dktX5_law_3 := dk_seg dksX5_law_2 24 rfl rfl
theorem dksX5_law_4 : cX5_law.data.toList.drop 95 = dktX5_law_4 := dk_seg dksX5_law_3 23 rfl rfl
theorem dksX5_law_5 : cX5_law.data.toList.drop 119 = dktX5_law_5 := dk_seg dksX5_law_4 24 rfl rfl
theorem dX5_law_0 : decode cX5_law 0 = .ok (.aload_n 0, 1) := dk_42 (dk_at dksX5_law_0 0 rfl rfl)
theorem dX5_law_1 : decode cX5_law 1 = .ok (.getfield 20, 3) := dk_180 0 20 (dk_at dksX5_law_0 1 rfl rfl)
theorem dX5_law_4 : decode cX5_law 4 = .ok (.sipush 160, 3) := dk_17 0 160 (dk_at dksX5_law_0 4 rfl rfl)
theorem dX5_law_7 : decode cX5_law 7 = .ok (.iaload, 1) := dk_46 (dk_at dksX5_law_0 7 rfl rfl)
theorem dX5_law_8 : decode cX5_law 8 = .ok (.bipush 6, 2) := dk_16 6 (dk_at dksX5_law_0 8 rfl rfl)
theorem dX5_law_10 : decode cX5_law 10 = .ok (.if_icmp .ne 15, 3) := dk_160 0 15 (dk_at dksX5_law_0 10 rfl rfl)
theorem dX5_law_13 : decode cX5_law 13 = .ok (.aload_n 0, 1) := dk_42 (dk_at dksX5_law_0 13 rfl rfl)
theorem dX5_law_14 : decode cX5_law 14 = .ok (.iconst 0, 1) := dk_3 (dk_at dksX5_law_0 14 rfl rfl)
theorem dX5_law_15 : decode cX5_law 15 = .ok (.putfield 139, 3) := dk_181 0 139 (dk_at dksX5_law_0 15 rfl rfl)
theorem dX5_law_18 : decode cX5_law 18 = .ok (.aload_n 0, 1) := dk_42 (dk_at dksX5_law_0 18 rfl rfl)
theorem dX5_law_19 : decode cX5_law 19 = .ok (.bipush (-5), 2) := dk_16 251 (dk_at dksX5_law_0 19 rfl rfl)
theorem dX5_law_21 : decode cX5_law 21 = .ok (.invokevirtual 95, 3) := dk_182 0 95 (dk_at dksX5_law_0 21 rfl rfl)
theorem dX5_law_24 : decode cX5_law 24 = .ok (.ireturn, 1) := dk_172 (dk_at dksX5_law_1 0 rfl rfl)
theorem dX5_law_25 : decode cX5_law 25 = .ok (.aload_n 0, 1) := dk_42 (dk_at dksX5_law_1 1 rfl rfl)
theorem dX5_law_26 : decode cX5_law 26 = .ok (.invokevirtual 212, 3) := dk_182 0 212 (dk_at dksX5_law_1 2 rfl rfl)
theorem dX5_law_29 : decode cX5_law 29 = .ok (.ifCond .ne 10, 3) := dk_154 0 10 (dk_at dksX5_law_1 5 rfl rfl)
theorem dX5_law_32 : decode cX5_law 32 = .ok (.aload_n 0, 1) := dk_42 (dk_at dksX5_law_1 8 rfl rfl)
theorem dX5_law_33 : decode cX5_law 33 = .ok (.bipush (-6), 2) := dk_16 250 (dk_at dksX5_law_1 9 rfl rfl)
theorem dX5_law_35 : decode cX5_law 35 = .ok (.invokevirtual 95, 3) := dk_182 0 95 (dk_at dksX5_law_1 11 rfl rfl)
theorem dX5_law_38 : decode cX5_law 38 = .ok (.ireturn, 1) := dk_172 (dk_at dksX5_law_1 14 rfl rfl)
theorem dX5_law_39 : decode cX5_law 39 = .ok (.aload_n 0, 1) := dk_42 (dk_at dksX5_law_1 15 rfl rfl)
theorem dX5_law_40 : decode cX5_law 40 = .ok (.getfield 20, 3) := dk_180 0 20 (dk_at dksX5_law_1 16 rfl rfl)
theorem dX5_law_43 : decode cX5_law 43 = .ok (.sipush 160, 3) := dk_17 0 160 (dk_at dksX5_law_1 19 rfl rfl)
theorem dX5_law_46 : decode cX5_law 46 = .ok (.iaload, 1) := dk_46 (dk_at dksX5_law_1 22 rfl rfl)
theorem dX5_law_47 : decode cX5_law 47 = .ok (.istore_n 1, 1) := dk_60 (dk_at dksX5_law_1 23 rfl rfl)
theorem dX5_law_48 : decode cX5_law 48 = .ok (.aload_n 0, 1) := dk_42 (dk_at dksX5_law_2 0 rfl rfl)
theorem dX5_law_49 : decode cX5_law 49 = .ok (.getfield 20, 3) := dk_180 0 20 (dk_at dksX5_law_2 1 rfl rfl)
theorem dX5_law_52 : decode cX5_law 52 = .ok (.sipush 162, 3) := dk_17 0 162 (dk_at dksX5_law_2 4 rfl rfl)
theorem dX5_law_55 : decode cX5_law 55 = .ok (.iload_n 1, 1) := dk_27 (dk_at dksX5_law_2 7 rfl rfl)
theorem dX5_law_56 : decode cX5_law 56 = .ok (.iadd, 1) := dk_96 (dk_at dksX5_law_2 8 rfl rfl)
theorem dX5_law_57 : decode cX5_law 57 = .ok (.aload_n 0, 1) := dk_42 (dk_at dksX5_law_2 9 rfl rfl)
theorem dX5_law_58 : decode cX5_law 58 = .ok (.getfield 145, 3) := dk_180 0 145 (dk_at dksX5_law_2 10 rfl rfl)
theorem dX5_law_61 : decode cX5_law 61 = .ok (.iastore, 1) := dk_79 (dk_at dksX5_law_2 13 rfl rfl)
theorem dX5_law_62 : decode cX5_law 62 = .ok (.iconst 0, 1) := dk_3 (dk_at dksX5_law_2 14 rfl rfl)
theorem dX5_law_63 : decode cX5_law 63 = .ok (.istore_n 2, 1) := dk_61 (dk_at dksX5_law_2 15 rfl rfl)
theorem dX5_law_64 : decode cX5_law 64 = .ok (.iload_n 2, 1) := dk_28 (dk_at dksX5_law_2 16 rfl rfl)
theorem dX5_law_65 : decode cX5_law 65 = .ok (.aload_n 0, 1) := dk_42 (dk_at dksX5_law_2 17 rfl rfl)
theorem dX5_law_66 : decode cX5_law 66 = .ok (.getfield 145, 3) := dk_180 0 145 (dk_at dksX5_law_2 18 rfl rfl)
theorem dX5_law_69 : decode cX5_law 69 = .ok (.if_icmp .ge 53, 3) := dk_162 0 53 (dk_at dksX5_law_2 21 rfl rfl)
theorem dX5_law_72 : decode cX5_law 72 = .ok (.aload_n 0, 1) := dk_42 (dk_at dksX5_law_3 0 rfl rfl)
theorem dX5_law_73 : decode cX5_law 73 = .ok (.getfield 20, 3) := dk_180 0 20 (dk_at dksX5_law_3 1 rfl rfl)
theorem dX5_law_76 : decode cX5_law 76 = .ok (.sipush 168, 3) := dk_17 0 168 (dk_at dksX5_law_3 4 rfl rfl)
theorem dX5_law_79 : decode cX5_law 79 = .ok (.sipush 400, 3) := dk_17 1 144 (dk_at dksX5_law_3 7 rfl rfl)
theorem dX5_law_82 : decode cX5_law 82 = .ok (.iload_n 1, 1) := dk_27 (dk_at dksX5_law_3 10 rfl rfl)
theorem dX5_law_83 : decode cX5_law 83 = .ok (.imul, 1) := dk_104 (dk_at dksX5_law_3 11 rfl rfl)
theorem dX5_law_84 : decode cX5_law 84 = .ok (.iadd, 1) := dk_96 (dk_at dksX5_law_3 12 rfl rfl)
theorem dX5_law_85 : decode cX5_law 85 = .ok (.iload_n 2, 1) := dk_28 (dk_at dksX5_law_3 13 rfl rfl)
theorem dX5_law_86 : decode cX5_law 86 = .ok (.iadd, 1) := dk_96 (dk_at dksX5_law_3 14 rfl rfl)
theorem dX5_law_87 : decode cX5_law 87 = .ok (.aload_n 0, 1) := dk_42 (dk_at dksX5_law_3 15 rfl rfl)
theorem dX5_law_88 : decode cX5_law 88 = .ok (.getfield 43, 3) := dk_180 0 43 (dk_at dksX5_law_3 16 rfl rfl)
theorem dX5_law_91 : decode cX5_law 91 = .ok (.iload_n 2, 1) := dk_28 (dk_at dksX5_law_3 19 rfl rfl)
theorem dX5_law_92 : decode cX5_law 92 = .ok (.iaload, 1) := dk_46 (dk_at dksX5_law_3 20 rfl rfl)
theorem dX5_law_93 : decode cX5_law 93 = .ok (.iastore, 1) := dk_79 (dk_at dksX5_law_3 21 rfl rfl)
theorem dX5_law_94 : decode cX5_law 94 = .ok (.aload_n 0, 1) := dk_42 (dk_at dksX5_law_3 22 rfl rfl)
theorem dX5_law_95 : decode cX5_law 95 = .ok (.getfield 20, 3) := dk_180 0 20 (dk_at dksX5_law_4 0 rfl rfl)
theorem dX5_law_98 : decode cX5_law 98 = .ok (.sipush 2568, 3) := dk_17 10 8 (dk_at dksX5_law_4 3 rfl rfl)
theorem dX5_law_101 : decode cX5_law 101 = .ok (.sipush 400, 3) := dk_17 1 144 (dk_at dksX5_law_4 6 rfl rfl)
theorem dX5_law_104 : decode cX5_law 104 = .ok (.iload_n 1, 1) := dk_27 (dk_at dksX5_law_4 9 rfl rfl)
theorem dX5_law_105 : decode cX5_law 105 = .ok (.imul, 1) := dk_104 (dk_at dksX5_law_4 10 rfl rfl)
theorem dX5_law_106 : decode cX5_law 106 = .ok (.iadd, 1) := dk_96 (dk_at dksX5_law_4 11 rfl rfl)
theorem dX5_law_107 : decode cX5_law 107 = .ok (.iload_n 2, 1) := dk_28 (dk_at dksX5_law_4 12 rfl rfl)
theorem dX5_law_108 : decode cX5_law 108 = .ok (.iadd, 1) := dk_96 (dk_at dksX5_law_4 13 rfl rfl)
theorem dX5_law_109 : decode cX5_law 109 = .ok (.aload_n 0, 1) := dk_42 (dk_at dksX5_law_4 14 rfl rfl)
theorem dX5_law_110 : decode cX5_law 110 = .ok (.getfield 46, 3) := dk_180 0 46 (dk_at dksX5_law_4 15 rfl rfl)
theorem dX5_law_113 : decode cX5_law 113 = .ok (.iload_n 2, 1) := dk_28 (dk_at dksX5_law_4 18 rfl rfl)
theorem dX5_law_114 : decode cX5_law 114 = .ok (.iaload, 1) := dk_46 (dk_at dksX5_law_4 19 rfl rfl)
theorem dX5_law_115 : decode cX5_law 115 = .ok (.iastore, 1) := dk_79 (dk_at dksX5_law_4 20 rfl rfl)
theorem dX5_law_116 : decode cX5_law 116 = .ok (.iinc 2 1, 3) := dk_132 2 1 (dk_at dksX5_law_4 21 rfl rfl)
theorem dX5_law_119 : decode cX5_law 119 = .ok (.goto (-55), 3) := dk_167 255 201 (dk_at dksX5_law_5 0 rfl rfl)
theorem dX5_law_122 : decode cX5_law 122 = .ok (.aload_n 0, 1) := dk_42 (dk_at dksX5_law_5 3 rfl rfl)
theorem dX5_law_123 : decode cX5_law 123 = .ok (.getfield 20, 3) := dk_180 0 20 (dk_at dksX5_law_5 4 rfl rfl)
theorem dX5_law_126 : decode cX5_law 126 = .ok (.sipush 160, 3) := dk_17 0 160 (dk_at dksX5_law_5 7 rfl rfl)
theorem dX5_law_129 : decode cX5_law 129 = .ok (.dup2, 1) := dk_92 (dk_at dksX5_law_5 10 rfl rfl)
theorem dX5_law_130 : decode cX5_law 130 = .ok (.iaload, 1) := dk_46 (dk_at dksX5_law_5 11 rfl rfl)
theorem dX5_law_131 : decode cX5_law 131 = .ok (.iconst 1, 1) := dk_4 (dk_at dksX5_law_5 12 rfl rfl)
theorem dX5_law_132 : decode cX5_law 132 = .ok (.iadd, 1) := dk_96 (dk_at dksX5_law_5 13 rfl rfl)
theorem dX5_law_133 : decode cX5_law 133 = .ok (.iastore, 1) := dk_79 (dk_at dksX5_law_5 14 rfl rfl)
theorem dX5_law_134 : decode cX5_law 134 = .ok (.aload_n 0, 1) := dk_42 (dk_at dksX5_law_5 15 rfl rfl)
theorem dX5_law_135 : decode cX5_law 135 = .ok (.iload_n 1, 1) := dk_27 (dk_at dksX5_law_5 16 rfl rfl)
theorem dX5_law_136 : decode cX5_law 136 = .ok (.invokevirtual 99, 3) := dk_182 0 99 (dk_at dksX5_law_5 17 rfl rfl)
theorem dX5_law_139 : decode cX5_law 139 = .ok (.ireturn, 1) := dk_172 (dk_at dksX5_law_5 20 rfl rfl)
abbrev cX5_reads : ByteArray := prog_25_method_45_code
def yX5_reads : MethodName := ⟨RX5, "reads", "()Z"⟩
def dkwX5_reads_4 : List UInt8 := [182, 0, 171, 42, 42, 180, 0, 158, 181, 0, 40, 42, 182, 0, 161, 172]
abbrev dktX5_reads_4 : List UInt8 := dkwX5_reads_4 ++ []
def dkwX5_reads_3 : List UInt8 := [167, 255, 220, 42, 182, 0, 161, 153, 0, 18, 42, 180, 0, 165, 42, 180, 0, 145, 162, 0, 7, 42]
abbrev dktX5_reads_3 : List UInt8 := dkwX5_reads_3 ++ dktX5_reads_4
def dkwX5_reads_2 : List UInt8 := [16, 12, 160, 0, 7, 42, 182, 0, 171, 42, 182, 0, 161, 153, 0, 7, 42, 182, 0, 209, 132, 1, 1]
abbrev dktX5_reads_2 : List UInt8 := dkwX5_reads_2 ++ dktX5_reads_3
def dkwX5_reads_1 : List UInt8 := [2, 181, 0, 158, 42, 182, 0, 209, 4, 60, 42, 16, 59, 184, 0, 193, 182, 0, 168, 153, 0, 30, 27]
abbrev dktX5_reads_1 : List UInt8 := dkwX5_reads_1 ++ dktX5_reads_2
def dkwX5_reads_0 : List UInt8 := [42, 42, 180, 0, 139, 182, 0, 206, 42, 3, 181, 0, 139, 42, 3, 181, 0, 165, 42, 3, 181, 0, 174, 42]
abbrev dktX5_reads_0 : List UInt8 := dkwX5_reads_0 ++ dktX5_reads_1
theorem dksX5_reads_0 : cX5_reads.data.toList.drop 0 = dktX5_reads_0 := by decide +kernel
theorem dksX5_reads_1 : cX5_reads.data.toList.drop 24 = dktX5_reads_1 := dk_seg dksX5_reads_0 24 rfl rfl
theorem dksX5_reads_2 : cX5_reads.data.toList.drop 47 = dktX5_reads_2 := dk_seg dksX5_reads_1 23 rfl rfl
theorem dksX5_reads_3 : cX5_reads.data.toList.drop 70 = dktX5_reads_3 := dk_seg dksX5_reads_2 23 rfl rfl
theorem dksX5_reads_4 : cX5_reads.data.toList.drop 92 = dktX5_reads_4 := dk_seg dksX5_reads_3 22 rfl rfl
theorem dX5_reads_0 : decode cX5_reads 0 = .ok (.aload_n 0, 1) := dk_42 (dk_at dksX5_reads_0 0 rfl rfl)
theorem dX5_reads_1 : decode cX5_reads 1 = .ok (.aload_n 0, 1) := dk_42 (dk_at dksX5_reads_0 1 rfl rfl)
theorem dX5_reads_2 : decode cX5_reads 2 = .ok (.getfield 139, 3) := dk_180 0 139 (dk_at dksX5_reads_0 2 rfl rfl)
theorem dX5_reads_5 : decode cX5_reads 5 = .ok (.invokevirtual 206, 3) := dk_182 0 206 (dk_at dksX5_reads_0 5 rfl rfl)
theorem dX5_reads_8 : decode cX5_reads 8 = .ok (.aload_n 0, 1) := dk_42 (dk_at dksX5_reads_0 8 rfl rfl)
theorem dX5_reads_9 : decode cX5_reads 9 = .ok (.iconst 0, 1) := dk_3 (dk_at dksX5_reads_0 9 rfl rfl)
theorem dX5_reads_10 : decode cX5_reads 10 = .ok (.putfield 139, 3) := dk_181 0 139 (dk_at dksX5_reads_0 10 rfl rfl)
theorem dX5_reads_13 : decode cX5_reads 13 = .ok (.aload_n 0, 1) := dk_42 (dk_at dksX5_reads_0 13 rfl rfl)
theorem dX5_reads_14 : decode cX5_reads 14 = .ok (.iconst 0, 1) := dk_3 (dk_at dksX5_reads_0 14 rfl rfl)
theorem dX5_reads_15 : decode cX5_reads 15 = .ok (.putfield 165, 3) := dk_181 0 165 (dk_at dksX5_reads_0 15 rfl rfl)
theorem dX5_reads_18 : decode cX5_reads 18 = .ok (.aload_n 0, 1) := dk_42 (dk_at dksX5_reads_0 18 rfl rfl)
theorem dX5_reads_19 : decode cX5_reads 19 = .ok (.iconst 0, 1) := dk_3 (dk_at dksX5_reads_0 19 rfl rfl)
theorem dX5_reads_20 : decode cX5_reads 20 = .ok (.putfield 174, 3) := dk_181 0 174 (dk_at dksX5_reads_0 20 rfl rfl)
theorem dX5_reads_23 : decode cX5_reads 23 = .ok (.aload_n 0, 1) := dk_42 (dk_at dksX5_reads_0 23 rfl rfl)
theorem dX5_reads_24 : decode cX5_reads 24 = .ok (.iconst (-1), 1) := dk_2 (dk_at dksX5_reads_1 0 rfl rfl)
theorem dX5_reads_25 : decode cX5_reads 25 = .ok (.putfield 158, 3) := dk_181 0 158 (dk_at dksX5_reads_1 1 rfl rfl)
theorem dX5_reads_28 : decode cX5_reads 28 = .ok (.aload_n 0, 1) := dk_42 (dk_at dksX5_reads_1 4 rfl rfl)
theorem dX5_reads_29 : decode cX5_reads 29 = .ok (.invokevirtual 209, 3) := dk_182 0 209 (dk_at dksX5_reads_1 5 rfl rfl)
theorem dX5_reads_32 : decode cX5_reads 32 = .ok (.iconst 1, 1) := dk_4 (dk_at dksX5_reads_1 8 rfl rfl)
theorem dX5_reads_33 : decode cX5_reads 33 = .ok (.istore_n 1, 1) := dk_60 (dk_at dksX5_reads_1 9 rfl rfl)
theorem dX5_reads_34 : decode cX5_reads 34 = .ok (.aload_n 0, 1) := dk_42 (dk_at dksX5_reads_1 10 rfl rfl)
theorem dX5_reads_35 : decode cX5_reads 35 = .ok (.bipush 59, 2) := dk_16 59 (dk_at dksX5_reads_1 11 rfl rfl)
theorem dX5_reads_37 : decode cX5_reads 37 = .ok (.invokestatic 193, 3) := dk_184 0 193 (dk_at dksX5_reads_1 13 rfl rfl)
theorem dX5_reads_40 : decode cX5_reads 40 = .ok (.invokevirtual 168, 3) := dk_182 0 168 (dk_at dksX5_reads_1 16 rfl rfl)
theorem dX5_reads_43 : decode cX5_reads 43 = .ok (.ifCond .eq 30, 3) := dk_153 0 30 (dk_at dksX5_reads_1 19 rfl rfl)
theorem dX5_reads_46 : decode cX5_reads 46 = .ok (.iload_n 1, 1) := dk_27 (dk_at dksX5_reads_1 22 rfl rfl)
theorem dX5_reads_47 : decode cX5_reads 47 = .ok (.bipush 12, 2) := dk_16 12 (dk_at dksX5_reads_2 0 rfl rfl)
theorem dX5_reads_49 : decode cX5_reads 49 = .ok (.if_icmp .ne 7, 3) := dk_160 0 7 (dk_at dksX5_reads_2 2 rfl rfl)
theorem dX5_reads_52 : decode cX5_reads 52 = .ok (.aload_n 0, 1) := dk_42 (dk_at dksX5_reads_2 5 rfl rfl)
theorem dX5_reads_53 : decode cX5_reads 53 = .ok (.invokevirtual 171, 3) := dk_182 0 171 (dk_at dksX5_reads_2 6 rfl rfl)
theorem dX5_reads_56 : decode cX5_reads 56 = .ok (.aload_n 0, 1) := dk_42 (dk_at dksX5_reads_2 9 rfl rfl)
theorem dX5_reads_57 : decode cX5_reads 57 = .ok (.invokevirtual 161, 3) := dk_182 0 161 (dk_at dksX5_reads_2 10 rfl rfl)
theorem dX5_reads_60 : decode cX5_reads 60 = .ok (.ifCond .eq 7, 3) := dk_153 0 7 (dk_at dksX5_reads_2 13 rfl rfl)
theorem dX5_reads_63 : decode cX5_reads 63 = .ok (.aload_n 0, 1) := dk_42 (dk_at dksX5_reads_2 16 rfl rfl)
theorem dX5_reads_64 : decode cX5_reads 64 = .ok (.invokevirtual 209, 3) := dk_182 0 209 (dk_at dksX5_reads_2 17 rfl rfl)
theorem dX5_reads_67 : decode cX5_reads 67 = .ok (.iinc 1 1, 3) := dk_132 1 1 (dk_at dksX5_reads_2 20 rfl rfl)
theorem dX5_reads_70 : decode cX5_reads 70 = .ok (.goto (-36), 3) := dk_167 255 220 (dk_at dksX5_reads_3 0 rfl rfl)
theorem dX5_reads_73 : decode cX5_reads 73 = .ok (.aload_n 0, 1) := dk_42 (dk_at dksX5_reads_3 3 rfl rfl)
theorem dX5_reads_74 : decode cX5_reads 74 = .ok (.invokevirtual 161, 3) := dk_182 0 161 (dk_at dksX5_reads_3 4 rfl rfl)
theorem dX5_reads_77 : decode cX5_reads 77 = .ok (.ifCond .eq 18, 3) := dk_153 0 18 (dk_at dksX5_reads_3 7 rfl rfl)
theorem dX5_reads_80 : decode cX5_reads 80 = .ok (.aload_n 0, 1) := dk_42 (dk_at dksX5_reads_3 10 rfl rfl)
theorem dX5_reads_81 : decode cX5_reads 81 = .ok (.getfield 165, 3) := dk_180 0 165 (dk_at dksX5_reads_3 11 rfl rfl)
theorem dX5_reads_84 : decode cX5_reads 84 = .ok (.aload_n 0, 1) := dk_42 (dk_at dksX5_reads_3 14 rfl rfl)
theorem dX5_reads_85 : decode cX5_reads 85 = .ok (.getfield 145, 3) := dk_180 0 145 (dk_at dksX5_reads_3 15 rfl rfl)
theorem dX5_reads_88 : decode cX5_reads 88 = .ok (.if_icmp .ge 7, 3) := dk_162 0 7 (dk_at dksX5_reads_3 18 rfl rfl)
theorem dX5_reads_91 : decode cX5_reads 91 = .ok (.aload_n 0, 1) := dk_42 (dk_at dksX5_reads_3 21 rfl rfl)
theorem dX5_reads_92 : decode cX5_reads 92 = .ok (.invokevirtual 171, 3) := dk_182 0 171 (dk_at dksX5_reads_4 0 rfl rfl)
theorem dX5_reads_95 : decode cX5_reads 95 = .ok (.aload_n 0, 1) := dk_42 (dk_at dksX5_reads_4 3 rfl rfl)
theorem dX5_reads_96 : decode cX5_reads 96 = .ok (.aload_n 0, 1) := dk_42 (dk_at dksX5_reads_4 4 rfl rfl)
theorem dX5_reads_97 : decode cX5_reads 97 = .ok (.getfield 158, 3) := dk_180 0 158 (dk_at dksX5_reads_4 5 rfl rfl)
theorem dX5_reads_100 : decode cX5_reads 100 = .ok (.putfield 40, 3) := dk_181 0 40 (dk_at dksX5_reads_4 8 rfl rfl)
theorem dX5_reads_103 : decode cX5_reads 103 = .ok (.aload_n 0, 1) := dk_42 (dk_at dksX5_reads_4 11 rfl rfl)
theorem dX5_reads_104 : decode cX5_reads 104 = .ok (.invokevirtual 161, 3) := dk_182 0 161 (dk_at dksX5_reads_4 12 rfl rfl)
theorem dX5_reads_107 : decode cX5_reads 107 = .ok (.ireturn, 1) := dk_172 (dk_at dksX5_reads_4 15 rfl rfl)
abbrev cX5_splits : ByteArray := prog_25_method_31_code
def yX5_splits : MethodName := ⟨RX5, "splits", "(I)V"⟩
def dkwX5_splits_12 : List UInt8 := [3, 79, 42, 180, 0, 46, 42, 180, 0, 145, 3, 79, 177]
abbrev dktX5_splits_12 : List UInt8 := dkwX5_splits_12 ++ []
def dkwX5_splits_11 : List UInt8 := [21, 4, 61, 167, 255, 3, 42, 180, 0, 49, 42, 180, 0, 145, 27, 79, 42, 180, 0, 43, 42, 180, 0, 145]
abbrev dktX5_splits_11 : List UInt8 := dkwX5_splits_11 ++ dktX5_splits_12
def dkwX5_splits_10 : List UInt8 := [21, 5, 51, 96, 16, 48, 100, 79, 132, 5, 1, 167, 255, 181, 42, 89, 180, 0, 145, 4, 96, 181, 0, 145]
abbrev dktX5_splits_10 : List UInt8 := dkwX5_splits_10 ++ dktX5_splits_11
def dkwX5_splits_9 : List UInt8 := [180, 0, 145, 46, 167, 0, 26, 16, 10, 42, 180, 0, 46, 42, 180, 0, 145, 46, 104, 42, 180, 0, 34]
abbrev dktX5_splits_9 : List UInt8 := dkwX5_splits_9 ++ dktX5_splits_10
def dkwX5_splits_8 : List UInt8 := [42, 180, 0, 145, 42, 180, 0, 46, 42, 180, 0, 145, 46, 18, 157, 164, 0, 15, 42, 180, 0, 46, 42]
abbrev dktX5_splits_8 : List UInt8 := dkwX5_splits_8 ++ dktX5_splits_9
def dkwX5_splits_7 : List UInt8 := [126, 96, 79, 28, 54, 5, 21, 5, 21, 4, 162, 0, 74, 29, 184, 0, 151, 153, 0, 67, 42, 180, 0, 46]
abbrev dktX5_splits_7 : List UInt8 := dkwX5_splits_7 ++ dktX5_splits_8
def dkwX5_splits_6 : List UInt8 := [182, 0, 154, 167, 0, 23, 29, 184, 0, 151, 153, 0, 8, 16, 50, 167, 0, 11, 16, 100, 29, 17, 0, 255]
abbrev dktX5_splits_6 : List UInt8 := dkwX5_splits_6 ++ dktX5_splits_7
def dkwX5_splits_5 : List UInt8 := [180, 0, 145, 3, 79, 42, 180, 0, 43, 42, 180, 0, 145, 29, 184, 0, 148, 153, 0, 13, 42, 28, 21, 4]
abbrev dktX5_splits_5 : List UInt8 := dkwX5_splits_5 ++ dktX5_splits_6
def dkwX5_splits_4 : List UInt8 := [153, 0, 9, 132, 4, 1, 167, 255, 234, 42, 180, 0, 49, 42, 180, 0, 145, 28, 79, 42, 180, 0, 46, 42]
abbrev dktX5_splits_4 : List UInt8 := dkwX5_splits_4 ++ dktX5_splits_5
def dkwX5_splits_3 : List UInt8 := [184, 0, 151, 153, 0, 28, 21, 4, 27, 162, 0, 22, 42, 180, 0, 34, 21, 4, 51, 184, 0, 151]
abbrev dktX5_splits_3 : List UInt8 := dkwX5_splits_3 ++ dktX5_splits_4
def dkwX5_splits_2 : List UInt8 := [162, 0, 22, 42, 180, 0, 34, 21, 4, 51, 184, 0, 148, 153, 0, 9, 132, 4, 1, 167, 255, 234, 29]
abbrev dktX5_splits_2 : List UInt8 := dkwX5_splits_2 ++ dktX5_splits_3
def dkwX5_splits_1 : List UInt8 := [160, 0, 9, 132, 2, 1, 167, 255, 235, 28, 4, 96, 54, 4, 29, 184, 0, 148, 153, 0, 28, 21, 4, 27]
abbrev dktX5_splits_1 : List UInt8 := dkwX5_splits_1 ++ dktX5_splits_2
def dkwX5_splits_0 : List UInt8 := [42, 3, 181, 0, 145, 3, 61, 28, 27, 162, 0, 254, 42, 180, 0, 34, 28, 51, 62, 29, 16, 32]
abbrev dktX5_splits_0 : List UInt8 := dkwX5_splits_0 ++ dktX5_splits_1
theorem dksX5_splits_0 : cX5_splits.data.toList.drop 0 = dktX5_splits_0 := by decide +kernel
theorem dksX5_splits_1 : cX5_splits.data.toList.drop 22 = dktX5_splits_1 := dk_seg dksX5_splits_0 22 rfl rfl
theorem dksX5_splits_2 : cX5_splits.data.toList.drop 46 = dktX5_splits_2 := dk_seg dksX5_splits_1 24 rfl rfl
theorem dksX5_splits_3 : cX5_splits.data.toList.drop 69 = dktX5_splits_3 := dk_seg dksX5_splits_2 23 rfl rfl
theorem dksX5_splits_4 : cX5_splits.data.toList.drop 91 = dktX5_splits_4 := dk_seg dksX5_splits_3 22 rfl rfl
theorem dksX5_splits_5 : cX5_splits.data.toList.drop 115 = dktX5_splits_5 := dk_seg dksX5_splits_4 24 rfl rfl
theorem dksX5_splits_6 : cX5_splits.data.toList.drop 139 = dktX5_splits_6 := dk_seg dksX5_splits_5 24 rfl rfl
theorem dksX5_splits_7 : cX5_splits.data.toList.drop 163 = dktX5_splits_7 := dk_seg dksX5_splits_6 24 rfl rfl
theorem dksX5_splits_8 : cX5_splits.data.toList.drop 187 = dktX5_splits_8 := dk_seg dksX5_splits_7 24 rfl rfl
theorem dksX5_splits_9 : cX5_splits.data.toList.drop 210 = dktX5_splits_9 := dk_seg dksX5_splits_8 23 rfl rfl
theorem dksX5_splits_10 : cX5_splits.data.toList.drop 233 = dktX5_splits_10 := dk_seg dksX5_splits_9 23 rfl rfl
theorem dksX5_splits_11 : cX5_splits.data.toList.drop 257 = dktX5_splits_11 := dk_seg dksX5_splits_10 24 rfl rfl
theorem dksX5_splits_12 : cX5_splits.data.toList.drop 281 = dktX5_splits_12 := dk_seg dksX5_splits_11 24 rfl rfl
theorem dX5_splits_0 : decode cX5_splits 0 = .ok (.aload_n 0, 1) := dk_42 (dk_at dksX5_splits_0 0 rfl rfl)
theorem dX5_splits_1 : decode cX5_splits 1 = .ok (.iconst 0, 1) := dk_3 (dk_at dksX5_splits_0 1 rfl rfl)
theorem dX5_splits_2 : decode cX5_splits 2 = .ok (.putfield 145, 3) := dk_181 0 145 (dk_at dksX5_splits_0 2 rfl rfl)
theorem dX5_splits_5 : decode cX5_splits 5 = .ok (.iconst 0, 1) := dk_3 (dk_at dksX5_splits_0 5 rfl rfl)
theorem dX5_splits_6 : decode cX5_splits 6 = .ok (.istore_n 2, 1) := dk_61 (dk_at dksX5_splits_0 6 rfl rfl)
theorem dX5_splits_7 : decode cX5_splits 7 = .ok (.iload_n 2, 1) := dk_28 (dk_at dksX5_splits_0 7 rfl rfl)
theorem dX5_splits_8 : decode cX5_splits 8 = .ok (.iload_n 1, 1) := dk_27 (dk_at dksX5_splits_0 8 rfl rfl)
theorem dX5_splits_9 : decode cX5_splits 9 = .ok (.if_icmp .ge 254, 3) := dk_162 0 254 (dk_at dksX5_splits_0 9 rfl rfl)
theorem dX5_splits_12 : decode cX5_splits 12 = .ok (.aload_n 0, 1) := dk_42 (dk_at dksX5_splits_0 12 rfl rfl)
theorem dX5_splits_13 : decode cX5_splits 13 = .ok (.getfield 34, 3) := dk_180 0 34 (dk_at dksX5_splits_0 13 rfl rfl)
theorem dX5_splits_16 : decode cX5_splits 16 = .ok (.iload_n 2, 1) := dk_28 (dk_at dksX5_splits_0 16 rfl rfl)
theorem dX5_splits_17 : decode cX5_splits 17 = .ok (.baload, 1) := dk_51 (dk_at dksX5_splits_0 17 rfl rfl)
theorem dX5_splits_18 : decode cX5_splits 18 = .ok (.istore_n 3, 1) := dk_62 (dk_at dksX5_splits_0 18 rfl rfl)
theorem dX5_splits_19 : decode cX5_splits 19 = .ok (.iload_n 3, 1) := dk_29 (dk_at dksX5_splits_0 19 rfl rfl)
theorem dX5_splits_20 : decode cX5_splits 20 = .ok (.bipush 32, 2) := dk_16 32 (dk_at dksX5_splits_0 20 rfl rfl)
theorem dX5_splits_22 : decode cX5_splits 22 = .ok (.if_icmp .ne 9, 3) := dk_160 0 9 (dk_at dksX5_splits_1 0 rfl rfl)
theorem dX5_splits_25 : decode cX5_splits 25 = .ok (.iinc 2 1, 3) := dk_132 2 1 (dk_at dksX5_splits_1 3 rfl rfl)
theorem dX5_splits_28 : decode cX5_splits 28 = .ok (.goto (-21), 3) := dk_167 255 235 (dk_at dksX5_splits_1 6 rfl rfl)
theorem dX5_splits_31 : decode cX5_splits 31 = .ok (.iload_n 2, 1) := dk_28 (dk_at dksX5_splits_1 9 rfl rfl)
theorem dX5_splits_32 : decode cX5_splits 32 = .ok (.iconst 1, 1) := dk_4 (dk_at dksX5_splits_1 10 rfl rfl)
theorem dX5_splits_33 : decode cX5_splits 33 = .ok (.iadd, 1) := dk_96 (dk_at dksX5_splits_1 11 rfl rfl)
theorem dX5_splits_34 : decode cX5_splits 34 = .ok (.istore 4, 2) := dk_54 4 (dk_at dksX5_splits_1 12 rfl rfl)
theorem dX5_splits_36 : decode cX5_splits 36 = .ok (.iload_n 3, 1) := dk_29 (dk_at dksX5_splits_1 14 rfl rfl)
theorem dX5_splits_37 : decode cX5_splits 37 = .ok (.invokestatic 148, 3) := dk_184 0 148 (dk_at dksX5_splits_1 15 rfl rfl)
theorem dX5_splits_40 : decode cX5_splits 40 = .ok (.ifCond .eq 28, 3) := dk_153 0 28 (dk_at dksX5_splits_1 18 rfl rfl)
theorem dX5_splits_43 : decode cX5_splits 43 = .ok (.iload 4, 2) := dk_21 4 (dk_at dksX5_splits_1 21 rfl rfl)
theorem dX5_splits_45 : decode cX5_splits 45 = .ok (.iload_n 1, 1) := dk_27 (dk_at dksX5_splits_1 23 rfl rfl)
theorem dX5_splits_46 : decode cX5_splits 46 = .ok (.if_icmp .ge 22, 3) := dk_162 0 22 (dk_at dksX5_splits_2 0 rfl rfl)
theorem dX5_splits_49 : decode cX5_splits 49 = .ok (.aload_n 0, 1) := dk_42 (dk_at dksX5_splits_2 3 rfl rfl)
theorem dX5_splits_50 : decode cX5_splits 50 = .ok (.getfield 34, 3) := dk_180 0 34 (dk_at dksX5_splits_2 4 rfl rfl)
theorem dX5_splits_53 : decode cX5_splits 53 = .ok (.iload 4, 2) := dk_21 4 (dk_at dksX5_splits_2 7 rfl rfl)
theorem dX5_splits_55 : decode cX5_splits 55 = .ok (.baload, 1) := dk_51 (dk_at dksX5_splits_2 9 rfl rfl)
theorem dX5_splits_56 : decode cX5_splits 56 = .ok (.invokestatic 148, 3) := dk_184 0 148 (dk_at dksX5_splits_2 10 rfl rfl)
theorem dX5_splits_59 : decode cX5_splits 59 = .ok (.ifCond .eq 9, 3) := dk_153 0 9 (dk_at dksX5_splits_2 13 rfl rfl)
theorem dX5_splits_62 : decode cX5_splits 62 = .ok (.iinc 4 1, 3) := dk_132 4 1 (dk_at dksX5_splits_2 16 rfl rfl)
theorem dX5_splits_65 : decode cX5_splits 65 = .ok (.goto (-22), 3) := dk_167 255 234 (dk_at dksX5_splits_2 19 rfl rfl)
theorem dX5_splits_68 : decode cX5_splits 68 = .ok (.iload_n 3, 1) := dk_29 (dk_at dksX5_splits_2 22 rfl rfl)
theorem dX5_splits_69 : decode cX5_splits 69 = .ok (.invokestatic 151, 3) := dk_184 0 151 (dk_at dksX5_splits_3 0 rfl rfl)
theorem dX5_splits_72 : decode cX5_splits 72 = .ok (.ifCond .eq 28, 3) := dk_153 0 28 (dk_at dksX5_splits_3 3 rfl rfl)
theorem dX5_splits_75 : decode cX5_splits 75 = .ok (.iload 4, 2) := dk_21 4 (dk_at dksX5_splits_3 6 rfl rfl)
theorem dX5_splits_77 : decode cX5_splits 77 = .ok (.iload_n 1, 1) := dk_27 (dk_at dksX5_splits_3 8 rfl rfl)
theorem dX5_splits_78 : decode cX5_splits 78 = .ok (.if_icmp .ge 22, 3) := dk_162 0 22 (dk_at dksX5_splits_3 9 rfl rfl)
theorem dX5_splits_81 : decode cX5_splits 81 = .ok (.aload_n 0, 1) := dk_42 (dk_at dksX5_splits_3 12 rfl rfl)
theorem dX5_splits_82 : decode cX5_splits 82 = .ok (.getfield 34, 3) := dk_180 0 34 (dk_at dksX5_splits_3 13 rfl rfl)
theorem dX5_splits_85 : decode cX5_splits 85 = .ok (.iload 4, 2) := dk_21 4 (dk_at dksX5_splits_3 16 rfl rfl)
theorem dX5_splits_87 : decode cX5_splits 87 = .ok (.baload, 1) := dk_51 (dk_at dksX5_splits_3 18 rfl rfl)
theorem dX5_splits_88 : decode cX5_splits 88 = .ok (.invokestatic 151, 3) := dk_184 0 151 (dk_at dksX5_splits_3 19 rfl rfl)
theorem dX5_splits_91 : decode cX5_splits 91 = .ok (.ifCond .eq 9, 3) := dk_153 0 9 (dk_at dksX5_splits_4 0 rfl rfl)
theorem dX5_splits_94 : decode cX5_splits 94 = .ok (.iinc 4 1, 3) := dk_132 4 1 (dk_at dksX5_splits_4 3 rfl rfl)
theorem dX5_splits_97 : decode cX5_splits 97 = .ok (.goto (-22), 3) := dk_167 255 234 (dk_at dksX5_splits_4 6 rfl rfl)
theorem dX5_splits_100 : decode cX5_splits 100 = .ok (.aload_n 0, 1) := dk_42 (dk_at dksX5_splits_4 9 rfl rfl)
theorem dX5_splits_101 : decode cX5_splits 101 = .ok (.getfield 49, 3) := dk_180 0 49 (dk_at dksX5_splits_4 10 rfl rfl)
theorem dX5_splits_104 : decode cX5_splits 104 = .ok (.aload_n 0, 1) := dk_42 (dk_at dksX5_splits_4 13 rfl rfl)
theorem dX5_splits_105 : decode cX5_splits 105 = .ok (.getfield 145, 3) := dk_180 0 145 (dk_at dksX5_splits_4 14 rfl rfl)
theorem dX5_splits_108 : decode cX5_splits 108 = .ok (.iload_n 2, 1) := dk_28 (dk_at dksX5_splits_4 17 rfl rfl)
theorem dX5_splits_109 : decode cX5_splits 109 = .ok (.iastore, 1) := dk_79 (dk_at dksX5_splits_4 18 rfl rfl)
theorem dX5_splits_110 : decode cX5_splits 110 = .ok (.aload_n 0, 1) := dk_42 (dk_at dksX5_splits_4 19 rfl rfl)
theorem dX5_splits_111 : decode cX5_splits 111 = .ok (.getfield 46, 3) := dk_180 0 46 (dk_at dksX5_splits_4 20 rfl rfl)
theorem dX5_splits_114 : decode cX5_splits 114 = .ok (.aload_n 0, 1) := dk_42 (dk_at dksX5_splits_4 23 rfl rfl)
theorem dX5_splits_115 : decode cX5_splits 115 = .ok (.getfield 145, 3) := dk_180 0 145 (dk_at dksX5_splits_5 0 rfl rfl)
theorem dX5_splits_118 : decode cX5_splits 118 = .ok (.iconst 0, 1) := dk_3 (dk_at dksX5_splits_5 3 rfl rfl)
theorem dX5_splits_119 : decode cX5_splits 119 = .ok (.iastore, 1) := dk_79 (dk_at dksX5_splits_5 4 rfl rfl)
theorem dX5_splits_120 : decode cX5_splits 120 = .ok (.aload_n 0, 1) := dk_42 (dk_at dksX5_splits_5 5 rfl rfl)
theorem dX5_splits_121 : decode cX5_splits 121 = .ok (.getfield 43, 3) := dk_180 0 43 (dk_at dksX5_splits_5 6 rfl rfl)
theorem dX5_splits_124 : decode cX5_splits 124 = .ok (.aload_n 0, 1) := dk_42 (dk_at dksX5_splits_5 9 rfl rfl)
theorem dX5_splits_125 : decode cX5_splits 125 = .ok (.getfield 145, 3) := dk_180 0 145 (dk_at dksX5_splits_5 10 rfl rfl)
theorem dX5_splits_128 : decode cX5_splits 128 = .ok (.iload_n 3, 1) := dk_29 (dk_at dksX5_splits_5 13 rfl rfl)
theorem dX5_splits_129 : decode cX5_splits 129 = .ok (.invokestatic 148, 3) := dk_184 0 148 (dk_at dksX5_splits_5 14 rfl rfl)
theorem dX5_splits_132 : decode cX5_splits 132 = .ok (.ifCond .eq 13, 3) := dk_153 0 13 (dk_at dksX5_splits_5 17 rfl rfl)
theorem dX5_splits_135 : decode cX5_splits 135 = .ok (.aload_n 0, 1) := dk_42 (dk_at dksX5_splits_5 20 rfl rfl)
theorem dX5_splits_136 : decode cX5_splits 136 = .ok (.iload_n 2, 1) := dk_28 (dk_at dksX5_splits_5 21 rfl rfl)
theorem dX5_splits_137 : decode cX5_splits 137 = .ok (.iload 4, 2) := dk_21 4 (dk_at dksX5_splits_5 22 rfl rfl)
theorem dX5_splits_139 : decode cX5_splits 139 = .ok (.invokevirtual 154, 3) := dk_182 0 154 (dk_at dksX5_splits_6 0 rfl rfl)
theorem dX5_splits_142 : decode cX5_splits 142 = .ok (.goto 23, 3) := dk_167 0 23 (dk_at dksX5_splits_6 3 rfl rfl)
theorem dX5_splits_145 : decode cX5_splits 145 = .ok (.iload_n 3, 1) := dk_29 (dk_at dksX5_splits_6 6 rfl rfl)
theorem dX5_splits_146 : decode cX5_splits 146 = .ok (.invokestatic 151, 3) := dk_184 0 151 (dk_at dksX5_splits_6 7 rfl rfl)
theorem dX5_splits_149 : decode cX5_splits 149 = .ok (.ifCond .eq 8, 3) := dk_153 0 8 (dk_at dksX5_splits_6 10 rfl rfl)
theorem dX5_splits_152 : decode cX5_splits 152 = .ok (.bipush 50, 2) := dk_16 50 (dk_at dksX5_splits_6 13 rfl rfl)
theorem dX5_splits_154 : decode cX5_splits 154 = .ok (.goto 11, 3) := dk_167 0 11 (dk_at dksX5_splits_6 15 rfl rfl)
theorem dX5_splits_157 : decode cX5_splits 157 = .ok (.bipush 100, 2) := dk_16 100 (dk_at dksX5_splits_6 18 rfl rfl)
theorem dX5_splits_159 : decode cX5_splits 159 = .ok (.iload_n 3, 1) := dk_29 (dk_at dksX5_splits_6 20 rfl rfl)
theorem dX5_splits_160 : decode cX5_splits 160 = .ok (.sipush 255, 3) := dk_17 0 255 (dk_at dksX5_splits_6 21 rfl rfl)
theorem dX5_splits_163 : decode cX5_splits 163 = .ok (.iand, 1) := dk_126 (dk_at dksX5_splits_7 0 rfl rfl)
theorem dX5_splits_164 : decode cX5_splits 164 = .ok (.iadd, 1) := dk_96 (dk_at dksX5_splits_7 1 rfl rfl)
theorem dX5_splits_165 : decode cX5_splits 165 = .ok (.iastore, 1) := dk_79 (dk_at dksX5_splits_7 2 rfl rfl)
theorem dX5_splits_166 : decode cX5_splits 166 = .ok (.iload_n 2, 1) := dk_28 (dk_at dksX5_splits_7 3 rfl rfl)
theorem dX5_splits_167 : decode cX5_splits 167 = .ok (.istore 5, 2) := dk_54 5 (dk_at dksX5_splits_7 4 rfl rfl)
theorem dX5_splits_169 : decode cX5_splits 169 = .ok (.iload 5, 2) := dk_21 5 (dk_at dksX5_splits_7 6 rfl rfl)
theorem dX5_splits_171 : decode cX5_splits 171 = .ok (.iload 4, 2) := dk_21 4 (dk_at dksX5_splits_7 8 rfl rfl)
theorem dX5_splits_173 : decode cX5_splits 173 = .ok (.if_icmp .ge 74, 3) := dk_162 0 74 (dk_at dksX5_splits_7 10 rfl rfl)
theorem dX5_splits_176 : decode cX5_splits 176 = .ok (.iload_n 3, 1) := dk_29 (dk_at dksX5_splits_7 13 rfl rfl)
theorem dX5_splits_177 : decode cX5_splits 177 = .ok (.invokestatic 151, 3) := dk_184 0 151 (dk_at dksX5_splits_7 14 rfl rfl)
theorem dX5_splits_180 : decode cX5_splits 180 = .ok (.ifCond .eq 67, 3) := dk_153 0 67 (dk_at dksX5_splits_7 17 rfl rfl)
theorem dX5_splits_183 : decode cX5_splits 183 = .ok (.aload_n 0, 1) := dk_42 (dk_at dksX5_splits_7 20 rfl rfl)
theorem dX5_splits_184 : decode cX5_splits 184 = .ok (.getfield 46, 3) := dk_180 0 46 (dk_at dksX5_splits_7 21 rfl rfl)
theorem dX5_splits_187 : decode cX5_splits 187 = .ok (.aload_n 0, 1) := dk_42 (dk_at dksX5_splits_8 0 rfl rfl)
theorem dX5_splits_188 : decode cX5_splits 188 = .ok (.getfield 145, 3) := dk_180 0 145 (dk_at dksX5_splits_8 1 rfl rfl)
theorem dX5_splits_191 : decode cX5_splits 191 = .ok (.aload_n 0, 1) := dk_42 (dk_at dksX5_splits_8 4 rfl rfl)
theorem dX5_splits_192 : decode cX5_splits 192 = .ok (.getfield 46, 3) := dk_180 0 46 (dk_at dksX5_splits_8 5 rfl rfl)
theorem dX5_splits_195 : decode cX5_splits 195 = .ok (.aload_n 0, 1) := dk_42 (dk_at dksX5_splits_8 8 rfl rfl)
theorem dX5_splits_196 : decode cX5_splits 196 = .ok (.getfield 145, 3) := dk_180 0 145 (dk_at dksX5_splits_8 9 rfl rfl)
theorem dX5_splits_199 : decode cX5_splits 199 = .ok (.iaload, 1) := dk_46 (dk_at dksX5_splits_8 12 rfl rfl)
theorem dX5_splits_200 : decode cX5_splits 200 = .ok (.ldc 157, 2) := dk_18 157 (dk_at dksX5_splits_8 13 rfl rfl)
theorem dX5_splits_202 : decode cX5_splits 202 = .ok (.if_icmp .le 15, 3) := dk_164 0 15 (dk_at dksX5_splits_8 15 rfl rfl)
theorem dX5_splits_205 : decode cX5_splits 205 = .ok (.aload_n 0, 1) := dk_42 (dk_at dksX5_splits_8 18 rfl rfl)
theorem dX5_splits_206 : decode cX5_splits 206 = .ok (.getfield 46, 3) := dk_180 0 46 (dk_at dksX5_splits_8 19 rfl rfl)
theorem dX5_splits_209 : decode cX5_splits 209 = .ok (.aload_n 0, 1) := dk_42 (dk_at dksX5_splits_8 22 rfl rfl)
theorem dX5_splits_210 : decode cX5_splits 210 = .ok (.getfield 145, 3) := dk_180 0 145 (dk_at dksX5_splits_9 0 rfl rfl)
theorem dX5_splits_213 : decode cX5_splits 213 = .ok (.iaload, 1) := dk_46 (dk_at dksX5_splits_9 3 rfl rfl)
theorem dX5_splits_214 : decode cX5_splits 214 = .ok (.goto 26, 3) := dk_167 0 26 (dk_at dksX5_splits_9 4 rfl rfl)
theorem dX5_splits_217 : decode cX5_splits 217 = .ok (.bipush 10, 2) := dk_16 10 (dk_at dksX5_splits_9 7 rfl rfl)
theorem dX5_splits_219 : decode cX5_splits 219 = .ok (.aload_n 0, 1) := dk_42 (dk_at dksX5_splits_9 9 rfl rfl)
theorem dX5_splits_220 : decode cX5_splits 220 = .ok (.getfield 46, 3) := dk_180 0 46 (dk_at dksX5_splits_9 10 rfl rfl)
theorem dX5_splits_223 : decode cX5_splits 223 = .ok (.aload_n 0, 1) := dk_42 (dk_at dksX5_splits_9 13 rfl rfl)
theorem dX5_splits_224 : decode cX5_splits 224 = .ok (.getfield 145, 3) := dk_180 0 145 (dk_at dksX5_splits_9 14 rfl rfl)
theorem dX5_splits_227 : decode cX5_splits 227 = .ok (.iaload, 1) := dk_46 (dk_at dksX5_splits_9 17 rfl rfl)
theorem dX5_splits_228 : decode cX5_splits 228 = .ok (.imul, 1) := dk_104 (dk_at dksX5_splits_9 18 rfl rfl)
theorem dX5_splits_229 : decode cX5_splits 229 = .ok (.aload_n 0, 1) := dk_42 (dk_at dksX5_splits_9 19 rfl rfl)
theorem dX5_splits_230 : decode cX5_splits 230 = .ok (.getfield 34, 3) := dk_180 0 34 (dk_at dksX5_splits_9 20 rfl rfl)
theorem dX5_splits_233 : decode cX5_splits 233 = .ok (.iload 5, 2) := dk_21 5 (dk_at dksX5_splits_10 0 rfl rfl)
theorem dX5_splits_235 : decode cX5_splits 235 = .ok (.baload, 1) := dk_51 (dk_at dksX5_splits_10 2 rfl rfl)
theorem dX5_splits_236 : decode cX5_splits 236 = .ok (.iadd, 1) := dk_96 (dk_at dksX5_splits_10 3 rfl rfl)
theorem dX5_splits_237 : decode cX5_splits 237 = .ok (.bipush 48, 2) := dk_16 48 (dk_at dksX5_splits_10 4 rfl rfl)
theorem dX5_splits_239 : decode cX5_splits 239 = .ok (.isub, 1) := dk_100 (dk_at dksX5_splits_10 6 rfl rfl)
theorem dX5_splits_240 : decode cX5_splits 240 = .ok (.iastore, 1) := dk_79 (dk_at dksX5_splits_10 7 rfl rfl)
theorem dX5_splits_241 : decode cX5_splits 241 = .ok (.iinc 5 1, 3) := dk_132 5 1 (dk_at dksX5_splits_10 8 rfl rfl)
theorem dX5_splits_244 : decode cX5_splits 244 = .ok (.goto (-75), 3) := dk_167 255 181 (dk_at dksX5_splits_10 11 rfl rfl)
theorem dX5_splits_247 : decode cX5_splits 247 = .ok (.aload_n 0, 1) := dk_42 (dk_at dksX5_splits_10 14 rfl rfl)
theorem dX5_splits_248 : decode cX5_splits 248 = .ok (.dup, 1) := dk_89 (dk_at dksX5_splits_10 15 rfl rfl)
theorem dX5_splits_249 : decode cX5_splits 249 = .ok (.getfield 145, 3) := dk_180 0 145 (dk_at dksX5_splits_10 16 rfl rfl)
theorem dX5_splits_252 : decode cX5_splits 252 = .ok (.iconst 1, 1) := dk_4 (dk_at dksX5_splits_10 19 rfl rfl)
theorem dX5_splits_253 : decode cX5_splits 253 = .ok (.iadd, 1) := dk_96 (dk_at dksX5_splits_10 20 rfl rfl)
theorem dX5_splits_254 : decode cX5_splits 254 = .ok (.putfield 145, 3) := dk_181 0 145 (dk_at dksX5_splits_10 21 rfl rfl)
theorem dX5_splits_257 : decode cX5_splits 257 = .ok (.iload 4, 2) := dk_21 4 (dk_at dksX5_splits_11 0 rfl rfl)
theorem dX5_splits_259 : decode cX5_splits 259 = .ok (.istore_n 2, 1) := dk_61 (dk_at dksX5_splits_11 2 rfl rfl)
theorem dX5_splits_260 : decode cX5_splits 260 = .ok (.goto (-253), 3) := dk_167 255 3 (dk_at dksX5_splits_11 3 rfl rfl)
theorem dX5_splits_263 : decode cX5_splits 263 = .ok (.aload_n 0, 1) := dk_42 (dk_at dksX5_splits_11 6 rfl rfl)
theorem dX5_splits_264 : decode cX5_splits 264 = .ok (.getfield 49, 3) := dk_180 0 49 (dk_at dksX5_splits_11 7 rfl rfl)
theorem dX5_splits_267 : decode cX5_splits 267 = .ok (.aload_n 0, 1) := dk_42 (dk_at dksX5_splits_11 10 rfl rfl)
theorem dX5_splits_268 : decode cX5_splits 268 = .ok (.getfield 145, 3) := dk_180 0 145 (dk_at dksX5_splits_11 11 rfl rfl)
theorem dX5_splits_271 : decode cX5_splits 271 = .ok (.iload_n 1, 1) := dk_27 (dk_at dksX5_splits_11 14 rfl rfl)
theorem dX5_splits_272 : decode cX5_splits 272 = .ok (.iastore, 1) := dk_79 (dk_at dksX5_splits_11 15 rfl rfl)
theorem dX5_splits_273 : decode cX5_splits 273 = .ok (.aload_n 0, 1) := dk_42 (dk_at dksX5_splits_11 16 rfl rfl)
theorem dX5_splits_274 : decode cX5_splits 274 = .ok (.getfield 43, 3) := dk_180 0 43 (dk_at dksX5_splits_11 17 rfl rfl)
theorem dX5_splits_277 : decode cX5_splits 277 = .ok (.aload_n 0, 1) := dk_42 (dk_at dksX5_splits_11 20 rfl rfl)
theorem dX5_splits_278 : decode cX5_splits 278 = .ok (.getfield 145, 3) := dk_180 0 145 (dk_at dksX5_splits_11 21 rfl rfl)
theorem dX5_splits_281 : decode cX5_splits 281 = .ok (.iconst 0, 1) := dk_3 (dk_at dksX5_splits_12 0 rfl rfl)
theorem dX5_splits_282 : decode cX5_splits 282 = .ok (.iastore, 1) := dk_79 (dk_at dksX5_splits_12 1 rfl rfl)
theorem dX5_splits_283 : decode cX5_splits 283 = .ok (.aload_n 0, 1) := dk_42 (dk_at dksX5_splits_12 2 rfl rfl)
theorem dX5_splits_284 : decode cX5_splits 284 = .ok (.getfield 46, 3) := dk_180 0 46 (dk_at dksX5_splits_12 3 rfl rfl)
theorem dX5_splits_287 : decode cX5_splits 287 = .ok (.aload_n 0, 1) := dk_42 (dk_at dksX5_splits_12 6 rfl rfl)
theorem dX5_splits_288 : decode cX5_splits 288 = .ok (.getfield 145, 3) := dk_180 0 145 (dk_at dksX5_splits_12 7 rfl rfl)
theorem dX5_splits_291 : decode cX5_splits 291 = .ok (.iconst 0, 1) := dk_3 (dk_at dksX5_splits_12 10 rfl rfl)
theorem dX5_splits_292 : decode cX5_splits 292 = .ok (.iastore, 1) := dk_79 (dk_at dksX5_splits_12 11 rfl rfl)
theorem dX5_splits_293 : decode cX5_splits 293 = .ok (.return_, 1) := dk_177 (dk_at dksX5_splits_12 12 rfl rfl)
abbrev cX5_isSmall : ByteArray := prog_25_method_28_code
def yX5_isSmall : MethodName := ⟨RX5, "isSmall", "(I)Z"⟩
def dkwX5_isSmall_0 : List UInt8 := [26, 16, 97, 161, 0, 13, 26, 16, 122, 163, 0, 7, 4, 167, 0, 4, 3, 172]
abbrev dktX5_isSmall_0 : List UInt8 := dkwX5_isSmall_0 ++ []
theorem dksX5_isSmall_0 : cX5_isSmall.data.toList.drop 0 = dktX5_isSmall_0 := by decide +kernel
theorem dX5_isSmall_0 : decode cX5_isSmall 0 = .ok (.iload_n 0, 1) := dk_26 (dk_at dksX5_isSmall_0 0 rfl rfl)
theorem dX5_isSmall_1 : decode cX5_isSmall 1 = .ok (.bipush 97, 2) := dk_16 97 (dk_at dksX5_isSmall_0 1 rfl rfl)
theorem dX5_isSmall_3 : decode cX5_isSmall 3 = .ok (.if_icmp .lt 13, 3) := dk_161 0 13 (dk_at dksX5_isSmall_0 3 rfl rfl)
theorem dX5_isSmall_6 : decode cX5_isSmall 6 = .ok (.iload_n 0, 1) := dk_26 (dk_at dksX5_isSmall_0 6 rfl rfl)
theorem dX5_isSmall_7 : decode cX5_isSmall 7 = .ok (.bipush 122, 2) := dk_16 122 (dk_at dksX5_isSmall_0 7 rfl rfl)
theorem dX5_isSmall_9 : decode cX5_isSmall 9 = .ok (.if_icmp .gt 7, 3) := dk_163 0 7 (dk_at dksX5_isSmall_0 9 rfl rfl)
theorem dX5_isSmall_12 : decode cX5_isSmall 12 = .ok (.iconst 1, 1) := dk_4 (dk_at dksX5_isSmall_0 12 rfl rfl)
theorem dX5_isSmall_13 : decode cX5_isSmall 13 = .ok (.goto 4, 3) := dk_167 0 4 (dk_at dksX5_isSmall_0 13 rfl rfl)
theorem dX5_isSmall_16 : decode cX5_isSmall 16 = .ok (.iconst 0, 1) := dk_3 (dk_at dksX5_isSmall_0 16 rfl rfl)
theorem dX5_isSmall_17 : decode cX5_isSmall 17 = .ok (.ireturn, 1) := dk_172 (dk_at dksX5_isSmall_0 17 rfl rfl)
abbrev cX5_isDigit : ByteArray := prog_25_method_29_code
def yX5_isDigit : MethodName := ⟨RX5, "isDigit", "(I)Z"⟩
def dkwX5_isDigit_0 : List UInt8 := [26, 16, 48, 161, 0, 13, 26, 16, 57, 163, 0, 7, 4, 167, 0, 4, 3, 172]
abbrev dktX5_isDigit_0 : List UInt8 := dkwX5_isDigit_0 ++ []
theorem dksX5_isDigit_0 : cX5_isDigit.data.toList.drop 0 = dktX5_isDigit_0 := by decide +kernel
theorem dX5_isDigit_0 : decode cX5_isDigit 0 = .ok (.iload_n 0, 1) := dk_26 (dk_at dksX5_isDigit_0 0 rfl rfl)
theorem dX5_isDigit_1 : decode cX5_isDigit 1 = .ok (.bipush 48, 2) := dk_16 48 (dk_at dksX5_isDigit_0 1 rfl rfl)
theorem dX5_isDigit_3 : decode cX5_isDigit 3 = .ok (.if_icmp .lt 13, 3) := dk_161 0 13 (dk_at dksX5_isDigit_0 3 rfl rfl)
theorem dX5_isDigit_6 : decode cX5_isDigit 6 = .ok (.iload_n 0, 1) := dk_26 (dk_at dksX5_isDigit_0 6 rfl rfl)
theorem dX5_isDigit_7 : decode cX5_isDigit 7 = .ok (.bipush 57, 2) := dk_16 57 (dk_at dksX5_isDigit_0 7 rfl rfl)
theorem dX5_isDigit_9 : decode cX5_isDigit 9 = .ok (.if_icmp .gt 7, 3) := dk_163 0 7 (dk_at dksX5_isDigit_0 9 rfl rfl)
theorem dX5_isDigit_12 : decode cX5_isDigit 12 = .ok (.iconst 1, 1) := dk_4 (dk_at dksX5_isDigit_0 12 rfl rfl)
theorem dX5_isDigit_13 : decode cX5_isDigit 13 = .ok (.goto 4, 3) := dk_167 0 4 (dk_at dksX5_isDigit_0 13 rfl rfl)
theorem dX5_isDigit_16 : decode cX5_isDigit 16 = .ok (.iconst 0, 1) := dk_3 (dk_at dksX5_isDigit_0 16 rfl rfl)
theorem dX5_isDigit_17 : decode cX5_isDigit 17 = .ok (.ireturn, 1) := dk_172 (dk_at dksX5_isDigit_0 17 rfl rfl)
abbrev cX5_wordOf : ByteArray := prog_25_method_30_code
def yX5_wordOf : MethodName := ⟨RX5, "wordOf", "(II)I"⟩
def dkwX5_wordOf_5 : List UInt8 := [96, 96, 54, 4, 132, 3, 1, 167, 255, 138, 3, 172]
abbrev dktX5_wordOf_5 : List UInt8 := dkwX5_wordOf_5 ++ []
def dkwX5_wordOf_4 : List UInt8 := [167, 0, 4, 3, 54, 6, 132, 7, 1, 167, 255, 212, 21, 6, 153, 0, 5, 29, 172, 21, 4, 21, 5, 4]
abbrev dktX5_wordOf_4 : List UInt8 := dkwX5_wordOf_4 ++ dktX5_wordOf_5
def dkwX5_wordOf_3 : List UInt8 := [180, 0, 30, 21, 4, 21, 7, 96, 51, 42, 180, 0, 34, 27, 21, 7, 96, 51, 160, 0, 7, 4]
abbrev dktX5_wordOf_3 : List UInt8 := dkwX5_wordOf_3 ++ dktX5_wordOf_4
def dkwX5_wordOf_2 : List UInt8 := [167, 0, 4, 3, 54, 6, 3, 54, 7, 21, 7, 21, 5, 162, 0, 43, 21, 6, 153, 0, 38, 42]
abbrev dktX5_wordOf_2 : List UInt8 := dkwX5_wordOf_2 ++ dktX5_wordOf_3
def dkwX5_wordOf_1 : List UInt8 := [21, 5, 96, 51, 16, 32, 159, 0, 9, 132, 5, 1, 167, 255, 238, 21, 5, 28, 27, 100, 160, 0, 7, 4]
abbrev dktX5_wordOf_1 : List UInt8 := dkwX5_wordOf_1 ++ dktX5_wordOf_2
def dkwX5_wordOf_0 : List UInt8 := [4, 62, 3, 54, 4, 21, 4, 42, 180, 0, 30, 190, 162, 0, 114, 3, 54, 5, 42, 180, 0, 30, 21, 4]
abbrev dktX5_wordOf_0 : List UInt8 := dkwX5_wordOf_0 ++ dktX5_wordOf_1
theorem dksX5_wordOf_0 : cX5_wordOf.data.toList.drop 0 = dktX5_wordOf_0 := by decide +kernel
theorem dksX5_wordOf_1 : cX5_wordOf.data.toList.drop 24 = dktX5_wordOf_1 := dk_seg dksX5_wordOf_0 24 rfl rfl
theorem dksX5_wordOf_2 : cX5_wordOf.data.toList.drop 48 = dktX5_wordOf_2 := dk_seg dksX5_wordOf_1 24 rfl rfl
theorem dksX5_wordOf_3 : cX5_wordOf.data.toList.drop 70 = dktX5_wordOf_3 := dk_seg dksX5_wordOf_2 22 rfl rfl
theorem dksX5_wordOf_4 : cX5_wordOf.data.toList.drop 92 = dktX5_wordOf_4 := dk_seg dksX5_wordOf_3 22 rfl rfl
theorem dksX5_wordOf_5 : cX5_wordOf.data.toList.drop 116 = dktX5_wordOf_5 := dk_seg dksX5_wordOf_4 24 rfl rfl
theorem dX5_wordOf_0 : decode cX5_wordOf 0 = .ok (.iconst 1, 1) := dk_4 (dk_at dksX5_wordOf_0 0 rfl rfl)
theorem dX5_wordOf_1 : decode cX5_wordOf 1 = .ok (.istore_n 3, 1) := dk_62 (dk_at dksX5_wordOf_0 1 rfl rfl)
theorem dX5_wordOf_2 : decode cX5_wordOf 2 = .ok (.iconst 0, 1) := dk_3 (dk_at dksX5_wordOf_0 2 rfl rfl)
theorem dX5_wordOf_3 : decode cX5_wordOf 3 = .ok (.istore 4, 2) := dk_54 4 (dk_at dksX5_wordOf_0 3 rfl rfl)
theorem dX5_wordOf_5 : decode cX5_wordOf 5 = .ok (.iload 4, 2) := dk_21 4 (dk_at dksX5_wordOf_0 5 rfl rfl)
theorem dX5_wordOf_7 : decode cX5_wordOf 7 = .ok (.aload_n 0, 1) := dk_42 (dk_at dksX5_wordOf_0 7 rfl rfl)
theorem dX5_wordOf_8 : decode cX5_wordOf 8 = .ok (.getfield 30, 3) := dk_180 0 30 (dk_at dksX5_wordOf_0 8 rfl rfl)
theorem dX5_wordOf_11 : decode cX5_wordOf 11 = .ok (.arraylength, 1) := dk_190 (dk_at dksX5_wordOf_0 11 rfl rfl)
theorem dX5_wordOf_12 : decode cX5_wordOf 12 = .ok (.if_icmp .ge 114, 3) := dk_162 0 114 (dk_at dksX5_wordOf_0 12 rfl rfl)
theorem dX5_wordOf_15 : decode cX5_wordOf 15 = .ok (.iconst 0, 1) := dk_3 (dk_at dksX5_wordOf_0 15 rfl rfl)
theorem dX5_wordOf_16 : decode cX5_wordOf 16 = .ok (.istore 5, 2) := dk_54 5 (dk_at dksX5_wordOf_0 16 rfl rfl)
theorem dX5_wordOf_18 : decode cX5_wordOf 18 = .ok (.aload_n 0, 1) := dk_42 (dk_at dksX5_wordOf_0 18 rfl rfl)
theorem dX5_wordOf_19 : decode cX5_wordOf 19 = .ok (.getfield 30, 3) := dk_180 0 30 (dk_at dksX5_wordOf_0 19 rfl rfl)
theorem dX5_wordOf_22 : decode cX5_wordOf 22 = .ok (.iload 4, 2) := dk_21 4 (dk_at dksX5_wordOf_0 22 rfl rfl)
theorem dX5_wordOf_24 : decode cX5_wordOf 24 = .ok (.iload 5, 2) := dk_21 5 (dk_at dksX5_wordOf_1 0 rfl rfl)
theorem dX5_wordOf_26 : decode cX5_wordOf 26 = .ok (.iadd, 1) := dk_96 (dk_at dksX5_wordOf_1 2 rfl rfl)
theorem dX5_wordOf_27 : decode cX5_wordOf 27 = .ok (.baload, 1) := dk_51 (dk_at dksX5_wordOf_1 3 rfl rfl)
theorem dX5_wordOf_28 : decode cX5_wordOf 28 = .ok (.bipush 32, 2) := dk_16 32 (dk_at dksX5_wordOf_1 4 rfl rfl)
theorem dX5_wordOf_30 : decode cX5_wordOf 30 = .ok (.if_icmp .eq 9, 3) := dk_159 0 9 (dk_at dksX5_wordOf_1 6 rfl rfl)
theorem dX5_wordOf_33 : decode cX5_wordOf 33 = .ok (.iinc 5 1, 3) := dk_132 5 1 (dk_at dksX5_wordOf_1 9 rfl rfl)
theorem dX5_wordOf_36 : decode cX5_wordOf 36 = .ok (.goto (-18), 3) := dk_167 255 238 (dk_at dksX5_wordOf_1 12 rfl rfl)
theorem dX5_wordOf_39 : decode cX5_wordOf 39 = .ok (.iload 5, 2) := dk_21 5 (dk_at dksX5_wordOf_1 15 rfl rfl)
theorem dX5_wordOf_41 : decode cX5_wordOf 41 = .ok (.iload_n 2, 1) := dk_28 (dk_at dksX5_wordOf_1 17 rfl rfl)
theorem dX5_wordOf_42 : decode cX5_wordOf 42 = .ok (.iload_n 1, 1) := dk_27 (dk_at dksX5_wordOf_1 18 rfl rfl)
theorem dX5_wordOf_43 : decode cX5_wordOf 43 = .ok (.isub, 1) := dk_100 (dk_at dksX5_wordOf_1 19 rfl rfl)
theorem dX5_wordOf_44 : decode cX5_wordOf 44 = .ok (.if_icmp .ne 7, 3) := dk_160 0 7 (dk_at dksX5_wordOf_1 20 rfl rfl)
theorem dX5_wordOf_47 : decode cX5_wordOf 47 = .ok (.iconst 1, 1) := dk_4 (dk_at dksX5_wordOf_1 23 rfl rfl)
theorem dX5_wordOf_48 : decode cX5_wordOf 48 = .ok (.goto 4, 3) := dk_167 0 4 (dk_at dksX5_wordOf_2 0 rfl rfl)
theorem dX5_wordOf_51 : decode cX5_wordOf 51 = .ok (.iconst 0, 1) := dk_3 (dk_at dksX5_wordOf_2 3 rfl rfl)
theorem dX5_wordOf_52 : decode cX5_wordOf 52 = .ok (.istore 6, 2) := dk_54 6 (dk_at dksX5_wordOf_2 4 rfl rfl)
theorem dX5_wordOf_54 : decode cX5_wordOf 54 = .ok (.iconst 0, 1) := dk_3 (dk_at dksX5_wordOf_2 6 rfl rfl)
theorem dX5_wordOf_55 : decode cX5_wordOf 55 = .ok (.istore 7, 2) := dk_54 7 (dk_at dksX5_wordOf_2 7 rfl rfl)
theorem dX5_wordOf_57 : decode cX5_wordOf 57 = .ok (.iload 7, 2) := dk_21 7 (dk_at dksX5_wordOf_2 9 rfl rfl)
theorem dX5_wordOf_59 : decode cX5_wordOf 59 = .ok (.iload 5, 2) := dk_21 5 (dk_at dksX5_wordOf_2 11 rfl rfl)
theorem dX5_wordOf_61 : decode cX5_wordOf 61 = .ok (.if_icmp .ge 43, 3) := dk_162 0 43 (dk_at dksX5_wordOf_2 13 rfl rfl)
theorem dX5_wordOf_64 : decode cX5_wordOf 64 = .ok (.iload 6, 2) := dk_21 6 (dk_at dksX5_wordOf_2 16 rfl rfl)
theorem dX5_wordOf_66 : decode cX5_wordOf 66 = .ok (.ifCond .eq 38, 3) := dk_153 0 38 (dk_at dksX5_wordOf_2 18 rfl rfl)
theorem dX5_wordOf_69 : decode cX5_wordOf 69 = .ok (.aload_n 0, 1) := dk_42 (dk_at dksX5_wordOf_2 21 rfl rfl)
theorem dX5_wordOf_70 : decode cX5_wordOf 70 = .ok (.getfield 30, 3) := dk_180 0 30 (dk_at dksX5_wordOf_3 0 rfl rfl)
theorem dX5_wordOf_73 : decode cX5_wordOf 73 = .ok (.iload 4, 2) := dk_21 4 (dk_at dksX5_wordOf_3 3 rfl rfl)
theorem dX5_wordOf_75 : decode cX5_wordOf 75 = .ok (.iload 7, 2) := dk_21 7 (dk_at dksX5_wordOf_3 5 rfl rfl)
theorem dX5_wordOf_77 : decode cX5_wordOf 77 = .ok (.iadd, 1) := dk_96 (dk_at dksX5_wordOf_3 7 rfl rfl)
theorem dX5_wordOf_78 : decode cX5_wordOf 78 = .ok (.baload, 1) := dk_51 (dk_at dksX5_wordOf_3 8 rfl rfl)
theorem dX5_wordOf_79 : decode cX5_wordOf 79 = .ok (.aload_n 0, 1) := dk_42 (dk_at dksX5_wordOf_3 9 rfl rfl)
theorem dX5_wordOf_80 : decode cX5_wordOf 80 = .ok (.getfield 34, 3) := dk_180 0 34 (dk_at dksX5_wordOf_3 10 rfl rfl)
theorem dX5_wordOf_83 : decode cX5_wordOf 83 = .ok (.iload_n 1, 1) := dk_27 (dk_at dksX5_wordOf_3 13 rfl rfl)
theorem dX5_wordOf_84 : decode cX5_wordOf 84 = .ok (.iload 7, 2) := dk_21 7 (dk_at dksX5_wordOf_3 14 rfl rfl)
theorem dX5_wordOf_86 : decode cX5_wordOf 86 = .ok (.iadd, 1) := dk_96 (dk_at dksX5_wordOf_3 16 rfl rfl)
theorem dX5_wordOf_87 : decode cX5_wordOf 87 = .ok (.baload, 1) := dk_51 (dk_at dksX5_wordOf_3 17 rfl rfl)
theorem dX5_wordOf_88 : decode cX5_wordOf 88 = .ok (.if_icmp .ne 7, 3) := dk_160 0 7 (dk_at dksX5_wordOf_3 18 rfl rfl)
theorem dX5_wordOf_91 : decode cX5_wordOf 91 = .ok (.iconst 1, 1) := dk_4 (dk_at dksX5_wordOf_3 21 rfl rfl)
theorem dX5_wordOf_92 : decode cX5_wordOf 92 = .ok (.goto 4, 3) := dk_167 0 4 (dk_at dksX5_wordOf_4 0 rfl rfl)
theorem dX5_wordOf_95 : decode cX5_wordOf 95 = .ok (.iconst 0, 1) := dk_3 (dk_at dksX5_wordOf_4 3 rfl rfl)
theorem dX5_wordOf_96 : decode cX5_wordOf 96 = .ok (.istore 6, 2) := dk_54 6 (dk_at dksX5_wordOf_4 4 rfl rfl)
theorem dX5_wordOf_98 : decode cX5_wordOf 98 = .ok (.iinc 7 1, 3) := dk_132 7 1 (dk_at dksX5_wordOf_4 6 rfl rfl)
theorem dX5_wordOf_101 : decode cX5_wordOf 101 = .ok (.goto (-44), 3) := dk_167 255 212 (dk_at dksX5_wordOf_4 9 rfl rfl)
theorem dX5_wordOf_104 : decode cX5_wordOf 104 = .ok (.iload 6, 2) := dk_21 6 (dk_at dksX5_wordOf_4 12 rfl rfl)
theorem dX5_wordOf_106 : decode cX5_wordOf 106 = .ok (.ifCond .eq 5, 3) := dk_153 0 5 (dk_at dksX5_wordOf_4 14 rfl rfl)
theorem dX5_wordOf_109 : decode cX5_wordOf 109 = .ok (.iload_n 3, 1) := dk_29 (dk_at dksX5_wordOf_4 17 rfl rfl)
theorem dX5_wordOf_110 : decode cX5_wordOf 110 = .ok (.ireturn, 1) := dk_172 (dk_at dksX5_wordOf_4 18 rfl rfl)
theorem dX5_wordOf_111 : decode cX5_wordOf 111 = .ok (.iload 4, 2) := dk_21 4 (dk_at dksX5_wordOf_4 19 rfl rfl)
theorem dX5_wordOf_113 : decode cX5_wordOf 113 = .ok (.iload 5, 2) := dk_21 5 (dk_at dksX5_wordOf_4 21 rfl rfl)
theorem dX5_wordOf_115 : decode cX5_wordOf 115 = .ok (.iconst 1, 1) := dk_4 (dk_at dksX5_wordOf_4 23 rfl rfl)
theorem dX5_wordOf_116 : decode cX5_wordOf 116 = .ok (.iadd, 1) := dk_96 (dk_at dksX5_wordOf_5 0 rfl rfl)
theorem dX5_wordOf_117 : decode cX5_wordOf 117 = .ok (.iadd, 1) := dk_96 (dk_at dksX5_wordOf_5 1 rfl rfl)
theorem dX5_wordOf_118 : decode cX5_wordOf 118 = .ok (.istore 4, 2) := dk_54 4 (dk_at dksX5_wordOf_5 2 rfl rfl)
theorem dX5_wordOf_120 : decode cX5_wordOf 120 = .ok (.iinc 3 1, 3) := dk_132 3 1 (dk_at dksX5_wordOf_5 4 rfl rfl)
theorem dX5_wordOf_123 : decode cX5_wordOf 123 = .ok (.goto (-118), 3) := dk_167 255 138 (dk_at dksX5_wordOf_5 7 rfl rfl)
theorem dX5_wordOf_126 : decode cX5_wordOf 126 = .ok (.iconst 0, 1) := dk_3 (dk_at dksX5_wordOf_5 10 rfl rfl)
theorem dX5_wordOf_127 : decode cX5_wordOf 127 = .ok (.ireturn, 1) := dk_172 (dk_at dksX5_wordOf_5 11 rfl rfl)
abbrev cX5_readClause : ByteArray := prog_25_method_38_code
def yX5_readClause : MethodName := ⟨RX5, "readClause", "()V"⟩
def dkwX5_readClause_1 : List UInt8 := [182, 0, 168, 153, 0, 8, 42, 3, 182, 0, 184, 177]
abbrev dktX5_readClause_1 : List UInt8 := dkwX5_readClause_1 ++ []
def dkwX5_readClause_0 : List UInt8 := [42, 4, 182, 0, 168, 153, 0, 11, 42, 3, 182, 0, 177, 167, 0, 8, 42, 5, 182, 0, 181, 42, 6]
abbrev dktX5_readClause_0 : List UInt8 := dkwX5_readClause_0 ++ dktX5_readClause_1
theorem dksX5_readClause_0 : cX5_readClause.data.toList.drop 0 = dktX5_readClause_0 := by decide +kernel
theorem dksX5_readClause_1 : cX5_readClause.data.toList.drop 23 = dktX5_readClause_1 := dk_seg dksX5_readClause_0 23 rfl rfl
theorem dX5_readClause_0 : decode cX5_readClause 0 = .ok (.aload_n 0, 1) := dk_42 (dk_at dksX5_readClause_0 0 rfl rfl)
theorem dX5_readClause_1 : decode cX5_readClause 1 = .ok (.iconst 1, 1) := dk_4 (dk_at dksX5_readClause_0 1 rfl rfl)
theorem dX5_readClause_2 : decode cX5_readClause 2 = .ok (.invokevirtual 168, 3) := dk_182 0 168 (dk_at dksX5_readClause_0 2 rfl rfl)
theorem dX5_readClause_5 : decode cX5_readClause 5 = .ok (.ifCond .eq 11, 3) := dk_153 0 11 (dk_at dksX5_readClause_0 5 rfl rfl)
theorem dX5_readClause_8 : decode cX5_readClause 8 = .ok (.aload_n 0, 1) := dk_42 (dk_at dksX5_readClause_0 8 rfl rfl)
theorem dX5_readClause_9 : decode cX5_readClause 9 = .ok (.iconst 0, 1) := dk_3 (dk_at dksX5_readClause_0 9 rfl rfl)
theorem dX5_readClause_10 : decode cX5_readClause 10 = .ok (.invokevirtual 177, 3) := dk_182 0 177 (dk_at dksX5_readClause_0 10 rfl rfl)
theorem dX5_readClause_13 : decode cX5_readClause 13 = .ok (.goto 8, 3) := dk_167 0 8 (dk_at dksX5_readClause_0 13 rfl rfl)
theorem dX5_readClause_16 : decode cX5_readClause 16 = .ok (.aload_n 0, 1) := dk_42 (dk_at dksX5_readClause_0 16 rfl rfl)
theorem dX5_readClause_17 : decode cX5_readClause 17 = .ok (.iconst 2, 1) := dk_5 (dk_at dksX5_readClause_0 17 rfl rfl)
theorem dX5_readClause_18 : decode cX5_readClause 18 = .ok (.invokevirtual 181, 3) := dk_182 0 181 (dk_at dksX5_readClause_0 18 rfl rfl)
theorem dX5_readClause_21 : decode cX5_readClause 21 = .ok (.aload_n 0, 1) := dk_42 (dk_at dksX5_readClause_0 21 rfl rfl)
theorem dX5_readClause_22 : decode cX5_readClause 22 = .ok (.iconst 3, 1) := dk_6 (dk_at dksX5_readClause_0 22 rfl rfl)
theorem dX5_readClause_23 : decode cX5_readClause 23 = .ok (.invokevirtual 168, 3) := dk_182 0 168 (dk_at dksX5_readClause_1 0 rfl rfl)
theorem dX5_readClause_26 : decode cX5_readClause 26 = .ok (.ifCond .eq 8, 3) := dk_153 0 8 (dk_at dksX5_readClause_1 3 rfl rfl)
theorem dX5_readClause_29 : decode cX5_readClause 29 = .ok (.aload_n 0, 1) := dk_42 (dk_at dksX5_readClause_1 6 rfl rfl)
theorem dX5_readClause_30 : decode cX5_readClause 30 = .ok (.iconst 0, 1) := dk_3 (dk_at dksX5_readClause_1 7 rfl rfl)
theorem dX5_readClause_31 : decode cX5_readClause 31 = .ok (.invokevirtual 184, 3) := dk_182 0 184 (dk_at dksX5_readClause_1 8 rfl rfl)
theorem dX5_readClause_34 : decode cX5_readClause 34 = .ok (.return_, 1) := dk_177 (dk_at dksX5_readClause_1 11 rfl rfl)
abbrev cX5_takes0 : ByteArray := prog_25_method_34_code
def yX5_takes0 : MethodName := ⟨RX5, "takes0", "(I)Z"⟩
def dkwX5_takes0_1 : List UInt8 := [3, 61, 28, 153, 0, 13, 42, 89, 180, 0, 165, 4, 96, 181, 0, 165, 28, 172]
abbrev dktX5_takes0_1 : List UInt8 := dkwX5_takes0_1 ++ []
def dkwX5_takes0_0 : List UInt8 := [42, 182, 0, 161, 153, 0, 20, 42, 180, 0, 43, 42, 180, 0, 165, 46, 27, 160, 0, 7, 4, 167, 0, 4]
abbrev dktX5_takes0_0 : List UInt8 := dkwX5_takes0_0 ++ dktX5_takes0_1
theorem dksX5_takes0_0 : cX5_takes0.data.toList.drop 0 = dktX5_takes0_0 := by decide +kernel
theorem dksX5_takes0_1 : cX5_takes0.data.toList.drop 24 = dktX5_takes0_1 := dk_seg dksX5_takes0_0 24 rfl rfl
theorem dX5_takes0_0 : decode cX5_takes0 0 = .ok (.aload_n 0, 1) := dk_42 (dk_at dksX5_takes0_0 0 rfl rfl)
theorem dX5_takes0_1 : decode cX5_takes0 1 = .ok (.invokevirtual 161, 3) := dk_182 0 161 (dk_at dksX5_takes0_0 1 rfl rfl)
theorem dX5_takes0_4 : decode cX5_takes0 4 = .ok (.ifCond .eq 20, 3) := dk_153 0 20 (dk_at dksX5_takes0_0 4 rfl rfl)
theorem dX5_takes0_7 : decode cX5_takes0 7 = .ok (.aload_n 0, 1) := dk_42 (dk_at dksX5_takes0_0 7 rfl rfl)
theorem dX5_takes0_8 : decode cX5_takes0 8 = .ok (.getfield 43, 3) := dk_180 0 43 (dk_at dksX5_takes0_0 8 rfl rfl)
theorem dX5_takes0_11 : decode cX5_takes0 11 = .ok (.aload_n 0, 1) := dk_42 (dk_at dksX5_takes0_0 11 rfl rfl)
theorem dX5_takes0_12 : decode cX5_takes0 12 = .ok (.getfield 165, 3) := dk_180 0 165 (dk_at dksX5_takes0_0 12 rfl rfl)
theorem dX5_takes0_15 : decode cX5_takes0 15 = .ok (.iaload, 1) := dk_46 (dk_at dksX5_takes0_0 15 rfl rfl)
theorem dX5_takes0_16 : decode cX5_takes0 16 = .ok (.iload_n 1, 1) := dk_27 (dk_at dksX5_takes0_0 16 rfl rfl)
theorem dX5_takes0_17 : decode cX5_takes0 17 = .ok (.if_icmp .ne 7, 3) := dk_160 0 7 (dk_at dksX5_takes0_0 17 rfl rfl)
theorem dX5_takes0_20 : decode cX5_takes0 20 = .ok (.iconst 1, 1) := dk_4 (dk_at dksX5_takes0_0 20 rfl rfl)
theorem dX5_takes0_21 : decode cX5_takes0 21 = .ok (.goto 4, 3) := dk_167 0 4 (dk_at dksX5_takes0_0 21 rfl rfl)
theorem dX5_takes0_24 : decode cX5_takes0 24 = .ok (.iconst 0, 1) := dk_3 (dk_at dksX5_takes0_1 0 rfl rfl)
theorem dX5_takes0_25 : decode cX5_takes0 25 = .ok (.istore_n 2, 1) := dk_61 (dk_at dksX5_takes0_1 1 rfl rfl)
theorem dX5_takes0_26 : decode cX5_takes0 26 = .ok (.iload_n 2, 1) := dk_28 (dk_at dksX5_takes0_1 2 rfl rfl)
theorem dX5_takes0_27 : decode cX5_takes0 27 = .ok (.ifCond .eq 13, 3) := dk_153 0 13 (dk_at dksX5_takes0_1 3 rfl rfl)
theorem dX5_takes0_30 : decode cX5_takes0 30 = .ok (.aload_n 0, 1) := dk_42 (dk_at dksX5_takes0_1 6 rfl rfl)
theorem dX5_takes0_31 : decode cX5_takes0 31 = .ok (.dup, 1) := dk_89 (dk_at dksX5_takes0_1 7 rfl rfl)
theorem dX5_takes0_32 : decode cX5_takes0 32 = .ok (.getfield 165, 3) := dk_180 0 165 (dk_at dksX5_takes0_1 8 rfl rfl)
theorem dX5_takes0_35 : decode cX5_takes0 35 = .ok (.iconst 1, 1) := dk_4 (dk_at dksX5_takes0_1 11 rfl rfl)
theorem dX5_takes0_36 : decode cX5_takes0 36 = .ok (.iadd, 1) := dk_96 (dk_at dksX5_takes0_1 12 rfl rfl)
theorem dX5_takes0_37 : decode cX5_takes0 37 = .ok (.putfield 165, 3) := dk_181 0 165 (dk_at dksX5_takes0_1 13 rfl rfl)
theorem dX5_takes0_40 : decode cX5_takes0 40 = .ok (.iload_n 2, 1) := dk_28 (dk_at dksX5_takes0_1 16 rfl rfl)
theorem dX5_takes0_41 : decode cX5_takes0 41 = .ok (.ireturn, 1) := dk_172 (dk_at dksX5_takes0_1 17 rfl rfl)
abbrev cX5_fine : ByteArray := prog_25_method_32_code
def yX5_fine : MethodName := ⟨RX5, "fine", "()Z"⟩
def dkwX5_fine_0 : List UInt8 := [42, 180, 0, 158, 2, 160, 0, 7, 4, 167, 0, 4, 3, 172]
abbrev dktX5_fine_0 : List UInt8 := dkwX5_fine_0 ++ []
theorem dksX5_fine_0 : cX5_fine.data.toList.drop 0 = dktX5_fine_0 := by decide +kernel
theorem dX5_fine_0 : decode cX5_fine 0 = .ok (.aload_n 0, 1) := dk_42 (dk_at dksX5_fine_0 0 rfl rfl)
theorem dX5_fine_1 : decode cX5_fine 1 = .ok (.getfield 158, 3) := dk_180 0 158 (dk_at dksX5_fine_0 1 rfl rfl)
theorem dX5_fine_4 : decode cX5_fine 4 = .ok (.iconst (-1), 1) := dk_2 (dk_at dksX5_fine_0 4 rfl rfl)
theorem dX5_fine_5 : decode cX5_fine 5 = .ok (.if_icmp .ne 7, 3) := dk_160 0 7 (dk_at dksX5_fine_0 5 rfl rfl)
theorem dX5_fine_8 : decode cX5_fine 8 = .ok (.iconst 1, 1) := dk_4 (dk_at dksX5_fine_0 8 rfl rfl)
theorem dX5_fine_9 : decode cX5_fine 9 = .ok (.goto 4, 3) := dk_167 0 4 (dk_at dksX5_fine_0 9 rfl rfl)
theorem dX5_fine_12 : decode cX5_fine 12 = .ok (.iconst 0, 1) := dk_3 (dk_at dksX5_fine_0 12 rfl rfl)
theorem dX5_fine_13 : decode cX5_fine 13 = .ok (.ireturn, 1) := dk_172 (dk_at dksX5_fine_0 13 rfl rfl)
abbrev cX5_readSum : ByteArray := prog_25_method_42_code
def yX5_readSum : MethodName := ⟨RX5, "readSum", "(I)V"⟩
def dkwX5_readSum_1 : List UInt8 := [182, 0, 168, 153, 0, 11, 42, 27, 182, 0, 197, 167, 255, 227, 177]
abbrev dktX5_readSum_1 : List UInt8 := dkwX5_readSum_1 ++ []
def dkwX5_readSum_0 : List UInt8 := [42, 27, 182, 0, 197, 42, 16, 43, 184, 0, 193, 182, 0, 168, 154, 0, 15, 42, 16, 45, 184, 0, 193]
abbrev dktX5_readSum_0 : List UInt8 := dkwX5_readSum_0 ++ dktX5_readSum_1
theorem dksX5_readSum_0 : cX5_readSum.data.toList.drop 0 = dktX5_readSum_0 := by decide +kernel
theorem dksX5_readSum_1 : cX5_readSum.data.toList.drop 23 = dktX5_readSum_1 := dk_seg dksX5_readSum_0 23 rfl rfl
theorem dX5_readSum_0 : decode cX5_readSum 0 = .ok (.aload_n 0, 1) := dk_42 (dk_at dksX5_readSum_0 0 rfl rfl)
theorem dX5_readSum_1 : decode cX5_readSum 1 = .ok (.iload_n 1, 1) := dk_27 (dk_at dksX5_readSum_0 1 rfl rfl)
theorem dX5_readSum_2 : decode cX5_readSum 2 = .ok (.invokevirtual 197, 3) := dk_182 0 197 (dk_at dksX5_readSum_0 2 rfl rfl)
theorem dX5_readSum_5 : decode cX5_readSum 5 = .ok (.aload_n 0, 1) := dk_42 (dk_at dksX5_readSum_0 5 rfl rfl)
theorem dX5_readSum_6 : decode cX5_readSum 6 = .ok (.bipush 43, 2) := dk_16 43 (dk_at dksX5_readSum_0 6 rfl rfl)
theorem dX5_readSum_8 : decode cX5_readSum 8 = .ok (.invokestatic 193, 3) := dk_184 0 193 (dk_at dksX5_readSum_0 8 rfl rfl)
theorem dX5_readSum_11 : decode cX5_readSum 11 = .ok (.invokevirtual 168, 3) := dk_182 0 168 (dk_at dksX5_readSum_0 11 rfl rfl)
theorem dX5_readSum_14 : decode cX5_readSum 14 = .ok (.ifCond .ne 15, 3) := dk_154 0 15 (dk_at dksX5_readSum_0 14 rfl rfl)
theorem dX5_readSum_17 : decode cX5_readSum 17 = .ok (.aload_n 0, 1) := dk_42 (dk_at dksX5_readSum_0 17 rfl rfl)
theorem dX5_readSum_18 : decode cX5_readSum 18 = .ok (.bipush 45, 2) := dk_16 45 (dk_at dksX5_readSum_0 18 rfl rfl)
theorem dX5_readSum_20 : decode cX5_readSum 20 = .ok (.invokestatic 193, 3) := dk_184 0 193 (dk_at dksX5_readSum_0 20 rfl rfl)
theorem dX5_readSum_23 : decode cX5_readSum 23 = .ok (.invokevirtual 168, 3) := dk_182 0 168 (dk_at dksX5_readSum_1 0 rfl rfl)
theorem dX5_readSum_26 : decode cX5_readSum 26 = .ok (.ifCond .eq 11, 3) := dk_153 0 11 (dk_at dksX5_readSum_1 3 rfl rfl)
theorem dX5_readSum_29 : decode cX5_readSum 29 = .ok (.aload_n 0, 1) := dk_42 (dk_at dksX5_readSum_1 6 rfl rfl)
theorem dX5_readSum_30 : decode cX5_readSum 30 = .ok (.iload_n 1, 1) := dk_27 (dk_at dksX5_readSum_1 7 rfl rfl)
theorem dX5_readSum_31 : decode cX5_readSum 31 = .ok (.invokevirtual 197, 3) := dk_182 0 197 (dk_at dksX5_readSum_1 8 rfl rfl)
theorem dX5_readSum_34 : decode cX5_readSum 34 = .ok (.goto (-29), 3) := dk_167 255 227 (dk_at dksX5_readSum_1 11 rfl rfl)
theorem dX5_readSum_37 : decode cX5_readSum 37 = .ok (.return_, 1) := dk_177 (dk_at dksX5_readSum_1 14 rfl rfl)
abbrev cX5_readTerm : ByteArray := prog_25_method_43_code
def yX5_readTerm : MethodName := ⟨RX5, "readTerm", "(I)V"⟩
def dkwX5_readTerm_1 : List UInt8 := [182, 0, 168, 153, 0, 11, 42, 27, 182, 0, 200, 167, 255, 227, 177]
abbrev dktX5_readTerm_1 : List UInt8 := dkwX5_readTerm_1 ++ []
def dkwX5_readTerm_0 : List UInt8 := [42, 27, 182, 0, 200, 42, 16, 42, 184, 0, 193, 182, 0, 168, 154, 0, 15, 42, 16, 47, 184, 0, 193]
abbrev dktX5_readTerm_0 : List UInt8 := dkwX5_readTerm_0 ++ dktX5_readTerm_1
theorem dksX5_readTerm_0 : cX5_readTerm.data.toList.drop 0 = dktX5_readTerm_0 := by decide +kernel
theorem dksX5_readTerm_1 : cX5_readTerm.data.toList.drop 23 = dktX5_readTerm_1 := dk_seg dksX5_readTerm_0 23 rfl rfl
theorem dX5_readTerm_0 : decode cX5_readTerm 0 = .ok (.aload_n 0, 1) := dk_42 (dk_at dksX5_readTerm_0 0 rfl rfl)
theorem dX5_readTerm_1 : decode cX5_readTerm 1 = .ok (.iload_n 1, 1) := dk_27 (dk_at dksX5_readTerm_0 1 rfl rfl)
theorem dX5_readTerm_2 : decode cX5_readTerm 2 = .ok (.invokevirtual 200, 3) := dk_182 0 200 (dk_at dksX5_readTerm_0 2 rfl rfl)
theorem dX5_readTerm_5 : decode cX5_readTerm 5 = .ok (.aload_n 0, 1) := dk_42 (dk_at dksX5_readTerm_0 5 rfl rfl)
theorem dX5_readTerm_6 : decode cX5_readTerm 6 = .ok (.bipush 42, 2) := dk_16 42 (dk_at dksX5_readTerm_0 6 rfl rfl)
theorem dX5_readTerm_8 : decode cX5_readTerm 8 = .ok (.invokestatic 193, 3) := dk_184 0 193 (dk_at dksX5_readTerm_0 8 rfl rfl)
theorem dX5_readTerm_11 : decode cX5_readTerm 11 = .ok (.invokevirtual 168, 3) := dk_182 0 168 (dk_at dksX5_readTerm_0 11 rfl rfl)
theorem dX5_readTerm_14 : decode cX5_readTerm 14 = .ok (.ifCond .ne 15, 3) := dk_154 0 15 (dk_at dksX5_readTerm_0 14 rfl rfl)
theorem dX5_readTerm_17 : decode cX5_readTerm 17 = .ok (.aload_n 0, 1) := dk_42 (dk_at dksX5_readTerm_0 17 rfl rfl)
theorem dX5_readTerm_18 : decode cX5_readTerm 18 = .ok (.bipush 47, 2) := dk_16 47 (dk_at dksX5_readTerm_0 18 rfl rfl)
theorem dX5_readTerm_20 : decode cX5_readTerm 20 = .ok (.invokestatic 193, 3) := dk_184 0 193 (dk_at dksX5_readTerm_0 20 rfl rfl)
theorem dX5_readTerm_23 : decode cX5_readTerm 23 = .ok (.invokevirtual 168, 3) := dk_182 0 168 (dk_at dksX5_readTerm_1 0 rfl rfl)
theorem dX5_readTerm_26 : decode cX5_readTerm 26 = .ok (.ifCond .eq 11, 3) := dk_153 0 11 (dk_at dksX5_readTerm_1 3 rfl rfl)
theorem dX5_readTerm_29 : decode cX5_readTerm 29 = .ok (.aload_n 0, 1) := dk_42 (dk_at dksX5_readTerm_1 6 rfl rfl)
theorem dX5_readTerm_30 : decode cX5_readTerm 30 = .ok (.iload_n 1, 1) := dk_27 (dk_at dksX5_readTerm_1 7 rfl rfl)
theorem dX5_readTerm_31 : decode cX5_readTerm 31 = .ok (.invokevirtual 200, 3) := dk_182 0 200 (dk_at dksX5_readTerm_1 8 rfl rfl)
theorem dX5_readTerm_34 : decode cX5_readTerm 34 = .ok (.goto (-29), 3) := dk_167 255 227 (dk_at dksX5_readTerm_1 11 rfl rfl)
theorem dX5_readTerm_37 : decode cX5_readTerm 37 = .ok (.return_, 1) := dk_177 (dk_at dksX5_readTerm_1 14 rfl rfl)
abbrev cX5_readPart : ByteArray := prog_25_method_44_code
def yX5_readPart : MethodName := ⟨RX5, "readPart", "(I)V"⟩
def dkwX5_readPart_4 : List UInt8 := [28, 16, 7, 161, 0, 16, 28, 16, 14, 163, 0, 10, 42, 182, 0, 203, 167, 0, 7, 42, 182, 0, 171, 177]
abbrev dktX5_readPart_4 : List UInt8 := dkwX5_readPart_4 ++ []
def dkwX5_readPart_3 : List UInt8 := [167, 0, 47, 28, 16, 50, 160, 0, 18, 42, 180, 0, 46, 42, 180, 0, 165, 46, 17, 3, 232, 164, 0, 15]
abbrev dktX5_readPart_3 : List UInt8 := dkwX5_readPart_3 ++ dktX5_readPart_4
def dkwX5_readPart_2 : List UInt8 := [180, 0, 165, 4, 96, 181, 0, 165, 42, 27, 4, 96, 182, 0, 177, 42, 16, 93, 184, 0, 193, 182, 0, 181]
abbrev dktX5_readPart_2 : List UInt8 := dkwX5_readPart_2 ++ dktX5_readPart_3
def dkwX5_readPart_1 : List UInt8 := [160, 0, 50, 27, 16, 8, 160, 0, 7, 42, 182, 0, 171, 42, 182, 0, 161, 154, 0, 4, 177, 42, 89]
abbrev dktX5_readPart_1 : List UInt8 := dkwX5_readPart_1 ++ dktX5_readPart_2
def dkwX5_readPart_0 : List UInt8 := [42, 182, 0, 161, 154, 0, 4, 177, 42, 180, 0, 43, 42, 180, 0, 165, 46, 61, 28, 16, 91, 184, 0, 193]
abbrev dktX5_readPart_0 : List UInt8 := dkwX5_readPart_0 ++ dktX5_readPart_1
theorem dksX5_readPart_0 : cX5_readPart.data.toList.drop 0 = dktX5_readPart_0 := by decide +kernel
theorem dksX5_readPart_1 : cX5_readPart.data.toList.drop 24 = dktX5_readPart_1 := dk_seg dksX5_readPart_0 24 rfl rfl
theorem dksX5_readPart_2 : cX5_readPart.data.toList.drop 47 = dktX5_readPart_2 := dk_seg dksX5_readPart_1 23 rfl rfl
theorem dksX5_readPart_3 : cX5_readPart.data.toList.drop 71 = dktX5_readPart_3 := dk_seg dksX5_readPart_2 24 rfl rfl
theorem dksX5_readPart_4 : cX5_readPart.data.toList.drop 95 = dktX5_readPart_4 := dk_seg dksX5_readPart_3 24 rfl rfl
theorem dX5_readPart_0 : decode cX5_readPart 0 = .ok (.aload_n 0, 1) := dk_42 (dk_at dksX5_readPart_0 0 rfl rfl)
theorem dX5_readPart_1 : decode cX5_readPart 1 = .ok (.invokevirtual 161, 3) := dk_182 0 161 (dk_at dksX5_readPart_0 1 rfl rfl)
theorem dX5_readPart_4 : decode cX5_readPart 4 = .ok (.ifCond .ne 4, 3) := dk_154 0 4 (dk_at dksX5_readPart_0 4 rfl rfl)
theorem dX5_readPart_7 : decode cX5_readPart 7 = .ok (.return_, 1) := dk_177 (dk_at dksX5_readPart_0 7 rfl rfl)
theorem dX5_readPart_8 : decode cX5_readPart 8 = .ok (.aload_n 0, 1) := dk_42 (dk_at dksX5_readPart_0 8 rfl rfl)
theorem dX5_readPart_9 : decode cX5_readPart 9 = .ok (.getfield 43, 3) := dk_180 0 43 (dk_at dksX5_readPart_0 9 rfl rfl)
theorem dX5_readPart_12 : decode cX5_readPart 12 = .ok (.aload_n 0, 1) := dk_42 (dk_at dksX5_readPart_0 12 rfl rfl)
theorem dX5_readPart_13 : decode cX5_readPart 13 = .ok (.getfield 165, 3) := dk_180 0 165 (dk_at dksX5_readPart_0 13 rfl rfl)
theorem dX5_readPart_16 : decode cX5_readPart 16 = .ok (.iaload, 1) := dk_46 (dk_at dksX5_readPart_0 16 rfl rfl)
theorem dX5_readPart_17 : decode cX5_readPart 17 = .ok (.istore_n 2, 1) := dk_61 (dk_at dksX5_readPart_0 17 rfl rfl)
theorem dX5_readPart_18 : decode cX5_readPart 18 = .ok (.iload_n 2, 1) := dk_28 (dk_at dksX5_readPart_0 18 rfl rfl)
theorem dX5_readPart_19 : decode cX5_readPart 19 = .ok (.bipush 91, 2) := dk_16 91 (dk_at dksX5_readPart_0 19 rfl rfl)
theorem dX5_readPart_21 : decode cX5_readPart 21 = .ok (.invokestatic 193, 3) := dk_184 0 193 (dk_at dksX5_readPart_0 21 rfl rfl)
theorem dX5_readPart_24 : decode cX5_readPart 24 = .ok (.if_icmp .ne 50, 3) := dk_160 0 50 (dk_at dksX5_readPart_1 0 rfl rfl)
theorem dX5_readPart_27 : decode cX5_readPart 27 = .ok (.iload_n 1, 1) := dk_27 (dk_at dksX5_readPart_1 3 rfl rfl)
theorem dX5_readPart_28 : decode cX5_readPart 28 = .ok (.bipush 8, 2) := dk_16 8 (dk_at dksX5_readPart_1 4 rfl rfl)
theorem dX5_readPart_30 : decode cX5_readPart 30 = .ok (.if_icmp .ne 7, 3) := dk_160 0 7 (dk_at dksX5_readPart_1 6 rfl rfl)
theorem dX5_readPart_33 : decode cX5_readPart 33 = .ok (.aload_n 0, 1) := dk_42 (dk_at dksX5_readPart_1 9 rfl rfl)
theorem dX5_readPart_34 : decode cX5_readPart 34 = .ok (.invokevirtual 171, 3) := dk_182 0 171 (dk_at dksX5_readPart_1 10 rfl rfl)
theorem dX5_readPart_37 : decode cX5_readPart 37 = .ok (.aload_n 0, 1) := dk_42 (dk_at dksX5_readPart_1 13 rfl rfl)
theorem dX5_readPart_38 : decode cX5_readPart 38 = .ok (.invokevirtual 161, 3) := dk_182 0 161 (dk_at dksX5_readPart_1 14 rfl rfl)
theorem dX5_readPart_41 : decode cX5_readPart 41 = .ok (.ifCond .ne 4, 3) := dk_154 0 4 (dk_at dksX5_readPart_1 17 rfl rfl)
theorem dX5_readPart_44 : decode cX5_readPart 44 = .ok (.return_, 1) := dk_177 (dk_at dksX5_readPart_1 20 rfl rfl)
theorem dX5_readPart_45 : decode cX5_readPart 45 = .ok (.aload_n 0, 1) := dk_42 (dk_at dksX5_readPart_1 21 rfl rfl)
theorem dX5_readPart_46 : decode cX5_readPart 46 = .ok (.dup, 1) := dk_89 (dk_at dksX5_readPart_1 22 rfl rfl)
theorem dX5_readPart_47 : decode cX5_readPart 47 = .ok (.getfield 165, 3) := dk_180 0 165 (dk_at dksX5_readPart_2 0 rfl rfl)
theorem dX5_readPart_50 : decode cX5_readPart 50 = .ok (.iconst 1, 1) := dk_4 (dk_at dksX5_readPart_2 3 rfl rfl)
theorem dX5_readPart_51 : decode cX5_readPart 51 = .ok (.iadd, 1) := dk_96 (dk_at dksX5_readPart_2 4 rfl rfl)
theorem dX5_readPart_52 : decode cX5_readPart 52 = .ok (.putfield 165, 3) := dk_181 0 165 (dk_at dksX5_readPart_2 5 rfl rfl)
theorem dX5_readPart_55 : decode cX5_readPart 55 = .ok (.aload_n 0, 1) := dk_42 (dk_at dksX5_readPart_2 8 rfl rfl)
theorem dX5_readPart_56 : decode cX5_readPart 56 = .ok (.iload_n 1, 1) := dk_27 (dk_at dksX5_readPart_2 9 rfl rfl)
theorem dX5_readPart_57 : decode cX5_readPart 57 = .ok (.iconst 1, 1) := dk_4 (dk_at dksX5_readPart_2 10 rfl rfl)
theorem dX5_readPart_58 : decode cX5_readPart 58 = .ok (.iadd, 1) := dk_96 (dk_at dksX5_readPart_2 11 rfl rfl)
theorem dX5_readPart_59 : decode cX5_readPart 59 = .ok (.invokevirtual 177, 3) := dk_182 0 177 (dk_at dksX5_readPart_2 12 rfl rfl)
theorem dX5_readPart_62 : decode cX5_readPart 62 = .ok (.aload_n 0, 1) := dk_42 (dk_at dksX5_readPart_2 15 rfl rfl)
theorem dX5_readPart_63 : decode cX5_readPart 63 = .ok (.bipush 93, 2) := dk_16 93 (dk_at dksX5_readPart_2 16 rfl rfl)
theorem dX5_readPart_65 : decode cX5_readPart 65 = .ok (.invokestatic 193, 3) := dk_184 0 193 (dk_at dksX5_readPart_2 18 rfl rfl)
theorem dX5_readPart_68 : decode cX5_readPart 68 = .ok (.invokevirtual 181, 3) := dk_182 0 181 (dk_at dksX5_readPart_2 21 rfl rfl)
theorem dX5_readPart_71 : decode cX5_readPart 71 = .ok (.goto 47, 3) := dk_167 0 47 (dk_at dksX5_readPart_3 0 rfl rfl)
theorem dX5_readPart_74 : decode cX5_readPart 74 = .ok (.iload_n 2, 1) := dk_28 (dk_at dksX5_readPart_3 3 rfl rfl)
theorem dX5_readPart_75 : decode cX5_readPart 75 = .ok (.bipush 50, 2) := dk_16 50 (dk_at dksX5_readPart_3 4 rfl rfl)
theorem dX5_readPart_77 : decode cX5_readPart 77 = .ok (.if_icmp .ne 18, 3) := dk_160 0 18 (dk_at dksX5_readPart_3 6 rfl rfl)
theorem dX5_readPart_80 : decode cX5_readPart 80 = .ok (.aload_n 0, 1) := dk_42 (dk_at dksX5_readPart_3 9 rfl rfl)
theorem dX5_readPart_81 : decode cX5_readPart 81 = .ok (.getfield 46, 3) := dk_180 0 46 (dk_at dksX5_readPart_3 10 rfl rfl)
theorem dX5_readPart_84 : decode cX5_readPart 84 = .ok (.aload_n 0, 1) := dk_42 (dk_at dksX5_readPart_3 13 rfl rfl)
theorem dX5_readPart_85 : decode cX5_readPart 85 = .ok (.getfield 165, 3) := dk_180 0 165 (dk_at dksX5_readPart_3 14 rfl rfl)
theorem dX5_readPart_88 : decode cX5_readPart 88 = .ok (.iaload, 1) := dk_46 (dk_at dksX5_readPart_3 17 rfl rfl)
theorem dX5_readPart_89 : decode cX5_readPart 89 = .ok (.sipush 1000, 3) := dk_17 3 232 (dk_at dksX5_readPart_3 18 rfl rfl)
theorem dX5_readPart_92 : decode cX5_readPart 92 = .ok (.if_icmp .le 15, 3) := dk_164 0 15 (dk_at dksX5_readPart_3 21 rfl rfl)
theorem dX5_readPart_95 : decode cX5_readPart 95 = .ok (.iload_n 2, 1) := dk_28 (dk_at dksX5_readPart_4 0 rfl rfl)
theorem dX5_readPart_96 : decode cX5_readPart 96 = .ok (.bipush 7, 2) := dk_16 7 (dk_at dksX5_readPart_4 1 rfl rfl)
theorem dX5_readPart_98 : decode cX5_readPart 98 = .ok (.if_icmp .lt 16, 3) := dk_161 0 16 (dk_at dksX5_readPart_4 3 rfl rfl)
theorem dX5_readPart_101 : decode cX5_readPart 101 = .ok (.iload_n 2, 1) := dk_28 (dk_at dksX5_readPart_4 6 rfl rfl)
theorem dX5_readPart_102 : decode cX5_readPart 102 = .ok (.bipush 14, 2) := dk_16 14 (dk_at dksX5_readPart_4 7 rfl rfl)
theorem dX5_readPart_104 : decode cX5_readPart 104 = .ok (.if_icmp .gt 10, 3) := dk_163 0 10 (dk_at dksX5_readPart_4 9 rfl rfl)
theorem dX5_readPart_107 : decode cX5_readPart 107 = .ok (.aload_n 0, 1) := dk_42 (dk_at dksX5_readPart_4 12 rfl rfl)
theorem dX5_readPart_108 : decode cX5_readPart 108 = .ok (.invokevirtual 203, 3) := dk_182 0 203 (dk_at dksX5_readPart_4 13 rfl rfl)
theorem dX5_readPart_111 : decode cX5_readPart 111 = .ok (.goto 7, 3) := dk_167 0 7 (dk_at dksX5_readPart_4 16 rfl rfl)
theorem dX5_readPart_114 : decode cX5_readPart 114 = .ok (.aload_n 0, 1) := dk_42 (dk_at dksX5_readPart_4 19 rfl rfl)
theorem dX5_readPart_115 : decode cX5_readPart 115 = .ok (.invokevirtual 171, 3) := dk_182 0 171 (dk_at dksX5_readPart_4 20 rfl rfl)
theorem dX5_readPart_118 : decode cX5_readPart 118 = .ok (.return_, 1) := dk_177 (dk_at dksX5_readPart_4 23 rfl rfl)
abbrev cX5_sign : ByteArray := prog_25_method_37_code
def yX5_sign : MethodName := ⟨RX5, "sign", "(C)I"⟩
def dkwX5_sign_0 : List UInt8 := [16, 100, 26, 96, 172]
abbrev dktX5_sign_0 : List UInt8 := dkwX5_sign_0 ++ []
theorem dksX5_sign_0 : cX5_sign.data.toList.drop 0 = dktX5_sign_0 := by decide +kernel
theorem dX5_sign_0 : decode cX5_sign 0 = .ok (.bipush 100, 2) := dk_16 100 (dk_at dksX5_sign_0 0 rfl rfl)
theorem dX5_sign_2 : decode cX5_sign 2 = .ok (.iload_n 0, 1) := dk_26 (dk_at dksX5_sign_0 2 rfl rfl)
theorem dX5_sign_3 : decode cX5_sign 3 = .ok (.iadd, 1) := dk_96 (dk_at dksX5_sign_0 3 rfl rfl)
theorem dX5_sign_4 : decode cX5_sign 4 = .ok (.ireturn, 1) := dk_172 (dk_at dksX5_sign_0 4 rfl rfl)
abbrev cX5_faults : ByteArray := prog_25_method_33_code
def yX5_faults : MethodName := ⟨RX5, "faults", "()V"⟩
def dkwX5_faults_0 : List UInt8 := [42, 182, 0, 161, 153, 0, 16, 42, 42, 180, 0, 49, 42, 180, 0, 165, 46, 181, 0, 158, 177]
abbrev dktX5_faults_0 : List UInt8 := dkwX5_faults_0 ++ []
theorem dksX5_faults_0 : cX5_faults.data.toList.drop 0 = dktX5_faults_0 := by decide +kernel
theorem dX5_faults_0 : decode cX5_faults 0 = .ok (.aload_n 0, 1) := dk_42 (dk_at dksX5_faults_0 0 rfl rfl)
theorem dX5_faults_1 : decode cX5_faults 1 = .ok (.invokevirtual 161, 3) := dk_182 0 161 (dk_at dksX5_faults_0 1 rfl rfl)
theorem dX5_faults_4 : decode cX5_faults 4 = .ok (.ifCond .eq 16, 3) := dk_153 0 16 (dk_at dksX5_faults_0 4 rfl rfl)
theorem dX5_faults_7 : decode cX5_faults 7 = .ok (.aload_n 0, 1) := dk_42 (dk_at dksX5_faults_0 7 rfl rfl)
theorem dX5_faults_8 : decode cX5_faults 8 = .ok (.aload_n 0, 1) := dk_42 (dk_at dksX5_faults_0 8 rfl rfl)
theorem dX5_faults_9 : decode cX5_faults 9 = .ok (.getfield 49, 3) := dk_180 0 49 (dk_at dksX5_faults_0 9 rfl rfl)
theorem dX5_faults_12 : decode cX5_faults 12 = .ok (.aload_n 0, 1) := dk_42 (dk_at dksX5_faults_0 12 rfl rfl)
theorem dX5_faults_13 : decode cX5_faults 13 = .ok (.getfield 165, 3) := dk_180 0 165 (dk_at dksX5_faults_0 13 rfl rfl)
theorem dX5_faults_16 : decode cX5_faults 16 = .ok (.iaload, 1) := dk_46 (dk_at dksX5_faults_0 16 rfl rfl)
theorem dX5_faults_17 : decode cX5_faults 17 = .ok (.putfield 158, 3) := dk_181 0 158 (dk_at dksX5_faults_0 17 rfl rfl)
theorem dX5_faults_20 : decode cX5_faults 20 = .ok (.return_, 1) := dk_177 (dk_at dksX5_faults_0 20 rfl rfl)
abbrev cX5_must : ByteArray := prog_25_method_35_code
def yX5_must : MethodName := ⟨RX5, "must", "(I)V"⟩
def dkwX5_must_0 : List UInt8 := [42, 27, 182, 0, 168, 154, 0, 7, 42, 182, 0, 171, 177]
abbrev dktX5_must_0 : List UInt8 := dkwX5_must_0 ++ []
theorem dksX5_must_0 : cX5_must.data.toList.drop 0 = dktX5_must_0 := by decide +kernel
theorem dX5_must_0 : decode cX5_must 0 = .ok (.aload_n 0, 1) := dk_42 (dk_at dksX5_must_0 0 rfl rfl)
theorem dX5_must_1 : decode cX5_must 1 = .ok (.iload_n 1, 1) := dk_27 (dk_at dksX5_must_0 1 rfl rfl)
theorem dX5_must_2 : decode cX5_must 2 = .ok (.invokevirtual 168, 3) := dk_182 0 168 (dk_at dksX5_must_0 2 rfl rfl)
theorem dX5_must_5 : decode cX5_must 5 = .ok (.ifCond .ne 7, 3) := dk_154 0 7 (dk_at dksX5_must_0 5 rfl rfl)
theorem dX5_must_8 : decode cX5_must 8 = .ok (.aload_n 0, 1) := dk_42 (dk_at dksX5_must_0 8 rfl rfl)
theorem dX5_must_9 : decode cX5_must 9 = .ok (.invokevirtual 171, 3) := dk_182 0 171 (dk_at dksX5_must_0 9 rfl rfl)
theorem dX5_must_12 : decode cX5_must 12 = .ok (.return_, 1) := dk_177 (dk_at dksX5_must_0 12 rfl rfl)
abbrev cX5_leaf : ByteArray := prog_25_method_36_code
def yX5_leaf : MethodName := ⟨RX5, "leaf", "()V"⟩
def dkwX5_leaf_1 : List UInt8 := [182, 0, 161, 153, 0, 13, 42, 89, 180, 0, 165, 4, 96, 181, 0, 165, 177]
abbrev dktX5_leaf_1 : List UInt8 := dkwX5_leaf_1 ++ []
def dkwX5_leaf_0 : List UInt8 := [42, 180, 0, 174, 16, 50, 160, 0, 7, 42, 182, 0, 171, 42, 89, 180, 0, 174, 4, 96, 181, 0, 174, 42]
abbrev dktX5_leaf_0 : List UInt8 := dkwX5_leaf_0 ++ dktX5_leaf_1
theorem dksX5_leaf_0 : cX5_leaf.data.toList.drop 0 = dktX5_leaf_0 := by decide +kernel
theorem dksX5_leaf_1 : cX5_leaf.data.toList.drop 24 = dktX5_leaf_1 := dk_seg dksX5_leaf_0 24 rfl rfl
theorem dX5_leaf_0 : decode cX5_leaf 0 = .ok (.aload_n 0, 1) := dk_42 (dk_at dksX5_leaf_0 0 rfl rfl)
theorem dX5_leaf_1 : decode cX5_leaf 1 = .ok (.getfield 174, 3) := dk_180 0 174 (dk_at dksX5_leaf_0 1 rfl rfl)
theorem dX5_leaf_4 : decode cX5_leaf 4 = .ok (.bipush 50, 2) := dk_16 50 (dk_at dksX5_leaf_0 4 rfl rfl)
theorem dX5_leaf_6 : decode cX5_leaf 6 = .ok (.if_icmp .ne 7, 3) := dk_160 0 7 (dk_at dksX5_leaf_0 6 rfl rfl)
theorem dX5_leaf_9 : decode cX5_leaf 9 = .ok (.aload_n 0, 1) := dk_42 (dk_at dksX5_leaf_0 9 rfl rfl)
theorem dX5_leaf_10 : decode cX5_leaf 10 = .ok (.invokevirtual 171, 3) := dk_182 0 171 (dk_at dksX5_leaf_0 10 rfl rfl)
theorem dX5_leaf_13 : decode cX5_leaf 13 = .ok (.aload_n 0, 1) := dk_42 (dk_at dksX5_leaf_0 13 rfl rfl)
theorem dX5_leaf_14 : decode cX5_leaf 14 = .ok (.dup, 1) := dk_89 (dk_at dksX5_leaf_0 14 rfl rfl)
theorem dX5_leaf_15 : decode cX5_leaf 15 = .ok (.getfield 174, 3) := dk_180 0 174 (dk_at dksX5_leaf_0 15 rfl rfl)
theorem dX5_leaf_18 : decode cX5_leaf 18 = .ok (.iconst 1, 1) := dk_4 (dk_at dksX5_leaf_0 18 rfl rfl)
theorem dX5_leaf_19 : decode cX5_leaf 19 = .ok (.iadd, 1) := dk_96 (dk_at dksX5_leaf_0 19 rfl rfl)
theorem dX5_leaf_20 : decode cX5_leaf 20 = .ok (.putfield 174, 3) := dk_181 0 174 (dk_at dksX5_leaf_0 20 rfl rfl)
theorem dX5_leaf_23 : decode cX5_leaf 23 = .ok (.aload_n 0, 1) := dk_42 (dk_at dksX5_leaf_0 23 rfl rfl)
theorem dX5_leaf_24 : decode cX5_leaf 24 = .ok (.invokevirtual 161, 3) := dk_182 0 161 (dk_at dksX5_leaf_1 0 rfl rfl)
theorem dX5_leaf_27 : decode cX5_leaf 27 = .ok (.ifCond .eq 13, 3) := dk_153 0 13 (dk_at dksX5_leaf_1 3 rfl rfl)
theorem dX5_leaf_30 : decode cX5_leaf 30 = .ok (.aload_n 0, 1) := dk_42 (dk_at dksX5_leaf_1 6 rfl rfl)
theorem dX5_leaf_31 : decode cX5_leaf 31 = .ok (.dup, 1) := dk_89 (dk_at dksX5_leaf_1 7 rfl rfl)
theorem dX5_leaf_32 : decode cX5_leaf 32 = .ok (.getfield 165, 3) := dk_180 0 165 (dk_at dksX5_leaf_1 8 rfl rfl)
theorem dX5_leaf_35 : decode cX5_leaf 35 = .ok (.iconst 1, 1) := dk_4 (dk_at dksX5_leaf_1 11 rfl rfl)
theorem dX5_leaf_36 : decode cX5_leaf 36 = .ok (.iadd, 1) := dk_96 (dk_at dksX5_leaf_1 12 rfl rfl)
theorem dX5_leaf_37 : decode cX5_leaf 37 = .ok (.putfield 165, 3) := dk_181 0 165 (dk_at dksX5_leaf_1 13 rfl rfl)
theorem dX5_leaf_40 : decode cX5_leaf 40 = .ok (.return_, 1) := dk_177 (dk_at dksX5_leaf_1 16 rfl rfl)
abbrev cX5_readTest : ByteArray := prog_25_method_39_code
def yX5_readTest : MethodName := ⟨RX5, "readTest", "(I)V"⟩
def dkwX5_readTest_0 : List UInt8 := [42, 27, 182, 0, 187, 42, 7, 182, 0, 168, 153, 0, 11, 42, 27, 182, 0, 187, 167, 255, 243, 177]
abbrev dktX5_readTest_0 : List UInt8 := dkwX5_readTest_0 ++ []
theorem dksX5_readTest_0 : cX5_readTest.data.toList.drop 0 = dktX5_readTest_0 := by decide +kernel
theorem dX5_readTest_0 : decode cX5_readTest 0 = .ok (.aload_n 0, 1) := dk_42 (dk_at dksX5_readTest_0 0 rfl rfl)
theorem dX5_readTest_1 : decode cX5_readTest 1 = .ok (.iload_n 1, 1) := dk_27 (dk_at dksX5_readTest_0 1 rfl rfl)
theorem dX5_readTest_2 : decode cX5_readTest 2 = .ok (.invokevirtual 187, 3) := dk_182 0 187 (dk_at dksX5_readTest_0 2 rfl rfl)
theorem dX5_readTest_5 : decode cX5_readTest 5 = .ok (.aload_n 0, 1) := dk_42 (dk_at dksX5_readTest_0 5 rfl rfl)
theorem dX5_readTest_6 : decode cX5_readTest 6 = .ok (.iconst 4, 1) := dk_7 (dk_at dksX5_readTest_0 6 rfl rfl)
theorem dX5_readTest_7 : decode cX5_readTest 7 = .ok (.invokevirtual 168, 3) := dk_182 0 168 (dk_at dksX5_readTest_0 7 rfl rfl)
theorem dX5_readTest_10 : decode cX5_readTest 10 = .ok (.ifCond .eq 11, 3) := dk_153 0 11 (dk_at dksX5_readTest_0 10 rfl rfl)
theorem dX5_readTest_13 : decode cX5_readTest 13 = .ok (.aload_n 0, 1) := dk_42 (dk_at dksX5_readTest_0 13 rfl rfl)
theorem dX5_readTest_14 : decode cX5_readTest 14 = .ok (.iload_n 1, 1) := dk_27 (dk_at dksX5_readTest_0 14 rfl rfl)
theorem dX5_readTest_15 : decode cX5_readTest 15 = .ok (.invokevirtual 187, 3) := dk_182 0 187 (dk_at dksX5_readTest_0 15 rfl rfl)
theorem dX5_readTest_18 : decode cX5_readTest 18 = .ok (.goto (-13), 3) := dk_167 255 243 (dk_at dksX5_readTest_0 18 rfl rfl)
theorem dX5_readTest_21 : decode cX5_readTest 21 = .ok (.return_, 1) := dk_177 (dk_at dksX5_readTest_0 21 rfl rfl)
abbrev cX5_readBoth : ByteArray := prog_25_method_40_code
def yX5_readBoth : MethodName := ⟨RX5, "readBoth", "(I)V"⟩
def dkwX5_readBoth_0 : List UInt8 := [42, 27, 182, 0, 190, 42, 8, 182, 0, 168, 153, 0, 11, 42, 27, 182, 0, 190, 167, 255, 243, 177]
abbrev dktX5_readBoth_0 : List UInt8 := dkwX5_readBoth_0 ++ []
theorem dksX5_readBoth_0 : cX5_readBoth.data.toList.drop 0 = dktX5_readBoth_0 := by decide +kernel
theorem dX5_readBoth_0 : decode cX5_readBoth 0 = .ok (.aload_n 0, 1) := dk_42 (dk_at dksX5_readBoth_0 0 rfl rfl)
theorem dX5_readBoth_1 : decode cX5_readBoth 1 = .ok (.iload_n 1, 1) := dk_27 (dk_at dksX5_readBoth_0 1 rfl rfl)
theorem dX5_readBoth_2 : decode cX5_readBoth 2 = .ok (.invokevirtual 190, 3) := dk_182 0 190 (dk_at dksX5_readBoth_0 2 rfl rfl)
theorem dX5_readBoth_5 : decode cX5_readBoth 5 = .ok (.aload_n 0, 1) := dk_42 (dk_at dksX5_readBoth_0 5 rfl rfl)
theorem dX5_readBoth_6 : decode cX5_readBoth 6 = .ok (.iconst 5, 1) := dk_8 (dk_at dksX5_readBoth_0 6 rfl rfl)
theorem dX5_readBoth_7 : decode cX5_readBoth 7 = .ok (.invokevirtual 168, 3) := dk_182 0 168 (dk_at dksX5_readBoth_0 7 rfl rfl)
theorem dX5_readBoth_10 : decode cX5_readBoth 10 = .ok (.ifCond .eq 11, 3) := dk_153 0 11 (dk_at dksX5_readBoth_0 10 rfl rfl)
theorem dX5_readBoth_13 : decode cX5_readBoth 13 = .ok (.aload_n 0, 1) := dk_42 (dk_at dksX5_readBoth_0 13 rfl rfl)
theorem dX5_readBoth_14 : decode cX5_readBoth 14 = .ok (.iload_n 1, 1) := dk_27 (dk_at dksX5_readBoth_0 14 rfl rfl)
theorem dX5_readBoth_15 : decode cX5_readBoth 15 = .ok (.invokevirtual 190, 3) := dk_182 0 190 (dk_at dksX5_readBoth_0 15 rfl rfl)
theorem dX5_readBoth_18 : decode cX5_readBoth 18 = .ok (.goto (-13), 3) := dk_167 255 243 (dk_at dksX5_readBoth_0 18 rfl rfl)
theorem dX5_readBoth_21 : decode cX5_readBoth 21 = .ok (.return_, 1) := dk_177 (dk_at dksX5_readBoth_0 21 rfl rfl)
abbrev cX5_readPlain : ByteArray := prog_25_method_41_code
def yX5_readPlain : MethodName := ⟨RX5, "readPlain", "(I)V"⟩
def dkwX5_readPlain_5 : List UInt8 := [154, 0, 12, 42, 16, 61, 184, 0, 193, 182, 0, 181, 42, 27, 182, 0, 177, 177]
abbrev dktX5_readPlain_5 : List UInt8 := dkwX5_readPlain_5 ++ []
def dkwX5_readPlain_4 : List UInt8 := [182, 0, 177, 42, 16, 60, 184, 0, 193, 182, 0, 168, 154, 0, 24, 42, 16, 62, 184, 0, 193, 182, 0, 168]
abbrev dktX5_readPlain_4 : List UInt8 := dkwX5_readPlain_4 ++ dktX5_readPlain_5
def dkwX5_readPlain_3 : List UInt8 := [181, 0, 165, 42, 27, 4, 96, 182, 0, 184, 42, 16, 41, 184, 0, 193, 182, 0, 181, 167, 0, 46, 42, 27]
abbrev dktX5_readPlain_3 : List UInt8 := dkwX5_readPlain_3 ++ dktX5_readPlain_4
def dkwX5_readPlain_2 : List UInt8 := [160, 0, 7, 42, 182, 0, 171, 42, 182, 0, 161, 154, 0, 4, 177, 42, 89, 180, 0, 165, 4, 96]
abbrev dktX5_readPlain_2 : List UInt8 := dkwX5_readPlain_2 ++ dktX5_readPlain_3
def dkwX5_readPlain_1 : List UInt8 := [42, 180, 0, 43, 42, 180, 0, 165, 46, 62, 29, 16, 40, 184, 0, 193, 160, 0, 50, 27, 16, 8]
abbrev dktX5_readPlain_1 : List UInt8 := dkwX5_readPlain_1 ++ dktX5_readPlain_2
def dkwX5_readPlain_0 : List UInt8 := [4, 61, 28, 153, 0, 13, 42, 16, 6, 182, 0, 168, 61, 167, 255, 245, 42, 182, 0, 161, 154, 0, 4, 177]
abbrev dktX5_readPlain_0 : List UInt8 := dkwX5_readPlain_0 ++ dktX5_readPlain_1
theorem dksX5_readPlain_0 : cX5_readPlain.data.toList.drop 0 = dktX5_readPlain_0 := by decide +kernel
theorem dksX5_readPlain_1 : cX5_readPlain.data.toList.drop 24 = dktX5_readPlain_1 := dk_seg dksX5_readPlain_0 24 rfl rfl
theorem dksX5_readPlain_2 : cX5_readPlain.data.toList.drop 46 = dktX5_readPlain_2 := dk_seg dksX5_readPlain_1 22 rfl rfl
theorem dksX5_readPlain_3 : cX5_readPlain.data.toList.drop 68 = dktX5_readPlain_3 := dk_seg dksX5_readPlain_2 22 rfl rfl
theorem dksX5_readPlain_4 : cX5_readPlain.data.toList.drop 92 = dktX5_readPlain_4 := dk_seg dksX5_readPlain_3 24 rfl rfl
theorem dksX5_readPlain_5 : cX5_readPlain.data.toList.drop 116 = dktX5_readPlain_5 := dk_seg dksX5_readPlain_4 24 rfl rfl
theorem dX5_readPlain_0 : decode cX5_readPlain 0 = .ok (.iconst 1, 1) := dk_4 (dk_at dksX5_readPlain_0 0 rfl rfl)
theorem dX5_readPlain_1 : decode cX5_readPlain 1 = .ok (.istore_n 2, 1) := dk_61 (dk_at dksX5_readPlain_0 1 rfl rfl)
theorem dX5_readPlain_2 : decode cX5_readPlain 2 = .ok (.iload_n 2, 1) := dk_28 (dk_at dksX5_readPlain_0 2 rfl rfl)
theorem dX5_readPlain_3 : decode cX5_readPlain 3 = .ok (.ifCond .eq 13, 3) := dk_153 0 13 (dk_at dksX5_readPlain_0 3 rfl rfl)
theorem dX5_readPlain_6 : decode cX5_readPlain 6 = .ok (.aload_n 0, 1) := dk_42 (dk_at dksX5_readPlain_0 6 rfl rfl)
theorem dX5_readPlain_7 : decode cX5_readPlain 7 = .ok (.bipush 6, 2) := dk_16 6 (dk_at dksX5_readPlain_0 7 rfl rfl)
theorem dX5_readPlain_9 : decode cX5_readPlain 9 = .ok (.invokevirtual 168, 3) := dk_182 0 168 (dk_at dksX5_readPlain_0 9 rfl rfl)
theorem dX5_readPlain_12 : decode cX5_readPlain 12 = .ok (.istore_n 2, 1) := dk_61 (dk_at dksX5_readPlain_0 12 rfl rfl)
theorem dX5_readPlain_13 : decode cX5_readPlain 13 = .ok (.goto (-11), 3) := dk_167 255 245 (dk_at dksX5_readPlain_0 13 rfl rfl)
theorem dX5_readPlain_16 : decode cX5_readPlain 16 = .ok (.aload_n 0, 1) := dk_42 (dk_at dksX5_readPlain_0 16 rfl rfl)
theorem dX5_readPlain_17 : decode cX5_readPlain 17 = .ok (.invokevirtual 161, 3) := dk_182 0 161 (dk_at dksX5_readPlain_0 17 rfl rfl)
theorem dX5_readPlain_20 : decode cX5_readPlain 20 = .ok (.ifCond .ne 4, 3) := dk_154 0 4 (dk_at dksX5_readPlain_0 20 rfl rfl)
theorem dX5_readPlain_23 : decode cX5_readPlain 23 = .ok (.return_, 1) := dk_177 (dk_at dksX5_readPlain_0 23 rfl rfl)
theorem dX5_readPlain_24 : decode cX5_readPlain 24 = .ok (.aload_n 0, 1) := dk_42 (dk_at dksX5_readPlain_1 0 rfl rfl)
theorem dX5_readPlain_25 : decode cX5_readPlain 25 = .ok (.getfield 43, 3) := dk_180 0 43 (dk_at dksX5_readPlain_1 1 rfl rfl)
theorem dX5_readPlain_28 : decode cX5_readPlain 28 = .ok (.aload_n 0, 1) := dk_42 (dk_at dksX5_readPlain_1 4 rfl rfl)
theorem dX5_readPlain_29 : decode cX5_readPlain 29 = .ok (.getfield 165, 3) := dk_180 0 165 (dk_at dksX5_readPlain_1 5 rfl rfl)
theorem dX5_readPlain_32 : decode cX5_readPlain 32 = .ok (.iaload, 1) := dk_46 (dk_at dksX5_readPlain_1 8 rfl rfl)
theorem dX5_readPlain_33 : decode cX5_readPlain 33 = .ok (.istore_n 3, 1) := dk_62 (dk_at dksX5_readPlain_1 9 rfl rfl)
theorem dX5_readPlain_34 : decode cX5_readPlain 34 = .ok (.iload_n 3, 1) := dk_29 (dk_at dksX5_readPlain_1 10 rfl rfl)
theorem dX5_readPlain_35 : decode cX5_readPlain 35 = .ok (.bipush 40, 2) := dk_16 40 (dk_at dksX5_readPlain_1 11 rfl rfl)
theorem dX5_readPlain_37 : decode cX5_readPlain 37 = .ok (.invokestatic 193, 3) := dk_184 0 193 (dk_at dksX5_readPlain_1 13 rfl rfl)
theorem dX5_readPlain_40 : decode cX5_readPlain 40 = .ok (.if_icmp .ne 50, 3) := dk_160 0 50 (dk_at dksX5_readPlain_1 16 rfl rfl)
theorem dX5_readPlain_43 : decode cX5_readPlain 43 = .ok (.iload_n 1, 1) := dk_27 (dk_at dksX5_readPlain_1 19 rfl rfl)
theorem dX5_readPlain_44 : decode cX5_readPlain 44 = .ok (.bipush 8, 2) := dk_16 8 (dk_at dksX5_readPlain_1 20 rfl rfl)
theorem dX5_readPlain_46 : decode cX5_readPlain 46 = .ok (.if_icmp .ne 7, 3) := dk_160 0 7 (dk_at dksX5_readPlain_2 0 rfl rfl)
theorem dX5_readPlain_49 : decode cX5_readPlain 49 = .ok (.aload_n 0, 1) := dk_42 (dk_at dksX5_readPlain_2 3 rfl rfl)
theorem dX5_readPlain_50 : decode cX5_readPlain 50 = .ok (.invokevirtual 171, 3) := dk_182 0 171 (dk_at dksX5_readPlain_2 4 rfl rfl)
theorem dX5_readPlain_53 : decode cX5_readPlain 53 = .ok (.aload_n 0, 1) := dk_42 (dk_at dksX5_readPlain_2 7 rfl rfl)
theorem dX5_readPlain_54 : decode cX5_readPlain 54 = .ok (.invokevirtual 161, 3) := dk_182 0 161 (dk_at dksX5_readPlain_2 8 rfl rfl)
theorem dX5_readPlain_57 : decode cX5_readPlain 57 = .ok (.ifCond .ne 4, 3) := dk_154 0 4 (dk_at dksX5_readPlain_2 11 rfl rfl)
theorem dX5_readPlain_60 : decode cX5_readPlain 60 = .ok (.return_, 1) := dk_177 (dk_at dksX5_readPlain_2 14 rfl rfl)
theorem dX5_readPlain_61 : decode cX5_readPlain 61 = .ok (.aload_n 0, 1) := dk_42 (dk_at dksX5_readPlain_2 15 rfl rfl)
theorem dX5_readPlain_62 : decode cX5_readPlain 62 = .ok (.dup, 1) := dk_89 (dk_at dksX5_readPlain_2 16 rfl rfl)
theorem dX5_readPlain_63 : decode cX5_readPlain 63 = .ok (.getfield 165, 3) := dk_180 0 165 (dk_at dksX5_readPlain_2 17 rfl rfl)
theorem dX5_readPlain_66 : decode cX5_readPlain 66 = .ok (.iconst 1, 1) := dk_4 (dk_at dksX5_readPlain_2 20 rfl rfl)
theorem dX5_readPlain_67 : decode cX5_readPlain 67 = .ok (.iadd, 1) := dk_96 (dk_at dksX5_readPlain_2 21 rfl rfl)
theorem dX5_readPlain_68 : decode cX5_readPlain 68 = .ok (.putfield 165, 3) := dk_181 0 165 (dk_at dksX5_readPlain_3 0 rfl rfl)
theorem dX5_readPlain_71 : decode cX5_readPlain 71 = .ok (.aload_n 0, 1) := dk_42 (dk_at dksX5_readPlain_3 3 rfl rfl)
theorem dX5_readPlain_72 : decode cX5_readPlain 72 = .ok (.iload_n 1, 1) := dk_27 (dk_at dksX5_readPlain_3 4 rfl rfl)
theorem dX5_readPlain_73 : decode cX5_readPlain 73 = .ok (.iconst 1, 1) := dk_4 (dk_at dksX5_readPlain_3 5 rfl rfl)
theorem dX5_readPlain_74 : decode cX5_readPlain 74 = .ok (.iadd, 1) := dk_96 (dk_at dksX5_readPlain_3 6 rfl rfl)
theorem dX5_readPlain_75 : decode cX5_readPlain 75 = .ok (.invokevirtual 184, 3) := dk_182 0 184 (dk_at dksX5_readPlain_3 7 rfl rfl)
theorem dX5_readPlain_78 : decode cX5_readPlain 78 = .ok (.aload_n 0, 1) := dk_42 (dk_at dksX5_readPlain_3 10 rfl rfl)
theorem dX5_readPlain_79 : decode cX5_readPlain 79 = .ok (.bipush 41, 2) := dk_16 41 (dk_at dksX5_readPlain_3 11 rfl rfl)
theorem dX5_readPlain_81 : decode cX5_readPlain 81 = .ok (.invokestatic 193, 3) := dk_184 0 193 (dk_at dksX5_readPlain_3 13 rfl rfl)
theorem dX5_readPlain_84 : decode cX5_readPlain 84 = .ok (.invokevirtual 181, 3) := dk_182 0 181 (dk_at dksX5_readPlain_3 16 rfl rfl)
theorem dX5_readPlain_87 : decode cX5_readPlain 87 = .ok (.goto 46, 3) := dk_167 0 46 (dk_at dksX5_readPlain_3 19 rfl rfl)
theorem dX5_readPlain_90 : decode cX5_readPlain 90 = .ok (.aload_n 0, 1) := dk_42 (dk_at dksX5_readPlain_3 22 rfl rfl)
theorem dX5_readPlain_91 : decode cX5_readPlain 91 = .ok (.iload_n 1, 1) := dk_27 (dk_at dksX5_readPlain_3 23 rfl rfl)
theorem dX5_readPlain_92 : decode cX5_readPlain 92 = .ok (.invokevirtual 177, 3) := dk_182 0 177 (dk_at dksX5_readPlain_4 0 rfl rfl)
theorem dX5_readPlain_95 : decode cX5_readPlain 95 = .ok (.aload_n 0, 1) := dk_42 (dk_at dksX5_readPlain_4 3 rfl rfl)
theorem dX5_readPlain_96 : decode cX5_readPlain 96 = .ok (.bipush 60, 2) := dk_16 60 (dk_at dksX5_readPlain_4 4 rfl rfl)
theorem dX5_readPlain_98 : decode cX5_readPlain 98 = .ok (.invokestatic 193, 3) := dk_184 0 193 (dk_at dksX5_readPlain_4 6 rfl rfl)
theorem dX5_readPlain_101 : decode cX5_readPlain 101 = .ok (.invokevirtual 168, 3) := dk_182 0 168 (dk_at dksX5_readPlain_4 9 rfl rfl)
theorem dX5_readPlain_104 : decode cX5_readPlain 104 = .ok (.ifCond .ne 24, 3) := dk_154 0 24 (dk_at dksX5_readPlain_4 12 rfl rfl)
theorem dX5_readPlain_107 : decode cX5_readPlain 107 = .ok (.aload_n 0, 1) := dk_42 (dk_at dksX5_readPlain_4 15 rfl rfl)
theorem dX5_readPlain_108 : decode cX5_readPlain 108 = .ok (.bipush 62, 2) := dk_16 62 (dk_at dksX5_readPlain_4 16 rfl rfl)
theorem dX5_readPlain_110 : decode cX5_readPlain 110 = .ok (.invokestatic 193, 3) := dk_184 0 193 (dk_at dksX5_readPlain_4 18 rfl rfl)
theorem dX5_readPlain_113 : decode cX5_readPlain 113 = .ok (.invokevirtual 168, 3) := dk_182 0 168 (dk_at dksX5_readPlain_4 21 rfl rfl)
theorem dX5_readPlain_116 : decode cX5_readPlain 116 = .ok (.ifCond .ne 12, 3) := dk_154 0 12 (dk_at dksX5_readPlain_5 0 rfl rfl)
theorem dX5_readPlain_119 : decode cX5_readPlain 119 = .ok (.aload_n 0, 1) := dk_42 (dk_at dksX5_readPlain_5 3 rfl rfl)
theorem dX5_readPlain_120 : decode cX5_readPlain 120 = .ok (.bipush 61, 2) := dk_16 61 (dk_at dksX5_readPlain_5 4 rfl rfl)
theorem dX5_readPlain_122 : decode cX5_readPlain 122 = .ok (.invokestatic 193, 3) := dk_184 0 193 (dk_at dksX5_readPlain_5 6 rfl rfl)
theorem dX5_readPlain_125 : decode cX5_readPlain 125 = .ok (.invokevirtual 181, 3) := dk_182 0 181 (dk_at dksX5_readPlain_5 9 rfl rfl)
theorem dX5_readPlain_128 : decode cX5_readPlain 128 = .ok (.aload_n 0, 1) := dk_42 (dk_at dksX5_readPlain_5 12 rfl rfl)
theorem dX5_readPlain_129 : decode cX5_readPlain 129 = .ok (.iload_n 1, 1) := dk_27 (dk_at dksX5_readPlain_5 13 rfl rfl)
theorem dX5_readPlain_130 : decode cX5_readPlain 130 = .ok (.invokevirtual 177, 3) := dk_182 0 177 (dk_at dksX5_readPlain_5 14 rfl rfl)
theorem dX5_readPlain_133 : decode cX5_readPlain 133 = .ok (.return_, 1) := dk_177 (dk_at dksX5_readPlain_5 17 rfl rfl)
abbrev cX5_fault : ByteArray := prog_25_method_47_code
def yX5_fault : MethodName := ⟨RX5, "fault", "()I"⟩
theorem dX5_fault_0 : decode cX5_fault 0 = .ok (.aload_n 0, 1) := by decide +kernel
theorem dX5_fault_1 : decode cX5_fault 1 = .ok (.getfield 40, 3) := by decide +kernel
theorem dX5_fault_4 : decode cX5_fault 4 = .ok (.ireturn, 1) := by decide +kernel
abbrev cX5_force : ByteArray := prog_25_method_48_code
def yX5_force : MethodName := ⟨RX5, "force", "(I)I"⟩
def dkwX5_force_2 : List UInt8 := [172]
abbrev dktX5_force_2 : List UInt8 := dkwX5_force_2 ++ []
def dkwX5_force_1 : List UInt8 := [172, 42, 180, 0, 20, 17, 0, 161, 46, 61, 42, 180, 0, 20, 17, 0, 161, 27, 79, 42, 28, 182, 0, 99]
abbrev dktX5_force_1 : List UInt8 := dkwX5_force_1 ++ dktX5_force_2
def dkwX5_force_0 : List UInt8 := [27, 2, 42, 180, 0, 20, 17, 0, 160, 46, 4, 100, 184, 0, 91, 154, 0, 10, 42, 16, 254, 182, 0, 95]
abbrev dktX5_force_0 : List UInt8 := dkwX5_force_0 ++ dktX5_force_1
theorem dksX5_force_0 : cX5_force.data.toList.drop 0 = dktX5_force_0 := by decide +kernel
theorem dksX5_force_1 : cX5_force.data.toList.drop 24 = dktX5_force_1 := dk_seg dksX5_force_0 24 rfl rfl
theorem dksX5_force_2 : cX5_force.data.toList.drop 48 = dktX5_force_2 := dk_seg dksX5_force_1 24 rfl rfl
theorem dX5_force_0 : decode cX5_force 0 = .ok (.iload_n 1, 1) := dk_27 (dk_at dksX5_force_0 0 rfl rfl)
theorem dX5_force_1 : decode cX5_force 1 = .ok (.iconst (-1), 1) := dk_2 (dk_at dksX5_force_0 1 rfl rfl)
theorem dX5_force_2 : decode cX5_force 2 = .ok (.aload_n 0, 1) := dk_42 (dk_at dksX5_force_0 2 rfl rfl)
theorem dX5_force_3 : decode cX5_force 3 = .ok (.getfield 20, 3) := dk_180 0 20 (dk_at dksX5_force_0 3 rfl rfl)
theorem dX5_force_6 : decode cX5_force 6 = .ok (.sipush 160, 3) := dk_17 0 160 (dk_at dksX5_force_0 6 rfl rfl)
theorem dX5_force_9 : decode cX5_force 9 = .ok (.iaload, 1) := dk_46 (dk_at dksX5_force_0 9 rfl rfl)
theorem dX5_force_10 : decode cX5_force 10 = .ok (.iconst 1, 1) := dk_4 (dk_at dksX5_force_0 10 rfl rfl)
theorem dX5_force_11 : decode cX5_force 11 = .ok (.isub, 1) := dk_100 (dk_at dksX5_force_0 11 rfl rfl)
theorem dX5_force_12 : decode cX5_force 12 = .ok (.invokestatic 91, 3) := dk_184 0 91 (dk_at dksX5_force_0 12 rfl rfl)
theorem dX5_force_15 : decode cX5_force 15 = .ok (.ifCond .ne 10, 3) := dk_154 0 10 (dk_at dksX5_force_0 15 rfl rfl)
theorem dX5_force_18 : decode cX5_force 18 = .ok (.aload_n 0, 1) := dk_42 (dk_at dksX5_force_0 18 rfl rfl)
theorem dX5_force_19 : decode cX5_force 19 = .ok (.bipush (-2), 2) := dk_16 254 (dk_at dksX5_force_0 19 rfl rfl)
theorem dX5_force_21 : decode cX5_force 21 = .ok (.invokevirtual 95, 3) := dk_182 0 95 (dk_at dksX5_force_0 21 rfl rfl)
theorem dX5_force_24 : decode cX5_force 24 = .ok (.ireturn, 1) := dk_172 (dk_at dksX5_force_1 0 rfl rfl)
theorem dX5_force_25 : decode cX5_force 25 = .ok (.aload_n 0, 1) := dk_42 (dk_at dksX5_force_1 1 rfl rfl)
theorem dX5_force_26 : decode cX5_force 26 = .ok (.getfield 20, 3) := dk_180 0 20 (dk_at dksX5_force_1 2 rfl rfl)
theorem dX5_force_29 : decode cX5_force 29 = .ok (.sipush 161, 3) := dk_17 0 161 (dk_at dksX5_force_1 5 rfl rfl)
theorem dX5_force_32 : decode cX5_force 32 = .ok (.iaload, 1) := dk_46 (dk_at dksX5_force_1 8 rfl rfl)
theorem dX5_force_33 : decode cX5_force 33 = .ok (.istore_n 2, 1) := dk_61 (dk_at dksX5_force_1 9 rfl rfl)
theorem dX5_force_34 : decode cX5_force 34 = .ok (.aload_n 0, 1) := dk_42 (dk_at dksX5_force_1 10 rfl rfl)
theorem dX5_force_35 : decode cX5_force 35 = .ok (.getfield 20, 3) := dk_180 0 20 (dk_at dksX5_force_1 11 rfl rfl)
theorem dX5_force_38 : decode cX5_force 38 = .ok (.sipush 161, 3) := dk_17 0 161 (dk_at dksX5_force_1 14 rfl rfl)
theorem dX5_force_41 : decode cX5_force 41 = .ok (.iload_n 1, 1) := dk_27 (dk_at dksX5_force_1 17 rfl rfl)
theorem dX5_force_42 : decode cX5_force 42 = .ok (.iastore, 1) := dk_79 (dk_at dksX5_force_1 18 rfl rfl)
theorem dX5_force_43 : decode cX5_force 43 = .ok (.aload_n 0, 1) := dk_42 (dk_at dksX5_force_1 19 rfl rfl)
theorem dX5_force_44 : decode cX5_force 44 = .ok (.iload_n 2, 1) := dk_28 (dk_at dksX5_force_1 20 rfl rfl)
theorem dX5_force_45 : decode cX5_force 45 = .ok (.invokevirtual 99, 3) := dk_182 0 99 (dk_at dksX5_force_1 21 rfl rfl)
theorem dX5_force_48 : decode cX5_force 48 = .ok (.ireturn, 1) := dk_172 (dk_at dksX5_force_2 0 rfl rfl)
abbrev cX5_at : ByteArray := prog_25_method_65_code
def yX5_at : MethodName := ⟨RX5, "at", "(II)I"⟩
def dkwX5_at_1 : List UInt8 := [153, 0, 15, 42, 29, 27, 28, 182, 0, 120, 153, 0, 5, 29, 172, 132, 3, 1, 167, 255, 218, 2, 172]
abbrev dktX5_at_1 : List UInt8 := dkwX5_at_1 ++ []
def dkwX5_at_0 : List UInt8 := [3, 62, 29, 42, 182, 0, 102, 162, 0, 36, 42, 180, 0, 20, 17, 0, 159, 46, 29, 184, 1, 18]
abbrev dktX5_at_0 : List UInt8 := dkwX5_at_0 ++ dktX5_at_1
theorem dksX5_at_0 : cX5_at.data.toList.drop 0 = dktX5_at_0 := by decide +kernel
theorem dksX5_at_1 : cX5_at.data.toList.drop 22 = dktX5_at_1 := dk_seg dksX5_at_0 22 rfl rfl
theorem dX5_at_0 : decode cX5_at 0 = .ok (.iconst 0, 1) := dk_3 (dk_at dksX5_at_0 0 rfl rfl)
theorem dX5_at_1 : decode cX5_at 1 = .ok (.istore_n 3, 1) := dk_62 (dk_at dksX5_at_0 1 rfl rfl)
theorem dX5_at_2 : decode cX5_at 2 = .ok (.iload_n 3, 1) := dk_29 (dk_at dksX5_at_0 2 rfl rfl)
theorem dX5_at_3 : decode cX5_at 3 = .ok (.aload_n 0, 1) := dk_42 (dk_at dksX5_at_0 3 rfl rfl)
theorem dX5_at_4 : decode cX5_at 4 = .ok (.invokevirtual 102, 3) := dk_182 0 102 (dk_at dksX5_at_0 4 rfl rfl)
theorem dX5_at_7 : decode cX5_at 7 = .ok (.if_icmp .ge 36, 3) := dk_162 0 36 (dk_at dksX5_at_0 7 rfl rfl)
theorem dX5_at_10 : decode cX5_at 10 = .ok (.aload_n 0, 1) := dk_42 (dk_at dksX5_at_0 10 rfl rfl)
theorem dX5_at_11 : decode cX5_at 11 = .ok (.getfield 20, 3) := dk_180 0 20 (dk_at dksX5_at_0 11 rfl rfl)
theorem dX5_at_14 : decode cX5_at 14 = .ok (.sipush 159, 3) := dk_17 0 159 (dk_at dksX5_at_0 14 rfl rfl)
theorem dX5_at_17 : decode cX5_at 17 = .ok (.iaload, 1) := dk_46 (dk_at dksX5_at_0 17 rfl rfl)
theorem dX5_at_18 : decode cX5_at 18 = .ok (.iload_n 3, 1) := dk_29 (dk_at dksX5_at_0 18 rfl rfl)
theorem dX5_at_19 : decode cX5_at 19 = .ok (.invokestatic 274, 3) := dk_184 1 18 (dk_at dksX5_at_0 19 rfl rfl)
theorem dX5_at_22 : decode cX5_at 22 = .ok (.ifCond .eq 15, 3) := dk_153 0 15 (dk_at dksX5_at_1 0 rfl rfl)
theorem dX5_at_25 : decode cX5_at 25 = .ok (.aload_n 0, 1) := dk_42 (dk_at dksX5_at_1 3 rfl rfl)
theorem dX5_at_26 : decode cX5_at 26 = .ok (.iload_n 3, 1) := dk_29 (dk_at dksX5_at_1 4 rfl rfl)
theorem dX5_at_27 : decode cX5_at 27 = .ok (.iload_n 1, 1) := dk_27 (dk_at dksX5_at_1 5 rfl rfl)
theorem dX5_at_28 : decode cX5_at 28 = .ok (.iload_n 2, 1) := dk_28 (dk_at dksX5_at_1 6 rfl rfl)
theorem dX5_at_29 : decode cX5_at 29 = .ok (.invokevirtual 120, 3) := dk_182 0 120 (dk_at dksX5_at_1 7 rfl rfl)
theorem dX5_at_32 : decode cX5_at 32 = .ok (.ifCond .eq 5, 3) := dk_153 0 5 (dk_at dksX5_at_1 10 rfl rfl)
theorem dX5_at_35 : decode cX5_at 35 = .ok (.iload_n 3, 1) := dk_29 (dk_at dksX5_at_1 13 rfl rfl)
theorem dX5_at_36 : decode cX5_at 36 = .ok (.ireturn, 1) := dk_172 (dk_at dksX5_at_1 14 rfl rfl)
theorem dX5_at_37 : decode cX5_at 37 = .ok (.iinc 3 1, 3) := dk_132 3 1 (dk_at dksX5_at_1 15 rfl rfl)
theorem dX5_at_40 : decode cX5_at 40 = .ok (.goto (-38), 3) := dk_167 255 218 (dk_at dksX5_at_1 18 rfl rfl)
theorem dX5_at_43 : decode cX5_at 43 = .ok (.iconst (-1), 1) := dk_2 (dk_at dksX5_at_1 21 rfl rfl)
theorem dX5_at_44 : decode cX5_at 44 = .ok (.ireturn, 1) := dk_172 (dk_at dksX5_at_1 22 rfl rfl)
abbrev cX5_isIn : ByteArray := prog_25_method_4_code
def yX5_isIn : MethodName := ⟨RX5, "isIn", "(II)Z"⟩
def dkwX5_isIn_0 : List UInt8 := [26, 27, 122, 4, 126, 4, 160, 0, 7, 4, 167, 0, 4, 3, 172]
abbrev dktX5_isIn_0 : List UInt8 := dkwX5_isIn_0 ++ []
theorem dksX5_isIn_0 : cX5_isIn.data.toList.drop 0 = dktX5_isIn_0 := by decide +kernel
theorem dX5_isIn_0 : decode cX5_isIn 0 = .ok (.iload_n 0, 1) := dk_26 (dk_at dksX5_isIn_0 0 rfl rfl)
theorem dX5_isIn_1 : decode cX5_isIn 1 = .ok (.iload_n 1, 1) := dk_27 (dk_at dksX5_isIn_0 1 rfl rfl)
theorem dX5_isIn_2 : decode cX5_isIn 2 = .ok (.ishr, 1) := dk_122 (dk_at dksX5_isIn_0 2 rfl rfl)
theorem dX5_isIn_3 : decode cX5_isIn 3 = .ok (.iconst 1, 1) := dk_4 (dk_at dksX5_isIn_0 3 rfl rfl)
theorem dX5_isIn_4 : decode cX5_isIn 4 = .ok (.iand, 1) := dk_126 (dk_at dksX5_isIn_0 4 rfl rfl)
theorem dX5_isIn_5 : decode cX5_isIn 5 = .ok (.iconst 1, 1) := dk_4 (dk_at dksX5_isIn_0 5 rfl rfl)
theorem dX5_isIn_6 : decode cX5_isIn 6 = .ok (.if_icmp .ne 7, 3) := dk_160 0 7 (dk_at dksX5_isIn_0 6 rfl rfl)
theorem dX5_isIn_9 : decode cX5_isIn 9 = .ok (.iconst 1, 1) := dk_4 (dk_at dksX5_isIn_0 9 rfl rfl)
theorem dX5_isIn_10 : decode cX5_isIn 10 = .ok (.goto 4, 3) := dk_167 0 4 (dk_at dksX5_isIn_0 10 rfl rfl)
theorem dX5_isIn_13 : decode cX5_isIn 13 = .ok (.iconst 0, 1) := dk_3 (dk_at dksX5_isIn_0 13 rfl rfl)
theorem dX5_isIn_14 : decode cX5_isIn 14 = .ok (.ireturn, 1) := dk_172 (dk_at dksX5_isIn_0 14 rfl rfl)
abbrev cX5_touches : ByteArray := prog_25_method_66_code
def yX5_touches : MethodName := ⟨RX5, "touches", "(II)I"⟩
def dkwX5_touches_4 : List UInt8 := [27, 51, 153, 0, 7, 4, 167, 0, 8, 3, 167, 0, 4, 29, 172]
abbrev dktX5_touches_4 : List UInt8 := dkwX5_touches_4 ++ []
def dkwX5_touches_3 : List UInt8 := [184, 1, 15, 42, 180, 0, 64, 27, 46, 96, 167, 0, 4, 2, 172, 28, 5, 160, 0, 20, 42, 180, 0, 58]
abbrev dktX5_touches_3 : List UInt8 := dkwX5_touches_3 ++ dktX5_touches_4
def dkwX5_touches_2 : List UInt8 := [46, 172, 28, 4, 160, 0, 34, 42, 180, 0, 20, 17, 0, 159, 46, 27, 184, 1, 18, 153, 0, 17, 29]
abbrev dktX5_touches_2 : List UInt8 := dkwX5_touches_2 ++ dktX5_touches_3
def dkwX5_touches_1 : List UInt8 := [180, 0, 61, 27, 46, 42, 180, 0, 20, 17, 0, 159, 46, 126, 62, 28, 154, 0, 10, 42, 180, 0, 55, 27]
abbrev dktX5_touches_1 : List UInt8 := dkwX5_touches_1 ++ dktX5_touches_2
def dkwX5_touches_0 : List UInt8 := [42, 27, 182, 0, 106, 153, 0, 12, 28, 3, 6, 184, 0, 91, 154, 0, 5, 2, 172, 42, 182, 1, 27, 42]
abbrev dktX5_touches_0 : List UInt8 := dkwX5_touches_0 ++ dktX5_touches_1
theorem dksX5_touches_0 : cX5_touches.data.toList.drop 0 = dktX5_touches_0 := by decide +kernel
theorem dksX5_touches_1 : cX5_touches.data.toList.drop 24 = dktX5_touches_1 := dk_seg dksX5_touches_0 24 rfl rfl
theorem dksX5_touches_2 : cX5_touches.data.toList.drop 48 = dktX5_touches_2 := dk_seg dksX5_touches_1 24 rfl rfl
theorem dksX5_touches_3 : cX5_touches.data.toList.drop 71 = dktX5_touches_3 := dk_seg dksX5_touches_2 23 rfl rfl
theorem dksX5_touches_4 : cX5_touches.data.toList.drop 95 = dktX5_touches_4 := dk_seg dksX5_touches_3 24 rfl rfl
theorem dX5_touches_0 : decode cX5_touches 0 = .ok (.aload_n 0, 1) := dk_42 (dk_at dksX5_touches_0 0 rfl rfl)
theorem dX5_touches_1 : decode cX5_touches 1 = .ok (.iload_n 1, 1) := dk_27 (dk_at dksX5_touches_0 1 rfl rfl)
theorem dX5_touches_2 : decode cX5_touches 2 = .ok (.invokevirtual 106, 3) := dk_182 0 106 (dk_at dksX5_touches_0 2 rfl rfl)
theorem dX5_touches_5 : decode cX5_touches 5 = .ok (.ifCond .eq 12, 3) := dk_153 0 12 (dk_at dksX5_touches_0 5 rfl rfl)
theorem dX5_touches_8 : decode cX5_touches 8 = .ok (.iload_n 2, 1) := dk_28 (dk_at dksX5_touches_0 8 rfl rfl)
theorem dX5_touches_9 : decode cX5_touches 9 = .ok (.iconst 0, 1) := dk_3 (dk_at dksX5_touches_0 9 rfl rfl)
theorem dX5_touches_10 : decode cX5_touches 10 = .ok (.iconst 3, 1) := dk_6 (dk_at dksX5_touches_0 10 rfl rfl)
theorem dX5_touches_11 : decode cX5_touches 11 = .ok (.invokestatic 91, 3) := dk_184 0 91 (dk_at dksX5_touches_0 11 rfl rfl)
theorem dX5_touches_14 : decode cX5_touches 14 = .ok (.ifCond .ne 5, 3) := dk_154 0 5 (dk_at dksX5_touches_0 14 rfl rfl)
theorem dX5_touches_17 : decode cX5_touches 17 = .ok (.iconst (-1), 1) := dk_2 (dk_at dksX5_touches_0 17 rfl rfl)
theorem dX5_touches_18 : decode cX5_touches 18 = .ok (.ireturn, 1) := dk_172 (dk_at dksX5_touches_0 18 rfl rfl)
theorem dX5_touches_19 : decode cX5_touches 19 = .ok (.aload_n 0, 1) := dk_42 (dk_at dksX5_touches_0 19 rfl rfl)
theorem dX5_touches_20 : decode cX5_touches 20 = .ok (.invokevirtual 283, 3) := dk_182 1 27 (dk_at dksX5_touches_0 20 rfl rfl)
theorem dX5_touches_23 : decode cX5_touches 23 = .ok (.aload_n 0, 1) := dk_42 (dk_at dksX5_touches_0 23 rfl rfl)
theorem dX5_touches_24 : decode cX5_touches 24 = .ok (.getfield 61, 3) := dk_180 0 61 (dk_at dksX5_touches_1 0 rfl rfl)
theorem dX5_touches_27 : decode cX5_touches 27 = .ok (.iload_n 1, 1) := dk_27 (dk_at dksX5_touches_1 3 rfl rfl)
theorem dX5_touches_28 : decode cX5_touches 28 = .ok (.iaload, 1) := dk_46 (dk_at dksX5_touches_1 4 rfl rfl)
theorem dX5_touches_29 : decode cX5_touches 29 = .ok (.aload_n 0, 1) := dk_42 (dk_at dksX5_touches_1 5 rfl rfl)
theorem dX5_touches_30 : decode cX5_touches 30 = .ok (.getfield 20, 3) := dk_180 0 20 (dk_at dksX5_touches_1 6 rfl rfl)
theorem dX5_touches_33 : decode cX5_touches 33 = .ok (.sipush 159, 3) := dk_17 0 159 (dk_at dksX5_touches_1 9 rfl rfl)
theorem dX5_touches_36 : decode cX5_touches 36 = .ok (.iaload, 1) := dk_46 (dk_at dksX5_touches_1 12 rfl rfl)
theorem dX5_touches_37 : decode cX5_touches 37 = .ok (.iand, 1) := dk_126 (dk_at dksX5_touches_1 13 rfl rfl)
theorem dX5_touches_38 : decode cX5_touches 38 = .ok (.istore_n 3, 1) := dk_62 (dk_at dksX5_touches_1 14 rfl rfl)
theorem dX5_touches_39 : decode cX5_touches 39 = .ok (.iload_n 2, 1) := dk_28 (dk_at dksX5_touches_1 15 rfl rfl)
theorem dX5_touches_40 : decode cX5_touches 40 = .ok (.ifCond .ne 10, 3) := dk_154 0 10 (dk_at dksX5_touches_1 16 rfl rfl)
theorem dX5_touches_43 : decode cX5_touches 43 = .ok (.aload_n 0, 1) := dk_42 (dk_at dksX5_touches_1 19 rfl rfl)
theorem dX5_touches_44 : decode cX5_touches 44 = .ok (.getfield 55, 3) := dk_180 0 55 (dk_at dksX5_touches_1 20 rfl rfl)
theorem dX5_touches_47 : decode cX5_touches 47 = .ok (.iload_n 1, 1) := dk_27 (dk_at dksX5_touches_1 23 rfl rfl)
theorem dX5_touches_48 : decode cX5_touches 48 = .ok (.iaload, 1) := dk_46 (dk_at dksX5_touches_2 0 rfl rfl)
theorem dX5_touches_49 : decode cX5_touches 49 = .ok (.ireturn, 1) := dk_172 (dk_at dksX5_touches_2 1 rfl rfl)
theorem dX5_touches_50 : decode cX5_touches 50 = .ok (.iload_n 2, 1) := dk_28 (dk_at dksX5_touches_2 2 rfl rfl)
theorem dX5_touches_51 : decode cX5_touches 51 = .ok (.iconst 1, 1) := dk_4 (dk_at dksX5_touches_2 3 rfl rfl)
theorem dX5_touches_52 : decode cX5_touches 52 = .ok (.if_icmp .ne 34, 3) := dk_160 0 34 (dk_at dksX5_touches_2 4 rfl rfl)
theorem dX5_touches_55 : decode cX5_touches 55 = .ok (.aload_n 0, 1) := dk_42 (dk_at dksX5_touches_2 7 rfl rfl)
theorem dX5_touches_56 : decode cX5_touches 56 = .ok (.getfield 20, 3) := dk_180 0 20 (dk_at dksX5_touches_2 8 rfl rfl)
theorem dX5_touches_59 : decode cX5_touches 59 = .ok (.sipush 159, 3) := dk_17 0 159 (dk_at dksX5_touches_2 11 rfl rfl)
theorem dX5_touches_62 : decode cX5_touches 62 = .ok (.iaload, 1) := dk_46 (dk_at dksX5_touches_2 14 rfl rfl)
theorem dX5_touches_63 : decode cX5_touches 63 = .ok (.iload_n 1, 1) := dk_27 (dk_at dksX5_touches_2 15 rfl rfl)
theorem dX5_touches_64 : decode cX5_touches 64 = .ok (.invokestatic 274, 3) := dk_184 1 18 (dk_at dksX5_touches_2 16 rfl rfl)
theorem dX5_touches_67 : decode cX5_touches 67 = .ok (.ifCond .eq 17, 3) := dk_153 0 17 (dk_at dksX5_touches_2 19 rfl rfl)
theorem dX5_touches_70 : decode cX5_touches 70 = .ok (.iload_n 3, 1) := dk_29 (dk_at dksX5_touches_2 22 rfl rfl)
theorem dX5_touches_71 : decode cX5_touches 71 = .ok (.invokestatic 271, 3) := dk_184 1 15 (dk_at dksX5_touches_3 0 rfl rfl)
theorem dX5_touches_74 : decode cX5_touches 74 = .ok (.aload_n 0, 1) := dk_42 (dk_at dksX5_touches_3 3 rfl rfl)
theorem dX5_touches_75 : decode cX5_touches 75 = .ok (.getfield 64, 3) := dk_180 0 64 (dk_at dksX5_touches_3 4 rfl rfl)
theorem dX5_touches_78 : decode cX5_touches 78 = .ok (.iload_n 1, 1) := dk_27 (dk_at dksX5_touches_3 7 rfl rfl)
theorem dX5_touches_79 : decode cX5_touches 79 = .ok (.iaload, 1) := dk_46 (dk_at dksX5_touches_3 8 rfl rfl)
theorem dX5_touches_80 : decode cX5_touches 80 = .ok (.iadd, 1) := dk_96 (dk_at dksX5_touches_3 9 rfl rfl)
theorem dX5_touches_81 : decode cX5_touches 81 = .ok (.goto 4, 3) := dk_167 0 4 (dk_at dksX5_touches_3 10 rfl rfl)
theorem dX5_touches_84 : decode cX5_touches 84 = .ok (.iconst (-1), 1) := dk_2 (dk_at dksX5_touches_3 13 rfl rfl)
theorem dX5_touches_85 : decode cX5_touches 85 = .ok (.ireturn, 1) := dk_172 (dk_at dksX5_touches_3 14 rfl rfl)
theorem dX5_touches_86 : decode cX5_touches 86 = .ok (.iload_n 2, 1) := dk_28 (dk_at dksX5_touches_3 15 rfl rfl)
theorem dX5_touches_87 : decode cX5_touches 87 = .ok (.iconst 2, 1) := dk_5 (dk_at dksX5_touches_3 16 rfl rfl)
theorem dX5_touches_88 : decode cX5_touches 88 = .ok (.if_icmp .ne 20, 3) := dk_160 0 20 (dk_at dksX5_touches_3 17 rfl rfl)
theorem dX5_touches_91 : decode cX5_touches 91 = .ok (.aload_n 0, 1) := dk_42 (dk_at dksX5_touches_3 20 rfl rfl)
theorem dX5_touches_92 : decode cX5_touches 92 = .ok (.getfield 58, 3) := dk_180 0 58 (dk_at dksX5_touches_3 21 rfl rfl)
theorem dX5_touches_95 : decode cX5_touches 95 = .ok (.iload_n 1, 1) := dk_27 (dk_at dksX5_touches_4 0 rfl rfl)
theorem dX5_touches_96 : decode cX5_touches 96 = .ok (.baload, 1) := dk_51 (dk_at dksX5_touches_4 1 rfl rfl)
theorem dX5_touches_97 : decode cX5_touches 97 = .ok (.ifCond .eq 7, 3) := dk_153 0 7 (dk_at dksX5_touches_4 2 rfl rfl)
theorem dX5_touches_100 : decode cX5_touches 100 = .ok (.iconst 1, 1) := dk_4 (dk_at dksX5_touches_4 5 rfl rfl)
theorem dX5_touches_101 : decode cX5_touches 101 = .ok (.goto 8, 3) := dk_167 0 8 (dk_at dksX5_touches_4 6 rfl rfl)
theorem dX5_touches_104 : decode cX5_touches 104 = .ok (.iconst 0, 1) := dk_3 (dk_at dksX5_touches_4 9 rfl rfl)
theorem dX5_touches_105 : decode cX5_touches 105 = .ok (.goto 4, 3) := dk_167 0 4 (dk_at dksX5_touches_4 10 rfl rfl)
theorem dX5_touches_108 : decode cX5_touches 108 = .ok (.iload_n 3, 1) := dk_29 (dk_at dksX5_touches_4 13 rfl rfl)
theorem dX5_touches_109 : decode cX5_touches 109 = .ok (.ireturn, 1) := dk_172 (dk_at dksX5_touches_4 14 rfl rfl)
abbrev cX5_looks : ByteArray := prog_25_method_61_code
def yX5_looks : MethodName := ⟨RX5, "looks", "()V"⟩
def dkwX5_looks_8 : List UInt8 := [132, 1, 1, 167, 255, 92, 177]
abbrev dktX5_looks_8 : List UInt8 := dkwX5_looks_8 ++ []
def dkwX5_looks_7 : List UInt8 := [182, 0, 113, 96, 16, 12, 160, 0, 14, 42, 180, 0, 20, 17, 0, 156, 46, 167, 0, 4, 3, 96, 79]
abbrev dktX5_looks_7 : List UInt8 := dkwX5_looks_7 ++ dktX5_looks_8
def dkwX5_looks_6 : List UInt8 := [42, 180, 0, 20, 17, 0, 156, 46, 167, 0, 4, 3, 96, 42, 27, 3, 182, 0, 113, 42, 27, 5]
abbrev dktX5_looks_6 : List UInt8 := dkwX5_looks_6 ++ dktX5_looks_7
def dkwX5_looks_5 : List UInt8 := [154, 0, 14, 42, 180, 0, 20, 17, 0, 155, 46, 167, 0, 4, 3, 42, 27, 3, 182, 0, 113, 154, 0, 14]
abbrev dktX5_looks_5 : List UInt8 := dkwX5_looks_5 ++ dktX5_looks_6
def dkwX5_looks_4 : List UInt8 := [167, 0, 4, 3, 128, 79, 132, 2, 1, 167, 255, 209, 42, 180, 0, 64, 27, 42, 27, 4, 182, 0, 113]
abbrev dktX5_looks_4 : List UInt8 := dkwX5_looks_4 ++ dktX5_looks_5
def dkwX5_looks_3 : List UInt8 := [159, 0, 26, 42, 28, 182, 0, 117, 153, 0, 18, 42, 27, 28, 182, 1, 11, 153, 0, 9, 4, 28, 120]
abbrev dktX5_looks_3 : List UInt8 := dkwX5_looks_3 ++ dktX5_looks_4
def dkwX5_looks_2 : List UInt8 := [180, 0, 61, 27, 3, 79, 3, 61, 28, 16, 22, 162, 0, 47, 42, 180, 0, 61, 27, 92, 46, 28, 27]
abbrev dktX5_looks_2 : List UInt8 := dkwX5_looks_2 ++ dktX5_looks_3
def dkwX5_looks_1 : List UInt8 := [16, 22, 162, 0, 164, 42, 27, 182, 0, 117, 154, 0, 6, 167, 0, 147, 42, 27, 182, 1, 8, 42]
abbrev dktX5_looks_1 : List UInt8 := dkwX5_looks_1 ++ dktX5_looks_2
def dkwX5_looks_0 : List UInt8 := [42, 180, 0, 67, 42, 180, 0, 11, 160, 0, 4, 177, 42, 42, 180, 0, 11, 181, 0, 67, 3, 60, 27]
abbrev dktX5_looks_0 : List UInt8 := dkwX5_looks_0 ++ dktX5_looks_1
theorem dksX5_looks_0 : cX5_looks.data.toList.drop 0 = dktX5_looks_0 := by decide +kernel
theorem dksX5_looks_1 : cX5_looks.data.toList.drop 23 = dktX5_looks_1 := dk_seg dksX5_looks_0 23 rfl rfl
theorem dksX5_looks_2 : cX5_looks.data.toList.drop 45 = dktX5_looks_2 := dk_seg dksX5_looks_1 22 rfl rfl
theorem dksX5_looks_3 : cX5_looks.data.toList.drop 68 = dktX5_looks_3 := dk_seg dksX5_looks_2 23 rfl rfl
theorem dksX5_looks_4 : cX5_looks.data.toList.drop 91 = dktX5_looks_4 := dk_seg dksX5_looks_3 23 rfl rfl
theorem dksX5_looks_5 : cX5_looks.data.toList.drop 114 = dktX5_looks_5 := dk_seg dksX5_looks_4 23 rfl rfl
theorem dksX5_looks_6 : cX5_looks.data.toList.drop 138 = dktX5_looks_6 := dk_seg dksX5_looks_5 24 rfl rfl
theorem dksX5_looks_7 : cX5_looks.data.toList.drop 160 = dktX5_looks_7 := dk_seg dksX5_looks_6 22 rfl rfl
theorem dksX5_looks_8 : cX5_looks.data.toList.drop 183 = dktX5_looks_8 := dk_seg dksX5_looks_7 23 rfl rfl
theorem dX5_looks_0 : decode cX5_looks 0 = .ok (.aload_n 0, 1) := dk_42 (dk_at dksX5_looks_0 0 rfl rfl)
theorem dX5_looks_1 : decode cX5_looks 1 = .ok (.getfield 67, 3) := dk_180 0 67 (dk_at dksX5_looks_0 1 rfl rfl)
theorem dX5_looks_4 : decode cX5_looks 4 = .ok (.aload_n 0, 1) := dk_42 (dk_at dksX5_looks_0 4 rfl rfl)
theorem dX5_looks_5 : decode cX5_looks 5 = .ok (.getfield 11, 3) := dk_180 0 11 (dk_at dksX5_looks_0 5 rfl rfl)
theorem dX5_looks_8 : decode cX5_looks 8 = .ok (.if_icmp .ne 4, 3) := dk_160 0 4 (dk_at dksX5_looks_0 8 rfl rfl)
theorem dX5_looks_11 : decode cX5_looks 11 = .ok (.return_, 1) := dk_177 (dk_at dksX5_looks_0 11 rfl rfl)
theorem dX5_looks_12 : decode cX5_looks 12 = .ok (.aload_n 0, 1) := dk_42 (dk_at dksX5_looks_0 12 rfl rfl)
theorem dX5_looks_13 : decode cX5_looks 13 = .ok (.aload_n 0, 1) := dk_42 (dk_at dksX5_looks_0 13 rfl rfl)
theorem dX5_looks_14 : decode cX5_looks 14 = .ok (.getfield 11, 3) := dk_180 0 11 (dk_at dksX5_looks_0 14 rfl rfl)
theorem dX5_looks_17 : decode cX5_looks 17 = .ok (.putfield 67, 3) := dk_181 0 67 (dk_at dksX5_looks_0 17 rfl rfl)
theorem dX5_looks_20 : decode cX5_looks 20 = .ok (.iconst 0, 1) := dk_3 (dk_at dksX5_looks_0 20 rfl rfl)
theorem dX5_looks_21 : decode cX5_looks 21 = .ok (.istore_n 1, 1) := dk_60 (dk_at dksX5_looks_0 21 rfl rfl)
theorem dX5_looks_22 : decode cX5_looks 22 = .ok (.iload_n 1, 1) := dk_27 (dk_at dksX5_looks_0 22 rfl rfl)
theorem dX5_looks_23 : decode cX5_looks 23 = .ok (.bipush 22, 2) := dk_16 22 (dk_at dksX5_looks_1 0 rfl rfl)
theorem dX5_looks_25 : decode cX5_looks 25 = .ok (.if_icmp .ge 164, 3) := dk_162 0 164 (dk_at dksX5_looks_1 2 rfl rfl)
theorem dX5_looks_28 : decode cX5_looks 28 = .ok (.aload_n 0, 1) := dk_42 (dk_at dksX5_looks_1 5 rfl rfl)
theorem dX5_looks_29 : decode cX5_looks 29 = .ok (.iload_n 1, 1) := dk_27 (dk_at dksX5_looks_1 6 rfl rfl)
theorem dX5_looks_30 : decode cX5_looks 30 = .ok (.invokevirtual 117, 3) := dk_182 0 117 (dk_at dksX5_looks_1 7 rfl rfl)
theorem dX5_looks_33 : decode cX5_looks 33 = .ok (.ifCond .ne 6, 3) := dk_154 0 6 (dk_at dksX5_looks_1 10 rfl rfl)
theorem dX5_looks_36 : decode cX5_looks 36 = .ok (.goto 147, 3) := dk_167 0 147 (dk_at dksX5_looks_1 13 rfl rfl)
theorem dX5_looks_39 : decode cX5_looks 39 = .ok (.aload_n 0, 1) := dk_42 (dk_at dksX5_looks_1 16 rfl rfl)
theorem dX5_looks_40 : decode cX5_looks 40 = .ok (.iload_n 1, 1) := dk_27 (dk_at dksX5_looks_1 17 rfl rfl)
theorem dX5_looks_41 : decode cX5_looks 41 = .ok (.invokevirtual 264, 3) := dk_182 1 8 (dk_at dksX5_looks_1 18 rfl rfl)
theorem dX5_looks_44 : decode cX5_looks 44 = .ok (.aload_n 0, 1) := dk_42 (dk_at dksX5_looks_1 21 rfl rfl)
theorem dX5_looks_45 : decode cX5_looks 45 = .ok (.getfield 61, 3) := dk_180 0 61 (dk_at dksX5_looks_2 0 rfl rfl)
theorem dX5_looks_48 : decode cX5_looks 48 = .ok (.iload_n 1, 1) := dk_27 (dk_at dksX5_looks_2 3 rfl rfl)
theorem dX5_looks_49 : decode cX5_looks 49 = .ok (.iconst 0, 1) := dk_3 (dk_at dksX5_looks_2 4 rfl rfl)
theorem dX5_looks_50 : decode cX5_looks 50 = .ok (.iastore, 1) := dk_79 (dk_at dksX5_looks_2 5 rfl rfl)
theorem dX5_looks_51 : decode cX5_looks 51 = .ok (.iconst 0, 1) := dk_3 (dk_at dksX5_looks_2 6 rfl rfl)
theorem dX5_looks_52 : decode cX5_looks 52 = .ok (.istore_n 2, 1) := dk_61 (dk_at dksX5_looks_2 7 rfl rfl)
theorem dX5_looks_53 : decode cX5_looks 53 = .ok (.iload_n 2, 1) := dk_28 (dk_at dksX5_looks_2 8 rfl rfl)
theorem dX5_looks_54 : decode cX5_looks 54 = .ok (.bipush 22, 2) := dk_16 22 (dk_at dksX5_looks_2 9 rfl rfl)
theorem dX5_looks_56 : decode cX5_looks 56 = .ok (.if_icmp .ge 47, 3) := dk_162 0 47 (dk_at dksX5_looks_2 11 rfl rfl)
theorem dX5_looks_59 : decode cX5_looks 59 = .ok (.aload_n 0, 1) := dk_42 (dk_at dksX5_looks_2 14 rfl rfl)
theorem dX5_looks_60 : decode cX5_looks 60 = .ok (.getfield 61, 3) := dk_180 0 61 (dk_at dksX5_looks_2 15 rfl rfl)
theorem dX5_looks_63 : decode cX5_looks 63 = .ok (.iload_n 1, 1) := dk_27 (dk_at dksX5_looks_2 18 rfl rfl)
theorem dX5_looks_64 : decode cX5_looks 64 = .ok (.dup2, 1) := dk_92 (dk_at dksX5_looks_2 19 rfl rfl)
theorem dX5_looks_65 : decode cX5_looks 65 = .ok (.iaload, 1) := dk_46 (dk_at dksX5_looks_2 20 rfl rfl)
theorem dX5_looks_66 : decode cX5_looks 66 = .ok (.iload_n 2, 1) := dk_28 (dk_at dksX5_looks_2 21 rfl rfl)
theorem dX5_looks_67 : decode cX5_looks 67 = .ok (.iload_n 1, 1) := dk_27 (dk_at dksX5_looks_2 22 rfl rfl)
theorem dX5_looks_68 : decode cX5_looks 68 = .ok (.if_icmp .eq 26, 3) := dk_159 0 26 (dk_at dksX5_looks_3 0 rfl rfl)
theorem dX5_looks_71 : decode cX5_looks 71 = .ok (.aload_n 0, 1) := dk_42 (dk_at dksX5_looks_3 3 rfl rfl)
theorem dX5_looks_72 : decode cX5_looks 72 = .ok (.iload_n 2, 1) := dk_28 (dk_at dksX5_looks_3 4 rfl rfl)
theorem dX5_looks_73 : decode cX5_looks 73 = .ok (.invokevirtual 117, 3) := dk_182 0 117 (dk_at dksX5_looks_3 5 rfl rfl)
theorem dX5_looks_76 : decode cX5_looks 76 = .ok (.ifCond .eq 18, 3) := dk_153 0 18 (dk_at dksX5_looks_3 8 rfl rfl)
theorem dX5_looks_79 : decode cX5_looks 79 = .ok (.aload_n 0, 1) := dk_42 (dk_at dksX5_looks_3 11 rfl rfl)
theorem dX5_looks_80 : decode cX5_looks 80 = .ok (.iload_n 1, 1) := dk_27 (dk_at dksX5_looks_3 12 rfl rfl)
theorem dX5_looks_81 : decode cX5_looks 81 = .ok (.iload_n 2, 1) := dk_28 (dk_at dksX5_looks_3 13 rfl rfl)
theorem dX5_looks_82 : decode cX5_looks 82 = .ok (.invokevirtual 267, 3) := dk_182 1 11 (dk_at dksX5_looks_3 14 rfl rfl)
theorem dX5_looks_85 : decode cX5_looks 85 = .ok (.ifCond .eq 9, 3) := dk_153 0 9 (dk_at dksX5_looks_3 17 rfl rfl)
theorem dX5_looks_88 : decode cX5_looks 88 = .ok (.iconst 1, 1) := dk_4 (dk_at dksX5_looks_3 20 rfl rfl)
theorem dX5_looks_89 : decode cX5_looks 89 = .ok (.iload_n 2, 1) := dk_28 (dk_at dksX5_looks_3 21 rfl rfl)
theorem dX5_looks_90 : decode cX5_looks 90 = .ok (.ishl, 1) := dk_120 (dk_at dksX5_looks_3 22 rfl rfl)
theorem dX5_looks_91 : decode cX5_looks 91 = .ok (.goto 4, 3) := dk_167 0 4 (dk_at dksX5_looks_4 0 rfl rfl)
theorem dX5_looks_94 : decode cX5_looks 94 = .ok (.iconst 0, 1) := dk_3 (dk_at dksX5_looks_4 3 rfl rfl)
theorem dX5_looks_95 : decode cX5_looks 95 = .ok (.ior, 1) := dk_128 (dk_at dksX5_looks_4 4 rfl rfl)
theorem dX5_looks_96 : decode cX5_looks 96 = .ok (.iastore, 1) := dk_79 (dk_at dksX5_looks_4 5 rfl rfl)
theorem dX5_looks_97 : decode cX5_looks 97 = .ok (.iinc 2 1, 3) := dk_132 2 1 (dk_at dksX5_looks_4 6 rfl rfl)
theorem dX5_looks_100 : decode cX5_looks 100 = .ok (.goto (-47), 3) := dk_167 255 209 (dk_at dksX5_looks_4 9 rfl rfl)
theorem dX5_looks_103 : decode cX5_looks 103 = .ok (.aload_n 0, 1) := dk_42 (dk_at dksX5_looks_4 12 rfl rfl)
theorem dX5_looks_104 : decode cX5_looks 104 = .ok (.getfield 64, 3) := dk_180 0 64 (dk_at dksX5_looks_4 13 rfl rfl)
theorem dX5_looks_107 : decode cX5_looks 107 = .ok (.iload_n 1, 1) := dk_27 (dk_at dksX5_looks_4 16 rfl rfl)
theorem dX5_looks_108 : decode cX5_looks 108 = .ok (.aload_n 0, 1) := dk_42 (dk_at dksX5_looks_4 17 rfl rfl)
theorem dX5_looks_109 : decode cX5_looks 109 = .ok (.iload_n 1, 1) := dk_27 (dk_at dksX5_looks_4 18 rfl rfl)
theorem dX5_looks_110 : decode cX5_looks 110 = .ok (.iconst 1, 1) := dk_4 (dk_at dksX5_looks_4 19 rfl rfl)
theorem dX5_looks_111 : decode cX5_looks 111 = .ok (.invokevirtual 113, 3) := dk_182 0 113 (dk_at dksX5_looks_4 20 rfl rfl)
theorem dX5_looks_114 : decode cX5_looks 114 = .ok (.ifCond .ne 14, 3) := dk_154 0 14 (dk_at dksX5_looks_5 0 rfl rfl)
theorem dX5_looks_117 : decode cX5_looks 117 = .ok (.aload_n 0, 1) := dk_42 (dk_at dksX5_looks_5 3 rfl rfl)
theorem dX5_looks_118 : decode cX5_looks 118 = .ok (.getfield 20, 3) := dk_180 0 20 (dk_at dksX5_looks_5 4 rfl rfl)
theorem dX5_looks_121 : decode cX5_looks 121 = .ok (.sipush 155, 3) := dk_17 0 155 (dk_at dksX5_looks_5 7 rfl rfl)
theorem dX5_looks_124 : decode cX5_looks 124 = .ok (.iaload, 1) := dk_46 (dk_at dksX5_looks_5 10 rfl rfl)
theorem dX5_looks_125 : decode cX5_looks 125 = .ok (.goto 4, 3) := dk_167 0 4 (dk_at dksX5_looks_5 11 rfl rfl)
theorem dX5_looks_128 : decode cX5_looks 128 = .ok (.iconst 0, 1) := dk_3 (dk_at dksX5_looks_5 14 rfl rfl)
theorem dX5_looks_129 : decode cX5_looks 129 = .ok (.aload_n 0, 1) := dk_42 (dk_at dksX5_looks_5 15 rfl rfl)
theorem dX5_looks_130 : decode cX5_looks 130 = .ok (.iload_n 1, 1) := dk_27 (dk_at dksX5_looks_5 16 rfl rfl)
theorem dX5_looks_131 : decode cX5_looks 131 = .ok (.iconst 0, 1) := dk_3 (dk_at dksX5_looks_5 17 rfl rfl)
theorem dX5_looks_132 : decode cX5_looks 132 = .ok (.invokevirtual 113, 3) := dk_182 0 113 (dk_at dksX5_looks_5 18 rfl rfl)
theorem dX5_looks_135 : decode cX5_looks 135 = .ok (.ifCond .ne 14, 3) := dk_154 0 14 (dk_at dksX5_looks_5 21 rfl rfl)
theorem dX5_looks_138 : decode cX5_looks 138 = .ok (.aload_n 0, 1) := dk_42 (dk_at dksX5_looks_6 0 rfl rfl)
theorem dX5_looks_139 : decode cX5_looks 139 = .ok (.getfield 20, 3) := dk_180 0 20 (dk_at dksX5_looks_6 1 rfl rfl)
theorem dX5_looks_142 : decode cX5_looks 142 = .ok (.sipush 156, 3) := dk_17 0 156 (dk_at dksX5_looks_6 4 rfl rfl)
theorem dX5_looks_145 : decode cX5_looks 145 = .ok (.iaload, 1) := dk_46 (dk_at dksX5_looks_6 7 rfl rfl)
theorem dX5_looks_146 : decode cX5_looks 146 = .ok (.goto 4, 3) := dk_167 0 4 (dk_at dksX5_looks_6 8 rfl rfl)
theorem dX5_looks_149 : decode cX5_looks 149 = .ok (.iconst 0, 1) := dk_3 (dk_at dksX5_looks_6 11 rfl rfl)
theorem dX5_looks_150 : decode cX5_looks 150 = .ok (.iadd, 1) := dk_96 (dk_at dksX5_looks_6 12 rfl rfl)
theorem dX5_looks_151 : decode cX5_looks 151 = .ok (.aload_n 0, 1) := dk_42 (dk_at dksX5_looks_6 13 rfl rfl)
theorem dX5_looks_152 : decode cX5_looks 152 = .ok (.iload_n 1, 1) := dk_27 (dk_at dksX5_looks_6 14 rfl rfl)
theorem dX5_looks_153 : decode cX5_looks 153 = .ok (.iconst 0, 1) := dk_3 (dk_at dksX5_looks_6 15 rfl rfl)
theorem dX5_looks_154 : decode cX5_looks 154 = .ok (.invokevirtual 113, 3) := dk_182 0 113 (dk_at dksX5_looks_6 16 rfl rfl)
theorem dX5_looks_157 : decode cX5_looks 157 = .ok (.aload_n 0, 1) := dk_42 (dk_at dksX5_looks_6 19 rfl rfl)
theorem dX5_looks_158 : decode cX5_looks 158 = .ok (.iload_n 1, 1) := dk_27 (dk_at dksX5_looks_6 20 rfl rfl)
theorem dX5_looks_159 : decode cX5_looks 159 = .ok (.iconst 2, 1) := dk_5 (dk_at dksX5_looks_6 21 rfl rfl)
theorem dX5_looks_160 : decode cX5_looks 160 = .ok (.invokevirtual 113, 3) := dk_182 0 113 (dk_at dksX5_looks_7 0 rfl rfl)
theorem dX5_looks_163 : decode cX5_looks 163 = .ok (.iadd, 1) := dk_96 (dk_at dksX5_looks_7 3 rfl rfl)
theorem dX5_looks_164 : decode cX5_looks 164 = .ok (.bipush 12, 2) := dk_16 12 (dk_at dksX5_looks_7 4 rfl rfl)
theorem dX5_looks_166 : decode cX5_looks 166 = .ok (.if_icmp .ne 14, 3) := dk_160 0 14 (dk_at dksX5_looks_7 6 rfl rfl)
theorem dX5_looks_169 : decode cX5_looks 169 = .ok (.aload_n 0, 1) := dk_42 (dk_at dksX5_looks_7 9 rfl rfl)
theorem dX5_looks_170 : decode cX5_looks 170 = .ok (.getfield 20, 3) := dk_180 0 20 (dk_at dksX5_looks_7 10 rfl rfl)
theorem dX5_looks_173 : decode cX5_looks 173 = .ok (.sipush 156, 3) := dk_17 0 156 (dk_at dksX5_looks_7 13 rfl rfl)
theorem dX5_looks_176 : decode cX5_looks 176 = .ok (.iaload, 1) := dk_46 (dk_at dksX5_looks_7 16 rfl rfl)
theorem dX5_looks_177 : decode cX5_looks 177 = .ok (.goto 4, 3) := dk_167 0 4 (dk_at dksX5_looks_7 17 rfl rfl)
theorem dX5_looks_180 : decode cX5_looks 180 = .ok (.iconst 0, 1) := dk_3 (dk_at dksX5_looks_7 20 rfl rfl)
theorem dX5_looks_181 : decode cX5_looks 181 = .ok (.iadd, 1) := dk_96 (dk_at dksX5_looks_7 21 rfl rfl)
theorem dX5_looks_182 : decode cX5_looks 182 = .ok (.iastore, 1) := dk_79 (dk_at dksX5_looks_7 22 rfl rfl)
theorem dX5_looks_183 : decode cX5_looks 183 = .ok (.iinc 1 1, 3) := dk_132 1 1 (dk_at dksX5_looks_8 0 rfl rfl)
theorem dX5_looks_186 : decode cX5_looks 186 = .ok (.goto (-164), 3) := dk_167 255 92 (dk_at dksX5_looks_8 3 rfl rfl)
theorem dX5_looks_189 : decode cX5_looks 189 = .ok (.return_, 1) := dk_177 (dk_at dksX5_looks_8 6 rfl rfl)
abbrev cX5_asksOf : ByteArray := prog_25_method_59_code
def yX5_asksOf : MethodName := ⟨RX5, "asksOf", "(I)V"⟩
def dkwX5_asksOf_12 : List UInt8 := [180, 0, 218, 4, 96, 181, 0, 218, 167, 255, 78, 177]
abbrev dktX5_asksOf_12 : List UInt8 := dkwX5_asksOf_12 ++ []
def dkwX5_asksOf_11 : List UInt8 := [3, 167, 0, 18, 33, 20, 1, 6, 148, 158, 0, 8, 16, 12, 167, 0, 5, 33, 136, 79, 42, 89]
abbrev dktX5_asksOf_11 : List UInt8 := dkwX5_asksOf_11 ++ dktX5_asksOf_12
def dkwX5_asksOf_10 : List UInt8 := [153, 0, 7, 4, 167, 0, 4, 3, 84, 28, 154, 0, 34, 42, 180, 0, 55, 27, 33, 9, 148, 156, 0, 7]
abbrev dktX5_asksOf_10 : List UInt8 := dkwX5_asksOf_10 ++ dktX5_asksOf_11
def dkwX5_asksOf_9 : List UInt8 := [154, 0, 67, 21, 5, 154, 0, 62, 42, 180, 0, 58, 27, 42, 180, 0, 58, 27, 51, 154, 0, 7, 28]
abbrev dktX5_asksOf_9 : List UInt8 := dkwX5_asksOf_9 ++ dktX5_asksOf_10
def dkwX5_asksOf_8 : List UInt8 := [42, 4, 182, 1, 3, 153, 0, 7, 4, 167, 0, 4, 3, 54, 6, 21, 6, 153, 0, 74, 42, 180, 0, 228]
abbrev dktX5_asksOf_8 : List UInt8 := dkwX5_asksOf_8 ++ dktX5_asksOf_9
def dkwX5_asksOf_7 : List UInt8 := [4, 182, 0, 246, 66, 42, 180, 0, 228, 54, 5, 42, 3, 181, 0, 228, 42, 6, 182, 0, 243, 153, 0, 11]
abbrev dktX5_asksOf_7 : List UInt8 := dkwX5_asksOf_7 ++ dktX5_asksOf_8
def dkwX5_asksOf_6 : List UInt8 := [42, 3, 181, 0, 228, 42, 89, 180, 0, 218, 4, 96, 181, 0, 218, 28, 153, 0, 7, 9, 167, 0, 8, 42]
abbrev dktX5_asksOf_6 : List UInt8 := dkwX5_asksOf_6 ++ dktX5_asksOf_7
def dkwX5_asksOf_5 : List UInt8 := [180, 0, 215, 162, 0, 173, 42, 42, 180, 0, 218, 182, 0, 221, 5, 160, 0, 7, 4, 167, 0, 4, 3, 61]
abbrev dktX5_asksOf_5 : List UInt8 := dkwX5_asksOf_5 ++ dktX5_asksOf_6
def dkwX5_asksOf_4 : List UInt8 := [17, 0, 162, 42, 180, 0, 20, 17, 0, 161, 46, 96, 46, 96, 181, 0, 215, 42, 180, 0, 218, 42]
abbrev dktX5_asksOf_4 : List UInt8 := dkwX5_asksOf_4 ++ dktX5_asksOf_5
def dkwX5_asksOf_3 : List UInt8 := [17, 1, 144, 42, 180, 0, 20, 17, 0, 161, 46, 104, 181, 0, 218, 42, 42, 180, 0, 218, 42, 180, 0, 20]
abbrev dktX5_asksOf_3 : List UInt8 := dkwX5_asksOf_3 ++ dktX5_asksOf_4
def dkwX5_asksOf_2 : List UInt8 := [162, 0, 23, 42, 180, 0, 52, 4, 28, 96, 42, 27, 28, 182, 0, 113, 79, 132, 2, 1, 167, 255, 233, 42]
abbrev dktX5_asksOf_2 : List UInt8 := dkwX5_asksOf_2 ++ dktX5_asksOf_3
def dkwX5_asksOf_1 : List UInt8 := [180, 0, 20, 17, 0, 161, 46, 2, 160, 0, 4, 177, 42, 180, 0, 52, 3, 27, 79, 3, 61, 28, 16, 7]
abbrev dktX5_asksOf_1 : List UInt8 := dkwX5_asksOf_1 ++ dktX5_asksOf_2
def dkwX5_asksOf_0 : List UInt8 := [42, 180, 0, 55, 27, 42, 180, 0, 20, 17, 0, 154, 46, 79, 42, 180, 0, 58, 27, 3, 84, 42]
abbrev dktX5_asksOf_0 : List UInt8 := dkwX5_asksOf_0 ++ dktX5_asksOf_1
theorem dksX5_asksOf_0 : cX5_asksOf.data.toList.drop 0 = dktX5_asksOf_0 := by decide +kernel
theorem dksX5_asksOf_1 : cX5_asksOf.data.toList.drop 22 = dktX5_asksOf_1 := dk_seg dksX5_asksOf_0 22 rfl rfl
theorem dksX5_asksOf_2 : cX5_asksOf.data.toList.drop 46 = dktX5_asksOf_2 := dk_seg dksX5_asksOf_1 24 rfl rfl
theorem dksX5_asksOf_3 : cX5_asksOf.data.toList.drop 70 = dktX5_asksOf_3 := dk_seg dksX5_asksOf_2 24 rfl rfl
theorem dksX5_asksOf_4 : cX5_asksOf.data.toList.drop 94 = dktX5_asksOf_4 := dk_seg dksX5_asksOf_3 24 rfl rfl
theorem dksX5_asksOf_5 : cX5_asksOf.data.toList.drop 116 = dktX5_asksOf_5 := dk_seg dksX5_asksOf_4 22 rfl rfl
theorem dksX5_asksOf_6 : cX5_asksOf.data.toList.drop 140 = dktX5_asksOf_6 := dk_seg dksX5_asksOf_5 24 rfl rfl
theorem dksX5_asksOf_7 : cX5_asksOf.data.toList.drop 164 = dktX5_asksOf_7 := dk_seg dksX5_asksOf_6 24 rfl rfl
theorem dksX5_asksOf_8 : cX5_asksOf.data.toList.drop 188 = dktX5_asksOf_8 := dk_seg dksX5_asksOf_7 24 rfl rfl
theorem dksX5_asksOf_9 : cX5_asksOf.data.toList.drop 212 = dktX5_asksOf_9 := dk_seg dksX5_asksOf_8 24 rfl rfl
theorem dksX5_asksOf_10 : cX5_asksOf.data.toList.drop 235 = dktX5_asksOf_10 := dk_seg dksX5_asksOf_9 23 rfl rfl
theorem dksX5_asksOf_11 : cX5_asksOf.data.toList.drop 259 = dktX5_asksOf_11 := dk_seg dksX5_asksOf_10 24 rfl rfl
theorem dksX5_asksOf_12 : cX5_asksOf.data.toList.drop 281 = dktX5_asksOf_12 := dk_seg dksX5_asksOf_11 22 rfl rfl
theorem dX5_asksOf_0 : decode cX5_asksOf 0 = .ok (.aload_n 0, 1) := dk_42 (dk_at dksX5_asksOf_0 0 rfl rfl)
theorem dX5_asksOf_1 : decode cX5_asksOf 1 = .ok (.getfield 55, 3) := dk_180 0 55 (dk_at dksX5_asksOf_0 1 rfl rfl)
theorem dX5_asksOf_4 : decode cX5_asksOf 4 = .ok (.iload_n 1, 1) := dk_27 (dk_at dksX5_asksOf_0 4 rfl rfl)
theorem dX5_asksOf_5 : decode cX5_asksOf 5 = .ok (.aload_n 0, 1) := dk_42 (dk_at dksX5_asksOf_0 5 rfl rfl)
theorem dX5_asksOf_6 : decode cX5_asksOf 6 = .ok (.getfield 20, 3) := dk_180 0 20 (dk_at dksX5_asksOf_0 6 rfl rfl)
theorem dX5_asksOf_9 : decode cX5_asksOf 9 = .ok (.sipush 154, 3) := dk_17 0 154 (dk_at dksX5_asksOf_0 9 rfl rfl)
theorem dX5_asksOf_12 : decode cX5_asksOf 12 = .ok (.iaload, 1) := dk_46 (dk_at dksX5_asksOf_0 12 rfl rfl)
theorem dX5_asksOf_13 : decode cX5_asksOf 13 = .ok (.iastore, 1) := dk_79 (dk_at dksX5_asksOf_0 13 rfl rfl)
theorem dX5_asksOf_14 : decode cX5_asksOf 14 = .ok (.aload_n 0, 1) := dk_42 (dk_at dksX5_asksOf_0 14 rfl rfl)
theorem dX5_asksOf_15 : decode cX5_asksOf 15 = .ok (.getfield 58, 3) := dk_180 0 58 (dk_at dksX5_asksOf_0 15 rfl rfl)
theorem dX5_asksOf_18 : decode cX5_asksOf 18 = .ok (.iload_n 1, 1) := dk_27 (dk_at dksX5_asksOf_0 18 rfl rfl)
theorem dX5_asksOf_19 : decode cX5_asksOf 19 = .ok (.iconst 0, 1) := dk_3 (dk_at dksX5_asksOf_0 19 rfl rfl)
theorem dX5_asksOf_20 : decode cX5_asksOf 20 = .ok (.bastore, 1) := dk_84 (dk_at dksX5_asksOf_0 20 rfl rfl)
theorem dX5_asksOf_21 : decode cX5_asksOf 21 = .ok (.aload_n 0, 1) := dk_42 (dk_at dksX5_asksOf_0 21 rfl rfl)
theorem dX5_asksOf_22 : decode cX5_asksOf 22 = .ok (.getfield 20, 3) := dk_180 0 20 (dk_at dksX5_asksOf_1 0 rfl rfl)
theorem dX5_asksOf_25 : decode cX5_asksOf 25 = .ok (.sipush 161, 3) := dk_17 0 161 (dk_at dksX5_asksOf_1 3 rfl rfl)
theorem dX5_asksOf_28 : decode cX5_asksOf 28 = .ok (.iaload, 1) := dk_46 (dk_at dksX5_asksOf_1 6 rfl rfl)
theorem dX5_asksOf_29 : decode cX5_asksOf 29 = .ok (.iconst (-1), 1) := dk_2 (dk_at dksX5_asksOf_1 7 rfl rfl)
theorem dX5_asksOf_30 : decode cX5_asksOf 30 = .ok (.if_icmp .ne 4, 3) := dk_160 0 4 (dk_at dksX5_asksOf_1 8 rfl rfl)
theorem dX5_asksOf_33 : decode cX5_asksOf 33 = .ok (.return_, 1) := dk_177 (dk_at dksX5_asksOf_1 11 rfl rfl)
theorem dX5_asksOf_34 : decode cX5_asksOf 34 = .ok (.aload_n 0, 1) := dk_42 (dk_at dksX5_asksOf_1 12 rfl rfl)
theorem dX5_asksOf_35 : decode cX5_asksOf 35 = .ok (.getfield 52, 3) := dk_180 0 52 (dk_at dksX5_asksOf_1 13 rfl rfl)
theorem dX5_asksOf_38 : decode cX5_asksOf 38 = .ok (.iconst 0, 1) := dk_3 (dk_at dksX5_asksOf_1 16 rfl rfl)
theorem dX5_asksOf_39 : decode cX5_asksOf 39 = .ok (.iload_n 1, 1) := dk_27 (dk_at dksX5_asksOf_1 17 rfl rfl)
theorem dX5_asksOf_40 : decode cX5_asksOf 40 = .ok (.iastore, 1) := dk_79 (dk_at dksX5_asksOf_1 18 rfl rfl)
theorem dX5_asksOf_41 : decode cX5_asksOf 41 = .ok (.iconst 0, 1) := dk_3 (dk_at dksX5_asksOf_1 19 rfl rfl)
theorem dX5_asksOf_42 : decode cX5_asksOf 42 = .ok (.istore_n 2, 1) := dk_61 (dk_at dksX5_asksOf_1 20 rfl rfl)
theorem dX5_asksOf_43 : decode cX5_asksOf 43 = .ok (.iload_n 2, 1) := dk_28 (dk_at dksX5_asksOf_1 21 rfl rfl)
theorem dX5_asksOf_44 : decode cX5_asksOf 44 = .ok (.bipush 7, 2) := dk_16 7 (dk_at dksX5_asksOf_1 22 rfl rfl)
theorem dX5_asksOf_46 : decode cX5_asksOf 46 = .ok (.if_icmp .ge 23, 3) := dk_162 0 23 (dk_at dksX5_asksOf_2 0 rfl rfl)
theorem dX5_asksOf_49 : decode cX5_asksOf 49 = .ok (.aload_n 0, 1) := dk_42 (dk_at dksX5_asksOf_2 3 rfl rfl)
theorem dX5_asksOf_50 : decode cX5_asksOf 50 = .ok (.getfield 52, 3) := dk_180 0 52 (dk_at dksX5_asksOf_2 4 rfl rfl)
theorem dX5_asksOf_53 : decode cX5_asksOf 53 = .ok (.iconst 1, 1) := dk_4 (dk_at dksX5_asksOf_2 7 rfl rfl)
theorem dX5_asksOf_54 : decode cX5_asksOf 54 = .ok (.iload_n 2, 1) := dk_28 (dk_at dksX5_asksOf_2 8 rfl rfl)
theorem dX5_asksOf_55 : decode cX5_asksOf 55 = .ok (.iadd, 1) := dk_96 (dk_at dksX5_asksOf_2 9 rfl rfl)
theorem dX5_asksOf_56 : decode cX5_asksOf 56 = .ok (.aload_n 0, 1) := dk_42 (dk_at dksX5_asksOf_2 10 rfl rfl)
theorem dX5_asksOf_57 : decode cX5_asksOf 57 = .ok (.iload_n 1, 1) := dk_27 (dk_at dksX5_asksOf_2 11 rfl rfl)
theorem dX5_asksOf_58 : decode cX5_asksOf 58 = .ok (.iload_n 2, 1) := dk_28 (dk_at dksX5_asksOf_2 12 rfl rfl)
theorem dX5_asksOf_59 : decode cX5_asksOf 59 = .ok (.invokevirtual 113, 3) := dk_182 0 113 (dk_at dksX5_asksOf_2 13 rfl rfl)
theorem dX5_asksOf_62 : decode cX5_asksOf 62 = .ok (.iastore, 1) := dk_79 (dk_at dksX5_asksOf_2 16 rfl rfl)
theorem dX5_asksOf_63 : decode cX5_asksOf 63 = .ok (.iinc 2 1, 3) := dk_132 2 1 (dk_at dksX5_asksOf_2 17 rfl rfl)
theorem dX5_asksOf_66 : decode cX5_asksOf 66 = .ok (.goto (-23), 3) := dk_167 255 233 (dk_at dksX5_asksOf_2 20 rfl rfl)
theorem dX5_asksOf_69 : decode cX5_asksOf 69 = .ok (.aload_n 0, 1) := dk_42 (dk_at dksX5_asksOf_2 23 rfl rfl)
theorem dX5_asksOf_70 : decode cX5_asksOf 70 = .ok (.sipush 400, 3) := dk_17 1 144 (dk_at dksX5_asksOf_3 0 rfl rfl)
theorem dX5_asksOf_73 : decode cX5_asksOf 73 = .ok (.aload_n 0, 1) := dk_42 (dk_at dksX5_asksOf_3 3 rfl rfl)
theorem dX5_asksOf_74 : decode cX5_asksOf 74 = .ok (.getfield 20, 3) := dk_180 0 20 (dk_at dksX5_asksOf_3 4 rfl rfl)
theorem dX5_asksOf_77 : decode cX5_asksOf 77 = .ok (.sipush 161, 3) := dk_17 0 161 (dk_at dksX5_asksOf_3 7 rfl rfl)
theorem dX5_asksOf_80 : decode cX5_asksOf 80 = .ok (.iaload, 1) := dk_46 (dk_at dksX5_asksOf_3 10 rfl rfl)
theorem dX5_asksOf_81 : decode cX5_asksOf 81 = .ok (.imul, 1) := dk_104 (dk_at dksX5_asksOf_3 11 rfl rfl)
theorem dX5_asksOf_82 : decode cX5_asksOf 82 = .ok (.putfield 218, 3) := dk_181 0 218 (dk_at dksX5_asksOf_3 12 rfl rfl)
theorem dX5_asksOf_85 : decode cX5_asksOf 85 = .ok (.aload_n 0, 1) := dk_42 (dk_at dksX5_asksOf_3 15 rfl rfl)
theorem dX5_asksOf_86 : decode cX5_asksOf 86 = .ok (.aload_n 0, 1) := dk_42 (dk_at dksX5_asksOf_3 16 rfl rfl)
theorem dX5_asksOf_87 : decode cX5_asksOf 87 = .ok (.getfield 218, 3) := dk_180 0 218 (dk_at dksX5_asksOf_3 17 rfl rfl)
theorem dX5_asksOf_90 : decode cX5_asksOf 90 = .ok (.aload_n 0, 1) := dk_42 (dk_at dksX5_asksOf_3 20 rfl rfl)
theorem dX5_asksOf_91 : decode cX5_asksOf 91 = .ok (.getfield 20, 3) := dk_180 0 20 (dk_at dksX5_asksOf_3 21 rfl rfl)
theorem dX5_asksOf_94 : decode cX5_asksOf 94 = .ok (.sipush 162, 3) := dk_17 0 162 (dk_at dksX5_asksOf_4 0 rfl rfl)
theorem dX5_asksOf_97 : decode cX5_asksOf 97 = .ok (.aload_n 0, 1) := dk_42 (dk_at dksX5_asksOf_4 3 rfl rfl)
theorem dX5_asksOf_98 : decode cX5_asksOf 98 = .ok (.getfield 20, 3) := dk_180 0 20 (dk_at dksX5_asksOf_4 4 rfl rfl)
theorem dX5_asksOf_101 : decode cX5_asksOf 101 = .ok (.sipush 161, 3) := dk_17 0 161 (dk_at dksX5_asksOf_4 7 rfl rfl)
theorem dX5_asksOf_104 : decode cX5_asksOf 104 = .ok (.iaload, 1) := dk_46 (dk_at dksX5_asksOf_4 10 rfl rfl)
theorem dX5_asksOf_105 : decode cX5_asksOf 105 = .ok (.iadd, 1) := dk_96 (dk_at dksX5_asksOf_4 11 rfl rfl)
theorem dX5_asksOf_106 : decode cX5_asksOf 106 = .ok (.iaload, 1) := dk_46 (dk_at dksX5_asksOf_4 12 rfl rfl)
theorem dX5_asksOf_107 : decode cX5_asksOf 107 = .ok (.iadd, 1) := dk_96 (dk_at dksX5_asksOf_4 13 rfl rfl)
theorem dX5_asksOf_108 : decode cX5_asksOf 108 = .ok (.putfield 215, 3) := dk_181 0 215 (dk_at dksX5_asksOf_4 14 rfl rfl)
theorem dX5_asksOf_111 : decode cX5_asksOf 111 = .ok (.aload_n 0, 1) := dk_42 (dk_at dksX5_asksOf_4 17 rfl rfl)
theorem dX5_asksOf_112 : decode cX5_asksOf 112 = .ok (.getfield 218, 3) := dk_180 0 218 (dk_at dksX5_asksOf_4 18 rfl rfl)
theorem dX5_asksOf_115 : decode cX5_asksOf 115 = .ok (.aload_n 0, 1) := dk_42 (dk_at dksX5_asksOf_4 21 rfl rfl)
theorem dX5_asksOf_116 : decode cX5_asksOf 116 = .ok (.getfield 215, 3) := dk_180 0 215 (dk_at dksX5_asksOf_5 0 rfl rfl)
theorem dX5_asksOf_119 : decode cX5_asksOf 119 = .ok (.if_icmp .ge 173, 3) := dk_162 0 173 (dk_at dksX5_asksOf_5 3 rfl rfl)
theorem dX5_asksOf_122 : decode cX5_asksOf 122 = .ok (.aload_n 0, 1) := dk_42 (dk_at dksX5_asksOf_5 6 rfl rfl)
theorem dX5_asksOf_123 : decode cX5_asksOf 123 = .ok (.aload_n 0, 1) := dk_42 (dk_at dksX5_asksOf_5 7 rfl rfl)
theorem dX5_asksOf_124 : decode cX5_asksOf 124 = .ok (.getfield 218, 3) := dk_180 0 218 (dk_at dksX5_asksOf_5 8 rfl rfl)
theorem dX5_asksOf_127 : decode cX5_asksOf 127 = .ok (.invokevirtual 221, 3) := dk_182 0 221 (dk_at dksX5_asksOf_5 11 rfl rfl)
theorem dX5_asksOf_130 : decode cX5_asksOf 130 = .ok (.iconst 2, 1) := dk_5 (dk_at dksX5_asksOf_5 14 rfl rfl)
theorem dX5_asksOf_131 : decode cX5_asksOf 131 = .ok (.if_icmp .ne 7, 3) := dk_160 0 7 (dk_at dksX5_asksOf_5 15 rfl rfl)
theorem dX5_asksOf_134 : decode cX5_asksOf 134 = .ok (.iconst 1, 1) := dk_4 (dk_at dksX5_asksOf_5 18 rfl rfl)
theorem dX5_asksOf_135 : decode cX5_asksOf 135 = .ok (.goto 4, 3) := dk_167 0 4 (dk_at dksX5_asksOf_5 19 rfl rfl)
theorem dX5_asksOf_138 : decode cX5_asksOf 138 = .ok (.iconst 0, 1) := dk_3 (dk_at dksX5_asksOf_5 22 rfl rfl)
theorem dX5_asksOf_139 : decode cX5_asksOf 139 = .ok (.istore_n 2, 1) := dk_61 (dk_at dksX5_asksOf_5 23 rfl rfl)
theorem dX5_asksOf_140 : decode cX5_asksOf 140 = .ok (.aload_n 0, 1) := dk_42 (dk_at dksX5_asksOf_6 0 rfl rfl)
theorem dX5_asksOf_141 : decode cX5_asksOf 141 = .ok (.iconst 0, 1) := dk_3 (dk_at dksX5_asksOf_6 1 rfl rfl)
theorem dX5_asksOf_142 : decode cX5_asksOf 142 = .ok (.putfield 228, 3) := dk_181 0 228 (dk_at dksX5_asksOf_6 2 rfl rfl)
theorem dX5_asksOf_145 : decode cX5_asksOf 145 = .ok (.aload_n 0, 1) := dk_42 (dk_at dksX5_asksOf_6 5 rfl rfl)
theorem dX5_asksOf_146 : decode cX5_asksOf 146 = .ok (.dup, 1) := dk_89 (dk_at dksX5_asksOf_6 6 rfl rfl)
theorem dX5_asksOf_147 : decode cX5_asksOf 147 = .ok (.getfield 218, 3) := dk_180 0 218 (dk_at dksX5_asksOf_6 7 rfl rfl)
theorem dX5_asksOf_150 : decode cX5_asksOf 150 = .ok (.iconst 1, 1) := dk_4 (dk_at dksX5_asksOf_6 10 rfl rfl)
theorem dX5_asksOf_151 : decode cX5_asksOf 151 = .ok (.iadd, 1) := dk_96 (dk_at dksX5_asksOf_6 11 rfl rfl)
theorem dX5_asksOf_152 : decode cX5_asksOf 152 = .ok (.putfield 218, 3) := dk_181 0 218 (dk_at dksX5_asksOf_6 12 rfl rfl)
theorem dX5_asksOf_155 : decode cX5_asksOf 155 = .ok (.iload_n 2, 1) := dk_28 (dk_at dksX5_asksOf_6 15 rfl rfl)
theorem dX5_asksOf_156 : decode cX5_asksOf 156 = .ok (.ifCond .eq 7, 3) := dk_153 0 7 (dk_at dksX5_asksOf_6 16 rfl rfl)
theorem dX5_asksOf_159 : decode cX5_asksOf 159 = .ok (.lconst 0, 1) := dk_9 (dk_at dksX5_asksOf_6 19 rfl rfl)
theorem dX5_asksOf_160 : decode cX5_asksOf 160 = .ok (.goto 8, 3) := dk_167 0 8 (dk_at dksX5_asksOf_6 20 rfl rfl)
theorem dX5_asksOf_163 : decode cX5_asksOf 163 = .ok (.aload_n 0, 1) := dk_42 (dk_at dksX5_asksOf_6 23 rfl rfl)
theorem dX5_asksOf_164 : decode cX5_asksOf 164 = .ok (.iconst 1, 1) := dk_4 (dk_at dksX5_asksOf_7 0 rfl rfl)
theorem dX5_asksOf_165 : decode cX5_asksOf 165 = .ok (.invokevirtual 246, 3) := dk_182 0 246 (dk_at dksX5_asksOf_7 1 rfl rfl)
theorem dX5_asksOf_168 : decode cX5_asksOf 168 = .ok (.lstore_n 3, 1) := dk_66 (dk_at dksX5_asksOf_7 4 rfl rfl)
theorem dX5_asksOf_169 : decode cX5_asksOf 169 = .ok (.aload_n 0, 1) := dk_42 (dk_at dksX5_asksOf_7 5 rfl rfl)
theorem dX5_asksOf_170 : decode cX5_asksOf 170 = .ok (.getfield 228, 3) := dk_180 0 228 (dk_at dksX5_asksOf_7 6 rfl rfl)
theorem dX5_asksOf_173 : decode cX5_asksOf 173 = .ok (.istore 5, 2) := dk_54 5 (dk_at dksX5_asksOf_7 9 rfl rfl)
theorem dX5_asksOf_175 : decode cX5_asksOf 175 = .ok (.aload_n 0, 1) := dk_42 (dk_at dksX5_asksOf_7 11 rfl rfl)
theorem dX5_asksOf_176 : decode cX5_asksOf 176 = .ok (.iconst 0, 1) := dk_3 (dk_at dksX5_asksOf_7 12 rfl rfl)
theorem dX5_asksOf_177 : decode cX5_asksOf 177 = .ok (.putfield 228, 3) := dk_181 0 228 (dk_at dksX5_asksOf_7 13 rfl rfl)
theorem dX5_asksOf_180 : decode cX5_asksOf 180 = .ok (.aload_n 0, 1) := dk_42 (dk_at dksX5_asksOf_7 16 rfl rfl)
theorem dX5_asksOf_181 : decode cX5_asksOf 181 = .ok (.iconst 3, 1) := dk_6 (dk_at dksX5_asksOf_7 17 rfl rfl)
theorem dX5_asksOf_182 : decode cX5_asksOf 182 = .ok (.invokevirtual 243, 3) := dk_182 0 243 (dk_at dksX5_asksOf_7 18 rfl rfl)
theorem dX5_asksOf_185 : decode cX5_asksOf 185 = .ok (.ifCond .eq 11, 3) := dk_153 0 11 (dk_at dksX5_asksOf_7 21 rfl rfl)
theorem dX5_asksOf_188 : decode cX5_asksOf 188 = .ok (.aload_n 0, 1) := dk_42 (dk_at dksX5_asksOf_8 0 rfl rfl)
theorem dX5_asksOf_189 : decode cX5_asksOf 189 = .ok (.iconst 1, 1) := dk_4 (dk_at dksX5_asksOf_8 1 rfl rfl)
theorem dX5_asksOf_190 : decode cX5_asksOf 190 = .ok (.invokevirtual 259, 3) := dk_182 1 3 (dk_at dksX5_asksOf_8 2 rfl rfl)
theorem dX5_asksOf_193 : decode cX5_asksOf 193 = .ok (.ifCond .eq 7, 3) := dk_153 0 7 (dk_at dksX5_asksOf_8 5 rfl rfl)
theorem dX5_asksOf_196 : decode cX5_asksOf 196 = .ok (.iconst 1, 1) := dk_4 (dk_at dksX5_asksOf_8 8 rfl rfl)
theorem dX5_asksOf_197 : decode cX5_asksOf 197 = .ok (.goto 4, 3) := dk_167 0 4 (dk_at dksX5_asksOf_8 9 rfl rfl)
theorem dX5_asksOf_200 : decode cX5_asksOf 200 = .ok (.iconst 0, 1) := dk_3 (dk_at dksX5_asksOf_8 12 rfl rfl)
theorem dX5_asksOf_201 : decode cX5_asksOf 201 = .ok (.istore 6, 2) := dk_54 6 (dk_at dksX5_asksOf_8 13 rfl rfl)
theorem dX5_asksOf_203 : decode cX5_asksOf 203 = .ok (.iload 6, 2) := dk_21 6 (dk_at dksX5_asksOf_8 15 rfl rfl)
theorem dX5_asksOf_205 : decode cX5_asksOf 205 = .ok (.ifCond .eq 74, 3) := dk_153 0 74 (dk_at dksX5_asksOf_8 17 rfl rfl)
theorem dX5_asksOf_208 : decode cX5_asksOf 208 = .ok (.aload_n 0, 1) := dk_42 (dk_at dksX5_asksOf_8 20 rfl rfl)
theorem dX5_asksOf_209 : decode cX5_asksOf 209 = .ok (.getfield 228, 3) := dk_180 0 228 (dk_at dksX5_asksOf_8 21 rfl rfl)
theorem dX5_asksOf_212 : decode cX5_asksOf 212 = .ok (.ifCond .ne 67, 3) := dk_154 0 67 (dk_at dksX5_asksOf_9 0 rfl rfl)
theorem dX5_asksOf_215 : decode cX5_asksOf 215 = .ok (.iload 5, 2) := dk_21 5 (dk_at dksX5_asksOf_9 3 rfl rfl)
theorem dX5_asksOf_217 : decode cX5_asksOf 217 = .ok (.ifCond .ne 62, 3) := dk_154 0 62 (dk_at dksX5_asksOf_9 5 rfl rfl)
theorem dX5_asksOf_220 : decode cX5_asksOf 220 = .ok (.aload_n 0, 1) := dk_42 (dk_at dksX5_asksOf_9 8 rfl rfl)
theorem dX5_asksOf_221 : decode cX5_asksOf 221 = .ok (.getfield 58, 3) := dk_180 0 58 (dk_at dksX5_asksOf_9 9 rfl rfl)
theorem dX5_asksOf_224 : decode cX5_asksOf 224 = .ok (.iload_n 1, 1) := dk_27 (dk_at dksX5_asksOf_9 12 rfl rfl)
theorem dX5_asksOf_225 : decode cX5_asksOf 225 = .ok (.aload_n 0, 1) := dk_42 (dk_at dksX5_asksOf_9 13 rfl rfl)
theorem dX5_asksOf_226 : decode cX5_asksOf 226 = .ok (.getfield 58, 3) := dk_180 0 58 (dk_at dksX5_asksOf_9 14 rfl rfl)
theorem dX5_asksOf_229 : decode cX5_asksOf 229 = .ok (.iload_n 1, 1) := dk_27 (dk_at dksX5_asksOf_9 17 rfl rfl)
theorem dX5_asksOf_230 : decode cX5_asksOf 230 = .ok (.baload, 1) := dk_51 (dk_at dksX5_asksOf_9 18 rfl rfl)
theorem dX5_asksOf_231 : decode cX5_asksOf 231 = .ok (.ifCond .ne 7, 3) := dk_154 0 7 (dk_at dksX5_asksOf_9 19 rfl rfl)
theorem dX5_asksOf_234 : decode cX5_asksOf 234 = .ok (.iload_n 2, 1) := dk_28 (dk_at dksX5_asksOf_9 22 rfl rfl)
theorem dX5_asksOf_235 : decode cX5_asksOf 235 = .ok (.ifCond .eq 7, 3) := dk_153 0 7 (dk_at dksX5_asksOf_10 0 rfl rfl)
theorem dX5_asksOf_238 : decode cX5_asksOf 238 = .ok (.iconst 1, 1) := dk_4 (dk_at dksX5_asksOf_10 3 rfl rfl)
theorem dX5_asksOf_239 : decode cX5_asksOf 239 = .ok (.goto 4, 3) := dk_167 0 4 (dk_at dksX5_asksOf_10 4 rfl rfl)
theorem dX5_asksOf_242 : decode cX5_asksOf 242 = .ok (.iconst 0, 1) := dk_3 (dk_at dksX5_asksOf_10 7 rfl rfl)
theorem dX5_asksOf_243 : decode cX5_asksOf 243 = .ok (.bastore, 1) := dk_84 (dk_at dksX5_asksOf_10 8 rfl rfl)
theorem dX5_asksOf_244 : decode cX5_asksOf 244 = .ok (.iload_n 2, 1) := dk_28 (dk_at dksX5_asksOf_10 9 rfl rfl)
theorem dX5_asksOf_245 : decode cX5_asksOf 245 = .ok (.ifCond .ne 34, 3) := dk_154 0 34 (dk_at dksX5_asksOf_10 10 rfl rfl)
theorem dX5_asksOf_248 : decode cX5_asksOf 248 = .ok (.aload_n 0, 1) := dk_42 (dk_at dksX5_asksOf_10 13 rfl rfl)
theorem dX5_asksOf_249 : decode cX5_asksOf 249 = .ok (.getfield 55, 3) := dk_180 0 55 (dk_at dksX5_asksOf_10 14 rfl rfl)
theorem dX5_asksOf_252 : decode cX5_asksOf 252 = .ok (.iload_n 1, 1) := dk_27 (dk_at dksX5_asksOf_10 17 rfl rfl)
theorem dX5_asksOf_253 : decode cX5_asksOf 253 = .ok (.lload_n 3, 1) := dk_33 (dk_at dksX5_asksOf_10 18 rfl rfl)
theorem dX5_asksOf_254 : decode cX5_asksOf 254 = .ok (.lconst 0, 1) := dk_9 (dk_at dksX5_asksOf_10 19 rfl rfl)
theorem dX5_asksOf_255 : decode cX5_asksOf 255 = .ok (.lcmp, 1) := dk_148 (dk_at dksX5_asksOf_10 20 rfl rfl)
theorem dX5_asksOf_256 : decode cX5_asksOf 256 = .ok (.ifCond .ge 7, 3) := dk_156 0 7 (dk_at dksX5_asksOf_10 21 rfl rfl)
theorem dX5_asksOf_259 : decode cX5_asksOf 259 = .ok (.iconst 0, 1) := dk_3 (dk_at dksX5_asksOf_11 0 rfl rfl)
theorem dX5_asksOf_260 : decode cX5_asksOf 260 = .ok (.goto 18, 3) := dk_167 0 18 (dk_at dksX5_asksOf_11 1 rfl rfl)
theorem dX5_asksOf_263 : decode cX5_asksOf 263 = .ok (.lload_n 3, 1) := dk_33 (dk_at dksX5_asksOf_11 4 rfl rfl)
theorem dX5_asksOf_264 : decode cX5_asksOf 264 = .ok (.ldc2_w 262, 3) := dk_20 1 6 (dk_at dksX5_asksOf_11 5 rfl rfl)
theorem dX5_asksOf_267 : decode cX5_asksOf 267 = .ok (.lcmp, 1) := dk_148 (dk_at dksX5_asksOf_11 8 rfl rfl)
theorem dX5_asksOf_268 : decode cX5_asksOf 268 = .ok (.ifCond .le 8, 3) := dk_158 0 8 (dk_at dksX5_asksOf_11 9 rfl rfl)
theorem dX5_asksOf_271 : decode cX5_asksOf 271 = .ok (.bipush 12, 2) := dk_16 12 (dk_at dksX5_asksOf_11 12 rfl rfl)
theorem dX5_asksOf_273 : decode cX5_asksOf 273 = .ok (.goto 5, 3) := dk_167 0 5 (dk_at dksX5_asksOf_11 14 rfl rfl)
theorem dX5_asksOf_276 : decode cX5_asksOf 276 = .ok (.lload_n 3, 1) := dk_33 (dk_at dksX5_asksOf_11 17 rfl rfl)
theorem dX5_asksOf_277 : decode cX5_asksOf 277 = .ok (.l2i, 1) := dk_136 (dk_at dksX5_asksOf_11 18 rfl rfl)
theorem dX5_asksOf_278 : decode cX5_asksOf 278 = .ok (.iastore, 1) := dk_79 (dk_at dksX5_asksOf_11 19 rfl rfl)
theorem dX5_asksOf_279 : decode cX5_asksOf 279 = .ok (.aload_n 0, 1) := dk_42 (dk_at dksX5_asksOf_11 20 rfl rfl)
theorem dX5_asksOf_280 : decode cX5_asksOf 280 = .ok (.dup, 1) := dk_89 (dk_at dksX5_asksOf_11 21 rfl rfl)
theorem dX5_asksOf_281 : decode cX5_asksOf 281 = .ok (.getfield 218, 3) := dk_180 0 218 (dk_at dksX5_asksOf_12 0 rfl rfl)
theorem dX5_asksOf_284 : decode cX5_asksOf 284 = .ok (.iconst 1, 1) := dk_4 (dk_at dksX5_asksOf_12 3 rfl rfl)
theorem dX5_asksOf_285 : decode cX5_asksOf 285 = .ok (.iadd, 1) := dk_96 (dk_at dksX5_asksOf_12 4 rfl rfl)
theorem dX5_asksOf_286 : decode cX5_asksOf 286 = .ok (.putfield 218, 3) := dk_181 0 218 (dk_at dksX5_asksOf_12 5 rfl rfl)
theorem dX5_asksOf_289 : decode cX5_asksOf 289 = .ok (.goto (-178), 3) := dk_167 255 78 (dk_at dksX5_asksOf_12 8 rfl rfl)
theorem dX5_asksOf_292 : decode cX5_asksOf 292 = .ok (.return_, 1) := dk_177 (dk_at dksX5_asksOf_12 11 rfl rfl)
abbrev cX5_codeAt : ByteArray := prog_25_method_49_code
def yX5_codeAt : MethodName := ⟨RX5, "codeAt", "(I)I"⟩
def dkwX5_codeAt_0 : List UInt8 := [27, 42, 180, 0, 215, 162, 0, 16, 42, 180, 0, 20, 17, 0, 168, 27, 96, 46, 167, 0, 4, 3, 172]
abbrev dktX5_codeAt_0 : List UInt8 := dkwX5_codeAt_0 ++ []
theorem dksX5_codeAt_0 : cX5_codeAt.data.toList.drop 0 = dktX5_codeAt_0 := by decide +kernel
theorem dX5_codeAt_0 : decode cX5_codeAt 0 = .ok (.iload_n 1, 1) := dk_27 (dk_at dksX5_codeAt_0 0 rfl rfl)
theorem dX5_codeAt_1 : decode cX5_codeAt 1 = .ok (.aload_n 0, 1) := dk_42 (dk_at dksX5_codeAt_0 1 rfl rfl)
theorem dX5_codeAt_2 : decode cX5_codeAt 2 = .ok (.getfield 215, 3) := dk_180 0 215 (dk_at dksX5_codeAt_0 2 rfl rfl)
theorem dX5_codeAt_5 : decode cX5_codeAt 5 = .ok (.if_icmp .ge 16, 3) := dk_162 0 16 (dk_at dksX5_codeAt_0 5 rfl rfl)
theorem dX5_codeAt_8 : decode cX5_codeAt 8 = .ok (.aload_n 0, 1) := dk_42 (dk_at dksX5_codeAt_0 8 rfl rfl)
theorem dX5_codeAt_9 : decode cX5_codeAt 9 = .ok (.getfield 20, 3) := dk_180 0 20 (dk_at dksX5_codeAt_0 9 rfl rfl)
theorem dX5_codeAt_12 : decode cX5_codeAt 12 = .ok (.sipush 168, 3) := dk_17 0 168 (dk_at dksX5_codeAt_0 12 rfl rfl)
theorem dX5_codeAt_15 : decode cX5_codeAt 15 = .ok (.iload_n 1, 1) := dk_27 (dk_at dksX5_codeAt_0 15 rfl rfl)
theorem dX5_codeAt_16 : decode cX5_codeAt 16 = .ok (.iadd, 1) := dk_96 (dk_at dksX5_codeAt_0 16 rfl rfl)
theorem dX5_codeAt_17 : decode cX5_codeAt 17 = .ok (.iaload, 1) := dk_46 (dk_at dksX5_codeAt_0 17 rfl rfl)
theorem dX5_codeAt_18 : decode cX5_codeAt 18 = .ok (.goto 4, 3) := dk_167 0 4 (dk_at dksX5_codeAt_0 18 rfl rfl)
theorem dX5_codeAt_21 : decode cX5_codeAt 21 = .ok (.iconst 0, 1) := dk_3 (dk_at dksX5_codeAt_0 21 rfl rfl)
theorem dX5_codeAt_22 : decode cX5_codeAt 22 = .ok (.ireturn, 1) := dk_172 (dk_at dksX5_codeAt_0 22 rfl rfl)
abbrev cX5_sumOf : ByteArray := prog_25_method_52_code
def yX5_sumOf : MethodName := ⟨RX5, "sumOf", "(Z)J"⟩
def dkwX5_sumOf_4 : List UInt8 := [182, 0, 236, 65, 167, 255, 162, 32, 173]
abbrev dktX5_sumOf_4 : List UInt8 := dkwX5_sumOf_4 ++ []
def dkwX5_sumOf_3 : List UInt8 := [27, 182, 0, 232, 55, 5, 42, 21, 4, 153, 0, 10, 32, 22, 5, 97, 167, 0, 7, 32, 22, 5, 101, 27]
abbrev dktX5_sumOf_3 : List UInt8 := dkwX5_sumOf_3 ++ dktX5_sumOf_4
def dkwX5_sumOf_2 : List UInt8 := [184, 0, 193, 160, 0, 7, 4, 167, 0, 4, 3, 54, 4, 42, 89, 180, 0, 218, 4, 96, 181, 0, 218, 42]
abbrev dktX5_sumOf_2 : List UInt8 := dkwX5_sumOf_2 ++ dktX5_sumOf_3
def dkwX5_sumOf_1 : List UInt8 := [180, 0, 218, 182, 0, 221, 16, 45, 184, 0, 193, 160, 0, 68, 42, 42, 180, 0, 218, 182, 0, 221, 16, 43]
abbrev dktX5_sumOf_1 : List UInt8 := dkwX5_sumOf_1 ++ dktX5_sumOf_2
def dkwX5_sumOf_0 : List UInt8 := [42, 27, 182, 0, 232, 65, 42, 42, 180, 0, 218, 182, 0, 221, 16, 43, 184, 0, 193, 159, 0, 19, 42, 42]
abbrev dktX5_sumOf_0 : List UInt8 := dkwX5_sumOf_0 ++ dktX5_sumOf_1
theorem dksX5_sumOf_0 : cX5_sumOf.data.toList.drop 0 = dktX5_sumOf_0 := by decide +kernel
theorem dksX5_sumOf_1 : cX5_sumOf.data.toList.drop 24 = dktX5_sumOf_1 := dk_seg dksX5_sumOf_0 24 rfl rfl
theorem dksX5_sumOf_2 : cX5_sumOf.data.toList.drop 48 = dktX5_sumOf_2 := dk_seg dksX5_sumOf_1 24 rfl rfl
theorem dksX5_sumOf_3 : cX5_sumOf.data.toList.drop 72 = dktX5_sumOf_3 := dk_seg dksX5_sumOf_2 24 rfl rfl
theorem dksX5_sumOf_4 : cX5_sumOf.data.toList.drop 96 = dktX5_sumOf_4 := dk_seg dksX5_sumOf_3 24 rfl rfl
theorem dX5_sumOf_0 : decode cX5_sumOf 0 = .ok (.aload_n 0, 1) := dk_42 (dk_at dksX5_sumOf_0 0 rfl rfl)
theorem dX5_sumOf_1 : decode cX5_sumOf 1 = .ok (.iload_n 1, 1) := dk_27 (dk_at dksX5_sumOf_0 1 rfl rfl)
theorem dX5_sumOf_2 : decode cX5_sumOf 2 = .ok (.invokevirtual 232, 3) := dk_182 0 232 (dk_at dksX5_sumOf_0 2 rfl rfl)
theorem dX5_sumOf_5 : decode cX5_sumOf 5 = .ok (.lstore_n 2, 1) := dk_65 (dk_at dksX5_sumOf_0 5 rfl rfl)
theorem dX5_sumOf_6 : decode cX5_sumOf 6 = .ok (.aload_n 0, 1) := dk_42 (dk_at dksX5_sumOf_0 6 rfl rfl)
theorem dX5_sumOf_7 : decode cX5_sumOf 7 = .ok (.aload_n 0, 1) := dk_42 (dk_at dksX5_sumOf_0 7 rfl rfl)
theorem dX5_sumOf_8 : decode cX5_sumOf 8 = .ok (.getfield 218, 3) := dk_180 0 218 (dk_at dksX5_sumOf_0 8 rfl rfl)
theorem dX5_sumOf_11 : decode cX5_sumOf 11 = .ok (.invokevirtual 221, 3) := dk_182 0 221 (dk_at dksX5_sumOf_0 11 rfl rfl)
theorem dX5_sumOf_14 : decode cX5_sumOf 14 = .ok (.bipush 43, 2) := dk_16 43 (dk_at dksX5_sumOf_0 14 rfl rfl)
theorem dX5_sumOf_16 : decode cX5_sumOf 16 = .ok (.invokestatic 193, 3) := dk_184 0 193 (dk_at dksX5_sumOf_0 16 rfl rfl)
theorem dX5_sumOf_19 : decode cX5_sumOf 19 = .ok (.if_icmp .eq 19, 3) := dk_159 0 19 (dk_at dksX5_sumOf_0 19 rfl rfl)
theorem dX5_sumOf_22 : decode cX5_sumOf 22 = .ok (.aload_n 0, 1) := dk_42 (dk_at dksX5_sumOf_0 22 rfl rfl)
theorem dX5_sumOf_23 : decode cX5_sumOf 23 = .ok (.aload_n 0, 1) := dk_42 (dk_at dksX5_sumOf_0 23 rfl rfl)
theorem dX5_sumOf_24 : decode cX5_sumOf 24 = .ok (.getfield 218, 3) := dk_180 0 218 (dk_at dksX5_sumOf_1 0 rfl rfl)
theorem dX5_sumOf_27 : decode cX5_sumOf 27 = .ok (.invokevirtual 221, 3) := dk_182 0 221 (dk_at dksX5_sumOf_1 3 rfl rfl)
theorem dX5_sumOf_30 : decode cX5_sumOf 30 = .ok (.bipush 45, 2) := dk_16 45 (dk_at dksX5_sumOf_1 6 rfl rfl)
theorem dX5_sumOf_32 : decode cX5_sumOf 32 = .ok (.invokestatic 193, 3) := dk_184 0 193 (dk_at dksX5_sumOf_1 8 rfl rfl)
theorem dX5_sumOf_35 : decode cX5_sumOf 35 = .ok (.if_icmp .ne 68, 3) := dk_160 0 68 (dk_at dksX5_sumOf_1 11 rfl rfl)
theorem dX5_sumOf_38 : decode cX5_sumOf 38 = .ok (.aload_n 0, 1) := dk_42 (dk_at dksX5_sumOf_1 14 rfl rfl)
theorem dX5_sumOf_39 : decode cX5_sumOf 39 = .ok (.aload_n 0, 1) := dk_42 (dk_at dksX5_sumOf_1 15 rfl rfl)
theorem dX5_sumOf_40 : decode cX5_sumOf 40 = .ok (.getfield 218, 3) := dk_180 0 218 (dk_at dksX5_sumOf_1 16 rfl rfl)
theorem dX5_sumOf_43 : decode cX5_sumOf 43 = .ok (.invokevirtual 221, 3) := dk_182 0 221 (dk_at dksX5_sumOf_1 19 rfl rfl)
theorem dX5_sumOf_46 : decode cX5_sumOf 46 = .ok (.bipush 43, 2) := dk_16 43 (dk_at dksX5_sumOf_1 22 rfl rfl)
theorem dX5_sumOf_48 : decode cX5_sumOf 48 = .ok (.invokestatic 193, 3) := dk_184 0 193 (dk_at dksX5_sumOf_2 0 rfl rfl)
theorem dX5_sumOf_51 : decode cX5_sumOf 51 = .ok (.if_icmp .ne 7, 3) := dk_160 0 7 (dk_at dksX5_sumOf_2 3 rfl rfl)
theorem dX5_sumOf_54 : decode cX5_sumOf 54 = .ok (.iconst 1, 1) := dk_4 (dk_at dksX5_sumOf_2 6 rfl rfl)
theorem dX5_sumOf_55 : decode cX5_sumOf 55 = .ok (.goto 4, 3) := dk_167 0 4 (dk_at dksX5_sumOf_2 7 rfl rfl)
theorem dX5_sumOf_58 : decode cX5_sumOf 58 = .ok (.iconst 0, 1) := dk_3 (dk_at dksX5_sumOf_2 10 rfl rfl)
theorem dX5_sumOf_59 : decode cX5_sumOf 59 = .ok (.istore 4, 2) := dk_54 4 (dk_at dksX5_sumOf_2 11 rfl rfl)
theorem dX5_sumOf_61 : decode cX5_sumOf 61 = .ok (.aload_n 0, 1) := dk_42 (dk_at dksX5_sumOf_2 13 rfl rfl)
theorem dX5_sumOf_62 : decode cX5_sumOf 62 = .ok (.dup, 1) := dk_89 (dk_at dksX5_sumOf_2 14 rfl rfl)
theorem dX5_sumOf_63 : decode cX5_sumOf 63 = .ok (.getfield 218, 3) := dk_180 0 218 (dk_at dksX5_sumOf_2 15 rfl rfl)
theorem dX5_sumOf_66 : decode cX5_sumOf 66 = .ok (.iconst 1, 1) := dk_4 (dk_at dksX5_sumOf_2 18 rfl rfl)
theorem dX5_sumOf_67 : decode cX5_sumOf 67 = .ok (.iadd, 1) := dk_96 (dk_at dksX5_sumOf_2 19 rfl rfl)
theorem dX5_sumOf_68 : decode cX5_sumOf 68 = .ok (.putfield 218, 3) := dk_181 0 218 (dk_at dksX5_sumOf_2 20 rfl rfl)
theorem dX5_sumOf_71 : decode cX5_sumOf 71 = .ok (.aload_n 0, 1) := dk_42 (dk_at dksX5_sumOf_2 23 rfl rfl)
theorem dX5_sumOf_72 : decode cX5_sumOf 72 = .ok (.iload_n 1, 1) := dk_27 (dk_at dksX5_sumOf_3 0 rfl rfl)
theorem dX5_sumOf_73 : decode cX5_sumOf 73 = .ok (.invokevirtual 232, 3) := dk_182 0 232 (dk_at dksX5_sumOf_3 1 rfl rfl)
theorem dX5_sumOf_76 : decode cX5_sumOf 76 = .ok (.lstore 5, 2) := dk_55 5 (dk_at dksX5_sumOf_3 4 rfl rfl)
theorem dX5_sumOf_78 : decode cX5_sumOf 78 = .ok (.aload_n 0, 1) := dk_42 (dk_at dksX5_sumOf_3 6 rfl rfl)
theorem dX5_sumOf_79 : decode cX5_sumOf 79 = .ok (.iload 4, 2) := dk_21 4 (dk_at dksX5_sumOf_3 7 rfl rfl)
theorem dX5_sumOf_81 : decode cX5_sumOf 81 = .ok (.ifCond .eq 10, 3) := dk_153 0 10 (dk_at dksX5_sumOf_3 9 rfl rfl)
theorem dX5_sumOf_84 : decode cX5_sumOf 84 = .ok (.lload_n 2, 1) := dk_32 (dk_at dksX5_sumOf_3 12 rfl rfl)
theorem dX5_sumOf_85 : decode cX5_sumOf 85 = .ok (.lload 5, 2) := dk_22 5 (dk_at dksX5_sumOf_3 13 rfl rfl)
theorem dX5_sumOf_87 : decode cX5_sumOf 87 = .ok (.ladd, 1) := dk_97 (dk_at dksX5_sumOf_3 15 rfl rfl)
theorem dX5_sumOf_88 : decode cX5_sumOf 88 = .ok (.goto 7, 3) := dk_167 0 7 (dk_at dksX5_sumOf_3 16 rfl rfl)
theorem dX5_sumOf_91 : decode cX5_sumOf 91 = .ok (.lload_n 2, 1) := dk_32 (dk_at dksX5_sumOf_3 19 rfl rfl)
theorem dX5_sumOf_92 : decode cX5_sumOf 92 = .ok (.lload 5, 2) := dk_22 5 (dk_at dksX5_sumOf_3 20 rfl rfl)
theorem dX5_sumOf_94 : decode cX5_sumOf 94 = .ok (.lsub, 1) := dk_101 (dk_at dksX5_sumOf_3 22 rfl rfl)
theorem dX5_sumOf_95 : decode cX5_sumOf 95 = .ok (.iload_n 1, 1) := dk_27 (dk_at dksX5_sumOf_3 23 rfl rfl)
theorem dX5_sumOf_96 : decode cX5_sumOf 96 = .ok (.invokevirtual 236, 3) := dk_182 0 236 (dk_at dksX5_sumOf_4 0 rfl rfl)
theorem dX5_sumOf_99 : decode cX5_sumOf 99 = .ok (.lstore_n 2, 1) := dk_65 (dk_at dksX5_sumOf_4 3 rfl rfl)
theorem dX5_sumOf_100 : decode cX5_sumOf 100 = .ok (.goto (-94), 3) := dk_167 255 162 (dk_at dksX5_sumOf_4 4 rfl rfl)
theorem dX5_sumOf_103 : decode cX5_sumOf 103 = .ok (.lload_n 2, 1) := dk_32 (dk_at dksX5_sumOf_4 7 rfl rfl)
theorem dX5_sumOf_104 : decode cX5_sumOf 104 = .ok (.lreturn, 1) := dk_173 (dk_at dksX5_sumOf_4 8 rfl rfl)
abbrev cX5_termOf : ByteArray := prog_25_method_53_code
def yX5_termOf : MethodName := ⟨RX5, "termOf", "(Z)J"⟩
def dkwX5_termOf_5 : List UInt8 := [32, 22, 5, 105, 167, 0, 7, 32, 22, 5, 109, 27, 182, 0, 236, 65, 167, 255, 127, 32, 173]
abbrev dktX5_termOf_5 : List UInt8 := dkwX5_termOf_5 ++ []
def dkwX5_termOf_4 : List UInt8 := [154, 0, 7, 27, 153, 0, 7, 4, 167, 0, 4, 3, 181, 0, 228, 10, 55, 5, 42, 21, 4, 153, 0, 10]
abbrev dktX5_termOf_4 : List UInt8 := dkwX5_termOf_4 ++ dktX5_termOf_5
def dkwX5_termOf_3 : List UInt8 := [27, 182, 0, 240, 55, 5, 21, 4, 154, 0, 33, 22, 5, 9, 148, 154, 0, 26, 42, 42, 180, 0, 228]
abbrev dktX5_termOf_3 : List UInt8 := dkwX5_termOf_3 ++ dktX5_termOf_4
def dkwX5_termOf_2 : List UInt8 := [184, 0, 193, 160, 0, 7, 4, 167, 0, 4, 3, 54, 4, 42, 89, 180, 0, 218, 4, 96, 181, 0, 218, 42]
abbrev dktX5_termOf_2 : List UInt8 := dkwX5_termOf_2 ++ dktX5_termOf_3
def dkwX5_termOf_1 : List UInt8 := [180, 0, 218, 182, 0, 221, 16, 47, 184, 0, 193, 160, 0, 103, 42, 42, 180, 0, 218, 182, 0, 221, 16, 42]
abbrev dktX5_termOf_1 : List UInt8 := dkwX5_termOf_1 ++ dktX5_termOf_2
def dkwX5_termOf_0 : List UInt8 := [42, 27, 182, 0, 240, 65, 42, 42, 180, 0, 218, 182, 0, 221, 16, 42, 184, 0, 193, 159, 0, 19, 42, 42]
abbrev dktX5_termOf_0 : List UInt8 := dkwX5_termOf_0 ++ dktX5_termOf_1
theorem dksX5_termOf_0 : cX5_termOf.data.toList.drop 0 = dktX5_termOf_0 := by decide +kernel
theorem dksX5_termOf_1 : cX5_termOf.data.toList.drop 24 = dktX5_termOf_1 := dk_seg dksX5_termOf_0 24 rfl rfl
theorem dksX5_termOf_2 : cX5_termOf.data.toList.drop 48 = dktX5_termOf_2 := dk_seg dksX5_termOf_1 24 rfl rfl
theorem dksX5_termOf_3 : cX5_termOf.data.toList.drop 72 = dktX5_termOf_3 := dk_seg dksX5_termOf_2 24 rfl rfl
theorem dksX5_termOf_4 : cX5_termOf.data.toList.drop 95 = dktX5_termOf_4 := dk_seg dksX5_termOf_3 23 rfl rfl
theorem dksX5_termOf_5 : cX5_termOf.data.toList.drop 119 = dktX5_termOf_5 := dk_seg dksX5_termOf_4 24 rfl rfl
theorem dX5_termOf_0 : decode cX5_termOf 0 = .ok (.aload_n 0, 1) := dk_42 (dk_at dksX5_termOf_0 0 rfl rfl)
theorem dX5_termOf_1 : decode cX5_termOf 1 = .ok (.iload_n 1, 1) := dk_27 (dk_at dksX5_termOf_0 1 rfl rfl)
theorem dX5_termOf_2 : decode cX5_termOf 2 = .ok (.invokevirtual 240, 3) := dk_182 0 240 (dk_at dksX5_termOf_0 2 rfl rfl)
theorem dX5_termOf_5 : decode cX5_termOf 5 = .ok (.lstore_n 2, 1) := dk_65 (dk_at dksX5_termOf_0 5 rfl rfl)
theorem dX5_termOf_6 : decode cX5_termOf 6 = .ok (.aload_n 0, 1) := dk_42 (dk_at dksX5_termOf_0 6 rfl rfl)
theorem dX5_termOf_7 : decode cX5_termOf 7 = .ok (.aload_n 0, 1) := dk_42 (dk_at dksX5_termOf_0 7 rfl rfl)
theorem dX5_termOf_8 : decode cX5_termOf 8 = .ok (.getfield 218, 3) := dk_180 0 218 (dk_at dksX5_termOf_0 8 rfl rfl)
theorem dX5_termOf_11 : decode cX5_termOf 11 = .ok (.invokevirtual 221, 3) := dk_182 0 221 (dk_at dksX5_termOf_0 11 rfl rfl)
theorem dX5_termOf_14 : decode cX5_termOf 14 = .ok (.bipush 42, 2) := dk_16 42 (dk_at dksX5_termOf_0 14 rfl rfl)
theorem dX5_termOf_16 : decode cX5_termOf 16 = .ok (.invokestatic 193, 3) := dk_184 0 193 (dk_at dksX5_termOf_0 16 rfl rfl)
theorem dX5_termOf_19 : decode cX5_termOf 19 = .ok (.if_icmp .eq 19, 3) := dk_159 0 19 (dk_at dksX5_termOf_0 19 rfl rfl)
theorem dX5_termOf_22 : decode cX5_termOf 22 = .ok (.aload_n 0, 1) := dk_42 (dk_at dksX5_termOf_0 22 rfl rfl)
theorem dX5_termOf_23 : decode cX5_termOf 23 = .ok (.aload_n 0, 1) := dk_42 (dk_at dksX5_termOf_0 23 rfl rfl)
theorem dX5_termOf_24 : decode cX5_termOf 24 = .ok (.getfield 218, 3) := dk_180 0 218 (dk_at dksX5_termOf_1 0 rfl rfl)
theorem dX5_termOf_27 : decode cX5_termOf 27 = .ok (.invokevirtual 221, 3) := dk_182 0 221 (dk_at dksX5_termOf_1 3 rfl rfl)
theorem dX5_termOf_30 : decode cX5_termOf 30 = .ok (.bipush 47, 2) := dk_16 47 (dk_at dksX5_termOf_1 6 rfl rfl)
theorem dX5_termOf_32 : decode cX5_termOf 32 = .ok (.invokestatic 193, 3) := dk_184 0 193 (dk_at dksX5_termOf_1 8 rfl rfl)
theorem dX5_termOf_35 : decode cX5_termOf 35 = .ok (.if_icmp .ne 103, 3) := dk_160 0 103 (dk_at dksX5_termOf_1 11 rfl rfl)
theorem dX5_termOf_38 : decode cX5_termOf 38 = .ok (.aload_n 0, 1) := dk_42 (dk_at dksX5_termOf_1 14 rfl rfl)
theorem dX5_termOf_39 : decode cX5_termOf 39 = .ok (.aload_n 0, 1) := dk_42 (dk_at dksX5_termOf_1 15 rfl rfl)
theorem dX5_termOf_40 : decode cX5_termOf 40 = .ok (.getfield 218, 3) := dk_180 0 218 (dk_at dksX5_termOf_1 16 rfl rfl)
theorem dX5_termOf_43 : decode cX5_termOf 43 = .ok (.invokevirtual 221, 3) := dk_182 0 221 (dk_at dksX5_termOf_1 19 rfl rfl)
theorem dX5_termOf_46 : decode cX5_termOf 46 = .ok (.bipush 42, 2) := dk_16 42 (dk_at dksX5_termOf_1 22 rfl rfl)
theorem dX5_termOf_48 : decode cX5_termOf 48 = .ok (.invokestatic 193, 3) := dk_184 0 193 (dk_at dksX5_termOf_2 0 rfl rfl)
theorem dX5_termOf_51 : decode cX5_termOf 51 = .ok (.if_icmp .ne 7, 3) := dk_160 0 7 (dk_at dksX5_termOf_2 3 rfl rfl)
theorem dX5_termOf_54 : decode cX5_termOf 54 = .ok (.iconst 1, 1) := dk_4 (dk_at dksX5_termOf_2 6 rfl rfl)
theorem dX5_termOf_55 : decode cX5_termOf 55 = .ok (.goto 4, 3) := dk_167 0 4 (dk_at dksX5_termOf_2 7 rfl rfl)
theorem dX5_termOf_58 : decode cX5_termOf 58 = .ok (.iconst 0, 1) := dk_3 (dk_at dksX5_termOf_2 10 rfl rfl)
theorem dX5_termOf_59 : decode cX5_termOf 59 = .ok (.istore 4, 2) := dk_54 4 (dk_at dksX5_termOf_2 11 rfl rfl)
theorem dX5_termOf_61 : decode cX5_termOf 61 = .ok (.aload_n 0, 1) := dk_42 (dk_at dksX5_termOf_2 13 rfl rfl)
theorem dX5_termOf_62 : decode cX5_termOf 62 = .ok (.dup, 1) := dk_89 (dk_at dksX5_termOf_2 14 rfl rfl)
theorem dX5_termOf_63 : decode cX5_termOf 63 = .ok (.getfield 218, 3) := dk_180 0 218 (dk_at dksX5_termOf_2 15 rfl rfl)
theorem dX5_termOf_66 : decode cX5_termOf 66 = .ok (.iconst 1, 1) := dk_4 (dk_at dksX5_termOf_2 18 rfl rfl)
theorem dX5_termOf_67 : decode cX5_termOf 67 = .ok (.iadd, 1) := dk_96 (dk_at dksX5_termOf_2 19 rfl rfl)
theorem dX5_termOf_68 : decode cX5_termOf 68 = .ok (.putfield 218, 3) := dk_181 0 218 (dk_at dksX5_termOf_2 20 rfl rfl)
theorem dX5_termOf_71 : decode cX5_termOf 71 = .ok (.aload_n 0, 1) := dk_42 (dk_at dksX5_termOf_2 23 rfl rfl)
theorem dX5_termOf_72 : decode cX5_termOf 72 = .ok (.iload_n 1, 1) := dk_27 (dk_at dksX5_termOf_3 0 rfl rfl)
theorem dX5_termOf_73 : decode cX5_termOf 73 = .ok (.invokevirtual 240, 3) := dk_182 0 240 (dk_at dksX5_termOf_3 1 rfl rfl)
theorem dX5_termOf_76 : decode cX5_termOf 76 = .ok (.lstore 5, 2) := dk_55 5 (dk_at dksX5_termOf_3 4 rfl rfl)
theorem dX5_termOf_78 : decode cX5_termOf 78 = .ok (.iload 4, 2) := dk_21 4 (dk_at dksX5_termOf_3 6 rfl rfl)
theorem dX5_termOf_80 : decode cX5_termOf 80 = .ok (.ifCond .ne 33, 3) := dk_154 0 33 (dk_at dksX5_termOf_3 8 rfl rfl)
theorem dX5_termOf_83 : decode cX5_termOf 83 = .ok (.lload 5, 2) := dk_22 5 (dk_at dksX5_termOf_3 11 rfl rfl)
theorem dX5_termOf_85 : decode cX5_termOf 85 = .ok (.lconst 0, 1) := dk_9 (dk_at dksX5_termOf_3 13 rfl rfl)
theorem dX5_termOf_86 : decode cX5_termOf 86 = .ok (.lcmp, 1) := dk_148 (dk_at dksX5_termOf_3 14 rfl rfl)
theorem dX5_termOf_87 : decode cX5_termOf 87 = .ok (.ifCond .ne 26, 3) := dk_154 0 26 (dk_at dksX5_termOf_3 15 rfl rfl)
theorem dX5_termOf_90 : decode cX5_termOf 90 = .ok (.aload_n 0, 1) := dk_42 (dk_at dksX5_termOf_3 18 rfl rfl)
theorem dX5_termOf_91 : decode cX5_termOf 91 = .ok (.aload_n 0, 1) := dk_42 (dk_at dksX5_termOf_3 19 rfl rfl)
theorem dX5_termOf_92 : decode cX5_termOf 92 = .ok (.getfield 228, 3) := dk_180 0 228 (dk_at dksX5_termOf_3 20 rfl rfl)
theorem dX5_termOf_95 : decode cX5_termOf 95 = .ok (.ifCond .ne 7, 3) := dk_154 0 7 (dk_at dksX5_termOf_4 0 rfl rfl)
theorem dX5_termOf_98 : decode cX5_termOf 98 = .ok (.iload_n 1, 1) := dk_27 (dk_at dksX5_termOf_4 3 rfl rfl)
theorem dX5_termOf_99 : decode cX5_termOf 99 = .ok (.ifCond .eq 7, 3) := dk_153 0 7 (dk_at dksX5_termOf_4 4 rfl rfl)
theorem dX5_termOf_102 : decode cX5_termOf 102 = .ok (.iconst 1, 1) := dk_4 (dk_at dksX5_termOf_4 7 rfl rfl)
theorem dX5_termOf_103 : decode cX5_termOf 103 = .ok (.goto 4, 3) := dk_167 0 4 (dk_at dksX5_termOf_4 8 rfl rfl)
theorem dX5_termOf_106 : decode cX5_termOf 106 = .ok (.iconst 0, 1) := dk_3 (dk_at dksX5_termOf_4 11 rfl rfl)
theorem dX5_termOf_107 : decode cX5_termOf 107 = .ok (.putfield 228, 3) := dk_181 0 228 (dk_at dksX5_termOf_4 12 rfl rfl)
theorem dX5_termOf_110 : decode cX5_termOf 110 = .ok (.lconst 1, 1) := dk_10 (dk_at dksX5_termOf_4 15 rfl rfl)
theorem dX5_termOf_111 : decode cX5_termOf 111 = .ok (.lstore 5, 2) := dk_55 5 (dk_at dksX5_termOf_4 16 rfl rfl)
theorem dX5_termOf_113 : decode cX5_termOf 113 = .ok (.aload_n 0, 1) := dk_42 (dk_at dksX5_termOf_4 18 rfl rfl)
theorem dX5_termOf_114 : decode cX5_termOf 114 = .ok (.iload 4, 2) := dk_21 4 (dk_at dksX5_termOf_4 19 rfl rfl)
theorem dX5_termOf_116 : decode cX5_termOf 116 = .ok (.ifCond .eq 10, 3) := dk_153 0 10 (dk_at dksX5_termOf_4 21 rfl rfl)
theorem dX5_termOf_119 : decode cX5_termOf 119 = .ok (.lload_n 2, 1) := dk_32 (dk_at dksX5_termOf_5 0 rfl rfl)
theorem dX5_termOf_120 : decode cX5_termOf 120 = .ok (.lload 5, 2) := dk_22 5 (dk_at dksX5_termOf_5 1 rfl rfl)
theorem dX5_termOf_122 : decode cX5_termOf 122 = .ok (.lmul, 1) := dk_105 (dk_at dksX5_termOf_5 3 rfl rfl)
theorem dX5_termOf_123 : decode cX5_termOf 123 = .ok (.goto 7, 3) := dk_167 0 7 (dk_at dksX5_termOf_5 4 rfl rfl)
theorem dX5_termOf_126 : decode cX5_termOf 126 = .ok (.lload_n 2, 1) := dk_32 (dk_at dksX5_termOf_5 7 rfl rfl)
theorem dX5_termOf_127 : decode cX5_termOf 127 = .ok (.lload 5, 2) := dk_22 5 (dk_at dksX5_termOf_5 8 rfl rfl)
theorem dX5_termOf_129 : decode cX5_termOf 129 = .ok (.ldiv, 1) := dk_109 (dk_at dksX5_termOf_5 10 rfl rfl)
theorem dX5_termOf_130 : decode cX5_termOf 130 = .ok (.iload_n 1, 1) := dk_27 (dk_at dksX5_termOf_5 11 rfl rfl)
theorem dX5_termOf_131 : decode cX5_termOf 131 = .ok (.invokevirtual 236, 3) := dk_182 0 236 (dk_at dksX5_termOf_5 12 rfl rfl)
theorem dX5_termOf_134 : decode cX5_termOf 134 = .ok (.lstore_n 2, 1) := dk_65 (dk_at dksX5_termOf_5 15 rfl rfl)
theorem dX5_termOf_135 : decode cX5_termOf 135 = .ok (.goto (-129), 3) := dk_167 255 127 (dk_at dksX5_termOf_5 16 rfl rfl)
theorem dX5_termOf_138 : decode cX5_termOf 138 = .ok (.lload_n 2, 1) := dk_32 (dk_at dksX5_termOf_5 19 rfl rfl)
theorem dX5_termOf_139 : decode cX5_termOf 139 = .ok (.lreturn, 1) := dk_173 (dk_at dksX5_termOf_5 20 rfl rfl)
abbrev cX5_partOf : ByteArray := prog_25_method_54_code
def yX5_partOf : MethodName := ⟨RX5, "partOf", "(Z)J"⟩
def dkwX5_partOf_4 : List UInt8 := [16, 7, 100, 46, 133, 173]
abbrev dktX5_partOf_4 : List UInt8 := dkwX5_partOf_4 ++ []
def dkwX5_partOf_3 : List UInt8 := [180, 0, 20, 17, 10, 8, 42, 180, 0, 218, 96, 4, 100, 46, 133, 167, 0, 13, 42, 180, 0, 52, 28]
abbrev dktX5_partOf_3 : List UInt8 := dkwX5_partOf_3 ++ dktX5_partOf_4
def dkwX5_partOf_2 : List UInt8 := [181, 0, 218, 27, 153, 0, 10, 42, 180, 0, 228, 153, 0, 5, 9, 173, 28, 16, 50, 160, 0, 22, 42]
abbrev dktX5_partOf_2 : List UInt8 := dkwX5_partOf_2 ++ dktX5_partOf_3
def dkwX5_partOf_1 : List UInt8 := [96, 181, 0, 218, 32, 173, 42, 42, 180, 0, 218, 182, 0, 221, 61, 42, 89, 180, 0, 218, 4, 96]
abbrev dktX5_partOf_1 : List UInt8 := dkwX5_partOf_1 ++ dktX5_partOf_2
def dkwX5_partOf_0 : List UInt8 := [42, 16, 91, 184, 0, 193, 182, 0, 243, 153, 0, 21, 42, 27, 182, 0, 246, 65, 42, 89, 180, 0, 218, 4]
abbrev dktX5_partOf_0 : List UInt8 := dkwX5_partOf_0 ++ dktX5_partOf_1
theorem dksX5_partOf_0 : cX5_partOf.data.toList.drop 0 = dktX5_partOf_0 := by decide +kernel
theorem dksX5_partOf_1 : cX5_partOf.data.toList.drop 24 = dktX5_partOf_1 := dk_seg dksX5_partOf_0 24 rfl rfl
theorem dksX5_partOf_2 : cX5_partOf.data.toList.drop 46 = dktX5_partOf_2 := dk_seg dksX5_partOf_1 22 rfl rfl
theorem dksX5_partOf_3 : cX5_partOf.data.toList.drop 69 = dktX5_partOf_3 := dk_seg dksX5_partOf_2 23 rfl rfl
theorem dksX5_partOf_4 : cX5_partOf.data.toList.drop 92 = dktX5_partOf_4 := dk_seg dksX5_partOf_3 23 rfl rfl
theorem dX5_partOf_0 : decode cX5_partOf 0 = .ok (.aload_n 0, 1) := dk_42 (dk_at dksX5_partOf_0 0 rfl rfl)
theorem dX5_partOf_1 : decode cX5_partOf 1 = .ok (.bipush 91, 2) := dk_16 91 (dk_at dksX5_partOf_0 1 rfl rfl)
theorem dX5_partOf_3 : decode cX5_partOf 3 = .ok (.invokestatic 193, 3) := dk_184 0 193 (dk_at dksX5_partOf_0 3 rfl rfl)
theorem dX5_partOf_6 : decode cX5_partOf 6 = .ok (.invokevirtual 243, 3) := dk_182 0 243 (dk_at dksX5_partOf_0 6 rfl rfl)
theorem dX5_partOf_9 : decode cX5_partOf 9 = .ok (.ifCond .eq 21, 3) := dk_153 0 21 (dk_at dksX5_partOf_0 9 rfl rfl)
theorem dX5_partOf_12 : decode cX5_partOf 12 = .ok (.aload_n 0, 1) := dk_42 (dk_at dksX5_partOf_0 12 rfl rfl)
theorem dX5_partOf_13 : decode cX5_partOf 13 = .ok (.iload_n 1, 1) := dk_27 (dk_at dksX5_partOf_0 13 rfl rfl)
theorem dX5_partOf_14 : decode cX5_partOf 14 = .ok (.invokevirtual 246, 3) := dk_182 0 246 (dk_at dksX5_partOf_0 14 rfl rfl)
theorem dX5_partOf_17 : decode cX5_partOf 17 = .ok (.lstore_n 2, 1) := dk_65 (dk_at dksX5_partOf_0 17 rfl rfl)
theorem dX5_partOf_18 : decode cX5_partOf 18 = .ok (.aload_n 0, 1) := dk_42 (dk_at dksX5_partOf_0 18 rfl rfl)
theorem dX5_partOf_19 : decode cX5_partOf 19 = .ok (.dup, 1) := dk_89 (dk_at dksX5_partOf_0 19 rfl rfl)
theorem dX5_partOf_20 : decode cX5_partOf 20 = .ok (.getfield 218, 3) := dk_180 0 218 (dk_at dksX5_partOf_0 20 rfl rfl)
theorem dX5_partOf_23 : decode cX5_partOf 23 = .ok (.iconst 1, 1) := dk_4 (dk_at dksX5_partOf_0 23 rfl rfl)
theorem dX5_partOf_24 : decode cX5_partOf 24 = .ok (.iadd, 1) := dk_96 (dk_at dksX5_partOf_1 0 rfl rfl)
theorem dX5_partOf_25 : decode cX5_partOf 25 = .ok (.putfield 218, 3) := dk_181 0 218 (dk_at dksX5_partOf_1 1 rfl rfl)
theorem dX5_partOf_28 : decode cX5_partOf 28 = .ok (.lload_n 2, 1) := dk_32 (dk_at dksX5_partOf_1 4 rfl rfl)
theorem dX5_partOf_29 : decode cX5_partOf 29 = .ok (.lreturn, 1) := dk_173 (dk_at dksX5_partOf_1 5 rfl rfl)
theorem dX5_partOf_30 : decode cX5_partOf 30 = .ok (.aload_n 0, 1) := dk_42 (dk_at dksX5_partOf_1 6 rfl rfl)
theorem dX5_partOf_31 : decode cX5_partOf 31 = .ok (.aload_n 0, 1) := dk_42 (dk_at dksX5_partOf_1 7 rfl rfl)
theorem dX5_partOf_32 : decode cX5_partOf 32 = .ok (.getfield 218, 3) := dk_180 0 218 (dk_at dksX5_partOf_1 8 rfl rfl)
theorem dX5_partOf_35 : decode cX5_partOf 35 = .ok (.invokevirtual 221, 3) := dk_182 0 221 (dk_at dksX5_partOf_1 11 rfl rfl)
theorem dX5_partOf_38 : decode cX5_partOf 38 = .ok (.istore_n 2, 1) := dk_61 (dk_at dksX5_partOf_1 14 rfl rfl)
theorem dX5_partOf_39 : decode cX5_partOf 39 = .ok (.aload_n 0, 1) := dk_42 (dk_at dksX5_partOf_1 15 rfl rfl)
theorem dX5_partOf_40 : decode cX5_partOf 40 = .ok (.dup, 1) := dk_89 (dk_at dksX5_partOf_1 16 rfl rfl)
theorem dX5_partOf_41 : decode cX5_partOf 41 = .ok (.getfield 218, 3) := dk_180 0 218 (dk_at dksX5_partOf_1 17 rfl rfl)
theorem dX5_partOf_44 : decode cX5_partOf 44 = .ok (.iconst 1, 1) := dk_4 (dk_at dksX5_partOf_1 20 rfl rfl)
theorem dX5_partOf_45 : decode cX5_partOf 45 = .ok (.iadd, 1) := dk_96 (dk_at dksX5_partOf_1 21 rfl rfl)
theorem dX5_partOf_46 : decode cX5_partOf 46 = .ok (.putfield 218, 3) := dk_181 0 218 (dk_at dksX5_partOf_2 0 rfl rfl)
theorem dX5_partOf_49 : decode cX5_partOf 49 = .ok (.iload_n 1, 1) := dk_27 (dk_at dksX5_partOf_2 3 rfl rfl)
theorem dX5_partOf_50 : decode cX5_partOf 50 = .ok (.ifCond .eq 10, 3) := dk_153 0 10 (dk_at dksX5_partOf_2 4 rfl rfl)
theorem dX5_partOf_53 : decode cX5_partOf 53 = .ok (.aload_n 0, 1) := dk_42 (dk_at dksX5_partOf_2 7 rfl rfl)
theorem dX5_partOf_54 : decode cX5_partOf 54 = .ok (.getfield 228, 3) := dk_180 0 228 (dk_at dksX5_partOf_2 8 rfl rfl)
theorem dX5_partOf_57 : decode cX5_partOf 57 = .ok (.ifCond .eq 5, 3) := dk_153 0 5 (dk_at dksX5_partOf_2 11 rfl rfl)
theorem dX5_partOf_60 : decode cX5_partOf 60 = .ok (.lconst 0, 1) := dk_9 (dk_at dksX5_partOf_2 14 rfl rfl)
theorem dX5_partOf_61 : decode cX5_partOf 61 = .ok (.lreturn, 1) := dk_173 (dk_at dksX5_partOf_2 15 rfl rfl)
theorem dX5_partOf_62 : decode cX5_partOf 62 = .ok (.iload_n 2, 1) := dk_28 (dk_at dksX5_partOf_2 16 rfl rfl)
theorem dX5_partOf_63 : decode cX5_partOf 63 = .ok (.bipush 50, 2) := dk_16 50 (dk_at dksX5_partOf_2 17 rfl rfl)
theorem dX5_partOf_65 : decode cX5_partOf 65 = .ok (.if_icmp .ne 22, 3) := dk_160 0 22 (dk_at dksX5_partOf_2 19 rfl rfl)
theorem dX5_partOf_68 : decode cX5_partOf 68 = .ok (.aload_n 0, 1) := dk_42 (dk_at dksX5_partOf_2 22 rfl rfl)
theorem dX5_partOf_69 : decode cX5_partOf 69 = .ok (.getfield 20, 3) := dk_180 0 20 (dk_at dksX5_partOf_3 0 rfl rfl)
theorem dX5_partOf_72 : decode cX5_partOf 72 = .ok (.sipush 2568, 3) := dk_17 10 8 (dk_at dksX5_partOf_3 3 rfl rfl)
theorem dX5_partOf_75 : decode cX5_partOf 75 = .ok (.aload_n 0, 1) := dk_42 (dk_at dksX5_partOf_3 6 rfl rfl)
theorem dX5_partOf_76 : decode cX5_partOf 76 = .ok (.getfield 218, 3) := dk_180 0 218 (dk_at dksX5_partOf_3 7 rfl rfl)
theorem dX5_partOf_79 : decode cX5_partOf 79 = .ok (.iadd, 1) := dk_96 (dk_at dksX5_partOf_3 10 rfl rfl)
theorem dX5_partOf_80 : decode cX5_partOf 80 = .ok (.iconst 1, 1) := dk_4 (dk_at dksX5_partOf_3 11 rfl rfl)
theorem dX5_partOf_81 : decode cX5_partOf 81 = .ok (.isub, 1) := dk_100 (dk_at dksX5_partOf_3 12 rfl rfl)
theorem dX5_partOf_82 : decode cX5_partOf 82 = .ok (.iaload, 1) := dk_46 (dk_at dksX5_partOf_3 13 rfl rfl)
theorem dX5_partOf_83 : decode cX5_partOf 83 = .ok (.i2l, 1) := dk_133 (dk_at dksX5_partOf_3 14 rfl rfl)
theorem dX5_partOf_84 : decode cX5_partOf 84 = .ok (.goto 13, 3) := dk_167 0 13 (dk_at dksX5_partOf_3 15 rfl rfl)
theorem dX5_partOf_87 : decode cX5_partOf 87 = .ok (.aload_n 0, 1) := dk_42 (dk_at dksX5_partOf_3 18 rfl rfl)
theorem dX5_partOf_88 : decode cX5_partOf 88 = .ok (.getfield 52, 3) := dk_180 0 52 (dk_at dksX5_partOf_3 19 rfl rfl)
theorem dX5_partOf_91 : decode cX5_partOf 91 = .ok (.iload_n 2, 1) := dk_28 (dk_at dksX5_partOf_3 22 rfl rfl)
theorem dX5_partOf_92 : decode cX5_partOf 92 = .ok (.bipush 7, 2) := dk_16 7 (dk_at dksX5_partOf_4 0 rfl rfl)
theorem dX5_partOf_94 : decode cX5_partOf 94 = .ok (.isub, 1) := dk_100 (dk_at dksX5_partOf_4 2 rfl rfl)
theorem dX5_partOf_95 : decode cX5_partOf 95 = .ok (.iaload, 1) := dk_46 (dk_at dksX5_partOf_4 3 rfl rfl)
theorem dX5_partOf_96 : decode cX5_partOf 96 = .ok (.i2l, 1) := dk_133 (dk_at dksX5_partOf_4 4 rfl rfl)
theorem dX5_partOf_97 : decode cX5_partOf 97 = .ok (.lreturn, 1) := dk_173 (dk_at dksX5_partOf_4 5 rfl rfl)
abbrev cX5_passes0 : ByteArray := prog_25_method_50_code
def yX5_passes0 : MethodName := ⟨RX5, "passes0", "(I)Z"⟩
def dkwX5_passes0_1 : List UInt8 := [180, 0, 218, 4, 96, 181, 0, 218, 28, 172]
abbrev dktX5_passes0_1 : List UInt8 := dkwX5_passes0_1 ++ []
def dkwX5_passes0_0 : List UInt8 := [42, 42, 180, 0, 218, 182, 0, 221, 27, 160, 0, 7, 4, 167, 0, 4, 3, 61, 28, 153, 0, 13, 42, 89]
abbrev dktX5_passes0_0 : List UInt8 := dkwX5_passes0_0 ++ dktX5_passes0_1
theorem dksX5_passes0_0 : cX5_passes0.data.toList.drop 0 = dktX5_passes0_0 := by decide +kernel
theorem dksX5_passes0_1 : cX5_passes0.data.toList.drop 24 = dktX5_passes0_1 := dk_seg dksX5_passes0_0 24 rfl rfl
theorem dX5_passes0_0 : decode cX5_passes0 0 = .ok (.aload_n 0, 1) := dk_42 (dk_at dksX5_passes0_0 0 rfl rfl)
theorem dX5_passes0_1 : decode cX5_passes0 1 = .ok (.aload_n 0, 1) := dk_42 (dk_at dksX5_passes0_0 1 rfl rfl)
theorem dX5_passes0_2 : decode cX5_passes0 2 = .ok (.getfield 218, 3) := dk_180 0 218 (dk_at dksX5_passes0_0 2 rfl rfl)
theorem dX5_passes0_5 : decode cX5_passes0 5 = .ok (.invokevirtual 221, 3) := dk_182 0 221 (dk_at dksX5_passes0_0 5 rfl rfl)
theorem dX5_passes0_8 : decode cX5_passes0 8 = .ok (.iload_n 1, 1) := dk_27 (dk_at dksX5_passes0_0 8 rfl rfl)
theorem dX5_passes0_9 : decode cX5_passes0 9 = .ok (.if_icmp .ne 7, 3) := dk_160 0 7 (dk_at dksX5_passes0_0 9 rfl rfl)
theorem dX5_passes0_12 : decode cX5_passes0 12 = .ok (.iconst 1, 1) := dk_4 (dk_at dksX5_passes0_0 12 rfl rfl)
theorem dX5_passes0_13 : decode cX5_passes0 13 = .ok (.goto 4, 3) := dk_167 0 4 (dk_at dksX5_passes0_0 13 rfl rfl)
theorem dX5_passes0_16 : decode cX5_passes0 16 = .ok (.iconst 0, 1) := dk_3 (dk_at dksX5_passes0_0 16 rfl rfl)
theorem dX5_passes0_17 : decode cX5_passes0 17 = .ok (.istore_n 2, 1) := dk_61 (dk_at dksX5_passes0_0 17 rfl rfl)
theorem dX5_passes0_18 : decode cX5_passes0 18 = .ok (.iload_n 2, 1) := dk_28 (dk_at dksX5_passes0_0 18 rfl rfl)
theorem dX5_passes0_19 : decode cX5_passes0 19 = .ok (.ifCond .eq 13, 3) := dk_153 0 13 (dk_at dksX5_passes0_0 19 rfl rfl)
theorem dX5_passes0_22 : decode cX5_passes0 22 = .ok (.aload_n 0, 1) := dk_42 (dk_at dksX5_passes0_0 22 rfl rfl)
theorem dX5_passes0_23 : decode cX5_passes0 23 = .ok (.dup, 1) := dk_89 (dk_at dksX5_passes0_0 23 rfl rfl)
theorem dX5_passes0_24 : decode cX5_passes0 24 = .ok (.getfield 218, 3) := dk_180 0 218 (dk_at dksX5_passes0_1 0 rfl rfl)
theorem dX5_passes0_27 : decode cX5_passes0 27 = .ok (.iconst 1, 1) := dk_4 (dk_at dksX5_passes0_1 3 rfl rfl)
theorem dX5_passes0_28 : decode cX5_passes0 28 = .ok (.iadd, 1) := dk_96 (dk_at dksX5_passes0_1 4 rfl rfl)
theorem dX5_passes0_29 : decode cX5_passes0 29 = .ok (.putfield 218, 3) := dk_181 0 218 (dk_at dksX5_passes0_1 5 rfl rfl)
theorem dX5_passes0_32 : decode cX5_passes0 32 = .ok (.iload_n 2, 1) := dk_28 (dk_at dksX5_passes0_1 8 rfl rfl)
theorem dX5_passes0_33 : decode cX5_passes0 33 = .ok (.ireturn, 1) := dk_172 (dk_at dksX5_passes0_1 9 rfl rfl)
abbrev cX5_bounded : ByteArray := prog_25_method_51_code
def yX5_bounded : MethodName := ⟨RX5, "bounded", "(JZ)J"⟩
def dkwX5_bounded_1 : List UInt8 := [181, 0, 228, 42, 180, 0, 228, 153, 0, 7, 9, 167, 0, 4, 31, 173]
abbrev dktX5_bounded_1 : List UInt8 := dkwX5_bounded_1 ++ []
def dkwX5_bounded_0 : List UInt8 := [29, 153, 0, 24, 31, 20, 0, 224, 148, 157, 0, 11, 31, 20, 0, 226, 148, 156, 0, 8, 42, 4]
abbrev dktX5_bounded_0 : List UInt8 := dkwX5_bounded_0 ++ dktX5_bounded_1
theorem dksX5_bounded_0 : cX5_bounded.data.toList.drop 0 = dktX5_bounded_0 := by decide +kernel
theorem dksX5_bounded_1 : cX5_bounded.data.toList.drop 22 = dktX5_bounded_1 := dk_seg dksX5_bounded_0 22 rfl rfl
theorem dX5_bounded_0 : decode cX5_bounded 0 = .ok (.iload_n 3, 1) := dk_29 (dk_at dksX5_bounded_0 0 rfl rfl)
theorem dX5_bounded_1 : decode cX5_bounded 1 = .ok (.ifCond .eq 24, 3) := dk_153 0 24 (dk_at dksX5_bounded_0 1 rfl rfl)
theorem dX5_bounded_4 : decode cX5_bounded 4 = .ok (.lload_n 1, 1) := dk_31 (dk_at dksX5_bounded_0 4 rfl rfl)
theorem dX5_bounded_5 : decode cX5_bounded 5 = .ok (.ldc2_w 224, 3) := dk_20 0 224 (dk_at dksX5_bounded_0 5 rfl rfl)
theorem dX5_bounded_8 : decode cX5_bounded 8 = .ok (.lcmp, 1) := dk_148 (dk_at dksX5_bounded_0 8 rfl rfl)
theorem dX5_bounded_9 : decode cX5_bounded 9 = .ok (.ifCond .gt 11, 3) := dk_157 0 11 (dk_at dksX5_bounded_0 9 rfl rfl)
theorem dX5_bounded_12 : decode cX5_bounded 12 = .ok (.lload_n 1, 1) := dk_31 (dk_at dksX5_bounded_0 12 rfl rfl)
theorem dX5_bounded_13 : decode cX5_bounded 13 = .ok (.ldc2_w 226, 3) := dk_20 0 226 (dk_at dksX5_bounded_0 13 rfl rfl)
theorem dX5_bounded_16 : decode cX5_bounded 16 = .ok (.lcmp, 1) := dk_148 (dk_at dksX5_bounded_0 16 rfl rfl)
theorem dX5_bounded_17 : decode cX5_bounded 17 = .ok (.ifCond .ge 8, 3) := dk_156 0 8 (dk_at dksX5_bounded_0 17 rfl rfl)
theorem dX5_bounded_20 : decode cX5_bounded 20 = .ok (.aload_n 0, 1) := dk_42 (dk_at dksX5_bounded_0 20 rfl rfl)
theorem dX5_bounded_21 : decode cX5_bounded 21 = .ok (.iconst 1, 1) := dk_4 (dk_at dksX5_bounded_0 21 rfl rfl)
theorem dX5_bounded_22 : decode cX5_bounded 22 = .ok (.putfield 228, 3) := dk_181 0 228 (dk_at dksX5_bounded_1 0 rfl rfl)
theorem dX5_bounded_25 : decode cX5_bounded 25 = .ok (.aload_n 0, 1) := dk_42 (dk_at dksX5_bounded_1 3 rfl rfl)
theorem dX5_bounded_26 : decode cX5_bounded 26 = .ok (.getfield 228, 3) := dk_180 0 228 (dk_at dksX5_bounded_1 4 rfl rfl)
theorem dX5_bounded_29 : decode cX5_bounded 29 = .ok (.ifCond .eq 7, 3) := dk_153 0 7 (dk_at dksX5_bounded_1 7 rfl rfl)
theorem dX5_bounded_32 : decode cX5_bounded 32 = .ok (.lconst 0, 1) := dk_9 (dk_at dksX5_bounded_1 10 rfl rfl)
theorem dX5_bounded_33 : decode cX5_bounded 33 = .ok (.goto 4, 3) := dk_167 0 4 (dk_at dksX5_bounded_1 11 rfl rfl)
theorem dX5_bounded_36 : decode cX5_bounded 36 = .ok (.lload_n 1, 1) := dk_31 (dk_at dksX5_bounded_1 14 rfl rfl)
theorem dX5_bounded_37 : decode cX5_bounded 37 = .ok (.lreturn, 1) := dk_173 (dk_at dksX5_bounded_1 15 rfl rfl)
abbrev cX5_testOf : ByteArray := prog_25_method_55_code
def yX5_testOf : MethodName := ⟨RX5, "testOf", "(Z)Z"⟩
def dkwX5_testOf_2 : List UInt8 := [167, 255, 216, 28, 172]
abbrev dktX5_testOf_2 : List UInt8 := dkwX5_testOf_2 ++ []
def dkwX5_testOf_1 : List UInt8 := [167, 0, 4, 3, 182, 0, 249, 62, 28, 154, 0, 7, 29, 153, 0, 7, 4, 167, 0, 4, 3, 61]
abbrev dktX5_testOf_1 : List UInt8 := dkwX5_testOf_1 ++ dktX5_testOf_2
def dkwX5_testOf_0 : List UInt8 := [42, 27, 182, 0, 249, 61, 42, 7, 182, 0, 243, 153, 0, 38, 42, 27, 153, 0, 11, 28, 154, 0, 7, 4]
abbrev dktX5_testOf_0 : List UInt8 := dkwX5_testOf_0 ++ dktX5_testOf_1
theorem dksX5_testOf_0 : cX5_testOf.data.toList.drop 0 = dktX5_testOf_0 := by decide +kernel
theorem dksX5_testOf_1 : cX5_testOf.data.toList.drop 24 = dktX5_testOf_1 := dk_seg dksX5_testOf_0 24 rfl rfl
theorem dksX5_testOf_2 : cX5_testOf.data.toList.drop 46 = dktX5_testOf_2 := dk_seg dksX5_testOf_1 22 rfl rfl
theorem dX5_testOf_0 : decode cX5_testOf 0 = .ok (.aload_n 0, 1) := dk_42 (dk_at dksX5_testOf_0 0 rfl rfl)
theorem dX5_testOf_1 : decode cX5_testOf 1 = .ok (.iload_n 1, 1) := dk_27 (dk_at dksX5_testOf_0 1 rfl rfl)
theorem dX5_testOf_2 : decode cX5_testOf 2 = .ok (.invokevirtual 249, 3) := dk_182 0 249 (dk_at dksX5_testOf_0 2 rfl rfl)
theorem dX5_testOf_5 : decode cX5_testOf 5 = .ok (.istore_n 2, 1) := dk_61 (dk_at dksX5_testOf_0 5 rfl rfl)
theorem dX5_testOf_6 : decode cX5_testOf 6 = .ok (.aload_n 0, 1) := dk_42 (dk_at dksX5_testOf_0 6 rfl rfl)
theorem dX5_testOf_7 : decode cX5_testOf 7 = .ok (.iconst 4, 1) := dk_7 (dk_at dksX5_testOf_0 7 rfl rfl)
theorem dX5_testOf_8 : decode cX5_testOf 8 = .ok (.invokevirtual 243, 3) := dk_182 0 243 (dk_at dksX5_testOf_0 8 rfl rfl)
theorem dX5_testOf_11 : decode cX5_testOf 11 = .ok (.ifCond .eq 38, 3) := dk_153 0 38 (dk_at dksX5_testOf_0 11 rfl rfl)
theorem dX5_testOf_14 : decode cX5_testOf 14 = .ok (.aload_n 0, 1) := dk_42 (dk_at dksX5_testOf_0 14 rfl rfl)
theorem dX5_testOf_15 : decode cX5_testOf 15 = .ok (.iload_n 1, 1) := dk_27 (dk_at dksX5_testOf_0 15 rfl rfl)
theorem dX5_testOf_16 : decode cX5_testOf 16 = .ok (.ifCond .eq 11, 3) := dk_153 0 11 (dk_at dksX5_testOf_0 16 rfl rfl)
theorem dX5_testOf_19 : decode cX5_testOf 19 = .ok (.iload_n 2, 1) := dk_28 (dk_at dksX5_testOf_0 19 rfl rfl)
theorem dX5_testOf_20 : decode cX5_testOf 20 = .ok (.ifCond .ne 7, 3) := dk_154 0 7 (dk_at dksX5_testOf_0 20 rfl rfl)
theorem dX5_testOf_23 : decode cX5_testOf 23 = .ok (.iconst 1, 1) := dk_4 (dk_at dksX5_testOf_0 23 rfl rfl)
theorem dX5_testOf_24 : decode cX5_testOf 24 = .ok (.goto 4, 3) := dk_167 0 4 (dk_at dksX5_testOf_1 0 rfl rfl)
theorem dX5_testOf_27 : decode cX5_testOf 27 = .ok (.iconst 0, 1) := dk_3 (dk_at dksX5_testOf_1 3 rfl rfl)
theorem dX5_testOf_28 : decode cX5_testOf 28 = .ok (.invokevirtual 249, 3) := dk_182 0 249 (dk_at dksX5_testOf_1 4 rfl rfl)
theorem dX5_testOf_31 : decode cX5_testOf 31 = .ok (.istore_n 3, 1) := dk_62 (dk_at dksX5_testOf_1 7 rfl rfl)
theorem dX5_testOf_32 : decode cX5_testOf 32 = .ok (.iload_n 2, 1) := dk_28 (dk_at dksX5_testOf_1 8 rfl rfl)
theorem dX5_testOf_33 : decode cX5_testOf 33 = .ok (.ifCond .ne 7, 3) := dk_154 0 7 (dk_at dksX5_testOf_1 9 rfl rfl)
theorem dX5_testOf_36 : decode cX5_testOf 36 = .ok (.iload_n 3, 1) := dk_29 (dk_at dksX5_testOf_1 12 rfl rfl)
theorem dX5_testOf_37 : decode cX5_testOf 37 = .ok (.ifCond .eq 7, 3) := dk_153 0 7 (dk_at dksX5_testOf_1 13 rfl rfl)
theorem dX5_testOf_40 : decode cX5_testOf 40 = .ok (.iconst 1, 1) := dk_4 (dk_at dksX5_testOf_1 16 rfl rfl)
theorem dX5_testOf_41 : decode cX5_testOf 41 = .ok (.goto 4, 3) := dk_167 0 4 (dk_at dksX5_testOf_1 17 rfl rfl)
theorem dX5_testOf_44 : decode cX5_testOf 44 = .ok (.iconst 0, 1) := dk_3 (dk_at dksX5_testOf_1 20 rfl rfl)
theorem dX5_testOf_45 : decode cX5_testOf 45 = .ok (.istore_n 2, 1) := dk_61 (dk_at dksX5_testOf_1 21 rfl rfl)
theorem dX5_testOf_46 : decode cX5_testOf 46 = .ok (.goto (-40), 3) := dk_167 255 216 (dk_at dksX5_testOf_2 0 rfl rfl)
theorem dX5_testOf_49 : decode cX5_testOf 49 = .ok (.iload_n 2, 1) := dk_28 (dk_at dksX5_testOf_2 3 rfl rfl)
theorem dX5_testOf_50 : decode cX5_testOf 50 = .ok (.ireturn, 1) := dk_172 (dk_at dksX5_testOf_2 4 rfl rfl)
abbrev cX5_bothOf : ByteArray := prog_25_method_56_code
def yX5_bothOf : MethodName := ⟨RX5, "bothOf", "(Z)Z"⟩
def dkwX5_bothOf_2 : List UInt8 := [167, 255, 216, 28, 172]
abbrev dktX5_bothOf_2 : List UInt8 := dkwX5_bothOf_2 ++ []
def dkwX5_bothOf_1 : List UInt8 := [167, 0, 4, 3, 182, 0, 253, 62, 28, 153, 0, 11, 29, 153, 0, 7, 4, 167, 0, 4, 3, 61]
abbrev dktX5_bothOf_1 : List UInt8 := dkwX5_bothOf_1 ++ dktX5_bothOf_2
def dkwX5_bothOf_0 : List UInt8 := [42, 27, 182, 0, 253, 61, 42, 8, 182, 0, 243, 153, 0, 38, 42, 27, 153, 0, 11, 28, 153, 0, 7, 4]
abbrev dktX5_bothOf_0 : List UInt8 := dkwX5_bothOf_0 ++ dktX5_bothOf_1
theorem dksX5_bothOf_0 : cX5_bothOf.data.toList.drop 0 = dktX5_bothOf_0 := by decide +kernel
theorem dksX5_bothOf_1 : cX5_bothOf.data.toList.drop 24 = dktX5_bothOf_1 := dk_seg dksX5_bothOf_0 24 rfl rfl
theorem dksX5_bothOf_2 : cX5_bothOf.data.toList.drop 46 = dktX5_bothOf_2 := dk_seg dksX5_bothOf_1 22 rfl rfl
theorem dX5_bothOf_0 : decode cX5_bothOf 0 = .ok (.aload_n 0, 1) := dk_42 (dk_at dksX5_bothOf_0 0 rfl rfl)
theorem dX5_bothOf_1 : decode cX5_bothOf 1 = .ok (.iload_n 1, 1) := dk_27 (dk_at dksX5_bothOf_0 1 rfl rfl)
theorem dX5_bothOf_2 : decode cX5_bothOf 2 = .ok (.invokevirtual 253, 3) := dk_182 0 253 (dk_at dksX5_bothOf_0 2 rfl rfl)
theorem dX5_bothOf_5 : decode cX5_bothOf 5 = .ok (.istore_n 2, 1) := dk_61 (dk_at dksX5_bothOf_0 5 rfl rfl)
theorem dX5_bothOf_6 : decode cX5_bothOf 6 = .ok (.aload_n 0, 1) := dk_42 (dk_at dksX5_bothOf_0 6 rfl rfl)
theorem dX5_bothOf_7 : decode cX5_bothOf 7 = .ok (.iconst 5, 1) := dk_8 (dk_at dksX5_bothOf_0 7 rfl rfl)
theorem dX5_bothOf_8 : decode cX5_bothOf 8 = .ok (.invokevirtual 243, 3) := dk_182 0 243 (dk_at dksX5_bothOf_0 8 rfl rfl)
theorem dX5_bothOf_11 : decode cX5_bothOf 11 = .ok (.ifCond .eq 38, 3) := dk_153 0 38 (dk_at dksX5_bothOf_0 11 rfl rfl)
theorem dX5_bothOf_14 : decode cX5_bothOf 14 = .ok (.aload_n 0, 1) := dk_42 (dk_at dksX5_bothOf_0 14 rfl rfl)
theorem dX5_bothOf_15 : decode cX5_bothOf 15 = .ok (.iload_n 1, 1) := dk_27 (dk_at dksX5_bothOf_0 15 rfl rfl)
theorem dX5_bothOf_16 : decode cX5_bothOf 16 = .ok (.ifCond .eq 11, 3) := dk_153 0 11 (dk_at dksX5_bothOf_0 16 rfl rfl)
theorem dX5_bothOf_19 : decode cX5_bothOf 19 = .ok (.iload_n 2, 1) := dk_28 (dk_at dksX5_bothOf_0 19 rfl rfl)
theorem dX5_bothOf_20 : decode cX5_bothOf 20 = .ok (.ifCond .eq 7, 3) := dk_153 0 7 (dk_at dksX5_bothOf_0 20 rfl rfl)
theorem dX5_bothOf_23 : decode cX5_bothOf 23 = .ok (.iconst 1, 1) := dk_4 (dk_at dksX5_bothOf_0 23 rfl rfl)
theorem dX5_bothOf_24 : decode cX5_bothOf 24 = .ok (.goto 4, 3) := dk_167 0 4 (dk_at dksX5_bothOf_1 0 rfl rfl)
theorem dX5_bothOf_27 : decode cX5_bothOf 27 = .ok (.iconst 0, 1) := dk_3 (dk_at dksX5_bothOf_1 3 rfl rfl)
theorem dX5_bothOf_28 : decode cX5_bothOf 28 = .ok (.invokevirtual 253, 3) := dk_182 0 253 (dk_at dksX5_bothOf_1 4 rfl rfl)
theorem dX5_bothOf_31 : decode cX5_bothOf 31 = .ok (.istore_n 3, 1) := dk_62 (dk_at dksX5_bothOf_1 7 rfl rfl)
theorem dX5_bothOf_32 : decode cX5_bothOf 32 = .ok (.iload_n 2, 1) := dk_28 (dk_at dksX5_bothOf_1 8 rfl rfl)
theorem dX5_bothOf_33 : decode cX5_bothOf 33 = .ok (.ifCond .eq 11, 3) := dk_153 0 11 (dk_at dksX5_bothOf_1 9 rfl rfl)
theorem dX5_bothOf_36 : decode cX5_bothOf 36 = .ok (.iload_n 3, 1) := dk_29 (dk_at dksX5_bothOf_1 12 rfl rfl)
theorem dX5_bothOf_37 : decode cX5_bothOf 37 = .ok (.ifCond .eq 7, 3) := dk_153 0 7 (dk_at dksX5_bothOf_1 13 rfl rfl)
theorem dX5_bothOf_40 : decode cX5_bothOf 40 = .ok (.iconst 1, 1) := dk_4 (dk_at dksX5_bothOf_1 16 rfl rfl)
theorem dX5_bothOf_41 : decode cX5_bothOf 41 = .ok (.goto 4, 3) := dk_167 0 4 (dk_at dksX5_bothOf_1 17 rfl rfl)
theorem dX5_bothOf_44 : decode cX5_bothOf 44 = .ok (.iconst 0, 1) := dk_3 (dk_at dksX5_bothOf_1 20 rfl rfl)
theorem dX5_bothOf_45 : decode cX5_bothOf 45 = .ok (.istore_n 2, 1) := dk_61 (dk_at dksX5_bothOf_1 21 rfl rfl)
theorem dX5_bothOf_46 : decode cX5_bothOf 46 = .ok (.goto (-40), 3) := dk_167 255 216 (dk_at dksX5_bothOf_2 0 rfl rfl)
theorem dX5_bothOf_49 : decode cX5_bothOf 49 = .ok (.iload_n 2, 1) := dk_28 (dk_at dksX5_bothOf_2 3 rfl rfl)
theorem dX5_bothOf_50 : decode cX5_bothOf 50 = .ok (.ireturn, 1) := dk_172 (dk_at dksX5_bothOf_2 4 rfl rfl)
abbrev cX5_plainOf : ByteArray := prog_25_method_57_code
def yX5_plainOf : MethodName := ⟨RX5, "plainOf", "(Z)Z"⟩
def dkwX5_plainOf_1 : List UInt8 := [42, 27, 182, 1, 0, 28, 159, 0, 7, 4, 167, 0, 4, 3, 172]
abbrev dktX5_plainOf_1 : List UInt8 := dkwX5_plainOf_1 ++ []
def dkwX5_plainOf_0 : List UInt8 := [3, 61, 42, 16, 6, 182, 0, 243, 153, 0, 16, 28, 154, 0, 7, 4, 167, 0, 4, 3, 61, 167, 255, 237]
abbrev dktX5_plainOf_0 : List UInt8 := dkwX5_plainOf_0 ++ dktX5_plainOf_1
theorem dksX5_plainOf_0 : cX5_plainOf.data.toList.drop 0 = dktX5_plainOf_0 := by decide +kernel
theorem dksX5_plainOf_1 : cX5_plainOf.data.toList.drop 24 = dktX5_plainOf_1 := dk_seg dksX5_plainOf_0 24 rfl rfl
theorem dX5_plainOf_0 : decode cX5_plainOf 0 = .ok (.iconst 0, 1) := dk_3 (dk_at dksX5_plainOf_0 0 rfl rfl)
theorem dX5_plainOf_1 : decode cX5_plainOf 1 = .ok (.istore_n 2, 1) := dk_61 (dk_at dksX5_plainOf_0 1 rfl rfl)
theorem dX5_plainOf_2 : decode cX5_plainOf 2 = .ok (.aload_n 0, 1) := dk_42 (dk_at dksX5_plainOf_0 2 rfl rfl)
theorem dX5_plainOf_3 : decode cX5_plainOf 3 = .ok (.bipush 6, 2) := dk_16 6 (dk_at dksX5_plainOf_0 3 rfl rfl)
theorem dX5_plainOf_5 : decode cX5_plainOf 5 = .ok (.invokevirtual 243, 3) := dk_182 0 243 (dk_at dksX5_plainOf_0 5 rfl rfl)
theorem dX5_plainOf_8 : decode cX5_plainOf 8 = .ok (.ifCond .eq 16, 3) := dk_153 0 16 (dk_at dksX5_plainOf_0 8 rfl rfl)
theorem dX5_plainOf_11 : decode cX5_plainOf 11 = .ok (.iload_n 2, 1) := dk_28 (dk_at dksX5_plainOf_0 11 rfl rfl)
theorem dX5_plainOf_12 : decode cX5_plainOf 12 = .ok (.ifCond .ne 7, 3) := dk_154 0 7 (dk_at dksX5_plainOf_0 12 rfl rfl)
theorem dX5_plainOf_15 : decode cX5_plainOf 15 = .ok (.iconst 1, 1) := dk_4 (dk_at dksX5_plainOf_0 15 rfl rfl)
theorem dX5_plainOf_16 : decode cX5_plainOf 16 = .ok (.goto 4, 3) := dk_167 0 4 (dk_at dksX5_plainOf_0 16 rfl rfl)
theorem dX5_plainOf_19 : decode cX5_plainOf 19 = .ok (.iconst 0, 1) := dk_3 (dk_at dksX5_plainOf_0 19 rfl rfl)
theorem dX5_plainOf_20 : decode cX5_plainOf 20 = .ok (.istore_n 2, 1) := dk_61 (dk_at dksX5_plainOf_0 20 rfl rfl)
theorem dX5_plainOf_21 : decode cX5_plainOf 21 = .ok (.goto (-19), 3) := dk_167 255 237 (dk_at dksX5_plainOf_0 21 rfl rfl)
theorem dX5_plainOf_24 : decode cX5_plainOf 24 = .ok (.aload_n 0, 1) := dk_42 (dk_at dksX5_plainOf_1 0 rfl rfl)
theorem dX5_plainOf_25 : decode cX5_plainOf 25 = .ok (.iload_n 1, 1) := dk_27 (dk_at dksX5_plainOf_1 1 rfl rfl)
theorem dX5_plainOf_26 : decode cX5_plainOf 26 = .ok (.invokevirtual 256, 3) := dk_182 1 0 (dk_at dksX5_plainOf_1 2 rfl rfl)
theorem dX5_plainOf_29 : decode cX5_plainOf 29 = .ok (.iload_n 2, 1) := dk_28 (dk_at dksX5_plainOf_1 5 rfl rfl)
theorem dX5_plainOf_30 : decode cX5_plainOf 30 = .ok (.if_icmp .eq 7, 3) := dk_159 0 7 (dk_at dksX5_plainOf_1 6 rfl rfl)
theorem dX5_plainOf_33 : decode cX5_plainOf 33 = .ok (.iconst 1, 1) := dk_4 (dk_at dksX5_plainOf_1 9 rfl rfl)
theorem dX5_plainOf_34 : decode cX5_plainOf 34 = .ok (.goto 4, 3) := dk_167 0 4 (dk_at dksX5_plainOf_1 10 rfl rfl)
theorem dX5_plainOf_37 : decode cX5_plainOf 37 = .ok (.iconst 0, 1) := dk_3 (dk_at dksX5_plainOf_1 13 rfl rfl)
theorem dX5_plainOf_38 : decode cX5_plainOf 38 = .ok (.ireturn, 1) := dk_172 (dk_at dksX5_plainOf_1 14 rfl rfl)
abbrev cX5_positiveOf : ByteArray := prog_25_method_58_code
def yX5_positiveOf : MethodName := ⟨RX5, "positiveOf", "(Z)Z"⟩
def dkwX5_positiveOf_5 : List UInt8 := [154, 0, 7, 4, 167, 0, 4, 3, 172]
abbrev dktX5_positiveOf_5 : List UInt8 := dkwX5_positiveOf_5 ++ []
def dkwX5_positiveOf_4 : List UInt8 := [21, 4, 16, 62, 184, 0, 193, 160, 0, 13, 32, 22, 5, 148, 158, 0, 17, 167, 0, 10, 32, 22, 5, 148]
abbrev dktX5_positiveOf_4 : List UInt8 := dkwX5_positiveOf_4 ++ dktX5_positiveOf_5
def dkwX5_positiveOf_3 : List UInt8 := [154, 0, 54, 21, 4, 16, 60, 184, 0, 193, 160, 0, 13, 32, 22, 5, 148, 156, 0, 37, 167, 0, 30]
abbrev dktX5_positiveOf_3 : List UInt8 := dkwX5_positiveOf_3 ++ dktX5_positiveOf_4
def dkwX5_positiveOf_2 : List UInt8 := [180, 0, 218, 4, 96, 181, 0, 218, 42, 27, 182, 0, 246, 55, 5, 27, 153, 0, 61, 42, 180, 0, 228]
abbrev dktX5_positiveOf_2 : List UInt8 := dkwX5_positiveOf_2 ++ dktX5_positiveOf_3
def dkwX5_positiveOf_1 : List UInt8 := [96, 181, 0, 218, 28, 172, 42, 27, 182, 0, 246, 65, 42, 42, 180, 0, 218, 182, 0, 221, 54, 4, 42, 89]
abbrev dktX5_positiveOf_1 : List UInt8 := dkwX5_positiveOf_1 ++ dktX5_positiveOf_2
def dkwX5_positiveOf_0 : List UInt8 := [42, 16, 40, 184, 0, 193, 182, 0, 243, 153, 0, 21, 42, 27, 182, 1, 3, 61, 42, 89, 180, 0, 218, 4]
abbrev dktX5_positiveOf_0 : List UInt8 := dkwX5_positiveOf_0 ++ dktX5_positiveOf_1
theorem dksX5_positiveOf_0 : cX5_positiveOf.data.toList.drop 0 = dktX5_positiveOf_0 := by decide +kernel
theorem dksX5_positiveOf_1 : cX5_positiveOf.data.toList.drop 24 = dktX5_positiveOf_1 := dk_seg dksX5_positiveOf_0 24 rfl rfl
theorem dksX5_positiveOf_2 : cX5_positiveOf.data.toList.drop 48 = dktX5_positiveOf_2 := dk_seg dksX5_positiveOf_1 24 rfl rfl
theorem dksX5_positiveOf_3 : cX5_positiveOf.data.toList.drop 71 = dktX5_positiveOf_3 := dk_seg dksX5_positiveOf_2 23 rfl rfl
theorem dksX5_positiveOf_4 : cX5_positiveOf.data.toList.drop 94 = dktX5_positiveOf_4 := dk_seg dksX5_positiveOf_3 23 rfl rfl
theorem dksX5_positiveOf_5 : cX5_positiveOf.data.toList.drop 118 = dktX5_positiveOf_5 := dk_seg dksX5_positiveOf_4 24 rfl rfl
theorem dX5_positiveOf_0 : decode cX5_positiveOf 0 = .ok (.aload_n 0, 1) := dk_42 (dk_at dksX5_positiveOf_0 0 rfl rfl)
theorem dX5_positiveOf_1 : decode cX5_positiveOf 1 = .ok (.bipush 40, 2) := dk_16 40 (dk_at dksX5_positiveOf_0 1 rfl rfl)
theorem dX5_positiveOf_3 : decode cX5_positiveOf 3 = .ok (.invokestatic 193, 3) := dk_184 0 193 (dk_at dksX5_positiveOf_0 3 rfl rfl)
theorem dX5_positiveOf_6 : decode cX5_positiveOf 6 = .ok (.invokevirtual 243, 3) := dk_182 0 243 (dk_at dksX5_positiveOf_0 6 rfl rfl)
theorem dX5_positiveOf_9 : decode cX5_positiveOf 9 = .ok (.ifCond .eq 21, 3) := dk_153 0 21 (dk_at dksX5_positiveOf_0 9 rfl rfl)
theorem dX5_positiveOf_12 : decode cX5_positiveOf 12 = .ok (.aload_n 0, 1) := dk_42 (dk_at dksX5_positiveOf_0 12 rfl rfl)
theorem dX5_positiveOf_13 : decode cX5_positiveOf 13 = .ok (.iload_n 1, 1) := dk_27 (dk_at dksX5_positiveOf_0 13 rfl rfl)
theorem dX5_positiveOf_14 : decode cX5_positiveOf 14 = .ok (.invokevirtual 259, 3) := dk_182 1 3 (dk_at dksX5_positiveOf_0 14 rfl rfl)
theorem dX5_positiveOf_17 : decode cX5_positiveOf 17 = .ok (.istore_n 2, 1) := dk_61 (dk_at dksX5_positiveOf_0 17 rfl rfl)
theorem dX5_positiveOf_18 : decode cX5_positiveOf 18 = .ok (.aload_n 0, 1) := dk_42 (dk_at dksX5_positiveOf_0 18 rfl rfl)
theorem dX5_positiveOf_19 : decode cX5_positiveOf 19 = .ok (.dup, 1) := dk_89 (dk_at dksX5_positiveOf_0 19 rfl rfl)
theorem dX5_positiveOf_20 : decode cX5_positiveOf 20 = .ok (.getfield 218, 3) := dk_180 0 218 (dk_at dksX5_positiveOf_0 20 rfl rfl)
theorem dX5_positiveOf_23 : decode cX5_positiveOf 23 = .ok (.iconst 1, 1) := dk_4 (dk_at dksX5_positiveOf_0 23 rfl rfl)
theorem dX5_positiveOf_24 : decode cX5_positiveOf 24 = .ok (.iadd, 1) := dk_96 (dk_at dksX5_positiveOf_1 0 rfl rfl)
theorem dX5_positiveOf_25 : decode cX5_positiveOf 25 = .ok (.putfield 218, 3) := dk_181 0 218 (dk_at dksX5_positiveOf_1 1 rfl rfl)
theorem dX5_positiveOf_28 : decode cX5_positiveOf 28 = .ok (.iload_n 2, 1) := dk_28 (dk_at dksX5_positiveOf_1 4 rfl rfl)
theorem dX5_positiveOf_29 : decode cX5_positiveOf 29 = .ok (.ireturn, 1) := dk_172 (dk_at dksX5_positiveOf_1 5 rfl rfl)
theorem dX5_positiveOf_30 : decode cX5_positiveOf 30 = .ok (.aload_n 0, 1) := dk_42 (dk_at dksX5_positiveOf_1 6 rfl rfl)
theorem dX5_positiveOf_31 : decode cX5_positiveOf 31 = .ok (.iload_n 1, 1) := dk_27 (dk_at dksX5_positiveOf_1 7 rfl rfl)
theorem dX5_positiveOf_32 : decode cX5_positiveOf 32 = .ok (.invokevirtual 246, 3) := dk_182 0 246 (dk_at dksX5_positiveOf_1 8 rfl rfl)
theorem dX5_positiveOf_35 : decode cX5_positiveOf 35 = .ok (.lstore_n 2, 1) := dk_65 (dk_at dksX5_positiveOf_1 11 rfl rfl)
theorem dX5_positiveOf_36 : decode cX5_positiveOf 36 = .ok (.aload_n 0, 1) := dk_42 (dk_at dksX5_positiveOf_1 12 rfl rfl)
theorem dX5_positiveOf_37 : decode cX5_positiveOf 37 = .ok (.aload_n 0, 1) := dk_42 (dk_at dksX5_positiveOf_1 13 rfl rfl)
theorem dX5_positiveOf_38 : decode cX5_positiveOf 38 = .ok (.getfield 218, 3) := dk_180 0 218 (dk_at dksX5_positiveOf_1 14 rfl rfl)
theorem dX5_positiveOf_41 : decode cX5_positiveOf 41 = .ok (.invokevirtual 221, 3) := dk_182 0 221 (dk_at dksX5_positiveOf_1 17 rfl rfl)
theorem dX5_positiveOf_44 : decode cX5_positiveOf 44 = .ok (.istore 4, 2) := dk_54 4 (dk_at dksX5_positiveOf_1 20 rfl rfl)
theorem dX5_positiveOf_46 : decode cX5_positiveOf 46 = .ok (.aload_n 0, 1) := dk_42 (dk_at dksX5_positiveOf_1 22 rfl rfl)
theorem dX5_positiveOf_47 : decode cX5_positiveOf 47 = .ok (.dup, 1) := dk_89 (dk_at dksX5_positiveOf_1 23 rfl rfl)
theorem dX5_positiveOf_48 : decode cX5_positiveOf 48 = .ok (.getfield 218, 3) := dk_180 0 218 (dk_at dksX5_positiveOf_2 0 rfl rfl)
theorem dX5_positiveOf_51 : decode cX5_positiveOf 51 = .ok (.iconst 1, 1) := dk_4 (dk_at dksX5_positiveOf_2 3 rfl rfl)
theorem dX5_positiveOf_52 : decode cX5_positiveOf 52 = .ok (.iadd, 1) := dk_96 (dk_at dksX5_positiveOf_2 4 rfl rfl)
theorem dX5_positiveOf_53 : decode cX5_positiveOf 53 = .ok (.putfield 218, 3) := dk_181 0 218 (dk_at dksX5_positiveOf_2 5 rfl rfl)
theorem dX5_positiveOf_56 : decode cX5_positiveOf 56 = .ok (.aload_n 0, 1) := dk_42 (dk_at dksX5_positiveOf_2 8 rfl rfl)
theorem dX5_positiveOf_57 : decode cX5_positiveOf 57 = .ok (.iload_n 1, 1) := dk_27 (dk_at dksX5_positiveOf_2 9 rfl rfl)
theorem dX5_positiveOf_58 : decode cX5_positiveOf 58 = .ok (.invokevirtual 246, 3) := dk_182 0 246 (dk_at dksX5_positiveOf_2 10 rfl rfl)
theorem dX5_positiveOf_61 : decode cX5_positiveOf 61 = .ok (.lstore 5, 2) := dk_55 5 (dk_at dksX5_positiveOf_2 13 rfl rfl)
theorem dX5_positiveOf_63 : decode cX5_positiveOf 63 = .ok (.iload_n 1, 1) := dk_27 (dk_at dksX5_positiveOf_2 15 rfl rfl)
theorem dX5_positiveOf_64 : decode cX5_positiveOf 64 = .ok (.ifCond .eq 61, 3) := dk_153 0 61 (dk_at dksX5_positiveOf_2 16 rfl rfl)
theorem dX5_positiveOf_67 : decode cX5_positiveOf 67 = .ok (.aload_n 0, 1) := dk_42 (dk_at dksX5_positiveOf_2 19 rfl rfl)
theorem dX5_positiveOf_68 : decode cX5_positiveOf 68 = .ok (.getfield 228, 3) := dk_180 0 228 (dk_at dksX5_positiveOf_2 20 rfl rfl)
theorem dX5_positiveOf_71 : decode cX5_positiveOf 71 = .ok (.ifCond .ne 54, 3) := dk_154 0 54 (dk_at dksX5_positiveOf_3 0 rfl rfl)
theorem dX5_positiveOf_74 : decode cX5_positiveOf 74 = .ok (.iload 4, 2) := dk_21 4 (dk_at dksX5_positiveOf_3 3 rfl rfl)
theorem dX5_positiveOf_76 : decode cX5_positiveOf 76 = .ok (.bipush 60, 2) := dk_16 60 (dk_at dksX5_positiveOf_3 5 rfl rfl)
theorem dX5_positiveOf_78 : decode cX5_positiveOf 78 = .ok (.invokestatic 193, 3) := dk_184 0 193 (dk_at dksX5_positiveOf_3 7 rfl rfl)
theorem dX5_positiveOf_81 : decode cX5_positiveOf 81 = .ok (.if_icmp .ne 13, 3) := dk_160 0 13 (dk_at dksX5_positiveOf_3 10 rfl rfl)
theorem dX5_positiveOf_84 : decode cX5_positiveOf 84 = .ok (.lload_n 2, 1) := dk_32 (dk_at dksX5_positiveOf_3 13 rfl rfl)
theorem dX5_positiveOf_85 : decode cX5_positiveOf 85 = .ok (.lload 5, 2) := dk_22 5 (dk_at dksX5_positiveOf_3 14 rfl rfl)
theorem dX5_positiveOf_87 : decode cX5_positiveOf 87 = .ok (.lcmp, 1) := dk_148 (dk_at dksX5_positiveOf_3 16 rfl rfl)
theorem dX5_positiveOf_88 : decode cX5_positiveOf 88 = .ok (.ifCond .ge 37, 3) := dk_156 0 37 (dk_at dksX5_positiveOf_3 17 rfl rfl)
theorem dX5_positiveOf_91 : decode cX5_positiveOf 91 = .ok (.goto 30, 3) := dk_167 0 30 (dk_at dksX5_positiveOf_3 20 rfl rfl)
theorem dX5_positiveOf_94 : decode cX5_positiveOf 94 = .ok (.iload 4, 2) := dk_21 4 (dk_at dksX5_positiveOf_4 0 rfl rfl)
theorem dX5_positiveOf_96 : decode cX5_positiveOf 96 = .ok (.bipush 62, 2) := dk_16 62 (dk_at dksX5_positiveOf_4 2 rfl rfl)
theorem dX5_positiveOf_98 : decode cX5_positiveOf 98 = .ok (.invokestatic 193, 3) := dk_184 0 193 (dk_at dksX5_positiveOf_4 4 rfl rfl)
theorem dX5_positiveOf_101 : decode cX5_positiveOf 101 = .ok (.if_icmp .ne 13, 3) := dk_160 0 13 (dk_at dksX5_positiveOf_4 7 rfl rfl)
theorem dX5_positiveOf_104 : decode cX5_positiveOf 104 = .ok (.lload_n 2, 1) := dk_32 (dk_at dksX5_positiveOf_4 10 rfl rfl)
theorem dX5_positiveOf_105 : decode cX5_positiveOf 105 = .ok (.lload 5, 2) := dk_22 5 (dk_at dksX5_positiveOf_4 11 rfl rfl)
theorem dX5_positiveOf_107 : decode cX5_positiveOf 107 = .ok (.lcmp, 1) := dk_148 (dk_at dksX5_positiveOf_4 13 rfl rfl)
theorem dX5_positiveOf_108 : decode cX5_positiveOf 108 = .ok (.ifCond .le 17, 3) := dk_158 0 17 (dk_at dksX5_positiveOf_4 14 rfl rfl)
theorem dX5_positiveOf_111 : decode cX5_positiveOf 111 = .ok (.goto 10, 3) := dk_167 0 10 (dk_at dksX5_positiveOf_4 17 rfl rfl)
theorem dX5_positiveOf_114 : decode cX5_positiveOf 114 = .ok (.lload_n 2, 1) := dk_32 (dk_at dksX5_positiveOf_4 20 rfl rfl)
theorem dX5_positiveOf_115 : decode cX5_positiveOf 115 = .ok (.lload 5, 2) := dk_22 5 (dk_at dksX5_positiveOf_4 21 rfl rfl)
theorem dX5_positiveOf_117 : decode cX5_positiveOf 117 = .ok (.lcmp, 1) := dk_148 (dk_at dksX5_positiveOf_4 23 rfl rfl)
theorem dX5_positiveOf_118 : decode cX5_positiveOf 118 = .ok (.ifCond .ne 7, 3) := dk_154 0 7 (dk_at dksX5_positiveOf_5 0 rfl rfl)
theorem dX5_positiveOf_121 : decode cX5_positiveOf 121 = .ok (.iconst 1, 1) := dk_4 (dk_at dksX5_positiveOf_5 3 rfl rfl)
theorem dX5_positiveOf_122 : decode cX5_positiveOf 122 = .ok (.goto 4, 3) := dk_167 0 4 (dk_at dksX5_positiveOf_5 4 rfl rfl)
theorem dX5_positiveOf_125 : decode cX5_positiveOf 125 = .ok (.iconst 0, 1) := dk_3 (dk_at dksX5_positiveOf_5 7 rfl rfl)
theorem dX5_positiveOf_126 : decode cX5_positiveOf 126 = .ok (.ireturn, 1) := dk_172 (dk_at dksX5_positiveOf_5 8 rfl rfl)
abbrev cX5_touch : ByteArray := prog_25_method_60_code
def yX5_touch : MethodName := ⟨RX5, "touch", "(II)Z"⟩
def dkwX5_touch_5 : List UInt8 := [167, 255, 144, 3, 172]
abbrev dktX5_touch_5 : List UInt8 := dkwX5_touch_5 ++ []
def dkwX5_touch_4 : List UInt8 := [154, 0, 17, 42, 28, 21, 4, 21, 5, 4, 100, 182, 0, 120, 153, 0, 5, 4, 172, 132, 3, 1]
abbrev dktX5_touch_4 : List UInt8 := dkwX5_touch_4 ++ dktX5_touch_5
def dkwX5_touch_3 : List UInt8 := [21, 4, 4, 100, 21, 5, 182, 0, 120, 154, 0, 31, 42, 28, 21, 4, 21, 5, 4, 96, 182, 0, 120]
abbrev dktX5_touch_3 : List UInt8 := dkwX5_touch_3 ++ dktX5_touch_4
def dkwX5_touch_2 : List UInt8 := [182, 0, 113, 108, 96, 54, 5, 42, 28, 21, 4, 4, 96, 21, 5, 182, 0, 120, 154, 0, 45, 42, 28]
abbrev dktX5_touch_2 : List UInt8 := dkwX5_touch_2 ++ dktX5_touch_3
def dkwX5_touch_1 : List UInt8 := [182, 0, 113, 29, 42, 27, 5, 182, 0, 113, 112, 96, 54, 4, 42, 27, 4, 182, 0, 113, 29, 42, 27, 5]
abbrev dktX5_touch_1 : List UInt8 := dkwX5_touch_1 ++ dktX5_touch_2
def dkwX5_touch_0 : List UInt8 := [3, 62, 29, 42, 27, 5, 182, 0, 113, 42, 27, 6, 182, 0, 113, 104, 162, 0, 101, 42, 27, 3]
abbrev dktX5_touch_0 : List UInt8 := dkwX5_touch_0 ++ dktX5_touch_1
theorem dksX5_touch_0 : cX5_touch.data.toList.drop 0 = dktX5_touch_0 := by decide +kernel
theorem dksX5_touch_1 : cX5_touch.data.toList.drop 22 = dktX5_touch_1 := dk_seg dksX5_touch_0 22 rfl rfl
theorem dksX5_touch_2 : cX5_touch.data.toList.drop 46 = dktX5_touch_2 := dk_seg dksX5_touch_1 24 rfl rfl
theorem dksX5_touch_3 : cX5_touch.data.toList.drop 69 = dktX5_touch_3 := dk_seg dksX5_touch_2 23 rfl rfl
theorem dksX5_touch_4 : cX5_touch.data.toList.drop 92 = dktX5_touch_4 := dk_seg dksX5_touch_3 23 rfl rfl
theorem dksX5_touch_5 : cX5_touch.data.toList.drop 114 = dktX5_touch_5 := dk_seg dksX5_touch_4 22 rfl rfl
theorem dX5_touch_0 : decode cX5_touch 0 = .ok (.iconst 0, 1) := dk_3 (dk_at dksX5_touch_0 0 rfl rfl)
theorem dX5_touch_1 : decode cX5_touch 1 = .ok (.istore_n 3, 1) := dk_62 (dk_at dksX5_touch_0 1 rfl rfl)
theorem dX5_touch_2 : decode cX5_touch 2 = .ok (.iload_n 3, 1) := dk_29 (dk_at dksX5_touch_0 2 rfl rfl)
theorem dX5_touch_3 : decode cX5_touch 3 = .ok (.aload_n 0, 1) := dk_42 (dk_at dksX5_touch_0 3 rfl rfl)
theorem dX5_touch_4 : decode cX5_touch 4 = .ok (.iload_n 1, 1) := dk_27 (dk_at dksX5_touch_0 4 rfl rfl)
theorem dX5_touch_5 : decode cX5_touch 5 = .ok (.iconst 2, 1) := dk_5 (dk_at dksX5_touch_0 5 rfl rfl)
theorem dX5_touch_6 : decode cX5_touch 6 = .ok (.invokevirtual 113, 3) := dk_182 0 113 (dk_at dksX5_touch_0 6 rfl rfl)
theorem dX5_touch_9 : decode cX5_touch 9 = .ok (.aload_n 0, 1) := dk_42 (dk_at dksX5_touch_0 9 rfl rfl)
theorem dX5_touch_10 : decode cX5_touch 10 = .ok (.iload_n 1, 1) := dk_27 (dk_at dksX5_touch_0 10 rfl rfl)
theorem dX5_touch_11 : decode cX5_touch 11 = .ok (.iconst 3, 1) := dk_6 (dk_at dksX5_touch_0 11 rfl rfl)
theorem dX5_touch_12 : decode cX5_touch 12 = .ok (.invokevirtual 113, 3) := dk_182 0 113 (dk_at dksX5_touch_0 12 rfl rfl)
theorem dX5_touch_15 : decode cX5_touch 15 = .ok (.imul, 1) := dk_104 (dk_at dksX5_touch_0 15 rfl rfl)
theorem dX5_touch_16 : decode cX5_touch 16 = .ok (.if_icmp .ge 101, 3) := dk_162 0 101 (dk_at dksX5_touch_0 16 rfl rfl)
theorem dX5_touch_19 : decode cX5_touch 19 = .ok (.aload_n 0, 1) := dk_42 (dk_at dksX5_touch_0 19 rfl rfl)
theorem dX5_touch_20 : decode cX5_touch 20 = .ok (.iload_n 1, 1) := dk_27 (dk_at dksX5_touch_0 20 rfl rfl)
theorem dX5_touch_21 : decode cX5_touch 21 = .ok (.iconst 0, 1) := dk_3 (dk_at dksX5_touch_0 21 rfl rfl)
theorem dX5_touch_22 : decode cX5_touch 22 = .ok (.invokevirtual 113, 3) := dk_182 0 113 (dk_at dksX5_touch_1 0 rfl rfl)
theorem dX5_touch_25 : decode cX5_touch 25 = .ok (.iload_n 3, 1) := dk_29 (dk_at dksX5_touch_1 3 rfl rfl)
theorem dX5_touch_26 : decode cX5_touch 26 = .ok (.aload_n 0, 1) := dk_42 (dk_at dksX5_touch_1 4 rfl rfl)
theorem dX5_touch_27 : decode cX5_touch 27 = .ok (.iload_n 1, 1) := dk_27 (dk_at dksX5_touch_1 5 rfl rfl)
theorem dX5_touch_28 : decode cX5_touch 28 = .ok (.iconst 2, 1) := dk_5 (dk_at dksX5_touch_1 6 rfl rfl)
theorem dX5_touch_29 : decode cX5_touch 29 = .ok (.invokevirtual 113, 3) := dk_182 0 113 (dk_at dksX5_touch_1 7 rfl rfl)
theorem dX5_touch_32 : decode cX5_touch 32 = .ok (.irem, 1) := dk_112 (dk_at dksX5_touch_1 10 rfl rfl)
theorem dX5_touch_33 : decode cX5_touch 33 = .ok (.iadd, 1) := dk_96 (dk_at dksX5_touch_1 11 rfl rfl)
theorem dX5_touch_34 : decode cX5_touch 34 = .ok (.istore 4, 2) := dk_54 4 (dk_at dksX5_touch_1 12 rfl rfl)
theorem dX5_touch_36 : decode cX5_touch 36 = .ok (.aload_n 0, 1) := dk_42 (dk_at dksX5_touch_1 14 rfl rfl)
theorem dX5_touch_37 : decode cX5_touch 37 = .ok (.iload_n 1, 1) := dk_27 (dk_at dksX5_touch_1 15 rfl rfl)
theorem dX5_touch_38 : decode cX5_touch 38 = .ok (.iconst 1, 1) := dk_4 (dk_at dksX5_touch_1 16 rfl rfl)
theorem dX5_touch_39 : decode cX5_touch 39 = .ok (.invokevirtual 113, 3) := dk_182 0 113 (dk_at dksX5_touch_1 17 rfl rfl)
theorem dX5_touch_42 : decode cX5_touch 42 = .ok (.iload_n 3, 1) := dk_29 (dk_at dksX5_touch_1 20 rfl rfl)
theorem dX5_touch_43 : decode cX5_touch 43 = .ok (.aload_n 0, 1) := dk_42 (dk_at dksX5_touch_1 21 rfl rfl)
theorem dX5_touch_44 : decode cX5_touch 44 = .ok (.iload_n 1, 1) := dk_27 (dk_at dksX5_touch_1 22 rfl rfl)
theorem dX5_touch_45 : decode cX5_touch 45 = .ok (.iconst 2, 1) := dk_5 (dk_at dksX5_touch_1 23 rfl rfl)
theorem dX5_touch_46 : decode cX5_touch 46 = .ok (.invokevirtual 113, 3) := dk_182 0 113 (dk_at dksX5_touch_2 0 rfl rfl)
theorem dX5_touch_49 : decode cX5_touch 49 = .ok (.idiv, 1) := dk_108 (dk_at dksX5_touch_2 3 rfl rfl)
theorem dX5_touch_50 : decode cX5_touch 50 = .ok (.iadd, 1) := dk_96 (dk_at dksX5_touch_2 4 rfl rfl)
theorem dX5_touch_51 : decode cX5_touch 51 = .ok (.istore 5, 2) := dk_54 5 (dk_at dksX5_touch_2 5 rfl rfl)
theorem dX5_touch_53 : decode cX5_touch 53 = .ok (.aload_n 0, 1) := dk_42 (dk_at dksX5_touch_2 7 rfl rfl)
theorem dX5_touch_54 : decode cX5_touch 54 = .ok (.iload_n 2, 1) := dk_28 (dk_at dksX5_touch_2 8 rfl rfl)
theorem dX5_touch_55 : decode cX5_touch 55 = .ok (.iload 4, 2) := dk_21 4 (dk_at dksX5_touch_2 9 rfl rfl)
theorem dX5_touch_57 : decode cX5_touch 57 = .ok (.iconst 1, 1) := dk_4 (dk_at dksX5_touch_2 11 rfl rfl)
theorem dX5_touch_58 : decode cX5_touch 58 = .ok (.iadd, 1) := dk_96 (dk_at dksX5_touch_2 12 rfl rfl)
theorem dX5_touch_59 : decode cX5_touch 59 = .ok (.iload 5, 2) := dk_21 5 (dk_at dksX5_touch_2 13 rfl rfl)
theorem dX5_touch_61 : decode cX5_touch 61 = .ok (.invokevirtual 120, 3) := dk_182 0 120 (dk_at dksX5_touch_2 15 rfl rfl)
theorem dX5_touch_64 : decode cX5_touch 64 = .ok (.ifCond .ne 45, 3) := dk_154 0 45 (dk_at dksX5_touch_2 18 rfl rfl)
theorem dX5_touch_67 : decode cX5_touch 67 = .ok (.aload_n 0, 1) := dk_42 (dk_at dksX5_touch_2 21 rfl rfl)
theorem dX5_touch_68 : decode cX5_touch 68 = .ok (.iload_n 2, 1) := dk_28 (dk_at dksX5_touch_2 22 rfl rfl)
theorem dX5_touch_69 : decode cX5_touch 69 = .ok (.iload 4, 2) := dk_21 4 (dk_at dksX5_touch_3 0 rfl rfl)
theorem dX5_touch_71 : decode cX5_touch 71 = .ok (.iconst 1, 1) := dk_4 (dk_at dksX5_touch_3 2 rfl rfl)
theorem dX5_touch_72 : decode cX5_touch 72 = .ok (.isub, 1) := dk_100 (dk_at dksX5_touch_3 3 rfl rfl)
theorem dX5_touch_73 : decode cX5_touch 73 = .ok (.iload 5, 2) := dk_21 5 (dk_at dksX5_touch_3 4 rfl rfl)
theorem dX5_touch_75 : decode cX5_touch 75 = .ok (.invokevirtual 120, 3) := dk_182 0 120 (dk_at dksX5_touch_3 6 rfl rfl)
theorem dX5_touch_78 : decode cX5_touch 78 = .ok (.ifCond .ne 31, 3) := dk_154 0 31 (dk_at dksX5_touch_3 9 rfl rfl)
theorem dX5_touch_81 : decode cX5_touch 81 = .ok (.aload_n 0, 1) := dk_42 (dk_at dksX5_touch_3 12 rfl rfl)
theorem dX5_touch_82 : decode cX5_touch 82 = .ok (.iload_n 2, 1) := dk_28 (dk_at dksX5_touch_3 13 rfl rfl)
theorem dX5_touch_83 : decode cX5_touch 83 = .ok (.iload 4, 2) := dk_21 4 (dk_at dksX5_touch_3 14 rfl rfl)
theorem dX5_touch_85 : decode cX5_touch 85 = .ok (.iload 5, 2) := dk_21 5 (dk_at dksX5_touch_3 16 rfl rfl)
theorem dX5_touch_87 : decode cX5_touch 87 = .ok (.iconst 1, 1) := dk_4 (dk_at dksX5_touch_3 18 rfl rfl)
theorem dX5_touch_88 : decode cX5_touch 88 = .ok (.iadd, 1) := dk_96 (dk_at dksX5_touch_3 19 rfl rfl)
theorem dX5_touch_89 : decode cX5_touch 89 = .ok (.invokevirtual 120, 3) := dk_182 0 120 (dk_at dksX5_touch_3 20 rfl rfl)
theorem dX5_touch_92 : decode cX5_touch 92 = .ok (.ifCond .ne 17, 3) := dk_154 0 17 (dk_at dksX5_touch_4 0 rfl rfl)
theorem dX5_touch_95 : decode cX5_touch 95 = .ok (.aload_n 0, 1) := dk_42 (dk_at dksX5_touch_4 3 rfl rfl)
theorem dX5_touch_96 : decode cX5_touch 96 = .ok (.iload_n 2, 1) := dk_28 (dk_at dksX5_touch_4 4 rfl rfl)
theorem dX5_touch_97 : decode cX5_touch 97 = .ok (.iload 4, 2) := dk_21 4 (dk_at dksX5_touch_4 5 rfl rfl)
theorem dX5_touch_99 : decode cX5_touch 99 = .ok (.iload 5, 2) := dk_21 5 (dk_at dksX5_touch_4 7 rfl rfl)
theorem dX5_touch_101 : decode cX5_touch 101 = .ok (.iconst 1, 1) := dk_4 (dk_at dksX5_touch_4 9 rfl rfl)
theorem dX5_touch_102 : decode cX5_touch 102 = .ok (.isub, 1) := dk_100 (dk_at dksX5_touch_4 10 rfl rfl)
theorem dX5_touch_103 : decode cX5_touch 103 = .ok (.invokevirtual 120, 3) := dk_182 0 120 (dk_at dksX5_touch_4 11 rfl rfl)
theorem dX5_touch_106 : decode cX5_touch 106 = .ok (.ifCond .eq 5, 3) := dk_153 0 5 (dk_at dksX5_touch_4 14 rfl rfl)
theorem dX5_touch_109 : decode cX5_touch 109 = .ok (.iconst 1, 1) := dk_4 (dk_at dksX5_touch_4 17 rfl rfl)
theorem dX5_touch_110 : decode cX5_touch 110 = .ok (.ireturn, 1) := dk_172 (dk_at dksX5_touch_4 18 rfl rfl)
theorem dX5_touch_111 : decode cX5_touch 111 = .ok (.iinc 3 1, 3) := dk_132 3 1 (dk_at dksX5_touch_4 19 rfl rfl)
theorem dX5_touch_114 : decode cX5_touch 114 = .ok (.goto (-112), 3) := dk_167 255 144 (dk_at dksX5_touch_5 0 rfl rfl)
theorem dX5_touch_117 : decode cX5_touch 117 = .ok (.iconst 0, 1) := dk_3 (dk_at dksX5_touch_5 3 rfl rfl)
theorem dX5_touch_118 : decode cX5_touch 118 = .ok (.ireturn, 1) := dk_172 (dk_at dksX5_touch_5 4 rfl rfl)
abbrev cX5_ones : ByteArray := prog_25_method_5_code
def yX5_ones : MethodName := ⟨RX5, "ones", "(I)I"⟩
def dkwX5_ones_1 : List UInt8 := [27, 172]
abbrev dktX5_ones_1 : List UInt8 := dkwX5_ones_1 ++ []
def dkwX5_ones_0 : List UInt8 := [3, 60, 3, 61, 28, 16, 22, 162, 0, 17, 27, 26, 28, 122, 4, 126, 96, 60, 132, 2, 1, 167, 255, 239]
abbrev dktX5_ones_0 : List UInt8 := dkwX5_ones_0 ++ dktX5_ones_1
theorem dksX5_ones_0 : cX5_ones.data.toList.drop 0 = dktX5_ones_0 := by decide +kernel
theorem dksX5_ones_1 : cX5_ones.data.toList.drop 24 = dktX5_ones_1 := dk_seg dksX5_ones_0 24 rfl rfl
theorem dX5_ones_0 : decode cX5_ones 0 = .ok (.iconst 0, 1) := dk_3 (dk_at dksX5_ones_0 0 rfl rfl)
theorem dX5_ones_1 : decode cX5_ones 1 = .ok (.istore_n 1, 1) := dk_60 (dk_at dksX5_ones_0 1 rfl rfl)
theorem dX5_ones_2 : decode cX5_ones 2 = .ok (.iconst 0, 1) := dk_3 (dk_at dksX5_ones_0 2 rfl rfl)
theorem dX5_ones_3 : decode cX5_ones 3 = .ok (.istore_n 2, 1) := dk_61 (dk_at dksX5_ones_0 3 rfl rfl)
theorem dX5_ones_4 : decode cX5_ones 4 = .ok (.iload_n 2, 1) := dk_28 (dk_at dksX5_ones_0 4 rfl rfl)
theorem dX5_ones_5 : decode cX5_ones 5 = .ok (.bipush 22, 2) := dk_16 22 (dk_at dksX5_ones_0 5 rfl rfl)
theorem dX5_ones_7 : decode cX5_ones 7 = .ok (.if_icmp .ge 17, 3) := dk_162 0 17 (dk_at dksX5_ones_0 7 rfl rfl)
theorem dX5_ones_10 : decode cX5_ones 10 = .ok (.iload_n 1, 1) := dk_27 (dk_at dksX5_ones_0 10 rfl rfl)
theorem dX5_ones_11 : decode cX5_ones 11 = .ok (.iload_n 0, 1) := dk_26 (dk_at dksX5_ones_0 11 rfl rfl)
theorem dX5_ones_12 : decode cX5_ones 12 = .ok (.iload_n 2, 1) := dk_28 (dk_at dksX5_ones_0 12 rfl rfl)
theorem dX5_ones_13 : decode cX5_ones 13 = .ok (.ishr, 1) := dk_122 (dk_at dksX5_ones_0 13 rfl rfl)
theorem dX5_ones_14 : decode cX5_ones 14 = .ok (.iconst 1, 1) := dk_4 (dk_at dksX5_ones_0 14 rfl rfl)
theorem dX5_ones_15 : decode cX5_ones 15 = .ok (.iand, 1) := dk_126 (dk_at dksX5_ones_0 15 rfl rfl)
theorem dX5_ones_16 : decode cX5_ones 16 = .ok (.iadd, 1) := dk_96 (dk_at dksX5_ones_0 16 rfl rfl)
theorem dX5_ones_17 : decode cX5_ones 17 = .ok (.istore_n 1, 1) := dk_60 (dk_at dksX5_ones_0 17 rfl rfl)
theorem dX5_ones_18 : decode cX5_ones 18 = .ok (.iinc 2 1, 3) := dk_132 2 1 (dk_at dksX5_ones_0 18 rfl rfl)
theorem dX5_ones_21 : decode cX5_ones 21 = .ok (.goto (-17), 3) := dk_167 255 239 (dk_at dksX5_ones_0 21 rfl rfl)
theorem dX5_ones_24 : decode cX5_ones 24 = .ok (.iload_n 1, 1) := dk_27 (dk_at dksX5_ones_1 0 rfl rfl)
theorem dX5_ones_25 : decode cX5_ones 25 = .ok (.ireturn, 1) := dk_172 (dk_at dksX5_ones_1 1 rfl rfl)
abbrev cX5_unlawful : ByteArray := prog_25_method_67_code
def yX5_unlawful : MethodName := ⟨RX5, "unlawful", "()I"⟩
def dkwX5_unlawful_1 : List UInt8 := [162, 0, 19, 27, 28, 184, 1, 18, 153, 0, 5, 28, 172, 132, 2, 1, 167, 255, 235, 2, 172]
abbrev dktX5_unlawful_1 : List UInt8 := dkwX5_unlawful_1 ++ []
def dkwX5_unlawful_0 : List UInt8 := [42, 182, 1, 27, 42, 42, 180, 0, 20, 17, 0, 159, 46, 182, 1, 24, 60, 3, 61, 28, 42, 182, 0, 102]
abbrev dktX5_unlawful_0 : List UInt8 := dkwX5_unlawful_0 ++ dktX5_unlawful_1
theorem dksX5_unlawful_0 : cX5_unlawful.data.toList.drop 0 = dktX5_unlawful_0 := by decide +kernel
theorem dksX5_unlawful_1 : cX5_unlawful.data.toList.drop 24 = dktX5_unlawful_1 := dk_seg dksX5_unlawful_0 24 rfl rfl
theorem dX5_unlawful_0 : decode cX5_unlawful 0 = .ok (.aload_n 0, 1) := dk_42 (dk_at dksX5_unlawful_0 0 rfl rfl)
theorem dX5_unlawful_1 : decode cX5_unlawful 1 = .ok (.invokevirtual 283, 3) := dk_182 1 27 (dk_at dksX5_unlawful_0 1 rfl rfl)
theorem dX5_unlawful_4 : decode cX5_unlawful 4 = .ok (.aload_n 0, 1) := dk_42 (dk_at dksX5_unlawful_0 4 rfl rfl)
theorem dX5_unlawful_5 : decode cX5_unlawful 5 = .ok (.aload_n 0, 1) := dk_42 (dk_at dksX5_unlawful_0 5 rfl rfl)
theorem dX5_unlawful_6 : decode cX5_unlawful 6 = .ok (.getfield 20, 3) := dk_180 0 20 (dk_at dksX5_unlawful_0 6 rfl rfl)
theorem dX5_unlawful_9 : decode cX5_unlawful 9 = .ok (.sipush 159, 3) := dk_17 0 159 (dk_at dksX5_unlawful_0 9 rfl rfl)
theorem dX5_unlawful_12 : decode cX5_unlawful 12 = .ok (.iaload, 1) := dk_46 (dk_at dksX5_unlawful_0 12 rfl rfl)
theorem dX5_unlawful_13 : decode cX5_unlawful 13 = .ok (.invokevirtual 280, 3) := dk_182 1 24 (dk_at dksX5_unlawful_0 13 rfl rfl)
theorem dX5_unlawful_16 : decode cX5_unlawful 16 = .ok (.istore_n 1, 1) := dk_60 (dk_at dksX5_unlawful_0 16 rfl rfl)
theorem dX5_unlawful_17 : decode cX5_unlawful 17 = .ok (.iconst 0, 1) := dk_3 (dk_at dksX5_unlawful_0 17 rfl rfl)
theorem dX5_unlawful_18 : decode cX5_unlawful 18 = .ok (.istore_n 2, 1) := dk_61 (dk_at dksX5_unlawful_0 18 rfl rfl)
theorem dX5_unlawful_19 : decode cX5_unlawful 19 = .ok (.iload_n 2, 1) := dk_28 (dk_at dksX5_unlawful_0 19 rfl rfl)
theorem dX5_unlawful_20 : decode cX5_unlawful 20 = .ok (.aload_n 0, 1) := dk_42 (dk_at dksX5_unlawful_0 20 rfl rfl)
theorem dX5_unlawful_21 : decode cX5_unlawful 21 = .ok (.invokevirtual 102, 3) := dk_182 0 102 (dk_at dksX5_unlawful_0 21 rfl rfl)
theorem dX5_unlawful_24 : decode cX5_unlawful 24 = .ok (.if_icmp .ge 19, 3) := dk_162 0 19 (dk_at dksX5_unlawful_1 0 rfl rfl)
theorem dX5_unlawful_27 : decode cX5_unlawful 27 = .ok (.iload_n 1, 1) := dk_27 (dk_at dksX5_unlawful_1 3 rfl rfl)
theorem dX5_unlawful_28 : decode cX5_unlawful 28 = .ok (.iload_n 2, 1) := dk_28 (dk_at dksX5_unlawful_1 4 rfl rfl)
theorem dX5_unlawful_29 : decode cX5_unlawful 29 = .ok (.invokestatic 274, 3) := dk_184 1 18 (dk_at dksX5_unlawful_1 5 rfl rfl)
theorem dX5_unlawful_32 : decode cX5_unlawful 32 = .ok (.ifCond .eq 5, 3) := dk_153 0 5 (dk_at dksX5_unlawful_1 8 rfl rfl)
theorem dX5_unlawful_35 : decode cX5_unlawful 35 = .ok (.iload_n 2, 1) := dk_28 (dk_at dksX5_unlawful_1 11 rfl rfl)
theorem dX5_unlawful_36 : decode cX5_unlawful 36 = .ok (.ireturn, 1) := dk_172 (dk_at dksX5_unlawful_1 12 rfl rfl)
theorem dX5_unlawful_37 : decode cX5_unlawful 37 = .ok (.iinc 2 1, 3) := dk_132 2 1 (dk_at dksX5_unlawful_1 13 rfl rfl)
theorem dX5_unlawful_40 : decode cX5_unlawful 40 = .ok (.goto (-21), 3) := dk_167 255 235 (dk_at dksX5_unlawful_1 16 rfl rfl)
theorem dX5_unlawful_43 : decode cX5_unlawful 43 = .ok (.iconst (-1), 1) := dk_2 (dk_at dksX5_unlawful_1 19 rfl rfl)
theorem dX5_unlawful_44 : decode cX5_unlawful 44 = .ok (.ireturn, 1) := dk_172 (dk_at dksX5_unlawful_1 20 rfl rfl)
abbrev cX5_loose : ByteArray := prog_25_method_63_code
def yX5_loose : MethodName := ⟨RX5, "loose", "(I)I"⟩
def dkwX5_loose_1 : List UInt8 := [154, 0, 9, 28, 4, 29, 120, 128, 61, 132, 3, 1, 167, 255, 224, 28, 172]
abbrev dktX5_loose_1 : List UInt8 := dkwX5_loose_1 ++ []
def dkwX5_loose_0 : List UInt8 := [3, 61, 3, 62, 29, 16, 22, 162, 0, 32, 27, 29, 184, 1, 18, 153, 0, 18, 42, 29, 27, 182, 1, 21]
abbrev dktX5_loose_0 : List UInt8 := dkwX5_loose_0 ++ dktX5_loose_1
theorem dksX5_loose_0 : cX5_loose.data.toList.drop 0 = dktX5_loose_0 := by decide +kernel
theorem dksX5_loose_1 : cX5_loose.data.toList.drop 24 = dktX5_loose_1 := dk_seg dksX5_loose_0 24 rfl rfl
theorem dX5_loose_0 : decode cX5_loose 0 = .ok (.iconst 0, 1) := dk_3 (dk_at dksX5_loose_0 0 rfl rfl)
theorem dX5_loose_1 : decode cX5_loose 1 = .ok (.istore_n 2, 1) := dk_61 (dk_at dksX5_loose_0 1 rfl rfl)
theorem dX5_loose_2 : decode cX5_loose 2 = .ok (.iconst 0, 1) := dk_3 (dk_at dksX5_loose_0 2 rfl rfl)
theorem dX5_loose_3 : decode cX5_loose 3 = .ok (.istore_n 3, 1) := dk_62 (dk_at dksX5_loose_0 3 rfl rfl)
theorem dX5_loose_4 : decode cX5_loose 4 = .ok (.iload_n 3, 1) := dk_29 (dk_at dksX5_loose_0 4 rfl rfl)
theorem dX5_loose_5 : decode cX5_loose 5 = .ok (.bipush 22, 2) := dk_16 22 (dk_at dksX5_loose_0 5 rfl rfl)
theorem dX5_loose_7 : decode cX5_loose 7 = .ok (.if_icmp .ge 32, 3) := dk_162 0 32 (dk_at dksX5_loose_0 7 rfl rfl)
theorem dX5_loose_10 : decode cX5_loose 10 = .ok (.iload_n 1, 1) := dk_27 (dk_at dksX5_loose_0 10 rfl rfl)
theorem dX5_loose_11 : decode cX5_loose 11 = .ok (.iload_n 3, 1) := dk_29 (dk_at dksX5_loose_0 11 rfl rfl)
theorem dX5_loose_12 : decode cX5_loose 12 = .ok (.invokestatic 274, 3) := dk_184 1 18 (dk_at dksX5_loose_0 12 rfl rfl)
theorem dX5_loose_15 : decode cX5_loose 15 = .ok (.ifCond .eq 18, 3) := dk_153 0 18 (dk_at dksX5_loose_0 15 rfl rfl)
theorem dX5_loose_18 : decode cX5_loose 18 = .ok (.aload_n 0, 1) := dk_42 (dk_at dksX5_loose_0 18 rfl rfl)
theorem dX5_loose_19 : decode cX5_loose 19 = .ok (.iload_n 3, 1) := dk_29 (dk_at dksX5_loose_0 19 rfl rfl)
theorem dX5_loose_20 : decode cX5_loose 20 = .ok (.iload_n 1, 1) := dk_27 (dk_at dksX5_loose_0 20 rfl rfl)
theorem dX5_loose_21 : decode cX5_loose 21 = .ok (.invokevirtual 277, 3) := dk_182 1 21 (dk_at dksX5_loose_0 21 rfl rfl)
theorem dX5_loose_24 : decode cX5_loose 24 = .ok (.ifCond .ne 9, 3) := dk_154 0 9 (dk_at dksX5_loose_1 0 rfl rfl)
theorem dX5_loose_27 : decode cX5_loose 27 = .ok (.iload_n 2, 1) := dk_28 (dk_at dksX5_loose_1 3 rfl rfl)
theorem dX5_loose_28 : decode cX5_loose 28 = .ok (.iconst 1, 1) := dk_4 (dk_at dksX5_loose_1 4 rfl rfl)
theorem dX5_loose_29 : decode cX5_loose 29 = .ok (.iload_n 3, 1) := dk_29 (dk_at dksX5_loose_1 5 rfl rfl)
theorem dX5_loose_30 : decode cX5_loose 30 = .ok (.ishl, 1) := dk_120 (dk_at dksX5_loose_1 6 rfl rfl)
theorem dX5_loose_31 : decode cX5_loose 31 = .ok (.ior, 1) := dk_128 (dk_at dksX5_loose_1 7 rfl rfl)
theorem dX5_loose_32 : decode cX5_loose 32 = .ok (.istore_n 2, 1) := dk_61 (dk_at dksX5_loose_1 8 rfl rfl)
theorem dX5_loose_33 : decode cX5_loose 33 = .ok (.iinc 3 1, 3) := dk_132 3 1 (dk_at dksX5_loose_1 9 rfl rfl)
theorem dX5_loose_36 : decode cX5_loose 36 = .ok (.goto (-32), 3) := dk_167 255 224 (dk_at dksX5_loose_1 12 rfl rfl)
theorem dX5_loose_39 : decode cX5_loose 39 = .ok (.iload_n 2, 1) := dk_28 (dk_at dksX5_loose_1 15 rfl rfl)
theorem dX5_loose_40 : decode cX5_loose 40 = .ok (.ireturn, 1) := dk_172 (dk_at dksX5_loose_1 16 rfl rfl)
abbrev cX5_stands : ByteArray := prog_25_method_62_code
def yX5_stands : MethodName := ⟨RX5, "stands", "(II)Z"⟩
def dkwX5_stands_1 : List UInt8 := [27, 46, 96, 42, 180, 0, 55, 27, 46, 161, 0, 7, 4, 167, 0, 4, 3, 172]
abbrev dktX5_stands_1 : List UInt8 := dkwX5_stands_1 ++ []
def dkwX5_stands_0 : List UInt8 := [42, 180, 0, 58, 27, 51, 154, 0, 30, 42, 180, 0, 61, 27, 46, 28, 126, 184, 1, 15, 42, 180, 0, 64]
abbrev dktX5_stands_0 : List UInt8 := dkwX5_stands_0 ++ dktX5_stands_1
theorem dksX5_stands_0 : cX5_stands.data.toList.drop 0 = dktX5_stands_0 := by decide +kernel
theorem dksX5_stands_1 : cX5_stands.data.toList.drop 24 = dktX5_stands_1 := dk_seg dksX5_stands_0 24 rfl rfl
theorem dX5_stands_0 : decode cX5_stands 0 = .ok (.aload_n 0, 1) := dk_42 (dk_at dksX5_stands_0 0 rfl rfl)
theorem dX5_stands_1 : decode cX5_stands 1 = .ok (.getfield 58, 3) := dk_180 0 58 (dk_at dksX5_stands_0 1 rfl rfl)
theorem dX5_stands_4 : decode cX5_stands 4 = .ok (.iload_n 1, 1) := dk_27 (dk_at dksX5_stands_0 4 rfl rfl)
theorem dX5_stands_5 : decode cX5_stands 5 = .ok (.baload, 1) := dk_51 (dk_at dksX5_stands_0 5 rfl rfl)
theorem dX5_stands_6 : decode cX5_stands 6 = .ok (.ifCond .ne 30, 3) := dk_154 0 30 (dk_at dksX5_stands_0 6 rfl rfl)
theorem dX5_stands_9 : decode cX5_stands 9 = .ok (.aload_n 0, 1) := dk_42 (dk_at dksX5_stands_0 9 rfl rfl)
theorem dX5_stands_10 : decode cX5_stands 10 = .ok (.getfield 61, 3) := dk_180 0 61 (dk_at dksX5_stands_0 10 rfl rfl)
theorem dX5_stands_13 : decode cX5_stands 13 = .ok (.iload_n 1, 1) := dk_27 (dk_at dksX5_stands_0 13 rfl rfl)
theorem dX5_stands_14 : decode cX5_stands 14 = .ok (.iaload, 1) := dk_46 (dk_at dksX5_stands_0 14 rfl rfl)
theorem dX5_stands_15 : decode cX5_stands 15 = .ok (.iload_n 2, 1) := dk_28 (dk_at dksX5_stands_0 15 rfl rfl)
theorem dX5_stands_16 : decode cX5_stands 16 = .ok (.iand, 1) := dk_126 (dk_at dksX5_stands_0 16 rfl rfl)
theorem dX5_stands_17 : decode cX5_stands 17 = .ok (.invokestatic 271, 3) := dk_184 1 15 (dk_at dksX5_stands_0 17 rfl rfl)
theorem dX5_stands_20 : decode cX5_stands 20 = .ok (.aload_n 0, 1) := dk_42 (dk_at dksX5_stands_0 20 rfl rfl)
theorem dX5_stands_21 : decode cX5_stands 21 = .ok (.getfield 64, 3) := dk_180 0 64 (dk_at dksX5_stands_0 21 rfl rfl)
theorem dX5_stands_24 : decode cX5_stands 24 = .ok (.iload_n 1, 1) := dk_27 (dk_at dksX5_stands_1 0 rfl rfl)
theorem dX5_stands_25 : decode cX5_stands 25 = .ok (.iaload, 1) := dk_46 (dk_at dksX5_stands_1 1 rfl rfl)
theorem dX5_stands_26 : decode cX5_stands 26 = .ok (.iadd, 1) := dk_96 (dk_at dksX5_stands_1 2 rfl rfl)
theorem dX5_stands_27 : decode cX5_stands 27 = .ok (.aload_n 0, 1) := dk_42 (dk_at dksX5_stands_1 3 rfl rfl)
theorem dX5_stands_28 : decode cX5_stands 28 = .ok (.getfield 55, 3) := dk_180 0 55 (dk_at dksX5_stands_1 4 rfl rfl)
theorem dX5_stands_31 : decode cX5_stands 31 = .ok (.iload_n 1, 1) := dk_27 (dk_at dksX5_stands_1 7 rfl rfl)
theorem dX5_stands_32 : decode cX5_stands 32 = .ok (.iaload, 1) := dk_46 (dk_at dksX5_stands_1 8 rfl rfl)
theorem dX5_stands_33 : decode cX5_stands 33 = .ok (.if_icmp .lt 7, 3) := dk_161 0 7 (dk_at dksX5_stands_1 9 rfl rfl)
theorem dX5_stands_36 : decode cX5_stands 36 = .ok (.iconst 1, 1) := dk_4 (dk_at dksX5_stands_1 12 rfl rfl)
theorem dX5_stands_37 : decode cX5_stands 37 = .ok (.goto 4, 3) := dk_167 0 4 (dk_at dksX5_stands_1 13 rfl rfl)
theorem dX5_stands_40 : decode cX5_stands 40 = .ok (.iconst 0, 1) := dk_3 (dk_at dksX5_stands_1 16 rfl rfl)
theorem dX5_stands_41 : decode cX5_stands 41 = .ok (.ireturn, 1) := dk_172 (dk_at dksX5_stands_1 17 rfl rfl)
abbrev cX5_there : ByteArray := prog_25_method_68_code
def yX5_there : MethodName := ⟨RX5, "there", "()I"⟩
def dkwX5_there_0 : List UInt8 := [42, 180, 0, 20, 17, 0, 159, 46, 172]
abbrev dktX5_there_0 : List UInt8 := dkwX5_there_0 ++ []
theorem dksX5_there_0 : cX5_there.data.toList.drop 0 = dktX5_there_0 := by decide +kernel
theorem dX5_there_0 : decode cX5_there 0 = .ok (.aload_n 0, 1) := dk_42 (dk_at dksX5_there_0 0 rfl rfl)
theorem dX5_there_1 : decode cX5_there 1 = .ok (.getfield 20, 3) := dk_180 0 20 (dk_at dksX5_there_0 1 rfl rfl)
theorem dX5_there_4 : decode cX5_there 4 = .ok (.sipush 159, 3) := dk_17 0 159 (dk_at dksX5_there_0 4 rfl rfl)
theorem dX5_there_7 : decode cX5_there 7 = .ok (.iaload, 1) := dk_46 (dk_at dksX5_there_0 7 rfl rfl)
theorem dX5_there_8 : decode cX5_there 8 = .ok (.ireturn, 1) := dk_172 (dk_at dksX5_there_0 8 rfl rfl)
abbrev cX5_stand : ByteArray := prog_25_method_69_code
def yX5_stand : MethodName := ⟨RX5, "stand", "(I)I"⟩
def dkwX5_stand_1 : List UInt8 := [180, 0, 20, 17, 0, 159, 46, 61, 42, 180, 0, 20, 17, 0, 159, 27, 79, 42, 28, 182, 0, 99, 172]
abbrev dktX5_stand_1 : List UInt8 := dkwX5_stand_1 ++ []
def dkwX5_stand_0 : List UInt8 := [27, 3, 4, 42, 182, 0, 102, 120, 4, 100, 184, 0, 91, 154, 0, 9, 42, 2, 182, 0, 95, 172, 42]
abbrev dktX5_stand_0 : List UInt8 := dkwX5_stand_0 ++ dktX5_stand_1
theorem dksX5_stand_0 : cX5_stand.data.toList.drop 0 = dktX5_stand_0 := by decide +kernel
theorem dksX5_stand_1 : cX5_stand.data.toList.drop 23 = dktX5_stand_1 := dk_seg dksX5_stand_0 23 rfl rfl
theorem dX5_stand_0 : decode cX5_stand 0 = .ok (.iload_n 1, 1) := dk_27 (dk_at dksX5_stand_0 0 rfl rfl)
theorem dX5_stand_1 : decode cX5_stand 1 = .ok (.iconst 0, 1) := dk_3 (dk_at dksX5_stand_0 1 rfl rfl)
theorem dX5_stand_2 : decode cX5_stand 2 = .ok (.iconst 1, 1) := dk_4 (dk_at dksX5_stand_0 2 rfl rfl)
theorem dX5_stand_3 : decode cX5_stand 3 = .ok (.aload_n 0, 1) := dk_42 (dk_at dksX5_stand_0 3 rfl rfl)
theorem dX5_stand_4 : decode cX5_stand 4 = .ok (.invokevirtual 102, 3) := dk_182 0 102 (dk_at dksX5_stand_0 4 rfl rfl)
theorem dX5_stand_7 : decode cX5_stand 7 = .ok (.ishl, 1) := dk_120 (dk_at dksX5_stand_0 7 rfl rfl)
theorem dX5_stand_8 : decode cX5_stand 8 = .ok (.iconst 1, 1) := dk_4 (dk_at dksX5_stand_0 8 rfl rfl)
theorem dX5_stand_9 : decode cX5_stand 9 = .ok (.isub, 1) := dk_100 (dk_at dksX5_stand_0 9 rfl rfl)
theorem dX5_stand_10 : decode cX5_stand 10 = .ok (.invokestatic 91, 3) := dk_184 0 91 (dk_at dksX5_stand_0 10 rfl rfl)
theorem dX5_stand_13 : decode cX5_stand 13 = .ok (.ifCond .ne 9, 3) := dk_154 0 9 (dk_at dksX5_stand_0 13 rfl rfl)
theorem dX5_stand_16 : decode cX5_stand 16 = .ok (.aload_n 0, 1) := dk_42 (dk_at dksX5_stand_0 16 rfl rfl)
theorem dX5_stand_17 : decode cX5_stand 17 = .ok (.iconst (-1), 1) := dk_2 (dk_at dksX5_stand_0 17 rfl rfl)
theorem dX5_stand_18 : decode cX5_stand 18 = .ok (.invokevirtual 95, 3) := dk_182 0 95 (dk_at dksX5_stand_0 18 rfl rfl)
theorem dX5_stand_21 : decode cX5_stand 21 = .ok (.ireturn, 1) := dk_172 (dk_at dksX5_stand_0 21 rfl rfl)
theorem dX5_stand_22 : decode cX5_stand 22 = .ok (.aload_n 0, 1) := dk_42 (dk_at dksX5_stand_0 22 rfl rfl)
theorem dX5_stand_23 : decode cX5_stand 23 = .ok (.getfield 20, 3) := dk_180 0 20 (dk_at dksX5_stand_1 0 rfl rfl)
theorem dX5_stand_26 : decode cX5_stand 26 = .ok (.sipush 159, 3) := dk_17 0 159 (dk_at dksX5_stand_1 3 rfl rfl)
theorem dX5_stand_29 : decode cX5_stand 29 = .ok (.iaload, 1) := dk_46 (dk_at dksX5_stand_1 6 rfl rfl)
theorem dX5_stand_30 : decode cX5_stand 30 = .ok (.istore_n 2, 1) := dk_61 (dk_at dksX5_stand_1 7 rfl rfl)
theorem dX5_stand_31 : decode cX5_stand 31 = .ok (.aload_n 0, 1) := dk_42 (dk_at dksX5_stand_1 8 rfl rfl)
theorem dX5_stand_32 : decode cX5_stand 32 = .ok (.getfield 20, 3) := dk_180 0 20 (dk_at dksX5_stand_1 9 rfl rfl)
theorem dX5_stand_35 : decode cX5_stand 35 = .ok (.sipush 159, 3) := dk_17 0 159 (dk_at dksX5_stand_1 12 rfl rfl)
theorem dX5_stand_38 : decode cX5_stand 38 = .ok (.iload_n 1, 1) := dk_27 (dk_at dksX5_stand_1 15 rfl rfl)
theorem dX5_stand_39 : decode cX5_stand 39 = .ok (.iastore, 1) := dk_79 (dk_at dksX5_stand_1 16 rfl rfl)
theorem dX5_stand_40 : decode cX5_stand 40 = .ok (.aload_n 0, 1) := dk_42 (dk_at dksX5_stand_1 17 rfl rfl)
theorem dX5_stand_41 : decode cX5_stand 41 = .ok (.iload_n 2, 1) := dk_28 (dk_at dksX5_stand_1 18 rfl rfl)
theorem dX5_stand_42 : decode cX5_stand 42 = .ok (.invokevirtual 99, 3) := dk_182 0 99 (dk_at dksX5_stand_1 19 rfl rfl)
theorem dX5_stand_45 : decode cX5_stand 45 = .ok (.ireturn, 1) := dk_172 (dk_at dksX5_stand_1 22 rfl rfl)
abbrev cX5_falls : ByteArray := prog_25_method_72_code
def yX5_falls : MethodName := ⟨RX5, "falls", "(II)I"⟩
def dkwX5_falls_4 : List UInt8 := [160, 0, 8, 21, 4, 167, 0, 18, 28, 5, 160, 0, 7, 29, 167, 0, 9, 42, 21, 5, 182, 1, 33, 172]
abbrev dktX5_falls_4 : List UInt8 := dkwX5_falls_4 ++ []
def dkwX5_falls_3 : List UInt8 := [2, 130, 126, 29, 2, 130, 126, 54, 5, 28, 154, 0, 11, 21, 5, 184, 1, 15, 167, 0, 28, 28, 4]
abbrev dktX5_falls_3 : List UInt8 := dkwX5_falls_3 ++ dktX5_falls_4
def dkwX5_falls_2 : List UInt8 := [42, 29, 182, 1, 24, 2, 130, 126, 62, 132, 4, 1, 167, 255, 235, 42, 180, 0, 20, 17, 0, 159, 46, 27]
abbrev dktX5_falls_2 : List UInt8 := dkwX5_falls_2 ++ dktX5_falls_3
def dkwX5_falls_1 : List UInt8 := [180, 0, 20, 17, 0, 159, 46, 27, 2, 130, 126, 62, 3, 54, 4, 42, 29, 182, 1, 24, 153, 0, 19, 29]
abbrev dktX5_falls_1 : List UInt8 := dkwX5_falls_1 ++ dktX5_falls_2
def dkwX5_falls_0 : List UInt8 := [42, 27, 182, 1, 30, 153, 0, 12, 28, 3, 6, 184, 0, 91, 154, 0, 5, 2, 172, 42, 182, 1, 27, 42]
abbrev dktX5_falls_0 : List UInt8 := dkwX5_falls_0 ++ dktX5_falls_1
theorem dksX5_falls_0 : cX5_falls.data.toList.drop 0 = dktX5_falls_0 := by decide +kernel
theorem dksX5_falls_1 : cX5_falls.data.toList.drop 24 = dktX5_falls_1 := dk_seg dksX5_falls_0 24 rfl rfl
theorem dksX5_falls_2 : cX5_falls.data.toList.drop 48 = dktX5_falls_2 := dk_seg dksX5_falls_1 24 rfl rfl
theorem dksX5_falls_3 : cX5_falls.data.toList.drop 72 = dktX5_falls_3 := dk_seg dksX5_falls_2 24 rfl rfl
theorem dksX5_falls_4 : cX5_falls.data.toList.drop 95 = dktX5_falls_4 := dk_seg dksX5_falls_3 23 rfl rfl
theorem dX5_falls_0 : decode cX5_falls 0 = .ok (.aload_n 0, 1) := dk_42 (dk_at dksX5_falls_0 0 rfl rfl)
theorem dX5_falls_1 : decode cX5_falls 1 = .ok (.iload_n 1, 1) := dk_27 (dk_at dksX5_falls_0 1 rfl rfl)
theorem dX5_falls_2 : decode cX5_falls 2 = .ok (.invokevirtual 286, 3) := dk_182 1 30 (dk_at dksX5_falls_0 2 rfl rfl)
theorem dX5_falls_5 : decode cX5_falls 5 = .ok (.ifCond .eq 12, 3) := dk_153 0 12 (dk_at dksX5_falls_0 5 rfl rfl)
theorem dX5_falls_8 : decode cX5_falls 8 = .ok (.iload_n 2, 1) := dk_28 (dk_at dksX5_falls_0 8 rfl rfl)
theorem dX5_falls_9 : decode cX5_falls 9 = .ok (.iconst 0, 1) := dk_3 (dk_at dksX5_falls_0 9 rfl rfl)
theorem dX5_falls_10 : decode cX5_falls 10 = .ok (.iconst 3, 1) := dk_6 (dk_at dksX5_falls_0 10 rfl rfl)
theorem dX5_falls_11 : decode cX5_falls 11 = .ok (.invokestatic 91, 3) := dk_184 0 91 (dk_at dksX5_falls_0 11 rfl rfl)
theorem dX5_falls_14 : decode cX5_falls 14 = .ok (.ifCond .ne 5, 3) := dk_154 0 5 (dk_at dksX5_falls_0 14 rfl rfl)
theorem dX5_falls_17 : decode cX5_falls 17 = .ok (.iconst (-1), 1) := dk_2 (dk_at dksX5_falls_0 17 rfl rfl)
theorem dX5_falls_18 : decode cX5_falls 18 = .ok (.ireturn, 1) := dk_172 (dk_at dksX5_falls_0 18 rfl rfl)
theorem dX5_falls_19 : decode cX5_falls 19 = .ok (.aload_n 0, 1) := dk_42 (dk_at dksX5_falls_0 19 rfl rfl)
theorem dX5_falls_20 : decode cX5_falls 20 = .ok (.invokevirtual 283, 3) := dk_182 1 27 (dk_at dksX5_falls_0 20 rfl rfl)
theorem dX5_falls_23 : decode cX5_falls 23 = .ok (.aload_n 0, 1) := dk_42 (dk_at dksX5_falls_0 23 rfl rfl)
theorem dX5_falls_24 : decode cX5_falls 24 = .ok (.getfield 20, 3) := dk_180 0 20 (dk_at dksX5_falls_1 0 rfl rfl)
theorem dX5_falls_27 : decode cX5_falls 27 = .ok (.sipush 159, 3) := dk_17 0 159 (dk_at dksX5_falls_1 3 rfl rfl)
theorem dX5_falls_30 : decode cX5_falls 30 = .ok (.iaload, 1) := dk_46 (dk_at dksX5_falls_1 6 rfl rfl)
theorem dX5_falls_31 : decode cX5_falls 31 = .ok (.iload_n 1, 1) := dk_27 (dk_at dksX5_falls_1 7 rfl rfl)
theorem dX5_falls_32 : decode cX5_falls 32 = .ok (.iconst (-1), 1) := dk_2 (dk_at dksX5_falls_1 8 rfl rfl)
theorem dX5_falls_33 : decode cX5_falls 33 = .ok (.ixor, 1) := dk_130 (dk_at dksX5_falls_1 9 rfl rfl)
theorem dX5_falls_34 : decode cX5_falls 34 = .ok (.iand, 1) := dk_126 (dk_at dksX5_falls_1 10 rfl rfl)
theorem dX5_falls_35 : decode cX5_falls 35 = .ok (.istore_n 3, 1) := dk_62 (dk_at dksX5_falls_1 11 rfl rfl)
theorem dX5_falls_36 : decode cX5_falls 36 = .ok (.iconst 0, 1) := dk_3 (dk_at dksX5_falls_1 12 rfl rfl)
theorem dX5_falls_37 : decode cX5_falls 37 = .ok (.istore 4, 2) := dk_54 4 (dk_at dksX5_falls_1 13 rfl rfl)
theorem dX5_falls_39 : decode cX5_falls 39 = .ok (.aload_n 0, 1) := dk_42 (dk_at dksX5_falls_1 15 rfl rfl)
theorem dX5_falls_40 : decode cX5_falls 40 = .ok (.iload_n 3, 1) := dk_29 (dk_at dksX5_falls_1 16 rfl rfl)
theorem dX5_falls_41 : decode cX5_falls 41 = .ok (.invokevirtual 280, 3) := dk_182 1 24 (dk_at dksX5_falls_1 17 rfl rfl)
theorem dX5_falls_44 : decode cX5_falls 44 = .ok (.ifCond .eq 19, 3) := dk_153 0 19 (dk_at dksX5_falls_1 20 rfl rfl)
theorem dX5_falls_47 : decode cX5_falls 47 = .ok (.iload_n 3, 1) := dk_29 (dk_at dksX5_falls_1 23 rfl rfl)
theorem dX5_falls_48 : decode cX5_falls 48 = .ok (.aload_n 0, 1) := dk_42 (dk_at dksX5_falls_2 0 rfl rfl)
theorem dX5_falls_49 : decode cX5_falls 49 = .ok (.iload_n 3, 1) := dk_29 (dk_at dksX5_falls_2 1 rfl rfl)
theorem dX5_falls_50 : decode cX5_falls 50 = .ok (.invokevirtual 280, 3) := dk_182 1 24 (dk_at dksX5_falls_2 2 rfl rfl)
theorem dX5_falls_53 : decode cX5_falls 53 = .ok (.iconst (-1), 1) := dk_2 (dk_at dksX5_falls_2 5 rfl rfl)
theorem dX5_falls_54 : decode cX5_falls 54 = .ok (.ixor, 1) := dk_130 (dk_at dksX5_falls_2 6 rfl rfl)
theorem dX5_falls_55 : decode cX5_falls 55 = .ok (.iand, 1) := dk_126 (dk_at dksX5_falls_2 7 rfl rfl)
theorem dX5_falls_56 : decode cX5_falls 56 = .ok (.istore_n 3, 1) := dk_62 (dk_at dksX5_falls_2 8 rfl rfl)
theorem dX5_falls_57 : decode cX5_falls 57 = .ok (.iinc 4 1, 3) := dk_132 4 1 (dk_at dksX5_falls_2 9 rfl rfl)
theorem dX5_falls_60 : decode cX5_falls 60 = .ok (.goto (-21), 3) := dk_167 255 235 (dk_at dksX5_falls_2 12 rfl rfl)
theorem dX5_falls_63 : decode cX5_falls 63 = .ok (.aload_n 0, 1) := dk_42 (dk_at dksX5_falls_2 15 rfl rfl)
theorem dX5_falls_64 : decode cX5_falls 64 = .ok (.getfield 20, 3) := dk_180 0 20 (dk_at dksX5_falls_2 16 rfl rfl)
theorem dX5_falls_67 : decode cX5_falls 67 = .ok (.sipush 159, 3) := dk_17 0 159 (dk_at dksX5_falls_2 19 rfl rfl)
theorem dX5_falls_70 : decode cX5_falls 70 = .ok (.iaload, 1) := dk_46 (dk_at dksX5_falls_2 22 rfl rfl)
theorem dX5_falls_71 : decode cX5_falls 71 = .ok (.iload_n 1, 1) := dk_27 (dk_at dksX5_falls_2 23 rfl rfl)
theorem dX5_falls_72 : decode cX5_falls 72 = .ok (.iconst (-1), 1) := dk_2 (dk_at dksX5_falls_3 0 rfl rfl)
theorem dX5_falls_73 : decode cX5_falls 73 = .ok (.ixor, 1) := dk_130 (dk_at dksX5_falls_3 1 rfl rfl)
theorem dX5_falls_74 : decode cX5_falls 74 = .ok (.iand, 1) := dk_126 (dk_at dksX5_falls_3 2 rfl rfl)
theorem dX5_falls_75 : decode cX5_falls 75 = .ok (.iload_n 3, 1) := dk_29 (dk_at dksX5_falls_3 3 rfl rfl)
theorem dX5_falls_76 : decode cX5_falls 76 = .ok (.iconst (-1), 1) := dk_2 (dk_at dksX5_falls_3 4 rfl rfl)
theorem dX5_falls_77 : decode cX5_falls 77 = .ok (.ixor, 1) := dk_130 (dk_at dksX5_falls_3 5 rfl rfl)
theorem dX5_falls_78 : decode cX5_falls 78 = .ok (.iand, 1) := dk_126 (dk_at dksX5_falls_3 6 rfl rfl)
theorem dX5_falls_79 : decode cX5_falls 79 = .ok (.istore 5, 2) := dk_54 5 (dk_at dksX5_falls_3 7 rfl rfl)
theorem dX5_falls_81 : decode cX5_falls 81 = .ok (.iload_n 2, 1) := dk_28 (dk_at dksX5_falls_3 9 rfl rfl)
theorem dX5_falls_82 : decode cX5_falls 82 = .ok (.ifCond .ne 11, 3) := dk_154 0 11 (dk_at dksX5_falls_3 10 rfl rfl)
theorem dX5_falls_85 : decode cX5_falls 85 = .ok (.iload 5, 2) := dk_21 5 (dk_at dksX5_falls_3 13 rfl rfl)
theorem dX5_falls_87 : decode cX5_falls 87 = .ok (.invokestatic 271, 3) := dk_184 1 15 (dk_at dksX5_falls_3 15 rfl rfl)
theorem dX5_falls_90 : decode cX5_falls 90 = .ok (.goto 28, 3) := dk_167 0 28 (dk_at dksX5_falls_3 18 rfl rfl)
theorem dX5_falls_93 : decode cX5_falls 93 = .ok (.iload_n 2, 1) := dk_28 (dk_at dksX5_falls_3 21 rfl rfl)
theorem dX5_falls_94 : decode cX5_falls 94 = .ok (.iconst 1, 1) := dk_4 (dk_at dksX5_falls_3 22 rfl rfl)
theorem dX5_falls_95 : decode cX5_falls 95 = .ok (.if_icmp .ne 8, 3) := dk_160 0 8 (dk_at dksX5_falls_4 0 rfl rfl)
theorem dX5_falls_98 : decode cX5_falls 98 = .ok (.iload 4, 2) := dk_21 4 (dk_at dksX5_falls_4 3 rfl rfl)
theorem dX5_falls_100 : decode cX5_falls 100 = .ok (.goto 18, 3) := dk_167 0 18 (dk_at dksX5_falls_4 5 rfl rfl)
theorem dX5_falls_103 : decode cX5_falls 103 = .ok (.iload_n 2, 1) := dk_28 (dk_at dksX5_falls_4 8 rfl rfl)
theorem dX5_falls_104 : decode cX5_falls 104 = .ok (.iconst 2, 1) := dk_5 (dk_at dksX5_falls_4 9 rfl rfl)
theorem dX5_falls_105 : decode cX5_falls 105 = .ok (.if_icmp .ne 7, 3) := dk_160 0 7 (dk_at dksX5_falls_4 10 rfl rfl)
theorem dX5_falls_108 : decode cX5_falls 108 = .ok (.iload_n 3, 1) := dk_29 (dk_at dksX5_falls_4 13 rfl rfl)
theorem dX5_falls_109 : decode cX5_falls 109 = .ok (.goto 9, 3) := dk_167 0 9 (dk_at dksX5_falls_4 14 rfl rfl)
theorem dX5_falls_112 : decode cX5_falls 112 = .ok (.aload_n 0, 1) := dk_42 (dk_at dksX5_falls_4 17 rfl rfl)
theorem dX5_falls_113 : decode cX5_falls 113 = .ok (.iload 5, 2) := dk_21 5 (dk_at dksX5_falls_4 18 rfl rfl)
theorem dX5_falls_115 : decode cX5_falls 115 = .ok (.invokevirtual 289, 3) := dk_182 1 33 (dk_at dksX5_falls_4 20 rfl rfl)
theorem dX5_falls_118 : decode cX5_falls 118 = .ok (.ireturn, 1) := dk_172 (dk_at dksX5_falls_4 23 rfl rfl)
abbrev cX5_areThere : ByteArray := prog_25_method_70_code
def yX5_areThere : MethodName := ⟨RX5, "areThere", "(I)Z"⟩
def dkwX5_areThere_1 : List UInt8 := [154, 0, 7, 4, 167, 0, 4, 3, 172]
abbrev dktX5_areThere_1 : List UInt8 := dkwX5_areThere_1 ++ []
def dkwX5_areThere_0 : List UInt8 := [27, 3, 17, 63, 255, 184, 0, 91, 153, 0, 22, 27, 42, 180, 0, 20, 17, 0, 159, 46, 2, 130, 126]
abbrev dktX5_areThere_0 : List UInt8 := dkwX5_areThere_0 ++ dktX5_areThere_1
theorem dksX5_areThere_0 : cX5_areThere.data.toList.drop 0 = dktX5_areThere_0 := by decide +kernel
theorem dksX5_areThere_1 : cX5_areThere.data.toList.drop 23 = dktX5_areThere_1 := dk_seg dksX5_areThere_0 23 rfl rfl
theorem dX5_areThere_0 : decode cX5_areThere 0 = .ok (.iload_n 1, 1) := dk_27 (dk_at dksX5_areThere_0 0 rfl rfl)
theorem dX5_areThere_1 : decode cX5_areThere 1 = .ok (.iconst 0, 1) := dk_3 (dk_at dksX5_areThere_0 1 rfl rfl)
theorem dX5_areThere_2 : decode cX5_areThere 2 = .ok (.sipush 16383, 3) := dk_17 63 255 (dk_at dksX5_areThere_0 2 rfl rfl)
theorem dX5_areThere_5 : decode cX5_areThere 5 = .ok (.invokestatic 91, 3) := dk_184 0 91 (dk_at dksX5_areThere_0 5 rfl rfl)
theorem dX5_areThere_8 : decode cX5_areThere 8 = .ok (.ifCond .eq 22, 3) := dk_153 0 22 (dk_at dksX5_areThere_0 8 rfl rfl)
theorem dX5_areThere_11 : decode cX5_areThere 11 = .ok (.iload_n 1, 1) := dk_27 (dk_at dksX5_areThere_0 11 rfl rfl)
theorem dX5_areThere_12 : decode cX5_areThere 12 = .ok (.aload_n 0, 1) := dk_42 (dk_at dksX5_areThere_0 12 rfl rfl)
theorem dX5_areThere_13 : decode cX5_areThere 13 = .ok (.getfield 20, 3) := dk_180 0 20 (dk_at dksX5_areThere_0 13 rfl rfl)
theorem dX5_areThere_16 : decode cX5_areThere 16 = .ok (.sipush 159, 3) := dk_17 0 159 (dk_at dksX5_areThere_0 16 rfl rfl)
theorem dX5_areThere_19 : decode cX5_areThere 19 = .ok (.iaload, 1) := dk_46 (dk_at dksX5_areThere_0 19 rfl rfl)
theorem dX5_areThere_20 : decode cX5_areThere 20 = .ok (.iconst (-1), 1) := dk_2 (dk_at dksX5_areThere_0 20 rfl rfl)
theorem dX5_areThere_21 : decode cX5_areThere 21 = .ok (.ixor, 1) := dk_130 (dk_at dksX5_areThere_0 21 rfl rfl)
theorem dX5_areThere_22 : decode cX5_areThere 22 = .ok (.iand, 1) := dk_126 (dk_at dksX5_areThere_0 22 rfl rfl)
theorem dX5_areThere_23 : decode cX5_areThere 23 = .ok (.ifCond .ne 7, 3) := dk_154 0 7 (dk_at dksX5_areThere_1 0 rfl rfl)
theorem dX5_areThere_26 : decode cX5_areThere 26 = .ok (.iconst 1, 1) := dk_4 (dk_at dksX5_areThere_1 3 rfl rfl)
theorem dX5_areThere_27 : decode cX5_areThere 27 = .ok (.goto 4, 3) := dk_167 0 4 (dk_at dksX5_areThere_1 4 rfl rfl)
theorem dX5_areThere_30 : decode cX5_areThere 30 = .ok (.iconst 0, 1) := dk_3 (dk_at dksX5_areThere_1 7 rfl rfl)
theorem dX5_areThere_31 : decode cX5_areThere 31 = .ok (.ireturn, 1) := dk_172 (dk_at dksX5_areThere_1 8 rfl rfl)
abbrev cX5_weightOf : ByteArray := prog_25_method_71_code
def yX5_weightOf : MethodName := ⟨RX5, "weightOf", "(I)I"⟩
def dkwX5_weightOf_1 : List UInt8 := [182, 0, 113, 167, 0, 4, 3, 96, 61, 132, 3, 1, 167, 255, 224, 28, 172]
abbrev dktX5_weightOf_1 : List UInt8 := dkwX5_weightOf_1 ++ []
def dkwX5_weightOf_0 : List UInt8 := [3, 61, 3, 62, 29, 42, 182, 0, 102, 162, 0, 30, 28, 27, 29, 184, 1, 18, 153, 0, 12, 42, 29, 7]
abbrev dktX5_weightOf_0 : List UInt8 := dkwX5_weightOf_0 ++ dktX5_weightOf_1
theorem dksX5_weightOf_0 : cX5_weightOf.data.toList.drop 0 = dktX5_weightOf_0 := by decide +kernel
theorem dksX5_weightOf_1 : cX5_weightOf.data.toList.drop 24 = dktX5_weightOf_1 := dk_seg dksX5_weightOf_0 24 rfl rfl
theorem dX5_weightOf_0 : decode cX5_weightOf 0 = .ok (.iconst 0, 1) := dk_3 (dk_at dksX5_weightOf_0 0 rfl rfl)
theorem dX5_weightOf_1 : decode cX5_weightOf 1 = .ok (.istore_n 2, 1) := dk_61 (dk_at dksX5_weightOf_0 1 rfl rfl)
theorem dX5_weightOf_2 : decode cX5_weightOf 2 = .ok (.iconst 0, 1) := dk_3 (dk_at dksX5_weightOf_0 2 rfl rfl)
theorem dX5_weightOf_3 : decode cX5_weightOf 3 = .ok (.istore_n 3, 1) := dk_62 (dk_at dksX5_weightOf_0 3 rfl rfl)
theorem dX5_weightOf_4 : decode cX5_weightOf 4 = .ok (.iload_n 3, 1) := dk_29 (dk_at dksX5_weightOf_0 4 rfl rfl)
theorem dX5_weightOf_5 : decode cX5_weightOf 5 = .ok (.aload_n 0, 1) := dk_42 (dk_at dksX5_weightOf_0 5 rfl rfl)
theorem dX5_weightOf_6 : decode cX5_weightOf 6 = .ok (.invokevirtual 102, 3) := dk_182 0 102 (dk_at dksX5_weightOf_0 6 rfl rfl)
theorem dX5_weightOf_9 : decode cX5_weightOf 9 = .ok (.if_icmp .ge 30, 3) := dk_162 0 30 (dk_at dksX5_weightOf_0 9 rfl rfl)
theorem dX5_weightOf_12 : decode cX5_weightOf 12 = .ok (.iload_n 2, 1) := dk_28 (dk_at dksX5_weightOf_0 12 rfl rfl)
theorem dX5_weightOf_13 : decode cX5_weightOf 13 = .ok (.iload_n 1, 1) := dk_27 (dk_at dksX5_weightOf_0 13 rfl rfl)
theorem dX5_weightOf_14 : decode cX5_weightOf 14 = .ok (.iload_n 3, 1) := dk_29 (dk_at dksX5_weightOf_0 14 rfl rfl)
theorem dX5_weightOf_15 : decode cX5_weightOf 15 = .ok (.invokestatic 274, 3) := dk_184 1 18 (dk_at dksX5_weightOf_0 15 rfl rfl)
theorem dX5_weightOf_18 : decode cX5_weightOf 18 = .ok (.ifCond .eq 12, 3) := dk_153 0 12 (dk_at dksX5_weightOf_0 18 rfl rfl)
theorem dX5_weightOf_21 : decode cX5_weightOf 21 = .ok (.aload_n 0, 1) := dk_42 (dk_at dksX5_weightOf_0 21 rfl rfl)
theorem dX5_weightOf_22 : decode cX5_weightOf 22 = .ok (.iload_n 3, 1) := dk_29 (dk_at dksX5_weightOf_0 22 rfl rfl)
theorem dX5_weightOf_23 : decode cX5_weightOf 23 = .ok (.iconst 4, 1) := dk_7 (dk_at dksX5_weightOf_0 23 rfl rfl)
theorem dX5_weightOf_24 : decode cX5_weightOf 24 = .ok (.invokevirtual 113, 3) := dk_182 0 113 (dk_at dksX5_weightOf_1 0 rfl rfl)
theorem dX5_weightOf_27 : decode cX5_weightOf 27 = .ok (.goto 4, 3) := dk_167 0 4 (dk_at dksX5_weightOf_1 3 rfl rfl)
theorem dX5_weightOf_30 : decode cX5_weightOf 30 = .ok (.iconst 0, 1) := dk_3 (dk_at dksX5_weightOf_1 6 rfl rfl)
theorem dX5_weightOf_31 : decode cX5_weightOf 31 = .ok (.iadd, 1) := dk_96 (dk_at dksX5_weightOf_1 7 rfl rfl)
theorem dX5_weightOf_32 : decode cX5_weightOf 32 = .ok (.istore_n 2, 1) := dk_61 (dk_at dksX5_weightOf_1 8 rfl rfl)
theorem dX5_weightOf_33 : decode cX5_weightOf 33 = .ok (.iinc 3 1, 3) := dk_132 3 1 (dk_at dksX5_weightOf_1 9 rfl rfl)
theorem dX5_weightOf_36 : decode cX5_weightOf 36 = .ok (.goto (-32), 3) := dk_167 255 224 (dk_at dksX5_weightOf_1 12 rfl rfl)
theorem dX5_weightOf_39 : decode cX5_weightOf 39 = .ok (.iload_n 2, 1) := dk_28 (dk_at dksX5_weightOf_1 15 rfl rfl)
theorem dX5_weightOf_40 : decode cX5_weightOf 40 = .ok (.ireturn, 1) := dk_172 (dk_at dksX5_weightOf_1 16 rfl rfl)
abbrev cX5_round : ByteArray := prog_25_method_73_code
def yX5_round : MethodName := ⟨RX5, "round", "(II)I"⟩
def dkwX5_round_4 : List UInt8 := [172]
abbrev dktX5_round_4 : List UInt8 := dkwX5_round_4 ++ []
def dkwX5_round_3 : List UInt8 := [42, 29, 182, 1, 24, 2, 130, 126, 62, 132, 4, 1, 29, 28, 184, 1, 18, 154, 255, 230, 21, 4, 172, 2]
abbrev dktX5_round_3 : List UInt8 := dkwX5_round_3 ++ dktX5_round_4
def dkwX5_round_2 : List UInt8 := [180, 0, 20, 17, 0, 159, 46, 27, 2, 130, 126, 62, 3, 54, 4, 42, 29, 182, 1, 24, 153, 0, 27, 29]
abbrev dktX5_round_2 : List UInt8 := dkwX5_round_2 ++ dktX5_round_3
def dkwX5_round_1 : List UInt8 := [28, 184, 1, 18, 154, 0, 5, 2, 172, 27, 28, 184, 1, 18, 153, 0, 5, 3, 172, 42, 182, 1, 27, 42]
abbrev dktX5_round_1 : List UInt8 := dkwX5_round_1 ++ dktX5_round_2
def dkwX5_round_0 : List UInt8 := [42, 27, 182, 1, 30, 153, 0, 26, 42, 28, 182, 0, 106, 153, 0, 18, 42, 180, 0, 20, 17, 0, 159, 46]
abbrev dktX5_round_0 : List UInt8 := dkwX5_round_0 ++ dktX5_round_1
theorem dksX5_round_0 : cX5_round.data.toList.drop 0 = dktX5_round_0 := by decide +kernel
theorem dksX5_round_1 : cX5_round.data.toList.drop 24 = dktX5_round_1 := dk_seg dksX5_round_0 24 rfl rfl
theorem dksX5_round_2 : cX5_round.data.toList.drop 48 = dktX5_round_2 := dk_seg dksX5_round_1 24 rfl rfl
theorem dksX5_round_3 : cX5_round.data.toList.drop 72 = dktX5_round_3 := dk_seg dksX5_round_2 24 rfl rfl
theorem dksX5_round_4 : cX5_round.data.toList.drop 96 = dktX5_round_4 := dk_seg dksX5_round_3 24 rfl rfl
theorem dX5_round_0 : decode cX5_round 0 = .ok (.aload_n 0, 1) := dk_42 (dk_at dksX5_round_0 0 rfl rfl)
theorem dX5_round_1 : decode cX5_round 1 = .ok (.iload_n 1, 1) := dk_27 (dk_at dksX5_round_0 1 rfl rfl)
theorem dX5_round_2 : decode cX5_round 2 = .ok (.invokevirtual 286, 3) := dk_182 1 30 (dk_at dksX5_round_0 2 rfl rfl)
theorem dX5_round_5 : decode cX5_round 5 = .ok (.ifCond .eq 26, 3) := dk_153 0 26 (dk_at dksX5_round_0 5 rfl rfl)
theorem dX5_round_8 : decode cX5_round 8 = .ok (.aload_n 0, 1) := dk_42 (dk_at dksX5_round_0 8 rfl rfl)
theorem dX5_round_9 : decode cX5_round 9 = .ok (.iload_n 2, 1) := dk_28 (dk_at dksX5_round_0 9 rfl rfl)
theorem dX5_round_10 : decode cX5_round 10 = .ok (.invokevirtual 106, 3) := dk_182 0 106 (dk_at dksX5_round_0 10 rfl rfl)
theorem dX5_round_13 : decode cX5_round 13 = .ok (.ifCond .eq 18, 3) := dk_153 0 18 (dk_at dksX5_round_0 13 rfl rfl)
theorem dX5_round_16 : decode cX5_round 16 = .ok (.aload_n 0, 1) := dk_42 (dk_at dksX5_round_0 16 rfl rfl)
theorem dX5_round_17 : decode cX5_round 17 = .ok (.getfield 20, 3) := dk_180 0 20 (dk_at dksX5_round_0 17 rfl rfl)
theorem dX5_round_20 : decode cX5_round 20 = .ok (.sipush 159, 3) := dk_17 0 159 (dk_at dksX5_round_0 20 rfl rfl)
theorem dX5_round_23 : decode cX5_round 23 = .ok (.iaload, 1) := dk_46 (dk_at dksX5_round_0 23 rfl rfl)
theorem dX5_round_24 : decode cX5_round 24 = .ok (.iload_n 2, 1) := dk_28 (dk_at dksX5_round_1 0 rfl rfl)
theorem dX5_round_25 : decode cX5_round 25 = .ok (.invokestatic 274, 3) := dk_184 1 18 (dk_at dksX5_round_1 1 rfl rfl)
theorem dX5_round_28 : decode cX5_round 28 = .ok (.ifCond .ne 5, 3) := dk_154 0 5 (dk_at dksX5_round_1 4 rfl rfl)
theorem dX5_round_31 : decode cX5_round 31 = .ok (.iconst (-1), 1) := dk_2 (dk_at dksX5_round_1 7 rfl rfl)
theorem dX5_round_32 : decode cX5_round 32 = .ok (.ireturn, 1) := dk_172 (dk_at dksX5_round_1 8 rfl rfl)
theorem dX5_round_33 : decode cX5_round 33 = .ok (.iload_n 1, 1) := dk_27 (dk_at dksX5_round_1 9 rfl rfl)
theorem dX5_round_34 : decode cX5_round 34 = .ok (.iload_n 2, 1) := dk_28 (dk_at dksX5_round_1 10 rfl rfl)
theorem dX5_round_35 : decode cX5_round 35 = .ok (.invokestatic 274, 3) := dk_184 1 18 (dk_at dksX5_round_1 11 rfl rfl)
theorem dX5_round_38 : decode cX5_round 38 = .ok (.ifCond .eq 5, 3) := dk_153 0 5 (dk_at dksX5_round_1 14 rfl rfl)
theorem dX5_round_41 : decode cX5_round 41 = .ok (.iconst 0, 1) := dk_3 (dk_at dksX5_round_1 17 rfl rfl)
theorem dX5_round_42 : decode cX5_round 42 = .ok (.ireturn, 1) := dk_172 (dk_at dksX5_round_1 18 rfl rfl)
theorem dX5_round_43 : decode cX5_round 43 = .ok (.aload_n 0, 1) := dk_42 (dk_at dksX5_round_1 19 rfl rfl)
theorem dX5_round_44 : decode cX5_round 44 = .ok (.invokevirtual 283, 3) := dk_182 1 27 (dk_at dksX5_round_1 20 rfl rfl)
theorem dX5_round_47 : decode cX5_round 47 = .ok (.aload_n 0, 1) := dk_42 (dk_at dksX5_round_1 23 rfl rfl)
theorem dX5_round_48 : decode cX5_round 48 = .ok (.getfield 20, 3) := dk_180 0 20 (dk_at dksX5_round_2 0 rfl rfl)
theorem dX5_round_51 : decode cX5_round 51 = .ok (.sipush 159, 3) := dk_17 0 159 (dk_at dksX5_round_2 3 rfl rfl)
theorem dX5_round_54 : decode cX5_round 54 = .ok (.iaload, 1) := dk_46 (dk_at dksX5_round_2 6 rfl rfl)
theorem dX5_round_55 : decode cX5_round 55 = .ok (.iload_n 1, 1) := dk_27 (dk_at dksX5_round_2 7 rfl rfl)
theorem dX5_round_56 : decode cX5_round 56 = .ok (.iconst (-1), 1) := dk_2 (dk_at dksX5_round_2 8 rfl rfl)
theorem dX5_round_57 : decode cX5_round 57 = .ok (.ixor, 1) := dk_130 (dk_at dksX5_round_2 9 rfl rfl)
theorem dX5_round_58 : decode cX5_round 58 = .ok (.iand, 1) := dk_126 (dk_at dksX5_round_2 10 rfl rfl)
theorem dX5_round_59 : decode cX5_round 59 = .ok (.istore_n 3, 1) := dk_62 (dk_at dksX5_round_2 11 rfl rfl)
theorem dX5_round_60 : decode cX5_round 60 = .ok (.iconst 0, 1) := dk_3 (dk_at dksX5_round_2 12 rfl rfl)
theorem dX5_round_61 : decode cX5_round 61 = .ok (.istore 4, 2) := dk_54 4 (dk_at dksX5_round_2 13 rfl rfl)
theorem dX5_round_63 : decode cX5_round 63 = .ok (.aload_n 0, 1) := dk_42 (dk_at dksX5_round_2 15 rfl rfl)
theorem dX5_round_64 : decode cX5_round 64 = .ok (.iload_n 3, 1) := dk_29 (dk_at dksX5_round_2 16 rfl rfl)
theorem dX5_round_65 : decode cX5_round 65 = .ok (.invokevirtual 280, 3) := dk_182 1 24 (dk_at dksX5_round_2 17 rfl rfl)
theorem dX5_round_68 : decode cX5_round 68 = .ok (.ifCond .eq 27, 3) := dk_153 0 27 (dk_at dksX5_round_2 20 rfl rfl)
theorem dX5_round_71 : decode cX5_round 71 = .ok (.iload_n 3, 1) := dk_29 (dk_at dksX5_round_2 23 rfl rfl)
theorem dX5_round_72 : decode cX5_round 72 = .ok (.aload_n 0, 1) := dk_42 (dk_at dksX5_round_3 0 rfl rfl)
theorem dX5_round_73 : decode cX5_round 73 = .ok (.iload_n 3, 1) := dk_29 (dk_at dksX5_round_3 1 rfl rfl)
theorem dX5_round_74 : decode cX5_round 74 = .ok (.invokevirtual 280, 3) := dk_182 1 24 (dk_at dksX5_round_3 2 rfl rfl)
theorem dX5_round_77 : decode cX5_round 77 = .ok (.iconst (-1), 1) := dk_2 (dk_at dksX5_round_3 5 rfl rfl)
theorem dX5_round_78 : decode cX5_round 78 = .ok (.ixor, 1) := dk_130 (dk_at dksX5_round_3 6 rfl rfl)
theorem dX5_round_79 : decode cX5_round 79 = .ok (.iand, 1) := dk_126 (dk_at dksX5_round_3 7 rfl rfl)
theorem dX5_round_80 : decode cX5_round 80 = .ok (.istore_n 3, 1) := dk_62 (dk_at dksX5_round_3 8 rfl rfl)
theorem dX5_round_81 : decode cX5_round 81 = .ok (.iinc 4 1, 3) := dk_132 4 1 (dk_at dksX5_round_3 9 rfl rfl)
theorem dX5_round_84 : decode cX5_round 84 = .ok (.iload_n 3, 1) := dk_29 (dk_at dksX5_round_3 12 rfl rfl)
theorem dX5_round_85 : decode cX5_round 85 = .ok (.iload_n 2, 1) := dk_28 (dk_at dksX5_round_3 13 rfl rfl)
theorem dX5_round_86 : decode cX5_round 86 = .ok (.invokestatic 274, 3) := dk_184 1 18 (dk_at dksX5_round_3 14 rfl rfl)
theorem dX5_round_89 : decode cX5_round 89 = .ok (.ifCond .ne (-26), 3) := dk_154 255 230 (dk_at dksX5_round_3 17 rfl rfl)
theorem dX5_round_92 : decode cX5_round 92 = .ok (.iload 4, 2) := dk_21 4 (dk_at dksX5_round_3 20 rfl rfl)
theorem dX5_round_94 : decode cX5_round 94 = .ok (.ireturn, 1) := dk_172 (dk_at dksX5_round_3 22 rfl rfl)
theorem dX5_round_95 : decode cX5_round 95 = .ok (.iconst (-1), 1) := dk_2 (dk_at dksX5_round_3 23 rfl rfl)
theorem dX5_round_96 : decode cX5_round 96 = .ok (.ireturn, 1) := dk_172 (dk_at dksX5_round_4 0 rfl rfl)
abbrev cX5_take : ByteArray := prog_25_method_74_code
def yX5_take : MethodName := ⟨RX5, "take", "(I)I"⟩
def dkwX5_take_2 : List UInt8 := [184, 1, 15, 42, 180, 0, 20, 17, 0, 159, 46, 184, 1, 15, 100, 182, 0, 99, 172]
abbrev dktX5_take_2 : List UInt8 := dkwX5_take_2 ++ []
def dkwX5_take_1 : List UInt8 := [17, 0, 159, 46, 61, 42, 180, 0, 20, 17, 0, 159, 42, 28, 27, 2, 130, 126, 182, 1, 36, 79, 42, 28]
abbrev dktX5_take_1 : List UInt8 := dkwX5_take_1 ++ dktX5_take_2
def dkwX5_take_0 : List UInt8 := [42, 27, 182, 1, 30, 154, 0, 9, 42, 2, 182, 0, 95, 172, 42, 182, 1, 27, 42, 180, 0, 20]
abbrev dktX5_take_0 : List UInt8 := dkwX5_take_0 ++ dktX5_take_1
theorem dksX5_take_0 : cX5_take.data.toList.drop 0 = dktX5_take_0 := by decide +kernel
theorem dksX5_take_1 : cX5_take.data.toList.drop 22 = dktX5_take_1 := dk_seg dksX5_take_0 22 rfl rfl
theorem dksX5_take_2 : cX5_take.data.toList.drop 46 = dktX5_take_2 := dk_seg dksX5_take_1 24 rfl rfl
theorem dX5_take_0 : decode cX5_take 0 = .ok (.aload_n 0, 1) := dk_42 (dk_at dksX5_take_0 0 rfl rfl)
theorem dX5_take_1 : decode cX5_take 1 = .ok (.iload_n 1, 1) := dk_27 (dk_at dksX5_take_0 1 rfl rfl)
theorem dX5_take_2 : decode cX5_take 2 = .ok (.invokevirtual 286, 3) := dk_182 1 30 (dk_at dksX5_take_0 2 rfl rfl)
theorem dX5_take_5 : decode cX5_take 5 = .ok (.ifCond .ne 9, 3) := dk_154 0 9 (dk_at dksX5_take_0 5 rfl rfl)
theorem dX5_take_8 : decode cX5_take 8 = .ok (.aload_n 0, 1) := dk_42 (dk_at dksX5_take_0 8 rfl rfl)
theorem dX5_take_9 : decode cX5_take 9 = .ok (.iconst (-1), 1) := dk_2 (dk_at dksX5_take_0 9 rfl rfl)
theorem dX5_take_10 : decode cX5_take 10 = .ok (.invokevirtual 95, 3) := dk_182 0 95 (dk_at dksX5_take_0 10 rfl rfl)
theorem dX5_take_13 : decode cX5_take 13 = .ok (.ireturn, 1) := dk_172 (dk_at dksX5_take_0 13 rfl rfl)
theorem dX5_take_14 : decode cX5_take 14 = .ok (.aload_n 0, 1) := dk_42 (dk_at dksX5_take_0 14 rfl rfl)
theorem dX5_take_15 : decode cX5_take 15 = .ok (.invokevirtual 283, 3) := dk_182 1 27 (dk_at dksX5_take_0 15 rfl rfl)
theorem dX5_take_18 : decode cX5_take 18 = .ok (.aload_n 0, 1) := dk_42 (dk_at dksX5_take_0 18 rfl rfl)
theorem dX5_take_19 : decode cX5_take 19 = .ok (.getfield 20, 3) := dk_180 0 20 (dk_at dksX5_take_0 19 rfl rfl)
theorem dX5_take_22 : decode cX5_take 22 = .ok (.sipush 159, 3) := dk_17 0 159 (dk_at dksX5_take_1 0 rfl rfl)
theorem dX5_take_25 : decode cX5_take 25 = .ok (.iaload, 1) := dk_46 (dk_at dksX5_take_1 3 rfl rfl)
theorem dX5_take_26 : decode cX5_take 26 = .ok (.istore_n 2, 1) := dk_61 (dk_at dksX5_take_1 4 rfl rfl)
theorem dX5_take_27 : decode cX5_take 27 = .ok (.aload_n 0, 1) := dk_42 (dk_at dksX5_take_1 5 rfl rfl)
theorem dX5_take_28 : decode cX5_take 28 = .ok (.getfield 20, 3) := dk_180 0 20 (dk_at dksX5_take_1 6 rfl rfl)
theorem dX5_take_31 : decode cX5_take 31 = .ok (.sipush 159, 3) := dk_17 0 159 (dk_at dksX5_take_1 9 rfl rfl)
theorem dX5_take_34 : decode cX5_take 34 = .ok (.aload_n 0, 1) := dk_42 (dk_at dksX5_take_1 12 rfl rfl)
theorem dX5_take_35 : decode cX5_take 35 = .ok (.iload_n 2, 1) := dk_28 (dk_at dksX5_take_1 13 rfl rfl)
theorem dX5_take_36 : decode cX5_take 36 = .ok (.iload_n 1, 1) := dk_27 (dk_at dksX5_take_1 14 rfl rfl)
theorem dX5_take_37 : decode cX5_take 37 = .ok (.iconst (-1), 1) := dk_2 (dk_at dksX5_take_1 15 rfl rfl)
theorem dX5_take_38 : decode cX5_take 38 = .ok (.ixor, 1) := dk_130 (dk_at dksX5_take_1 16 rfl rfl)
theorem dX5_take_39 : decode cX5_take 39 = .ok (.iand, 1) := dk_126 (dk_at dksX5_take_1 17 rfl rfl)
theorem dX5_take_40 : decode cX5_take 40 = .ok (.invokevirtual 292, 3) := dk_182 1 36 (dk_at dksX5_take_1 18 rfl rfl)
theorem dX5_take_43 : decode cX5_take 43 = .ok (.iastore, 1) := dk_79 (dk_at dksX5_take_1 21 rfl rfl)
theorem dX5_take_44 : decode cX5_take 44 = .ok (.aload_n 0, 1) := dk_42 (dk_at dksX5_take_1 22 rfl rfl)
theorem dX5_take_45 : decode cX5_take 45 = .ok (.iload_n 2, 1) := dk_28 (dk_at dksX5_take_1 23 rfl rfl)
theorem dX5_take_46 : decode cX5_take 46 = .ok (.invokestatic 271, 3) := dk_184 1 15 (dk_at dksX5_take_2 0 rfl rfl)
theorem dX5_take_49 : decode cX5_take 49 = .ok (.aload_n 0, 1) := dk_42 (dk_at dksX5_take_2 3 rfl rfl)
theorem dX5_take_50 : decode cX5_take 50 = .ok (.getfield 20, 3) := dk_180 0 20 (dk_at dksX5_take_2 4 rfl rfl)
theorem dX5_take_53 : decode cX5_take 53 = .ok (.sipush 159, 3) := dk_17 0 159 (dk_at dksX5_take_2 7 rfl rfl)
theorem dX5_take_56 : decode cX5_take 56 = .ok (.iaload, 1) := dk_46 (dk_at dksX5_take_2 10 rfl rfl)
theorem dX5_take_57 : decode cX5_take 57 = .ok (.invokestatic 271, 3) := dk_184 1 15 (dk_at dksX5_take_2 11 rfl rfl)
theorem dX5_take_60 : decode cX5_take 60 = .ok (.isub, 1) := dk_100 (dk_at dksX5_take_2 14 rfl rfl)
theorem dX5_take_61 : decode cX5_take 61 = .ok (.invokevirtual 99, 3) := dk_182 0 99 (dk_at dksX5_take_2 15 rfl rfl)
theorem dX5_take_64 : decode cX5_take 64 = .ok (.ireturn, 1) := dk_172 (dk_at dksX5_take_2 18 rfl rfl)
abbrev cX5_fall : ByteArray := prog_25_method_64_code
def yX5_fall : MethodName := ⟨RX5, "fall", "(I)I"⟩
def dkwX5_fall_1 : List UInt8 := [172]
abbrev dktX5_fall_1 : List UInt8 := dkwX5_fall_1 ++ []
def dkwX5_fall_0 : List UInt8 := [27, 61, 42, 28, 182, 1, 24, 153, 0, 16, 28, 42, 28, 182, 1, 24, 2, 130, 126, 61, 167, 255, 238, 28]
abbrev dktX5_fall_0 : List UInt8 := dkwX5_fall_0 ++ dktX5_fall_1
theorem dksX5_fall_0 : cX5_fall.data.toList.drop 0 = dktX5_fall_0 := by decide +kernel
theorem dksX5_fall_1 : cX5_fall.data.toList.drop 24 = dktX5_fall_1 := dk_seg dksX5_fall_0 24 rfl rfl
theorem dX5_fall_0 : decode cX5_fall 0 = .ok (.iload_n 1, 1) := dk_27 (dk_at dksX5_fall_0 0 rfl rfl)
theorem dX5_fall_1 : decode cX5_fall 1 = .ok (.istore_n 2, 1) := dk_61 (dk_at dksX5_fall_0 1 rfl rfl)
theorem dX5_fall_2 : decode cX5_fall 2 = .ok (.aload_n 0, 1) := dk_42 (dk_at dksX5_fall_0 2 rfl rfl)
theorem dX5_fall_3 : decode cX5_fall 3 = .ok (.iload_n 2, 1) := dk_28 (dk_at dksX5_fall_0 3 rfl rfl)
theorem dX5_fall_4 : decode cX5_fall 4 = .ok (.invokevirtual 280, 3) := dk_182 1 24 (dk_at dksX5_fall_0 4 rfl rfl)
theorem dX5_fall_7 : decode cX5_fall 7 = .ok (.ifCond .eq 16, 3) := dk_153 0 16 (dk_at dksX5_fall_0 7 rfl rfl)
theorem dX5_fall_10 : decode cX5_fall 10 = .ok (.iload_n 2, 1) := dk_28 (dk_at dksX5_fall_0 10 rfl rfl)
theorem dX5_fall_11 : decode cX5_fall 11 = .ok (.aload_n 0, 1) := dk_42 (dk_at dksX5_fall_0 11 rfl rfl)
theorem dX5_fall_12 : decode cX5_fall 12 = .ok (.iload_n 2, 1) := dk_28 (dk_at dksX5_fall_0 12 rfl rfl)
theorem dX5_fall_13 : decode cX5_fall 13 = .ok (.invokevirtual 280, 3) := dk_182 1 24 (dk_at dksX5_fall_0 13 rfl rfl)
theorem dX5_fall_16 : decode cX5_fall 16 = .ok (.iconst (-1), 1) := dk_2 (dk_at dksX5_fall_0 16 rfl rfl)
theorem dX5_fall_17 : decode cX5_fall 17 = .ok (.ixor, 1) := dk_130 (dk_at dksX5_fall_0 17 rfl rfl)
theorem dX5_fall_18 : decode cX5_fall 18 = .ok (.iand, 1) := dk_126 (dk_at dksX5_fall_0 18 rfl rfl)
theorem dX5_fall_19 : decode cX5_fall 19 = .ok (.istore_n 2, 1) := dk_61 (dk_at dksX5_fall_0 19 rfl rfl)
theorem dX5_fall_20 : decode cX5_fall 20 = .ok (.goto (-18), 3) := dk_167 255 238 (dk_at dksX5_fall_0 20 rfl rfl)
theorem dX5_fall_23 : decode cX5_fall 23 = .ok (.iload_n 2, 1) := dk_28 (dk_at dksX5_fall_0 23 rfl rfl)
theorem dX5_fall_24 : decode cX5_fall 24 = .ok (.ireturn, 1) := dk_172 (dk_at dksX5_fall_1 0 rfl rfl)
abbrev cX5_farm : ByteArray := prog_25_method_75_code
def yX5_farm : MethodName := ⟨RX5, "farm", "(II)I"⟩
def dkwX5_farm_4 : List UInt8 := [54, 4, 132, 5, 1, 167, 255, 214, 21, 4, 172]
abbrev dktX5_farm_4 : List UInt8 := dkwX5_farm_4 ++ []
def dkwX5_farm_3 : List UInt8 := [184, 1, 18, 153, 0, 18, 42, 21, 5, 8, 182, 0, 113, 28, 160, 0, 7, 4, 167, 0, 4, 3, 96]
abbrev dktX5_farm_3 : List UInt8 := dkwX5_farm_3 ++ dktX5_farm_4
def dkwX5_farm_2 : List UInt8 := [130, 126, 62, 3, 54, 4, 3, 54, 5, 21, 5, 42, 182, 0, 102, 162, 0, 39, 21, 4, 29, 21, 5]
abbrev dktX5_farm_2 : List UInt8 := dkwX5_farm_2 ++ dktX5_farm_3
def dkwX5_farm_1 : List UInt8 := [180, 0, 20, 17, 0, 159, 46, 42, 42, 180, 0, 20, 17, 0, 159, 46, 27, 2, 130, 126, 182, 1, 36, 2]
abbrev dktX5_farm_1 : List UInt8 := dkwX5_farm_1 ++ dktX5_farm_2
def dkwX5_farm_0 : List UInt8 := [42, 27, 182, 1, 30, 153, 0, 12, 28, 3, 6, 184, 0, 91, 154, 0, 5, 2, 172, 42, 182, 1, 27, 42]
abbrev dktX5_farm_0 : List UInt8 := dkwX5_farm_0 ++ dktX5_farm_1
theorem dksX5_farm_0 : cX5_farm.data.toList.drop 0 = dktX5_farm_0 := by decide +kernel
theorem dksX5_farm_1 : cX5_farm.data.toList.drop 24 = dktX5_farm_1 := dk_seg dksX5_farm_0 24 rfl rfl
theorem dksX5_farm_2 : cX5_farm.data.toList.drop 48 = dktX5_farm_2 := dk_seg dksX5_farm_1 24 rfl rfl
theorem dksX5_farm_3 : cX5_farm.data.toList.drop 71 = dktX5_farm_3 := dk_seg dksX5_farm_2 23 rfl rfl
theorem dksX5_farm_4 : cX5_farm.data.toList.drop 94 = dktX5_farm_4 := dk_seg dksX5_farm_3 23 rfl rfl
theorem dX5_farm_0 : decode cX5_farm 0 = .ok (.aload_n 0, 1) := dk_42 (dk_at dksX5_farm_0 0 rfl rfl)
theorem dX5_farm_1 : decode cX5_farm 1 = .ok (.iload_n 1, 1) := dk_27 (dk_at dksX5_farm_0 1 rfl rfl)
theorem dX5_farm_2 : decode cX5_farm 2 = .ok (.invokevirtual 286, 3) := dk_182 1 30 (dk_at dksX5_farm_0 2 rfl rfl)
theorem dX5_farm_5 : decode cX5_farm 5 = .ok (.ifCond .eq 12, 3) := dk_153 0 12 (dk_at dksX5_farm_0 5 rfl rfl)
theorem dX5_farm_8 : decode cX5_farm 8 = .ok (.iload_n 2, 1) := dk_28 (dk_at dksX5_farm_0 8 rfl rfl)
theorem dX5_farm_9 : decode cX5_farm 9 = .ok (.iconst 0, 1) := dk_3 (dk_at dksX5_farm_0 9 rfl rfl)
theorem dX5_farm_10 : decode cX5_farm 10 = .ok (.iconst 3, 1) := dk_6 (dk_at dksX5_farm_0 10 rfl rfl)
theorem dX5_farm_11 : decode cX5_farm 11 = .ok (.invokestatic 91, 3) := dk_184 0 91 (dk_at dksX5_farm_0 11 rfl rfl)
theorem dX5_farm_14 : decode cX5_farm 14 = .ok (.ifCond .ne 5, 3) := dk_154 0 5 (dk_at dksX5_farm_0 14 rfl rfl)
theorem dX5_farm_17 : decode cX5_farm 17 = .ok (.iconst (-1), 1) := dk_2 (dk_at dksX5_farm_0 17 rfl rfl)
theorem dX5_farm_18 : decode cX5_farm 18 = .ok (.ireturn, 1) := dk_172 (dk_at dksX5_farm_0 18 rfl rfl)
theorem dX5_farm_19 : decode cX5_farm 19 = .ok (.aload_n 0, 1) := dk_42 (dk_at dksX5_farm_0 19 rfl rfl)
theorem dX5_farm_20 : decode cX5_farm 20 = .ok (.invokevirtual 283, 3) := dk_182 1 27 (dk_at dksX5_farm_0 20 rfl rfl)
theorem dX5_farm_23 : decode cX5_farm 23 = .ok (.aload_n 0, 1) := dk_42 (dk_at dksX5_farm_0 23 rfl rfl)
theorem dX5_farm_24 : decode cX5_farm 24 = .ok (.getfield 20, 3) := dk_180 0 20 (dk_at dksX5_farm_1 0 rfl rfl)
theorem dX5_farm_27 : decode cX5_farm 27 = .ok (.sipush 159, 3) := dk_17 0 159 (dk_at dksX5_farm_1 3 rfl rfl)
theorem dX5_farm_30 : decode cX5_farm 30 = .ok (.iaload, 1) := dk_46 (dk_at dksX5_farm_1 6 rfl rfl)
theorem dX5_farm_31 : decode cX5_farm 31 = .ok (.aload_n 0, 1) := dk_42 (dk_at dksX5_farm_1 7 rfl rfl)
theorem dX5_farm_32 : decode cX5_farm 32 = .ok (.aload_n 0, 1) := dk_42 (dk_at dksX5_farm_1 8 rfl rfl)
theorem dX5_farm_33 : decode cX5_farm 33 = .ok (.getfield 20, 3) := dk_180 0 20 (dk_at dksX5_farm_1 9 rfl rfl)
theorem dX5_farm_36 : decode cX5_farm 36 = .ok (.sipush 159, 3) := dk_17 0 159 (dk_at dksX5_farm_1 12 rfl rfl)
theorem dX5_farm_39 : decode cX5_farm 39 = .ok (.iaload, 1) := dk_46 (dk_at dksX5_farm_1 15 rfl rfl)
theorem dX5_farm_40 : decode cX5_farm 40 = .ok (.iload_n 1, 1) := dk_27 (dk_at dksX5_farm_1 16 rfl rfl)
theorem dX5_farm_41 : decode cX5_farm 41 = .ok (.iconst (-1), 1) := dk_2 (dk_at dksX5_farm_1 17 rfl rfl)
theorem dX5_farm_42 : decode cX5_farm 42 = .ok (.ixor, 1) := dk_130 (dk_at dksX5_farm_1 18 rfl rfl)
theorem dX5_farm_43 : decode cX5_farm 43 = .ok (.iand, 1) := dk_126 (dk_at dksX5_farm_1 19 rfl rfl)
theorem dX5_farm_44 : decode cX5_farm 44 = .ok (.invokevirtual 292, 3) := dk_182 1 36 (dk_at dksX5_farm_1 20 rfl rfl)
theorem dX5_farm_47 : decode cX5_farm 47 = .ok (.iconst (-1), 1) := dk_2 (dk_at dksX5_farm_1 23 rfl rfl)
theorem dX5_farm_48 : decode cX5_farm 48 = .ok (.ixor, 1) := dk_130 (dk_at dksX5_farm_2 0 rfl rfl)
theorem dX5_farm_49 : decode cX5_farm 49 = .ok (.iand, 1) := dk_126 (dk_at dksX5_farm_2 1 rfl rfl)
theorem dX5_farm_50 : decode cX5_farm 50 = .ok (.istore_n 3, 1) := dk_62 (dk_at dksX5_farm_2 2 rfl rfl)
theorem dX5_farm_51 : decode cX5_farm 51 = .ok (.iconst 0, 1) := dk_3 (dk_at dksX5_farm_2 3 rfl rfl)
theorem dX5_farm_52 : decode cX5_farm 52 = .ok (.istore 4, 2) := dk_54 4 (dk_at dksX5_farm_2 4 rfl rfl)
theorem dX5_farm_54 : decode cX5_farm 54 = .ok (.iconst 0, 1) := dk_3 (dk_at dksX5_farm_2 6 rfl rfl)
theorem dX5_farm_55 : decode cX5_farm 55 = .ok (.istore 5, 2) := dk_54 5 (dk_at dksX5_farm_2 7 rfl rfl)
theorem dX5_farm_57 : decode cX5_farm 57 = .ok (.iload 5, 2) := dk_21 5 (dk_at dksX5_farm_2 9 rfl rfl)
theorem dX5_farm_59 : decode cX5_farm 59 = .ok (.aload_n 0, 1) := dk_42 (dk_at dksX5_farm_2 11 rfl rfl)
theorem dX5_farm_60 : decode cX5_farm 60 = .ok (.invokevirtual 102, 3) := dk_182 0 102 (dk_at dksX5_farm_2 12 rfl rfl)
theorem dX5_farm_63 : decode cX5_farm 63 = .ok (.if_icmp .ge 39, 3) := dk_162 0 39 (dk_at dksX5_farm_2 15 rfl rfl)
theorem dX5_farm_66 : decode cX5_farm 66 = .ok (.iload 4, 2) := dk_21 4 (dk_at dksX5_farm_2 18 rfl rfl)
theorem dX5_farm_68 : decode cX5_farm 68 = .ok (.iload_n 3, 1) := dk_29 (dk_at dksX5_farm_2 20 rfl rfl)
theorem dX5_farm_69 : decode cX5_farm 69 = .ok (.iload 5, 2) := dk_21 5 (dk_at dksX5_farm_2 21 rfl rfl)
theorem dX5_farm_71 : decode cX5_farm 71 = .ok (.invokestatic 274, 3) := dk_184 1 18 (dk_at dksX5_farm_3 0 rfl rfl)
theorem dX5_farm_74 : decode cX5_farm 74 = .ok (.ifCond .eq 18, 3) := dk_153 0 18 (dk_at dksX5_farm_3 3 rfl rfl)
theorem dX5_farm_77 : decode cX5_farm 77 = .ok (.aload_n 0, 1) := dk_42 (dk_at dksX5_farm_3 6 rfl rfl)
theorem dX5_farm_78 : decode cX5_farm 78 = .ok (.iload 5, 2) := dk_21 5 (dk_at dksX5_farm_3 7 rfl rfl)
theorem dX5_farm_80 : decode cX5_farm 80 = .ok (.iconst 5, 1) := dk_8 (dk_at dksX5_farm_3 9 rfl rfl)
theorem dX5_farm_81 : decode cX5_farm 81 = .ok (.invokevirtual 113, 3) := dk_182 0 113 (dk_at dksX5_farm_3 10 rfl rfl)
theorem dX5_farm_84 : decode cX5_farm 84 = .ok (.iload_n 2, 1) := dk_28 (dk_at dksX5_farm_3 13 rfl rfl)
theorem dX5_farm_85 : decode cX5_farm 85 = .ok (.if_icmp .ne 7, 3) := dk_160 0 7 (dk_at dksX5_farm_3 14 rfl rfl)
theorem dX5_farm_88 : decode cX5_farm 88 = .ok (.iconst 1, 1) := dk_4 (dk_at dksX5_farm_3 17 rfl rfl)
theorem dX5_farm_89 : decode cX5_farm 89 = .ok (.goto 4, 3) := dk_167 0 4 (dk_at dksX5_farm_3 18 rfl rfl)
theorem dX5_farm_92 : decode cX5_farm 92 = .ok (.iconst 0, 1) := dk_3 (dk_at dksX5_farm_3 21 rfl rfl)
theorem dX5_farm_93 : decode cX5_farm 93 = .ok (.iadd, 1) := dk_96 (dk_at dksX5_farm_3 22 rfl rfl)
theorem dX5_farm_94 : decode cX5_farm 94 = .ok (.istore 4, 2) := dk_54 4 (dk_at dksX5_farm_4 0 rfl rfl)
theorem dX5_farm_96 : decode cX5_farm 96 = .ok (.iinc 5 1, 3) := dk_132 5 1 (dk_at dksX5_farm_4 2 rfl rfl)
theorem dX5_farm_99 : decode cX5_farm 99 = .ok (.goto (-42), 3) := dk_167 255 214 (dk_at dksX5_farm_4 5 rfl rfl)
theorem dX5_farm_102 : decode cX5_farm 102 = .ok (.iload 4, 2) := dk_21 4 (dk_at dksX5_farm_4 8 rfl rfl)
theorem dX5_farm_104 : decode cX5_farm 104 = .ok (.ireturn, 1) := dk_172 (dk_at dksX5_farm_4 10 rfl rfl)
abbrev cX5_once : ByteArray := prog_25_method_80_code
def yX5_once : MethodName := ⟨RX5, "once", "(I)I"⟩
def dkwX5_once_0 : List UInt8 := [27, 3, 6, 184, 0, 91, 154, 0, 5, 2, 172, 42, 3, 182, 1, 51, 42, 27, 182, 1, 55, 172]
abbrev dktX5_once_0 : List UInt8 := dkwX5_once_0 ++ []
theorem dksX5_once_0 : cX5_once.data.toList.drop 0 = dktX5_once_0 := by decide +kernel
theorem dX5_once_0 : decode cX5_once 0 = .ok (.iload_n 1, 1) := dk_27 (dk_at dksX5_once_0 0 rfl rfl)
theorem dX5_once_1 : decode cX5_once 1 = .ok (.iconst 0, 1) := dk_3 (dk_at dksX5_once_0 1 rfl rfl)
theorem dX5_once_2 : decode cX5_once 2 = .ok (.iconst 3, 1) := dk_6 (dk_at dksX5_once_0 2 rfl rfl)
theorem dX5_once_3 : decode cX5_once 3 = .ok (.invokestatic 91, 3) := dk_184 0 91 (dk_at dksX5_once_0 3 rfl rfl)
theorem dX5_once_6 : decode cX5_once 6 = .ok (.ifCond .ne 5, 3) := dk_154 0 5 (dk_at dksX5_once_0 6 rfl rfl)
theorem dX5_once_9 : decode cX5_once 9 = .ok (.iconst (-1), 1) := dk_2 (dk_at dksX5_once_0 9 rfl rfl)
theorem dX5_once_10 : decode cX5_once 10 = .ok (.ireturn, 1) := dk_172 (dk_at dksX5_once_0 10 rfl rfl)
theorem dX5_once_11 : decode cX5_once 11 = .ok (.aload_n 0, 1) := dk_42 (dk_at dksX5_once_0 11 rfl rfl)
theorem dX5_once_12 : decode cX5_once 12 = .ok (.iconst 0, 1) := dk_3 (dk_at dksX5_once_0 12 rfl rfl)
theorem dX5_once_13 : decode cX5_once 13 = .ok (.invokevirtual 307, 3) := dk_182 1 51 (dk_at dksX5_once_0 13 rfl rfl)
theorem dX5_once_16 : decode cX5_once 16 = .ok (.aload_n 0, 1) := dk_42 (dk_at dksX5_once_0 16 rfl rfl)
theorem dX5_once_17 : decode cX5_once 17 = .ok (.iload_n 1, 1) := dk_27 (dk_at dksX5_once_0 17 rfl rfl)
theorem dX5_once_18 : decode cX5_once 18 = .ok (.invokevirtual 311, 3) := dk_182 1 55 (dk_at dksX5_once_0 18 rfl rfl)
theorem dX5_once_21 : decode cX5_once 21 = .ok (.ireturn, 1) := dk_172 (dk_at dksX5_once_0 21 rfl rfl)
abbrev cX5_takesMost : ByteArray := prog_25_method_78_code
def yX5_takesMost : MethodName := ⟨RX5, "takesMost", "(Z)V"⟩
def dkwX5_takesMost_5 : List UInt8 := [167, 255, 156, 177]
abbrev dktX5_takesMost_5 : List UInt8 := dkwX5_takesMost_5 ++ []
def dkwX5_takesMost_4 : List UInt8 := [159, 0, 15, 42, 28, 42, 180, 1, 42, 182, 1, 48, 153, 0, 8, 42, 28, 181, 1, 42, 132, 2, 1]
abbrev dktX5_takesMost_4 : List UInt8 := dkwX5_takesMost_4 ++ dktX5_takesMost_5
def dkwX5_takesMost_3 : List UInt8 := [51, 154, 0, 6, 167, 0, 38, 42, 89, 180, 1, 45, 4, 96, 181, 1, 45, 42, 180, 1, 42, 2]
abbrev dktX5_takesMost_3 : List UInt8 := dkwX5_takesMost_3 ++ dktX5_takesMost_4
def dkwX5_takesMost_2 : List UInt8 := [130, 126, 62, 27, 153, 0, 15, 42, 180, 0, 79, 29, 51, 154, 0, 18, 167, 0, 50, 42, 180, 0, 70, 29]
abbrev dktX5_takesMost_2 : List UInt8 := dkwX5_takesMost_2 ++ dktX5_takesMost_3
def dkwX5_takesMost_1 : List UInt8 := [162, 0, 96, 42, 28, 182, 1, 30, 154, 0, 6, 167, 0, 79, 42, 180, 0, 20, 17, 0, 159, 46, 28, 2]
abbrev dktX5_takesMost_1 : List UInt8 := dkwX5_takesMost_1 ++ dktX5_takesMost_2
def dkwX5_takesMost_0 : List UInt8 := [42, 182, 1, 39, 42, 2, 181, 1, 42, 42, 3, 181, 1, 45, 3, 61, 28, 4, 42, 182, 0, 102, 120]
abbrev dktX5_takesMost_0 : List UInt8 := dkwX5_takesMost_0 ++ dktX5_takesMost_1
theorem dksX5_takesMost_0 : cX5_takesMost.data.toList.drop 0 = dktX5_takesMost_0 := by decide +kernel
theorem dksX5_takesMost_1 : cX5_takesMost.data.toList.drop 23 = dktX5_takesMost_1 := dk_seg dksX5_takesMost_0 23 rfl rfl
theorem dksX5_takesMost_2 : cX5_takesMost.data.toList.drop 47 = dktX5_takesMost_2 := dk_seg dksX5_takesMost_1 24 rfl rfl
theorem dksX5_takesMost_3 : cX5_takesMost.data.toList.drop 71 = dktX5_takesMost_3 := dk_seg dksX5_takesMost_2 24 rfl rfl
theorem dksX5_takesMost_4 : cX5_takesMost.data.toList.drop 93 = dktX5_takesMost_4 := dk_seg dksX5_takesMost_3 22 rfl rfl
theorem dksX5_takesMost_5 : cX5_takesMost.data.toList.drop 116 = dktX5_takesMost_5 := dk_seg dksX5_takesMost_4 23 rfl rfl
theorem dX5_takesMost_0 : decode cX5_takesMost 0 = .ok (.aload_n 0, 1) := dk_42 (dk_at dksX5_takesMost_0 0 rfl rfl)
theorem dX5_takesMost_1 : decode cX5_takesMost 1 = .ok (.invokevirtual 295, 3) := dk_182 1 39 (dk_at dksX5_takesMost_0 1 rfl rfl)
theorem dX5_takesMost_4 : decode cX5_takesMost 4 = .ok (.aload_n 0, 1) := dk_42 (dk_at dksX5_takesMost_0 4 rfl rfl)
theorem dX5_takesMost_5 : decode cX5_takesMost 5 = .ok (.iconst (-1), 1) := dk_2 (dk_at dksX5_takesMost_0 5 rfl rfl)
theorem dX5_takesMost_6 : decode cX5_takesMost 6 = .ok (.putfield 298, 3) := dk_181 1 42 (dk_at dksX5_takesMost_0 6 rfl rfl)
theorem dX5_takesMost_9 : decode cX5_takesMost 9 = .ok (.aload_n 0, 1) := dk_42 (dk_at dksX5_takesMost_0 9 rfl rfl)
theorem dX5_takesMost_10 : decode cX5_takesMost 10 = .ok (.iconst 0, 1) := dk_3 (dk_at dksX5_takesMost_0 10 rfl rfl)
theorem dX5_takesMost_11 : decode cX5_takesMost 11 = .ok (.putfield 301, 3) := dk_181 1 45 (dk_at dksX5_takesMost_0 11 rfl rfl)
theorem dX5_takesMost_14 : decode cX5_takesMost 14 = .ok (.iconst 0, 1) := dk_3 (dk_at dksX5_takesMost_0 14 rfl rfl)
theorem dX5_takesMost_15 : decode cX5_takesMost 15 = .ok (.istore_n 2, 1) := dk_61 (dk_at dksX5_takesMost_0 15 rfl rfl)
theorem dX5_takesMost_16 : decode cX5_takesMost 16 = .ok (.iload_n 2, 1) := dk_28 (dk_at dksX5_takesMost_0 16 rfl rfl)
theorem dX5_takesMost_17 : decode cX5_takesMost 17 = .ok (.iconst 1, 1) := dk_4 (dk_at dksX5_takesMost_0 17 rfl rfl)
theorem dX5_takesMost_18 : decode cX5_takesMost 18 = .ok (.aload_n 0, 1) := dk_42 (dk_at dksX5_takesMost_0 18 rfl rfl)
theorem dX5_takesMost_19 : decode cX5_takesMost 19 = .ok (.invokevirtual 102, 3) := dk_182 0 102 (dk_at dksX5_takesMost_0 19 rfl rfl)
theorem dX5_takesMost_22 : decode cX5_takesMost 22 = .ok (.ishl, 1) := dk_120 (dk_at dksX5_takesMost_0 22 rfl rfl)
theorem dX5_takesMost_23 : decode cX5_takesMost 23 = .ok (.if_icmp .ge 96, 3) := dk_162 0 96 (dk_at dksX5_takesMost_1 0 rfl rfl)
theorem dX5_takesMost_26 : decode cX5_takesMost 26 = .ok (.aload_n 0, 1) := dk_42 (dk_at dksX5_takesMost_1 3 rfl rfl)
theorem dX5_takesMost_27 : decode cX5_takesMost 27 = .ok (.iload_n 2, 1) := dk_28 (dk_at dksX5_takesMost_1 4 rfl rfl)
theorem dX5_takesMost_28 : decode cX5_takesMost 28 = .ok (.invokevirtual 286, 3) := dk_182 1 30 (dk_at dksX5_takesMost_1 5 rfl rfl)
theorem dX5_takesMost_31 : decode cX5_takesMost 31 = .ok (.ifCond .ne 6, 3) := dk_154 0 6 (dk_at dksX5_takesMost_1 8 rfl rfl)
theorem dX5_takesMost_34 : decode cX5_takesMost 34 = .ok (.goto 79, 3) := dk_167 0 79 (dk_at dksX5_takesMost_1 11 rfl rfl)
theorem dX5_takesMost_37 : decode cX5_takesMost 37 = .ok (.aload_n 0, 1) := dk_42 (dk_at dksX5_takesMost_1 14 rfl rfl)
theorem dX5_takesMost_38 : decode cX5_takesMost 38 = .ok (.getfield 20, 3) := dk_180 0 20 (dk_at dksX5_takesMost_1 15 rfl rfl)
theorem dX5_takesMost_41 : decode cX5_takesMost 41 = .ok (.sipush 159, 3) := dk_17 0 159 (dk_at dksX5_takesMost_1 18 rfl rfl)
theorem dX5_takesMost_44 : decode cX5_takesMost 44 = .ok (.iaload, 1) := dk_46 (dk_at dksX5_takesMost_1 21 rfl rfl)
theorem dX5_takesMost_45 : decode cX5_takesMost 45 = .ok (.iload_n 2, 1) := dk_28 (dk_at dksX5_takesMost_1 22 rfl rfl)
theorem dX5_takesMost_46 : decode cX5_takesMost 46 = .ok (.iconst (-1), 1) := dk_2 (dk_at dksX5_takesMost_1 23 rfl rfl)
theorem dX5_takesMost_47 : decode cX5_takesMost 47 = .ok (.ixor, 1) := dk_130 (dk_at dksX5_takesMost_2 0 rfl rfl)
theorem dX5_takesMost_48 : decode cX5_takesMost 48 = .ok (.iand, 1) := dk_126 (dk_at dksX5_takesMost_2 1 rfl rfl)
theorem dX5_takesMost_49 : decode cX5_takesMost 49 = .ok (.istore_n 3, 1) := dk_62 (dk_at dksX5_takesMost_2 2 rfl rfl)
theorem dX5_takesMost_50 : decode cX5_takesMost 50 = .ok (.iload_n 1, 1) := dk_27 (dk_at dksX5_takesMost_2 3 rfl rfl)
theorem dX5_takesMost_51 : decode cX5_takesMost 51 = .ok (.ifCond .eq 15, 3) := dk_153 0 15 (dk_at dksX5_takesMost_2 4 rfl rfl)
theorem dX5_takesMost_54 : decode cX5_takesMost 54 = .ok (.aload_n 0, 1) := dk_42 (dk_at dksX5_takesMost_2 7 rfl rfl)
theorem dX5_takesMost_55 : decode cX5_takesMost 55 = .ok (.getfield 79, 3) := dk_180 0 79 (dk_at dksX5_takesMost_2 8 rfl rfl)
theorem dX5_takesMost_58 : decode cX5_takesMost 58 = .ok (.iload_n 3, 1) := dk_29 (dk_at dksX5_takesMost_2 11 rfl rfl)
theorem dX5_takesMost_59 : decode cX5_takesMost 59 = .ok (.baload, 1) := dk_51 (dk_at dksX5_takesMost_2 12 rfl rfl)
theorem dX5_takesMost_60 : decode cX5_takesMost 60 = .ok (.ifCond .ne 18, 3) := dk_154 0 18 (dk_at dksX5_takesMost_2 13 rfl rfl)
theorem dX5_takesMost_63 : decode cX5_takesMost 63 = .ok (.goto 50, 3) := dk_167 0 50 (dk_at dksX5_takesMost_2 16 rfl rfl)
theorem dX5_takesMost_66 : decode cX5_takesMost 66 = .ok (.aload_n 0, 1) := dk_42 (dk_at dksX5_takesMost_2 19 rfl rfl)
theorem dX5_takesMost_67 : decode cX5_takesMost 67 = .ok (.getfield 70, 3) := dk_180 0 70 (dk_at dksX5_takesMost_2 20 rfl rfl)
theorem dX5_takesMost_70 : decode cX5_takesMost 70 = .ok (.iload_n 3, 1) := dk_29 (dk_at dksX5_takesMost_2 23 rfl rfl)
theorem dX5_takesMost_71 : decode cX5_takesMost 71 = .ok (.baload, 1) := dk_51 (dk_at dksX5_takesMost_3 0 rfl rfl)
theorem dX5_takesMost_72 : decode cX5_takesMost 72 = .ok (.ifCond .ne 6, 3) := dk_154 0 6 (dk_at dksX5_takesMost_3 1 rfl rfl)
theorem dX5_takesMost_75 : decode cX5_takesMost 75 = .ok (.goto 38, 3) := dk_167 0 38 (dk_at dksX5_takesMost_3 4 rfl rfl)
theorem dX5_takesMost_78 : decode cX5_takesMost 78 = .ok (.aload_n 0, 1) := dk_42 (dk_at dksX5_takesMost_3 7 rfl rfl)
theorem dX5_takesMost_79 : decode cX5_takesMost 79 = .ok (.dup, 1) := dk_89 (dk_at dksX5_takesMost_3 8 rfl rfl)
theorem dX5_takesMost_80 : decode cX5_takesMost 80 = .ok (.getfield 301, 3) := dk_180 1 45 (dk_at dksX5_takesMost_3 9 rfl rfl)
theorem dX5_takesMost_83 : decode cX5_takesMost 83 = .ok (.iconst 1, 1) := dk_4 (dk_at dksX5_takesMost_3 12 rfl rfl)
theorem dX5_takesMost_84 : decode cX5_takesMost 84 = .ok (.iadd, 1) := dk_96 (dk_at dksX5_takesMost_3 13 rfl rfl)
theorem dX5_takesMost_85 : decode cX5_takesMost 85 = .ok (.putfield 301, 3) := dk_181 1 45 (dk_at dksX5_takesMost_3 14 rfl rfl)
theorem dX5_takesMost_88 : decode cX5_takesMost 88 = .ok (.aload_n 0, 1) := dk_42 (dk_at dksX5_takesMost_3 17 rfl rfl)
theorem dX5_takesMost_89 : decode cX5_takesMost 89 = .ok (.getfield 298, 3) := dk_180 1 42 (dk_at dksX5_takesMost_3 18 rfl rfl)
theorem dX5_takesMost_92 : decode cX5_takesMost 92 = .ok (.iconst (-1), 1) := dk_2 (dk_at dksX5_takesMost_3 21 rfl rfl)
theorem dX5_takesMost_93 : decode cX5_takesMost 93 = .ok (.if_icmp .eq 15, 3) := dk_159 0 15 (dk_at dksX5_takesMost_4 0 rfl rfl)
theorem dX5_takesMost_96 : decode cX5_takesMost 96 = .ok (.aload_n 0, 1) := dk_42 (dk_at dksX5_takesMost_4 3 rfl rfl)
theorem dX5_takesMost_97 : decode cX5_takesMost 97 = .ok (.iload_n 2, 1) := dk_28 (dk_at dksX5_takesMost_4 4 rfl rfl)
theorem dX5_takesMost_98 : decode cX5_takesMost 98 = .ok (.aload_n 0, 1) := dk_42 (dk_at dksX5_takesMost_4 5 rfl rfl)
theorem dX5_takesMost_99 : decode cX5_takesMost 99 = .ok (.getfield 298, 3) := dk_180 1 42 (dk_at dksX5_takesMost_4 6 rfl rfl)
theorem dX5_takesMost_102 : decode cX5_takesMost 102 = .ok (.invokevirtual 304, 3) := dk_182 1 48 (dk_at dksX5_takesMost_4 9 rfl rfl)
theorem dX5_takesMost_105 : decode cX5_takesMost 105 = .ok (.ifCond .eq 8, 3) := dk_153 0 8 (dk_at dksX5_takesMost_4 12 rfl rfl)
theorem dX5_takesMost_108 : decode cX5_takesMost 108 = .ok (.aload_n 0, 1) := dk_42 (dk_at dksX5_takesMost_4 15 rfl rfl)
theorem dX5_takesMost_109 : decode cX5_takesMost 109 = .ok (.iload_n 2, 1) := dk_28 (dk_at dksX5_takesMost_4 16 rfl rfl)
theorem dX5_takesMost_110 : decode cX5_takesMost 110 = .ok (.putfield 298, 3) := dk_181 1 42 (dk_at dksX5_takesMost_4 17 rfl rfl)
theorem dX5_takesMost_113 : decode cX5_takesMost 113 = .ok (.iinc 2 1, 3) := dk_132 2 1 (dk_at dksX5_takesMost_4 20 rfl rfl)
theorem dX5_takesMost_116 : decode cX5_takesMost 116 = .ok (.goto (-100), 3) := dk_167 255 156 (dk_at dksX5_takesMost_5 0 rfl rfl)
theorem dX5_takesMost_119 : decode cX5_takesMost 119 = .ok (.return_, 1) := dk_177 (dk_at dksX5_takesMost_5 3 rfl rfl)
abbrev cX5_sets : ByteArray := prog_25_method_76_code
def yX5_sets : MethodName := ⟨RX5, "sets", "()V"⟩
def dkwX5_sets_13 : List UInt8 := [167, 255, 136, 177]
abbrev dktX5_sets_13 : List UInt8 := dkwX5_sets_13 ++ []
def dkwX5_sets_12 : List UInt8 := [4, 29, 120, 128, 51, 153, 0, 7, 4, 167, 0, 4, 3, 84, 132, 3, 1, 167, 255, 180, 132, 2, 255]
abbrev dktX5_sets_12 : List UInt8 := dkwX5_sets_12 ++ dktX5_sets_13
def dkwX5_sets_11 : List UInt8 := [17, 0, 159, 46, 29, 184, 1, 18, 153, 0, 28, 28, 29, 184, 1, 18, 154, 0, 20, 42, 180, 0, 79, 28]
abbrev dktX5_sets_11 : List UInt8 := dkwX5_sets_11 ++ dktX5_sets_12
def dkwX5_sets_10 : List UInt8 := [42, 180, 0, 79, 28, 51, 154, 0, 48, 42, 180, 0, 70, 28, 51, 153, 0, 43, 42, 180, 0, 20]
abbrev dktX5_sets_10 : List UInt8 := dkwX5_sets_10 ++ dktX5_sets_11
def dkwX5_sets_9 : List UInt8 := [153, 0, 7, 4, 167, 0, 4, 3, 84, 3, 62, 29, 42, 182, 0, 102, 162, 0, 74, 42, 180, 0, 79, 28]
abbrev dktX5_sets_9 : List UInt8 := dkwX5_sets_9 ++ dktX5_sets_10
def dkwX5_sets_8 : List UInt8 := [180, 0, 79, 28, 28, 42, 180, 0, 20, 17, 0, 159, 46, 160, 0, 16, 42, 180, 0, 70, 28, 51]
abbrev dktX5_sets_8 : List UInt8 := dkwX5_sets_8 ++ dktX5_sets_9
def dkwX5_sets_7 : List UInt8 := [3, 84, 132, 4, 1, 167, 255, 183, 132, 2, 1, 167, 255, 113, 27, 4, 100, 61, 28, 155, 0, 122, 42]
abbrev dktX5_sets_7 : List UInt8 := dkwX5_sets_7 ++ dktX5_sets_8
def dkwX5_sets_6 : List UInt8 := [51, 153, 0, 23, 42, 180, 0, 76, 28, 4, 21, 4, 120, 2, 130, 126, 51, 154, 0, 7, 4, 167, 0, 4]
abbrev dktX5_sets_6 : List UInt8 := dkwX5_sets_6 ++ dktX5_sets_7
def dkwX5_sets_5 : List UInt8 := [154, 0, 44, 28, 21, 4, 184, 1, 18, 153, 0, 39, 42, 180, 0, 70, 28, 4, 21, 4, 120, 2, 130, 126]
abbrev dktX5_sets_5 : List UInt8 := dkwX5_sets_5 ++ dktX5_sets_6
def dkwX5_sets_4 : List UInt8 := [54, 4, 21, 4, 42, 182, 0, 102, 162, 0, 70, 42, 180, 0, 76, 28, 42, 180, 0, 76, 28, 51]
abbrev dktX5_sets_4 : List UInt8 := dkwX5_sets_4 ++ dktX5_sets_5
def dkwX5_sets_3 : List UInt8 := [28, 167, 0, 13, 42, 180, 0, 73, 28, 29, 2, 130, 126, 46, 79, 42, 180, 0, 76, 28, 3, 84, 3]
abbrev dktX5_sets_3 : List UInt8 := dkwX5_sets_3 ++ dktX5_sets_4
def dkwX5_sets_2 : List UInt8 := [28, 28, 153, 0, 11, 29, 154, 0, 7, 4, 167, 0, 4, 3, 84, 42, 180, 0, 73, 28, 29, 154, 0, 7]
abbrev dktX5_sets_2 : List UInt8 := dkwX5_sets_2 ++ dktX5_sets_3
def dkwX5_sets_1 : List UInt8 := [4, 42, 182, 0, 102, 120, 60, 3, 61, 28, 27, 162, 0, 144, 42, 28, 182, 1, 24, 62, 42, 180, 0, 70]
abbrev dktX5_sets_1 : List UInt8 := dkwX5_sets_1 ++ dktX5_sets_2
def dkwX5_sets_0 : List UInt8 := [42, 182, 1, 27, 42, 180, 0, 82, 42, 180, 0, 11, 160, 0, 4, 177, 42, 42, 180, 0, 11, 181, 0, 82]
abbrev dktX5_sets_0 : List UInt8 := dkwX5_sets_0 ++ dktX5_sets_1
theorem dksX5_sets_0 : cX5_sets.data.toList.drop 0 = dktX5_sets_0 := by decide +kernel
theorem dksX5_sets_1 : cX5_sets.data.toList.drop 24 = dktX5_sets_1 := dk_seg dksX5_sets_0 24 rfl rfl
theorem dksX5_sets_2 : cX5_sets.data.toList.drop 48 = dktX5_sets_2 := dk_seg dksX5_sets_1 24 rfl rfl
theorem dksX5_sets_3 : cX5_sets.data.toList.drop 72 = dktX5_sets_3 := dk_seg dksX5_sets_2 24 rfl rfl
theorem dksX5_sets_4 : cX5_sets.data.toList.drop 95 = dktX5_sets_4 := dk_seg dksX5_sets_3 23 rfl rfl
theorem dksX5_sets_5 : cX5_sets.data.toList.drop 117 = dktX5_sets_5 := dk_seg dksX5_sets_4 22 rfl rfl
theorem dksX5_sets_6 : cX5_sets.data.toList.drop 141 = dktX5_sets_6 := dk_seg dksX5_sets_5 24 rfl rfl
theorem dksX5_sets_7 : cX5_sets.data.toList.drop 165 = dktX5_sets_7 := dk_seg dksX5_sets_6 24 rfl rfl
theorem dksX5_sets_8 : cX5_sets.data.toList.drop 188 = dktX5_sets_8 := dk_seg dksX5_sets_7 23 rfl rfl
theorem dksX5_sets_9 : cX5_sets.data.toList.drop 210 = dktX5_sets_9 := dk_seg dksX5_sets_8 22 rfl rfl
theorem dksX5_sets_10 : cX5_sets.data.toList.drop 234 = dktX5_sets_10 := dk_seg dksX5_sets_9 24 rfl rfl
theorem dksX5_sets_11 : cX5_sets.data.toList.drop 256 = dktX5_sets_11 := dk_seg dksX5_sets_10 22 rfl rfl
theorem dksX5_sets_12 : cX5_sets.data.toList.drop 280 = dktX5_sets_12 := dk_seg dksX5_sets_11 24 rfl rfl
theorem dksX5_sets_13 : cX5_sets.data.toList.drop 303 = dktX5_sets_13 := dk_seg dksX5_sets_12 23 rfl rfl
theorem dX5_sets_0 : decode cX5_sets 0 = .ok (.aload_n 0, 1) := dk_42 (dk_at dksX5_sets_0 0 rfl rfl)
theorem dX5_sets_1 : decode cX5_sets 1 = .ok (.invokevirtual 283, 3) := dk_182 1 27 (dk_at dksX5_sets_0 1 rfl rfl)
theorem dX5_sets_4 : decode cX5_sets 4 = .ok (.aload_n 0, 1) := dk_42 (dk_at dksX5_sets_0 4 rfl rfl)
theorem dX5_sets_5 : decode cX5_sets 5 = .ok (.getfield 82, 3) := dk_180 0 82 (dk_at dksX5_sets_0 5 rfl rfl)
theorem dX5_sets_8 : decode cX5_sets 8 = .ok (.aload_n 0, 1) := dk_42 (dk_at dksX5_sets_0 8 rfl rfl)
theorem dX5_sets_9 : decode cX5_sets 9 = .ok (.getfield 11, 3) := dk_180 0 11 (dk_at dksX5_sets_0 9 rfl rfl)
theorem dX5_sets_12 : decode cX5_sets 12 = .ok (.if_icmp .ne 4, 3) := dk_160 0 4 (dk_at dksX5_sets_0 12 rfl rfl)
theorem dX5_sets_15 : decode cX5_sets 15 = .ok (.return_, 1) := dk_177 (dk_at dksX5_sets_0 15 rfl rfl)
theorem dX5_sets_16 : decode cX5_sets 16 = .ok (.aload_n 0, 1) := dk_42 (dk_at dksX5_sets_0 16 rfl rfl)
theorem dX5_sets_17 : decode cX5_sets 17 = .ok (.aload_n 0, 1) := dk_42 (dk_at dksX5_sets_0 17 rfl rfl)
theorem dX5_sets_18 : decode cX5_sets 18 = .ok (.getfield 11, 3) := dk_180 0 11 (dk_at dksX5_sets_0 18 rfl rfl)
theorem dX5_sets_21 : decode cX5_sets 21 = .ok (.putfield 82, 3) := dk_181 0 82 (dk_at dksX5_sets_0 21 rfl rfl)
theorem dX5_sets_24 : decode cX5_sets 24 = .ok (.iconst 1, 1) := dk_4 (dk_at dksX5_sets_1 0 rfl rfl)
theorem dX5_sets_25 : decode cX5_sets 25 = .ok (.aload_n 0, 1) := dk_42 (dk_at dksX5_sets_1 1 rfl rfl)
theorem dX5_sets_26 : decode cX5_sets 26 = .ok (.invokevirtual 102, 3) := dk_182 0 102 (dk_at dksX5_sets_1 2 rfl rfl)
theorem dX5_sets_29 : decode cX5_sets 29 = .ok (.ishl, 1) := dk_120 (dk_at dksX5_sets_1 5 rfl rfl)
theorem dX5_sets_30 : decode cX5_sets 30 = .ok (.istore_n 1, 1) := dk_60 (dk_at dksX5_sets_1 6 rfl rfl)
theorem dX5_sets_31 : decode cX5_sets 31 = .ok (.iconst 0, 1) := dk_3 (dk_at dksX5_sets_1 7 rfl rfl)
theorem dX5_sets_32 : decode cX5_sets 32 = .ok (.istore_n 2, 1) := dk_61 (dk_at dksX5_sets_1 8 rfl rfl)
theorem dX5_sets_33 : decode cX5_sets 33 = .ok (.iload_n 2, 1) := dk_28 (dk_at dksX5_sets_1 9 rfl rfl)
theorem dX5_sets_34 : decode cX5_sets 34 = .ok (.iload_n 1, 1) := dk_27 (dk_at dksX5_sets_1 10 rfl rfl)
theorem dX5_sets_35 : decode cX5_sets 35 = .ok (.if_icmp .ge 144, 3) := dk_162 0 144 (dk_at dksX5_sets_1 11 rfl rfl)
theorem dX5_sets_38 : decode cX5_sets 38 = .ok (.aload_n 0, 1) := dk_42 (dk_at dksX5_sets_1 14 rfl rfl)
theorem dX5_sets_39 : decode cX5_sets 39 = .ok (.iload_n 2, 1) := dk_28 (dk_at dksX5_sets_1 15 rfl rfl)
theorem dX5_sets_40 : decode cX5_sets 40 = .ok (.invokevirtual 280, 3) := dk_182 1 24 (dk_at dksX5_sets_1 16 rfl rfl)
theorem dX5_sets_43 : decode cX5_sets 43 = .ok (.istore_n 3, 1) := dk_62 (dk_at dksX5_sets_1 19 rfl rfl)
theorem dX5_sets_44 : decode cX5_sets 44 = .ok (.aload_n 0, 1) := dk_42 (dk_at dksX5_sets_1 20 rfl rfl)
theorem dX5_sets_45 : decode cX5_sets 45 = .ok (.getfield 70, 3) := dk_180 0 70 (dk_at dksX5_sets_1 21 rfl rfl)
theorem dX5_sets_48 : decode cX5_sets 48 = .ok (.iload_n 2, 1) := dk_28 (dk_at dksX5_sets_2 0 rfl rfl)
theorem dX5_sets_49 : decode cX5_sets 49 = .ok (.iload_n 2, 1) := dk_28 (dk_at dksX5_sets_2 1 rfl rfl)
theorem dX5_sets_50 : decode cX5_sets 50 = .ok (.ifCond .eq 11, 3) := dk_153 0 11 (dk_at dksX5_sets_2 2 rfl rfl)
theorem dX5_sets_53 : decode cX5_sets 53 = .ok (.iload_n 3, 1) := dk_29 (dk_at dksX5_sets_2 5 rfl rfl)
theorem dX5_sets_54 : decode cX5_sets 54 = .ok (.ifCond .ne 7, 3) := dk_154 0 7 (dk_at dksX5_sets_2 6 rfl rfl)
theorem dX5_sets_57 : decode cX5_sets 57 = .ok (.iconst 1, 1) := dk_4 (dk_at dksX5_sets_2 9 rfl rfl)
theorem dX5_sets_58 : decode cX5_sets 58 = .ok (.goto 4, 3) := dk_167 0 4 (dk_at dksX5_sets_2 10 rfl rfl)
theorem dX5_sets_61 : decode cX5_sets 61 = .ok (.iconst 0, 1) := dk_3 (dk_at dksX5_sets_2 13 rfl rfl)
theorem dX5_sets_62 : decode cX5_sets 62 = .ok (.bastore, 1) := dk_84 (dk_at dksX5_sets_2 14 rfl rfl)
theorem dX5_sets_63 : decode cX5_sets 63 = .ok (.aload_n 0, 1) := dk_42 (dk_at dksX5_sets_2 15 rfl rfl)
theorem dX5_sets_64 : decode cX5_sets 64 = .ok (.getfield 73, 3) := dk_180 0 73 (dk_at dksX5_sets_2 16 rfl rfl)
theorem dX5_sets_67 : decode cX5_sets 67 = .ok (.iload_n 2, 1) := dk_28 (dk_at dksX5_sets_2 19 rfl rfl)
theorem dX5_sets_68 : decode cX5_sets 68 = .ok (.iload_n 3, 1) := dk_29 (dk_at dksX5_sets_2 20 rfl rfl)
theorem dX5_sets_69 : decode cX5_sets 69 = .ok (.ifCond .ne 7, 3) := dk_154 0 7 (dk_at dksX5_sets_2 21 rfl rfl)
theorem dX5_sets_72 : decode cX5_sets 72 = .ok (.iload_n 2, 1) := dk_28 (dk_at dksX5_sets_3 0 rfl rfl)
theorem dX5_sets_73 : decode cX5_sets 73 = .ok (.goto 13, 3) := dk_167 0 13 (dk_at dksX5_sets_3 1 rfl rfl)
theorem dX5_sets_76 : decode cX5_sets 76 = .ok (.aload_n 0, 1) := dk_42 (dk_at dksX5_sets_3 4 rfl rfl)
theorem dX5_sets_77 : decode cX5_sets 77 = .ok (.getfield 73, 3) := dk_180 0 73 (dk_at dksX5_sets_3 5 rfl rfl)
theorem dX5_sets_80 : decode cX5_sets 80 = .ok (.iload_n 2, 1) := dk_28 (dk_at dksX5_sets_3 8 rfl rfl)
theorem dX5_sets_81 : decode cX5_sets 81 = .ok (.iload_n 3, 1) := dk_29 (dk_at dksX5_sets_3 9 rfl rfl)
theorem dX5_sets_82 : decode cX5_sets 82 = .ok (.iconst (-1), 1) := dk_2 (dk_at dksX5_sets_3 10 rfl rfl)
theorem dX5_sets_83 : decode cX5_sets 83 = .ok (.ixor, 1) := dk_130 (dk_at dksX5_sets_3 11 rfl rfl)
theorem dX5_sets_84 : decode cX5_sets 84 = .ok (.iand, 1) := dk_126 (dk_at dksX5_sets_3 12 rfl rfl)
theorem dX5_sets_85 : decode cX5_sets 85 = .ok (.iaload, 1) := dk_46 (dk_at dksX5_sets_3 13 rfl rfl)
theorem dX5_sets_86 : decode cX5_sets 86 = .ok (.iastore, 1) := dk_79 (dk_at dksX5_sets_3 14 rfl rfl)
theorem dX5_sets_87 : decode cX5_sets 87 = .ok (.aload_n 0, 1) := dk_42 (dk_at dksX5_sets_3 15 rfl rfl)
theorem dX5_sets_88 : decode cX5_sets 88 = .ok (.getfield 76, 3) := dk_180 0 76 (dk_at dksX5_sets_3 16 rfl rfl)
theorem dX5_sets_91 : decode cX5_sets 91 = .ok (.iload_n 2, 1) := dk_28 (dk_at dksX5_sets_3 19 rfl rfl)
theorem dX5_sets_92 : decode cX5_sets 92 = .ok (.iconst 0, 1) := dk_3 (dk_at dksX5_sets_3 20 rfl rfl)
theorem dX5_sets_93 : decode cX5_sets 93 = .ok (.bastore, 1) := dk_84 (dk_at dksX5_sets_3 21 rfl rfl)
theorem dX5_sets_94 : decode cX5_sets 94 = .ok (.iconst 0, 1) := dk_3 (dk_at dksX5_sets_3 22 rfl rfl)
theorem dX5_sets_95 : decode cX5_sets 95 = .ok (.istore 4, 2) := dk_54 4 (dk_at dksX5_sets_4 0 rfl rfl)
theorem dX5_sets_97 : decode cX5_sets 97 = .ok (.iload 4, 2) := dk_21 4 (dk_at dksX5_sets_4 2 rfl rfl)
theorem dX5_sets_99 : decode cX5_sets 99 = .ok (.aload_n 0, 1) := dk_42 (dk_at dksX5_sets_4 4 rfl rfl)
theorem dX5_sets_100 : decode cX5_sets 100 = .ok (.invokevirtual 102, 3) := dk_182 0 102 (dk_at dksX5_sets_4 5 rfl rfl)
theorem dX5_sets_103 : decode cX5_sets 103 = .ok (.if_icmp .ge 70, 3) := dk_162 0 70 (dk_at dksX5_sets_4 8 rfl rfl)
theorem dX5_sets_106 : decode cX5_sets 106 = .ok (.aload_n 0, 1) := dk_42 (dk_at dksX5_sets_4 11 rfl rfl)
theorem dX5_sets_107 : decode cX5_sets 107 = .ok (.getfield 76, 3) := dk_180 0 76 (dk_at dksX5_sets_4 12 rfl rfl)
theorem dX5_sets_110 : decode cX5_sets 110 = .ok (.iload_n 2, 1) := dk_28 (dk_at dksX5_sets_4 15 rfl rfl)
theorem dX5_sets_111 : decode cX5_sets 111 = .ok (.aload_n 0, 1) := dk_42 (dk_at dksX5_sets_4 16 rfl rfl)
theorem dX5_sets_112 : decode cX5_sets 112 = .ok (.getfield 76, 3) := dk_180 0 76 (dk_at dksX5_sets_4 17 rfl rfl)
theorem dX5_sets_115 : decode cX5_sets 115 = .ok (.iload_n 2, 1) := dk_28 (dk_at dksX5_sets_4 20 rfl rfl)
theorem dX5_sets_116 : decode cX5_sets 116 = .ok (.baload, 1) := dk_51 (dk_at dksX5_sets_4 21 rfl rfl)
theorem dX5_sets_117 : decode cX5_sets 117 = .ok (.ifCond .ne 44, 3) := dk_154 0 44 (dk_at dksX5_sets_5 0 rfl rfl)
theorem dX5_sets_120 : decode cX5_sets 120 = .ok (.iload_n 2, 1) := dk_28 (dk_at dksX5_sets_5 3 rfl rfl)
theorem dX5_sets_121 : decode cX5_sets 121 = .ok (.iload 4, 2) := dk_21 4 (dk_at dksX5_sets_5 4 rfl rfl)
theorem dX5_sets_123 : decode cX5_sets 123 = .ok (.invokestatic 274, 3) := dk_184 1 18 (dk_at dksX5_sets_5 6 rfl rfl)
theorem dX5_sets_126 : decode cX5_sets 126 = .ok (.ifCond .eq 39, 3) := dk_153 0 39 (dk_at dksX5_sets_5 9 rfl rfl)
theorem dX5_sets_129 : decode cX5_sets 129 = .ok (.aload_n 0, 1) := dk_42 (dk_at dksX5_sets_5 12 rfl rfl)
theorem dX5_sets_130 : decode cX5_sets 130 = .ok (.getfield 70, 3) := dk_180 0 70 (dk_at dksX5_sets_5 13 rfl rfl)
theorem dX5_sets_133 : decode cX5_sets 133 = .ok (.iload_n 2, 1) := dk_28 (dk_at dksX5_sets_5 16 rfl rfl)
theorem dX5_sets_134 : decode cX5_sets 134 = .ok (.iconst 1, 1) := dk_4 (dk_at dksX5_sets_5 17 rfl rfl)
theorem dX5_sets_135 : decode cX5_sets 135 = .ok (.iload 4, 2) := dk_21 4 (dk_at dksX5_sets_5 18 rfl rfl)
theorem dX5_sets_137 : decode cX5_sets 137 = .ok (.ishl, 1) := dk_120 (dk_at dksX5_sets_5 20 rfl rfl)
theorem dX5_sets_138 : decode cX5_sets 138 = .ok (.iconst (-1), 1) := dk_2 (dk_at dksX5_sets_5 21 rfl rfl)
theorem dX5_sets_139 : decode cX5_sets 139 = .ok (.ixor, 1) := dk_130 (dk_at dksX5_sets_5 22 rfl rfl)
theorem dX5_sets_140 : decode cX5_sets 140 = .ok (.iand, 1) := dk_126 (dk_at dksX5_sets_5 23 rfl rfl)
theorem dX5_sets_141 : decode cX5_sets 141 = .ok (.baload, 1) := dk_51 (dk_at dksX5_sets_6 0 rfl rfl)
theorem dX5_sets_142 : decode cX5_sets 142 = .ok (.ifCond .eq 23, 3) := dk_153 0 23 (dk_at dksX5_sets_6 1 rfl rfl)
theorem dX5_sets_145 : decode cX5_sets 145 = .ok (.aload_n 0, 1) := dk_42 (dk_at dksX5_sets_6 4 rfl rfl)
theorem dX5_sets_146 : decode cX5_sets 146 = .ok (.getfield 76, 3) := dk_180 0 76 (dk_at dksX5_sets_6 5 rfl rfl)
theorem dX5_sets_149 : decode cX5_sets 149 = .ok (.iload_n 2, 1) := dk_28 (dk_at dksX5_sets_6 8 rfl rfl)
theorem dX5_sets_150 : decode cX5_sets 150 = .ok (.iconst 1, 1) := dk_4 (dk_at dksX5_sets_6 9 rfl rfl)
theorem dX5_sets_151 : decode cX5_sets 151 = .ok (.iload 4, 2) := dk_21 4 (dk_at dksX5_sets_6 10 rfl rfl)
theorem dX5_sets_153 : decode cX5_sets 153 = .ok (.ishl, 1) := dk_120 (dk_at dksX5_sets_6 12 rfl rfl)
theorem dX5_sets_154 : decode cX5_sets 154 = .ok (.iconst (-1), 1) := dk_2 (dk_at dksX5_sets_6 13 rfl rfl)
theorem dX5_sets_155 : decode cX5_sets 155 = .ok (.ixor, 1) := dk_130 (dk_at dksX5_sets_6 14 rfl rfl)
theorem dX5_sets_156 : decode cX5_sets 156 = .ok (.iand, 1) := dk_126 (dk_at dksX5_sets_6 15 rfl rfl)
theorem dX5_sets_157 : decode cX5_sets 157 = .ok (.baload, 1) := dk_51 (dk_at dksX5_sets_6 16 rfl rfl)
theorem dX5_sets_158 : decode cX5_sets 158 = .ok (.ifCond .ne 7, 3) := dk_154 0 7 (dk_at dksX5_sets_6 17 rfl rfl)
theorem dX5_sets_161 : decode cX5_sets 161 = .ok (.iconst 1, 1) := dk_4 (dk_at dksX5_sets_6 20 rfl rfl)
theorem dX5_sets_162 : decode cX5_sets 162 = .ok (.goto 4, 3) := dk_167 0 4 (dk_at dksX5_sets_6 21 rfl rfl)
theorem dX5_sets_165 : decode cX5_sets 165 = .ok (.iconst 0, 1) := dk_3 (dk_at dksX5_sets_7 0 rfl rfl)
theorem dX5_sets_166 : decode cX5_sets 166 = .ok (.bastore, 1) := dk_84 (dk_at dksX5_sets_7 1 rfl rfl)
theorem dX5_sets_167 : decode cX5_sets 167 = .ok (.iinc 4 1, 3) := dk_132 4 1 (dk_at dksX5_sets_7 2 rfl rfl)
theorem dX5_sets_170 : decode cX5_sets 170 = .ok (.goto (-73), 3) := dk_167 255 183 (dk_at dksX5_sets_7 5 rfl rfl)
theorem dX5_sets_173 : decode cX5_sets 173 = .ok (.iinc 2 1, 3) := dk_132 2 1 (dk_at dksX5_sets_7 8 rfl rfl)
theorem dX5_sets_176 : decode cX5_sets 176 = .ok (.goto (-143), 3) := dk_167 255 113 (dk_at dksX5_sets_7 11 rfl rfl)
theorem dX5_sets_179 : decode cX5_sets 179 = .ok (.iload_n 1, 1) := dk_27 (dk_at dksX5_sets_7 14 rfl rfl)
theorem dX5_sets_180 : decode cX5_sets 180 = .ok (.iconst 1, 1) := dk_4 (dk_at dksX5_sets_7 15 rfl rfl)
theorem dX5_sets_181 : decode cX5_sets 181 = .ok (.isub, 1) := dk_100 (dk_at dksX5_sets_7 16 rfl rfl)
theorem dX5_sets_182 : decode cX5_sets 182 = .ok (.istore_n 2, 1) := dk_61 (dk_at dksX5_sets_7 17 rfl rfl)
theorem dX5_sets_183 : decode cX5_sets 183 = .ok (.iload_n 2, 1) := dk_28 (dk_at dksX5_sets_7 18 rfl rfl)
theorem dX5_sets_184 : decode cX5_sets 184 = .ok (.ifCond .lt 122, 3) := dk_155 0 122 (dk_at dksX5_sets_7 19 rfl rfl)
theorem dX5_sets_187 : decode cX5_sets 187 = .ok (.aload_n 0, 1) := dk_42 (dk_at dksX5_sets_7 22 rfl rfl)
theorem dX5_sets_188 : decode cX5_sets 188 = .ok (.getfield 79, 3) := dk_180 0 79 (dk_at dksX5_sets_8 0 rfl rfl)
theorem dX5_sets_191 : decode cX5_sets 191 = .ok (.iload_n 2, 1) := dk_28 (dk_at dksX5_sets_8 3 rfl rfl)
theorem dX5_sets_192 : decode cX5_sets 192 = .ok (.iload_n 2, 1) := dk_28 (dk_at dksX5_sets_8 4 rfl rfl)
theorem dX5_sets_193 : decode cX5_sets 193 = .ok (.aload_n 0, 1) := dk_42 (dk_at dksX5_sets_8 5 rfl rfl)
theorem dX5_sets_194 : decode cX5_sets 194 = .ok (.getfield 20, 3) := dk_180 0 20 (dk_at dksX5_sets_8 6 rfl rfl)
theorem dX5_sets_197 : decode cX5_sets 197 = .ok (.sipush 159, 3) := dk_17 0 159 (dk_at dksX5_sets_8 9 rfl rfl)
theorem dX5_sets_200 : decode cX5_sets 200 = .ok (.iaload, 1) := dk_46 (dk_at dksX5_sets_8 12 rfl rfl)
theorem dX5_sets_201 : decode cX5_sets 201 = .ok (.if_icmp .ne 16, 3) := dk_160 0 16 (dk_at dksX5_sets_8 13 rfl rfl)
theorem dX5_sets_204 : decode cX5_sets 204 = .ok (.aload_n 0, 1) := dk_42 (dk_at dksX5_sets_8 16 rfl rfl)
theorem dX5_sets_205 : decode cX5_sets 205 = .ok (.getfield 70, 3) := dk_180 0 70 (dk_at dksX5_sets_8 17 rfl rfl)
theorem dX5_sets_208 : decode cX5_sets 208 = .ok (.iload_n 2, 1) := dk_28 (dk_at dksX5_sets_8 20 rfl rfl)
theorem dX5_sets_209 : decode cX5_sets 209 = .ok (.baload, 1) := dk_51 (dk_at dksX5_sets_8 21 rfl rfl)
theorem dX5_sets_210 : decode cX5_sets 210 = .ok (.ifCond .eq 7, 3) := dk_153 0 7 (dk_at dksX5_sets_9 0 rfl rfl)
theorem dX5_sets_213 : decode cX5_sets 213 = .ok (.iconst 1, 1) := dk_4 (dk_at dksX5_sets_9 3 rfl rfl)
theorem dX5_sets_214 : decode cX5_sets 214 = .ok (.goto 4, 3) := dk_167 0 4 (dk_at dksX5_sets_9 4 rfl rfl)
theorem dX5_sets_217 : decode cX5_sets 217 = .ok (.iconst 0, 1) := dk_3 (dk_at dksX5_sets_9 7 rfl rfl)
theorem dX5_sets_218 : decode cX5_sets 218 = .ok (.bastore, 1) := dk_84 (dk_at dksX5_sets_9 8 rfl rfl)
theorem dX5_sets_219 : decode cX5_sets 219 = .ok (.iconst 0, 1) := dk_3 (dk_at dksX5_sets_9 9 rfl rfl)
theorem dX5_sets_220 : decode cX5_sets 220 = .ok (.istore_n 3, 1) := dk_62 (dk_at dksX5_sets_9 10 rfl rfl)
theorem dX5_sets_221 : decode cX5_sets 221 = .ok (.iload_n 3, 1) := dk_29 (dk_at dksX5_sets_9 11 rfl rfl)
theorem dX5_sets_222 : decode cX5_sets 222 = .ok (.aload_n 0, 1) := dk_42 (dk_at dksX5_sets_9 12 rfl rfl)
theorem dX5_sets_223 : decode cX5_sets 223 = .ok (.invokevirtual 102, 3) := dk_182 0 102 (dk_at dksX5_sets_9 13 rfl rfl)
theorem dX5_sets_226 : decode cX5_sets 226 = .ok (.if_icmp .ge 74, 3) := dk_162 0 74 (dk_at dksX5_sets_9 16 rfl rfl)
theorem dX5_sets_229 : decode cX5_sets 229 = .ok (.aload_n 0, 1) := dk_42 (dk_at dksX5_sets_9 19 rfl rfl)
theorem dX5_sets_230 : decode cX5_sets 230 = .ok (.getfield 79, 3) := dk_180 0 79 (dk_at dksX5_sets_9 20 rfl rfl)
theorem dX5_sets_233 : decode cX5_sets 233 = .ok (.iload_n 2, 1) := dk_28 (dk_at dksX5_sets_9 23 rfl rfl)
theorem dX5_sets_234 : decode cX5_sets 234 = .ok (.aload_n 0, 1) := dk_42 (dk_at dksX5_sets_10 0 rfl rfl)
theorem dX5_sets_235 : decode cX5_sets 235 = .ok (.getfield 79, 3) := dk_180 0 79 (dk_at dksX5_sets_10 1 rfl rfl)
theorem dX5_sets_238 : decode cX5_sets 238 = .ok (.iload_n 2, 1) := dk_28 (dk_at dksX5_sets_10 4 rfl rfl)
theorem dX5_sets_239 : decode cX5_sets 239 = .ok (.baload, 1) := dk_51 (dk_at dksX5_sets_10 5 rfl rfl)
theorem dX5_sets_240 : decode cX5_sets 240 = .ok (.ifCond .ne 48, 3) := dk_154 0 48 (dk_at dksX5_sets_10 6 rfl rfl)
theorem dX5_sets_243 : decode cX5_sets 243 = .ok (.aload_n 0, 1) := dk_42 (dk_at dksX5_sets_10 9 rfl rfl)
theorem dX5_sets_244 : decode cX5_sets 244 = .ok (.getfield 70, 3) := dk_180 0 70 (dk_at dksX5_sets_10 10 rfl rfl)
theorem dX5_sets_247 : decode cX5_sets 247 = .ok (.iload_n 2, 1) := dk_28 (dk_at dksX5_sets_10 13 rfl rfl)
theorem dX5_sets_248 : decode cX5_sets 248 = .ok (.baload, 1) := dk_51 (dk_at dksX5_sets_10 14 rfl rfl)
theorem dX5_sets_249 : decode cX5_sets 249 = .ok (.ifCond .eq 43, 3) := dk_153 0 43 (dk_at dksX5_sets_10 15 rfl rfl)
theorem dX5_sets_252 : decode cX5_sets 252 = .ok (.aload_n 0, 1) := dk_42 (dk_at dksX5_sets_10 18 rfl rfl)
theorem dX5_sets_253 : decode cX5_sets 253 = .ok (.getfield 20, 3) := dk_180 0 20 (dk_at dksX5_sets_10 19 rfl rfl)
theorem dX5_sets_256 : decode cX5_sets 256 = .ok (.sipush 159, 3) := dk_17 0 159 (dk_at dksX5_sets_11 0 rfl rfl)
theorem dX5_sets_259 : decode cX5_sets 259 = .ok (.iaload, 1) := dk_46 (dk_at dksX5_sets_11 3 rfl rfl)
theorem dX5_sets_260 : decode cX5_sets 260 = .ok (.iload_n 3, 1) := dk_29 (dk_at dksX5_sets_11 4 rfl rfl)
theorem dX5_sets_261 : decode cX5_sets 261 = .ok (.invokestatic 274, 3) := dk_184 1 18 (dk_at dksX5_sets_11 5 rfl rfl)
theorem dX5_sets_264 : decode cX5_sets 264 = .ok (.ifCond .eq 28, 3) := dk_153 0 28 (dk_at dksX5_sets_11 8 rfl rfl)
theorem dX5_sets_267 : decode cX5_sets 267 = .ok (.iload_n 2, 1) := dk_28 (dk_at dksX5_sets_11 11 rfl rfl)
theorem dX5_sets_268 : decode cX5_sets 268 = .ok (.iload_n 3, 1) := dk_29 (dk_at dksX5_sets_11 12 rfl rfl)
theorem dX5_sets_269 : decode cX5_sets 269 = .ok (.invokestatic 274, 3) := dk_184 1 18 (dk_at dksX5_sets_11 13 rfl rfl)
theorem dX5_sets_272 : decode cX5_sets 272 = .ok (.ifCond .ne 20, 3) := dk_154 0 20 (dk_at dksX5_sets_11 16 rfl rfl)
theorem dX5_sets_275 : decode cX5_sets 275 = .ok (.aload_n 0, 1) := dk_42 (dk_at dksX5_sets_11 19 rfl rfl)
theorem dX5_sets_276 : decode cX5_sets 276 = .ok (.getfield 79, 3) := dk_180 0 79 (dk_at dksX5_sets_11 20 rfl rfl)
theorem dX5_sets_279 : decode cX5_sets 279 = .ok (.iload_n 2, 1) := dk_28 (dk_at dksX5_sets_11 23 rfl rfl)
theorem dX5_sets_280 : decode cX5_sets 280 = .ok (.iconst 1, 1) := dk_4 (dk_at dksX5_sets_12 0 rfl rfl)
theorem dX5_sets_281 : decode cX5_sets 281 = .ok (.iload_n 3, 1) := dk_29 (dk_at dksX5_sets_12 1 rfl rfl)
theorem dX5_sets_282 : decode cX5_sets 282 = .ok (.ishl, 1) := dk_120 (dk_at dksX5_sets_12 2 rfl rfl)
theorem dX5_sets_283 : decode cX5_sets 283 = .ok (.ior, 1) := dk_128 (dk_at dksX5_sets_12 3 rfl rfl)
theorem dX5_sets_284 : decode cX5_sets 284 = .ok (.baload, 1) := dk_51 (dk_at dksX5_sets_12 4 rfl rfl)
theorem dX5_sets_285 : decode cX5_sets 285 = .ok (.ifCond .eq 7, 3) := dk_153 0 7 (dk_at dksX5_sets_12 5 rfl rfl)
theorem dX5_sets_288 : decode cX5_sets 288 = .ok (.iconst 1, 1) := dk_4 (dk_at dksX5_sets_12 8 rfl rfl)
theorem dX5_sets_289 : decode cX5_sets 289 = .ok (.goto 4, 3) := dk_167 0 4 (dk_at dksX5_sets_12 9 rfl rfl)
theorem dX5_sets_292 : decode cX5_sets 292 = .ok (.iconst 0, 1) := dk_3 (dk_at dksX5_sets_12 12 rfl rfl)
theorem dX5_sets_293 : decode cX5_sets 293 = .ok (.bastore, 1) := dk_84 (dk_at dksX5_sets_12 13 rfl rfl)
theorem dX5_sets_294 : decode cX5_sets 294 = .ok (.iinc 3 1, 3) := dk_132 3 1 (dk_at dksX5_sets_12 14 rfl rfl)
theorem dX5_sets_297 : decode cX5_sets 297 = .ok (.goto (-76), 3) := dk_167 255 180 (dk_at dksX5_sets_12 17 rfl rfl)
theorem dX5_sets_300 : decode cX5_sets 300 = .ok (.iinc 2 (-1), 3) := dk_132 2 255 (dk_at dksX5_sets_12 20 rfl rfl)
theorem dX5_sets_303 : decode cX5_sets 303 = .ok (.goto (-120), 3) := dk_167 255 136 (dk_at dksX5_sets_13 0 rfl rfl)
theorem dX5_sets_306 : decode cX5_sets 306 = .ok (.return_, 1) := dk_177 (dk_at dksX5_sets_13 3 rfl rfl)
abbrev cX5_isBetter : ByteArray := prog_25_method_77_code
def yX5_isBetter : MethodName := ⟨RX5, "isBetter", "(II)Z"⟩
def dkwX5_isBetter_1 : List UInt8 := [182, 1, 33, 42, 28, 182, 1, 33, 164, 0, 7, 4, 167, 0, 4, 3, 172]
abbrev dktX5_isBetter_1 : List UInt8 := dkwX5_isBetter_1 ++ []
def dkwX5_isBetter_0 : List UInt8 := [27, 184, 1, 15, 28, 184, 1, 15, 163, 0, 27, 27, 184, 1, 15, 28, 184, 1, 15, 160, 0, 20, 42, 27]
abbrev dktX5_isBetter_0 : List UInt8 := dkwX5_isBetter_0 ++ dktX5_isBetter_1
theorem dksX5_isBetter_0 : cX5_isBetter.data.toList.drop 0 = dktX5_isBetter_0 := by decide +kernel
theorem dksX5_isBetter_1 : cX5_isBetter.data.toList.drop 24 = dktX5_isBetter_1 := dk_seg dksX5_isBetter_0 24 rfl rfl
theorem dX5_isBetter_0 : decode cX5_isBetter 0 = .ok (.iload_n 1, 1) := dk_27 (dk_at dksX5_isBetter_0 0 rfl rfl)
theorem dX5_isBetter_1 : decode cX5_isBetter 1 = .ok (.invokestatic 271, 3) := dk_184 1 15 (dk_at dksX5_isBetter_0 1 rfl rfl)
theorem dX5_isBetter_4 : decode cX5_isBetter 4 = .ok (.iload_n 2, 1) := dk_28 (dk_at dksX5_isBetter_0 4 rfl rfl)
theorem dX5_isBetter_5 : decode cX5_isBetter 5 = .ok (.invokestatic 271, 3) := dk_184 1 15 (dk_at dksX5_isBetter_0 5 rfl rfl)
theorem dX5_isBetter_8 : decode cX5_isBetter 8 = .ok (.if_icmp .gt 27, 3) := dk_163 0 27 (dk_at dksX5_isBetter_0 8 rfl rfl)
theorem dX5_isBetter_11 : decode cX5_isBetter 11 = .ok (.iload_n 1, 1) := dk_27 (dk_at dksX5_isBetter_0 11 rfl rfl)
theorem dX5_isBetter_12 : decode cX5_isBetter 12 = .ok (.invokestatic 271, 3) := dk_184 1 15 (dk_at dksX5_isBetter_0 12 rfl rfl)
theorem dX5_isBetter_15 : decode cX5_isBetter 15 = .ok (.iload_n 2, 1) := dk_28 (dk_at dksX5_isBetter_0 15 rfl rfl)
theorem dX5_isBetter_16 : decode cX5_isBetter 16 = .ok (.invokestatic 271, 3) := dk_184 1 15 (dk_at dksX5_isBetter_0 16 rfl rfl)
theorem dX5_isBetter_19 : decode cX5_isBetter 19 = .ok (.if_icmp .ne 20, 3) := dk_160 0 20 (dk_at dksX5_isBetter_0 19 rfl rfl)
theorem dX5_isBetter_22 : decode cX5_isBetter 22 = .ok (.aload_n 0, 1) := dk_42 (dk_at dksX5_isBetter_0 22 rfl rfl)
theorem dX5_isBetter_23 : decode cX5_isBetter 23 = .ok (.iload_n 1, 1) := dk_27 (dk_at dksX5_isBetter_0 23 rfl rfl)
theorem dX5_isBetter_24 : decode cX5_isBetter 24 = .ok (.invokevirtual 289, 3) := dk_182 1 33 (dk_at dksX5_isBetter_1 0 rfl rfl)
theorem dX5_isBetter_27 : decode cX5_isBetter 27 = .ok (.aload_n 0, 1) := dk_42 (dk_at dksX5_isBetter_1 3 rfl rfl)
theorem dX5_isBetter_28 : decode cX5_isBetter 28 = .ok (.iload_n 2, 1) := dk_28 (dk_at dksX5_isBetter_1 4 rfl rfl)
theorem dX5_isBetter_29 : decode cX5_isBetter 29 = .ok (.invokevirtual 289, 3) := dk_182 1 33 (dk_at dksX5_isBetter_1 5 rfl rfl)
theorem dX5_isBetter_32 : decode cX5_isBetter 32 = .ok (.if_icmp .le 7, 3) := dk_164 0 7 (dk_at dksX5_isBetter_1 8 rfl rfl)
theorem dX5_isBetter_35 : decode cX5_isBetter 35 = .ok (.iconst 1, 1) := dk_4 (dk_at dksX5_isBetter_1 11 rfl rfl)
theorem dX5_isBetter_36 : decode cX5_isBetter 36 = .ok (.goto 4, 3) := dk_167 0 4 (dk_at dksX5_isBetter_1 12 rfl rfl)
theorem dX5_isBetter_39 : decode cX5_isBetter 39 = .ok (.iconst 0, 1) := dk_3 (dk_at dksX5_isBetter_1 15 rfl rfl)
theorem dX5_isBetter_40 : decode cX5_isBetter 40 = .ok (.ireturn, 1) := dk_172 (dk_at dksX5_isBetter_1 16 rfl rfl)
abbrev cX5_told : ByteArray := prog_25_method_79_code
def yX5_told : MethodName := ⟨RX5, "told", "(I)I"⟩
def dkwX5_told_2 : List UInt8 := [42, 42, 180, 1, 42, 182, 1, 33, 172]
abbrev dktX5_told_2 : List UInt8 := dkwX5_told_2 ++ []
def dkwX5_told_1 : List UInt8 := [160, 0, 10, 42, 180, 1, 42, 167, 0, 25, 27, 154, 0, 13, 42, 180, 1, 42, 184, 1, 15, 167, 0, 11]
abbrev dktX5_told_1 : List UInt8 := dkwX5_told_1 ++ dktX5_told_2
def dkwX5_told_0 : List UInt8 := [27, 6, 160, 0, 10, 42, 180, 1, 45, 167, 0, 45, 42, 180, 1, 42, 2, 159, 0, 8, 27, 5]
abbrev dktX5_told_0 : List UInt8 := dkwX5_told_0 ++ dktX5_told_1
theorem dksX5_told_0 : cX5_told.data.toList.drop 0 = dktX5_told_0 := by decide +kernel
theorem dksX5_told_1 : cX5_told.data.toList.drop 22 = dktX5_told_1 := dk_seg dksX5_told_0 22 rfl rfl
theorem dksX5_told_2 : cX5_told.data.toList.drop 46 = dktX5_told_2 := dk_seg dksX5_told_1 24 rfl rfl
theorem dX5_told_0 : decode cX5_told 0 = .ok (.iload_n 1, 1) := dk_27 (dk_at dksX5_told_0 0 rfl rfl)
theorem dX5_told_1 : decode cX5_told 1 = .ok (.iconst 3, 1) := dk_6 (dk_at dksX5_told_0 1 rfl rfl)
theorem dX5_told_2 : decode cX5_told 2 = .ok (.if_icmp .ne 10, 3) := dk_160 0 10 (dk_at dksX5_told_0 2 rfl rfl)
theorem dX5_told_5 : decode cX5_told 5 = .ok (.aload_n 0, 1) := dk_42 (dk_at dksX5_told_0 5 rfl rfl)
theorem dX5_told_6 : decode cX5_told 6 = .ok (.getfield 301, 3) := dk_180 1 45 (dk_at dksX5_told_0 6 rfl rfl)
theorem dX5_told_9 : decode cX5_told 9 = .ok (.goto 45, 3) := dk_167 0 45 (dk_at dksX5_told_0 9 rfl rfl)
theorem dX5_told_12 : decode cX5_told 12 = .ok (.aload_n 0, 1) := dk_42 (dk_at dksX5_told_0 12 rfl rfl)
theorem dX5_told_13 : decode cX5_told 13 = .ok (.getfield 298, 3) := dk_180 1 42 (dk_at dksX5_told_0 13 rfl rfl)
theorem dX5_told_16 : decode cX5_told 16 = .ok (.iconst (-1), 1) := dk_2 (dk_at dksX5_told_0 16 rfl rfl)
theorem dX5_told_17 : decode cX5_told 17 = .ok (.if_icmp .eq 8, 3) := dk_159 0 8 (dk_at dksX5_told_0 17 rfl rfl)
theorem dX5_told_20 : decode cX5_told 20 = .ok (.iload_n 1, 1) := dk_27 (dk_at dksX5_told_0 20 rfl rfl)
theorem dX5_told_21 : decode cX5_told 21 = .ok (.iconst 2, 1) := dk_5 (dk_at dksX5_told_0 21 rfl rfl)
theorem dX5_told_22 : decode cX5_told 22 = .ok (.if_icmp .ne 10, 3) := dk_160 0 10 (dk_at dksX5_told_1 0 rfl rfl)
theorem dX5_told_25 : decode cX5_told 25 = .ok (.aload_n 0, 1) := dk_42 (dk_at dksX5_told_1 3 rfl rfl)
theorem dX5_told_26 : decode cX5_told 26 = .ok (.getfield 298, 3) := dk_180 1 42 (dk_at dksX5_told_1 4 rfl rfl)
theorem dX5_told_29 : decode cX5_told 29 = .ok (.goto 25, 3) := dk_167 0 25 (dk_at dksX5_told_1 7 rfl rfl)
theorem dX5_told_32 : decode cX5_told 32 = .ok (.iload_n 1, 1) := dk_27 (dk_at dksX5_told_1 10 rfl rfl)
theorem dX5_told_33 : decode cX5_told 33 = .ok (.ifCond .ne 13, 3) := dk_154 0 13 (dk_at dksX5_told_1 11 rfl rfl)
theorem dX5_told_36 : decode cX5_told 36 = .ok (.aload_n 0, 1) := dk_42 (dk_at dksX5_told_1 14 rfl rfl)
theorem dX5_told_37 : decode cX5_told 37 = .ok (.getfield 298, 3) := dk_180 1 42 (dk_at dksX5_told_1 15 rfl rfl)
theorem dX5_told_40 : decode cX5_told 40 = .ok (.invokestatic 271, 3) := dk_184 1 15 (dk_at dksX5_told_1 18 rfl rfl)
theorem dX5_told_43 : decode cX5_told 43 = .ok (.goto 11, 3) := dk_167 0 11 (dk_at dksX5_told_1 21 rfl rfl)
theorem dX5_told_46 : decode cX5_told 46 = .ok (.aload_n 0, 1) := dk_42 (dk_at dksX5_told_2 0 rfl rfl)
theorem dX5_told_47 : decode cX5_told 47 = .ok (.aload_n 0, 1) := dk_42 (dk_at dksX5_told_2 1 rfl rfl)
theorem dX5_told_48 : decode cX5_told 48 = .ok (.getfield 298, 3) := dk_180 1 42 (dk_at dksX5_told_2 2 rfl rfl)
theorem dX5_told_51 : decode cX5_told 51 = .ok (.invokevirtual 289, 3) := dk_182 1 33 (dk_at dksX5_told_2 5 rfl rfl)
theorem dX5_told_54 : decode cX5_told 54 = .ok (.ireturn, 1) := dk_172 (dk_at dksX5_told_2 8 rfl rfl)
abbrev cX5_oneByOne : ByteArray := prog_25_method_81_code
def yX5_oneByOne : MethodName := ⟨RX5, "oneByOne", "(I)I"⟩
def dkwX5_oneByOne_0 : List UInt8 := [27, 3, 6, 184, 0, 91, 154, 0, 5, 2, 172, 42, 4, 182, 1, 51, 42, 27, 182, 1, 55, 172]
abbrev dktX5_oneByOne_0 : List UInt8 := dkwX5_oneByOne_0 ++ []
theorem dksX5_oneByOne_0 : cX5_oneByOne.data.toList.drop 0 = dktX5_oneByOne_0 := by decide +kernel
theorem dX5_oneByOne_0 : decode cX5_oneByOne 0 = .ok (.iload_n 1, 1) := dk_27 (dk_at dksX5_oneByOne_0 0 rfl rfl)
theorem dX5_oneByOne_1 : decode cX5_oneByOne 1 = .ok (.iconst 0, 1) := dk_3 (dk_at dksX5_oneByOne_0 1 rfl rfl)
theorem dX5_oneByOne_2 : decode cX5_oneByOne 2 = .ok (.iconst 3, 1) := dk_6 (dk_at dksX5_oneByOne_0 2 rfl rfl)
theorem dX5_oneByOne_3 : decode cX5_oneByOne 3 = .ok (.invokestatic 91, 3) := dk_184 0 91 (dk_at dksX5_oneByOne_0 3 rfl rfl)
theorem dX5_oneByOne_6 : decode cX5_oneByOne 6 = .ok (.ifCond .ne 5, 3) := dk_154 0 5 (dk_at dksX5_oneByOne_0 6 rfl rfl)
theorem dX5_oneByOne_9 : decode cX5_oneByOne 9 = .ok (.iconst (-1), 1) := dk_2 (dk_at dksX5_oneByOne_0 9 rfl rfl)
theorem dX5_oneByOne_10 : decode cX5_oneByOne 10 = .ok (.ireturn, 1) := dk_172 (dk_at dksX5_oneByOne_0 10 rfl rfl)
theorem dX5_oneByOne_11 : decode cX5_oneByOne 11 = .ok (.aload_n 0, 1) := dk_42 (dk_at dksX5_oneByOne_0 11 rfl rfl)
theorem dX5_oneByOne_12 : decode cX5_oneByOne 12 = .ok (.iconst 1, 1) := dk_4 (dk_at dksX5_oneByOne_0 12 rfl rfl)
theorem dX5_oneByOne_13 : decode cX5_oneByOne 13 = .ok (.invokevirtual 307, 3) := dk_182 1 51 (dk_at dksX5_oneByOne_0 13 rfl rfl)
theorem dX5_oneByOne_16 : decode cX5_oneByOne 16 = .ok (.aload_n 0, 1) := dk_42 (dk_at dksX5_oneByOne_0 16 rfl rfl)
theorem dX5_oneByOne_17 : decode cX5_oneByOne 17 = .ok (.iload_n 1, 1) := dk_27 (dk_at dksX5_oneByOne_0 17 rfl rfl)
theorem dX5_oneByOne_18 : decode cX5_oneByOne 18 = .ok (.invokevirtual 311, 3) := dk_182 1 55 (dk_at dksX5_oneByOne_0 18 rfl rfl)
theorem dX5_oneByOne_21 : decode cX5_oneByOne 21 = .ok (.ireturn, 1) := dk_172 (dk_at dksX5_oneByOne_0 21 rfl rfl)
abbrev cX5_order : ByteArray := prog_25_method_82_code
def yX5_order : MethodName := ⟨RX5, "order", "(I)I"⟩
def dkwX5_order_10 : List UInt8 := [62, 132, 5, 1, 167, 255, 195, 21, 4, 172]
abbrev dktX5_order_10 : List UInt8 := dkwX5_order_10 ++ []
def dkwX5_order_9 : List UInt8 := [21, 4, 120, 2, 130, 126, 51, 154, 0, 9, 132, 4, 1, 167, 255, 219, 29, 4, 21, 4, 120, 2, 130, 126]
abbrev dktX5_order_9 : List UInt8 := dkwX5_order_9 ++ dktX5_order_10
def dkwX5_order_8 : List UInt8 := [21, 4, 184, 1, 18, 153, 0, 28, 28, 21, 4, 184, 1, 18, 154, 0, 19, 42, 180, 0, 85, 29, 4]
abbrev dktX5_order_8 : List UInt8 := dkwX5_order_8 ++ dktX5_order_9
def dkwX5_order_7 : List UInt8 := [180, 0, 20, 17, 0, 159, 46, 62, 2, 54, 4, 3, 54, 5, 21, 5, 27, 163, 0, 61, 3, 54, 4, 29]
abbrev dktX5_order_7 : List UInt8 := dkwX5_order_7 ++ dktX5_order_8
def dkwX5_order_6 : List UInt8 := [51, 153, 0, 7, 4, 167, 0, 4, 3, 84, 132, 4, 1, 167, 255, 181, 132, 3, 1, 167, 255, 146, 42]
abbrev dktX5_order_6 : List UInt8 := dkwX5_order_6 ++ dktX5_order_7
def dkwX5_order_5 : List UInt8 := [153, 0, 32, 28, 21, 4, 184, 1, 18, 154, 0, 23, 42, 180, 0, 85, 29, 4, 21, 4, 120, 2, 130, 126]
abbrev dktX5_order_5 : List UInt8 := dkwX5_order_5 ++ dktX5_order_6
def dkwX5_order_4 : List UInt8 := [180, 0, 85, 29, 51, 154, 0, 46, 42, 180, 0, 70, 29, 51, 153, 0, 41, 29, 21, 4, 184, 1, 18]
abbrev dktX5_order_4 : List UInt8 := dkwX5_order_4 ++ dktX5_order_5
def dkwX5_order_3 : List UInt8 := [167, 0, 4, 3, 84, 3, 54, 4, 21, 4, 42, 182, 0, 102, 162, 0, 72, 42, 180, 0, 85, 29, 42]
abbrev dktX5_order_3 : List UInt8 := dkwX5_order_3 ++ dktX5_order_4
def dkwX5_order_2 : List UInt8 := [3, 62, 29, 4, 42, 182, 0, 102, 120, 162, 0, 106, 42, 180, 0, 85, 29, 29, 28, 160, 0, 7, 4]
abbrev dktX5_order_2 : List UInt8 := dkwX5_order_2 ++ dktX5_order_3
def dkwX5_order_1 : List UInt8 := [184, 0, 91, 154, 0, 5, 2, 172, 42, 180, 0, 20, 17, 0, 159, 46, 42, 180, 1, 42, 2, 130, 126, 61]
abbrev dktX5_order_1 : List UInt8 := dkwX5_order_1 ++ dktX5_order_2
def dkwX5_order_0 : List UInt8 := [42, 4, 182, 1, 51, 42, 180, 1, 42, 2, 159, 0, 20, 27, 3, 42, 180, 1, 42, 184, 1, 15, 4, 100]
abbrev dktX5_order_0 : List UInt8 := dkwX5_order_0 ++ dktX5_order_1
theorem dksX5_order_0 : cX5_order.data.toList.drop 0 = dktX5_order_0 := by decide +kernel
theorem dksX5_order_1 : cX5_order.data.toList.drop 24 = dktX5_order_1 := dk_seg dksX5_order_0 24 rfl rfl
theorem dksX5_order_2 : cX5_order.data.toList.drop 48 = dktX5_order_2 := dk_seg dksX5_order_1 24 rfl rfl
theorem dksX5_order_3 : cX5_order.data.toList.drop 71 = dktX5_order_3 := dk_seg dksX5_order_2 23 rfl rfl
theorem dksX5_order_4 : cX5_order.data.toList.drop 94 = dktX5_order_4 := dk_seg dksX5_order_3 23 rfl rfl
theorem dksX5_order_5 : cX5_order.data.toList.drop 117 = dktX5_order_5 := dk_seg dksX5_order_4 23 rfl rfl
theorem dksX5_order_6 : cX5_order.data.toList.drop 141 = dktX5_order_6 := dk_seg dksX5_order_5 24 rfl rfl
theorem dksX5_order_7 : cX5_order.data.toList.drop 164 = dktX5_order_7 := dk_seg dksX5_order_6 23 rfl rfl
theorem dksX5_order_8 : cX5_order.data.toList.drop 188 = dktX5_order_8 := dk_seg dksX5_order_7 24 rfl rfl
theorem dksX5_order_9 : cX5_order.data.toList.drop 211 = dktX5_order_9 := dk_seg dksX5_order_8 23 rfl rfl
theorem dksX5_order_10 : cX5_order.data.toList.drop 235 = dktX5_order_10 := dk_seg dksX5_order_9 24 rfl rfl
theorem dX5_order_0 : decode cX5_order 0 = .ok (.aload_n 0, 1) := dk_42 (dk_at dksX5_order_0 0 rfl rfl)
theorem dX5_order_1 : decode cX5_order 1 = .ok (.iconst 1, 1) := dk_4 (dk_at dksX5_order_0 1 rfl rfl)
theorem dX5_order_2 : decode cX5_order 2 = .ok (.invokevirtual 307, 3) := dk_182 1 51 (dk_at dksX5_order_0 2 rfl rfl)
theorem dX5_order_5 : decode cX5_order 5 = .ok (.aload_n 0, 1) := dk_42 (dk_at dksX5_order_0 5 rfl rfl)
theorem dX5_order_6 : decode cX5_order 6 = .ok (.getfield 298, 3) := dk_180 1 42 (dk_at dksX5_order_0 6 rfl rfl)
theorem dX5_order_9 : decode cX5_order 9 = .ok (.iconst (-1), 1) := dk_2 (dk_at dksX5_order_0 9 rfl rfl)
theorem dX5_order_10 : decode cX5_order 10 = .ok (.if_icmp .eq 20, 3) := dk_159 0 20 (dk_at dksX5_order_0 10 rfl rfl)
theorem dX5_order_13 : decode cX5_order 13 = .ok (.iload_n 1, 1) := dk_27 (dk_at dksX5_order_0 13 rfl rfl)
theorem dX5_order_14 : decode cX5_order 14 = .ok (.iconst 0, 1) := dk_3 (dk_at dksX5_order_0 14 rfl rfl)
theorem dX5_order_15 : decode cX5_order 15 = .ok (.aload_n 0, 1) := dk_42 (dk_at dksX5_order_0 15 rfl rfl)
theorem dX5_order_16 : decode cX5_order 16 = .ok (.getfield 298, 3) := dk_180 1 42 (dk_at dksX5_order_0 16 rfl rfl)
theorem dX5_order_19 : decode cX5_order 19 = .ok (.invokestatic 271, 3) := dk_184 1 15 (dk_at dksX5_order_0 19 rfl rfl)
theorem dX5_order_22 : decode cX5_order 22 = .ok (.iconst 1, 1) := dk_4 (dk_at dksX5_order_0 22 rfl rfl)
theorem dX5_order_23 : decode cX5_order 23 = .ok (.isub, 1) := dk_100 (dk_at dksX5_order_0 23 rfl rfl)
theorem dX5_order_24 : decode cX5_order 24 = .ok (.invokestatic 91, 3) := dk_184 0 91 (dk_at dksX5_order_1 0 rfl rfl)
theorem dX5_order_27 : decode cX5_order 27 = .ok (.ifCond .ne 5, 3) := dk_154 0 5 (dk_at dksX5_order_1 3 rfl rfl)
theorem dX5_order_30 : decode cX5_order 30 = .ok (.iconst (-1), 1) := dk_2 (dk_at dksX5_order_1 6 rfl rfl)
theorem dX5_order_31 : decode cX5_order 31 = .ok (.ireturn, 1) := dk_172 (dk_at dksX5_order_1 7 rfl rfl)
theorem dX5_order_32 : decode cX5_order 32 = .ok (.aload_n 0, 1) := dk_42 (dk_at dksX5_order_1 8 rfl rfl)
theorem dX5_order_33 : decode cX5_order 33 = .ok (.getfield 20, 3) := dk_180 0 20 (dk_at dksX5_order_1 9 rfl rfl)
theorem dX5_order_36 : decode cX5_order 36 = .ok (.sipush 159, 3) := dk_17 0 159 (dk_at dksX5_order_1 12 rfl rfl)
theorem dX5_order_39 : decode cX5_order 39 = .ok (.iaload, 1) := dk_46 (dk_at dksX5_order_1 15 rfl rfl)
theorem dX5_order_40 : decode cX5_order 40 = .ok (.aload_n 0, 1) := dk_42 (dk_at dksX5_order_1 16 rfl rfl)
theorem dX5_order_41 : decode cX5_order 41 = .ok (.getfield 298, 3) := dk_180 1 42 (dk_at dksX5_order_1 17 rfl rfl)
theorem dX5_order_44 : decode cX5_order 44 = .ok (.iconst (-1), 1) := dk_2 (dk_at dksX5_order_1 20 rfl rfl)
theorem dX5_order_45 : decode cX5_order 45 = .ok (.ixor, 1) := dk_130 (dk_at dksX5_order_1 21 rfl rfl)
theorem dX5_order_46 : decode cX5_order 46 = .ok (.iand, 1) := dk_126 (dk_at dksX5_order_1 22 rfl rfl)
theorem dX5_order_47 : decode cX5_order 47 = .ok (.istore_n 2, 1) := dk_61 (dk_at dksX5_order_1 23 rfl rfl)
theorem dX5_order_48 : decode cX5_order 48 = .ok (.iconst 0, 1) := dk_3 (dk_at dksX5_order_2 0 rfl rfl)
theorem dX5_order_49 : decode cX5_order 49 = .ok (.istore_n 3, 1) := dk_62 (dk_at dksX5_order_2 1 rfl rfl)
theorem dX5_order_50 : decode cX5_order 50 = .ok (.iload_n 3, 1) := dk_29 (dk_at dksX5_order_2 2 rfl rfl)
theorem dX5_order_51 : decode cX5_order 51 = .ok (.iconst 1, 1) := dk_4 (dk_at dksX5_order_2 3 rfl rfl)
theorem dX5_order_52 : decode cX5_order 52 = .ok (.aload_n 0, 1) := dk_42 (dk_at dksX5_order_2 4 rfl rfl)
theorem dX5_order_53 : decode cX5_order 53 = .ok (.invokevirtual 102, 3) := dk_182 0 102 (dk_at dksX5_order_2 5 rfl rfl)
theorem dX5_order_56 : decode cX5_order 56 = .ok (.ishl, 1) := dk_120 (dk_at dksX5_order_2 8 rfl rfl)
theorem dX5_order_57 : decode cX5_order 57 = .ok (.if_icmp .ge 106, 3) := dk_162 0 106 (dk_at dksX5_order_2 9 rfl rfl)
theorem dX5_order_60 : decode cX5_order 60 = .ok (.aload_n 0, 1) := dk_42 (dk_at dksX5_order_2 12 rfl rfl)
theorem dX5_order_61 : decode cX5_order 61 = .ok (.getfield 85, 3) := dk_180 0 85 (dk_at dksX5_order_2 13 rfl rfl)
theorem dX5_order_64 : decode cX5_order 64 = .ok (.iload_n 3, 1) := dk_29 (dk_at dksX5_order_2 16 rfl rfl)
theorem dX5_order_65 : decode cX5_order 65 = .ok (.iload_n 3, 1) := dk_29 (dk_at dksX5_order_2 17 rfl rfl)
theorem dX5_order_66 : decode cX5_order 66 = .ok (.iload_n 2, 1) := dk_28 (dk_at dksX5_order_2 18 rfl rfl)
theorem dX5_order_67 : decode cX5_order 67 = .ok (.if_icmp .ne 7, 3) := dk_160 0 7 (dk_at dksX5_order_2 19 rfl rfl)
theorem dX5_order_70 : decode cX5_order 70 = .ok (.iconst 1, 1) := dk_4 (dk_at dksX5_order_2 22 rfl rfl)
theorem dX5_order_71 : decode cX5_order 71 = .ok (.goto 4, 3) := dk_167 0 4 (dk_at dksX5_order_3 0 rfl rfl)
theorem dX5_order_74 : decode cX5_order 74 = .ok (.iconst 0, 1) := dk_3 (dk_at dksX5_order_3 3 rfl rfl)
theorem dX5_order_75 : decode cX5_order 75 = .ok (.bastore, 1) := dk_84 (dk_at dksX5_order_3 4 rfl rfl)
theorem dX5_order_76 : decode cX5_order 76 = .ok (.iconst 0, 1) := dk_3 (dk_at dksX5_order_3 5 rfl rfl)
theorem dX5_order_77 : decode cX5_order 77 = .ok (.istore 4, 2) := dk_54 4 (dk_at dksX5_order_3 6 rfl rfl)
theorem dX5_order_79 : decode cX5_order 79 = .ok (.iload 4, 2) := dk_21 4 (dk_at dksX5_order_3 8 rfl rfl)
theorem dX5_order_81 : decode cX5_order 81 = .ok (.aload_n 0, 1) := dk_42 (dk_at dksX5_order_3 10 rfl rfl)
theorem dX5_order_82 : decode cX5_order 82 = .ok (.invokevirtual 102, 3) := dk_182 0 102 (dk_at dksX5_order_3 11 rfl rfl)
theorem dX5_order_85 : decode cX5_order 85 = .ok (.if_icmp .ge 72, 3) := dk_162 0 72 (dk_at dksX5_order_3 14 rfl rfl)
theorem dX5_order_88 : decode cX5_order 88 = .ok (.aload_n 0, 1) := dk_42 (dk_at dksX5_order_3 17 rfl rfl)
theorem dX5_order_89 : decode cX5_order 89 = .ok (.getfield 85, 3) := dk_180 0 85 (dk_at dksX5_order_3 18 rfl rfl)
theorem dX5_order_92 : decode cX5_order 92 = .ok (.iload_n 3, 1) := dk_29 (dk_at dksX5_order_3 21 rfl rfl)
theorem dX5_order_93 : decode cX5_order 93 = .ok (.aload_n 0, 1) := dk_42 (dk_at dksX5_order_3 22 rfl rfl)
theorem dX5_order_94 : decode cX5_order 94 = .ok (.getfield 85, 3) := dk_180 0 85 (dk_at dksX5_order_4 0 rfl rfl)
theorem dX5_order_97 : decode cX5_order 97 = .ok (.iload_n 3, 1) := dk_29 (dk_at dksX5_order_4 3 rfl rfl)
theorem dX5_order_98 : decode cX5_order 98 = .ok (.baload, 1) := dk_51 (dk_at dksX5_order_4 4 rfl rfl)
theorem dX5_order_99 : decode cX5_order 99 = .ok (.ifCond .ne 46, 3) := dk_154 0 46 (dk_at dksX5_order_4 5 rfl rfl)
theorem dX5_order_102 : decode cX5_order 102 = .ok (.aload_n 0, 1) := dk_42 (dk_at dksX5_order_4 8 rfl rfl)
theorem dX5_order_103 : decode cX5_order 103 = .ok (.getfield 70, 3) := dk_180 0 70 (dk_at dksX5_order_4 9 rfl rfl)
theorem dX5_order_106 : decode cX5_order 106 = .ok (.iload_n 3, 1) := dk_29 (dk_at dksX5_order_4 12 rfl rfl)
theorem dX5_order_107 : decode cX5_order 107 = .ok (.baload, 1) := dk_51 (dk_at dksX5_order_4 13 rfl rfl)
theorem dX5_order_108 : decode cX5_order 108 = .ok (.ifCond .eq 41, 3) := dk_153 0 41 (dk_at dksX5_order_4 14 rfl rfl)
theorem dX5_order_111 : decode cX5_order 111 = .ok (.iload_n 3, 1) := dk_29 (dk_at dksX5_order_4 17 rfl rfl)
theorem dX5_order_112 : decode cX5_order 112 = .ok (.iload 4, 2) := dk_21 4 (dk_at dksX5_order_4 18 rfl rfl)
theorem dX5_order_114 : decode cX5_order 114 = .ok (.invokestatic 274, 3) := dk_184 1 18 (dk_at dksX5_order_4 20 rfl rfl)
theorem dX5_order_117 : decode cX5_order 117 = .ok (.ifCond .eq 32, 3) := dk_153 0 32 (dk_at dksX5_order_5 0 rfl rfl)
theorem dX5_order_120 : decode cX5_order 120 = .ok (.iload_n 2, 1) := dk_28 (dk_at dksX5_order_5 3 rfl rfl)
theorem dX5_order_121 : decode cX5_order 121 = .ok (.iload 4, 2) := dk_21 4 (dk_at dksX5_order_5 4 rfl rfl)
theorem dX5_order_123 : decode cX5_order 123 = .ok (.invokestatic 274, 3) := dk_184 1 18 (dk_at dksX5_order_5 6 rfl rfl)
theorem dX5_order_126 : decode cX5_order 126 = .ok (.ifCond .ne 23, 3) := dk_154 0 23 (dk_at dksX5_order_5 9 rfl rfl)
theorem dX5_order_129 : decode cX5_order 129 = .ok (.aload_n 0, 1) := dk_42 (dk_at dksX5_order_5 12 rfl rfl)
theorem dX5_order_130 : decode cX5_order 130 = .ok (.getfield 85, 3) := dk_180 0 85 (dk_at dksX5_order_5 13 rfl rfl)
theorem dX5_order_133 : decode cX5_order 133 = .ok (.iload_n 3, 1) := dk_29 (dk_at dksX5_order_5 16 rfl rfl)
theorem dX5_order_134 : decode cX5_order 134 = .ok (.iconst 1, 1) := dk_4 (dk_at dksX5_order_5 17 rfl rfl)
theorem dX5_order_135 : decode cX5_order 135 = .ok (.iload 4, 2) := dk_21 4 (dk_at dksX5_order_5 18 rfl rfl)
theorem dX5_order_137 : decode cX5_order 137 = .ok (.ishl, 1) := dk_120 (dk_at dksX5_order_5 20 rfl rfl)
theorem dX5_order_138 : decode cX5_order 138 = .ok (.iconst (-1), 1) := dk_2 (dk_at dksX5_order_5 21 rfl rfl)
theorem dX5_order_139 : decode cX5_order 139 = .ok (.ixor, 1) := dk_130 (dk_at dksX5_order_5 22 rfl rfl)
theorem dX5_order_140 : decode cX5_order 140 = .ok (.iand, 1) := dk_126 (dk_at dksX5_order_5 23 rfl rfl)
theorem dX5_order_141 : decode cX5_order 141 = .ok (.baload, 1) := dk_51 (dk_at dksX5_order_6 0 rfl rfl)
theorem dX5_order_142 : decode cX5_order 142 = .ok (.ifCond .eq 7, 3) := dk_153 0 7 (dk_at dksX5_order_6 1 rfl rfl)
theorem dX5_order_145 : decode cX5_order 145 = .ok (.iconst 1, 1) := dk_4 (dk_at dksX5_order_6 4 rfl rfl)
theorem dX5_order_146 : decode cX5_order 146 = .ok (.goto 4, 3) := dk_167 0 4 (dk_at dksX5_order_6 5 rfl rfl)
theorem dX5_order_149 : decode cX5_order 149 = .ok (.iconst 0, 1) := dk_3 (dk_at dksX5_order_6 8 rfl rfl)
theorem dX5_order_150 : decode cX5_order 150 = .ok (.bastore, 1) := dk_84 (dk_at dksX5_order_6 9 rfl rfl)
theorem dX5_order_151 : decode cX5_order 151 = .ok (.iinc 4 1, 3) := dk_132 4 1 (dk_at dksX5_order_6 10 rfl rfl)
theorem dX5_order_154 : decode cX5_order 154 = .ok (.goto (-75), 3) := dk_167 255 181 (dk_at dksX5_order_6 13 rfl rfl)
theorem dX5_order_157 : decode cX5_order 157 = .ok (.iinc 3 1, 3) := dk_132 3 1 (dk_at dksX5_order_6 16 rfl rfl)
theorem dX5_order_160 : decode cX5_order 160 = .ok (.goto (-110), 3) := dk_167 255 146 (dk_at dksX5_order_6 19 rfl rfl)
theorem dX5_order_163 : decode cX5_order 163 = .ok (.aload_n 0, 1) := dk_42 (dk_at dksX5_order_6 22 rfl rfl)
theorem dX5_order_164 : decode cX5_order 164 = .ok (.getfield 20, 3) := dk_180 0 20 (dk_at dksX5_order_7 0 rfl rfl)
theorem dX5_order_167 : decode cX5_order 167 = .ok (.sipush 159, 3) := dk_17 0 159 (dk_at dksX5_order_7 3 rfl rfl)
theorem dX5_order_170 : decode cX5_order 170 = .ok (.iaload, 1) := dk_46 (dk_at dksX5_order_7 6 rfl rfl)
theorem dX5_order_171 : decode cX5_order 171 = .ok (.istore_n 3, 1) := dk_62 (dk_at dksX5_order_7 7 rfl rfl)
theorem dX5_order_172 : decode cX5_order 172 = .ok (.iconst (-1), 1) := dk_2 (dk_at dksX5_order_7 8 rfl rfl)
theorem dX5_order_173 : decode cX5_order 173 = .ok (.istore 4, 2) := dk_54 4 (dk_at dksX5_order_7 9 rfl rfl)
theorem dX5_order_175 : decode cX5_order 175 = .ok (.iconst 0, 1) := dk_3 (dk_at dksX5_order_7 11 rfl rfl)
theorem dX5_order_176 : decode cX5_order 176 = .ok (.istore 5, 2) := dk_54 5 (dk_at dksX5_order_7 12 rfl rfl)
theorem dX5_order_178 : decode cX5_order 178 = .ok (.iload 5, 2) := dk_21 5 (dk_at dksX5_order_7 14 rfl rfl)
theorem dX5_order_180 : decode cX5_order 180 = .ok (.iload_n 1, 1) := dk_27 (dk_at dksX5_order_7 16 rfl rfl)
theorem dX5_order_181 : decode cX5_order 181 = .ok (.if_icmp .gt 61, 3) := dk_163 0 61 (dk_at dksX5_order_7 17 rfl rfl)
theorem dX5_order_184 : decode cX5_order 184 = .ok (.iconst 0, 1) := dk_3 (dk_at dksX5_order_7 20 rfl rfl)
theorem dX5_order_185 : decode cX5_order 185 = .ok (.istore 4, 2) := dk_54 4 (dk_at dksX5_order_7 21 rfl rfl)
theorem dX5_order_187 : decode cX5_order 187 = .ok (.iload_n 3, 1) := dk_29 (dk_at dksX5_order_7 23 rfl rfl)
theorem dX5_order_188 : decode cX5_order 188 = .ok (.iload 4, 2) := dk_21 4 (dk_at dksX5_order_8 0 rfl rfl)
theorem dX5_order_190 : decode cX5_order 190 = .ok (.invokestatic 274, 3) := dk_184 1 18 (dk_at dksX5_order_8 2 rfl rfl)
theorem dX5_order_193 : decode cX5_order 193 = .ok (.ifCond .eq 28, 3) := dk_153 0 28 (dk_at dksX5_order_8 5 rfl rfl)
theorem dX5_order_196 : decode cX5_order 196 = .ok (.iload_n 2, 1) := dk_28 (dk_at dksX5_order_8 8 rfl rfl)
theorem dX5_order_197 : decode cX5_order 197 = .ok (.iload 4, 2) := dk_21 4 (dk_at dksX5_order_8 9 rfl rfl)
theorem dX5_order_199 : decode cX5_order 199 = .ok (.invokestatic 274, 3) := dk_184 1 18 (dk_at dksX5_order_8 11 rfl rfl)
theorem dX5_order_202 : decode cX5_order 202 = .ok (.ifCond .ne 19, 3) := dk_154 0 19 (dk_at dksX5_order_8 14 rfl rfl)
theorem dX5_order_205 : decode cX5_order 205 = .ok (.aload_n 0, 1) := dk_42 (dk_at dksX5_order_8 17 rfl rfl)
theorem dX5_order_206 : decode cX5_order 206 = .ok (.getfield 85, 3) := dk_180 0 85 (dk_at dksX5_order_8 18 rfl rfl)
theorem dX5_order_209 : decode cX5_order 209 = .ok (.iload_n 3, 1) := dk_29 (dk_at dksX5_order_8 21 rfl rfl)
theorem dX5_order_210 : decode cX5_order 210 = .ok (.iconst 1, 1) := dk_4 (dk_at dksX5_order_8 22 rfl rfl)
theorem dX5_order_211 : decode cX5_order 211 = .ok (.iload 4, 2) := dk_21 4 (dk_at dksX5_order_9 0 rfl rfl)
theorem dX5_order_213 : decode cX5_order 213 = .ok (.ishl, 1) := dk_120 (dk_at dksX5_order_9 2 rfl rfl)
theorem dX5_order_214 : decode cX5_order 214 = .ok (.iconst (-1), 1) := dk_2 (dk_at dksX5_order_9 3 rfl rfl)
theorem dX5_order_215 : decode cX5_order 215 = .ok (.ixor, 1) := dk_130 (dk_at dksX5_order_9 4 rfl rfl)
theorem dX5_order_216 : decode cX5_order 216 = .ok (.iand, 1) := dk_126 (dk_at dksX5_order_9 5 rfl rfl)
theorem dX5_order_217 : decode cX5_order 217 = .ok (.baload, 1) := dk_51 (dk_at dksX5_order_9 6 rfl rfl)
theorem dX5_order_218 : decode cX5_order 218 = .ok (.ifCond .ne 9, 3) := dk_154 0 9 (dk_at dksX5_order_9 7 rfl rfl)
theorem dX5_order_221 : decode cX5_order 221 = .ok (.iinc 4 1, 3) := dk_132 4 1 (dk_at dksX5_order_9 10 rfl rfl)
theorem dX5_order_224 : decode cX5_order 224 = .ok (.goto (-37), 3) := dk_167 255 219 (dk_at dksX5_order_9 13 rfl rfl)
theorem dX5_order_227 : decode cX5_order 227 = .ok (.iload_n 3, 1) := dk_29 (dk_at dksX5_order_9 16 rfl rfl)
theorem dX5_order_228 : decode cX5_order 228 = .ok (.iconst 1, 1) := dk_4 (dk_at dksX5_order_9 17 rfl rfl)
theorem dX5_order_229 : decode cX5_order 229 = .ok (.iload 4, 2) := dk_21 4 (dk_at dksX5_order_9 18 rfl rfl)
theorem dX5_order_231 : decode cX5_order 231 = .ok (.ishl, 1) := dk_120 (dk_at dksX5_order_9 20 rfl rfl)
theorem dX5_order_232 : decode cX5_order 232 = .ok (.iconst (-1), 1) := dk_2 (dk_at dksX5_order_9 21 rfl rfl)
theorem dX5_order_233 : decode cX5_order 233 = .ok (.ixor, 1) := dk_130 (dk_at dksX5_order_9 22 rfl rfl)
theorem dX5_order_234 : decode cX5_order 234 = .ok (.iand, 1) := dk_126 (dk_at dksX5_order_9 23 rfl rfl)
theorem dX5_order_235 : decode cX5_order 235 = .ok (.istore_n 3, 1) := dk_62 (dk_at dksX5_order_10 0 rfl rfl)
theorem dX5_order_236 : decode cX5_order 236 = .ok (.iinc 5 1, 3) := dk_132 5 1 (dk_at dksX5_order_10 1 rfl rfl)
theorem dX5_order_239 : decode cX5_order 239 = .ok (.goto (-61), 3) := dk_167 255 195 (dk_at dksX5_order_10 4 rfl rfl)
theorem dX5_order_242 : decode cX5_order 242 = .ok (.iload 4, 2) := dk_21 4 (dk_at dksX5_order_10 7 rfl rfl)
theorem dX5_order_244 : decode cX5_order 244 = .ok (.ireturn, 1) := dk_172 (dk_at dksX5_order_10 9 rfl rfl)
abbrev cX5_fell : ByteArray := prog_25_method_83_code
def yX5_fell : MethodName := ⟨RX5, "fell", "(I)I"⟩
def dkwX5_fell_5 : List UInt8 := [28, 184, 1, 15, 167, 0, 13, 27, 4, 160, 0, 7, 28, 167, 0, 4, 29, 172]
abbrev dktX5_fell_5 : List UInt8 := dkwX5_fell_5 ++ []
def dkwX5_fell_4 : List UInt8 := [184, 1, 15, 162, 0, 8, 21, 4, 61, 3, 62, 132, 3, 1, 132, 4, 1, 167, 255, 167, 27, 154, 0, 10]
abbrev dktX5_fell_4 : List UInt8 := dkwX5_fell_4 ++ dktX5_fell_5
def dkwX5_fell_3 : List UInt8 := [184, 1, 15, 28, 184, 1, 15, 164, 0, 6, 167, 0, 28, 28, 2, 159, 0, 15, 21, 4, 184, 1, 15, 28]
abbrev dktX5_fell_3 : List UInt8 := dkwX5_fell_3 ++ dktX5_fell_4
def dkwX5_fell_2 : List UInt8 := [180, 0, 20, 17, 0, 159, 46, 21, 4, 2, 130, 126, 46, 154, 0, 48, 28, 2, 159, 0, 18, 21, 4]
abbrev dktX5_fell_2 : List UInt8 := dkwX5_fell_2 ++ dktX5_fell_3
def dkwX5_fell_1 : List UInt8 := [4, 42, 182, 0, 102, 120, 162, 0, 84, 42, 21, 4, 182, 1, 30, 153, 0, 69, 42, 180, 0, 73, 42]
abbrev dktX5_fell_1 : List UInt8 := dkwX5_fell_1 ++ dktX5_fell_2
def dkwX5_fell_0 : List UInt8 := [27, 3, 5, 184, 0, 91, 154, 0, 5, 2, 172, 42, 182, 1, 39, 2, 61, 3, 62, 3, 54, 4, 21, 4]
abbrev dktX5_fell_0 : List UInt8 := dkwX5_fell_0 ++ dktX5_fell_1
theorem dksX5_fell_0 : cX5_fell.data.toList.drop 0 = dktX5_fell_0 := by decide +kernel
theorem dksX5_fell_1 : cX5_fell.data.toList.drop 24 = dktX5_fell_1 := dk_seg dksX5_fell_0 24 rfl rfl
theorem dksX5_fell_2 : cX5_fell.data.toList.drop 47 = dktX5_fell_2 := dk_seg dksX5_fell_1 23 rfl rfl
theorem dksX5_fell_3 : cX5_fell.data.toList.drop 70 = dktX5_fell_3 := dk_seg dksX5_fell_2 23 rfl rfl
theorem dksX5_fell_4 : cX5_fell.data.toList.drop 94 = dktX5_fell_4 := dk_seg dksX5_fell_3 24 rfl rfl
theorem dksX5_fell_5 : cX5_fell.data.toList.drop 118 = dktX5_fell_5 := dk_seg dksX5_fell_4 24 rfl rfl
theorem dX5_fell_0 : decode cX5_fell 0 = .ok (.iload_n 1, 1) := dk_27 (dk_at dksX5_fell_0 0 rfl rfl)
theorem dX5_fell_1 : decode cX5_fell 1 = .ok (.iconst 0, 1) := dk_3 (dk_at dksX5_fell_0 1 rfl rfl)
theorem dX5_fell_2 : decode cX5_fell 2 = .ok (.iconst 2, 1) := dk_5 (dk_at dksX5_fell_0 2 rfl rfl)
theorem dX5_fell_3 : decode cX5_fell 3 = .ok (.invokestatic 91, 3) := dk_184 0 91 (dk_at dksX5_fell_0 3 rfl rfl)
theorem dX5_fell_6 : decode cX5_fell 6 = .ok (.ifCond .ne 5, 3) := dk_154 0 5 (dk_at dksX5_fell_0 6 rfl rfl)
theorem dX5_fell_9 : decode cX5_fell 9 = .ok (.iconst (-1), 1) := dk_2 (dk_at dksX5_fell_0 9 rfl rfl)
theorem dX5_fell_10 : decode cX5_fell 10 = .ok (.ireturn, 1) := dk_172 (dk_at dksX5_fell_0 10 rfl rfl)
theorem dX5_fell_11 : decode cX5_fell 11 = .ok (.aload_n 0, 1) := dk_42 (dk_at dksX5_fell_0 11 rfl rfl)
theorem dX5_fell_12 : decode cX5_fell 12 = .ok (.invokevirtual 295, 3) := dk_182 1 39 (dk_at dksX5_fell_0 12 rfl rfl)
theorem dX5_fell_15 : decode cX5_fell 15 = .ok (.iconst (-1), 1) := dk_2 (dk_at dksX5_fell_0 15 rfl rfl)
theorem dX5_fell_16 : decode cX5_fell 16 = .ok (.istore_n 2, 1) := dk_61 (dk_at dksX5_fell_0 16 rfl rfl)
theorem dX5_fell_17 : decode cX5_fell 17 = .ok (.iconst 0, 1) := dk_3 (dk_at dksX5_fell_0 17 rfl rfl)
theorem dX5_fell_18 : decode cX5_fell 18 = .ok (.istore_n 3, 1) := dk_62 (dk_at dksX5_fell_0 18 rfl rfl)
theorem dX5_fell_19 : decode cX5_fell 19 = .ok (.iconst 0, 1) := dk_3 (dk_at dksX5_fell_0 19 rfl rfl)
theorem dX5_fell_20 : decode cX5_fell 20 = .ok (.istore 4, 2) := dk_54 4 (dk_at dksX5_fell_0 20 rfl rfl)
theorem dX5_fell_22 : decode cX5_fell 22 = .ok (.iload 4, 2) := dk_21 4 (dk_at dksX5_fell_0 22 rfl rfl)
theorem dX5_fell_24 : decode cX5_fell 24 = .ok (.iconst 1, 1) := dk_4 (dk_at dksX5_fell_1 0 rfl rfl)
theorem dX5_fell_25 : decode cX5_fell 25 = .ok (.aload_n 0, 1) := dk_42 (dk_at dksX5_fell_1 1 rfl rfl)
theorem dX5_fell_26 : decode cX5_fell 26 = .ok (.invokevirtual 102, 3) := dk_182 0 102 (dk_at dksX5_fell_1 2 rfl rfl)
theorem dX5_fell_29 : decode cX5_fell 29 = .ok (.ishl, 1) := dk_120 (dk_at dksX5_fell_1 5 rfl rfl)
theorem dX5_fell_30 : decode cX5_fell 30 = .ok (.if_icmp .ge 84, 3) := dk_162 0 84 (dk_at dksX5_fell_1 6 rfl rfl)
theorem dX5_fell_33 : decode cX5_fell 33 = .ok (.aload_n 0, 1) := dk_42 (dk_at dksX5_fell_1 9 rfl rfl)
theorem dX5_fell_34 : decode cX5_fell 34 = .ok (.iload 4, 2) := dk_21 4 (dk_at dksX5_fell_1 10 rfl rfl)
theorem dX5_fell_36 : decode cX5_fell 36 = .ok (.invokevirtual 286, 3) := dk_182 1 30 (dk_at dksX5_fell_1 12 rfl rfl)
theorem dX5_fell_39 : decode cX5_fell 39 = .ok (.ifCond .eq 69, 3) := dk_153 0 69 (dk_at dksX5_fell_1 15 rfl rfl)
theorem dX5_fell_42 : decode cX5_fell 42 = .ok (.aload_n 0, 1) := dk_42 (dk_at dksX5_fell_1 18 rfl rfl)
theorem dX5_fell_43 : decode cX5_fell 43 = .ok (.getfield 73, 3) := dk_180 0 73 (dk_at dksX5_fell_1 19 rfl rfl)
theorem dX5_fell_46 : decode cX5_fell 46 = .ok (.aload_n 0, 1) := dk_42 (dk_at dksX5_fell_1 22 rfl rfl)
theorem dX5_fell_47 : decode cX5_fell 47 = .ok (.getfield 20, 3) := dk_180 0 20 (dk_at dksX5_fell_2 0 rfl rfl)
theorem dX5_fell_50 : decode cX5_fell 50 = .ok (.sipush 159, 3) := dk_17 0 159 (dk_at dksX5_fell_2 3 rfl rfl)
theorem dX5_fell_53 : decode cX5_fell 53 = .ok (.iaload, 1) := dk_46 (dk_at dksX5_fell_2 6 rfl rfl)
theorem dX5_fell_54 : decode cX5_fell 54 = .ok (.iload 4, 2) := dk_21 4 (dk_at dksX5_fell_2 7 rfl rfl)
theorem dX5_fell_56 : decode cX5_fell 56 = .ok (.iconst (-1), 1) := dk_2 (dk_at dksX5_fell_2 9 rfl rfl)
theorem dX5_fell_57 : decode cX5_fell 57 = .ok (.ixor, 1) := dk_130 (dk_at dksX5_fell_2 10 rfl rfl)
theorem dX5_fell_58 : decode cX5_fell 58 = .ok (.iand, 1) := dk_126 (dk_at dksX5_fell_2 11 rfl rfl)
theorem dX5_fell_59 : decode cX5_fell 59 = .ok (.iaload, 1) := dk_46 (dk_at dksX5_fell_2 12 rfl rfl)
theorem dX5_fell_60 : decode cX5_fell 60 = .ok (.ifCond .ne 48, 3) := dk_154 0 48 (dk_at dksX5_fell_2 13 rfl rfl)
theorem dX5_fell_63 : decode cX5_fell 63 = .ok (.iload_n 2, 1) := dk_28 (dk_at dksX5_fell_2 16 rfl rfl)
theorem dX5_fell_64 : decode cX5_fell 64 = .ok (.iconst (-1), 1) := dk_2 (dk_at dksX5_fell_2 17 rfl rfl)
theorem dX5_fell_65 : decode cX5_fell 65 = .ok (.if_icmp .eq 18, 3) := dk_159 0 18 (dk_at dksX5_fell_2 18 rfl rfl)
theorem dX5_fell_68 : decode cX5_fell 68 = .ok (.iload 4, 2) := dk_21 4 (dk_at dksX5_fell_2 21 rfl rfl)
theorem dX5_fell_70 : decode cX5_fell 70 = .ok (.invokestatic 271, 3) := dk_184 1 15 (dk_at dksX5_fell_3 0 rfl rfl)
theorem dX5_fell_73 : decode cX5_fell 73 = .ok (.iload_n 2, 1) := dk_28 (dk_at dksX5_fell_3 3 rfl rfl)
theorem dX5_fell_74 : decode cX5_fell 74 = .ok (.invokestatic 271, 3) := dk_184 1 15 (dk_at dksX5_fell_3 4 rfl rfl)
theorem dX5_fell_77 : decode cX5_fell 77 = .ok (.if_icmp .le 6, 3) := dk_164 0 6 (dk_at dksX5_fell_3 7 rfl rfl)
theorem dX5_fell_80 : decode cX5_fell 80 = .ok (.goto 28, 3) := dk_167 0 28 (dk_at dksX5_fell_3 10 rfl rfl)
theorem dX5_fell_83 : decode cX5_fell 83 = .ok (.iload_n 2, 1) := dk_28 (dk_at dksX5_fell_3 13 rfl rfl)
theorem dX5_fell_84 : decode cX5_fell 84 = .ok (.iconst (-1), 1) := dk_2 (dk_at dksX5_fell_3 14 rfl rfl)
theorem dX5_fell_85 : decode cX5_fell 85 = .ok (.if_icmp .eq 15, 3) := dk_159 0 15 (dk_at dksX5_fell_3 15 rfl rfl)
theorem dX5_fell_88 : decode cX5_fell 88 = .ok (.iload 4, 2) := dk_21 4 (dk_at dksX5_fell_3 18 rfl rfl)
theorem dX5_fell_90 : decode cX5_fell 90 = .ok (.invokestatic 271, 3) := dk_184 1 15 (dk_at dksX5_fell_3 20 rfl rfl)
theorem dX5_fell_93 : decode cX5_fell 93 = .ok (.iload_n 2, 1) := dk_28 (dk_at dksX5_fell_3 23 rfl rfl)
theorem dX5_fell_94 : decode cX5_fell 94 = .ok (.invokestatic 271, 3) := dk_184 1 15 (dk_at dksX5_fell_4 0 rfl rfl)
theorem dX5_fell_97 : decode cX5_fell 97 = .ok (.if_icmp .ge 8, 3) := dk_162 0 8 (dk_at dksX5_fell_4 3 rfl rfl)
theorem dX5_fell_100 : decode cX5_fell 100 = .ok (.iload 4, 2) := dk_21 4 (dk_at dksX5_fell_4 6 rfl rfl)
theorem dX5_fell_102 : decode cX5_fell 102 = .ok (.istore_n 2, 1) := dk_61 (dk_at dksX5_fell_4 8 rfl rfl)
theorem dX5_fell_103 : decode cX5_fell 103 = .ok (.iconst 0, 1) := dk_3 (dk_at dksX5_fell_4 9 rfl rfl)
theorem dX5_fell_104 : decode cX5_fell 104 = .ok (.istore_n 3, 1) := dk_62 (dk_at dksX5_fell_4 10 rfl rfl)
theorem dX5_fell_105 : decode cX5_fell 105 = .ok (.iinc 3 1, 3) := dk_132 3 1 (dk_at dksX5_fell_4 11 rfl rfl)
theorem dX5_fell_108 : decode cX5_fell 108 = .ok (.iinc 4 1, 3) := dk_132 4 1 (dk_at dksX5_fell_4 14 rfl rfl)
theorem dX5_fell_111 : decode cX5_fell 111 = .ok (.goto (-89), 3) := dk_167 255 167 (dk_at dksX5_fell_4 17 rfl rfl)
theorem dX5_fell_114 : decode cX5_fell 114 = .ok (.iload_n 1, 1) := dk_27 (dk_at dksX5_fell_4 20 rfl rfl)
theorem dX5_fell_115 : decode cX5_fell 115 = .ok (.ifCond .ne 10, 3) := dk_154 0 10 (dk_at dksX5_fell_4 21 rfl rfl)
theorem dX5_fell_118 : decode cX5_fell 118 = .ok (.iload_n 2, 1) := dk_28 (dk_at dksX5_fell_5 0 rfl rfl)
theorem dX5_fell_119 : decode cX5_fell 119 = .ok (.invokestatic 271, 3) := dk_184 1 15 (dk_at dksX5_fell_5 1 rfl rfl)
theorem dX5_fell_122 : decode cX5_fell 122 = .ok (.goto 13, 3) := dk_167 0 13 (dk_at dksX5_fell_5 4 rfl rfl)
theorem dX5_fell_125 : decode cX5_fell 125 = .ok (.iload_n 1, 1) := dk_27 (dk_at dksX5_fell_5 7 rfl rfl)
theorem dX5_fell_126 : decode cX5_fell 126 = .ok (.iconst 1, 1) := dk_4 (dk_at dksX5_fell_5 8 rfl rfl)
theorem dX5_fell_127 : decode cX5_fell 127 = .ok (.if_icmp .ne 7, 3) := dk_160 0 7 (dk_at dksX5_fell_5 9 rfl rfl)
theorem dX5_fell_130 : decode cX5_fell 130 = .ok (.iload_n 2, 1) := dk_28 (dk_at dksX5_fell_5 12 rfl rfl)
theorem dX5_fell_131 : decode cX5_fell 131 = .ok (.goto 4, 3) := dk_167 0 4 (dk_at dksX5_fell_5 13 rfl rfl)
theorem dX5_fell_134 : decode cX5_fell 134 = .ok (.iload_n 3, 1) := dk_29 (dk_at dksX5_fell_5 16 rfl rfl)
theorem dX5_fell_135 : decode cX5_fell 135 = .ok (.ireturn, 1) := dk_172 (dk_at dksX5_fell_5 17 rfl rfl)
abbrev cX5_gate : ByteArray := prog_25_method_84_code
def yX5_gate : MethodName := ⟨RX5, "gate", "(IIIII)I"⟩
def dkwX5_gate_10 : List UInt8 := [167, 0, 5, 21, 7, 172]
abbrev dktX5_gate_10 : List UInt8 := dkwX5_gate_10 ++ []
def dkwX5_gate_9 : List UInt8 := [184, 1, 15, 21, 7, 184, 1, 15, 100, 167, 0, 19, 21, 5, 4, 160, 0, 11, 21, 6, 184, 1, 15]
abbrev dktX5_gate_9 : List UInt8 := dkwX5_gate_9 ++ dktX5_gate_10
def dkwX5_gate_8 : List UInt8 := [21, 6, 2, 130, 126, 182, 1, 36, 54, 7, 21, 5, 154, 0, 23, 42, 180, 0, 20, 17, 0, 159, 46]
abbrev dktX5_gate_8 : List UInt8 := dkwX5_gate_8 ++ dktX5_gate_9
def dkwX5_gate_7 : List UInt8 := [120, 167, 0, 4, 3, 128, 54, 6, 132, 7, 1, 167, 255, 142, 42, 42, 180, 0, 20, 17, 0, 159, 46]
abbrev dktX5_gate_7 : List UInt8 := dkwX5_gate_7 ++ dktX5_gate_8
def dkwX5_gate_6 : List UInt8 := [21, 8, 153, 0, 26, 42, 180, 0, 20, 17, 0, 159, 46, 21, 7, 184, 1, 18, 153, 0, 10, 4, 21, 7]
abbrev dktX5_gate_6 : List UInt8 := dkwX5_gate_6 ++ dktX5_gate_7
def dkwX5_gate_5 : List UInt8 := [182, 0, 113, 42, 21, 7, 6, 182, 0, 113, 96, 28, 164, 0, 7, 4, 167, 0, 4, 3, 54, 8, 21, 6]
abbrev dktX5_gate_5 : List UInt8 := dkwX5_gate_5 ++ dktX5_gate_6
def dkwX5_gate_4 : List UInt8 := [182, 0, 113, 96, 27, 164, 0, 38, 42, 21, 7, 4, 182, 0, 113, 21, 4, 163, 0, 26, 42, 21, 7, 4]
abbrev dktX5_gate_4 : List UInt8 := dkwX5_gate_4 ++ dktX5_gate_5
def dkwX5_gate_3 : List UInt8 := [42, 21, 7, 3, 182, 0, 113, 29, 163, 0, 57, 42, 21, 7, 3, 182, 0, 113, 42, 21, 7, 5]
abbrev dktX5_gate_3 : List UInt8 := dkwX5_gate_3 ++ dktX5_gate_4
def dkwX5_gate_2 : List UInt8 := [154, 0, 5, 2, 172, 42, 182, 1, 27, 3, 54, 6, 3, 54, 7, 21, 7, 42, 182, 0, 102, 162, 0, 111]
abbrev dktX5_gate_2 : List UInt8 := dkwX5_gate_2 ++ dktX5_gate_3
def dkwX5_gate_1 : List UInt8 := [184, 0, 91, 153, 0, 24, 21, 4, 28, 16, 7, 184, 0, 91, 153, 0, 13, 21, 5, 3, 5, 184, 0, 91]
abbrev dktX5_gate_1 : List UInt8 := dkwX5_gate_1 ++ dktX5_gate_2
def dkwX5_gate_0 : List UInt8 := [27, 3, 16, 11, 184, 0, 91, 153, 0, 44, 29, 27, 16, 11, 184, 0, 91, 153, 0, 34, 28, 3, 16, 7]
abbrev dktX5_gate_0 : List UInt8 := dkwX5_gate_0 ++ dktX5_gate_1
theorem dksX5_gate_0 : cX5_gate.data.toList.drop 0 = dktX5_gate_0 := by decide +kernel
theorem dksX5_gate_1 : cX5_gate.data.toList.drop 24 = dktX5_gate_1 := dk_seg dksX5_gate_0 24 rfl rfl
theorem dksX5_gate_2 : cX5_gate.data.toList.drop 48 = dktX5_gate_2 := dk_seg dksX5_gate_1 24 rfl rfl
theorem dksX5_gate_3 : cX5_gate.data.toList.drop 72 = dktX5_gate_3 := dk_seg dksX5_gate_2 24 rfl rfl
theorem dksX5_gate_4 : cX5_gate.data.toList.drop 94 = dktX5_gate_4 := dk_seg dksX5_gate_3 22 rfl rfl
theorem dksX5_gate_5 : cX5_gate.data.toList.drop 118 = dktX5_gate_5 := dk_seg dksX5_gate_4 24 rfl rfl
theorem dksX5_gate_6 : cX5_gate.data.toList.drop 142 = dktX5_gate_6 := dk_seg dksX5_gate_5 24 rfl rfl
theorem dksX5_gate_7 : cX5_gate.data.toList.drop 166 = dktX5_gate_7 := dk_seg dksX5_gate_6 24 rfl rfl
theorem dksX5_gate_8 : cX5_gate.data.toList.drop 189 = dktX5_gate_8 := dk_seg dksX5_gate_7 23 rfl rfl
theorem dksX5_gate_9 : cX5_gate.data.toList.drop 212 = dktX5_gate_9 := dk_seg dksX5_gate_8 23 rfl rfl
theorem dksX5_gate_10 : cX5_gate.data.toList.drop 235 = dktX5_gate_10 := dk_seg dksX5_gate_9 23 rfl rfl
theorem dX5_gate_0 : decode cX5_gate 0 = .ok (.iload_n 1, 1) := dk_27 (dk_at dksX5_gate_0 0 rfl rfl)
theorem dX5_gate_1 : decode cX5_gate 1 = .ok (.iconst 0, 1) := dk_3 (dk_at dksX5_gate_0 1 rfl rfl)
theorem dX5_gate_2 : decode cX5_gate 2 = .ok (.bipush 11, 2) := dk_16 11 (dk_at dksX5_gate_0 2 rfl rfl)
theorem dX5_gate_4 : decode cX5_gate 4 = .ok (.invokestatic 91, 3) := dk_184 0 91 (dk_at dksX5_gate_0 4 rfl rfl)
theorem dX5_gate_7 : decode cX5_gate 7 = .ok (.ifCond .eq 44, 3) := dk_153 0 44 (dk_at dksX5_gate_0 7 rfl rfl)
theorem dX5_gate_10 : decode cX5_gate 10 = .ok (.iload_n 3, 1) := dk_29 (dk_at dksX5_gate_0 10 rfl rfl)
theorem dX5_gate_11 : decode cX5_gate 11 = .ok (.iload_n 1, 1) := dk_27 (dk_at dksX5_gate_0 11 rfl rfl)
theorem dX5_gate_12 : decode cX5_gate 12 = .ok (.bipush 11, 2) := dk_16 11 (dk_at dksX5_gate_0 12 rfl rfl)
theorem dX5_gate_14 : decode cX5_gate 14 = .ok (.invokestatic 91, 3) := dk_184 0 91 (dk_at dksX5_gate_0 14 rfl rfl)
theorem dX5_gate_17 : decode cX5_gate 17 = .ok (.ifCond .eq 34, 3) := dk_153 0 34 (dk_at dksX5_gate_0 17 rfl rfl)
theorem dX5_gate_20 : decode cX5_gate 20 = .ok (.iload_n 2, 1) := dk_28 (dk_at dksX5_gate_0 20 rfl rfl)
theorem dX5_gate_21 : decode cX5_gate 21 = .ok (.iconst 0, 1) := dk_3 (dk_at dksX5_gate_0 21 rfl rfl)
theorem dX5_gate_22 : decode cX5_gate 22 = .ok (.bipush 7, 2) := dk_16 7 (dk_at dksX5_gate_0 22 rfl rfl)
theorem dX5_gate_24 : decode cX5_gate 24 = .ok (.invokestatic 91, 3) := dk_184 0 91 (dk_at dksX5_gate_1 0 rfl rfl)
theorem dX5_gate_27 : decode cX5_gate 27 = .ok (.ifCond .eq 24, 3) := dk_153 0 24 (dk_at dksX5_gate_1 3 rfl rfl)
theorem dX5_gate_30 : decode cX5_gate 30 = .ok (.iload 4, 2) := dk_21 4 (dk_at dksX5_gate_1 6 rfl rfl)
theorem dX5_gate_32 : decode cX5_gate 32 = .ok (.iload_n 2, 1) := dk_28 (dk_at dksX5_gate_1 8 rfl rfl)
theorem dX5_gate_33 : decode cX5_gate 33 = .ok (.bipush 7, 2) := dk_16 7 (dk_at dksX5_gate_1 9 rfl rfl)
theorem dX5_gate_35 : decode cX5_gate 35 = .ok (.invokestatic 91, 3) := dk_184 0 91 (dk_at dksX5_gate_1 11 rfl rfl)
theorem dX5_gate_38 : decode cX5_gate 38 = .ok (.ifCond .eq 13, 3) := dk_153 0 13 (dk_at dksX5_gate_1 14 rfl rfl)
theorem dX5_gate_41 : decode cX5_gate 41 = .ok (.iload 5, 2) := dk_21 5 (dk_at dksX5_gate_1 17 rfl rfl)
theorem dX5_gate_43 : decode cX5_gate 43 = .ok (.iconst 0, 1) := dk_3 (dk_at dksX5_gate_1 19 rfl rfl)
theorem dX5_gate_44 : decode cX5_gate 44 = .ok (.iconst 2, 1) := dk_5 (dk_at dksX5_gate_1 20 rfl rfl)
theorem dX5_gate_45 : decode cX5_gate 45 = .ok (.invokestatic 91, 3) := dk_184 0 91 (dk_at dksX5_gate_1 21 rfl rfl)
theorem dX5_gate_48 : decode cX5_gate 48 = .ok (.ifCond .ne 5, 3) := dk_154 0 5 (dk_at dksX5_gate_2 0 rfl rfl)
theorem dX5_gate_51 : decode cX5_gate 51 = .ok (.iconst (-1), 1) := dk_2 (dk_at dksX5_gate_2 3 rfl rfl)
theorem dX5_gate_52 : decode cX5_gate 52 = .ok (.ireturn, 1) := dk_172 (dk_at dksX5_gate_2 4 rfl rfl)
theorem dX5_gate_53 : decode cX5_gate 53 = .ok (.aload_n 0, 1) := dk_42 (dk_at dksX5_gate_2 5 rfl rfl)
theorem dX5_gate_54 : decode cX5_gate 54 = .ok (.invokevirtual 283, 3) := dk_182 1 27 (dk_at dksX5_gate_2 6 rfl rfl)
theorem dX5_gate_57 : decode cX5_gate 57 = .ok (.iconst 0, 1) := dk_3 (dk_at dksX5_gate_2 9 rfl rfl)
theorem dX5_gate_58 : decode cX5_gate 58 = .ok (.istore 6, 2) := dk_54 6 (dk_at dksX5_gate_2 10 rfl rfl)
theorem dX5_gate_60 : decode cX5_gate 60 = .ok (.iconst 0, 1) := dk_3 (dk_at dksX5_gate_2 12 rfl rfl)
theorem dX5_gate_61 : decode cX5_gate 61 = .ok (.istore 7, 2) := dk_54 7 (dk_at dksX5_gate_2 13 rfl rfl)
theorem dX5_gate_63 : decode cX5_gate 63 = .ok (.iload 7, 2) := dk_21 7 (dk_at dksX5_gate_2 15 rfl rfl)
theorem dX5_gate_65 : decode cX5_gate 65 = .ok (.aload_n 0, 1) := dk_42 (dk_at dksX5_gate_2 17 rfl rfl)
theorem dX5_gate_66 : decode cX5_gate 66 = .ok (.invokevirtual 102, 3) := dk_182 0 102 (dk_at dksX5_gate_2 18 rfl rfl)
theorem dX5_gate_69 : decode cX5_gate 69 = .ok (.if_icmp .ge 111, 3) := dk_162 0 111 (dk_at dksX5_gate_2 21 rfl rfl)
theorem dX5_gate_72 : decode cX5_gate 72 = .ok (.aload_n 0, 1) := dk_42 (dk_at dksX5_gate_3 0 rfl rfl)
theorem dX5_gate_73 : decode cX5_gate 73 = .ok (.iload 7, 2) := dk_21 7 (dk_at dksX5_gate_3 1 rfl rfl)
theorem dX5_gate_75 : decode cX5_gate 75 = .ok (.iconst 0, 1) := dk_3 (dk_at dksX5_gate_3 3 rfl rfl)
theorem dX5_gate_76 : decode cX5_gate 76 = .ok (.invokevirtual 113, 3) := dk_182 0 113 (dk_at dksX5_gate_3 4 rfl rfl)
theorem dX5_gate_79 : decode cX5_gate 79 = .ok (.iload_n 3, 1) := dk_29 (dk_at dksX5_gate_3 7 rfl rfl)
theorem dX5_gate_80 : decode cX5_gate 80 = .ok (.if_icmp .gt 57, 3) := dk_163 0 57 (dk_at dksX5_gate_3 8 rfl rfl)
theorem dX5_gate_83 : decode cX5_gate 83 = .ok (.aload_n 0, 1) := dk_42 (dk_at dksX5_gate_3 11 rfl rfl)
theorem dX5_gate_84 : decode cX5_gate 84 = .ok (.iload 7, 2) := dk_21 7 (dk_at dksX5_gate_3 12 rfl rfl)
theorem dX5_gate_86 : decode cX5_gate 86 = .ok (.iconst 0, 1) := dk_3 (dk_at dksX5_gate_3 14 rfl rfl)
theorem dX5_gate_87 : decode cX5_gate 87 = .ok (.invokevirtual 113, 3) := dk_182 0 113 (dk_at dksX5_gate_3 15 rfl rfl)
theorem dX5_gate_90 : decode cX5_gate 90 = .ok (.aload_n 0, 1) := dk_42 (dk_at dksX5_gate_3 18 rfl rfl)
theorem dX5_gate_91 : decode cX5_gate 91 = .ok (.iload 7, 2) := dk_21 7 (dk_at dksX5_gate_3 19 rfl rfl)
theorem dX5_gate_93 : decode cX5_gate 93 = .ok (.iconst 2, 1) := dk_5 (dk_at dksX5_gate_3 21 rfl rfl)
theorem dX5_gate_94 : decode cX5_gate 94 = .ok (.invokevirtual 113, 3) := dk_182 0 113 (dk_at dksX5_gate_4 0 rfl rfl)
theorem dX5_gate_97 : decode cX5_gate 97 = .ok (.iadd, 1) := dk_96 (dk_at dksX5_gate_4 3 rfl rfl)
theorem dX5_gate_98 : decode cX5_gate 98 = .ok (.iload_n 1, 1) := dk_27 (dk_at dksX5_gate_4 4 rfl rfl)
theorem dX5_gate_99 : decode cX5_gate 99 = .ok (.if_icmp .le 38, 3) := dk_164 0 38 (dk_at dksX5_gate_4 5 rfl rfl)
theorem dX5_gate_102 : decode cX5_gate 102 = .ok (.aload_n 0, 1) := dk_42 (dk_at dksX5_gate_4 8 rfl rfl)
theorem dX5_gate_103 : decode cX5_gate 103 = .ok (.iload 7, 2) := dk_21 7 (dk_at dksX5_gate_4 9 rfl rfl)
theorem dX5_gate_105 : decode cX5_gate 105 = .ok (.iconst 1, 1) := dk_4 (dk_at dksX5_gate_4 11 rfl rfl)
theorem dX5_gate_106 : decode cX5_gate 106 = .ok (.invokevirtual 113, 3) := dk_182 0 113 (dk_at dksX5_gate_4 12 rfl rfl)
theorem dX5_gate_109 : decode cX5_gate 109 = .ok (.iload 4, 2) := dk_21 4 (dk_at dksX5_gate_4 15 rfl rfl)
theorem dX5_gate_111 : decode cX5_gate 111 = .ok (.if_icmp .gt 26, 3) := dk_163 0 26 (dk_at dksX5_gate_4 17 rfl rfl)
theorem dX5_gate_114 : decode cX5_gate 114 = .ok (.aload_n 0, 1) := dk_42 (dk_at dksX5_gate_4 20 rfl rfl)
theorem dX5_gate_115 : decode cX5_gate 115 = .ok (.iload 7, 2) := dk_21 7 (dk_at dksX5_gate_4 21 rfl rfl)
theorem dX5_gate_117 : decode cX5_gate 117 = .ok (.iconst 1, 1) := dk_4 (dk_at dksX5_gate_4 23 rfl rfl)
theorem dX5_gate_118 : decode cX5_gate 118 = .ok (.invokevirtual 113, 3) := dk_182 0 113 (dk_at dksX5_gate_5 0 rfl rfl)
theorem dX5_gate_121 : decode cX5_gate 121 = .ok (.aload_n 0, 1) := dk_42 (dk_at dksX5_gate_5 3 rfl rfl)
theorem dX5_gate_122 : decode cX5_gate 122 = .ok (.iload 7, 2) := dk_21 7 (dk_at dksX5_gate_5 4 rfl rfl)
theorem dX5_gate_124 : decode cX5_gate 124 = .ok (.iconst 3, 1) := dk_6 (dk_at dksX5_gate_5 6 rfl rfl)
theorem dX5_gate_125 : decode cX5_gate 125 = .ok (.invokevirtual 113, 3) := dk_182 0 113 (dk_at dksX5_gate_5 7 rfl rfl)
theorem dX5_gate_128 : decode cX5_gate 128 = .ok (.iadd, 1) := dk_96 (dk_at dksX5_gate_5 10 rfl rfl)
theorem dX5_gate_129 : decode cX5_gate 129 = .ok (.iload_n 2, 1) := dk_28 (dk_at dksX5_gate_5 11 rfl rfl)
theorem dX5_gate_130 : decode cX5_gate 130 = .ok (.if_icmp .le 7, 3) := dk_164 0 7 (dk_at dksX5_gate_5 12 rfl rfl)
theorem dX5_gate_133 : decode cX5_gate 133 = .ok (.iconst 1, 1) := dk_4 (dk_at dksX5_gate_5 15 rfl rfl)
theorem dX5_gate_134 : decode cX5_gate 134 = .ok (.goto 4, 3) := dk_167 0 4 (dk_at dksX5_gate_5 16 rfl rfl)
theorem dX5_gate_137 : decode cX5_gate 137 = .ok (.iconst 0, 1) := dk_3 (dk_at dksX5_gate_5 19 rfl rfl)
theorem dX5_gate_138 : decode cX5_gate 138 = .ok (.istore 8, 2) := dk_54 8 (dk_at dksX5_gate_5 20 rfl rfl)
theorem dX5_gate_140 : decode cX5_gate 140 = .ok (.iload 6, 2) := dk_21 6 (dk_at dksX5_gate_5 22 rfl rfl)
theorem dX5_gate_142 : decode cX5_gate 142 = .ok (.iload 8, 2) := dk_21 8 (dk_at dksX5_gate_6 0 rfl rfl)
theorem dX5_gate_144 : decode cX5_gate 144 = .ok (.ifCond .eq 26, 3) := dk_153 0 26 (dk_at dksX5_gate_6 2 rfl rfl)
theorem dX5_gate_147 : decode cX5_gate 147 = .ok (.aload_n 0, 1) := dk_42 (dk_at dksX5_gate_6 5 rfl rfl)
theorem dX5_gate_148 : decode cX5_gate 148 = .ok (.getfield 20, 3) := dk_180 0 20 (dk_at dksX5_gate_6 6 rfl rfl)
theorem dX5_gate_151 : decode cX5_gate 151 = .ok (.sipush 159, 3) := dk_17 0 159 (dk_at dksX5_gate_6 9 rfl rfl)
theorem dX5_gate_154 : decode cX5_gate 154 = .ok (.iaload, 1) := dk_46 (dk_at dksX5_gate_6 12 rfl rfl)
theorem dX5_gate_155 : decode cX5_gate 155 = .ok (.iload 7, 2) := dk_21 7 (dk_at dksX5_gate_6 13 rfl rfl)
theorem dX5_gate_157 : decode cX5_gate 157 = .ok (.invokestatic 274, 3) := dk_184 1 18 (dk_at dksX5_gate_6 15 rfl rfl)
theorem dX5_gate_160 : decode cX5_gate 160 = .ok (.ifCond .eq 10, 3) := dk_153 0 10 (dk_at dksX5_gate_6 18 rfl rfl)
theorem dX5_gate_163 : decode cX5_gate 163 = .ok (.iconst 1, 1) := dk_4 (dk_at dksX5_gate_6 21 rfl rfl)
theorem dX5_gate_164 : decode cX5_gate 164 = .ok (.iload 7, 2) := dk_21 7 (dk_at dksX5_gate_6 22 rfl rfl)
theorem dX5_gate_166 : decode cX5_gate 166 = .ok (.ishl, 1) := dk_120 (dk_at dksX5_gate_7 0 rfl rfl)
theorem dX5_gate_167 : decode cX5_gate 167 = .ok (.goto 4, 3) := dk_167 0 4 (dk_at dksX5_gate_7 1 rfl rfl)
theorem dX5_gate_170 : decode cX5_gate 170 = .ok (.iconst 0, 1) := dk_3 (dk_at dksX5_gate_7 4 rfl rfl)
theorem dX5_gate_171 : decode cX5_gate 171 = .ok (.ior, 1) := dk_128 (dk_at dksX5_gate_7 5 rfl rfl)
theorem dX5_gate_172 : decode cX5_gate 172 = .ok (.istore 6, 2) := dk_54 6 (dk_at dksX5_gate_7 6 rfl rfl)
theorem dX5_gate_174 : decode cX5_gate 174 = .ok (.iinc 7 1, 3) := dk_132 7 1 (dk_at dksX5_gate_7 8 rfl rfl)
theorem dX5_gate_177 : decode cX5_gate 177 = .ok (.goto (-114), 3) := dk_167 255 142 (dk_at dksX5_gate_7 11 rfl rfl)
theorem dX5_gate_180 : decode cX5_gate 180 = .ok (.aload_n 0, 1) := dk_42 (dk_at dksX5_gate_7 14 rfl rfl)
theorem dX5_gate_181 : decode cX5_gate 181 = .ok (.aload_n 0, 1) := dk_42 (dk_at dksX5_gate_7 15 rfl rfl)
theorem dX5_gate_182 : decode cX5_gate 182 = .ok (.getfield 20, 3) := dk_180 0 20 (dk_at dksX5_gate_7 16 rfl rfl)
theorem dX5_gate_185 : decode cX5_gate 185 = .ok (.sipush 159, 3) := dk_17 0 159 (dk_at dksX5_gate_7 19 rfl rfl)
theorem dX5_gate_188 : decode cX5_gate 188 = .ok (.iaload, 1) := dk_46 (dk_at dksX5_gate_7 22 rfl rfl)
theorem dX5_gate_189 : decode cX5_gate 189 = .ok (.iload 6, 2) := dk_21 6 (dk_at dksX5_gate_8 0 rfl rfl)
theorem dX5_gate_191 : decode cX5_gate 191 = .ok (.iconst (-1), 1) := dk_2 (dk_at dksX5_gate_8 2 rfl rfl)
theorem dX5_gate_192 : decode cX5_gate 192 = .ok (.ixor, 1) := dk_130 (dk_at dksX5_gate_8 3 rfl rfl)
theorem dX5_gate_193 : decode cX5_gate 193 = .ok (.iand, 1) := dk_126 (dk_at dksX5_gate_8 4 rfl rfl)
theorem dX5_gate_194 : decode cX5_gate 194 = .ok (.invokevirtual 292, 3) := dk_182 1 36 (dk_at dksX5_gate_8 5 rfl rfl)
theorem dX5_gate_197 : decode cX5_gate 197 = .ok (.istore 7, 2) := dk_54 7 (dk_at dksX5_gate_8 8 rfl rfl)
theorem dX5_gate_199 : decode cX5_gate 199 = .ok (.iload 5, 2) := dk_21 5 (dk_at dksX5_gate_8 10 rfl rfl)
theorem dX5_gate_201 : decode cX5_gate 201 = .ok (.ifCond .ne 23, 3) := dk_154 0 23 (dk_at dksX5_gate_8 12 rfl rfl)
theorem dX5_gate_204 : decode cX5_gate 204 = .ok (.aload_n 0, 1) := dk_42 (dk_at dksX5_gate_8 15 rfl rfl)
theorem dX5_gate_205 : decode cX5_gate 205 = .ok (.getfield 20, 3) := dk_180 0 20 (dk_at dksX5_gate_8 16 rfl rfl)
theorem dX5_gate_208 : decode cX5_gate 208 = .ok (.sipush 159, 3) := dk_17 0 159 (dk_at dksX5_gate_8 19 rfl rfl)
theorem dX5_gate_211 : decode cX5_gate 211 = .ok (.iaload, 1) := dk_46 (dk_at dksX5_gate_8 22 rfl rfl)
theorem dX5_gate_212 : decode cX5_gate 212 = .ok (.invokestatic 271, 3) := dk_184 1 15 (dk_at dksX5_gate_9 0 rfl rfl)
theorem dX5_gate_215 : decode cX5_gate 215 = .ok (.iload 7, 2) := dk_21 7 (dk_at dksX5_gate_9 3 rfl rfl)
theorem dX5_gate_217 : decode cX5_gate 217 = .ok (.invokestatic 271, 3) := dk_184 1 15 (dk_at dksX5_gate_9 5 rfl rfl)
theorem dX5_gate_220 : decode cX5_gate 220 = .ok (.isub, 1) := dk_100 (dk_at dksX5_gate_9 8 rfl rfl)
theorem dX5_gate_221 : decode cX5_gate 221 = .ok (.goto 19, 3) := dk_167 0 19 (dk_at dksX5_gate_9 9 rfl rfl)
theorem dX5_gate_224 : decode cX5_gate 224 = .ok (.iload 5, 2) := dk_21 5 (dk_at dksX5_gate_9 12 rfl rfl)
theorem dX5_gate_226 : decode cX5_gate 226 = .ok (.iconst 1, 1) := dk_4 (dk_at dksX5_gate_9 14 rfl rfl)
theorem dX5_gate_227 : decode cX5_gate 227 = .ok (.if_icmp .ne 11, 3) := dk_160 0 11 (dk_at dksX5_gate_9 15 rfl rfl)
theorem dX5_gate_230 : decode cX5_gate 230 = .ok (.iload 6, 2) := dk_21 6 (dk_at dksX5_gate_9 18 rfl rfl)
theorem dX5_gate_232 : decode cX5_gate 232 = .ok (.invokestatic 271, 3) := dk_184 1 15 (dk_at dksX5_gate_9 20 rfl rfl)
theorem dX5_gate_235 : decode cX5_gate 235 = .ok (.goto 5, 3) := dk_167 0 5 (dk_at dksX5_gate_10 0 rfl rfl)
theorem dX5_gate_238 : decode cX5_gate 238 = .ok (.iload 7, 2) := dk_21 7 (dk_at dksX5_gate_10 3 rfl rfl)
theorem dX5_gate_240 : decode cX5_gate 240 = .ok (.ireturn, 1) := dk_172 (dk_at dksX5_gate_10 5 rfl rfl)
abbrev cX5_mend : ByteArray := prog_25_method_85_code
def yX5_mend : MethodName := ⟨RX5, "mend", "(I)I"⟩
def dkwX5_mend_6 : List UInt8 := [184, 1, 15, 172]
abbrev dktX5_mend_6 : List UInt8 := dkwX5_mend_6 ++ []
def dkwX5_mend_5 : List UInt8 := [160, 0, 7, 29, 167, 0, 21, 28, 2, 159, 0, 8, 27, 4, 160, 0, 7, 28, 167, 0, 7, 28]
abbrev dktX5_mend_5 : List UInt8 := dkwX5_mend_5 ++ dktX5_mend_6
def dkwX5_mend_4 : List UInt8 := [184, 1, 15, 162, 0, 8, 21, 4, 61, 3, 62, 132, 3, 1, 132, 4, 1, 167, 255, 167, 27, 5]
abbrev dktX5_mend_4 : List UInt8 := dkwX5_mend_4 ++ dktX5_mend_5
def dkwX5_mend_3 : List UInt8 := [184, 1, 15, 28, 184, 1, 15, 164, 0, 6, 167, 0, 28, 28, 2, 159, 0, 15, 21, 4, 184, 1, 15, 28]
abbrev dktX5_mend_3 : List UInt8 := dkwX5_mend_3 ++ dktX5_mend_4
def dkwX5_mend_2 : List UInt8 := [54, 5, 21, 5, 153, 0, 57, 42, 21, 5, 182, 1, 24, 154, 0, 48, 28, 2, 159, 0, 18, 21, 4]
abbrev dktX5_mend_2 : List UInt8 := dkwX5_mend_2 ++ dktX5_mend_3
def dkwX5_mend_1 : List UInt8 := [4, 42, 182, 0, 110, 120, 162, 0, 84, 42, 180, 0, 20, 17, 0, 159, 46, 21, 4, 16, 14, 120, 128]
abbrev dktX5_mend_1 : List UInt8 := dkwX5_mend_1 ++ dktX5_mend_2
def dkwX5_mend_0 : List UInt8 := [27, 3, 5, 184, 0, 91, 154, 0, 5, 2, 172, 42, 182, 1, 27, 2, 61, 3, 62, 3, 54, 4, 21, 4]
abbrev dktX5_mend_0 : List UInt8 := dkwX5_mend_0 ++ dktX5_mend_1
theorem dksX5_mend_0 : cX5_mend.data.toList.drop 0 = dktX5_mend_0 := by decide +kernel
theorem dksX5_mend_1 : cX5_mend.data.toList.drop 24 = dktX5_mend_1 := dk_seg dksX5_mend_0 24 rfl rfl
theorem dksX5_mend_2 : cX5_mend.data.toList.drop 47 = dktX5_mend_2 := dk_seg dksX5_mend_1 23 rfl rfl
theorem dksX5_mend_3 : cX5_mend.data.toList.drop 70 = dktX5_mend_3 := dk_seg dksX5_mend_2 23 rfl rfl
theorem dksX5_mend_4 : cX5_mend.data.toList.drop 94 = dktX5_mend_4 := dk_seg dksX5_mend_3 24 rfl rfl
theorem dksX5_mend_5 : cX5_mend.data.toList.drop 116 = dktX5_mend_5 := dk_seg dksX5_mend_4 22 rfl rfl
theorem dksX5_mend_6 : cX5_mend.data.toList.drop 138 = dktX5_mend_6 := dk_seg dksX5_mend_5 22 rfl rfl
theorem dX5_mend_0 : decode cX5_mend 0 = .ok (.iload_n 1, 1) := dk_27 (dk_at dksX5_mend_0 0 rfl rfl)
theorem dX5_mend_1 : decode cX5_mend 1 = .ok (.iconst 0, 1) := dk_3 (dk_at dksX5_mend_0 1 rfl rfl)
theorem dX5_mend_2 : decode cX5_mend 2 = .ok (.iconst 2, 1) := dk_5 (dk_at dksX5_mend_0 2 rfl rfl)
theorem dX5_mend_3 : decode cX5_mend 3 = .ok (.invokestatic 91, 3) := dk_184 0 91 (dk_at dksX5_mend_0 3 rfl rfl)
theorem dX5_mend_6 : decode cX5_mend 6 = .ok (.ifCond .ne 5, 3) := dk_154 0 5 (dk_at dksX5_mend_0 6 rfl rfl)
theorem dX5_mend_9 : decode cX5_mend 9 = .ok (.iconst (-1), 1) := dk_2 (dk_at dksX5_mend_0 9 rfl rfl)
theorem dX5_mend_10 : decode cX5_mend 10 = .ok (.ireturn, 1) := dk_172 (dk_at dksX5_mend_0 10 rfl rfl)
theorem dX5_mend_11 : decode cX5_mend 11 = .ok (.aload_n 0, 1) := dk_42 (dk_at dksX5_mend_0 11 rfl rfl)
theorem dX5_mend_12 : decode cX5_mend 12 = .ok (.invokevirtual 283, 3) := dk_182 1 27 (dk_at dksX5_mend_0 12 rfl rfl)
theorem dX5_mend_15 : decode cX5_mend 15 = .ok (.iconst (-1), 1) := dk_2 (dk_at dksX5_mend_0 15 rfl rfl)
theorem dX5_mend_16 : decode cX5_mend 16 = .ok (.istore_n 2, 1) := dk_61 (dk_at dksX5_mend_0 16 rfl rfl)
theorem dX5_mend_17 : decode cX5_mend 17 = .ok (.iconst 0, 1) := dk_3 (dk_at dksX5_mend_0 17 rfl rfl)
theorem dX5_mend_18 : decode cX5_mend 18 = .ok (.istore_n 3, 1) := dk_62 (dk_at dksX5_mend_0 18 rfl rfl)
theorem dX5_mend_19 : decode cX5_mend 19 = .ok (.iconst 0, 1) := dk_3 (dk_at dksX5_mend_0 19 rfl rfl)
theorem dX5_mend_20 : decode cX5_mend 20 = .ok (.istore 4, 2) := dk_54 4 (dk_at dksX5_mend_0 20 rfl rfl)
theorem dX5_mend_22 : decode cX5_mend 22 = .ok (.iload 4, 2) := dk_21 4 (dk_at dksX5_mend_0 22 rfl rfl)
theorem dX5_mend_24 : decode cX5_mend 24 = .ok (.iconst 1, 1) := dk_4 (dk_at dksX5_mend_1 0 rfl rfl)
theorem dX5_mend_25 : decode cX5_mend 25 = .ok (.aload_n 0, 1) := dk_42 (dk_at dksX5_mend_1 1 rfl rfl)
theorem dX5_mend_26 : decode cX5_mend 26 = .ok (.invokevirtual 110, 3) := dk_182 0 110 (dk_at dksX5_mend_1 2 rfl rfl)
theorem dX5_mend_29 : decode cX5_mend 29 = .ok (.ishl, 1) := dk_120 (dk_at dksX5_mend_1 5 rfl rfl)
theorem dX5_mend_30 : decode cX5_mend 30 = .ok (.if_icmp .ge 84, 3) := dk_162 0 84 (dk_at dksX5_mend_1 6 rfl rfl)
theorem dX5_mend_33 : decode cX5_mend 33 = .ok (.aload_n 0, 1) := dk_42 (dk_at dksX5_mend_1 9 rfl rfl)
theorem dX5_mend_34 : decode cX5_mend 34 = .ok (.getfield 20, 3) := dk_180 0 20 (dk_at dksX5_mend_1 10 rfl rfl)
theorem dX5_mend_37 : decode cX5_mend 37 = .ok (.sipush 159, 3) := dk_17 0 159 (dk_at dksX5_mend_1 13 rfl rfl)
theorem dX5_mend_40 : decode cX5_mend 40 = .ok (.iaload, 1) := dk_46 (dk_at dksX5_mend_1 16 rfl rfl)
theorem dX5_mend_41 : decode cX5_mend 41 = .ok (.iload 4, 2) := dk_21 4 (dk_at dksX5_mend_1 17 rfl rfl)
theorem dX5_mend_43 : decode cX5_mend 43 = .ok (.bipush 14, 2) := dk_16 14 (dk_at dksX5_mend_1 19 rfl rfl)
theorem dX5_mend_45 : decode cX5_mend 45 = .ok (.ishl, 1) := dk_120 (dk_at dksX5_mend_1 21 rfl rfl)
theorem dX5_mend_46 : decode cX5_mend 46 = .ok (.ior, 1) := dk_128 (dk_at dksX5_mend_1 22 rfl rfl)
theorem dX5_mend_47 : decode cX5_mend 47 = .ok (.istore 5, 2) := dk_54 5 (dk_at dksX5_mend_2 0 rfl rfl)
theorem dX5_mend_49 : decode cX5_mend 49 = .ok (.iload 5, 2) := dk_21 5 (dk_at dksX5_mend_2 2 rfl rfl)
theorem dX5_mend_51 : decode cX5_mend 51 = .ok (.ifCond .eq 57, 3) := dk_153 0 57 (dk_at dksX5_mend_2 4 rfl rfl)
theorem dX5_mend_54 : decode cX5_mend 54 = .ok (.aload_n 0, 1) := dk_42 (dk_at dksX5_mend_2 7 rfl rfl)
theorem dX5_mend_55 : decode cX5_mend 55 = .ok (.iload 5, 2) := dk_21 5 (dk_at dksX5_mend_2 8 rfl rfl)
theorem dX5_mend_57 : decode cX5_mend 57 = .ok (.invokevirtual 280, 3) := dk_182 1 24 (dk_at dksX5_mend_2 10 rfl rfl)
theorem dX5_mend_60 : decode cX5_mend 60 = .ok (.ifCond .ne 48, 3) := dk_154 0 48 (dk_at dksX5_mend_2 13 rfl rfl)
theorem dX5_mend_63 : decode cX5_mend 63 = .ok (.iload_n 2, 1) := dk_28 (dk_at dksX5_mend_2 16 rfl rfl)
theorem dX5_mend_64 : decode cX5_mend 64 = .ok (.iconst (-1), 1) := dk_2 (dk_at dksX5_mend_2 17 rfl rfl)
theorem dX5_mend_65 : decode cX5_mend 65 = .ok (.if_icmp .eq 18, 3) := dk_159 0 18 (dk_at dksX5_mend_2 18 rfl rfl)
theorem dX5_mend_68 : decode cX5_mend 68 = .ok (.iload 4, 2) := dk_21 4 (dk_at dksX5_mend_2 21 rfl rfl)
theorem dX5_mend_70 : decode cX5_mend 70 = .ok (.invokestatic 271, 3) := dk_184 1 15 (dk_at dksX5_mend_3 0 rfl rfl)
theorem dX5_mend_73 : decode cX5_mend 73 = .ok (.iload_n 2, 1) := dk_28 (dk_at dksX5_mend_3 3 rfl rfl)
theorem dX5_mend_74 : decode cX5_mend 74 = .ok (.invokestatic 271, 3) := dk_184 1 15 (dk_at dksX5_mend_3 4 rfl rfl)
theorem dX5_mend_77 : decode cX5_mend 77 = .ok (.if_icmp .le 6, 3) := dk_164 0 6 (dk_at dksX5_mend_3 7 rfl rfl)
theorem dX5_mend_80 : decode cX5_mend 80 = .ok (.goto 28, 3) := dk_167 0 28 (dk_at dksX5_mend_3 10 rfl rfl)
theorem dX5_mend_83 : decode cX5_mend 83 = .ok (.iload_n 2, 1) := dk_28 (dk_at dksX5_mend_3 13 rfl rfl)
theorem dX5_mend_84 : decode cX5_mend 84 = .ok (.iconst (-1), 1) := dk_2 (dk_at dksX5_mend_3 14 rfl rfl)
theorem dX5_mend_85 : decode cX5_mend 85 = .ok (.if_icmp .eq 15, 3) := dk_159 0 15 (dk_at dksX5_mend_3 15 rfl rfl)
theorem dX5_mend_88 : decode cX5_mend 88 = .ok (.iload 4, 2) := dk_21 4 (dk_at dksX5_mend_3 18 rfl rfl)
theorem dX5_mend_90 : decode cX5_mend 90 = .ok (.invokestatic 271, 3) := dk_184 1 15 (dk_at dksX5_mend_3 20 rfl rfl)
theorem dX5_mend_93 : decode cX5_mend 93 = .ok (.iload_n 2, 1) := dk_28 (dk_at dksX5_mend_3 23 rfl rfl)
theorem dX5_mend_94 : decode cX5_mend 94 = .ok (.invokestatic 271, 3) := dk_184 1 15 (dk_at dksX5_mend_4 0 rfl rfl)
theorem dX5_mend_97 : decode cX5_mend 97 = .ok (.if_icmp .ge 8, 3) := dk_162 0 8 (dk_at dksX5_mend_4 3 rfl rfl)
theorem dX5_mend_100 : decode cX5_mend 100 = .ok (.iload 4, 2) := dk_21 4 (dk_at dksX5_mend_4 6 rfl rfl)
theorem dX5_mend_102 : decode cX5_mend 102 = .ok (.istore_n 2, 1) := dk_61 (dk_at dksX5_mend_4 8 rfl rfl)
theorem dX5_mend_103 : decode cX5_mend 103 = .ok (.iconst 0, 1) := dk_3 (dk_at dksX5_mend_4 9 rfl rfl)
theorem dX5_mend_104 : decode cX5_mend 104 = .ok (.istore_n 3, 1) := dk_62 (dk_at dksX5_mend_4 10 rfl rfl)
theorem dX5_mend_105 : decode cX5_mend 105 = .ok (.iinc 3 1, 3) := dk_132 3 1 (dk_at dksX5_mend_4 11 rfl rfl)
theorem dX5_mend_108 : decode cX5_mend 108 = .ok (.iinc 4 1, 3) := dk_132 4 1 (dk_at dksX5_mend_4 14 rfl rfl)
theorem dX5_mend_111 : decode cX5_mend 111 = .ok (.goto (-89), 3) := dk_167 255 167 (dk_at dksX5_mend_4 17 rfl rfl)
theorem dX5_mend_114 : decode cX5_mend 114 = .ok (.iload_n 1, 1) := dk_27 (dk_at dksX5_mend_4 20 rfl rfl)
theorem dX5_mend_115 : decode cX5_mend 115 = .ok (.iconst 2, 1) := dk_5 (dk_at dksX5_mend_4 21 rfl rfl)
theorem dX5_mend_116 : decode cX5_mend 116 = .ok (.if_icmp .ne 7, 3) := dk_160 0 7 (dk_at dksX5_mend_5 0 rfl rfl)
theorem dX5_mend_119 : decode cX5_mend 119 = .ok (.iload_n 3, 1) := dk_29 (dk_at dksX5_mend_5 3 rfl rfl)
theorem dX5_mend_120 : decode cX5_mend 120 = .ok (.goto 21, 3) := dk_167 0 21 (dk_at dksX5_mend_5 4 rfl rfl)
theorem dX5_mend_123 : decode cX5_mend 123 = .ok (.iload_n 2, 1) := dk_28 (dk_at dksX5_mend_5 7 rfl rfl)
theorem dX5_mend_124 : decode cX5_mend 124 = .ok (.iconst (-1), 1) := dk_2 (dk_at dksX5_mend_5 8 rfl rfl)
theorem dX5_mend_125 : decode cX5_mend 125 = .ok (.if_icmp .eq 8, 3) := dk_159 0 8 (dk_at dksX5_mend_5 9 rfl rfl)
theorem dX5_mend_128 : decode cX5_mend 128 = .ok (.iload_n 1, 1) := dk_27 (dk_at dksX5_mend_5 12 rfl rfl)
theorem dX5_mend_129 : decode cX5_mend 129 = .ok (.iconst 1, 1) := dk_4 (dk_at dksX5_mend_5 13 rfl rfl)
theorem dX5_mend_130 : decode cX5_mend 130 = .ok (.if_icmp .ne 7, 3) := dk_160 0 7 (dk_at dksX5_mend_5 14 rfl rfl)
theorem dX5_mend_133 : decode cX5_mend 133 = .ok (.iload_n 2, 1) := dk_28 (dk_at dksX5_mend_5 17 rfl rfl)
theorem dX5_mend_134 : decode cX5_mend 134 = .ok (.goto 7, 3) := dk_167 0 7 (dk_at dksX5_mend_5 18 rfl rfl)
theorem dX5_mend_137 : decode cX5_mend 137 = .ok (.iload_n 2, 1) := dk_28 (dk_at dksX5_mend_5 21 rfl rfl)
theorem dX5_mend_138 : decode cX5_mend 138 = .ok (.invokestatic 271, 3) := dk_184 1 15 (dk_at dksX5_mend_6 0 rfl rfl)
theorem dX5_mend_141 : decode cX5_mend 141 = .ok (.ireturn, 1) := dk_172 (dk_at dksX5_mend_6 3 rfl rfl)
abbrev cX5_game : ByteArray := prog_25_method_86_code
def yX5_game : MethodName := ⟨RX5, "game", "(I)I"⟩
def dkwX5_game_5 : List UInt8 := [167, 0, 18, 3, 167, 0, 14, 27, 4, 160, 0, 8, 21, 4, 167, 0, 4, 29, 172]
abbrev dktX5_game_5 : List UInt8 := dkwX5_game_5 ++ []
def dkwX5_game_4 : List UInt8 := [21, 5, 54, 4, 132, 5, 255, 167, 255, 192, 27, 154, 0, 20, 42, 180, 0, 76, 28, 51, 153, 0, 7, 4]
abbrev dktX5_game_4 : List UInt8 := dkwX5_game_4 ++ dktX5_game_5
def dkwX5_game_3 : List UInt8 := [132, 3, 1, 42, 180, 0, 76, 28, 4, 21, 5, 120, 2, 130, 126, 51, 153, 0, 8, 21, 4, 167, 0, 5]
abbrev dktX5_game_3 : List UInt8 := dkwX5_game_3 ++ dktX5_game_4
def dkwX5_game_2 : List UInt8 := [153, 0, 50, 42, 180, 0, 70, 28, 4, 21, 5, 120, 2, 130, 126, 51, 154, 0, 6, 167, 0, 31]
abbrev dktX5_game_2 : List UInt8 := dkwX5_game_2 ++ dktX5_game_3
def dkwX5_game_1 : List UInt8 := [3, 62, 2, 54, 4, 42, 182, 0, 102, 4, 100, 54, 5, 21, 5, 155, 0, 65, 28, 21, 5, 184, 1, 18]
abbrev dktX5_game_1 : List UInt8 := dkwX5_game_1 ++ dktX5_game_2
def dkwX5_game_0 : List UInt8 := [27, 3, 5, 184, 0, 91, 154, 0, 5, 2, 172, 42, 182, 1, 39, 42, 180, 0, 20, 17, 0, 159, 46, 61]
abbrev dktX5_game_0 : List UInt8 := dkwX5_game_0 ++ dktX5_game_1
theorem dksX5_game_0 : cX5_game.data.toList.drop 0 = dktX5_game_0 := by decide +kernel
theorem dksX5_game_1 : cX5_game.data.toList.drop 24 = dktX5_game_1 := dk_seg dksX5_game_0 24 rfl rfl
theorem dksX5_game_2 : cX5_game.data.toList.drop 48 = dktX5_game_2 := dk_seg dksX5_game_1 24 rfl rfl
theorem dksX5_game_3 : cX5_game.data.toList.drop 70 = dktX5_game_3 := dk_seg dksX5_game_2 22 rfl rfl
theorem dksX5_game_4 : cX5_game.data.toList.drop 94 = dktX5_game_4 := dk_seg dksX5_game_3 24 rfl rfl
theorem dksX5_game_5 : cX5_game.data.toList.drop 118 = dktX5_game_5 := dk_seg dksX5_game_4 24 rfl rfl
theorem dX5_game_0 : decode cX5_game 0 = .ok (.iload_n 1, 1) := dk_27 (dk_at dksX5_game_0 0 rfl rfl)
theorem dX5_game_1 : decode cX5_game 1 = .ok (.iconst 0, 1) := dk_3 (dk_at dksX5_game_0 1 rfl rfl)
theorem dX5_game_2 : decode cX5_game 2 = .ok (.iconst 2, 1) := dk_5 (dk_at dksX5_game_0 2 rfl rfl)
theorem dX5_game_3 : decode cX5_game 3 = .ok (.invokestatic 91, 3) := dk_184 0 91 (dk_at dksX5_game_0 3 rfl rfl)
theorem dX5_game_6 : decode cX5_game 6 = .ok (.ifCond .ne 5, 3) := dk_154 0 5 (dk_at dksX5_game_0 6 rfl rfl)
theorem dX5_game_9 : decode cX5_game 9 = .ok (.iconst (-1), 1) := dk_2 (dk_at dksX5_game_0 9 rfl rfl)
theorem dX5_game_10 : decode cX5_game 10 = .ok (.ireturn, 1) := dk_172 (dk_at dksX5_game_0 10 rfl rfl)
theorem dX5_game_11 : decode cX5_game 11 = .ok (.aload_n 0, 1) := dk_42 (dk_at dksX5_game_0 11 rfl rfl)
theorem dX5_game_12 : decode cX5_game 12 = .ok (.invokevirtual 295, 3) := dk_182 1 39 (dk_at dksX5_game_0 12 rfl rfl)
theorem dX5_game_15 : decode cX5_game 15 = .ok (.aload_n 0, 1) := dk_42 (dk_at dksX5_game_0 15 rfl rfl)
theorem dX5_game_16 : decode cX5_game 16 = .ok (.getfield 20, 3) := dk_180 0 20 (dk_at dksX5_game_0 16 rfl rfl)
theorem dX5_game_19 : decode cX5_game 19 = .ok (.sipush 159, 3) := dk_17 0 159 (dk_at dksX5_game_0 19 rfl rfl)
theorem dX5_game_22 : decode cX5_game 22 = .ok (.iaload, 1) := dk_46 (dk_at dksX5_game_0 22 rfl rfl)
theorem dX5_game_23 : decode cX5_game 23 = .ok (.istore_n 2, 1) := dk_61 (dk_at dksX5_game_0 23 rfl rfl)
theorem dX5_game_24 : decode cX5_game 24 = .ok (.iconst 0, 1) := dk_3 (dk_at dksX5_game_1 0 rfl rfl)
theorem dX5_game_25 : decode cX5_game 25 = .ok (.istore_n 3, 1) := dk_62 (dk_at dksX5_game_1 1 rfl rfl)
theorem dX5_game_26 : decode cX5_game 26 = .ok (.iconst (-1), 1) := dk_2 (dk_at dksX5_game_1 2 rfl rfl)
theorem dX5_game_27 : decode cX5_game 27 = .ok (.istore 4, 2) := dk_54 4 (dk_at dksX5_game_1 3 rfl rfl)
theorem dX5_game_29 : decode cX5_game 29 = .ok (.aload_n 0, 1) := dk_42 (dk_at dksX5_game_1 5 rfl rfl)
theorem dX5_game_30 : decode cX5_game 30 = .ok (.invokevirtual 102, 3) := dk_182 0 102 (dk_at dksX5_game_1 6 rfl rfl)
theorem dX5_game_33 : decode cX5_game 33 = .ok (.iconst 1, 1) := dk_4 (dk_at dksX5_game_1 9 rfl rfl)
theorem dX5_game_34 : decode cX5_game 34 = .ok (.isub, 1) := dk_100 (dk_at dksX5_game_1 10 rfl rfl)
theorem dX5_game_35 : decode cX5_game 35 = .ok (.istore 5, 2) := dk_54 5 (dk_at dksX5_game_1 11 rfl rfl)
theorem dX5_game_37 : decode cX5_game 37 = .ok (.iload 5, 2) := dk_21 5 (dk_at dksX5_game_1 13 rfl rfl)
theorem dX5_game_39 : decode cX5_game 39 = .ok (.ifCond .lt 65, 3) := dk_155 0 65 (dk_at dksX5_game_1 15 rfl rfl)
theorem dX5_game_42 : decode cX5_game 42 = .ok (.iload_n 2, 1) := dk_28 (dk_at dksX5_game_1 18 rfl rfl)
theorem dX5_game_43 : decode cX5_game 43 = .ok (.iload 5, 2) := dk_21 5 (dk_at dksX5_game_1 19 rfl rfl)
theorem dX5_game_45 : decode cX5_game 45 = .ok (.invokestatic 274, 3) := dk_184 1 18 (dk_at dksX5_game_1 21 rfl rfl)
theorem dX5_game_48 : decode cX5_game 48 = .ok (.ifCond .eq 50, 3) := dk_153 0 50 (dk_at dksX5_game_2 0 rfl rfl)
theorem dX5_game_51 : decode cX5_game 51 = .ok (.aload_n 0, 1) := dk_42 (dk_at dksX5_game_2 3 rfl rfl)
theorem dX5_game_52 : decode cX5_game 52 = .ok (.getfield 70, 3) := dk_180 0 70 (dk_at dksX5_game_2 4 rfl rfl)
theorem dX5_game_55 : decode cX5_game 55 = .ok (.iload_n 2, 1) := dk_28 (dk_at dksX5_game_2 7 rfl rfl)
theorem dX5_game_56 : decode cX5_game 56 = .ok (.iconst 1, 1) := dk_4 (dk_at dksX5_game_2 8 rfl rfl)
theorem dX5_game_57 : decode cX5_game 57 = .ok (.iload 5, 2) := dk_21 5 (dk_at dksX5_game_2 9 rfl rfl)
theorem dX5_game_59 : decode cX5_game 59 = .ok (.ishl, 1) := dk_120 (dk_at dksX5_game_2 11 rfl rfl)
theorem dX5_game_60 : decode cX5_game 60 = .ok (.iconst (-1), 1) := dk_2 (dk_at dksX5_game_2 12 rfl rfl)
theorem dX5_game_61 : decode cX5_game 61 = .ok (.ixor, 1) := dk_130 (dk_at dksX5_game_2 13 rfl rfl)
theorem dX5_game_62 : decode cX5_game 62 = .ok (.iand, 1) := dk_126 (dk_at dksX5_game_2 14 rfl rfl)
theorem dX5_game_63 : decode cX5_game 63 = .ok (.baload, 1) := dk_51 (dk_at dksX5_game_2 15 rfl rfl)
theorem dX5_game_64 : decode cX5_game 64 = .ok (.ifCond .ne 6, 3) := dk_154 0 6 (dk_at dksX5_game_2 16 rfl rfl)
theorem dX5_game_67 : decode cX5_game 67 = .ok (.goto 31, 3) := dk_167 0 31 (dk_at dksX5_game_2 19 rfl rfl)
theorem dX5_game_70 : decode cX5_game 70 = .ok (.iinc 3 1, 3) := dk_132 3 1 (dk_at dksX5_game_3 0 rfl rfl)
theorem dX5_game_73 : decode cX5_game 73 = .ok (.aload_n 0, 1) := dk_42 (dk_at dksX5_game_3 3 rfl rfl)
theorem dX5_game_74 : decode cX5_game 74 = .ok (.getfield 76, 3) := dk_180 0 76 (dk_at dksX5_game_3 4 rfl rfl)
theorem dX5_game_77 : decode cX5_game 77 = .ok (.iload_n 2, 1) := dk_28 (dk_at dksX5_game_3 7 rfl rfl)
theorem dX5_game_78 : decode cX5_game 78 = .ok (.iconst 1, 1) := dk_4 (dk_at dksX5_game_3 8 rfl rfl)
theorem dX5_game_79 : decode cX5_game 79 = .ok (.iload 5, 2) := dk_21 5 (dk_at dksX5_game_3 9 rfl rfl)
theorem dX5_game_81 : decode cX5_game 81 = .ok (.ishl, 1) := dk_120 (dk_at dksX5_game_3 11 rfl rfl)
theorem dX5_game_82 : decode cX5_game 82 = .ok (.iconst (-1), 1) := dk_2 (dk_at dksX5_game_3 12 rfl rfl)
theorem dX5_game_83 : decode cX5_game 83 = .ok (.ixor, 1) := dk_130 (dk_at dksX5_game_3 13 rfl rfl)
theorem dX5_game_84 : decode cX5_game 84 = .ok (.iand, 1) := dk_126 (dk_at dksX5_game_3 14 rfl rfl)
theorem dX5_game_85 : decode cX5_game 85 = .ok (.baload, 1) := dk_51 (dk_at dksX5_game_3 15 rfl rfl)
theorem dX5_game_86 : decode cX5_game 86 = .ok (.ifCond .eq 8, 3) := dk_153 0 8 (dk_at dksX5_game_3 16 rfl rfl)
theorem dX5_game_89 : decode cX5_game 89 = .ok (.iload 4, 2) := dk_21 4 (dk_at dksX5_game_3 19 rfl rfl)
theorem dX5_game_91 : decode cX5_game 91 = .ok (.goto 5, 3) := dk_167 0 5 (dk_at dksX5_game_3 21 rfl rfl)
theorem dX5_game_94 : decode cX5_game 94 = .ok (.iload 5, 2) := dk_21 5 (dk_at dksX5_game_4 0 rfl rfl)
theorem dX5_game_96 : decode cX5_game 96 = .ok (.istore 4, 2) := dk_54 4 (dk_at dksX5_game_4 2 rfl rfl)
theorem dX5_game_98 : decode cX5_game 98 = .ok (.iinc 5 (-1), 3) := dk_132 5 255 (dk_at dksX5_game_4 4 rfl rfl)
theorem dX5_game_101 : decode cX5_game 101 = .ok (.goto (-64), 3) := dk_167 255 192 (dk_at dksX5_game_4 7 rfl rfl)
theorem dX5_game_104 : decode cX5_game 104 = .ok (.iload_n 1, 1) := dk_27 (dk_at dksX5_game_4 10 rfl rfl)
theorem dX5_game_105 : decode cX5_game 105 = .ok (.ifCond .ne 20, 3) := dk_154 0 20 (dk_at dksX5_game_4 11 rfl rfl)
theorem dX5_game_108 : decode cX5_game 108 = .ok (.aload_n 0, 1) := dk_42 (dk_at dksX5_game_4 14 rfl rfl)
theorem dX5_game_109 : decode cX5_game 109 = .ok (.getfield 76, 3) := dk_180 0 76 (dk_at dksX5_game_4 15 rfl rfl)
theorem dX5_game_112 : decode cX5_game 112 = .ok (.iload_n 2, 1) := dk_28 (dk_at dksX5_game_4 18 rfl rfl)
theorem dX5_game_113 : decode cX5_game 113 = .ok (.baload, 1) := dk_51 (dk_at dksX5_game_4 19 rfl rfl)
theorem dX5_game_114 : decode cX5_game 114 = .ok (.ifCond .eq 7, 3) := dk_153 0 7 (dk_at dksX5_game_4 20 rfl rfl)
theorem dX5_game_117 : decode cX5_game 117 = .ok (.iconst 1, 1) := dk_4 (dk_at dksX5_game_4 23 rfl rfl)
theorem dX5_game_118 : decode cX5_game 118 = .ok (.goto 18, 3) := dk_167 0 18 (dk_at dksX5_game_5 0 rfl rfl)
theorem dX5_game_121 : decode cX5_game 121 = .ok (.iconst 0, 1) := dk_3 (dk_at dksX5_game_5 3 rfl rfl)
theorem dX5_game_122 : decode cX5_game 122 = .ok (.goto 14, 3) := dk_167 0 14 (dk_at dksX5_game_5 4 rfl rfl)
theorem dX5_game_125 : decode cX5_game 125 = .ok (.iload_n 1, 1) := dk_27 (dk_at dksX5_game_5 7 rfl rfl)
theorem dX5_game_126 : decode cX5_game 126 = .ok (.iconst 1, 1) := dk_4 (dk_at dksX5_game_5 8 rfl rfl)
theorem dX5_game_127 : decode cX5_game 127 = .ok (.if_icmp .ne 8, 3) := dk_160 0 8 (dk_at dksX5_game_5 9 rfl rfl)
theorem dX5_game_130 : decode cX5_game 130 = .ok (.iload 4, 2) := dk_21 4 (dk_at dksX5_game_5 12 rfl rfl)
theorem dX5_game_132 : decode cX5_game 132 = .ok (.goto 4, 3) := dk_167 0 4 (dk_at dksX5_game_5 14 rfl rfl)
theorem dX5_game_135 : decode cX5_game 135 = .ok (.iload_n 3, 1) := dk_29 (dk_at dksX5_game_5 17 rfl rfl)
theorem dX5_game_136 : decode cX5_game 136 = .ok (.ireturn, 1) := dk_172 (dk_at dksX5_game_5 18 rfl rfl)
abbrev cX5_night : ByteArray := prog_25_method_87_code
def yX5_night : MethodName := ⟨RX5, "night", "(II)I"⟩
def dkwX5_night_9 : List UInt8 := [21, 6, 167, 0, 5, 21, 7, 172]
abbrev dktX5_night_9 : List UInt8 := dkwX5_night_9 ++ []
def dkwX5_night_8 : List UInt8 := [28, 154, 0, 8, 21, 4, 167, 0, 25, 28, 4, 160, 0, 8, 21, 5, 167, 0, 15, 28, 5, 160, 0, 8]
abbrev dktX5_night_8 : List UInt8 := dkwX5_night_8 ++ dktX5_night_9
def dkwX5_night_7 : List UInt8 := [160, 0, 8, 21, 10, 167, 0, 5, 21, 7, 54, 7, 132, 9, 1, 167, 255, 188, 132, 8, 1, 167, 255, 120]
abbrev dktX5_night_7 : List UInt8 := dkwX5_night_7 ++ dktX5_night_8
def dkwX5_night_6 : List UInt8 := [180, 0, 73, 29, 21, 10, 2, 130, 126, 46, 27, 159, 0, 6, 167, 0, 21, 132, 6, 1, 21, 7, 2]
abbrev dktX5_night_6 : List UInt8 := dkwX5_night_6 ++ dktX5_night_7
def dkwX5_night_5 : List UInt8 := [162, 0, 65, 4, 21, 8, 120, 4, 21, 9, 120, 128, 54, 10, 29, 21, 9, 184, 1, 18, 153, 0, 39, 42]
abbrev dktX5_night_5 : List UInt8 := dkwX5_night_5 ++ dktX5_night_6
def dkwX5_night_4 : List UInt8 := [160, 0, 8, 21, 8, 167, 0, 5, 21, 5, 54, 5, 21, 8, 4, 96, 54, 9, 21, 9, 42, 182, 0, 102]
abbrev dktX5_night_4 : List UInt8 := dkwX5_night_4 ++ dktX5_night_5
def dkwX5_night_3 : List UInt8 := [180, 0, 73, 29, 4, 21, 8, 120, 2, 130, 126, 46, 27, 160, 0, 21, 132, 4, 1, 21, 5, 2]
abbrev dktX5_night_3 : List UInt8 := dkwX5_night_3 ++ dktX5_night_4
def dkwX5_night_2 : List UInt8 := [21, 8, 42, 182, 0, 102, 162, 0, 133, 29, 21, 8, 184, 1, 18, 154, 0, 6, 167, 0, 115, 42]
abbrev dktX5_night_2 : List UInt8 := dkwX5_night_2 ++ dktX5_night_3
def dkwX5_night_1 : List UInt8 := [180, 0, 20, 17, 0, 159, 46, 62, 3, 54, 4, 2, 54, 5, 3, 54, 6, 2, 54, 7, 3, 54, 8]
abbrev dktX5_night_1 : List UInt8 := dkwX5_night_1 ++ dktX5_night_2
def dkwX5_night_0 : List UInt8 := [42, 27, 182, 1, 30, 153, 0, 12, 28, 3, 6, 184, 0, 91, 154, 0, 5, 2, 172, 42, 182, 1, 39, 42]
abbrev dktX5_night_0 : List UInt8 := dkwX5_night_0 ++ dktX5_night_1
theorem dksX5_night_0 : cX5_night.data.toList.drop 0 = dktX5_night_0 := by decide +kernel
theorem dksX5_night_1 : cX5_night.data.toList.drop 24 = dktX5_night_1 := dk_seg dksX5_night_0 24 rfl rfl
theorem dksX5_night_2 : cX5_night.data.toList.drop 47 = dktX5_night_2 := dk_seg dksX5_night_1 23 rfl rfl
theorem dksX5_night_3 : cX5_night.data.toList.drop 69 = dktX5_night_3 := dk_seg dksX5_night_2 22 rfl rfl
theorem dksX5_night_4 : cX5_night.data.toList.drop 91 = dktX5_night_4 := dk_seg dksX5_night_3 22 rfl rfl
theorem dksX5_night_5 : cX5_night.data.toList.drop 115 = dktX5_night_5 := dk_seg dksX5_night_4 24 rfl rfl
theorem dksX5_night_6 : cX5_night.data.toList.drop 139 = dktX5_night_6 := dk_seg dksX5_night_5 24 rfl rfl
theorem dksX5_night_7 : cX5_night.data.toList.drop 162 = dktX5_night_7 := dk_seg dksX5_night_6 23 rfl rfl
theorem dksX5_night_8 : cX5_night.data.toList.drop 186 = dktX5_night_8 := dk_seg dksX5_night_7 24 rfl rfl
theorem dksX5_night_9 : cX5_night.data.toList.drop 210 = dktX5_night_9 := dk_seg dksX5_night_8 24 rfl rfl
theorem dX5_night_0 : decode cX5_night 0 = .ok (.aload_n 0, 1) := dk_42 (dk_at dksX5_night_0 0 rfl rfl)
theorem dX5_night_1 : decode cX5_night 1 = .ok (.iload_n 1, 1) := dk_27 (dk_at dksX5_night_0 1 rfl rfl)
theorem dX5_night_2 : decode cX5_night 2 = .ok (.invokevirtual 286, 3) := dk_182 1 30 (dk_at dksX5_night_0 2 rfl rfl)
theorem dX5_night_5 : decode cX5_night 5 = .ok (.ifCond .eq 12, 3) := dk_153 0 12 (dk_at dksX5_night_0 5 rfl rfl)
theorem dX5_night_8 : decode cX5_night 8 = .ok (.iload_n 2, 1) := dk_28 (dk_at dksX5_night_0 8 rfl rfl)
theorem dX5_night_9 : decode cX5_night 9 = .ok (.iconst 0, 1) := dk_3 (dk_at dksX5_night_0 9 rfl rfl)
theorem dX5_night_10 : decode cX5_night 10 = .ok (.iconst 3, 1) := dk_6 (dk_at dksX5_night_0 10 rfl rfl)
theorem dX5_night_11 : decode cX5_night 11 = .ok (.invokestatic 91, 3) := dk_184 0 91 (dk_at dksX5_night_0 11 rfl rfl)
theorem dX5_night_14 : decode cX5_night 14 = .ok (.ifCond .ne 5, 3) := dk_154 0 5 (dk_at dksX5_night_0 14 rfl rfl)
theorem dX5_night_17 : decode cX5_night 17 = .ok (.iconst (-1), 1) := dk_2 (dk_at dksX5_night_0 17 rfl rfl)
theorem dX5_night_18 : decode cX5_night 18 = .ok (.ireturn, 1) := dk_172 (dk_at dksX5_night_0 18 rfl rfl)
theorem dX5_night_19 : decode cX5_night 19 = .ok (.aload_n 0, 1) := dk_42 (dk_at dksX5_night_0 19 rfl rfl)
theorem dX5_night_20 : decode cX5_night 20 = .ok (.invokevirtual 295, 3) := dk_182 1 39 (dk_at dksX5_night_0 20 rfl rfl)
theorem dX5_night_23 : decode cX5_night 23 = .ok (.aload_n 0, 1) := dk_42 (dk_at dksX5_night_0 23 rfl rfl)
theorem dX5_night_24 : decode cX5_night 24 = .ok (.getfield 20, 3) := dk_180 0 20 (dk_at dksX5_night_1 0 rfl rfl)
theorem dX5_night_27 : decode cX5_night 27 = .ok (.sipush 159, 3) := dk_17 0 159 (dk_at dksX5_night_1 3 rfl rfl)
theorem dX5_night_30 : decode cX5_night 30 = .ok (.iaload, 1) := dk_46 (dk_at dksX5_night_1 6 rfl rfl)
theorem dX5_night_31 : decode cX5_night 31 = .ok (.istore_n 3, 1) := dk_62 (dk_at dksX5_night_1 7 rfl rfl)
theorem dX5_night_32 : decode cX5_night 32 = .ok (.iconst 0, 1) := dk_3 (dk_at dksX5_night_1 8 rfl rfl)
theorem dX5_night_33 : decode cX5_night 33 = .ok (.istore 4, 2) := dk_54 4 (dk_at dksX5_night_1 9 rfl rfl)
theorem dX5_night_35 : decode cX5_night 35 = .ok (.iconst (-1), 1) := dk_2 (dk_at dksX5_night_1 11 rfl rfl)
theorem dX5_night_36 : decode cX5_night 36 = .ok (.istore 5, 2) := dk_54 5 (dk_at dksX5_night_1 12 rfl rfl)
theorem dX5_night_38 : decode cX5_night 38 = .ok (.iconst 0, 1) := dk_3 (dk_at dksX5_night_1 14 rfl rfl)
theorem dX5_night_39 : decode cX5_night 39 = .ok (.istore 6, 2) := dk_54 6 (dk_at dksX5_night_1 15 rfl rfl)
theorem dX5_night_41 : decode cX5_night 41 = .ok (.iconst (-1), 1) := dk_2 (dk_at dksX5_night_1 17 rfl rfl)
theorem dX5_night_42 : decode cX5_night 42 = .ok (.istore 7, 2) := dk_54 7 (dk_at dksX5_night_1 18 rfl rfl)
theorem dX5_night_44 : decode cX5_night 44 = .ok (.iconst 0, 1) := dk_3 (dk_at dksX5_night_1 20 rfl rfl)
theorem dX5_night_45 : decode cX5_night 45 = .ok (.istore 8, 2) := dk_54 8 (dk_at dksX5_night_1 21 rfl rfl)
theorem dX5_night_47 : decode cX5_night 47 = .ok (.iload 8, 2) := dk_21 8 (dk_at dksX5_night_2 0 rfl rfl)
theorem dX5_night_49 : decode cX5_night 49 = .ok (.aload_n 0, 1) := dk_42 (dk_at dksX5_night_2 2 rfl rfl)
theorem dX5_night_50 : decode cX5_night 50 = .ok (.invokevirtual 102, 3) := dk_182 0 102 (dk_at dksX5_night_2 3 rfl rfl)
theorem dX5_night_53 : decode cX5_night 53 = .ok (.if_icmp .ge 133, 3) := dk_162 0 133 (dk_at dksX5_night_2 6 rfl rfl)
theorem dX5_night_56 : decode cX5_night 56 = .ok (.iload_n 3, 1) := dk_29 (dk_at dksX5_night_2 9 rfl rfl)
theorem dX5_night_57 : decode cX5_night 57 = .ok (.iload 8, 2) := dk_21 8 (dk_at dksX5_night_2 10 rfl rfl)
theorem dX5_night_59 : decode cX5_night 59 = .ok (.invokestatic 274, 3) := dk_184 1 18 (dk_at dksX5_night_2 12 rfl rfl)
theorem dX5_night_62 : decode cX5_night 62 = .ok (.ifCond .ne 6, 3) := dk_154 0 6 (dk_at dksX5_night_2 15 rfl rfl)
theorem dX5_night_65 : decode cX5_night 65 = .ok (.goto 115, 3) := dk_167 0 115 (dk_at dksX5_night_2 18 rfl rfl)
theorem dX5_night_68 : decode cX5_night 68 = .ok (.aload_n 0, 1) := dk_42 (dk_at dksX5_night_2 21 rfl rfl)
theorem dX5_night_69 : decode cX5_night 69 = .ok (.getfield 73, 3) := dk_180 0 73 (dk_at dksX5_night_3 0 rfl rfl)
theorem dX5_night_72 : decode cX5_night 72 = .ok (.iload_n 3, 1) := dk_29 (dk_at dksX5_night_3 3 rfl rfl)
theorem dX5_night_73 : decode cX5_night 73 = .ok (.iconst 1, 1) := dk_4 (dk_at dksX5_night_3 4 rfl rfl)
theorem dX5_night_74 : decode cX5_night 74 = .ok (.iload 8, 2) := dk_21 8 (dk_at dksX5_night_3 5 rfl rfl)
theorem dX5_night_76 : decode cX5_night 76 = .ok (.ishl, 1) := dk_120 (dk_at dksX5_night_3 7 rfl rfl)
theorem dX5_night_77 : decode cX5_night 77 = .ok (.iconst (-1), 1) := dk_2 (dk_at dksX5_night_3 8 rfl rfl)
theorem dX5_night_78 : decode cX5_night 78 = .ok (.ixor, 1) := dk_130 (dk_at dksX5_night_3 9 rfl rfl)
theorem dX5_night_79 : decode cX5_night 79 = .ok (.iand, 1) := dk_126 (dk_at dksX5_night_3 10 rfl rfl)
theorem dX5_night_80 : decode cX5_night 80 = .ok (.iaload, 1) := dk_46 (dk_at dksX5_night_3 11 rfl rfl)
theorem dX5_night_81 : decode cX5_night 81 = .ok (.iload_n 1, 1) := dk_27 (dk_at dksX5_night_3 12 rfl rfl)
theorem dX5_night_82 : decode cX5_night 82 = .ok (.if_icmp .ne 21, 3) := dk_160 0 21 (dk_at dksX5_night_3 13 rfl rfl)
theorem dX5_night_85 : decode cX5_night 85 = .ok (.iinc 4 1, 3) := dk_132 4 1 (dk_at dksX5_night_3 16 rfl rfl)
theorem dX5_night_88 : decode cX5_night 88 = .ok (.iload 5, 2) := dk_21 5 (dk_at dksX5_night_3 19 rfl rfl)
theorem dX5_night_90 : decode cX5_night 90 = .ok (.iconst (-1), 1) := dk_2 (dk_at dksX5_night_3 21 rfl rfl)
theorem dX5_night_91 : decode cX5_night 91 = .ok (.if_icmp .ne 8, 3) := dk_160 0 8 (dk_at dksX5_night_4 0 rfl rfl)
theorem dX5_night_94 : decode cX5_night 94 = .ok (.iload 8, 2) := dk_21 8 (dk_at dksX5_night_4 3 rfl rfl)
theorem dX5_night_96 : decode cX5_night 96 = .ok (.goto 5, 3) := dk_167 0 5 (dk_at dksX5_night_4 5 rfl rfl)
theorem dX5_night_99 : decode cX5_night 99 = .ok (.iload 5, 2) := dk_21 5 (dk_at dksX5_night_4 8 rfl rfl)
theorem dX5_night_101 : decode cX5_night 101 = .ok (.istore 5, 2) := dk_54 5 (dk_at dksX5_night_4 10 rfl rfl)
theorem dX5_night_103 : decode cX5_night 103 = .ok (.iload 8, 2) := dk_21 8 (dk_at dksX5_night_4 12 rfl rfl)
theorem dX5_night_105 : decode cX5_night 105 = .ok (.iconst 1, 1) := dk_4 (dk_at dksX5_night_4 14 rfl rfl)
theorem dX5_night_106 : decode cX5_night 106 = .ok (.iadd, 1) := dk_96 (dk_at dksX5_night_4 15 rfl rfl)
theorem dX5_night_107 : decode cX5_night 107 = .ok (.istore 9, 2) := dk_54 9 (dk_at dksX5_night_4 16 rfl rfl)
theorem dX5_night_109 : decode cX5_night 109 = .ok (.iload 9, 2) := dk_21 9 (dk_at dksX5_night_4 18 rfl rfl)
theorem dX5_night_111 : decode cX5_night 111 = .ok (.aload_n 0, 1) := dk_42 (dk_at dksX5_night_4 20 rfl rfl)
theorem dX5_night_112 : decode cX5_night 112 = .ok (.invokevirtual 102, 3) := dk_182 0 102 (dk_at dksX5_night_4 21 rfl rfl)
theorem dX5_night_115 : decode cX5_night 115 = .ok (.if_icmp .ge 65, 3) := dk_162 0 65 (dk_at dksX5_night_5 0 rfl rfl)
theorem dX5_night_118 : decode cX5_night 118 = .ok (.iconst 1, 1) := dk_4 (dk_at dksX5_night_5 3 rfl rfl)
theorem dX5_night_119 : decode cX5_night 119 = .ok (.iload 8, 2) := dk_21 8 (dk_at dksX5_night_5 4 rfl rfl)
theorem dX5_night_121 : decode cX5_night 121 = .ok (.ishl, 1) := dk_120 (dk_at dksX5_night_5 6 rfl rfl)
theorem dX5_night_122 : decode cX5_night 122 = .ok (.iconst 1, 1) := dk_4 (dk_at dksX5_night_5 7 rfl rfl)
theorem dX5_night_123 : decode cX5_night 123 = .ok (.iload 9, 2) := dk_21 9 (dk_at dksX5_night_5 8 rfl rfl)
theorem dX5_night_125 : decode cX5_night 125 = .ok (.ishl, 1) := dk_120 (dk_at dksX5_night_5 10 rfl rfl)
theorem dX5_night_126 : decode cX5_night 126 = .ok (.ior, 1) := dk_128 (dk_at dksX5_night_5 11 rfl rfl)
theorem dX5_night_127 : decode cX5_night 127 = .ok (.istore 10, 2) := dk_54 10 (dk_at dksX5_night_5 12 rfl rfl)
theorem dX5_night_129 : decode cX5_night 129 = .ok (.iload_n 3, 1) := dk_29 (dk_at dksX5_night_5 14 rfl rfl)
theorem dX5_night_130 : decode cX5_night 130 = .ok (.iload 9, 2) := dk_21 9 (dk_at dksX5_night_5 15 rfl rfl)
theorem dX5_night_132 : decode cX5_night 132 = .ok (.invokestatic 274, 3) := dk_184 1 18 (dk_at dksX5_night_5 17 rfl rfl)
theorem dX5_night_135 : decode cX5_night 135 = .ok (.ifCond .eq 39, 3) := dk_153 0 39 (dk_at dksX5_night_5 20 rfl rfl)
theorem dX5_night_138 : decode cX5_night 138 = .ok (.aload_n 0, 1) := dk_42 (dk_at dksX5_night_5 23 rfl rfl)
theorem dX5_night_139 : decode cX5_night 139 = .ok (.getfield 73, 3) := dk_180 0 73 (dk_at dksX5_night_6 0 rfl rfl)
theorem dX5_night_142 : decode cX5_night 142 = .ok (.iload_n 3, 1) := dk_29 (dk_at dksX5_night_6 3 rfl rfl)
theorem dX5_night_143 : decode cX5_night 143 = .ok (.iload 10, 2) := dk_21 10 (dk_at dksX5_night_6 4 rfl rfl)
theorem dX5_night_145 : decode cX5_night 145 = .ok (.iconst (-1), 1) := dk_2 (dk_at dksX5_night_6 6 rfl rfl)
theorem dX5_night_146 : decode cX5_night 146 = .ok (.ixor, 1) := dk_130 (dk_at dksX5_night_6 7 rfl rfl)
theorem dX5_night_147 : decode cX5_night 147 = .ok (.iand, 1) := dk_126 (dk_at dksX5_night_6 8 rfl rfl)
theorem dX5_night_148 : decode cX5_night 148 = .ok (.iaload, 1) := dk_46 (dk_at dksX5_night_6 9 rfl rfl)
theorem dX5_night_149 : decode cX5_night 149 = .ok (.iload_n 1, 1) := dk_27 (dk_at dksX5_night_6 10 rfl rfl)
theorem dX5_night_150 : decode cX5_night 150 = .ok (.if_icmp .eq 6, 3) := dk_159 0 6 (dk_at dksX5_night_6 11 rfl rfl)
theorem dX5_night_153 : decode cX5_night 153 = .ok (.goto 21, 3) := dk_167 0 21 (dk_at dksX5_night_6 14 rfl rfl)
theorem dX5_night_156 : decode cX5_night 156 = .ok (.iinc 6 1, 3) := dk_132 6 1 (dk_at dksX5_night_6 17 rfl rfl)
theorem dX5_night_159 : decode cX5_night 159 = .ok (.iload 7, 2) := dk_21 7 (dk_at dksX5_night_6 20 rfl rfl)
theorem dX5_night_161 : decode cX5_night 161 = .ok (.iconst (-1), 1) := dk_2 (dk_at dksX5_night_6 22 rfl rfl)
theorem dX5_night_162 : decode cX5_night 162 = .ok (.if_icmp .ne 8, 3) := dk_160 0 8 (dk_at dksX5_night_7 0 rfl rfl)
theorem dX5_night_165 : decode cX5_night 165 = .ok (.iload 10, 2) := dk_21 10 (dk_at dksX5_night_7 3 rfl rfl)
theorem dX5_night_167 : decode cX5_night 167 = .ok (.goto 5, 3) := dk_167 0 5 (dk_at dksX5_night_7 5 rfl rfl)
theorem dX5_night_170 : decode cX5_night 170 = .ok (.iload 7, 2) := dk_21 7 (dk_at dksX5_night_7 8 rfl rfl)
theorem dX5_night_172 : decode cX5_night 172 = .ok (.istore 7, 2) := dk_54 7 (dk_at dksX5_night_7 10 rfl rfl)
theorem dX5_night_174 : decode cX5_night 174 = .ok (.iinc 9 1, 3) := dk_132 9 1 (dk_at dksX5_night_7 12 rfl rfl)
theorem dX5_night_177 : decode cX5_night 177 = .ok (.goto (-68), 3) := dk_167 255 188 (dk_at dksX5_night_7 15 rfl rfl)
theorem dX5_night_180 : decode cX5_night 180 = .ok (.iinc 8 1, 3) := dk_132 8 1 (dk_at dksX5_night_7 18 rfl rfl)
theorem dX5_night_183 : decode cX5_night 183 = .ok (.goto (-136), 3) := dk_167 255 120 (dk_at dksX5_night_7 21 rfl rfl)
theorem dX5_night_186 : decode cX5_night 186 = .ok (.iload_n 2, 1) := dk_28 (dk_at dksX5_night_8 0 rfl rfl)
theorem dX5_night_187 : decode cX5_night 187 = .ok (.ifCond .ne 8, 3) := dk_154 0 8 (dk_at dksX5_night_8 1 rfl rfl)
theorem dX5_night_190 : decode cX5_night 190 = .ok (.iload 4, 2) := dk_21 4 (dk_at dksX5_night_8 4 rfl rfl)
theorem dX5_night_192 : decode cX5_night 192 = .ok (.goto 25, 3) := dk_167 0 25 (dk_at dksX5_night_8 6 rfl rfl)
theorem dX5_night_195 : decode cX5_night 195 = .ok (.iload_n 2, 1) := dk_28 (dk_at dksX5_night_8 9 rfl rfl)
theorem dX5_night_196 : decode cX5_night 196 = .ok (.iconst 1, 1) := dk_4 (dk_at dksX5_night_8 10 rfl rfl)
theorem dX5_night_197 : decode cX5_night 197 = .ok (.if_icmp .ne 8, 3) := dk_160 0 8 (dk_at dksX5_night_8 11 rfl rfl)
theorem dX5_night_200 : decode cX5_night 200 = .ok (.iload 5, 2) := dk_21 5 (dk_at dksX5_night_8 14 rfl rfl)
theorem dX5_night_202 : decode cX5_night 202 = .ok (.goto 15, 3) := dk_167 0 15 (dk_at dksX5_night_8 16 rfl rfl)
theorem dX5_night_205 : decode cX5_night 205 = .ok (.iload_n 2, 1) := dk_28 (dk_at dksX5_night_8 19 rfl rfl)
theorem dX5_night_206 : decode cX5_night 206 = .ok (.iconst 2, 1) := dk_5 (dk_at dksX5_night_8 20 rfl rfl)
theorem dX5_night_207 : decode cX5_night 207 = .ok (.if_icmp .ne 8, 3) := dk_160 0 8 (dk_at dksX5_night_8 21 rfl rfl)
theorem dX5_night_210 : decode cX5_night 210 = .ok (.iload 6, 2) := dk_21 6 (dk_at dksX5_night_9 0 rfl rfl)
theorem dX5_night_212 : decode cX5_night 212 = .ok (.goto 5, 3) := dk_167 0 5 (dk_at dksX5_night_9 2 rfl rfl)
theorem dX5_night_215 : decode cX5_night 215 = .ok (.iload 7, 2) := dk_21 7 (dk_at dksX5_night_9 5 rfl rfl)
theorem dX5_night_217 : decode cX5_night 217 = .ok (.ireturn, 1) := dk_172 (dk_at dksX5_night_9 7 rfl rfl)
abbrev cX5_winters : ByteArray := prog_25_method_89_code
def yX5_winters : MethodName := ⟨RX5, "winters", "(II)I"⟩
def dkwX5_winters_10 : List UInt8 := [182, 0, 99, 172]
abbrev dktX5_winters_10 : List UInt8 := dkwX5_winters_10 ++ []
def dkwX5_winters_9 : List UInt8 := [120, 128, 62, 42, 180, 0, 88, 21, 4, 29, 79, 132, 4, 1, 167, 255, 86, 42, 29, 184, 1, 15]
abbrev dktX5_winters_9 : List UInt8 := dkwX5_winters_9 ++ dktX5_winters_10
def dkwX5_winters_8 : List UInt8 := [21, 7, 54, 6, 132, 7, 1, 167, 255, 196, 29, 21, 6, 2, 160, 0, 7, 3, 167, 0, 7, 4, 21, 6]
abbrev dktX5_winters_8 : List UInt8 := dkwX5_winters_8 ++ dktX5_winters_9
def dkwX5_winters_7 : List UInt8 := [128, 182, 1, 24, 184, 1, 15, 42, 29, 4, 21, 6, 120, 128, 182, 1, 24, 184, 1, 15, 162, 0, 7]
abbrev dktX5_winters_7 : List UInt8 := dkwX5_winters_7 ++ dktX5_winters_8
def dkwX5_winters_6 : List UInt8 := [162, 0, 57, 29, 21, 7, 184, 1, 18, 154, 0, 42, 21, 6, 2, 159, 0, 32, 42, 29, 4, 21, 7, 120]
abbrev dktX5_winters_6 : List UInt8 := dkwX5_winters_6 ++ dktX5_winters_7
def dkwX5_winters_5 : List UInt8 := [29, 21, 5, 2, 130, 126, 182, 1, 36, 62, 2, 54, 6, 3, 54, 7, 21, 7, 42, 182, 0, 102]
abbrev dktX5_winters_5 : List UInt8 := dkwX5_winters_5 ++ dktX5_winters_6
def dkwX5_winters_4 : List UInt8 := [16, 6, 182, 0, 113, 162, 0, 12, 21, 5, 4, 21, 6, 120, 128, 54, 5, 132, 6, 1, 167, 255, 209, 42]
abbrev dktX5_winters_4 : List UInt8 := dkwX5_winters_4 ++ dktX5_winters_5
def dkwX5_winters_3 : List UInt8 := [182, 0, 102, 162, 0, 44, 29, 21, 6, 184, 1, 18, 153, 0, 29, 42, 16, 100, 182, 1, 70, 42, 21, 6]
abbrev dktX5_winters_3 : List UInt8 := dkwX5_winters_3 ++ dktX5_winters_4
def dkwX5_winters_2 : List UInt8 := [17, 0, 159, 46, 62, 3, 54, 4, 21, 4, 28, 162, 0, 170, 3, 54, 5, 3, 54, 6, 21, 6, 42]
abbrev dktX5_winters_2 : List UInt8 := dkwX5_winters_2 ++ dktX5_winters_3
def dkwX5_winters_1 : List UInt8 := [182, 0, 95, 172, 42, 182, 1, 27, 42, 27, 181, 1, 60, 42, 28, 181, 1, 67, 42, 180, 0, 20]
abbrev dktX5_winters_1 : List UInt8 := dkwX5_winters_1 ++ dktX5_winters_2
def dkwX5_winters_0 : List UInt8 := [27, 3, 18, 157, 184, 0, 91, 153, 0, 13, 28, 4, 16, 40, 184, 0, 91, 154, 0, 9, 42, 2]
abbrev dktX5_winters_0 : List UInt8 := dkwX5_winters_0 ++ dktX5_winters_1
theorem dksX5_winters_0 : cX5_winters.data.toList.drop 0 = dktX5_winters_0 := by decide +kernel
theorem dksX5_winters_1 : cX5_winters.data.toList.drop 22 = dktX5_winters_1 := dk_seg dksX5_winters_0 22 rfl rfl
theorem dksX5_winters_2 : cX5_winters.data.toList.drop 44 = dktX5_winters_2 := dk_seg dksX5_winters_1 22 rfl rfl
theorem dksX5_winters_3 : cX5_winters.data.toList.drop 67 = dktX5_winters_3 := dk_seg dksX5_winters_2 23 rfl rfl
theorem dksX5_winters_4 : cX5_winters.data.toList.drop 91 = dktX5_winters_4 := dk_seg dksX5_winters_3 24 rfl rfl
theorem dksX5_winters_5 : cX5_winters.data.toList.drop 115 = dktX5_winters_5 := dk_seg dksX5_winters_4 24 rfl rfl
theorem dksX5_winters_6 : cX5_winters.data.toList.drop 137 = dktX5_winters_6 := dk_seg dksX5_winters_5 22 rfl rfl
theorem dksX5_winters_7 : cX5_winters.data.toList.drop 161 = dktX5_winters_7 := dk_seg dksX5_winters_6 24 rfl rfl
theorem dksX5_winters_8 : cX5_winters.data.toList.drop 184 = dktX5_winters_8 := dk_seg dksX5_winters_7 23 rfl rfl
theorem dksX5_winters_9 : cX5_winters.data.toList.drop 208 = dktX5_winters_9 := dk_seg dksX5_winters_8 24 rfl rfl
theorem dksX5_winters_10 : cX5_winters.data.toList.drop 230 = dktX5_winters_10 := dk_seg dksX5_winters_9 22 rfl rfl
theorem dX5_winters_0 : decode cX5_winters 0 = .ok (.iload_n 1, 1) := dk_27 (dk_at dksX5_winters_0 0 rfl rfl)
theorem dX5_winters_1 : decode cX5_winters 1 = .ok (.iconst 0, 1) := dk_3 (dk_at dksX5_winters_0 1 rfl rfl)
theorem dX5_winters_2 : decode cX5_winters 2 = .ok (.ldc 157, 2) := dk_18 157 (dk_at dksX5_winters_0 2 rfl rfl)
theorem dX5_winters_4 : decode cX5_winters 4 = .ok (.invokestatic 91, 3) := dk_184 0 91 (dk_at dksX5_winters_0 4 rfl rfl)
theorem dX5_winters_7 : decode cX5_winters 7 = .ok (.ifCond .eq 13, 3) := dk_153 0 13 (dk_at dksX5_winters_0 7 rfl rfl)
theorem dX5_winters_10 : decode cX5_winters 10 = .ok (.iload_n 2, 1) := dk_28 (dk_at dksX5_winters_0 10 rfl rfl)
theorem dX5_winters_11 : decode cX5_winters 11 = .ok (.iconst 1, 1) := dk_4 (dk_at dksX5_winters_0 11 rfl rfl)
theorem dX5_winters_12 : decode cX5_winters 12 = .ok (.bipush 40, 2) := dk_16 40 (dk_at dksX5_winters_0 12 rfl rfl)
theorem dX5_winters_14 : decode cX5_winters 14 = .ok (.invokestatic 91, 3) := dk_184 0 91 (dk_at dksX5_winters_0 14 rfl rfl)
theorem dX5_winters_17 : decode cX5_winters 17 = .ok (.ifCond .ne 9, 3) := dk_154 0 9 (dk_at dksX5_winters_0 17 rfl rfl)
theorem dX5_winters_20 : decode cX5_winters 20 = .ok (.aload_n 0, 1) := dk_42 (dk_at dksX5_winters_0 20 rfl rfl)
theorem dX5_winters_21 : decode cX5_winters 21 = .ok (.iconst (-1), 1) := dk_2 (dk_at dksX5_winters_0 21 rfl rfl)
theorem dX5_winters_22 : decode cX5_winters 22 = .ok (.invokevirtual 95, 3) := dk_182 0 95 (dk_at dksX5_winters_1 0 rfl rfl)
theorem dX5_winters_25 : decode cX5_winters 25 = .ok (.ireturn, 1) := dk_172 (dk_at dksX5_winters_1 3 rfl rfl)
theorem dX5_winters_26 : decode cX5_winters 26 = .ok (.aload_n 0, 1) := dk_42 (dk_at dksX5_winters_1 4 rfl rfl)
theorem dX5_winters_27 : decode cX5_winters 27 = .ok (.invokevirtual 283, 3) := dk_182 1 27 (dk_at dksX5_winters_1 5 rfl rfl)
theorem dX5_winters_30 : decode cX5_winters 30 = .ok (.aload_n 0, 1) := dk_42 (dk_at dksX5_winters_1 8 rfl rfl)
theorem dX5_winters_31 : decode cX5_winters 31 = .ok (.iload_n 1, 1) := dk_27 (dk_at dksX5_winters_1 9 rfl rfl)
theorem dX5_winters_32 : decode cX5_winters 32 = .ok (.putfield 316, 3) := dk_181 1 60 (dk_at dksX5_winters_1 10 rfl rfl)
theorem dX5_winters_35 : decode cX5_winters 35 = .ok (.aload_n 0, 1) := dk_42 (dk_at dksX5_winters_1 13 rfl rfl)
theorem dX5_winters_36 : decode cX5_winters 36 = .ok (.iload_n 2, 1) := dk_28 (dk_at dksX5_winters_1 14 rfl rfl)
theorem dX5_winters_37 : decode cX5_winters 37 = .ok (.putfield 323, 3) := dk_181 1 67 (dk_at dksX5_winters_1 15 rfl rfl)
theorem dX5_winters_40 : decode cX5_winters 40 = .ok (.aload_n 0, 1) := dk_42 (dk_at dksX5_winters_1 18 rfl rfl)
theorem dX5_winters_41 : decode cX5_winters 41 = .ok (.getfield 20, 3) := dk_180 0 20 (dk_at dksX5_winters_1 19 rfl rfl)
theorem dX5_winters_44 : decode cX5_winters 44 = .ok (.sipush 159, 3) := dk_17 0 159 (dk_at dksX5_winters_2 0 rfl rfl)
theorem dX5_winters_47 : decode cX5_winters 47 = .ok (.iaload, 1) := dk_46 (dk_at dksX5_winters_2 3 rfl rfl)
theorem dX5_winters_48 : decode cX5_winters 48 = .ok (.istore_n 3, 1) := dk_62 (dk_at dksX5_winters_2 4 rfl rfl)
theorem dX5_winters_49 : decode cX5_winters 49 = .ok (.iconst 0, 1) := dk_3 (dk_at dksX5_winters_2 5 rfl rfl)
theorem dX5_winters_50 : decode cX5_winters 50 = .ok (.istore 4, 2) := dk_54 4 (dk_at dksX5_winters_2 6 rfl rfl)
theorem dX5_winters_52 : decode cX5_winters 52 = .ok (.iload 4, 2) := dk_21 4 (dk_at dksX5_winters_2 8 rfl rfl)
theorem dX5_winters_54 : decode cX5_winters 54 = .ok (.iload_n 2, 1) := dk_28 (dk_at dksX5_winters_2 10 rfl rfl)
theorem dX5_winters_55 : decode cX5_winters 55 = .ok (.if_icmp .ge 170, 3) := dk_162 0 170 (dk_at dksX5_winters_2 11 rfl rfl)
theorem dX5_winters_58 : decode cX5_winters 58 = .ok (.iconst 0, 1) := dk_3 (dk_at dksX5_winters_2 14 rfl rfl)
theorem dX5_winters_59 : decode cX5_winters 59 = .ok (.istore 5, 2) := dk_54 5 (dk_at dksX5_winters_2 15 rfl rfl)
theorem dX5_winters_61 : decode cX5_winters 61 = .ok (.iconst 0, 1) := dk_3 (dk_at dksX5_winters_2 17 rfl rfl)
theorem dX5_winters_62 : decode cX5_winters 62 = .ok (.istore 6, 2) := dk_54 6 (dk_at dksX5_winters_2 18 rfl rfl)
theorem dX5_winters_64 : decode cX5_winters 64 = .ok (.iload 6, 2) := dk_21 6 (dk_at dksX5_winters_2 20 rfl rfl)
theorem dX5_winters_66 : decode cX5_winters 66 = .ok (.aload_n 0, 1) := dk_42 (dk_at dksX5_winters_2 22 rfl rfl)
theorem dX5_winters_67 : decode cX5_winters 67 = .ok (.invokevirtual 102, 3) := dk_182 0 102 (dk_at dksX5_winters_3 0 rfl rfl)
theorem dX5_winters_70 : decode cX5_winters 70 = .ok (.if_icmp .ge 44, 3) := dk_162 0 44 (dk_at dksX5_winters_3 3 rfl rfl)
theorem dX5_winters_73 : decode cX5_winters 73 = .ok (.iload_n 3, 1) := dk_29 (dk_at dksX5_winters_3 6 rfl rfl)
theorem dX5_winters_74 : decode cX5_winters 74 = .ok (.iload 6, 2) := dk_21 6 (dk_at dksX5_winters_3 7 rfl rfl)
theorem dX5_winters_76 : decode cX5_winters 76 = .ok (.invokestatic 274, 3) := dk_184 1 18 (dk_at dksX5_winters_3 9 rfl rfl)
theorem dX5_winters_79 : decode cX5_winters 79 = .ok (.ifCond .eq 29, 3) := dk_153 0 29 (dk_at dksX5_winters_3 12 rfl rfl)
theorem dX5_winters_82 : decode cX5_winters 82 = .ok (.aload_n 0, 1) := dk_42 (dk_at dksX5_winters_3 15 rfl rfl)
theorem dX5_winters_83 : decode cX5_winters 83 = .ok (.bipush 100, 2) := dk_16 100 (dk_at dksX5_winters_3 16 rfl rfl)
theorem dX5_winters_85 : decode cX5_winters 85 = .ok (.invokevirtual 326, 3) := dk_182 1 70 (dk_at dksX5_winters_3 18 rfl rfl)
theorem dX5_winters_88 : decode cX5_winters 88 = .ok (.aload_n 0, 1) := dk_42 (dk_at dksX5_winters_3 21 rfl rfl)
theorem dX5_winters_89 : decode cX5_winters 89 = .ok (.iload 6, 2) := dk_21 6 (dk_at dksX5_winters_3 22 rfl rfl)
theorem dX5_winters_91 : decode cX5_winters 91 = .ok (.bipush 6, 2) := dk_16 6 (dk_at dksX5_winters_4 0 rfl rfl)
theorem dX5_winters_93 : decode cX5_winters 93 = .ok (.invokevirtual 113, 3) := dk_182 0 113 (dk_at dksX5_winters_4 2 rfl rfl)
theorem dX5_winters_96 : decode cX5_winters 96 = .ok (.if_icmp .ge 12, 3) := dk_162 0 12 (dk_at dksX5_winters_4 5 rfl rfl)
theorem dX5_winters_99 : decode cX5_winters 99 = .ok (.iload 5, 2) := dk_21 5 (dk_at dksX5_winters_4 8 rfl rfl)
theorem dX5_winters_101 : decode cX5_winters 101 = .ok (.iconst 1, 1) := dk_4 (dk_at dksX5_winters_4 10 rfl rfl)
theorem dX5_winters_102 : decode cX5_winters 102 = .ok (.iload 6, 2) := dk_21 6 (dk_at dksX5_winters_4 11 rfl rfl)
theorem dX5_winters_104 : decode cX5_winters 104 = .ok (.ishl, 1) := dk_120 (dk_at dksX5_winters_4 13 rfl rfl)
theorem dX5_winters_105 : decode cX5_winters 105 = .ok (.ior, 1) := dk_128 (dk_at dksX5_winters_4 14 rfl rfl)
theorem dX5_winters_106 : decode cX5_winters 106 = .ok (.istore 5, 2) := dk_54 5 (dk_at dksX5_winters_4 15 rfl rfl)
theorem dX5_winters_108 : decode cX5_winters 108 = .ok (.iinc 6 1, 3) := dk_132 6 1 (dk_at dksX5_winters_4 17 rfl rfl)
theorem dX5_winters_111 : decode cX5_winters 111 = .ok (.goto (-47), 3) := dk_167 255 209 (dk_at dksX5_winters_4 20 rfl rfl)
theorem dX5_winters_114 : decode cX5_winters 114 = .ok (.aload_n 0, 1) := dk_42 (dk_at dksX5_winters_4 23 rfl rfl)
theorem dX5_winters_115 : decode cX5_winters 115 = .ok (.iload_n 3, 1) := dk_29 (dk_at dksX5_winters_5 0 rfl rfl)
theorem dX5_winters_116 : decode cX5_winters 116 = .ok (.iload 5, 2) := dk_21 5 (dk_at dksX5_winters_5 1 rfl rfl)
theorem dX5_winters_118 : decode cX5_winters 118 = .ok (.iconst (-1), 1) := dk_2 (dk_at dksX5_winters_5 3 rfl rfl)
theorem dX5_winters_119 : decode cX5_winters 119 = .ok (.ixor, 1) := dk_130 (dk_at dksX5_winters_5 4 rfl rfl)
theorem dX5_winters_120 : decode cX5_winters 120 = .ok (.iand, 1) := dk_126 (dk_at dksX5_winters_5 5 rfl rfl)
theorem dX5_winters_121 : decode cX5_winters 121 = .ok (.invokevirtual 292, 3) := dk_182 1 36 (dk_at dksX5_winters_5 6 rfl rfl)
theorem dX5_winters_124 : decode cX5_winters 124 = .ok (.istore_n 3, 1) := dk_62 (dk_at dksX5_winters_5 9 rfl rfl)
theorem dX5_winters_125 : decode cX5_winters 125 = .ok (.iconst (-1), 1) := dk_2 (dk_at dksX5_winters_5 10 rfl rfl)
theorem dX5_winters_126 : decode cX5_winters 126 = .ok (.istore 6, 2) := dk_54 6 (dk_at dksX5_winters_5 11 rfl rfl)
theorem dX5_winters_128 : decode cX5_winters 128 = .ok (.iconst 0, 1) := dk_3 (dk_at dksX5_winters_5 13 rfl rfl)
theorem dX5_winters_129 : decode cX5_winters 129 = .ok (.istore 7, 2) := dk_54 7 (dk_at dksX5_winters_5 14 rfl rfl)
theorem dX5_winters_131 : decode cX5_winters 131 = .ok (.iload 7, 2) := dk_21 7 (dk_at dksX5_winters_5 16 rfl rfl)
theorem dX5_winters_133 : decode cX5_winters 133 = .ok (.aload_n 0, 1) := dk_42 (dk_at dksX5_winters_5 18 rfl rfl)
theorem dX5_winters_134 : decode cX5_winters 134 = .ok (.invokevirtual 102, 3) := dk_182 0 102 (dk_at dksX5_winters_5 19 rfl rfl)
theorem dX5_winters_137 : decode cX5_winters 137 = .ok (.if_icmp .ge 57, 3) := dk_162 0 57 (dk_at dksX5_winters_6 0 rfl rfl)
theorem dX5_winters_140 : decode cX5_winters 140 = .ok (.iload_n 3, 1) := dk_29 (dk_at dksX5_winters_6 3 rfl rfl)
theorem dX5_winters_141 : decode cX5_winters 141 = .ok (.iload 7, 2) := dk_21 7 (dk_at dksX5_winters_6 4 rfl rfl)
theorem dX5_winters_143 : decode cX5_winters 143 = .ok (.invokestatic 274, 3) := dk_184 1 18 (dk_at dksX5_winters_6 6 rfl rfl)
theorem dX5_winters_146 : decode cX5_winters 146 = .ok (.ifCond .ne 42, 3) := dk_154 0 42 (dk_at dksX5_winters_6 9 rfl rfl)
theorem dX5_winters_149 : decode cX5_winters 149 = .ok (.iload 6, 2) := dk_21 6 (dk_at dksX5_winters_6 12 rfl rfl)
theorem dX5_winters_151 : decode cX5_winters 151 = .ok (.iconst (-1), 1) := dk_2 (dk_at dksX5_winters_6 14 rfl rfl)
theorem dX5_winters_152 : decode cX5_winters 152 = .ok (.if_icmp .eq 32, 3) := dk_159 0 32 (dk_at dksX5_winters_6 15 rfl rfl)
theorem dX5_winters_155 : decode cX5_winters 155 = .ok (.aload_n 0, 1) := dk_42 (dk_at dksX5_winters_6 18 rfl rfl)
theorem dX5_winters_156 : decode cX5_winters 156 = .ok (.iload_n 3, 1) := dk_29 (dk_at dksX5_winters_6 19 rfl rfl)
theorem dX5_winters_157 : decode cX5_winters 157 = .ok (.iconst 1, 1) := dk_4 (dk_at dksX5_winters_6 20 rfl rfl)
theorem dX5_winters_158 : decode cX5_winters 158 = .ok (.iload 7, 2) := dk_21 7 (dk_at dksX5_winters_6 21 rfl rfl)
theorem dX5_winters_160 : decode cX5_winters 160 = .ok (.ishl, 1) := dk_120 (dk_at dksX5_winters_6 23 rfl rfl)
theorem dX5_winters_161 : decode cX5_winters 161 = .ok (.ior, 1) := dk_128 (dk_at dksX5_winters_7 0 rfl rfl)
theorem dX5_winters_162 : decode cX5_winters 162 = .ok (.invokevirtual 280, 3) := dk_182 1 24 (dk_at dksX5_winters_7 1 rfl rfl)
theorem dX5_winters_165 : decode cX5_winters 165 = .ok (.invokestatic 271, 3) := dk_184 1 15 (dk_at dksX5_winters_7 4 rfl rfl)
theorem dX5_winters_168 : decode cX5_winters 168 = .ok (.aload_n 0, 1) := dk_42 (dk_at dksX5_winters_7 7 rfl rfl)
theorem dX5_winters_169 : decode cX5_winters 169 = .ok (.iload_n 3, 1) := dk_29 (dk_at dksX5_winters_7 8 rfl rfl)
theorem dX5_winters_170 : decode cX5_winters 170 = .ok (.iconst 1, 1) := dk_4 (dk_at dksX5_winters_7 9 rfl rfl)
theorem dX5_winters_171 : decode cX5_winters 171 = .ok (.iload 6, 2) := dk_21 6 (dk_at dksX5_winters_7 10 rfl rfl)
theorem dX5_winters_173 : decode cX5_winters 173 = .ok (.ishl, 1) := dk_120 (dk_at dksX5_winters_7 12 rfl rfl)
theorem dX5_winters_174 : decode cX5_winters 174 = .ok (.ior, 1) := dk_128 (dk_at dksX5_winters_7 13 rfl rfl)
theorem dX5_winters_175 : decode cX5_winters 175 = .ok (.invokevirtual 280, 3) := dk_182 1 24 (dk_at dksX5_winters_7 14 rfl rfl)
theorem dX5_winters_178 : decode cX5_winters 178 = .ok (.invokestatic 271, 3) := dk_184 1 15 (dk_at dksX5_winters_7 17 rfl rfl)
theorem dX5_winters_181 : decode cX5_winters 181 = .ok (.if_icmp .ge 7, 3) := dk_162 0 7 (dk_at dksX5_winters_7 20 rfl rfl)
theorem dX5_winters_184 : decode cX5_winters 184 = .ok (.iload 7, 2) := dk_21 7 (dk_at dksX5_winters_8 0 rfl rfl)
theorem dX5_winters_186 : decode cX5_winters 186 = .ok (.istore 6, 2) := dk_54 6 (dk_at dksX5_winters_8 2 rfl rfl)
theorem dX5_winters_188 : decode cX5_winters 188 = .ok (.iinc 7 1, 3) := dk_132 7 1 (dk_at dksX5_winters_8 4 rfl rfl)
theorem dX5_winters_191 : decode cX5_winters 191 = .ok (.goto (-60), 3) := dk_167 255 196 (dk_at dksX5_winters_8 7 rfl rfl)
theorem dX5_winters_194 : decode cX5_winters 194 = .ok (.iload_n 3, 1) := dk_29 (dk_at dksX5_winters_8 10 rfl rfl)
theorem dX5_winters_195 : decode cX5_winters 195 = .ok (.iload 6, 2) := dk_21 6 (dk_at dksX5_winters_8 11 rfl rfl)
theorem dX5_winters_197 : decode cX5_winters 197 = .ok (.iconst (-1), 1) := dk_2 (dk_at dksX5_winters_8 13 rfl rfl)
theorem dX5_winters_198 : decode cX5_winters 198 = .ok (.if_icmp .ne 7, 3) := dk_160 0 7 (dk_at dksX5_winters_8 14 rfl rfl)
theorem dX5_winters_201 : decode cX5_winters 201 = .ok (.iconst 0, 1) := dk_3 (dk_at dksX5_winters_8 17 rfl rfl)
theorem dX5_winters_202 : decode cX5_winters 202 = .ok (.goto 7, 3) := dk_167 0 7 (dk_at dksX5_winters_8 18 rfl rfl)
theorem dX5_winters_205 : decode cX5_winters 205 = .ok (.iconst 1, 1) := dk_4 (dk_at dksX5_winters_8 21 rfl rfl)
theorem dX5_winters_206 : decode cX5_winters 206 = .ok (.iload 6, 2) := dk_21 6 (dk_at dksX5_winters_8 22 rfl rfl)
theorem dX5_winters_208 : decode cX5_winters 208 = .ok (.ishl, 1) := dk_120 (dk_at dksX5_winters_9 0 rfl rfl)
theorem dX5_winters_209 : decode cX5_winters 209 = .ok (.ior, 1) := dk_128 (dk_at dksX5_winters_9 1 rfl rfl)
theorem dX5_winters_210 : decode cX5_winters 210 = .ok (.istore_n 3, 1) := dk_62 (dk_at dksX5_winters_9 2 rfl rfl)
theorem dX5_winters_211 : decode cX5_winters 211 = .ok (.aload_n 0, 1) := dk_42 (dk_at dksX5_winters_9 3 rfl rfl)
theorem dX5_winters_212 : decode cX5_winters 212 = .ok (.getfield 88, 3) := dk_180 0 88 (dk_at dksX5_winters_9 4 rfl rfl)
theorem dX5_winters_215 : decode cX5_winters 215 = .ok (.iload 4, 2) := dk_21 4 (dk_at dksX5_winters_9 7 rfl rfl)
theorem dX5_winters_217 : decode cX5_winters 217 = .ok (.iload_n 3, 1) := dk_29 (dk_at dksX5_winters_9 9 rfl rfl)
theorem dX5_winters_218 : decode cX5_winters 218 = .ok (.iastore, 1) := dk_79 (dk_at dksX5_winters_9 10 rfl rfl)
theorem dX5_winters_219 : decode cX5_winters 219 = .ok (.iinc 4 1, 3) := dk_132 4 1 (dk_at dksX5_winters_9 11 rfl rfl)
theorem dX5_winters_222 : decode cX5_winters 222 = .ok (.goto (-170), 3) := dk_167 255 86 (dk_at dksX5_winters_9 14 rfl rfl)
theorem dX5_winters_225 : decode cX5_winters 225 = .ok (.aload_n 0, 1) := dk_42 (dk_at dksX5_winters_9 17 rfl rfl)
theorem dX5_winters_226 : decode cX5_winters 226 = .ok (.iload_n 3, 1) := dk_29 (dk_at dksX5_winters_9 18 rfl rfl)
theorem dX5_winters_227 : decode cX5_winters 227 = .ok (.invokestatic 271, 3) := dk_184 1 15 (dk_at dksX5_winters_9 19 rfl rfl)
theorem dX5_winters_230 : decode cX5_winters 230 = .ok (.invokevirtual 99, 3) := dk_182 0 99 (dk_at dksX5_winters_10 0 rfl rfl)
theorem dX5_winters_233 : decode cX5_winters 233 = .ok (.ireturn, 1) := dk_172 (dk_at dksX5_winters_10 3 rfl rfl)
abbrev cX5_draws : ByteArray := prog_25_method_88_code
def yX5_draws : MethodName := ⟨RX5, "draws", "(I)I"⟩
def dkwX5_draws_1 : List UInt8 := [180, 1, 60, 27, 112, 172]
abbrev dktX5_draws_1 : List UInt8 := dkwX5_draws_1 ++ []
def dkwX5_draws_0 : List UInt8 := [42, 20, 1, 58, 42, 180, 1, 60, 133, 105, 20, 1, 63, 97, 20, 1, 65, 113, 136, 181, 1, 60, 42]
abbrev dktX5_draws_0 : List UInt8 := dkwX5_draws_0 ++ dktX5_draws_1
theorem dksX5_draws_0 : cX5_draws.data.toList.drop 0 = dktX5_draws_0 := by decide +kernel
theorem dksX5_draws_1 : cX5_draws.data.toList.drop 23 = dktX5_draws_1 := dk_seg dksX5_draws_0 23 rfl rfl
theorem dX5_draws_0 : decode cX5_draws 0 = .ok (.aload_n 0, 1) := dk_42 (dk_at dksX5_draws_0 0 rfl rfl)
theorem dX5_draws_1 : decode cX5_draws 1 = .ok (.ldc2_w 314, 3) := dk_20 1 58 (dk_at dksX5_draws_0 1 rfl rfl)
theorem dX5_draws_4 : decode cX5_draws 4 = .ok (.aload_n 0, 1) := dk_42 (dk_at dksX5_draws_0 4 rfl rfl)
theorem dX5_draws_5 : decode cX5_draws 5 = .ok (.getfield 316, 3) := dk_180 1 60 (dk_at dksX5_draws_0 5 rfl rfl)
theorem dX5_draws_8 : decode cX5_draws 8 = .ok (.i2l, 1) := dk_133 (dk_at dksX5_draws_0 8 rfl rfl)
theorem dX5_draws_9 : decode cX5_draws 9 = .ok (.lmul, 1) := dk_105 (dk_at dksX5_draws_0 9 rfl rfl)
theorem dX5_draws_10 : decode cX5_draws 10 = .ok (.ldc2_w 319, 3) := dk_20 1 63 (dk_at dksX5_draws_0 10 rfl rfl)
theorem dX5_draws_13 : decode cX5_draws 13 = .ok (.ladd, 1) := dk_97 (dk_at dksX5_draws_0 13 rfl rfl)
theorem dX5_draws_14 : decode cX5_draws 14 = .ok (.ldc2_w 321, 3) := dk_20 1 65 (dk_at dksX5_draws_0 14 rfl rfl)
theorem dX5_draws_17 : decode cX5_draws 17 = .ok (.lrem, 1) := dk_113 (dk_at dksX5_draws_0 17 rfl rfl)
theorem dX5_draws_18 : decode cX5_draws 18 = .ok (.l2i, 1) := dk_136 (dk_at dksX5_draws_0 18 rfl rfl)
theorem dX5_draws_19 : decode cX5_draws 19 = .ok (.putfield 316, 3) := dk_181 1 60 (dk_at dksX5_draws_0 19 rfl rfl)
theorem dX5_draws_22 : decode cX5_draws 22 = .ok (.aload_n 0, 1) := dk_42 (dk_at dksX5_draws_0 22 rfl rfl)
theorem dX5_draws_23 : decode cX5_draws 23 = .ok (.getfield 316, 3) := dk_180 1 60 (dk_at dksX5_draws_1 0 rfl rfl)
theorem dX5_draws_26 : decode cX5_draws 26 = .ok (.iload_n 1, 1) := dk_27 (dk_at dksX5_draws_1 3 rfl rfl)
theorem dX5_draws_27 : decode cX5_draws 27 = .ok (.irem, 1) := dk_112 (dk_at dksX5_draws_1 4 rfl rfl)
theorem dX5_draws_28 : decode cX5_draws 28 = .ok (.ireturn, 1) := dk_172 (dk_at dksX5_draws_1 5 rfl rfl)
abbrev cX5_winter : ByteArray := prog_25_method_90_code
def yX5_winter : MethodName := ⟨RX5, "winter", "(I)I"⟩
def dkwX5_winter_1 : List UInt8 := [172]
abbrev dktX5_winter_1 : List UInt8 := dkwX5_winter_1 ++ []
def dkwX5_winter_0 : List UInt8 := [27, 3, 42, 180, 1, 67, 4, 100, 184, 0, 91, 153, 0, 12, 42, 180, 0, 88, 27, 46, 167, 0, 4, 2]
abbrev dktX5_winter_0 : List UInt8 := dkwX5_winter_0 ++ dktX5_winter_1
theorem dksX5_winter_0 : cX5_winter.data.toList.drop 0 = dktX5_winter_0 := by decide +kernel
theorem dksX5_winter_1 : cX5_winter.data.toList.drop 24 = dktX5_winter_1 := dk_seg dksX5_winter_0 24 rfl rfl
theorem dX5_winter_0 : decode cX5_winter 0 = .ok (.iload_n 1, 1) := dk_27 (dk_at dksX5_winter_0 0 rfl rfl)
theorem dX5_winter_1 : decode cX5_winter 1 = .ok (.iconst 0, 1) := dk_3 (dk_at dksX5_winter_0 1 rfl rfl)
theorem dX5_winter_2 : decode cX5_winter 2 = .ok (.aload_n 0, 1) := dk_42 (dk_at dksX5_winter_0 2 rfl rfl)
theorem dX5_winter_3 : decode cX5_winter 3 = .ok (.getfield 323, 3) := dk_180 1 67 (dk_at dksX5_winter_0 3 rfl rfl)
theorem dX5_winter_6 : decode cX5_winter 6 = .ok (.iconst 1, 1) := dk_4 (dk_at dksX5_winter_0 6 rfl rfl)
theorem dX5_winter_7 : decode cX5_winter 7 = .ok (.isub, 1) := dk_100 (dk_at dksX5_winter_0 7 rfl rfl)
theorem dX5_winter_8 : decode cX5_winter 8 = .ok (.invokestatic 91, 3) := dk_184 0 91 (dk_at dksX5_winter_0 8 rfl rfl)
theorem dX5_winter_11 : decode cX5_winter 11 = .ok (.ifCond .eq 12, 3) := dk_153 0 12 (dk_at dksX5_winter_0 11 rfl rfl)
theorem dX5_winter_14 : decode cX5_winter 14 = .ok (.aload_n 0, 1) := dk_42 (dk_at dksX5_winter_0 14 rfl rfl)
theorem dX5_winter_15 : decode cX5_winter 15 = .ok (.getfield 88, 3) := dk_180 0 88 (dk_at dksX5_winter_0 15 rfl rfl)
theorem dX5_winter_18 : decode cX5_winter 18 = .ok (.iload_n 1, 1) := dk_27 (dk_at dksX5_winter_0 18 rfl rfl)
theorem dX5_winter_19 : decode cX5_winter 19 = .ok (.iaload, 1) := dk_46 (dk_at dksX5_winter_0 19 rfl rfl)
theorem dX5_winter_20 : decode cX5_winter 20 = .ok (.goto 4, 3) := dk_167 0 4 (dk_at dksX5_winter_0 20 rfl rfl)
theorem dX5_winter_23 : decode cX5_winter 23 = .ok (.iconst (-1), 1) := dk_2 (dk_at dksX5_winter_0 23 rfl rfl)
theorem dX5_winter_24 : decode cX5_winter 24 = .ok (.ireturn, 1) := dk_172 (dk_at dksX5_winter_1 0 rfl rfl)
abbrev cX5_count : ByteArray := prog_25_method_91_code
def yX5_count : MethodName := ⟨RX5, "count", "(I)I"⟩
def dkwX5_count_5 : List UInt8 := [180, 0, 20, 17, 0, 154, 27, 96, 16, 11, 100, 46, 172, 2, 172]
abbrev dktX5_count_5 : List UInt8 := dkwX5_count_5 ++ []
def dkwX5_count_4 : List UInt8 := [180, 0, 7, 8, 46, 172, 42, 180, 0, 7, 16, 6, 46, 172, 42, 180, 0, 20, 17, 0, 161, 46, 172, 42]
abbrev dktX5_count_4 : List UInt8 := dkwX5_count_4 ++ dktX5_count_5
def dkwX5_count_3 : List UInt8 := [180, 0, 20, 17, 0, 160, 46, 172, 42, 180, 0, 139, 172, 42, 180, 0, 7, 27, 7, 100, 46, 172, 42]
abbrev dktX5_count_3 : List UInt8 := dkwX5_count_3 ++ dktX5_count_4
def dkwX5_count_2 : List UInt8 := [42, 182, 0, 102, 172, 42, 180, 0, 20, 17, 0, 159, 46, 184, 1, 15, 172, 42, 182, 0, 110, 172, 42]
abbrev dktX5_count_2 : List UInt8 := dkwX5_count_2 ++ dktX5_count_3
def dkwX5_count_1 : List UInt8 := [170, 0, 0, 0, 0, 0, 154, 0, 0, 0, 0, 0, 0, 0, 13, 0, 0, 0, 71, 0, 0, 0, 76, 0, 0, 0, 88, 0, 0, 0, 93, 0, 0, 0, 102, 0, 0, 0, 107, 0, 0, 0, 107, 0, 0, 0, 107, 0, 0, 0, 116, 0, 0, 0, 123, 0, 0, 0, 131, 0, 0, 0, 140, 0, 0, 0, 140, 0, 0, 0, 140]
abbrev dktX5_count_1 : List UInt8 := dkwX5_count_1 ++ dktX5_count_2
def dkwX5_count_0 : List UInt8 := [27]
abbrev dktX5_count_0 : List UInt8 := dkwX5_count_0 ++ dktX5_count_1
theorem dksX5_count_0 : cX5_count.data.toList.drop 0 = dktX5_count_0 := by decide +kernel
theorem dksX5_count_1 : cX5_count.data.toList.drop 1 = dktX5_count_1 := dk_seg dksX5_count_0 1 rfl rfl
theorem dksX5_count_2 : cX5_count.data.toList.drop 72 = dktX5_count_2 := dk_seg dksX5_count_1 71 rfl rfl
theorem dksX5_count_3 : cX5_count.data.toList.drop 95 = dktX5_count_3 := dk_seg dksX5_count_2 23 rfl rfl
theorem dksX5_count_4 : cX5_count.data.toList.drop 118 = dktX5_count_4 := dk_seg dksX5_count_3 23 rfl rfl
theorem dksX5_count_5 : cX5_count.data.toList.drop 142 = dktX5_count_5 := dk_seg dksX5_count_4 24 rfl rfl
theorem dX5_count_0 : decode cX5_count 0 = .ok (.iload_n 1, 1) := dk_27 (dk_at dksX5_count_0 0 rfl rfl)
theorem dX5_count_1 : decode cX5_count 1 = .ok (.tableswitch 154 0 13 #[71, 76, 88, 93, 102, 107, 107, 107, 116, 123, 131, 140, 140, 140], 71) := by decide +kernel
theorem dX5_count_72 : decode cX5_count 72 = .ok (.aload_n 0, 1) := dk_42 (dk_at dksX5_count_2 0 rfl rfl)
theorem dX5_count_73 : decode cX5_count 73 = .ok (.invokevirtual 102, 3) := dk_182 0 102 (dk_at dksX5_count_2 1 rfl rfl)
theorem dX5_count_76 : decode cX5_count 76 = .ok (.ireturn, 1) := dk_172 (dk_at dksX5_count_2 4 rfl rfl)
theorem dX5_count_77 : decode cX5_count 77 = .ok (.aload_n 0, 1) := dk_42 (dk_at dksX5_count_2 5 rfl rfl)
theorem dX5_count_78 : decode cX5_count 78 = .ok (.getfield 20, 3) := dk_180 0 20 (dk_at dksX5_count_2 6 rfl rfl)
theorem dX5_count_81 : decode cX5_count 81 = .ok (.sipush 159, 3) := dk_17 0 159 (dk_at dksX5_count_2 9 rfl rfl)
theorem dX5_count_84 : decode cX5_count 84 = .ok (.iaload, 1) := dk_46 (dk_at dksX5_count_2 12 rfl rfl)
theorem dX5_count_85 : decode cX5_count 85 = .ok (.invokestatic 271, 3) := dk_184 1 15 (dk_at dksX5_count_2 13 rfl rfl)
theorem dX5_count_88 : decode cX5_count 88 = .ok (.ireturn, 1) := dk_172 (dk_at dksX5_count_2 16 rfl rfl)
theorem dX5_count_89 : decode cX5_count 89 = .ok (.aload_n 0, 1) := dk_42 (dk_at dksX5_count_2 17 rfl rfl)
theorem dX5_count_90 : decode cX5_count 90 = .ok (.invokevirtual 110, 3) := dk_182 0 110 (dk_at dksX5_count_2 18 rfl rfl)
theorem dX5_count_93 : decode cX5_count 93 = .ok (.ireturn, 1) := dk_172 (dk_at dksX5_count_2 21 rfl rfl)
theorem dX5_count_94 : decode cX5_count 94 = .ok (.aload_n 0, 1) := dk_42 (dk_at dksX5_count_2 22 rfl rfl)
theorem dX5_count_95 : decode cX5_count 95 = .ok (.getfield 20, 3) := dk_180 0 20 (dk_at dksX5_count_3 0 rfl rfl)
theorem dX5_count_98 : decode cX5_count 98 = .ok (.sipush 160, 3) := dk_17 0 160 (dk_at dksX5_count_3 3 rfl rfl)
theorem dX5_count_101 : decode cX5_count 101 = .ok (.iaload, 1) := dk_46 (dk_at dksX5_count_3 6 rfl rfl)
theorem dX5_count_102 : decode cX5_count 102 = .ok (.ireturn, 1) := dk_172 (dk_at dksX5_count_3 7 rfl rfl)
theorem dX5_count_103 : decode cX5_count 103 = .ok (.aload_n 0, 1) := dk_42 (dk_at dksX5_count_3 8 rfl rfl)
theorem dX5_count_104 : decode cX5_count 104 = .ok (.getfield 139, 3) := dk_180 0 139 (dk_at dksX5_count_3 9 rfl rfl)
theorem dX5_count_107 : decode cX5_count 107 = .ok (.ireturn, 1) := dk_172 (dk_at dksX5_count_3 12 rfl rfl)
theorem dX5_count_108 : decode cX5_count 108 = .ok (.aload_n 0, 1) := dk_42 (dk_at dksX5_count_3 13 rfl rfl)
theorem dX5_count_109 : decode cX5_count 109 = .ok (.getfield 7, 3) := dk_180 0 7 (dk_at dksX5_count_3 14 rfl rfl)
theorem dX5_count_112 : decode cX5_count 112 = .ok (.iload_n 1, 1) := dk_27 (dk_at dksX5_count_3 17 rfl rfl)
theorem dX5_count_113 : decode cX5_count 113 = .ok (.iconst 4, 1) := dk_7 (dk_at dksX5_count_3 18 rfl rfl)
theorem dX5_count_114 : decode cX5_count 114 = .ok (.isub, 1) := dk_100 (dk_at dksX5_count_3 19 rfl rfl)
theorem dX5_count_115 : decode cX5_count 115 = .ok (.iaload, 1) := dk_46 (dk_at dksX5_count_3 20 rfl rfl)
theorem dX5_count_116 : decode cX5_count 116 = .ok (.ireturn, 1) := dk_172 (dk_at dksX5_count_3 21 rfl rfl)
theorem dX5_count_117 : decode cX5_count 117 = .ok (.aload_n 0, 1) := dk_42 (dk_at dksX5_count_3 22 rfl rfl)
theorem dX5_count_118 : decode cX5_count 118 = .ok (.getfield 7, 3) := dk_180 0 7 (dk_at dksX5_count_4 0 rfl rfl)
theorem dX5_count_121 : decode cX5_count 121 = .ok (.iconst 5, 1) := dk_8 (dk_at dksX5_count_4 3 rfl rfl)
theorem dX5_count_122 : decode cX5_count 122 = .ok (.iaload, 1) := dk_46 (dk_at dksX5_count_4 4 rfl rfl)
theorem dX5_count_123 : decode cX5_count 123 = .ok (.ireturn, 1) := dk_172 (dk_at dksX5_count_4 5 rfl rfl)
theorem dX5_count_124 : decode cX5_count 124 = .ok (.aload_n 0, 1) := dk_42 (dk_at dksX5_count_4 6 rfl rfl)
theorem dX5_count_125 : decode cX5_count 125 = .ok (.getfield 7, 3) := dk_180 0 7 (dk_at dksX5_count_4 7 rfl rfl)
theorem dX5_count_128 : decode cX5_count 128 = .ok (.bipush 6, 2) := dk_16 6 (dk_at dksX5_count_4 10 rfl rfl)
theorem dX5_count_130 : decode cX5_count 130 = .ok (.iaload, 1) := dk_46 (dk_at dksX5_count_4 12 rfl rfl)
theorem dX5_count_131 : decode cX5_count 131 = .ok (.ireturn, 1) := dk_172 (dk_at dksX5_count_4 13 rfl rfl)
theorem dX5_count_132 : decode cX5_count 132 = .ok (.aload_n 0, 1) := dk_42 (dk_at dksX5_count_4 14 rfl rfl)
theorem dX5_count_133 : decode cX5_count 133 = .ok (.getfield 20, 3) := dk_180 0 20 (dk_at dksX5_count_4 15 rfl rfl)
theorem dX5_count_136 : decode cX5_count 136 = .ok (.sipush 161, 3) := dk_17 0 161 (dk_at dksX5_count_4 18 rfl rfl)
theorem dX5_count_139 : decode cX5_count 139 = .ok (.iaload, 1) := dk_46 (dk_at dksX5_count_4 21 rfl rfl)
theorem dX5_count_140 : decode cX5_count 140 = .ok (.ireturn, 1) := dk_172 (dk_at dksX5_count_4 22 rfl rfl)
theorem dX5_count_141 : decode cX5_count 141 = .ok (.aload_n 0, 1) := dk_42 (dk_at dksX5_count_4 23 rfl rfl)
theorem dX5_count_142 : decode cX5_count 142 = .ok (.getfield 20, 3) := dk_180 0 20 (dk_at dksX5_count_5 0 rfl rfl)
theorem dX5_count_145 : decode cX5_count 145 = .ok (.sipush 154, 3) := dk_17 0 154 (dk_at dksX5_count_5 3 rfl rfl)
theorem dX5_count_148 : decode cX5_count 148 = .ok (.iload_n 1, 1) := dk_27 (dk_at dksX5_count_5 6 rfl rfl)
theorem dX5_count_149 : decode cX5_count 149 = .ok (.iadd, 1) := dk_96 (dk_at dksX5_count_5 7 rfl rfl)
theorem dX5_count_150 : decode cX5_count 150 = .ok (.bipush 11, 2) := dk_16 11 (dk_at dksX5_count_5 8 rfl rfl)
theorem dX5_count_152 : decode cX5_count 152 = .ok (.isub, 1) := dk_100 (dk_at dksX5_count_5 10 rfl rfl)
theorem dX5_count_153 : decode cX5_count 153 = .ok (.iaload, 1) := dk_46 (dk_at dksX5_count_5 11 rfl rfl)
theorem dX5_count_154 : decode cX5_count 154 = .ok (.ireturn, 1) := dk_172 (dk_at dksX5_count_5 12 rfl rfl)
theorem dX5_count_155 : decode cX5_count 155 = .ok (.iconst (-1), 1) := dk_2 (dk_at dksX5_count_5 13 rfl rfl)
theorem dX5_count_156 : decode cX5_count 156 = .ok (.ireturn, 1) := dk_172 (dk_at dksX5_count_5 14 rfl rfl)
abbrev cX5_status : ByteArray := prog_25_method_92_code
def yX5_status : MethodName := ⟨RX5, "status", "()I"⟩
theorem dX5_status_0 : decode cX5_status 0 = .ok (.aload_n 0, 1) := by decide +kernel
theorem dX5_status_1 : decode cX5_status 1 = .ok (.getfield 3, 3) := by decide +kernel
theorem dX5_status_4 : decode cX5_status 4 = .ok (.ireturn, 1) := by decide +kernel
theorem q94 : (Jvm.Cond.initialized "FiveTouchModel") ∈ lw_all := lw_g (lw_at lw_m1 9 rfl) rfl
theorem q482 : (Jvm.Cond.selects "FiveTouchModel" ({ cls := "java/lang/Object", name := "getClass", desc := "()Ljava/lang/Class;" } : Jvm.MethodName) ({ cls := "java/lang/Object", name := "getClass", desc := "()Ljava/lang/Class;" } : Jvm.MethodName)) ∈ lw_all := lw_g (lw_at lw_m2 157 rfl) rfl
theorem q1368 : (Jvm.Cond.instantiable "FiveTouchModel" (39 : Nat)) ∈ lw_all := lw_g (lw_at lw_m6 83 rfl) rfl
theorem q1370 : (Jvm.Cond.instanceMethod ({ cls := "FiveTouchModel", name := "<init>", desc := "()V" } : Jvm.MethodName)) ∈ lw_all := lw_g (lw_at lw_m6 85 rfl) rfl
theorem q1371 : (Jvm.Cond.code ({ cls := "FiveTouchModel", name := "<init>", desc := "()V" } : Jvm.MethodName) prog_25_method_6_code (1 : Nat) (Option.none : Option Jvm.ClassFile.FieldType)) ∈ lw_all := lw_g (lw_at lw_m6 86 rfl) rfl
theorem q1372 : (Jvm.Cond.methodLink "FiveTouchModel" (14 : Nat) ({ cls := "java/lang/Object", name := "<init>", desc := "()V" } : Jvm.MethodName)) ∈ lw_all := lw_g (lw_at lw_m6 87 rfl) rfl
theorem q1373 : (Jvm.Cond.fieldLink "FiveTouchModel" (3 : Nat) "FiveTouchModel" "status" "I") ∈ lw_all := lw_g (lw_at lw_m6 88 rfl) rfl
theorem q1374 : (Jvm.Cond.fieldLink "FiveTouchModel" (11 : Nat) "FiveTouchModel" "version" "I") ∈ lw_all := lw_g (lw_at lw_m6 89 rfl) rfl
theorem q1375 : (Jvm.Cond.fieldLink "FiveTouchModel" (7 : Nat) "FiveTouchModel" "refused" "[I") ∈ lw_all := lw_g (lw_at lw_m6 90 rfl) rfl
theorem q1376 : (Jvm.Cond.fieldLink "FiveTouchModel" (20 : Nat) "FiveTouchModel" "kept" "[I") ∈ lw_all := lw_g (lw_at lw_m6 91 rfl) rfl
theorem q1377 : (Jvm.Cond.fieldLink "FiveTouchModel" (23 : Nat) "FiveTouchModel" "images" "[I") ∈ lw_all := lw_g (lw_at lw_m6 92 rfl) rfl
theorem q1378 : (Jvm.Cond.fieldLink "FiveTouchModel" (26 : Nat) "FiveTouchModel" "hasImage" "[Z") ∈ lw_all := lw_g (lw_at lw_m6 93 rfl) rfl
theorem q1379 : (Jvm.Cond.fieldLink "FiveTouchModel" (142 : Nat) "FiveTouchModel" "rubble0" "I") ∈ lw_all := lw_g (lw_at lw_m6 94 rfl) rfl
theorem q1380 : (Jvm.Cond.fieldLink "FiveTouchModel" (30 : Nat) "FiveTouchModel" "words" "[B") ∈ lw_all := lw_g (lw_at lw_m6 95 rfl) rfl
theorem q1381 : (Jvm.Cond.fieldLink "FiveTouchModel" (34 : Nat) "FiveTouchModel" "tape" "[B") ∈ lw_all := lw_g (lw_at lw_m6 96 rfl) rfl
theorem q1382 : (Jvm.Cond.fieldLink "FiveTouchModel" (37 : Nat) "FiveTouchModel" "five" "[I") ∈ lw_all := lw_g (lw_at lw_m6 97 rfl) rfl
theorem q1383 : (Jvm.Cond.fieldLink "FiveTouchModel" (139 : Nat) "FiveTouchModel" "taped" "I") ∈ lw_all := lw_g (lw_at lw_m6 98 rfl) rfl
theorem q1384 : (Jvm.Cond.fieldLink "FiveTouchModel" (40 : Nat) "FiveTouchModel" "fault" "I") ∈ lw_all := lw_g (lw_at lw_m6 99 rfl) rfl
theorem q1385 : (Jvm.Cond.fieldLink "FiveTouchModel" (43 : Nat) "FiveTouchModel" "code" "[I") ∈ lw_all := lw_g (lw_at lw_m6 100 rfl) rfl
theorem q1386 : (Jvm.Cond.fieldLink "FiveTouchModel" (46 : Nat) "FiveTouchModel" "value" "[I") ∈ lw_all := lw_g (lw_at lw_m6 101 rfl) rfl
theorem q1387 : (Jvm.Cond.fieldLink "FiveTouchModel" (49 : Nat) "FiveTouchModel" "placed" "[I") ∈ lw_all := lw_g (lw_at lw_m6 102 rfl) rfl
theorem q1388 : (Jvm.Cond.fieldLink "FiveTouchModel" (145 : Nat) "FiveTouchModel" "tokens" "I") ∈ lw_all := lw_g (lw_at lw_m6 103 rfl) rfl
theorem q1389 : (Jvm.Cond.fieldLink "FiveTouchModel" (165 : Nat) "FiveTouchModel" "token" "I") ∈ lw_all := lw_g (lw_at lw_m6 104 rfl) rfl
theorem q1390 : (Jvm.Cond.fieldLink "FiveTouchModel" (174 : Nat) "FiveTouchModel" "leaves" "I") ∈ lw_all := lw_g (lw_at lw_m6 105 rfl) rfl
theorem q1391 : (Jvm.Cond.fieldLink "FiveTouchModel" (158 : Nat) "FiveTouchModel" "bad" "I") ∈ lw_all := lw_g (lw_at lw_m6 106 rfl) rfl
theorem q1392 : (Jvm.Cond.fieldLink "FiveTouchModel" (218 : Nat) "FiveTouchModel" "go" "I") ∈ lw_all := lw_g (lw_at lw_m6 107 rfl) rfl
theorem q1393 : (Jvm.Cond.fieldLink "FiveTouchModel" (215 : Nat) "FiveTouchModel" "goEnd" "I") ∈ lw_all := lw_g (lw_at lw_m6 108 rfl) rfl
theorem q1394 : (Jvm.Cond.fieldLink "FiveTouchModel" (228 : Nat) "FiveTouchModel" "broken" "Z") ∈ lw_all := lw_g (lw_at lw_m6 109 rfl) rfl
theorem q1395 : (Jvm.Cond.fieldLink "FiveTouchModel" (52 : Nat) "FiveTouchModel" "asked" "[I") ∈ lw_all := lw_g (lw_at lw_m6 110 rfl) rfl
theorem q1396 : (Jvm.Cond.fieldLink "FiveTouchModel" (55 : Nat) "FiveTouchModel" "needs" "[I") ∈ lw_all := lw_g (lw_at lw_m6 111 rfl) rfl
theorem q1397 : (Jvm.Cond.fieldLink "FiveTouchModel" (58 : Nat) "FiveTouchModel" "bound" "[Z") ∈ lw_all := lw_g (lw_at lw_m6 112 rfl) rfl
theorem q1398 : (Jvm.Cond.fieldLink "FiveTouchModel" (61 : Nat) "FiveTouchModel" "near" "[I") ∈ lw_all := lw_g (lw_at lw_m6 113 rfl) rfl
theorem q1399 : (Jvm.Cond.fieldLink "FiveTouchModel" (64 : Nat) "FiveTouchModel" "firm" "[I") ∈ lw_all := lw_g (lw_at lw_m6 114 rfl) rfl
theorem q1400 : (Jvm.Cond.fieldLink "FiveTouchModel" (67 : Nat) "FiveTouchModel" "laidBy" "I") ∈ lw_all := lw_g (lw_at lw_m6 115 rfl) rfl
theorem q1401 : (Jvm.Cond.fieldLink "FiveTouchModel" (70 : Nat) "FiveTouchModel" "lawful" "[Z") ∈ lw_all := lw_g (lw_at lw_m6 116 rfl) rfl
theorem q1402 : (Jvm.Cond.fieldLink "FiveTouchModel" (73 : Nat) "FiveTouchModel" "fallTo" "[I") ∈ lw_all := lw_g (lw_at lw_m6 117 rfl) rfl
theorem q1403 : (Jvm.Cond.fieldLink "FiveTouchModel" (76 : Nat) "FiveTouchModel" "wins" "[Z") ∈ lw_all := lw_g (lw_at lw_m6 118 rfl) rfl
theorem q1404 : (Jvm.Cond.fieldLink "FiveTouchModel" (79 : Nat) "FiveTouchModel" "comes" "[Z") ∈ lw_all := lw_g (lw_at lw_m6 119 rfl) rfl
theorem q1405 : (Jvm.Cond.fieldLink "FiveTouchModel" (82 : Nat) "FiveTouchModel" "setsBy" "I") ∈ lw_all := lw_g (lw_at lw_m6 120 rfl) rfl
theorem q1406 : (Jvm.Cond.fieldLink "FiveTouchModel" (298 : Nat) "FiveTouchModel" "bestTaken" "I") ∈ lw_all := lw_g (lw_at lw_m6 121 rfl) rfl
theorem q1407 : (Jvm.Cond.fieldLink "FiveTouchModel" (301 : Nat) "FiveTouchModel" "takenMany" "I") ∈ lw_all := lw_g (lw_at lw_m6 122 rfl) rfl
theorem q1408 : (Jvm.Cond.fieldLink "FiveTouchModel" (85 : Nat) "FiveTouchModel" "leads" "[Z") ∈ lw_all := lw_g (lw_at lw_m6 123 rfl) rfl
theorem q1409 : (Jvm.Cond.fieldLink "FiveTouchModel" (88 : Nat) "FiveTouchModel" "winterRow" "[I") ∈ lw_all := lw_g (lw_at lw_m6 124 rfl) rfl
theorem q1410 : (Jvm.Cond.fieldLink "FiveTouchModel" (323 : Nat) "FiveTouchModel" "winterMany" "I") ∈ lw_all := lw_g (lw_at lw_m6 125 rfl) rfl
theorem q1411 : (Jvm.Cond.fieldLink "FiveTouchModel" (316 : Nat) "FiveTouchModel" "latest" "I") ∈ lw_all := lw_g (lw_at lw_m6 126 rfl) rfl
theorem q1412 : (Jvm.Cond.lays "FiveTouchModel" "FiveTouchModel" "status" "I") ∈ lw_all := lw_g (lw_at lw_m6 127 rfl) rfl
theorem q1413 : (Jvm.Cond.soleField "FiveTouchModel" "status") ∈ lw_all := lw_g (lw_at lw_m6 128 rfl) rfl
theorem q1414 : (Jvm.Cond.lays "FiveTouchModel" "FiveTouchModel" "version" "I") ∈ lw_all := lw_g (lw_at lw_m6 129 rfl) rfl
theorem q1415 : (Jvm.Cond.soleField "FiveTouchModel" "version") ∈ lw_all := lw_g (lw_at lw_m6 130 rfl) rfl
theorem q1416 : (Jvm.Cond.laysFinal "FiveTouchModel" "FiveTouchModel" "refused" "[I") ∈ lw_all := lw_g (lw_at lw_m6 131 rfl) rfl
theorem q1417 : (Jvm.Cond.soleField "FiveTouchModel" "refused") ∈ lw_all := lw_g (lw_at lw_m6 132 rfl) rfl
theorem q1418 : (Jvm.Cond.laysFinal "FiveTouchModel" "FiveTouchModel" "kept" "[I") ∈ lw_all := lw_g (lw_at lw_m6 133 rfl) rfl
theorem q1419 : (Jvm.Cond.soleField "FiveTouchModel" "kept") ∈ lw_all := lw_g (lw_at lw_m6 134 rfl) rfl
theorem q1420 : (Jvm.Cond.laysFinal "FiveTouchModel" "FiveTouchModel" "images" "[I") ∈ lw_all := lw_g (lw_at lw_m6 135 rfl) rfl
theorem q1421 : (Jvm.Cond.soleField "FiveTouchModel" "images") ∈ lw_all := lw_g (lw_at lw_m6 136 rfl) rfl
theorem q1422 : (Jvm.Cond.laysFinal "FiveTouchModel" "FiveTouchModel" "hasImage" "[Z") ∈ lw_all := lw_g (lw_at lw_m6 137 rfl) rfl
theorem q1423 : (Jvm.Cond.soleField "FiveTouchModel" "hasImage") ∈ lw_all := lw_g (lw_at lw_m6 138 rfl) rfl
theorem q1424 : (Jvm.Cond.lays "FiveTouchModel" "FiveTouchModel" "rubble0" "I") ∈ lw_all := lw_g (lw_at lw_m6 139 rfl) rfl
theorem q1425 : (Jvm.Cond.soleField "FiveTouchModel" "rubble0") ∈ lw_all := lw_g (lw_at lw_m6 140 rfl) rfl
theorem q1426 : (Jvm.Cond.laysFinal "FiveTouchModel" "FiveTouchModel" "words" "[B") ∈ lw_all := lw_g (lw_at lw_m6 141 rfl) rfl
theorem q1427 : (Jvm.Cond.soleField "FiveTouchModel" "words") ∈ lw_all := lw_g (lw_at lw_m6 142 rfl) rfl
theorem q1428 : (Jvm.Cond.laysFinal "FiveTouchModel" "FiveTouchModel" "tape" "[B") ∈ lw_all := lw_g (lw_at lw_m6 143 rfl) rfl
theorem q1429 : (Jvm.Cond.soleField "FiveTouchModel" "tape") ∈ lw_all := lw_g (lw_at lw_m6 144 rfl) rfl
theorem q1430 : (Jvm.Cond.laysFinal "FiveTouchModel" "FiveTouchModel" "five" "[I") ∈ lw_all := lw_g (lw_at lw_m6 145 rfl) rfl
theorem q1431 : (Jvm.Cond.soleField "FiveTouchModel" "five") ∈ lw_all := lw_g (lw_at lw_m6 146 rfl) rfl
theorem q1432 : (Jvm.Cond.lays "FiveTouchModel" "FiveTouchModel" "taped" "I") ∈ lw_all := lw_g (lw_at lw_m6 147 rfl) rfl
theorem q1433 : (Jvm.Cond.soleField "FiveTouchModel" "taped") ∈ lw_all := lw_g (lw_at lw_m6 148 rfl) rfl
theorem q1434 : (Jvm.Cond.lays "FiveTouchModel" "FiveTouchModel" "fault" "I") ∈ lw_all := lw_g (lw_at lw_m6 149 rfl) rfl
theorem q1435 : (Jvm.Cond.soleField "FiveTouchModel" "fault") ∈ lw_all := lw_g (lw_at lw_m6 150 rfl) rfl
theorem q1436 : (Jvm.Cond.laysFinal "FiveTouchModel" "FiveTouchModel" "code" "[I") ∈ lw_all := lw_g (lw_at lw_m6 151 rfl) rfl
theorem q1437 : (Jvm.Cond.soleField "FiveTouchModel" "code") ∈ lw_all := lw_g (lw_at lw_m6 152 rfl) rfl
theorem q1438 : (Jvm.Cond.laysFinal "FiveTouchModel" "FiveTouchModel" "value" "[I") ∈ lw_all := lw_g (lw_at lw_m6 153 rfl) rfl
theorem q1439 : (Jvm.Cond.soleField "FiveTouchModel" "value") ∈ lw_all := lw_g (lw_at lw_m6 154 rfl) rfl
theorem q1440 : (Jvm.Cond.laysFinal "FiveTouchModel" "FiveTouchModel" "placed" "[I") ∈ lw_all := lw_g (lw_at lw_m6 155 rfl) rfl
theorem q1441 : (Jvm.Cond.soleField "FiveTouchModel" "placed") ∈ lw_all := lw_g (lw_at lw_m6 156 rfl) rfl
theorem q1442 : (Jvm.Cond.lays "FiveTouchModel" "FiveTouchModel" "tokens" "I") ∈ lw_all := lw_g (lw_at lw_m6 157 rfl) rfl
theorem q1443 : (Jvm.Cond.soleField "FiveTouchModel" "tokens") ∈ lw_all := lw_g (lw_at lw_m6 158 rfl) rfl
theorem q1444 : (Jvm.Cond.lays "FiveTouchModel" "FiveTouchModel" "token" "I") ∈ lw_all := lw_g (lw_at lw_m6 159 rfl) rfl
theorem q1445 : (Jvm.Cond.soleField "FiveTouchModel" "token") ∈ lw_all := lw_g (lw_at lw_m6 160 rfl) rfl
theorem q1446 : (Jvm.Cond.lays "FiveTouchModel" "FiveTouchModel" "leaves" "I") ∈ lw_all := lw_g (lw_at lw_m6 161 rfl) rfl
theorem q1447 : (Jvm.Cond.soleField "FiveTouchModel" "leaves") ∈ lw_all := lw_g (lw_at lw_m6 162 rfl) rfl
theorem q1448 : (Jvm.Cond.lays "FiveTouchModel" "FiveTouchModel" "bad" "I") ∈ lw_all := lw_g (lw_at lw_m6 163 rfl) rfl
theorem q1449 : (Jvm.Cond.soleField "FiveTouchModel" "bad") ∈ lw_all := lw_g (lw_at lw_m6 164 rfl) rfl
theorem q1450 : (Jvm.Cond.lays "FiveTouchModel" "FiveTouchModel" "go" "I") ∈ lw_all := lw_g (lw_at lw_m6 165 rfl) rfl
theorem q1451 : (Jvm.Cond.soleField "FiveTouchModel" "go") ∈ lw_all := lw_g (lw_at lw_m6 166 rfl) rfl
theorem q1452 : (Jvm.Cond.lays "FiveTouchModel" "FiveTouchModel" "goEnd" "I") ∈ lw_all := lw_g (lw_at lw_m6 167 rfl) rfl
theorem q1453 : (Jvm.Cond.soleField "FiveTouchModel" "goEnd") ∈ lw_all := lw_g (lw_at lw_m6 168 rfl) rfl
theorem q1454 : (Jvm.Cond.lays "FiveTouchModel" "FiveTouchModel" "broken" "Z") ∈ lw_all := lw_g (lw_at lw_m6 169 rfl) rfl
theorem q1455 : (Jvm.Cond.soleField "FiveTouchModel" "broken") ∈ lw_all := lw_g (lw_at lw_m6 170 rfl) rfl
theorem q1456 : (Jvm.Cond.laysFinal "FiveTouchModel" "FiveTouchModel" "asked" "[I") ∈ lw_all := lw_g (lw_at lw_m6 171 rfl) rfl
theorem q1457 : (Jvm.Cond.soleField "FiveTouchModel" "asked") ∈ lw_all := lw_g (lw_at lw_m6 172 rfl) rfl
theorem q1458 : (Jvm.Cond.laysFinal "FiveTouchModel" "FiveTouchModel" "needs" "[I") ∈ lw_all := lw_g (lw_at lw_m6 173 rfl) rfl
theorem q1459 : (Jvm.Cond.soleField "FiveTouchModel" "needs") ∈ lw_all := lw_g (lw_at lw_m6 174 rfl) rfl
theorem q1460 : (Jvm.Cond.laysFinal "FiveTouchModel" "FiveTouchModel" "bound" "[Z") ∈ lw_all := lw_g (lw_at lw_m6 175 rfl) rfl
theorem q1461 : (Jvm.Cond.soleField "FiveTouchModel" "bound") ∈ lw_all := lw_g (lw_at lw_m6 176 rfl) rfl
theorem q1462 : (Jvm.Cond.laysFinal "FiveTouchModel" "FiveTouchModel" "near" "[I") ∈ lw_all := lw_g (lw_at lw_m6 177 rfl) rfl
theorem q1463 : (Jvm.Cond.soleField "FiveTouchModel" "near") ∈ lw_all := lw_g (lw_at lw_m6 178 rfl) rfl
theorem q1464 : (Jvm.Cond.laysFinal "FiveTouchModel" "FiveTouchModel" "firm" "[I") ∈ lw_all := lw_g (lw_at lw_m6 179 rfl) rfl
theorem q1465 : (Jvm.Cond.soleField "FiveTouchModel" "firm") ∈ lw_all := lw_g (lw_at lw_m6 180 rfl) rfl
theorem q1466 : (Jvm.Cond.lays "FiveTouchModel" "FiveTouchModel" "laidBy" "I") ∈ lw_all := lw_g (lw_at lw_m6 181 rfl) rfl
theorem q1467 : (Jvm.Cond.soleField "FiveTouchModel" "laidBy") ∈ lw_all := lw_g (lw_at lw_m6 182 rfl) rfl
theorem q1468 : (Jvm.Cond.laysFinal "FiveTouchModel" "FiveTouchModel" "lawful" "[Z") ∈ lw_all := lw_g (lw_at lw_m6 183 rfl) rfl
theorem q1469 : (Jvm.Cond.soleField "FiveTouchModel" "lawful") ∈ lw_all := lw_g (lw_at lw_m6 184 rfl) rfl
theorem q1470 : (Jvm.Cond.laysFinal "FiveTouchModel" "FiveTouchModel" "fallTo" "[I") ∈ lw_all := lw_g (lw_at lw_m6 185 rfl) rfl
theorem q1471 : (Jvm.Cond.soleField "FiveTouchModel" "fallTo") ∈ lw_all := lw_g (lw_at lw_m6 186 rfl) rfl
theorem q1472 : (Jvm.Cond.laysFinal "FiveTouchModel" "FiveTouchModel" "wins" "[Z") ∈ lw_all := lw_g (lw_at lw_m6 187 rfl) rfl
theorem q1473 : (Jvm.Cond.soleField "FiveTouchModel" "wins") ∈ lw_all := lw_g (lw_at lw_m6 188 rfl) rfl
theorem q1474 : (Jvm.Cond.laysFinal "FiveTouchModel" "FiveTouchModel" "comes" "[Z") ∈ lw_all := lw_g (lw_at lw_m6 189 rfl) rfl
theorem q1475 : (Jvm.Cond.soleField "FiveTouchModel" "comes") ∈ lw_all := lw_g (lw_at lw_m6 190 rfl) rfl
theorem q1476 : (Jvm.Cond.lays "FiveTouchModel" "FiveTouchModel" "setsBy" "I") ∈ lw_all := lw_g (lw_at lw_m6 191 rfl) rfl
theorem q1477 : (Jvm.Cond.soleField "FiveTouchModel" "setsBy") ∈ lw_all := lw_g (lw_at lw_m6 192 rfl) rfl
theorem q1478 : (Jvm.Cond.lays "FiveTouchModel" "FiveTouchModel" "bestTaken" "I") ∈ lw_all := lw_g (lw_at lw_m6 193 rfl) rfl
theorem q1479 : (Jvm.Cond.soleField "FiveTouchModel" "bestTaken") ∈ lw_all := lw_g (lw_at lw_m6 194 rfl) rfl
theorem q1480 : (Jvm.Cond.lays "FiveTouchModel" "FiveTouchModel" "takenMany" "I") ∈ lw_all := lw_g (lw_at lw_m6 195 rfl) rfl
theorem q1481 : (Jvm.Cond.soleField "FiveTouchModel" "takenMany") ∈ lw_all := lw_g (lw_at lw_m6 196 rfl) rfl
theorem q1482 : (Jvm.Cond.laysFinal "FiveTouchModel" "FiveTouchModel" "leads" "[Z") ∈ lw_all := lw_g (lw_at lw_m6 197 rfl) rfl
theorem q1483 : (Jvm.Cond.soleField "FiveTouchModel" "leads") ∈ lw_all := lw_g (lw_at lw_m6 198 rfl) rfl
theorem q1484 : (Jvm.Cond.laysFinal "FiveTouchModel" "FiveTouchModel" "winterRow" "[I") ∈ lw_all := lw_g (lw_at lw_m6 199 rfl) rfl
theorem q1485 : (Jvm.Cond.soleField "FiveTouchModel" "winterRow") ∈ lw_all := lw_g (lw_at lw_m6 200 rfl) rfl
theorem q1486 : (Jvm.Cond.lays "FiveTouchModel" "FiveTouchModel" "winterMany" "I") ∈ lw_all := lw_g (lw_at lw_m6 201 rfl) rfl
theorem q1487 : (Jvm.Cond.soleField "FiveTouchModel" "winterMany") ∈ lw_all := lw_g (lw_at lw_m6 202 rfl) rfl
theorem q1488 : (Jvm.Cond.lays "FiveTouchModel" "FiveTouchModel" "latest" "I") ∈ lw_all := lw_g (lw_at lw_m6 203 rfl) rfl
theorem q1489 : (Jvm.Cond.soleField "FiveTouchModel" "latest") ∈ lw_all := lw_g (lw_at lw_m6 204 rfl) rfl
theorem q1490 : (Jvm.Cond.superclass "FiveTouchModel" "java/lang/Object") ∈ lw_all := lw_g (lw_at lw_m6 205 rfl) rfl
theorem q1492 : (Jvm.Cond.instanceMethod ({ cls := "FiveTouchModel", name := "image", desc := "(I)I" } : Jvm.MethodName)) ∈ lw_all := lw_g (lw_at lw_m6 207 rfl) rfl
theorem q1493 : (Jvm.Cond.selects "FiveTouchModel" ({ cls := "FiveTouchModel", name := "image", desc := "(I)I" } : Jvm.MethodName) ({ cls := "FiveTouchModel", name := "image", desc := "(I)I" } : Jvm.MethodName)) ∈ lw_all := lw_g (lw_at lw_m6 208 rfl) rfl
theorem q1494 : (Jvm.Cond.code ({ cls := "FiveTouchModel", name := "image", desc := "(I)I" } : Jvm.MethodName) prog_25_method_7_code (3 : Nat) (Option.some Jvm.ClassFile.FieldType.int)) ∈ lw_all := lw_g (lw_at lw_m6 209 rfl) rfl
theorem q1495 : (Jvm.Cond.methodLink "FiveTouchModel" (91 : Nat) ({ cls := "FiveTouchModel", name := "lies", desc := "(III)Z" } : Jvm.MethodName)) ∈ lw_all := lw_g (lw_at lw_m6 210 rfl) rfl
theorem q1496 : (Jvm.Cond.static ({ cls := "FiveTouchModel", name := "lies", desc := "(III)Z" } : Jvm.MethodName)) ∈ lw_all := lw_g (lw_at lw_m6 211 rfl) rfl
theorem q1497 : (Jvm.Cond.code ({ cls := "FiveTouchModel", name := "lies", desc := "(III)Z" } : Jvm.MethodName) prog_25_method_1_code (3 : Nat) (Option.some Jvm.ClassFile.FieldType.boolean)) ∈ lw_all := lw_g (lw_at lw_m6 212 rfl) rfl
theorem q1498 : (Jvm.Cond.methodLink "FiveTouchModel" (95 : Nat) ({ cls := "FiveTouchModel", name := "refuses", desc := "(I)I" } : Jvm.MethodName)) ∈ lw_all := lw_g (lw_at lw_m6 213 rfl) rfl
theorem q1499 : (Jvm.Cond.privateMethod ({ cls := "FiveTouchModel", name := "refuses", desc := "(I)I" } : Jvm.MethodName)) ∈ lw_tbl := lw_at lw_m6 214 rfl
theorem q1500 : (Jvm.Cond.instanceMethod ({ cls := "FiveTouchModel", name := "refuses", desc := "(I)I" } : Jvm.MethodName)) ∈ lw_all := lw_g (lw_at lw_m6 215 rfl) rfl
theorem q1501 : (Jvm.Cond.code ({ cls := "FiveTouchModel", name := "refuses", desc := "(I)I" } : Jvm.MethodName) prog_25_method_2_code (2 : Nat) (Option.some Jvm.ClassFile.FieldType.int)) ∈ lw_all := lw_g (lw_at lw_m6 216 rfl) rfl
theorem q1502 : (Jvm.Cond.methodLink "FiveTouchModel" (99 : Nat) ({ cls := "FiveTouchModel", name := "good", desc := "(I)I" } : Jvm.MethodName)) ∈ lw_all := lw_g (lw_at lw_m6 217 rfl) rfl
theorem q1503 : (Jvm.Cond.privateMethod ({ cls := "FiveTouchModel", name := "good", desc := "(I)I" } : Jvm.MethodName)) ∈ lw_tbl := lw_at lw_m6 218 rfl
theorem q1504 : (Jvm.Cond.instanceMethod ({ cls := "FiveTouchModel", name := "good", desc := "(I)I" } : Jvm.MethodName)) ∈ lw_all := lw_g (lw_at lw_m6 219 rfl) rfl
theorem q1505 : (Jvm.Cond.code ({ cls := "FiveTouchModel", name := "good", desc := "(I)I" } : Jvm.MethodName) prog_25_method_3_code (2 : Nat) (Option.some Jvm.ClassFile.FieldType.int)) ∈ lw_all := lw_g (lw_at lw_m6 220 rfl) rfl
theorem q1507 : (Jvm.Cond.instanceMethod ({ cls := "FiveTouchModel", name := "back", desc := "(I)I" } : Jvm.MethodName)) ∈ lw_all := lw_g (lw_at lw_m6 222 rfl) rfl
theorem q1508 : (Jvm.Cond.selects "FiveTouchModel" ({ cls := "FiveTouchModel", name := "back", desc := "(I)I" } : Jvm.MethodName) ({ cls := "FiveTouchModel", name := "back", desc := "(I)I" } : Jvm.MethodName)) ∈ lw_all := lw_g (lw_at lw_m6 223 rfl) rfl
theorem q1509 : (Jvm.Cond.code ({ cls := "FiveTouchModel", name := "back", desc := "(I)I" } : Jvm.MethodName) prog_25_method_8_code (3 : Nat) (Option.some Jvm.ClassFile.FieldType.int)) ∈ lw_all := lw_g (lw_at lw_m6 224 rfl) rfl
theorem q1511 : (Jvm.Cond.instanceMethod ({ cls := "FiveTouchModel", name := "stone", desc := "(IIIII)I" } : Jvm.MethodName)) ∈ lw_all := lw_g (lw_at lw_m6 226 rfl) rfl
theorem q1512 : (Jvm.Cond.selects "FiveTouchModel" ({ cls := "FiveTouchModel", name := "stone", desc := "(IIIII)I" } : Jvm.MethodName) ({ cls := "FiveTouchModel", name := "stone", desc := "(IIIII)I" } : Jvm.MethodName)) ∈ lw_all := lw_g (lw_at lw_m6 227 rfl) rfl
theorem q1513 : (Jvm.Cond.code ({ cls := "FiveTouchModel", name := "stone", desc := "(IIIII)I" } : Jvm.MethodName) prog_25_method_19_code (6 : Nat) (Option.some Jvm.ClassFile.FieldType.int)) ∈ lw_all := lw_g (lw_at lw_m6 228 rfl) rfl
theorem q1514 : (Jvm.Cond.methodLink "FiveTouchModel" (127 : Nat) ({ cls := "FiveTouchModel", name := "canBe", desc := "(IIIII)Z" } : Jvm.MethodName)) ∈ lw_all := lw_g (lw_at lw_m6 229 rfl) rfl
theorem q1515 : (Jvm.Cond.static ({ cls := "FiveTouchModel", name := "canBe", desc := "(IIIII)Z" } : Jvm.MethodName)) ∈ lw_all := lw_g (lw_at lw_m6 230 rfl) rfl
theorem q1516 : (Jvm.Cond.code ({ cls := "FiveTouchModel", name := "canBe", desc := "(IIIII)Z" } : Jvm.MethodName) prog_25_method_15_code (5 : Nat) (Option.some Jvm.ClassFile.FieldType.boolean)) ∈ lw_all := lw_g (lw_at lw_m6 231 rfl) rfl
theorem q1517 : (Jvm.Cond.methodLink "FiveTouchModel" (131 : Nat) ({ cls := "FiveTouchModel", name := "isFree", desc := "(IIII)Z" } : Jvm.MethodName)) ∈ lw_all := lw_g (lw_at lw_m6 232 rfl) rfl
theorem q1518 : (Jvm.Cond.privateMethod ({ cls := "FiveTouchModel", name := "isFree", desc := "(IIII)Z" } : Jvm.MethodName)) ∈ lw_tbl := lw_at lw_m6 233 rfl
theorem q1519 : (Jvm.Cond.instanceMethod ({ cls := "FiveTouchModel", name := "isFree", desc := "(IIII)Z" } : Jvm.MethodName)) ∈ lw_all := lw_g (lw_at lw_m6 234 rfl) rfl
theorem q1520 : (Jvm.Cond.code ({ cls := "FiveTouchModel", name := "isFree", desc := "(IIII)Z" } : Jvm.MethodName) prog_25_method_16_code (7 : Nat) (Option.some Jvm.ClassFile.FieldType.boolean)) ∈ lw_all := lw_g (lw_at lw_m6 235 rfl) rfl
theorem q1521 : (Jvm.Cond.methodLink "FiveTouchModel" (117 : Nat) ({ cls := "FiveTouchModel", name := "isItem", desc := "(I)Z" } : Jvm.MethodName)) ∈ lw_all := lw_g (lw_at lw_m6 236 rfl) rfl
theorem q1522 : (Jvm.Cond.privateMethod ({ cls := "FiveTouchModel", name := "isItem", desc := "(I)Z" } : Jvm.MethodName)) ∈ lw_tbl := lw_at lw_m6 237 rfl
theorem q1523 : (Jvm.Cond.instanceMethod ({ cls := "FiveTouchModel", name := "isItem", desc := "(I)Z" } : Jvm.MethodName)) ∈ lw_all := lw_g (lw_at lw_m6 238 rfl) rfl
theorem q1524 : (Jvm.Cond.code ({ cls := "FiveTouchModel", name := "isItem", desc := "(I)Z" } : Jvm.MethodName) prog_25_method_13_code (2 : Nat) (Option.some Jvm.ClassFile.FieldType.boolean)) ∈ lw_all := lw_g (lw_at lw_m6 239 rfl) rfl
theorem q1525 : (Jvm.Cond.methodLink "FiveTouchModel" (106 : Nat) ({ cls := "FiveTouchModel", name := "isStone", desc := "(I)Z" } : Jvm.MethodName)) ∈ lw_all := lw_g (lw_at lw_m7 0 rfl) rfl
theorem q1526 : (Jvm.Cond.privateMethod ({ cls := "FiveTouchModel", name := "isStone", desc := "(I)Z" } : Jvm.MethodName)) ∈ lw_tbl := lw_at lw_m7 1 rfl
theorem q1527 : (Jvm.Cond.instanceMethod ({ cls := "FiveTouchModel", name := "isStone", desc := "(I)Z" } : Jvm.MethodName)) ∈ lw_all := lw_g (lw_at lw_m7 2 rfl) rfl
theorem q1528 : (Jvm.Cond.code ({ cls := "FiveTouchModel", name := "isStone", desc := "(I)Z" } : Jvm.MethodName) prog_25_method_11_code (2 : Nat) (Option.some Jvm.ClassFile.FieldType.boolean)) ∈ lw_all := lw_g (lw_at lw_m7 3 rfl) rfl
theorem q1529 : (Jvm.Cond.methodLink "FiveTouchModel" (102 : Nat) ({ cls := "FiveTouchModel", name := "stones", desc := "()I" } : Jvm.MethodName)) ∈ lw_all := lw_g (lw_at lw_m7 4 rfl) rfl
theorem q1530 : (Jvm.Cond.privateMethod ({ cls := "FiveTouchModel", name := "stones", desc := "()I" } : Jvm.MethodName)) ∈ lw_tbl := lw_at lw_m7 5 rfl
theorem q1531 : (Jvm.Cond.instanceMethod ({ cls := "FiveTouchModel", name := "stones", desc := "()I" } : Jvm.MethodName)) ∈ lw_all := lw_g (lw_at lw_m7 6 rfl) rfl
theorem q1532 : (Jvm.Cond.code ({ cls := "FiveTouchModel", name := "stones", desc := "()I" } : Jvm.MethodName) prog_25_method_9_code (1 : Nat) (Option.some Jvm.ClassFile.FieldType.int)) ∈ lw_all := lw_g (lw_at lw_m7 7 rfl) rfl
theorem q1533 : (Jvm.Cond.methodLink "FiveTouchModel" (110 : Nat) ({ cls := "FiveTouchModel", name := "spares", desc := "()I" } : Jvm.MethodName)) ∈ lw_all := lw_g (lw_at lw_m7 8 rfl) rfl
theorem q1534 : (Jvm.Cond.privateMethod ({ cls := "FiveTouchModel", name := "spares", desc := "()I" } : Jvm.MethodName)) ∈ lw_tbl := lw_at lw_m7 9 rfl
theorem q1535 : (Jvm.Cond.instanceMethod ({ cls := "FiveTouchModel", name := "spares", desc := "()I" } : Jvm.MethodName)) ∈ lw_all := lw_g (lw_at lw_m7 10 rfl) rfl
theorem q1536 : (Jvm.Cond.code ({ cls := "FiveTouchModel", name := "spares", desc := "()I" } : Jvm.MethodName) prog_25_method_10_code (1 : Nat) (Option.some Jvm.ClassFile.FieldType.int)) ∈ lw_all := lw_g (lw_at lw_m7 11 rfl) rfl
theorem q1537 : (Jvm.Cond.methodLink "FiveTouchModel" (120 : Nat) ({ cls := "FiveTouchModel", name := "covers", desc := "(III)Z" } : Jvm.MethodName)) ∈ lw_all := lw_g (lw_at lw_m7 12 rfl) rfl
theorem q1538 : (Jvm.Cond.privateMethod ({ cls := "FiveTouchModel", name := "covers", desc := "(III)Z" } : Jvm.MethodName)) ∈ lw_tbl := lw_at lw_m7 13 rfl
theorem q1539 : (Jvm.Cond.instanceMethod ({ cls := "FiveTouchModel", name := "covers", desc := "(III)Z" } : Jvm.MethodName)) ∈ lw_all := lw_g (lw_at lw_m7 14 rfl) rfl
theorem q1540 : (Jvm.Cond.code ({ cls := "FiveTouchModel", name := "covers", desc := "(III)Z" } : Jvm.MethodName) prog_25_method_14_code (4 : Nat) (Option.some Jvm.ClassFile.FieldType.boolean)) ∈ lw_all := lw_g (lw_at lw_m7 15 rfl) rfl
theorem q1541 : (Jvm.Cond.methodLink "FiveTouchModel" (113 : Nat) ({ cls := "FiveTouchModel", name := "factOf", desc := "(II)I" } : Jvm.MethodName)) ∈ lw_all := lw_g (lw_at lw_m7 16 rfl) rfl
theorem q1542 : (Jvm.Cond.privateMethod ({ cls := "FiveTouchModel", name := "factOf", desc := "(II)I" } : Jvm.MethodName)) ∈ lw_tbl := lw_at lw_m7 17 rfl
theorem q1543 : (Jvm.Cond.instanceMethod ({ cls := "FiveTouchModel", name := "factOf", desc := "(II)I" } : Jvm.MethodName)) ∈ lw_all := lw_g (lw_at lw_m7 18 rfl) rfl
theorem q1544 : (Jvm.Cond.code ({ cls := "FiveTouchModel", name := "factOf", desc := "(II)I" } : Jvm.MethodName) prog_25_method_12_code (3 : Nat) (Option.some Jvm.ClassFile.FieldType.int)) ∈ lw_all := lw_g (lw_at lw_m7 19 rfl) rfl
theorem q1545 : (Jvm.Cond.methodLink "FiveTouchModel" (135 : Nat) ({ cls := "FiveTouchModel", name := "adds", desc := "(IIIII)I" } : Jvm.MethodName)) ∈ lw_all := lw_g (lw_at lw_m7 20 rfl) rfl
theorem q1546 : (Jvm.Cond.privateMethod ({ cls := "FiveTouchModel", name := "adds", desc := "(IIIII)I" } : Jvm.MethodName)) ∈ lw_tbl := lw_at lw_m7 21 rfl
theorem q1547 : (Jvm.Cond.instanceMethod ({ cls := "FiveTouchModel", name := "adds", desc := "(IIIII)I" } : Jvm.MethodName)) ∈ lw_all := lw_g (lw_at lw_m7 22 rfl) rfl
theorem q1548 : (Jvm.Cond.code ({ cls := "FiveTouchModel", name := "adds", desc := "(IIIII)I" } : Jvm.MethodName) prog_25_method_18_code (7 : Nat) (Option.some Jvm.ClassFile.FieldType.int)) ∈ lw_all := lw_g (lw_at lw_m7 23 rfl) rfl
theorem q1549 : (Jvm.Cond.methodLink "FiveTouchModel" (123 : Nat) ({ cls := "FiveTouchModel", name := "lays", desc := "(IIIIII)V" } : Jvm.MethodName)) ∈ lw_all := lw_g (lw_at lw_m7 24 rfl) rfl
theorem q1550 : (Jvm.Cond.privateMethod ({ cls := "FiveTouchModel", name := "lays", desc := "(IIIIII)V" } : Jvm.MethodName)) ∈ lw_tbl := lw_at lw_m7 25 rfl
theorem q1551 : (Jvm.Cond.instanceMethod ({ cls := "FiveTouchModel", name := "lays", desc := "(IIIIII)V" } : Jvm.MethodName)) ∈ lw_all := lw_g (lw_at lw_m7 26 rfl) rfl
theorem q1552 : (Jvm.Cond.code ({ cls := "FiveTouchModel", name := "lays", desc := "(IIIIII)V" } : Jvm.MethodName) prog_25_method_17_code (8 : Nat) (Option.none : Option Jvm.ClassFile.FieldType)) ∈ lw_all := lw_g (lw_at lw_m7 27 rfl) rfl
theorem q1554 : (Jvm.Cond.instanceMethod ({ cls := "FiveTouchModel", name := "spare", desc := "(IIIII)I" } : Jvm.MethodName)) ∈ lw_all := lw_g (lw_at lw_m7 29 rfl) rfl
theorem q1555 : (Jvm.Cond.selects "FiveTouchModel" ({ cls := "FiveTouchModel", name := "spare", desc := "(IIIII)I" } : Jvm.MethodName) ({ cls := "FiveTouchModel", name := "spare", desc := "(IIIII)I" } : Jvm.MethodName)) ∈ lw_all := lw_g (lw_at lw_m7 30 rfl) rfl
theorem q1556 : (Jvm.Cond.code ({ cls := "FiveTouchModel", name := "spare", desc := "(IIIII)I" } : Jvm.MethodName) prog_25_method_20_code (7 : Nat) (Option.some Jvm.ClassFile.FieldType.int)) ∈ lw_all := lw_g (lw_at lw_m7 31 rfl) rfl
theorem q1558 : (Jvm.Cond.instanceMethod ({ cls := "FiveTouchModel", name := "put", desc := "(III)I" } : Jvm.MethodName)) ∈ lw_all := lw_g (lw_at lw_m7 33 rfl) rfl
theorem q1559 : (Jvm.Cond.selects "FiveTouchModel" ({ cls := "FiveTouchModel", name := "put", desc := "(III)I" } : Jvm.MethodName) ({ cls := "FiveTouchModel", name := "put", desc := "(III)I" } : Jvm.MethodName)) ∈ lw_all := lw_g (lw_at lw_m7 34 rfl) rfl
theorem q1560 : (Jvm.Cond.code ({ cls := "FiveTouchModel", name := "put", desc := "(III)I" } : Jvm.MethodName) prog_25_method_21_code (5 : Nat) (Option.some Jvm.ClassFile.FieldType.int)) ∈ lw_all := lw_g (lw_at lw_m7 35 rfl) rfl
theorem q1562 : (Jvm.Cond.instanceMethod ({ cls := "FiveTouchModel", name := "of", desc := "(II)I" } : Jvm.MethodName)) ∈ lw_all := lw_g (lw_at lw_m7 37 rfl) rfl
theorem q1563 : (Jvm.Cond.selects "FiveTouchModel" ({ cls := "FiveTouchModel", name := "of", desc := "(II)I" } : Jvm.MethodName) ({ cls := "FiveTouchModel", name := "of", desc := "(II)I" } : Jvm.MethodName)) ∈ lw_all := lw_g (lw_at lw_m7 38 rfl) rfl
theorem q1564 : (Jvm.Cond.code ({ cls := "FiveTouchModel", name := "of", desc := "(II)I" } : Jvm.MethodName) prog_25_method_22_code (3 : Nat) (Option.some Jvm.ClassFile.FieldType.int)) ∈ lw_all := lw_g (lw_at lw_m7 39 rfl) rfl
theorem q1566 : (Jvm.Cond.instanceMethod ({ cls := "FiveTouchModel", name := "terms", desc := "(II)I" } : Jvm.MethodName)) ∈ lw_all := lw_g (lw_at lw_m7 41 rfl) rfl
theorem q1567 : (Jvm.Cond.selects "FiveTouchModel" ({ cls := "FiveTouchModel", name := "terms", desc := "(II)I" } : Jvm.MethodName) ({ cls := "FiveTouchModel", name := "terms", desc := "(II)I" } : Jvm.MethodName)) ∈ lw_all := lw_g (lw_at lw_m7 42 rfl) rfl
theorem q1568 : (Jvm.Cond.code ({ cls := "FiveTouchModel", name := "terms", desc := "(II)I" } : Jvm.MethodName) prog_25_method_23_code (4 : Nat) (Option.some Jvm.ClassFile.FieldType.int)) ∈ lw_all := lw_g (lw_at lw_m7 43 rfl) rfl
theorem q1570 : (Jvm.Cond.instanceMethod ({ cls := "FiveTouchModel", name := "row", desc := "()I" } : Jvm.MethodName)) ∈ lw_all := lw_g (lw_at lw_m7 45 rfl) rfl
theorem q1571 : (Jvm.Cond.selects "FiveTouchModel" ({ cls := "FiveTouchModel", name := "row", desc := "()I" } : Jvm.MethodName) ({ cls := "FiveTouchModel", name := "row", desc := "()I" } : Jvm.MethodName)) ∈ lw_all := lw_g (lw_at lw_m7 46 rfl) rfl
theorem q1572 : (Jvm.Cond.code ({ cls := "FiveTouchModel", name := "row", desc := "()I" } : Jvm.MethodName) prog_25_method_24_code (5 : Nat) (Option.some Jvm.ClassFile.FieldType.int)) ∈ lw_all := lw_g (lw_at lw_m7 47 rfl) rfl
theorem q1574 : (Jvm.Cond.instanceMethod ({ cls := "FiveTouchModel", name := "rubble", desc := "()I" } : Jvm.MethodName)) ∈ lw_all := lw_g (lw_at lw_m7 49 rfl) rfl
theorem q1575 : (Jvm.Cond.selects "FiveTouchModel" ({ cls := "FiveTouchModel", name := "rubble", desc := "()I" } : Jvm.MethodName) ({ cls := "FiveTouchModel", name := "rubble", desc := "()I" } : Jvm.MethodName)) ∈ lw_all := lw_g (lw_at lw_m7 50 rfl) rfl
theorem q1576 : (Jvm.Cond.code ({ cls := "FiveTouchModel", name := "rubble", desc := "()I" } : Jvm.MethodName) prog_25_method_25_code (1 : Nat) (Option.some Jvm.ClassFile.FieldType.int)) ∈ lw_all := lw_g (lw_at lw_m7 51 rfl) rfl
theorem q1578 : (Jvm.Cond.instanceMethod ({ cls := "FiveTouchModel", name := "feed", desc := "(IIIII)I" } : Jvm.MethodName)) ∈ lw_all := lw_g (lw_at lw_m7 53 rfl) rfl
theorem q1579 : (Jvm.Cond.selects "FiveTouchModel" ({ cls := "FiveTouchModel", name := "feed", desc := "(IIIII)I" } : Jvm.MethodName) ({ cls := "FiveTouchModel", name := "feed", desc := "(IIIII)I" } : Jvm.MethodName)) ∈ lw_all := lw_g (lw_at lw_m7 54 rfl) rfl
theorem q1580 : (Jvm.Cond.code ({ cls := "FiveTouchModel", name := "feed", desc := "(IIIII)I" } : Jvm.MethodName) prog_25_method_26_code (7 : Nat) (Option.some Jvm.ClassFile.FieldType.int)) ∈ lw_all := lw_g (lw_at lw_m7 55 rfl) rfl
theorem q1582 : (Jvm.Cond.instanceMethod ({ cls := "FiveTouchModel", name := "end", desc := "(I)I" } : Jvm.MethodName)) ∈ lw_all := lw_g (lw_at lw_m7 57 rfl) rfl
theorem q1583 : (Jvm.Cond.selects "FiveTouchModel" ({ cls := "FiveTouchModel", name := "end", desc := "(I)I" } : Jvm.MethodName) ({ cls := "FiveTouchModel", name := "end", desc := "(I)I" } : Jvm.MethodName)) ∈ lw_all := lw_g (lw_at lw_m7 58 rfl) rfl
theorem q1584 : (Jvm.Cond.code ({ cls := "FiveTouchModel", name := "end", desc := "(I)I" } : Jvm.MethodName) prog_25_method_27_code (2 : Nat) (Option.some Jvm.ClassFile.FieldType.int)) ∈ lw_all := lw_g (lw_at lw_m7 59 rfl) rfl
theorem q1586 : (Jvm.Cond.instanceMethod ({ cls := "FiveTouchModel", name := "law", desc := "()I" } : Jvm.MethodName)) ∈ lw_all := lw_g (lw_at lw_m7 61 rfl) rfl
theorem q1587 : (Jvm.Cond.selects "FiveTouchModel" ({ cls := "FiveTouchModel", name := "law", desc := "()I" } : Jvm.MethodName) ({ cls := "FiveTouchModel", name := "law", desc := "()I" } : Jvm.MethodName)) ∈ lw_all := lw_g (lw_at lw_m7 62 rfl) rfl
theorem q1588 : (Jvm.Cond.code ({ cls := "FiveTouchModel", name := "law", desc := "()I" } : Jvm.MethodName) prog_25_method_46_code (3 : Nat) (Option.some Jvm.ClassFile.FieldType.int)) ∈ lw_all := lw_g (lw_at lw_m7 63 rfl) rfl
theorem q1589 : (Jvm.Cond.methodLink "FiveTouchModel" (212 : Nat) ({ cls := "FiveTouchModel", name := "reads", desc := "()Z" } : Jvm.MethodName)) ∈ lw_all := lw_g (lw_at lw_m7 64 rfl) rfl
theorem q1590 : (Jvm.Cond.privateMethod ({ cls := "FiveTouchModel", name := "reads", desc := "()Z" } : Jvm.MethodName)) ∈ lw_tbl := lw_at lw_m7 65 rfl
theorem q1591 : (Jvm.Cond.instanceMethod ({ cls := "FiveTouchModel", name := "reads", desc := "()Z" } : Jvm.MethodName)) ∈ lw_all := lw_g (lw_at lw_m7 66 rfl) rfl
theorem q1592 : (Jvm.Cond.code ({ cls := "FiveTouchModel", name := "reads", desc := "()Z" } : Jvm.MethodName) prog_25_method_45_code (2 : Nat) (Option.some Jvm.ClassFile.FieldType.boolean)) ∈ lw_all := lw_g (lw_at lw_m7 67 rfl) rfl
theorem q1593 : (Jvm.Cond.methodLink "FiveTouchModel" (206 : Nat) ({ cls := "FiveTouchModel", name := "splits", desc := "(I)V" } : Jvm.MethodName)) ∈ lw_all := lw_g (lw_at lw_m7 68 rfl) rfl
theorem q1594 : (Jvm.Cond.privateMethod ({ cls := "FiveTouchModel", name := "splits", desc := "(I)V" } : Jvm.MethodName)) ∈ lw_tbl := lw_at lw_m7 69 rfl
theorem q1595 : (Jvm.Cond.instanceMethod ({ cls := "FiveTouchModel", name := "splits", desc := "(I)V" } : Jvm.MethodName)) ∈ lw_all := lw_g (lw_at lw_m7 70 rfl) rfl
theorem q1596 : (Jvm.Cond.code ({ cls := "FiveTouchModel", name := "splits", desc := "(I)V" } : Jvm.MethodName) prog_25_method_31_code (6 : Nat) (Option.none : Option Jvm.ClassFile.FieldType)) ∈ lw_all := lw_g (lw_at lw_m7 71 rfl) rfl
theorem q1597 : (Jvm.Cond.methodLink "FiveTouchModel" (148 : Nat) ({ cls := "FiveTouchModel", name := "isSmall", desc := "(I)Z" } : Jvm.MethodName)) ∈ lw_all := lw_g (lw_at lw_m7 72 rfl) rfl
theorem q1598 : (Jvm.Cond.static ({ cls := "FiveTouchModel", name := "isSmall", desc := "(I)Z" } : Jvm.MethodName)) ∈ lw_all := lw_g (lw_at lw_m7 73 rfl) rfl
theorem q1599 : (Jvm.Cond.code ({ cls := "FiveTouchModel", name := "isSmall", desc := "(I)Z" } : Jvm.MethodName) prog_25_method_28_code (1 : Nat) (Option.some Jvm.ClassFile.FieldType.boolean)) ∈ lw_all := lw_g (lw_at lw_m7 74 rfl) rfl
theorem q1600 : (Jvm.Cond.methodLink "FiveTouchModel" (151 : Nat) ({ cls := "FiveTouchModel", name := "isDigit", desc := "(I)Z" } : Jvm.MethodName)) ∈ lw_all := lw_g (lw_at lw_m7 75 rfl) rfl
theorem q1601 : (Jvm.Cond.static ({ cls := "FiveTouchModel", name := "isDigit", desc := "(I)Z" } : Jvm.MethodName)) ∈ lw_all := lw_g (lw_at lw_m7 76 rfl) rfl
theorem q1602 : (Jvm.Cond.code ({ cls := "FiveTouchModel", name := "isDigit", desc := "(I)Z" } : Jvm.MethodName) prog_25_method_29_code (1 : Nat) (Option.some Jvm.ClassFile.FieldType.boolean)) ∈ lw_all := lw_g (lw_at lw_m7 77 rfl) rfl
theorem q1603 : (Jvm.Cond.methodLink "FiveTouchModel" (154 : Nat) ({ cls := "FiveTouchModel", name := "wordOf", desc := "(II)I" } : Jvm.MethodName)) ∈ lw_all := lw_g (lw_at lw_m7 78 rfl) rfl
theorem q1604 : (Jvm.Cond.privateMethod ({ cls := "FiveTouchModel", name := "wordOf", desc := "(II)I" } : Jvm.MethodName)) ∈ lw_tbl := lw_at lw_m7 79 rfl
theorem q1605 : (Jvm.Cond.instanceMethod ({ cls := "FiveTouchModel", name := "wordOf", desc := "(II)I" } : Jvm.MethodName)) ∈ lw_all := lw_g (lw_at lw_m7 80 rfl) rfl
theorem q1606 : (Jvm.Cond.code ({ cls := "FiveTouchModel", name := "wordOf", desc := "(II)I" } : Jvm.MethodName) prog_25_method_30_code (8 : Nat) (Option.some Jvm.ClassFile.FieldType.int)) ∈ lw_all := lw_g (lw_at lw_m7 81 rfl) rfl
theorem q1607 : (Jvm.Cond.constant "FiveTouchModel" (157 : Nat) (1000000 : Int32)) ∈ lw_all := lw_g (lw_at lw_m7 82 rfl) rfl
theorem q1608 : (Jvm.Cond.methodLink "FiveTouchModel" (209 : Nat) ({ cls := "FiveTouchModel", name := "readClause", desc := "()V" } : Jvm.MethodName)) ∈ lw_all := lw_g (lw_at lw_m7 83 rfl) rfl
theorem q1609 : (Jvm.Cond.privateMethod ({ cls := "FiveTouchModel", name := "readClause", desc := "()V" } : Jvm.MethodName)) ∈ lw_tbl := lw_at lw_m7 84 rfl
theorem q1610 : (Jvm.Cond.instanceMethod ({ cls := "FiveTouchModel", name := "readClause", desc := "()V" } : Jvm.MethodName)) ∈ lw_all := lw_g (lw_at lw_m7 85 rfl) rfl
theorem q1611 : (Jvm.Cond.code ({ cls := "FiveTouchModel", name := "readClause", desc := "()V" } : Jvm.MethodName) prog_25_method_38_code (1 : Nat) (Option.none : Option Jvm.ClassFile.FieldType)) ∈ lw_all := lw_g (lw_at lw_m7 86 rfl) rfl
theorem q1612 : (Jvm.Cond.methodLink "FiveTouchModel" (168 : Nat) ({ cls := "FiveTouchModel", name := "takes0", desc := "(I)Z" } : Jvm.MethodName)) ∈ lw_all := lw_g (lw_at lw_m7 87 rfl) rfl
theorem q1613 : (Jvm.Cond.privateMethod ({ cls := "FiveTouchModel", name := "takes0", desc := "(I)Z" } : Jvm.MethodName)) ∈ lw_tbl := lw_at lw_m7 88 rfl
theorem q1614 : (Jvm.Cond.instanceMethod ({ cls := "FiveTouchModel", name := "takes0", desc := "(I)Z" } : Jvm.MethodName)) ∈ lw_all := lw_g (lw_at lw_m7 89 rfl) rfl
theorem q1615 : (Jvm.Cond.code ({ cls := "FiveTouchModel", name := "takes0", desc := "(I)Z" } : Jvm.MethodName) prog_25_method_34_code (3 : Nat) (Option.some Jvm.ClassFile.FieldType.boolean)) ∈ lw_all := lw_g (lw_at lw_m7 90 rfl) rfl
theorem q1616 : (Jvm.Cond.methodLink "FiveTouchModel" (161 : Nat) ({ cls := "FiveTouchModel", name := "fine", desc := "()Z" } : Jvm.MethodName)) ∈ lw_all := lw_g (lw_at lw_m7 91 rfl) rfl
theorem q1617 : (Jvm.Cond.privateMethod ({ cls := "FiveTouchModel", name := "fine", desc := "()Z" } : Jvm.MethodName)) ∈ lw_tbl := lw_at lw_m7 92 rfl
theorem q1618 : (Jvm.Cond.instanceMethod ({ cls := "FiveTouchModel", name := "fine", desc := "()Z" } : Jvm.MethodName)) ∈ lw_all := lw_g (lw_at lw_m7 93 rfl) rfl
theorem q1619 : (Jvm.Cond.code ({ cls := "FiveTouchModel", name := "fine", desc := "()Z" } : Jvm.MethodName) prog_25_method_32_code (1 : Nat) (Option.some Jvm.ClassFile.FieldType.boolean)) ∈ lw_all := lw_g (lw_at lw_m7 94 rfl) rfl
theorem q1620 : (Jvm.Cond.methodLink "FiveTouchModel" (177 : Nat) ({ cls := "FiveTouchModel", name := "readSum", desc := "(I)V" } : Jvm.MethodName)) ∈ lw_all := lw_g (lw_at lw_m7 95 rfl) rfl
theorem q1621 : (Jvm.Cond.privateMethod ({ cls := "FiveTouchModel", name := "readSum", desc := "(I)V" } : Jvm.MethodName)) ∈ lw_tbl := lw_at lw_m7 96 rfl
theorem q1622 : (Jvm.Cond.instanceMethod ({ cls := "FiveTouchModel", name := "readSum", desc := "(I)V" } : Jvm.MethodName)) ∈ lw_all := lw_g (lw_at lw_m7 97 rfl) rfl
theorem q1623 : (Jvm.Cond.code ({ cls := "FiveTouchModel", name := "readSum", desc := "(I)V" } : Jvm.MethodName) prog_25_method_42_code (2 : Nat) (Option.none : Option Jvm.ClassFile.FieldType)) ∈ lw_all := lw_g (lw_at lw_m7 98 rfl) rfl
theorem q1624 : (Jvm.Cond.methodLink "FiveTouchModel" (197 : Nat) ({ cls := "FiveTouchModel", name := "readTerm", desc := "(I)V" } : Jvm.MethodName)) ∈ lw_all := lw_g (lw_at lw_m7 99 rfl) rfl
theorem q1625 : (Jvm.Cond.privateMethod ({ cls := "FiveTouchModel", name := "readTerm", desc := "(I)V" } : Jvm.MethodName)) ∈ lw_tbl := lw_at lw_m7 100 rfl
theorem q1626 : (Jvm.Cond.instanceMethod ({ cls := "FiveTouchModel", name := "readTerm", desc := "(I)V" } : Jvm.MethodName)) ∈ lw_all := lw_g (lw_at lw_m7 101 rfl) rfl
theorem q1627 : (Jvm.Cond.code ({ cls := "FiveTouchModel", name := "readTerm", desc := "(I)V" } : Jvm.MethodName) prog_25_method_43_code (2 : Nat) (Option.none : Option Jvm.ClassFile.FieldType)) ∈ lw_all := lw_g (lw_at lw_m7 102 rfl) rfl
theorem q1628 : (Jvm.Cond.methodLink "FiveTouchModel" (200 : Nat) ({ cls := "FiveTouchModel", name := "readPart", desc := "(I)V" } : Jvm.MethodName)) ∈ lw_all := lw_g (lw_at lw_m7 103 rfl) rfl
theorem q1629 : (Jvm.Cond.privateMethod ({ cls := "FiveTouchModel", name := "readPart", desc := "(I)V" } : Jvm.MethodName)) ∈ lw_tbl := lw_at lw_m7 104 rfl
theorem q1630 : (Jvm.Cond.instanceMethod ({ cls := "FiveTouchModel", name := "readPart", desc := "(I)V" } : Jvm.MethodName)) ∈ lw_all := lw_g (lw_at lw_m7 105 rfl) rfl
theorem q1631 : (Jvm.Cond.code ({ cls := "FiveTouchModel", name := "readPart", desc := "(I)V" } : Jvm.MethodName) prog_25_method_44_code (3 : Nat) (Option.none : Option Jvm.ClassFile.FieldType)) ∈ lw_all := lw_g (lw_at lw_m7 106 rfl) rfl
theorem q1632 : (Jvm.Cond.methodLink "FiveTouchModel" (193 : Nat) ({ cls := "FiveTouchModel", name := "sign", desc := "(C)I" } : Jvm.MethodName)) ∈ lw_all := lw_g (lw_at lw_m7 107 rfl) rfl
theorem q1633 : (Jvm.Cond.static ({ cls := "FiveTouchModel", name := "sign", desc := "(C)I" } : Jvm.MethodName)) ∈ lw_all := lw_g (lw_at lw_m7 108 rfl) rfl
theorem q1634 : (Jvm.Cond.code ({ cls := "FiveTouchModel", name := "sign", desc := "(C)I" } : Jvm.MethodName) prog_25_method_37_code (1 : Nat) (Option.some Jvm.ClassFile.FieldType.int)) ∈ lw_all := lw_g (lw_at lw_m7 109 rfl) rfl
theorem q1635 : (Jvm.Cond.methodLink "FiveTouchModel" (171 : Nat) ({ cls := "FiveTouchModel", name := "faults", desc := "()V" } : Jvm.MethodName)) ∈ lw_all := lw_g (lw_at lw_m7 110 rfl) rfl
theorem q1636 : (Jvm.Cond.privateMethod ({ cls := "FiveTouchModel", name := "faults", desc := "()V" } : Jvm.MethodName)) ∈ lw_tbl := lw_at lw_m7 111 rfl
theorem q1637 : (Jvm.Cond.instanceMethod ({ cls := "FiveTouchModel", name := "faults", desc := "()V" } : Jvm.MethodName)) ∈ lw_all := lw_g (lw_at lw_m7 112 rfl) rfl
theorem q1638 : (Jvm.Cond.code ({ cls := "FiveTouchModel", name := "faults", desc := "()V" } : Jvm.MethodName) prog_25_method_33_code (1 : Nat) (Option.none : Option Jvm.ClassFile.FieldType)) ∈ lw_all := lw_g (lw_at lw_m7 113 rfl) rfl
theorem q1639 : (Jvm.Cond.methodLink "FiveTouchModel" (181 : Nat) ({ cls := "FiveTouchModel", name := "must", desc := "(I)V" } : Jvm.MethodName)) ∈ lw_all := lw_g (lw_at lw_m7 114 rfl) rfl
theorem q1640 : (Jvm.Cond.privateMethod ({ cls := "FiveTouchModel", name := "must", desc := "(I)V" } : Jvm.MethodName)) ∈ lw_tbl := lw_at lw_m7 115 rfl
theorem q1641 : (Jvm.Cond.instanceMethod ({ cls := "FiveTouchModel", name := "must", desc := "(I)V" } : Jvm.MethodName)) ∈ lw_all := lw_g (lw_at lw_m7 116 rfl) rfl
theorem q1642 : (Jvm.Cond.code ({ cls := "FiveTouchModel", name := "must", desc := "(I)V" } : Jvm.MethodName) prog_25_method_35_code (2 : Nat) (Option.none : Option Jvm.ClassFile.FieldType)) ∈ lw_all := lw_g (lw_at lw_m7 117 rfl) rfl
theorem q1643 : (Jvm.Cond.methodLink "FiveTouchModel" (203 : Nat) ({ cls := "FiveTouchModel", name := "leaf", desc := "()V" } : Jvm.MethodName)) ∈ lw_all := lw_g (lw_at lw_m7 118 rfl) rfl
theorem q1644 : (Jvm.Cond.privateMethod ({ cls := "FiveTouchModel", name := "leaf", desc := "()V" } : Jvm.MethodName)) ∈ lw_tbl := lw_at lw_m7 119 rfl
theorem q1645 : (Jvm.Cond.instanceMethod ({ cls := "FiveTouchModel", name := "leaf", desc := "()V" } : Jvm.MethodName)) ∈ lw_all := lw_g (lw_at lw_m7 120 rfl) rfl
theorem q1646 : (Jvm.Cond.code ({ cls := "FiveTouchModel", name := "leaf", desc := "()V" } : Jvm.MethodName) prog_25_method_36_code (1 : Nat) (Option.none : Option Jvm.ClassFile.FieldType)) ∈ lw_all := lw_g (lw_at lw_m7 121 rfl) rfl
theorem q1647 : (Jvm.Cond.methodLink "FiveTouchModel" (184 : Nat) ({ cls := "FiveTouchModel", name := "readTest", desc := "(I)V" } : Jvm.MethodName)) ∈ lw_all := lw_g (lw_at lw_m7 122 rfl) rfl
theorem q1648 : (Jvm.Cond.privateMethod ({ cls := "FiveTouchModel", name := "readTest", desc := "(I)V" } : Jvm.MethodName)) ∈ lw_tbl := lw_at lw_m7 123 rfl
theorem q1649 : (Jvm.Cond.instanceMethod ({ cls := "FiveTouchModel", name := "readTest", desc := "(I)V" } : Jvm.MethodName)) ∈ lw_all := lw_g (lw_at lw_m7 124 rfl) rfl
theorem q1650 : (Jvm.Cond.code ({ cls := "FiveTouchModel", name := "readTest", desc := "(I)V" } : Jvm.MethodName) prog_25_method_39_code (2 : Nat) (Option.none : Option Jvm.ClassFile.FieldType)) ∈ lw_all := lw_g (lw_at lw_m7 125 rfl) rfl
theorem q1651 : (Jvm.Cond.methodLink "FiveTouchModel" (187 : Nat) ({ cls := "FiveTouchModel", name := "readBoth", desc := "(I)V" } : Jvm.MethodName)) ∈ lw_all := lw_g (lw_at lw_m7 126 rfl) rfl
theorem q1652 : (Jvm.Cond.privateMethod ({ cls := "FiveTouchModel", name := "readBoth", desc := "(I)V" } : Jvm.MethodName)) ∈ lw_tbl := lw_at lw_m7 127 rfl
theorem q1653 : (Jvm.Cond.instanceMethod ({ cls := "FiveTouchModel", name := "readBoth", desc := "(I)V" } : Jvm.MethodName)) ∈ lw_all := lw_g (lw_at lw_m7 128 rfl) rfl
theorem q1654 : (Jvm.Cond.code ({ cls := "FiveTouchModel", name := "readBoth", desc := "(I)V" } : Jvm.MethodName) prog_25_method_40_code (2 : Nat) (Option.none : Option Jvm.ClassFile.FieldType)) ∈ lw_all := lw_g (lw_at lw_m7 129 rfl) rfl
theorem q1655 : (Jvm.Cond.methodLink "FiveTouchModel" (190 : Nat) ({ cls := "FiveTouchModel", name := "readPlain", desc := "(I)V" } : Jvm.MethodName)) ∈ lw_all := lw_g (lw_at lw_m7 130 rfl) rfl
theorem q1656 : (Jvm.Cond.privateMethod ({ cls := "FiveTouchModel", name := "readPlain", desc := "(I)V" } : Jvm.MethodName)) ∈ lw_tbl := lw_at lw_m7 131 rfl
theorem q1657 : (Jvm.Cond.instanceMethod ({ cls := "FiveTouchModel", name := "readPlain", desc := "(I)V" } : Jvm.MethodName)) ∈ lw_all := lw_g (lw_at lw_m7 132 rfl) rfl
theorem q1658 : (Jvm.Cond.code ({ cls := "FiveTouchModel", name := "readPlain", desc := "(I)V" } : Jvm.MethodName) prog_25_method_41_code (4 : Nat) (Option.none : Option Jvm.ClassFile.FieldType)) ∈ lw_all := lw_g (lw_at lw_m7 133 rfl) rfl
theorem q1660 : (Jvm.Cond.instanceMethod ({ cls := "FiveTouchModel", name := "fault", desc := "()I" } : Jvm.MethodName)) ∈ lw_all := lw_g (lw_at lw_m7 135 rfl) rfl
theorem q1661 : (Jvm.Cond.selects "FiveTouchModel" ({ cls := "FiveTouchModel", name := "fault", desc := "()I" } : Jvm.MethodName) ({ cls := "FiveTouchModel", name := "fault", desc := "()I" } : Jvm.MethodName)) ∈ lw_all := lw_g (lw_at lw_m7 136 rfl) rfl
theorem q1662 : (Jvm.Cond.code ({ cls := "FiveTouchModel", name := "fault", desc := "()I" } : Jvm.MethodName) prog_25_method_47_code (1 : Nat) (Option.some Jvm.ClassFile.FieldType.int)) ∈ lw_all := lw_g (lw_at lw_m7 137 rfl) rfl
theorem q1664 : (Jvm.Cond.instanceMethod ({ cls := "FiveTouchModel", name := "force", desc := "(I)I" } : Jvm.MethodName)) ∈ lw_all := lw_g (lw_at lw_m7 139 rfl) rfl
theorem q1665 : (Jvm.Cond.selects "FiveTouchModel" ({ cls := "FiveTouchModel", name := "force", desc := "(I)I" } : Jvm.MethodName) ({ cls := "FiveTouchModel", name := "force", desc := "(I)I" } : Jvm.MethodName)) ∈ lw_all := lw_g (lw_at lw_m7 140 rfl) rfl
theorem q1666 : (Jvm.Cond.code ({ cls := "FiveTouchModel", name := "force", desc := "(I)I" } : Jvm.MethodName) prog_25_method_48_code (3 : Nat) (Option.some Jvm.ClassFile.FieldType.int)) ∈ lw_all := lw_g (lw_at lw_m7 141 rfl) rfl
theorem q1668 : (Jvm.Cond.instanceMethod ({ cls := "FiveTouchModel", name := "at", desc := "(II)I" } : Jvm.MethodName)) ∈ lw_all := lw_g (lw_at lw_m7 143 rfl) rfl
theorem q1669 : (Jvm.Cond.selects "FiveTouchModel" ({ cls := "FiveTouchModel", name := "at", desc := "(II)I" } : Jvm.MethodName) ({ cls := "FiveTouchModel", name := "at", desc := "(II)I" } : Jvm.MethodName)) ∈ lw_all := lw_g (lw_at lw_m7 144 rfl) rfl
theorem q1670 : (Jvm.Cond.code ({ cls := "FiveTouchModel", name := "at", desc := "(II)I" } : Jvm.MethodName) prog_25_method_65_code (4 : Nat) (Option.some Jvm.ClassFile.FieldType.int)) ∈ lw_all := lw_g (lw_at lw_m7 145 rfl) rfl
theorem q1671 : (Jvm.Cond.methodLink "FiveTouchModel" (274 : Nat) ({ cls := "FiveTouchModel", name := "isIn", desc := "(II)Z" } : Jvm.MethodName)) ∈ lw_all := lw_g (lw_at lw_m7 146 rfl) rfl
theorem q1672 : (Jvm.Cond.static ({ cls := "FiveTouchModel", name := "isIn", desc := "(II)Z" } : Jvm.MethodName)) ∈ lw_all := lw_g (lw_at lw_m7 147 rfl) rfl
theorem q1673 : (Jvm.Cond.code ({ cls := "FiveTouchModel", name := "isIn", desc := "(II)Z" } : Jvm.MethodName) prog_25_method_4_code (2 : Nat) (Option.some Jvm.ClassFile.FieldType.boolean)) ∈ lw_all := lw_g (lw_at lw_m7 148 rfl) rfl
theorem q1675 : (Jvm.Cond.instanceMethod ({ cls := "FiveTouchModel", name := "touches", desc := "(II)I" } : Jvm.MethodName)) ∈ lw_all := lw_g (lw_at lw_m7 150 rfl) rfl
theorem q1676 : (Jvm.Cond.selects "FiveTouchModel" ({ cls := "FiveTouchModel", name := "touches", desc := "(II)I" } : Jvm.MethodName) ({ cls := "FiveTouchModel", name := "touches", desc := "(II)I" } : Jvm.MethodName)) ∈ lw_all := lw_g (lw_at lw_m7 151 rfl) rfl
theorem q1677 : (Jvm.Cond.code ({ cls := "FiveTouchModel", name := "touches", desc := "(II)I" } : Jvm.MethodName) prog_25_method_66_code (4 : Nat) (Option.some Jvm.ClassFile.FieldType.int)) ∈ lw_all := lw_g (lw_at lw_m7 152 rfl) rfl
theorem q1678 : (Jvm.Cond.methodLink "FiveTouchModel" (283 : Nat) ({ cls := "FiveTouchModel", name := "looks", desc := "()V" } : Jvm.MethodName)) ∈ lw_all := lw_g (lw_at lw_m7 153 rfl) rfl
theorem q1679 : (Jvm.Cond.privateMethod ({ cls := "FiveTouchModel", name := "looks", desc := "()V" } : Jvm.MethodName)) ∈ lw_tbl := lw_at lw_m7 154 rfl
theorem q1680 : (Jvm.Cond.instanceMethod ({ cls := "FiveTouchModel", name := "looks", desc := "()V" } : Jvm.MethodName)) ∈ lw_all := lw_g (lw_at lw_m7 155 rfl) rfl
theorem q1681 : (Jvm.Cond.code ({ cls := "FiveTouchModel", name := "looks", desc := "()V" } : Jvm.MethodName) prog_25_method_61_code (3 : Nat) (Option.none : Option Jvm.ClassFile.FieldType)) ∈ lw_all := lw_g (lw_at lw_m7 156 rfl) rfl
theorem q1682 : (Jvm.Cond.methodLink "FiveTouchModel" (264 : Nat) ({ cls := "FiveTouchModel", name := "asksOf", desc := "(I)V" } : Jvm.MethodName)) ∈ lw_all := lw_g (lw_at lw_m7 157 rfl) rfl
theorem q1683 : (Jvm.Cond.privateMethod ({ cls := "FiveTouchModel", name := "asksOf", desc := "(I)V" } : Jvm.MethodName)) ∈ lw_tbl := lw_at lw_m7 158 rfl
theorem q1684 : (Jvm.Cond.instanceMethod ({ cls := "FiveTouchModel", name := "asksOf", desc := "(I)V" } : Jvm.MethodName)) ∈ lw_all := lw_g (lw_at lw_m7 159 rfl) rfl
theorem q1685 : (Jvm.Cond.code ({ cls := "FiveTouchModel", name := "asksOf", desc := "(I)V" } : Jvm.MethodName) prog_25_method_59_code (7 : Nat) (Option.none : Option Jvm.ClassFile.FieldType)) ∈ lw_all := lw_g (lw_at lw_m7 160 rfl) rfl
theorem q1686 : (Jvm.Cond.methodLink "FiveTouchModel" (221 : Nat) ({ cls := "FiveTouchModel", name := "codeAt", desc := "(I)I" } : Jvm.MethodName)) ∈ lw_all := lw_g (lw_at lw_m7 161 rfl) rfl
theorem q1687 : (Jvm.Cond.privateMethod ({ cls := "FiveTouchModel", name := "codeAt", desc := "(I)I" } : Jvm.MethodName)) ∈ lw_tbl := lw_at lw_m7 162 rfl
theorem q1688 : (Jvm.Cond.instanceMethod ({ cls := "FiveTouchModel", name := "codeAt", desc := "(I)I" } : Jvm.MethodName)) ∈ lw_all := lw_g (lw_at lw_m7 163 rfl) rfl
theorem q1689 : (Jvm.Cond.code ({ cls := "FiveTouchModel", name := "codeAt", desc := "(I)I" } : Jvm.MethodName) prog_25_method_49_code (2 : Nat) (Option.some Jvm.ClassFile.FieldType.int)) ∈ lw_all := lw_g (lw_at lw_m7 164 rfl) rfl
theorem q1690 : (Jvm.Cond.methodLink "FiveTouchModel" (246 : Nat) ({ cls := "FiveTouchModel", name := "sumOf", desc := "(Z)J" } : Jvm.MethodName)) ∈ lw_all := lw_g (lw_at lw_m7 165 rfl) rfl
theorem q1691 : (Jvm.Cond.privateMethod ({ cls := "FiveTouchModel", name := "sumOf", desc := "(Z)J" } : Jvm.MethodName)) ∈ lw_tbl := lw_at lw_m7 166 rfl
theorem q1692 : (Jvm.Cond.instanceMethod ({ cls := "FiveTouchModel", name := "sumOf", desc := "(Z)J" } : Jvm.MethodName)) ∈ lw_all := lw_g (lw_at lw_m7 167 rfl) rfl
theorem q1693 : (Jvm.Cond.code ({ cls := "FiveTouchModel", name := "sumOf", desc := "(Z)J" } : Jvm.MethodName) prog_25_method_52_code (7 : Nat) (Option.some Jvm.ClassFile.FieldType.long)) ∈ lw_all := lw_g (lw_at lw_m7 168 rfl) rfl
theorem q1694 : (Jvm.Cond.methodLink "FiveTouchModel" (232 : Nat) ({ cls := "FiveTouchModel", name := "termOf", desc := "(Z)J" } : Jvm.MethodName)) ∈ lw_all := lw_g (lw_at lw_m7 169 rfl) rfl
theorem q1695 : (Jvm.Cond.privateMethod ({ cls := "FiveTouchModel", name := "termOf", desc := "(Z)J" } : Jvm.MethodName)) ∈ lw_tbl := lw_at lw_m7 170 rfl
theorem q1696 : (Jvm.Cond.instanceMethod ({ cls := "FiveTouchModel", name := "termOf", desc := "(Z)J" } : Jvm.MethodName)) ∈ lw_all := lw_g (lw_at lw_m7 171 rfl) rfl
theorem q1697 : (Jvm.Cond.code ({ cls := "FiveTouchModel", name := "termOf", desc := "(Z)J" } : Jvm.MethodName) prog_25_method_53_code (7 : Nat) (Option.some Jvm.ClassFile.FieldType.long)) ∈ lw_all := lw_g (lw_at lw_m7 172 rfl) rfl
theorem q1698 : (Jvm.Cond.methodLink "FiveTouchModel" (240 : Nat) ({ cls := "FiveTouchModel", name := "partOf", desc := "(Z)J" } : Jvm.MethodName)) ∈ lw_all := lw_g (lw_at lw_m7 173 rfl) rfl
theorem q1699 : (Jvm.Cond.privateMethod ({ cls := "FiveTouchModel", name := "partOf", desc := "(Z)J" } : Jvm.MethodName)) ∈ lw_tbl := lw_at lw_m7 174 rfl
theorem q1700 : (Jvm.Cond.instanceMethod ({ cls := "FiveTouchModel", name := "partOf", desc := "(Z)J" } : Jvm.MethodName)) ∈ lw_all := lw_g (lw_at lw_m7 175 rfl) rfl
theorem q1701 : (Jvm.Cond.code ({ cls := "FiveTouchModel", name := "partOf", desc := "(Z)J" } : Jvm.MethodName) prog_25_method_54_code (4 : Nat) (Option.some Jvm.ClassFile.FieldType.long)) ∈ lw_all := lw_g (lw_at lw_m7 176 rfl) rfl
theorem q1702 : (Jvm.Cond.methodLink "FiveTouchModel" (243 : Nat) ({ cls := "FiveTouchModel", name := "passes0", desc := "(I)Z" } : Jvm.MethodName)) ∈ lw_all := lw_g (lw_at lw_m7 177 rfl) rfl
theorem q1703 : (Jvm.Cond.privateMethod ({ cls := "FiveTouchModel", name := "passes0", desc := "(I)Z" } : Jvm.MethodName)) ∈ lw_tbl := lw_at lw_m7 178 rfl
theorem q1704 : (Jvm.Cond.instanceMethod ({ cls := "FiveTouchModel", name := "passes0", desc := "(I)Z" } : Jvm.MethodName)) ∈ lw_all := lw_g (lw_at lw_m7 179 rfl) rfl
theorem q1705 : (Jvm.Cond.code ({ cls := "FiveTouchModel", name := "passes0", desc := "(I)Z" } : Jvm.MethodName) prog_25_method_50_code (3 : Nat) (Option.some Jvm.ClassFile.FieldType.boolean)) ∈ lw_all := lw_g (lw_at lw_m7 180 rfl) rfl
theorem q1706 : (Jvm.Cond.methodLink "FiveTouchModel" (236 : Nat) ({ cls := "FiveTouchModel", name := "bounded", desc := "(JZ)J" } : Jvm.MethodName)) ∈ lw_all := lw_g (lw_at lw_m7 181 rfl) rfl
theorem q1707 : (Jvm.Cond.privateMethod ({ cls := "FiveTouchModel", name := "bounded", desc := "(JZ)J" } : Jvm.MethodName)) ∈ lw_tbl := lw_at lw_m7 182 rfl
theorem q1708 : (Jvm.Cond.instanceMethod ({ cls := "FiveTouchModel", name := "bounded", desc := "(JZ)J" } : Jvm.MethodName)) ∈ lw_all := lw_g (lw_at lw_m7 183 rfl) rfl
theorem q1709 : (Jvm.Cond.code ({ cls := "FiveTouchModel", name := "bounded", desc := "(JZ)J" } : Jvm.MethodName) prog_25_method_51_code (4 : Nat) (Option.some Jvm.ClassFile.FieldType.long)) ∈ lw_all := lw_g (lw_at lw_m7 184 rfl) rfl
theorem q1710 : (Jvm.Cond.constantLong "FiveTouchModel" (224 : Nat) (1000000000 : Int64)) ∈ lw_all := lw_g (lw_at lw_m7 185 rfl) rfl
theorem q1711 : (Jvm.Cond.constantLong "FiveTouchModel" (226 : Nat) (-1000000000 : Int64)) ∈ lw_all := lw_g (lw_at lw_m7 186 rfl) rfl
theorem q1712 : (Jvm.Cond.methodLink "FiveTouchModel" (259 : Nat) ({ cls := "FiveTouchModel", name := "testOf", desc := "(Z)Z" } : Jvm.MethodName)) ∈ lw_all := lw_g (lw_at lw_m7 187 rfl) rfl
theorem q1713 : (Jvm.Cond.privateMethod ({ cls := "FiveTouchModel", name := "testOf", desc := "(Z)Z" } : Jvm.MethodName)) ∈ lw_tbl := lw_at lw_m7 188 rfl
theorem q1714 : (Jvm.Cond.instanceMethod ({ cls := "FiveTouchModel", name := "testOf", desc := "(Z)Z" } : Jvm.MethodName)) ∈ lw_all := lw_g (lw_at lw_m7 189 rfl) rfl
theorem q1715 : (Jvm.Cond.code ({ cls := "FiveTouchModel", name := "testOf", desc := "(Z)Z" } : Jvm.MethodName) prog_25_method_55_code (4 : Nat) (Option.some Jvm.ClassFile.FieldType.boolean)) ∈ lw_all := lw_g (lw_at lw_m7 190 rfl) rfl
theorem q1716 : (Jvm.Cond.methodLink "FiveTouchModel" (249 : Nat) ({ cls := "FiveTouchModel", name := "bothOf", desc := "(Z)Z" } : Jvm.MethodName)) ∈ lw_all := lw_g (lw_at lw_m7 191 rfl) rfl
theorem q1717 : (Jvm.Cond.privateMethod ({ cls := "FiveTouchModel", name := "bothOf", desc := "(Z)Z" } : Jvm.MethodName)) ∈ lw_tbl := lw_at lw_m7 192 rfl
theorem q1718 : (Jvm.Cond.instanceMethod ({ cls := "FiveTouchModel", name := "bothOf", desc := "(Z)Z" } : Jvm.MethodName)) ∈ lw_all := lw_g (lw_at lw_m7 193 rfl) rfl
theorem q1719 : (Jvm.Cond.code ({ cls := "FiveTouchModel", name := "bothOf", desc := "(Z)Z" } : Jvm.MethodName) prog_25_method_56_code (4 : Nat) (Option.some Jvm.ClassFile.FieldType.boolean)) ∈ lw_all := lw_g (lw_at lw_m7 194 rfl) rfl
theorem q1720 : (Jvm.Cond.methodLink "FiveTouchModel" (253 : Nat) ({ cls := "FiveTouchModel", name := "plainOf", desc := "(Z)Z" } : Jvm.MethodName)) ∈ lw_all := lw_g (lw_at lw_m7 195 rfl) rfl
theorem q1721 : (Jvm.Cond.privateMethod ({ cls := "FiveTouchModel", name := "plainOf", desc := "(Z)Z" } : Jvm.MethodName)) ∈ lw_tbl := lw_at lw_m7 196 rfl
theorem q1722 : (Jvm.Cond.instanceMethod ({ cls := "FiveTouchModel", name := "plainOf", desc := "(Z)Z" } : Jvm.MethodName)) ∈ lw_all := lw_g (lw_at lw_m7 197 rfl) rfl
theorem q1723 : (Jvm.Cond.code ({ cls := "FiveTouchModel", name := "plainOf", desc := "(Z)Z" } : Jvm.MethodName) prog_25_method_57_code (3 : Nat) (Option.some Jvm.ClassFile.FieldType.boolean)) ∈ lw_all := lw_g (lw_at lw_m7 198 rfl) rfl
theorem q1724 : (Jvm.Cond.methodLink "FiveTouchModel" (256 : Nat) ({ cls := "FiveTouchModel", name := "positiveOf", desc := "(Z)Z" } : Jvm.MethodName)) ∈ lw_all := lw_g (lw_at lw_m7 199 rfl) rfl
theorem q1725 : (Jvm.Cond.privateMethod ({ cls := "FiveTouchModel", name := "positiveOf", desc := "(Z)Z" } : Jvm.MethodName)) ∈ lw_tbl := lw_at lw_m7 200 rfl
theorem q1726 : (Jvm.Cond.instanceMethod ({ cls := "FiveTouchModel", name := "positiveOf", desc := "(Z)Z" } : Jvm.MethodName)) ∈ lw_all := lw_g (lw_at lw_m7 201 rfl) rfl
theorem q1727 : (Jvm.Cond.code ({ cls := "FiveTouchModel", name := "positiveOf", desc := "(Z)Z" } : Jvm.MethodName) prog_25_method_58_code (7 : Nat) (Option.some Jvm.ClassFile.FieldType.boolean)) ∈ lw_all := lw_g (lw_at lw_m7 202 rfl) rfl
theorem q1728 : (Jvm.Cond.constantLong "FiveTouchModel" (262 : Nat) (12 : Int64)) ∈ lw_all := lw_g (lw_at lw_m7 203 rfl) rfl
theorem q1729 : (Jvm.Cond.methodLink "FiveTouchModel" (267 : Nat) ({ cls := "FiveTouchModel", name := "touch", desc := "(II)Z" } : Jvm.MethodName)) ∈ lw_all := lw_g (lw_at lw_m7 204 rfl) rfl
theorem q1730 : (Jvm.Cond.privateMethod ({ cls := "FiveTouchModel", name := "touch", desc := "(II)Z" } : Jvm.MethodName)) ∈ lw_tbl := lw_at lw_m7 205 rfl
theorem q1731 : (Jvm.Cond.instanceMethod ({ cls := "FiveTouchModel", name := "touch", desc := "(II)Z" } : Jvm.MethodName)) ∈ lw_all := lw_g (lw_at lw_m7 206 rfl) rfl
theorem q1732 : (Jvm.Cond.code ({ cls := "FiveTouchModel", name := "touch", desc := "(II)Z" } : Jvm.MethodName) prog_25_method_60_code (6 : Nat) (Option.some Jvm.ClassFile.FieldType.boolean)) ∈ lw_all := lw_g (lw_at lw_m7 207 rfl) rfl
theorem q1733 : (Jvm.Cond.methodLink "FiveTouchModel" (271 : Nat) ({ cls := "FiveTouchModel", name := "ones", desc := "(I)I" } : Jvm.MethodName)) ∈ lw_all := lw_g (lw_at lw_m7 208 rfl) rfl
theorem q1734 : (Jvm.Cond.static ({ cls := "FiveTouchModel", name := "ones", desc := "(I)I" } : Jvm.MethodName)) ∈ lw_all := lw_g (lw_at lw_m7 209 rfl) rfl
theorem q1735 : (Jvm.Cond.code ({ cls := "FiveTouchModel", name := "ones", desc := "(I)I" } : Jvm.MethodName) prog_25_method_5_code (3 : Nat) (Option.some Jvm.ClassFile.FieldType.int)) ∈ lw_all := lw_g (lw_at lw_m7 210 rfl) rfl
theorem q1737 : (Jvm.Cond.instanceMethod ({ cls := "FiveTouchModel", name := "unlawful", desc := "()I" } : Jvm.MethodName)) ∈ lw_all := lw_g (lw_at lw_m7 212 rfl) rfl
theorem q1738 : (Jvm.Cond.selects "FiveTouchModel" ({ cls := "FiveTouchModel", name := "unlawful", desc := "()I" } : Jvm.MethodName) ({ cls := "FiveTouchModel", name := "unlawful", desc := "()I" } : Jvm.MethodName)) ∈ lw_all := lw_g (lw_at lw_m7 213 rfl) rfl
theorem q1739 : (Jvm.Cond.code ({ cls := "FiveTouchModel", name := "unlawful", desc := "()I" } : Jvm.MethodName) prog_25_method_67_code (3 : Nat) (Option.some Jvm.ClassFile.FieldType.int)) ∈ lw_all := lw_g (lw_at lw_m7 214 rfl) rfl
theorem q1740 : (Jvm.Cond.methodLink "FiveTouchModel" (280 : Nat) ({ cls := "FiveTouchModel", name := "loose", desc := "(I)I" } : Jvm.MethodName)) ∈ lw_all := lw_g (lw_at lw_m7 215 rfl) rfl
theorem q1741 : (Jvm.Cond.privateMethod ({ cls := "FiveTouchModel", name := "loose", desc := "(I)I" } : Jvm.MethodName)) ∈ lw_tbl := lw_at lw_m7 216 rfl
theorem q1742 : (Jvm.Cond.instanceMethod ({ cls := "FiveTouchModel", name := "loose", desc := "(I)I" } : Jvm.MethodName)) ∈ lw_all := lw_g (lw_at lw_m7 217 rfl) rfl
theorem q1743 : (Jvm.Cond.code ({ cls := "FiveTouchModel", name := "loose", desc := "(I)I" } : Jvm.MethodName) prog_25_method_63_code (4 : Nat) (Option.some Jvm.ClassFile.FieldType.int)) ∈ lw_all := lw_g (lw_at lw_m7 218 rfl) rfl
theorem q1744 : (Jvm.Cond.methodLink "FiveTouchModel" (277 : Nat) ({ cls := "FiveTouchModel", name := "stands", desc := "(II)Z" } : Jvm.MethodName)) ∈ lw_all := lw_g (lw_at lw_m7 219 rfl) rfl
theorem q1745 : (Jvm.Cond.privateMethod ({ cls := "FiveTouchModel", name := "stands", desc := "(II)Z" } : Jvm.MethodName)) ∈ lw_tbl := lw_at lw_m7 220 rfl
theorem q1746 : (Jvm.Cond.instanceMethod ({ cls := "FiveTouchModel", name := "stands", desc := "(II)Z" } : Jvm.MethodName)) ∈ lw_all := lw_g (lw_at lw_m7 221 rfl) rfl
theorem q1747 : (Jvm.Cond.code ({ cls := "FiveTouchModel", name := "stands", desc := "(II)Z" } : Jvm.MethodName) prog_25_method_62_code (3 : Nat) (Option.some Jvm.ClassFile.FieldType.boolean)) ∈ lw_all := lw_g (lw_at lw_m7 222 rfl) rfl
theorem q1749 : (Jvm.Cond.instanceMethod ({ cls := "FiveTouchModel", name := "there", desc := "()I" } : Jvm.MethodName)) ∈ lw_all := lw_g (lw_at lw_m7 224 rfl) rfl
theorem q1750 : (Jvm.Cond.selects "FiveTouchModel" ({ cls := "FiveTouchModel", name := "there", desc := "()I" } : Jvm.MethodName) ({ cls := "FiveTouchModel", name := "there", desc := "()I" } : Jvm.MethodName)) ∈ lw_all := lw_g (lw_at lw_m7 225 rfl) rfl
theorem q1751 : (Jvm.Cond.code ({ cls := "FiveTouchModel", name := "there", desc := "()I" } : Jvm.MethodName) prog_25_method_68_code (1 : Nat) (Option.some Jvm.ClassFile.FieldType.int)) ∈ lw_all := lw_g (lw_at lw_m7 226 rfl) rfl
theorem q1753 : (Jvm.Cond.instanceMethod ({ cls := "FiveTouchModel", name := "stand", desc := "(I)I" } : Jvm.MethodName)) ∈ lw_all := lw_g (lw_at lw_m7 228 rfl) rfl
theorem q1754 : (Jvm.Cond.selects "FiveTouchModel" ({ cls := "FiveTouchModel", name := "stand", desc := "(I)I" } : Jvm.MethodName) ({ cls := "FiveTouchModel", name := "stand", desc := "(I)I" } : Jvm.MethodName)) ∈ lw_all := lw_g (lw_at lw_m7 229 rfl) rfl
theorem q1755 : (Jvm.Cond.code ({ cls := "FiveTouchModel", name := "stand", desc := "(I)I" } : Jvm.MethodName) prog_25_method_69_code (3 : Nat) (Option.some Jvm.ClassFile.FieldType.int)) ∈ lw_all := lw_g (lw_at lw_m7 230 rfl) rfl
theorem q1757 : (Jvm.Cond.instanceMethod ({ cls := "FiveTouchModel", name := "falls", desc := "(II)I" } : Jvm.MethodName)) ∈ lw_all := lw_g (lw_at lw_m7 232 rfl) rfl
theorem q1758 : (Jvm.Cond.selects "FiveTouchModel" ({ cls := "FiveTouchModel", name := "falls", desc := "(II)I" } : Jvm.MethodName) ({ cls := "FiveTouchModel", name := "falls", desc := "(II)I" } : Jvm.MethodName)) ∈ lw_all := lw_g (lw_at lw_m7 233 rfl) rfl
theorem q1759 : (Jvm.Cond.code ({ cls := "FiveTouchModel", name := "falls", desc := "(II)I" } : Jvm.MethodName) prog_25_method_72_code (6 : Nat) (Option.some Jvm.ClassFile.FieldType.int)) ∈ lw_all := lw_g (lw_at lw_m7 234 rfl) rfl
theorem q1760 : (Jvm.Cond.methodLink "FiveTouchModel" (286 : Nat) ({ cls := "FiveTouchModel", name := "areThere", desc := "(I)Z" } : Jvm.MethodName)) ∈ lw_all := lw_g (lw_at lw_m7 235 rfl) rfl
theorem q1761 : (Jvm.Cond.privateMethod ({ cls := "FiveTouchModel", name := "areThere", desc := "(I)Z" } : Jvm.MethodName)) ∈ lw_tbl := lw_at lw_m7 236 rfl
theorem q1762 : (Jvm.Cond.instanceMethod ({ cls := "FiveTouchModel", name := "areThere", desc := "(I)Z" } : Jvm.MethodName)) ∈ lw_all := lw_g (lw_at lw_m7 237 rfl) rfl
theorem q1763 : (Jvm.Cond.code ({ cls := "FiveTouchModel", name := "areThere", desc := "(I)Z" } : Jvm.MethodName) prog_25_method_70_code (2 : Nat) (Option.some Jvm.ClassFile.FieldType.boolean)) ∈ lw_all := lw_g (lw_at lw_m7 238 rfl) rfl
theorem q1764 : (Jvm.Cond.methodLink "FiveTouchModel" (289 : Nat) ({ cls := "FiveTouchModel", name := "weightOf", desc := "(I)I" } : Jvm.MethodName)) ∈ lw_all := lw_g (lw_at lw_m7 239 rfl) rfl
theorem q1765 : (Jvm.Cond.privateMethod ({ cls := "FiveTouchModel", name := "weightOf", desc := "(I)I" } : Jvm.MethodName)) ∈ lw_tbl := lw_at lw_m8 0 rfl
theorem q1766 : (Jvm.Cond.instanceMethod ({ cls := "FiveTouchModel", name := "weightOf", desc := "(I)I" } : Jvm.MethodName)) ∈ lw_all := lw_g (lw_at lw_m8 1 rfl) rfl
theorem q1767 : (Jvm.Cond.code ({ cls := "FiveTouchModel", name := "weightOf", desc := "(I)I" } : Jvm.MethodName) prog_25_method_71_code (4 : Nat) (Option.some Jvm.ClassFile.FieldType.int)) ∈ lw_all := lw_g (lw_at lw_m8 2 rfl) rfl
theorem q1769 : (Jvm.Cond.instanceMethod ({ cls := "FiveTouchModel", name := "round", desc := "(II)I" } : Jvm.MethodName)) ∈ lw_all := lw_g (lw_at lw_m8 4 rfl) rfl
theorem q1770 : (Jvm.Cond.selects "FiveTouchModel" ({ cls := "FiveTouchModel", name := "round", desc := "(II)I" } : Jvm.MethodName) ({ cls := "FiveTouchModel", name := "round", desc := "(II)I" } : Jvm.MethodName)) ∈ lw_all := lw_g (lw_at lw_m8 5 rfl) rfl
theorem q1771 : (Jvm.Cond.code ({ cls := "FiveTouchModel", name := "round", desc := "(II)I" } : Jvm.MethodName) prog_25_method_73_code (5 : Nat) (Option.some Jvm.ClassFile.FieldType.int)) ∈ lw_all := lw_g (lw_at lw_m8 6 rfl) rfl
theorem q1773 : (Jvm.Cond.instanceMethod ({ cls := "FiveTouchModel", name := "take", desc := "(I)I" } : Jvm.MethodName)) ∈ lw_all := lw_g (lw_at lw_m8 8 rfl) rfl
theorem q1774 : (Jvm.Cond.selects "FiveTouchModel" ({ cls := "FiveTouchModel", name := "take", desc := "(I)I" } : Jvm.MethodName) ({ cls := "FiveTouchModel", name := "take", desc := "(I)I" } : Jvm.MethodName)) ∈ lw_all := lw_g (lw_at lw_m8 9 rfl) rfl
theorem q1775 : (Jvm.Cond.code ({ cls := "FiveTouchModel", name := "take", desc := "(I)I" } : Jvm.MethodName) prog_25_method_74_code (3 : Nat) (Option.some Jvm.ClassFile.FieldType.int)) ∈ lw_all := lw_g (lw_at lw_m8 10 rfl) rfl
theorem q1776 : (Jvm.Cond.methodLink "FiveTouchModel" (292 : Nat) ({ cls := "FiveTouchModel", name := "fall", desc := "(I)I" } : Jvm.MethodName)) ∈ lw_all := lw_g (lw_at lw_m8 11 rfl) rfl
theorem q1777 : (Jvm.Cond.privateMethod ({ cls := "FiveTouchModel", name := "fall", desc := "(I)I" } : Jvm.MethodName)) ∈ lw_tbl := lw_at lw_m8 12 rfl
theorem q1778 : (Jvm.Cond.instanceMethod ({ cls := "FiveTouchModel", name := "fall", desc := "(I)I" } : Jvm.MethodName)) ∈ lw_all := lw_g (lw_at lw_m8 13 rfl) rfl
theorem q1779 : (Jvm.Cond.code ({ cls := "FiveTouchModel", name := "fall", desc := "(I)I" } : Jvm.MethodName) prog_25_method_64_code (3 : Nat) (Option.some Jvm.ClassFile.FieldType.int)) ∈ lw_all := lw_g (lw_at lw_m8 14 rfl) rfl
theorem q1781 : (Jvm.Cond.instanceMethod ({ cls := "FiveTouchModel", name := "farm", desc := "(II)I" } : Jvm.MethodName)) ∈ lw_all := lw_g (lw_at lw_m8 16 rfl) rfl
theorem q1782 : (Jvm.Cond.selects "FiveTouchModel" ({ cls := "FiveTouchModel", name := "farm", desc := "(II)I" } : Jvm.MethodName) ({ cls := "FiveTouchModel", name := "farm", desc := "(II)I" } : Jvm.MethodName)) ∈ lw_all := lw_g (lw_at lw_m8 17 rfl) rfl
theorem q1783 : (Jvm.Cond.code ({ cls := "FiveTouchModel", name := "farm", desc := "(II)I" } : Jvm.MethodName) prog_25_method_75_code (6 : Nat) (Option.some Jvm.ClassFile.FieldType.int)) ∈ lw_all := lw_g (lw_at lw_m8 18 rfl) rfl
theorem q1785 : (Jvm.Cond.instanceMethod ({ cls := "FiveTouchModel", name := "once", desc := "(I)I" } : Jvm.MethodName)) ∈ lw_all := lw_g (lw_at lw_m8 20 rfl) rfl
theorem q1786 : (Jvm.Cond.selects "FiveTouchModel" ({ cls := "FiveTouchModel", name := "once", desc := "(I)I" } : Jvm.MethodName) ({ cls := "FiveTouchModel", name := "once", desc := "(I)I" } : Jvm.MethodName)) ∈ lw_all := lw_g (lw_at lw_m8 21 rfl) rfl
theorem q1787 : (Jvm.Cond.code ({ cls := "FiveTouchModel", name := "once", desc := "(I)I" } : Jvm.MethodName) prog_25_method_80_code (2 : Nat) (Option.some Jvm.ClassFile.FieldType.int)) ∈ lw_all := lw_g (lw_at lw_m8 22 rfl) rfl
theorem q1788 : (Jvm.Cond.methodLink "FiveTouchModel" (307 : Nat) ({ cls := "FiveTouchModel", name := "takesMost", desc := "(Z)V" } : Jvm.MethodName)) ∈ lw_all := lw_g (lw_at lw_m8 23 rfl) rfl
theorem q1789 : (Jvm.Cond.privateMethod ({ cls := "FiveTouchModel", name := "takesMost", desc := "(Z)V" } : Jvm.MethodName)) ∈ lw_tbl := lw_at lw_m8 24 rfl
theorem q1790 : (Jvm.Cond.instanceMethod ({ cls := "FiveTouchModel", name := "takesMost", desc := "(Z)V" } : Jvm.MethodName)) ∈ lw_all := lw_g (lw_at lw_m8 25 rfl) rfl
theorem q1791 : (Jvm.Cond.code ({ cls := "FiveTouchModel", name := "takesMost", desc := "(Z)V" } : Jvm.MethodName) prog_25_method_78_code (4 : Nat) (Option.none : Option Jvm.ClassFile.FieldType)) ∈ lw_all := lw_g (lw_at lw_m8 26 rfl) rfl
theorem q1792 : (Jvm.Cond.methodLink "FiveTouchModel" (295 : Nat) ({ cls := "FiveTouchModel", name := "sets", desc := "()V" } : Jvm.MethodName)) ∈ lw_all := lw_g (lw_at lw_m8 27 rfl) rfl
theorem q1793 : (Jvm.Cond.privateMethod ({ cls := "FiveTouchModel", name := "sets", desc := "()V" } : Jvm.MethodName)) ∈ lw_tbl := lw_at lw_m8 28 rfl
theorem q1794 : (Jvm.Cond.instanceMethod ({ cls := "FiveTouchModel", name := "sets", desc := "()V" } : Jvm.MethodName)) ∈ lw_all := lw_g (lw_at lw_m8 29 rfl) rfl
theorem q1795 : (Jvm.Cond.code ({ cls := "FiveTouchModel", name := "sets", desc := "()V" } : Jvm.MethodName) prog_25_method_76_code (5 : Nat) (Option.none : Option Jvm.ClassFile.FieldType)) ∈ lw_all := lw_g (lw_at lw_m8 30 rfl) rfl
theorem q1796 : (Jvm.Cond.methodLink "FiveTouchModel" (304 : Nat) ({ cls := "FiveTouchModel", name := "isBetter", desc := "(II)Z" } : Jvm.MethodName)) ∈ lw_all := lw_g (lw_at lw_m8 31 rfl) rfl
theorem q1797 : (Jvm.Cond.privateMethod ({ cls := "FiveTouchModel", name := "isBetter", desc := "(II)Z" } : Jvm.MethodName)) ∈ lw_tbl := lw_at lw_m8 32 rfl
theorem q1798 : (Jvm.Cond.instanceMethod ({ cls := "FiveTouchModel", name := "isBetter", desc := "(II)Z" } : Jvm.MethodName)) ∈ lw_all := lw_g (lw_at lw_m8 33 rfl) rfl
theorem q1799 : (Jvm.Cond.code ({ cls := "FiveTouchModel", name := "isBetter", desc := "(II)Z" } : Jvm.MethodName) prog_25_method_77_code (3 : Nat) (Option.some Jvm.ClassFile.FieldType.boolean)) ∈ lw_all := lw_g (lw_at lw_m8 34 rfl) rfl
theorem q1800 : (Jvm.Cond.methodLink "FiveTouchModel" (311 : Nat) ({ cls := "FiveTouchModel", name := "told", desc := "(I)I" } : Jvm.MethodName)) ∈ lw_all := lw_g (lw_at lw_m8 35 rfl) rfl
theorem q1801 : (Jvm.Cond.privateMethod ({ cls := "FiveTouchModel", name := "told", desc := "(I)I" } : Jvm.MethodName)) ∈ lw_tbl := lw_at lw_m8 36 rfl
theorem q1802 : (Jvm.Cond.instanceMethod ({ cls := "FiveTouchModel", name := "told", desc := "(I)I" } : Jvm.MethodName)) ∈ lw_all := lw_g (lw_at lw_m8 37 rfl) rfl
theorem q1803 : (Jvm.Cond.code ({ cls := "FiveTouchModel", name := "told", desc := "(I)I" } : Jvm.MethodName) prog_25_method_79_code (2 : Nat) (Option.some Jvm.ClassFile.FieldType.int)) ∈ lw_all := lw_g (lw_at lw_m8 38 rfl) rfl
theorem q1805 : (Jvm.Cond.instanceMethod ({ cls := "FiveTouchModel", name := "oneByOne", desc := "(I)I" } : Jvm.MethodName)) ∈ lw_all := lw_g (lw_at lw_m8 40 rfl) rfl
theorem q1806 : (Jvm.Cond.selects "FiveTouchModel" ({ cls := "FiveTouchModel", name := "oneByOne", desc := "(I)I" } : Jvm.MethodName) ({ cls := "FiveTouchModel", name := "oneByOne", desc := "(I)I" } : Jvm.MethodName)) ∈ lw_all := lw_g (lw_at lw_m8 41 rfl) rfl
theorem q1807 : (Jvm.Cond.code ({ cls := "FiveTouchModel", name := "oneByOne", desc := "(I)I" } : Jvm.MethodName) prog_25_method_81_code (2 : Nat) (Option.some Jvm.ClassFile.FieldType.int)) ∈ lw_all := lw_g (lw_at lw_m8 42 rfl) rfl
theorem q1809 : (Jvm.Cond.instanceMethod ({ cls := "FiveTouchModel", name := "order", desc := "(I)I" } : Jvm.MethodName)) ∈ lw_all := lw_g (lw_at lw_m8 44 rfl) rfl
theorem q1810 : (Jvm.Cond.selects "FiveTouchModel" ({ cls := "FiveTouchModel", name := "order", desc := "(I)I" } : Jvm.MethodName) ({ cls := "FiveTouchModel", name := "order", desc := "(I)I" } : Jvm.MethodName)) ∈ lw_all := lw_g (lw_at lw_m8 45 rfl) rfl
theorem q1811 : (Jvm.Cond.code ({ cls := "FiveTouchModel", name := "order", desc := "(I)I" } : Jvm.MethodName) prog_25_method_82_code (6 : Nat) (Option.some Jvm.ClassFile.FieldType.int)) ∈ lw_all := lw_g (lw_at lw_m8 46 rfl) rfl
theorem q1813 : (Jvm.Cond.instanceMethod ({ cls := "FiveTouchModel", name := "fell", desc := "(I)I" } : Jvm.MethodName)) ∈ lw_all := lw_g (lw_at lw_m8 48 rfl) rfl
theorem q1814 : (Jvm.Cond.selects "FiveTouchModel" ({ cls := "FiveTouchModel", name := "fell", desc := "(I)I" } : Jvm.MethodName) ({ cls := "FiveTouchModel", name := "fell", desc := "(I)I" } : Jvm.MethodName)) ∈ lw_all := lw_g (lw_at lw_m8 49 rfl) rfl
theorem q1815 : (Jvm.Cond.code ({ cls := "FiveTouchModel", name := "fell", desc := "(I)I" } : Jvm.MethodName) prog_25_method_83_code (5 : Nat) (Option.some Jvm.ClassFile.FieldType.int)) ∈ lw_all := lw_g (lw_at lw_m8 50 rfl) rfl
theorem q1817 : (Jvm.Cond.instanceMethod ({ cls := "FiveTouchModel", name := "gate", desc := "(IIIII)I" } : Jvm.MethodName)) ∈ lw_all := lw_g (lw_at lw_m8 52 rfl) rfl
theorem q1818 : (Jvm.Cond.selects "FiveTouchModel" ({ cls := "FiveTouchModel", name := "gate", desc := "(IIIII)I" } : Jvm.MethodName) ({ cls := "FiveTouchModel", name := "gate", desc := "(IIIII)I" } : Jvm.MethodName)) ∈ lw_all := lw_g (lw_at lw_m8 53 rfl) rfl
theorem q1819 : (Jvm.Cond.code ({ cls := "FiveTouchModel", name := "gate", desc := "(IIIII)I" } : Jvm.MethodName) prog_25_method_84_code (9 : Nat) (Option.some Jvm.ClassFile.FieldType.int)) ∈ lw_all := lw_g (lw_at lw_m8 54 rfl) rfl
theorem q1821 : (Jvm.Cond.instanceMethod ({ cls := "FiveTouchModel", name := "mend", desc := "(I)I" } : Jvm.MethodName)) ∈ lw_all := lw_g (lw_at lw_m8 56 rfl) rfl
theorem q1822 : (Jvm.Cond.selects "FiveTouchModel" ({ cls := "FiveTouchModel", name := "mend", desc := "(I)I" } : Jvm.MethodName) ({ cls := "FiveTouchModel", name := "mend", desc := "(I)I" } : Jvm.MethodName)) ∈ lw_all := lw_g (lw_at lw_m8 57 rfl) rfl
theorem q1823 : (Jvm.Cond.code ({ cls := "FiveTouchModel", name := "mend", desc := "(I)I" } : Jvm.MethodName) prog_25_method_85_code (6 : Nat) (Option.some Jvm.ClassFile.FieldType.int)) ∈ lw_all := lw_g (lw_at lw_m8 58 rfl) rfl
theorem q1825 : (Jvm.Cond.instanceMethod ({ cls := "FiveTouchModel", name := "game", desc := "(I)I" } : Jvm.MethodName)) ∈ lw_all := lw_g (lw_at lw_m8 60 rfl) rfl
theorem q1826 : (Jvm.Cond.selects "FiveTouchModel" ({ cls := "FiveTouchModel", name := "game", desc := "(I)I" } : Jvm.MethodName) ({ cls := "FiveTouchModel", name := "game", desc := "(I)I" } : Jvm.MethodName)) ∈ lw_all := lw_g (lw_at lw_m8 61 rfl) rfl
theorem q1827 : (Jvm.Cond.code ({ cls := "FiveTouchModel", name := "game", desc := "(I)I" } : Jvm.MethodName) prog_25_method_86_code (6 : Nat) (Option.some Jvm.ClassFile.FieldType.int)) ∈ lw_all := lw_g (lw_at lw_m8 62 rfl) rfl
theorem q1829 : (Jvm.Cond.instanceMethod ({ cls := "FiveTouchModel", name := "night", desc := "(II)I" } : Jvm.MethodName)) ∈ lw_all := lw_g (lw_at lw_m8 64 rfl) rfl
theorem q1830 : (Jvm.Cond.selects "FiveTouchModel" ({ cls := "FiveTouchModel", name := "night", desc := "(II)I" } : Jvm.MethodName) ({ cls := "FiveTouchModel", name := "night", desc := "(II)I" } : Jvm.MethodName)) ∈ lw_all := lw_g (lw_at lw_m8 65 rfl) rfl
theorem q1831 : (Jvm.Cond.code ({ cls := "FiveTouchModel", name := "night", desc := "(II)I" } : Jvm.MethodName) prog_25_method_87_code (11 : Nat) (Option.some Jvm.ClassFile.FieldType.int)) ∈ lw_all := lw_g (lw_at lw_m8 66 rfl) rfl
theorem q1833 : (Jvm.Cond.instanceMethod ({ cls := "FiveTouchModel", name := "winters", desc := "(II)I" } : Jvm.MethodName)) ∈ lw_all := lw_g (lw_at lw_m8 68 rfl) rfl
theorem q1834 : (Jvm.Cond.selects "FiveTouchModel" ({ cls := "FiveTouchModel", name := "winters", desc := "(II)I" } : Jvm.MethodName) ({ cls := "FiveTouchModel", name := "winters", desc := "(II)I" } : Jvm.MethodName)) ∈ lw_all := lw_g (lw_at lw_m8 69 rfl) rfl
theorem q1835 : (Jvm.Cond.code ({ cls := "FiveTouchModel", name := "winters", desc := "(II)I" } : Jvm.MethodName) prog_25_method_89_code (8 : Nat) (Option.some Jvm.ClassFile.FieldType.int)) ∈ lw_all := lw_g (lw_at lw_m8 70 rfl) rfl
theorem q1836 : (Jvm.Cond.methodLink "FiveTouchModel" (326 : Nat) ({ cls := "FiveTouchModel", name := "draws", desc := "(I)I" } : Jvm.MethodName)) ∈ lw_all := lw_g (lw_at lw_m8 71 rfl) rfl
theorem q1837 : (Jvm.Cond.privateMethod ({ cls := "FiveTouchModel", name := "draws", desc := "(I)I" } : Jvm.MethodName)) ∈ lw_tbl := lw_at lw_m8 72 rfl
theorem q1838 : (Jvm.Cond.instanceMethod ({ cls := "FiveTouchModel", name := "draws", desc := "(I)I" } : Jvm.MethodName)) ∈ lw_all := lw_g (lw_at lw_m8 73 rfl) rfl
theorem q1839 : (Jvm.Cond.code ({ cls := "FiveTouchModel", name := "draws", desc := "(I)I" } : Jvm.MethodName) prog_25_method_88_code (2 : Nat) (Option.some Jvm.ClassFile.FieldType.int)) ∈ lw_all := lw_g (lw_at lw_m8 74 rfl) rfl
theorem q1840 : (Jvm.Cond.constantLong "FiveTouchModel" (314 : Nat) (1103 : Int64)) ∈ lw_all := lw_g (lw_at lw_m8 75 rfl) rfl
theorem q1841 : (Jvm.Cond.constantLong "FiveTouchModel" (319 : Nat) (12345 : Int64)) ∈ lw_all := lw_g (lw_at lw_m8 76 rfl) rfl
theorem q1842 : (Jvm.Cond.constantLong "FiveTouchModel" (321 : Nat) (1000003 : Int64)) ∈ lw_all := lw_g (lw_at lw_m8 77 rfl) rfl
theorem q1844 : (Jvm.Cond.instanceMethod ({ cls := "FiveTouchModel", name := "winter", desc := "(I)I" } : Jvm.MethodName)) ∈ lw_all := lw_g (lw_at lw_m8 79 rfl) rfl
theorem q1845 : (Jvm.Cond.selects "FiveTouchModel" ({ cls := "FiveTouchModel", name := "winter", desc := "(I)I" } : Jvm.MethodName) ({ cls := "FiveTouchModel", name := "winter", desc := "(I)I" } : Jvm.MethodName)) ∈ lw_all := lw_g (lw_at lw_m8 80 rfl) rfl
theorem q1846 : (Jvm.Cond.code ({ cls := "FiveTouchModel", name := "winter", desc := "(I)I" } : Jvm.MethodName) prog_25_method_90_code (2 : Nat) (Option.some Jvm.ClassFile.FieldType.int)) ∈ lw_all := lw_g (lw_at lw_m8 81 rfl) rfl
theorem q1848 : (Jvm.Cond.instanceMethod ({ cls := "FiveTouchModel", name := "count", desc := "(I)I" } : Jvm.MethodName)) ∈ lw_all := lw_g (lw_at lw_m8 83 rfl) rfl
theorem q1849 : (Jvm.Cond.selects "FiveTouchModel" ({ cls := "FiveTouchModel", name := "count", desc := "(I)I" } : Jvm.MethodName) ({ cls := "FiveTouchModel", name := "count", desc := "(I)I" } : Jvm.MethodName)) ∈ lw_all := lw_g (lw_at lw_m8 84 rfl) rfl
theorem q1850 : (Jvm.Cond.code ({ cls := "FiveTouchModel", name := "count", desc := "(I)I" } : Jvm.MethodName) prog_25_method_91_code (2 : Nat) (Option.some Jvm.ClassFile.FieldType.int)) ∈ lw_all := lw_g (lw_at lw_m8 85 rfl) rfl
theorem q1852 : (Jvm.Cond.instanceMethod ({ cls := "FiveTouchModel", name := "status", desc := "()I" } : Jvm.MethodName)) ∈ lw_all := lw_g (lw_at lw_m8 87 rfl) rfl
theorem q1853 : (Jvm.Cond.selects "FiveTouchModel" ({ cls := "FiveTouchModel", name := "status", desc := "()I" } : Jvm.MethodName) ({ cls := "FiveTouchModel", name := "status", desc := "()I" } : Jvm.MethodName)) ∈ lw_all := lw_g (lw_at lw_m8 88 rfl) rfl
theorem q1854 : (Jvm.Cond.code ({ cls := "FiveTouchModel", name := "status", desc := "()I" } : Jvm.MethodName) prog_25_method_92_code (1 : Nat) (Option.some Jvm.ClassFile.FieldType.int)) ∈ lw_all := lw_g (lw_at lw_m8 89 rfl) rfl
theorem q1866 : (Jvm.Cond.castable "FiveTouchModel" "java/lang/Object") ∈ lw_tbl := lw_at lw_m8 101 rfl
theorem in_X5 : ∀ w ∈ wsX50, w ∈ lw_all := lw_in wsX50 [1412, 1414, 1416, 1418, 1420, 1422, 1424, 1426, 1428, 1430, 1432, 1434, 1436, 1438, 1440, 1442, 1444, 1446, 1448, 1450, 1452, 1454, 1456, 1458, 1460, 1462, 1464, 1466, 1468, 1470, 1472, 1474, 1476, 1478, 1480, 1482, 1484, 1486, 1488] (by decide +kernel) (by decide +kernel)
