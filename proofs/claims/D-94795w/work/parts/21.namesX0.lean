/-! FiveTouch -/
set_option maxRecDepth 100000
def RX0 : String := "FiveTouch"
def TX0 : u_T := fun k => match k with
  | 0 => ("FiveTouch", "yard", "LFiveTouch$Yard;", false)
  | 1 => ("FiveTouch", "images", "[LFiveTouch$Yard;", true)
  | 2 => ("FiveTouch", "asked", "LFiveTouch$Asked;", true)
  | 3 => ("FiveTouch", "nothingTold", "LFiveTouch$Text;", true)
  | 4 => ("FiveTouch", "refused", "[I", true)
  | 5 => ("FiveTouch", "status", "I", false)
  | 6 => ("FiveTouch", "fault", "I", false)
  | 7 => ("FiveTouch", "rubble", "I", false)
  | 8 => ("FiveTouch", "tape", "[B", true)
  | 9 => ("FiveTouch", "taped", "I", false)
  | 10 => ("FiveTouch", "scene", "LFiveTouch$Scene;", true)
  | 11 => ("FiveTouch", "comes", "[Z", true)
  | 12 => ("FiveTouch", "wins", "[Z", true)
  | _ => ("FiveTouch", "winters", "[I", false)
def tyX0 : Nat → FieldType := fun k => match k with
  | 0 => .object "FiveTouch$Yard"
  | 1 => .array (.object "FiveTouch$Yard")
  | 2 => .object "FiveTouch$Asked"
  | 3 => .object "FiveTouch$Text"
  | 4 => .array .int
  | 5 => .int
  | 6 => .int
  | 7 => .int
  | 8 => .array .byte
  | 9 => .int
  | 10 => .object "FiveTouch$Scene"
  | 11 => .array .boolean
  | 12 => .array .boolean
  | _ => .array .int
abbrev wsX00 : List Cond := u_ws RX0 TX0 14
set_option maxRecDepth 100000 in
theorem nmX0 : ∀ a, a < 14 → ∀ b, b < 14 → a ≠ b → (TX0 a).2.1 ≠ (TX0 b).2.1 := by decide +kernel
set_option maxRecDepth 100000 in
theorem tyX0_ok : ∀ k, k < 14 → parseFieldDescriptor (TX0 k).2.2.1 = some (tyX0 k) := by decide +kernel
abbrev cX0_init : ByteArray := prog_1_method_4_code
def yX0_init : MethodName := ⟨RX0, "<init>", "()V"⟩
def dkwX0_init_4 : List UInt8 := [42, 17, 64, 0, 188, 4, 181, 0, 69, 177]
abbrev dktX0_init_4 : List UInt8 := dkwX0_init_4 ++ []
def dkwX0_init_3 : List UInt8 := [181, 0, 52, 42, 187, 0, 56, 89, 42, 183, 0, 58, 181, 0, 61, 42, 17, 64, 0, 188, 4, 181, 0, 65]
abbrev dktX0_init_3 : List UInt8 := dkwX0_init_3 ++ dktX0_init_4
def dkwX0_init_2 : List UInt8 := [181, 0, 40, 42, 16, 7, 188, 10, 181, 0, 44, 42, 2, 181, 0, 48, 42, 17, 1, 144, 188, 8]
abbrev dktX0_init_2 : List UInt8 := dkwX0_init_2 ++ dktX0_init_3
def dkwX0_init_1 : List UInt8 := [187, 0, 26, 89, 183, 0, 28, 181, 0, 29, 42, 187, 0, 33, 89, 3, 189, 0, 35, 183, 0, 37]
abbrev dktX0_init_1 : List UInt8 := dkwX0_init_1 ++ dktX0_init_2
def dkwX0_init_0 : List UInt8 := [42, 183, 0, 9, 42, 187, 0, 15, 89, 183, 0, 17, 181, 0, 18, 42, 5, 189, 0, 15, 181, 0, 22, 42]
abbrev dktX0_init_0 : List UInt8 := dkwX0_init_0 ++ dktX0_init_1
theorem dksX0_init_0 : cX0_init.data.toList.drop 0 = dktX0_init_0 := by decide +kernel
theorem dksX0_init_1 : cX0_init.data.toList.drop 24 = dktX0_init_1 := dk_seg dksX0_init_0 24 rfl rfl
theorem dksX0_init_2 : cX0_init.data.toList.drop 46 = dktX0_init_2 := dk_seg dksX0_init_1 22 rfl rfl
theorem dksX0_init_3 : cX0_init.data.toList.drop 68 = dktX0_init_3 := dk_seg dksX0_init_2 22 rfl rfl
theorem dksX0_init_4 : cX0_init.data.toList.drop 92 = dktX0_init_4 := dk_seg dksX0_init_3 24 rfl rfl
theorem dX0_init_0 : decode cX0_init 0 = .ok (.aload_n 0, 1) := dk_42 (dk_at dksX0_init_0 0 rfl rfl)
theorem dX0_init_1 : decode cX0_init 1 = .ok (.invokespecial 9, 3) := dk_183 0 9 (dk_at dksX0_init_0 1 rfl rfl)
theorem dX0_init_4 : decode cX0_init 4 = .ok (.aload_n 0, 1) := dk_42 (dk_at dksX0_init_0 4 rfl rfl)
theorem dX0_init_5 : decode cX0_init 5 = .ok (.new 15, 3) := dk_187 0 15 (dk_at dksX0_init_0 5 rfl rfl)
theorem dX0_init_8 : decode cX0_init 8 = .ok (.dup, 1) := dk_89 (dk_at dksX0_init_0 8 rfl rfl)
theorem dX0_init_9 : decode cX0_init 9 = .ok (.invokespecial 17, 3) := dk_183 0 17 (dk_at dksX0_init_0 9 rfl rfl)
theorem dX0_init_12 : decode cX0_init 12 = .ok (.putfield 18, 3) := dk_181 0 18 (dk_at dksX0_init_0 12 rfl rfl)
theorem dX0_init_15 : decode cX0_init 15 = .ok (.aload_n 0, 1) := dk_42 (dk_at dksX0_init_0 15 rfl rfl)
theorem dX0_init_16 : decode cX0_init 16 = .ok (.iconst 2, 1) := dk_5 (dk_at dksX0_init_0 16 rfl rfl)
theorem dX0_init_17 : decode cX0_init 17 = .ok (.anewarray 15, 3) := dk_189 0 15 (dk_at dksX0_init_0 17 rfl rfl)
theorem dX0_init_20 : decode cX0_init 20 = .ok (.putfield 22, 3) := dk_181 0 22 (dk_at dksX0_init_0 20 rfl rfl)
theorem dX0_init_23 : decode cX0_init 23 = .ok (.aload_n 0, 1) := dk_42 (dk_at dksX0_init_0 23 rfl rfl)
theorem dX0_init_24 : decode cX0_init 24 = .ok (.new 26, 3) := dk_187 0 26 (dk_at dksX0_init_1 0 rfl rfl)
theorem dX0_init_27 : decode cX0_init 27 = .ok (.dup, 1) := dk_89 (dk_at dksX0_init_1 3 rfl rfl)
theorem dX0_init_28 : decode cX0_init 28 = .ok (.invokespecial 28, 3) := dk_183 0 28 (dk_at dksX0_init_1 4 rfl rfl)
theorem dX0_init_31 : decode cX0_init 31 = .ok (.putfield 29, 3) := dk_181 0 29 (dk_at dksX0_init_1 7 rfl rfl)
theorem dX0_init_34 : decode cX0_init 34 = .ok (.aload_n 0, 1) := dk_42 (dk_at dksX0_init_1 10 rfl rfl)
theorem dX0_init_35 : decode cX0_init 35 = .ok (.new 33, 3) := dk_187 0 33 (dk_at dksX0_init_1 11 rfl rfl)
theorem dX0_init_38 : decode cX0_init 38 = .ok (.dup, 1) := dk_89 (dk_at dksX0_init_1 14 rfl rfl)
theorem dX0_init_39 : decode cX0_init 39 = .ok (.iconst 0, 1) := dk_3 (dk_at dksX0_init_1 15 rfl rfl)
theorem dX0_init_40 : decode cX0_init 40 = .ok (.anewarray 35, 3) := dk_189 0 35 (dk_at dksX0_init_1 16 rfl rfl)
theorem dX0_init_43 : decode cX0_init 43 = .ok (.invokespecial 37, 3) := dk_183 0 37 (dk_at dksX0_init_1 19 rfl rfl)
theorem dX0_init_46 : decode cX0_init 46 = .ok (.putfield 40, 3) := dk_181 0 40 (dk_at dksX0_init_2 0 rfl rfl)
theorem dX0_init_49 : decode cX0_init 49 = .ok (.aload_n 0, 1) := dk_42 (dk_at dksX0_init_2 3 rfl rfl)
theorem dX0_init_50 : decode cX0_init 50 = .ok (.bipush 7, 2) := dk_16 7 (dk_at dksX0_init_2 4 rfl rfl)
theorem dX0_init_52 : decode cX0_init 52 = .ok (.newarray .int, 2) := dk_188_10 (dk_at dksX0_init_2 6 rfl rfl)
theorem dX0_init_54 : decode cX0_init 54 = .ok (.putfield 44, 3) := dk_181 0 44 (dk_at dksX0_init_2 8 rfl rfl)
theorem dX0_init_57 : decode cX0_init 57 = .ok (.aload_n 0, 1) := dk_42 (dk_at dksX0_init_2 11 rfl rfl)
theorem dX0_init_58 : decode cX0_init 58 = .ok (.iconst (-1), 1) := dk_2 (dk_at dksX0_init_2 12 rfl rfl)
theorem dX0_init_59 : decode cX0_init 59 = .ok (.putfield 48, 3) := dk_181 0 48 (dk_at dksX0_init_2 13 rfl rfl)
theorem dX0_init_62 : decode cX0_init 62 = .ok (.aload_n 0, 1) := dk_42 (dk_at dksX0_init_2 16 rfl rfl)
theorem dX0_init_63 : decode cX0_init 63 = .ok (.sipush 400, 3) := dk_17 1 144 (dk_at dksX0_init_2 17 rfl rfl)
theorem dX0_init_66 : decode cX0_init 66 = .ok (.newarray .byte, 2) := dk_188_8 (dk_at dksX0_init_2 20 rfl rfl)
theorem dX0_init_68 : decode cX0_init 68 = .ok (.putfield 52, 3) := dk_181 0 52 (dk_at dksX0_init_3 0 rfl rfl)
theorem dX0_init_71 : decode cX0_init 71 = .ok (.aload_n 0, 1) := dk_42 (dk_at dksX0_init_3 3 rfl rfl)
theorem dX0_init_72 : decode cX0_init 72 = .ok (.new 56, 3) := dk_187 0 56 (dk_at dksX0_init_3 4 rfl rfl)
theorem dX0_init_75 : decode cX0_init 75 = .ok (.dup, 1) := dk_89 (dk_at dksX0_init_3 7 rfl rfl)
theorem dX0_init_76 : decode cX0_init 76 = .ok (.aload_n 0, 1) := dk_42 (dk_at dksX0_init_3 8 rfl rfl)
theorem dX0_init_77 : decode cX0_init 77 = .ok (.invokespecial 58, 3) := dk_183 0 58 (dk_at dksX0_init_3 9 rfl rfl)
theorem dX0_init_80 : decode cX0_init 80 = .ok (.putfield 61, 3) := dk_181 0 61 (dk_at dksX0_init_3 12 rfl rfl)
theorem dX0_init_83 : decode cX0_init 83 = .ok (.aload_n 0, 1) := dk_42 (dk_at dksX0_init_3 15 rfl rfl)
theorem dX0_init_84 : decode cX0_init 84 = .ok (.sipush 16384, 3) := dk_17 64 0 (dk_at dksX0_init_3 16 rfl rfl)
theorem dX0_init_87 : decode cX0_init 87 = .ok (.newarray .boolean, 2) := dk_188_4 (dk_at dksX0_init_3 19 rfl rfl)
theorem dX0_init_89 : decode cX0_init 89 = .ok (.putfield 65, 3) := dk_181 0 65 (dk_at dksX0_init_3 21 rfl rfl)
theorem dX0_init_92 : decode cX0_init 92 = .ok (.aload_n 0, 1) := dk_42 (dk_at dksX0_init_4 0 rfl rfl)
theorem dX0_init_93 : decode cX0_init 93 = .ok (.sipush 16384, 3) := dk_17 64 0 (dk_at dksX0_init_4 1 rfl rfl)
theorem dX0_init_96 : decode cX0_init 96 = .ok (.newarray .boolean, 2) := dk_188_4 (dk_at dksX0_init_4 4 rfl rfl)
theorem dX0_init_98 : decode cX0_init 98 = .ok (.putfield 69, 3) := dk_181 0 69 (dk_at dksX0_init_4 6 rfl rfl)
theorem dX0_init_101 : decode cX0_init 101 = .ok (.return_, 1) := dk_177 (dk_at dksX0_init_4 9 rfl rfl)
abbrev cX0_feed : ByteArray := prog_1_method_10_code
def yX0_feed : MethodName := ⟨RX0, "feed", "(IIIII)I"⟩
def dkwX0_feed_2 : List UInt8 := [172]
abbrev dktX0_feed_2 : List UInt8 := dkwX0_feed_2 ++ []
def dkwX0_feed_1 : List UInt8 := [182, 0, 107, 42, 29, 182, 0, 107, 42, 21, 4, 182, 0, 107, 42, 21, 5, 182, 0, 107, 42, 180, 0, 104]
abbrev dktX0_feed_1 : List UInt8 := dkwX0_feed_1 ++ dktX0_feed_2
def dkwX0_feed_0 : List UInt8 := [42, 180, 0, 104, 16, 20, 96, 17, 1, 144, 164, 0, 5, 2, 172, 42, 27, 182, 0, 107, 42, 28]
abbrev dktX0_feed_0 : List UInt8 := dkwX0_feed_0 ++ dktX0_feed_1
theorem dksX0_feed_0 : cX0_feed.data.toList.drop 0 = dktX0_feed_0 := by decide +kernel
theorem dksX0_feed_1 : cX0_feed.data.toList.drop 22 = dktX0_feed_1 := dk_seg dksX0_feed_0 22 rfl rfl
theorem dksX0_feed_2 : cX0_feed.data.toList.drop 46 = dktX0_feed_2 := dk_seg dksX0_feed_1 24 rfl rfl
theorem dX0_feed_0 : decode cX0_feed 0 = .ok (.aload_n 0, 1) := dk_42 (dk_at dksX0_feed_0 0 rfl rfl)
theorem dX0_feed_1 : decode cX0_feed 1 = .ok (.getfield 104, 3) := dk_180 0 104 (dk_at dksX0_feed_0 1 rfl rfl)
theorem dX0_feed_4 : decode cX0_feed 4 = .ok (.bipush 20, 2) := dk_16 20 (dk_at dksX0_feed_0 4 rfl rfl)
theorem dX0_feed_6 : decode cX0_feed 6 = .ok (.iadd, 1) := dk_96 (dk_at dksX0_feed_0 6 rfl rfl)
theorem dX0_feed_7 : decode cX0_feed 7 = .ok (.sipush 400, 3) := dk_17 1 144 (dk_at dksX0_feed_0 7 rfl rfl)
theorem dX0_feed_10 : decode cX0_feed 10 = .ok (.if_icmp .le 5, 3) := dk_164 0 5 (dk_at dksX0_feed_0 10 rfl rfl)
theorem dX0_feed_13 : decode cX0_feed 13 = .ok (.iconst (-1), 1) := dk_2 (dk_at dksX0_feed_0 13 rfl rfl)
theorem dX0_feed_14 : decode cX0_feed 14 = .ok (.ireturn, 1) := dk_172 (dk_at dksX0_feed_0 14 rfl rfl)
theorem dX0_feed_15 : decode cX0_feed 15 = .ok (.aload_n 0, 1) := dk_42 (dk_at dksX0_feed_0 15 rfl rfl)
theorem dX0_feed_16 : decode cX0_feed 16 = .ok (.iload_n 1, 1) := dk_27 (dk_at dksX0_feed_0 16 rfl rfl)
theorem dX0_feed_17 : decode cX0_feed 17 = .ok (.invokevirtual 107, 3) := dk_182 0 107 (dk_at dksX0_feed_0 17 rfl rfl)
theorem dX0_feed_20 : decode cX0_feed 20 = .ok (.aload_n 0, 1) := dk_42 (dk_at dksX0_feed_0 20 rfl rfl)
theorem dX0_feed_21 : decode cX0_feed 21 = .ok (.iload_n 2, 1) := dk_28 (dk_at dksX0_feed_0 21 rfl rfl)
theorem dX0_feed_22 : decode cX0_feed 22 = .ok (.invokevirtual 107, 3) := dk_182 0 107 (dk_at dksX0_feed_1 0 rfl rfl)
theorem dX0_feed_25 : decode cX0_feed 25 = .ok (.aload_n 0, 1) := dk_42 (dk_at dksX0_feed_1 3 rfl rfl)
theorem dX0_feed_26 : decode cX0_feed 26 = .ok (.iload_n 3, 1) := dk_29 (dk_at dksX0_feed_1 4 rfl rfl)
theorem dX0_feed_27 : decode cX0_feed 27 = .ok (.invokevirtual 107, 3) := dk_182 0 107 (dk_at dksX0_feed_1 5 rfl rfl)
theorem dX0_feed_30 : decode cX0_feed 30 = .ok (.aload_n 0, 1) := dk_42 (dk_at dksX0_feed_1 8 rfl rfl)
theorem dX0_feed_31 : decode cX0_feed 31 = .ok (.iload 4, 2) := dk_21 4 (dk_at dksX0_feed_1 9 rfl rfl)
theorem dX0_feed_33 : decode cX0_feed 33 = .ok (.invokevirtual 107, 3) := dk_182 0 107 (dk_at dksX0_feed_1 11 rfl rfl)
theorem dX0_feed_36 : decode cX0_feed 36 = .ok (.aload_n 0, 1) := dk_42 (dk_at dksX0_feed_1 14 rfl rfl)
theorem dX0_feed_37 : decode cX0_feed 37 = .ok (.iload 5, 2) := dk_21 5 (dk_at dksX0_feed_1 15 rfl rfl)
theorem dX0_feed_39 : decode cX0_feed 39 = .ok (.invokevirtual 107, 3) := dk_182 0 107 (dk_at dksX0_feed_1 17 rfl rfl)
theorem dX0_feed_42 : decode cX0_feed 42 = .ok (.aload_n 0, 1) := dk_42 (dk_at dksX0_feed_1 20 rfl rfl)
theorem dX0_feed_43 : decode cX0_feed 43 = .ok (.getfield 104, 3) := dk_180 0 104 (dk_at dksX0_feed_1 21 rfl rfl)
theorem dX0_feed_46 : decode cX0_feed 46 = .ok (.ireturn, 1) := dk_172 (dk_at dksX0_feed_2 0 rfl rfl)
abbrev cX0_four : ByteArray := prog_1_method_9_code
def yX0_four : MethodName := ⟨RX0, "four", "(I)V"⟩
def dkwX0_four_1 : List UInt8 := [180, 0, 104, 4, 96, 181, 0, 104, 132, 2, 248, 167, 255, 226, 177]
abbrev dktX0_four_1 : List UInt8 := dkwX0_four_1 ++ []
def dkwX0_four_0 : List UInt8 := [16, 24, 61, 28, 155, 0, 32, 42, 180, 0, 52, 42, 180, 0, 104, 27, 28, 122, 145, 84, 42, 89]
abbrev dktX0_four_0 : List UInt8 := dkwX0_four_0 ++ dktX0_four_1
theorem dksX0_four_0 : cX0_four.data.toList.drop 0 = dktX0_four_0 := by decide +kernel
theorem dksX0_four_1 : cX0_four.data.toList.drop 22 = dktX0_four_1 := dk_seg dksX0_four_0 22 rfl rfl
theorem dX0_four_0 : decode cX0_four 0 = .ok (.bipush 24, 2) := dk_16 24 (dk_at dksX0_four_0 0 rfl rfl)
theorem dX0_four_2 : decode cX0_four 2 = .ok (.istore_n 2, 1) := dk_61 (dk_at dksX0_four_0 2 rfl rfl)
theorem dX0_four_3 : decode cX0_four 3 = .ok (.iload_n 2, 1) := dk_28 (dk_at dksX0_four_0 3 rfl rfl)
theorem dX0_four_4 : decode cX0_four 4 = .ok (.ifCond .lt 32, 3) := dk_155 0 32 (dk_at dksX0_four_0 4 rfl rfl)
theorem dX0_four_7 : decode cX0_four 7 = .ok (.aload_n 0, 1) := dk_42 (dk_at dksX0_four_0 7 rfl rfl)
theorem dX0_four_8 : decode cX0_four 8 = .ok (.getfield 52, 3) := dk_180 0 52 (dk_at dksX0_four_0 8 rfl rfl)
theorem dX0_four_11 : decode cX0_four 11 = .ok (.aload_n 0, 1) := dk_42 (dk_at dksX0_four_0 11 rfl rfl)
theorem dX0_four_12 : decode cX0_four 12 = .ok (.getfield 104, 3) := dk_180 0 104 (dk_at dksX0_four_0 12 rfl rfl)
theorem dX0_four_15 : decode cX0_four 15 = .ok (.iload_n 1, 1) := dk_27 (dk_at dksX0_four_0 15 rfl rfl)
theorem dX0_four_16 : decode cX0_four 16 = .ok (.iload_n 2, 1) := dk_28 (dk_at dksX0_four_0 16 rfl rfl)
theorem dX0_four_17 : decode cX0_four 17 = .ok (.ishr, 1) := dk_122 (dk_at dksX0_four_0 17 rfl rfl)
theorem dX0_four_18 : decode cX0_four 18 = .ok (.i2b, 1) := dk_145 (dk_at dksX0_four_0 18 rfl rfl)
theorem dX0_four_19 : decode cX0_four 19 = .ok (.bastore, 1) := dk_84 (dk_at dksX0_four_0 19 rfl rfl)
theorem dX0_four_20 : decode cX0_four 20 = .ok (.aload_n 0, 1) := dk_42 (dk_at dksX0_four_0 20 rfl rfl)
theorem dX0_four_21 : decode cX0_four 21 = .ok (.dup, 1) := dk_89 (dk_at dksX0_four_0 21 rfl rfl)
theorem dX0_four_22 : decode cX0_four 22 = .ok (.getfield 104, 3) := dk_180 0 104 (dk_at dksX0_four_1 0 rfl rfl)
theorem dX0_four_25 : decode cX0_four 25 = .ok (.iconst 1, 1) := dk_4 (dk_at dksX0_four_1 3 rfl rfl)
theorem dX0_four_26 : decode cX0_four 26 = .ok (.iadd, 1) := dk_96 (dk_at dksX0_four_1 4 rfl rfl)
theorem dX0_four_27 : decode cX0_four 27 = .ok (.putfield 104, 3) := dk_181 0 104 (dk_at dksX0_four_1 5 rfl rfl)
theorem dX0_four_30 : decode cX0_four 30 = .ok (.iinc 2 (-8), 3) := dk_132 2 248 (dk_at dksX0_four_1 8 rfl rfl)
theorem dX0_four_33 : decode cX0_four 33 = .ok (.goto (-30), 3) := dk_167 255 226 (dk_at dksX0_four_1 11 rfl rfl)
theorem dX0_four_36 : decode cX0_four 36 = .ok (.return_, 1) := dk_177 (dk_at dksX0_four_1 14 rfl rfl)
abbrev cX0_end : ByteArray := prog_1_method_11_code
def yX0_end : MethodName := ⟨RX0, "end", "(I)I"⟩
def dkwX0_end_0 : List UInt8 := [27, 133, 9, 42, 180, 0, 104, 133, 184, 0, 95, 154, 0, 5, 2, 172, 42, 27, 181, 0, 104, 27, 172]
abbrev dktX0_end_0 : List UInt8 := dkwX0_end_0 ++ []
theorem dksX0_end_0 : cX0_end.data.toList.drop 0 = dktX0_end_0 := by decide +kernel
theorem dX0_end_0 : decode cX0_end 0 = .ok (.iload_n 1, 1) := dk_27 (dk_at dksX0_end_0 0 rfl rfl)
theorem dX0_end_1 : decode cX0_end 1 = .ok (.i2l, 1) := dk_133 (dk_at dksX0_end_0 1 rfl rfl)
theorem dX0_end_2 : decode cX0_end 2 = .ok (.lconst 0, 1) := dk_9 (dk_at dksX0_end_0 2 rfl rfl)
theorem dX0_end_3 : decode cX0_end 3 = .ok (.aload_n 0, 1) := dk_42 (dk_at dksX0_end_0 3 rfl rfl)
theorem dX0_end_4 : decode cX0_end 4 = .ok (.getfield 104, 3) := dk_180 0 104 (dk_at dksX0_end_0 4 rfl rfl)
theorem dX0_end_7 : decode cX0_end 7 = .ok (.i2l, 1) := dk_133 (dk_at dksX0_end_0 7 rfl rfl)
theorem dX0_end_8 : decode cX0_end 8 = .ok (.invokestatic 95, 3) := dk_184 0 95 (dk_at dksX0_end_0 8 rfl rfl)
theorem dX0_end_11 : decode cX0_end 11 = .ok (.ifCond .ne 5, 3) := dk_154 0 5 (dk_at dksX0_end_0 11 rfl rfl)
theorem dX0_end_14 : decode cX0_end 14 = .ok (.iconst (-1), 1) := dk_2 (dk_at dksX0_end_0 14 rfl rfl)
theorem dX0_end_15 : decode cX0_end 15 = .ok (.ireturn, 1) := dk_172 (dk_at dksX0_end_0 15 rfl rfl)
theorem dX0_end_16 : decode cX0_end 16 = .ok (.aload_n 0, 1) := dk_42 (dk_at dksX0_end_0 16 rfl rfl)
theorem dX0_end_17 : decode cX0_end 17 = .ok (.iload_n 1, 1) := dk_27 (dk_at dksX0_end_0 17 rfl rfl)
theorem dX0_end_18 : decode cX0_end 18 = .ok (.putfield 104, 3) := dk_181 0 104 (dk_at dksX0_end_0 18 rfl rfl)
theorem dX0_end_21 : decode cX0_end 21 = .ok (.iload_n 1, 1) := dk_27 (dk_at dksX0_end_0 21 rfl rfl)
theorem dX0_end_22 : decode cX0_end 22 = .ok (.ireturn, 1) := dk_172 (dk_at dksX0_end_0 22 rfl rfl)
abbrev cX0_in : ByteArray := prog_1_method_1_code
def yX0_in : MethodName := ⟨RX0, "in", "(JJJ)Z"⟩
def dkwX0_in_0 : List UInt8 := [30, 32, 148, 155, 0, 14, 30, 22, 4, 148, 157, 0, 7, 4, 167, 0, 4, 3, 172]
abbrev dktX0_in_0 : List UInt8 := dkwX0_in_0 ++ []
theorem dksX0_in_0 : cX0_in.data.toList.drop 0 = dktX0_in_0 := by decide +kernel
theorem dX0_in_0 : decode cX0_in 0 = .ok (.lload_n 0, 1) := dk_30 (dk_at dksX0_in_0 0 rfl rfl)
theorem dX0_in_1 : decode cX0_in 1 = .ok (.lload_n 2, 1) := dk_32 (dk_at dksX0_in_0 1 rfl rfl)
theorem dX0_in_2 : decode cX0_in 2 = .ok (.lcmp, 1) := dk_148 (dk_at dksX0_in_0 2 rfl rfl)
theorem dX0_in_3 : decode cX0_in 3 = .ok (.ifCond .lt 14, 3) := dk_155 0 14 (dk_at dksX0_in_0 3 rfl rfl)
theorem dX0_in_6 : decode cX0_in 6 = .ok (.lload_n 0, 1) := dk_30 (dk_at dksX0_in_0 6 rfl rfl)
theorem dX0_in_7 : decode cX0_in 7 = .ok (.lload 4, 2) := dk_22 4 (dk_at dksX0_in_0 7 rfl rfl)
theorem dX0_in_9 : decode cX0_in 9 = .ok (.lcmp, 1) := dk_148 (dk_at dksX0_in_0 9 rfl rfl)
theorem dX0_in_10 : decode cX0_in 10 = .ok (.ifCond .gt 7, 3) := dk_157 0 7 (dk_at dksX0_in_0 10 rfl rfl)
theorem dX0_in_13 : decode cX0_in 13 = .ok (.iconst 1, 1) := dk_4 (dk_at dksX0_in_0 13 rfl rfl)
theorem dX0_in_14 : decode cX0_in 14 = .ok (.goto 4, 3) := dk_167 0 4 (dk_at dksX0_in_0 14 rfl rfl)
theorem dX0_in_17 : decode cX0_in 17 = .ok (.iconst 0, 1) := dk_3 (dk_at dksX0_in_0 17 rfl rfl)
theorem dX0_in_18 : decode cX0_in 18 = .ok (.ireturn, 1) := dk_172 (dk_at dksX0_in_0 18 rfl rfl)
abbrev cX0_stone : ByteArray := prog_1_method_14_code
def yX0_stone : MethodName := ⟨RX0, "stone", "(IIIII)I"⟩
def dkwX0_stone_5 : List UInt8 := [180, 0, 85, 182, 0, 89, 4, 100, 182, 0, 131, 172]
abbrev dktX0_stone_5 : List UInt8 := dkwX0_stone_5 ++ []
def dkwX0_stone_4 : List UInt8 := [128, 181, 0, 101, 42, 180, 0, 18, 180, 0, 85, 25, 6, 182, 0, 127, 87, 42, 42, 180, 0, 18]
abbrev dktX0_stone_4 : List UInt8 := dkwX0_stone_4 ++ dktX0_stone_5
def dkwX0_stone_3 : List UInt8 := [182, 0, 117, 172, 42, 180, 0, 18, 89, 180, 0, 101, 4, 42, 180, 0, 18, 180, 0, 85, 182, 0, 89, 120]
abbrev dktX0_stone_3 : List UInt8 := dkwX0_stone_3 ++ dktX0_stone_4
def dkwX0_stone_2 : List UInt8 := [16, 253, 182, 0, 117, 172, 42, 180, 0, 18, 180, 0, 85, 182, 0, 89, 16, 14, 160, 0, 10, 42, 16, 251]
abbrev dktX0_stone_2 : List UInt8 := dkwX0_stone_2 ++ dktX0_stone_3
def dkwX0_stone_1 : List UInt8 := [28, 29, 21, 4, 21, 5, 183, 0, 120, 58, 6, 42, 180, 0, 18, 25, 6, 182, 0, 123, 154, 0, 10, 42]
abbrev dktX0_stone_1 : List UInt8 := dkwX0_stone_1 ++ dktX0_stone_2
def dkwX0_stone_0 : List UInt8 := [27, 28, 29, 21, 4, 21, 5, 184, 0, 111, 154, 0, 9, 42, 2, 182, 0, 117, 172, 187, 0, 112, 89, 27]
abbrev dktX0_stone_0 : List UInt8 := dkwX0_stone_0 ++ dktX0_stone_1
theorem dksX0_stone_0 : cX0_stone.data.toList.drop 0 = dktX0_stone_0 := by decide +kernel
theorem dksX0_stone_1 : cX0_stone.data.toList.drop 24 = dktX0_stone_1 := dk_seg dksX0_stone_0 24 rfl rfl
theorem dksX0_stone_2 : cX0_stone.data.toList.drop 48 = dktX0_stone_2 := dk_seg dksX0_stone_1 24 rfl rfl
theorem dksX0_stone_3 : cX0_stone.data.toList.drop 72 = dktX0_stone_3 := dk_seg dksX0_stone_2 24 rfl rfl
theorem dksX0_stone_4 : cX0_stone.data.toList.drop 96 = dktX0_stone_4 := dk_seg dksX0_stone_3 24 rfl rfl
theorem dksX0_stone_5 : cX0_stone.data.toList.drop 118 = dktX0_stone_5 := dk_seg dksX0_stone_4 22 rfl rfl
theorem dX0_stone_0 : decode cX0_stone 0 = .ok (.iload_n 1, 1) := dk_27 (dk_at dksX0_stone_0 0 rfl rfl)
theorem dX0_stone_1 : decode cX0_stone 1 = .ok (.iload_n 2, 1) := dk_28 (dk_at dksX0_stone_0 1 rfl rfl)
theorem dX0_stone_2 : decode cX0_stone 2 = .ok (.iload_n 3, 1) := dk_29 (dk_at dksX0_stone_0 2 rfl rfl)
theorem dX0_stone_3 : decode cX0_stone 3 = .ok (.iload 4, 2) := dk_21 4 (dk_at dksX0_stone_0 3 rfl rfl)
theorem dX0_stone_5 : decode cX0_stone 5 = .ok (.iload 5, 2) := dk_21 5 (dk_at dksX0_stone_0 5 rfl rfl)
theorem dX0_stone_7 : decode cX0_stone 7 = .ok (.invokestatic 111, 3) := dk_184 0 111 (dk_at dksX0_stone_0 7 rfl rfl)
theorem dX0_stone_10 : decode cX0_stone 10 = .ok (.ifCond .ne 9, 3) := dk_154 0 9 (dk_at dksX0_stone_0 10 rfl rfl)
theorem dX0_stone_13 : decode cX0_stone 13 = .ok (.aload_n 0, 1) := dk_42 (dk_at dksX0_stone_0 13 rfl rfl)
theorem dX0_stone_14 : decode cX0_stone 14 = .ok (.iconst (-1), 1) := dk_2 (dk_at dksX0_stone_0 14 rfl rfl)
theorem dX0_stone_15 : decode cX0_stone 15 = .ok (.invokevirtual 117, 3) := dk_182 0 117 (dk_at dksX0_stone_0 15 rfl rfl)
theorem dX0_stone_18 : decode cX0_stone 18 = .ok (.ireturn, 1) := dk_172 (dk_at dksX0_stone_0 18 rfl rfl)
theorem dX0_stone_19 : decode cX0_stone 19 = .ok (.new 112, 3) := dk_187 0 112 (dk_at dksX0_stone_0 19 rfl rfl)
theorem dX0_stone_22 : decode cX0_stone 22 = .ok (.dup, 1) := dk_89 (dk_at dksX0_stone_0 22 rfl rfl)
theorem dX0_stone_23 : decode cX0_stone 23 = .ok (.iload_n 1, 1) := dk_27 (dk_at dksX0_stone_0 23 rfl rfl)
theorem dX0_stone_24 : decode cX0_stone 24 = .ok (.iload_n 2, 1) := dk_28 (dk_at dksX0_stone_1 0 rfl rfl)
theorem dX0_stone_25 : decode cX0_stone 25 = .ok (.iload_n 3, 1) := dk_29 (dk_at dksX0_stone_1 1 rfl rfl)
theorem dX0_stone_26 : decode cX0_stone 26 = .ok (.iload 4, 2) := dk_21 4 (dk_at dksX0_stone_1 2 rfl rfl)
theorem dX0_stone_28 : decode cX0_stone 28 = .ok (.iload 5, 2) := dk_21 5 (dk_at dksX0_stone_1 4 rfl rfl)
theorem dX0_stone_30 : decode cX0_stone 30 = .ok (.invokespecial 120, 3) := dk_183 0 120 (dk_at dksX0_stone_1 6 rfl rfl)
theorem dX0_stone_33 : decode cX0_stone 33 = .ok (.astore 6, 2) := dk_58 6 (dk_at dksX0_stone_1 9 rfl rfl)
theorem dX0_stone_35 : decode cX0_stone 35 = .ok (.aload_n 0, 1) := dk_42 (dk_at dksX0_stone_1 11 rfl rfl)
theorem dX0_stone_36 : decode cX0_stone 36 = .ok (.getfield 18, 3) := dk_180 0 18 (dk_at dksX0_stone_1 12 rfl rfl)
theorem dX0_stone_39 : decode cX0_stone 39 = .ok (.aload 6, 2) := dk_25 6 (dk_at dksX0_stone_1 15 rfl rfl)
theorem dX0_stone_41 : decode cX0_stone 41 = .ok (.invokevirtual 123, 3) := dk_182 0 123 (dk_at dksX0_stone_1 17 rfl rfl)
theorem dX0_stone_44 : decode cX0_stone 44 = .ok (.ifCond .ne 10, 3) := dk_154 0 10 (dk_at dksX0_stone_1 20 rfl rfl)
theorem dX0_stone_47 : decode cX0_stone 47 = .ok (.aload_n 0, 1) := dk_42 (dk_at dksX0_stone_1 23 rfl rfl)
theorem dX0_stone_48 : decode cX0_stone 48 = .ok (.bipush (-3), 2) := dk_16 253 (dk_at dksX0_stone_2 0 rfl rfl)
theorem dX0_stone_50 : decode cX0_stone 50 = .ok (.invokevirtual 117, 3) := dk_182 0 117 (dk_at dksX0_stone_2 2 rfl rfl)
theorem dX0_stone_53 : decode cX0_stone 53 = .ok (.ireturn, 1) := dk_172 (dk_at dksX0_stone_2 5 rfl rfl)
theorem dX0_stone_54 : decode cX0_stone 54 = .ok (.aload_n 0, 1) := dk_42 (dk_at dksX0_stone_2 6 rfl rfl)
theorem dX0_stone_55 : decode cX0_stone 55 = .ok (.getfield 18, 3) := dk_180 0 18 (dk_at dksX0_stone_2 7 rfl rfl)
theorem dX0_stone_58 : decode cX0_stone 58 = .ok (.getfield 85, 3) := dk_180 0 85 (dk_at dksX0_stone_2 10 rfl rfl)
theorem dX0_stone_61 : decode cX0_stone 61 = .ok (.invokevirtual 89, 3) := dk_182 0 89 (dk_at dksX0_stone_2 13 rfl rfl)
theorem dX0_stone_64 : decode cX0_stone 64 = .ok (.bipush 14, 2) := dk_16 14 (dk_at dksX0_stone_2 16 rfl rfl)
theorem dX0_stone_66 : decode cX0_stone 66 = .ok (.if_icmp .ne 10, 3) := dk_160 0 10 (dk_at dksX0_stone_2 18 rfl rfl)
theorem dX0_stone_69 : decode cX0_stone 69 = .ok (.aload_n 0, 1) := dk_42 (dk_at dksX0_stone_2 21 rfl rfl)
theorem dX0_stone_70 : decode cX0_stone 70 = .ok (.bipush (-5), 2) := dk_16 251 (dk_at dksX0_stone_2 22 rfl rfl)
theorem dX0_stone_72 : decode cX0_stone 72 = .ok (.invokevirtual 117, 3) := dk_182 0 117 (dk_at dksX0_stone_3 0 rfl rfl)
theorem dX0_stone_75 : decode cX0_stone 75 = .ok (.ireturn, 1) := dk_172 (dk_at dksX0_stone_3 3 rfl rfl)
theorem dX0_stone_76 : decode cX0_stone 76 = .ok (.aload_n 0, 1) := dk_42 (dk_at dksX0_stone_3 4 rfl rfl)
theorem dX0_stone_77 : decode cX0_stone 77 = .ok (.getfield 18, 3) := dk_180 0 18 (dk_at dksX0_stone_3 5 rfl rfl)
theorem dX0_stone_80 : decode cX0_stone 80 = .ok (.dup, 1) := dk_89 (dk_at dksX0_stone_3 8 rfl rfl)
theorem dX0_stone_81 : decode cX0_stone 81 = .ok (.getfield 101, 3) := dk_180 0 101 (dk_at dksX0_stone_3 9 rfl rfl)
theorem dX0_stone_84 : decode cX0_stone 84 = .ok (.iconst 1, 1) := dk_4 (dk_at dksX0_stone_3 12 rfl rfl)
theorem dX0_stone_85 : decode cX0_stone 85 = .ok (.aload_n 0, 1) := dk_42 (dk_at dksX0_stone_3 13 rfl rfl)
theorem dX0_stone_86 : decode cX0_stone 86 = .ok (.getfield 18, 3) := dk_180 0 18 (dk_at dksX0_stone_3 14 rfl rfl)
theorem dX0_stone_89 : decode cX0_stone 89 = .ok (.getfield 85, 3) := dk_180 0 85 (dk_at dksX0_stone_3 17 rfl rfl)
theorem dX0_stone_92 : decode cX0_stone 92 = .ok (.invokevirtual 89, 3) := dk_182 0 89 (dk_at dksX0_stone_3 20 rfl rfl)
theorem dX0_stone_95 : decode cX0_stone 95 = .ok (.ishl, 1) := dk_120 (dk_at dksX0_stone_3 23 rfl rfl)
theorem dX0_stone_96 : decode cX0_stone 96 = .ok (.ior, 1) := dk_128 (dk_at dksX0_stone_4 0 rfl rfl)
theorem dX0_stone_97 : decode cX0_stone 97 = .ok (.putfield 101, 3) := dk_181 0 101 (dk_at dksX0_stone_4 1 rfl rfl)
theorem dX0_stone_100 : decode cX0_stone 100 = .ok (.aload_n 0, 1) := dk_42 (dk_at dksX0_stone_4 4 rfl rfl)
theorem dX0_stone_101 : decode cX0_stone 101 = .ok (.getfield 18, 3) := dk_180 0 18 (dk_at dksX0_stone_4 5 rfl rfl)
theorem dX0_stone_104 : decode cX0_stone 104 = .ok (.getfield 85, 3) := dk_180 0 85 (dk_at dksX0_stone_4 8 rfl rfl)
theorem dX0_stone_107 : decode cX0_stone 107 = .ok (.aload 6, 2) := dk_25 6 (dk_at dksX0_stone_4 11 rfl rfl)
theorem dX0_stone_109 : decode cX0_stone 109 = .ok (.invokevirtual 127, 3) := dk_182 0 127 (dk_at dksX0_stone_4 13 rfl rfl)
theorem dX0_stone_112 : decode cX0_stone 112 = .ok (.pop, 1) := dk_87 (dk_at dksX0_stone_4 16 rfl rfl)
theorem dX0_stone_113 : decode cX0_stone 113 = .ok (.aload_n 0, 1) := dk_42 (dk_at dksX0_stone_4 17 rfl rfl)
theorem dX0_stone_114 : decode cX0_stone 114 = .ok (.aload_n 0, 1) := dk_42 (dk_at dksX0_stone_4 18 rfl rfl)
theorem dX0_stone_115 : decode cX0_stone 115 = .ok (.getfield 18, 3) := dk_180 0 18 (dk_at dksX0_stone_4 19 rfl rfl)
theorem dX0_stone_118 : decode cX0_stone 118 = .ok (.getfield 85, 3) := dk_180 0 85 (dk_at dksX0_stone_5 0 rfl rfl)
theorem dX0_stone_121 : decode cX0_stone 121 = .ok (.invokevirtual 89, 3) := dk_182 0 89 (dk_at dksX0_stone_5 3 rfl rfl)
theorem dX0_stone_124 : decode cX0_stone 124 = .ok (.iconst 1, 1) := dk_4 (dk_at dksX0_stone_5 6 rfl rfl)
theorem dX0_stone_125 : decode cX0_stone 125 = .ok (.isub, 1) := dk_100 (dk_at dksX0_stone_5 7 rfl rfl)
theorem dX0_stone_126 : decode cX0_stone 126 = .ok (.invokevirtual 131, 3) := dk_182 0 131 (dk_at dksX0_stone_5 8 rfl rfl)
theorem dX0_stone_129 : decode cX0_stone 129 = .ok (.ireturn, 1) := dk_172 (dk_at dksX0_stone_5 11 rfl rfl)
abbrev cX0_tell : ByteArray := prog_1_method_5_code
def yX0_tell : MethodName := ⟨RX0, "tell", "(I)I"⟩
def dkwX0_tell_1 : List UInt8 := [27, 172]
abbrev dktX0_tell_1 : List UInt8 := dkwX0_tell_1 ++ []
def dkwX0_tell_0 : List UInt8 := [42, 27, 3, 184, 0, 72, 181, 0, 78, 27, 156, 0, 14, 42, 180, 0, 44, 27, 116, 92, 46, 4, 96, 79]
abbrev dktX0_tell_0 : List UInt8 := dkwX0_tell_0 ++ dktX0_tell_1
theorem dksX0_tell_0 : cX0_tell.data.toList.drop 0 = dktX0_tell_0 := by decide +kernel
theorem dksX0_tell_1 : cX0_tell.data.toList.drop 24 = dktX0_tell_1 := dk_seg dksX0_tell_0 24 rfl rfl
theorem dX0_tell_0 : decode cX0_tell 0 = .ok (.aload_n 0, 1) := dk_42 (dk_at dksX0_tell_0 0 rfl rfl)
theorem dX0_tell_1 : decode cX0_tell 1 = .ok (.iload_n 1, 1) := dk_27 (dk_at dksX0_tell_0 1 rfl rfl)
theorem dX0_tell_2 : decode cX0_tell 2 = .ok (.iconst 0, 1) := dk_3 (dk_at dksX0_tell_0 2 rfl rfl)
theorem dX0_tell_3 : decode cX0_tell 3 = .ok (.invokestatic 72, 3) := dk_184 0 72 (dk_at dksX0_tell_0 3 rfl rfl)
theorem dX0_tell_6 : decode cX0_tell 6 = .ok (.putfield 78, 3) := dk_181 0 78 (dk_at dksX0_tell_0 6 rfl rfl)
theorem dX0_tell_9 : decode cX0_tell 9 = .ok (.iload_n 1, 1) := dk_27 (dk_at dksX0_tell_0 9 rfl rfl)
theorem dX0_tell_10 : decode cX0_tell 10 = .ok (.ifCond .ge 14, 3) := dk_156 0 14 (dk_at dksX0_tell_0 10 rfl rfl)
theorem dX0_tell_13 : decode cX0_tell 13 = .ok (.aload_n 0, 1) := dk_42 (dk_at dksX0_tell_0 13 rfl rfl)
theorem dX0_tell_14 : decode cX0_tell 14 = .ok (.getfield 44, 3) := dk_180 0 44 (dk_at dksX0_tell_0 14 rfl rfl)
theorem dX0_tell_17 : decode cX0_tell 17 = .ok (.iload_n 1, 1) := dk_27 (dk_at dksX0_tell_0 17 rfl rfl)
theorem dX0_tell_18 : decode cX0_tell 18 = .ok (.ineg, 1) := dk_116 (dk_at dksX0_tell_0 18 rfl rfl)
theorem dX0_tell_19 : decode cX0_tell 19 = .ok (.dup2, 1) := dk_92 (dk_at dksX0_tell_0 19 rfl rfl)
theorem dX0_tell_20 : decode cX0_tell 20 = .ok (.iaload, 1) := dk_46 (dk_at dksX0_tell_0 20 rfl rfl)
theorem dX0_tell_21 : decode cX0_tell 21 = .ok (.iconst 1, 1) := dk_4 (dk_at dksX0_tell_0 21 rfl rfl)
theorem dX0_tell_22 : decode cX0_tell 22 = .ok (.iadd, 1) := dk_96 (dk_at dksX0_tell_0 22 rfl rfl)
theorem dX0_tell_23 : decode cX0_tell 23 = .ok (.iastore, 1) := dk_79 (dk_at dksX0_tell_0 23 rfl rfl)
theorem dX0_tell_24 : decode cX0_tell 24 = .ok (.iload_n 1, 1) := dk_27 (dk_at dksX0_tell_1 0 rfl rfl)
theorem dX0_tell_25 : decode cX0_tell 25 = .ok (.ireturn, 1) := dk_172 (dk_at dksX0_tell_1 1 rfl rfl)
abbrev cX0_was : ByteArray := prog_1_method_6_code
def yX0_was : MethodName := ⟨RX0, "was", "(I)I"⟩
def dkwX0_was_0 : List UInt8 := [42, 3, 181, 0, 78, 42, 180, 0, 61, 3, 181, 0, 81, 27, 172]
abbrev dktX0_was_0 : List UInt8 := dkwX0_was_0 ++ []
theorem dksX0_was_0 : cX0_was.data.toList.drop 0 = dktX0_was_0 := by decide +kernel
theorem dX0_was_0 : decode cX0_was 0 = .ok (.aload_n 0, 1) := dk_42 (dk_at dksX0_was_0 0 rfl rfl)
theorem dX0_was_1 : decode cX0_was 1 = .ok (.iconst 0, 1) := dk_3 (dk_at dksX0_was_0 1 rfl rfl)
theorem dX0_was_2 : decode cX0_was 2 = .ok (.putfield 78, 3) := dk_181 0 78 (dk_at dksX0_was_0 2 rfl rfl)
theorem dX0_was_5 : decode cX0_was 5 = .ok (.aload_n 0, 1) := dk_42 (dk_at dksX0_was_0 5 rfl rfl)
theorem dX0_was_6 : decode cX0_was 6 = .ok (.getfield 61, 3) := dk_180 0 61 (dk_at dksX0_was_0 6 rfl rfl)
theorem dX0_was_9 : decode cX0_was 9 = .ok (.iconst 0, 1) := dk_3 (dk_at dksX0_was_0 9 rfl rfl)
theorem dX0_was_10 : decode cX0_was 10 = .ok (.putfield 81, 3) := dk_181 0 81 (dk_at dksX0_was_0 10 rfl rfl)
theorem dX0_was_13 : decode cX0_was 13 = .ok (.iload_n 1, 1) := dk_27 (dk_at dksX0_was_0 13 rfl rfl)
theorem dX0_was_14 : decode cX0_was 14 = .ok (.ireturn, 1) := dk_172 (dk_at dksX0_was_0 14 rfl rfl)
abbrev cX0_spare : ByteArray := prog_1_method_15_code
def yX0_spare : MethodName := ⟨RX0, "spare", "(IIIII)I"⟩
def dkwX0_spare_4 : List UInt8 := [180, 0, 134, 182, 0, 89, 4, 100, 182, 0, 131, 172]
abbrev dktX0_spare_4 : List UInt8 := dkwX0_spare_4 ++ []
def dkwX0_spare_3 : List UInt8 := [182, 0, 117, 172, 42, 180, 0, 18, 180, 0, 134, 25, 6, 182, 0, 127, 87, 42, 42, 180, 0, 18]
abbrev dktX0_spare_3 : List UInt8 := dkwX0_spare_3 ++ dktX0_spare_4
def dkwX0_spare_2 : List UInt8 := [16, 253, 182, 0, 117, 172, 42, 180, 0, 18, 180, 0, 134, 182, 0, 89, 16, 8, 160, 0, 10, 42, 16, 251]
abbrev dktX0_spare_2 : List UInt8 := dkwX0_spare_2 ++ dktX0_spare_3
def dkwX0_spare_1 : List UInt8 := [28, 29, 21, 4, 21, 5, 183, 0, 120, 58, 6, 42, 180, 0, 18, 25, 6, 182, 0, 123, 154, 0, 10, 42]
abbrev dktX0_spare_1 : List UInt8 := dkwX0_spare_1 ++ dktX0_spare_2
def dkwX0_spare_0 : List UInt8 := [27, 28, 29, 21, 4, 21, 5, 184, 0, 111, 154, 0, 9, 42, 2, 182, 0, 117, 172, 187, 0, 112, 89, 27]
abbrev dktX0_spare_0 : List UInt8 := dkwX0_spare_0 ++ dktX0_spare_1
theorem dksX0_spare_0 : cX0_spare.data.toList.drop 0 = dktX0_spare_0 := by decide +kernel
theorem dksX0_spare_1 : cX0_spare.data.toList.drop 24 = dktX0_spare_1 := dk_seg dksX0_spare_0 24 rfl rfl
theorem dksX0_spare_2 : cX0_spare.data.toList.drop 48 = dktX0_spare_2 := dk_seg dksX0_spare_1 24 rfl rfl
theorem dksX0_spare_3 : cX0_spare.data.toList.drop 72 = dktX0_spare_3 := dk_seg dksX0_spare_2 24 rfl rfl
theorem dksX0_spare_4 : cX0_spare.data.toList.drop 94 = dktX0_spare_4 := dk_seg dksX0_spare_3 22 rfl rfl
theorem dX0_spare_0 : decode cX0_spare 0 = .ok (.iload_n 1, 1) := dk_27 (dk_at dksX0_spare_0 0 rfl rfl)
theorem dX0_spare_1 : decode cX0_spare 1 = .ok (.iload_n 2, 1) := dk_28 (dk_at dksX0_spare_0 1 rfl rfl)
theorem dX0_spare_2 : decode cX0_spare 2 = .ok (.iload_n 3, 1) := dk_29 (dk_at dksX0_spare_0 2 rfl rfl)
theorem dX0_spare_3 : decode cX0_spare 3 = .ok (.iload 4, 2) := dk_21 4 (dk_at dksX0_spare_0 3 rfl rfl)
theorem dX0_spare_5 : decode cX0_spare 5 = .ok (.iload 5, 2) := dk_21 5 (dk_at dksX0_spare_0 5 rfl rfl)
theorem dX0_spare_7 : decode cX0_spare 7 = .ok (.invokestatic 111, 3) := dk_184 0 111 (dk_at dksX0_spare_0 7 rfl rfl)
theorem dX0_spare_10 : decode cX0_spare 10 = .ok (.ifCond .ne 9, 3) := dk_154 0 9 (dk_at dksX0_spare_0 10 rfl rfl)
theorem dX0_spare_13 : decode cX0_spare 13 = .ok (.aload_n 0, 1) := dk_42 (dk_at dksX0_spare_0 13 rfl rfl)
theorem dX0_spare_14 : decode cX0_spare 14 = .ok (.iconst (-1), 1) := dk_2 (dk_at dksX0_spare_0 14 rfl rfl)
theorem dX0_spare_15 : decode cX0_spare 15 = .ok (.invokevirtual 117, 3) := dk_182 0 117 (dk_at dksX0_spare_0 15 rfl rfl)
theorem dX0_spare_18 : decode cX0_spare 18 = .ok (.ireturn, 1) := dk_172 (dk_at dksX0_spare_0 18 rfl rfl)
theorem dX0_spare_19 : decode cX0_spare 19 = .ok (.new 112, 3) := dk_187 0 112 (dk_at dksX0_spare_0 19 rfl rfl)
theorem dX0_spare_22 : decode cX0_spare 22 = .ok (.dup, 1) := dk_89 (dk_at dksX0_spare_0 22 rfl rfl)
theorem dX0_spare_23 : decode cX0_spare 23 = .ok (.iload_n 1, 1) := dk_27 (dk_at dksX0_spare_0 23 rfl rfl)
theorem dX0_spare_24 : decode cX0_spare 24 = .ok (.iload_n 2, 1) := dk_28 (dk_at dksX0_spare_1 0 rfl rfl)
theorem dX0_spare_25 : decode cX0_spare 25 = .ok (.iload_n 3, 1) := dk_29 (dk_at dksX0_spare_1 1 rfl rfl)
theorem dX0_spare_26 : decode cX0_spare 26 = .ok (.iload 4, 2) := dk_21 4 (dk_at dksX0_spare_1 2 rfl rfl)
theorem dX0_spare_28 : decode cX0_spare 28 = .ok (.iload 5, 2) := dk_21 5 (dk_at dksX0_spare_1 4 rfl rfl)
theorem dX0_spare_30 : decode cX0_spare 30 = .ok (.invokespecial 120, 3) := dk_183 0 120 (dk_at dksX0_spare_1 6 rfl rfl)
theorem dX0_spare_33 : decode cX0_spare 33 = .ok (.astore 6, 2) := dk_58 6 (dk_at dksX0_spare_1 9 rfl rfl)
theorem dX0_spare_35 : decode cX0_spare 35 = .ok (.aload_n 0, 1) := dk_42 (dk_at dksX0_spare_1 11 rfl rfl)
theorem dX0_spare_36 : decode cX0_spare 36 = .ok (.getfield 18, 3) := dk_180 0 18 (dk_at dksX0_spare_1 12 rfl rfl)
theorem dX0_spare_39 : decode cX0_spare 39 = .ok (.aload 6, 2) := dk_25 6 (dk_at dksX0_spare_1 15 rfl rfl)
theorem dX0_spare_41 : decode cX0_spare 41 = .ok (.invokevirtual 123, 3) := dk_182 0 123 (dk_at dksX0_spare_1 17 rfl rfl)
theorem dX0_spare_44 : decode cX0_spare 44 = .ok (.ifCond .ne 10, 3) := dk_154 0 10 (dk_at dksX0_spare_1 20 rfl rfl)
theorem dX0_spare_47 : decode cX0_spare 47 = .ok (.aload_n 0, 1) := dk_42 (dk_at dksX0_spare_1 23 rfl rfl)
theorem dX0_spare_48 : decode cX0_spare 48 = .ok (.bipush (-3), 2) := dk_16 253 (dk_at dksX0_spare_2 0 rfl rfl)
theorem dX0_spare_50 : decode cX0_spare 50 = .ok (.invokevirtual 117, 3) := dk_182 0 117 (dk_at dksX0_spare_2 2 rfl rfl)
theorem dX0_spare_53 : decode cX0_spare 53 = .ok (.ireturn, 1) := dk_172 (dk_at dksX0_spare_2 5 rfl rfl)
theorem dX0_spare_54 : decode cX0_spare 54 = .ok (.aload_n 0, 1) := dk_42 (dk_at dksX0_spare_2 6 rfl rfl)
theorem dX0_spare_55 : decode cX0_spare 55 = .ok (.getfield 18, 3) := dk_180 0 18 (dk_at dksX0_spare_2 7 rfl rfl)
theorem dX0_spare_58 : decode cX0_spare 58 = .ok (.getfield 134, 3) := dk_180 0 134 (dk_at dksX0_spare_2 10 rfl rfl)
theorem dX0_spare_61 : decode cX0_spare 61 = .ok (.invokevirtual 89, 3) := dk_182 0 89 (dk_at dksX0_spare_2 13 rfl rfl)
theorem dX0_spare_64 : decode cX0_spare 64 = .ok (.bipush 8, 2) := dk_16 8 (dk_at dksX0_spare_2 16 rfl rfl)
theorem dX0_spare_66 : decode cX0_spare 66 = .ok (.if_icmp .ne 10, 3) := dk_160 0 10 (dk_at dksX0_spare_2 18 rfl rfl)
theorem dX0_spare_69 : decode cX0_spare 69 = .ok (.aload_n 0, 1) := dk_42 (dk_at dksX0_spare_2 21 rfl rfl)
theorem dX0_spare_70 : decode cX0_spare 70 = .ok (.bipush (-5), 2) := dk_16 251 (dk_at dksX0_spare_2 22 rfl rfl)
theorem dX0_spare_72 : decode cX0_spare 72 = .ok (.invokevirtual 117, 3) := dk_182 0 117 (dk_at dksX0_spare_3 0 rfl rfl)
theorem dX0_spare_75 : decode cX0_spare 75 = .ok (.ireturn, 1) := dk_172 (dk_at dksX0_spare_3 3 rfl rfl)
theorem dX0_spare_76 : decode cX0_spare 76 = .ok (.aload_n 0, 1) := dk_42 (dk_at dksX0_spare_3 4 rfl rfl)
theorem dX0_spare_77 : decode cX0_spare 77 = .ok (.getfield 18, 3) := dk_180 0 18 (dk_at dksX0_spare_3 5 rfl rfl)
theorem dX0_spare_80 : decode cX0_spare 80 = .ok (.getfield 134, 3) := dk_180 0 134 (dk_at dksX0_spare_3 8 rfl rfl)
theorem dX0_spare_83 : decode cX0_spare 83 = .ok (.aload 6, 2) := dk_25 6 (dk_at dksX0_spare_3 11 rfl rfl)
theorem dX0_spare_85 : decode cX0_spare 85 = .ok (.invokevirtual 127, 3) := dk_182 0 127 (dk_at dksX0_spare_3 13 rfl rfl)
theorem dX0_spare_88 : decode cX0_spare 88 = .ok (.pop, 1) := dk_87 (dk_at dksX0_spare_3 16 rfl rfl)
theorem dX0_spare_89 : decode cX0_spare 89 = .ok (.aload_n 0, 1) := dk_42 (dk_at dksX0_spare_3 17 rfl rfl)
theorem dX0_spare_90 : decode cX0_spare 90 = .ok (.aload_n 0, 1) := dk_42 (dk_at dksX0_spare_3 18 rfl rfl)
theorem dX0_spare_91 : decode cX0_spare 91 = .ok (.getfield 18, 3) := dk_180 0 18 (dk_at dksX0_spare_3 19 rfl rfl)
theorem dX0_spare_94 : decode cX0_spare 94 = .ok (.getfield 134, 3) := dk_180 0 134 (dk_at dksX0_spare_4 0 rfl rfl)
theorem dX0_spare_97 : decode cX0_spare 97 = .ok (.invokevirtual 89, 3) := dk_182 0 89 (dk_at dksX0_spare_4 3 rfl rfl)
theorem dX0_spare_100 : decode cX0_spare 100 = .ok (.iconst 1, 1) := dk_4 (dk_at dksX0_spare_4 6 rfl rfl)
theorem dX0_spare_101 : decode cX0_spare 101 = .ok (.isub, 1) := dk_100 (dk_at dksX0_spare_4 7 rfl rfl)
theorem dX0_spare_102 : decode cX0_spare 102 = .ok (.invokevirtual 131, 3) := dk_182 0 131 (dk_at dksX0_spare_4 8 rfl rfl)
theorem dX0_spare_105 : decode cX0_spare 105 = .ok (.ireturn, 1) := dk_172 (dk_at dksX0_spare_4 11 rfl rfl)
abbrev cX0_put : ByteArray := prog_1_method_16_code
def yX0_put : MethodName := ⟨RX0, "put", "(III)I"⟩
def dkwX0_put_5 : List UInt8 := [180, 0, 151, 28, 29, 79, 42, 21, 5, 182, 0, 131, 172]
abbrev dktX0_put_5 : List UInt8 := dkwX0_put_5 ++ []
def dkwX0_put_4 : List UInt8 := [192, 0, 112, 180, 0, 151, 28, 46, 54, 5, 42, 180, 0, 18, 180, 0, 85, 27, 182, 0, 147, 192, 0, 112]
abbrev dktX0_put_4 : List UInt8 := dkwX0_put_4 ++ dktX0_put_5
def dkwX0_put_3 : List UInt8 := [182, 0, 143, 154, 0, 10, 42, 16, 254, 182, 0, 117, 172, 42, 180, 0, 18, 180, 0, 85, 27, 182, 0, 147]
abbrev dktX0_put_3 : List UInt8 := dkwX0_put_3 ++ dktX0_put_4
def dkwX0_put_2 : List UInt8 := [153, 0, 7, 4, 167, 0, 4, 3, 54, 4, 21, 4, 154, 0, 9, 42, 2, 182, 0, 117, 172, 42, 27]
abbrev dktX0_put_2 : List UInt8 := dkwX0_put_2 ++ dktX0_put_3
def dkwX0_put_1 : List UInt8 := [20, 0, 139, 184, 0, 95, 167, 0, 25, 28, 5, 160, 0, 19, 29, 133, 9, 20, 0, 141, 184, 0, 95]
abbrev dktX0_put_1 : List UInt8 := dkwX0_put_1 ++ dktX0_put_2
def dkwX0_put_0 : List UInt8 := [28, 154, 0, 15, 29, 133, 10, 20, 0, 137, 184, 0, 95, 167, 0, 42, 28, 4, 160, 0, 15, 29, 133, 9]
abbrev dktX0_put_0 : List UInt8 := dkwX0_put_0 ++ dktX0_put_1
theorem dksX0_put_0 : cX0_put.data.toList.drop 0 = dktX0_put_0 := by decide +kernel
theorem dksX0_put_1 : cX0_put.data.toList.drop 24 = dktX0_put_1 := dk_seg dksX0_put_0 24 rfl rfl
theorem dksX0_put_2 : cX0_put.data.toList.drop 47 = dktX0_put_2 := dk_seg dksX0_put_1 23 rfl rfl
theorem dksX0_put_3 : cX0_put.data.toList.drop 70 = dktX0_put_3 := dk_seg dksX0_put_2 23 rfl rfl
theorem dksX0_put_4 : cX0_put.data.toList.drop 94 = dktX0_put_4 := dk_seg dksX0_put_3 24 rfl rfl
theorem dksX0_put_5 : cX0_put.data.toList.drop 118 = dktX0_put_5 := dk_seg dksX0_put_4 24 rfl rfl
theorem dX0_put_0 : decode cX0_put 0 = .ok (.iload_n 2, 1) := dk_28 (dk_at dksX0_put_0 0 rfl rfl)
theorem dX0_put_1 : decode cX0_put 1 = .ok (.ifCond .ne 15, 3) := dk_154 0 15 (dk_at dksX0_put_0 1 rfl rfl)
theorem dX0_put_4 : decode cX0_put 4 = .ok (.iload_n 3, 1) := dk_29 (dk_at dksX0_put_0 4 rfl rfl)
theorem dX0_put_5 : decode cX0_put 5 = .ok (.i2l, 1) := dk_133 (dk_at dksX0_put_0 5 rfl rfl)
theorem dX0_put_6 : decode cX0_put 6 = .ok (.lconst 1, 1) := dk_10 (dk_at dksX0_put_0 6 rfl rfl)
theorem dX0_put_7 : decode cX0_put 7 = .ok (.ldc2_w 137, 3) := dk_20 0 137 (dk_at dksX0_put_0 7 rfl rfl)
theorem dX0_put_10 : decode cX0_put 10 = .ok (.invokestatic 95, 3) := dk_184 0 95 (dk_at dksX0_put_0 10 rfl rfl)
theorem dX0_put_13 : decode cX0_put 13 = .ok (.goto 42, 3) := dk_167 0 42 (dk_at dksX0_put_0 13 rfl rfl)
theorem dX0_put_16 : decode cX0_put 16 = .ok (.iload_n 2, 1) := dk_28 (dk_at dksX0_put_0 16 rfl rfl)
theorem dX0_put_17 : decode cX0_put 17 = .ok (.iconst 1, 1) := dk_4 (dk_at dksX0_put_0 17 rfl rfl)
theorem dX0_put_18 : decode cX0_put 18 = .ok (.if_icmp .ne 15, 3) := dk_160 0 15 (dk_at dksX0_put_0 18 rfl rfl)
theorem dX0_put_21 : decode cX0_put 21 = .ok (.iload_n 3, 1) := dk_29 (dk_at dksX0_put_0 21 rfl rfl)
theorem dX0_put_22 : decode cX0_put 22 = .ok (.i2l, 1) := dk_133 (dk_at dksX0_put_0 22 rfl rfl)
theorem dX0_put_23 : decode cX0_put 23 = .ok (.lconst 0, 1) := dk_9 (dk_at dksX0_put_0 23 rfl rfl)
theorem dX0_put_24 : decode cX0_put 24 = .ok (.ldc2_w 139, 3) := dk_20 0 139 (dk_at dksX0_put_1 0 rfl rfl)
theorem dX0_put_27 : decode cX0_put 27 = .ok (.invokestatic 95, 3) := dk_184 0 95 (dk_at dksX0_put_1 3 rfl rfl)
theorem dX0_put_30 : decode cX0_put 30 = .ok (.goto 25, 3) := dk_167 0 25 (dk_at dksX0_put_1 6 rfl rfl)
theorem dX0_put_33 : decode cX0_put 33 = .ok (.iload_n 2, 1) := dk_28 (dk_at dksX0_put_1 9 rfl rfl)
theorem dX0_put_34 : decode cX0_put 34 = .ok (.iconst 2, 1) := dk_5 (dk_at dksX0_put_1 10 rfl rfl)
theorem dX0_put_35 : decode cX0_put 35 = .ok (.if_icmp .ne 19, 3) := dk_160 0 19 (dk_at dksX0_put_1 11 rfl rfl)
theorem dX0_put_38 : decode cX0_put 38 = .ok (.iload_n 3, 1) := dk_29 (dk_at dksX0_put_1 14 rfl rfl)
theorem dX0_put_39 : decode cX0_put 39 = .ok (.i2l, 1) := dk_133 (dk_at dksX0_put_1 15 rfl rfl)
theorem dX0_put_40 : decode cX0_put 40 = .ok (.lconst 0, 1) := dk_9 (dk_at dksX0_put_1 16 rfl rfl)
theorem dX0_put_41 : decode cX0_put 41 = .ok (.ldc2_w 141, 3) := dk_20 0 141 (dk_at dksX0_put_1 17 rfl rfl)
theorem dX0_put_44 : decode cX0_put 44 = .ok (.invokestatic 95, 3) := dk_184 0 95 (dk_at dksX0_put_1 20 rfl rfl)
theorem dX0_put_47 : decode cX0_put 47 = .ok (.ifCond .eq 7, 3) := dk_153 0 7 (dk_at dksX0_put_2 0 rfl rfl)
theorem dX0_put_50 : decode cX0_put 50 = .ok (.iconst 1, 1) := dk_4 (dk_at dksX0_put_2 3 rfl rfl)
theorem dX0_put_51 : decode cX0_put 51 = .ok (.goto 4, 3) := dk_167 0 4 (dk_at dksX0_put_2 4 rfl rfl)
theorem dX0_put_54 : decode cX0_put 54 = .ok (.iconst 0, 1) := dk_3 (dk_at dksX0_put_2 7 rfl rfl)
theorem dX0_put_55 : decode cX0_put 55 = .ok (.istore 4, 2) := dk_54 4 (dk_at dksX0_put_2 8 rfl rfl)
theorem dX0_put_57 : decode cX0_put 57 = .ok (.iload 4, 2) := dk_21 4 (dk_at dksX0_put_2 10 rfl rfl)
theorem dX0_put_59 : decode cX0_put 59 = .ok (.ifCond .ne 9, 3) := dk_154 0 9 (dk_at dksX0_put_2 12 rfl rfl)
theorem dX0_put_62 : decode cX0_put 62 = .ok (.aload_n 0, 1) := dk_42 (dk_at dksX0_put_2 15 rfl rfl)
theorem dX0_put_63 : decode cX0_put 63 = .ok (.iconst (-1), 1) := dk_2 (dk_at dksX0_put_2 16 rfl rfl)
theorem dX0_put_64 : decode cX0_put 64 = .ok (.invokevirtual 117, 3) := dk_182 0 117 (dk_at dksX0_put_2 17 rfl rfl)
theorem dX0_put_67 : decode cX0_put 67 = .ok (.ireturn, 1) := dk_172 (dk_at dksX0_put_2 20 rfl rfl)
theorem dX0_put_68 : decode cX0_put 68 = .ok (.aload_n 0, 1) := dk_42 (dk_at dksX0_put_2 21 rfl rfl)
theorem dX0_put_69 : decode cX0_put 69 = .ok (.iload_n 1, 1) := dk_27 (dk_at dksX0_put_2 22 rfl rfl)
theorem dX0_put_70 : decode cX0_put 70 = .ok (.invokevirtual 143, 3) := dk_182 0 143 (dk_at dksX0_put_3 0 rfl rfl)
theorem dX0_put_73 : decode cX0_put 73 = .ok (.ifCond .ne 10, 3) := dk_154 0 10 (dk_at dksX0_put_3 3 rfl rfl)
theorem dX0_put_76 : decode cX0_put 76 = .ok (.aload_n 0, 1) := dk_42 (dk_at dksX0_put_3 6 rfl rfl)
theorem dX0_put_77 : decode cX0_put 77 = .ok (.bipush (-2), 2) := dk_16 254 (dk_at dksX0_put_3 7 rfl rfl)
theorem dX0_put_79 : decode cX0_put 79 = .ok (.invokevirtual 117, 3) := dk_182 0 117 (dk_at dksX0_put_3 9 rfl rfl)
theorem dX0_put_82 : decode cX0_put 82 = .ok (.ireturn, 1) := dk_172 (dk_at dksX0_put_3 12 rfl rfl)
theorem dX0_put_83 : decode cX0_put 83 = .ok (.aload_n 0, 1) := dk_42 (dk_at dksX0_put_3 13 rfl rfl)
theorem dX0_put_84 : decode cX0_put 84 = .ok (.getfield 18, 3) := dk_180 0 18 (dk_at dksX0_put_3 14 rfl rfl)
theorem dX0_put_87 : decode cX0_put 87 = .ok (.getfield 85, 3) := dk_180 0 85 (dk_at dksX0_put_3 17 rfl rfl)
theorem dX0_put_90 : decode cX0_put 90 = .ok (.iload_n 1, 1) := dk_27 (dk_at dksX0_put_3 20 rfl rfl)
theorem dX0_put_91 : decode cX0_put 91 = .ok (.invokevirtual 147, 3) := dk_182 0 147 (dk_at dksX0_put_3 21 rfl rfl)
theorem dX0_put_94 : decode cX0_put 94 = .ok (.checkcast 112, 3) := dk_192 0 112 (dk_at dksX0_put_4 0 rfl rfl)
theorem dX0_put_97 : decode cX0_put 97 = .ok (.getfield 151, 3) := dk_180 0 151 (dk_at dksX0_put_4 3 rfl rfl)
theorem dX0_put_100 : decode cX0_put 100 = .ok (.iload_n 2, 1) := dk_28 (dk_at dksX0_put_4 6 rfl rfl)
theorem dX0_put_101 : decode cX0_put 101 = .ok (.iaload, 1) := dk_46 (dk_at dksX0_put_4 7 rfl rfl)
theorem dX0_put_102 : decode cX0_put 102 = .ok (.istore 5, 2) := dk_54 5 (dk_at dksX0_put_4 8 rfl rfl)
theorem dX0_put_104 : decode cX0_put 104 = .ok (.aload_n 0, 1) := dk_42 (dk_at dksX0_put_4 10 rfl rfl)
theorem dX0_put_105 : decode cX0_put 105 = .ok (.getfield 18, 3) := dk_180 0 18 (dk_at dksX0_put_4 11 rfl rfl)
theorem dX0_put_108 : decode cX0_put 108 = .ok (.getfield 85, 3) := dk_180 0 85 (dk_at dksX0_put_4 14 rfl rfl)
theorem dX0_put_111 : decode cX0_put 111 = .ok (.iload_n 1, 1) := dk_27 (dk_at dksX0_put_4 17 rfl rfl)
theorem dX0_put_112 : decode cX0_put 112 = .ok (.invokevirtual 147, 3) := dk_182 0 147 (dk_at dksX0_put_4 18 rfl rfl)
theorem dX0_put_115 : decode cX0_put 115 = .ok (.checkcast 112, 3) := dk_192 0 112 (dk_at dksX0_put_4 21 rfl rfl)
theorem dX0_put_118 : decode cX0_put 118 = .ok (.getfield 151, 3) := dk_180 0 151 (dk_at dksX0_put_5 0 rfl rfl)
theorem dX0_put_121 : decode cX0_put 121 = .ok (.iload_n 2, 1) := dk_28 (dk_at dksX0_put_5 3 rfl rfl)
theorem dX0_put_122 : decode cX0_put 122 = .ok (.iload_n 3, 1) := dk_29 (dk_at dksX0_put_5 4 rfl rfl)
theorem dX0_put_123 : decode cX0_put 123 = .ok (.iastore, 1) := dk_79 (dk_at dksX0_put_5 5 rfl rfl)
theorem dX0_put_124 : decode cX0_put 124 = .ok (.aload_n 0, 1) := dk_42 (dk_at dksX0_put_5 6 rfl rfl)
theorem dX0_put_125 : decode cX0_put 125 = .ok (.iload 5, 2) := dk_21 5 (dk_at dksX0_put_5 7 rfl rfl)
theorem dX0_put_127 : decode cX0_put 127 = .ok (.invokevirtual 131, 3) := dk_182 0 131 (dk_at dksX0_put_5 9 rfl rfl)
theorem dX0_put_130 : decode cX0_put 130 = .ok (.ireturn, 1) := dk_172 (dk_at dksX0_put_5 12 rfl rfl)
abbrev cX0_isStone : ByteArray := prog_1_method_7_code
def yX0_isStone : MethodName := ⟨RX0, "isStone", "(I)Z"⟩
def dkwX0_isStone_0 : List UInt8 := [27, 133, 9, 42, 180, 0, 18, 180, 0, 85, 182, 0, 89, 4, 100, 133, 184, 0, 95, 172]
abbrev dktX0_isStone_0 : List UInt8 := dkwX0_isStone_0 ++ []
theorem dksX0_isStone_0 : cX0_isStone.data.toList.drop 0 = dktX0_isStone_0 := by decide +kernel
theorem dX0_isStone_0 : decode cX0_isStone 0 = .ok (.iload_n 1, 1) := dk_27 (dk_at dksX0_isStone_0 0 rfl rfl)
theorem dX0_isStone_1 : decode cX0_isStone 1 = .ok (.i2l, 1) := dk_133 (dk_at dksX0_isStone_0 1 rfl rfl)
theorem dX0_isStone_2 : decode cX0_isStone 2 = .ok (.lconst 0, 1) := dk_9 (dk_at dksX0_isStone_0 2 rfl rfl)
theorem dX0_isStone_3 : decode cX0_isStone 3 = .ok (.aload_n 0, 1) := dk_42 (dk_at dksX0_isStone_0 3 rfl rfl)
theorem dX0_isStone_4 : decode cX0_isStone 4 = .ok (.getfield 18, 3) := dk_180 0 18 (dk_at dksX0_isStone_0 4 rfl rfl)
theorem dX0_isStone_7 : decode cX0_isStone 7 = .ok (.getfield 85, 3) := dk_180 0 85 (dk_at dksX0_isStone_0 7 rfl rfl)
theorem dX0_isStone_10 : decode cX0_isStone 10 = .ok (.invokevirtual 89, 3) := dk_182 0 89 (dk_at dksX0_isStone_0 10 rfl rfl)
theorem dX0_isStone_13 : decode cX0_isStone 13 = .ok (.iconst 1, 1) := dk_4 (dk_at dksX0_isStone_0 13 rfl rfl)
theorem dX0_isStone_14 : decode cX0_isStone 14 = .ok (.isub, 1) := dk_100 (dk_at dksX0_isStone_0 14 rfl rfl)
theorem dX0_isStone_15 : decode cX0_isStone 15 = .ok (.i2l, 1) := dk_133 (dk_at dksX0_isStone_0 15 rfl rfl)
theorem dX0_isStone_16 : decode cX0_isStone 16 = .ok (.invokestatic 95, 3) := dk_184 0 95 (dk_at dksX0_isStone_0 16 rfl rfl)
theorem dX0_isStone_19 : decode cX0_isStone 19 = .ok (.ireturn, 1) := dk_172 (dk_at dksX0_isStone_0 19 rfl rfl)
abbrev cX0_of : ByteArray := prog_1_method_17_code
def yX0_of : MethodName := ⟨RX0, "of", "(II)I"⟩
def dkwX0_of_5 : List UInt8 := [172]
abbrev dktX0_of_5 : List UInt8 := dkwX0_of_5 ++ []
def dkwX0_of_4 : List UInt8 := [180, 0, 101, 27, 184, 0, 168, 153, 0, 7, 4, 167, 0, 4, 3, 172, 45, 180, 0, 151, 28, 7, 100, 46]
abbrev dktX0_of_4 : List UInt8 := dkwX0_of_4 ++ dktX0_of_5
def dkwX0_of_3 : List UInt8 := [45, 180, 0, 156, 172, 45, 180, 0, 159, 172, 45, 180, 0, 162, 172, 45, 180, 0, 165, 172, 42, 180, 0, 18]
abbrev dktX0_of_3 : List UInt8 := dkwX0_of_3 ++ dktX0_of_4
def dkwX0_of_2 : List UInt8 := [170, 0, 0, 0, 0, 86, 0, 0, 0, 0, 0, 0, 0, 7, 0, 0, 0, 46, 0, 0, 0, 51, 0, 0, 0, 56, 0, 0, 0, 61, 0, 0, 0, 86, 0, 0, 0, 86, 0, 0, 0, 86, 0, 0, 0, 66]
abbrev dktX0_of_2 : List UInt8 := dkwX0_of_2 ++ dktX0_of_3
def dkwX0_of_1 : List UInt8 := [180, 0, 18, 180, 0, 85, 27, 182, 0, 147, 192, 0, 112, 78, 28]
abbrev dktX0_of_1 : List UInt8 := dkwX0_of_1 ++ dktX0_of_2
def dkwX0_of_0 : List UInt8 := [42, 27, 182, 0, 143, 153, 0, 15, 28, 133, 9, 20, 0, 154, 184, 0, 95, 154, 0, 5, 2, 172, 42]
abbrev dktX0_of_0 : List UInt8 := dkwX0_of_0 ++ dktX0_of_1
theorem dksX0_of_0 : cX0_of.data.toList.drop 0 = dktX0_of_0 := by decide +kernel
theorem dksX0_of_1 : cX0_of.data.toList.drop 23 = dktX0_of_1 := dk_seg dksX0_of_0 23 rfl rfl
theorem dksX0_of_2 : cX0_of.data.toList.drop 38 = dktX0_of_2 := dk_seg dksX0_of_1 15 rfl rfl
theorem dksX0_of_3 : cX0_of.data.toList.drop 84 = dktX0_of_3 := dk_seg dksX0_of_2 46 rfl rfl
theorem dksX0_of_4 : cX0_of.data.toList.drop 108 = dktX0_of_4 := dk_seg dksX0_of_3 24 rfl rfl
theorem dksX0_of_5 : cX0_of.data.toList.drop 132 = dktX0_of_5 := dk_seg dksX0_of_4 24 rfl rfl
theorem dX0_of_0 : decode cX0_of 0 = .ok (.aload_n 0, 1) := dk_42 (dk_at dksX0_of_0 0 rfl rfl)
theorem dX0_of_1 : decode cX0_of 1 = .ok (.iload_n 1, 1) := dk_27 (dk_at dksX0_of_0 1 rfl rfl)
theorem dX0_of_2 : decode cX0_of 2 = .ok (.invokevirtual 143, 3) := dk_182 0 143 (dk_at dksX0_of_0 2 rfl rfl)
theorem dX0_of_5 : decode cX0_of 5 = .ok (.ifCond .eq 15, 3) := dk_153 0 15 (dk_at dksX0_of_0 5 rfl rfl)
theorem dX0_of_8 : decode cX0_of 8 = .ok (.iload_n 2, 1) := dk_28 (dk_at dksX0_of_0 8 rfl rfl)
theorem dX0_of_9 : decode cX0_of 9 = .ok (.i2l, 1) := dk_133 (dk_at dksX0_of_0 9 rfl rfl)
theorem dX0_of_10 : decode cX0_of 10 = .ok (.lconst 0, 1) := dk_9 (dk_at dksX0_of_0 10 rfl rfl)
theorem dX0_of_11 : decode cX0_of 11 = .ok (.ldc2_w 154, 3) := dk_20 0 154 (dk_at dksX0_of_0 11 rfl rfl)
theorem dX0_of_14 : decode cX0_of 14 = .ok (.invokestatic 95, 3) := dk_184 0 95 (dk_at dksX0_of_0 14 rfl rfl)
theorem dX0_of_17 : decode cX0_of 17 = .ok (.ifCond .ne 5, 3) := dk_154 0 5 (dk_at dksX0_of_0 17 rfl rfl)
theorem dX0_of_20 : decode cX0_of 20 = .ok (.iconst (-1), 1) := dk_2 (dk_at dksX0_of_0 20 rfl rfl)
theorem dX0_of_21 : decode cX0_of 21 = .ok (.ireturn, 1) := dk_172 (dk_at dksX0_of_0 21 rfl rfl)
theorem dX0_of_22 : decode cX0_of 22 = .ok (.aload_n 0, 1) := dk_42 (dk_at dksX0_of_0 22 rfl rfl)
theorem dX0_of_23 : decode cX0_of 23 = .ok (.getfield 18, 3) := dk_180 0 18 (dk_at dksX0_of_1 0 rfl rfl)
theorem dX0_of_26 : decode cX0_of 26 = .ok (.getfield 85, 3) := dk_180 0 85 (dk_at dksX0_of_1 3 rfl rfl)
theorem dX0_of_29 : decode cX0_of 29 = .ok (.iload_n 1, 1) := dk_27 (dk_at dksX0_of_1 6 rfl rfl)
theorem dX0_of_30 : decode cX0_of 30 = .ok (.invokevirtual 147, 3) := dk_182 0 147 (dk_at dksX0_of_1 7 rfl rfl)
theorem dX0_of_33 : decode cX0_of 33 = .ok (.checkcast 112, 3) := dk_192 0 112 (dk_at dksX0_of_1 10 rfl rfl)
theorem dX0_of_36 : decode cX0_of 36 = .ok (.astore_n 3, 1) := dk_78 (dk_at dksX0_of_1 13 rfl rfl)
theorem dX0_of_37 : decode cX0_of 37 = .ok (.iload_n 2, 1) := dk_28 (dk_at dksX0_of_1 14 rfl rfl)
theorem dX0_of_38 : decode cX0_of 38 = .ok (.tableswitch 86 0 7 #[46, 51, 56, 61, 86, 86, 86, 66], 46) := by decide +kernel
theorem dX0_of_84 : decode cX0_of 84 = .ok (.aload_n 3, 1) := dk_45 (dk_at dksX0_of_3 0 rfl rfl)
theorem dX0_of_85 : decode cX0_of 85 = .ok (.getfield 156, 3) := dk_180 0 156 (dk_at dksX0_of_3 1 rfl rfl)
theorem dX0_of_88 : decode cX0_of 88 = .ok (.ireturn, 1) := dk_172 (dk_at dksX0_of_3 4 rfl rfl)
theorem dX0_of_89 : decode cX0_of 89 = .ok (.aload_n 3, 1) := dk_45 (dk_at dksX0_of_3 5 rfl rfl)
theorem dX0_of_90 : decode cX0_of 90 = .ok (.getfield 159, 3) := dk_180 0 159 (dk_at dksX0_of_3 6 rfl rfl)
theorem dX0_of_93 : decode cX0_of 93 = .ok (.ireturn, 1) := dk_172 (dk_at dksX0_of_3 9 rfl rfl)
theorem dX0_of_94 : decode cX0_of 94 = .ok (.aload_n 3, 1) := dk_45 (dk_at dksX0_of_3 10 rfl rfl)
theorem dX0_of_95 : decode cX0_of 95 = .ok (.getfield 162, 3) := dk_180 0 162 (dk_at dksX0_of_3 11 rfl rfl)
theorem dX0_of_98 : decode cX0_of 98 = .ok (.ireturn, 1) := dk_172 (dk_at dksX0_of_3 14 rfl rfl)
theorem dX0_of_99 : decode cX0_of 99 = .ok (.aload_n 3, 1) := dk_45 (dk_at dksX0_of_3 15 rfl rfl)
theorem dX0_of_100 : decode cX0_of 100 = .ok (.getfield 165, 3) := dk_180 0 165 (dk_at dksX0_of_3 16 rfl rfl)
theorem dX0_of_103 : decode cX0_of 103 = .ok (.ireturn, 1) := dk_172 (dk_at dksX0_of_3 19 rfl rfl)
theorem dX0_of_104 : decode cX0_of 104 = .ok (.aload_n 0, 1) := dk_42 (dk_at dksX0_of_3 20 rfl rfl)
theorem dX0_of_105 : decode cX0_of 105 = .ok (.getfield 18, 3) := dk_180 0 18 (dk_at dksX0_of_3 21 rfl rfl)
theorem dX0_of_108 : decode cX0_of 108 = .ok (.getfield 101, 3) := dk_180 0 101 (dk_at dksX0_of_4 0 rfl rfl)
theorem dX0_of_111 : decode cX0_of 111 = .ok (.iload_n 1, 1) := dk_27 (dk_at dksX0_of_4 3 rfl rfl)
theorem dX0_of_112 : decode cX0_of 112 = .ok (.invokestatic 168, 3) := dk_184 0 168 (dk_at dksX0_of_4 4 rfl rfl)
theorem dX0_of_115 : decode cX0_of 115 = .ok (.ifCond .eq 7, 3) := dk_153 0 7 (dk_at dksX0_of_4 7 rfl rfl)
theorem dX0_of_118 : decode cX0_of 118 = .ok (.iconst 1, 1) := dk_4 (dk_at dksX0_of_4 10 rfl rfl)
theorem dX0_of_119 : decode cX0_of 119 = .ok (.goto 4, 3) := dk_167 0 4 (dk_at dksX0_of_4 11 rfl rfl)
theorem dX0_of_122 : decode cX0_of 122 = .ok (.iconst 0, 1) := dk_3 (dk_at dksX0_of_4 14 rfl rfl)
theorem dX0_of_123 : decode cX0_of 123 = .ok (.ireturn, 1) := dk_172 (dk_at dksX0_of_4 15 rfl rfl)
theorem dX0_of_124 : decode cX0_of 124 = .ok (.aload_n 3, 1) := dk_45 (dk_at dksX0_of_4 16 rfl rfl)
theorem dX0_of_125 : decode cX0_of 125 = .ok (.getfield 151, 3) := dk_180 0 151 (dk_at dksX0_of_4 17 rfl rfl)
theorem dX0_of_128 : decode cX0_of 128 = .ok (.iload_n 2, 1) := dk_28 (dk_at dksX0_of_4 20 rfl rfl)
theorem dX0_of_129 : decode cX0_of 129 = .ok (.iconst 4, 1) := dk_7 (dk_at dksX0_of_4 21 rfl rfl)
theorem dX0_of_130 : decode cX0_of 130 = .ok (.isub, 1) := dk_100 (dk_at dksX0_of_4 22 rfl rfl)
theorem dX0_of_131 : decode cX0_of 131 = .ok (.iaload, 1) := dk_46 (dk_at dksX0_of_4 23 rfl rfl)
theorem dX0_of_132 : decode cX0_of 132 = .ok (.ireturn, 1) := dk_172 (dk_at dksX0_of_5 0 rfl rfl)
abbrev cX0_has : ByteArray := prog_1_method_2_code
def yX0_has : MethodName := ⟨RX0, "has", "(II)Z"⟩
def dkwX0_has_0 : List UInt8 := [26, 27, 122, 4, 126, 4, 160, 0, 7, 4, 167, 0, 4, 3, 172]
abbrev dktX0_has_0 : List UInt8 := dkwX0_has_0 ++ []
theorem dksX0_has_0 : cX0_has.data.toList.drop 0 = dktX0_has_0 := by decide +kernel
theorem dX0_has_0 : decode cX0_has 0 = .ok (.iload_n 0, 1) := dk_26 (dk_at dksX0_has_0 0 rfl rfl)
theorem dX0_has_1 : decode cX0_has 1 = .ok (.iload_n 1, 1) := dk_27 (dk_at dksX0_has_0 1 rfl rfl)
theorem dX0_has_2 : decode cX0_has 2 = .ok (.ishr, 1) := dk_122 (dk_at dksX0_has_0 2 rfl rfl)
theorem dX0_has_3 : decode cX0_has 3 = .ok (.iconst 1, 1) := dk_4 (dk_at dksX0_has_0 3 rfl rfl)
theorem dX0_has_4 : decode cX0_has 4 = .ok (.iand, 1) := dk_126 (dk_at dksX0_has_0 4 rfl rfl)
theorem dX0_has_5 : decode cX0_has 5 = .ok (.iconst 1, 1) := dk_4 (dk_at dksX0_has_0 5 rfl rfl)
theorem dX0_has_6 : decode cX0_has 6 = .ok (.if_icmp .ne 7, 3) := dk_160 0 7 (dk_at dksX0_has_0 6 rfl rfl)
theorem dX0_has_9 : decode cX0_has 9 = .ok (.iconst 1, 1) := dk_4 (dk_at dksX0_has_0 9 rfl rfl)
theorem dX0_has_10 : decode cX0_has 10 = .ok (.goto 4, 3) := dk_167 0 4 (dk_at dksX0_has_0 10 rfl rfl)
theorem dX0_has_13 : decode cX0_has 13 = .ok (.iconst 0, 1) := dk_3 (dk_at dksX0_has_0 13 rfl rfl)
theorem dX0_has_14 : decode cX0_has 14 = .ok (.ireturn, 1) := dk_172 (dk_at dksX0_has_0 14 rfl rfl)
abbrev cX0_terms : ByteArray := prog_1_method_18_code
def yX0_terms : MethodName := ⟨RX0, "terms", "(II)I"⟩
def dkwX0_terms_2 : List UInt8 := [180, 0, 178, 27, 46, 62, 42, 180, 0, 18, 180, 0, 178, 27, 28, 79, 42, 29, 182, 0, 131, 172]
abbrev dktX0_terms_2 : List UInt8 := dkwX0_terms_2 ++ []
def dkwX0_terms_1 : List UInt8 := [167, 0, 6, 20, 0, 176, 184, 0, 95, 154, 0, 9, 42, 2, 182, 0, 117, 172, 42, 180, 0, 18]
abbrev dktX0_terms_1 : List UInt8 := dkwX0_terms_1 ++ dktX0_terms_2
def dkwX0_terms_0 : List UInt8 := [27, 133, 9, 20, 0, 172, 184, 0, 95, 153, 0, 25, 28, 133, 9, 27, 154, 0, 9, 20, 0, 174]
abbrev dktX0_terms_0 : List UInt8 := dkwX0_terms_0 ++ dktX0_terms_1
theorem dksX0_terms_0 : cX0_terms.data.toList.drop 0 = dktX0_terms_0 := by decide +kernel
theorem dksX0_terms_1 : cX0_terms.data.toList.drop 22 = dktX0_terms_1 := dk_seg dksX0_terms_0 22 rfl rfl
theorem dksX0_terms_2 : cX0_terms.data.toList.drop 44 = dktX0_terms_2 := dk_seg dksX0_terms_1 22 rfl rfl
theorem dX0_terms_0 : decode cX0_terms 0 = .ok (.iload_n 1, 1) := dk_27 (dk_at dksX0_terms_0 0 rfl rfl)
theorem dX0_terms_1 : decode cX0_terms 1 = .ok (.i2l, 1) := dk_133 (dk_at dksX0_terms_0 1 rfl rfl)
theorem dX0_terms_2 : decode cX0_terms 2 = .ok (.lconst 0, 1) := dk_9 (dk_at dksX0_terms_0 2 rfl rfl)
theorem dX0_terms_3 : decode cX0_terms 3 = .ok (.ldc2_w 172, 3) := dk_20 0 172 (dk_at dksX0_terms_0 3 rfl rfl)
theorem dX0_terms_6 : decode cX0_terms 6 = .ok (.invokestatic 95, 3) := dk_184 0 95 (dk_at dksX0_terms_0 6 rfl rfl)
theorem dX0_terms_9 : decode cX0_terms 9 = .ok (.ifCond .eq 25, 3) := dk_153 0 25 (dk_at dksX0_terms_0 9 rfl rfl)
theorem dX0_terms_12 : decode cX0_terms 12 = .ok (.iload_n 2, 1) := dk_28 (dk_at dksX0_terms_0 12 rfl rfl)
theorem dX0_terms_13 : decode cX0_terms 13 = .ok (.i2l, 1) := dk_133 (dk_at dksX0_terms_0 13 rfl rfl)
theorem dX0_terms_14 : decode cX0_terms 14 = .ok (.lconst 0, 1) := dk_9 (dk_at dksX0_terms_0 14 rfl rfl)
theorem dX0_terms_15 : decode cX0_terms 15 = .ok (.iload_n 1, 1) := dk_27 (dk_at dksX0_terms_0 15 rfl rfl)
theorem dX0_terms_16 : decode cX0_terms 16 = .ok (.ifCond .ne 9, 3) := dk_154 0 9 (dk_at dksX0_terms_0 16 rfl rfl)
theorem dX0_terms_19 : decode cX0_terms 19 = .ok (.ldc2_w 174, 3) := dk_20 0 174 (dk_at dksX0_terms_0 19 rfl rfl)
theorem dX0_terms_22 : decode cX0_terms 22 = .ok (.goto 6, 3) := dk_167 0 6 (dk_at dksX0_terms_1 0 rfl rfl)
theorem dX0_terms_25 : decode cX0_terms 25 = .ok (.ldc2_w 176, 3) := dk_20 0 176 (dk_at dksX0_terms_1 3 rfl rfl)
theorem dX0_terms_28 : decode cX0_terms 28 = .ok (.invokestatic 95, 3) := dk_184 0 95 (dk_at dksX0_terms_1 6 rfl rfl)
theorem dX0_terms_31 : decode cX0_terms 31 = .ok (.ifCond .ne 9, 3) := dk_154 0 9 (dk_at dksX0_terms_1 9 rfl rfl)
theorem dX0_terms_34 : decode cX0_terms 34 = .ok (.aload_n 0, 1) := dk_42 (dk_at dksX0_terms_1 12 rfl rfl)
theorem dX0_terms_35 : decode cX0_terms 35 = .ok (.iconst (-1), 1) := dk_2 (dk_at dksX0_terms_1 13 rfl rfl)
theorem dX0_terms_36 : decode cX0_terms 36 = .ok (.invokevirtual 117, 3) := dk_182 0 117 (dk_at dksX0_terms_1 14 rfl rfl)
theorem dX0_terms_39 : decode cX0_terms 39 = .ok (.ireturn, 1) := dk_172 (dk_at dksX0_terms_1 17 rfl rfl)
theorem dX0_terms_40 : decode cX0_terms 40 = .ok (.aload_n 0, 1) := dk_42 (dk_at dksX0_terms_1 18 rfl rfl)
theorem dX0_terms_41 : decode cX0_terms 41 = .ok (.getfield 18, 3) := dk_180 0 18 (dk_at dksX0_terms_1 19 rfl rfl)
theorem dX0_terms_44 : decode cX0_terms 44 = .ok (.getfield 178, 3) := dk_180 0 178 (dk_at dksX0_terms_2 0 rfl rfl)
theorem dX0_terms_47 : decode cX0_terms 47 = .ok (.iload_n 1, 1) := dk_27 (dk_at dksX0_terms_2 3 rfl rfl)
theorem dX0_terms_48 : decode cX0_terms 48 = .ok (.iaload, 1) := dk_46 (dk_at dksX0_terms_2 4 rfl rfl)
theorem dX0_terms_49 : decode cX0_terms 49 = .ok (.istore_n 3, 1) := dk_62 (dk_at dksX0_terms_2 5 rfl rfl)
theorem dX0_terms_50 : decode cX0_terms 50 = .ok (.aload_n 0, 1) := dk_42 (dk_at dksX0_terms_2 6 rfl rfl)
theorem dX0_terms_51 : decode cX0_terms 51 = .ok (.getfield 18, 3) := dk_180 0 18 (dk_at dksX0_terms_2 7 rfl rfl)
theorem dX0_terms_54 : decode cX0_terms 54 = .ok (.getfield 178, 3) := dk_180 0 178 (dk_at dksX0_terms_2 10 rfl rfl)
theorem dX0_terms_57 : decode cX0_terms 57 = .ok (.iload_n 1, 1) := dk_27 (dk_at dksX0_terms_2 13 rfl rfl)
theorem dX0_terms_58 : decode cX0_terms 58 = .ok (.iload_n 2, 1) := dk_28 (dk_at dksX0_terms_2 14 rfl rfl)
theorem dX0_terms_59 : decode cX0_terms 59 = .ok (.iastore, 1) := dk_79 (dk_at dksX0_terms_2 15 rfl rfl)
theorem dX0_terms_60 : decode cX0_terms 60 = .ok (.aload_n 0, 1) := dk_42 (dk_at dksX0_terms_2 16 rfl rfl)
theorem dX0_terms_61 : decode cX0_terms 61 = .ok (.iload_n 3, 1) := dk_29 (dk_at dksX0_terms_2 17 rfl rfl)
theorem dX0_terms_62 : decode cX0_terms 62 = .ok (.invokevirtual 131, 3) := dk_182 0 131 (dk_at dksX0_terms_2 18 rfl rfl)
theorem dX0_terms_65 : decode cX0_terms 65 = .ok (.ireturn, 1) := dk_172 (dk_at dksX0_terms_2 21 rfl rfl)
abbrev cX0_row : ByteArray := prog_1_method_20_code
def yX0_row : MethodName := ⟨RX0, "row", "()I"⟩
def dkwX0_row_22 : List UInt8 := [167, 0, 4, 4, 96, 181, 0, 187, 25, 6, 191, 132, 3, 5, 167, 254, 31, 42, 28, 182, 0, 131, 172]
abbrev dktX0_row_22 : List UInt8 := dkwX0_row_22 ++ []
def dkwX0_row_21 : List UInt8 := [28, 21, 7, 153, 0, 7, 4, 167, 0, 4, 3, 96, 61, 42, 89, 180, 0, 187, 21, 7, 153, 0, 7, 3]
abbrev dktX0_row_21 : List UInt8 := dkwX0_row_21 ++ dktX0_row_22
def dkwX0_row_20 : List UInt8 := [29, 6, 96, 184, 0, 190, 21, 4, 183, 0, 120, 182, 0, 194, 153, 0, 7, 4, 167, 0, 4, 3, 54, 7]
abbrev dktX0_row_20 : List UInt8 := dkwX0_row_20 ++ dktX0_row_21
def dkwX0_row_19 : List UInt8 := [187, 0, 112, 89, 43, 29, 184, 0, 190, 43, 29, 4, 96, 184, 0, 190, 43, 29, 5, 96, 184, 0, 190, 43]
abbrev dktX0_row_19 : List UInt8 := dkwX0_row_19 ++ dktX0_row_20
def dkwX0_row_18 : List UInt8 := [180, 0, 85, 182, 0, 89, 16, 14, 162, 0, 7, 4, 167, 0, 4, 3, 54, 7, 21, 7, 153, 0, 49, 42]
abbrev dktX0_row_18 : List UInt8 := dkwX0_row_18 ++ dktX0_row_19
def dkwX0_row_17 : List UInt8 := [184, 0, 190, 43, 29, 6, 96, 184, 0, 190, 21, 4, 184, 0, 111, 153, 0, 22, 42, 180, 0, 18]
abbrev dktX0_row_17 : List UInt8 := dkwX0_row_17 ++ dktX0_row_18
def dkwX0_row_16 : List UInt8 := [21, 4, 2, 159, 0, 56, 43, 29, 184, 0, 190, 43, 29, 4, 96, 184, 0, 190, 43, 29, 5, 96]
abbrev dktX0_row_16 : List UInt8 := dkwX0_row_16 ++ dktX0_row_17
def dkwX0_row_15 : List UInt8 := [89, 180, 0, 187, 21, 5, 153, 0, 7, 3, 167, 0, 4, 4, 96, 181, 0, 187, 167, 0, 156, 58, 6]
abbrev dktX0_row_15 : List UInt8 := dkwX0_row_15 ++ dktX0_row_16
def dkwX0_row_14 : List UInt8 := [153, 0, 7, 4, 167, 0, 4, 3, 54, 5, 28, 21, 5, 153, 0, 7, 4, 167, 0, 4, 3, 96, 61, 42]
abbrev dktX0_row_14 : List UInt8 := dkwX0_row_14 ++ dktX0_row_15
def dkwX0_row_13 : List UInt8 := [43, 29, 5, 96, 184, 0, 190, 43, 29, 6, 96, 184, 0, 190, 21, 4, 183, 0, 120, 182, 0, 194]
abbrev dktX0_row_13 : List UInt8 := dkwX0_row_13 ++ dktX0_row_14
def dkwX0_row_12 : List UInt8 := [54, 5, 21, 5, 153, 0, 49, 42, 187, 0, 112, 89, 43, 29, 184, 0, 190, 43, 29, 4, 96, 184, 0, 190]
abbrev dktX0_row_12 : List UInt8 := dkwX0_row_12 ++ dktX0_row_13
def dkwX0_row_11 : List UInt8 := [153, 0, 22, 42, 180, 0, 18, 180, 0, 85, 182, 0, 89, 16, 14, 162, 0, 7, 4, 167, 0, 4, 3]
abbrev dktX0_row_11 : List UInt8 := dkwX0_row_11 ++ dktX0_row_12
def dkwX0_row_10 : List UInt8 := [4, 96, 184, 0, 190, 43, 29, 5, 96, 184, 0, 190, 43, 29, 6, 96, 184, 0, 190, 21, 4, 184, 0, 111]
abbrev dktX0_row_10 : List UInt8 := dkwX0_row_10 ++ dktX0_row_11
def dkwX0_row_9 : List UInt8 := [181, 0, 187, 167, 1, 56, 58, 5, 2, 54, 4, 21, 4, 2, 159, 0, 56, 43, 29, 184, 0, 190, 43, 29]
abbrev dktX0_row_9 : List UInt8 := dkwX0_row_9 ++ dktX0_row_10
def dkwX0_row_8 : List UInt8 := [4, 167, 0, 4, 3, 96, 61, 42, 89, 180, 0, 187, 21, 5, 153, 0, 7, 3, 167, 0, 4, 4, 96]
abbrev dktX0_row_8 : List UInt8 := dkwX0_row_8 ++ dktX0_row_9
def dkwX0_row_7 : List UInt8 := [21, 4, 183, 0, 120, 182, 0, 194, 153, 0, 7, 4, 167, 0, 4, 3, 54, 5, 28, 21, 5, 153, 0, 7]
abbrev dktX0_row_7 : List UInt8 := dkwX0_row_7 ++ dktX0_row_8
def dkwX0_row_6 : List UInt8 := [184, 0, 190, 43, 29, 4, 96, 184, 0, 190, 43, 29, 5, 96, 184, 0, 190, 43, 29, 6, 96, 184, 0, 190]
abbrev dktX0_row_6 : List UInt8 := dkwX0_row_6 ++ dktX0_row_7
def dkwX0_row_5 : List UInt8 := [16, 14, 162, 0, 7, 4, 167, 0, 4, 3, 54, 5, 21, 5, 153, 0, 49, 42, 187, 0, 112, 89, 43, 29]
abbrev dktX0_row_5 : List UInt8 := dkwX0_row_5 ++ dktX0_row_6
def dkwX0_row_4 : List UInt8 := [6, 96, 184, 0, 190, 21, 4, 184, 0, 111, 153, 0, 22, 42, 180, 0, 18, 180, 0, 85, 182, 0, 89]
abbrev dktX0_row_4 : List UInt8 := dkwX0_row_4 ++ dktX0_row_5
def dkwX0_row_3 : List UInt8 := [159, 0, 56, 43, 29, 184, 0, 190, 43, 29, 4, 96, 184, 0, 190, 43, 29, 5, 96, 184, 0, 190, 43, 29]
abbrev dktX0_row_3 : List UInt8 := dkwX0_row_3 ++ dktX0_row_4
def dkwX0_row_2 : List UInt8 := [61, 3, 62, 29, 43, 190, 162, 1, 225, 2, 54, 4, 43, 29, 7, 96, 184, 0, 190, 54, 4, 21, 4, 2]
abbrev dktX0_row_2 : List UInt8 := dkwX0_row_2 ++ dktX0_row_3
def dkwX0_row_1 : List UInt8 := [180, 0, 52, 3, 43, 3, 42, 180, 0, 104, 184, 0, 181, 42, 3, 181, 0, 104, 42, 3, 181, 0, 187, 3]
abbrev dktX0_row_1 : List UInt8 := dkwX0_row_1 ++ dktX0_row_2
def dkwX0_row_0 : List UInt8 := [42, 180, 0, 104, 154, 0, 10, 42, 16, 250, 182, 0, 117, 172, 42, 180, 0, 104, 188, 8, 76, 42]
abbrev dktX0_row_0 : List UInt8 := dkwX0_row_0 ++ dktX0_row_1
theorem dksX0_row_0 : cX0_row.data.toList.drop 0 = dktX0_row_0 := by decide +kernel
theorem dksX0_row_1 : cX0_row.data.toList.drop 22 = dktX0_row_1 := dk_seg dksX0_row_0 22 rfl rfl
theorem dksX0_row_2 : cX0_row.data.toList.drop 46 = dktX0_row_2 := dk_seg dksX0_row_1 24 rfl rfl
theorem dksX0_row_3 : cX0_row.data.toList.drop 70 = dktX0_row_3 := dk_seg dksX0_row_2 24 rfl rfl
theorem dksX0_row_4 : cX0_row.data.toList.drop 94 = dktX0_row_4 := dk_seg dksX0_row_3 24 rfl rfl
theorem dksX0_row_5 : cX0_row.data.toList.drop 117 = dktX0_row_5 := dk_seg dksX0_row_4 23 rfl rfl
theorem dksX0_row_6 : cX0_row.data.toList.drop 141 = dktX0_row_6 := dk_seg dksX0_row_5 24 rfl rfl
theorem dksX0_row_7 : cX0_row.data.toList.drop 165 = dktX0_row_7 := dk_seg dksX0_row_6 24 rfl rfl
theorem dksX0_row_8 : cX0_row.data.toList.drop 189 = dktX0_row_8 := dk_seg dksX0_row_7 24 rfl rfl
theorem dksX0_row_9 : cX0_row.data.toList.drop 212 = dktX0_row_9 := dk_seg dksX0_row_8 23 rfl rfl
theorem dksX0_row_10 : cX0_row.data.toList.drop 236 = dktX0_row_10 := dk_seg dksX0_row_9 24 rfl rfl
theorem dksX0_row_11 : cX0_row.data.toList.drop 260 = dktX0_row_11 := dk_seg dksX0_row_10 24 rfl rfl
theorem dksX0_row_12 : cX0_row.data.toList.drop 283 = dktX0_row_12 := dk_seg dksX0_row_11 23 rfl rfl
theorem dksX0_row_13 : cX0_row.data.toList.drop 307 = dktX0_row_13 := dk_seg dksX0_row_12 24 rfl rfl
theorem dksX0_row_14 : cX0_row.data.toList.drop 329 = dktX0_row_14 := dk_seg dksX0_row_13 22 rfl rfl
theorem dksX0_row_15 : cX0_row.data.toList.drop 353 = dktX0_row_15 := dk_seg dksX0_row_14 24 rfl rfl
theorem dksX0_row_16 : cX0_row.data.toList.drop 376 = dktX0_row_16 := dk_seg dksX0_row_15 23 rfl rfl
theorem dksX0_row_17 : cX0_row.data.toList.drop 398 = dktX0_row_17 := dk_seg dksX0_row_16 22 rfl rfl
theorem dksX0_row_18 : cX0_row.data.toList.drop 420 = dktX0_row_18 := dk_seg dksX0_row_17 22 rfl rfl
theorem dksX0_row_19 : cX0_row.data.toList.drop 444 = dktX0_row_19 := dk_seg dksX0_row_18 24 rfl rfl
theorem dksX0_row_20 : cX0_row.data.toList.drop 468 = dktX0_row_20 := dk_seg dksX0_row_19 24 rfl rfl
theorem dksX0_row_21 : cX0_row.data.toList.drop 492 = dktX0_row_21 := dk_seg dksX0_row_20 24 rfl rfl
theorem dksX0_row_22 : cX0_row.data.toList.drop 516 = dktX0_row_22 := dk_seg dksX0_row_21 24 rfl rfl
theorem dX0_row_0 : decode cX0_row 0 = .ok (.aload_n 0, 1) := dk_42 (dk_at dksX0_row_0 0 rfl rfl)
theorem dX0_row_1 : decode cX0_row 1 = .ok (.getfield 104, 3) := dk_180 0 104 (dk_at dksX0_row_0 1 rfl rfl)
theorem dX0_row_4 : decode cX0_row 4 = .ok (.ifCond .ne 10, 3) := dk_154 0 10 (dk_at dksX0_row_0 4 rfl rfl)
theorem dX0_row_7 : decode cX0_row 7 = .ok (.aload_n 0, 1) := dk_42 (dk_at dksX0_row_0 7 rfl rfl)
theorem dX0_row_8 : decode cX0_row 8 = .ok (.bipush (-6), 2) := dk_16 250 (dk_at dksX0_row_0 8 rfl rfl)
theorem dX0_row_10 : decode cX0_row 10 = .ok (.invokevirtual 117, 3) := dk_182 0 117 (dk_at dksX0_row_0 10 rfl rfl)
theorem dX0_row_13 : decode cX0_row 13 = .ok (.ireturn, 1) := dk_172 (dk_at dksX0_row_0 13 rfl rfl)
theorem dX0_row_14 : decode cX0_row 14 = .ok (.aload_n 0, 1) := dk_42 (dk_at dksX0_row_0 14 rfl rfl)
theorem dX0_row_15 : decode cX0_row 15 = .ok (.getfield 104, 3) := dk_180 0 104 (dk_at dksX0_row_0 15 rfl rfl)
theorem dX0_row_18 : decode cX0_row 18 = .ok (.newarray .byte, 2) := dk_188_8 (dk_at dksX0_row_0 18 rfl rfl)
theorem dX0_row_20 : decode cX0_row 20 = .ok (.astore_n 1, 1) := dk_76 (dk_at dksX0_row_0 20 rfl rfl)
theorem dX0_row_21 : decode cX0_row 21 = .ok (.aload_n 0, 1) := dk_42 (dk_at dksX0_row_0 21 rfl rfl)
theorem dX0_row_22 : decode cX0_row 22 = .ok (.getfield 52, 3) := dk_180 0 52 (dk_at dksX0_row_1 0 rfl rfl)
theorem dX0_row_25 : decode cX0_row 25 = .ok (.iconst 0, 1) := dk_3 (dk_at dksX0_row_1 3 rfl rfl)
theorem dX0_row_26 : decode cX0_row 26 = .ok (.aload_n 1, 1) := dk_43 (dk_at dksX0_row_1 4 rfl rfl)
theorem dX0_row_27 : decode cX0_row 27 = .ok (.iconst 0, 1) := dk_3 (dk_at dksX0_row_1 5 rfl rfl)
theorem dX0_row_28 : decode cX0_row 28 = .ok (.aload_n 0, 1) := dk_42 (dk_at dksX0_row_1 6 rfl rfl)
theorem dX0_row_29 : decode cX0_row 29 = .ok (.getfield 104, 3) := dk_180 0 104 (dk_at dksX0_row_1 7 rfl rfl)
theorem dX0_row_32 : decode cX0_row 32 = .ok (.invokestatic 181, 3) := dk_184 0 181 (dk_at dksX0_row_1 10 rfl rfl)
theorem dX0_row_35 : decode cX0_row 35 = .ok (.aload_n 0, 1) := dk_42 (dk_at dksX0_row_1 13 rfl rfl)
theorem dX0_row_36 : decode cX0_row 36 = .ok (.iconst 0, 1) := dk_3 (dk_at dksX0_row_1 14 rfl rfl)
theorem dX0_row_37 : decode cX0_row 37 = .ok (.putfield 104, 3) := dk_181 0 104 (dk_at dksX0_row_1 15 rfl rfl)
theorem dX0_row_40 : decode cX0_row 40 = .ok (.aload_n 0, 1) := dk_42 (dk_at dksX0_row_1 18 rfl rfl)
theorem dX0_row_41 : decode cX0_row 41 = .ok (.iconst 0, 1) := dk_3 (dk_at dksX0_row_1 19 rfl rfl)
theorem dX0_row_42 : decode cX0_row 42 = .ok (.putfield 187, 3) := dk_181 0 187 (dk_at dksX0_row_1 20 rfl rfl)
theorem dX0_row_45 : decode cX0_row 45 = .ok (.iconst 0, 1) := dk_3 (dk_at dksX0_row_1 23 rfl rfl)
theorem dX0_row_46 : decode cX0_row 46 = .ok (.istore_n 2, 1) := dk_61 (dk_at dksX0_row_2 0 rfl rfl)
theorem dX0_row_47 : decode cX0_row 47 = .ok (.iconst 0, 1) := dk_3 (dk_at dksX0_row_2 1 rfl rfl)
theorem dX0_row_48 : decode cX0_row 48 = .ok (.istore_n 3, 1) := dk_62 (dk_at dksX0_row_2 2 rfl rfl)
theorem dX0_row_49 : decode cX0_row 49 = .ok (.iload_n 3, 1) := dk_29 (dk_at dksX0_row_2 3 rfl rfl)
theorem dX0_row_50 : decode cX0_row 50 = .ok (.aload_n 1, 1) := dk_43 (dk_at dksX0_row_2 4 rfl rfl)
theorem dX0_row_51 : decode cX0_row 51 = .ok (.arraylength, 1) := dk_190 (dk_at dksX0_row_2 5 rfl rfl)
theorem dX0_row_52 : decode cX0_row 52 = .ok (.if_icmp .ge 481, 3) := dk_162 1 225 (dk_at dksX0_row_2 6 rfl rfl)
theorem dX0_row_55 : decode cX0_row 55 = .ok (.iconst (-1), 1) := dk_2 (dk_at dksX0_row_2 9 rfl rfl)
theorem dX0_row_56 : decode cX0_row 56 = .ok (.istore 4, 2) := dk_54 4 (dk_at dksX0_row_2 10 rfl rfl)
theorem dX0_row_58 : decode cX0_row 58 = .ok (.aload_n 1, 1) := dk_43 (dk_at dksX0_row_2 12 rfl rfl)
theorem dX0_row_59 : decode cX0_row 59 = .ok (.iload_n 3, 1) := dk_29 (dk_at dksX0_row_2 13 rfl rfl)
theorem dX0_row_60 : decode cX0_row 60 = .ok (.iconst 4, 1) := dk_7 (dk_at dksX0_row_2 14 rfl rfl)
theorem dX0_row_61 : decode cX0_row 61 = .ok (.iadd, 1) := dk_96 (dk_at dksX0_row_2 15 rfl rfl)
theorem dX0_row_62 : decode cX0_row 62 = .ok (.invokestatic 190, 3) := dk_184 0 190 (dk_at dksX0_row_2 16 rfl rfl)
theorem dX0_row_65 : decode cX0_row 65 = .ok (.istore 4, 2) := dk_54 4 (dk_at dksX0_row_2 19 rfl rfl)
theorem dX0_row_67 : decode cX0_row 67 = .ok (.iload 4, 2) := dk_21 4 (dk_at dksX0_row_2 21 rfl rfl)
theorem dX0_row_69 : decode cX0_row 69 = .ok (.iconst (-1), 1) := dk_2 (dk_at dksX0_row_2 23 rfl rfl)
theorem dX0_row_70 : decode cX0_row 70 = .ok (.if_icmp .eq 56, 3) := dk_159 0 56 (dk_at dksX0_row_3 0 rfl rfl)
theorem dX0_row_73 : decode cX0_row 73 = .ok (.aload_n 1, 1) := dk_43 (dk_at dksX0_row_3 3 rfl rfl)
theorem dX0_row_74 : decode cX0_row 74 = .ok (.iload_n 3, 1) := dk_29 (dk_at dksX0_row_3 4 rfl rfl)
theorem dX0_row_75 : decode cX0_row 75 = .ok (.invokestatic 190, 3) := dk_184 0 190 (dk_at dksX0_row_3 5 rfl rfl)
theorem dX0_row_78 : decode cX0_row 78 = .ok (.aload_n 1, 1) := dk_43 (dk_at dksX0_row_3 8 rfl rfl)
theorem dX0_row_79 : decode cX0_row 79 = .ok (.iload_n 3, 1) := dk_29 (dk_at dksX0_row_3 9 rfl rfl)
theorem dX0_row_80 : decode cX0_row 80 = .ok (.iconst 1, 1) := dk_4 (dk_at dksX0_row_3 10 rfl rfl)
theorem dX0_row_81 : decode cX0_row 81 = .ok (.iadd, 1) := dk_96 (dk_at dksX0_row_3 11 rfl rfl)
theorem dX0_row_82 : decode cX0_row 82 = .ok (.invokestatic 190, 3) := dk_184 0 190 (dk_at dksX0_row_3 12 rfl rfl)
theorem dX0_row_85 : decode cX0_row 85 = .ok (.aload_n 1, 1) := dk_43 (dk_at dksX0_row_3 15 rfl rfl)
theorem dX0_row_86 : decode cX0_row 86 = .ok (.iload_n 3, 1) := dk_29 (dk_at dksX0_row_3 16 rfl rfl)
theorem dX0_row_87 : decode cX0_row 87 = .ok (.iconst 2, 1) := dk_5 (dk_at dksX0_row_3 17 rfl rfl)
theorem dX0_row_88 : decode cX0_row 88 = .ok (.iadd, 1) := dk_96 (dk_at dksX0_row_3 18 rfl rfl)
theorem dX0_row_89 : decode cX0_row 89 = .ok (.invokestatic 190, 3) := dk_184 0 190 (dk_at dksX0_row_3 19 rfl rfl)
theorem dX0_row_92 : decode cX0_row 92 = .ok (.aload_n 1, 1) := dk_43 (dk_at dksX0_row_3 22 rfl rfl)
theorem dX0_row_93 : decode cX0_row 93 = .ok (.iload_n 3, 1) := dk_29 (dk_at dksX0_row_3 23 rfl rfl)
theorem dX0_row_94 : decode cX0_row 94 = .ok (.iconst 3, 1) := dk_6 (dk_at dksX0_row_4 0 rfl rfl)
theorem dX0_row_95 : decode cX0_row 95 = .ok (.iadd, 1) := dk_96 (dk_at dksX0_row_4 1 rfl rfl)
theorem dX0_row_96 : decode cX0_row 96 = .ok (.invokestatic 190, 3) := dk_184 0 190 (dk_at dksX0_row_4 2 rfl rfl)
theorem dX0_row_99 : decode cX0_row 99 = .ok (.iload 4, 2) := dk_21 4 (dk_at dksX0_row_4 5 rfl rfl)
theorem dX0_row_101 : decode cX0_row 101 = .ok (.invokestatic 111, 3) := dk_184 0 111 (dk_at dksX0_row_4 7 rfl rfl)
theorem dX0_row_104 : decode cX0_row 104 = .ok (.ifCond .eq 22, 3) := dk_153 0 22 (dk_at dksX0_row_4 10 rfl rfl)
theorem dX0_row_107 : decode cX0_row 107 = .ok (.aload_n 0, 1) := dk_42 (dk_at dksX0_row_4 13 rfl rfl)
theorem dX0_row_108 : decode cX0_row 108 = .ok (.getfield 18, 3) := dk_180 0 18 (dk_at dksX0_row_4 14 rfl rfl)
theorem dX0_row_111 : decode cX0_row 111 = .ok (.getfield 85, 3) := dk_180 0 85 (dk_at dksX0_row_4 17 rfl rfl)
theorem dX0_row_114 : decode cX0_row 114 = .ok (.invokevirtual 89, 3) := dk_182 0 89 (dk_at dksX0_row_4 20 rfl rfl)
theorem dX0_row_117 : decode cX0_row 117 = .ok (.bipush 14, 2) := dk_16 14 (dk_at dksX0_row_5 0 rfl rfl)
theorem dX0_row_119 : decode cX0_row 119 = .ok (.if_icmp .ge 7, 3) := dk_162 0 7 (dk_at dksX0_row_5 2 rfl rfl)
theorem dX0_row_122 : decode cX0_row 122 = .ok (.iconst 1, 1) := dk_4 (dk_at dksX0_row_5 5 rfl rfl)
theorem dX0_row_123 : decode cX0_row 123 = .ok (.goto 4, 3) := dk_167 0 4 (dk_at dksX0_row_5 6 rfl rfl)
theorem dX0_row_126 : decode cX0_row 126 = .ok (.iconst 0, 1) := dk_3 (dk_at dksX0_row_5 9 rfl rfl)
theorem dX0_row_127 : decode cX0_row 127 = .ok (.istore 5, 2) := dk_54 5 (dk_at dksX0_row_5 10 rfl rfl)
theorem dX0_row_129 : decode cX0_row 129 = .ok (.iload 5, 2) := dk_21 5 (dk_at dksX0_row_5 12 rfl rfl)
theorem dX0_row_131 : decode cX0_row 131 = .ok (.ifCond .eq 49, 3) := dk_153 0 49 (dk_at dksX0_row_5 14 rfl rfl)
theorem dX0_row_134 : decode cX0_row 134 = .ok (.aload_n 0, 1) := dk_42 (dk_at dksX0_row_5 17 rfl rfl)
theorem dX0_row_135 : decode cX0_row 135 = .ok (.new 112, 3) := dk_187 0 112 (dk_at dksX0_row_5 18 rfl rfl)
theorem dX0_row_138 : decode cX0_row 138 = .ok (.dup, 1) := dk_89 (dk_at dksX0_row_5 21 rfl rfl)
theorem dX0_row_139 : decode cX0_row 139 = .ok (.aload_n 1, 1) := dk_43 (dk_at dksX0_row_5 22 rfl rfl)
theorem dX0_row_140 : decode cX0_row 140 = .ok (.iload_n 3, 1) := dk_29 (dk_at dksX0_row_5 23 rfl rfl)
theorem dX0_row_141 : decode cX0_row 141 = .ok (.invokestatic 190, 3) := dk_184 0 190 (dk_at dksX0_row_6 0 rfl rfl)
theorem dX0_row_144 : decode cX0_row 144 = .ok (.aload_n 1, 1) := dk_43 (dk_at dksX0_row_6 3 rfl rfl)
theorem dX0_row_145 : decode cX0_row 145 = .ok (.iload_n 3, 1) := dk_29 (dk_at dksX0_row_6 4 rfl rfl)
theorem dX0_row_146 : decode cX0_row 146 = .ok (.iconst 1, 1) := dk_4 (dk_at dksX0_row_6 5 rfl rfl)
theorem dX0_row_147 : decode cX0_row 147 = .ok (.iadd, 1) := dk_96 (dk_at dksX0_row_6 6 rfl rfl)
theorem dX0_row_148 : decode cX0_row 148 = .ok (.invokestatic 190, 3) := dk_184 0 190 (dk_at dksX0_row_6 7 rfl rfl)
theorem dX0_row_151 : decode cX0_row 151 = .ok (.aload_n 1, 1) := dk_43 (dk_at dksX0_row_6 10 rfl rfl)
theorem dX0_row_152 : decode cX0_row 152 = .ok (.iload_n 3, 1) := dk_29 (dk_at dksX0_row_6 11 rfl rfl)
theorem dX0_row_153 : decode cX0_row 153 = .ok (.iconst 2, 1) := dk_5 (dk_at dksX0_row_6 12 rfl rfl)
theorem dX0_row_154 : decode cX0_row 154 = .ok (.iadd, 1) := dk_96 (dk_at dksX0_row_6 13 rfl rfl)
theorem dX0_row_155 : decode cX0_row 155 = .ok (.invokestatic 190, 3) := dk_184 0 190 (dk_at dksX0_row_6 14 rfl rfl)
theorem dX0_row_158 : decode cX0_row 158 = .ok (.aload_n 1, 1) := dk_43 (dk_at dksX0_row_6 17 rfl rfl)
theorem dX0_row_159 : decode cX0_row 159 = .ok (.iload_n 3, 1) := dk_29 (dk_at dksX0_row_6 18 rfl rfl)
theorem dX0_row_160 : decode cX0_row 160 = .ok (.iconst 3, 1) := dk_6 (dk_at dksX0_row_6 19 rfl rfl)
theorem dX0_row_161 : decode cX0_row 161 = .ok (.iadd, 1) := dk_96 (dk_at dksX0_row_6 20 rfl rfl)
theorem dX0_row_162 : decode cX0_row 162 = .ok (.invokestatic 190, 3) := dk_184 0 190 (dk_at dksX0_row_6 21 rfl rfl)
theorem dX0_row_165 : decode cX0_row 165 = .ok (.iload 4, 2) := dk_21 4 (dk_at dksX0_row_7 0 rfl rfl)
theorem dX0_row_167 : decode cX0_row 167 = .ok (.invokespecial 120, 3) := dk_183 0 120 (dk_at dksX0_row_7 2 rfl rfl)
theorem dX0_row_170 : decode cX0_row 170 = .ok (.invokevirtual 194, 3) := dk_182 0 194 (dk_at dksX0_row_7 5 rfl rfl)
theorem dX0_row_173 : decode cX0_row 173 = .ok (.ifCond .eq 7, 3) := dk_153 0 7 (dk_at dksX0_row_7 8 rfl rfl)
theorem dX0_row_176 : decode cX0_row 176 = .ok (.iconst 1, 1) := dk_4 (dk_at dksX0_row_7 11 rfl rfl)
theorem dX0_row_177 : decode cX0_row 177 = .ok (.goto 4, 3) := dk_167 0 4 (dk_at dksX0_row_7 12 rfl rfl)
theorem dX0_row_180 : decode cX0_row 180 = .ok (.iconst 0, 1) := dk_3 (dk_at dksX0_row_7 15 rfl rfl)
theorem dX0_row_181 : decode cX0_row 181 = .ok (.istore 5, 2) := dk_54 5 (dk_at dksX0_row_7 16 rfl rfl)
theorem dX0_row_183 : decode cX0_row 183 = .ok (.iload_n 2, 1) := dk_28 (dk_at dksX0_row_7 18 rfl rfl)
theorem dX0_row_184 : decode cX0_row 184 = .ok (.iload 5, 2) := dk_21 5 (dk_at dksX0_row_7 19 rfl rfl)
theorem dX0_row_186 : decode cX0_row 186 = .ok (.ifCond .eq 7, 3) := dk_153 0 7 (dk_at dksX0_row_7 21 rfl rfl)
theorem dX0_row_189 : decode cX0_row 189 = .ok (.iconst 1, 1) := dk_4 (dk_at dksX0_row_8 0 rfl rfl)
theorem dX0_row_190 : decode cX0_row 190 = .ok (.goto 4, 3) := dk_167 0 4 (dk_at dksX0_row_8 1 rfl rfl)
theorem dX0_row_193 : decode cX0_row 193 = .ok (.iconst 0, 1) := dk_3 (dk_at dksX0_row_8 4 rfl rfl)
theorem dX0_row_194 : decode cX0_row 194 = .ok (.iadd, 1) := dk_96 (dk_at dksX0_row_8 5 rfl rfl)
theorem dX0_row_195 : decode cX0_row 195 = .ok (.istore_n 2, 1) := dk_61 (dk_at dksX0_row_8 6 rfl rfl)
theorem dX0_row_196 : decode cX0_row 196 = .ok (.aload_n 0, 1) := dk_42 (dk_at dksX0_row_8 7 rfl rfl)
theorem dX0_row_197 : decode cX0_row 197 = .ok (.dup, 1) := dk_89 (dk_at dksX0_row_8 8 rfl rfl)
theorem dX0_row_198 : decode cX0_row 198 = .ok (.getfield 187, 3) := dk_180 0 187 (dk_at dksX0_row_8 9 rfl rfl)
theorem dX0_row_201 : decode cX0_row 201 = .ok (.iload 5, 2) := dk_21 5 (dk_at dksX0_row_8 12 rfl rfl)
theorem dX0_row_203 : decode cX0_row 203 = .ok (.ifCond .eq 7, 3) := dk_153 0 7 (dk_at dksX0_row_8 14 rfl rfl)
theorem dX0_row_206 : decode cX0_row 206 = .ok (.iconst 0, 1) := dk_3 (dk_at dksX0_row_8 17 rfl rfl)
theorem dX0_row_207 : decode cX0_row 207 = .ok (.goto 4, 3) := dk_167 0 4 (dk_at dksX0_row_8 18 rfl rfl)
theorem dX0_row_210 : decode cX0_row 210 = .ok (.iconst 1, 1) := dk_4 (dk_at dksX0_row_8 21 rfl rfl)
theorem dX0_row_211 : decode cX0_row 211 = .ok (.iadd, 1) := dk_96 (dk_at dksX0_row_8 22 rfl rfl)
theorem dX0_row_212 : decode cX0_row 212 = .ok (.putfield 187, 3) := dk_181 0 187 (dk_at dksX0_row_9 0 rfl rfl)
theorem dX0_row_215 : decode cX0_row 215 = .ok (.goto 312, 3) := dk_167 1 56 (dk_at dksX0_row_9 3 rfl rfl)
theorem dX0_row_218 : decode cX0_row 218 = .ok (.astore 5, 2) := dk_58 5 (dk_at dksX0_row_9 6 rfl rfl)
theorem dX0_row_220 : decode cX0_row 220 = .ok (.iconst (-1), 1) := dk_2 (dk_at dksX0_row_9 8 rfl rfl)
theorem dX0_row_221 : decode cX0_row 221 = .ok (.istore 4, 2) := dk_54 4 (dk_at dksX0_row_9 9 rfl rfl)
theorem dX0_row_223 : decode cX0_row 223 = .ok (.iload 4, 2) := dk_21 4 (dk_at dksX0_row_9 11 rfl rfl)
theorem dX0_row_225 : decode cX0_row 225 = .ok (.iconst (-1), 1) := dk_2 (dk_at dksX0_row_9 13 rfl rfl)
theorem dX0_row_226 : decode cX0_row 226 = .ok (.if_icmp .eq 56, 3) := dk_159 0 56 (dk_at dksX0_row_9 14 rfl rfl)
theorem dX0_row_229 : decode cX0_row 229 = .ok (.aload_n 1, 1) := dk_43 (dk_at dksX0_row_9 17 rfl rfl)
theorem dX0_row_230 : decode cX0_row 230 = .ok (.iload_n 3, 1) := dk_29 (dk_at dksX0_row_9 18 rfl rfl)
theorem dX0_row_231 : decode cX0_row 231 = .ok (.invokestatic 190, 3) := dk_184 0 190 (dk_at dksX0_row_9 19 rfl rfl)
theorem dX0_row_234 : decode cX0_row 234 = .ok (.aload_n 1, 1) := dk_43 (dk_at dksX0_row_9 22 rfl rfl)
theorem dX0_row_235 : decode cX0_row 235 = .ok (.iload_n 3, 1) := dk_29 (dk_at dksX0_row_9 23 rfl rfl)
theorem dX0_row_236 : decode cX0_row 236 = .ok (.iconst 1, 1) := dk_4 (dk_at dksX0_row_10 0 rfl rfl)
theorem dX0_row_237 : decode cX0_row 237 = .ok (.iadd, 1) := dk_96 (dk_at dksX0_row_10 1 rfl rfl)
theorem dX0_row_238 : decode cX0_row 238 = .ok (.invokestatic 190, 3) := dk_184 0 190 (dk_at dksX0_row_10 2 rfl rfl)
theorem dX0_row_241 : decode cX0_row 241 = .ok (.aload_n 1, 1) := dk_43 (dk_at dksX0_row_10 5 rfl rfl)
theorem dX0_row_242 : decode cX0_row 242 = .ok (.iload_n 3, 1) := dk_29 (dk_at dksX0_row_10 6 rfl rfl)
theorem dX0_row_243 : decode cX0_row 243 = .ok (.iconst 2, 1) := dk_5 (dk_at dksX0_row_10 7 rfl rfl)
theorem dX0_row_244 : decode cX0_row 244 = .ok (.iadd, 1) := dk_96 (dk_at dksX0_row_10 8 rfl rfl)
theorem dX0_row_245 : decode cX0_row 245 = .ok (.invokestatic 190, 3) := dk_184 0 190 (dk_at dksX0_row_10 9 rfl rfl)
theorem dX0_row_248 : decode cX0_row 248 = .ok (.aload_n 1, 1) := dk_43 (dk_at dksX0_row_10 12 rfl rfl)
theorem dX0_row_249 : decode cX0_row 249 = .ok (.iload_n 3, 1) := dk_29 (dk_at dksX0_row_10 13 rfl rfl)
theorem dX0_row_250 : decode cX0_row 250 = .ok (.iconst 3, 1) := dk_6 (dk_at dksX0_row_10 14 rfl rfl)
theorem dX0_row_251 : decode cX0_row 251 = .ok (.iadd, 1) := dk_96 (dk_at dksX0_row_10 15 rfl rfl)
theorem dX0_row_252 : decode cX0_row 252 = .ok (.invokestatic 190, 3) := dk_184 0 190 (dk_at dksX0_row_10 16 rfl rfl)
theorem dX0_row_255 : decode cX0_row 255 = .ok (.iload 4, 2) := dk_21 4 (dk_at dksX0_row_10 19 rfl rfl)
theorem dX0_row_257 : decode cX0_row 257 = .ok (.invokestatic 111, 3) := dk_184 0 111 (dk_at dksX0_row_10 21 rfl rfl)
theorem dX0_row_260 : decode cX0_row 260 = .ok (.ifCond .eq 22, 3) := dk_153 0 22 (dk_at dksX0_row_11 0 rfl rfl)
theorem dX0_row_263 : decode cX0_row 263 = .ok (.aload_n 0, 1) := dk_42 (dk_at dksX0_row_11 3 rfl rfl)
theorem dX0_row_264 : decode cX0_row 264 = .ok (.getfield 18, 3) := dk_180 0 18 (dk_at dksX0_row_11 4 rfl rfl)
theorem dX0_row_267 : decode cX0_row 267 = .ok (.getfield 85, 3) := dk_180 0 85 (dk_at dksX0_row_11 7 rfl rfl)
theorem dX0_row_270 : decode cX0_row 270 = .ok (.invokevirtual 89, 3) := dk_182 0 89 (dk_at dksX0_row_11 10 rfl rfl)
theorem dX0_row_273 : decode cX0_row 273 = .ok (.bipush 14, 2) := dk_16 14 (dk_at dksX0_row_11 13 rfl rfl)
theorem dX0_row_275 : decode cX0_row 275 = .ok (.if_icmp .ge 7, 3) := dk_162 0 7 (dk_at dksX0_row_11 15 rfl rfl)
theorem dX0_row_278 : decode cX0_row 278 = .ok (.iconst 1, 1) := dk_4 (dk_at dksX0_row_11 18 rfl rfl)
theorem dX0_row_279 : decode cX0_row 279 = .ok (.goto 4, 3) := dk_167 0 4 (dk_at dksX0_row_11 19 rfl rfl)
theorem dX0_row_282 : decode cX0_row 282 = .ok (.iconst 0, 1) := dk_3 (dk_at dksX0_row_11 22 rfl rfl)
theorem dX0_row_283 : decode cX0_row 283 = .ok (.istore 5, 2) := dk_54 5 (dk_at dksX0_row_12 0 rfl rfl)
theorem dX0_row_285 : decode cX0_row 285 = .ok (.iload 5, 2) := dk_21 5 (dk_at dksX0_row_12 2 rfl rfl)
theorem dX0_row_287 : decode cX0_row 287 = .ok (.ifCond .eq 49, 3) := dk_153 0 49 (dk_at dksX0_row_12 4 rfl rfl)
theorem dX0_row_290 : decode cX0_row 290 = .ok (.aload_n 0, 1) := dk_42 (dk_at dksX0_row_12 7 rfl rfl)
theorem dX0_row_291 : decode cX0_row 291 = .ok (.new 112, 3) := dk_187 0 112 (dk_at dksX0_row_12 8 rfl rfl)
theorem dX0_row_294 : decode cX0_row 294 = .ok (.dup, 1) := dk_89 (dk_at dksX0_row_12 11 rfl rfl)
theorem dX0_row_295 : decode cX0_row 295 = .ok (.aload_n 1, 1) := dk_43 (dk_at dksX0_row_12 12 rfl rfl)
theorem dX0_row_296 : decode cX0_row 296 = .ok (.iload_n 3, 1) := dk_29 (dk_at dksX0_row_12 13 rfl rfl)
theorem dX0_row_297 : decode cX0_row 297 = .ok (.invokestatic 190, 3) := dk_184 0 190 (dk_at dksX0_row_12 14 rfl rfl)
theorem dX0_row_300 : decode cX0_row 300 = .ok (.aload_n 1, 1) := dk_43 (dk_at dksX0_row_12 17 rfl rfl)
theorem dX0_row_301 : decode cX0_row 301 = .ok (.iload_n 3, 1) := dk_29 (dk_at dksX0_row_12 18 rfl rfl)
theorem dX0_row_302 : decode cX0_row 302 = .ok (.iconst 1, 1) := dk_4 (dk_at dksX0_row_12 19 rfl rfl)
theorem dX0_row_303 : decode cX0_row 303 = .ok (.iadd, 1) := dk_96 (dk_at dksX0_row_12 20 rfl rfl)
theorem dX0_row_304 : decode cX0_row 304 = .ok (.invokestatic 190, 3) := dk_184 0 190 (dk_at dksX0_row_12 21 rfl rfl)
theorem dX0_row_307 : decode cX0_row 307 = .ok (.aload_n 1, 1) := dk_43 (dk_at dksX0_row_13 0 rfl rfl)
theorem dX0_row_308 : decode cX0_row 308 = .ok (.iload_n 3, 1) := dk_29 (dk_at dksX0_row_13 1 rfl rfl)
theorem dX0_row_309 : decode cX0_row 309 = .ok (.iconst 2, 1) := dk_5 (dk_at dksX0_row_13 2 rfl rfl)
theorem dX0_row_310 : decode cX0_row 310 = .ok (.iadd, 1) := dk_96 (dk_at dksX0_row_13 3 rfl rfl)
theorem dX0_row_311 : decode cX0_row 311 = .ok (.invokestatic 190, 3) := dk_184 0 190 (dk_at dksX0_row_13 4 rfl rfl)
theorem dX0_row_314 : decode cX0_row 314 = .ok (.aload_n 1, 1) := dk_43 (dk_at dksX0_row_13 7 rfl rfl)
theorem dX0_row_315 : decode cX0_row 315 = .ok (.iload_n 3, 1) := dk_29 (dk_at dksX0_row_13 8 rfl rfl)
theorem dX0_row_316 : decode cX0_row 316 = .ok (.iconst 3, 1) := dk_6 (dk_at dksX0_row_13 9 rfl rfl)
theorem dX0_row_317 : decode cX0_row 317 = .ok (.iadd, 1) := dk_96 (dk_at dksX0_row_13 10 rfl rfl)
theorem dX0_row_318 : decode cX0_row 318 = .ok (.invokestatic 190, 3) := dk_184 0 190 (dk_at dksX0_row_13 11 rfl rfl)
theorem dX0_row_321 : decode cX0_row 321 = .ok (.iload 4, 2) := dk_21 4 (dk_at dksX0_row_13 14 rfl rfl)
theorem dX0_row_323 : decode cX0_row 323 = .ok (.invokespecial 120, 3) := dk_183 0 120 (dk_at dksX0_row_13 16 rfl rfl)
theorem dX0_row_326 : decode cX0_row 326 = .ok (.invokevirtual 194, 3) := dk_182 0 194 (dk_at dksX0_row_13 19 rfl rfl)
theorem dX0_row_329 : decode cX0_row 329 = .ok (.ifCond .eq 7, 3) := dk_153 0 7 (dk_at dksX0_row_14 0 rfl rfl)
theorem dX0_row_332 : decode cX0_row 332 = .ok (.iconst 1, 1) := dk_4 (dk_at dksX0_row_14 3 rfl rfl)
theorem dX0_row_333 : decode cX0_row 333 = .ok (.goto 4, 3) := dk_167 0 4 (dk_at dksX0_row_14 4 rfl rfl)
theorem dX0_row_336 : decode cX0_row 336 = .ok (.iconst 0, 1) := dk_3 (dk_at dksX0_row_14 7 rfl rfl)
theorem dX0_row_337 : decode cX0_row 337 = .ok (.istore 5, 2) := dk_54 5 (dk_at dksX0_row_14 8 rfl rfl)
theorem dX0_row_339 : decode cX0_row 339 = .ok (.iload_n 2, 1) := dk_28 (dk_at dksX0_row_14 10 rfl rfl)
theorem dX0_row_340 : decode cX0_row 340 = .ok (.iload 5, 2) := dk_21 5 (dk_at dksX0_row_14 11 rfl rfl)
theorem dX0_row_342 : decode cX0_row 342 = .ok (.ifCond .eq 7, 3) := dk_153 0 7 (dk_at dksX0_row_14 13 rfl rfl)
theorem dX0_row_345 : decode cX0_row 345 = .ok (.iconst 1, 1) := dk_4 (dk_at dksX0_row_14 16 rfl rfl)
theorem dX0_row_346 : decode cX0_row 346 = .ok (.goto 4, 3) := dk_167 0 4 (dk_at dksX0_row_14 17 rfl rfl)
theorem dX0_row_349 : decode cX0_row 349 = .ok (.iconst 0, 1) := dk_3 (dk_at dksX0_row_14 20 rfl rfl)
theorem dX0_row_350 : decode cX0_row 350 = .ok (.iadd, 1) := dk_96 (dk_at dksX0_row_14 21 rfl rfl)
theorem dX0_row_351 : decode cX0_row 351 = .ok (.istore_n 2, 1) := dk_61 (dk_at dksX0_row_14 22 rfl rfl)
theorem dX0_row_352 : decode cX0_row 352 = .ok (.aload_n 0, 1) := dk_42 (dk_at dksX0_row_14 23 rfl rfl)
theorem dX0_row_353 : decode cX0_row 353 = .ok (.dup, 1) := dk_89 (dk_at dksX0_row_15 0 rfl rfl)
theorem dX0_row_354 : decode cX0_row 354 = .ok (.getfield 187, 3) := dk_180 0 187 (dk_at dksX0_row_15 1 rfl rfl)
theorem dX0_row_357 : decode cX0_row 357 = .ok (.iload 5, 2) := dk_21 5 (dk_at dksX0_row_15 4 rfl rfl)
theorem dX0_row_359 : decode cX0_row 359 = .ok (.ifCond .eq 7, 3) := dk_153 0 7 (dk_at dksX0_row_15 6 rfl rfl)
theorem dX0_row_362 : decode cX0_row 362 = .ok (.iconst 0, 1) := dk_3 (dk_at dksX0_row_15 9 rfl rfl)
theorem dX0_row_363 : decode cX0_row 363 = .ok (.goto 4, 3) := dk_167 0 4 (dk_at dksX0_row_15 10 rfl rfl)
theorem dX0_row_366 : decode cX0_row 366 = .ok (.iconst 1, 1) := dk_4 (dk_at dksX0_row_15 13 rfl rfl)
theorem dX0_row_367 : decode cX0_row 367 = .ok (.iadd, 1) := dk_96 (dk_at dksX0_row_15 14 rfl rfl)
theorem dX0_row_368 : decode cX0_row 368 = .ok (.putfield 187, 3) := dk_181 0 187 (dk_at dksX0_row_15 15 rfl rfl)
theorem dX0_row_371 : decode cX0_row 371 = .ok (.goto 156, 3) := dk_167 0 156 (dk_at dksX0_row_15 18 rfl rfl)
theorem dX0_row_374 : decode cX0_row 374 = .ok (.astore 6, 2) := dk_58 6 (dk_at dksX0_row_15 21 rfl rfl)
theorem dX0_row_376 : decode cX0_row 376 = .ok (.iload 4, 2) := dk_21 4 (dk_at dksX0_row_16 0 rfl rfl)
theorem dX0_row_378 : decode cX0_row 378 = .ok (.iconst (-1), 1) := dk_2 (dk_at dksX0_row_16 2 rfl rfl)
theorem dX0_row_379 : decode cX0_row 379 = .ok (.if_icmp .eq 56, 3) := dk_159 0 56 (dk_at dksX0_row_16 3 rfl rfl)
theorem dX0_row_382 : decode cX0_row 382 = .ok (.aload_n 1, 1) := dk_43 (dk_at dksX0_row_16 6 rfl rfl)
theorem dX0_row_383 : decode cX0_row 383 = .ok (.iload_n 3, 1) := dk_29 (dk_at dksX0_row_16 7 rfl rfl)
theorem dX0_row_384 : decode cX0_row 384 = .ok (.invokestatic 190, 3) := dk_184 0 190 (dk_at dksX0_row_16 8 rfl rfl)
theorem dX0_row_387 : decode cX0_row 387 = .ok (.aload_n 1, 1) := dk_43 (dk_at dksX0_row_16 11 rfl rfl)
theorem dX0_row_388 : decode cX0_row 388 = .ok (.iload_n 3, 1) := dk_29 (dk_at dksX0_row_16 12 rfl rfl)
theorem dX0_row_389 : decode cX0_row 389 = .ok (.iconst 1, 1) := dk_4 (dk_at dksX0_row_16 13 rfl rfl)
theorem dX0_row_390 : decode cX0_row 390 = .ok (.iadd, 1) := dk_96 (dk_at dksX0_row_16 14 rfl rfl)
theorem dX0_row_391 : decode cX0_row 391 = .ok (.invokestatic 190, 3) := dk_184 0 190 (dk_at dksX0_row_16 15 rfl rfl)
theorem dX0_row_394 : decode cX0_row 394 = .ok (.aload_n 1, 1) := dk_43 (dk_at dksX0_row_16 18 rfl rfl)
theorem dX0_row_395 : decode cX0_row 395 = .ok (.iload_n 3, 1) := dk_29 (dk_at dksX0_row_16 19 rfl rfl)
theorem dX0_row_396 : decode cX0_row 396 = .ok (.iconst 2, 1) := dk_5 (dk_at dksX0_row_16 20 rfl rfl)
theorem dX0_row_397 : decode cX0_row 397 = .ok (.iadd, 1) := dk_96 (dk_at dksX0_row_16 21 rfl rfl)
theorem dX0_row_398 : decode cX0_row 398 = .ok (.invokestatic 190, 3) := dk_184 0 190 (dk_at dksX0_row_17 0 rfl rfl)
theorem dX0_row_401 : decode cX0_row 401 = .ok (.aload_n 1, 1) := dk_43 (dk_at dksX0_row_17 3 rfl rfl)
theorem dX0_row_402 : decode cX0_row 402 = .ok (.iload_n 3, 1) := dk_29 (dk_at dksX0_row_17 4 rfl rfl)
theorem dX0_row_403 : decode cX0_row 403 = .ok (.iconst 3, 1) := dk_6 (dk_at dksX0_row_17 5 rfl rfl)
theorem dX0_row_404 : decode cX0_row 404 = .ok (.iadd, 1) := dk_96 (dk_at dksX0_row_17 6 rfl rfl)
theorem dX0_row_405 : decode cX0_row 405 = .ok (.invokestatic 190, 3) := dk_184 0 190 (dk_at dksX0_row_17 7 rfl rfl)
theorem dX0_row_408 : decode cX0_row 408 = .ok (.iload 4, 2) := dk_21 4 (dk_at dksX0_row_17 10 rfl rfl)
theorem dX0_row_410 : decode cX0_row 410 = .ok (.invokestatic 111, 3) := dk_184 0 111 (dk_at dksX0_row_17 12 rfl rfl)
theorem dX0_row_413 : decode cX0_row 413 = .ok (.ifCond .eq 22, 3) := dk_153 0 22 (dk_at dksX0_row_17 15 rfl rfl)
theorem dX0_row_416 : decode cX0_row 416 = .ok (.aload_n 0, 1) := dk_42 (dk_at dksX0_row_17 18 rfl rfl)
theorem dX0_row_417 : decode cX0_row 417 = .ok (.getfield 18, 3) := dk_180 0 18 (dk_at dksX0_row_17 19 rfl rfl)
theorem dX0_row_420 : decode cX0_row 420 = .ok (.getfield 85, 3) := dk_180 0 85 (dk_at dksX0_row_18 0 rfl rfl)
theorem dX0_row_423 : decode cX0_row 423 = .ok (.invokevirtual 89, 3) := dk_182 0 89 (dk_at dksX0_row_18 3 rfl rfl)
theorem dX0_row_426 : decode cX0_row 426 = .ok (.bipush 14, 2) := dk_16 14 (dk_at dksX0_row_18 6 rfl rfl)
theorem dX0_row_428 : decode cX0_row 428 = .ok (.if_icmp .ge 7, 3) := dk_162 0 7 (dk_at dksX0_row_18 8 rfl rfl)
theorem dX0_row_431 : decode cX0_row 431 = .ok (.iconst 1, 1) := dk_4 (dk_at dksX0_row_18 11 rfl rfl)
theorem dX0_row_432 : decode cX0_row 432 = .ok (.goto 4, 3) := dk_167 0 4 (dk_at dksX0_row_18 12 rfl rfl)
theorem dX0_row_435 : decode cX0_row 435 = .ok (.iconst 0, 1) := dk_3 (dk_at dksX0_row_18 15 rfl rfl)
theorem dX0_row_436 : decode cX0_row 436 = .ok (.istore 7, 2) := dk_54 7 (dk_at dksX0_row_18 16 rfl rfl)
theorem dX0_row_438 : decode cX0_row 438 = .ok (.iload 7, 2) := dk_21 7 (dk_at dksX0_row_18 18 rfl rfl)
theorem dX0_row_440 : decode cX0_row 440 = .ok (.ifCond .eq 49, 3) := dk_153 0 49 (dk_at dksX0_row_18 20 rfl rfl)
theorem dX0_row_443 : decode cX0_row 443 = .ok (.aload_n 0, 1) := dk_42 (dk_at dksX0_row_18 23 rfl rfl)
theorem dX0_row_444 : decode cX0_row 444 = .ok (.new 112, 3) := dk_187 0 112 (dk_at dksX0_row_19 0 rfl rfl)
theorem dX0_row_447 : decode cX0_row 447 = .ok (.dup, 1) := dk_89 (dk_at dksX0_row_19 3 rfl rfl)
theorem dX0_row_448 : decode cX0_row 448 = .ok (.aload_n 1, 1) := dk_43 (dk_at dksX0_row_19 4 rfl rfl)
theorem dX0_row_449 : decode cX0_row 449 = .ok (.iload_n 3, 1) := dk_29 (dk_at dksX0_row_19 5 rfl rfl)
theorem dX0_row_450 : decode cX0_row 450 = .ok (.invokestatic 190, 3) := dk_184 0 190 (dk_at dksX0_row_19 6 rfl rfl)
theorem dX0_row_453 : decode cX0_row 453 = .ok (.aload_n 1, 1) := dk_43 (dk_at dksX0_row_19 9 rfl rfl)
theorem dX0_row_454 : decode cX0_row 454 = .ok (.iload_n 3, 1) := dk_29 (dk_at dksX0_row_19 10 rfl rfl)
theorem dX0_row_455 : decode cX0_row 455 = .ok (.iconst 1, 1) := dk_4 (dk_at dksX0_row_19 11 rfl rfl)
theorem dX0_row_456 : decode cX0_row 456 = .ok (.iadd, 1) := dk_96 (dk_at dksX0_row_19 12 rfl rfl)
theorem dX0_row_457 : decode cX0_row 457 = .ok (.invokestatic 190, 3) := dk_184 0 190 (dk_at dksX0_row_19 13 rfl rfl)
theorem dX0_row_460 : decode cX0_row 460 = .ok (.aload_n 1, 1) := dk_43 (dk_at dksX0_row_19 16 rfl rfl)
theorem dX0_row_461 : decode cX0_row 461 = .ok (.iload_n 3, 1) := dk_29 (dk_at dksX0_row_19 17 rfl rfl)
theorem dX0_row_462 : decode cX0_row 462 = .ok (.iconst 2, 1) := dk_5 (dk_at dksX0_row_19 18 rfl rfl)
theorem dX0_row_463 : decode cX0_row 463 = .ok (.iadd, 1) := dk_96 (dk_at dksX0_row_19 19 rfl rfl)
theorem dX0_row_464 : decode cX0_row 464 = .ok (.invokestatic 190, 3) := dk_184 0 190 (dk_at dksX0_row_19 20 rfl rfl)
theorem dX0_row_467 : decode cX0_row 467 = .ok (.aload_n 1, 1) := dk_43 (dk_at dksX0_row_19 23 rfl rfl)
theorem dX0_row_468 : decode cX0_row 468 = .ok (.iload_n 3, 1) := dk_29 (dk_at dksX0_row_20 0 rfl rfl)
theorem dX0_row_469 : decode cX0_row 469 = .ok (.iconst 3, 1) := dk_6 (dk_at dksX0_row_20 1 rfl rfl)
theorem dX0_row_470 : decode cX0_row 470 = .ok (.iadd, 1) := dk_96 (dk_at dksX0_row_20 2 rfl rfl)
theorem dX0_row_471 : decode cX0_row 471 = .ok (.invokestatic 190, 3) := dk_184 0 190 (dk_at dksX0_row_20 3 rfl rfl)
theorem dX0_row_474 : decode cX0_row 474 = .ok (.iload 4, 2) := dk_21 4 (dk_at dksX0_row_20 6 rfl rfl)
theorem dX0_row_476 : decode cX0_row 476 = .ok (.invokespecial 120, 3) := dk_183 0 120 (dk_at dksX0_row_20 8 rfl rfl)
theorem dX0_row_479 : decode cX0_row 479 = .ok (.invokevirtual 194, 3) := dk_182 0 194 (dk_at dksX0_row_20 11 rfl rfl)
theorem dX0_row_482 : decode cX0_row 482 = .ok (.ifCond .eq 7, 3) := dk_153 0 7 (dk_at dksX0_row_20 14 rfl rfl)
theorem dX0_row_485 : decode cX0_row 485 = .ok (.iconst 1, 1) := dk_4 (dk_at dksX0_row_20 17 rfl rfl)
theorem dX0_row_486 : decode cX0_row 486 = .ok (.goto 4, 3) := dk_167 0 4 (dk_at dksX0_row_20 18 rfl rfl)
theorem dX0_row_489 : decode cX0_row 489 = .ok (.iconst 0, 1) := dk_3 (dk_at dksX0_row_20 21 rfl rfl)
theorem dX0_row_490 : decode cX0_row 490 = .ok (.istore 7, 2) := dk_54 7 (dk_at dksX0_row_20 22 rfl rfl)
theorem dX0_row_492 : decode cX0_row 492 = .ok (.iload_n 2, 1) := dk_28 (dk_at dksX0_row_21 0 rfl rfl)
theorem dX0_row_493 : decode cX0_row 493 = .ok (.iload 7, 2) := dk_21 7 (dk_at dksX0_row_21 1 rfl rfl)
theorem dX0_row_495 : decode cX0_row 495 = .ok (.ifCond .eq 7, 3) := dk_153 0 7 (dk_at dksX0_row_21 3 rfl rfl)
theorem dX0_row_498 : decode cX0_row 498 = .ok (.iconst 1, 1) := dk_4 (dk_at dksX0_row_21 6 rfl rfl)
theorem dX0_row_499 : decode cX0_row 499 = .ok (.goto 4, 3) := dk_167 0 4 (dk_at dksX0_row_21 7 rfl rfl)
theorem dX0_row_502 : decode cX0_row 502 = .ok (.iconst 0, 1) := dk_3 (dk_at dksX0_row_21 10 rfl rfl)
theorem dX0_row_503 : decode cX0_row 503 = .ok (.iadd, 1) := dk_96 (dk_at dksX0_row_21 11 rfl rfl)
theorem dX0_row_504 : decode cX0_row 504 = .ok (.istore_n 2, 1) := dk_61 (dk_at dksX0_row_21 12 rfl rfl)
theorem dX0_row_505 : decode cX0_row 505 = .ok (.aload_n 0, 1) := dk_42 (dk_at dksX0_row_21 13 rfl rfl)
theorem dX0_row_506 : decode cX0_row 506 = .ok (.dup, 1) := dk_89 (dk_at dksX0_row_21 14 rfl rfl)
theorem dX0_row_507 : decode cX0_row 507 = .ok (.getfield 187, 3) := dk_180 0 187 (dk_at dksX0_row_21 15 rfl rfl)
theorem dX0_row_510 : decode cX0_row 510 = .ok (.iload 7, 2) := dk_21 7 (dk_at dksX0_row_21 18 rfl rfl)
theorem dX0_row_512 : decode cX0_row 512 = .ok (.ifCond .eq 7, 3) := dk_153 0 7 (dk_at dksX0_row_21 20 rfl rfl)
theorem dX0_row_515 : decode cX0_row 515 = .ok (.iconst 0, 1) := dk_3 (dk_at dksX0_row_21 23 rfl rfl)
theorem dX0_row_516 : decode cX0_row 516 = .ok (.goto 4, 3) := dk_167 0 4 (dk_at dksX0_row_22 0 rfl rfl)
theorem dX0_row_519 : decode cX0_row 519 = .ok (.iconst 1, 1) := dk_4 (dk_at dksX0_row_22 3 rfl rfl)
theorem dX0_row_520 : decode cX0_row 520 = .ok (.iadd, 1) := dk_96 (dk_at dksX0_row_22 4 rfl rfl)
theorem dX0_row_521 : decode cX0_row 521 = .ok (.putfield 187, 3) := dk_181 0 187 (dk_at dksX0_row_22 5 rfl rfl)
theorem dX0_row_524 : decode cX0_row 524 = .ok (.aload 6, 2) := dk_25 6 (dk_at dksX0_row_22 8 rfl rfl)
theorem dX0_row_526 : decode cX0_row 526 = .ok (.athrow, 1) := dk_191 (dk_at dksX0_row_22 10 rfl rfl)
theorem dX0_row_527 : decode cX0_row 527 = .ok (.iinc 3 5, 3) := dk_132 3 5 (dk_at dksX0_row_22 11 rfl rfl)
theorem dX0_row_530 : decode cX0_row 530 = .ok (.goto (-481), 3) := dk_167 254 31 (dk_at dksX0_row_22 14 rfl rfl)
theorem dX0_row_533 : decode cX0_row 533 = .ok (.aload_n 0, 1) := dk_42 (dk_at dksX0_row_22 17 rfl rfl)
theorem dX0_row_534 : decode cX0_row 534 = .ok (.iload_n 2, 1) := dk_28 (dk_at dksX0_row_22 18 rfl rfl)
theorem dX0_row_535 : decode cX0_row 535 = .ok (.invokevirtual 131, 3) := dk_182 0 131 (dk_at dksX0_row_22 19 rfl rfl)
theorem dX0_row_538 : decode cX0_row 538 = .ok (.ireturn, 1) := dk_172 (dk_at dksX0_row_22 22 rfl rfl)
abbrev cX0_byteAt : ByteArray := prog_1_method_19_code
def yX0_byteAt : MethodName := ⟨RX0, "byteAt", "([BI)I"⟩
def dkwX0_byteAt_0 : List UInt8 := [42, 27, 51, 17, 0, 255, 126, 172]
abbrev dktX0_byteAt_0 : List UInt8 := dkwX0_byteAt_0 ++ []
theorem dksX0_byteAt_0 : cX0_byteAt.data.toList.drop 0 = dktX0_byteAt_0 := by decide +kernel
theorem dX0_byteAt_0 : decode cX0_byteAt 0 = .ok (.aload_n 0, 1) := dk_42 (dk_at dksX0_byteAt_0 0 rfl rfl)
theorem dX0_byteAt_1 : decode cX0_byteAt 1 = .ok (.iload_n 1, 1) := dk_27 (dk_at dksX0_byteAt_0 1 rfl rfl)
theorem dX0_byteAt_2 : decode cX0_byteAt 2 = .ok (.baload, 1) := dk_51 (dk_at dksX0_byteAt_0 2 rfl rfl)
theorem dX0_byteAt_3 : decode cX0_byteAt 3 = .ok (.sipush 255, 3) := dk_17 0 255 (dk_at dksX0_byteAt_0 3 rfl rfl)
theorem dX0_byteAt_6 : decode cX0_byteAt 6 = .ok (.iand, 1) := dk_126 (dk_at dksX0_byteAt_0 6 rfl rfl)
theorem dX0_byteAt_7 : decode cX0_byteAt 7 = .ok (.ireturn, 1) := dk_172 (dk_at dksX0_byteAt_0 7 rfl rfl)
abbrev cX0_add : ByteArray := prog_1_method_21_code
def yX0_add : MethodName := ⟨RX0, "add", "(LFiveTouch$Stone;)Z"⟩
def dkwX0_add_2 : List UInt8 := [182, 0, 127, 87, 4, 172]
abbrev dktX0_add_2 : List UInt8 := dkwX0_add_2 ++ []
def dkwX0_add_1 : List UInt8 := [180, 0, 18, 180, 0, 85, 182, 0, 89, 120, 128, 181, 0, 101, 42, 180, 0, 18, 180, 0, 85, 43]
abbrev dktX0_add_1 : List UInt8 := dkwX0_add_1 ++ dktX0_add_2
def dkwX0_add_0 : List UInt8 := [42, 180, 0, 18, 43, 182, 0, 123, 154, 0, 5, 3, 172, 42, 180, 0, 18, 89, 180, 0, 101, 4, 42]
abbrev dktX0_add_0 : List UInt8 := dkwX0_add_0 ++ dktX0_add_1
theorem dksX0_add_0 : cX0_add.data.toList.drop 0 = dktX0_add_0 := by decide +kernel
theorem dksX0_add_1 : cX0_add.data.toList.drop 23 = dktX0_add_1 := dk_seg dksX0_add_0 23 rfl rfl
theorem dksX0_add_2 : cX0_add.data.toList.drop 45 = dktX0_add_2 := dk_seg dksX0_add_1 22 rfl rfl
theorem dX0_add_0 : decode cX0_add 0 = .ok (.aload_n 0, 1) := dk_42 (dk_at dksX0_add_0 0 rfl rfl)
theorem dX0_add_1 : decode cX0_add 1 = .ok (.getfield 18, 3) := dk_180 0 18 (dk_at dksX0_add_0 1 rfl rfl)
theorem dX0_add_4 : decode cX0_add 4 = .ok (.aload_n 1, 1) := dk_43 (dk_at dksX0_add_0 4 rfl rfl)
theorem dX0_add_5 : decode cX0_add 5 = .ok (.invokevirtual 123, 3) := dk_182 0 123 (dk_at dksX0_add_0 5 rfl rfl)
theorem dX0_add_8 : decode cX0_add 8 = .ok (.ifCond .ne 5, 3) := dk_154 0 5 (dk_at dksX0_add_0 8 rfl rfl)
theorem dX0_add_11 : decode cX0_add 11 = .ok (.iconst 0, 1) := dk_3 (dk_at dksX0_add_0 11 rfl rfl)
theorem dX0_add_12 : decode cX0_add 12 = .ok (.ireturn, 1) := dk_172 (dk_at dksX0_add_0 12 rfl rfl)
theorem dX0_add_13 : decode cX0_add 13 = .ok (.aload_n 0, 1) := dk_42 (dk_at dksX0_add_0 13 rfl rfl)
theorem dX0_add_14 : decode cX0_add 14 = .ok (.getfield 18, 3) := dk_180 0 18 (dk_at dksX0_add_0 14 rfl rfl)
theorem dX0_add_17 : decode cX0_add 17 = .ok (.dup, 1) := dk_89 (dk_at dksX0_add_0 17 rfl rfl)
theorem dX0_add_18 : decode cX0_add 18 = .ok (.getfield 101, 3) := dk_180 0 101 (dk_at dksX0_add_0 18 rfl rfl)
theorem dX0_add_21 : decode cX0_add 21 = .ok (.iconst 1, 1) := dk_4 (dk_at dksX0_add_0 21 rfl rfl)
theorem dX0_add_22 : decode cX0_add 22 = .ok (.aload_n 0, 1) := dk_42 (dk_at dksX0_add_0 22 rfl rfl)
theorem dX0_add_23 : decode cX0_add 23 = .ok (.getfield 18, 3) := dk_180 0 18 (dk_at dksX0_add_1 0 rfl rfl)
theorem dX0_add_26 : decode cX0_add 26 = .ok (.getfield 85, 3) := dk_180 0 85 (dk_at dksX0_add_1 3 rfl rfl)
theorem dX0_add_29 : decode cX0_add 29 = .ok (.invokevirtual 89, 3) := dk_182 0 89 (dk_at dksX0_add_1 6 rfl rfl)
theorem dX0_add_32 : decode cX0_add 32 = .ok (.ishl, 1) := dk_120 (dk_at dksX0_add_1 9 rfl rfl)
theorem dX0_add_33 : decode cX0_add 33 = .ok (.ior, 1) := dk_128 (dk_at dksX0_add_1 10 rfl rfl)
theorem dX0_add_34 : decode cX0_add 34 = .ok (.putfield 101, 3) := dk_181 0 101 (dk_at dksX0_add_1 11 rfl rfl)
theorem dX0_add_37 : decode cX0_add 37 = .ok (.aload_n 0, 1) := dk_42 (dk_at dksX0_add_1 14 rfl rfl)
theorem dX0_add_38 : decode cX0_add 38 = .ok (.getfield 18, 3) := dk_180 0 18 (dk_at dksX0_add_1 15 rfl rfl)
theorem dX0_add_41 : decode cX0_add 41 = .ok (.getfield 85, 3) := dk_180 0 85 (dk_at dksX0_add_1 18 rfl rfl)
theorem dX0_add_44 : decode cX0_add 44 = .ok (.aload_n 1, 1) := dk_43 (dk_at dksX0_add_1 21 rfl rfl)
theorem dX0_add_45 : decode cX0_add 45 = .ok (.invokevirtual 127, 3) := dk_182 0 127 (dk_at dksX0_add_2 0 rfl rfl)
theorem dX0_add_48 : decode cX0_add 48 = .ok (.pop, 1) := dk_87 (dk_at dksX0_add_2 3 rfl rfl)
theorem dX0_add_49 : decode cX0_add 49 = .ok (.iconst 1, 1) := dk_4 (dk_at dksX0_add_2 4 rfl rfl)
theorem dX0_add_50 : decode cX0_add 50 = .ok (.ireturn, 1) := dk_172 (dk_at dksX0_add_2 5 rfl rfl)
abbrev cX0_rubble : ByteArray := prog_1_method_22_code
def yX0_rubble : MethodName := ⟨RX0, "rubble", "()I"⟩
theorem dX0_rubble_0 : decode cX0_rubble 0 = .ok (.aload_n 0, 1) := by decide +kernel
theorem dX0_rubble_1 : decode cX0_rubble 1 = .ok (.getfield 187, 3) := by decide +kernel
theorem dX0_rubble_4 : decode cX0_rubble 4 = .ok (.ireturn, 1) := by decide +kernel
abbrev cX0_law : ByteArray := prog_1_method_23_code
def yX0_law : MethodName := ⟨RX0, "law", "()I"⟩
def dkwX0_law_4 : List UInt8 := [182, 0, 117, 61, 42, 3, 181, 0, 104, 28, 172, 78, 42, 3, 181, 0, 104, 45, 191]
abbrev dktX0_law_4 : List UInt8 := dkwX0_law_4 ++ []
def dkwX0_law_3 : List UInt8 := [182, 0, 117, 60, 42, 3, 181, 0, 104, 27, 172, 76, 42, 43, 180, 0, 210, 181, 0, 48, 42, 16, 250]
abbrev dktX0_law_3 : List UInt8 := dkwX0_law_3 ++ dktX0_law_4
def dkwX0_law_2 : List UInt8 := [182, 0, 127, 87, 42, 2, 181, 0, 48, 42, 42, 180, 0, 18, 180, 0, 198, 182, 0, 89, 4, 100]
abbrev dktX0_law_2 : List UInt8 := dkwX0_law_2 ++ dktX0_law_3
def dkwX0_law_1 : List UInt8 := [182, 0, 117, 172, 42, 180, 0, 18, 180, 0, 198, 187, 0, 201, 89, 42, 183, 0, 203, 182, 0, 204]
abbrev dktX0_law_1 : List UInt8 := dkwX0_law_1 ++ dktX0_law_2
def dkwX0_law_0 : List UInt8 := [42, 180, 0, 18, 180, 0, 198, 182, 0, 89, 16, 6, 160, 0, 15, 42, 3, 181, 0, 104, 42, 16, 251]
abbrev dktX0_law_0 : List UInt8 := dkwX0_law_0 ++ dktX0_law_1
theorem dksX0_law_0 : cX0_law.data.toList.drop 0 = dktX0_law_0 := by decide +kernel
theorem dksX0_law_1 : cX0_law.data.toList.drop 23 = dktX0_law_1 := dk_seg dksX0_law_0 23 rfl rfl
theorem dksX0_law_2 : cX0_law.data.toList.drop 45 = dktX0_law_2 := dk_seg dksX0_law_1 22 rfl rfl
theorem dksX0_law_3 : cX0_law.data.toList.drop 67 = dktX0_law_3 := dk_seg dksX0_law_2 22 rfl rfl
theorem dksX0_law_4 : cX0_law.data.toList.drop 90 = dktX0_law_4 := dk_seg dksX0_law_3 23 rfl rfl
theorem dX0_law_0 : decode cX0_law 0 = .ok (.aload_n 0, 1) := dk_42 (dk_at dksX0_law_0 0 rfl rfl)
theorem dX0_law_1 : decode cX0_law 1 = .ok (.getfield 18, 3) := dk_180 0 18 (dk_at dksX0_law_0 1 rfl rfl)
theorem dX0_law_4 : decode cX0_law 4 = .ok (.getfield 198, 3) := dk_180 0 198 (dk_at dksX0_law_0 4 rfl rfl)
theorem dX0_law_7 : decode cX0_law 7 = .ok (.invokevirtual 89, 3) := dk_182 0 89 (dk_at dksX0_law_0 7 rfl rfl)
theorem dX0_law_10 : decode cX0_law 10 = .ok (.bipush 6, 2) := dk_16 6 (dk_at dksX0_law_0 10 rfl rfl)
theorem dX0_law_12 : decode cX0_law 12 = .ok (.if_icmp .ne 15, 3) := dk_160 0 15 (dk_at dksX0_law_0 12 rfl rfl)
theorem dX0_law_15 : decode cX0_law 15 = .ok (.aload_n 0, 1) := dk_42 (dk_at dksX0_law_0 15 rfl rfl)
theorem dX0_law_16 : decode cX0_law 16 = .ok (.iconst 0, 1) := dk_3 (dk_at dksX0_law_0 16 rfl rfl)
theorem dX0_law_17 : decode cX0_law 17 = .ok (.putfield 104, 3) := dk_181 0 104 (dk_at dksX0_law_0 17 rfl rfl)
theorem dX0_law_20 : decode cX0_law 20 = .ok (.aload_n 0, 1) := dk_42 (dk_at dksX0_law_0 20 rfl rfl)
theorem dX0_law_21 : decode cX0_law 21 = .ok (.bipush (-5), 2) := dk_16 251 (dk_at dksX0_law_0 21 rfl rfl)
theorem dX0_law_23 : decode cX0_law 23 = .ok (.invokevirtual 117, 3) := dk_182 0 117 (dk_at dksX0_law_1 0 rfl rfl)
theorem dX0_law_26 : decode cX0_law 26 = .ok (.ireturn, 1) := dk_172 (dk_at dksX0_law_1 3 rfl rfl)
theorem dX0_law_27 : decode cX0_law 27 = .ok (.aload_n 0, 1) := dk_42 (dk_at dksX0_law_1 4 rfl rfl)
theorem dX0_law_28 : decode cX0_law 28 = .ok (.getfield 18, 3) := dk_180 0 18 (dk_at dksX0_law_1 5 rfl rfl)
theorem dX0_law_31 : decode cX0_law 31 = .ok (.getfield 198, 3) := dk_180 0 198 (dk_at dksX0_law_1 8 rfl rfl)
theorem dX0_law_34 : decode cX0_law 34 = .ok (.new 201, 3) := dk_187 0 201 (dk_at dksX0_law_1 11 rfl rfl)
theorem dX0_law_37 : decode cX0_law 37 = .ok (.dup, 1) := dk_89 (dk_at dksX0_law_1 14 rfl rfl)
theorem dX0_law_38 : decode cX0_law 38 = .ok (.aload_n 0, 1) := dk_42 (dk_at dksX0_law_1 15 rfl rfl)
theorem dX0_law_39 : decode cX0_law 39 = .ok (.invokespecial 203, 3) := dk_183 0 203 (dk_at dksX0_law_1 16 rfl rfl)
theorem dX0_law_42 : decode cX0_law 42 = .ok (.invokevirtual 204, 3) := dk_182 0 204 (dk_at dksX0_law_1 19 rfl rfl)
theorem dX0_law_45 : decode cX0_law 45 = .ok (.invokevirtual 127, 3) := dk_182 0 127 (dk_at dksX0_law_2 0 rfl rfl)
theorem dX0_law_48 : decode cX0_law 48 = .ok (.pop, 1) := dk_87 (dk_at dksX0_law_2 3 rfl rfl)
theorem dX0_law_49 : decode cX0_law 49 = .ok (.aload_n 0, 1) := dk_42 (dk_at dksX0_law_2 4 rfl rfl)
theorem dX0_law_50 : decode cX0_law 50 = .ok (.iconst (-1), 1) := dk_2 (dk_at dksX0_law_2 5 rfl rfl)
theorem dX0_law_51 : decode cX0_law 51 = .ok (.putfield 48, 3) := dk_181 0 48 (dk_at dksX0_law_2 6 rfl rfl)
theorem dX0_law_54 : decode cX0_law 54 = .ok (.aload_n 0, 1) := dk_42 (dk_at dksX0_law_2 9 rfl rfl)
theorem dX0_law_55 : decode cX0_law 55 = .ok (.aload_n 0, 1) := dk_42 (dk_at dksX0_law_2 10 rfl rfl)
theorem dX0_law_56 : decode cX0_law 56 = .ok (.getfield 18, 3) := dk_180 0 18 (dk_at dksX0_law_2 11 rfl rfl)
theorem dX0_law_59 : decode cX0_law 59 = .ok (.getfield 198, 3) := dk_180 0 198 (dk_at dksX0_law_2 14 rfl rfl)
theorem dX0_law_62 : decode cX0_law 62 = .ok (.invokevirtual 89, 3) := dk_182 0 89 (dk_at dksX0_law_2 17 rfl rfl)
theorem dX0_law_65 : decode cX0_law 65 = .ok (.iconst 1, 1) := dk_4 (dk_at dksX0_law_2 20 rfl rfl)
theorem dX0_law_66 : decode cX0_law 66 = .ok (.isub, 1) := dk_100 (dk_at dksX0_law_2 21 rfl rfl)
theorem dX0_law_67 : decode cX0_law 67 = .ok (.invokevirtual 117, 3) := dk_182 0 117 (dk_at dksX0_law_3 0 rfl rfl)
theorem dX0_law_70 : decode cX0_law 70 = .ok (.istore_n 1, 1) := dk_60 (dk_at dksX0_law_3 3 rfl rfl)
theorem dX0_law_71 : decode cX0_law 71 = .ok (.aload_n 0, 1) := dk_42 (dk_at dksX0_law_3 4 rfl rfl)
theorem dX0_law_72 : decode cX0_law 72 = .ok (.iconst 0, 1) := dk_3 (dk_at dksX0_law_3 5 rfl rfl)
theorem dX0_law_73 : decode cX0_law 73 = .ok (.putfield 104, 3) := dk_181 0 104 (dk_at dksX0_law_3 6 rfl rfl)
theorem dX0_law_76 : decode cX0_law 76 = .ok (.iload_n 1, 1) := dk_27 (dk_at dksX0_law_3 9 rfl rfl)
theorem dX0_law_77 : decode cX0_law 77 = .ok (.ireturn, 1) := dk_172 (dk_at dksX0_law_3 10 rfl rfl)
theorem dX0_law_78 : decode cX0_law 78 = .ok (.astore_n 1, 1) := dk_76 (dk_at dksX0_law_3 11 rfl rfl)
theorem dX0_law_79 : decode cX0_law 79 = .ok (.aload_n 0, 1) := dk_42 (dk_at dksX0_law_3 12 rfl rfl)
theorem dX0_law_80 : decode cX0_law 80 = .ok (.aload_n 1, 1) := dk_43 (dk_at dksX0_law_3 13 rfl rfl)
theorem dX0_law_81 : decode cX0_law 81 = .ok (.getfield 210, 3) := dk_180 0 210 (dk_at dksX0_law_3 14 rfl rfl)
theorem dX0_law_84 : decode cX0_law 84 = .ok (.putfield 48, 3) := dk_181 0 48 (dk_at dksX0_law_3 17 rfl rfl)
theorem dX0_law_87 : decode cX0_law 87 = .ok (.aload_n 0, 1) := dk_42 (dk_at dksX0_law_3 20 rfl rfl)
theorem dX0_law_88 : decode cX0_law 88 = .ok (.bipush (-6), 2) := dk_16 250 (dk_at dksX0_law_3 21 rfl rfl)
theorem dX0_law_90 : decode cX0_law 90 = .ok (.invokevirtual 117, 3) := dk_182 0 117 (dk_at dksX0_law_4 0 rfl rfl)
theorem dX0_law_93 : decode cX0_law 93 = .ok (.istore_n 2, 1) := dk_61 (dk_at dksX0_law_4 3 rfl rfl)
theorem dX0_law_94 : decode cX0_law 94 = .ok (.aload_n 0, 1) := dk_42 (dk_at dksX0_law_4 4 rfl rfl)
theorem dX0_law_95 : decode cX0_law 95 = .ok (.iconst 0, 1) := dk_3 (dk_at dksX0_law_4 5 rfl rfl)
theorem dX0_law_96 : decode cX0_law 96 = .ok (.putfield 104, 3) := dk_181 0 104 (dk_at dksX0_law_4 6 rfl rfl)
theorem dX0_law_99 : decode cX0_law 99 = .ok (.iload_n 2, 1) := dk_28 (dk_at dksX0_law_4 9 rfl rfl)
theorem dX0_law_100 : decode cX0_law 100 = .ok (.ireturn, 1) := dk_172 (dk_at dksX0_law_4 10 rfl rfl)
theorem dX0_law_101 : decode cX0_law 101 = .ok (.astore_n 3, 1) := dk_78 (dk_at dksX0_law_4 11 rfl rfl)
theorem dX0_law_102 : decode cX0_law 102 = .ok (.aload_n 0, 1) := dk_42 (dk_at dksX0_law_4 12 rfl rfl)
theorem dX0_law_103 : decode cX0_law 103 = .ok (.iconst 0, 1) := dk_3 (dk_at dksX0_law_4 13 rfl rfl)
theorem dX0_law_104 : decode cX0_law 104 = .ok (.putfield 104, 3) := dk_181 0 104 (dk_at dksX0_law_4 14 rfl rfl)
theorem dX0_law_107 : decode cX0_law 107 = .ok (.aload_n 3, 1) := dk_45 (dk_at dksX0_law_4 17 rfl rfl)
theorem dX0_law_108 : decode cX0_law 108 = .ok (.athrow, 1) := dk_191 (dk_at dksX0_law_4 18 rfl rfl)
abbrev cX0_isLetter : ByteArray := prog_1_method_12_code
def yX0_isLetter : MethodName := ⟨RX0, "isLetter", "(I)Z"⟩
def dkwX0_isLetter_0 : List UInt8 := [26, 16, 97, 161, 0, 13, 26, 16, 122, 163, 0, 7, 4, 167, 0, 4, 3, 172]
abbrev dktX0_isLetter_0 : List UInt8 := dkwX0_isLetter_0 ++ []
theorem dksX0_isLetter_0 : cX0_isLetter.data.toList.drop 0 = dktX0_isLetter_0 := by decide +kernel
theorem dX0_isLetter_0 : decode cX0_isLetter 0 = .ok (.iload_n 0, 1) := dk_26 (dk_at dksX0_isLetter_0 0 rfl rfl)
theorem dX0_isLetter_1 : decode cX0_isLetter 1 = .ok (.bipush 97, 2) := dk_16 97 (dk_at dksX0_isLetter_0 1 rfl rfl)
theorem dX0_isLetter_3 : decode cX0_isLetter 3 = .ok (.if_icmp .lt 13, 3) := dk_161 0 13 (dk_at dksX0_isLetter_0 3 rfl rfl)
theorem dX0_isLetter_6 : decode cX0_isLetter 6 = .ok (.iload_n 0, 1) := dk_26 (dk_at dksX0_isLetter_0 6 rfl rfl)
theorem dX0_isLetter_7 : decode cX0_isLetter 7 = .ok (.bipush 122, 2) := dk_16 122 (dk_at dksX0_isLetter_0 7 rfl rfl)
theorem dX0_isLetter_9 : decode cX0_isLetter 9 = .ok (.if_icmp .gt 7, 3) := dk_163 0 7 (dk_at dksX0_isLetter_0 9 rfl rfl)
theorem dX0_isLetter_12 : decode cX0_isLetter 12 = .ok (.iconst 1, 1) := dk_4 (dk_at dksX0_isLetter_0 12 rfl rfl)
theorem dX0_isLetter_13 : decode cX0_isLetter 13 = .ok (.goto 4, 3) := dk_167 0 4 (dk_at dksX0_isLetter_0 13 rfl rfl)
theorem dX0_isLetter_16 : decode cX0_isLetter 16 = .ok (.iconst 0, 1) := dk_3 (dk_at dksX0_isLetter_0 16 rfl rfl)
theorem dX0_isLetter_17 : decode cX0_isLetter 17 = .ok (.ireturn, 1) := dk_172 (dk_at dksX0_isLetter_0 17 rfl rfl)
abbrev cX0_isDigit : ByteArray := prog_1_method_13_code
def yX0_isDigit : MethodName := ⟨RX0, "isDigit", "(I)Z"⟩
def dkwX0_isDigit_0 : List UInt8 := [26, 16, 48, 161, 0, 13, 26, 16, 57, 163, 0, 7, 4, 167, 0, 4, 3, 172]
abbrev dktX0_isDigit_0 : List UInt8 := dkwX0_isDigit_0 ++ []
theorem dksX0_isDigit_0 : cX0_isDigit.data.toList.drop 0 = dktX0_isDigit_0 := by decide +kernel
theorem dX0_isDigit_0 : decode cX0_isDigit 0 = .ok (.iload_n 0, 1) := dk_26 (dk_at dksX0_isDigit_0 0 rfl rfl)
theorem dX0_isDigit_1 : decode cX0_isDigit 1 = .ok (.bipush 48, 2) := dk_16 48 (dk_at dksX0_isDigit_0 1 rfl rfl)
theorem dX0_isDigit_3 : decode cX0_isDigit 3 = .ok (.if_icmp .lt 13, 3) := dk_161 0 13 (dk_at dksX0_isDigit_0 3 rfl rfl)
theorem dX0_isDigit_6 : decode cX0_isDigit 6 = .ok (.iload_n 0, 1) := dk_26 (dk_at dksX0_isDigit_0 6 rfl rfl)
theorem dX0_isDigit_7 : decode cX0_isDigit 7 = .ok (.bipush 57, 2) := dk_16 57 (dk_at dksX0_isDigit_0 7 rfl rfl)
theorem dX0_isDigit_9 : decode cX0_isDigit 9 = .ok (.if_icmp .gt 7, 3) := dk_163 0 7 (dk_at dksX0_isDigit_0 9 rfl rfl)
theorem dX0_isDigit_12 : decode cX0_isDigit 12 = .ok (.iconst 1, 1) := dk_4 (dk_at dksX0_isDigit_0 12 rfl rfl)
theorem dX0_isDigit_13 : decode cX0_isDigit 13 = .ok (.goto 4, 3) := dk_167 0 4 (dk_at dksX0_isDigit_0 13 rfl rfl)
theorem dX0_isDigit_16 : decode cX0_isDigit 16 = .ok (.iconst 0, 1) := dk_3 (dk_at dksX0_isDigit_0 16 rfl rfl)
theorem dX0_isDigit_17 : decode cX0_isDigit 17 = .ok (.ireturn, 1) := dk_172 (dk_at dksX0_isDigit_0 17 rfl rfl)
abbrev cX0_fault : ByteArray := prog_1_method_24_code
def yX0_fault : MethodName := ⟨RX0, "fault", "()I"⟩
theorem dX0_fault_0 : decode cX0_fault 0 = .ok (.aload_n 0, 1) := by decide +kernel
theorem dX0_fault_1 : decode cX0_fault 1 = .ok (.getfield 48, 3) := by decide +kernel
theorem dX0_fault_4 : decode cX0_fault 4 = .ok (.ireturn, 1) := by decide +kernel
abbrev cX0_force : ByteArray := prog_1_method_25_code
def yX0_force : MethodName := ⟨RX0, "force", "(I)I"⟩
def dkwX0_force_2 : List UInt8 := [181, 0, 213, 42, 28, 182, 0, 131, 172]
abbrev dktX0_force_2 : List UInt8 := dkwX0_force_2 ++ []
def dkwX0_force_1 : List UInt8 := [154, 0, 10, 42, 16, 254, 182, 0, 117, 172, 42, 180, 0, 18, 180, 0, 213, 61, 42, 180, 0, 18, 27]
abbrev dktX0_force_1 : List UInt8 := dkwX0_force_1 ++ dktX0_force_2
def dkwX0_force_0 : List UInt8 := [27, 2, 159, 0, 32, 27, 133, 9, 42, 180, 0, 18, 180, 0, 198, 182, 0, 89, 4, 100, 133, 184, 0, 95]
abbrev dktX0_force_0 : List UInt8 := dkwX0_force_0 ++ dktX0_force_1
theorem dksX0_force_0 : cX0_force.data.toList.drop 0 = dktX0_force_0 := by decide +kernel
theorem dksX0_force_1 : cX0_force.data.toList.drop 24 = dktX0_force_1 := dk_seg dksX0_force_0 24 rfl rfl
theorem dksX0_force_2 : cX0_force.data.toList.drop 47 = dktX0_force_2 := dk_seg dksX0_force_1 23 rfl rfl
theorem dX0_force_0 : decode cX0_force 0 = .ok (.iload_n 1, 1) := dk_27 (dk_at dksX0_force_0 0 rfl rfl)
theorem dX0_force_1 : decode cX0_force 1 = .ok (.iconst (-1), 1) := dk_2 (dk_at dksX0_force_0 1 rfl rfl)
theorem dX0_force_2 : decode cX0_force 2 = .ok (.if_icmp .eq 32, 3) := dk_159 0 32 (dk_at dksX0_force_0 2 rfl rfl)
theorem dX0_force_5 : decode cX0_force 5 = .ok (.iload_n 1, 1) := dk_27 (dk_at dksX0_force_0 5 rfl rfl)
theorem dX0_force_6 : decode cX0_force 6 = .ok (.i2l, 1) := dk_133 (dk_at dksX0_force_0 6 rfl rfl)
theorem dX0_force_7 : decode cX0_force 7 = .ok (.lconst 0, 1) := dk_9 (dk_at dksX0_force_0 7 rfl rfl)
theorem dX0_force_8 : decode cX0_force 8 = .ok (.aload_n 0, 1) := dk_42 (dk_at dksX0_force_0 8 rfl rfl)
theorem dX0_force_9 : decode cX0_force 9 = .ok (.getfield 18, 3) := dk_180 0 18 (dk_at dksX0_force_0 9 rfl rfl)
theorem dX0_force_12 : decode cX0_force 12 = .ok (.getfield 198, 3) := dk_180 0 198 (dk_at dksX0_force_0 12 rfl rfl)
theorem dX0_force_15 : decode cX0_force 15 = .ok (.invokevirtual 89, 3) := dk_182 0 89 (dk_at dksX0_force_0 15 rfl rfl)
theorem dX0_force_18 : decode cX0_force 18 = .ok (.iconst 1, 1) := dk_4 (dk_at dksX0_force_0 18 rfl rfl)
theorem dX0_force_19 : decode cX0_force 19 = .ok (.isub, 1) := dk_100 (dk_at dksX0_force_0 19 rfl rfl)
theorem dX0_force_20 : decode cX0_force 20 = .ok (.i2l, 1) := dk_133 (dk_at dksX0_force_0 20 rfl rfl)
theorem dX0_force_21 : decode cX0_force 21 = .ok (.invokestatic 95, 3) := dk_184 0 95 (dk_at dksX0_force_0 21 rfl rfl)
theorem dX0_force_24 : decode cX0_force 24 = .ok (.ifCond .ne 10, 3) := dk_154 0 10 (dk_at dksX0_force_1 0 rfl rfl)
theorem dX0_force_27 : decode cX0_force 27 = .ok (.aload_n 0, 1) := dk_42 (dk_at dksX0_force_1 3 rfl rfl)
theorem dX0_force_28 : decode cX0_force 28 = .ok (.bipush (-2), 2) := dk_16 254 (dk_at dksX0_force_1 4 rfl rfl)
theorem dX0_force_30 : decode cX0_force 30 = .ok (.invokevirtual 117, 3) := dk_182 0 117 (dk_at dksX0_force_1 6 rfl rfl)
theorem dX0_force_33 : decode cX0_force 33 = .ok (.ireturn, 1) := dk_172 (dk_at dksX0_force_1 9 rfl rfl)
theorem dX0_force_34 : decode cX0_force 34 = .ok (.aload_n 0, 1) := dk_42 (dk_at dksX0_force_1 10 rfl rfl)
theorem dX0_force_35 : decode cX0_force 35 = .ok (.getfield 18, 3) := dk_180 0 18 (dk_at dksX0_force_1 11 rfl rfl)
theorem dX0_force_38 : decode cX0_force 38 = .ok (.getfield 213, 3) := dk_180 0 213 (dk_at dksX0_force_1 14 rfl rfl)
theorem dX0_force_41 : decode cX0_force 41 = .ok (.istore_n 2, 1) := dk_61 (dk_at dksX0_force_1 17 rfl rfl)
theorem dX0_force_42 : decode cX0_force 42 = .ok (.aload_n 0, 1) := dk_42 (dk_at dksX0_force_1 18 rfl rfl)
theorem dX0_force_43 : decode cX0_force 43 = .ok (.getfield 18, 3) := dk_180 0 18 (dk_at dksX0_force_1 19 rfl rfl)
theorem dX0_force_46 : decode cX0_force 46 = .ok (.iload_n 1, 1) := dk_27 (dk_at dksX0_force_1 22 rfl rfl)
theorem dX0_force_47 : decode cX0_force 47 = .ok (.putfield 213, 3) := dk_181 0 213 (dk_at dksX0_force_2 0 rfl rfl)
theorem dX0_force_50 : decode cX0_force 50 = .ok (.aload_n 0, 1) := dk_42 (dk_at dksX0_force_2 3 rfl rfl)
theorem dX0_force_51 : decode cX0_force 51 = .ok (.iload_n 2, 1) := dk_28 (dk_at dksX0_force_2 4 rfl rfl)
theorem dX0_force_52 : decode cX0_force 52 = .ok (.invokevirtual 131, 3) := dk_182 0 131 (dk_at dksX0_force_2 5 rfl rfl)
theorem dX0_force_55 : decode cX0_force 55 = .ok (.ireturn, 1) := dk_172 (dk_at dksX0_force_2 8 rfl rfl)
abbrev cX0_at : ByteArray := prog_1_method_26_code
def yX0_at : MethodName := ⟨RX0, "at", "(II)I"⟩
def dkwX0_at_2 : List UInt8 := [182, 0, 216, 153, 0, 5, 29, 172, 132, 3, 1, 167, 255, 201, 2, 172]
abbrev dktX0_at_2 : List UInt8 := dkwX0_at_2 ++ []
def dkwX0_at_1 : List UInt8 := [184, 0, 168, 153, 0, 27, 42, 180, 0, 18, 180, 0, 85, 29, 182, 0, 147, 192, 0, 112, 27, 28]
abbrev dktX0_at_1 : List UInt8 := dkwX0_at_1 ++ dktX0_at_2
def dkwX0_at_0 : List UInt8 := [3, 62, 29, 42, 180, 0, 18, 180, 0, 85, 182, 0, 89, 162, 0, 47, 42, 180, 0, 18, 180, 0, 101, 29]
abbrev dktX0_at_0 : List UInt8 := dkwX0_at_0 ++ dktX0_at_1
theorem dksX0_at_0 : cX0_at.data.toList.drop 0 = dktX0_at_0 := by decide +kernel
theorem dksX0_at_1 : cX0_at.data.toList.drop 24 = dktX0_at_1 := dk_seg dksX0_at_0 24 rfl rfl
theorem dksX0_at_2 : cX0_at.data.toList.drop 46 = dktX0_at_2 := dk_seg dksX0_at_1 22 rfl rfl
theorem dX0_at_0 : decode cX0_at 0 = .ok (.iconst 0, 1) := dk_3 (dk_at dksX0_at_0 0 rfl rfl)
theorem dX0_at_1 : decode cX0_at 1 = .ok (.istore_n 3, 1) := dk_62 (dk_at dksX0_at_0 1 rfl rfl)
theorem dX0_at_2 : decode cX0_at 2 = .ok (.iload_n 3, 1) := dk_29 (dk_at dksX0_at_0 2 rfl rfl)
theorem dX0_at_3 : decode cX0_at 3 = .ok (.aload_n 0, 1) := dk_42 (dk_at dksX0_at_0 3 rfl rfl)
theorem dX0_at_4 : decode cX0_at 4 = .ok (.getfield 18, 3) := dk_180 0 18 (dk_at dksX0_at_0 4 rfl rfl)
theorem dX0_at_7 : decode cX0_at 7 = .ok (.getfield 85, 3) := dk_180 0 85 (dk_at dksX0_at_0 7 rfl rfl)
theorem dX0_at_10 : decode cX0_at 10 = .ok (.invokevirtual 89, 3) := dk_182 0 89 (dk_at dksX0_at_0 10 rfl rfl)
theorem dX0_at_13 : decode cX0_at 13 = .ok (.if_icmp .ge 47, 3) := dk_162 0 47 (dk_at dksX0_at_0 13 rfl rfl)
theorem dX0_at_16 : decode cX0_at 16 = .ok (.aload_n 0, 1) := dk_42 (dk_at dksX0_at_0 16 rfl rfl)
theorem dX0_at_17 : decode cX0_at 17 = .ok (.getfield 18, 3) := dk_180 0 18 (dk_at dksX0_at_0 17 rfl rfl)
theorem dX0_at_20 : decode cX0_at 20 = .ok (.getfield 101, 3) := dk_180 0 101 (dk_at dksX0_at_0 20 rfl rfl)
theorem dX0_at_23 : decode cX0_at 23 = .ok (.iload_n 3, 1) := dk_29 (dk_at dksX0_at_0 23 rfl rfl)
theorem dX0_at_24 : decode cX0_at 24 = .ok (.invokestatic 168, 3) := dk_184 0 168 (dk_at dksX0_at_1 0 rfl rfl)
theorem dX0_at_27 : decode cX0_at 27 = .ok (.ifCond .eq 27, 3) := dk_153 0 27 (dk_at dksX0_at_1 3 rfl rfl)
theorem dX0_at_30 : decode cX0_at 30 = .ok (.aload_n 0, 1) := dk_42 (dk_at dksX0_at_1 6 rfl rfl)
theorem dX0_at_31 : decode cX0_at 31 = .ok (.getfield 18, 3) := dk_180 0 18 (dk_at dksX0_at_1 7 rfl rfl)
theorem dX0_at_34 : decode cX0_at 34 = .ok (.getfield 85, 3) := dk_180 0 85 (dk_at dksX0_at_1 10 rfl rfl)
theorem dX0_at_37 : decode cX0_at 37 = .ok (.iload_n 3, 1) := dk_29 (dk_at dksX0_at_1 13 rfl rfl)
theorem dX0_at_38 : decode cX0_at 38 = .ok (.invokevirtual 147, 3) := dk_182 0 147 (dk_at dksX0_at_1 14 rfl rfl)
theorem dX0_at_41 : decode cX0_at 41 = .ok (.checkcast 112, 3) := dk_192 0 112 (dk_at dksX0_at_1 17 rfl rfl)
theorem dX0_at_44 : decode cX0_at 44 = .ok (.iload_n 1, 1) := dk_27 (dk_at dksX0_at_1 20 rfl rfl)
theorem dX0_at_45 : decode cX0_at 45 = .ok (.iload_n 2, 1) := dk_28 (dk_at dksX0_at_1 21 rfl rfl)
theorem dX0_at_46 : decode cX0_at 46 = .ok (.invokevirtual 216, 3) := dk_182 0 216 (dk_at dksX0_at_2 0 rfl rfl)
theorem dX0_at_49 : decode cX0_at 49 = .ok (.ifCond .eq 5, 3) := dk_153 0 5 (dk_at dksX0_at_2 3 rfl rfl)
theorem dX0_at_52 : decode cX0_at 52 = .ok (.iload_n 3, 1) := dk_29 (dk_at dksX0_at_2 6 rfl rfl)
theorem dX0_at_53 : decode cX0_at 53 = .ok (.ireturn, 1) := dk_172 (dk_at dksX0_at_2 7 rfl rfl)
theorem dX0_at_54 : decode cX0_at 54 = .ok (.iinc 3 1, 3) := dk_132 3 1 (dk_at dksX0_at_2 8 rfl rfl)
theorem dX0_at_57 : decode cX0_at 57 = .ok (.goto (-55), 3) := dk_167 255 201 (dk_at dksX0_at_2 11 rfl rfl)
theorem dX0_at_60 : decode cX0_at 60 = .ok (.iconst (-1), 1) := dk_2 (dk_at dksX0_at_2 14 rfl rfl)
theorem dX0_at_61 : decode cX0_at 61 = .ok (.ireturn, 1) := dk_172 (dk_at dksX0_at_2 15 rfl rfl)
abbrev cX0_touches : ByteArray := prog_1_method_27_code
def yX0_touches : MethodName := ⟨RX0, "touches", "(II)I"⟩
def dkwX0_touches_5 : List UInt8 := [153, 0, 7, 4, 167, 0, 4, 3, 172, 45, 180, 0, 230, 27, 46, 42, 180, 0, 18, 180, 0, 101, 126, 172]
abbrev dktX0_touches_5 : List UInt8 := dkwX0_touches_5 ++ []
def dkwX0_touches_4 : List UInt8 := [180, 0, 18, 180, 0, 101, 27, 182, 0, 224, 167, 0, 4, 2, 172, 45, 180, 0, 227, 27, 184, 0, 168]
abbrev dktX0_touches_4 : List UInt8 := dkwX0_touches_4 ++ dktX0_touches_5
def dkwX0_touches_3 : List UInt8 := [45, 180, 0, 221, 27, 46, 172, 42, 180, 0, 18, 180, 0, 101, 27, 184, 0, 168, 153, 0, 18, 45, 42]
abbrev dktX0_touches_3 : List UInt8 := dkwX0_touches_3 ++ dktX0_touches_4
def dkwX0_touches_2 : List UInt8 := [170, 0, 0, 0, 80, 0, 0, 0, 0, 0, 0, 0, 2, 0, 0, 0, 25, 0, 0, 0, 32, 0, 0, 0, 63]
abbrev dktX0_touches_2 : List UInt8 := dkwX0_touches_2 ++ dktX0_touches_3
def dkwX0_touches_1 : List UInt8 := [180, 0, 61, 182, 0, 217, 78, 28]
abbrev dktX0_touches_1 : List UInt8 := dkwX0_touches_1 ++ dktX0_touches_2
def dkwX0_touches_0 : List UInt8 := [42, 27, 182, 0, 143, 153, 0, 15, 28, 133, 9, 20, 0, 139, 184, 0, 95, 154, 0, 5, 2, 172, 42]
abbrev dktX0_touches_0 : List UInt8 := dkwX0_touches_0 ++ dktX0_touches_1
theorem dksX0_touches_0 : cX0_touches.data.toList.drop 0 = dktX0_touches_0 := by decide +kernel
theorem dksX0_touches_1 : cX0_touches.data.toList.drop 23 = dktX0_touches_1 := dk_seg dksX0_touches_0 23 rfl rfl
theorem dksX0_touches_2 : cX0_touches.data.toList.drop 31 = dktX0_touches_2 := dk_seg dksX0_touches_1 8 rfl rfl
theorem dksX0_touches_3 : cX0_touches.data.toList.drop 56 = dktX0_touches_3 := dk_seg dksX0_touches_2 25 rfl rfl
theorem dksX0_touches_4 : cX0_touches.data.toList.drop 79 = dktX0_touches_4 := dk_seg dksX0_touches_3 23 rfl rfl
theorem dksX0_touches_5 : cX0_touches.data.toList.drop 102 = dktX0_touches_5 := dk_seg dksX0_touches_4 23 rfl rfl
theorem dX0_touches_0 : decode cX0_touches 0 = .ok (.aload_n 0, 1) := dk_42 (dk_at dksX0_touches_0 0 rfl rfl)
theorem dX0_touches_1 : decode cX0_touches 1 = .ok (.iload_n 1, 1) := dk_27 (dk_at dksX0_touches_0 1 rfl rfl)
theorem dX0_touches_2 : decode cX0_touches 2 = .ok (.invokevirtual 143, 3) := dk_182 0 143 (dk_at dksX0_touches_0 2 rfl rfl)
theorem dX0_touches_5 : decode cX0_touches 5 = .ok (.ifCond .eq 15, 3) := dk_153 0 15 (dk_at dksX0_touches_0 5 rfl rfl)
theorem dX0_touches_8 : decode cX0_touches 8 = .ok (.iload_n 2, 1) := dk_28 (dk_at dksX0_touches_0 8 rfl rfl)
theorem dX0_touches_9 : decode cX0_touches 9 = .ok (.i2l, 1) := dk_133 (dk_at dksX0_touches_0 9 rfl rfl)
theorem dX0_touches_10 : decode cX0_touches 10 = .ok (.lconst 0, 1) := dk_9 (dk_at dksX0_touches_0 10 rfl rfl)
theorem dX0_touches_11 : decode cX0_touches 11 = .ok (.ldc2_w 139, 3) := dk_20 0 139 (dk_at dksX0_touches_0 11 rfl rfl)
theorem dX0_touches_14 : decode cX0_touches 14 = .ok (.invokestatic 95, 3) := dk_184 0 95 (dk_at dksX0_touches_0 14 rfl rfl)
theorem dX0_touches_17 : decode cX0_touches 17 = .ok (.ifCond .ne 5, 3) := dk_154 0 5 (dk_at dksX0_touches_0 17 rfl rfl)
theorem dX0_touches_20 : decode cX0_touches 20 = .ok (.iconst (-1), 1) := dk_2 (dk_at dksX0_touches_0 20 rfl rfl)
theorem dX0_touches_21 : decode cX0_touches 21 = .ok (.ireturn, 1) := dk_172 (dk_at dksX0_touches_0 21 rfl rfl)
theorem dX0_touches_22 : decode cX0_touches 22 = .ok (.aload_n 0, 1) := dk_42 (dk_at dksX0_touches_0 22 rfl rfl)
theorem dX0_touches_23 : decode cX0_touches 23 = .ok (.getfield 61, 3) := dk_180 0 61 (dk_at dksX0_touches_1 0 rfl rfl)
theorem dX0_touches_26 : decode cX0_touches 26 = .ok (.invokevirtual 217, 3) := dk_182 0 217 (dk_at dksX0_touches_1 3 rfl rfl)
theorem dX0_touches_29 : decode cX0_touches 29 = .ok (.astore_n 3, 1) := dk_78 (dk_at dksX0_touches_1 6 rfl rfl)
theorem dX0_touches_30 : decode cX0_touches 30 = .ok (.iload_n 2, 1) := dk_28 (dk_at dksX0_touches_1 7 rfl rfl)
theorem dX0_touches_31 : decode cX0_touches 31 = .ok (.tableswitch 80 0 2 #[25, 32, 63], 25) := by decide +kernel
theorem dX0_touches_56 : decode cX0_touches 56 = .ok (.aload_n 3, 1) := dk_45 (dk_at dksX0_touches_3 0 rfl rfl)
theorem dX0_touches_57 : decode cX0_touches 57 = .ok (.getfield 221, 3) := dk_180 0 221 (dk_at dksX0_touches_3 1 rfl rfl)
theorem dX0_touches_60 : decode cX0_touches 60 = .ok (.iload_n 1, 1) := dk_27 (dk_at dksX0_touches_3 4 rfl rfl)
theorem dX0_touches_61 : decode cX0_touches 61 = .ok (.iaload, 1) := dk_46 (dk_at dksX0_touches_3 5 rfl rfl)
theorem dX0_touches_62 : decode cX0_touches 62 = .ok (.ireturn, 1) := dk_172 (dk_at dksX0_touches_3 6 rfl rfl)
theorem dX0_touches_63 : decode cX0_touches 63 = .ok (.aload_n 0, 1) := dk_42 (dk_at dksX0_touches_3 7 rfl rfl)
theorem dX0_touches_64 : decode cX0_touches 64 = .ok (.getfield 18, 3) := dk_180 0 18 (dk_at dksX0_touches_3 8 rfl rfl)
theorem dX0_touches_67 : decode cX0_touches 67 = .ok (.getfield 101, 3) := dk_180 0 101 (dk_at dksX0_touches_3 11 rfl rfl)
theorem dX0_touches_70 : decode cX0_touches 70 = .ok (.iload_n 1, 1) := dk_27 (dk_at dksX0_touches_3 14 rfl rfl)
theorem dX0_touches_71 : decode cX0_touches 71 = .ok (.invokestatic 168, 3) := dk_184 0 168 (dk_at dksX0_touches_3 15 rfl rfl)
theorem dX0_touches_74 : decode cX0_touches 74 = .ok (.ifCond .eq 18, 3) := dk_153 0 18 (dk_at dksX0_touches_3 18 rfl rfl)
theorem dX0_touches_77 : decode cX0_touches 77 = .ok (.aload_n 3, 1) := dk_45 (dk_at dksX0_touches_3 21 rfl rfl)
theorem dX0_touches_78 : decode cX0_touches 78 = .ok (.aload_n 0, 1) := dk_42 (dk_at dksX0_touches_3 22 rfl rfl)
theorem dX0_touches_79 : decode cX0_touches 79 = .ok (.getfield 18, 3) := dk_180 0 18 (dk_at dksX0_touches_4 0 rfl rfl)
theorem dX0_touches_82 : decode cX0_touches 82 = .ok (.getfield 101, 3) := dk_180 0 101 (dk_at dksX0_touches_4 3 rfl rfl)
theorem dX0_touches_85 : decode cX0_touches 85 = .ok (.iload_n 1, 1) := dk_27 (dk_at dksX0_touches_4 6 rfl rfl)
theorem dX0_touches_86 : decode cX0_touches 86 = .ok (.invokevirtual 224, 3) := dk_182 0 224 (dk_at dksX0_touches_4 7 rfl rfl)
theorem dX0_touches_89 : decode cX0_touches 89 = .ok (.goto 4, 3) := dk_167 0 4 (dk_at dksX0_touches_4 10 rfl rfl)
theorem dX0_touches_92 : decode cX0_touches 92 = .ok (.iconst (-1), 1) := dk_2 (dk_at dksX0_touches_4 13 rfl rfl)
theorem dX0_touches_93 : decode cX0_touches 93 = .ok (.ireturn, 1) := dk_172 (dk_at dksX0_touches_4 14 rfl rfl)
theorem dX0_touches_94 : decode cX0_touches 94 = .ok (.aload_n 3, 1) := dk_45 (dk_at dksX0_touches_4 15 rfl rfl)
theorem dX0_touches_95 : decode cX0_touches 95 = .ok (.getfield 227, 3) := dk_180 0 227 (dk_at dksX0_touches_4 16 rfl rfl)
theorem dX0_touches_98 : decode cX0_touches 98 = .ok (.iload_n 1, 1) := dk_27 (dk_at dksX0_touches_4 19 rfl rfl)
theorem dX0_touches_99 : decode cX0_touches 99 = .ok (.invokestatic 168, 3) := dk_184 0 168 (dk_at dksX0_touches_4 20 rfl rfl)
theorem dX0_touches_102 : decode cX0_touches 102 = .ok (.ifCond .eq 7, 3) := dk_153 0 7 (dk_at dksX0_touches_5 0 rfl rfl)
theorem dX0_touches_105 : decode cX0_touches 105 = .ok (.iconst 1, 1) := dk_4 (dk_at dksX0_touches_5 3 rfl rfl)
theorem dX0_touches_106 : decode cX0_touches 106 = .ok (.goto 4, 3) := dk_167 0 4 (dk_at dksX0_touches_5 4 rfl rfl)
theorem dX0_touches_109 : decode cX0_touches 109 = .ok (.iconst 0, 1) := dk_3 (dk_at dksX0_touches_5 7 rfl rfl)
theorem dX0_touches_110 : decode cX0_touches 110 = .ok (.ireturn, 1) := dk_172 (dk_at dksX0_touches_5 8 rfl rfl)
theorem dX0_touches_111 : decode cX0_touches 111 = .ok (.aload_n 3, 1) := dk_45 (dk_at dksX0_touches_5 9 rfl rfl)
theorem dX0_touches_112 : decode cX0_touches 112 = .ok (.getfield 230, 3) := dk_180 0 230 (dk_at dksX0_touches_5 10 rfl rfl)
theorem dX0_touches_115 : decode cX0_touches 115 = .ok (.iload_n 1, 1) := dk_27 (dk_at dksX0_touches_5 13 rfl rfl)
theorem dX0_touches_116 : decode cX0_touches 116 = .ok (.iaload, 1) := dk_46 (dk_at dksX0_touches_5 14 rfl rfl)
theorem dX0_touches_117 : decode cX0_touches 117 = .ok (.aload_n 0, 1) := dk_42 (dk_at dksX0_touches_5 15 rfl rfl)
theorem dX0_touches_118 : decode cX0_touches 118 = .ok (.getfield 18, 3) := dk_180 0 18 (dk_at dksX0_touches_5 16 rfl rfl)
theorem dX0_touches_121 : decode cX0_touches 121 = .ok (.getfield 101, 3) := dk_180 0 101 (dk_at dksX0_touches_5 19 rfl rfl)
theorem dX0_touches_124 : decode cX0_touches 124 = .ok (.iand, 1) := dk_126 (dk_at dksX0_touches_5 22 rfl rfl)
theorem dX0_touches_125 : decode cX0_touches 125 = .ok (.ireturn, 1) := dk_172 (dk_at dksX0_touches_5 23 rfl rfl)
abbrev cX0_size : ByteArray := prog_1_method_3_code
def yX0_size : MethodName := ⟨RX0, "size", "(I)I"⟩
theorem dX0_size_0 : decode cX0_size 0 = .ok (.iload_n 0, 1) := by decide +kernel
theorem dX0_size_1 : decode cX0_size 1 = .ok (.invokestatic 3, 3) := by decide +kernel
theorem dX0_size_4 : decode cX0_size 4 = .ok (.ireturn, 1) := by decide +kernel
abbrev cX0_unlawful : ByteArray := prog_1_method_28_code
def yX0_unlawful : MethodName := ⟨RX0, "unlawful", "()I"⟩
def dkwX0_unlawful_1 : List UInt8 := [167, 0, 7, 27, 184, 0, 236, 172]
abbrev dktX0_unlawful_1 : List UInt8 := dkwX0_unlawful_1 ++ []
def dkwX0_unlawful_0 : List UInt8 := [42, 180, 0, 61, 182, 0, 217, 42, 180, 0, 18, 180, 0, 101, 182, 0, 233, 60, 27, 154, 0, 7, 2]
abbrev dktX0_unlawful_0 : List UInt8 := dkwX0_unlawful_0 ++ dktX0_unlawful_1
theorem dksX0_unlawful_0 : cX0_unlawful.data.toList.drop 0 = dktX0_unlawful_0 := by decide +kernel
theorem dksX0_unlawful_1 : cX0_unlawful.data.toList.drop 23 = dktX0_unlawful_1 := dk_seg dksX0_unlawful_0 23 rfl rfl
theorem dX0_unlawful_0 : decode cX0_unlawful 0 = .ok (.aload_n 0, 1) := dk_42 (dk_at dksX0_unlawful_0 0 rfl rfl)
theorem dX0_unlawful_1 : decode cX0_unlawful 1 = .ok (.getfield 61, 3) := dk_180 0 61 (dk_at dksX0_unlawful_0 1 rfl rfl)
theorem dX0_unlawful_4 : decode cX0_unlawful 4 = .ok (.invokevirtual 217, 3) := dk_182 0 217 (dk_at dksX0_unlawful_0 4 rfl rfl)
theorem dX0_unlawful_7 : decode cX0_unlawful 7 = .ok (.aload_n 0, 1) := dk_42 (dk_at dksX0_unlawful_0 7 rfl rfl)
theorem dX0_unlawful_8 : decode cX0_unlawful 8 = .ok (.getfield 18, 3) := dk_180 0 18 (dk_at dksX0_unlawful_0 8 rfl rfl)
theorem dX0_unlawful_11 : decode cX0_unlawful 11 = .ok (.getfield 101, 3) := dk_180 0 101 (dk_at dksX0_unlawful_0 11 rfl rfl)
theorem dX0_unlawful_14 : decode cX0_unlawful 14 = .ok (.invokevirtual 233, 3) := dk_182 0 233 (dk_at dksX0_unlawful_0 14 rfl rfl)
theorem dX0_unlawful_17 : decode cX0_unlawful 17 = .ok (.istore_n 1, 1) := dk_60 (dk_at dksX0_unlawful_0 17 rfl rfl)
theorem dX0_unlawful_18 : decode cX0_unlawful 18 = .ok (.iload_n 1, 1) := dk_27 (dk_at dksX0_unlawful_0 18 rfl rfl)
theorem dX0_unlawful_19 : decode cX0_unlawful 19 = .ok (.ifCond .ne 7, 3) := dk_154 0 7 (dk_at dksX0_unlawful_0 19 rfl rfl)
theorem dX0_unlawful_22 : decode cX0_unlawful 22 = .ok (.iconst (-1), 1) := dk_2 (dk_at dksX0_unlawful_0 22 rfl rfl)
theorem dX0_unlawful_23 : decode cX0_unlawful 23 = .ok (.goto 7, 3) := dk_167 0 7 (dk_at dksX0_unlawful_1 0 rfl rfl)
theorem dX0_unlawful_26 : decode cX0_unlawful 26 = .ok (.iload_n 1, 1) := dk_27 (dk_at dksX0_unlawful_1 3 rfl rfl)
theorem dX0_unlawful_27 : decode cX0_unlawful 27 = .ok (.invokestatic 236, 3) := dk_184 0 236 (dk_at dksX0_unlawful_1 4 rfl rfl)
theorem dX0_unlawful_30 : decode cX0_unlawful 30 = .ok (.ireturn, 1) := dk_172 (dk_at dksX0_unlawful_1 7 rfl rfl)
abbrev cX0_there : ByteArray := prog_1_method_29_code
def yX0_there : MethodName := ⟨RX0, "there", "()I"⟩
def dkwX0_there_0 : List UInt8 := [42, 180, 0, 18, 180, 0, 101, 172]
abbrev dktX0_there_0 : List UInt8 := dkwX0_there_0 ++ []
theorem dksX0_there_0 : cX0_there.data.toList.drop 0 = dktX0_there_0 := by decide +kernel
theorem dX0_there_0 : decode cX0_there 0 = .ok (.aload_n 0, 1) := dk_42 (dk_at dksX0_there_0 0 rfl rfl)
theorem dX0_there_1 : decode cX0_there 1 = .ok (.getfield 18, 3) := dk_180 0 18 (dk_at dksX0_there_0 1 rfl rfl)
theorem dX0_there_4 : decode cX0_there 4 = .ok (.getfield 101, 3) := dk_180 0 101 (dk_at dksX0_there_0 4 rfl rfl)
theorem dX0_there_7 : decode cX0_there 7 = .ok (.ireturn, 1) := dk_172 (dk_at dksX0_there_0 7 rfl rfl)
abbrev cX0_stand : ByteArray := prog_1_method_30_code
def yX0_stand : MethodName := ⟨RX0, "stand", "(I)I"⟩
def dkwX0_stand_2 : List UInt8 := [182, 0, 131, 172]
abbrev dktX0_stand_2 : List UInt8 := dkwX0_stand_2 ++ []
def dkwX0_stand_1 : List UInt8 := [42, 2, 182, 0, 117, 172, 42, 180, 0, 18, 180, 0, 101, 61, 42, 180, 0, 18, 27, 181, 0, 101, 42, 28]
abbrev dktX0_stand_1 : List UInt8 := dkwX0_stand_1 ++ dktX0_stand_2
def dkwX0_stand_0 : List UInt8 := [27, 133, 9, 4, 42, 180, 0, 18, 180, 0, 85, 182, 0, 89, 120, 4, 100, 133, 184, 0, 95, 154, 0, 9]
abbrev dktX0_stand_0 : List UInt8 := dkwX0_stand_0 ++ dktX0_stand_1
theorem dksX0_stand_0 : cX0_stand.data.toList.drop 0 = dktX0_stand_0 := by decide +kernel
theorem dksX0_stand_1 : cX0_stand.data.toList.drop 24 = dktX0_stand_1 := dk_seg dksX0_stand_0 24 rfl rfl
theorem dksX0_stand_2 : cX0_stand.data.toList.drop 48 = dktX0_stand_2 := dk_seg dksX0_stand_1 24 rfl rfl
theorem dX0_stand_0 : decode cX0_stand 0 = .ok (.iload_n 1, 1) := dk_27 (dk_at dksX0_stand_0 0 rfl rfl)
theorem dX0_stand_1 : decode cX0_stand 1 = .ok (.i2l, 1) := dk_133 (dk_at dksX0_stand_0 1 rfl rfl)
theorem dX0_stand_2 : decode cX0_stand 2 = .ok (.lconst 0, 1) := dk_9 (dk_at dksX0_stand_0 2 rfl rfl)
theorem dX0_stand_3 : decode cX0_stand 3 = .ok (.iconst 1, 1) := dk_4 (dk_at dksX0_stand_0 3 rfl rfl)
theorem dX0_stand_4 : decode cX0_stand 4 = .ok (.aload_n 0, 1) := dk_42 (dk_at dksX0_stand_0 4 rfl rfl)
theorem dX0_stand_5 : decode cX0_stand 5 = .ok (.getfield 18, 3) := dk_180 0 18 (dk_at dksX0_stand_0 5 rfl rfl)
theorem dX0_stand_8 : decode cX0_stand 8 = .ok (.getfield 85, 3) := dk_180 0 85 (dk_at dksX0_stand_0 8 rfl rfl)
theorem dX0_stand_11 : decode cX0_stand 11 = .ok (.invokevirtual 89, 3) := dk_182 0 89 (dk_at dksX0_stand_0 11 rfl rfl)
theorem dX0_stand_14 : decode cX0_stand 14 = .ok (.ishl, 1) := dk_120 (dk_at dksX0_stand_0 14 rfl rfl)
theorem dX0_stand_15 : decode cX0_stand 15 = .ok (.iconst 1, 1) := dk_4 (dk_at dksX0_stand_0 15 rfl rfl)
theorem dX0_stand_16 : decode cX0_stand 16 = .ok (.isub, 1) := dk_100 (dk_at dksX0_stand_0 16 rfl rfl)
theorem dX0_stand_17 : decode cX0_stand 17 = .ok (.i2l, 1) := dk_133 (dk_at dksX0_stand_0 17 rfl rfl)
theorem dX0_stand_18 : decode cX0_stand 18 = .ok (.invokestatic 95, 3) := dk_184 0 95 (dk_at dksX0_stand_0 18 rfl rfl)
theorem dX0_stand_21 : decode cX0_stand 21 = .ok (.ifCond .ne 9, 3) := dk_154 0 9 (dk_at dksX0_stand_0 21 rfl rfl)
theorem dX0_stand_24 : decode cX0_stand 24 = .ok (.aload_n 0, 1) := dk_42 (dk_at dksX0_stand_1 0 rfl rfl)
theorem dX0_stand_25 : decode cX0_stand 25 = .ok (.iconst (-1), 1) := dk_2 (dk_at dksX0_stand_1 1 rfl rfl)
theorem dX0_stand_26 : decode cX0_stand 26 = .ok (.invokevirtual 117, 3) := dk_182 0 117 (dk_at dksX0_stand_1 2 rfl rfl)
theorem dX0_stand_29 : decode cX0_stand 29 = .ok (.ireturn, 1) := dk_172 (dk_at dksX0_stand_1 5 rfl rfl)
theorem dX0_stand_30 : decode cX0_stand 30 = .ok (.aload_n 0, 1) := dk_42 (dk_at dksX0_stand_1 6 rfl rfl)
theorem dX0_stand_31 : decode cX0_stand 31 = .ok (.getfield 18, 3) := dk_180 0 18 (dk_at dksX0_stand_1 7 rfl rfl)
theorem dX0_stand_34 : decode cX0_stand 34 = .ok (.getfield 101, 3) := dk_180 0 101 (dk_at dksX0_stand_1 10 rfl rfl)
theorem dX0_stand_37 : decode cX0_stand 37 = .ok (.istore_n 2, 1) := dk_61 (dk_at dksX0_stand_1 13 rfl rfl)
theorem dX0_stand_38 : decode cX0_stand 38 = .ok (.aload_n 0, 1) := dk_42 (dk_at dksX0_stand_1 14 rfl rfl)
theorem dX0_stand_39 : decode cX0_stand 39 = .ok (.getfield 18, 3) := dk_180 0 18 (dk_at dksX0_stand_1 15 rfl rfl)
theorem dX0_stand_42 : decode cX0_stand 42 = .ok (.iload_n 1, 1) := dk_27 (dk_at dksX0_stand_1 18 rfl rfl)
theorem dX0_stand_43 : decode cX0_stand 43 = .ok (.putfield 101, 3) := dk_181 0 101 (dk_at dksX0_stand_1 19 rfl rfl)
theorem dX0_stand_46 : decode cX0_stand 46 = .ok (.aload_n 0, 1) := dk_42 (dk_at dksX0_stand_1 22 rfl rfl)
theorem dX0_stand_47 : decode cX0_stand 47 = .ok (.iload_n 2, 1) := dk_28 (dk_at dksX0_stand_1 23 rfl rfl)
theorem dX0_stand_48 : decode cX0_stand 48 = .ok (.invokevirtual 131, 3) := dk_182 0 131 (dk_at dksX0_stand_2 0 rfl rfl)
theorem dX0_stand_51 : decode cX0_stand 51 = .ok (.ireturn, 1) := dk_172 (dk_at dksX0_stand_2 3 rfl rfl)
abbrev cX0_falls : ByteArray := prog_1_method_32_code
def yX0_falls : MethodName := ⟨RX0, "falls", "(II)I"⟩
def dkwX0_falls_6 : List UInt8 := [167, 0, 9, 42, 21, 7, 182, 0, 247, 172]
abbrev dktX0_falls_6 : List UInt8 := dkwX0_falls_6 ++ []
def dkwX0_falls_5 : List UInt8 := [184, 0, 245, 167, 0, 29, 28, 4, 160, 0, 8, 21, 6, 167, 0, 19, 28, 5, 160, 0, 8, 21, 5]
abbrev dktX0_falls_5 : List UInt8 := dkwX0_falls_5 ++ dktX0_falls_6
def dkwX0_falls_4 : List UInt8 := [180, 0, 18, 180, 0, 101, 27, 2, 130, 126, 21, 5, 2, 130, 126, 54, 7, 28, 154, 0, 11, 21, 7]
abbrev dktX0_falls_4 : List UInt8 := dkwX0_falls_4 ++ dktX0_falls_5
def dkwX0_falls_3 : List UInt8 := [21, 7, 2, 130, 126, 54, 4, 132, 6, 1, 45, 21, 4, 182, 0, 233, 54, 7, 167, 255, 231, 42]
abbrev dktX0_falls_3 : List UInt8 := dkwX0_falls_3 ++ dktX0_falls_4
def dkwX0_falls_2 : List UInt8 := [182, 0, 242, 54, 5, 3, 54, 6, 45, 21, 4, 182, 0, 233, 54, 7, 21, 7, 153, 0, 26, 21, 4]
abbrev dktX0_falls_2 : List UInt8 := dkwX0_falls_2 ++ dktX0_falls_3
def dkwX0_falls_1 : List UInt8 := [180, 0, 61, 182, 0, 217, 78, 42, 180, 0, 18, 180, 0, 101, 27, 2, 130, 126, 54, 4, 45, 21, 4]
abbrev dktX0_falls_1 : List UInt8 := dkwX0_falls_1 ++ dktX0_falls_2
def dkwX0_falls_0 : List UInt8 := [42, 27, 182, 0, 239, 153, 0, 15, 28, 133, 9, 20, 0, 139, 184, 0, 95, 154, 0, 5, 2, 172, 42]
abbrev dktX0_falls_0 : List UInt8 := dkwX0_falls_0 ++ dktX0_falls_1
theorem dksX0_falls_0 : cX0_falls.data.toList.drop 0 = dktX0_falls_0 := by decide +kernel
theorem dksX0_falls_1 : cX0_falls.data.toList.drop 23 = dktX0_falls_1 := dk_seg dksX0_falls_0 23 rfl rfl
theorem dksX0_falls_2 : cX0_falls.data.toList.drop 46 = dktX0_falls_2 := dk_seg dksX0_falls_1 23 rfl rfl
theorem dksX0_falls_3 : cX0_falls.data.toList.drop 69 = dktX0_falls_3 := dk_seg dksX0_falls_2 23 rfl rfl
theorem dksX0_falls_4 : cX0_falls.data.toList.drop 91 = dktX0_falls_4 := dk_seg dksX0_falls_3 22 rfl rfl
theorem dksX0_falls_5 : cX0_falls.data.toList.drop 114 = dktX0_falls_5 := dk_seg dksX0_falls_4 23 rfl rfl
theorem dksX0_falls_6 : cX0_falls.data.toList.drop 137 = dktX0_falls_6 := dk_seg dksX0_falls_5 23 rfl rfl
theorem dX0_falls_0 : decode cX0_falls 0 = .ok (.aload_n 0, 1) := dk_42 (dk_at dksX0_falls_0 0 rfl rfl)
theorem dX0_falls_1 : decode cX0_falls 1 = .ok (.iload_n 1, 1) := dk_27 (dk_at dksX0_falls_0 1 rfl rfl)
theorem dX0_falls_2 : decode cX0_falls 2 = .ok (.invokevirtual 239, 3) := dk_182 0 239 (dk_at dksX0_falls_0 2 rfl rfl)
theorem dX0_falls_5 : decode cX0_falls 5 = .ok (.ifCond .eq 15, 3) := dk_153 0 15 (dk_at dksX0_falls_0 5 rfl rfl)
theorem dX0_falls_8 : decode cX0_falls 8 = .ok (.iload_n 2, 1) := dk_28 (dk_at dksX0_falls_0 8 rfl rfl)
theorem dX0_falls_9 : decode cX0_falls 9 = .ok (.i2l, 1) := dk_133 (dk_at dksX0_falls_0 9 rfl rfl)
theorem dX0_falls_10 : decode cX0_falls 10 = .ok (.lconst 0, 1) := dk_9 (dk_at dksX0_falls_0 10 rfl rfl)
theorem dX0_falls_11 : decode cX0_falls 11 = .ok (.ldc2_w 139, 3) := dk_20 0 139 (dk_at dksX0_falls_0 11 rfl rfl)
theorem dX0_falls_14 : decode cX0_falls 14 = .ok (.invokestatic 95, 3) := dk_184 0 95 (dk_at dksX0_falls_0 14 rfl rfl)
theorem dX0_falls_17 : decode cX0_falls 17 = .ok (.ifCond .ne 5, 3) := dk_154 0 5 (dk_at dksX0_falls_0 17 rfl rfl)
theorem dX0_falls_20 : decode cX0_falls 20 = .ok (.iconst (-1), 1) := dk_2 (dk_at dksX0_falls_0 20 rfl rfl)
theorem dX0_falls_21 : decode cX0_falls 21 = .ok (.ireturn, 1) := dk_172 (dk_at dksX0_falls_0 21 rfl rfl)
theorem dX0_falls_22 : decode cX0_falls 22 = .ok (.aload_n 0, 1) := dk_42 (dk_at dksX0_falls_0 22 rfl rfl)
theorem dX0_falls_23 : decode cX0_falls 23 = .ok (.getfield 61, 3) := dk_180 0 61 (dk_at dksX0_falls_1 0 rfl rfl)
theorem dX0_falls_26 : decode cX0_falls 26 = .ok (.invokevirtual 217, 3) := dk_182 0 217 (dk_at dksX0_falls_1 3 rfl rfl)
theorem dX0_falls_29 : decode cX0_falls 29 = .ok (.astore_n 3, 1) := dk_78 (dk_at dksX0_falls_1 6 rfl rfl)
theorem dX0_falls_30 : decode cX0_falls 30 = .ok (.aload_n 0, 1) := dk_42 (dk_at dksX0_falls_1 7 rfl rfl)
theorem dX0_falls_31 : decode cX0_falls 31 = .ok (.getfield 18, 3) := dk_180 0 18 (dk_at dksX0_falls_1 8 rfl rfl)
theorem dX0_falls_34 : decode cX0_falls 34 = .ok (.getfield 101, 3) := dk_180 0 101 (dk_at dksX0_falls_1 11 rfl rfl)
theorem dX0_falls_37 : decode cX0_falls 37 = .ok (.iload_n 1, 1) := dk_27 (dk_at dksX0_falls_1 14 rfl rfl)
theorem dX0_falls_38 : decode cX0_falls 38 = .ok (.iconst (-1), 1) := dk_2 (dk_at dksX0_falls_1 15 rfl rfl)
theorem dX0_falls_39 : decode cX0_falls 39 = .ok (.ixor, 1) := dk_130 (dk_at dksX0_falls_1 16 rfl rfl)
theorem dX0_falls_40 : decode cX0_falls 40 = .ok (.iand, 1) := dk_126 (dk_at dksX0_falls_1 17 rfl rfl)
theorem dX0_falls_41 : decode cX0_falls 41 = .ok (.istore 4, 2) := dk_54 4 (dk_at dksX0_falls_1 18 rfl rfl)
theorem dX0_falls_43 : decode cX0_falls 43 = .ok (.aload_n 3, 1) := dk_45 (dk_at dksX0_falls_1 20 rfl rfl)
theorem dX0_falls_44 : decode cX0_falls 44 = .ok (.iload 4, 2) := dk_21 4 (dk_at dksX0_falls_1 21 rfl rfl)
theorem dX0_falls_46 : decode cX0_falls 46 = .ok (.invokevirtual 242, 3) := dk_182 0 242 (dk_at dksX0_falls_2 0 rfl rfl)
theorem dX0_falls_49 : decode cX0_falls 49 = .ok (.istore 5, 2) := dk_54 5 (dk_at dksX0_falls_2 3 rfl rfl)
theorem dX0_falls_51 : decode cX0_falls 51 = .ok (.iconst 0, 1) := dk_3 (dk_at dksX0_falls_2 5 rfl rfl)
theorem dX0_falls_52 : decode cX0_falls 52 = .ok (.istore 6, 2) := dk_54 6 (dk_at dksX0_falls_2 6 rfl rfl)
theorem dX0_falls_54 : decode cX0_falls 54 = .ok (.aload_n 3, 1) := dk_45 (dk_at dksX0_falls_2 8 rfl rfl)
theorem dX0_falls_55 : decode cX0_falls 55 = .ok (.iload 4, 2) := dk_21 4 (dk_at dksX0_falls_2 9 rfl rfl)
theorem dX0_falls_57 : decode cX0_falls 57 = .ok (.invokevirtual 233, 3) := dk_182 0 233 (dk_at dksX0_falls_2 11 rfl rfl)
theorem dX0_falls_60 : decode cX0_falls 60 = .ok (.istore 7, 2) := dk_54 7 (dk_at dksX0_falls_2 14 rfl rfl)
theorem dX0_falls_62 : decode cX0_falls 62 = .ok (.iload 7, 2) := dk_21 7 (dk_at dksX0_falls_2 16 rfl rfl)
theorem dX0_falls_64 : decode cX0_falls 64 = .ok (.ifCond .eq 26, 3) := dk_153 0 26 (dk_at dksX0_falls_2 18 rfl rfl)
theorem dX0_falls_67 : decode cX0_falls 67 = .ok (.iload 4, 2) := dk_21 4 (dk_at dksX0_falls_2 21 rfl rfl)
theorem dX0_falls_69 : decode cX0_falls 69 = .ok (.iload 7, 2) := dk_21 7 (dk_at dksX0_falls_3 0 rfl rfl)
theorem dX0_falls_71 : decode cX0_falls 71 = .ok (.iconst (-1), 1) := dk_2 (dk_at dksX0_falls_3 2 rfl rfl)
theorem dX0_falls_72 : decode cX0_falls 72 = .ok (.ixor, 1) := dk_130 (dk_at dksX0_falls_3 3 rfl rfl)
theorem dX0_falls_73 : decode cX0_falls 73 = .ok (.iand, 1) := dk_126 (dk_at dksX0_falls_3 4 rfl rfl)
theorem dX0_falls_74 : decode cX0_falls 74 = .ok (.istore 4, 2) := dk_54 4 (dk_at dksX0_falls_3 5 rfl rfl)
theorem dX0_falls_76 : decode cX0_falls 76 = .ok (.iinc 6 1, 3) := dk_132 6 1 (dk_at dksX0_falls_3 7 rfl rfl)
theorem dX0_falls_79 : decode cX0_falls 79 = .ok (.aload_n 3, 1) := dk_45 (dk_at dksX0_falls_3 10 rfl rfl)
theorem dX0_falls_80 : decode cX0_falls 80 = .ok (.iload 4, 2) := dk_21 4 (dk_at dksX0_falls_3 11 rfl rfl)
theorem dX0_falls_82 : decode cX0_falls 82 = .ok (.invokevirtual 233, 3) := dk_182 0 233 (dk_at dksX0_falls_3 13 rfl rfl)
theorem dX0_falls_85 : decode cX0_falls 85 = .ok (.istore 7, 2) := dk_54 7 (dk_at dksX0_falls_3 16 rfl rfl)
theorem dX0_falls_87 : decode cX0_falls 87 = .ok (.goto (-25), 3) := dk_167 255 231 (dk_at dksX0_falls_3 18 rfl rfl)
theorem dX0_falls_90 : decode cX0_falls 90 = .ok (.aload_n 0, 1) := dk_42 (dk_at dksX0_falls_3 21 rfl rfl)
theorem dX0_falls_91 : decode cX0_falls 91 = .ok (.getfield 18, 3) := dk_180 0 18 (dk_at dksX0_falls_4 0 rfl rfl)
theorem dX0_falls_94 : decode cX0_falls 94 = .ok (.getfield 101, 3) := dk_180 0 101 (dk_at dksX0_falls_4 3 rfl rfl)
theorem dX0_falls_97 : decode cX0_falls 97 = .ok (.iload_n 1, 1) := dk_27 (dk_at dksX0_falls_4 6 rfl rfl)
theorem dX0_falls_98 : decode cX0_falls 98 = .ok (.iconst (-1), 1) := dk_2 (dk_at dksX0_falls_4 7 rfl rfl)
theorem dX0_falls_99 : decode cX0_falls 99 = .ok (.ixor, 1) := dk_130 (dk_at dksX0_falls_4 8 rfl rfl)
theorem dX0_falls_100 : decode cX0_falls 100 = .ok (.iand, 1) := dk_126 (dk_at dksX0_falls_4 9 rfl rfl)
theorem dX0_falls_101 : decode cX0_falls 101 = .ok (.iload 5, 2) := dk_21 5 (dk_at dksX0_falls_4 10 rfl rfl)
theorem dX0_falls_103 : decode cX0_falls 103 = .ok (.iconst (-1), 1) := dk_2 (dk_at dksX0_falls_4 12 rfl rfl)
theorem dX0_falls_104 : decode cX0_falls 104 = .ok (.ixor, 1) := dk_130 (dk_at dksX0_falls_4 13 rfl rfl)
theorem dX0_falls_105 : decode cX0_falls 105 = .ok (.iand, 1) := dk_126 (dk_at dksX0_falls_4 14 rfl rfl)
theorem dX0_falls_106 : decode cX0_falls 106 = .ok (.istore 7, 2) := dk_54 7 (dk_at dksX0_falls_4 15 rfl rfl)
theorem dX0_falls_108 : decode cX0_falls 108 = .ok (.iload_n 2, 1) := dk_28 (dk_at dksX0_falls_4 17 rfl rfl)
theorem dX0_falls_109 : decode cX0_falls 109 = .ok (.ifCond .ne 11, 3) := dk_154 0 11 (dk_at dksX0_falls_4 18 rfl rfl)
theorem dX0_falls_112 : decode cX0_falls 112 = .ok (.iload 7, 2) := dk_21 7 (dk_at dksX0_falls_4 21 rfl rfl)
theorem dX0_falls_114 : decode cX0_falls 114 = .ok (.invokestatic 245, 3) := dk_184 0 245 (dk_at dksX0_falls_5 0 rfl rfl)
theorem dX0_falls_117 : decode cX0_falls 117 = .ok (.goto 29, 3) := dk_167 0 29 (dk_at dksX0_falls_5 3 rfl rfl)
theorem dX0_falls_120 : decode cX0_falls 120 = .ok (.iload_n 2, 1) := dk_28 (dk_at dksX0_falls_5 6 rfl rfl)
theorem dX0_falls_121 : decode cX0_falls 121 = .ok (.iconst 1, 1) := dk_4 (dk_at dksX0_falls_5 7 rfl rfl)
theorem dX0_falls_122 : decode cX0_falls 122 = .ok (.if_icmp .ne 8, 3) := dk_160 0 8 (dk_at dksX0_falls_5 8 rfl rfl)
theorem dX0_falls_125 : decode cX0_falls 125 = .ok (.iload 6, 2) := dk_21 6 (dk_at dksX0_falls_5 11 rfl rfl)
theorem dX0_falls_127 : decode cX0_falls 127 = .ok (.goto 19, 3) := dk_167 0 19 (dk_at dksX0_falls_5 13 rfl rfl)
theorem dX0_falls_130 : decode cX0_falls 130 = .ok (.iload_n 2, 1) := dk_28 (dk_at dksX0_falls_5 16 rfl rfl)
theorem dX0_falls_131 : decode cX0_falls 131 = .ok (.iconst 2, 1) := dk_5 (dk_at dksX0_falls_5 17 rfl rfl)
theorem dX0_falls_132 : decode cX0_falls 132 = .ok (.if_icmp .ne 8, 3) := dk_160 0 8 (dk_at dksX0_falls_5 18 rfl rfl)
theorem dX0_falls_135 : decode cX0_falls 135 = .ok (.iload 5, 2) := dk_21 5 (dk_at dksX0_falls_5 21 rfl rfl)
theorem dX0_falls_137 : decode cX0_falls 137 = .ok (.goto 9, 3) := dk_167 0 9 (dk_at dksX0_falls_6 0 rfl rfl)
theorem dX0_falls_140 : decode cX0_falls 140 = .ok (.aload_n 0, 1) := dk_42 (dk_at dksX0_falls_6 3 rfl rfl)
theorem dX0_falls_141 : decode cX0_falls 141 = .ok (.iload 7, 2) := dk_21 7 (dk_at dksX0_falls_6 4 rfl rfl)
theorem dX0_falls_143 : decode cX0_falls 143 = .ok (.invokevirtual 247, 3) := dk_182 0 247 (dk_at dksX0_falls_6 6 rfl rfl)
theorem dX0_falls_146 : decode cX0_falls 146 = .ok (.ireturn, 1) := dk_172 (dk_at dksX0_falls_6 9 rfl rfl)
abbrev cX0_areThere : ByteArray := prog_1_method_8_code
def yX0_areThere : MethodName := ⟨RX0, "areThere", "(I)Z"⟩
def dkwX0_areThere_1 : List UInt8 := [154, 0, 7, 4, 167, 0, 4, 3, 172]
abbrev dktX0_areThere_1 : List UInt8 := dkwX0_areThere_1 ++ []
def dkwX0_areThere_0 : List UInt8 := [27, 133, 9, 20, 0, 99, 184, 0, 95, 153, 0, 21, 27, 42, 180, 0, 18, 180, 0, 101, 2, 130, 126]
abbrev dktX0_areThere_0 : List UInt8 := dkwX0_areThere_0 ++ dktX0_areThere_1
theorem dksX0_areThere_0 : cX0_areThere.data.toList.drop 0 = dktX0_areThere_0 := by decide +kernel
theorem dksX0_areThere_1 : cX0_areThere.data.toList.drop 23 = dktX0_areThere_1 := dk_seg dksX0_areThere_0 23 rfl rfl
theorem dX0_areThere_0 : decode cX0_areThere 0 = .ok (.iload_n 1, 1) := dk_27 (dk_at dksX0_areThere_0 0 rfl rfl)
theorem dX0_areThere_1 : decode cX0_areThere 1 = .ok (.i2l, 1) := dk_133 (dk_at dksX0_areThere_0 1 rfl rfl)
theorem dX0_areThere_2 : decode cX0_areThere 2 = .ok (.lconst 0, 1) := dk_9 (dk_at dksX0_areThere_0 2 rfl rfl)
theorem dX0_areThere_3 : decode cX0_areThere 3 = .ok (.ldc2_w 99, 3) := dk_20 0 99 (dk_at dksX0_areThere_0 3 rfl rfl)
theorem dX0_areThere_6 : decode cX0_areThere 6 = .ok (.invokestatic 95, 3) := dk_184 0 95 (dk_at dksX0_areThere_0 6 rfl rfl)
theorem dX0_areThere_9 : decode cX0_areThere 9 = .ok (.ifCond .eq 21, 3) := dk_153 0 21 (dk_at dksX0_areThere_0 9 rfl rfl)
theorem dX0_areThere_12 : decode cX0_areThere 12 = .ok (.iload_n 1, 1) := dk_27 (dk_at dksX0_areThere_0 12 rfl rfl)
theorem dX0_areThere_13 : decode cX0_areThere 13 = .ok (.aload_n 0, 1) := dk_42 (dk_at dksX0_areThere_0 13 rfl rfl)
theorem dX0_areThere_14 : decode cX0_areThere 14 = .ok (.getfield 18, 3) := dk_180 0 18 (dk_at dksX0_areThere_0 14 rfl rfl)
theorem dX0_areThere_17 : decode cX0_areThere 17 = .ok (.getfield 101, 3) := dk_180 0 101 (dk_at dksX0_areThere_0 17 rfl rfl)
theorem dX0_areThere_20 : decode cX0_areThere 20 = .ok (.iconst (-1), 1) := dk_2 (dk_at dksX0_areThere_0 20 rfl rfl)
theorem dX0_areThere_21 : decode cX0_areThere 21 = .ok (.ixor, 1) := dk_130 (dk_at dksX0_areThere_0 21 rfl rfl)
theorem dX0_areThere_22 : decode cX0_areThere 22 = .ok (.iand, 1) := dk_126 (dk_at dksX0_areThere_0 22 rfl rfl)
theorem dX0_areThere_23 : decode cX0_areThere 23 = .ok (.ifCond .ne 7, 3) := dk_154 0 7 (dk_at dksX0_areThere_1 0 rfl rfl)
theorem dX0_areThere_26 : decode cX0_areThere 26 = .ok (.iconst 1, 1) := dk_4 (dk_at dksX0_areThere_1 3 rfl rfl)
theorem dX0_areThere_27 : decode cX0_areThere 27 = .ok (.goto 4, 3) := dk_167 0 4 (dk_at dksX0_areThere_1 4 rfl rfl)
theorem dX0_areThere_30 : decode cX0_areThere 30 = .ok (.iconst 0, 1) := dk_3 (dk_at dksX0_areThere_1 7 rfl rfl)
theorem dX0_areThere_31 : decode cX0_areThere 31 = .ok (.ireturn, 1) := dk_172 (dk_at dksX0_areThere_1 8 rfl rfl)
abbrev cX0_weight : ByteArray := prog_1_method_31_code
def yX0_weight : MethodName := ⟨RX0, "weight", "(I)I"⟩
def dkwX0_weight_2 : List UInt8 := [167, 0, 4, 3, 96, 61, 132, 3, 1, 167, 255, 205, 28, 172]
abbrev dktX0_weight_2 : List UInt8 := dkwX0_weight_2 ++ []
def dkwX0_weight_1 : List UInt8 := [153, 0, 25, 42, 180, 0, 18, 180, 0, 85, 29, 182, 0, 147, 192, 0, 112, 180, 0, 151, 3, 46]
abbrev dktX0_weight_1 : List UInt8 := dkwX0_weight_1 ++ dktX0_weight_2
def dkwX0_weight_0 : List UInt8 := [3, 61, 3, 62, 29, 42, 180, 0, 18, 180, 0, 85, 182, 0, 89, 162, 0, 43, 28, 27, 29, 184, 0, 168]
abbrev dktX0_weight_0 : List UInt8 := dkwX0_weight_0 ++ dktX0_weight_1
theorem dksX0_weight_0 : cX0_weight.data.toList.drop 0 = dktX0_weight_0 := by decide +kernel
theorem dksX0_weight_1 : cX0_weight.data.toList.drop 24 = dktX0_weight_1 := dk_seg dksX0_weight_0 24 rfl rfl
theorem dksX0_weight_2 : cX0_weight.data.toList.drop 46 = dktX0_weight_2 := dk_seg dksX0_weight_1 22 rfl rfl
theorem dX0_weight_0 : decode cX0_weight 0 = .ok (.iconst 0, 1) := dk_3 (dk_at dksX0_weight_0 0 rfl rfl)
theorem dX0_weight_1 : decode cX0_weight 1 = .ok (.istore_n 2, 1) := dk_61 (dk_at dksX0_weight_0 1 rfl rfl)
theorem dX0_weight_2 : decode cX0_weight 2 = .ok (.iconst 0, 1) := dk_3 (dk_at dksX0_weight_0 2 rfl rfl)
theorem dX0_weight_3 : decode cX0_weight 3 = .ok (.istore_n 3, 1) := dk_62 (dk_at dksX0_weight_0 3 rfl rfl)
theorem dX0_weight_4 : decode cX0_weight 4 = .ok (.iload_n 3, 1) := dk_29 (dk_at dksX0_weight_0 4 rfl rfl)
theorem dX0_weight_5 : decode cX0_weight 5 = .ok (.aload_n 0, 1) := dk_42 (dk_at dksX0_weight_0 5 rfl rfl)
theorem dX0_weight_6 : decode cX0_weight 6 = .ok (.getfield 18, 3) := dk_180 0 18 (dk_at dksX0_weight_0 6 rfl rfl)
theorem dX0_weight_9 : decode cX0_weight 9 = .ok (.getfield 85, 3) := dk_180 0 85 (dk_at dksX0_weight_0 9 rfl rfl)
theorem dX0_weight_12 : decode cX0_weight 12 = .ok (.invokevirtual 89, 3) := dk_182 0 89 (dk_at dksX0_weight_0 12 rfl rfl)
theorem dX0_weight_15 : decode cX0_weight 15 = .ok (.if_icmp .ge 43, 3) := dk_162 0 43 (dk_at dksX0_weight_0 15 rfl rfl)
theorem dX0_weight_18 : decode cX0_weight 18 = .ok (.iload_n 2, 1) := dk_28 (dk_at dksX0_weight_0 18 rfl rfl)
theorem dX0_weight_19 : decode cX0_weight 19 = .ok (.iload_n 1, 1) := dk_27 (dk_at dksX0_weight_0 19 rfl rfl)
theorem dX0_weight_20 : decode cX0_weight 20 = .ok (.iload_n 3, 1) := dk_29 (dk_at dksX0_weight_0 20 rfl rfl)
theorem dX0_weight_21 : decode cX0_weight 21 = .ok (.invokestatic 168, 3) := dk_184 0 168 (dk_at dksX0_weight_0 21 rfl rfl)
theorem dX0_weight_24 : decode cX0_weight 24 = .ok (.ifCond .eq 25, 3) := dk_153 0 25 (dk_at dksX0_weight_1 0 rfl rfl)
theorem dX0_weight_27 : decode cX0_weight 27 = .ok (.aload_n 0, 1) := dk_42 (dk_at dksX0_weight_1 3 rfl rfl)
theorem dX0_weight_28 : decode cX0_weight 28 = .ok (.getfield 18, 3) := dk_180 0 18 (dk_at dksX0_weight_1 4 rfl rfl)
theorem dX0_weight_31 : decode cX0_weight 31 = .ok (.getfield 85, 3) := dk_180 0 85 (dk_at dksX0_weight_1 7 rfl rfl)
theorem dX0_weight_34 : decode cX0_weight 34 = .ok (.iload_n 3, 1) := dk_29 (dk_at dksX0_weight_1 10 rfl rfl)
theorem dX0_weight_35 : decode cX0_weight 35 = .ok (.invokevirtual 147, 3) := dk_182 0 147 (dk_at dksX0_weight_1 11 rfl rfl)
theorem dX0_weight_38 : decode cX0_weight 38 = .ok (.checkcast 112, 3) := dk_192 0 112 (dk_at dksX0_weight_1 14 rfl rfl)
theorem dX0_weight_41 : decode cX0_weight 41 = .ok (.getfield 151, 3) := dk_180 0 151 (dk_at dksX0_weight_1 17 rfl rfl)
theorem dX0_weight_44 : decode cX0_weight 44 = .ok (.iconst 0, 1) := dk_3 (dk_at dksX0_weight_1 20 rfl rfl)
theorem dX0_weight_45 : decode cX0_weight 45 = .ok (.iaload, 1) := dk_46 (dk_at dksX0_weight_1 21 rfl rfl)
theorem dX0_weight_46 : decode cX0_weight 46 = .ok (.goto 4, 3) := dk_167 0 4 (dk_at dksX0_weight_2 0 rfl rfl)
theorem dX0_weight_49 : decode cX0_weight 49 = .ok (.iconst 0, 1) := dk_3 (dk_at dksX0_weight_2 3 rfl rfl)
theorem dX0_weight_50 : decode cX0_weight 50 = .ok (.iadd, 1) := dk_96 (dk_at dksX0_weight_2 4 rfl rfl)
theorem dX0_weight_51 : decode cX0_weight 51 = .ok (.istore_n 2, 1) := dk_61 (dk_at dksX0_weight_2 5 rfl rfl)
theorem dX0_weight_52 : decode cX0_weight 52 = .ok (.iinc 3 1, 3) := dk_132 3 1 (dk_at dksX0_weight_2 6 rfl rfl)
theorem dX0_weight_55 : decode cX0_weight 55 = .ok (.goto (-51), 3) := dk_167 255 205 (dk_at dksX0_weight_2 9 rfl rfl)
theorem dX0_weight_58 : decode cX0_weight 58 = .ok (.iload_n 2, 1) := dk_28 (dk_at dksX0_weight_2 12 rfl rfl)
theorem dX0_weight_59 : decode cX0_weight 59 = .ok (.ireturn, 1) := dk_172 (dk_at dksX0_weight_2 13 rfl rfl)
abbrev cX0_round : ByteArray := prog_1_method_33_code
def yX0_round : MethodName := ⟨RX0, "round", "(II)I"⟩
def dkwX0_round_4 : List UInt8 := [172, 21, 4, 21, 6, 2, 130, 126, 54, 4, 45, 21, 4, 182, 0, 233, 54, 6, 167, 255, 219, 2, 172]
abbrev dktX0_round_4 : List UInt8 := dkwX0_round_4 ++ []
def dkwX0_round_3 : List UInt8 := [182, 0, 233, 54, 6, 21, 6, 153, 0, 38, 132, 5, 1, 21, 6, 28, 184, 0, 168, 153, 0, 6, 21, 5]
abbrev dktX0_round_3 : List UInt8 := dkwX0_round_3 ++ dktX0_round_4
def dkwX0_round_2 : List UInt8 := [182, 0, 217, 78, 42, 180, 0, 18, 180, 0, 101, 27, 2, 130, 126, 54, 4, 3, 54, 5, 45, 21, 4]
abbrev dktX0_round_2 : List UInt8 := dkwX0_round_2 ++ dktX0_round_3
def dkwX0_round_1 : List UInt8 := [184, 0, 168, 154, 0, 5, 2, 172, 27, 28, 184, 0, 168, 153, 0, 5, 3, 172, 42, 180, 0, 61]
abbrev dktX0_round_1 : List UInt8 := dkwX0_round_1 ++ dktX0_round_2
def dkwX0_round_0 : List UInt8 := [42, 27, 182, 0, 239, 153, 0, 25, 42, 28, 182, 0, 143, 153, 0, 17, 42, 180, 0, 18, 180, 0, 101, 28]
abbrev dktX0_round_0 : List UInt8 := dkwX0_round_0 ++ dktX0_round_1
theorem dksX0_round_0 : cX0_round.data.toList.drop 0 = dktX0_round_0 := by decide +kernel
theorem dksX0_round_1 : cX0_round.data.toList.drop 24 = dktX0_round_1 := dk_seg dksX0_round_0 24 rfl rfl
theorem dksX0_round_2 : cX0_round.data.toList.drop 46 = dktX0_round_2 := dk_seg dksX0_round_1 22 rfl rfl
theorem dksX0_round_3 : cX0_round.data.toList.drop 69 = dktX0_round_3 := dk_seg dksX0_round_2 23 rfl rfl
theorem dksX0_round_4 : cX0_round.data.toList.drop 93 = dktX0_round_4 := dk_seg dksX0_round_3 24 rfl rfl
theorem dX0_round_0 : decode cX0_round 0 = .ok (.aload_n 0, 1) := dk_42 (dk_at dksX0_round_0 0 rfl rfl)
theorem dX0_round_1 : decode cX0_round 1 = .ok (.iload_n 1, 1) := dk_27 (dk_at dksX0_round_0 1 rfl rfl)
theorem dX0_round_2 : decode cX0_round 2 = .ok (.invokevirtual 239, 3) := dk_182 0 239 (dk_at dksX0_round_0 2 rfl rfl)
theorem dX0_round_5 : decode cX0_round 5 = .ok (.ifCond .eq 25, 3) := dk_153 0 25 (dk_at dksX0_round_0 5 rfl rfl)
theorem dX0_round_8 : decode cX0_round 8 = .ok (.aload_n 0, 1) := dk_42 (dk_at dksX0_round_0 8 rfl rfl)
theorem dX0_round_9 : decode cX0_round 9 = .ok (.iload_n 2, 1) := dk_28 (dk_at dksX0_round_0 9 rfl rfl)
theorem dX0_round_10 : decode cX0_round 10 = .ok (.invokevirtual 143, 3) := dk_182 0 143 (dk_at dksX0_round_0 10 rfl rfl)
theorem dX0_round_13 : decode cX0_round 13 = .ok (.ifCond .eq 17, 3) := dk_153 0 17 (dk_at dksX0_round_0 13 rfl rfl)
theorem dX0_round_16 : decode cX0_round 16 = .ok (.aload_n 0, 1) := dk_42 (dk_at dksX0_round_0 16 rfl rfl)
theorem dX0_round_17 : decode cX0_round 17 = .ok (.getfield 18, 3) := dk_180 0 18 (dk_at dksX0_round_0 17 rfl rfl)
theorem dX0_round_20 : decode cX0_round 20 = .ok (.getfield 101, 3) := dk_180 0 101 (dk_at dksX0_round_0 20 rfl rfl)
theorem dX0_round_23 : decode cX0_round 23 = .ok (.iload_n 2, 1) := dk_28 (dk_at dksX0_round_0 23 rfl rfl)
theorem dX0_round_24 : decode cX0_round 24 = .ok (.invokestatic 168, 3) := dk_184 0 168 (dk_at dksX0_round_1 0 rfl rfl)
theorem dX0_round_27 : decode cX0_round 27 = .ok (.ifCond .ne 5, 3) := dk_154 0 5 (dk_at dksX0_round_1 3 rfl rfl)
theorem dX0_round_30 : decode cX0_round 30 = .ok (.iconst (-1), 1) := dk_2 (dk_at dksX0_round_1 6 rfl rfl)
theorem dX0_round_31 : decode cX0_round 31 = .ok (.ireturn, 1) := dk_172 (dk_at dksX0_round_1 7 rfl rfl)
theorem dX0_round_32 : decode cX0_round 32 = .ok (.iload_n 1, 1) := dk_27 (dk_at dksX0_round_1 8 rfl rfl)
theorem dX0_round_33 : decode cX0_round 33 = .ok (.iload_n 2, 1) := dk_28 (dk_at dksX0_round_1 9 rfl rfl)
theorem dX0_round_34 : decode cX0_round 34 = .ok (.invokestatic 168, 3) := dk_184 0 168 (dk_at dksX0_round_1 10 rfl rfl)
theorem dX0_round_37 : decode cX0_round 37 = .ok (.ifCond .eq 5, 3) := dk_153 0 5 (dk_at dksX0_round_1 13 rfl rfl)
theorem dX0_round_40 : decode cX0_round 40 = .ok (.iconst 0, 1) := dk_3 (dk_at dksX0_round_1 16 rfl rfl)
theorem dX0_round_41 : decode cX0_round 41 = .ok (.ireturn, 1) := dk_172 (dk_at dksX0_round_1 17 rfl rfl)
theorem dX0_round_42 : decode cX0_round 42 = .ok (.aload_n 0, 1) := dk_42 (dk_at dksX0_round_1 18 rfl rfl)
theorem dX0_round_43 : decode cX0_round 43 = .ok (.getfield 61, 3) := dk_180 0 61 (dk_at dksX0_round_1 19 rfl rfl)
theorem dX0_round_46 : decode cX0_round 46 = .ok (.invokevirtual 217, 3) := dk_182 0 217 (dk_at dksX0_round_2 0 rfl rfl)
theorem dX0_round_49 : decode cX0_round 49 = .ok (.astore_n 3, 1) := dk_78 (dk_at dksX0_round_2 3 rfl rfl)
theorem dX0_round_50 : decode cX0_round 50 = .ok (.aload_n 0, 1) := dk_42 (dk_at dksX0_round_2 4 rfl rfl)
theorem dX0_round_51 : decode cX0_round 51 = .ok (.getfield 18, 3) := dk_180 0 18 (dk_at dksX0_round_2 5 rfl rfl)
theorem dX0_round_54 : decode cX0_round 54 = .ok (.getfield 101, 3) := dk_180 0 101 (dk_at dksX0_round_2 8 rfl rfl)
theorem dX0_round_57 : decode cX0_round 57 = .ok (.iload_n 1, 1) := dk_27 (dk_at dksX0_round_2 11 rfl rfl)
theorem dX0_round_58 : decode cX0_round 58 = .ok (.iconst (-1), 1) := dk_2 (dk_at dksX0_round_2 12 rfl rfl)
theorem dX0_round_59 : decode cX0_round 59 = .ok (.ixor, 1) := dk_130 (dk_at dksX0_round_2 13 rfl rfl)
theorem dX0_round_60 : decode cX0_round 60 = .ok (.iand, 1) := dk_126 (dk_at dksX0_round_2 14 rfl rfl)
theorem dX0_round_61 : decode cX0_round 61 = .ok (.istore 4, 2) := dk_54 4 (dk_at dksX0_round_2 15 rfl rfl)
theorem dX0_round_63 : decode cX0_round 63 = .ok (.iconst 0, 1) := dk_3 (dk_at dksX0_round_2 17 rfl rfl)
theorem dX0_round_64 : decode cX0_round 64 = .ok (.istore 5, 2) := dk_54 5 (dk_at dksX0_round_2 18 rfl rfl)
theorem dX0_round_66 : decode cX0_round 66 = .ok (.aload_n 3, 1) := dk_45 (dk_at dksX0_round_2 20 rfl rfl)
theorem dX0_round_67 : decode cX0_round 67 = .ok (.iload 4, 2) := dk_21 4 (dk_at dksX0_round_2 21 rfl rfl)
theorem dX0_round_69 : decode cX0_round 69 = .ok (.invokevirtual 233, 3) := dk_182 0 233 (dk_at dksX0_round_3 0 rfl rfl)
theorem dX0_round_72 : decode cX0_round 72 = .ok (.istore 6, 2) := dk_54 6 (dk_at dksX0_round_3 3 rfl rfl)
theorem dX0_round_74 : decode cX0_round 74 = .ok (.iload 6, 2) := dk_21 6 (dk_at dksX0_round_3 5 rfl rfl)
theorem dX0_round_76 : decode cX0_round 76 = .ok (.ifCond .eq 38, 3) := dk_153 0 38 (dk_at dksX0_round_3 7 rfl rfl)
theorem dX0_round_79 : decode cX0_round 79 = .ok (.iinc 5 1, 3) := dk_132 5 1 (dk_at dksX0_round_3 10 rfl rfl)
theorem dX0_round_82 : decode cX0_round 82 = .ok (.iload 6, 2) := dk_21 6 (dk_at dksX0_round_3 13 rfl rfl)
theorem dX0_round_84 : decode cX0_round 84 = .ok (.iload_n 2, 1) := dk_28 (dk_at dksX0_round_3 15 rfl rfl)
theorem dX0_round_85 : decode cX0_round 85 = .ok (.invokestatic 168, 3) := dk_184 0 168 (dk_at dksX0_round_3 16 rfl rfl)
theorem dX0_round_88 : decode cX0_round 88 = .ok (.ifCond .eq 6, 3) := dk_153 0 6 (dk_at dksX0_round_3 19 rfl rfl)
theorem dX0_round_91 : decode cX0_round 91 = .ok (.iload 5, 2) := dk_21 5 (dk_at dksX0_round_3 22 rfl rfl)
theorem dX0_round_93 : decode cX0_round 93 = .ok (.ireturn, 1) := dk_172 (dk_at dksX0_round_4 0 rfl rfl)
theorem dX0_round_94 : decode cX0_round 94 = .ok (.iload 4, 2) := dk_21 4 (dk_at dksX0_round_4 1 rfl rfl)
theorem dX0_round_96 : decode cX0_round 96 = .ok (.iload 6, 2) := dk_21 6 (dk_at dksX0_round_4 3 rfl rfl)
theorem dX0_round_98 : decode cX0_round 98 = .ok (.iconst (-1), 1) := dk_2 (dk_at dksX0_round_4 5 rfl rfl)
theorem dX0_round_99 : decode cX0_round 99 = .ok (.ixor, 1) := dk_130 (dk_at dksX0_round_4 6 rfl rfl)
theorem dX0_round_100 : decode cX0_round 100 = .ok (.iand, 1) := dk_126 (dk_at dksX0_round_4 7 rfl rfl)
theorem dX0_round_101 : decode cX0_round 101 = .ok (.istore 4, 2) := dk_54 4 (dk_at dksX0_round_4 8 rfl rfl)
theorem dX0_round_103 : decode cX0_round 103 = .ok (.aload_n 3, 1) := dk_45 (dk_at dksX0_round_4 10 rfl rfl)
theorem dX0_round_104 : decode cX0_round 104 = .ok (.iload 4, 2) := dk_21 4 (dk_at dksX0_round_4 11 rfl rfl)
theorem dX0_round_106 : decode cX0_round 106 = .ok (.invokevirtual 233, 3) := dk_182 0 233 (dk_at dksX0_round_4 13 rfl rfl)
theorem dX0_round_109 : decode cX0_round 109 = .ok (.istore 6, 2) := dk_54 6 (dk_at dksX0_round_4 16 rfl rfl)
theorem dX0_round_111 : decode cX0_round 111 = .ok (.goto (-37), 3) := dk_167 255 219 (dk_at dksX0_round_4 18 rfl rfl)
theorem dX0_round_114 : decode cX0_round 114 = .ok (.iconst (-1), 1) := dk_2 (dk_at dksX0_round_4 21 rfl rfl)
theorem dX0_round_115 : decode cX0_round 115 = .ok (.ireturn, 1) := dk_172 (dk_at dksX0_round_4 22 rfl rfl)
abbrev cX0_take : ByteArray := prog_1_method_34_code
def yX0_take : MethodName := ⟨RX0, "take", "(I)I"⟩
def dkwX0_take_2 : List UInt8 := [180, 0, 18, 180, 0, 101, 2, 130, 126, 184, 0, 245, 182, 0, 117, 172]
abbrev dktX0_take_2 : List UInt8 := dkwX0_take_2 ++ []
def dkwX0_take_1 : List UInt8 := [180, 0, 18, 42, 180, 0, 61, 182, 0, 217, 28, 27, 2, 130, 126, 182, 0, 242, 181, 0, 101, 42, 28, 42]
abbrev dktX0_take_1 : List UInt8 := dkwX0_take_1 ++ dktX0_take_2
def dkwX0_take_0 : List UInt8 := [42, 27, 182, 0, 239, 154, 0, 9, 42, 2, 182, 0, 117, 172, 42, 180, 0, 18, 180, 0, 101, 61, 42]
abbrev dktX0_take_0 : List UInt8 := dkwX0_take_0 ++ dktX0_take_1
theorem dksX0_take_0 : cX0_take.data.toList.drop 0 = dktX0_take_0 := by decide +kernel
theorem dksX0_take_1 : cX0_take.data.toList.drop 23 = dktX0_take_1 := dk_seg dksX0_take_0 23 rfl rfl
theorem dksX0_take_2 : cX0_take.data.toList.drop 47 = dktX0_take_2 := dk_seg dksX0_take_1 24 rfl rfl
theorem dX0_take_0 : decode cX0_take 0 = .ok (.aload_n 0, 1) := dk_42 (dk_at dksX0_take_0 0 rfl rfl)
theorem dX0_take_1 : decode cX0_take 1 = .ok (.iload_n 1, 1) := dk_27 (dk_at dksX0_take_0 1 rfl rfl)
theorem dX0_take_2 : decode cX0_take 2 = .ok (.invokevirtual 239, 3) := dk_182 0 239 (dk_at dksX0_take_0 2 rfl rfl)
theorem dX0_take_5 : decode cX0_take 5 = .ok (.ifCond .ne 9, 3) := dk_154 0 9 (dk_at dksX0_take_0 5 rfl rfl)
theorem dX0_take_8 : decode cX0_take 8 = .ok (.aload_n 0, 1) := dk_42 (dk_at dksX0_take_0 8 rfl rfl)
theorem dX0_take_9 : decode cX0_take 9 = .ok (.iconst (-1), 1) := dk_2 (dk_at dksX0_take_0 9 rfl rfl)
theorem dX0_take_10 : decode cX0_take 10 = .ok (.invokevirtual 117, 3) := dk_182 0 117 (dk_at dksX0_take_0 10 rfl rfl)
theorem dX0_take_13 : decode cX0_take 13 = .ok (.ireturn, 1) := dk_172 (dk_at dksX0_take_0 13 rfl rfl)
theorem dX0_take_14 : decode cX0_take 14 = .ok (.aload_n 0, 1) := dk_42 (dk_at dksX0_take_0 14 rfl rfl)
theorem dX0_take_15 : decode cX0_take 15 = .ok (.getfield 18, 3) := dk_180 0 18 (dk_at dksX0_take_0 15 rfl rfl)
theorem dX0_take_18 : decode cX0_take 18 = .ok (.getfield 101, 3) := dk_180 0 101 (dk_at dksX0_take_0 18 rfl rfl)
theorem dX0_take_21 : decode cX0_take 21 = .ok (.istore_n 2, 1) := dk_61 (dk_at dksX0_take_0 21 rfl rfl)
theorem dX0_take_22 : decode cX0_take 22 = .ok (.aload_n 0, 1) := dk_42 (dk_at dksX0_take_0 22 rfl rfl)
theorem dX0_take_23 : decode cX0_take 23 = .ok (.getfield 18, 3) := dk_180 0 18 (dk_at dksX0_take_1 0 rfl rfl)
theorem dX0_take_26 : decode cX0_take 26 = .ok (.aload_n 0, 1) := dk_42 (dk_at dksX0_take_1 3 rfl rfl)
theorem dX0_take_27 : decode cX0_take 27 = .ok (.getfield 61, 3) := dk_180 0 61 (dk_at dksX0_take_1 4 rfl rfl)
theorem dX0_take_30 : decode cX0_take 30 = .ok (.invokevirtual 217, 3) := dk_182 0 217 (dk_at dksX0_take_1 7 rfl rfl)
theorem dX0_take_33 : decode cX0_take 33 = .ok (.iload_n 2, 1) := dk_28 (dk_at dksX0_take_1 10 rfl rfl)
theorem dX0_take_34 : decode cX0_take 34 = .ok (.iload_n 1, 1) := dk_27 (dk_at dksX0_take_1 11 rfl rfl)
theorem dX0_take_35 : decode cX0_take 35 = .ok (.iconst (-1), 1) := dk_2 (dk_at dksX0_take_1 12 rfl rfl)
theorem dX0_take_36 : decode cX0_take 36 = .ok (.ixor, 1) := dk_130 (dk_at dksX0_take_1 13 rfl rfl)
theorem dX0_take_37 : decode cX0_take 37 = .ok (.iand, 1) := dk_126 (dk_at dksX0_take_1 14 rfl rfl)
theorem dX0_take_38 : decode cX0_take 38 = .ok (.invokevirtual 242, 3) := dk_182 0 242 (dk_at dksX0_take_1 15 rfl rfl)
theorem dX0_take_41 : decode cX0_take 41 = .ok (.putfield 101, 3) := dk_181 0 101 (dk_at dksX0_take_1 18 rfl rfl)
theorem dX0_take_44 : decode cX0_take 44 = .ok (.aload_n 0, 1) := dk_42 (dk_at dksX0_take_1 21 rfl rfl)
theorem dX0_take_45 : decode cX0_take 45 = .ok (.iload_n 2, 1) := dk_28 (dk_at dksX0_take_1 22 rfl rfl)
theorem dX0_take_46 : decode cX0_take 46 = .ok (.aload_n 0, 1) := dk_42 (dk_at dksX0_take_1 23 rfl rfl)
theorem dX0_take_47 : decode cX0_take 47 = .ok (.getfield 18, 3) := dk_180 0 18 (dk_at dksX0_take_2 0 rfl rfl)
theorem dX0_take_50 : decode cX0_take 50 = .ok (.getfield 101, 3) := dk_180 0 101 (dk_at dksX0_take_2 3 rfl rfl)
theorem dX0_take_53 : decode cX0_take 53 = .ok (.iconst (-1), 1) := dk_2 (dk_at dksX0_take_2 6 rfl rfl)
theorem dX0_take_54 : decode cX0_take 54 = .ok (.ixor, 1) := dk_130 (dk_at dksX0_take_2 7 rfl rfl)
theorem dX0_take_55 : decode cX0_take 55 = .ok (.iand, 1) := dk_126 (dk_at dksX0_take_2 8 rfl rfl)
theorem dX0_take_56 : decode cX0_take 56 = .ok (.invokestatic 245, 3) := dk_184 0 245 (dk_at dksX0_take_2 9 rfl rfl)
theorem dX0_take_59 : decode cX0_take 59 = .ok (.invokevirtual 117, 3) := dk_182 0 117 (dk_at dksX0_take_2 12 rfl rfl)
theorem dX0_take_62 : decode cX0_take 62 = .ok (.ireturn, 1) := dk_172 (dk_at dksX0_take_2 15 rfl rfl)
abbrev cX0_farm : ByteArray := prog_1_method_35_code
def yX0_farm : MethodName := ⟨RX0, "farm", "(II)I"⟩
def dkwX0_farm_5 : List UInt8 := [54, 4, 132, 5, 1, 167, 255, 195, 21, 4, 172]
abbrev dktX0_farm_5 : List UInt8 := dkwX0_farm_5 ++ []
def dkwX0_farm_4 : List UInt8 := [21, 5, 182, 0, 147, 192, 0, 112, 180, 0, 151, 4, 46, 28, 160, 0, 7, 4, 167, 0, 4, 3, 96]
abbrev dktX0_farm_4 : List UInt8 := dkwX0_farm_4 ++ dktX0_farm_5
def dkwX0_farm_3 : List UInt8 := [182, 0, 89, 162, 0, 52, 21, 4, 29, 21, 5, 184, 0, 168, 153, 0, 31, 42, 180, 0, 18, 180, 0, 85]
abbrev dktX0_farm_3 : List UInt8 := dkwX0_farm_3 ++ dktX0_farm_4
def dkwX0_farm_2 : List UInt8 := [182, 0, 242, 2, 130, 126, 62, 3, 54, 4, 3, 54, 5, 21, 5, 42, 180, 0, 18, 180, 0, 85]
abbrev dktX0_farm_2 : List UInt8 := dkwX0_farm_2 ++ dktX0_farm_3
def dkwX0_farm_1 : List UInt8 := [180, 0, 18, 180, 0, 101, 42, 180, 0, 61, 182, 0, 217, 42, 180, 0, 18, 180, 0, 101, 27, 2, 130, 126]
abbrev dktX0_farm_1 : List UInt8 := dkwX0_farm_1 ++ dktX0_farm_2
def dkwX0_farm_0 : List UInt8 := [42, 27, 182, 0, 239, 153, 0, 15, 28, 133, 9, 20, 0, 139, 184, 0, 95, 154, 0, 5, 2, 172, 42]
abbrev dktX0_farm_0 : List UInt8 := dkwX0_farm_0 ++ dktX0_farm_1
theorem dksX0_farm_0 : cX0_farm.data.toList.drop 0 = dktX0_farm_0 := by decide +kernel
theorem dksX0_farm_1 : cX0_farm.data.toList.drop 23 = dktX0_farm_1 := dk_seg dksX0_farm_0 23 rfl rfl
theorem dksX0_farm_2 : cX0_farm.data.toList.drop 47 = dktX0_farm_2 := dk_seg dksX0_farm_1 24 rfl rfl
theorem dksX0_farm_3 : cX0_farm.data.toList.drop 69 = dktX0_farm_3 := dk_seg dksX0_farm_2 22 rfl rfl
theorem dksX0_farm_4 : cX0_farm.data.toList.drop 93 = dktX0_farm_4 := dk_seg dksX0_farm_3 24 rfl rfl
theorem dksX0_farm_5 : cX0_farm.data.toList.drop 116 = dktX0_farm_5 := dk_seg dksX0_farm_4 23 rfl rfl
theorem dX0_farm_0 : decode cX0_farm 0 = .ok (.aload_n 0, 1) := dk_42 (dk_at dksX0_farm_0 0 rfl rfl)
theorem dX0_farm_1 : decode cX0_farm 1 = .ok (.iload_n 1, 1) := dk_27 (dk_at dksX0_farm_0 1 rfl rfl)
theorem dX0_farm_2 : decode cX0_farm 2 = .ok (.invokevirtual 239, 3) := dk_182 0 239 (dk_at dksX0_farm_0 2 rfl rfl)
theorem dX0_farm_5 : decode cX0_farm 5 = .ok (.ifCond .eq 15, 3) := dk_153 0 15 (dk_at dksX0_farm_0 5 rfl rfl)
theorem dX0_farm_8 : decode cX0_farm 8 = .ok (.iload_n 2, 1) := dk_28 (dk_at dksX0_farm_0 8 rfl rfl)
theorem dX0_farm_9 : decode cX0_farm 9 = .ok (.i2l, 1) := dk_133 (dk_at dksX0_farm_0 9 rfl rfl)
theorem dX0_farm_10 : decode cX0_farm 10 = .ok (.lconst 0, 1) := dk_9 (dk_at dksX0_farm_0 10 rfl rfl)
theorem dX0_farm_11 : decode cX0_farm 11 = .ok (.ldc2_w 139, 3) := dk_20 0 139 (dk_at dksX0_farm_0 11 rfl rfl)
theorem dX0_farm_14 : decode cX0_farm 14 = .ok (.invokestatic 95, 3) := dk_184 0 95 (dk_at dksX0_farm_0 14 rfl rfl)
theorem dX0_farm_17 : decode cX0_farm 17 = .ok (.ifCond .ne 5, 3) := dk_154 0 5 (dk_at dksX0_farm_0 17 rfl rfl)
theorem dX0_farm_20 : decode cX0_farm 20 = .ok (.iconst (-1), 1) := dk_2 (dk_at dksX0_farm_0 20 rfl rfl)
theorem dX0_farm_21 : decode cX0_farm 21 = .ok (.ireturn, 1) := dk_172 (dk_at dksX0_farm_0 21 rfl rfl)
theorem dX0_farm_22 : decode cX0_farm 22 = .ok (.aload_n 0, 1) := dk_42 (dk_at dksX0_farm_0 22 rfl rfl)
theorem dX0_farm_23 : decode cX0_farm 23 = .ok (.getfield 18, 3) := dk_180 0 18 (dk_at dksX0_farm_1 0 rfl rfl)
theorem dX0_farm_26 : decode cX0_farm 26 = .ok (.getfield 101, 3) := dk_180 0 101 (dk_at dksX0_farm_1 3 rfl rfl)
theorem dX0_farm_29 : decode cX0_farm 29 = .ok (.aload_n 0, 1) := dk_42 (dk_at dksX0_farm_1 6 rfl rfl)
theorem dX0_farm_30 : decode cX0_farm 30 = .ok (.getfield 61, 3) := dk_180 0 61 (dk_at dksX0_farm_1 7 rfl rfl)
theorem dX0_farm_33 : decode cX0_farm 33 = .ok (.invokevirtual 217, 3) := dk_182 0 217 (dk_at dksX0_farm_1 10 rfl rfl)
theorem dX0_farm_36 : decode cX0_farm 36 = .ok (.aload_n 0, 1) := dk_42 (dk_at dksX0_farm_1 13 rfl rfl)
theorem dX0_farm_37 : decode cX0_farm 37 = .ok (.getfield 18, 3) := dk_180 0 18 (dk_at dksX0_farm_1 14 rfl rfl)
theorem dX0_farm_40 : decode cX0_farm 40 = .ok (.getfield 101, 3) := dk_180 0 101 (dk_at dksX0_farm_1 17 rfl rfl)
theorem dX0_farm_43 : decode cX0_farm 43 = .ok (.iload_n 1, 1) := dk_27 (dk_at dksX0_farm_1 20 rfl rfl)
theorem dX0_farm_44 : decode cX0_farm 44 = .ok (.iconst (-1), 1) := dk_2 (dk_at dksX0_farm_1 21 rfl rfl)
theorem dX0_farm_45 : decode cX0_farm 45 = .ok (.ixor, 1) := dk_130 (dk_at dksX0_farm_1 22 rfl rfl)
theorem dX0_farm_46 : decode cX0_farm 46 = .ok (.iand, 1) := dk_126 (dk_at dksX0_farm_1 23 rfl rfl)
theorem dX0_farm_47 : decode cX0_farm 47 = .ok (.invokevirtual 242, 3) := dk_182 0 242 (dk_at dksX0_farm_2 0 rfl rfl)
theorem dX0_farm_50 : decode cX0_farm 50 = .ok (.iconst (-1), 1) := dk_2 (dk_at dksX0_farm_2 3 rfl rfl)
theorem dX0_farm_51 : decode cX0_farm 51 = .ok (.ixor, 1) := dk_130 (dk_at dksX0_farm_2 4 rfl rfl)
theorem dX0_farm_52 : decode cX0_farm 52 = .ok (.iand, 1) := dk_126 (dk_at dksX0_farm_2 5 rfl rfl)
theorem dX0_farm_53 : decode cX0_farm 53 = .ok (.istore_n 3, 1) := dk_62 (dk_at dksX0_farm_2 6 rfl rfl)
theorem dX0_farm_54 : decode cX0_farm 54 = .ok (.iconst 0, 1) := dk_3 (dk_at dksX0_farm_2 7 rfl rfl)
theorem dX0_farm_55 : decode cX0_farm 55 = .ok (.istore 4, 2) := dk_54 4 (dk_at dksX0_farm_2 8 rfl rfl)
theorem dX0_farm_57 : decode cX0_farm 57 = .ok (.iconst 0, 1) := dk_3 (dk_at dksX0_farm_2 10 rfl rfl)
theorem dX0_farm_58 : decode cX0_farm 58 = .ok (.istore 5, 2) := dk_54 5 (dk_at dksX0_farm_2 11 rfl rfl)
theorem dX0_farm_60 : decode cX0_farm 60 = .ok (.iload 5, 2) := dk_21 5 (dk_at dksX0_farm_2 13 rfl rfl)
theorem dX0_farm_62 : decode cX0_farm 62 = .ok (.aload_n 0, 1) := dk_42 (dk_at dksX0_farm_2 15 rfl rfl)
theorem dX0_farm_63 : decode cX0_farm 63 = .ok (.getfield 18, 3) := dk_180 0 18 (dk_at dksX0_farm_2 16 rfl rfl)
theorem dX0_farm_66 : decode cX0_farm 66 = .ok (.getfield 85, 3) := dk_180 0 85 (dk_at dksX0_farm_2 19 rfl rfl)
theorem dX0_farm_69 : decode cX0_farm 69 = .ok (.invokevirtual 89, 3) := dk_182 0 89 (dk_at dksX0_farm_3 0 rfl rfl)
theorem dX0_farm_72 : decode cX0_farm 72 = .ok (.if_icmp .ge 52, 3) := dk_162 0 52 (dk_at dksX0_farm_3 3 rfl rfl)
theorem dX0_farm_75 : decode cX0_farm 75 = .ok (.iload 4, 2) := dk_21 4 (dk_at dksX0_farm_3 6 rfl rfl)
theorem dX0_farm_77 : decode cX0_farm 77 = .ok (.iload_n 3, 1) := dk_29 (dk_at dksX0_farm_3 8 rfl rfl)
theorem dX0_farm_78 : decode cX0_farm 78 = .ok (.iload 5, 2) := dk_21 5 (dk_at dksX0_farm_3 9 rfl rfl)
theorem dX0_farm_80 : decode cX0_farm 80 = .ok (.invokestatic 168, 3) := dk_184 0 168 (dk_at dksX0_farm_3 11 rfl rfl)
theorem dX0_farm_83 : decode cX0_farm 83 = .ok (.ifCond .eq 31, 3) := dk_153 0 31 (dk_at dksX0_farm_3 14 rfl rfl)
theorem dX0_farm_86 : decode cX0_farm 86 = .ok (.aload_n 0, 1) := dk_42 (dk_at dksX0_farm_3 17 rfl rfl)
theorem dX0_farm_87 : decode cX0_farm 87 = .ok (.getfield 18, 3) := dk_180 0 18 (dk_at dksX0_farm_3 18 rfl rfl)
theorem dX0_farm_90 : decode cX0_farm 90 = .ok (.getfield 85, 3) := dk_180 0 85 (dk_at dksX0_farm_3 21 rfl rfl)
theorem dX0_farm_93 : decode cX0_farm 93 = .ok (.iload 5, 2) := dk_21 5 (dk_at dksX0_farm_4 0 rfl rfl)
theorem dX0_farm_95 : decode cX0_farm 95 = .ok (.invokevirtual 147, 3) := dk_182 0 147 (dk_at dksX0_farm_4 2 rfl rfl)
theorem dX0_farm_98 : decode cX0_farm 98 = .ok (.checkcast 112, 3) := dk_192 0 112 (dk_at dksX0_farm_4 5 rfl rfl)
theorem dX0_farm_101 : decode cX0_farm 101 = .ok (.getfield 151, 3) := dk_180 0 151 (dk_at dksX0_farm_4 8 rfl rfl)
theorem dX0_farm_104 : decode cX0_farm 104 = .ok (.iconst 1, 1) := dk_4 (dk_at dksX0_farm_4 11 rfl rfl)
theorem dX0_farm_105 : decode cX0_farm 105 = .ok (.iaload, 1) := dk_46 (dk_at dksX0_farm_4 12 rfl rfl)
theorem dX0_farm_106 : decode cX0_farm 106 = .ok (.iload_n 2, 1) := dk_28 (dk_at dksX0_farm_4 13 rfl rfl)
theorem dX0_farm_107 : decode cX0_farm 107 = .ok (.if_icmp .ne 7, 3) := dk_160 0 7 (dk_at dksX0_farm_4 14 rfl rfl)
theorem dX0_farm_110 : decode cX0_farm 110 = .ok (.iconst 1, 1) := dk_4 (dk_at dksX0_farm_4 17 rfl rfl)
theorem dX0_farm_111 : decode cX0_farm 111 = .ok (.goto 4, 3) := dk_167 0 4 (dk_at dksX0_farm_4 18 rfl rfl)
theorem dX0_farm_114 : decode cX0_farm 114 = .ok (.iconst 0, 1) := dk_3 (dk_at dksX0_farm_4 21 rfl rfl)
theorem dX0_farm_115 : decode cX0_farm 115 = .ok (.iadd, 1) := dk_96 (dk_at dksX0_farm_4 22 rfl rfl)
theorem dX0_farm_116 : decode cX0_farm 116 = .ok (.istore 4, 2) := dk_54 4 (dk_at dksX0_farm_5 0 rfl rfl)
theorem dX0_farm_118 : decode cX0_farm 118 = .ok (.iinc 5 1, 3) := dk_132 5 1 (dk_at dksX0_farm_5 2 rfl rfl)
theorem dX0_farm_121 : decode cX0_farm 121 = .ok (.goto (-61), 3) := dk_167 255 195 (dk_at dksX0_farm_5 5 rfl rfl)
theorem dX0_farm_124 : decode cX0_farm 124 = .ok (.iload 4, 2) := dk_21 4 (dk_at dksX0_farm_5 8 rfl rfl)
theorem dX0_farm_126 : decode cX0_farm 126 = .ok (.ireturn, 1) := dk_172 (dk_at dksX0_farm_5 10 rfl rfl)
abbrev cX0_gate : ByteArray := prog_1_method_36_code
def yX0_gate : MethodName := ⟨RX0, "gate", "(IIIII)I"⟩
def dkwX0_gate_9 : List UInt8 := [21, 5, 4, 160, 0, 11, 21, 7, 184, 0, 245, 167, 0, 5, 21, 8, 172]
abbrev dktX0_gate_9 : List UInt8 := dkwX0_gate_9 ++ []
def dkwX0_gate_8 : List UInt8 := [21, 5, 154, 0, 21, 42, 180, 0, 18, 180, 0, 101, 21, 8, 2, 130, 126, 184, 0, 245, 167, 0, 19]
abbrev dktX0_gate_8 : List UInt8 := dkwX0_gate_8 ++ dktX0_gate_9
def dkwX0_gate_7 : List UInt8 := [180, 0, 61, 182, 0, 217, 42, 180, 0, 18, 180, 0, 101, 21, 7, 2, 130, 126, 182, 0, 242, 54, 8]
abbrev dktX0_gate_7 : List UInt8 := dkwX0_gate_7 ++ dktX0_gate_8
def dkwX0_gate_6 : List UInt8 := [182, 0, 252, 153, 0, 10, 4, 21, 8, 120, 167, 0, 4, 3, 128, 54, 7, 132, 8, 1, 167, 255, 187, 42]
abbrev dktX0_gate_6 : List UInt8 := dkwX0_gate_6 ++ dktX0_gate_7
def dkwX0_gate_5 : List UInt8 := [184, 0, 168, 153, 0, 33, 42, 180, 0, 18, 180, 0, 85, 21, 8, 182, 0, 147, 192, 0, 112, 25, 6]
abbrev dktX0_gate_5 : List UInt8 := dkwX0_gate_5 ++ dktX0_gate_6
def dkwX0_gate_4 : List UInt8 := [180, 0, 18, 180, 0, 85, 182, 0, 89, 162, 0, 60, 21, 7, 42, 180, 0, 18, 180, 0, 101, 21, 8]
abbrev dktX0_gate_4 : List UInt8 := dkwX0_gate_4 ++ dktX0_gate_5
def dkwX0_gate_3 : List UInt8 := [4, 96, 21, 4, 28, 100, 4, 96, 4, 183, 0, 120, 58, 6, 3, 54, 7, 3, 54, 8, 21, 8, 42]
abbrev dktX0_gate_3 : List UInt8 := dkwX0_gate_3 ++ dktX0_gate_4
def dkwX0_gate_2 : List UInt8 := [21, 5, 133, 9, 20, 0, 172, 184, 0, 95, 154, 0, 5, 2, 172, 187, 0, 112, 89, 27, 28, 29, 27, 100]
abbrev dktX0_gate_2 : List UInt8 := dkwX0_gate_2 ++ dktX0_gate_3
def dkwX0_gate_1 : List UInt8 := [133, 9, 20, 0, 250, 184, 0, 95, 153, 0, 29, 21, 4, 133, 9, 20, 0, 154, 184, 0, 95, 153, 0, 16]
abbrev dktX0_gate_1 : List UInt8 := dkwX0_gate_1 ++ dktX0_gate_2
def dkwX0_gate_0 : List UInt8 := [27, 133, 9, 29, 133, 184, 0, 95, 153, 0, 53, 28, 133, 9, 21, 4, 133, 184, 0, 95, 153, 0, 41, 29]
abbrev dktX0_gate_0 : List UInt8 := dkwX0_gate_0 ++ dktX0_gate_1
theorem dksX0_gate_0 : cX0_gate.data.toList.drop 0 = dktX0_gate_0 := by decide +kernel
theorem dksX0_gate_1 : cX0_gate.data.toList.drop 24 = dktX0_gate_1 := dk_seg dksX0_gate_0 24 rfl rfl
theorem dksX0_gate_2 : cX0_gate.data.toList.drop 48 = dktX0_gate_2 := dk_seg dksX0_gate_1 24 rfl rfl
theorem dksX0_gate_3 : cX0_gate.data.toList.drop 72 = dktX0_gate_3 := dk_seg dksX0_gate_2 24 rfl rfl
theorem dksX0_gate_4 : cX0_gate.data.toList.drop 95 = dktX0_gate_4 := dk_seg dksX0_gate_3 23 rfl rfl
theorem dksX0_gate_5 : cX0_gate.data.toList.drop 118 = dktX0_gate_5 := dk_seg dksX0_gate_4 23 rfl rfl
theorem dksX0_gate_6 : cX0_gate.data.toList.drop 141 = dktX0_gate_6 := dk_seg dksX0_gate_5 23 rfl rfl
theorem dksX0_gate_7 : cX0_gate.data.toList.drop 165 = dktX0_gate_7 := dk_seg dksX0_gate_6 24 rfl rfl
theorem dksX0_gate_8 : cX0_gate.data.toList.drop 188 = dktX0_gate_8 := dk_seg dksX0_gate_7 23 rfl rfl
theorem dksX0_gate_9 : cX0_gate.data.toList.drop 211 = dktX0_gate_9 := dk_seg dksX0_gate_8 23 rfl rfl
theorem dX0_gate_0 : decode cX0_gate 0 = .ok (.iload_n 1, 1) := dk_27 (dk_at dksX0_gate_0 0 rfl rfl)
theorem dX0_gate_1 : decode cX0_gate 1 = .ok (.i2l, 1) := dk_133 (dk_at dksX0_gate_0 1 rfl rfl)
theorem dX0_gate_2 : decode cX0_gate 2 = .ok (.lconst 0, 1) := dk_9 (dk_at dksX0_gate_0 2 rfl rfl)
theorem dX0_gate_3 : decode cX0_gate 3 = .ok (.iload_n 3, 1) := dk_29 (dk_at dksX0_gate_0 3 rfl rfl)
theorem dX0_gate_4 : decode cX0_gate 4 = .ok (.i2l, 1) := dk_133 (dk_at dksX0_gate_0 4 rfl rfl)
theorem dX0_gate_5 : decode cX0_gate 5 = .ok (.invokestatic 95, 3) := dk_184 0 95 (dk_at dksX0_gate_0 5 rfl rfl)
theorem dX0_gate_8 : decode cX0_gate 8 = .ok (.ifCond .eq 53, 3) := dk_153 0 53 (dk_at dksX0_gate_0 8 rfl rfl)
theorem dX0_gate_11 : decode cX0_gate 11 = .ok (.iload_n 2, 1) := dk_28 (dk_at dksX0_gate_0 11 rfl rfl)
theorem dX0_gate_12 : decode cX0_gate 12 = .ok (.i2l, 1) := dk_133 (dk_at dksX0_gate_0 12 rfl rfl)
theorem dX0_gate_13 : decode cX0_gate 13 = .ok (.lconst 0, 1) := dk_9 (dk_at dksX0_gate_0 13 rfl rfl)
theorem dX0_gate_14 : decode cX0_gate 14 = .ok (.iload 4, 2) := dk_21 4 (dk_at dksX0_gate_0 14 rfl rfl)
theorem dX0_gate_16 : decode cX0_gate 16 = .ok (.i2l, 1) := dk_133 (dk_at dksX0_gate_0 16 rfl rfl)
theorem dX0_gate_17 : decode cX0_gate 17 = .ok (.invokestatic 95, 3) := dk_184 0 95 (dk_at dksX0_gate_0 17 rfl rfl)
theorem dX0_gate_20 : decode cX0_gate 20 = .ok (.ifCond .eq 41, 3) := dk_153 0 41 (dk_at dksX0_gate_0 20 rfl rfl)
theorem dX0_gate_23 : decode cX0_gate 23 = .ok (.iload_n 3, 1) := dk_29 (dk_at dksX0_gate_0 23 rfl rfl)
theorem dX0_gate_24 : decode cX0_gate 24 = .ok (.i2l, 1) := dk_133 (dk_at dksX0_gate_1 0 rfl rfl)
theorem dX0_gate_25 : decode cX0_gate 25 = .ok (.lconst 0, 1) := dk_9 (dk_at dksX0_gate_1 1 rfl rfl)
theorem dX0_gate_26 : decode cX0_gate 26 = .ok (.ldc2_w 250, 3) := dk_20 0 250 (dk_at dksX0_gate_1 2 rfl rfl)
theorem dX0_gate_29 : decode cX0_gate 29 = .ok (.invokestatic 95, 3) := dk_184 0 95 (dk_at dksX0_gate_1 5 rfl rfl)
theorem dX0_gate_32 : decode cX0_gate 32 = .ok (.ifCond .eq 29, 3) := dk_153 0 29 (dk_at dksX0_gate_1 8 rfl rfl)
theorem dX0_gate_35 : decode cX0_gate 35 = .ok (.iload 4, 2) := dk_21 4 (dk_at dksX0_gate_1 11 rfl rfl)
theorem dX0_gate_37 : decode cX0_gate 37 = .ok (.i2l, 1) := dk_133 (dk_at dksX0_gate_1 13 rfl rfl)
theorem dX0_gate_38 : decode cX0_gate 38 = .ok (.lconst 0, 1) := dk_9 (dk_at dksX0_gate_1 14 rfl rfl)
theorem dX0_gate_39 : decode cX0_gate 39 = .ok (.ldc2_w 154, 3) := dk_20 0 154 (dk_at dksX0_gate_1 15 rfl rfl)
theorem dX0_gate_42 : decode cX0_gate 42 = .ok (.invokestatic 95, 3) := dk_184 0 95 (dk_at dksX0_gate_1 18 rfl rfl)
theorem dX0_gate_45 : decode cX0_gate 45 = .ok (.ifCond .eq 16, 3) := dk_153 0 16 (dk_at dksX0_gate_1 21 rfl rfl)
theorem dX0_gate_48 : decode cX0_gate 48 = .ok (.iload 5, 2) := dk_21 5 (dk_at dksX0_gate_2 0 rfl rfl)
theorem dX0_gate_50 : decode cX0_gate 50 = .ok (.i2l, 1) := dk_133 (dk_at dksX0_gate_2 2 rfl rfl)
theorem dX0_gate_51 : decode cX0_gate 51 = .ok (.lconst 0, 1) := dk_9 (dk_at dksX0_gate_2 3 rfl rfl)
theorem dX0_gate_52 : decode cX0_gate 52 = .ok (.ldc2_w 172, 3) := dk_20 0 172 (dk_at dksX0_gate_2 4 rfl rfl)
theorem dX0_gate_55 : decode cX0_gate 55 = .ok (.invokestatic 95, 3) := dk_184 0 95 (dk_at dksX0_gate_2 7 rfl rfl)
theorem dX0_gate_58 : decode cX0_gate 58 = .ok (.ifCond .ne 5, 3) := dk_154 0 5 (dk_at dksX0_gate_2 10 rfl rfl)
theorem dX0_gate_61 : decode cX0_gate 61 = .ok (.iconst (-1), 1) := dk_2 (dk_at dksX0_gate_2 13 rfl rfl)
theorem dX0_gate_62 : decode cX0_gate 62 = .ok (.ireturn, 1) := dk_172 (dk_at dksX0_gate_2 14 rfl rfl)
theorem dX0_gate_63 : decode cX0_gate 63 = .ok (.new 112, 3) := dk_187 0 112 (dk_at dksX0_gate_2 15 rfl rfl)
theorem dX0_gate_66 : decode cX0_gate 66 = .ok (.dup, 1) := dk_89 (dk_at dksX0_gate_2 18 rfl rfl)
theorem dX0_gate_67 : decode cX0_gate 67 = .ok (.iload_n 1, 1) := dk_27 (dk_at dksX0_gate_2 19 rfl rfl)
theorem dX0_gate_68 : decode cX0_gate 68 = .ok (.iload_n 2, 1) := dk_28 (dk_at dksX0_gate_2 20 rfl rfl)
theorem dX0_gate_69 : decode cX0_gate 69 = .ok (.iload_n 3, 1) := dk_29 (dk_at dksX0_gate_2 21 rfl rfl)
theorem dX0_gate_70 : decode cX0_gate 70 = .ok (.iload_n 1, 1) := dk_27 (dk_at dksX0_gate_2 22 rfl rfl)
theorem dX0_gate_71 : decode cX0_gate 71 = .ok (.isub, 1) := dk_100 (dk_at dksX0_gate_2 23 rfl rfl)
theorem dX0_gate_72 : decode cX0_gate 72 = .ok (.iconst 1, 1) := dk_4 (dk_at dksX0_gate_3 0 rfl rfl)
theorem dX0_gate_73 : decode cX0_gate 73 = .ok (.iadd, 1) := dk_96 (dk_at dksX0_gate_3 1 rfl rfl)
theorem dX0_gate_74 : decode cX0_gate 74 = .ok (.iload 4, 2) := dk_21 4 (dk_at dksX0_gate_3 2 rfl rfl)
theorem dX0_gate_76 : decode cX0_gate 76 = .ok (.iload_n 2, 1) := dk_28 (dk_at dksX0_gate_3 4 rfl rfl)
theorem dX0_gate_77 : decode cX0_gate 77 = .ok (.isub, 1) := dk_100 (dk_at dksX0_gate_3 5 rfl rfl)
theorem dX0_gate_78 : decode cX0_gate 78 = .ok (.iconst 1, 1) := dk_4 (dk_at dksX0_gate_3 6 rfl rfl)
theorem dX0_gate_79 : decode cX0_gate 79 = .ok (.iadd, 1) := dk_96 (dk_at dksX0_gate_3 7 rfl rfl)
theorem dX0_gate_80 : decode cX0_gate 80 = .ok (.iconst 1, 1) := dk_4 (dk_at dksX0_gate_3 8 rfl rfl)
theorem dX0_gate_81 : decode cX0_gate 81 = .ok (.invokespecial 120, 3) := dk_183 0 120 (dk_at dksX0_gate_3 9 rfl rfl)
theorem dX0_gate_84 : decode cX0_gate 84 = .ok (.astore 6, 2) := dk_58 6 (dk_at dksX0_gate_3 12 rfl rfl)
theorem dX0_gate_86 : decode cX0_gate 86 = .ok (.iconst 0, 1) := dk_3 (dk_at dksX0_gate_3 14 rfl rfl)
theorem dX0_gate_87 : decode cX0_gate 87 = .ok (.istore 7, 2) := dk_54 7 (dk_at dksX0_gate_3 15 rfl rfl)
theorem dX0_gate_89 : decode cX0_gate 89 = .ok (.iconst 0, 1) := dk_3 (dk_at dksX0_gate_3 17 rfl rfl)
theorem dX0_gate_90 : decode cX0_gate 90 = .ok (.istore 8, 2) := dk_54 8 (dk_at dksX0_gate_3 18 rfl rfl)
theorem dX0_gate_92 : decode cX0_gate 92 = .ok (.iload 8, 2) := dk_21 8 (dk_at dksX0_gate_3 20 rfl rfl)
theorem dX0_gate_94 : decode cX0_gate 94 = .ok (.aload_n 0, 1) := dk_42 (dk_at dksX0_gate_3 22 rfl rfl)
theorem dX0_gate_95 : decode cX0_gate 95 = .ok (.getfield 18, 3) := dk_180 0 18 (dk_at dksX0_gate_4 0 rfl rfl)
theorem dX0_gate_98 : decode cX0_gate 98 = .ok (.getfield 85, 3) := dk_180 0 85 (dk_at dksX0_gate_4 3 rfl rfl)
theorem dX0_gate_101 : decode cX0_gate 101 = .ok (.invokevirtual 89, 3) := dk_182 0 89 (dk_at dksX0_gate_4 6 rfl rfl)
theorem dX0_gate_104 : decode cX0_gate 104 = .ok (.if_icmp .ge 60, 3) := dk_162 0 60 (dk_at dksX0_gate_4 9 rfl rfl)
theorem dX0_gate_107 : decode cX0_gate 107 = .ok (.iload 7, 2) := dk_21 7 (dk_at dksX0_gate_4 12 rfl rfl)
theorem dX0_gate_109 : decode cX0_gate 109 = .ok (.aload_n 0, 1) := dk_42 (dk_at dksX0_gate_4 14 rfl rfl)
theorem dX0_gate_110 : decode cX0_gate 110 = .ok (.getfield 18, 3) := dk_180 0 18 (dk_at dksX0_gate_4 15 rfl rfl)
theorem dX0_gate_113 : decode cX0_gate 113 = .ok (.getfield 101, 3) := dk_180 0 101 (dk_at dksX0_gate_4 18 rfl rfl)
theorem dX0_gate_116 : decode cX0_gate 116 = .ok (.iload 8, 2) := dk_21 8 (dk_at dksX0_gate_4 21 rfl rfl)
theorem dX0_gate_118 : decode cX0_gate 118 = .ok (.invokestatic 168, 3) := dk_184 0 168 (dk_at dksX0_gate_5 0 rfl rfl)
theorem dX0_gate_121 : decode cX0_gate 121 = .ok (.ifCond .eq 33, 3) := dk_153 0 33 (dk_at dksX0_gate_5 3 rfl rfl)
theorem dX0_gate_124 : decode cX0_gate 124 = .ok (.aload_n 0, 1) := dk_42 (dk_at dksX0_gate_5 6 rfl rfl)
theorem dX0_gate_125 : decode cX0_gate 125 = .ok (.getfield 18, 3) := dk_180 0 18 (dk_at dksX0_gate_5 7 rfl rfl)
theorem dX0_gate_128 : decode cX0_gate 128 = .ok (.getfield 85, 3) := dk_180 0 85 (dk_at dksX0_gate_5 10 rfl rfl)
theorem dX0_gate_131 : decode cX0_gate 131 = .ok (.iload 8, 2) := dk_21 8 (dk_at dksX0_gate_5 13 rfl rfl)
theorem dX0_gate_133 : decode cX0_gate 133 = .ok (.invokevirtual 147, 3) := dk_182 0 147 (dk_at dksX0_gate_5 15 rfl rfl)
theorem dX0_gate_136 : decode cX0_gate 136 = .ok (.checkcast 112, 3) := dk_192 0 112 (dk_at dksX0_gate_5 18 rfl rfl)
theorem dX0_gate_139 : decode cX0_gate 139 = .ok (.aload 6, 2) := dk_25 6 (dk_at dksX0_gate_5 21 rfl rfl)
theorem dX0_gate_141 : decode cX0_gate 141 = .ok (.invokevirtual 252, 3) := dk_182 0 252 (dk_at dksX0_gate_6 0 rfl rfl)
theorem dX0_gate_144 : decode cX0_gate 144 = .ok (.ifCond .eq 10, 3) := dk_153 0 10 (dk_at dksX0_gate_6 3 rfl rfl)
theorem dX0_gate_147 : decode cX0_gate 147 = .ok (.iconst 1, 1) := dk_4 (dk_at dksX0_gate_6 6 rfl rfl)
theorem dX0_gate_148 : decode cX0_gate 148 = .ok (.iload 8, 2) := dk_21 8 (dk_at dksX0_gate_6 7 rfl rfl)
theorem dX0_gate_150 : decode cX0_gate 150 = .ok (.ishl, 1) := dk_120 (dk_at dksX0_gate_6 9 rfl rfl)
theorem dX0_gate_151 : decode cX0_gate 151 = .ok (.goto 4, 3) := dk_167 0 4 (dk_at dksX0_gate_6 10 rfl rfl)
theorem dX0_gate_154 : decode cX0_gate 154 = .ok (.iconst 0, 1) := dk_3 (dk_at dksX0_gate_6 13 rfl rfl)
theorem dX0_gate_155 : decode cX0_gate 155 = .ok (.ior, 1) := dk_128 (dk_at dksX0_gate_6 14 rfl rfl)
theorem dX0_gate_156 : decode cX0_gate 156 = .ok (.istore 7, 2) := dk_54 7 (dk_at dksX0_gate_6 15 rfl rfl)
theorem dX0_gate_158 : decode cX0_gate 158 = .ok (.iinc 8 1, 3) := dk_132 8 1 (dk_at dksX0_gate_6 17 rfl rfl)
theorem dX0_gate_161 : decode cX0_gate 161 = .ok (.goto (-69), 3) := dk_167 255 187 (dk_at dksX0_gate_6 20 rfl rfl)
theorem dX0_gate_164 : decode cX0_gate 164 = .ok (.aload_n 0, 1) := dk_42 (dk_at dksX0_gate_6 23 rfl rfl)
theorem dX0_gate_165 : decode cX0_gate 165 = .ok (.getfield 61, 3) := dk_180 0 61 (dk_at dksX0_gate_7 0 rfl rfl)
theorem dX0_gate_168 : decode cX0_gate 168 = .ok (.invokevirtual 217, 3) := dk_182 0 217 (dk_at dksX0_gate_7 3 rfl rfl)
theorem dX0_gate_171 : decode cX0_gate 171 = .ok (.aload_n 0, 1) := dk_42 (dk_at dksX0_gate_7 6 rfl rfl)
theorem dX0_gate_172 : decode cX0_gate 172 = .ok (.getfield 18, 3) := dk_180 0 18 (dk_at dksX0_gate_7 7 rfl rfl)
theorem dX0_gate_175 : decode cX0_gate 175 = .ok (.getfield 101, 3) := dk_180 0 101 (dk_at dksX0_gate_7 10 rfl rfl)
theorem dX0_gate_178 : decode cX0_gate 178 = .ok (.iload 7, 2) := dk_21 7 (dk_at dksX0_gate_7 13 rfl rfl)
theorem dX0_gate_180 : decode cX0_gate 180 = .ok (.iconst (-1), 1) := dk_2 (dk_at dksX0_gate_7 15 rfl rfl)
theorem dX0_gate_181 : decode cX0_gate 181 = .ok (.ixor, 1) := dk_130 (dk_at dksX0_gate_7 16 rfl rfl)
theorem dX0_gate_182 : decode cX0_gate 182 = .ok (.iand, 1) := dk_126 (dk_at dksX0_gate_7 17 rfl rfl)
theorem dX0_gate_183 : decode cX0_gate 183 = .ok (.invokevirtual 242, 3) := dk_182 0 242 (dk_at dksX0_gate_7 18 rfl rfl)
theorem dX0_gate_186 : decode cX0_gate 186 = .ok (.istore 8, 2) := dk_54 8 (dk_at dksX0_gate_7 21 rfl rfl)
theorem dX0_gate_188 : decode cX0_gate 188 = .ok (.iload 5, 2) := dk_21 5 (dk_at dksX0_gate_8 0 rfl rfl)
theorem dX0_gate_190 : decode cX0_gate 190 = .ok (.ifCond .ne 21, 3) := dk_154 0 21 (dk_at dksX0_gate_8 2 rfl rfl)
theorem dX0_gate_193 : decode cX0_gate 193 = .ok (.aload_n 0, 1) := dk_42 (dk_at dksX0_gate_8 5 rfl rfl)
theorem dX0_gate_194 : decode cX0_gate 194 = .ok (.getfield 18, 3) := dk_180 0 18 (dk_at dksX0_gate_8 6 rfl rfl)
theorem dX0_gate_197 : decode cX0_gate 197 = .ok (.getfield 101, 3) := dk_180 0 101 (dk_at dksX0_gate_8 9 rfl rfl)
theorem dX0_gate_200 : decode cX0_gate 200 = .ok (.iload 8, 2) := dk_21 8 (dk_at dksX0_gate_8 12 rfl rfl)
theorem dX0_gate_202 : decode cX0_gate 202 = .ok (.iconst (-1), 1) := dk_2 (dk_at dksX0_gate_8 14 rfl rfl)
theorem dX0_gate_203 : decode cX0_gate 203 = .ok (.ixor, 1) := dk_130 (dk_at dksX0_gate_8 15 rfl rfl)
theorem dX0_gate_204 : decode cX0_gate 204 = .ok (.iand, 1) := dk_126 (dk_at dksX0_gate_8 16 rfl rfl)
theorem dX0_gate_205 : decode cX0_gate 205 = .ok (.invokestatic 245, 3) := dk_184 0 245 (dk_at dksX0_gate_8 17 rfl rfl)
theorem dX0_gate_208 : decode cX0_gate 208 = .ok (.goto 19, 3) := dk_167 0 19 (dk_at dksX0_gate_8 20 rfl rfl)
theorem dX0_gate_211 : decode cX0_gate 211 = .ok (.iload 5, 2) := dk_21 5 (dk_at dksX0_gate_9 0 rfl rfl)
theorem dX0_gate_213 : decode cX0_gate 213 = .ok (.iconst 1, 1) := dk_4 (dk_at dksX0_gate_9 2 rfl rfl)
theorem dX0_gate_214 : decode cX0_gate 214 = .ok (.if_icmp .ne 11, 3) := dk_160 0 11 (dk_at dksX0_gate_9 3 rfl rfl)
theorem dX0_gate_217 : decode cX0_gate 217 = .ok (.iload 7, 2) := dk_21 7 (dk_at dksX0_gate_9 6 rfl rfl)
theorem dX0_gate_219 : decode cX0_gate 219 = .ok (.invokestatic 245, 3) := dk_184 0 245 (dk_at dksX0_gate_9 8 rfl rfl)
theorem dX0_gate_222 : decode cX0_gate 222 = .ok (.goto 5, 3) := dk_167 0 5 (dk_at dksX0_gate_9 11 rfl rfl)
theorem dX0_gate_225 : decode cX0_gate 225 = .ok (.iload 8, 2) := dk_21 8 (dk_at dksX0_gate_9 14 rfl rfl)
theorem dX0_gate_227 : decode cX0_gate 227 = .ok (.ireturn, 1) := dk_172 (dk_at dksX0_gate_9 16 rfl rfl)
abbrev cX0_once : ByteArray := prog_1_method_39_code
def yX0_once : MethodName := ⟨RX0, "once", "(I)I"⟩
def dkwX0_once_1 : List UInt8 := [182, 1, 10, 167, 0, 4, 2, 172]
abbrev dktX0_once_1 : List UInt8 := dkwX0_once_1 ++ []
def dkwX0_once_0 : List UInt8 := [27, 133, 9, 20, 0, 139, 184, 0, 95, 153, 0, 19, 42, 187, 1, 7, 89, 42, 183, 1, 9, 27]
abbrev dktX0_once_0 : List UInt8 := dkwX0_once_0 ++ dktX0_once_1
theorem dksX0_once_0 : cX0_once.data.toList.drop 0 = dktX0_once_0 := by decide +kernel
theorem dksX0_once_1 : cX0_once.data.toList.drop 22 = dktX0_once_1 := dk_seg dksX0_once_0 22 rfl rfl
theorem dX0_once_0 : decode cX0_once 0 = .ok (.iload_n 1, 1) := dk_27 (dk_at dksX0_once_0 0 rfl rfl)
theorem dX0_once_1 : decode cX0_once 1 = .ok (.i2l, 1) := dk_133 (dk_at dksX0_once_0 1 rfl rfl)
theorem dX0_once_2 : decode cX0_once 2 = .ok (.lconst 0, 1) := dk_9 (dk_at dksX0_once_0 2 rfl rfl)
theorem dX0_once_3 : decode cX0_once 3 = .ok (.ldc2_w 139, 3) := dk_20 0 139 (dk_at dksX0_once_0 3 rfl rfl)
theorem dX0_once_6 : decode cX0_once 6 = .ok (.invokestatic 95, 3) := dk_184 0 95 (dk_at dksX0_once_0 6 rfl rfl)
theorem dX0_once_9 : decode cX0_once 9 = .ok (.ifCond .eq 19, 3) := dk_153 0 19 (dk_at dksX0_once_0 9 rfl rfl)
theorem dX0_once_12 : decode cX0_once 12 = .ok (.aload_n 0, 1) := dk_42 (dk_at dksX0_once_0 12 rfl rfl)
theorem dX0_once_13 : decode cX0_once 13 = .ok (.new 263, 3) := dk_187 1 7 (dk_at dksX0_once_0 13 rfl rfl)
theorem dX0_once_16 : decode cX0_once 16 = .ok (.dup, 1) := dk_89 (dk_at dksX0_once_0 16 rfl rfl)
theorem dX0_once_17 : decode cX0_once 17 = .ok (.aload_n 0, 1) := dk_42 (dk_at dksX0_once_0 17 rfl rfl)
theorem dX0_once_18 : decode cX0_once 18 = .ok (.invokespecial 265, 3) := dk_183 1 9 (dk_at dksX0_once_0 18 rfl rfl)
theorem dX0_once_21 : decode cX0_once 21 = .ok (.iload_n 1, 1) := dk_27 (dk_at dksX0_once_0 21 rfl rfl)
theorem dX0_once_22 : decode cX0_once 22 = .ok (.invokevirtual 266, 3) := dk_182 1 10 (dk_at dksX0_once_1 0 rfl rfl)
theorem dX0_once_25 : decode cX0_once 25 = .ok (.goto 4, 3) := dk_167 0 4 (dk_at dksX0_once_1 3 rfl rfl)
theorem dX0_once_28 : decode cX0_once 28 = .ok (.iconst (-1), 1) := dk_2 (dk_at dksX0_once_1 6 rfl rfl)
theorem dX0_once_29 : decode cX0_once 29 = .ok (.ireturn, 1) := dk_172 (dk_at dksX0_once_1 7 rfl rfl)
abbrev cX0_isMore : ByteArray := prog_1_method_37_code
def yX0_isMore : MethodName := ⟨RX0, "isMore", "(II)Z"⟩
def dkwX0_isMore_2 : List UInt8 := [3, 172]
abbrev dktX0_isMore_2 : List UInt8 := dkwX0_isMore_2 ++ []
def dkwX0_isMore_1 : List UInt8 := [167, 0, 25, 3, 167, 0, 21, 42, 27, 182, 0, 247, 42, 28, 182, 0, 247, 164, 0, 7, 4, 167, 0, 4]
abbrev dktX0_isMore_1 : List UInt8 := dkwX0_isMore_1 ++ dktX0_isMore_2
def dkwX0_isMore_0 : List UInt8 := [27, 184, 0, 245, 28, 184, 0, 245, 159, 0, 22, 27, 184, 0, 245, 28, 184, 0, 245, 164, 0, 7, 4]
abbrev dktX0_isMore_0 : List UInt8 := dkwX0_isMore_0 ++ dktX0_isMore_1
theorem dksX0_isMore_0 : cX0_isMore.data.toList.drop 0 = dktX0_isMore_0 := by decide +kernel
theorem dksX0_isMore_1 : cX0_isMore.data.toList.drop 23 = dktX0_isMore_1 := dk_seg dksX0_isMore_0 23 rfl rfl
theorem dksX0_isMore_2 : cX0_isMore.data.toList.drop 47 = dktX0_isMore_2 := dk_seg dksX0_isMore_1 24 rfl rfl
theorem dX0_isMore_0 : decode cX0_isMore 0 = .ok (.iload_n 1, 1) := dk_27 (dk_at dksX0_isMore_0 0 rfl rfl)
theorem dX0_isMore_1 : decode cX0_isMore 1 = .ok (.invokestatic 245, 3) := dk_184 0 245 (dk_at dksX0_isMore_0 1 rfl rfl)
theorem dX0_isMore_4 : decode cX0_isMore 4 = .ok (.iload_n 2, 1) := dk_28 (dk_at dksX0_isMore_0 4 rfl rfl)
theorem dX0_isMore_5 : decode cX0_isMore 5 = .ok (.invokestatic 245, 3) := dk_184 0 245 (dk_at dksX0_isMore_0 5 rfl rfl)
theorem dX0_isMore_8 : decode cX0_isMore 8 = .ok (.if_icmp .eq 22, 3) := dk_159 0 22 (dk_at dksX0_isMore_0 8 rfl rfl)
theorem dX0_isMore_11 : decode cX0_isMore 11 = .ok (.iload_n 1, 1) := dk_27 (dk_at dksX0_isMore_0 11 rfl rfl)
theorem dX0_isMore_12 : decode cX0_isMore 12 = .ok (.invokestatic 245, 3) := dk_184 0 245 (dk_at dksX0_isMore_0 12 rfl rfl)
theorem dX0_isMore_15 : decode cX0_isMore 15 = .ok (.iload_n 2, 1) := dk_28 (dk_at dksX0_isMore_0 15 rfl rfl)
theorem dX0_isMore_16 : decode cX0_isMore 16 = .ok (.invokestatic 245, 3) := dk_184 0 245 (dk_at dksX0_isMore_0 16 rfl rfl)
theorem dX0_isMore_19 : decode cX0_isMore 19 = .ok (.if_icmp .le 7, 3) := dk_164 0 7 (dk_at dksX0_isMore_0 19 rfl rfl)
theorem dX0_isMore_22 : decode cX0_isMore 22 = .ok (.iconst 1, 1) := dk_4 (dk_at dksX0_isMore_0 22 rfl rfl)
theorem dX0_isMore_23 : decode cX0_isMore 23 = .ok (.goto 25, 3) := dk_167 0 25 (dk_at dksX0_isMore_1 0 rfl rfl)
theorem dX0_isMore_26 : decode cX0_isMore 26 = .ok (.iconst 0, 1) := dk_3 (dk_at dksX0_isMore_1 3 rfl rfl)
theorem dX0_isMore_27 : decode cX0_isMore 27 = .ok (.goto 21, 3) := dk_167 0 21 (dk_at dksX0_isMore_1 4 rfl rfl)
theorem dX0_isMore_30 : decode cX0_isMore 30 = .ok (.aload_n 0, 1) := dk_42 (dk_at dksX0_isMore_1 7 rfl rfl)
theorem dX0_isMore_31 : decode cX0_isMore 31 = .ok (.iload_n 1, 1) := dk_27 (dk_at dksX0_isMore_1 8 rfl rfl)
theorem dX0_isMore_32 : decode cX0_isMore 32 = .ok (.invokevirtual 247, 3) := dk_182 0 247 (dk_at dksX0_isMore_1 9 rfl rfl)
theorem dX0_isMore_35 : decode cX0_isMore 35 = .ok (.aload_n 0, 1) := dk_42 (dk_at dksX0_isMore_1 12 rfl rfl)
theorem dX0_isMore_36 : decode cX0_isMore 36 = .ok (.iload_n 2, 1) := dk_28 (dk_at dksX0_isMore_1 13 rfl rfl)
theorem dX0_isMore_37 : decode cX0_isMore 37 = .ok (.invokevirtual 247, 3) := dk_182 0 247 (dk_at dksX0_isMore_1 14 rfl rfl)
theorem dX0_isMore_40 : decode cX0_isMore 40 = .ok (.if_icmp .le 7, 3) := dk_164 0 7 (dk_at dksX0_isMore_1 17 rfl rfl)
theorem dX0_isMore_43 : decode cX0_isMore 43 = .ok (.iconst 1, 1) := dk_4 (dk_at dksX0_isMore_1 20 rfl rfl)
theorem dX0_isMore_44 : decode cX0_isMore 44 = .ok (.goto 4, 3) := dk_167 0 4 (dk_at dksX0_isMore_1 21 rfl rfl)
theorem dX0_isMore_47 : decode cX0_isMore 47 = .ok (.iconst 0, 1) := dk_3 (dk_at dksX0_isMore_2 0 rfl rfl)
theorem dX0_isMore_48 : decode cX0_isMore 48 = .ok (.ireturn, 1) := dk_172 (dk_at dksX0_isMore_2 1 rfl rfl)
abbrev cX0_told : ByteArray := prog_1_method_38_code
def yX0_told : MethodName := ⟨RX0, "told", "(LFiveTouch$Search;I)I"⟩
def dkwX0_told_2 : List UInt8 := [182, 0, 247, 167, 0, 7, 43, 180, 1, 4, 172]
abbrev dktX0_told_2 : List UInt8 := dkwX0_told_2 ++ []
def dkwX0_told_1 : List UInt8 := [154, 0, 13, 43, 180, 1, 4, 184, 0, 245, 167, 0, 23, 28, 4, 160, 0, 14, 42, 43, 180, 1, 4]
abbrev dktX0_told_1 : List UInt8 := dkwX0_told_1 ++ dktX0_told_2
def dkwX0_told_0 : List UInt8 := [28, 6, 160, 0, 10, 43, 180, 0, 255, 167, 0, 48, 43, 180, 0, 255, 154, 0, 7, 2, 167, 0, 37, 28]
abbrev dktX0_told_0 : List UInt8 := dkwX0_told_0 ++ dktX0_told_1
theorem dksX0_told_0 : cX0_told.data.toList.drop 0 = dktX0_told_0 := by decide +kernel
theorem dksX0_told_1 : cX0_told.data.toList.drop 24 = dktX0_told_1 := dk_seg dksX0_told_0 24 rfl rfl
theorem dksX0_told_2 : cX0_told.data.toList.drop 47 = dktX0_told_2 := dk_seg dksX0_told_1 23 rfl rfl
theorem dX0_told_0 : decode cX0_told 0 = .ok (.iload_n 2, 1) := dk_28 (dk_at dksX0_told_0 0 rfl rfl)
theorem dX0_told_1 : decode cX0_told 1 = .ok (.iconst 3, 1) := dk_6 (dk_at dksX0_told_0 1 rfl rfl)
theorem dX0_told_2 : decode cX0_told 2 = .ok (.if_icmp .ne 10, 3) := dk_160 0 10 (dk_at dksX0_told_0 2 rfl rfl)
theorem dX0_told_5 : decode cX0_told 5 = .ok (.aload_n 1, 1) := dk_43 (dk_at dksX0_told_0 5 rfl rfl)
theorem dX0_told_6 : decode cX0_told 6 = .ok (.getfield 255, 3) := dk_180 0 255 (dk_at dksX0_told_0 6 rfl rfl)
theorem dX0_told_9 : decode cX0_told 9 = .ok (.goto 48, 3) := dk_167 0 48 (dk_at dksX0_told_0 9 rfl rfl)
theorem dX0_told_12 : decode cX0_told 12 = .ok (.aload_n 1, 1) := dk_43 (dk_at dksX0_told_0 12 rfl rfl)
theorem dX0_told_13 : decode cX0_told 13 = .ok (.getfield 255, 3) := dk_180 0 255 (dk_at dksX0_told_0 13 rfl rfl)
theorem dX0_told_16 : decode cX0_told 16 = .ok (.ifCond .ne 7, 3) := dk_154 0 7 (dk_at dksX0_told_0 16 rfl rfl)
theorem dX0_told_19 : decode cX0_told 19 = .ok (.iconst (-1), 1) := dk_2 (dk_at dksX0_told_0 19 rfl rfl)
theorem dX0_told_20 : decode cX0_told 20 = .ok (.goto 37, 3) := dk_167 0 37 (dk_at dksX0_told_0 20 rfl rfl)
theorem dX0_told_23 : decode cX0_told 23 = .ok (.iload_n 2, 1) := dk_28 (dk_at dksX0_told_0 23 rfl rfl)
theorem dX0_told_24 : decode cX0_told 24 = .ok (.ifCond .ne 13, 3) := dk_154 0 13 (dk_at dksX0_told_1 0 rfl rfl)
theorem dX0_told_27 : decode cX0_told 27 = .ok (.aload_n 1, 1) := dk_43 (dk_at dksX0_told_1 3 rfl rfl)
theorem dX0_told_28 : decode cX0_told 28 = .ok (.getfield 260, 3) := dk_180 1 4 (dk_at dksX0_told_1 4 rfl rfl)
theorem dX0_told_31 : decode cX0_told 31 = .ok (.invokestatic 245, 3) := dk_184 0 245 (dk_at dksX0_told_1 7 rfl rfl)
theorem dX0_told_34 : decode cX0_told 34 = .ok (.goto 23, 3) := dk_167 0 23 (dk_at dksX0_told_1 10 rfl rfl)
theorem dX0_told_37 : decode cX0_told 37 = .ok (.iload_n 2, 1) := dk_28 (dk_at dksX0_told_1 13 rfl rfl)
theorem dX0_told_38 : decode cX0_told 38 = .ok (.iconst 1, 1) := dk_4 (dk_at dksX0_told_1 14 rfl rfl)
theorem dX0_told_39 : decode cX0_told 39 = .ok (.if_icmp .ne 14, 3) := dk_160 0 14 (dk_at dksX0_told_1 15 rfl rfl)
theorem dX0_told_42 : decode cX0_told 42 = .ok (.aload_n 0, 1) := dk_42 (dk_at dksX0_told_1 18 rfl rfl)
theorem dX0_told_43 : decode cX0_told 43 = .ok (.aload_n 1, 1) := dk_43 (dk_at dksX0_told_1 19 rfl rfl)
theorem dX0_told_44 : decode cX0_told 44 = .ok (.getfield 260, 3) := dk_180 1 4 (dk_at dksX0_told_1 20 rfl rfl)
theorem dX0_told_47 : decode cX0_told 47 = .ok (.invokevirtual 247, 3) := dk_182 0 247 (dk_at dksX0_told_2 0 rfl rfl)
theorem dX0_told_50 : decode cX0_told 50 = .ok (.goto 7, 3) := dk_167 0 7 (dk_at dksX0_told_2 3 rfl rfl)
theorem dX0_told_53 : decode cX0_told 53 = .ok (.aload_n 1, 1) := dk_43 (dk_at dksX0_told_2 6 rfl rfl)
theorem dX0_told_54 : decode cX0_told 54 = .ok (.getfield 260, 3) := dk_180 1 4 (dk_at dksX0_told_2 7 rfl rfl)
theorem dX0_told_57 : decode cX0_told 57 = .ok (.ireturn, 1) := dk_172 (dk_at dksX0_told_2 10 rfl rfl)
abbrev cX0_oneByOne : ByteArray := prog_1_method_40_code
def yX0_oneByOne : MethodName := ⟨RX0, "oneByOne", "(I)I"⟩
def dkwX0_oneByOne_1 : List UInt8 := [182, 1, 10, 167, 0, 4, 2, 172]
abbrev dktX0_oneByOne_1 : List UInt8 := dkwX0_oneByOne_1 ++ []
def dkwX0_oneByOne_0 : List UInt8 := [27, 133, 9, 20, 0, 139, 184, 0, 95, 153, 0, 19, 42, 187, 1, 14, 89, 42, 183, 1, 16, 27]
abbrev dktX0_oneByOne_0 : List UInt8 := dkwX0_oneByOne_0 ++ dktX0_oneByOne_1
theorem dksX0_oneByOne_0 : cX0_oneByOne.data.toList.drop 0 = dktX0_oneByOne_0 := by decide +kernel
theorem dksX0_oneByOne_1 : cX0_oneByOne.data.toList.drop 22 = dktX0_oneByOne_1 := dk_seg dksX0_oneByOne_0 22 rfl rfl
theorem dX0_oneByOne_0 : decode cX0_oneByOne 0 = .ok (.iload_n 1, 1) := dk_27 (dk_at dksX0_oneByOne_0 0 rfl rfl)
theorem dX0_oneByOne_1 : decode cX0_oneByOne 1 = .ok (.i2l, 1) := dk_133 (dk_at dksX0_oneByOne_0 1 rfl rfl)
theorem dX0_oneByOne_2 : decode cX0_oneByOne 2 = .ok (.lconst 0, 1) := dk_9 (dk_at dksX0_oneByOne_0 2 rfl rfl)
theorem dX0_oneByOne_3 : decode cX0_oneByOne 3 = .ok (.ldc2_w 139, 3) := dk_20 0 139 (dk_at dksX0_oneByOne_0 3 rfl rfl)
theorem dX0_oneByOne_6 : decode cX0_oneByOne 6 = .ok (.invokestatic 95, 3) := dk_184 0 95 (dk_at dksX0_oneByOne_0 6 rfl rfl)
theorem dX0_oneByOne_9 : decode cX0_oneByOne 9 = .ok (.ifCond .eq 19, 3) := dk_153 0 19 (dk_at dksX0_oneByOne_0 9 rfl rfl)
theorem dX0_oneByOne_12 : decode cX0_oneByOne 12 = .ok (.aload_n 0, 1) := dk_42 (dk_at dksX0_oneByOne_0 12 rfl rfl)
theorem dX0_oneByOne_13 : decode cX0_oneByOne 13 = .ok (.new 270, 3) := dk_187 1 14 (dk_at dksX0_oneByOne_0 13 rfl rfl)
theorem dX0_oneByOne_16 : decode cX0_oneByOne 16 = .ok (.dup, 1) := dk_89 (dk_at dksX0_oneByOne_0 16 rfl rfl)
theorem dX0_oneByOne_17 : decode cX0_oneByOne 17 = .ok (.aload_n 0, 1) := dk_42 (dk_at dksX0_oneByOne_0 17 rfl rfl)
theorem dX0_oneByOne_18 : decode cX0_oneByOne 18 = .ok (.invokespecial 272, 3) := dk_183 1 16 (dk_at dksX0_oneByOne_0 18 rfl rfl)
theorem dX0_oneByOne_21 : decode cX0_oneByOne 21 = .ok (.iload_n 1, 1) := dk_27 (dk_at dksX0_oneByOne_0 21 rfl rfl)
theorem dX0_oneByOne_22 : decode cX0_oneByOne 22 = .ok (.invokevirtual 266, 3) := dk_182 1 10 (dk_at dksX0_oneByOne_1 0 rfl rfl)
theorem dX0_oneByOne_25 : decode cX0_oneByOne 25 = .ok (.goto 4, 3) := dk_167 0 4 (dk_at dksX0_oneByOne_1 3 rfl rfl)
theorem dX0_oneByOne_28 : decode cX0_oneByOne 28 = .ok (.iconst (-1), 1) := dk_2 (dk_at dksX0_oneByOne_1 6 rfl rfl)
theorem dX0_oneByOne_29 : decode cX0_oneByOne 29 = .ok (.ireturn, 1) := dk_172 (dk_at dksX0_oneByOne_1 7 rfl rfl)
abbrev cX0_order : ByteArray := prog_1_method_41_code
def yX0_order : MethodName := ⟨RX0, "order", "(I)I"⟩
def dkwX0_order_10 : List UInt8 := [21, 7, 120, 2, 130, 126, 54, 5, 132, 6, 1, 167, 255, 195]
abbrev dktX0_order_10 : List UInt8 := dkwX0_order_10 ++ []
def dkwX0_order_9 : List UInt8 := [126, 51, 154, 0, 9, 132, 7, 1, 167, 255, 224, 21, 6, 27, 160, 0, 6, 21, 7, 172, 21, 5, 4]
abbrev dktX0_order_9 : List UInt8 := dkwX0_order_9 ++ dktX0_order_10
def dkwX0_order_8 : List UInt8 := [44, 180, 1, 4, 21, 5, 126, 21, 7, 184, 0, 168, 153, 0, 17, 45, 21, 5, 4, 21, 7, 120, 2, 130]
abbrev dktX0_order_8 : List UInt8 := dkwX0_order_8 ++ dktX0_order_9
def dkwX0_order_7 : List UInt8 := [180, 1, 4, 126, 54, 5, 167, 255, 154, 42, 180, 0, 18, 180, 0, 101, 54, 5, 3, 54, 6, 3, 54, 7]
abbrev dktX0_order_7 : List UInt8 := dkwX0_order_7 ++ dktX0_order_8
def dkwX0_order_6 : List UInt8 := [167, 255, 193, 21, 5, 44, 180, 1, 4, 160, 0, 6, 167, 0, 20, 21, 5, 44, 180, 1, 4, 100, 44]
abbrev dktX0_order_6 : List UInt8 := dkwX0_order_6 ++ dktX0_order_7
def dkwX0_order_5 : List UInt8 := [21, 6, 4, 21, 7, 120, 2, 130, 126, 51, 153, 0, 7, 4, 167, 0, 4, 3, 128, 84, 132, 7, 1]
abbrev dktX0_order_5 : List UInt8 := dkwX0_order_5 ++ dktX0_order_6
def dkwX0_order_4 : List UInt8 := [21, 5, 21, 7, 184, 0, 168, 153, 0, 33, 42, 180, 0, 61, 21, 6, 182, 1, 17, 153, 0, 21, 45]
abbrev dktX0_order_4 : List UInt8 := dkwX0_order_4 ++ dktX0_order_5
def dkwX0_order_3 : List UInt8 := [128, 54, 6, 3, 54, 7, 21, 7, 16, 14, 162, 0, 62, 21, 5, 153, 0, 57, 45, 21, 6, 92, 51]
abbrev dktX0_order_3 : List UInt8 := dkwX0_order_3 ++ dktX0_order_4
def dkwX0_order_2 : List UInt8 := [180, 0, 101, 44, 180, 1, 4, 2, 130, 126, 54, 4, 45, 21, 4, 4, 84, 3, 54, 5, 21, 4, 21, 5]
abbrev dktX0_order_2 : List UInt8 := dkwX0_order_2 ++ dktX0_order_3
def dkwX0_order_1 : List UInt8 := [184, 0, 245, 4, 100, 133, 184, 0, 95, 154, 0, 5, 2, 172, 17, 64, 0, 188, 4, 78, 42, 180, 0, 18]
abbrev dktX0_order_1 : List UInt8 := dkwX0_order_1 ++ dktX0_order_2
def dkwX0_order_0 : List UInt8 := [187, 1, 14, 89, 42, 183, 1, 16, 77, 44, 180, 0, 255, 153, 0, 22, 27, 133, 9, 44, 180, 1, 4]
abbrev dktX0_order_0 : List UInt8 := dkwX0_order_0 ++ dktX0_order_1
theorem dksX0_order_0 : cX0_order.data.toList.drop 0 = dktX0_order_0 := by decide +kernel
theorem dksX0_order_1 : cX0_order.data.toList.drop 23 = dktX0_order_1 := dk_seg dksX0_order_0 23 rfl rfl
theorem dksX0_order_2 : cX0_order.data.toList.drop 47 = dktX0_order_2 := dk_seg dksX0_order_1 24 rfl rfl
theorem dksX0_order_3 : cX0_order.data.toList.drop 71 = dktX0_order_3 := dk_seg dksX0_order_2 24 rfl rfl
theorem dksX0_order_4 : cX0_order.data.toList.drop 94 = dktX0_order_4 := dk_seg dksX0_order_3 23 rfl rfl
theorem dksX0_order_5 : cX0_order.data.toList.drop 117 = dktX0_order_5 := dk_seg dksX0_order_4 23 rfl rfl
theorem dksX0_order_6 : cX0_order.data.toList.drop 140 = dktX0_order_6 := dk_seg dksX0_order_5 23 rfl rfl
theorem dksX0_order_7 : cX0_order.data.toList.drop 163 = dktX0_order_7 := dk_seg dksX0_order_6 23 rfl rfl
theorem dksX0_order_8 : cX0_order.data.toList.drop 187 = dktX0_order_8 := dk_seg dksX0_order_7 24 rfl rfl
theorem dksX0_order_9 : cX0_order.data.toList.drop 211 = dktX0_order_9 := dk_seg dksX0_order_8 24 rfl rfl
theorem dksX0_order_10 : cX0_order.data.toList.drop 234 = dktX0_order_10 := dk_seg dksX0_order_9 23 rfl rfl
theorem dX0_order_0 : decode cX0_order 0 = .ok (.new 270, 3) := dk_187 1 14 (dk_at dksX0_order_0 0 rfl rfl)
theorem dX0_order_3 : decode cX0_order 3 = .ok (.dup, 1) := dk_89 (dk_at dksX0_order_0 3 rfl rfl)
theorem dX0_order_4 : decode cX0_order 4 = .ok (.aload_n 0, 1) := dk_42 (dk_at dksX0_order_0 4 rfl rfl)
theorem dX0_order_5 : decode cX0_order 5 = .ok (.invokespecial 272, 3) := dk_183 1 16 (dk_at dksX0_order_0 5 rfl rfl)
theorem dX0_order_8 : decode cX0_order 8 = .ok (.astore_n 2, 1) := dk_77 (dk_at dksX0_order_0 8 rfl rfl)
theorem dX0_order_9 : decode cX0_order 9 = .ok (.aload_n 2, 1) := dk_44 (dk_at dksX0_order_0 9 rfl rfl)
theorem dX0_order_10 : decode cX0_order 10 = .ok (.getfield 255, 3) := dk_180 0 255 (dk_at dksX0_order_0 10 rfl rfl)
theorem dX0_order_13 : decode cX0_order 13 = .ok (.ifCond .eq 22, 3) := dk_153 0 22 (dk_at dksX0_order_0 13 rfl rfl)
theorem dX0_order_16 : decode cX0_order 16 = .ok (.iload_n 1, 1) := dk_27 (dk_at dksX0_order_0 16 rfl rfl)
theorem dX0_order_17 : decode cX0_order 17 = .ok (.i2l, 1) := dk_133 (dk_at dksX0_order_0 17 rfl rfl)
theorem dX0_order_18 : decode cX0_order 18 = .ok (.lconst 0, 1) := dk_9 (dk_at dksX0_order_0 18 rfl rfl)
theorem dX0_order_19 : decode cX0_order 19 = .ok (.aload_n 2, 1) := dk_44 (dk_at dksX0_order_0 19 rfl rfl)
theorem dX0_order_20 : decode cX0_order 20 = .ok (.getfield 260, 3) := dk_180 1 4 (dk_at dksX0_order_0 20 rfl rfl)
theorem dX0_order_23 : decode cX0_order 23 = .ok (.invokestatic 245, 3) := dk_184 0 245 (dk_at dksX0_order_1 0 rfl rfl)
theorem dX0_order_26 : decode cX0_order 26 = .ok (.iconst 1, 1) := dk_4 (dk_at dksX0_order_1 3 rfl rfl)
theorem dX0_order_27 : decode cX0_order 27 = .ok (.isub, 1) := dk_100 (dk_at dksX0_order_1 4 rfl rfl)
theorem dX0_order_28 : decode cX0_order 28 = .ok (.i2l, 1) := dk_133 (dk_at dksX0_order_1 5 rfl rfl)
theorem dX0_order_29 : decode cX0_order 29 = .ok (.invokestatic 95, 3) := dk_184 0 95 (dk_at dksX0_order_1 6 rfl rfl)
theorem dX0_order_32 : decode cX0_order 32 = .ok (.ifCond .ne 5, 3) := dk_154 0 5 (dk_at dksX0_order_1 9 rfl rfl)
theorem dX0_order_35 : decode cX0_order 35 = .ok (.iconst (-1), 1) := dk_2 (dk_at dksX0_order_1 12 rfl rfl)
theorem dX0_order_36 : decode cX0_order 36 = .ok (.ireturn, 1) := dk_172 (dk_at dksX0_order_1 13 rfl rfl)
theorem dX0_order_37 : decode cX0_order 37 = .ok (.sipush 16384, 3) := dk_17 64 0 (dk_at dksX0_order_1 14 rfl rfl)
theorem dX0_order_40 : decode cX0_order 40 = .ok (.newarray .boolean, 2) := dk_188_4 (dk_at dksX0_order_1 17 rfl rfl)
theorem dX0_order_42 : decode cX0_order 42 = .ok (.astore_n 3, 1) := dk_78 (dk_at dksX0_order_1 19 rfl rfl)
theorem dX0_order_43 : decode cX0_order 43 = .ok (.aload_n 0, 1) := dk_42 (dk_at dksX0_order_1 20 rfl rfl)
theorem dX0_order_44 : decode cX0_order 44 = .ok (.getfield 18, 3) := dk_180 0 18 (dk_at dksX0_order_1 21 rfl rfl)
theorem dX0_order_47 : decode cX0_order 47 = .ok (.getfield 101, 3) := dk_180 0 101 (dk_at dksX0_order_2 0 rfl rfl)
theorem dX0_order_50 : decode cX0_order 50 = .ok (.aload_n 2, 1) := dk_44 (dk_at dksX0_order_2 3 rfl rfl)
theorem dX0_order_51 : decode cX0_order 51 = .ok (.getfield 260, 3) := dk_180 1 4 (dk_at dksX0_order_2 4 rfl rfl)
theorem dX0_order_54 : decode cX0_order 54 = .ok (.iconst (-1), 1) := dk_2 (dk_at dksX0_order_2 7 rfl rfl)
theorem dX0_order_55 : decode cX0_order 55 = .ok (.ixor, 1) := dk_130 (dk_at dksX0_order_2 8 rfl rfl)
theorem dX0_order_56 : decode cX0_order 56 = .ok (.iand, 1) := dk_126 (dk_at dksX0_order_2 9 rfl rfl)
theorem dX0_order_57 : decode cX0_order 57 = .ok (.istore 4, 2) := dk_54 4 (dk_at dksX0_order_2 10 rfl rfl)
theorem dX0_order_59 : decode cX0_order 59 = .ok (.aload_n 3, 1) := dk_45 (dk_at dksX0_order_2 12 rfl rfl)
theorem dX0_order_60 : decode cX0_order 60 = .ok (.iload 4, 2) := dk_21 4 (dk_at dksX0_order_2 13 rfl rfl)
theorem dX0_order_62 : decode cX0_order 62 = .ok (.iconst 1, 1) := dk_4 (dk_at dksX0_order_2 15 rfl rfl)
theorem dX0_order_63 : decode cX0_order 63 = .ok (.bastore, 1) := dk_84 (dk_at dksX0_order_2 16 rfl rfl)
theorem dX0_order_64 : decode cX0_order 64 = .ok (.iconst 0, 1) := dk_3 (dk_at dksX0_order_2 17 rfl rfl)
theorem dX0_order_65 : decode cX0_order 65 = .ok (.istore 5, 2) := dk_54 5 (dk_at dksX0_order_2 18 rfl rfl)
theorem dX0_order_67 : decode cX0_order 67 = .ok (.iload 4, 2) := dk_21 4 (dk_at dksX0_order_2 20 rfl rfl)
theorem dX0_order_69 : decode cX0_order 69 = .ok (.iload 5, 2) := dk_21 5 (dk_at dksX0_order_2 22 rfl rfl)
theorem dX0_order_71 : decode cX0_order 71 = .ok (.ior, 1) := dk_128 (dk_at dksX0_order_3 0 rfl rfl)
theorem dX0_order_72 : decode cX0_order 72 = .ok (.istore 6, 2) := dk_54 6 (dk_at dksX0_order_3 1 rfl rfl)
theorem dX0_order_74 : decode cX0_order 74 = .ok (.iconst 0, 1) := dk_3 (dk_at dksX0_order_3 3 rfl rfl)
theorem dX0_order_75 : decode cX0_order 75 = .ok (.istore 7, 2) := dk_54 7 (dk_at dksX0_order_3 4 rfl rfl)
theorem dX0_order_77 : decode cX0_order 77 = .ok (.iload 7, 2) := dk_21 7 (dk_at dksX0_order_3 6 rfl rfl)
theorem dX0_order_79 : decode cX0_order 79 = .ok (.bipush 14, 2) := dk_16 14 (dk_at dksX0_order_3 8 rfl rfl)
theorem dX0_order_81 : decode cX0_order 81 = .ok (.if_icmp .ge 62, 3) := dk_162 0 62 (dk_at dksX0_order_3 10 rfl rfl)
theorem dX0_order_84 : decode cX0_order 84 = .ok (.iload 5, 2) := dk_21 5 (dk_at dksX0_order_3 13 rfl rfl)
theorem dX0_order_86 : decode cX0_order 86 = .ok (.ifCond .eq 57, 3) := dk_153 0 57 (dk_at dksX0_order_3 15 rfl rfl)
theorem dX0_order_89 : decode cX0_order 89 = .ok (.aload_n 3, 1) := dk_45 (dk_at dksX0_order_3 18 rfl rfl)
theorem dX0_order_90 : decode cX0_order 90 = .ok (.iload 6, 2) := dk_21 6 (dk_at dksX0_order_3 19 rfl rfl)
theorem dX0_order_92 : decode cX0_order 92 = .ok (.dup2, 1) := dk_92 (dk_at dksX0_order_3 21 rfl rfl)
theorem dX0_order_93 : decode cX0_order 93 = .ok (.baload, 1) := dk_51 (dk_at dksX0_order_3 22 rfl rfl)
theorem dX0_order_94 : decode cX0_order 94 = .ok (.iload 5, 2) := dk_21 5 (dk_at dksX0_order_4 0 rfl rfl)
theorem dX0_order_96 : decode cX0_order 96 = .ok (.iload 7, 2) := dk_21 7 (dk_at dksX0_order_4 2 rfl rfl)
theorem dX0_order_98 : decode cX0_order 98 = .ok (.invokestatic 168, 3) := dk_184 0 168 (dk_at dksX0_order_4 4 rfl rfl)
theorem dX0_order_101 : decode cX0_order 101 = .ok (.ifCond .eq 33, 3) := dk_153 0 33 (dk_at dksX0_order_4 7 rfl rfl)
theorem dX0_order_104 : decode cX0_order 104 = .ok (.aload_n 0, 1) := dk_42 (dk_at dksX0_order_4 10 rfl rfl)
theorem dX0_order_105 : decode cX0_order 105 = .ok (.getfield 61, 3) := dk_180 0 61 (dk_at dksX0_order_4 11 rfl rfl)
theorem dX0_order_108 : decode cX0_order 108 = .ok (.iload 6, 2) := dk_21 6 (dk_at dksX0_order_4 14 rfl rfl)
theorem dX0_order_110 : decode cX0_order 110 = .ok (.invokevirtual 273, 3) := dk_182 1 17 (dk_at dksX0_order_4 16 rfl rfl)
theorem dX0_order_113 : decode cX0_order 113 = .ok (.ifCond .eq 21, 3) := dk_153 0 21 (dk_at dksX0_order_4 19 rfl rfl)
theorem dX0_order_116 : decode cX0_order 116 = .ok (.aload_n 3, 1) := dk_45 (dk_at dksX0_order_4 22 rfl rfl)
theorem dX0_order_117 : decode cX0_order 117 = .ok (.iload 6, 2) := dk_21 6 (dk_at dksX0_order_5 0 rfl rfl)
theorem dX0_order_119 : decode cX0_order 119 = .ok (.iconst 1, 1) := dk_4 (dk_at dksX0_order_5 2 rfl rfl)
theorem dX0_order_120 : decode cX0_order 120 = .ok (.iload 7, 2) := dk_21 7 (dk_at dksX0_order_5 3 rfl rfl)
theorem dX0_order_122 : decode cX0_order 122 = .ok (.ishl, 1) := dk_120 (dk_at dksX0_order_5 5 rfl rfl)
theorem dX0_order_123 : decode cX0_order 123 = .ok (.iconst (-1), 1) := dk_2 (dk_at dksX0_order_5 6 rfl rfl)
theorem dX0_order_124 : decode cX0_order 124 = .ok (.ixor, 1) := dk_130 (dk_at dksX0_order_5 7 rfl rfl)
theorem dX0_order_125 : decode cX0_order 125 = .ok (.iand, 1) := dk_126 (dk_at dksX0_order_5 8 rfl rfl)
theorem dX0_order_126 : decode cX0_order 126 = .ok (.baload, 1) := dk_51 (dk_at dksX0_order_5 9 rfl rfl)
theorem dX0_order_127 : decode cX0_order 127 = .ok (.ifCond .eq 7, 3) := dk_153 0 7 (dk_at dksX0_order_5 10 rfl rfl)
theorem dX0_order_130 : decode cX0_order 130 = .ok (.iconst 1, 1) := dk_4 (dk_at dksX0_order_5 13 rfl rfl)
theorem dX0_order_131 : decode cX0_order 131 = .ok (.goto 4, 3) := dk_167 0 4 (dk_at dksX0_order_5 14 rfl rfl)
theorem dX0_order_134 : decode cX0_order 134 = .ok (.iconst 0, 1) := dk_3 (dk_at dksX0_order_5 17 rfl rfl)
theorem dX0_order_135 : decode cX0_order 135 = .ok (.ior, 1) := dk_128 (dk_at dksX0_order_5 18 rfl rfl)
theorem dX0_order_136 : decode cX0_order 136 = .ok (.bastore, 1) := dk_84 (dk_at dksX0_order_5 19 rfl rfl)
theorem dX0_order_137 : decode cX0_order 137 = .ok (.iinc 7 1, 3) := dk_132 7 1 (dk_at dksX0_order_5 20 rfl rfl)
theorem dX0_order_140 : decode cX0_order 140 = .ok (.goto (-63), 3) := dk_167 255 193 (dk_at dksX0_order_6 0 rfl rfl)
theorem dX0_order_143 : decode cX0_order 143 = .ok (.iload 5, 2) := dk_21 5 (dk_at dksX0_order_6 3 rfl rfl)
theorem dX0_order_145 : decode cX0_order 145 = .ok (.aload_n 2, 1) := dk_44 (dk_at dksX0_order_6 5 rfl rfl)
theorem dX0_order_146 : decode cX0_order 146 = .ok (.getfield 260, 3) := dk_180 1 4 (dk_at dksX0_order_6 6 rfl rfl)
theorem dX0_order_149 : decode cX0_order 149 = .ok (.if_icmp .ne 6, 3) := dk_160 0 6 (dk_at dksX0_order_6 9 rfl rfl)
theorem dX0_order_152 : decode cX0_order 152 = .ok (.goto 20, 3) := dk_167 0 20 (dk_at dksX0_order_6 12 rfl rfl)
theorem dX0_order_155 : decode cX0_order 155 = .ok (.iload 5, 2) := dk_21 5 (dk_at dksX0_order_6 15 rfl rfl)
theorem dX0_order_157 : decode cX0_order 157 = .ok (.aload_n 2, 1) := dk_44 (dk_at dksX0_order_6 17 rfl rfl)
theorem dX0_order_158 : decode cX0_order 158 = .ok (.getfield 260, 3) := dk_180 1 4 (dk_at dksX0_order_6 18 rfl rfl)
theorem dX0_order_161 : decode cX0_order 161 = .ok (.isub, 1) := dk_100 (dk_at dksX0_order_6 21 rfl rfl)
theorem dX0_order_162 : decode cX0_order 162 = .ok (.aload_n 2, 1) := dk_44 (dk_at dksX0_order_6 22 rfl rfl)
theorem dX0_order_163 : decode cX0_order 163 = .ok (.getfield 260, 3) := dk_180 1 4 (dk_at dksX0_order_7 0 rfl rfl)
theorem dX0_order_166 : decode cX0_order 166 = .ok (.iand, 1) := dk_126 (dk_at dksX0_order_7 3 rfl rfl)
theorem dX0_order_167 : decode cX0_order 167 = .ok (.istore 5, 2) := dk_54 5 (dk_at dksX0_order_7 4 rfl rfl)
theorem dX0_order_169 : decode cX0_order 169 = .ok (.goto (-102), 3) := dk_167 255 154 (dk_at dksX0_order_7 6 rfl rfl)
theorem dX0_order_172 : decode cX0_order 172 = .ok (.aload_n 0, 1) := dk_42 (dk_at dksX0_order_7 9 rfl rfl)
theorem dX0_order_173 : decode cX0_order 173 = .ok (.getfield 18, 3) := dk_180 0 18 (dk_at dksX0_order_7 10 rfl rfl)
theorem dX0_order_176 : decode cX0_order 176 = .ok (.getfield 101, 3) := dk_180 0 101 (dk_at dksX0_order_7 13 rfl rfl)
theorem dX0_order_179 : decode cX0_order 179 = .ok (.istore 5, 2) := dk_54 5 (dk_at dksX0_order_7 16 rfl rfl)
theorem dX0_order_181 : decode cX0_order 181 = .ok (.iconst 0, 1) := dk_3 (dk_at dksX0_order_7 18 rfl rfl)
theorem dX0_order_182 : decode cX0_order 182 = .ok (.istore 6, 2) := dk_54 6 (dk_at dksX0_order_7 19 rfl rfl)
theorem dX0_order_184 : decode cX0_order 184 = .ok (.iconst 0, 1) := dk_3 (dk_at dksX0_order_7 21 rfl rfl)
theorem dX0_order_185 : decode cX0_order 185 = .ok (.istore 7, 2) := dk_54 7 (dk_at dksX0_order_7 22 rfl rfl)
theorem dX0_order_187 : decode cX0_order 187 = .ok (.aload_n 2, 1) := dk_44 (dk_at dksX0_order_8 0 rfl rfl)
theorem dX0_order_188 : decode cX0_order 188 = .ok (.getfield 260, 3) := dk_180 1 4 (dk_at dksX0_order_8 1 rfl rfl)
theorem dX0_order_191 : decode cX0_order 191 = .ok (.iload 5, 2) := dk_21 5 (dk_at dksX0_order_8 4 rfl rfl)
theorem dX0_order_193 : decode cX0_order 193 = .ok (.iand, 1) := dk_126 (dk_at dksX0_order_8 6 rfl rfl)
theorem dX0_order_194 : decode cX0_order 194 = .ok (.iload 7, 2) := dk_21 7 (dk_at dksX0_order_8 7 rfl rfl)
theorem dX0_order_196 : decode cX0_order 196 = .ok (.invokestatic 168, 3) := dk_184 0 168 (dk_at dksX0_order_8 9 rfl rfl)
theorem dX0_order_199 : decode cX0_order 199 = .ok (.ifCond .eq 17, 3) := dk_153 0 17 (dk_at dksX0_order_8 12 rfl rfl)
theorem dX0_order_202 : decode cX0_order 202 = .ok (.aload_n 3, 1) := dk_45 (dk_at dksX0_order_8 15 rfl rfl)
theorem dX0_order_203 : decode cX0_order 203 = .ok (.iload 5, 2) := dk_21 5 (dk_at dksX0_order_8 16 rfl rfl)
theorem dX0_order_205 : decode cX0_order 205 = .ok (.iconst 1, 1) := dk_4 (dk_at dksX0_order_8 18 rfl rfl)
theorem dX0_order_206 : decode cX0_order 206 = .ok (.iload 7, 2) := dk_21 7 (dk_at dksX0_order_8 19 rfl rfl)
theorem dX0_order_208 : decode cX0_order 208 = .ok (.ishl, 1) := dk_120 (dk_at dksX0_order_8 21 rfl rfl)
theorem dX0_order_209 : decode cX0_order 209 = .ok (.iconst (-1), 1) := dk_2 (dk_at dksX0_order_8 22 rfl rfl)
theorem dX0_order_210 : decode cX0_order 210 = .ok (.ixor, 1) := dk_130 (dk_at dksX0_order_8 23 rfl rfl)
theorem dX0_order_211 : decode cX0_order 211 = .ok (.iand, 1) := dk_126 (dk_at dksX0_order_9 0 rfl rfl)
theorem dX0_order_212 : decode cX0_order 212 = .ok (.baload, 1) := dk_51 (dk_at dksX0_order_9 1 rfl rfl)
theorem dX0_order_213 : decode cX0_order 213 = .ok (.ifCond .ne 9, 3) := dk_154 0 9 (dk_at dksX0_order_9 2 rfl rfl)
theorem dX0_order_216 : decode cX0_order 216 = .ok (.iinc 7 1, 3) := dk_132 7 1 (dk_at dksX0_order_9 5 rfl rfl)
theorem dX0_order_219 : decode cX0_order 219 = .ok (.goto (-32), 3) := dk_167 255 224 (dk_at dksX0_order_9 8 rfl rfl)
theorem dX0_order_222 : decode cX0_order 222 = .ok (.iload 6, 2) := dk_21 6 (dk_at dksX0_order_9 11 rfl rfl)
theorem dX0_order_224 : decode cX0_order 224 = .ok (.iload_n 1, 1) := dk_27 (dk_at dksX0_order_9 13 rfl rfl)
theorem dX0_order_225 : decode cX0_order 225 = .ok (.if_icmp .ne 6, 3) := dk_160 0 6 (dk_at dksX0_order_9 14 rfl rfl)
theorem dX0_order_228 : decode cX0_order 228 = .ok (.iload 7, 2) := dk_21 7 (dk_at dksX0_order_9 17 rfl rfl)
theorem dX0_order_230 : decode cX0_order 230 = .ok (.ireturn, 1) := dk_172 (dk_at dksX0_order_9 19 rfl rfl)
theorem dX0_order_231 : decode cX0_order 231 = .ok (.iload 5, 2) := dk_21 5 (dk_at dksX0_order_9 20 rfl rfl)
theorem dX0_order_233 : decode cX0_order 233 = .ok (.iconst 1, 1) := dk_4 (dk_at dksX0_order_9 22 rfl rfl)
theorem dX0_order_234 : decode cX0_order 234 = .ok (.iload 7, 2) := dk_21 7 (dk_at dksX0_order_10 0 rfl rfl)
theorem dX0_order_236 : decode cX0_order 236 = .ok (.ishl, 1) := dk_120 (dk_at dksX0_order_10 2 rfl rfl)
theorem dX0_order_237 : decode cX0_order 237 = .ok (.iconst (-1), 1) := dk_2 (dk_at dksX0_order_10 3 rfl rfl)
theorem dX0_order_238 : decode cX0_order 238 = .ok (.ixor, 1) := dk_130 (dk_at dksX0_order_10 4 rfl rfl)
theorem dX0_order_239 : decode cX0_order 239 = .ok (.iand, 1) := dk_126 (dk_at dksX0_order_10 5 rfl rfl)
theorem dX0_order_240 : decode cX0_order 240 = .ok (.istore 5, 2) := dk_54 5 (dk_at dksX0_order_10 6 rfl rfl)
theorem dX0_order_242 : decode cX0_order 242 = .ok (.iinc 6 1, 3) := dk_132 6 1 (dk_at dksX0_order_10 8 rfl rfl)
theorem dX0_order_245 : decode cX0_order 245 = .ok (.goto (-61), 3) := dk_167 255 195 (dk_at dksX0_order_10 11 rfl rfl)
abbrev cX0_fell : ByteArray := prog_1_method_43_code
def yX0_fell : MethodName := ⟨RX0, "fell", "(I)I"⟩
def dkwX0_fell_2 : List UInt8 := [167, 0, 15, 42, 44, 42, 180, 0, 18, 180, 0, 101, 182, 1, 26, 172]
abbrev dktX0_fell_2 : List UInt8 := dkwX0_fell_2 ++ []
def dkwX0_fell_1 : List UInt8 := [154, 0, 13, 44, 180, 1, 4, 184, 0, 245, 167, 0, 27, 27, 4, 160, 0, 10, 44, 180, 1, 4]
abbrev dktX0_fell_1 : List UInt8 := dkwX0_fell_1 ++ dktX0_fell_2
def dkwX0_fell_0 : List UInt8 := [27, 133, 9, 20, 0, 172, 184, 0, 95, 154, 0, 5, 2, 172, 187, 1, 23, 89, 42, 183, 1, 25, 77, 27]
abbrev dktX0_fell_0 : List UInt8 := dkwX0_fell_0 ++ dktX0_fell_1
theorem dksX0_fell_0 : cX0_fell.data.toList.drop 0 = dktX0_fell_0 := by decide +kernel
theorem dksX0_fell_1 : cX0_fell.data.toList.drop 24 = dktX0_fell_1 := dk_seg dksX0_fell_0 24 rfl rfl
theorem dksX0_fell_2 : cX0_fell.data.toList.drop 46 = dktX0_fell_2 := dk_seg dksX0_fell_1 22 rfl rfl
theorem dX0_fell_0 : decode cX0_fell 0 = .ok (.iload_n 1, 1) := dk_27 (dk_at dksX0_fell_0 0 rfl rfl)
theorem dX0_fell_1 : decode cX0_fell 1 = .ok (.i2l, 1) := dk_133 (dk_at dksX0_fell_0 1 rfl rfl)
theorem dX0_fell_2 : decode cX0_fell 2 = .ok (.lconst 0, 1) := dk_9 (dk_at dksX0_fell_0 2 rfl rfl)
theorem dX0_fell_3 : decode cX0_fell 3 = .ok (.ldc2_w 172, 3) := dk_20 0 172 (dk_at dksX0_fell_0 3 rfl rfl)
theorem dX0_fell_6 : decode cX0_fell 6 = .ok (.invokestatic 95, 3) := dk_184 0 95 (dk_at dksX0_fell_0 6 rfl rfl)
theorem dX0_fell_9 : decode cX0_fell 9 = .ok (.ifCond .ne 5, 3) := dk_154 0 5 (dk_at dksX0_fell_0 9 rfl rfl)
theorem dX0_fell_12 : decode cX0_fell 12 = .ok (.iconst (-1), 1) := dk_2 (dk_at dksX0_fell_0 12 rfl rfl)
theorem dX0_fell_13 : decode cX0_fell 13 = .ok (.ireturn, 1) := dk_172 (dk_at dksX0_fell_0 13 rfl rfl)
theorem dX0_fell_14 : decode cX0_fell 14 = .ok (.new 279, 3) := dk_187 1 23 (dk_at dksX0_fell_0 14 rfl rfl)
theorem dX0_fell_17 : decode cX0_fell 17 = .ok (.dup, 1) := dk_89 (dk_at dksX0_fell_0 17 rfl rfl)
theorem dX0_fell_18 : decode cX0_fell 18 = .ok (.aload_n 0, 1) := dk_42 (dk_at dksX0_fell_0 18 rfl rfl)
theorem dX0_fell_19 : decode cX0_fell 19 = .ok (.invokespecial 281, 3) := dk_183 1 25 (dk_at dksX0_fell_0 19 rfl rfl)
theorem dX0_fell_22 : decode cX0_fell 22 = .ok (.astore_n 2, 1) := dk_77 (dk_at dksX0_fell_0 22 rfl rfl)
theorem dX0_fell_23 : decode cX0_fell 23 = .ok (.iload_n 1, 1) := dk_27 (dk_at dksX0_fell_0 23 rfl rfl)
theorem dX0_fell_24 : decode cX0_fell 24 = .ok (.ifCond .ne 13, 3) := dk_154 0 13 (dk_at dksX0_fell_1 0 rfl rfl)
theorem dX0_fell_27 : decode cX0_fell 27 = .ok (.aload_n 2, 1) := dk_44 (dk_at dksX0_fell_1 3 rfl rfl)
theorem dX0_fell_28 : decode cX0_fell 28 = .ok (.getfield 260, 3) := dk_180 1 4 (dk_at dksX0_fell_1 4 rfl rfl)
theorem dX0_fell_31 : decode cX0_fell 31 = .ok (.invokestatic 245, 3) := dk_184 0 245 (dk_at dksX0_fell_1 7 rfl rfl)
theorem dX0_fell_34 : decode cX0_fell 34 = .ok (.goto 27, 3) := dk_167 0 27 (dk_at dksX0_fell_1 10 rfl rfl)
theorem dX0_fell_37 : decode cX0_fell 37 = .ok (.iload_n 1, 1) := dk_27 (dk_at dksX0_fell_1 13 rfl rfl)
theorem dX0_fell_38 : decode cX0_fell 38 = .ok (.iconst 1, 1) := dk_4 (dk_at dksX0_fell_1 14 rfl rfl)
theorem dX0_fell_39 : decode cX0_fell 39 = .ok (.if_icmp .ne 10, 3) := dk_160 0 10 (dk_at dksX0_fell_1 15 rfl rfl)
theorem dX0_fell_42 : decode cX0_fell 42 = .ok (.aload_n 2, 1) := dk_44 (dk_at dksX0_fell_1 18 rfl rfl)
theorem dX0_fell_43 : decode cX0_fell 43 = .ok (.getfield 260, 3) := dk_180 1 4 (dk_at dksX0_fell_1 19 rfl rfl)
theorem dX0_fell_46 : decode cX0_fell 46 = .ok (.goto 15, 3) := dk_167 0 15 (dk_at dksX0_fell_2 0 rfl rfl)
theorem dX0_fell_49 : decode cX0_fell 49 = .ok (.aload_n 0, 1) := dk_42 (dk_at dksX0_fell_2 3 rfl rfl)
theorem dX0_fell_50 : decode cX0_fell 50 = .ok (.aload_n 2, 1) := dk_44 (dk_at dksX0_fell_2 4 rfl rfl)
theorem dX0_fell_51 : decode cX0_fell 51 = .ok (.aload_n 0, 1) := dk_42 (dk_at dksX0_fell_2 5 rfl rfl)
theorem dX0_fell_52 : decode cX0_fell 52 = .ok (.getfield 18, 3) := dk_180 0 18 (dk_at dksX0_fell_2 6 rfl rfl)
theorem dX0_fell_55 : decode cX0_fell 55 = .ok (.getfield 101, 3) := dk_180 0 101 (dk_at dksX0_fell_2 9 rfl rfl)
theorem dX0_fell_58 : decode cX0_fell 58 = .ok (.invokevirtual 282, 3) := dk_182 1 26 (dk_at dksX0_fell_2 12 rfl rfl)
theorem dX0_fell_61 : decode cX0_fell 61 = .ok (.ireturn, 1) := dk_172 (dk_at dksX0_fell_2 15 rfl rfl)
abbrev cX0_asFew : ByteArray := prog_1_method_42_code
def yX0_asFew : MethodName := ⟨RX0, "asFew", "(LFiveTouch$Search;I)I"⟩
def dkwX0_asFew_2 : List UInt8 := [154, 255, 214, 29, 172]
abbrev dktX0_asFew_2 : List UInt8 := dkwX0_asFew_2 ++ []
def dkwX0_asFew_1 : List UInt8 := [182, 1, 20, 153, 0, 7, 4, 167, 0, 4, 3, 96, 62, 21, 4, 28, 100, 28, 126, 54, 4, 21, 4]
abbrev dktX0_asFew_1 : List UInt8 := dkwX0_asFew_1 ++ dktX0_asFew_2
def dkwX0_asFew_0 : List UInt8 := [3, 62, 3, 54, 4, 29, 21, 4, 184, 0, 245, 43, 180, 1, 4, 184, 0, 245, 160, 0, 16, 43, 21, 4]
abbrev dktX0_asFew_0 : List UInt8 := dkwX0_asFew_0 ++ dktX0_asFew_1
theorem dksX0_asFew_0 : cX0_asFew.data.toList.drop 0 = dktX0_asFew_0 := by decide +kernel
theorem dksX0_asFew_1 : cX0_asFew.data.toList.drop 24 = dktX0_asFew_1 := dk_seg dksX0_asFew_0 24 rfl rfl
theorem dksX0_asFew_2 : cX0_asFew.data.toList.drop 47 = dktX0_asFew_2 := dk_seg dksX0_asFew_1 23 rfl rfl
theorem dX0_asFew_0 : decode cX0_asFew 0 = .ok (.iconst 0, 1) := dk_3 (dk_at dksX0_asFew_0 0 rfl rfl)
theorem dX0_asFew_1 : decode cX0_asFew 1 = .ok (.istore_n 3, 1) := dk_62 (dk_at dksX0_asFew_0 1 rfl rfl)
theorem dX0_asFew_2 : decode cX0_asFew 2 = .ok (.iconst 0, 1) := dk_3 (dk_at dksX0_asFew_0 2 rfl rfl)
theorem dX0_asFew_3 : decode cX0_asFew 3 = .ok (.istore 4, 2) := dk_54 4 (dk_at dksX0_asFew_0 3 rfl rfl)
theorem dX0_asFew_5 : decode cX0_asFew 5 = .ok (.iload_n 3, 1) := dk_29 (dk_at dksX0_asFew_0 5 rfl rfl)
theorem dX0_asFew_6 : decode cX0_asFew 6 = .ok (.iload 4, 2) := dk_21 4 (dk_at dksX0_asFew_0 6 rfl rfl)
theorem dX0_asFew_8 : decode cX0_asFew 8 = .ok (.invokestatic 245, 3) := dk_184 0 245 (dk_at dksX0_asFew_0 8 rfl rfl)
theorem dX0_asFew_11 : decode cX0_asFew 11 = .ok (.aload_n 1, 1) := dk_43 (dk_at dksX0_asFew_0 11 rfl rfl)
theorem dX0_asFew_12 : decode cX0_asFew 12 = .ok (.getfield 260, 3) := dk_180 1 4 (dk_at dksX0_asFew_0 12 rfl rfl)
theorem dX0_asFew_15 : decode cX0_asFew 15 = .ok (.invokestatic 245, 3) := dk_184 0 245 (dk_at dksX0_asFew_0 15 rfl rfl)
theorem dX0_asFew_18 : decode cX0_asFew 18 = .ok (.if_icmp .ne 16, 3) := dk_160 0 16 (dk_at dksX0_asFew_0 18 rfl rfl)
theorem dX0_asFew_21 : decode cX0_asFew 21 = .ok (.aload_n 1, 1) := dk_43 (dk_at dksX0_asFew_0 21 rfl rfl)
theorem dX0_asFew_22 : decode cX0_asFew 22 = .ok (.iload 4, 2) := dk_21 4 (dk_at dksX0_asFew_0 22 rfl rfl)
theorem dX0_asFew_24 : decode cX0_asFew 24 = .ok (.invokevirtual 276, 3) := dk_182 1 20 (dk_at dksX0_asFew_1 0 rfl rfl)
theorem dX0_asFew_27 : decode cX0_asFew 27 = .ok (.ifCond .eq 7, 3) := dk_153 0 7 (dk_at dksX0_asFew_1 3 rfl rfl)
theorem dX0_asFew_30 : decode cX0_asFew 30 = .ok (.iconst 1, 1) := dk_4 (dk_at dksX0_asFew_1 6 rfl rfl)
theorem dX0_asFew_31 : decode cX0_asFew 31 = .ok (.goto 4, 3) := dk_167 0 4 (dk_at dksX0_asFew_1 7 rfl rfl)
theorem dX0_asFew_34 : decode cX0_asFew 34 = .ok (.iconst 0, 1) := dk_3 (dk_at dksX0_asFew_1 10 rfl rfl)
theorem dX0_asFew_35 : decode cX0_asFew 35 = .ok (.iadd, 1) := dk_96 (dk_at dksX0_asFew_1 11 rfl rfl)
theorem dX0_asFew_36 : decode cX0_asFew 36 = .ok (.istore_n 3, 1) := dk_62 (dk_at dksX0_asFew_1 12 rfl rfl)
theorem dX0_asFew_37 : decode cX0_asFew 37 = .ok (.iload 4, 2) := dk_21 4 (dk_at dksX0_asFew_1 13 rfl rfl)
theorem dX0_asFew_39 : decode cX0_asFew 39 = .ok (.iload_n 2, 1) := dk_28 (dk_at dksX0_asFew_1 15 rfl rfl)
theorem dX0_asFew_40 : decode cX0_asFew 40 = .ok (.isub, 1) := dk_100 (dk_at dksX0_asFew_1 16 rfl rfl)
theorem dX0_asFew_41 : decode cX0_asFew 41 = .ok (.iload_n 2, 1) := dk_28 (dk_at dksX0_asFew_1 17 rfl rfl)
theorem dX0_asFew_42 : decode cX0_asFew 42 = .ok (.iand, 1) := dk_126 (dk_at dksX0_asFew_1 18 rfl rfl)
theorem dX0_asFew_43 : decode cX0_asFew 43 = .ok (.istore 4, 2) := dk_54 4 (dk_at dksX0_asFew_1 19 rfl rfl)
theorem dX0_asFew_45 : decode cX0_asFew 45 = .ok (.iload 4, 2) := dk_21 4 (dk_at dksX0_asFew_1 21 rfl rfl)
theorem dX0_asFew_47 : decode cX0_asFew 47 = .ok (.ifCond .ne (-42), 3) := dk_154 255 214 (dk_at dksX0_asFew_2 0 rfl rfl)
theorem dX0_asFew_50 : decode cX0_asFew 50 = .ok (.iload_n 3, 1) := dk_29 (dk_at dksX0_asFew_2 3 rfl rfl)
theorem dX0_asFew_51 : decode cX0_asFew 51 = .ok (.ireturn, 1) := dk_172 (dk_at dksX0_asFew_2 4 rfl rfl)
abbrev cX0_mend : ByteArray := prog_1_method_44_code
def yX0_mend : MethodName := ⟨RX0, "mend", "(I)I"⟩
def dkwX0_mend_3 : List UInt8 := [42, 180, 0, 18, 180, 0, 134, 182, 0, 89, 120, 4, 100, 182, 1, 26, 172]
abbrev dktX0_mend_3 : List UInt8 := dkwX0_mend_3 ++ []
def dkwX0_mend_2 : List UInt8 := [180, 1, 4, 184, 0, 245, 167, 0, 34, 27, 4, 160, 0, 10, 44, 180, 1, 4, 167, 0, 22, 42, 44, 4]
abbrev dktX0_mend_2 : List UInt8 := dkwX0_mend_2 ++ dktX0_mend_3
def dkwX0_mend_1 : List UInt8 := [180, 0, 255, 154, 0, 14, 27, 5, 160, 0, 7, 3, 167, 0, 4, 2, 172, 27, 154, 0, 13, 44]
abbrev dktX0_mend_1 : List UInt8 := dkwX0_mend_1 ++ dktX0_mend_2
def dkwX0_mend_0 : List UInt8 := [27, 133, 9, 20, 0, 172, 184, 0, 95, 154, 0, 5, 2, 172, 187, 1, 29, 89, 42, 183, 1, 31, 77, 44]
abbrev dktX0_mend_0 : List UInt8 := dkwX0_mend_0 ++ dktX0_mend_1
theorem dksX0_mend_0 : cX0_mend.data.toList.drop 0 = dktX0_mend_0 := by decide +kernel
theorem dksX0_mend_1 : cX0_mend.data.toList.drop 24 = dktX0_mend_1 := dk_seg dksX0_mend_0 24 rfl rfl
theorem dksX0_mend_2 : cX0_mend.data.toList.drop 46 = dktX0_mend_2 := dk_seg dksX0_mend_1 22 rfl rfl
theorem dksX0_mend_3 : cX0_mend.data.toList.drop 70 = dktX0_mend_3 := dk_seg dksX0_mend_2 24 rfl rfl
theorem dX0_mend_0 : decode cX0_mend 0 = .ok (.iload_n 1, 1) := dk_27 (dk_at dksX0_mend_0 0 rfl rfl)
theorem dX0_mend_1 : decode cX0_mend 1 = .ok (.i2l, 1) := dk_133 (dk_at dksX0_mend_0 1 rfl rfl)
theorem dX0_mend_2 : decode cX0_mend 2 = .ok (.lconst 0, 1) := dk_9 (dk_at dksX0_mend_0 2 rfl rfl)
theorem dX0_mend_3 : decode cX0_mend 3 = .ok (.ldc2_w 172, 3) := dk_20 0 172 (dk_at dksX0_mend_0 3 rfl rfl)
theorem dX0_mend_6 : decode cX0_mend 6 = .ok (.invokestatic 95, 3) := dk_184 0 95 (dk_at dksX0_mend_0 6 rfl rfl)
theorem dX0_mend_9 : decode cX0_mend 9 = .ok (.ifCond .ne 5, 3) := dk_154 0 5 (dk_at dksX0_mend_0 9 rfl rfl)
theorem dX0_mend_12 : decode cX0_mend 12 = .ok (.iconst (-1), 1) := dk_2 (dk_at dksX0_mend_0 12 rfl rfl)
theorem dX0_mend_13 : decode cX0_mend 13 = .ok (.ireturn, 1) := dk_172 (dk_at dksX0_mend_0 13 rfl rfl)
theorem dX0_mend_14 : decode cX0_mend 14 = .ok (.new 285, 3) := dk_187 1 29 (dk_at dksX0_mend_0 14 rfl rfl)
theorem dX0_mend_17 : decode cX0_mend 17 = .ok (.dup, 1) := dk_89 (dk_at dksX0_mend_0 17 rfl rfl)
theorem dX0_mend_18 : decode cX0_mend 18 = .ok (.aload_n 0, 1) := dk_42 (dk_at dksX0_mend_0 18 rfl rfl)
theorem dX0_mend_19 : decode cX0_mend 19 = .ok (.invokespecial 287, 3) := dk_183 1 31 (dk_at dksX0_mend_0 19 rfl rfl)
theorem dX0_mend_22 : decode cX0_mend 22 = .ok (.astore_n 2, 1) := dk_77 (dk_at dksX0_mend_0 22 rfl rfl)
theorem dX0_mend_23 : decode cX0_mend 23 = .ok (.aload_n 2, 1) := dk_44 (dk_at dksX0_mend_0 23 rfl rfl)
theorem dX0_mend_24 : decode cX0_mend 24 = .ok (.getfield 255, 3) := dk_180 0 255 (dk_at dksX0_mend_1 0 rfl rfl)
theorem dX0_mend_27 : decode cX0_mend 27 = .ok (.ifCond .ne 14, 3) := dk_154 0 14 (dk_at dksX0_mend_1 3 rfl rfl)
theorem dX0_mend_30 : decode cX0_mend 30 = .ok (.iload_n 1, 1) := dk_27 (dk_at dksX0_mend_1 6 rfl rfl)
theorem dX0_mend_31 : decode cX0_mend 31 = .ok (.iconst 2, 1) := dk_5 (dk_at dksX0_mend_1 7 rfl rfl)
theorem dX0_mend_32 : decode cX0_mend 32 = .ok (.if_icmp .ne 7, 3) := dk_160 0 7 (dk_at dksX0_mend_1 8 rfl rfl)
theorem dX0_mend_35 : decode cX0_mend 35 = .ok (.iconst 0, 1) := dk_3 (dk_at dksX0_mend_1 11 rfl rfl)
theorem dX0_mend_36 : decode cX0_mend 36 = .ok (.goto 4, 3) := dk_167 0 4 (dk_at dksX0_mend_1 12 rfl rfl)
theorem dX0_mend_39 : decode cX0_mend 39 = .ok (.iconst (-1), 1) := dk_2 (dk_at dksX0_mend_1 15 rfl rfl)
theorem dX0_mend_40 : decode cX0_mend 40 = .ok (.ireturn, 1) := dk_172 (dk_at dksX0_mend_1 16 rfl rfl)
theorem dX0_mend_41 : decode cX0_mend 41 = .ok (.iload_n 1, 1) := dk_27 (dk_at dksX0_mend_1 17 rfl rfl)
theorem dX0_mend_42 : decode cX0_mend 42 = .ok (.ifCond .ne 13, 3) := dk_154 0 13 (dk_at dksX0_mend_1 18 rfl rfl)
theorem dX0_mend_45 : decode cX0_mend 45 = .ok (.aload_n 2, 1) := dk_44 (dk_at dksX0_mend_1 21 rfl rfl)
theorem dX0_mend_46 : decode cX0_mend 46 = .ok (.getfield 260, 3) := dk_180 1 4 (dk_at dksX0_mend_2 0 rfl rfl)
theorem dX0_mend_49 : decode cX0_mend 49 = .ok (.invokestatic 245, 3) := dk_184 0 245 (dk_at dksX0_mend_2 3 rfl rfl)
theorem dX0_mend_52 : decode cX0_mend 52 = .ok (.goto 34, 3) := dk_167 0 34 (dk_at dksX0_mend_2 6 rfl rfl)
theorem dX0_mend_55 : decode cX0_mend 55 = .ok (.iload_n 1, 1) := dk_27 (dk_at dksX0_mend_2 9 rfl rfl)
theorem dX0_mend_56 : decode cX0_mend 56 = .ok (.iconst 1, 1) := dk_4 (dk_at dksX0_mend_2 10 rfl rfl)
theorem dX0_mend_57 : decode cX0_mend 57 = .ok (.if_icmp .ne 10, 3) := dk_160 0 10 (dk_at dksX0_mend_2 11 rfl rfl)
theorem dX0_mend_60 : decode cX0_mend 60 = .ok (.aload_n 2, 1) := dk_44 (dk_at dksX0_mend_2 14 rfl rfl)
theorem dX0_mend_61 : decode cX0_mend 61 = .ok (.getfield 260, 3) := dk_180 1 4 (dk_at dksX0_mend_2 15 rfl rfl)
theorem dX0_mend_64 : decode cX0_mend 64 = .ok (.goto 22, 3) := dk_167 0 22 (dk_at dksX0_mend_2 18 rfl rfl)
theorem dX0_mend_67 : decode cX0_mend 67 = .ok (.aload_n 0, 1) := dk_42 (dk_at dksX0_mend_2 21 rfl rfl)
theorem dX0_mend_68 : decode cX0_mend 68 = .ok (.aload_n 2, 1) := dk_44 (dk_at dksX0_mend_2 22 rfl rfl)
theorem dX0_mend_69 : decode cX0_mend 69 = .ok (.iconst 1, 1) := dk_4 (dk_at dksX0_mend_2 23 rfl rfl)
theorem dX0_mend_70 : decode cX0_mend 70 = .ok (.aload_n 0, 1) := dk_42 (dk_at dksX0_mend_3 0 rfl rfl)
theorem dX0_mend_71 : decode cX0_mend 71 = .ok (.getfield 18, 3) := dk_180 0 18 (dk_at dksX0_mend_3 1 rfl rfl)
theorem dX0_mend_74 : decode cX0_mend 74 = .ok (.getfield 134, 3) := dk_180 0 134 (dk_at dksX0_mend_3 4 rfl rfl)
theorem dX0_mend_77 : decode cX0_mend 77 = .ok (.invokevirtual 89, 3) := dk_182 0 89 (dk_at dksX0_mend_3 7 rfl rfl)
theorem dX0_mend_80 : decode cX0_mend 80 = .ok (.ishl, 1) := dk_120 (dk_at dksX0_mend_3 10 rfl rfl)
theorem dX0_mend_81 : decode cX0_mend 81 = .ok (.iconst 1, 1) := dk_4 (dk_at dksX0_mend_3 11 rfl rfl)
theorem dX0_mend_82 : decode cX0_mend 82 = .ok (.isub, 1) := dk_100 (dk_at dksX0_mend_3 12 rfl rfl)
theorem dX0_mend_83 : decode cX0_mend 83 = .ok (.invokevirtual 282, 3) := dk_182 1 26 (dk_at dksX0_mend_3 13 rfl rfl)
theorem dX0_mend_86 : decode cX0_mend 86 = .ok (.ireturn, 1) := dk_172 (dk_at dksX0_mend_3 16 rfl rfl)
abbrev cX0_game : ByteArray := prog_1_method_45_code
def yX0_game : MethodName := ⟨RX0, "game", "(I)I"⟩
def dkwX0_game_7 : List UInt8 := [44, 42, 180, 0, 18, 180, 0, 101, 182, 1, 32, 167, 0, 5, 21, 4, 172]
abbrev dktX0_game_7 : List UInt8 := dkwX0_game_7 ++ []
def dkwX0_game_6 : List UInt8 := [180, 0, 18, 180, 0, 101, 51, 153, 0, 7, 4, 167, 0, 29, 3, 167, 0, 25, 27, 4, 160, 0, 18, 42]
abbrev dktX0_game_6 : List UInt8 := dkwX0_game_6 ++ dktX0_game_7
def dkwX0_game_5 : List UInt8 := [4, 167, 0, 4, 3, 96, 54, 4, 132, 5, 1, 167, 255, 200, 27, 154, 0, 26, 42, 180, 0, 69, 42]
abbrev dktX0_game_5 : List UInt8 := dkwX0_game_5 ++ dktX0_game_6
def dkwX0_game_4 : List UInt8 := [153, 0, 28, 44, 42, 180, 0, 18, 180, 0, 101, 4, 21, 5, 120, 2, 130, 126, 182, 1, 17, 153, 0, 7]
abbrev dktX0_game_4 : List UInt8 := dkwX0_game_4 ++ dktX0_game_5
def dkwX0_game_3 : List UInt8 := [54, 5, 21, 5, 16, 14, 162, 0, 55, 21, 4, 42, 180, 0, 18, 180, 0, 101, 21, 5, 184, 0, 168]
abbrev dktX0_game_3 : List UInt8 := dkwX0_game_3 ++ dktX0_game_4
def dkwX0_game_2 : List UInt8 := [180, 0, 18, 180, 0, 101, 100, 42, 180, 0, 18, 180, 0, 101, 126, 62, 29, 154, 255, 216, 3, 54, 4, 3]
abbrev dktX0_game_2 : List UInt8 := dkwX0_game_2 ++ dktX0_game_3
def dkwX0_game_1 : List UInt8 := [42, 180, 0, 69, 29, 42, 44, 29, 182, 1, 32, 2, 159, 0, 7, 4, 167, 0, 4, 3, 84, 29, 42]
abbrev dktX0_game_1 : List UInt8 := dkwX0_game_1 ++ dktX0_game_2
def dkwX0_game_0 : List UInt8 := [27, 133, 9, 20, 0, 172, 184, 0, 95, 154, 0, 5, 2, 172, 42, 180, 0, 61, 182, 0, 217, 77, 3, 62]
abbrev dktX0_game_0 : List UInt8 := dkwX0_game_0 ++ dktX0_game_1
theorem dksX0_game_0 : cX0_game.data.toList.drop 0 = dktX0_game_0 := by decide +kernel
theorem dksX0_game_1 : cX0_game.data.toList.drop 24 = dktX0_game_1 := dk_seg dksX0_game_0 24 rfl rfl
theorem dksX0_game_2 : cX0_game.data.toList.drop 47 = dktX0_game_2 := dk_seg dksX0_game_1 23 rfl rfl
theorem dksX0_game_3 : cX0_game.data.toList.drop 71 = dktX0_game_3 := dk_seg dksX0_game_2 24 rfl rfl
theorem dksX0_game_4 : cX0_game.data.toList.drop 94 = dktX0_game_4 := dk_seg dksX0_game_3 23 rfl rfl
theorem dksX0_game_5 : cX0_game.data.toList.drop 118 = dktX0_game_5 := dk_seg dksX0_game_4 24 rfl rfl
theorem dksX0_game_6 : cX0_game.data.toList.drop 141 = dktX0_game_6 := dk_seg dksX0_game_5 23 rfl rfl
theorem dksX0_game_7 : cX0_game.data.toList.drop 165 = dktX0_game_7 := dk_seg dksX0_game_6 24 rfl rfl
theorem dX0_game_0 : decode cX0_game 0 = .ok (.iload_n 1, 1) := dk_27 (dk_at dksX0_game_0 0 rfl rfl)
theorem dX0_game_1 : decode cX0_game 1 = .ok (.i2l, 1) := dk_133 (dk_at dksX0_game_0 1 rfl rfl)
theorem dX0_game_2 : decode cX0_game 2 = .ok (.lconst 0, 1) := dk_9 (dk_at dksX0_game_0 2 rfl rfl)
theorem dX0_game_3 : decode cX0_game 3 = .ok (.ldc2_w 172, 3) := dk_20 0 172 (dk_at dksX0_game_0 3 rfl rfl)
theorem dX0_game_6 : decode cX0_game 6 = .ok (.invokestatic 95, 3) := dk_184 0 95 (dk_at dksX0_game_0 6 rfl rfl)
theorem dX0_game_9 : decode cX0_game 9 = .ok (.ifCond .ne 5, 3) := dk_154 0 5 (dk_at dksX0_game_0 9 rfl rfl)
theorem dX0_game_12 : decode cX0_game 12 = .ok (.iconst (-1), 1) := dk_2 (dk_at dksX0_game_0 12 rfl rfl)
theorem dX0_game_13 : decode cX0_game 13 = .ok (.ireturn, 1) := dk_172 (dk_at dksX0_game_0 13 rfl rfl)
theorem dX0_game_14 : decode cX0_game 14 = .ok (.aload_n 0, 1) := dk_42 (dk_at dksX0_game_0 14 rfl rfl)
theorem dX0_game_15 : decode cX0_game 15 = .ok (.getfield 61, 3) := dk_180 0 61 (dk_at dksX0_game_0 15 rfl rfl)
theorem dX0_game_18 : decode cX0_game 18 = .ok (.invokevirtual 217, 3) := dk_182 0 217 (dk_at dksX0_game_0 18 rfl rfl)
theorem dX0_game_21 : decode cX0_game 21 = .ok (.astore_n 2, 1) := dk_77 (dk_at dksX0_game_0 21 rfl rfl)
theorem dX0_game_22 : decode cX0_game 22 = .ok (.iconst 0, 1) := dk_3 (dk_at dksX0_game_0 22 rfl rfl)
theorem dX0_game_23 : decode cX0_game 23 = .ok (.istore_n 3, 1) := dk_62 (dk_at dksX0_game_0 23 rfl rfl)
theorem dX0_game_24 : decode cX0_game 24 = .ok (.aload_n 0, 1) := dk_42 (dk_at dksX0_game_1 0 rfl rfl)
theorem dX0_game_25 : decode cX0_game 25 = .ok (.getfield 69, 3) := dk_180 0 69 (dk_at dksX0_game_1 1 rfl rfl)
theorem dX0_game_28 : decode cX0_game 28 = .ok (.iload_n 3, 1) := dk_29 (dk_at dksX0_game_1 4 rfl rfl)
theorem dX0_game_29 : decode cX0_game 29 = .ok (.aload_n 0, 1) := dk_42 (dk_at dksX0_game_1 5 rfl rfl)
theorem dX0_game_30 : decode cX0_game 30 = .ok (.aload_n 2, 1) := dk_44 (dk_at dksX0_game_1 6 rfl rfl)
theorem dX0_game_31 : decode cX0_game 31 = .ok (.iload_n 3, 1) := dk_29 (dk_at dksX0_game_1 7 rfl rfl)
theorem dX0_game_32 : decode cX0_game 32 = .ok (.invokevirtual 288, 3) := dk_182 1 32 (dk_at dksX0_game_1 8 rfl rfl)
theorem dX0_game_35 : decode cX0_game 35 = .ok (.iconst (-1), 1) := dk_2 (dk_at dksX0_game_1 11 rfl rfl)
theorem dX0_game_36 : decode cX0_game 36 = .ok (.if_icmp .eq 7, 3) := dk_159 0 7 (dk_at dksX0_game_1 12 rfl rfl)
theorem dX0_game_39 : decode cX0_game 39 = .ok (.iconst 1, 1) := dk_4 (dk_at dksX0_game_1 15 rfl rfl)
theorem dX0_game_40 : decode cX0_game 40 = .ok (.goto 4, 3) := dk_167 0 4 (dk_at dksX0_game_1 16 rfl rfl)
theorem dX0_game_43 : decode cX0_game 43 = .ok (.iconst 0, 1) := dk_3 (dk_at dksX0_game_1 19 rfl rfl)
theorem dX0_game_44 : decode cX0_game 44 = .ok (.bastore, 1) := dk_84 (dk_at dksX0_game_1 20 rfl rfl)
theorem dX0_game_45 : decode cX0_game 45 = .ok (.iload_n 3, 1) := dk_29 (dk_at dksX0_game_1 21 rfl rfl)
theorem dX0_game_46 : decode cX0_game 46 = .ok (.aload_n 0, 1) := dk_42 (dk_at dksX0_game_1 22 rfl rfl)
theorem dX0_game_47 : decode cX0_game 47 = .ok (.getfield 18, 3) := dk_180 0 18 (dk_at dksX0_game_2 0 rfl rfl)
theorem dX0_game_50 : decode cX0_game 50 = .ok (.getfield 101, 3) := dk_180 0 101 (dk_at dksX0_game_2 3 rfl rfl)
theorem dX0_game_53 : decode cX0_game 53 = .ok (.isub, 1) := dk_100 (dk_at dksX0_game_2 6 rfl rfl)
theorem dX0_game_54 : decode cX0_game 54 = .ok (.aload_n 0, 1) := dk_42 (dk_at dksX0_game_2 7 rfl rfl)
theorem dX0_game_55 : decode cX0_game 55 = .ok (.getfield 18, 3) := dk_180 0 18 (dk_at dksX0_game_2 8 rfl rfl)
theorem dX0_game_58 : decode cX0_game 58 = .ok (.getfield 101, 3) := dk_180 0 101 (dk_at dksX0_game_2 11 rfl rfl)
theorem dX0_game_61 : decode cX0_game 61 = .ok (.iand, 1) := dk_126 (dk_at dksX0_game_2 14 rfl rfl)
theorem dX0_game_62 : decode cX0_game 62 = .ok (.istore_n 3, 1) := dk_62 (dk_at dksX0_game_2 15 rfl rfl)
theorem dX0_game_63 : decode cX0_game 63 = .ok (.iload_n 3, 1) := dk_29 (dk_at dksX0_game_2 16 rfl rfl)
theorem dX0_game_64 : decode cX0_game 64 = .ok (.ifCond .ne (-40), 3) := dk_154 255 216 (dk_at dksX0_game_2 17 rfl rfl)
theorem dX0_game_67 : decode cX0_game 67 = .ok (.iconst 0, 1) := dk_3 (dk_at dksX0_game_2 20 rfl rfl)
theorem dX0_game_68 : decode cX0_game 68 = .ok (.istore 4, 2) := dk_54 4 (dk_at dksX0_game_2 21 rfl rfl)
theorem dX0_game_70 : decode cX0_game 70 = .ok (.iconst 0, 1) := dk_3 (dk_at dksX0_game_2 23 rfl rfl)
theorem dX0_game_71 : decode cX0_game 71 = .ok (.istore 5, 2) := dk_54 5 (dk_at dksX0_game_3 0 rfl rfl)
theorem dX0_game_73 : decode cX0_game 73 = .ok (.iload 5, 2) := dk_21 5 (dk_at dksX0_game_3 2 rfl rfl)
theorem dX0_game_75 : decode cX0_game 75 = .ok (.bipush 14, 2) := dk_16 14 (dk_at dksX0_game_3 4 rfl rfl)
theorem dX0_game_77 : decode cX0_game 77 = .ok (.if_icmp .ge 55, 3) := dk_162 0 55 (dk_at dksX0_game_3 6 rfl rfl)
theorem dX0_game_80 : decode cX0_game 80 = .ok (.iload 4, 2) := dk_21 4 (dk_at dksX0_game_3 9 rfl rfl)
theorem dX0_game_82 : decode cX0_game 82 = .ok (.aload_n 0, 1) := dk_42 (dk_at dksX0_game_3 11 rfl rfl)
theorem dX0_game_83 : decode cX0_game 83 = .ok (.getfield 18, 3) := dk_180 0 18 (dk_at dksX0_game_3 12 rfl rfl)
theorem dX0_game_86 : decode cX0_game 86 = .ok (.getfield 101, 3) := dk_180 0 101 (dk_at dksX0_game_3 15 rfl rfl)
theorem dX0_game_89 : decode cX0_game 89 = .ok (.iload 5, 2) := dk_21 5 (dk_at dksX0_game_3 18 rfl rfl)
theorem dX0_game_91 : decode cX0_game 91 = .ok (.invokestatic 168, 3) := dk_184 0 168 (dk_at dksX0_game_3 20 rfl rfl)
theorem dX0_game_94 : decode cX0_game 94 = .ok (.ifCond .eq 28, 3) := dk_153 0 28 (dk_at dksX0_game_4 0 rfl rfl)
theorem dX0_game_97 : decode cX0_game 97 = .ok (.aload_n 2, 1) := dk_44 (dk_at dksX0_game_4 3 rfl rfl)
theorem dX0_game_98 : decode cX0_game 98 = .ok (.aload_n 0, 1) := dk_42 (dk_at dksX0_game_4 4 rfl rfl)
theorem dX0_game_99 : decode cX0_game 99 = .ok (.getfield 18, 3) := dk_180 0 18 (dk_at dksX0_game_4 5 rfl rfl)
theorem dX0_game_102 : decode cX0_game 102 = .ok (.getfield 101, 3) := dk_180 0 101 (dk_at dksX0_game_4 8 rfl rfl)
theorem dX0_game_105 : decode cX0_game 105 = .ok (.iconst 1, 1) := dk_4 (dk_at dksX0_game_4 11 rfl rfl)
theorem dX0_game_106 : decode cX0_game 106 = .ok (.iload 5, 2) := dk_21 5 (dk_at dksX0_game_4 12 rfl rfl)
theorem dX0_game_108 : decode cX0_game 108 = .ok (.ishl, 1) := dk_120 (dk_at dksX0_game_4 14 rfl rfl)
theorem dX0_game_109 : decode cX0_game 109 = .ok (.iconst (-1), 1) := dk_2 (dk_at dksX0_game_4 15 rfl rfl)
theorem dX0_game_110 : decode cX0_game 110 = .ok (.ixor, 1) := dk_130 (dk_at dksX0_game_4 16 rfl rfl)
theorem dX0_game_111 : decode cX0_game 111 = .ok (.iand, 1) := dk_126 (dk_at dksX0_game_4 17 rfl rfl)
theorem dX0_game_112 : decode cX0_game 112 = .ok (.invokevirtual 273, 3) := dk_182 1 17 (dk_at dksX0_game_4 18 rfl rfl)
theorem dX0_game_115 : decode cX0_game 115 = .ok (.ifCond .eq 7, 3) := dk_153 0 7 (dk_at dksX0_game_4 21 rfl rfl)
theorem dX0_game_118 : decode cX0_game 118 = .ok (.iconst 1, 1) := dk_4 (dk_at dksX0_game_5 0 rfl rfl)
theorem dX0_game_119 : decode cX0_game 119 = .ok (.goto 4, 3) := dk_167 0 4 (dk_at dksX0_game_5 1 rfl rfl)
theorem dX0_game_122 : decode cX0_game 122 = .ok (.iconst 0, 1) := dk_3 (dk_at dksX0_game_5 4 rfl rfl)
theorem dX0_game_123 : decode cX0_game 123 = .ok (.iadd, 1) := dk_96 (dk_at dksX0_game_5 5 rfl rfl)
theorem dX0_game_124 : decode cX0_game 124 = .ok (.istore 4, 2) := dk_54 4 (dk_at dksX0_game_5 6 rfl rfl)
theorem dX0_game_126 : decode cX0_game 126 = .ok (.iinc 5 1, 3) := dk_132 5 1 (dk_at dksX0_game_5 8 rfl rfl)
theorem dX0_game_129 : decode cX0_game 129 = .ok (.goto (-56), 3) := dk_167 255 200 (dk_at dksX0_game_5 11 rfl rfl)
theorem dX0_game_132 : decode cX0_game 132 = .ok (.iload_n 1, 1) := dk_27 (dk_at dksX0_game_5 14 rfl rfl)
theorem dX0_game_133 : decode cX0_game 133 = .ok (.ifCond .ne 26, 3) := dk_154 0 26 (dk_at dksX0_game_5 15 rfl rfl)
theorem dX0_game_136 : decode cX0_game 136 = .ok (.aload_n 0, 1) := dk_42 (dk_at dksX0_game_5 18 rfl rfl)
theorem dX0_game_137 : decode cX0_game 137 = .ok (.getfield 69, 3) := dk_180 0 69 (dk_at dksX0_game_5 19 rfl rfl)
theorem dX0_game_140 : decode cX0_game 140 = .ok (.aload_n 0, 1) := dk_42 (dk_at dksX0_game_5 22 rfl rfl)
theorem dX0_game_141 : decode cX0_game 141 = .ok (.getfield 18, 3) := dk_180 0 18 (dk_at dksX0_game_6 0 rfl rfl)
theorem dX0_game_144 : decode cX0_game 144 = .ok (.getfield 101, 3) := dk_180 0 101 (dk_at dksX0_game_6 3 rfl rfl)
theorem dX0_game_147 : decode cX0_game 147 = .ok (.baload, 1) := dk_51 (dk_at dksX0_game_6 6 rfl rfl)
theorem dX0_game_148 : decode cX0_game 148 = .ok (.ifCond .eq 7, 3) := dk_153 0 7 (dk_at dksX0_game_6 7 rfl rfl)
theorem dX0_game_151 : decode cX0_game 151 = .ok (.iconst 1, 1) := dk_4 (dk_at dksX0_game_6 10 rfl rfl)
theorem dX0_game_152 : decode cX0_game 152 = .ok (.goto 29, 3) := dk_167 0 29 (dk_at dksX0_game_6 11 rfl rfl)
theorem dX0_game_155 : decode cX0_game 155 = .ok (.iconst 0, 1) := dk_3 (dk_at dksX0_game_6 14 rfl rfl)
theorem dX0_game_156 : decode cX0_game 156 = .ok (.goto 25, 3) := dk_167 0 25 (dk_at dksX0_game_6 15 rfl rfl)
theorem dX0_game_159 : decode cX0_game 159 = .ok (.iload_n 1, 1) := dk_27 (dk_at dksX0_game_6 18 rfl rfl)
theorem dX0_game_160 : decode cX0_game 160 = .ok (.iconst 1, 1) := dk_4 (dk_at dksX0_game_6 19 rfl rfl)
theorem dX0_game_161 : decode cX0_game 161 = .ok (.if_icmp .ne 18, 3) := dk_160 0 18 (dk_at dksX0_game_6 20 rfl rfl)
theorem dX0_game_164 : decode cX0_game 164 = .ok (.aload_n 0, 1) := dk_42 (dk_at dksX0_game_6 23 rfl rfl)
theorem dX0_game_165 : decode cX0_game 165 = .ok (.aload_n 2, 1) := dk_44 (dk_at dksX0_game_7 0 rfl rfl)
theorem dX0_game_166 : decode cX0_game 166 = .ok (.aload_n 0, 1) := dk_42 (dk_at dksX0_game_7 1 rfl rfl)
theorem dX0_game_167 : decode cX0_game 167 = .ok (.getfield 18, 3) := dk_180 0 18 (dk_at dksX0_game_7 2 rfl rfl)
theorem dX0_game_170 : decode cX0_game 170 = .ok (.getfield 101, 3) := dk_180 0 101 (dk_at dksX0_game_7 5 rfl rfl)
theorem dX0_game_173 : decode cX0_game 173 = .ok (.invokevirtual 288, 3) := dk_182 1 32 (dk_at dksX0_game_7 8 rfl rfl)
theorem dX0_game_176 : decode cX0_game 176 = .ok (.goto 5, 3) := dk_167 0 5 (dk_at dksX0_game_7 11 rfl rfl)
theorem dX0_game_179 : decode cX0_game 179 = .ok (.iload 4, 2) := dk_21 4 (dk_at dksX0_game_7 14 rfl rfl)
theorem dX0_game_181 : decode cX0_game 181 = .ok (.ireturn, 1) := dk_172 (dk_at dksX0_game_7 16 rfl rfl)
abbrev cX0_winner : ByteArray := prog_1_method_46_code
def yX0_winner : MethodName := ⟨RX0, "winner", "(LFiveTouch$Scene;I)I"⟩
def dkwX0_winner_2 : List UInt8 := [132, 3, 1, 167, 255, 208, 2, 172]
abbrev dktX0_winner_2 : List UInt8 := dkwX0_winner_2 ++ []
def dkwX0_winner_1 : List UInt8 := [182, 1, 17, 153, 0, 20, 42, 180, 0, 69, 28, 4, 29, 120, 2, 130, 126, 51, 154, 0, 5, 29, 172]
abbrev dktX0_winner_1 : List UInt8 := dkwX0_winner_1 ++ dktX0_winner_2
def dkwX0_winner_0 : List UInt8 := [3, 62, 29, 16, 14, 162, 0, 48, 28, 29, 184, 0, 168, 153, 0, 34, 43, 28, 4, 29, 120, 2, 130, 126]
abbrev dktX0_winner_0 : List UInt8 := dkwX0_winner_0 ++ dktX0_winner_1
theorem dksX0_winner_0 : cX0_winner.data.toList.drop 0 = dktX0_winner_0 := by decide +kernel
theorem dksX0_winner_1 : cX0_winner.data.toList.drop 24 = dktX0_winner_1 := dk_seg dksX0_winner_0 24 rfl rfl
theorem dksX0_winner_2 : cX0_winner.data.toList.drop 47 = dktX0_winner_2 := dk_seg dksX0_winner_1 23 rfl rfl
theorem dX0_winner_0 : decode cX0_winner 0 = .ok (.iconst 0, 1) := dk_3 (dk_at dksX0_winner_0 0 rfl rfl)
theorem dX0_winner_1 : decode cX0_winner 1 = .ok (.istore_n 3, 1) := dk_62 (dk_at dksX0_winner_0 1 rfl rfl)
theorem dX0_winner_2 : decode cX0_winner 2 = .ok (.iload_n 3, 1) := dk_29 (dk_at dksX0_winner_0 2 rfl rfl)
theorem dX0_winner_3 : decode cX0_winner 3 = .ok (.bipush 14, 2) := dk_16 14 (dk_at dksX0_winner_0 3 rfl rfl)
theorem dX0_winner_5 : decode cX0_winner 5 = .ok (.if_icmp .ge 48, 3) := dk_162 0 48 (dk_at dksX0_winner_0 5 rfl rfl)
theorem dX0_winner_8 : decode cX0_winner 8 = .ok (.iload_n 2, 1) := dk_28 (dk_at dksX0_winner_0 8 rfl rfl)
theorem dX0_winner_9 : decode cX0_winner 9 = .ok (.iload_n 3, 1) := dk_29 (dk_at dksX0_winner_0 9 rfl rfl)
theorem dX0_winner_10 : decode cX0_winner 10 = .ok (.invokestatic 168, 3) := dk_184 0 168 (dk_at dksX0_winner_0 10 rfl rfl)
theorem dX0_winner_13 : decode cX0_winner 13 = .ok (.ifCond .eq 34, 3) := dk_153 0 34 (dk_at dksX0_winner_0 13 rfl rfl)
theorem dX0_winner_16 : decode cX0_winner 16 = .ok (.aload_n 1, 1) := dk_43 (dk_at dksX0_winner_0 16 rfl rfl)
theorem dX0_winner_17 : decode cX0_winner 17 = .ok (.iload_n 2, 1) := dk_28 (dk_at dksX0_winner_0 17 rfl rfl)
theorem dX0_winner_18 : decode cX0_winner 18 = .ok (.iconst 1, 1) := dk_4 (dk_at dksX0_winner_0 18 rfl rfl)
theorem dX0_winner_19 : decode cX0_winner 19 = .ok (.iload_n 3, 1) := dk_29 (dk_at dksX0_winner_0 19 rfl rfl)
theorem dX0_winner_20 : decode cX0_winner 20 = .ok (.ishl, 1) := dk_120 (dk_at dksX0_winner_0 20 rfl rfl)
theorem dX0_winner_21 : decode cX0_winner 21 = .ok (.iconst (-1), 1) := dk_2 (dk_at dksX0_winner_0 21 rfl rfl)
theorem dX0_winner_22 : decode cX0_winner 22 = .ok (.ixor, 1) := dk_130 (dk_at dksX0_winner_0 22 rfl rfl)
theorem dX0_winner_23 : decode cX0_winner 23 = .ok (.iand, 1) := dk_126 (dk_at dksX0_winner_0 23 rfl rfl)
theorem dX0_winner_24 : decode cX0_winner 24 = .ok (.invokevirtual 273, 3) := dk_182 1 17 (dk_at dksX0_winner_1 0 rfl rfl)
theorem dX0_winner_27 : decode cX0_winner 27 = .ok (.ifCond .eq 20, 3) := dk_153 0 20 (dk_at dksX0_winner_1 3 rfl rfl)
theorem dX0_winner_30 : decode cX0_winner 30 = .ok (.aload_n 0, 1) := dk_42 (dk_at dksX0_winner_1 6 rfl rfl)
theorem dX0_winner_31 : decode cX0_winner 31 = .ok (.getfield 69, 3) := dk_180 0 69 (dk_at dksX0_winner_1 7 rfl rfl)
theorem dX0_winner_34 : decode cX0_winner 34 = .ok (.iload_n 2, 1) := dk_28 (dk_at dksX0_winner_1 10 rfl rfl)
theorem dX0_winner_35 : decode cX0_winner 35 = .ok (.iconst 1, 1) := dk_4 (dk_at dksX0_winner_1 11 rfl rfl)
theorem dX0_winner_36 : decode cX0_winner 36 = .ok (.iload_n 3, 1) := dk_29 (dk_at dksX0_winner_1 12 rfl rfl)
theorem dX0_winner_37 : decode cX0_winner 37 = .ok (.ishl, 1) := dk_120 (dk_at dksX0_winner_1 13 rfl rfl)
theorem dX0_winner_38 : decode cX0_winner 38 = .ok (.iconst (-1), 1) := dk_2 (dk_at dksX0_winner_1 14 rfl rfl)
theorem dX0_winner_39 : decode cX0_winner 39 = .ok (.ixor, 1) := dk_130 (dk_at dksX0_winner_1 15 rfl rfl)
theorem dX0_winner_40 : decode cX0_winner 40 = .ok (.iand, 1) := dk_126 (dk_at dksX0_winner_1 16 rfl rfl)
theorem dX0_winner_41 : decode cX0_winner 41 = .ok (.baload, 1) := dk_51 (dk_at dksX0_winner_1 17 rfl rfl)
theorem dX0_winner_42 : decode cX0_winner 42 = .ok (.ifCond .ne 5, 3) := dk_154 0 5 (dk_at dksX0_winner_1 18 rfl rfl)
theorem dX0_winner_45 : decode cX0_winner 45 = .ok (.iload_n 3, 1) := dk_29 (dk_at dksX0_winner_1 21 rfl rfl)
theorem dX0_winner_46 : decode cX0_winner 46 = .ok (.ireturn, 1) := dk_172 (dk_at dksX0_winner_1 22 rfl rfl)
theorem dX0_winner_47 : decode cX0_winner 47 = .ok (.iinc 3 1, 3) := dk_132 3 1 (dk_at dksX0_winner_2 0 rfl rfl)
theorem dX0_winner_50 : decode cX0_winner 50 = .ok (.goto (-48), 3) := dk_167 255 208 (dk_at dksX0_winner_2 3 rfl rfl)
theorem dX0_winner_53 : decode cX0_winner 53 = .ok (.iconst (-1), 1) := dk_2 (dk_at dksX0_winner_2 6 rfl rfl)
theorem dX0_winner_54 : decode cX0_winner 54 = .ok (.ireturn, 1) := dk_172 (dk_at dksX0_winner_2 7 rfl rfl)
abbrev cX0_night : ByteArray := prog_1_method_47_code
def yX0_night : MethodName := ⟨RX0, "night", "(II)I"⟩
def dkwX0_night_9 : List UInt8 := [160, 0, 8, 21, 5, 167, 0, 15, 28, 5, 160, 0, 8, 21, 6, 167, 0, 5, 21, 7, 172]
abbrev dktX0_night_9 : List UInt8 := dkwX0_night_9 ++ []
def dkwX0_night_8 : List UInt8 := [132, 9, 1, 167, 255, 180, 132, 8, 1, 167, 255, 104, 28, 154, 0, 8, 21, 4, 167, 0, 25, 28, 4]
abbrev dktX0_night_8 : List UInt8 := dkwX0_night_8 ++ dktX0_night_9
def dkwX0_night_7 : List UInt8 := [27, 159, 0, 6, 167, 0, 20, 21, 6, 154, 0, 8, 21, 10, 167, 0, 5, 21, 7, 54, 7, 132, 6, 1]
abbrev dktX0_night_7 : List UInt8 := dkwX0_night_7 ++ dktX0_night_8
def dkwX0_night_6 : List UInt8 := [21, 9, 184, 0, 168, 153, 0, 43, 45, 42, 180, 0, 18, 180, 0, 101, 21, 10, 2, 130, 126, 182, 0, 242]
abbrev dktX0_night_6 : List UInt8 := dkwX0_night_6 ++ dktX0_night_7
def dkwX0_night_5 : List UInt8 := [16, 14, 162, 0, 75, 4, 21, 8, 120, 4, 21, 9, 120, 128, 54, 10, 42, 180, 0, 18, 180, 0, 101]
abbrev dktX0_night_5 : List UInt8 := dkwX0_night_5 ++ dktX0_night_6
def dkwX0_night_4 : List UInt8 := [154, 0, 8, 21, 8, 167, 0, 5, 21, 5, 54, 5, 132, 4, 1, 21, 8, 4, 96, 54, 9, 21, 9]
abbrev dktX0_night_4 : List UInt8 := dkwX0_night_4 ++ dktX0_night_5
def dkwX0_night_3 : List UInt8 := [42, 180, 0, 18, 180, 0, 101, 4, 21, 8, 120, 2, 130, 126, 182, 0, 242, 27, 160, 0, 20, 21, 4]
abbrev dktX0_night_3 : List UInt8 := dkwX0_night_3 ++ dktX0_night_4
def dkwX0_night_2 : List UInt8 := [16, 14, 162, 0, 151, 42, 180, 0, 18, 180, 0, 101, 21, 8, 184, 0, 168, 154, 0, 6, 167, 0, 127, 45]
abbrev dktX0_night_2 : List UInt8 := dkwX0_night_2 ++ dktX0_night_3
def dkwX0_night_1 : List UInt8 := [180, 0, 61, 182, 0, 217, 78, 3, 54, 4, 2, 54, 5, 3, 54, 6, 2, 54, 7, 3, 54, 8, 21, 8]
abbrev dktX0_night_1 : List UInt8 := dkwX0_night_1 ++ dktX0_night_2
def dkwX0_night_0 : List UInt8 := [42, 27, 182, 0, 239, 153, 0, 15, 28, 133, 9, 20, 0, 139, 184, 0, 95, 154, 0, 5, 2, 172, 42]
abbrev dktX0_night_0 : List UInt8 := dkwX0_night_0 ++ dktX0_night_1
theorem dksX0_night_0 : cX0_night.data.toList.drop 0 = dktX0_night_0 := by decide +kernel
theorem dksX0_night_1 : cX0_night.data.toList.drop 23 = dktX0_night_1 := dk_seg dksX0_night_0 23 rfl rfl
theorem dksX0_night_2 : cX0_night.data.toList.drop 47 = dktX0_night_2 := dk_seg dksX0_night_1 24 rfl rfl
theorem dksX0_night_3 : cX0_night.data.toList.drop 71 = dktX0_night_3 := dk_seg dksX0_night_2 24 rfl rfl
theorem dksX0_night_4 : cX0_night.data.toList.drop 94 = dktX0_night_4 := dk_seg dksX0_night_3 23 rfl rfl
theorem dksX0_night_5 : cX0_night.data.toList.drop 117 = dktX0_night_5 := dk_seg dksX0_night_4 23 rfl rfl
theorem dksX0_night_6 : cX0_night.data.toList.drop 140 = dktX0_night_6 := dk_seg dksX0_night_5 23 rfl rfl
theorem dksX0_night_7 : cX0_night.data.toList.drop 164 = dktX0_night_7 := dk_seg dksX0_night_6 24 rfl rfl
theorem dksX0_night_8 : cX0_night.data.toList.drop 188 = dktX0_night_8 := dk_seg dksX0_night_7 24 rfl rfl
theorem dksX0_night_9 : cX0_night.data.toList.drop 211 = dktX0_night_9 := dk_seg dksX0_night_8 23 rfl rfl
theorem dX0_night_0 : decode cX0_night 0 = .ok (.aload_n 0, 1) := dk_42 (dk_at dksX0_night_0 0 rfl rfl)
theorem dX0_night_1 : decode cX0_night 1 = .ok (.iload_n 1, 1) := dk_27 (dk_at dksX0_night_0 1 rfl rfl)
theorem dX0_night_2 : decode cX0_night 2 = .ok (.invokevirtual 239, 3) := dk_182 0 239 (dk_at dksX0_night_0 2 rfl rfl)
theorem dX0_night_5 : decode cX0_night 5 = .ok (.ifCond .eq 15, 3) := dk_153 0 15 (dk_at dksX0_night_0 5 rfl rfl)
theorem dX0_night_8 : decode cX0_night 8 = .ok (.iload_n 2, 1) := dk_28 (dk_at dksX0_night_0 8 rfl rfl)
theorem dX0_night_9 : decode cX0_night 9 = .ok (.i2l, 1) := dk_133 (dk_at dksX0_night_0 9 rfl rfl)
theorem dX0_night_10 : decode cX0_night 10 = .ok (.lconst 0, 1) := dk_9 (dk_at dksX0_night_0 10 rfl rfl)
theorem dX0_night_11 : decode cX0_night 11 = .ok (.ldc2_w 139, 3) := dk_20 0 139 (dk_at dksX0_night_0 11 rfl rfl)
theorem dX0_night_14 : decode cX0_night 14 = .ok (.invokestatic 95, 3) := dk_184 0 95 (dk_at dksX0_night_0 14 rfl rfl)
theorem dX0_night_17 : decode cX0_night 17 = .ok (.ifCond .ne 5, 3) := dk_154 0 5 (dk_at dksX0_night_0 17 rfl rfl)
theorem dX0_night_20 : decode cX0_night 20 = .ok (.iconst (-1), 1) := dk_2 (dk_at dksX0_night_0 20 rfl rfl)
theorem dX0_night_21 : decode cX0_night 21 = .ok (.ireturn, 1) := dk_172 (dk_at dksX0_night_0 21 rfl rfl)
theorem dX0_night_22 : decode cX0_night 22 = .ok (.aload_n 0, 1) := dk_42 (dk_at dksX0_night_0 22 rfl rfl)
theorem dX0_night_23 : decode cX0_night 23 = .ok (.getfield 61, 3) := dk_180 0 61 (dk_at dksX0_night_1 0 rfl rfl)
theorem dX0_night_26 : decode cX0_night 26 = .ok (.invokevirtual 217, 3) := dk_182 0 217 (dk_at dksX0_night_1 3 rfl rfl)
theorem dX0_night_29 : decode cX0_night 29 = .ok (.astore_n 3, 1) := dk_78 (dk_at dksX0_night_1 6 rfl rfl)
theorem dX0_night_30 : decode cX0_night 30 = .ok (.iconst 0, 1) := dk_3 (dk_at dksX0_night_1 7 rfl rfl)
theorem dX0_night_31 : decode cX0_night 31 = .ok (.istore 4, 2) := dk_54 4 (dk_at dksX0_night_1 8 rfl rfl)
theorem dX0_night_33 : decode cX0_night 33 = .ok (.iconst (-1), 1) := dk_2 (dk_at dksX0_night_1 10 rfl rfl)
theorem dX0_night_34 : decode cX0_night 34 = .ok (.istore 5, 2) := dk_54 5 (dk_at dksX0_night_1 11 rfl rfl)
theorem dX0_night_36 : decode cX0_night 36 = .ok (.iconst 0, 1) := dk_3 (dk_at dksX0_night_1 13 rfl rfl)
theorem dX0_night_37 : decode cX0_night 37 = .ok (.istore 6, 2) := dk_54 6 (dk_at dksX0_night_1 14 rfl rfl)
theorem dX0_night_39 : decode cX0_night 39 = .ok (.iconst (-1), 1) := dk_2 (dk_at dksX0_night_1 16 rfl rfl)
theorem dX0_night_40 : decode cX0_night 40 = .ok (.istore 7, 2) := dk_54 7 (dk_at dksX0_night_1 17 rfl rfl)
theorem dX0_night_42 : decode cX0_night 42 = .ok (.iconst 0, 1) := dk_3 (dk_at dksX0_night_1 19 rfl rfl)
theorem dX0_night_43 : decode cX0_night 43 = .ok (.istore 8, 2) := dk_54 8 (dk_at dksX0_night_1 20 rfl rfl)
theorem dX0_night_45 : decode cX0_night 45 = .ok (.iload 8, 2) := dk_21 8 (dk_at dksX0_night_1 22 rfl rfl)
theorem dX0_night_47 : decode cX0_night 47 = .ok (.bipush 14, 2) := dk_16 14 (dk_at dksX0_night_2 0 rfl rfl)
theorem dX0_night_49 : decode cX0_night 49 = .ok (.if_icmp .ge 151, 3) := dk_162 0 151 (dk_at dksX0_night_2 2 rfl rfl)
theorem dX0_night_52 : decode cX0_night 52 = .ok (.aload_n 0, 1) := dk_42 (dk_at dksX0_night_2 5 rfl rfl)
theorem dX0_night_53 : decode cX0_night 53 = .ok (.getfield 18, 3) := dk_180 0 18 (dk_at dksX0_night_2 6 rfl rfl)
theorem dX0_night_56 : decode cX0_night 56 = .ok (.getfield 101, 3) := dk_180 0 101 (dk_at dksX0_night_2 9 rfl rfl)
theorem dX0_night_59 : decode cX0_night 59 = .ok (.iload 8, 2) := dk_21 8 (dk_at dksX0_night_2 12 rfl rfl)
theorem dX0_night_61 : decode cX0_night 61 = .ok (.invokestatic 168, 3) := dk_184 0 168 (dk_at dksX0_night_2 14 rfl rfl)
theorem dX0_night_64 : decode cX0_night 64 = .ok (.ifCond .ne 6, 3) := dk_154 0 6 (dk_at dksX0_night_2 17 rfl rfl)
theorem dX0_night_67 : decode cX0_night 67 = .ok (.goto 127, 3) := dk_167 0 127 (dk_at dksX0_night_2 20 rfl rfl)
theorem dX0_night_70 : decode cX0_night 70 = .ok (.aload_n 3, 1) := dk_45 (dk_at dksX0_night_2 23 rfl rfl)
theorem dX0_night_71 : decode cX0_night 71 = .ok (.aload_n 0, 1) := dk_42 (dk_at dksX0_night_3 0 rfl rfl)
theorem dX0_night_72 : decode cX0_night 72 = .ok (.getfield 18, 3) := dk_180 0 18 (dk_at dksX0_night_3 1 rfl rfl)
theorem dX0_night_75 : decode cX0_night 75 = .ok (.getfield 101, 3) := dk_180 0 101 (dk_at dksX0_night_3 4 rfl rfl)
theorem dX0_night_78 : decode cX0_night 78 = .ok (.iconst 1, 1) := dk_4 (dk_at dksX0_night_3 7 rfl rfl)
theorem dX0_night_79 : decode cX0_night 79 = .ok (.iload 8, 2) := dk_21 8 (dk_at dksX0_night_3 8 rfl rfl)
theorem dX0_night_81 : decode cX0_night 81 = .ok (.ishl, 1) := dk_120 (dk_at dksX0_night_3 10 rfl rfl)
theorem dX0_night_82 : decode cX0_night 82 = .ok (.iconst (-1), 1) := dk_2 (dk_at dksX0_night_3 11 rfl rfl)
theorem dX0_night_83 : decode cX0_night 83 = .ok (.ixor, 1) := dk_130 (dk_at dksX0_night_3 12 rfl rfl)
theorem dX0_night_84 : decode cX0_night 84 = .ok (.iand, 1) := dk_126 (dk_at dksX0_night_3 13 rfl rfl)
theorem dX0_night_85 : decode cX0_night 85 = .ok (.invokevirtual 242, 3) := dk_182 0 242 (dk_at dksX0_night_3 14 rfl rfl)
theorem dX0_night_88 : decode cX0_night 88 = .ok (.iload_n 1, 1) := dk_27 (dk_at dksX0_night_3 17 rfl rfl)
theorem dX0_night_89 : decode cX0_night 89 = .ok (.if_icmp .ne 20, 3) := dk_160 0 20 (dk_at dksX0_night_3 18 rfl rfl)
theorem dX0_night_92 : decode cX0_night 92 = .ok (.iload 4, 2) := dk_21 4 (dk_at dksX0_night_3 21 rfl rfl)
theorem dX0_night_94 : decode cX0_night 94 = .ok (.ifCond .ne 8, 3) := dk_154 0 8 (dk_at dksX0_night_4 0 rfl rfl)
theorem dX0_night_97 : decode cX0_night 97 = .ok (.iload 8, 2) := dk_21 8 (dk_at dksX0_night_4 3 rfl rfl)
theorem dX0_night_99 : decode cX0_night 99 = .ok (.goto 5, 3) := dk_167 0 5 (dk_at dksX0_night_4 5 rfl rfl)
theorem dX0_night_102 : decode cX0_night 102 = .ok (.iload 5, 2) := dk_21 5 (dk_at dksX0_night_4 8 rfl rfl)
theorem dX0_night_104 : decode cX0_night 104 = .ok (.istore 5, 2) := dk_54 5 (dk_at dksX0_night_4 10 rfl rfl)
theorem dX0_night_106 : decode cX0_night 106 = .ok (.iinc 4 1, 3) := dk_132 4 1 (dk_at dksX0_night_4 12 rfl rfl)
theorem dX0_night_109 : decode cX0_night 109 = .ok (.iload 8, 2) := dk_21 8 (dk_at dksX0_night_4 15 rfl rfl)
theorem dX0_night_111 : decode cX0_night 111 = .ok (.iconst 1, 1) := dk_4 (dk_at dksX0_night_4 17 rfl rfl)
theorem dX0_night_112 : decode cX0_night 112 = .ok (.iadd, 1) := dk_96 (dk_at dksX0_night_4 18 rfl rfl)
theorem dX0_night_113 : decode cX0_night 113 = .ok (.istore 9, 2) := dk_54 9 (dk_at dksX0_night_4 19 rfl rfl)
theorem dX0_night_115 : decode cX0_night 115 = .ok (.iload 9, 2) := dk_21 9 (dk_at dksX0_night_4 21 rfl rfl)
theorem dX0_night_117 : decode cX0_night 117 = .ok (.bipush 14, 2) := dk_16 14 (dk_at dksX0_night_5 0 rfl rfl)
theorem dX0_night_119 : decode cX0_night 119 = .ok (.if_icmp .ge 75, 3) := dk_162 0 75 (dk_at dksX0_night_5 2 rfl rfl)
theorem dX0_night_122 : decode cX0_night 122 = .ok (.iconst 1, 1) := dk_4 (dk_at dksX0_night_5 5 rfl rfl)
theorem dX0_night_123 : decode cX0_night 123 = .ok (.iload 8, 2) := dk_21 8 (dk_at dksX0_night_5 6 rfl rfl)
theorem dX0_night_125 : decode cX0_night 125 = .ok (.ishl, 1) := dk_120 (dk_at dksX0_night_5 8 rfl rfl)
theorem dX0_night_126 : decode cX0_night 126 = .ok (.iconst 1, 1) := dk_4 (dk_at dksX0_night_5 9 rfl rfl)
theorem dX0_night_127 : decode cX0_night 127 = .ok (.iload 9, 2) := dk_21 9 (dk_at dksX0_night_5 10 rfl rfl)
theorem dX0_night_129 : decode cX0_night 129 = .ok (.ishl, 1) := dk_120 (dk_at dksX0_night_5 12 rfl rfl)
theorem dX0_night_130 : decode cX0_night 130 = .ok (.ior, 1) := dk_128 (dk_at dksX0_night_5 13 rfl rfl)
theorem dX0_night_131 : decode cX0_night 131 = .ok (.istore 10, 2) := dk_54 10 (dk_at dksX0_night_5 14 rfl rfl)
theorem dX0_night_133 : decode cX0_night 133 = .ok (.aload_n 0, 1) := dk_42 (dk_at dksX0_night_5 16 rfl rfl)
theorem dX0_night_134 : decode cX0_night 134 = .ok (.getfield 18, 3) := dk_180 0 18 (dk_at dksX0_night_5 17 rfl rfl)
theorem dX0_night_137 : decode cX0_night 137 = .ok (.getfield 101, 3) := dk_180 0 101 (dk_at dksX0_night_5 20 rfl rfl)
theorem dX0_night_140 : decode cX0_night 140 = .ok (.iload 9, 2) := dk_21 9 (dk_at dksX0_night_6 0 rfl rfl)
theorem dX0_night_142 : decode cX0_night 142 = .ok (.invokestatic 168, 3) := dk_184 0 168 (dk_at dksX0_night_6 2 rfl rfl)
theorem dX0_night_145 : decode cX0_night 145 = .ok (.ifCond .eq 43, 3) := dk_153 0 43 (dk_at dksX0_night_6 5 rfl rfl)
theorem dX0_night_148 : decode cX0_night 148 = .ok (.aload_n 3, 1) := dk_45 (dk_at dksX0_night_6 8 rfl rfl)
theorem dX0_night_149 : decode cX0_night 149 = .ok (.aload_n 0, 1) := dk_42 (dk_at dksX0_night_6 9 rfl rfl)
theorem dX0_night_150 : decode cX0_night 150 = .ok (.getfield 18, 3) := dk_180 0 18 (dk_at dksX0_night_6 10 rfl rfl)
theorem dX0_night_153 : decode cX0_night 153 = .ok (.getfield 101, 3) := dk_180 0 101 (dk_at dksX0_night_6 13 rfl rfl)
theorem dX0_night_156 : decode cX0_night 156 = .ok (.iload 10, 2) := dk_21 10 (dk_at dksX0_night_6 16 rfl rfl)
theorem dX0_night_158 : decode cX0_night 158 = .ok (.iconst (-1), 1) := dk_2 (dk_at dksX0_night_6 18 rfl rfl)
theorem dX0_night_159 : decode cX0_night 159 = .ok (.ixor, 1) := dk_130 (dk_at dksX0_night_6 19 rfl rfl)
theorem dX0_night_160 : decode cX0_night 160 = .ok (.iand, 1) := dk_126 (dk_at dksX0_night_6 20 rfl rfl)
theorem dX0_night_161 : decode cX0_night 161 = .ok (.invokevirtual 242, 3) := dk_182 0 242 (dk_at dksX0_night_6 21 rfl rfl)
theorem dX0_night_164 : decode cX0_night 164 = .ok (.iload_n 1, 1) := dk_27 (dk_at dksX0_night_7 0 rfl rfl)
theorem dX0_night_165 : decode cX0_night 165 = .ok (.if_icmp .eq 6, 3) := dk_159 0 6 (dk_at dksX0_night_7 1 rfl rfl)
theorem dX0_night_168 : decode cX0_night 168 = .ok (.goto 20, 3) := dk_167 0 20 (dk_at dksX0_night_7 4 rfl rfl)
theorem dX0_night_171 : decode cX0_night 171 = .ok (.iload 6, 2) := dk_21 6 (dk_at dksX0_night_7 7 rfl rfl)
theorem dX0_night_173 : decode cX0_night 173 = .ok (.ifCond .ne 8, 3) := dk_154 0 8 (dk_at dksX0_night_7 9 rfl rfl)
theorem dX0_night_176 : decode cX0_night 176 = .ok (.iload 10, 2) := dk_21 10 (dk_at dksX0_night_7 12 rfl rfl)
theorem dX0_night_178 : decode cX0_night 178 = .ok (.goto 5, 3) := dk_167 0 5 (dk_at dksX0_night_7 14 rfl rfl)
theorem dX0_night_181 : decode cX0_night 181 = .ok (.iload 7, 2) := dk_21 7 (dk_at dksX0_night_7 17 rfl rfl)
theorem dX0_night_183 : decode cX0_night 183 = .ok (.istore 7, 2) := dk_54 7 (dk_at dksX0_night_7 19 rfl rfl)
theorem dX0_night_185 : decode cX0_night 185 = .ok (.iinc 6 1, 3) := dk_132 6 1 (dk_at dksX0_night_7 21 rfl rfl)
theorem dX0_night_188 : decode cX0_night 188 = .ok (.iinc 9 1, 3) := dk_132 9 1 (dk_at dksX0_night_8 0 rfl rfl)
theorem dX0_night_191 : decode cX0_night 191 = .ok (.goto (-76), 3) := dk_167 255 180 (dk_at dksX0_night_8 3 rfl rfl)
theorem dX0_night_194 : decode cX0_night 194 = .ok (.iinc 8 1, 3) := dk_132 8 1 (dk_at dksX0_night_8 6 rfl rfl)
theorem dX0_night_197 : decode cX0_night 197 = .ok (.goto (-152), 3) := dk_167 255 104 (dk_at dksX0_night_8 9 rfl rfl)
theorem dX0_night_200 : decode cX0_night 200 = .ok (.iload_n 2, 1) := dk_28 (dk_at dksX0_night_8 12 rfl rfl)
theorem dX0_night_201 : decode cX0_night 201 = .ok (.ifCond .ne 8, 3) := dk_154 0 8 (dk_at dksX0_night_8 13 rfl rfl)
theorem dX0_night_204 : decode cX0_night 204 = .ok (.iload 4, 2) := dk_21 4 (dk_at dksX0_night_8 16 rfl rfl)
theorem dX0_night_206 : decode cX0_night 206 = .ok (.goto 25, 3) := dk_167 0 25 (dk_at dksX0_night_8 18 rfl rfl)
theorem dX0_night_209 : decode cX0_night 209 = .ok (.iload_n 2, 1) := dk_28 (dk_at dksX0_night_8 21 rfl rfl)
theorem dX0_night_210 : decode cX0_night 210 = .ok (.iconst 1, 1) := dk_4 (dk_at dksX0_night_8 22 rfl rfl)
theorem dX0_night_211 : decode cX0_night 211 = .ok (.if_icmp .ne 8, 3) := dk_160 0 8 (dk_at dksX0_night_9 0 rfl rfl)
theorem dX0_night_214 : decode cX0_night 214 = .ok (.iload 5, 2) := dk_21 5 (dk_at dksX0_night_9 3 rfl rfl)
theorem dX0_night_216 : decode cX0_night 216 = .ok (.goto 15, 3) := dk_167 0 15 (dk_at dksX0_night_9 5 rfl rfl)
theorem dX0_night_219 : decode cX0_night 219 = .ok (.iload_n 2, 1) := dk_28 (dk_at dksX0_night_9 8 rfl rfl)
theorem dX0_night_220 : decode cX0_night 220 = .ok (.iconst 2, 1) := dk_5 (dk_at dksX0_night_9 9 rfl rfl)
theorem dX0_night_221 : decode cX0_night 221 = .ok (.if_icmp .ne 8, 3) := dk_160 0 8 (dk_at dksX0_night_9 10 rfl rfl)
theorem dX0_night_224 : decode cX0_night 224 = .ok (.iload 6, 2) := dk_21 6 (dk_at dksX0_night_9 13 rfl rfl)
theorem dX0_night_226 : decode cX0_night 226 = .ok (.goto 5, 3) := dk_167 0 5 (dk_at dksX0_night_9 15 rfl rfl)
theorem dX0_night_229 : decode cX0_night 229 = .ok (.iload 7, 2) := dk_21 7 (dk_at dksX0_night_9 18 rfl rfl)
theorem dX0_night_231 : decode cX0_night 231 = .ok (.ireturn, 1) := dk_172 (dk_at dksX0_night_9 20 rfl rfl)
abbrev cX0_winters : ByteArray := prog_1_method_48_code
def yX0_winters : MethodName := ⟨RX0, "winters", "(II)I"⟩
def dkwX0_winters_9 : List UInt8 := [172]
abbrev dktX0_winters_9 : List UInt8 := dkwX0_winters_9 ++ []
def dkwX0_winters_8 : List UInt8 := [42, 180, 1, 44, 21, 6, 21, 5, 79, 132, 6, 1, 167, 255, 123, 42, 21, 5, 184, 0, 245, 182, 0, 117]
abbrev dktX0_winters_8 : List UInt8 := dkwX0_winters_8 ++ dktX0_winters_9
def dkwX0_winters_7 : List UInt8 := [182, 1, 50, 54, 8, 21, 5, 21, 8, 2, 160, 0, 7, 3, 167, 0, 7, 4, 21, 8, 120, 128, 54, 5]
abbrev dktX0_winters_7 : List UInt8 := dkwX0_winters_7 ++ dktX0_winters_8
def dkwX0_winters_6 : List UInt8 := [120, 2, 130, 126, 54, 7, 132, 8, 1, 167, 255, 187, 45, 21, 7, 182, 0, 242, 54, 5, 42, 45, 21, 5]
abbrev dktX0_winters_6 : List UInt8 := dkwX0_winters_6 ++ dktX0_winters_7
def dkwX0_winters_5 : List UInt8 := [180, 0, 85, 21, 8, 182, 0, 147, 192, 0, 112, 180, 0, 151, 5, 46, 162, 0, 14, 21, 7, 4, 21, 8]
abbrev dktX0_winters_5 : List UInt8 := dkwX0_winters_5 ++ dktX0_winters_6
def dkwX0_winters_4 : List UInt8 := [162, 0, 60, 21, 5, 21, 8, 184, 0, 168, 153, 0, 44, 25, 4, 16, 100, 182, 1, 47, 42, 180, 0, 18]
abbrev dktX0_winters_4 : List UInt8 := dkwX0_winters_4 ++ dktX0_winters_5
def dkwX0_winters_3 : List UInt8 := [162, 0, 133, 21, 5, 54, 7, 3, 54, 8, 21, 8, 42, 180, 0, 18, 180, 0, 85, 182, 0, 89]
abbrev dktX0_winters_3 : List UInt8 := dkwX0_winters_3 ++ dktX0_winters_4
def dkwX0_winters_2 : List UInt8 := [42, 28, 188, 10, 181, 1, 44, 42, 180, 0, 18, 180, 0, 101, 54, 5, 3, 54, 6, 21, 6, 28]
abbrev dktX0_winters_2 : List UInt8 := dkwX0_winters_2 ++ dktX0_winters_3
def dkwX0_winters_1 : List UInt8 := [42, 2, 182, 0, 117, 172, 42, 180, 0, 61, 182, 0, 217, 78, 187, 1, 40, 89, 27, 183, 1, 42, 58, 4]
abbrev dktX0_winters_1 : List UInt8 := dkwX0_winters_1 ++ dktX0_winters_2
def dkwX0_winters_0 : List UInt8 := [27, 133, 9, 20, 1, 36, 184, 0, 95, 153, 0, 15, 28, 133, 10, 20, 1, 38, 184, 0, 95, 154, 0, 9]
abbrev dktX0_winters_0 : List UInt8 := dkwX0_winters_0 ++ dktX0_winters_1
theorem dksX0_winters_0 : cX0_winters.data.toList.drop 0 = dktX0_winters_0 := by decide +kernel
theorem dksX0_winters_1 : cX0_winters.data.toList.drop 24 = dktX0_winters_1 := dk_seg dksX0_winters_0 24 rfl rfl
theorem dksX0_winters_2 : cX0_winters.data.toList.drop 48 = dktX0_winters_2 := dk_seg dksX0_winters_1 24 rfl rfl
theorem dksX0_winters_3 : cX0_winters.data.toList.drop 70 = dktX0_winters_3 := dk_seg dksX0_winters_2 22 rfl rfl
theorem dksX0_winters_4 : cX0_winters.data.toList.drop 92 = dktX0_winters_4 := dk_seg dksX0_winters_3 22 rfl rfl
theorem dksX0_winters_5 : cX0_winters.data.toList.drop 116 = dktX0_winters_5 := dk_seg dksX0_winters_4 24 rfl rfl
theorem dksX0_winters_6 : cX0_winters.data.toList.drop 140 = dktX0_winters_6 := dk_seg dksX0_winters_5 24 rfl rfl
theorem dksX0_winters_7 : cX0_winters.data.toList.drop 164 = dktX0_winters_7 := dk_seg dksX0_winters_6 24 rfl rfl
theorem dksX0_winters_8 : cX0_winters.data.toList.drop 188 = dktX0_winters_8 := dk_seg dksX0_winters_7 24 rfl rfl
theorem dksX0_winters_9 : cX0_winters.data.toList.drop 212 = dktX0_winters_9 := dk_seg dksX0_winters_8 24 rfl rfl
theorem dX0_winters_0 : decode cX0_winters 0 = .ok (.iload_n 1, 1) := dk_27 (dk_at dksX0_winters_0 0 rfl rfl)
theorem dX0_winters_1 : decode cX0_winters 1 = .ok (.i2l, 1) := dk_133 (dk_at dksX0_winters_0 1 rfl rfl)
theorem dX0_winters_2 : decode cX0_winters 2 = .ok (.lconst 0, 1) := dk_9 (dk_at dksX0_winters_0 2 rfl rfl)
theorem dX0_winters_3 : decode cX0_winters 3 = .ok (.ldc2_w 292, 3) := dk_20 1 36 (dk_at dksX0_winters_0 3 rfl rfl)
theorem dX0_winters_6 : decode cX0_winters 6 = .ok (.invokestatic 95, 3) := dk_184 0 95 (dk_at dksX0_winters_0 6 rfl rfl)
theorem dX0_winters_9 : decode cX0_winters 9 = .ok (.ifCond .eq 15, 3) := dk_153 0 15 (dk_at dksX0_winters_0 9 rfl rfl)
theorem dX0_winters_12 : decode cX0_winters 12 = .ok (.iload_n 2, 1) := dk_28 (dk_at dksX0_winters_0 12 rfl rfl)
theorem dX0_winters_13 : decode cX0_winters 13 = .ok (.i2l, 1) := dk_133 (dk_at dksX0_winters_0 13 rfl rfl)
theorem dX0_winters_14 : decode cX0_winters 14 = .ok (.lconst 1, 1) := dk_10 (dk_at dksX0_winters_0 14 rfl rfl)
theorem dX0_winters_15 : decode cX0_winters 15 = .ok (.ldc2_w 294, 3) := dk_20 1 38 (dk_at dksX0_winters_0 15 rfl rfl)
theorem dX0_winters_18 : decode cX0_winters 18 = .ok (.invokestatic 95, 3) := dk_184 0 95 (dk_at dksX0_winters_0 18 rfl rfl)
theorem dX0_winters_21 : decode cX0_winters 21 = .ok (.ifCond .ne 9, 3) := dk_154 0 9 (dk_at dksX0_winters_0 21 rfl rfl)
theorem dX0_winters_24 : decode cX0_winters 24 = .ok (.aload_n 0, 1) := dk_42 (dk_at dksX0_winters_1 0 rfl rfl)
theorem dX0_winters_25 : decode cX0_winters 25 = .ok (.iconst (-1), 1) := dk_2 (dk_at dksX0_winters_1 1 rfl rfl)
theorem dX0_winters_26 : decode cX0_winters 26 = .ok (.invokevirtual 117, 3) := dk_182 0 117 (dk_at dksX0_winters_1 2 rfl rfl)
theorem dX0_winters_29 : decode cX0_winters 29 = .ok (.ireturn, 1) := dk_172 (dk_at dksX0_winters_1 5 rfl rfl)
theorem dX0_winters_30 : decode cX0_winters 30 = .ok (.aload_n 0, 1) := dk_42 (dk_at dksX0_winters_1 6 rfl rfl)
theorem dX0_winters_31 : decode cX0_winters 31 = .ok (.getfield 61, 3) := dk_180 0 61 (dk_at dksX0_winters_1 7 rfl rfl)
theorem dX0_winters_34 : decode cX0_winters 34 = .ok (.invokevirtual 217, 3) := dk_182 0 217 (dk_at dksX0_winters_1 10 rfl rfl)
theorem dX0_winters_37 : decode cX0_winters 37 = .ok (.astore_n 3, 1) := dk_78 (dk_at dksX0_winters_1 13 rfl rfl)
theorem dX0_winters_38 : decode cX0_winters 38 = .ok (.new 296, 3) := dk_187 1 40 (dk_at dksX0_winters_1 14 rfl rfl)
theorem dX0_winters_41 : decode cX0_winters 41 = .ok (.dup, 1) := dk_89 (dk_at dksX0_winters_1 17 rfl rfl)
theorem dX0_winters_42 : decode cX0_winters 42 = .ok (.iload_n 1, 1) := dk_27 (dk_at dksX0_winters_1 18 rfl rfl)
theorem dX0_winters_43 : decode cX0_winters 43 = .ok (.invokespecial 298, 3) := dk_183 1 42 (dk_at dksX0_winters_1 19 rfl rfl)
theorem dX0_winters_46 : decode cX0_winters 46 = .ok (.astore 4, 2) := dk_58 4 (dk_at dksX0_winters_1 22 rfl rfl)
theorem dX0_winters_48 : decode cX0_winters 48 = .ok (.aload_n 0, 1) := dk_42 (dk_at dksX0_winters_2 0 rfl rfl)
theorem dX0_winters_49 : decode cX0_winters 49 = .ok (.iload_n 2, 1) := dk_28 (dk_at dksX0_winters_2 1 rfl rfl)
theorem dX0_winters_50 : decode cX0_winters 50 = .ok (.newarray .int, 2) := dk_188_10 (dk_at dksX0_winters_2 2 rfl rfl)
theorem dX0_winters_52 : decode cX0_winters 52 = .ok (.putfield 300, 3) := dk_181 1 44 (dk_at dksX0_winters_2 4 rfl rfl)
theorem dX0_winters_55 : decode cX0_winters 55 = .ok (.aload_n 0, 1) := dk_42 (dk_at dksX0_winters_2 7 rfl rfl)
theorem dX0_winters_56 : decode cX0_winters 56 = .ok (.getfield 18, 3) := dk_180 0 18 (dk_at dksX0_winters_2 8 rfl rfl)
theorem dX0_winters_59 : decode cX0_winters 59 = .ok (.getfield 101, 3) := dk_180 0 101 (dk_at dksX0_winters_2 11 rfl rfl)
theorem dX0_winters_62 : decode cX0_winters 62 = .ok (.istore 5, 2) := dk_54 5 (dk_at dksX0_winters_2 14 rfl rfl)
theorem dX0_winters_64 : decode cX0_winters 64 = .ok (.iconst 0, 1) := dk_3 (dk_at dksX0_winters_2 16 rfl rfl)
theorem dX0_winters_65 : decode cX0_winters 65 = .ok (.istore 6, 2) := dk_54 6 (dk_at dksX0_winters_2 17 rfl rfl)
theorem dX0_winters_67 : decode cX0_winters 67 = .ok (.iload 6, 2) := dk_21 6 (dk_at dksX0_winters_2 19 rfl rfl)
theorem dX0_winters_69 : decode cX0_winters 69 = .ok (.iload_n 2, 1) := dk_28 (dk_at dksX0_winters_2 21 rfl rfl)
theorem dX0_winters_70 : decode cX0_winters 70 = .ok (.if_icmp .ge 133, 3) := dk_162 0 133 (dk_at dksX0_winters_3 0 rfl rfl)
theorem dX0_winters_73 : decode cX0_winters 73 = .ok (.iload 5, 2) := dk_21 5 (dk_at dksX0_winters_3 3 rfl rfl)
theorem dX0_winters_75 : decode cX0_winters 75 = .ok (.istore 7, 2) := dk_54 7 (dk_at dksX0_winters_3 5 rfl rfl)
theorem dX0_winters_77 : decode cX0_winters 77 = .ok (.iconst 0, 1) := dk_3 (dk_at dksX0_winters_3 7 rfl rfl)
theorem dX0_winters_78 : decode cX0_winters 78 = .ok (.istore 8, 2) := dk_54 8 (dk_at dksX0_winters_3 8 rfl rfl)
theorem dX0_winters_80 : decode cX0_winters 80 = .ok (.iload 8, 2) := dk_21 8 (dk_at dksX0_winters_3 10 rfl rfl)
theorem dX0_winters_82 : decode cX0_winters 82 = .ok (.aload_n 0, 1) := dk_42 (dk_at dksX0_winters_3 12 rfl rfl)
theorem dX0_winters_83 : decode cX0_winters 83 = .ok (.getfield 18, 3) := dk_180 0 18 (dk_at dksX0_winters_3 13 rfl rfl)
theorem dX0_winters_86 : decode cX0_winters 86 = .ok (.getfield 85, 3) := dk_180 0 85 (dk_at dksX0_winters_3 16 rfl rfl)
theorem dX0_winters_89 : decode cX0_winters 89 = .ok (.invokevirtual 89, 3) := dk_182 0 89 (dk_at dksX0_winters_3 19 rfl rfl)
theorem dX0_winters_92 : decode cX0_winters 92 = .ok (.if_icmp .ge 60, 3) := dk_162 0 60 (dk_at dksX0_winters_4 0 rfl rfl)
theorem dX0_winters_95 : decode cX0_winters 95 = .ok (.iload 5, 2) := dk_21 5 (dk_at dksX0_winters_4 3 rfl rfl)
theorem dX0_winters_97 : decode cX0_winters 97 = .ok (.iload 8, 2) := dk_21 8 (dk_at dksX0_winters_4 5 rfl rfl)
theorem dX0_winters_99 : decode cX0_winters 99 = .ok (.invokestatic 168, 3) := dk_184 0 168 (dk_at dksX0_winters_4 7 rfl rfl)
theorem dX0_winters_102 : decode cX0_winters 102 = .ok (.ifCond .eq 44, 3) := dk_153 0 44 (dk_at dksX0_winters_4 10 rfl rfl)
theorem dX0_winters_105 : decode cX0_winters 105 = .ok (.aload 4, 2) := dk_25 4 (dk_at dksX0_winters_4 13 rfl rfl)
theorem dX0_winters_107 : decode cX0_winters 107 = .ok (.bipush 100, 2) := dk_16 100 (dk_at dksX0_winters_4 15 rfl rfl)
theorem dX0_winters_109 : decode cX0_winters 109 = .ok (.invokevirtual 303, 3) := dk_182 1 47 (dk_at dksX0_winters_4 17 rfl rfl)
theorem dX0_winters_112 : decode cX0_winters 112 = .ok (.aload_n 0, 1) := dk_42 (dk_at dksX0_winters_4 20 rfl rfl)
theorem dX0_winters_113 : decode cX0_winters 113 = .ok (.getfield 18, 3) := dk_180 0 18 (dk_at dksX0_winters_4 21 rfl rfl)
theorem dX0_winters_116 : decode cX0_winters 116 = .ok (.getfield 85, 3) := dk_180 0 85 (dk_at dksX0_winters_5 0 rfl rfl)
theorem dX0_winters_119 : decode cX0_winters 119 = .ok (.iload 8, 2) := dk_21 8 (dk_at dksX0_winters_5 3 rfl rfl)
theorem dX0_winters_121 : decode cX0_winters 121 = .ok (.invokevirtual 147, 3) := dk_182 0 147 (dk_at dksX0_winters_5 5 rfl rfl)
theorem dX0_winters_124 : decode cX0_winters 124 = .ok (.checkcast 112, 3) := dk_192 0 112 (dk_at dksX0_winters_5 8 rfl rfl)
theorem dX0_winters_127 : decode cX0_winters 127 = .ok (.getfield 151, 3) := dk_180 0 151 (dk_at dksX0_winters_5 11 rfl rfl)
theorem dX0_winters_130 : decode cX0_winters 130 = .ok (.iconst 2, 1) := dk_5 (dk_at dksX0_winters_5 14 rfl rfl)
theorem dX0_winters_131 : decode cX0_winters 131 = .ok (.iaload, 1) := dk_46 (dk_at dksX0_winters_5 15 rfl rfl)
theorem dX0_winters_132 : decode cX0_winters 132 = .ok (.if_icmp .ge 14, 3) := dk_162 0 14 (dk_at dksX0_winters_5 16 rfl rfl)
theorem dX0_winters_135 : decode cX0_winters 135 = .ok (.iload 7, 2) := dk_21 7 (dk_at dksX0_winters_5 19 rfl rfl)
theorem dX0_winters_137 : decode cX0_winters 137 = .ok (.iconst 1, 1) := dk_4 (dk_at dksX0_winters_5 21 rfl rfl)
theorem dX0_winters_138 : decode cX0_winters 138 = .ok (.iload 8, 2) := dk_21 8 (dk_at dksX0_winters_5 22 rfl rfl)
theorem dX0_winters_140 : decode cX0_winters 140 = .ok (.ishl, 1) := dk_120 (dk_at dksX0_winters_6 0 rfl rfl)
theorem dX0_winters_141 : decode cX0_winters 141 = .ok (.iconst (-1), 1) := dk_2 (dk_at dksX0_winters_6 1 rfl rfl)
theorem dX0_winters_142 : decode cX0_winters 142 = .ok (.ixor, 1) := dk_130 (dk_at dksX0_winters_6 2 rfl rfl)
theorem dX0_winters_143 : decode cX0_winters 143 = .ok (.iand, 1) := dk_126 (dk_at dksX0_winters_6 3 rfl rfl)
theorem dX0_winters_144 : decode cX0_winters 144 = .ok (.istore 7, 2) := dk_54 7 (dk_at dksX0_winters_6 4 rfl rfl)
theorem dX0_winters_146 : decode cX0_winters 146 = .ok (.iinc 8 1, 3) := dk_132 8 1 (dk_at dksX0_winters_6 6 rfl rfl)
theorem dX0_winters_149 : decode cX0_winters 149 = .ok (.goto (-69), 3) := dk_167 255 187 (dk_at dksX0_winters_6 9 rfl rfl)
theorem dX0_winters_152 : decode cX0_winters 152 = .ok (.aload_n 3, 1) := dk_45 (dk_at dksX0_winters_6 12 rfl rfl)
theorem dX0_winters_153 : decode cX0_winters 153 = .ok (.iload 7, 2) := dk_21 7 (dk_at dksX0_winters_6 13 rfl rfl)
theorem dX0_winters_155 : decode cX0_winters 155 = .ok (.invokevirtual 242, 3) := dk_182 0 242 (dk_at dksX0_winters_6 15 rfl rfl)
theorem dX0_winters_158 : decode cX0_winters 158 = .ok (.istore 5, 2) := dk_54 5 (dk_at dksX0_winters_6 18 rfl rfl)
theorem dX0_winters_160 : decode cX0_winters 160 = .ok (.aload_n 0, 1) := dk_42 (dk_at dksX0_winters_6 20 rfl rfl)
theorem dX0_winters_161 : decode cX0_winters 161 = .ok (.aload_n 3, 1) := dk_45 (dk_at dksX0_winters_6 21 rfl rfl)
theorem dX0_winters_162 : decode cX0_winters 162 = .ok (.iload 5, 2) := dk_21 5 (dk_at dksX0_winters_6 22 rfl rfl)
theorem dX0_winters_164 : decode cX0_winters 164 = .ok (.invokevirtual 306, 3) := dk_182 1 50 (dk_at dksX0_winters_7 0 rfl rfl)
theorem dX0_winters_167 : decode cX0_winters 167 = .ok (.istore 8, 2) := dk_54 8 (dk_at dksX0_winters_7 3 rfl rfl)
theorem dX0_winters_169 : decode cX0_winters 169 = .ok (.iload 5, 2) := dk_21 5 (dk_at dksX0_winters_7 5 rfl rfl)
theorem dX0_winters_171 : decode cX0_winters 171 = .ok (.iload 8, 2) := dk_21 8 (dk_at dksX0_winters_7 7 rfl rfl)
theorem dX0_winters_173 : decode cX0_winters 173 = .ok (.iconst (-1), 1) := dk_2 (dk_at dksX0_winters_7 9 rfl rfl)
theorem dX0_winters_174 : decode cX0_winters 174 = .ok (.if_icmp .ne 7, 3) := dk_160 0 7 (dk_at dksX0_winters_7 10 rfl rfl)
theorem dX0_winters_177 : decode cX0_winters 177 = .ok (.iconst 0, 1) := dk_3 (dk_at dksX0_winters_7 13 rfl rfl)
theorem dX0_winters_178 : decode cX0_winters 178 = .ok (.goto 7, 3) := dk_167 0 7 (dk_at dksX0_winters_7 14 rfl rfl)
theorem dX0_winters_181 : decode cX0_winters 181 = .ok (.iconst 1, 1) := dk_4 (dk_at dksX0_winters_7 17 rfl rfl)
theorem dX0_winters_182 : decode cX0_winters 182 = .ok (.iload 8, 2) := dk_21 8 (dk_at dksX0_winters_7 18 rfl rfl)
theorem dX0_winters_184 : decode cX0_winters 184 = .ok (.ishl, 1) := dk_120 (dk_at dksX0_winters_7 20 rfl rfl)
theorem dX0_winters_185 : decode cX0_winters 185 = .ok (.ior, 1) := dk_128 (dk_at dksX0_winters_7 21 rfl rfl)
theorem dX0_winters_186 : decode cX0_winters 186 = .ok (.istore 5, 2) := dk_54 5 (dk_at dksX0_winters_7 22 rfl rfl)
theorem dX0_winters_188 : decode cX0_winters 188 = .ok (.aload_n 0, 1) := dk_42 (dk_at dksX0_winters_8 0 rfl rfl)
theorem dX0_winters_189 : decode cX0_winters 189 = .ok (.getfield 300, 3) := dk_180 1 44 (dk_at dksX0_winters_8 1 rfl rfl)
theorem dX0_winters_192 : decode cX0_winters 192 = .ok (.iload 6, 2) := dk_21 6 (dk_at dksX0_winters_8 4 rfl rfl)
theorem dX0_winters_194 : decode cX0_winters 194 = .ok (.iload 5, 2) := dk_21 5 (dk_at dksX0_winters_8 6 rfl rfl)
theorem dX0_winters_196 : decode cX0_winters 196 = .ok (.iastore, 1) := dk_79 (dk_at dksX0_winters_8 8 rfl rfl)
theorem dX0_winters_197 : decode cX0_winters 197 = .ok (.iinc 6 1, 3) := dk_132 6 1 (dk_at dksX0_winters_8 9 rfl rfl)
theorem dX0_winters_200 : decode cX0_winters 200 = .ok (.goto (-133), 3) := dk_167 255 123 (dk_at dksX0_winters_8 12 rfl rfl)
theorem dX0_winters_203 : decode cX0_winters 203 = .ok (.aload_n 0, 1) := dk_42 (dk_at dksX0_winters_8 15 rfl rfl)
theorem dX0_winters_204 : decode cX0_winters 204 = .ok (.iload 5, 2) := dk_21 5 (dk_at dksX0_winters_8 16 rfl rfl)
theorem dX0_winters_206 : decode cX0_winters 206 = .ok (.invokestatic 245, 3) := dk_184 0 245 (dk_at dksX0_winters_8 18 rfl rfl)
theorem dX0_winters_209 : decode cX0_winters 209 = .ok (.invokevirtual 117, 3) := dk_182 0 117 (dk_at dksX0_winters_8 21 rfl rfl)
theorem dX0_winters_212 : decode cX0_winters 212 = .ok (.ireturn, 1) := dk_172 (dk_at dksX0_winters_9 0 rfl rfl)
abbrev cX0_putBack : ByteArray := prog_1_method_49_code
def yX0_putBack : MethodName := ⟨RX0, "putBack", "(LFiveTouch$Scene;I)I"⟩
def dkwX0_putBack_3 : List UInt8 := [132, 5, 1, 167, 255, 189, 29, 172]
abbrev dktX0_putBack_3 : List UInt8 := dkwX0_putBack_3 ++ []
def dkwX0_putBack_2 : List UInt8 := [54, 6, 29, 2, 159, 0, 13, 21, 6, 21, 4, 161, 0, 6, 167, 0, 10, 21, 5, 62, 21, 6, 54, 4]
abbrev dktX0_putBack_2 : List UInt8 := dkwX0_putBack_2 ++ dktX0_putBack_3
def dkwX0_putBack_1 : List UInt8 := [21, 5, 184, 0, 168, 153, 0, 6, 167, 0, 40, 43, 28, 4, 21, 5, 120, 128, 182, 0, 233, 184, 0, 245]
abbrev dktX0_putBack_1 : List UInt8 := dkwX0_putBack_1 ++ dktX0_putBack_2
def dkwX0_putBack_0 : List UInt8 := [2, 62, 3, 54, 4, 3, 54, 5, 21, 5, 42, 180, 0, 18, 180, 0, 85, 182, 0, 89, 162, 0, 58, 28]
abbrev dktX0_putBack_0 : List UInt8 := dkwX0_putBack_0 ++ dktX0_putBack_1
theorem dksX0_putBack_0 : cX0_putBack.data.toList.drop 0 = dktX0_putBack_0 := by decide +kernel
theorem dksX0_putBack_1 : cX0_putBack.data.toList.drop 24 = dktX0_putBack_1 := dk_seg dksX0_putBack_0 24 rfl rfl
theorem dksX0_putBack_2 : cX0_putBack.data.toList.drop 48 = dktX0_putBack_2 := dk_seg dksX0_putBack_1 24 rfl rfl
theorem dksX0_putBack_3 : cX0_putBack.data.toList.drop 72 = dktX0_putBack_3 := dk_seg dksX0_putBack_2 24 rfl rfl
theorem dX0_putBack_0 : decode cX0_putBack 0 = .ok (.iconst (-1), 1) := dk_2 (dk_at dksX0_putBack_0 0 rfl rfl)
theorem dX0_putBack_1 : decode cX0_putBack 1 = .ok (.istore_n 3, 1) := dk_62 (dk_at dksX0_putBack_0 1 rfl rfl)
theorem dX0_putBack_2 : decode cX0_putBack 2 = .ok (.iconst 0, 1) := dk_3 (dk_at dksX0_putBack_0 2 rfl rfl)
theorem dX0_putBack_3 : decode cX0_putBack 3 = .ok (.istore 4, 2) := dk_54 4 (dk_at dksX0_putBack_0 3 rfl rfl)
theorem dX0_putBack_5 : decode cX0_putBack 5 = .ok (.iconst 0, 1) := dk_3 (dk_at dksX0_putBack_0 5 rfl rfl)
theorem dX0_putBack_6 : decode cX0_putBack 6 = .ok (.istore 5, 2) := dk_54 5 (dk_at dksX0_putBack_0 6 rfl rfl)
theorem dX0_putBack_8 : decode cX0_putBack 8 = .ok (.iload 5, 2) := dk_21 5 (dk_at dksX0_putBack_0 8 rfl rfl)
theorem dX0_putBack_10 : decode cX0_putBack 10 = .ok (.aload_n 0, 1) := dk_42 (dk_at dksX0_putBack_0 10 rfl rfl)
theorem dX0_putBack_11 : decode cX0_putBack 11 = .ok (.getfield 18, 3) := dk_180 0 18 (dk_at dksX0_putBack_0 11 rfl rfl)
theorem dX0_putBack_14 : decode cX0_putBack 14 = .ok (.getfield 85, 3) := dk_180 0 85 (dk_at dksX0_putBack_0 14 rfl rfl)
theorem dX0_putBack_17 : decode cX0_putBack 17 = .ok (.invokevirtual 89, 3) := dk_182 0 89 (dk_at dksX0_putBack_0 17 rfl rfl)
theorem dX0_putBack_20 : decode cX0_putBack 20 = .ok (.if_icmp .ge 58, 3) := dk_162 0 58 (dk_at dksX0_putBack_0 20 rfl rfl)
theorem dX0_putBack_23 : decode cX0_putBack 23 = .ok (.iload_n 2, 1) := dk_28 (dk_at dksX0_putBack_0 23 rfl rfl)
theorem dX0_putBack_24 : decode cX0_putBack 24 = .ok (.iload 5, 2) := dk_21 5 (dk_at dksX0_putBack_1 0 rfl rfl)
theorem dX0_putBack_26 : decode cX0_putBack 26 = .ok (.invokestatic 168, 3) := dk_184 0 168 (dk_at dksX0_putBack_1 2 rfl rfl)
theorem dX0_putBack_29 : decode cX0_putBack 29 = .ok (.ifCond .eq 6, 3) := dk_153 0 6 (dk_at dksX0_putBack_1 5 rfl rfl)
theorem dX0_putBack_32 : decode cX0_putBack 32 = .ok (.goto 40, 3) := dk_167 0 40 (dk_at dksX0_putBack_1 8 rfl rfl)
theorem dX0_putBack_35 : decode cX0_putBack 35 = .ok (.aload_n 1, 1) := dk_43 (dk_at dksX0_putBack_1 11 rfl rfl)
theorem dX0_putBack_36 : decode cX0_putBack 36 = .ok (.iload_n 2, 1) := dk_28 (dk_at dksX0_putBack_1 12 rfl rfl)
theorem dX0_putBack_37 : decode cX0_putBack 37 = .ok (.iconst 1, 1) := dk_4 (dk_at dksX0_putBack_1 13 rfl rfl)
theorem dX0_putBack_38 : decode cX0_putBack 38 = .ok (.iload 5, 2) := dk_21 5 (dk_at dksX0_putBack_1 14 rfl rfl)
theorem dX0_putBack_40 : decode cX0_putBack 40 = .ok (.ishl, 1) := dk_120 (dk_at dksX0_putBack_1 16 rfl rfl)
theorem dX0_putBack_41 : decode cX0_putBack 41 = .ok (.ior, 1) := dk_128 (dk_at dksX0_putBack_1 17 rfl rfl)
theorem dX0_putBack_42 : decode cX0_putBack 42 = .ok (.invokevirtual 233, 3) := dk_182 0 233 (dk_at dksX0_putBack_1 18 rfl rfl)
theorem dX0_putBack_45 : decode cX0_putBack 45 = .ok (.invokestatic 245, 3) := dk_184 0 245 (dk_at dksX0_putBack_1 21 rfl rfl)
theorem dX0_putBack_48 : decode cX0_putBack 48 = .ok (.istore 6, 2) := dk_54 6 (dk_at dksX0_putBack_2 0 rfl rfl)
theorem dX0_putBack_50 : decode cX0_putBack 50 = .ok (.iload_n 3, 1) := dk_29 (dk_at dksX0_putBack_2 2 rfl rfl)
theorem dX0_putBack_51 : decode cX0_putBack 51 = .ok (.iconst (-1), 1) := dk_2 (dk_at dksX0_putBack_2 3 rfl rfl)
theorem dX0_putBack_52 : decode cX0_putBack 52 = .ok (.if_icmp .eq 13, 3) := dk_159 0 13 (dk_at dksX0_putBack_2 4 rfl rfl)
theorem dX0_putBack_55 : decode cX0_putBack 55 = .ok (.iload 6, 2) := dk_21 6 (dk_at dksX0_putBack_2 7 rfl rfl)
theorem dX0_putBack_57 : decode cX0_putBack 57 = .ok (.iload 4, 2) := dk_21 4 (dk_at dksX0_putBack_2 9 rfl rfl)
theorem dX0_putBack_59 : decode cX0_putBack 59 = .ok (.if_icmp .lt 6, 3) := dk_161 0 6 (dk_at dksX0_putBack_2 11 rfl rfl)
theorem dX0_putBack_62 : decode cX0_putBack 62 = .ok (.goto 10, 3) := dk_167 0 10 (dk_at dksX0_putBack_2 14 rfl rfl)
theorem dX0_putBack_65 : decode cX0_putBack 65 = .ok (.iload 5, 2) := dk_21 5 (dk_at dksX0_putBack_2 17 rfl rfl)
theorem dX0_putBack_67 : decode cX0_putBack 67 = .ok (.istore_n 3, 1) := dk_62 (dk_at dksX0_putBack_2 19 rfl rfl)
theorem dX0_putBack_68 : decode cX0_putBack 68 = .ok (.iload 6, 2) := dk_21 6 (dk_at dksX0_putBack_2 20 rfl rfl)
theorem dX0_putBack_70 : decode cX0_putBack 70 = .ok (.istore 4, 2) := dk_54 4 (dk_at dksX0_putBack_2 22 rfl rfl)
theorem dX0_putBack_72 : decode cX0_putBack 72 = .ok (.iinc 5 1, 3) := dk_132 5 1 (dk_at dksX0_putBack_3 0 rfl rfl)
theorem dX0_putBack_75 : decode cX0_putBack 75 = .ok (.goto (-67), 3) := dk_167 255 189 (dk_at dksX0_putBack_3 3 rfl rfl)
theorem dX0_putBack_78 : decode cX0_putBack 78 = .ok (.iload_n 3, 1) := dk_29 (dk_at dksX0_putBack_3 6 rfl rfl)
theorem dX0_putBack_79 : decode cX0_putBack 79 = .ok (.ireturn, 1) := dk_172 (dk_at dksX0_putBack_3 7 rfl rfl)
abbrev cX0_winter : ByteArray := prog_1_method_50_code
def yX0_winter : MethodName := ⟨RX0, "winter", "(I)I"⟩
def dkwX0_winter_1 : List UInt8 := [42, 180, 1, 44, 27, 46, 167, 0, 4, 2, 172]
abbrev dktX0_winter_1 : List UInt8 := dkwX0_winter_1 ++ []
def dkwX0_winter_0 : List UInt8 := [42, 180, 1, 44, 198, 0, 29, 27, 133, 9, 42, 180, 1, 44, 190, 4, 100, 133, 184, 0, 95, 153, 0, 12]
abbrev dktX0_winter_0 : List UInt8 := dkwX0_winter_0 ++ dktX0_winter_1
theorem dksX0_winter_0 : cX0_winter.data.toList.drop 0 = dktX0_winter_0 := by decide +kernel
theorem dksX0_winter_1 : cX0_winter.data.toList.drop 24 = dktX0_winter_1 := dk_seg dksX0_winter_0 24 rfl rfl
theorem dX0_winter_0 : decode cX0_winter 0 = .ok (.aload_n 0, 1) := dk_42 (dk_at dksX0_winter_0 0 rfl rfl)
theorem dX0_winter_1 : decode cX0_winter 1 = .ok (.getfield 300, 3) := dk_180 1 44 (dk_at dksX0_winter_0 1 rfl rfl)
theorem dX0_winter_4 : decode cX0_winter 4 = .ok (.ifnull 29, 3) := dk_198 0 29 (dk_at dksX0_winter_0 4 rfl rfl)
theorem dX0_winter_7 : decode cX0_winter 7 = .ok (.iload_n 1, 1) := dk_27 (dk_at dksX0_winter_0 7 rfl rfl)
theorem dX0_winter_8 : decode cX0_winter 8 = .ok (.i2l, 1) := dk_133 (dk_at dksX0_winter_0 8 rfl rfl)
theorem dX0_winter_9 : decode cX0_winter 9 = .ok (.lconst 0, 1) := dk_9 (dk_at dksX0_winter_0 9 rfl rfl)
theorem dX0_winter_10 : decode cX0_winter 10 = .ok (.aload_n 0, 1) := dk_42 (dk_at dksX0_winter_0 10 rfl rfl)
theorem dX0_winter_11 : decode cX0_winter 11 = .ok (.getfield 300, 3) := dk_180 1 44 (dk_at dksX0_winter_0 11 rfl rfl)
theorem dX0_winter_14 : decode cX0_winter 14 = .ok (.arraylength, 1) := dk_190 (dk_at dksX0_winter_0 14 rfl rfl)
theorem dX0_winter_15 : decode cX0_winter 15 = .ok (.iconst 1, 1) := dk_4 (dk_at dksX0_winter_0 15 rfl rfl)
theorem dX0_winter_16 : decode cX0_winter 16 = .ok (.isub, 1) := dk_100 (dk_at dksX0_winter_0 16 rfl rfl)
theorem dX0_winter_17 : decode cX0_winter 17 = .ok (.i2l, 1) := dk_133 (dk_at dksX0_winter_0 17 rfl rfl)
theorem dX0_winter_18 : decode cX0_winter 18 = .ok (.invokestatic 95, 3) := dk_184 0 95 (dk_at dksX0_winter_0 18 rfl rfl)
theorem dX0_winter_21 : decode cX0_winter 21 = .ok (.ifCond .eq 12, 3) := dk_153 0 12 (dk_at dksX0_winter_0 21 rfl rfl)
theorem dX0_winter_24 : decode cX0_winter 24 = .ok (.aload_n 0, 1) := dk_42 (dk_at dksX0_winter_1 0 rfl rfl)
theorem dX0_winter_25 : decode cX0_winter 25 = .ok (.getfield 300, 3) := dk_180 1 44 (dk_at dksX0_winter_1 1 rfl rfl)
theorem dX0_winter_28 : decode cX0_winter 28 = .ok (.iload_n 1, 1) := dk_27 (dk_at dksX0_winter_1 4 rfl rfl)
theorem dX0_winter_29 : decode cX0_winter 29 = .ok (.iaload, 1) := dk_46 (dk_at dksX0_winter_1 5 rfl rfl)
theorem dX0_winter_30 : decode cX0_winter 30 = .ok (.goto 4, 3) := dk_167 0 4 (dk_at dksX0_winter_1 6 rfl rfl)
theorem dX0_winter_33 : decode cX0_winter 33 = .ok (.iconst (-1), 1) := dk_2 (dk_at dksX0_winter_1 9 rfl rfl)
theorem dX0_winter_34 : decode cX0_winter 34 = .ok (.ireturn, 1) := dk_172 (dk_at dksX0_winter_1 10 rfl rfl)
abbrev cX0_image : ByteArray := prog_1_method_51_code
def yX0_image : MethodName := ⟨RX0, "image", "(I)I"⟩
def dkwX0_image_1 : List UInt8 := [180, 0, 18, 182, 1, 53, 83, 42, 3, 182, 0, 117, 172]
abbrev dktX0_image_1 : List UInt8 := dkwX0_image_1 ++ []
def dkwX0_image_0 : List UInt8 := [27, 133, 9, 10, 184, 0, 95, 154, 0, 9, 42, 2, 182, 0, 117, 172, 42, 180, 0, 22, 27, 42]
abbrev dktX0_image_0 : List UInt8 := dkwX0_image_0 ++ dktX0_image_1
theorem dksX0_image_0 : cX0_image.data.toList.drop 0 = dktX0_image_0 := by decide +kernel
theorem dksX0_image_1 : cX0_image.data.toList.drop 22 = dktX0_image_1 := dk_seg dksX0_image_0 22 rfl rfl
theorem dX0_image_0 : decode cX0_image 0 = .ok (.iload_n 1, 1) := dk_27 (dk_at dksX0_image_0 0 rfl rfl)
theorem dX0_image_1 : decode cX0_image 1 = .ok (.i2l, 1) := dk_133 (dk_at dksX0_image_0 1 rfl rfl)
theorem dX0_image_2 : decode cX0_image 2 = .ok (.lconst 0, 1) := dk_9 (dk_at dksX0_image_0 2 rfl rfl)
theorem dX0_image_3 : decode cX0_image 3 = .ok (.lconst 1, 1) := dk_10 (dk_at dksX0_image_0 3 rfl rfl)
theorem dX0_image_4 : decode cX0_image 4 = .ok (.invokestatic 95, 3) := dk_184 0 95 (dk_at dksX0_image_0 4 rfl rfl)
theorem dX0_image_7 : decode cX0_image 7 = .ok (.ifCond .ne 9, 3) := dk_154 0 9 (dk_at dksX0_image_0 7 rfl rfl)
theorem dX0_image_10 : decode cX0_image 10 = .ok (.aload_n 0, 1) := dk_42 (dk_at dksX0_image_0 10 rfl rfl)
theorem dX0_image_11 : decode cX0_image 11 = .ok (.iconst (-1), 1) := dk_2 (dk_at dksX0_image_0 11 rfl rfl)
theorem dX0_image_12 : decode cX0_image 12 = .ok (.invokevirtual 117, 3) := dk_182 0 117 (dk_at dksX0_image_0 12 rfl rfl)
theorem dX0_image_15 : decode cX0_image 15 = .ok (.ireturn, 1) := dk_172 (dk_at dksX0_image_0 15 rfl rfl)
theorem dX0_image_16 : decode cX0_image 16 = .ok (.aload_n 0, 1) := dk_42 (dk_at dksX0_image_0 16 rfl rfl)
theorem dX0_image_17 : decode cX0_image 17 = .ok (.getfield 22, 3) := dk_180 0 22 (dk_at dksX0_image_0 17 rfl rfl)
theorem dX0_image_20 : decode cX0_image 20 = .ok (.iload_n 1, 1) := dk_27 (dk_at dksX0_image_0 20 rfl rfl)
theorem dX0_image_21 : decode cX0_image 21 = .ok (.aload_n 0, 1) := dk_42 (dk_at dksX0_image_0 21 rfl rfl)
theorem dX0_image_22 : decode cX0_image 22 = .ok (.getfield 18, 3) := dk_180 0 18 (dk_at dksX0_image_1 0 rfl rfl)
theorem dX0_image_25 : decode cX0_image 25 = .ok (.invokevirtual 309, 3) := dk_182 1 53 (dk_at dksX0_image_1 3 rfl rfl)
theorem dX0_image_28 : decode cX0_image 28 = .ok (.aastore, 1) := dk_83 (dk_at dksX0_image_1 6 rfl rfl)
theorem dX0_image_29 : decode cX0_image 29 = .ok (.aload_n 0, 1) := dk_42 (dk_at dksX0_image_1 7 rfl rfl)
theorem dX0_image_30 : decode cX0_image 30 = .ok (.iconst 0, 1) := dk_3 (dk_at dksX0_image_1 8 rfl rfl)
theorem dX0_image_31 : decode cX0_image 31 = .ok (.invokevirtual 117, 3) := dk_182 0 117 (dk_at dksX0_image_1 9 rfl rfl)
theorem dX0_image_34 : decode cX0_image 34 = .ok (.ireturn, 1) := dk_172 (dk_at dksX0_image_1 12 rfl rfl)
abbrev cX0_back : ByteArray := prog_1_method_52_code
def yX0_back : MethodName := ⟨RX0, "back", "(I)I"⟩
def dkwX0_back_2 : List UInt8 := [3, 182, 0, 131, 172]
abbrev dktX0_back_2 : List UInt8 := dkwX0_back_2 ++ []
def dkwX0_back_1 : List UInt8 := [199, 0, 10, 42, 16, 254, 182, 0, 117, 172, 42, 42, 180, 0, 22, 27, 50, 182, 1, 53, 181, 0, 18, 42]
abbrev dktX0_back_1 : List UInt8 := dkwX0_back_1 ++ dktX0_back_2
def dkwX0_back_0 : List UInt8 := [27, 133, 9, 10, 184, 0, 95, 154, 0, 9, 42, 2, 182, 0, 117, 172, 42, 180, 0, 22, 27, 50]
abbrev dktX0_back_0 : List UInt8 := dkwX0_back_0 ++ dktX0_back_1
theorem dksX0_back_0 : cX0_back.data.toList.drop 0 = dktX0_back_0 := by decide +kernel
theorem dksX0_back_1 : cX0_back.data.toList.drop 22 = dktX0_back_1 := dk_seg dksX0_back_0 22 rfl rfl
theorem dksX0_back_2 : cX0_back.data.toList.drop 46 = dktX0_back_2 := dk_seg dksX0_back_1 24 rfl rfl
theorem dX0_back_0 : decode cX0_back 0 = .ok (.iload_n 1, 1) := dk_27 (dk_at dksX0_back_0 0 rfl rfl)
theorem dX0_back_1 : decode cX0_back 1 = .ok (.i2l, 1) := dk_133 (dk_at dksX0_back_0 1 rfl rfl)
theorem dX0_back_2 : decode cX0_back 2 = .ok (.lconst 0, 1) := dk_9 (dk_at dksX0_back_0 2 rfl rfl)
theorem dX0_back_3 : decode cX0_back 3 = .ok (.lconst 1, 1) := dk_10 (dk_at dksX0_back_0 3 rfl rfl)
theorem dX0_back_4 : decode cX0_back 4 = .ok (.invokestatic 95, 3) := dk_184 0 95 (dk_at dksX0_back_0 4 rfl rfl)
theorem dX0_back_7 : decode cX0_back 7 = .ok (.ifCond .ne 9, 3) := dk_154 0 9 (dk_at dksX0_back_0 7 rfl rfl)
theorem dX0_back_10 : decode cX0_back 10 = .ok (.aload_n 0, 1) := dk_42 (dk_at dksX0_back_0 10 rfl rfl)
theorem dX0_back_11 : decode cX0_back 11 = .ok (.iconst (-1), 1) := dk_2 (dk_at dksX0_back_0 11 rfl rfl)
theorem dX0_back_12 : decode cX0_back 12 = .ok (.invokevirtual 117, 3) := dk_182 0 117 (dk_at dksX0_back_0 12 rfl rfl)
theorem dX0_back_15 : decode cX0_back 15 = .ok (.ireturn, 1) := dk_172 (dk_at dksX0_back_0 15 rfl rfl)
theorem dX0_back_16 : decode cX0_back 16 = .ok (.aload_n 0, 1) := dk_42 (dk_at dksX0_back_0 16 rfl rfl)
theorem dX0_back_17 : decode cX0_back 17 = .ok (.getfield 22, 3) := dk_180 0 22 (dk_at dksX0_back_0 17 rfl rfl)
theorem dX0_back_20 : decode cX0_back 20 = .ok (.iload_n 1, 1) := dk_27 (dk_at dksX0_back_0 20 rfl rfl)
theorem dX0_back_21 : decode cX0_back 21 = .ok (.aaload, 1) := dk_50 (dk_at dksX0_back_0 21 rfl rfl)
theorem dX0_back_22 : decode cX0_back 22 = .ok (.ifnonnull 10, 3) := dk_199 0 10 (dk_at dksX0_back_1 0 rfl rfl)
theorem dX0_back_25 : decode cX0_back 25 = .ok (.aload_n 0, 1) := dk_42 (dk_at dksX0_back_1 3 rfl rfl)
theorem dX0_back_26 : decode cX0_back 26 = .ok (.bipush (-2), 2) := dk_16 254 (dk_at dksX0_back_1 4 rfl rfl)
theorem dX0_back_28 : decode cX0_back 28 = .ok (.invokevirtual 117, 3) := dk_182 0 117 (dk_at dksX0_back_1 6 rfl rfl)
theorem dX0_back_31 : decode cX0_back 31 = .ok (.ireturn, 1) := dk_172 (dk_at dksX0_back_1 9 rfl rfl)
theorem dX0_back_32 : decode cX0_back 32 = .ok (.aload_n 0, 1) := dk_42 (dk_at dksX0_back_1 10 rfl rfl)
theorem dX0_back_33 : decode cX0_back 33 = .ok (.aload_n 0, 1) := dk_42 (dk_at dksX0_back_1 11 rfl rfl)
theorem dX0_back_34 : decode cX0_back 34 = .ok (.getfield 22, 3) := dk_180 0 22 (dk_at dksX0_back_1 12 rfl rfl)
theorem dX0_back_37 : decode cX0_back 37 = .ok (.iload_n 1, 1) := dk_27 (dk_at dksX0_back_1 15 rfl rfl)
theorem dX0_back_38 : decode cX0_back 38 = .ok (.aaload, 1) := dk_50 (dk_at dksX0_back_1 16 rfl rfl)
theorem dX0_back_39 : decode cX0_back 39 = .ok (.invokevirtual 309, 3) := dk_182 1 53 (dk_at dksX0_back_1 17 rfl rfl)
theorem dX0_back_42 : decode cX0_back 42 = .ok (.putfield 18, 3) := dk_181 0 18 (dk_at dksX0_back_1 20 rfl rfl)
theorem dX0_back_45 : decode cX0_back 45 = .ok (.aload_n 0, 1) := dk_42 (dk_at dksX0_back_1 23 rfl rfl)
theorem dX0_back_46 : decode cX0_back 46 = .ok (.iconst 0, 1) := dk_3 (dk_at dksX0_back_2 0 rfl rfl)
theorem dX0_back_47 : decode cX0_back 47 = .ok (.invokevirtual 131, 3) := dk_182 0 131 (dk_at dksX0_back_2 1 rfl rfl)
theorem dX0_back_50 : decode cX0_back 50 = .ok (.ireturn, 1) := dk_172 (dk_at dksX0_back_2 4 rfl rfl)
abbrev cX0_count : ByteArray := prog_1_method_53_code
def yX0_count : MethodName := ⟨RX0, "count", "(I)I"⟩
def dkwX0_count_7 : List UInt8 := [100, 46, 167, 0, 4, 2, 172]
abbrev dktX0_count_7 : List UInt8 := dkwX0_count_7 ++ []
def dkwX0_count_6 : List UInt8 := [27, 133, 20, 0, 250, 20, 1, 57, 184, 0, 95, 153, 0, 18, 42, 180, 0, 18, 180, 0, 178, 27, 16, 11]
abbrev dktX0_count_6 : List UInt8 := dkwX0_count_6 ++ dktX0_count_7
def dkwX0_count_5 : List UInt8 := [172, 42, 180, 0, 44, 8, 46, 172, 42, 180, 0, 44, 16, 6, 46, 172, 42, 180, 0, 18, 180, 0, 213, 172]
abbrev dktX0_count_5 : List UInt8 := dkwX0_count_5 ++ dktX0_count_6
def dkwX0_count_4 : List UInt8 := [180, 0, 104, 172, 42, 180, 0, 44, 4, 46, 172, 42, 180, 0, 44, 5, 46, 172, 42, 180, 0, 44, 6, 46]
abbrev dktX0_count_4 : List UInt8 := dkwX0_count_4 ++ dktX0_count_5
def dkwX0_count_3 : List UInt8 := [180, 0, 18, 180, 0, 134, 182, 0, 89, 172, 42, 180, 0, 18, 180, 0, 198, 182, 0, 89, 172, 42]
abbrev dktX0_count_3 : List UInt8 := dkwX0_count_3 ++ dktX0_count_4
def dkwX0_count_2 : List UInt8 := [42, 180, 0, 18, 180, 0, 85, 182, 0, 89, 172, 42, 180, 0, 18, 180, 0, 101, 184, 0, 245, 172, 42]
abbrev dktX0_count_2 : List UInt8 := dkwX0_count_2 ++ dktX0_count_3
def dkwX0_count_1 : List UInt8 := [170, 0, 0, 0, 0, 0, 152, 0, 0, 0, 0, 0, 0, 0, 10, 0, 0, 0, 59, 0, 0, 0, 70, 0, 0, 0, 81, 0, 0, 0, 92, 0, 0, 0, 103, 0, 0, 0, 108, 0, 0, 0, 115, 0, 0, 0, 122, 0, 0, 0, 129, 0, 0, 0, 136, 0, 0, 0, 144]
abbrev dktX0_count_1 : List UInt8 := dkwX0_count_1 ++ dktX0_count_2
def dkwX0_count_0 : List UInt8 := [27]
abbrev dktX0_count_0 : List UInt8 := dkwX0_count_0 ++ dktX0_count_1
theorem dksX0_count_0 : cX0_count.data.toList.drop 0 = dktX0_count_0 := by decide +kernel
theorem dksX0_count_1 : cX0_count.data.toList.drop 1 = dktX0_count_1 := dk_seg dksX0_count_0 1 rfl rfl
theorem dksX0_count_2 : cX0_count.data.toList.drop 60 = dktX0_count_2 := dk_seg dksX0_count_1 59 rfl rfl
theorem dksX0_count_3 : cX0_count.data.toList.drop 83 = dktX0_count_3 := dk_seg dksX0_count_2 23 rfl rfl
theorem dksX0_count_4 : cX0_count.data.toList.drop 105 = dktX0_count_4 := dk_seg dksX0_count_3 22 rfl rfl
theorem dksX0_count_5 : cX0_count.data.toList.drop 129 = dktX0_count_5 := dk_seg dksX0_count_4 24 rfl rfl
theorem dksX0_count_6 : cX0_count.data.toList.drop 153 = dktX0_count_6 := dk_seg dksX0_count_5 24 rfl rfl
theorem dksX0_count_7 : cX0_count.data.toList.drop 177 = dktX0_count_7 := dk_seg dksX0_count_6 24 rfl rfl
theorem dX0_count_0 : decode cX0_count 0 = .ok (.iload_n 1, 1) := dk_27 (dk_at dksX0_count_0 0 rfl rfl)
theorem dX0_count_1 : decode cX0_count 1 = .ok (.tableswitch 152 0 10 #[59, 70, 81, 92, 103, 108, 115, 122, 129, 136, 144], 59) := by decide +kernel
theorem dX0_count_60 : decode cX0_count 60 = .ok (.aload_n 0, 1) := dk_42 (dk_at dksX0_count_2 0 rfl rfl)
theorem dX0_count_61 : decode cX0_count 61 = .ok (.getfield 18, 3) := dk_180 0 18 (dk_at dksX0_count_2 1 rfl rfl)
theorem dX0_count_64 : decode cX0_count 64 = .ok (.getfield 85, 3) := dk_180 0 85 (dk_at dksX0_count_2 4 rfl rfl)
theorem dX0_count_67 : decode cX0_count 67 = .ok (.invokevirtual 89, 3) := dk_182 0 89 (dk_at dksX0_count_2 7 rfl rfl)
theorem dX0_count_70 : decode cX0_count 70 = .ok (.ireturn, 1) := dk_172 (dk_at dksX0_count_2 10 rfl rfl)
theorem dX0_count_71 : decode cX0_count 71 = .ok (.aload_n 0, 1) := dk_42 (dk_at dksX0_count_2 11 rfl rfl)
theorem dX0_count_72 : decode cX0_count 72 = .ok (.getfield 18, 3) := dk_180 0 18 (dk_at dksX0_count_2 12 rfl rfl)
theorem dX0_count_75 : decode cX0_count 75 = .ok (.getfield 101, 3) := dk_180 0 101 (dk_at dksX0_count_2 15 rfl rfl)
theorem dX0_count_78 : decode cX0_count 78 = .ok (.invokestatic 245, 3) := dk_184 0 245 (dk_at dksX0_count_2 18 rfl rfl)
theorem dX0_count_81 : decode cX0_count 81 = .ok (.ireturn, 1) := dk_172 (dk_at dksX0_count_2 21 rfl rfl)
theorem dX0_count_82 : decode cX0_count 82 = .ok (.aload_n 0, 1) := dk_42 (dk_at dksX0_count_2 22 rfl rfl)
theorem dX0_count_83 : decode cX0_count 83 = .ok (.getfield 18, 3) := dk_180 0 18 (dk_at dksX0_count_3 0 rfl rfl)
theorem dX0_count_86 : decode cX0_count 86 = .ok (.getfield 134, 3) := dk_180 0 134 (dk_at dksX0_count_3 3 rfl rfl)
theorem dX0_count_89 : decode cX0_count 89 = .ok (.invokevirtual 89, 3) := dk_182 0 89 (dk_at dksX0_count_3 6 rfl rfl)
theorem dX0_count_92 : decode cX0_count 92 = .ok (.ireturn, 1) := dk_172 (dk_at dksX0_count_3 9 rfl rfl)
theorem dX0_count_93 : decode cX0_count 93 = .ok (.aload_n 0, 1) := dk_42 (dk_at dksX0_count_3 10 rfl rfl)
theorem dX0_count_94 : decode cX0_count 94 = .ok (.getfield 18, 3) := dk_180 0 18 (dk_at dksX0_count_3 11 rfl rfl)
theorem dX0_count_97 : decode cX0_count 97 = .ok (.getfield 198, 3) := dk_180 0 198 (dk_at dksX0_count_3 14 rfl rfl)
theorem dX0_count_100 : decode cX0_count 100 = .ok (.invokevirtual 89, 3) := dk_182 0 89 (dk_at dksX0_count_3 17 rfl rfl)
theorem dX0_count_103 : decode cX0_count 103 = .ok (.ireturn, 1) := dk_172 (dk_at dksX0_count_3 20 rfl rfl)
theorem dX0_count_104 : decode cX0_count 104 = .ok (.aload_n 0, 1) := dk_42 (dk_at dksX0_count_3 21 rfl rfl)
theorem dX0_count_105 : decode cX0_count 105 = .ok (.getfield 104, 3) := dk_180 0 104 (dk_at dksX0_count_4 0 rfl rfl)
theorem dX0_count_108 : decode cX0_count 108 = .ok (.ireturn, 1) := dk_172 (dk_at dksX0_count_4 3 rfl rfl)
theorem dX0_count_109 : decode cX0_count 109 = .ok (.aload_n 0, 1) := dk_42 (dk_at dksX0_count_4 4 rfl rfl)
theorem dX0_count_110 : decode cX0_count 110 = .ok (.getfield 44, 3) := dk_180 0 44 (dk_at dksX0_count_4 5 rfl rfl)
theorem dX0_count_113 : decode cX0_count 113 = .ok (.iconst 1, 1) := dk_4 (dk_at dksX0_count_4 8 rfl rfl)
theorem dX0_count_114 : decode cX0_count 114 = .ok (.iaload, 1) := dk_46 (dk_at dksX0_count_4 9 rfl rfl)
theorem dX0_count_115 : decode cX0_count 115 = .ok (.ireturn, 1) := dk_172 (dk_at dksX0_count_4 10 rfl rfl)
theorem dX0_count_116 : decode cX0_count 116 = .ok (.aload_n 0, 1) := dk_42 (dk_at dksX0_count_4 11 rfl rfl)
theorem dX0_count_117 : decode cX0_count 117 = .ok (.getfield 44, 3) := dk_180 0 44 (dk_at dksX0_count_4 12 rfl rfl)
theorem dX0_count_120 : decode cX0_count 120 = .ok (.iconst 2, 1) := dk_5 (dk_at dksX0_count_4 15 rfl rfl)
theorem dX0_count_121 : decode cX0_count 121 = .ok (.iaload, 1) := dk_46 (dk_at dksX0_count_4 16 rfl rfl)
theorem dX0_count_122 : decode cX0_count 122 = .ok (.ireturn, 1) := dk_172 (dk_at dksX0_count_4 17 rfl rfl)
theorem dX0_count_123 : decode cX0_count 123 = .ok (.aload_n 0, 1) := dk_42 (dk_at dksX0_count_4 18 rfl rfl)
theorem dX0_count_124 : decode cX0_count 124 = .ok (.getfield 44, 3) := dk_180 0 44 (dk_at dksX0_count_4 19 rfl rfl)
theorem dX0_count_127 : decode cX0_count 127 = .ok (.iconst 3, 1) := dk_6 (dk_at dksX0_count_4 22 rfl rfl)
theorem dX0_count_128 : decode cX0_count 128 = .ok (.iaload, 1) := dk_46 (dk_at dksX0_count_4 23 rfl rfl)
theorem dX0_count_129 : decode cX0_count 129 = .ok (.ireturn, 1) := dk_172 (dk_at dksX0_count_5 0 rfl rfl)
theorem dX0_count_130 : decode cX0_count 130 = .ok (.aload_n 0, 1) := dk_42 (dk_at dksX0_count_5 1 rfl rfl)
theorem dX0_count_131 : decode cX0_count 131 = .ok (.getfield 44, 3) := dk_180 0 44 (dk_at dksX0_count_5 2 rfl rfl)
theorem dX0_count_134 : decode cX0_count 134 = .ok (.iconst 5, 1) := dk_8 (dk_at dksX0_count_5 5 rfl rfl)
theorem dX0_count_135 : decode cX0_count 135 = .ok (.iaload, 1) := dk_46 (dk_at dksX0_count_5 6 rfl rfl)
theorem dX0_count_136 : decode cX0_count 136 = .ok (.ireturn, 1) := dk_172 (dk_at dksX0_count_5 7 rfl rfl)
theorem dX0_count_137 : decode cX0_count 137 = .ok (.aload_n 0, 1) := dk_42 (dk_at dksX0_count_5 8 rfl rfl)
theorem dX0_count_138 : decode cX0_count 138 = .ok (.getfield 44, 3) := dk_180 0 44 (dk_at dksX0_count_5 9 rfl rfl)
theorem dX0_count_141 : decode cX0_count 141 = .ok (.bipush 6, 2) := dk_16 6 (dk_at dksX0_count_5 12 rfl rfl)
theorem dX0_count_143 : decode cX0_count 143 = .ok (.iaload, 1) := dk_46 (dk_at dksX0_count_5 14 rfl rfl)
theorem dX0_count_144 : decode cX0_count 144 = .ok (.ireturn, 1) := dk_172 (dk_at dksX0_count_5 15 rfl rfl)
theorem dX0_count_145 : decode cX0_count 145 = .ok (.aload_n 0, 1) := dk_42 (dk_at dksX0_count_5 16 rfl rfl)
theorem dX0_count_146 : decode cX0_count 146 = .ok (.getfield 18, 3) := dk_180 0 18 (dk_at dksX0_count_5 17 rfl rfl)
theorem dX0_count_149 : decode cX0_count 149 = .ok (.getfield 213, 3) := dk_180 0 213 (dk_at dksX0_count_5 20 rfl rfl)
theorem dX0_count_152 : decode cX0_count 152 = .ok (.ireturn, 1) := dk_172 (dk_at dksX0_count_5 23 rfl rfl)
theorem dX0_count_153 : decode cX0_count 153 = .ok (.iload_n 1, 1) := dk_27 (dk_at dksX0_count_6 0 rfl rfl)
theorem dX0_count_154 : decode cX0_count 154 = .ok (.i2l, 1) := dk_133 (dk_at dksX0_count_6 1 rfl rfl)
theorem dX0_count_155 : decode cX0_count 155 = .ok (.ldc2_w 250, 3) := dk_20 0 250 (dk_at dksX0_count_6 2 rfl rfl)
theorem dX0_count_158 : decode cX0_count 158 = .ok (.ldc2_w 313, 3) := dk_20 1 57 (dk_at dksX0_count_6 5 rfl rfl)
theorem dX0_count_161 : decode cX0_count 161 = .ok (.invokestatic 95, 3) := dk_184 0 95 (dk_at dksX0_count_6 8 rfl rfl)
theorem dX0_count_164 : decode cX0_count 164 = .ok (.ifCond .eq 18, 3) := dk_153 0 18 (dk_at dksX0_count_6 11 rfl rfl)
theorem dX0_count_167 : decode cX0_count 167 = .ok (.aload_n 0, 1) := dk_42 (dk_at dksX0_count_6 14 rfl rfl)
theorem dX0_count_168 : decode cX0_count 168 = .ok (.getfield 18, 3) := dk_180 0 18 (dk_at dksX0_count_6 15 rfl rfl)
theorem dX0_count_171 : decode cX0_count 171 = .ok (.getfield 178, 3) := dk_180 0 178 (dk_at dksX0_count_6 18 rfl rfl)
theorem dX0_count_174 : decode cX0_count 174 = .ok (.iload_n 1, 1) := dk_27 (dk_at dksX0_count_6 21 rfl rfl)
theorem dX0_count_175 : decode cX0_count 175 = .ok (.bipush 11, 2) := dk_16 11 (dk_at dksX0_count_6 22 rfl rfl)
theorem dX0_count_177 : decode cX0_count 177 = .ok (.isub, 1) := dk_100 (dk_at dksX0_count_7 0 rfl rfl)
theorem dX0_count_178 : decode cX0_count 178 = .ok (.iaload, 1) := dk_46 (dk_at dksX0_count_7 1 rfl rfl)
theorem dX0_count_179 : decode cX0_count 179 = .ok (.goto 4, 3) := dk_167 0 4 (dk_at dksX0_count_7 2 rfl rfl)
theorem dX0_count_182 : decode cX0_count 182 = .ok (.iconst (-1), 1) := dk_2 (dk_at dksX0_count_7 5 rfl rfl)
theorem dX0_count_183 : decode cX0_count 183 = .ok (.ireturn, 1) := dk_172 (dk_at dksX0_count_7 6 rfl rfl)
abbrev cX0_status : ByteArray := prog_1_method_54_code
def yX0_status : MethodName := ⟨RX0, "status", "()I"⟩
theorem dX0_status_0 : decode cX0_status 0 = .ok (.aload_n 0, 1) := by decide +kernel
theorem dX0_status_1 : decode cX0_status 1 = .ok (.getfield 78, 3) := by decide +kernel
theorem dX0_status_4 : decode cX0_status 4 = .ok (.ireturn, 1) := by decide +kernel
theorem q86 : (Jvm.Cond.initialized "FiveTouch") ∈ lw_all := lw_g (lw_at lw_m1 1 rfl) rfl
theorem q129 : (Jvm.Cond.instantiable "FiveTouch" (14 : Nat)) ∈ lw_all := lw_g (lw_at lw_m1 44 rfl) rfl
theorem q131 : (Jvm.Cond.instanceMethod ({ cls := "FiveTouch", name := "<init>", desc := "()V" } : Jvm.MethodName)) ∈ lw_all := lw_g (lw_at lw_m1 46 rfl) rfl
theorem q132 : (Jvm.Cond.code ({ cls := "FiveTouch", name := "<init>", desc := "()V" } : Jvm.MethodName) prog_1_method_4_code (1 : Nat) (Option.none : Option Jvm.ClassFile.FieldType)) ∈ lw_all := lw_g (lw_at lw_m1 47 rfl) rfl
theorem q133 : (Jvm.Cond.methodLink "FiveTouch" (9 : Nat) ({ cls := "java/lang/Object", name := "<init>", desc := "()V" } : Jvm.MethodName)) ∈ lw_all := lw_g (lw_at lw_m1 48 rfl) rfl
theorem q136 : (Jvm.Cond.classLink "FiveTouch" (15 : Nat) "FiveTouch$Yard") ∈ lw_all := lw_g (lw_at lw_m1 51 rfl) rfl
theorem q138 : (Jvm.Cond.methodLinkNest "FiveTouch" (17 : Nat) ({ cls := "FiveTouch$Yard", name := "<init>", desc := "()V" } : Jvm.MethodName) "FiveTouch") ∈ lw_tbl := lw_at lw_m1 53 rfl
theorem q169 : (Jvm.Cond.fieldLinkNest "FiveTouch" (198 : Nat) "FiveTouch$Yard" "laws" "Ljava/util/ArrayList;" "FiveTouch") ∈ lw_tbl := lw_at lw_m1 84 rfl
theorem q171 : (Jvm.Cond.fieldLinkNest "FiveTouch" (85 : Nat) "FiveTouch$Yard" "stones" "Ljava/util/ArrayList;" "FiveTouch") ∈ lw_tbl := lw_at lw_m1 86 rfl
theorem q174 : (Jvm.Cond.fieldLinkNest "FiveTouch" (134 : Nat) "FiveTouch$Yard" "spares" "Ljava/util/ArrayList;" "FiveTouch") ∈ lw_tbl := lw_at lw_m1 89 rfl
theorem q177 : (Jvm.Cond.fieldLinkNest "FiveTouch" (178 : Nat) "FiveTouch$Yard" "terms" "[I" "FiveTouch") ∈ lw_tbl := lw_at lw_m1 92 rfl
theorem q183 : (Jvm.Cond.fieldLinkNest "FiveTouch" (101 : Nat) "FiveTouch$Yard" "there" "I" "FiveTouch") ∈ lw_tbl := lw_at lw_m1 98 rfl
theorem q185 : (Jvm.Cond.fieldLinkNest "FiveTouch" (213 : Nat) "FiveTouch$Yard" "inForce" "I" "FiveTouch") ∈ lw_tbl := lw_at lw_m1 100 rfl
theorem q201 : (Jvm.Cond.classLink "FiveTouch" (26 : Nat) "FiveTouch$Asked") ∈ lw_all := lw_g (lw_at lw_m1 116 rfl) rfl
theorem q203 : (Jvm.Cond.methodLinkNest "FiveTouch" (28 : Nat) ({ cls := "FiveTouch$Asked", name := "<init>", desc := "()V" } : Jvm.MethodName) "FiveTouch") ∈ lw_tbl := lw_at lw_m1 118 rfl
theorem q222 : (Jvm.Cond.classLink "FiveTouch" (33 : Nat) "FiveTouch$Text") ∈ lw_all := lw_g (lw_at lw_m1 137 rfl) rfl
theorem q224 : (Jvm.Cond.classLink "FiveTouch" (35 : Nat) "FiveTouch$Clause") ∈ lw_all := lw_g (lw_at lw_m1 139 rfl) rfl
theorem q226 : (Jvm.Cond.methodLink "FiveTouch" (37 : Nat) ({ cls := "FiveTouch$Text", name := "<init>", desc := "([LFiveTouch$Clause;)V" } : Jvm.MethodName)) ∈ lw_all := lw_g (lw_at lw_m1 141 rfl) rfl
theorem q234 : (Jvm.Cond.classLink "FiveTouch" (56 : Nat) "FiveTouch$Scene") ∈ lw_all := lw_g (lw_at lw_m1 149 rfl) rfl
theorem q236 : (Jvm.Cond.methodLinkNest "FiveTouch" (58 : Nat) ({ cls := "FiveTouch$Scene", name := "<init>", desc := "(LFiveTouch;)V" } : Jvm.MethodName) "FiveTouch") ∈ lw_tbl := lw_at lw_m1 151 rfl
theorem q241 : (Jvm.Cond.fieldLinkNest "FiveTouch" (221 : Nat) "FiveTouch$Scene" "needs" "[I" "FiveTouch") ∈ lw_tbl := lw_at lw_m1 156 rfl
theorem q244 : (Jvm.Cond.fieldLinkNest "FiveTouch" (230 : Nat) "FiveTouch$Scene" "near" "[I" "FiveTouch") ∈ lw_tbl := lw_at lw_m1 159 rfl
theorem q246 : (Jvm.Cond.fieldLinkNest "FiveTouch" (227 : Nat) "FiveTouch$Scene" "bound" "I" "FiveTouch") ∈ lw_tbl := lw_at lw_m1 161 rfl
theorem q248 : (Jvm.Cond.fieldLinkNest "FiveTouch" (81 : Nat) "FiveTouch$Scene" "isMade" "Z" "FiveTouch") ∈ lw_tbl := lw_at lw_m1 163 rfl
theorem q269 : (Jvm.Cond.fieldLink "FiveTouch" (18 : Nat) "FiveTouch" "yard" "LFiveTouch$Yard;") ∈ lw_all := lw_g (lw_at lw_m1 184 rfl) rfl
theorem q270 : (Jvm.Cond.fieldLink "FiveTouch" (22 : Nat) "FiveTouch" "images" "[LFiveTouch$Yard;") ∈ lw_all := lw_g (lw_at lw_m1 185 rfl) rfl
theorem q272 : (Jvm.Cond.fieldLink "FiveTouch" (29 : Nat) "FiveTouch" "asked" "LFiveTouch$Asked;") ∈ lw_all := lw_g (lw_at lw_m1 187 rfl) rfl
theorem q274 : (Jvm.Cond.fieldLink "FiveTouch" (40 : Nat) "FiveTouch" "nothingTold" "LFiveTouch$Text;") ∈ lw_all := lw_g (lw_at lw_m1 189 rfl) rfl
theorem q275 : (Jvm.Cond.fieldLink "FiveTouch" (44 : Nat) "FiveTouch" "refused" "[I") ∈ lw_all := lw_g (lw_at lw_m1 190 rfl) rfl
theorem q276 : (Jvm.Cond.fieldLink "FiveTouch" (78 : Nat) "FiveTouch" "status" "I") ∈ lw_all := lw_g (lw_at lw_m1 191 rfl) rfl
theorem q277 : (Jvm.Cond.fieldLink "FiveTouch" (48 : Nat) "FiveTouch" "fault" "I") ∈ lw_all := lw_g (lw_at lw_m1 192 rfl) rfl
theorem q278 : (Jvm.Cond.fieldLink "FiveTouch" (187 : Nat) "FiveTouch" "rubble" "I") ∈ lw_all := lw_g (lw_at lw_m1 193 rfl) rfl
theorem q280 : (Jvm.Cond.fieldLink "FiveTouch" (52 : Nat) "FiveTouch" "tape" "[B") ∈ lw_all := lw_g (lw_at lw_m1 195 rfl) rfl
theorem q282 : (Jvm.Cond.fieldLink "FiveTouch" (104 : Nat) "FiveTouch" "taped" "I") ∈ lw_all := lw_g (lw_at lw_m1 197 rfl) rfl
theorem q284 : (Jvm.Cond.fieldLink "FiveTouch" (61 : Nat) "FiveTouch" "scene" "LFiveTouch$Scene;") ∈ lw_all := lw_g (lw_at lw_m1 199 rfl) rfl
theorem q286 : (Jvm.Cond.fieldLink "FiveTouch" (65 : Nat) "FiveTouch" "comes" "[Z") ∈ lw_all := lw_g (lw_at lw_m1 201 rfl) rfl
theorem q287 : (Jvm.Cond.fieldLink "FiveTouch" (69 : Nat) "FiveTouch" "wins" "[Z") ∈ lw_all := lw_g (lw_at lw_m1 202 rfl) rfl
theorem q288 : (Jvm.Cond.fieldLink "FiveTouch" (300 : Nat) "FiveTouch" "winters" "[I") ∈ lw_all := lw_g (lw_at lw_m1 203 rfl) rfl
theorem q289 : (Jvm.Cond.lays "FiveTouch" "FiveTouch" "yard" "LFiveTouch$Yard;") ∈ lw_all := lw_g (lw_at lw_m1 204 rfl) rfl
theorem q290 : (Jvm.Cond.soleField "FiveTouch" "yard") ∈ lw_all := lw_g (lw_at lw_m1 205 rfl) rfl
theorem q291 : (Jvm.Cond.laysFinal "FiveTouch" "FiveTouch" "images" "[LFiveTouch$Yard;") ∈ lw_all := lw_g (lw_at lw_m1 206 rfl) rfl
theorem q292 : (Jvm.Cond.soleField "FiveTouch" "images") ∈ lw_all := lw_g (lw_at lw_m1 207 rfl) rfl
theorem q293 : (Jvm.Cond.laysFinal "FiveTouch" "FiveTouch" "asked" "LFiveTouch$Asked;") ∈ lw_all := lw_g (lw_at lw_m1 208 rfl) rfl
theorem q294 : (Jvm.Cond.soleField "FiveTouch" "asked") ∈ lw_all := lw_g (lw_at lw_m1 209 rfl) rfl
theorem q295 : (Jvm.Cond.laysFinal "FiveTouch" "FiveTouch" "nothingTold" "LFiveTouch$Text;") ∈ lw_all := lw_g (lw_at lw_m1 210 rfl) rfl
theorem q296 : (Jvm.Cond.soleField "FiveTouch" "nothingTold") ∈ lw_all := lw_g (lw_at lw_m1 211 rfl) rfl
theorem q297 : (Jvm.Cond.laysFinal "FiveTouch" "FiveTouch" "refused" "[I") ∈ lw_all := lw_g (lw_at lw_m1 212 rfl) rfl
theorem q298 : (Jvm.Cond.soleField "FiveTouch" "refused") ∈ lw_all := lw_g (lw_at lw_m1 213 rfl) rfl
theorem q299 : (Jvm.Cond.lays "FiveTouch" "FiveTouch" "status" "I") ∈ lw_all := lw_g (lw_at lw_m1 214 rfl) rfl
theorem q300 : (Jvm.Cond.soleField "FiveTouch" "status") ∈ lw_all := lw_g (lw_at lw_m1 215 rfl) rfl
theorem q301 : (Jvm.Cond.lays "FiveTouch" "FiveTouch" "fault" "I") ∈ lw_all := lw_g (lw_at lw_m1 216 rfl) rfl
theorem q302 : (Jvm.Cond.soleField "FiveTouch" "fault") ∈ lw_all := lw_g (lw_at lw_m1 217 rfl) rfl
theorem q303 : (Jvm.Cond.lays "FiveTouch" "FiveTouch" "rubble" "I") ∈ lw_all := lw_g (lw_at lw_m1 218 rfl) rfl
theorem q304 : (Jvm.Cond.soleField "FiveTouch" "rubble") ∈ lw_all := lw_g (lw_at lw_m1 219 rfl) rfl
theorem q305 : (Jvm.Cond.laysFinal "FiveTouch" "FiveTouch" "tape" "[B") ∈ lw_all := lw_g (lw_at lw_m1 220 rfl) rfl
theorem q306 : (Jvm.Cond.soleField "FiveTouch" "tape") ∈ lw_all := lw_g (lw_at lw_m1 221 rfl) rfl
theorem q307 : (Jvm.Cond.lays "FiveTouch" "FiveTouch" "taped" "I") ∈ lw_all := lw_g (lw_at lw_m1 222 rfl) rfl
theorem q308 : (Jvm.Cond.soleField "FiveTouch" "taped") ∈ lw_all := lw_g (lw_at lw_m1 223 rfl) rfl
theorem q309 : (Jvm.Cond.laysFinal "FiveTouch" "FiveTouch" "scene" "LFiveTouch$Scene;") ∈ lw_all := lw_g (lw_at lw_m1 224 rfl) rfl
theorem q310 : (Jvm.Cond.soleField "FiveTouch" "scene") ∈ lw_all := lw_g (lw_at lw_m1 225 rfl) rfl
theorem q311 : (Jvm.Cond.laysFinal "FiveTouch" "FiveTouch" "comes" "[Z") ∈ lw_all := lw_g (lw_at lw_m1 226 rfl) rfl
theorem q312 : (Jvm.Cond.soleField "FiveTouch" "comes") ∈ lw_all := lw_g (lw_at lw_m1 227 rfl) rfl
theorem q313 : (Jvm.Cond.laysFinal "FiveTouch" "FiveTouch" "wins" "[Z") ∈ lw_all := lw_g (lw_at lw_m1 228 rfl) rfl
theorem q314 : (Jvm.Cond.soleField "FiveTouch" "wins") ∈ lw_all := lw_g (lw_at lw_m1 229 rfl) rfl
theorem q315 : (Jvm.Cond.lays "FiveTouch" "FiveTouch" "winters" "[I") ∈ lw_all := lw_g (lw_at lw_m1 230 rfl) rfl
theorem q316 : (Jvm.Cond.soleField "FiveTouch" "winters") ∈ lw_all := lw_g (lw_at lw_m1 231 rfl) rfl
theorem q317 : (Jvm.Cond.superclass "FiveTouch" "java/lang/Object") ∈ lw_all := lw_g (lw_at lw_m1 232 rfl) rfl
theorem q320 : (Jvm.Cond.instanceMethod ({ cls := "FiveTouch", name := "feed", desc := "(IIIII)I" } : Jvm.MethodName)) ∈ lw_all := lw_g (lw_at lw_m1 235 rfl) rfl
theorem q321 : (Jvm.Cond.selects "FiveTouch" ({ cls := "FiveTouch", name := "feed", desc := "(IIIII)I" } : Jvm.MethodName) ({ cls := "FiveTouch", name := "feed", desc := "(IIIII)I" } : Jvm.MethodName)) ∈ lw_all := lw_g (lw_at lw_m1 236 rfl) rfl
theorem q322 : (Jvm.Cond.code ({ cls := "FiveTouch", name := "feed", desc := "(IIIII)I" } : Jvm.MethodName) prog_1_method_10_code (6 : Nat) (Option.some Jvm.ClassFile.FieldType.int)) ∈ lw_all := lw_g (lw_at lw_m1 237 rfl) rfl
theorem q323 : (Jvm.Cond.methodLink "FiveTouch" (107 : Nat) ({ cls := "FiveTouch", name := "four", desc := "(I)V" } : Jvm.MethodName)) ∈ lw_all := lw_g (lw_at lw_m1 238 rfl) rfl
theorem q324 : (Jvm.Cond.privateMethod ({ cls := "FiveTouch", name := "four", desc := "(I)V" } : Jvm.MethodName)) ∈ lw_tbl := lw_at lw_m1 239 rfl
theorem q325 : (Jvm.Cond.instanceMethod ({ cls := "FiveTouch", name := "four", desc := "(I)V" } : Jvm.MethodName)) ∈ lw_all := lw_g (lw_at lw_m2 0 rfl) rfl
theorem q326 : (Jvm.Cond.code ({ cls := "FiveTouch", name := "four", desc := "(I)V" } : Jvm.MethodName) prog_1_method_9_code (3 : Nat) (Option.none : Option Jvm.ClassFile.FieldType)) ∈ lw_all := lw_g (lw_at lw_m2 1 rfl) rfl
theorem q328 : (Jvm.Cond.instanceMethod ({ cls := "FiveTouch", name := "end", desc := "(I)I" } : Jvm.MethodName)) ∈ lw_all := lw_g (lw_at lw_m2 3 rfl) rfl
theorem q329 : (Jvm.Cond.selects "FiveTouch" ({ cls := "FiveTouch", name := "end", desc := "(I)I" } : Jvm.MethodName) ({ cls := "FiveTouch", name := "end", desc := "(I)I" } : Jvm.MethodName)) ∈ lw_all := lw_g (lw_at lw_m2 4 rfl) rfl
theorem q330 : (Jvm.Cond.code ({ cls := "FiveTouch", name := "end", desc := "(I)I" } : Jvm.MethodName) prog_1_method_11_code (2 : Nat) (Option.some Jvm.ClassFile.FieldType.int)) ∈ lw_all := lw_g (lw_at lw_m2 5 rfl) rfl
theorem q331 : (Jvm.Cond.methodLink "FiveTouch" (95 : Nat) ({ cls := "FiveTouch", name := "in", desc := "(JJJ)Z" } : Jvm.MethodName)) ∈ lw_all := lw_g (lw_at lw_m2 6 rfl) rfl
theorem q332 : (Jvm.Cond.static ({ cls := "FiveTouch", name := "in", desc := "(JJJ)Z" } : Jvm.MethodName)) ∈ lw_all := lw_g (lw_at lw_m2 7 rfl) rfl
theorem q333 : (Jvm.Cond.code ({ cls := "FiveTouch", name := "in", desc := "(JJJ)Z" } : Jvm.MethodName) prog_1_method_1_code (6 : Nat) (Option.some Jvm.ClassFile.FieldType.boolean)) ∈ lw_all := lw_g (lw_at lw_m2 8 rfl) rfl
theorem q335 : (Jvm.Cond.instanceMethod ({ cls := "FiveTouch", name := "stone", desc := "(IIIII)I" } : Jvm.MethodName)) ∈ lw_all := lw_g (lw_at lw_m2 10 rfl) rfl
theorem q336 : (Jvm.Cond.selects "FiveTouch" ({ cls := "FiveTouch", name := "stone", desc := "(IIIII)I" } : Jvm.MethodName) ({ cls := "FiveTouch", name := "stone", desc := "(IIIII)I" } : Jvm.MethodName)) ∈ lw_all := lw_g (lw_at lw_m2 11 rfl) rfl
theorem q337 : (Jvm.Cond.code ({ cls := "FiveTouch", name := "stone", desc := "(IIIII)I" } : Jvm.MethodName) prog_1_method_14_code (7 : Nat) (Option.some Jvm.ClassFile.FieldType.int)) ∈ lw_all := lw_g (lw_at lw_m2 12 rfl) rfl
theorem q338 : (Jvm.Cond.methodLink "FiveTouch" (111 : Nat) ({ cls := "FiveTouch$Stone", name := "canBe", desc := "(IIIII)Z" } : Jvm.MethodName)) ∈ lw_all := lw_g (lw_at lw_m2 13 rfl) rfl
theorem q346 : (Jvm.Cond.methodLink "FiveTouch" (117 : Nat) ({ cls := "FiveTouch", name := "tell", desc := "(I)I" } : Jvm.MethodName)) ∈ lw_all := lw_g (lw_at lw_m2 21 rfl) rfl
theorem q347 : (Jvm.Cond.privateMethod ({ cls := "FiveTouch", name := "tell", desc := "(I)I" } : Jvm.MethodName)) ∈ lw_tbl := lw_at lw_m2 22 rfl
theorem q348 : (Jvm.Cond.instanceMethod ({ cls := "FiveTouch", name := "tell", desc := "(I)I" } : Jvm.MethodName)) ∈ lw_all := lw_g (lw_at lw_m2 23 rfl) rfl
theorem q349 : (Jvm.Cond.code ({ cls := "FiveTouch", name := "tell", desc := "(I)I" } : Jvm.MethodName) prog_1_method_5_code (2 : Nat) (Option.some Jvm.ClassFile.FieldType.int)) ∈ lw_all := lw_g (lw_at lw_m2 24 rfl) rfl
theorem q350 : (Jvm.Cond.methodLink "FiveTouch" (72 : Nat) ({ cls := "java/lang/Math", name := "min", desc := "(II)I" } : Jvm.MethodName)) ∈ lw_all := lw_g (lw_at lw_m2 25 rfl) rfl
theorem q353 : (Jvm.Cond.classLink "FiveTouch" (112 : Nat) "FiveTouch$Stone") ∈ lw_all := lw_g (lw_at lw_m2 28 rfl) rfl
theorem q355 : (Jvm.Cond.methodLink "FiveTouch" (120 : Nat) ({ cls := "FiveTouch$Stone", name := "<init>", desc := "(IIIII)V" } : Jvm.MethodName)) ∈ lw_all := lw_g (lw_at lw_m2 30 rfl) rfl
theorem q361 : (Jvm.Cond.fieldLinkNest "FiveTouch" (156 : Nat) "FiveTouch$Stone" "x" "I" "FiveTouch") ∈ lw_tbl := lw_at lw_m2 36 rfl
theorem q364 : (Jvm.Cond.fieldLinkNest "FiveTouch" (159 : Nat) "FiveTouch$Stone" "y" "I" "FiveTouch") ∈ lw_tbl := lw_at lw_m2 39 rfl
theorem q367 : (Jvm.Cond.fieldLinkNest "FiveTouch" (162 : Nat) "FiveTouch$Stone" "wide" "I" "FiveTouch") ∈ lw_tbl := lw_at lw_m2 42 rfl
theorem q370 : (Jvm.Cond.fieldLinkNest "FiveTouch" (165 : Nat) "FiveTouch$Stone" "tall" "I" "FiveTouch") ∈ lw_tbl := lw_at lw_m2 45 rfl
theorem q373 : (Jvm.Cond.fieldLinkNest "FiveTouch" (151 : Nat) "FiveTouch$Stone" "facts" "[I" "FiveTouch") ∈ lw_tbl := lw_at lw_m2 48 rfl
theorem q385 : (Jvm.Cond.methodLink "FiveTouch" (123 : Nat) ({ cls := "FiveTouch$Yard", name := "isFree", desc := "(LFiveTouch$Stone;)Z" } : Jvm.MethodName)) ∈ lw_all := lw_g (lw_at lw_m2 60 rfl) rfl
theorem q431 : (Jvm.Cond.methodLink "FiveTouch" (89 : Nat) ({ cls := "java/util/ArrayList", name := "size", desc := "()I" } : Jvm.MethodName)) ∈ lw_all := lw_g (lw_at lw_m2 106 rfl) rfl
theorem q432 : (Jvm.Cond.methodLink "FiveTouch" (127 : Nat) ({ cls := "java/util/ArrayList", name := "add", desc := "(Ljava/lang/Object;)Z" } : Jvm.MethodName)) ∈ lw_all := lw_g (lw_at lw_m2 107 rfl) rfl
theorem q462 : (Jvm.Cond.selects "FiveTouch" ({ cls := "java/lang/Object", name := "getClass", desc := "()Ljava/lang/Class;" } : Jvm.MethodName) ({ cls := "java/lang/Object", name := "getClass", desc := "()Ljava/lang/Class;" } : Jvm.MethodName)) ∈ lw_all := lw_g (lw_at lw_m2 137 rfl) rfl
theorem q498 : (Jvm.Cond.methodLink "FiveTouch" (131 : Nat) ({ cls := "FiveTouch", name := "was", desc := "(I)I" } : Jvm.MethodName)) ∈ lw_all := lw_g (lw_at lw_m2 173 rfl) rfl
theorem q499 : (Jvm.Cond.privateMethod ({ cls := "FiveTouch", name := "was", desc := "(I)I" } : Jvm.MethodName)) ∈ lw_tbl := lw_at lw_m2 174 rfl
theorem q500 : (Jvm.Cond.instanceMethod ({ cls := "FiveTouch", name := "was", desc := "(I)I" } : Jvm.MethodName)) ∈ lw_all := lw_g (lw_at lw_m2 175 rfl) rfl
theorem q501 : (Jvm.Cond.code ({ cls := "FiveTouch", name := "was", desc := "(I)I" } : Jvm.MethodName) prog_1_method_6_code (2 : Nat) (Option.some Jvm.ClassFile.FieldType.int)) ∈ lw_all := lw_g (lw_at lw_m2 176 rfl) rfl
theorem q503 : (Jvm.Cond.instanceMethod ({ cls := "FiveTouch", name := "spare", desc := "(IIIII)I" } : Jvm.MethodName)) ∈ lw_all := lw_g (lw_at lw_m2 178 rfl) rfl
theorem q504 : (Jvm.Cond.selects "FiveTouch" ({ cls := "FiveTouch", name := "spare", desc := "(IIIII)I" } : Jvm.MethodName) ({ cls := "FiveTouch", name := "spare", desc := "(IIIII)I" } : Jvm.MethodName)) ∈ lw_all := lw_g (lw_at lw_m2 179 rfl) rfl
theorem q505 : (Jvm.Cond.code ({ cls := "FiveTouch", name := "spare", desc := "(IIIII)I" } : Jvm.MethodName) prog_1_method_15_code (7 : Nat) (Option.some Jvm.ClassFile.FieldType.int)) ∈ lw_all := lw_g (lw_at lw_m2 180 rfl) rfl
theorem q507 : (Jvm.Cond.instanceMethod ({ cls := "FiveTouch", name := "put", desc := "(III)I" } : Jvm.MethodName)) ∈ lw_all := lw_g (lw_at lw_m2 182 rfl) rfl
theorem q508 : (Jvm.Cond.selects "FiveTouch" ({ cls := "FiveTouch", name := "put", desc := "(III)I" } : Jvm.MethodName) ({ cls := "FiveTouch", name := "put", desc := "(III)I" } : Jvm.MethodName)) ∈ lw_all := lw_g (lw_at lw_m2 183 rfl) rfl
theorem q509 : (Jvm.Cond.code ({ cls := "FiveTouch", name := "put", desc := "(III)I" } : Jvm.MethodName) prog_1_method_16_code (6 : Nat) (Option.some Jvm.ClassFile.FieldType.int)) ∈ lw_all := lw_g (lw_at lw_m2 184 rfl) rfl
theorem q510 : (Jvm.Cond.constantLong "FiveTouch" (137 : Nat) (99 : Int64)) ∈ lw_all := lw_g (lw_at lw_m2 185 rfl) rfl
theorem q511 : (Jvm.Cond.constantLong "FiveTouch" (139 : Nat) (3 : Int64)) ∈ lw_all := lw_g (lw_at lw_m2 186 rfl) rfl
theorem q512 : (Jvm.Cond.constantLong "FiveTouch" (141 : Nat) (100 : Int64)) ∈ lw_all := lw_g (lw_at lw_m2 187 rfl) rfl
theorem q513 : (Jvm.Cond.methodLink "FiveTouch" (143 : Nat) ({ cls := "FiveTouch", name := "isStone", desc := "(I)Z" } : Jvm.MethodName)) ∈ lw_all := lw_g (lw_at lw_m2 188 rfl) rfl
theorem q514 : (Jvm.Cond.privateMethod ({ cls := "FiveTouch", name := "isStone", desc := "(I)Z" } : Jvm.MethodName)) ∈ lw_tbl := lw_at lw_m2 189 rfl
theorem q515 : (Jvm.Cond.instanceMethod ({ cls := "FiveTouch", name := "isStone", desc := "(I)Z" } : Jvm.MethodName)) ∈ lw_all := lw_g (lw_at lw_m2 190 rfl) rfl
theorem q516 : (Jvm.Cond.code ({ cls := "FiveTouch", name := "isStone", desc := "(I)Z" } : Jvm.MethodName) prog_1_method_7_code (2 : Nat) (Option.some Jvm.ClassFile.FieldType.boolean)) ∈ lw_all := lw_g (lw_at lw_m2 191 rfl) rfl
theorem q517 : (Jvm.Cond.methodLink "FiveTouch" (147 : Nat) ({ cls := "java/util/ArrayList", name := "get", desc := "(I)Ljava/lang/Object;" } : Jvm.MethodName)) ∈ lw_all := lw_g (lw_at lw_m2 192 rfl) rfl
theorem q519 : (Jvm.Cond.instanceMethod ({ cls := "FiveTouch", name := "of", desc := "(II)I" } : Jvm.MethodName)) ∈ lw_all := lw_g (lw_at lw_m2 194 rfl) rfl
theorem q520 : (Jvm.Cond.selects "FiveTouch" ({ cls := "FiveTouch", name := "of", desc := "(II)I" } : Jvm.MethodName) ({ cls := "FiveTouch", name := "of", desc := "(II)I" } : Jvm.MethodName)) ∈ lw_all := lw_g (lw_at lw_m2 195 rfl) rfl
theorem q521 : (Jvm.Cond.code ({ cls := "FiveTouch", name := "of", desc := "(II)I" } : Jvm.MethodName) prog_1_method_17_code (4 : Nat) (Option.some Jvm.ClassFile.FieldType.int)) ∈ lw_all := lw_g (lw_at lw_m2 196 rfl) rfl
theorem q522 : (Jvm.Cond.constantLong "FiveTouch" (154 : Nat) (7 : Int64)) ∈ lw_all := lw_g (lw_at lw_m2 197 rfl) rfl
theorem q523 : (Jvm.Cond.methodLink "FiveTouch" (168 : Nat) ({ cls := "FiveTouch", name := "has", desc := "(II)Z" } : Jvm.MethodName)) ∈ lw_all := lw_g (lw_at lw_m2 198 rfl) rfl
theorem q524 : (Jvm.Cond.static ({ cls := "FiveTouch", name := "has", desc := "(II)Z" } : Jvm.MethodName)) ∈ lw_all := lw_g (lw_at lw_m2 199 rfl) rfl
theorem q525 : (Jvm.Cond.code ({ cls := "FiveTouch", name := "has", desc := "(II)Z" } : Jvm.MethodName) prog_1_method_2_code (2 : Nat) (Option.some Jvm.ClassFile.FieldType.boolean)) ∈ lw_all := lw_g (lw_at lw_m2 200 rfl) rfl
theorem q527 : (Jvm.Cond.instanceMethod ({ cls := "FiveTouch", name := "terms", desc := "(II)I" } : Jvm.MethodName)) ∈ lw_all := lw_g (lw_at lw_m2 202 rfl) rfl
theorem q528 : (Jvm.Cond.selects "FiveTouch" ({ cls := "FiveTouch", name := "terms", desc := "(II)I" } : Jvm.MethodName) ({ cls := "FiveTouch", name := "terms", desc := "(II)I" } : Jvm.MethodName)) ∈ lw_all := lw_g (lw_at lw_m2 203 rfl) rfl
theorem q529 : (Jvm.Cond.code ({ cls := "FiveTouch", name := "terms", desc := "(II)I" } : Jvm.MethodName) prog_1_method_18_code (4 : Nat) (Option.some Jvm.ClassFile.FieldType.int)) ∈ lw_all := lw_g (lw_at lw_m2 204 rfl) rfl
theorem q530 : (Jvm.Cond.constantLong "FiveTouch" (172 : Nat) (2 : Int64)) ∈ lw_all := lw_g (lw_at lw_m2 205 rfl) rfl
theorem q531 : (Jvm.Cond.constantLong "FiveTouch" (174 : Nat) (12 : Int64)) ∈ lw_all := lw_g (lw_at lw_m2 206 rfl) rfl
theorem q532 : (Jvm.Cond.constantLong "FiveTouch" (176 : Nat) (9 : Int64)) ∈ lw_all := lw_g (lw_at lw_m2 207 rfl) rfl
theorem q534 : (Jvm.Cond.instanceMethod ({ cls := "FiveTouch", name := "row", desc := "()I" } : Jvm.MethodName)) ∈ lw_all := lw_g (lw_at lw_m2 209 rfl) rfl
theorem q535 : (Jvm.Cond.selects "FiveTouch" ({ cls := "FiveTouch", name := "row", desc := "()I" } : Jvm.MethodName) ({ cls := "FiveTouch", name := "row", desc := "()I" } : Jvm.MethodName)) ∈ lw_all := lw_g (lw_at lw_m2 210 rfl) rfl
theorem q536 : (Jvm.Cond.codeWith ({ cls := "FiveTouch", name := "row", desc := "()I" } : Jvm.MethodName) prog_1_method_20_code (8 : Nat) (Option.some Jvm.ClassFile.FieldType.int) [((58 : Nat), (67 : Nat), (218 : Nat), (196 : Nat)), ((58 : Nat), (67 : Nat), (374 : Nat), (0 : Nat)), ((218 : Nat), (223 : Nat), (374 : Nat), (0 : Nat)), ((374 : Nat), (376 : Nat), (374 : Nat), (0 : Nat))]) ∈ lw_all := lw_g (lw_at lw_m2 211 rfl) rfl
theorem q537 : (Jvm.Cond.classLink "FiveTouch" (196 : Nat) "java/lang/ArrayIndexOutOfBoundsException") ∈ lw_all := lw_g (lw_at lw_m2 212 rfl) rfl
theorem q611 : (Jvm.Cond.methodLink "FiveTouch" (181 : Nat) ({ cls := "java/lang/System", name := "arraycopy", desc := "(Ljava/lang/Object;ILjava/lang/Object;II)V" } : Jvm.MethodName)) ∈ lw_all := lw_g (lw_at lw_m3 46 rfl) rfl
theorem q612 : (Jvm.Cond.methodLink "FiveTouch" (190 : Nat) ({ cls := "FiveTouch", name := "byteAt", desc := "([BI)I" } : Jvm.MethodName)) ∈ lw_all := lw_g (lw_at lw_m3 47 rfl) rfl
theorem q613 : (Jvm.Cond.static ({ cls := "FiveTouch", name := "byteAt", desc := "([BI)I" } : Jvm.MethodName)) ∈ lw_all := lw_g (lw_at lw_m3 48 rfl) rfl
theorem q614 : (Jvm.Cond.code ({ cls := "FiveTouch", name := "byteAt", desc := "([BI)I" } : Jvm.MethodName) prog_1_method_19_code (2 : Nat) (Option.some Jvm.ClassFile.FieldType.int)) ∈ lw_all := lw_g (lw_at lw_m3 49 rfl) rfl
theorem q615 : (Jvm.Cond.methodLink "FiveTouch" (194 : Nat) ({ cls := "FiveTouch", name := "add", desc := "(LFiveTouch$Stone;)Z" } : Jvm.MethodName)) ∈ lw_all := lw_g (lw_at lw_m3 50 rfl) rfl
theorem q616 : (Jvm.Cond.privateMethod ({ cls := "FiveTouch", name := "add", desc := "(LFiveTouch$Stone;)Z" } : Jvm.MethodName)) ∈ lw_tbl := lw_at lw_m3 51 rfl
theorem q617 : (Jvm.Cond.instanceMethod ({ cls := "FiveTouch", name := "add", desc := "(LFiveTouch$Stone;)Z" } : Jvm.MethodName)) ∈ lw_all := lw_g (lw_at lw_m3 52 rfl) rfl
theorem q618 : (Jvm.Cond.code ({ cls := "FiveTouch", name := "add", desc := "(LFiveTouch$Stone;)Z" } : Jvm.MethodName) prog_1_method_21_code (2 : Nat) (Option.some Jvm.ClassFile.FieldType.boolean)) ∈ lw_all := lw_g (lw_at lw_m3 53 rfl) rfl
theorem q620 : (Jvm.Cond.instanceMethod ({ cls := "FiveTouch", name := "rubble", desc := "()I" } : Jvm.MethodName)) ∈ lw_all := lw_g (lw_at lw_m3 55 rfl) rfl
theorem q621 : (Jvm.Cond.selects "FiveTouch" ({ cls := "FiveTouch", name := "rubble", desc := "()I" } : Jvm.MethodName) ({ cls := "FiveTouch", name := "rubble", desc := "()I" } : Jvm.MethodName)) ∈ lw_all := lw_g (lw_at lw_m3 56 rfl) rfl
theorem q622 : (Jvm.Cond.code ({ cls := "FiveTouch", name := "rubble", desc := "()I" } : Jvm.MethodName) prog_1_method_22_code (1 : Nat) (Option.some Jvm.ClassFile.FieldType.int)) ∈ lw_all := lw_g (lw_at lw_m3 57 rfl) rfl
theorem q624 : (Jvm.Cond.instanceMethod ({ cls := "FiveTouch", name := "law", desc := "()I" } : Jvm.MethodName)) ∈ lw_all := lw_g (lw_at lw_m3 59 rfl) rfl
theorem q625 : (Jvm.Cond.selects "FiveTouch" ({ cls := "FiveTouch", name := "law", desc := "()I" } : Jvm.MethodName) ({ cls := "FiveTouch", name := "law", desc := "()I" } : Jvm.MethodName)) ∈ lw_all := lw_g (lw_at lw_m3 60 rfl) rfl
theorem q626 : (Jvm.Cond.codeWith ({ cls := "FiveTouch", name := "law", desc := "()I" } : Jvm.MethodName) prog_1_method_23_code (4 : Nat) (Option.some Jvm.ClassFile.FieldType.int) [((27 : Nat), (71 : Nat), (78 : Nat), (208 : Nat)), ((27 : Nat), (71 : Nat), (101 : Nat), (0 : Nat)), ((78 : Nat), (94 : Nat), (101 : Nat), (0 : Nat))]) ∈ lw_all := lw_g (lw_at lw_m3 61 rfl) rfl
theorem q627 : (Jvm.Cond.classLink "FiveTouch" (208 : Nat) "FiveTouch$Wrong") ∈ lw_all := lw_g (lw_at lw_m3 62 rfl) rfl
theorem q628 : (Jvm.Cond.classLink "FiveTouch" (201 : Nat) "FiveTouch$Reader") ∈ lw_all := lw_g (lw_at lw_m3 63 rfl) rfl
theorem q630 : (Jvm.Cond.methodLinkNest "FiveTouch" (203 : Nat) ({ cls := "FiveTouch$Reader", name := "<init>", desc := "(LFiveTouch;)V" } : Jvm.MethodName) "FiveTouch") ∈ lw_tbl := lw_at lw_m3 65 rfl
theorem q676 : (Jvm.Cond.methodLink "FiveTouch" (204 : Nat) ({ cls := "FiveTouch$Reader", name := "read", desc := "()LFiveTouch$Text;" } : Jvm.MethodName)) ∈ lw_all := lw_g (lw_at lw_m3 111 rfl) rfl
theorem q686 : (Jvm.Cond.static ({ cls := "FiveTouch", name := "isLetter", desc := "(I)Z" } : Jvm.MethodName)) ∈ lw_all := lw_g (lw_at lw_m3 121 rfl) rfl
theorem q687 : (Jvm.Cond.code ({ cls := "FiveTouch", name := "isLetter", desc := "(I)Z" } : Jvm.MethodName) prog_1_method_12_code (1 : Nat) (Option.some Jvm.ClassFile.FieldType.boolean)) ∈ lw_all := lw_g (lw_at lw_m3 122 rfl) rfl
theorem q689 : (Jvm.Cond.static ({ cls := "FiveTouch", name := "isDigit", desc := "(I)Z" } : Jvm.MethodName)) ∈ lw_all := lw_g (lw_at lw_m3 124 rfl) rfl
theorem q690 : (Jvm.Cond.code ({ cls := "FiveTouch", name := "isDigit", desc := "(I)Z" } : Jvm.MethodName) prog_1_method_13_code (1 : Nat) (Option.some Jvm.ClassFile.FieldType.boolean)) ∈ lw_all := lw_g (lw_at lw_m3 125 rfl) rfl
theorem q714 : (Jvm.Cond.fieldLinkNest "FiveTouch" (210 : Nat) "FiveTouch$Wrong" "place" "I" "FiveTouch") ∈ lw_tbl := lw_at lw_m3 149 rfl
theorem q950 : (Jvm.Cond.instanceMethod ({ cls := "FiveTouch", name := "fault", desc := "()I" } : Jvm.MethodName)) ∈ lw_all := lw_g (lw_at lw_m4 145 rfl) rfl
theorem q951 : (Jvm.Cond.selects "FiveTouch" ({ cls := "FiveTouch", name := "fault", desc := "()I" } : Jvm.MethodName) ({ cls := "FiveTouch", name := "fault", desc := "()I" } : Jvm.MethodName)) ∈ lw_all := lw_g (lw_at lw_m4 146 rfl) rfl
theorem q952 : (Jvm.Cond.code ({ cls := "FiveTouch", name := "fault", desc := "()I" } : Jvm.MethodName) prog_1_method_24_code (1 : Nat) (Option.some Jvm.ClassFile.FieldType.int)) ∈ lw_all := lw_g (lw_at lw_m4 147 rfl) rfl
theorem q954 : (Jvm.Cond.instanceMethod ({ cls := "FiveTouch", name := "force", desc := "(I)I" } : Jvm.MethodName)) ∈ lw_all := lw_g (lw_at lw_m4 149 rfl) rfl
theorem q955 : (Jvm.Cond.selects "FiveTouch" ({ cls := "FiveTouch", name := "force", desc := "(I)I" } : Jvm.MethodName) ({ cls := "FiveTouch", name := "force", desc := "(I)I" } : Jvm.MethodName)) ∈ lw_all := lw_g (lw_at lw_m4 150 rfl) rfl
theorem q956 : (Jvm.Cond.code ({ cls := "FiveTouch", name := "force", desc := "(I)I" } : Jvm.MethodName) prog_1_method_25_code (3 : Nat) (Option.some Jvm.ClassFile.FieldType.int)) ∈ lw_all := lw_g (lw_at lw_m4 151 rfl) rfl
theorem q958 : (Jvm.Cond.instanceMethod ({ cls := "FiveTouch", name := "at", desc := "(II)I" } : Jvm.MethodName)) ∈ lw_all := lw_g (lw_at lw_m4 153 rfl) rfl
theorem q959 : (Jvm.Cond.selects "FiveTouch" ({ cls := "FiveTouch", name := "at", desc := "(II)I" } : Jvm.MethodName) ({ cls := "FiveTouch", name := "at", desc := "(II)I" } : Jvm.MethodName)) ∈ lw_all := lw_g (lw_at lw_m4 154 rfl) rfl
theorem q960 : (Jvm.Cond.code ({ cls := "FiveTouch", name := "at", desc := "(II)I" } : Jvm.MethodName) prog_1_method_26_code (4 : Nat) (Option.some Jvm.ClassFile.FieldType.int)) ∈ lw_all := lw_g (lw_at lw_m4 155 rfl) rfl
theorem q961 : (Jvm.Cond.methodLink "FiveTouch" (216 : Nat) ({ cls := "FiveTouch$Stone", name := "has", desc := "(II)Z" } : Jvm.MethodName)) ∈ lw_all := lw_g (lw_at lw_m4 156 rfl) rfl
theorem q966 : (Jvm.Cond.instanceMethod ({ cls := "FiveTouch", name := "touches", desc := "(II)I" } : Jvm.MethodName)) ∈ lw_all := lw_g (lw_at lw_m4 161 rfl) rfl
theorem q967 : (Jvm.Cond.selects "FiveTouch" ({ cls := "FiveTouch", name := "touches", desc := "(II)I" } : Jvm.MethodName) ({ cls := "FiveTouch", name := "touches", desc := "(II)I" } : Jvm.MethodName)) ∈ lw_all := lw_g (lw_at lw_m4 162 rfl) rfl
theorem q968 : (Jvm.Cond.code ({ cls := "FiveTouch", name := "touches", desc := "(II)I" } : Jvm.MethodName) prog_1_method_27_code (4 : Nat) (Option.some Jvm.ClassFile.FieldType.int)) ∈ lw_all := lw_g (lw_at lw_m4 163 rfl) rfl
theorem q969 : (Jvm.Cond.methodLink "FiveTouch" (217 : Nat) ({ cls := "FiveTouch$Scene", name := "make", desc := "()LFiveTouch$Scene;" } : Jvm.MethodName)) ∈ lw_all := lw_g (lw_at lw_m4 164 rfl) rfl
theorem q1044 : (Jvm.Cond.methodLink "FiveTouch" (224 : Nat) ({ cls := "FiveTouch$Scene", name := "touches", desc := "(II)I" } : Jvm.MethodName)) ∈ lw_all := lw_g (lw_at lw_m4 239 rfl) rfl
theorem q1049 : (Jvm.Cond.static ({ cls := "FiveTouch", name := "size", desc := "(I)I" } : Jvm.MethodName)) ∈ lw_all := lw_g (lw_at lw_m5 4 rfl) rfl
theorem q1050 : (Jvm.Cond.code ({ cls := "FiveTouch", name := "size", desc := "(I)I" } : Jvm.MethodName) prog_1_method_3_code (1 : Nat) (Option.some Jvm.ClassFile.FieldType.int)) ∈ lw_all := lw_g (lw_at lw_m5 5 rfl) rfl
theorem q1051 : (Jvm.Cond.methodLink "FiveTouch" (3 : Nat) ({ cls := "java/lang/Integer", name := "bitCount", desc := "(I)I" } : Jvm.MethodName)) ∈ lw_all := lw_g (lw_at lw_m5 6 rfl) rfl
theorem q1058 : (Jvm.Cond.instanceMethod ({ cls := "FiveTouch", name := "unlawful", desc := "()I" } : Jvm.MethodName)) ∈ lw_all := lw_g (lw_at lw_m5 13 rfl) rfl
theorem q1059 : (Jvm.Cond.selects "FiveTouch" ({ cls := "FiveTouch", name := "unlawful", desc := "()I" } : Jvm.MethodName) ({ cls := "FiveTouch", name := "unlawful", desc := "()I" } : Jvm.MethodName)) ∈ lw_all := lw_g (lw_at lw_m5 14 rfl) rfl
theorem q1060 : (Jvm.Cond.code ({ cls := "FiveTouch", name := "unlawful", desc := "()I" } : Jvm.MethodName) prog_1_method_28_code (2 : Nat) (Option.some Jvm.ClassFile.FieldType.int)) ∈ lw_all := lw_g (lw_at lw_m5 15 rfl) rfl
theorem q1061 : (Jvm.Cond.methodLink "FiveTouch" (233 : Nat) ({ cls := "FiveTouch$Scene", name := "weak", desc := "(I)I" } : Jvm.MethodName)) ∈ lw_all := lw_g (lw_at lw_m5 16 rfl) rfl
theorem q1071 : (Jvm.Cond.methodLink "FiveTouch" (236 : Nat) ({ cls := "java/lang/Integer", name := "numberOfTrailingZeros", desc := "(I)I" } : Jvm.MethodName)) ∈ lw_all := lw_g (lw_at lw_m5 26 rfl) rfl
theorem q1076 : (Jvm.Cond.instanceMethod ({ cls := "FiveTouch", name := "there", desc := "()I" } : Jvm.MethodName)) ∈ lw_all := lw_g (lw_at lw_m5 31 rfl) rfl
theorem q1077 : (Jvm.Cond.selects "FiveTouch" ({ cls := "FiveTouch", name := "there", desc := "()I" } : Jvm.MethodName) ({ cls := "FiveTouch", name := "there", desc := "()I" } : Jvm.MethodName)) ∈ lw_all := lw_g (lw_at lw_m5 32 rfl) rfl
theorem q1078 : (Jvm.Cond.code ({ cls := "FiveTouch", name := "there", desc := "()I" } : Jvm.MethodName) prog_1_method_29_code (1 : Nat) (Option.some Jvm.ClassFile.FieldType.int)) ∈ lw_all := lw_g (lw_at lw_m5 33 rfl) rfl
theorem q1080 : (Jvm.Cond.instanceMethod ({ cls := "FiveTouch", name := "stand", desc := "(I)I" } : Jvm.MethodName)) ∈ lw_all := lw_g (lw_at lw_m5 35 rfl) rfl
theorem q1081 : (Jvm.Cond.selects "FiveTouch" ({ cls := "FiveTouch", name := "stand", desc := "(I)I" } : Jvm.MethodName) ({ cls := "FiveTouch", name := "stand", desc := "(I)I" } : Jvm.MethodName)) ∈ lw_all := lw_g (lw_at lw_m5 36 rfl) rfl
theorem q1082 : (Jvm.Cond.code ({ cls := "FiveTouch", name := "stand", desc := "(I)I" } : Jvm.MethodName) prog_1_method_30_code (3 : Nat) (Option.some Jvm.ClassFile.FieldType.int)) ∈ lw_all := lw_g (lw_at lw_m5 37 rfl) rfl
theorem q1084 : (Jvm.Cond.instanceMethod ({ cls := "FiveTouch", name := "falls", desc := "(II)I" } : Jvm.MethodName)) ∈ lw_all := lw_g (lw_at lw_m5 39 rfl) rfl
theorem q1085 : (Jvm.Cond.selects "FiveTouch" ({ cls := "FiveTouch", name := "falls", desc := "(II)I" } : Jvm.MethodName) ({ cls := "FiveTouch", name := "falls", desc := "(II)I" } : Jvm.MethodName)) ∈ lw_all := lw_g (lw_at lw_m5 40 rfl) rfl
theorem q1086 : (Jvm.Cond.code ({ cls := "FiveTouch", name := "falls", desc := "(II)I" } : Jvm.MethodName) prog_1_method_32_code (8 : Nat) (Option.some Jvm.ClassFile.FieldType.int)) ∈ lw_all := lw_g (lw_at lw_m5 41 rfl) rfl
theorem q1087 : (Jvm.Cond.methodLink "FiveTouch" (239 : Nat) ({ cls := "FiveTouch", name := "areThere", desc := "(I)Z" } : Jvm.MethodName)) ∈ lw_all := lw_g (lw_at lw_m5 42 rfl) rfl
theorem q1088 : (Jvm.Cond.privateMethod ({ cls := "FiveTouch", name := "areThere", desc := "(I)Z" } : Jvm.MethodName)) ∈ lw_tbl := lw_at lw_m5 43 rfl
theorem q1089 : (Jvm.Cond.instanceMethod ({ cls := "FiveTouch", name := "areThere", desc := "(I)Z" } : Jvm.MethodName)) ∈ lw_all := lw_g (lw_at lw_m5 44 rfl) rfl
theorem q1090 : (Jvm.Cond.code ({ cls := "FiveTouch", name := "areThere", desc := "(I)Z" } : Jvm.MethodName) prog_1_method_8_code (2 : Nat) (Option.some Jvm.ClassFile.FieldType.boolean)) ∈ lw_all := lw_g (lw_at lw_m5 45 rfl) rfl
theorem q1091 : (Jvm.Cond.constantLong "FiveTouch" (99 : Nat) (16383 : Int64)) ∈ lw_all := lw_g (lw_at lw_m5 46 rfl) rfl
theorem q1092 : (Jvm.Cond.methodLink "FiveTouch" (242 : Nat) ({ cls := "FiveTouch$Scene", name := "fall", desc := "(I)I" } : Jvm.MethodName)) ∈ lw_all := lw_g (lw_at lw_m5 47 rfl) rfl
theorem q1097 : (Jvm.Cond.methodLink "FiveTouch" (245 : Nat) ({ cls := "FiveTouch", name := "size", desc := "(I)I" } : Jvm.MethodName)) ∈ lw_all := lw_g (lw_at lw_m5 52 rfl) rfl
theorem q1098 : (Jvm.Cond.methodLink "FiveTouch" (247 : Nat) ({ cls := "FiveTouch", name := "weight", desc := "(I)I" } : Jvm.MethodName)) ∈ lw_all := lw_g (lw_at lw_m5 53 rfl) rfl
theorem q1099 : (Jvm.Cond.privateMethod ({ cls := "FiveTouch", name := "weight", desc := "(I)I" } : Jvm.MethodName)) ∈ lw_tbl := lw_at lw_m5 54 rfl
theorem q1100 : (Jvm.Cond.instanceMethod ({ cls := "FiveTouch", name := "weight", desc := "(I)I" } : Jvm.MethodName)) ∈ lw_all := lw_g (lw_at lw_m5 55 rfl) rfl
theorem q1101 : (Jvm.Cond.code ({ cls := "FiveTouch", name := "weight", desc := "(I)I" } : Jvm.MethodName) prog_1_method_31_code (4 : Nat) (Option.some Jvm.ClassFile.FieldType.int)) ∈ lw_all := lw_g (lw_at lw_m5 56 rfl) rfl
theorem q1103 : (Jvm.Cond.instanceMethod ({ cls := "FiveTouch", name := "round", desc := "(II)I" } : Jvm.MethodName)) ∈ lw_all := lw_g (lw_at lw_m5 58 rfl) rfl
theorem q1104 : (Jvm.Cond.selects "FiveTouch" ({ cls := "FiveTouch", name := "round", desc := "(II)I" } : Jvm.MethodName) ({ cls := "FiveTouch", name := "round", desc := "(II)I" } : Jvm.MethodName)) ∈ lw_all := lw_g (lw_at lw_m5 59 rfl) rfl
theorem q1105 : (Jvm.Cond.code ({ cls := "FiveTouch", name := "round", desc := "(II)I" } : Jvm.MethodName) prog_1_method_33_code (7 : Nat) (Option.some Jvm.ClassFile.FieldType.int)) ∈ lw_all := lw_g (lw_at lw_m5 60 rfl) rfl
theorem q1107 : (Jvm.Cond.instanceMethod ({ cls := "FiveTouch", name := "take", desc := "(I)I" } : Jvm.MethodName)) ∈ lw_all := lw_g (lw_at lw_m5 62 rfl) rfl
theorem q1108 : (Jvm.Cond.selects "FiveTouch" ({ cls := "FiveTouch", name := "take", desc := "(I)I" } : Jvm.MethodName) ({ cls := "FiveTouch", name := "take", desc := "(I)I" } : Jvm.MethodName)) ∈ lw_all := lw_g (lw_at lw_m5 63 rfl) rfl
theorem q1109 : (Jvm.Cond.code ({ cls := "FiveTouch", name := "take", desc := "(I)I" } : Jvm.MethodName) prog_1_method_34_code (3 : Nat) (Option.some Jvm.ClassFile.FieldType.int)) ∈ lw_all := lw_g (lw_at lw_m5 64 rfl) rfl
theorem q1111 : (Jvm.Cond.instanceMethod ({ cls := "FiveTouch", name := "farm", desc := "(II)I" } : Jvm.MethodName)) ∈ lw_all := lw_g (lw_at lw_m5 66 rfl) rfl
theorem q1112 : (Jvm.Cond.selects "FiveTouch" ({ cls := "FiveTouch", name := "farm", desc := "(II)I" } : Jvm.MethodName) ({ cls := "FiveTouch", name := "farm", desc := "(II)I" } : Jvm.MethodName)) ∈ lw_all := lw_g (lw_at lw_m5 67 rfl) rfl
theorem q1113 : (Jvm.Cond.code ({ cls := "FiveTouch", name := "farm", desc := "(II)I" } : Jvm.MethodName) prog_1_method_35_code (6 : Nat) (Option.some Jvm.ClassFile.FieldType.int)) ∈ lw_all := lw_g (lw_at lw_m5 68 rfl) rfl
theorem q1115 : (Jvm.Cond.instanceMethod ({ cls := "FiveTouch", name := "gate", desc := "(IIIII)I" } : Jvm.MethodName)) ∈ lw_all := lw_g (lw_at lw_m5 70 rfl) rfl
theorem q1116 : (Jvm.Cond.selects "FiveTouch" ({ cls := "FiveTouch", name := "gate", desc := "(IIIII)I" } : Jvm.MethodName) ({ cls := "FiveTouch", name := "gate", desc := "(IIIII)I" } : Jvm.MethodName)) ∈ lw_all := lw_g (lw_at lw_m5 71 rfl) rfl
theorem q1117 : (Jvm.Cond.code ({ cls := "FiveTouch", name := "gate", desc := "(IIIII)I" } : Jvm.MethodName) prog_1_method_36_code (9 : Nat) (Option.some Jvm.ClassFile.FieldType.int)) ∈ lw_all := lw_g (lw_at lw_m5 72 rfl) rfl
theorem q1118 : (Jvm.Cond.constantLong "FiveTouch" (250 : Nat) (11 : Int64)) ∈ lw_all := lw_g (lw_at lw_m5 73 rfl) rfl
theorem q1119 : (Jvm.Cond.methodLink "FiveTouch" (252 : Nat) ({ cls := "FiveTouch$Stone", name := "meets", desc := "(LFiveTouch$Stone;)Z" } : Jvm.MethodName)) ∈ lw_all := lw_g (lw_at lw_m5 74 rfl) rfl
theorem q1121 : (Jvm.Cond.instanceMethod ({ cls := "FiveTouch", name := "once", desc := "(I)I" } : Jvm.MethodName)) ∈ lw_all := lw_g (lw_at lw_m5 76 rfl) rfl
theorem q1122 : (Jvm.Cond.selects "FiveTouch" ({ cls := "FiveTouch", name := "once", desc := "(I)I" } : Jvm.MethodName) ({ cls := "FiveTouch", name := "once", desc := "(I)I" } : Jvm.MethodName)) ∈ lw_all := lw_g (lw_at lw_m5 77 rfl) rfl
theorem q1123 : (Jvm.Cond.code ({ cls := "FiveTouch", name := "once", desc := "(I)I" } : Jvm.MethodName) prog_1_method_39_code (2 : Nat) (Option.some Jvm.ClassFile.FieldType.int)) ∈ lw_all := lw_g (lw_at lw_m5 78 rfl) rfl
theorem q1124 : (Jvm.Cond.classLink "FiveTouch" (263 : Nat) "FiveTouch$AtOnce") ∈ lw_all := lw_g (lw_at lw_m5 79 rfl) rfl
theorem q1126 : (Jvm.Cond.methodLink "FiveTouch" (265 : Nat) ({ cls := "FiveTouch$AtOnce", name := "<init>", desc := "(LFiveTouch;)V" } : Jvm.MethodName)) ∈ lw_all := lw_g (lw_at lw_m5 81 rfl) rfl
theorem q1168 : (Jvm.Cond.privateMethod ({ cls := "FiveTouch", name := "isMore", desc := "(II)Z" } : Jvm.MethodName)) ∈ lw_tbl := lw_at lw_m5 123 rfl
theorem q1169 : (Jvm.Cond.instanceMethod ({ cls := "FiveTouch", name := "isMore", desc := "(II)Z" } : Jvm.MethodName)) ∈ lw_all := lw_g (lw_at lw_m5 124 rfl) rfl
theorem q1170 : (Jvm.Cond.code ({ cls := "FiveTouch", name := "isMore", desc := "(II)Z" } : Jvm.MethodName) prog_1_method_37_code (3 : Nat) (Option.some Jvm.ClassFile.FieldType.boolean)) ∈ lw_all := lw_g (lw_at lw_m5 125 rfl) rfl
theorem q1194 : (Jvm.Cond.fieldLinkNest "FiveTouch" (260 : Nat) "FiveTouch$Search" "best" "I" "FiveTouch") ∈ lw_tbl := lw_at lw_m5 149 rfl
theorem q1196 : (Jvm.Cond.fieldLinkNest "FiveTouch" (255 : Nat) "FiveTouch$Search" "many" "I" "FiveTouch") ∈ lw_tbl := lw_at lw_m5 151 rfl
theorem q1209 : (Jvm.Cond.methodLink "FiveTouch" (266 : Nat) ({ cls := "FiveTouch", name := "told", desc := "(LFiveTouch$Search;I)I" } : Jvm.MethodName)) ∈ lw_all := lw_g (lw_at lw_m5 164 rfl) rfl
theorem q1210 : (Jvm.Cond.privateMethod ({ cls := "FiveTouch", name := "told", desc := "(LFiveTouch$Search;I)I" } : Jvm.MethodName)) ∈ lw_tbl := lw_at lw_m5 165 rfl
theorem q1211 : (Jvm.Cond.instanceMethod ({ cls := "FiveTouch", name := "told", desc := "(LFiveTouch$Search;I)I" } : Jvm.MethodName)) ∈ lw_all := lw_g (lw_at lw_m5 166 rfl) rfl
theorem q1212 : (Jvm.Cond.code ({ cls := "FiveTouch", name := "told", desc := "(LFiveTouch$Search;I)I" } : Jvm.MethodName) prog_1_method_38_code (3 : Nat) (Option.some Jvm.ClassFile.FieldType.int)) ∈ lw_all := lw_g (lw_at lw_m5 167 rfl) rfl
theorem q1214 : (Jvm.Cond.instanceMethod ({ cls := "FiveTouch", name := "oneByOne", desc := "(I)I" } : Jvm.MethodName)) ∈ lw_all := lw_g (lw_at lw_m5 169 rfl) rfl
theorem q1215 : (Jvm.Cond.selects "FiveTouch" ({ cls := "FiveTouch", name := "oneByOne", desc := "(I)I" } : Jvm.MethodName) ({ cls := "FiveTouch", name := "oneByOne", desc := "(I)I" } : Jvm.MethodName)) ∈ lw_all := lw_g (lw_at lw_m5 170 rfl) rfl
theorem q1216 : (Jvm.Cond.code ({ cls := "FiveTouch", name := "oneByOne", desc := "(I)I" } : Jvm.MethodName) prog_1_method_40_code (2 : Nat) (Option.some Jvm.ClassFile.FieldType.int)) ∈ lw_all := lw_g (lw_at lw_m5 171 rfl) rfl
theorem q1217 : (Jvm.Cond.classLink "FiveTouch" (270 : Nat) "FiveTouch$OneByOne") ∈ lw_all := lw_g (lw_at lw_m5 172 rfl) rfl
theorem q1219 : (Jvm.Cond.methodLink "FiveTouch" (272 : Nat) ({ cls := "FiveTouch$OneByOne", name := "<init>", desc := "(LFiveTouch;)V" } : Jvm.MethodName)) ∈ lw_all := lw_g (lw_at lw_m5 174 rfl) rfl
theorem q1241 : (Jvm.Cond.instanceMethod ({ cls := "FiveTouch", name := "order", desc := "(I)I" } : Jvm.MethodName)) ∈ lw_all := lw_g (lw_at lw_m5 196 rfl) rfl
theorem q1242 : (Jvm.Cond.selects "FiveTouch" ({ cls := "FiveTouch", name := "order", desc := "(I)I" } : Jvm.MethodName) ({ cls := "FiveTouch", name := "order", desc := "(I)I" } : Jvm.MethodName)) ∈ lw_all := lw_g (lw_at lw_m5 197 rfl) rfl
theorem q1243 : (Jvm.Cond.code ({ cls := "FiveTouch", name := "order", desc := "(I)I" } : Jvm.MethodName) prog_1_method_41_code (8 : Nat) (Option.some Jvm.ClassFile.FieldType.int)) ∈ lw_all := lw_g (lw_at lw_m5 198 rfl) rfl
theorem q1244 : (Jvm.Cond.methodLink "FiveTouch" (273 : Nat) ({ cls := "FiveTouch$Scene", name := "isLawful", desc := "(I)Z" } : Jvm.MethodName)) ∈ lw_all := lw_g (lw_at lw_m5 199 rfl) rfl
theorem q1246 : (Jvm.Cond.instanceMethod ({ cls := "FiveTouch", name := "fell", desc := "(I)I" } : Jvm.MethodName)) ∈ lw_all := lw_g (lw_at lw_m5 201 rfl) rfl
theorem q1247 : (Jvm.Cond.selects "FiveTouch" ({ cls := "FiveTouch", name := "fell", desc := "(I)I" } : Jvm.MethodName) ({ cls := "FiveTouch", name := "fell", desc := "(I)I" } : Jvm.MethodName)) ∈ lw_all := lw_g (lw_at lw_m5 202 rfl) rfl
theorem q1248 : (Jvm.Cond.code ({ cls := "FiveTouch", name := "fell", desc := "(I)I" } : Jvm.MethodName) prog_1_method_43_code (3 : Nat) (Option.some Jvm.ClassFile.FieldType.int)) ∈ lw_all := lw_g (lw_at lw_m5 203 rfl) rfl
theorem q1249 : (Jvm.Cond.classLink "FiveTouch" (279 : Nat) "FiveTouch$Felling") ∈ lw_all := lw_g (lw_at lw_m5 204 rfl) rfl
theorem q1251 : (Jvm.Cond.methodLink "FiveTouch" (281 : Nat) ({ cls := "FiveTouch$Felling", name := "<init>", desc := "(LFiveTouch;)V" } : Jvm.MethodName)) ∈ lw_all := lw_g (lw_at lw_m5 206 rfl) rfl
theorem q1266 : (Jvm.Cond.methodLink "FiveTouch" (282 : Nat) ({ cls := "FiveTouch", name := "asFew", desc := "(LFiveTouch$Search;I)I" } : Jvm.MethodName)) ∈ lw_all := lw_g (lw_at lw_m5 221 rfl) rfl
theorem q1267 : (Jvm.Cond.privateMethod ({ cls := "FiveTouch", name := "asFew", desc := "(LFiveTouch$Search;I)I" } : Jvm.MethodName)) ∈ lw_tbl := lw_at lw_m5 222 rfl
theorem q1268 : (Jvm.Cond.instanceMethod ({ cls := "FiveTouch", name := "asFew", desc := "(LFiveTouch$Search;I)I" } : Jvm.MethodName)) ∈ lw_all := lw_g (lw_at lw_m5 223 rfl) rfl
theorem q1269 : (Jvm.Cond.code ({ cls := "FiveTouch", name := "asFew", desc := "(LFiveTouch$Search;I)I" } : Jvm.MethodName) prog_1_method_42_code (5 : Nat) (Option.some Jvm.ClassFile.FieldType.int)) ∈ lw_all := lw_g (lw_at lw_m5 224 rfl) rfl
theorem q1270 : (Jvm.Cond.methodLink "FiveTouch" (276 : Nat) ({ cls := "FiveTouch$Search", name := "counts", desc := "(I)Z" } : Jvm.MethodName)) ∈ lw_all := lw_g (lw_at lw_m5 225 rfl) rfl
theorem q1272 : (Jvm.Cond.instanceMethod ({ cls := "FiveTouch", name := "mend", desc := "(I)I" } : Jvm.MethodName)) ∈ lw_all := lw_g (lw_at lw_m5 227 rfl) rfl
theorem q1273 : (Jvm.Cond.selects "FiveTouch" ({ cls := "FiveTouch", name := "mend", desc := "(I)I" } : Jvm.MethodName) ({ cls := "FiveTouch", name := "mend", desc := "(I)I" } : Jvm.MethodName)) ∈ lw_all := lw_g (lw_at lw_m5 228 rfl) rfl
theorem q1274 : (Jvm.Cond.code ({ cls := "FiveTouch", name := "mend", desc := "(I)I" } : Jvm.MethodName) prog_1_method_44_code (3 : Nat) (Option.some Jvm.ClassFile.FieldType.int)) ∈ lw_all := lw_g (lw_at lw_m5 229 rfl) rfl
theorem q1275 : (Jvm.Cond.classLink "FiveTouch" (285 : Nat) "FiveTouch$Mending") ∈ lw_all := lw_g (lw_at lw_m5 230 rfl) rfl
theorem q1277 : (Jvm.Cond.methodLink "FiveTouch" (287 : Nat) ({ cls := "FiveTouch$Mending", name := "<init>", desc := "(LFiveTouch;)V" } : Jvm.MethodName)) ∈ lw_all := lw_g (lw_at lw_m5 232 rfl) rfl
theorem q1294 : (Jvm.Cond.instanceMethod ({ cls := "FiveTouch", name := "game", desc := "(I)I" } : Jvm.MethodName)) ∈ lw_all := lw_g (lw_at lw_m6 9 rfl) rfl
theorem q1295 : (Jvm.Cond.selects "FiveTouch" ({ cls := "FiveTouch", name := "game", desc := "(I)I" } : Jvm.MethodName) ({ cls := "FiveTouch", name := "game", desc := "(I)I" } : Jvm.MethodName)) ∈ lw_all := lw_g (lw_at lw_m6 10 rfl) rfl
theorem q1296 : (Jvm.Cond.code ({ cls := "FiveTouch", name := "game", desc := "(I)I" } : Jvm.MethodName) prog_1_method_45_code (6 : Nat) (Option.some Jvm.ClassFile.FieldType.int)) ∈ lw_all := lw_g (lw_at lw_m6 11 rfl) rfl
theorem q1297 : (Jvm.Cond.methodLink "FiveTouch" (288 : Nat) ({ cls := "FiveTouch", name := "winner", desc := "(LFiveTouch$Scene;I)I" } : Jvm.MethodName)) ∈ lw_all := lw_g (lw_at lw_m6 12 rfl) rfl
theorem q1298 : (Jvm.Cond.privateMethod ({ cls := "FiveTouch", name := "winner", desc := "(LFiveTouch$Scene;I)I" } : Jvm.MethodName)) ∈ lw_tbl := lw_at lw_m6 13 rfl
theorem q1299 : (Jvm.Cond.instanceMethod ({ cls := "FiveTouch", name := "winner", desc := "(LFiveTouch$Scene;I)I" } : Jvm.MethodName)) ∈ lw_all := lw_g (lw_at lw_m6 14 rfl) rfl
theorem q1300 : (Jvm.Cond.code ({ cls := "FiveTouch", name := "winner", desc := "(LFiveTouch$Scene;I)I" } : Jvm.MethodName) prog_1_method_46_code (4 : Nat) (Option.some Jvm.ClassFile.FieldType.int)) ∈ lw_all := lw_g (lw_at lw_m6 15 rfl) rfl
theorem q1302 : (Jvm.Cond.instanceMethod ({ cls := "FiveTouch", name := "night", desc := "(II)I" } : Jvm.MethodName)) ∈ lw_all := lw_g (lw_at lw_m6 17 rfl) rfl
theorem q1303 : (Jvm.Cond.selects "FiveTouch" ({ cls := "FiveTouch", name := "night", desc := "(II)I" } : Jvm.MethodName) ({ cls := "FiveTouch", name := "night", desc := "(II)I" } : Jvm.MethodName)) ∈ lw_all := lw_g (lw_at lw_m6 18 rfl) rfl
theorem q1304 : (Jvm.Cond.code ({ cls := "FiveTouch", name := "night", desc := "(II)I" } : Jvm.MethodName) prog_1_method_47_code (11 : Nat) (Option.some Jvm.ClassFile.FieldType.int)) ∈ lw_all := lw_g (lw_at lw_m6 19 rfl) rfl
theorem q1306 : (Jvm.Cond.instanceMethod ({ cls := "FiveTouch", name := "winters", desc := "(II)I" } : Jvm.MethodName)) ∈ lw_all := lw_g (lw_at lw_m6 21 rfl) rfl
theorem q1307 : (Jvm.Cond.selects "FiveTouch" ({ cls := "FiveTouch", name := "winters", desc := "(II)I" } : Jvm.MethodName) ({ cls := "FiveTouch", name := "winters", desc := "(II)I" } : Jvm.MethodName)) ∈ lw_all := lw_g (lw_at lw_m6 22 rfl) rfl
theorem q1308 : (Jvm.Cond.code ({ cls := "FiveTouch", name := "winters", desc := "(II)I" } : Jvm.MethodName) prog_1_method_48_code (9 : Nat) (Option.some Jvm.ClassFile.FieldType.int)) ∈ lw_all := lw_g (lw_at lw_m6 23 rfl) rfl
theorem q1309 : (Jvm.Cond.constantLong "FiveTouch" (292 : Nat) (1000000 : Int64)) ∈ lw_all := lw_g (lw_at lw_m6 24 rfl) rfl
theorem q1310 : (Jvm.Cond.constantLong "FiveTouch" (294 : Nat) (40 : Int64)) ∈ lw_all := lw_g (lw_at lw_m6 25 rfl) rfl
theorem q1311 : (Jvm.Cond.classLink "FiveTouch" (296 : Nat) "FiveTouch$Draws") ∈ lw_all := lw_g (lw_at lw_m6 26 rfl) rfl
theorem q1313 : (Jvm.Cond.methodLink "FiveTouch" (298 : Nat) ({ cls := "FiveTouch$Draws", name := "<init>", desc := "(I)V" } : Jvm.MethodName)) ∈ lw_all := lw_g (lw_at lw_m6 28 rfl) rfl
theorem q1321 : (Jvm.Cond.methodLink "FiveTouch" (303 : Nat) ({ cls := "FiveTouch$Draws", name := "of", desc := "(I)I" } : Jvm.MethodName)) ∈ lw_all := lw_g (lw_at lw_m6 36 rfl) rfl
theorem q1328 : (Jvm.Cond.methodLink "FiveTouch" (306 : Nat) ({ cls := "FiveTouch", name := "putBack", desc := "(LFiveTouch$Scene;I)I" } : Jvm.MethodName)) ∈ lw_all := lw_g (lw_at lw_m6 43 rfl) rfl
theorem q1329 : (Jvm.Cond.privateMethod ({ cls := "FiveTouch", name := "putBack", desc := "(LFiveTouch$Scene;I)I" } : Jvm.MethodName)) ∈ lw_tbl := lw_at lw_m6 44 rfl
theorem q1330 : (Jvm.Cond.instanceMethod ({ cls := "FiveTouch", name := "putBack", desc := "(LFiveTouch$Scene;I)I" } : Jvm.MethodName)) ∈ lw_all := lw_g (lw_at lw_m6 45 rfl) rfl
theorem q1331 : (Jvm.Cond.code ({ cls := "FiveTouch", name := "putBack", desc := "(LFiveTouch$Scene;I)I" } : Jvm.MethodName) prog_1_method_49_code (7 : Nat) (Option.some Jvm.ClassFile.FieldType.int)) ∈ lw_all := lw_g (lw_at lw_m6 46 rfl) rfl
theorem q1333 : (Jvm.Cond.instanceMethod ({ cls := "FiveTouch", name := "winter", desc := "(I)I" } : Jvm.MethodName)) ∈ lw_all := lw_g (lw_at lw_m6 48 rfl) rfl
theorem q1334 : (Jvm.Cond.selects "FiveTouch" ({ cls := "FiveTouch", name := "winter", desc := "(I)I" } : Jvm.MethodName) ({ cls := "FiveTouch", name := "winter", desc := "(I)I" } : Jvm.MethodName)) ∈ lw_all := lw_g (lw_at lw_m6 49 rfl) rfl
theorem q1335 : (Jvm.Cond.code ({ cls := "FiveTouch", name := "winter", desc := "(I)I" } : Jvm.MethodName) prog_1_method_50_code (2 : Nat) (Option.some Jvm.ClassFile.FieldType.int)) ∈ lw_all := lw_g (lw_at lw_m6 50 rfl) rfl
theorem q1337 : (Jvm.Cond.instanceMethod ({ cls := "FiveTouch", name := "image", desc := "(I)I" } : Jvm.MethodName)) ∈ lw_all := lw_g (lw_at lw_m6 52 rfl) rfl
theorem q1338 : (Jvm.Cond.selects "FiveTouch" ({ cls := "FiveTouch", name := "image", desc := "(I)I" } : Jvm.MethodName) ({ cls := "FiveTouch", name := "image", desc := "(I)I" } : Jvm.MethodName)) ∈ lw_all := lw_g (lw_at lw_m6 53 rfl) rfl
theorem q1339 : (Jvm.Cond.code ({ cls := "FiveTouch", name := "image", desc := "(I)I" } : Jvm.MethodName) prog_1_method_51_code (2 : Nat) (Option.some Jvm.ClassFile.FieldType.int)) ∈ lw_all := lw_g (lw_at lw_m6 54 rfl) rfl
theorem q1340 : (Jvm.Cond.methodLink "FiveTouch" (309 : Nat) ({ cls := "FiveTouch$Yard", name := "copy", desc := "()LFiveTouch$Yard;" } : Jvm.MethodName)) ∈ lw_all := lw_g (lw_at lw_m6 55 rfl) rfl
theorem q1355 : (Jvm.Cond.instanceMethod ({ cls := "FiveTouch", name := "back", desc := "(I)I" } : Jvm.MethodName)) ∈ lw_all := lw_g (lw_at lw_m6 70 rfl) rfl
theorem q1356 : (Jvm.Cond.selects "FiveTouch" ({ cls := "FiveTouch", name := "back", desc := "(I)I" } : Jvm.MethodName) ({ cls := "FiveTouch", name := "back", desc := "(I)I" } : Jvm.MethodName)) ∈ lw_all := lw_g (lw_at lw_m6 71 rfl) rfl
theorem q1357 : (Jvm.Cond.code ({ cls := "FiveTouch", name := "back", desc := "(I)I" } : Jvm.MethodName) prog_1_method_52_code (2 : Nat) (Option.some Jvm.ClassFile.FieldType.int)) ∈ lw_all := lw_g (lw_at lw_m6 72 rfl) rfl
theorem q1359 : (Jvm.Cond.instanceMethod ({ cls := "FiveTouch", name := "count", desc := "(I)I" } : Jvm.MethodName)) ∈ lw_all := lw_g (lw_at lw_m6 74 rfl) rfl
theorem q1360 : (Jvm.Cond.selects "FiveTouch" ({ cls := "FiveTouch", name := "count", desc := "(I)I" } : Jvm.MethodName) ({ cls := "FiveTouch", name := "count", desc := "(I)I" } : Jvm.MethodName)) ∈ lw_all := lw_g (lw_at lw_m6 75 rfl) rfl
theorem q1361 : (Jvm.Cond.code ({ cls := "FiveTouch", name := "count", desc := "(I)I" } : Jvm.MethodName) prog_1_method_53_code (2 : Nat) (Option.some Jvm.ClassFile.FieldType.int)) ∈ lw_all := lw_g (lw_at lw_m6 76 rfl) rfl
theorem q1362 : (Jvm.Cond.constantLong "FiveTouch" (313 : Nat) (13 : Int64)) ∈ lw_all := lw_g (lw_at lw_m6 77 rfl) rfl
theorem q1364 : (Jvm.Cond.instanceMethod ({ cls := "FiveTouch", name := "status", desc := "()I" } : Jvm.MethodName)) ∈ lw_all := lw_g (lw_at lw_m6 79 rfl) rfl
theorem q1365 : (Jvm.Cond.selects "FiveTouch" ({ cls := "FiveTouch", name := "status", desc := "()I" } : Jvm.MethodName) ({ cls := "FiveTouch", name := "status", desc := "()I" } : Jvm.MethodName)) ∈ lw_all := lw_g (lw_at lw_m6 80 rfl) rfl
theorem q1366 : (Jvm.Cond.code ({ cls := "FiveTouch", name := "status", desc := "()I" } : Jvm.MethodName) prog_1_method_54_code (1 : Nat) (Option.some Jvm.ClassFile.FieldType.int)) ∈ lw_all := lw_g (lw_at lw_m6 81 rfl) rfl
theorem q1861 : (Jvm.Cond.castable "FiveTouch" "java/lang/Object") ∈ lw_tbl := lw_at lw_m8 96 rfl
theorem in_X0 : ∀ w ∈ wsX00, w ∈ lw_all := lw_in wsX00 [289, 291, 293, 295, 297, 299, 301, 303, 305, 307, 309, 311, 313, 315] (by decide +kernel) (by decide +kernel)
